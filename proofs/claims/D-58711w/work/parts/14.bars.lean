/-! PLAIN: what speaks against a change -/
theorem npl1 {a : Nat} (ha : a < 8) : ¬ ¬ pl (nI a) := fun z => z (pl_nI ha)
theorem npl2 {a b : Nat} (ha : a < 8) (hb : b < 8) : ¬ (¬ pl (nI a) ∨ ¬ pl (nI b)) := fun z => z.elim (npl1 ha) (npl1 hb)
theorem py_nI {k : Nat} (h : k < 3) : py (nI k) := ⟨nI_pos' (by omega), nI_le (a := k) (b := 2) (by omega) (by omega)⟩
theorem npy3 {y a b : Nat} (hy : y < 3) (ha : a < 8) (hb : b < 8) : ¬ (¬ py (nI y) ∨ ¬ pl (nI a) ∨ ¬ pl (nI b)) := fun z => z.elim (fun q => q (py_nI hy)) (npl2 ha hb)
theorem nne {a b : Nat} (ha : a < 8) (hb : b < 8) (h : a ≠ b) : ¬ nI a = nI b := fun z => h ((nI_eq (by omega) (by omega)).mp z)
theorem neq {a b : Nat} (h : a = b) : nI a = nI b := by rw [h]
/-- an int's natural number -/
def tn (x : Int32) : Nat := x.toNatClampNeg
theorem tn_nI {n : Nat} (h : n < 2 ^ 31) : tn (nI n) = n := nI_clamp h
def barRoadS (g : Nat → Int32) (p1 p2 : Int32) : Int32 := if ¬ pl p1 ∨ ¬ pl p2 then -1 else if p1 = p2 then -2 else if ¬ g 6 ≤ nI 0 then -5 else nI 0
theorem barRoad_1 {g : Nat → Int32} {p1 p2 : Int32} (h : ¬ pl p1 ∨ ¬ pl p2) : barRoadS g p1 p2 = -1 := if_pos h
theorem barRoad_2 {g : Nat → Int32} {a b : Nat} (ha : a < 8) (hb : b < 8) (h : a = b) : barRoadS g (nI a) (nI b) = -2 := by unfold barRoadS; rw [if_neg (npl2 ha hb), if_pos (neq h)]
theorem barRoad_5 {g : Nat → Int32} {a b : Nat} (ha : a < 8) (hb : b < 8) (h : a ≠ b) (h6 : ¬ g 6 ≤ nI 0) : barRoadS g (nI a) (nI b) = -5 := by unfold barRoadS; rw [if_neg (npl2 ha hb), if_neg (nne ha hb h), if_pos h6]
theorem barRoad_0 {g : Nat → Int32} {a b : Nat} (ha : a < 8) (hb : b < 8) (h : a ≠ b) (h6 : g 6 ≤ nI 0) : barRoadS g (nI a) (nI b) = nI 0 := by unfold barRoadS; rw [if_neg (npl2 ha hb), if_neg (nne ha hb h), if_neg (fun z => z h6)]
def barTreasS (g : Nat → Int32) (p1 : Int32) : Int32 := if ¬ pl p1 then -1 else if ¬ g 6 ≤ nI 0 then -5 else nI 0
theorem barTreas_1 {g : Nat → Int32} {p1 : Int32} (h : ¬ pl p1) : barTreasS g p1 = -1 := if_pos h
theorem barTreas_5 {g : Nat → Int32} {a : Nat} (ha : a < 8) (h6 : ¬ g 6 ≤ nI 0) : barTreasS g (nI a) = -5 := by unfold barTreasS; rw [if_neg (npl1 ha), if_pos h6]
theorem barTreas_0 {g : Nat → Int32} {a : Nat} (ha : a < 8) (h6 : g 6 ≤ nI 0) : barTreasS g (nI a) = nI 0 := by unfold barTreasS; rw [if_neg (npl1 ha), if_neg (fun z => z h6)]
def barPairS (p1 p2 : Int32) : Int32 := if ¬ pl p1 ∨ ¬ pl p2 then -1 else if p1 = p2 then -2 else nI 0
theorem barPair_1 {p1 p2 : Int32} (h : ¬ pl p1 ∨ ¬ pl p2) : barPairS p1 p2 = -1 := if_pos h
theorem barPair_2 {a b : Nat} (ha : a < 8) (hb : b < 8) (h : a = b) : barPairS (nI a) (nI b) = -2 := by unfold barPairS; rw [if_neg (npl2 ha hb), if_pos (neq h)]
theorem barPair_0 {a b : Nat} (ha : a < 8) (hb : b < 8) (h : a ≠ b) : barPairS (nI a) (nI b) = nI 0 := by unfold barPairS; rw [if_neg (npl2 ha hb), if_neg (nne ha hb h)]
def barClaimS (g : Nat → Int32) (p1 p2 is : Int32) : Int32 := if ¬ pl p1 ∨ ¬ pl p2 then -1 else if p1 = p2 ∨ ¬ (nI 0 ≤ is ∧ is ≤ nI 1) then -2 else if ¬ g 6 = 1 then -5 else nI 0
theorem barClaim_1 {g : Nat → Int32} {p1 p2 is : Int32} (h : ¬ pl p1 ∨ ¬ pl p2) : barClaimS g p1 p2 is = -1 := if_pos h
theorem barClaim_2 {g : Nat → Int32} {is : Int32} {a b : Nat} (ha : a < 8) (hb : b < 8) (h : a = b ∨ ¬ (nI 0 ≤ is ∧ is ≤ nI 1)) : barClaimS g (nI a) (nI b) is = -2 := by
  unfold barClaimS
  rw [if_neg (npl2 ha hb), if_pos (h.elim (fun z => Or.inl (neq z)) Or.inr)]
theorem barClaim_5 {g : Nat → Int32} {is : Int32} {a b : Nat} (ha : a < 8) (hb : b < 8) (h : a ≠ b) (hi : nI 0 ≤ is ∧ is ≤ nI 1) (h6 : ¬ g 6 = 1) : barClaimS g (nI a) (nI b) is = -5 := by
  unfold barClaimS
  rw [if_neg (npl2 ha hb), if_neg (fun z => z.elim (nne ha hb h) (fun q => q hi)), if_pos h6]
theorem barClaim_0 {g : Nat → Int32} {is : Int32} {a b : Nat} (ha : a < 8) (hb : b < 8) (h : a ≠ b) (hi : nI 0 ≤ is ∧ is ≤ nI 1) (h6 : g 6 = 1) : barClaimS g (nI a) (nI b) is = nI 0 := by
  unfold barClaimS
  rw [if_neg (npl2 ha hb), if_neg (fun z => z.elim (nne ha hb h) (fun q => q hi)), if_neg (fun z => z h6)]
def barCheckS (g : Nat → Int32) (t : Nat) (y1 p1 p2 : Int32) : Int32 := if ¬ py y1 ∨ ¬ pl p1 ∨ ¬ pl p2 then -1 else if y1 = nI (t % 3) ∨ p1 = p2 then -2 else if ¬ g 6 = 1 ∨ bt (g (11 + tn y1) ||| g (14 + tn y1)) (Ed (tn p1) (tn p2)) = false ∨ bt (g 17) (Ed (tn p1) (tn p2)) = true then -5 else nI 0
theorem barCheck_1 {g : Nat → Int32} {t : Nat} {y1 p1 p2 : Int32} (h : ¬ py y1 ∨ ¬ pl p1 ∨ ¬ pl p2) : barCheckS g t y1 p1 p2 = -1 := if_pos h
theorem barCheck_2 {g : Nat → Int32} {t y a b : Nat} (hy : y < 3) (ha : a < 8) (hb : b < 8) (h : y = t % 3 ∨ a = b) : barCheckS g t (nI y) (nI a) (nI b) = -2 := by
  unfold barCheckS
  rw [if_neg (npy3 hy ha hb), if_pos (h.elim (fun z => Or.inl (by rw [z])) (fun z => Or.inr (neq z)))]
theorem barCheck_n {t y a b : Nat} (hy : y < 3) (ha : a < 8) (hb : b < 8) (h1 : y ≠ t % 3) (h2 : a ≠ b) : ¬ (nI y = nI (t % 3) ∨ nI a = nI b) := fun z => z.elim (fun q => h1 ((nI_eq (by omega) (by omega)).mp q)) (nne ha hb h2)
theorem barCheck_5 {g : Nat → Int32} {t y a b : Nat} (hy : y < 3) (ha : a < 8) (hb : b < 8) (h1 : y ≠ t % 3) (h2 : a ≠ b) (h : ¬ g 6 = 1 ∨ bt (g (11 + y) ||| g (14 + y)) (Ed a b) = false ∨ bt (g 17) (Ed a b) = true) : barCheckS g t (nI y) (nI a) (nI b) = -5 := by
  unfold barCheckS
  rw [if_neg (npy3 hy ha hb), if_neg (barCheck_n hy ha hb h1 h2), tn_nI (show y < 2 ^ 31 by omega), tn_nI (show a < 2 ^ 31 by omega), tn_nI (show b < 2 ^ 31 by omega), if_pos h]
theorem barCheck_0 {g : Nat → Int32} {t y a b : Nat} (hy : y < 3) (ha : a < 8) (hb : b < 8) (h1 : y ≠ t % 3) (h2 : a ≠ b) (h3 : g 6 = 1) (h4 : bt (g (11 + y) ||| g (14 + y)) (Ed a b) = true) (h5 : bt (g 17) (Ed a b) = false) : barCheckS g t (nI y) (nI a) (nI b) = nI 0 := by
  unfold barCheckS
  rw [if_neg (npy3 hy ha hb), if_neg (barCheck_n hy ha hb h1 h2), tn_nI (show y < 2 ^ 31 by omega), tn_nI (show a < 2 ^ 31 by omega), tn_nI (show b < 2 ^ 31 by omega), if_neg (fun z => z.elim (fun q => q h3) (fun q => q.elim (fun w => by rw [h4] at w; cases w) (fun w => by rw [h5] at w; cases w)))]
def barDigS (g : Nat → Int32) (t : Nat) (p1 : Int32) : Int32 := if ¬ pl p1 then -1 else if ¬ g 6 = 1 ∨ ¬ g 4 ≤ g (8 + t % 3) then -5 else nI 0
theorem barDig_1 {g : Nat → Int32} {t : Nat} {p1 : Int32} (h : ¬ pl p1) : barDigS g t p1 = -1 := if_pos h
theorem barDig_5 {g : Nat → Int32} {t a : Nat} (ha : a < 8) (h : ¬ g 6 = 1 ∨ ¬ g 4 ≤ g (8 + t % 3)) : barDigS g t (nI a) = -5 := by unfold barDigS; rw [if_neg (npl1 ha), if_pos h]
theorem barDig_0 {g : Nat → Int32} {t a : Nat} (ha : a < 8) (h1 : g 6 = 1) (h2 : g 4 ≤ g (8 + t % 3)) : barDigS g t (nI a) = nI 0 := by unfold barDigS; rw [if_neg (npl1 ha), if_neg (fun z => z.elim (fun q => q h1) (fun q => q h2))]
theorem lt_m1 : (-1 : Int32) < nI 0 := by decide
theorem lt_m2 : (-2 : Int32) < nI 0 := by decide
theorem lt_m5 : (-5 : Int32) < nI 0 := by decide
def okSet (k v : Int32) : Prop := (nI 0 ≤ k ∧ k ≤ nI 3) ∧ leastS (tn k) ≤ v ∧ v ≤ mostS (tn k)
def digS (g : Nat → Int32) (a t d tr : Nat) : Nat → Int32 := if dist (g 0) a tr = 0 then digB (endS (digA g a t d)) t else endS (digA g a t d)
theorem endS_7 {g : Nat → Int32} {t : Nat} (ht : g 7 = nI t) : endS g 7 = nI (t + 1) := by
  show upd (upd g 7 (g 7 + nI 1)) 6 _ 7 = _
  rw [show upd (upd g 7 (g 7 + nI 1)) 6 (if g 7 + nI 1 = nI 150 then nI 2 else g 6) 7 = g 7 + nI 1 from rfl, ht, nI_add]
theorem set_of {k : Int32} (h : nI 0 ≤ k ∧ k ≤ nI 3) : ∃ j, j < 4 ∧ k = nI j := by
  obtain ⟨j, hj, e⟩ := nI_of2 (x := k) (M := 3) (n := 3) rfl (Int32.not_lt.mpr h.1) h.2
  exact ⟨j, by omega, e⟩
theorem bit_of {k : Int32} (h : nI 0 ≤ k ∧ k ≤ nI 1) : ∃ j, j < 2 ∧ k = nI j := by
  obtain ⟨j, hj, e⟩ := nI_of2 (x := k) (M := 1) (n := 1) rfl (Int32.not_lt.mpr h.1) h.2
  exact ⟨j, by omega, e⟩
