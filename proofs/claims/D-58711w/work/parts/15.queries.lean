/-! PLAIN: what the model answers -/
set_option maxRecDepth 100000
theorem bI_0 {x : Int32} {e : Nat} : bI x e = nI 0 ↔ bt x e = false := by
  unfold bI
  cases bt x e
  · exact ⟨fun _ => rfl, fun _ => rfl⟩
  · exact ⟨fun h => absurd h (by decide), fun h => by cases h⟩
theorem bI_n0 {x : Int32} {e : Nat} : ¬ bI x e = nI 0 ↔ bt x e = true := by
  rw [bI_0]
  cases bt x e <;> simp
theorem or_0 (x : Int32) : x ||| nI 0 = x := b_ext fun i _ => by rw [b_or, show bt (nI 0) i = false from b_0 i, Bool.or_false]
/-- a switch over 0 to n -/
theorem sw_in (x : Int32) (n : Nat) (hn : n < 2 ^ 31) : (x.toInt < 0 ∨ (n : Int) < x.toInt) ∨ ∃ j, j ≤ n ∧ x = nI j := by
  rcases Int.lt_or_le x.toInt 0 with h | h
  · exact Or.inl (Or.inl h)
  · rcases Int.lt_or_le (n : Int) x.toInt with q | q
    · exact Or.inl (Or.inr q)
    · obtain ⟨k, hk⟩ : ∃ k : Nat, x.toInt = (k : Int) := ⟨x.toInt.toNat, by omega⟩
      refine Or.inr ⟨k, by omega, ?_⟩
      apply Int32.toInt_inj.mp
      rw [hk, nI_toInt (by omega)]
theorem sw_ne {x : Int32} {n j : Nat} (h : x.toInt < 0 ∨ (n : Int) < x.toInt) (hj : j ≤ n) (hn : n < 2 ^ 31) : ¬ x = nI j := by
  intro e
  rw [e, nI_toInt (by omega)] at h
  omega
noncomputable def kn (g : Nat → Int32) : Int32 := knownS g (g 17)
noncomputable def th (g : Nat → Int32) : Int32 := kn g &&& g 0
def seenS (K R : Int32) (e : Nat) : Int32 := if bt K e = true then bI (K &&& R) e else -6
def clmS (g : Nat → Int32) (f e : Nat) : Nat → Int32
  | 0 => nI 0
  | p + 1 => clmS g f e p ||| (bI (g (f + p)) e <<< (nI p &&& 31))
noncomputable def ofRoadW (g : Nat → Int32) (e : Nat) : Nat → Int32
  | 0 => nI e
  | 1 => nI (e % 3)
  | 2 => bI (g 17) e
  | 3 => seenS (kn g) (g 0) e
  | 4 => clmS g 11 e 3
  | _ => clmS g 14 e 3
noncomputable def ofRoadS (g : Nat → Int32) (p1 p2 w : Int32) : Int32 := if barPairS p1 p2 < nI 0 then barPairS p1 p2 else if w.toInt < 0 ∨ ((5 : Nat) : Int) < w.toInt then -2 else ofRoadW g (Ed (tn p1) (tn p2)) (tn w)
noncomputable def knowsV (g : Nat → Int32) (y e : Nat) : Int32 := if e % 3 = y then bI (g 0) e else seenS (kn g) (g 0) e
noncomputable def knowsS (g : Nat → Int32) (y1 p1 p2 : Int32) : Int32 := if ¬ py y1 then -1 else if barPairS p1 p2 < nI 0 then barPairS p1 p2 else knowsV g (tn y1) (Ed (tn p1) (tn p2))
def thF (p : Nat) : Nat → Int32
  | 0 => nI 0
  | e + 1 => thF p e ||| (if e % 3 = p then bit e else nI 0)
theorem thF_low {p : Nat} : ∀ {e : Nat}, e ≤ p → p < 3 → thF p e = nI 0
  | 0, _, _ => rfl
  | e + 1, h, hp => by
    rw [thF, thF_low (e := e) (by omega) hp, if_neg (by omega), or_0]
theorem thF_3 {p e : Nat} (h : e % 3 = p) : thF p e ||| bit e = thF p (e + 3) := by
  show _ = ((thF p e ||| (if e % 3 = p then bit e else nI 0)) ||| (if (e + 1) % 3 = p then bit (e + 1) else nI 0)) ||| (if (e + 2) % 3 = p then bit (e + 2) else nI 0)
  rw [if_pos h, if_neg (by omega), if_neg (by omega), or_0, or_0]
theorem thF_28 {p e : Nat} (h1 : 28 ≤ e) (h2 : e ≤ 30) (h : e % 3 = p) : thF p e = thF p 28 := by
  rcases (show e = 28 ∨ e = 29 ∨ e = 30 by omega) with rfl | rfl | rfl
  · rfl
  · obtain rfl : p = 2 := h.symm
    rw [thF, if_neg (by decide), or_0]
  · obtain rfl : p = 0 := h.symm
    rw [thF, thF, if_neg (by decide), if_neg (by decide), or_0, or_0]
noncomputable def shownS (g : Nat → Int32) (y : Nat) : Nat := card (kn g &&& ((g (11 + y) &&& (th g ^^^ (-1 : Int32))) ||| (g (14 + y) &&& th g)))
theorem shownS_le (g : Nat → Int32) (y : Nat) : shownS g y ≤ 32 := card_le _
noncomputable def playerW (g : Nat → Int32) (y : Nat) : Nat → Int32
  | 0 => g (8 + y)
  | 1 => nI (card (g (11 + y) ||| g (14 + y)))
  | 2 => nI (shownS g y)
  | 3 => g (18 + y)
  | 4 => g (21 + y)
  | 5 => g (24 + y)
  | 6 => g (27 + y)
  | _ => nI (card (thF y 28 ||| kn g))
noncomputable def playerS (g : Nat → Int32) (y1 w : Int32) : Int32 := if ¬ py y1 then -1 else if w.toInt < 0 ∨ ((7 : Nat) : Int) < w.toInt then -2 else playerW g (tn y1) (tn w)
def toldB (g : Nat → Int32) (a : Nat) : Nat → Bool
  | 0 => false
  | d + 1 => toldB g a d || decide (g (32 + d) = nI a)
theorem toldB_hit {g : Nat → Int32} {a k : Nat} (h : g (32 + k) = nI a) : ∀ {d : Nat}, k < d → toldB g a d = true
  | 0, q => by omega
  | d + 1, q => by
    unfold toldB
    rcases Nat.lt_or_ge k d with z | z
    · rw [toldB_hit h z, Bool.true_or]
    · rw [show d = k by omega, decide_eq_true h, Bool.or_true]
def toldS (g : Nat → Int32) (a d tr : Nat) : Int32 := if toldB g a d = true then nI (dist (g 0) a tr) else -6
def nbS (T : Int32) (a : Nat) : Nat → Int32
  | 0 => nI 0
  | o + 1 => nbS T a o ||| (if ¬ o = a ∧ bt T (Ed a o) = true then bit o else nI 0)
noncomputable def placeW (g : Nat → Int32) (a d tr : Nat) : Nat → Int32
  | 0 => if g 6 ≤ nI 0 then -6 else nI (card (aroundS a 8 &&& g 0))
  | 1 => nI (card (aroundS a 8 &&& th g))
  | 2 => nI (card (aroundS a 8 &&& (kn g ^^^ (-1 : Int32))))
  | 3 => toldS g a d tr
  | _ => nbS (th g) a 8
noncomputable def placeS (g : Nat → Int32) (d tr : Nat) (p1 w : Int32) : Int32 := if ¬ pl p1 then -1 else if w.toInt < 0 ∨ ((4 : Nat) : Int) < w.toInt then -2 else placeW g (tn p1) d tr (tn w)
def dugS (g : Nat → Int32) (d : Nat) (k : Int32) : Int32 := if nI 0 ≤ k ∧ k ≤ nI d - nI 1 then g (32 + tn k) else -1
theorem dug_of {k : Int32} {d : Nat} (hd : d ≤ 150) (h : nI 0 ≤ k ∧ k ≤ nI d - nI 1) : ∃ j, j < d ∧ k = nI j := by
  rcases Nat.eq_zero_or_pos d with e | e
  · subst e
    have := Int32.le_trans h.1 h.2
    exact absurd this (by decide)
  · rw [pk_sub (by omega)] at h
    obtain ⟨j, hj, e2⟩ := nI_of2 (x := k) (M := nI (d - 1)) (n := d - 1) (nI_toInt (by omega)) (Int32.not_lt.mpr h.1) h.2
    exact ⟨j, by omega, e2⟩
noncomputable def countW (g : Nat → Int32) (t L n : Nat) : Nat → Int32
  | 0 => g 7
  | 1 => nI (t % 3)
  | 2 => g 6
  | 3 => g 30
  | 4 => nI (card (kn g))
  | 5 => nI (card (th g))
  | 6 => nI (shownS g 0 + shownS g 1 + shownS g 2)
  | 7 => nI (card (g 17))
  | 8 => g 2
  | 9 => g 3
  | 10 => g 4
  | 11 => g 5
  | 12 => nI L
  | _ => nI n
noncomputable def countS (g : Nat → Int32) (t L n : Nat) (w : Int32) : Int32 := if w.toInt < 0 ∨ ((13 : Nat) : Int) < w.toInt then -2 else countW g t L n (tn w)
/-- a digging's place -/
def plc (g : Nat → Int32) (k : Nat) : Nat := tn (g (32 + k))
def cbI (R : Int32) (a tr : Nat) (z : Int32) : Nat → Int32
  | 0 => z
  | p + 1 => cbI R a tr z p &&& (if distA R a p = distA R a tr then (-1 : Int32) else bit p ^^^ (-1 : Int32))
def cbK (g : Nat → Int32) (tr : Nat) : Nat → Int32
  | 0 => if g 6 ≤ nI 0 then nI 0 else nI 255
  | k + 1 => cbI (g 0) (plc g k) tr (cbK g tr k) 8
noncomputable def moreS (g : Nat → Int32) (e : Nat) : Int32 := if bt (kn g) e = true then nI 0 else nI (card (knownS g (g 17 ||| bit e))) - nI (card (kn g))
noncomputable def showsS (g : Nat → Int32) (p1 p2 : Int32) : Int32 := if barPairS p1 p2 < nI 0 then barPairS p1 p2 else if g 6 ≤ nI 0 then -5 else moreS g (Ed (tn p1) (tn p2))
noncomputable def bsP (g : Nat → Int32) : Nat → Int32 × Int32
  | 0 => (-6, nI 0)
  | e + 1 => if moreS g e ≤ (bsP g e).2 then bsP g e else (nI e, moreS g e)
noncomputable def bestS (g : Nat → Int32) (w : Int32) : Int32 := if ¬ (nI 0 ≤ w ∧ w ≤ nI 1) then -2 else if g 6 ≤ nI 0 then -5 else if (bsP g 28).1 = -6 ∨ w = nI 0 then (bsP g 28).1 else (bsP g 28).2
noncomputable def kwS (g : Nat → Int32) (a b : Nat) : Int32 := if dist (th g) a b = 99 then -6 else nI (dist (th g) a b)
noncomputable def knownWayS (g : Nat → Int32) (p1 p2 : Int32) : Int32 := if ¬ pl p1 ∨ ¬ pl p2 then -1 else kwS g (tn p1) (tn p2)
theorem bs_no {g : Nat → Int32} {e : Nat} (h : moreS g e ≤ (bsP g e).2) : bsP g (e + 1) = bsP g e := by rw [bsP, if_pos h]
theorem bs_yes {g : Nat → Int32} {e : Nat} (h : ¬ moreS g e ≤ (bsP g e).2) : bsP g (e + 1) = (nI e, moreS g e) := by rw [bsP, if_neg h]
theorem lt_cut {x : Int32} (h : x = nI 0) : ¬ x < nI 0 := by rw [h]; decide
