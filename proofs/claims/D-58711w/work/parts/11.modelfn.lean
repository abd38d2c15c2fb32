/-! PLAIN: what the model's methods compute, in their own steps -/
set_option maxRecDepth 100000
theorem cnt_add {f g h : Nat → Bool} (hd : ∀ i, (g i && h i) = false) (hf : ∀ i, f i = (g i || h i)) : ∀ n, cnt f n = cnt g n + cnt h n
  | 0 => rfl
  | n + 1 => by
    unfold cnt
    rw [cnt_add hd hf n, hf n]
    have := hd n
    cases hg : g n <;> cases hh : h n <;> simp_all <;> omega
theorem bt_not {x : Int32} {i : Nat} (hi : i < 32) : bt (x ^^^ (-1 : Int32)) i = !bt x i := by
  rw [b_xor, b_m1 i hi, Bool.xor_true]
theorem card_split (a k : Int32) : card a = card (a &&& k) + card (a &&& (k ^^^ (-1 : Int32))) := by
  unfold card
  rw [cnt_congr (f := bt (a &&& (k ^^^ (-1 : Int32)))) (g := fun i => bt a i && !bt k i) (fun i hi => by rw [b_and, bt_not hi])]
  exact cnt_add (g := bt (a &&& k)) (fun i => by rw [b_and]; cases bt a i <;> cases bt k i <;> rfl) (fun i => by rw [b_and]; cases bt a i <;> cases bt k i <;> rfl) 32
theorem card_eq0 {x : Int32} (h : card x = 0) : x = nI 0 := b_ext fun i hi => by rw [cnt_zero.mp h i hi]; exact (b_0 i).symm
/-- one place's rule applies -/
def canP (R K : Int32) (p : Nat) : Prop := ¬ aroundS p 8 &&& (K ^^^ (-1 : Int32)) = nI 0 ∧ (card (aroundS p 8 &&& (K &&& R)) = card (aroundS p 8 &&& R) ∨ card (aroundS p 8 &&& (K &&& R)) + card (aroundS p 8 &&& (K ^^^ (-1 : Int32))) = card (aroundS p 8 &&& R))
noncomputable def decP (R K : Int32) (p : Nat) : Bool := @decide (canP R K p) (Classical.propDecidable _)
theorem decP_t {R K : Int32} {p : Nat} (h : canP R K p) : decP R K p = true := by unfold decP; exact @decide_eq_true _ (Classical.propDecidable _) h
theorem decP_f {R K : Int32} {p : Nat} (h : ¬ canP R K p) : decP R K p = false := by unfold decP; exact @decide_eq_false _ (Classical.propDecidable _) h
theorem decP_iff {R K : Int32} {p : Nat} : decP R K p = true ↔ canP R K p := by
  constructor
  · intro h
    apply Classical.byContradiction
    intro q
    rw [decP_f q] at h
    cases h
  · exact decP_t
noncomputable def rndK (R K : Int32) : Nat → Int32
  | 0 => K
  | p + 1 => if decP R (rndK R K p) p = true then rndK R K p ||| (aroundS p 8 &&& (rndK R K p ^^^ (-1 : Int32))) else rndK R K p
noncomputable def rndC (R K : Int32) : Nat → Bool
  | 0 => false
  | p + 1 => rndC R K p || decP R (rndK R K p) p
noncomputable def closeK (R : Int32) : Nat → Int32 → Int32
  | 0, K => K
  | n + 1, K => if rndC R K 8 = true then closeK R n (rndK R K 8) else rndK R K 8
/-- what all know, with the roads rev revealed -/
noncomputable def knownS (g : Nat → Int32) (rev : Int32) : Int32 := if g 6 ≤ nI 0 then nI 0 else closeK (g 0) 33 rev
theorem card_or (x y : Int32) : card (x ||| (y &&& (x ^^^ (-1 : Int32)))) = card x + card (y &&& (x ^^^ (-1 : Int32))) := by
  have h := card_split (x ||| (y &&& (x ^^^ (-1 : Int32)))) x
  rw [h]
  congr 2
  · apply b_ext
    intro i hi
    rw [b_and, b_or, b_and, bt_not hi]
    cases bt x i <;> cases bt y i <;> rfl
  · apply b_ext
    intro i hi
    rw [b_and, b_or, b_and, bt_not hi]
    cases bt x i <;> cases bt y i <;> rfl
theorem rndK_grow (R K : Int32) : ∀ p, card K ≤ card (rndK R K p) ∧ (rndC R K p = true → card K < card (rndK R K p)) ∧ (rndC R K p = false → rndK R K p = K)
  | 0 => ⟨Nat.le_refl _, fun h => (by cases h), fun _ => rfl⟩
  | p + 1 => by
    obtain ⟨h1, h2, h3⟩ := rndK_grow R K p
    by_cases hc : canP R (rndK R K p) p
    · have e : rndK R K (p + 1) = rndK R K p ||| (aroundS p 8 &&& (rndK R K p ^^^ (-1 : Int32))) := by rw [rndK, if_pos (decP_t hc)]
      have e2 : rndC R K (p + 1) = true := by rw [rndC, decP_t hc, Bool.or_true]
      have hpos : 0 < card (aroundS p 8 &&& (rndK R K p ^^^ (-1 : Int32))) := by
        rcases Nat.eq_zero_or_pos (card (aroundS p 8 &&& (rndK R K p ^^^ (-1 : Int32)))) with q | q
        · exact absurd (card_eq0 q) hc.1
        · exact q
      rw [e, e2, card_or]
      exact ⟨by omega, fun _ => by omega, fun h => by cases h⟩
    · have e : rndK R K (p + 1) = rndK R K p := by rw [rndK, if_neg (by rw [decP_f hc]; decide)]
      have e2 : rndC R K (p + 1) = rndC R K p := by rw [rndC, decP_f hc, Bool.or_false]
      rw [e, e2]
      exact ⟨h1, h2, h3⟩
/-- what is there of what is known grows with it -/
theorem thereL {R K : Int32} {p : Nat} (hc : canP R K p) : (K &&& R) ||| (if card (aroundS p 8 &&& (K &&& R)) = card (aroundS p 8 &&& R) then nI 0 else aroundS p 8 &&& (K ^^^ (-1 : Int32))) = (K ||| (aroundS p 8 &&& (K ^^^ (-1 : Int32)))) &&& R := by
  have h1 := card_split (aroundS p 8 &&& R) K
  have e1 : aroundS p 8 &&& R &&& K = aroundS p 8 &&& (K &&& R) := b_ext fun i _ => by simp only [b_and]; cases bt (aroundS p 8) i <;> cases bt R i <;> cases bt K i <;> rfl
  have h2 := card_split (aroundS p 8 &&& (K ^^^ (-1 : Int32))) R
  have e2 : aroundS p 8 &&& (K ^^^ (-1 : Int32)) &&& R = aroundS p 8 &&& R &&& (K ^^^ (-1 : Int32)) := b_ext fun i _ => by simp only [b_and]; cases bt (aroundS p 8) i <;> cases bt R i <;> cases bt (K ^^^ (-1 : Int32)) i <;> rfl
  rw [e1] at h1
  rw [e2] at h2
  by_cases hd : card (aroundS p 8 &&& (K &&& R)) = card (aroundS p 8 &&& R)
  · rw [if_pos hd]
    have h3 : aroundS p 8 &&& R &&& (K ^^^ (-1 : Int32)) = nI 0 := card_eq0 (by omega)
    apply b_ext
    intro i hi
    have h4 : bt (aroundS p 8 &&& R &&& (K ^^^ (-1 : Int32))) i = bt (nI 0) i := by rw [h3]
    rw [show bt (nI 0) i = false from b_0 i] at h4
    simp only [b_and, b_or, show bt (nI 0) i = false from b_0 i] at h4 ⊢
    revert h4
    cases bt (aroundS p 8) i <;> cases bt R i <;> cases bt K i <;> cases bt (K ^^^ (-1 : Int32)) i <;> simp
  · rw [if_neg hd]
    have h5 := hc.2.resolve_left hd
    have h3 : aroundS p 8 &&& (K ^^^ (-1 : Int32)) &&& (R ^^^ (-1 : Int32)) = nI 0 := card_eq0 (by omega)
    apply b_ext
    intro i hi
    have h4 : bt (aroundS p 8 &&& (K ^^^ (-1 : Int32)) &&& (R ^^^ (-1 : Int32))) i = bt (nI 0) i := by rw [h3]
    rw [show bt (nI 0) i = false from b_0 i] at h4
    simp only [b_and, b_or, bt_not hi] at h4 ⊢
    revert h4
    cases bt (aroundS p 8) i <;> cases bt R i <;> cases bt K i <;> simp
/-! ways -/
def relax (R : Int32) (f : Nat → Int32) (x y : Nat) : Nat → Int32 := upd f y (if ¬ x = y ∧ bt R (Ed x y) = true ∧ ¬ nI 99 ≤ f x ∧ ¬ f y ≤ f x + nI 1 then f x + nI 1 else f y)
theorem relax_eq {R : Int32} {f : Nat → Int32} {x y : Nat} (h : x = y) : upd f y (f y) = relax R f x y := by unfold relax; rw [if_neg (fun z => z.1 h)]
theorem relax_nb {R : Int32} {f : Nat → Int32} {x y : Nat} (h : bt R (Ed x y) = false) : upd f y (f y) = relax R f x y := by unfold relax; rw [if_neg (fun z => by rw [z.2.1] at h; cases h)]
theorem relax_99 {R : Int32} {f : Nat → Int32} {x y : Nat} (h : nI 99 ≤ f x) : upd f y (f y) = relax R f x y := by unfold relax; rw [if_neg (fun z => z.2.2.1 h)]
theorem relax_no {R : Int32} {f : Nat → Int32} {x y : Nat} (h : f y ≤ f x + nI 1) : upd f y (f y) = relax R f x y := by unfold relax; rw [if_neg (fun z => z.2.2.2 h)]
theorem relax_yes {R : Int32} {f : Nat → Int32} {x y : Nat} (h1 : ¬ x = y) (h2 : bt R (Ed x y) = true) (h3 : ¬ nI 99 ≤ f x) (h4 : ¬ f y ≤ f x + nI 1) : upd f y (f x + nI 1) = relax R f x y := by unfold relax; rw [if_pos ⟨h1, h2, h3, h4⟩]
def rowF (R : Int32) (f : Nat → Int32) (x : Nat) : Nat → Nat → Int32
  | 0 => f
  | y + 1 => relax R (rowF R f x y) x y
def rndF (R : Int32) (f : Nat → Int32) : Nat → Nat → Int32
  | 0 => f
  | x + 1 => rowF R (rndF R f x) x 8
def itF (R : Int32) (f : Nat → Int32) : Nat → Nat → Int32
  | 0 => f
  | n + 1 => rndF R (itF R f n) 8
def initF (a : Nat) (f : Nat → Int32) : Nat → Nat → Int32
  | 0 => f
  | n + 1 => upd (initF a f n) n (if n = a then nI 0 else nI 99)
def inc (g : Nat → Int32) (k : Nat) : Nat → Int32 := upd g k (g k + nI 1)
def getS (g : Nat → Int32) (p : Nat) (c : Int32) : Nat → Int32 := upd g (8 + p) (if g (8 + p) + c ≤ nI 9999 then g (8 + p) + c else nI 9999)
def paidS (g : Nat → Int32) (f : Nat) (c : Int32) : Int32 := if c ≤ g (8 + f) then c else g (8 + f)
def payS (g : Nat → Int32) (f t : Nat) (c : Int32) : Nat → Int32 := getS (upd g (8 + f) (g (8 + f) - paidS g f c)) t (paidS g f c)
def sayS (g : Nat → Int32) (e : Nat) (is : Int32) (t : Nat) : Nat → Int32 :=
  endS (upd (upd g (11 + t) (if is = nI 1 then g (11 + t) ||| bit e else g (11 + t) &&& (bit e ^^^ (-1 : Int32)))) (14 + t) (if is = nI 0 then g (14 + t) ||| bit e else g (14 + t) &&& (bit e ^^^ (-1 : Int32))))
def lieS (g : Nat → Int32) (p e : Nat) : Bool := bt (g (11 + p)) e != bt (g 0) e
def chk1 (g : Nat → Int32) (p e t : Nat) : Nat → Int32 := inc (upd (payS g t p (g 2)) 17 (payS g t p (g 2) 17 ||| bit e)) (21 + t)
def chk2 (g : Nat → Int32) (p t : Nat) : Nat → Int32 := inc (inc (payS g p t (g 3)) (18 + p)) (24 + t)
def checkS (g : Nat → Int32) (p e t : Nat) : Nat → Int32 := endS (if lieS g p e = true then chk2 (chk1 g p e t) p t else chk1 g p e t)
def digA (g : Nat → Int32) (a t d : Nat) : Nat → Int32 := inc (upd (inc (upd g (8 + t) (g (8 + t) - g 4)) (27 + t)) (32 + d) (nI a)) 31
def digB (g : Nat → Int32) (t : Nat) : Nat → Int32 := upd (upd (getS g t (g 5)) 30 (nI t)) 6 (nI 2)
/-- reachable in n steps -/
def lv9 (R : Int32) (a : Nat) : Nat → Nat → Bool
  | 0, b => decide (b = a)
  | n + 1, b => lv9 R a n b || (List.range 8).any (fun c => decide (c ≠ b) && bt R (Ed c b) && lv9 R a n c)
/-- how many roads the shortest way has; 99: none -/
def dist (R : Int32) (a b : Nat) : Nat := ((List.range 8).find? (fun n => lv9 R a n b)).getD 99
def distA (R : Int32) (a : Nat) (b : Nat) : Int32 := nI (dist R a b)
/-- an array's contents may be said otherwise -/
theorem arrV_congr (cI : ClassId) {N : Nat} {f g : Nat → Value} (h : ∀ k, k < N → f k = g k) : arrV cI N f = arrV cI N g := by
  unfold arrV
  congr 1
  apply Array.ext
  · simp
  · intro i h1 h2
    simp at h1
    simp [h i h1]
theorem Sw.ext {G : mGG} {A : Nat → Prop} {H0 : Heap} {Bs : List va_W} {H : Heap} {locs : List Loc} (S : Sw G A H0 Bs H locs) (i : Nat) {a : Nat} {cA : ClassId} {n : Nat} {f f' : Nat → Int32} (he : Bs[i]? = some [(a, .inl (cA, n, .inl f))]) (h : ∀ k, k < n → f k = f' k) : Sw G A H0 (Bs.set i [(a, .inl (cA, n, .inl f'))]) H locs := by
  obtain ⟨h1, h2, h3⟩ := S
  have hp := fl_get he
  refine Sw.setc he ?_ (h2.set hp) h3
  have hat := h1 _ _ hp
  refine h1.set h2 hp ?_ (fun _ _ => rfl)
  show H[a]? = some (vp_cell cA (n, .inl f'))
  rw [show H[a]? = some (vp_cell cA (n, .inl f)) from hat, vp_cell_i, vp_cell_i, arrV_congr cA (fun k hk => by rw [h k hk])]
