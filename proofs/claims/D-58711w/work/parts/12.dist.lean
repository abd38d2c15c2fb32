/-! PLAIN: the model's way of measuring finds the shortest ways -/
set_option maxRecDepth 100000
theorem lv9_mono {R : Int32} {a b : Nat} : ∀ {n m : Nat}, n ≤ m → lv9 R a n b = true → lv9 R a m b = true
  | n, 0, h, hb => by rw [show n = 0 by omega] at hb; exact hb
  | n, m + 1, h, hb => by
    rcases Nat.lt_or_ge n (m + 1) with q | q
    · unfold lv9
      rw [lv9_mono (n := n) (m := m) (by omega) hb, Bool.true_or]
    · rw [show m + 1 = n by omega]; exact hb
theorem lv9_step {R : Int32} {a c b n : Nat} (hc : c < 8) (hne : c ≠ b) (he : bt R (Ed c b) = true) (h : lv9 R a n c = true) : lv9 R a (n + 1) b = true := by
  unfold lv9
  rw [Bool.or_eq_true]
  right
  rw [List.any_eq_true]
  exact ⟨c, List.mem_range.mpr hc, by simp [hne, he, h]⟩
theorem lv9_back {R : Int32} {a b n : Nat} (h : lv9 R a (n + 1) b = true) : lv9 R a n b = true ∨ ∃ c, c < 8 ∧ c ≠ b ∧ bt R (Ed c b) = true ∧ lv9 R a n c = true := by
  unfold lv9 at h
  rw [Bool.or_eq_true] at h
  rcases h with h | h
  · exact Or.inl h
  · rw [List.any_eq_true] at h
    obtain ⟨c, h1, h2⟩ := h
    simp only [Bool.and_eq_true, decide_eq_true_eq] at h2
    exact Or.inr ⟨c, List.mem_range.mp h1, h2.1.1, h2.1.2, h2.2⟩
theorem cnt_mono {f g : Nat → Bool} (h : ∀ i, f i = true → g i = true) : ∀ n, cnt f n ≤ cnt g n
  | 0 => Nat.le_refl _
  | n + 1 => by
    have := cnt_mono h n
    unfold cnt
    cases hf : f n
    · simp; omega
    · rw [h n hf]; simp; omega
theorem cnt_same {f g : Nat → Bool} (h : ∀ i, f i = true → g i = true) : ∀ {n : Nat}, cnt f n = cnt g n → ∀ i, i < n → f i = g i
  | 0, _, i, hi => by omega
  | n + 1, he, i, hi => by
    have h1 := cnt_mono h n
    unfold cnt at he
    have h2 : f n = g n := by
      cases hf : f n
      · cases hg : g n
        · rfl
        · rw [hf, hg] at he; simp at he; omega
      · exact (h n hf).symm
    rcases Nat.lt_or_ge i n with q | q
    · exact cnt_same h (n := n) (by rw [h2] at he; omega) i q
    · rw [show i = n by omega]; exact h2
/-- behind the seventh step nothing new is reached -/
theorem lv9_7 {R : Int32} {a b : Nat} (ha : a < 8) (hb : b < 8) {n : Nat} (h : lv9 R a n b = true) : lv9 R a 7 b = true := by
  have mono : ∀ k i, lv9 R a k i = true → lv9 R a (k + 1) i = true := fun k i q => lv9_mono (Nat.le_succ k) q
  have stable : ∀ k, (∀ i, i < 8 → lv9 R a k i = lv9 R a (k + 1) i) → ∀ j, ∀ i, i < 8 → lv9 R a (k + j) i = lv9 R a k i := by
    intro k hk j
    induction j with
    | zero => intro i _; rfl
    | succ j ih =>
      intro i hi
      have h1 : lv9 R a (k + j + 1) i = lv9 R a (k + 1) i := by
        have go : ∀ n m, (∀ i, i < 8 → lv9 R a n i = lv9 R a m i) → lv9 R a (n + 1) i = lv9 R a (m + 1) i := by
          intro n m hnm
          have key : ∀ n m, (∀ i, i < 8 → lv9 R a n i = lv9 R a m i) → lv9 R a (n + 1) i = true → lv9 R a (m + 1) i = true := by
            intro n m hnm q
            rcases lv9_back q with q | ⟨c, c1, c2, c3, c4⟩
            · exact mono m i (by rw [← hnm i hi]; exact q)
            · exact lv9_step c1 c2 c3 (by rw [← hnm c c1]; exact c4)
          cases h1 : lv9 R a (n + 1) i
          · cases h2 : lv9 R a (m + 1) i
            · rfl
            · rw [key m n (fun i hi => (hnm i hi).symm) h2] at h1; cases h1
          · exact (key n m hnm h1).symm
        exact go _ _ ih
      rw [← Nat.add_assoc, h1]
      exact (hk i hi).symm
  have grow : ∀ k, k ≤ 8 → (∃ j, j < k ∧ cnt (lv9 R a j) 8 = cnt (lv9 R a (j + 1)) 8) ∨ k + 1 ≤ cnt (lv9 R a k) 8 := by
    intro k
    induction k with
    | zero =>
      intro _
      right
      have h0 : lv9 R a 0 a = true := by simp [lv9]
      rcases Nat.eq_zero_or_pos (cnt (lv9 R a 0) 8) with q | q
      · rw [cnt_zero.mp q a ha] at h0; cases h0
      · omega
    | succ k ih =>
      intro hk
      rcases ih (by omega) with ⟨j, h1, h2⟩ | h1
      · exact Or.inl ⟨j, by omega, h2⟩
      · have := cnt_mono (mono k) 8
        rcases Nat.eq_or_lt_of_le this with q | q
        · exact Or.inl ⟨k, by omega, q⟩
        · right; omega
  rcases grow 8 (Nat.le_refl _) with ⟨j, h1, h2⟩ | h1
  · have hs := stable j (cnt_same (mono j) h2)
    rcases Nat.lt_or_ge n 7 with q | q
    · exact lv9_mono (by omega) h
    · have e1 := hs (n - j) b hb
      have e2 := hs (7 - j) b hb
      rw [show j + (n - j) = n by omega] at e1
      rw [show j + (7 - j) = 7 by omega] at e2
      rw [e2, ← e1]
      exact h
  · have := cnt_le (lv9 R a 8) 8
    omega
theorem dist_some {R : Int32} {a b n : Nat} (hn : n < 8) (h : lv9 R a n b = true) (hm : ∀ j, j < n → lv9 R a j b = false) : dist R a b = n := by
  unfold dist
  rw [List.find?_range_eq_some (p := fun n => lv9 R a n b) |>.mpr ⟨h, List.mem_range.mpr hn, fun j hj => by rw [hm j hj]; rfl⟩]
  rfl
theorem dist_none {R : Int32} {a b : Nat} (h : ∀ n, n < 8 → lv9 R a n b = false) : dist R a b = 99 := by
  unfold dist
  rw [List.find?_range_eq_none (p := fun n => lv9 R a n b) |>.mpr (fun i hi => by rw [h i hi]; rfl)]
  rfl
theorem dist_spec (R : Int32) (a b : Nat) : (dist R a b < 8 ∧ lv9 R a (dist R a b) b = true ∧ ∀ j, j < dist R a b → lv9 R a j b = false) ∨ (dist R a b = 99 ∧ ∀ n, n < 8 → lv9 R a n b = false) := by
  cases hf : (List.range 8).find? (fun n => lv9 R a n b) with
  | none =>
    have h := List.find?_range_eq_none.mp hf
    have h' : ∀ n, n < 8 → lv9 R a n b = false := fun n hn => by have := h n hn; simpa using this
    exact Or.inr ⟨dist_none h', h'⟩
  | some n =>
    obtain ⟨h1, h2, h3⟩ := List.find?_range_eq_some.mp hf
    have h3' : ∀ j, j < n → lv9 R a j b = false := fun j hj => by have := h3 j hj; simpa using this
    have e := dist_some (List.mem_range.mp h2) h1 h3'
    rw [e]
    exact Or.inl ⟨List.mem_range.mp h2, h1, h3'⟩
theorem dist_le (R : Int32) (a b : Nat) : dist R a b ≤ 99 := by
  rcases dist_spec R a b with ⟨h, -⟩ | ⟨h, -⟩ <;> omega
theorem dist_self (R : Int32) (a : Nat) : dist R a a = 0 := dist_some (by omega) (by simp [lv9]) (fun j hj => by omega)
/-! the model's measuring, on naturals -/
def relN (R : Int32) (F : Nat → Nat) (x y : Nat) : Nat → Nat := fun j => if j = y then (if x ≠ y ∧ bt R (Ed x y) = true ∧ F x < 99 ∧ F x + 1 < F y then F x + 1 else F y) else F j
def isF (f : Nat → Int32) (F : Nat → Nat) : Prop := ∀ b, b < 8 → f b = nI (F b) ∧ F b ≤ 99
theorem isF_rel {R : Int32} {f : Nat → Int32} {F : Nat → Nat} (h : isF f F) {x y : Nat} (hx : x < 8) (hy : y < 8) : isF (relax R f x y) (relN R F x y) := by
  intro b hb
  obtain ⟨e1, l1⟩ := h x hx
  obtain ⟨e2, l2⟩ := h y hy
  unfold relax relN upd
  by_cases hby : b = y
  · rw [if_pos hby, if_pos hby]
    have c1 : (nI 99 ≤ f x) ↔ 99 ≤ F x := by rw [e1]; exact nI_leI (by omega) (by omega)
    have c2 : (f y ≤ f x + nI 1) ↔ F y ≤ F x + 1 := by rw [e1, e2, nI_add]; exact nI_leI (by omega) (by omega)
    by_cases hc : x ≠ y ∧ bt R (Ed x y) = true ∧ F x < 99 ∧ F x + 1 < F y
    · rw [if_pos hc, if_pos ⟨hc.1, hc.2.1, by rw [c1]; omega, by rw [c2]; omega⟩, e1, nI_add]
      exact ⟨rfl, by omega⟩
    · rw [if_neg hc, if_neg (fun z => hc ⟨z.1, z.2.1, by have := z.2.2.1; rw [c1] at this; omega, by have := z.2.2.2; rw [c2] at this; omega⟩)]
      exact ⟨e2, l2⟩
  · rw [if_neg hby, if_neg hby]
    exact h b hb
def rowN (R : Int32) (F : Nat → Nat) (x : Nat) : Nat → Nat → Nat
  | 0 => F
  | y + 1 => relN R (rowN R F x y) x y
def rndN (R : Int32) (F : Nat → Nat) : Nat → Nat → Nat
  | 0 => F
  | x + 1 => rowN R (rndN R F x) x 8
theorem isF_row {R : Int32} {f : Nat → Int32} {F : Nat → Nat} (h : isF f F) {x : Nat} (hx : x < 8) : ∀ y, y ≤ 8 → isF (rowF R f x y) (rowN R F x y)
  | 0, _ => h
  | y + 1, hy => isF_rel (isF_row h hx y (by omega)) hx (by omega)
theorem isF_rnd {R : Int32} {f : Nat → Int32} {F : Nat → Nat} (h : isF f F) : ∀ x, x ≤ 8 → isF (rndF R f x) (rndN R F x)
  | 0, _ => h
  | x + 1, hx => isF_row (isF_rnd h x (by omega)) (by omega) 8 (Nat.le_refl _)
theorem relN_le (R : Int32) (F : Nat → Nat) (x y b : Nat) : relN R F x y b ≤ F b := by
  unfold relN
  split
  · next h =>
    subst h
    split
    · omega
    · exact Nat.le_refl _
  · exact Nat.le_refl _
theorem rowN_le (R : Int32) (F : Nat → Nat) (x b : Nat) : ∀ y, rowN R F x y b ≤ F b
  | 0 => Nat.le_refl _
  | y + 1 => Nat.le_trans (relN_le _ _ _ _ _) (rowN_le R F x b y)
theorem rowN_self (R : Int32) (F : Nat → Nat) (x : Nat) : ∀ y, rowN R F x y x = F x
  | 0 => rfl
  | y + 1 => by
    have ih := rowN_self R F x y
    unfold rowN relN
    split
    · next h => subst h; rw [if_neg (fun z => z.1 rfl)]; exact ih
    · exact ih
theorem rowN_hit (R : Int32) (F : Nat → Nat) {x b : Nat} (hne : x ≠ b) (he : bt R (Ed x b) = true) (hx : F x < 99) : ∀ {y : Nat}, b < y → rowN R F x y b ≤ F x + 1
  | 0, h => by omega
  | y + 1, h => by
    rcases Nat.lt_or_ge b y with q | q
    · exact Nat.le_trans (relN_le _ _ _ _ _) (rowN_hit R F hne he hx q)
    · have e : b = y := by omega
      subst e
      have hs := rowN_self R F x b
      unfold rowN relN
      rw [if_pos rfl, hs]
      split
      · exact Nat.le_refl _
      · next hc =>
        have : ¬ F x + 1 < rowN R F x b b := fun z => hc ⟨hne, he, hx, z⟩
        omega
theorem rndN_le (R : Int32) (F : Nat → Nat) (b : Nat) : ∀ x, rndN R F x b ≤ F b
  | 0 => Nat.le_refl _
  | x + 1 => Nat.le_trans (rowN_le R _ x b 8) (rndN_le R F b x)
theorem rndN_hit (R : Int32) (F : Nat → Nat) {c b i : Nat} (hb : b < 8) (hne : c ≠ b) (he : bt R (Ed c b) = true) (hc : F c ≤ i) (hi : i < 99) : ∀ {x : Nat}, c < x → rndN R F x b ≤ i + 1
  | 0, h => by omega
  | x + 1, h => by
    rcases Nat.lt_or_ge c x with q | q
    · exact Nat.le_trans (rowN_le R _ x b 8) (rndN_hit R F hb hne he hc hi q)
    · have e : c = x := by omega
      subst e
      have h1 := rndN_le R F c c
      have h2 := rowN_hit R (rndN R F c) hne he (by omega) hb
      show rowN R (rndN R F c) c 8 b ≤ i + 1
      omega
/-- sound: what is measured is the length of a way -/
def sndN (R : Int32) (a : Nat) (F : Nat → Nat) : Prop := ∀ b, b < 8 → F b < 99 → lv9 R a (F b) b = true
theorem snd_rel {R : Int32} {a : Nat} {F : Nat → Nat} (h : sndN R a F) {x y : Nat} (hx : x < 8) (hy : y < 8) : sndN R a (relN R F x y) := by
  intro b hb
  unfold relN
  split
  · next e =>
    split
    · next hc =>
      intro _
      rw [e]
      exact lv9_step hx hc.1 hc.2.1 (h x hx hc.2.2.1)
    · intro q
      rw [e]
      exact h y hy q
  · exact h b hb
theorem snd_row {R : Int32} {a : Nat} {F : Nat → Nat} (h : sndN R a F) {x : Nat} (hx : x < 8) : ∀ y, y ≤ 8 → sndN R a (rowN R F x y)
  | 0, _ => h
  | y + 1, hy => snd_rel (snd_row h hx y (by omega)) hx (by omega)
theorem snd_rnd {R : Int32} {a : Nat} {F : Nat → Nat} (h : sndN R a F) : ∀ x, x ≤ 8 → sndN R a (rndN R F x)
  | 0, _ => h
  | x + 1, hx => snd_row (snd_rnd h x (by omega)) (by omega) 8 (Nat.le_refl _)
theorem meas_N {R : Int32} {a : Nat} {f : Nat → Int32} {F : Nat → Nat} (hf : isF f F) (hs : sndN R a F) (h0 : F a = 0) : ∀ n, n ≤ 8 → ∃ F', isF (itF R f n) F' ∧ sndN R a F' ∧ ∀ b, b < 8 → ∀ i, i ≤ n → lv9 R a i b = true → F' b ≤ i
  | 0, _ => ⟨F, hf, hs, fun b hb i hi hl => by
      rw [show i = 0 by omega] at hl ⊢
      have : b = a := by simpa [lv9] using hl
      rw [this, h0]
      exact Nat.le_refl _⟩
  | n + 1, hn => by
    obtain ⟨F', h1, h2, h3⟩ := meas_N hf hs h0 n (by omega)
    refine ⟨rndN R F' 8, isF_rnd h1 8 (Nat.le_refl _), snd_rnd h2 8 (Nat.le_refl _), fun b hb i hi hl => ?_⟩
    rcases Nat.lt_or_ge i (n + 1) with q | q
    · exact Nat.le_trans (rndN_le R F' b 8) (h3 b hb i (by omega) hl)
    · have e : i = n + 1 := by omega
      subst e
      rcases lv9_back hl with q | ⟨c, c1, c2, c3, c4⟩
      · have := h3 b hb n (Nat.le_refl _) q
        have := rndN_le R F' b 8
        omega
      · exact rndN_hit R F' hb c2 c3 (h3 c c1 n (Nat.le_refl _) c4) (by omega) c1
theorem initF_at (a : Nat) (f : Nat → Int32) : ∀ n b, b < n → initF a f n b = if b = a then nI 0 else nI 99
  | 0, b, h => by omega
  | n + 1, b, h => by
    unfold initF upd
    split
    · next e => rw [e]
    · next e => exact initF_at a f n b (by omega)
/-- what the model measures is the distance -/
theorem meas_ok {R : Int32} {a : Nat} (ha : a < 8) (f : Nat → Int32) : ∀ b, b < 8 → itF R (initF a f 8) 8 b = distA R a b := by
  have hf : isF (initF a f 8) (fun b => if b = a then 0 else 99) := fun b hb => by
    rw [initF_at a f 8 b hb]
    show _ = nI (if b = a then 0 else 99) ∧ (if b = a then 0 else 99) ≤ 99
    split
    · exact ⟨rfl, by omega⟩
    · exact ⟨rfl, by omega⟩
  obtain ⟨F', h1, h2, h3⟩ := meas_N (R := R) (a := a) hf (fun b hb q => by
    by_cases e : b = a
    · simp [e, lv9]
    · simp [e] at q) (by simp) 8 (Nat.le_refl _)
  intro b hb
  obtain ⟨e, l⟩ := h1 b hb
  rw [e]
  unfold distA
  congr 1
  rcases dist_spec R a b with ⟨d1, d2, d3⟩ | ⟨d1, d2⟩
  · have := h3 b hb _ (by omega) d2
    rcases Nat.lt_or_ge (F' b) (dist R a b) with q | q
    · have h4 := h2 b hb (by omega)
      rw [d3 _ q] at h4
      cases h4
    · omega
  · rw [d1]
    rcases Nat.lt_or_ge (F' b) 99 with q | q
    · have h4 := lv9_7 ha hb (h2 b hb q)
      rw [d2 7 (by omega)] at h4
      cases h4
    · omega
