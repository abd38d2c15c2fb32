/-! PLAIN: what the model records -/
def shP (pa : Nat → Int32) (k : Nat) : Nat → Int32 := fun j => if j < k then pa (182 + j) else pa j
theorem shP_step (pa : Nat → Int32) (k : Nat) : upd (shP pa k) k (shP pa k (182 + k)) = shP pa (k + 1) := by
  funext j
  unfold upd shP
  by_cases h : j = k
  · subst h
    rw [if_pos rfl, if_neg (by omega), if_pos (by omega)]
  · rw [if_neg h]
    by_cases q : j < k
    · rw [if_pos q, if_pos (by omega)]
    · rw [if_neg q, if_neg (by omega)]
/-- k values of g, laid into P from o on -/
def cpP (P : Nat → Int32) (o : Nat) (g : Nat → Int32) (k : Nat) : Nat → Int32 := fun j => if o ≤ j ∧ j < o + k then g (j - o) else P j
theorem cpP_0 (P : Nat → Int32) (o : Nat) (g : Nat → Int32) : cpP P o g 0 = P := by
  funext j
  unfold cpP
  rw [if_neg (by omega)]
theorem cpP_step (P : Nat → Int32) (o : Nat) (g : Nat → Int32) (k : Nat) : upd (cpP P o g k) (o + k) (g k) = cpP P o g (k + 1) := by
  funext j
  unfold upd cpP
  by_cases h : j = o + k
  · subst h
    rw [if_pos rfl, if_pos (by omega), show o + k - o = k by omega]
  · rw [if_neg h]
    by_cases q : o ≤ j ∧ j < o + k
    · rw [if_pos q, if_pos (by omega)]
    · rw [if_neg q, if_neg (by omega)]
/-- k values of P from o on, laid into g's beginning -/
def tkP (P : Nat → Int32) (o : Nat) (g : Nat → Int32) (k : Nat) : Nat → Int32 := fun j => if j < k then P (o + j) else g j
theorem tkP_0 (P : Nat → Int32) (o : Nat) (g : Nat → Int32) : tkP P o g 0 = g := by
  funext j
  unfold tkP
  rw [if_neg (by omega)]
theorem tkP_step (P : Nat → Int32) (o : Nat) (g : Nat → Int32) (k : Nat) : upd (tkP P o g k) k (P (o + k)) = tkP P o g (k + 1) := by
  funext j
  unfold upd tkP
  by_cases h : j = k
  · subst h
    rw [if_pos rfl, if_pos (by omega)]
  · rw [if_neg h]
    by_cases q : j < k
    · rw [if_pos q, if_pos (by omega)]
    · rw [if_neg q, if_neg (by omega)]
def recP (n : Nat) (pa g : Nat → Int32) : Nat → Int32 := if n = 6 then cpP (shP pa 910) (182 * (n - 1)) g 182 else cpP pa (182 * n) g 182
def recN (n : Nat) : Nat := if n = 6 then 6 else n + 1
def cI (b : Bool) : Int32 := if b = true then nI 1 else nI 0
theorem cI_0 {b : Bool} : cI b = nI 0 ↔ b = false := by
  cases b
  · exact ⟨fun _ => rfl, fun _ => rfl⟩
  · exact ⟨fun h => absurd h (by decide), fun h => by cases h⟩
theorem cI_n0 {b : Bool} : ¬ cI b = nI 0 ↔ b = true := by
  rw [cI_0]
  cases b <;> simp
theorem rnd_yes {R K : Int32} {i : Nat} (h : decP R (rndK R K i) i = true) : rndK R K i ||| (aroundS i 8 &&& (rndK R K i ^^^ (-1 : Int32))) = rndK R K (i + 1) := by rw [rndK, if_pos h]
theorem rnd_yesC {R K : Int32} {i : Nat} (h : decP R (rndK R K i) i = true) : nI 1 = cI (rndC R K (i + 1)) := by rw [rndC, h, Bool.or_true]; rfl
theorem rnd_no {R K : Int32} {i : Nat} (h : decP R (rndK R K i) i = false) : rndK R K i = rndK R K (i + 1) := by rw [rndK, if_neg (by rw [h]; decide)]
theorem rnd_noC {R K : Int32} {i : Nat} (h : decP R (rndK R K i) i = false) : cI (rndC R K i) = cI (rndC R K (i + 1)) := by rw [rndC, h, Bool.or_false]
theorem rnd_noT {R K : Int32} {i : Nat} (h : decP R (rndK R K i) i = false) : rndK R K i &&& R = rndK R K (i + 1) &&& R := by rw [← rnd_no h]
theorem rnd_T0 {R K : Int32} {i : Nat} (h : decP R (rndK R K i) i = true) (hd : card (aroundS i 8 &&& (rndK R K i &&& R)) = card (aroundS i 8 &&& R)) : (rndK R K i &&& R) ||| nI 0 = rndK R K (i + 1) &&& R := by
  have q := thereL (decP_iff.mp h)
  rw [if_pos hd] at q
  rw [q, rnd_yes h]
theorem rnd_T1 {R K : Int32} {i : Nat} (h : decP R (rndK R K i) i = true) (hd : ¬ card (aroundS i 8 &&& (rndK R K i &&& R)) = card (aroundS i 8 &&& R)) : (rndK R K i &&& R) ||| (aroundS i 8 &&& (rndK R K i ^^^ (-1 : Int32))) = rndK R K (i + 1) &&& R := by
  have q := thereL (decP_iff.mp h)
  rw [if_neg hd] at q
  rw [q, rnd_yes h]
/-- the state of the loop that finds what follows -/
def folI (R T : Int32) (K : Int32) (b : Bool) (n : Nat) : Prop := (b = true ∧ closeK R n K = T ∧ 32 - card K < n) ∨ (b = false ∧ K = T)
theorem follow_back {R T K : Int32} {n : Nat} (h : folI R T K true n) : folI R T (rndK R K 8) (rndC R K 8) (n - 1) := by
  rcases h with ⟨-, h2, h3⟩ | ⟨h1, -⟩
  · obtain ⟨m, rfl⟩ : ∃ m, n = m + 1 := ⟨n - 1, by omega⟩
    rw [closeK] at h2
    have hg := rndK_grow R K 8
    have hl := card_le (rndK R K 8)
    cases hc : rndC R K 8
    · rw [hc, if_neg (by decide)] at h2
      exact Or.inr ⟨rfl, h2⟩
    · rw [hc, if_pos rfl] at h2
      have := hg.2.1 hc
      exact Or.inl ⟨rfl, h2, by omega⟩
  · cases h1
theorem follow_meas {R K : Int32} : 33 - card (rndK R K 8) + (rndC R K 8).toNat < 33 - card K + true.toNat := by
  have hg := rndK_grow R K 8
  have hl := card_le (rndK R K 8)
  cases hc : rndC R K 8
  · rw [hg.2.2 hc]
    show 33 - card K + 0 < 33 - card K + 1
    omega
  · have := hg.2.1 hc
    show 33 - card (rndK R K 8) + 1 < 33 - card K + 1
    omega
