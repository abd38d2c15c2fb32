/-! PLAIN: the orders on the pad -/
def chS (pd : Nat → Int32) (L i : Nat) : Int32 := if i < L then pd i else nI 0
theorem chS_in {pd : Nat → Int32} {L i : Nat} (h : i < L) : pd i = chS pd L i := by unfold chS; rw [if_pos h]
theorem chS_out {pd : Nat → Int32} {L i : Nat} (h : L ≤ i) : nI 0 = chS pd L i := by unfold chS; rw [if_neg (by omega)]
/-- isWrong after a sign that has to lie between two -/
def okW (pd : Nat → Int32) (L lo hi i : Nat) (w : Bool) : Bool := w || !decide (nI lo ≤ chS pd L i ∧ chS pd L i ≤ nI hi)
/-- the next spot -/
def okI (i : Nat) (w : Bool) : Nat := if w = true then i else i + 1
theorem okW_w {pd : Nat → Int32} {L lo hi i : Nat} {w : Bool} (h : w = true) : okW pd L lo hi i w = true := by subst h; rfl
theorem okW_n {pd : Nat → Int32} {L lo hi i : Nat} {w : Bool} (h : ¬ (nI lo ≤ chS pd L i ∧ chS pd L i ≤ nI hi)) : okW pd L lo hi i w = true := by unfold okW; rw [decide_eq_false h]; cases w <;> rfl
theorem okW_y {pd : Nat → Int32} {L lo hi i : Nat} {w : Bool} (hw : w = false) (h : nI lo ≤ chS pd L i ∧ chS pd L i ≤ nI hi) : okW pd L lo hi i w = false := by unfold okW; rw [decide_eq_true h, hw]; rfl
theorem okW_f {pd : Nat → Int32} {L lo hi i : Nat} {w : Bool} (h : okW pd L lo hi i w = false) : w = false ∧ nI lo ≤ chS pd L i ∧ chS pd L i ≤ nI hi := by
  unfold okW at h
  cases w
  · rw [Bool.false_or, Bool.not_eq_false', decide_eq_true_eq] at h
    exact ⟨rfl, h⟩
  · cases h
theorem okI_t {i : Nat} {w : Bool} (h : w = true) : okI i w = i := if_pos h
theorem okI_f {i : Nat} {w : Bool} (h : w = false) : okI i w = i + 1 := if_neg (by rw [h]; decide)
theorem okI_ge (i : Nat) (w : Bool) : i ≤ okI i w := by cases w <;> unfold okI <;> simp
theorem okI_le {pd : Nat → Int32} {L lo hi i : Nat} {w : Bool} (h0 : ¬ nI lo ≤ nI 0) (hi0 : i ≤ L) : okI i (okW pd L lo hi i w) ≤ L := by
  cases h : okW pd L lo hi i w
  · rw [okI_f rfl]
    have q := (okW_f h).2.1
    unfold chS at q
    by_cases hl : i < L
    · omega
    · rw [if_neg hl] at q
      exact absurd q h0
  · rw [okI_t rfl]
    exact hi0
def sgnS (pd : Nat → Int32) (L i : Nat) (w : Bool) : Int32 := if w = true ∨ i = L then nI 0 else pd i
theorem sgn_w {pd : Nat → Int32} {L i : Nat} {w : Bool} (h : w = true) : nI 0 = sgnS pd L i w := (if_pos (Or.inl h)).symm
theorem sgn_e {pd : Nat → Int32} {L i : Nat} {w : Bool} (h : i = L) : nI 0 = sgnS pd L i w := (if_pos (Or.inr h)).symm
theorem sgn_y {pd : Nat → Int32} {L i : Nat} {w : Bool} (h : w = false) (h2 : ¬ i = L) : pd i = sgnS pd L i w := (if_neg (fun z => z.elim (fun q => by rw [h] at q; cases q) h2)).symm
/-- two places follow -/
abbrev twoP (c : Int32) : Prop := c = nI 114 ∨ c = nI 43 ∨ c = nI 45 ∨ c = nI 99
/-- a place follows -/
abbrev oneP (c : Int32) : Prop := twoP c ∨ c = nI 116 ∨ c = nI 100
abbrev sgP (c : Int32) : Prop := oneP c ∨ c = nI 98 ∨ c = nI 112
theorem twoP_n {c : Int32} (h1 : ¬ c = nI 114) (h2 : ¬ c = nI 43) (h3 : ¬ c = nI 45) (h4 : ¬ c = nI 99) : ¬ twoP c := fun z => z.elim h1 fun z => z.elim h2 fun z => z.elim h3 h4
theorem oneP_n {c : Int32} (h : ¬ twoP c) (h5 : ¬ c = nI 116) (h6 : ¬ c = nI 100) : ¬ oneP c := fun z => z.elim h fun z => z.elim h5 h6
theorem sgP_n {c : Int32} (h : ¬ oneP c) (h5 : ¬ c = nI 98) (h6 : ¬ c = nI 112) : ¬ sgP c := fun z => z.elim h fun z => z.elim h5 h6
def s1W (pd : Nat → Int32) (L i : Nat) (w : Bool) : Bool := w || !decide (sgP (sgnS pd L i w))
def s1I (pd : Nat → Int32) (L i : Nat) (w : Bool) : Nat := okI i (s1W pd L i w)
def s2W (pd : Nat → Int32) (L i : Nat) (w : Bool) : Bool := if sgnS pd L i w = nI 99 then okW pd L 48 57 (s1I pd L i w) (s1W pd L i w) else s1W pd L i w
def s2I (pd : Nat → Int32) (L i : Nat) (w : Bool) : Nat := if sgnS pd L i w = nI 99 then okI (s1I pd L i w) (okW pd L 48 57 (s1I pd L i w) (s1W pd L i w)) else s1I pd L i w
def s3W (pd : Nat → Int32) (L i : Nat) (w : Bool) : Bool := if oneP (sgnS pd L i w) then okW pd L 97 104 (s2I pd L i w) (s2W pd L i w) else s2W pd L i w
def s3I (pd : Nat → Int32) (L i : Nat) (w : Bool) : Nat := if oneP (sgnS pd L i w) then okI (s2I pd L i w) (okW pd L 97 104 (s2I pd L i w) (s2W pd L i w)) else s2I pd L i w
def s4W (pd : Nat → Int32) (L i : Nat) (w : Bool) : Bool := if twoP (sgnS pd L i w) then okW pd L 97 104 (s3I pd L i w) (s3W pd L i w) else s3W pd L i w
def s4I (pd : Nat → Int32) (L i : Nat) (w : Bool) : Nat := if twoP (sgnS pd L i w) then okI (s3I pd L i w) (okW pd L 97 104 (s3I pd L i w) (s3W pd L i w)) else s3I pd L i w
/-- the number, the first and the second place of the order -/
def dgS (pd : Nat → Int32) (L i : Nat) (w : Bool) : Int32 := if sgnS pd L i w = nI 99 then chS pd L (s1I pd L i w) - nI 48 else nI 0
def fiS (pd : Nat → Int32) (L i : Nat) (w : Bool) : Int32 := if oneP (sgnS pd L i w) then chS pd L (s2I pd L i w) - nI 97 else nI 0
def seS (pd : Nat → Int32) (L i : Nat) (w : Bool) : Int32 := if twoP (sgnS pd L i w) then chS pd L (s3I pd L i w) - nI 97 else nI 0
theorem s1W_w {pd : Nat → Int32} {L i : Nat} {w : Bool} (h : w = true) : s1W pd L i w = true := by unfold s1W; rw [h]; rfl
theorem s1W_n {pd : Nat → Int32} {L i : Nat} {w : Bool} {c : Int32} (hc : c = sgnS pd L i w) (h : ¬ sgP c) : s1W pd L i w = true := by unfold s1W; rw [← hc, decide_eq_false h]; cases w <;> rfl
theorem s1W_y {pd : Nat → Int32} {L i : Nat} {w : Bool} {c : Int32} (hc : c = sgnS pd L i w) (hw : w = false) (h : sgP c) : s1W pd L i w = false := by unfold s1W; rw [← hc, decide_eq_true h, hw]; rfl
theorem s1I_le {pd : Nat → Int32} {L i : Nat} {w : Bool} (h : i ≤ L) : s1I pd L i w ≤ L := by
  unfold s1I
  cases hs : s1W pd L i w
  · rw [okI_f rfl]
    have : ¬ i = L := by
      intro z
      unfold s1W at hs
      rw [← sgn_e (w := w) z, show decide (sgP (nI 0)) = false by decide] at hs
      cases w <;> cases hs
    omega
  · rw [okI_t rfl]; exact h
theorem s2I_le {pd : Nat → Int32} {L i : Nat} {w : Bool} (h : i ≤ L) : s2I pd L i w ≤ L := by
  unfold s2I
  split
  · exact okI_le (by decide) (s1I_le h)
  · exact s1I_le h
theorem s3I_le {pd : Nat → Int32} {L i : Nat} {w : Bool} (h : i ≤ L) : s3I pd L i w ≤ L := by
  unfold s3I
  split
  · exact okI_le (by decide) (s2I_le h)
  · exact s2I_le h
theorem s4I_le {pd : Nat → Int32} {L i : Nat} {w : Bool} (h : i ≤ L) : s4I pd L i w ≤ L := by
  unfold s4I
  split
  · exact okI_le (by decide) (s3I_le h)
  · exact s3I_le h
theorem s1I_ge (pd : Nat → Int32) (L i : Nat) (w : Bool) : i ≤ s1I pd L i w := okI_ge _ _
theorem s2I_ge (pd : Nat → Int32) (L i : Nat) (w : Bool) : i ≤ s2I pd L i w := by
  unfold s2I
  split
  · exact Nat.le_trans (s1I_ge pd L i w) (okI_ge _ _)
  · exact s1I_ge pd L i w
theorem s3I_ge (pd : Nat → Int32) (L i : Nat) (w : Bool) : i ≤ s3I pd L i w := by
  unfold s3I
  split
  · exact Nat.le_trans (s2I_ge pd L i w) (okI_ge _ _)
  · exact s2I_ge pd L i w
theorem s4I_ge (pd : Nat → Int32) (L i : Nat) (w : Bool) : i ≤ s4I pd L i w := by
  unfold s4I
  split
  · exact Nat.le_trans (s3I_ge pd L i w) (okI_ge _ _)
  · exact s3I_ge pd L i w
/-- orders from a spot on: the last spot, and whether something is wrong -/
def whR (pd : Nat → Int32) (L : Nat) : Nat → Nat → Bool → Nat × Bool
  | 0, i, w => (i, w)
  | n + 1, i, w => if s4W pd L i w = true ∨ L ≤ s4I pd L i w then (s4I pd L i w, s4W pd L i w) else if okW pd L 59 59 (s4I pd L i w) (s4W pd L i w) = true then (okI (s4I pd L i w) (okW pd L 59 59 (s4I pd L i w) (s4W pd L i w)), okW pd L 59 59 (s4I pd L i w) (s4W pd L i w)) else whR pd L n (okI (s4I pd L i w) (okW pd L 59 59 (s4I pd L i w) (s4W pd L i w))) (okW pd L 59 59 (s4I pd L i w) (s4W pd L i w))
def whI (pd : Nat → Int32) (L : Nat) : Nat := (whR pd L (L + 1) 0 false).1
def whW (pd : Nat → Int32) (L : Nat) : Bool := (whR pd L (L + 1) 0 false).2
def whH (pd : Nat → Int32) (L : Nat) (b : Bool) (n i : Nat) (w : Bool) : Prop := (b = true ∧ whR pd L n i w = (whI pd L, whW pd L) ∧ L - i < n) ∨ (b = false ∧ (i, w) = (whI pd L, whW pd L))
theorem whH_0 (pd : Nat → Int32) (L : Nat) : whH pd L true (L + 1) 0 false := Or.inl ⟨rfl, rfl, by omega⟩
theorem whH_end {pd : Nat → Int32} {L n i : Nat} {w : Bool} (h : whH pd L true n i w) (hs : s4W pd L i w = true ∨ L ≤ s4I pd L i w) : whH pd L false 0 (s4I pd L i w) (s4W pd L i w) := by
  rcases h with ⟨-, h, hn⟩ | ⟨h, -⟩
  · obtain ⟨k, rfl⟩ : ∃ k, n = k + 1 := ⟨n - 1, by omega⟩
    rw [whR, if_pos hs] at h
    exact Or.inr ⟨rfl, h⟩
  · cases h
theorem whH_bad {pd : Nat → Int32} {L n i : Nat} {w : Bool} (h : whH pd L true n i w) (hs : ¬ s4W pd L i w = true) (h2 : s4I pd L i w < L) (h3 : okW pd L 59 59 (s4I pd L i w) (s4W pd L i w) = true) : whH pd L false 0 (okI (s4I pd L i w) (okW pd L 59 59 (s4I pd L i w) (s4W pd L i w))) (okW pd L 59 59 (s4I pd L i w) (s4W pd L i w)) := by
  rcases h with ⟨-, h, hn⟩ | ⟨h, -⟩
  · obtain ⟨k, rfl⟩ : ∃ k, n = k + 1 := ⟨n - 1, by omega⟩
    rw [whR, if_neg (fun z => z.elim hs (by omega)), if_pos h3] at h
    exact Or.inr ⟨rfl, h⟩
  · cases h
theorem whH_on {pd : Nat → Int32} {L n i : Nat} {w : Bool} (h : whH pd L true n i w) (hs : ¬ s4W pd L i w = true) (h2 : s4I pd L i w < L) (h3 : okW pd L 59 59 (s4I pd L i w) (s4W pd L i w) = false) : whH pd L true (n - 1) (okI (s4I pd L i w) (okW pd L 59 59 (s4I pd L i w) (s4W pd L i w))) (okW pd L 59 59 (s4I pd L i w) (s4W pd L i w)) := by
  rcases h with ⟨-, h, hn⟩ | ⟨h, -⟩
  · obtain ⟨k, rfl⟩ : ∃ k, n = k + 1 := ⟨n - 1, by omega⟩
    rw [whR, if_neg (fun z => z.elim hs (by omega)), if_neg (by rw [h3]; decide)] at h
    refine Or.inl ⟨rfl, h, ?_⟩
    have := s4I_ge pd L i w
    rw [h3, okI_f rfl]
    omega
  · cases h
theorem whH_f {pd : Nat → Int32} {L n i : Nat} {w b : Bool} (h : whH pd L b n i w) (hb : b = false) : i = whI pd L ∧ w = whW pd L := by
  rcases h with ⟨q, -⟩ | ⟨-, h⟩
  · rw [hb] at q; cases q
  · exact ⟨congrArg Prod.fst h, congrArg Prod.snd h⟩
