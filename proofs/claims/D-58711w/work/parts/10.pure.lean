/-! PLAIN: bits, sets of bits, counts -/
set_option maxRecDepth 100000
/-! ===== Int32 by its bits: bt x i ===== -/
def bt (x : Int32) (i : Nat) : Bool := x.toBitVec.getLsbD i
theorem b_ext {x y : Int32} (h : ∀ i, i < 32 → bt x i = bt y i) : x = y := Int32.toBitVec_inj.mp (BitVec.eq_of_getLsbD_eq (fun i hi => h i hi))
theorem b_or (x y : Int32) (i : Nat) : bt (x ||| y) i = (bt x i || bt y i) := by unfold bt; rw [Int32.toBitVec_or, BitVec.getLsbD_or]
theorem b_and (x y : Int32) (i : Nat) : bt (x &&& y) i = (bt x i && bt y i) := by unfold bt; rw [Int32.toBitVec_and, BitVec.getLsbD_and]
theorem b_xor (x y : Int32) (i : Nat) : bt (x ^^^ y) i = (bt x i ^^ bt y i) := by unfold bt; rw [Int32.toBitVec_xor, BitVec.getLsbD_xor]
theorem b_big {x : Int32} {i : Nat} (h : 32 ≤ i) : bt x i = false := BitVec.getLsbD_of_ge _ _ h
theorem b_255 (i : Nat) : bt 255 i = decide (i < 8) := by
  rcases Nat.lt_or_ge i 32 with h | h
  · exact (by decide +kernel : ∀ i, i < 32 → bt 255 i = decide (i < 8)) i h
  · rw [b_big h, decide_eq_false (by omega)]
theorem b_65535 (i : Nat) : bt 65535 i = decide (i < 16) := by
  rcases Nat.lt_or_ge i 32 with h | h
  · exact (by decide +kernel : ∀ i, i < 32 → bt 65535 i = decide (i < 16)) i h
  · rw [b_big h, decide_eq_false (by omega)]
theorem b_m1 : ∀ i, i < 32 → bt (-1) i = true := by decide +kernel
theorem b_0 (i : Nat) : bt 0 i = false := BitVec.getLsbD_zero
theorem s_l : ∀ n, n < 32 → ((nI n &&& 31).toBitVec.smod 32).toNat = n := by decide +kernel
theorem s_u : ∀ n, n < 32 → (((nI n).toUInt32 &&& Int32.toUInt32 31).toBitVec % 32).toNat = n := by decide +kernel
theorem b_shl (n : Nat) (hn : n < 32) (x : Int32) {i : Nat} (hi : i < 32) : bt (x <<< (nI n &&& 31)) i = (decide (n ≤ i) && bt x (i - n)) := by
  unfold bt
  rw [Int32.toBitVec_shiftLeft]
  show (x.toBitVec <<< ((nI n &&& 31).toBitVec.smod 32).toNat).getLsbD i = _
  rw [s_l n hn, BitVec.getLsbD_shiftLeft]
  rcases Nat.lt_or_ge i n with h | h
  · simp [h, Nat.not_le.mpr h]
  · simp [hi, h, Nat.not_lt.mpr h]
theorem b_ushr (n : Nat) (hn : n < 32) (x : Int32) (i : Nat) : bt ((x.toUInt32 >>> ((nI n).toUInt32 &&& Int32.toUInt32 31)).toInt32) i = bt x (n + i) := by
  show (x.toUInt32 >>> ((nI n).toUInt32 &&& Int32.toUInt32 31)).toBitVec.getLsbD i = x.toUInt32.toBitVec.getLsbD (n + i)
  rw [UInt32.toBitVec_shiftRight]
  show (x.toUInt32.toBitVec >>> (((nI n).toUInt32 &&& Int32.toUInt32 31).toBitVec % 32).toNat).getLsbD i = _
  rw [s_u n hn, BitVec.getLsbD_ushiftRight]
theorem b_sshr (n : Nat) (hn : n < 32) (x : Int32) {i : Nat} (hi : i < 32) : bt (x >>> (nI n &&& 31)) i = if n + i < 32 then bt x (n + i) else bt x 31 := by
  unfold bt
  rw [Int32.toBitVec_shiftRight]
  show (x.toBitVec.sshiftRight ((nI n &&& 31).toBitVec.smod 32).toNat).getLsbD i = _
  rw [s_l n hn, BitVec.getLsbD_sshiftRight, BitVec.msb_eq_getLsbD_last]
  simp [hi]
/-- one bit, as the programs write it -/
def bit (e : Nat) : Int32 := nI 1 <<< (nI e &&& 31)
theorem bt_bit {e : Nat} (he : e < 32) (i : Nat) : bt (bit e) i = decide (i = e) := by
  rcases Nat.lt_or_ge i 32 with h | h
  · exact (by decide +kernel : ∀ e, e < 32 → ∀ i, i < 32 → bt (nI 1 <<< (nI e &&& 31)) i = decide (i = e)) e he i h
  · rw [b_big h, decide_eq_false (by omega)]
def bI (x : Int32) (e : Nat) : Int32 := if bt x e = true then nI 1 else nI 0
theorem bt_1 (i : Nat) : bt (nI 1) i = decide (i = 0) := by
  rcases Nat.lt_or_ge i 32 with h | h
  · exact (by decide +kernel : ∀ i, i < 32 → bt (nI 1) i = decide (i = 0)) i h
  · rw [b_big h, decide_eq_false (by omega)]
theorem bI_of {x : Int32} {e : Nat} (he : e < 31) : (x >>> (nI e &&& 31)) &&& nI 1 = bI x e := by
  apply b_ext
  intro i hi
  rw [b_and, b_sshr e (by omega) x hi, bt_1]
  unfold bI
  by_cases h0 : i = 0
  · subst h0
    rw [if_pos (by omega), Nat.add_zero]
    cases bt x e <;> simp [bt_1, b_0, show nI 0 = 0 from rfl]
  · rw [decide_eq_false h0, Bool.and_false]
    split
    · rw [bt_1, decide_eq_false h0]
    · exact (b_0 i).symm
theorem bI_1 {x : Int32} {e : Nat} : bI x e = nI 1 ↔ bt x e = true := by
  unfold bI
  split
  · simp [*]
  · simp only [*, iff_false]
    decide
theorem bI_n1 {x : Int32} {e : Nat} : ¬ bI x e = nI 1 ↔ bt x e = false := by
  rw [bI_1]
  cases bt x e <;> simp
theorem bI_t {x : Int32} {e : Nat} (h : bt x e = true) : bI x e = nI 1 := bI_1.mpr h
theorem bI_f {x : Int32} {e : Nat} (h : bt x e = false) : bI x e = nI 0 := by
  unfold bI
  rw [h]
  rfl
theorem ab_z {x : Int32} {e : Nat} (he : e < 32) : x &&& bit e = nI 0 ↔ bt x e = false := by
  constructor
  · intro h
    have h1 : bt (x &&& bit e) e = bt (nI 0) e := by rw [h]
    rw [b_and, bt_bit he, decide_eq_true rfl, Bool.and_true] at h1
    rw [h1]
    exact b_0 e
  · intro h
    apply b_ext
    intro i hi
    rw [b_and, bt_bit he, show bt (nI 0) i = false from b_0 i]
    by_cases hie : i = e
    · subst hie; rw [h]; rfl
    · rw [decide_eq_false hie, Bool.and_false]
theorem ab_nz {x : Int32} {e : Nat} (he : e < 32) : ¬ x &&& bit e = nI 0 ↔ bt x e = true := by
  rw [ab_z he]
  cases bt x e <;> simp
theorem nI_inc (a k : Nat) : nI a + Int32.ofInt (k : Int) = nI (a + k) := by
  rw [← nI_add]
  rfl
theorem nI_dec {a : Nat} (h : 1 ≤ a) : nI a + Int32.ofInt (-1) = nI (a - 1) := by
  obtain ⟨b, rfl⟩ : ∃ b, a = b + 1 := ⟨a - 1, by omega⟩
  exact pk_m1 b
theorem nI_max {a b : Nat} (ha : a < 2 ^ 31) (hb : b < 2 ^ 31) : (if nI a < nI b then nI b else nI a) = nI (max a b) := by
  simp only [nI_ltI ha hb]
  split
  · rw [Nat.max_eq_right (by omega)]
  · rw [Nat.max_eq_left (by omega)]
theorem nI_min {a b : Nat} (ha : a < 2 ^ 31) (hb : b < 2 ^ 31) : (if nI b < nI a then nI b else nI a) = nI (min a b) := by
  simp only [nI_ltI hb ha]
  split
  · rw [Nat.min_eq_right (by omega)]
  · rw [Nat.min_eq_left (by omega)]
/-- how many of the first n -/
def cnt (f : Nat → Bool) : Nat → Nat
  | 0 => 0
  | k + 1 => cnt f k + (if f k = true then 1 else 0)
theorem cnt_le (f : Nat → Bool) : ∀ n, cnt f n ≤ n
  | 0 => Nat.le_refl _
  | n + 1 => by
    have := cnt_le f n
    unfold cnt
    split <;> omega
theorem cnt_congr {f g : Nat → Bool} : ∀ {n : Nat}, (∀ i, i < n → f i = g i) → cnt f n = cnt g n
  | 0, _ => rfl
  | n + 1, h => by
    unfold cnt
    rw [cnt_congr (fun i hi => h i (by omega)), h n (by omega)]
theorem cnt_ext {f : Nat → Bool} {n : Nat} : ∀ {m : Nat}, n ≤ m → (∀ i, n ≤ i → i < m → f i = false) → cnt f m = cnt f n
  | 0, hm, _ => by rw [show n = 0 by omega]
  | m + 1, hm, h => by
    rcases Nat.lt_or_ge n (m + 1) with q | q
    · unfold cnt
      rw [h m (by omega) (by omega), cnt_ext (m := m) (by omega) (fun i h1 h2 => h i h1 (by omega))]
      cases n <;> simp [cnt]
    · rw [show n = m + 1 by omega]
/-- one taken away -/
theorem cnt_del {f g : Nat → Bool} {k : Nat} (hk : f k = true) (hg : ∀ i, g i = (f i && decide (i ≠ k))) : ∀ {n : Nat}, k < n → cnt g n + 1 = cnt f n
  | 0, h => by omega
  | n + 1, h => by
    unfold cnt
    rcases Nat.lt_or_ge k n with q | q
    · have ih := cnt_del hk hg q
      rw [hg n, decide_eq_true (show n ≠ k by omega), Bool.and_true]
      omega
    · have e : n = k := by omega
      subst e
      rw [cnt_congr (f := g) (g := f) (fun i hi => by rw [hg i, decide_eq_true (show i ≠ n by omega), Bool.and_true]), hg n, hk]
      simp
theorem cnt_zero {f : Nat → Bool} : ∀ {n : Nat}, cnt f n = 0 ↔ ∀ i, i < n → f i = false
  | 0 => by simp [cnt]
  | n + 1 => by
    unfold cnt
    constructor
    · intro h i hi
      rcases Nat.lt_or_ge i n with q | q
      · exact (cnt_zero (n := n)).mp (by omega) i q
      · rw [show i = n by omega]
        cases hf : f n
        · rfl
        · rw [hf] at h; simp at h
    · intro h
      rw [(cnt_zero (n := n)).mpr (fun i hi => h i (by omega)), h n (by omega)]
      rfl
/-- how many bits -/
def card (x : Int32) : Nat := cnt (bt x) 32
theorem card_le (x : Int32) : card x ≤ 32 := cnt_le _ _
/-- the lowest bit taken away, as the programs do it -/
theorem low_bit (x : Int32) (h : ¬ x = nI 0) : ∃ k, k < 32 ∧ bt x k = true ∧ ∀ i, bt (x &&& (x - nI 1)) i = (bt x i && decide (i ≠ k)) := by
  have hn : x.toBitVec.toNat ≠ 0 := fun q => h (Int32.toBitVec_inj.mp (BitVec.eq_of_toNat_eq q))
  obtain ⟨k, hk, hmin⟩ := pk_least (fun k => bt x k = true) (by
    apply Classical.byContradiction
    intro hc
    apply h
    apply b_ext
    intro i _
    rw [show bt (nI 0) i = false from b_0 i]
    cases hb : bt x i
    · rfl
    · exact absurd ⟨i, hb⟩ hc)
  have hk32 : k < 32 := by
    rcases Nat.lt_or_ge k 32 with q | q
    · exact q
    · rw [b_big q] at hk; cases hk
  refine ⟨k, hk32, hk, fun i => ?_⟩
  generalize hN : x.toBitVec.toNat = N at hn
  have hlt : N < 2 ^ 32 := by rw [← hN]; exact x.toBitVec.isLt
  have tb : ∀ j, bt x j = N.testBit j := fun j => by rw [← hN]; rfl
  have e1 : (x - nI 1).toBitVec.toNat = N - 1 := by
    rw [Int32.toBitVec_sub, BitVec.toNat_sub, hN]
    show (2 ^ 32 - (nI 1).toBitVec.toNat + N) % 2 ^ 32 = N - 1
    rw [show (nI 1).toBitVec.toNat = 1 from rfl]
    omega
  have tb1 : ∀ j, bt (x - nI 1) j = (N - 1).testBit j := fun j => by rw [← e1]; rfl
  rw [b_and, tb, tb1]
  have low0 : N % 2 ^ k = 0 := by
    apply Nat.eq_of_testBit_eq
    intro j
    rw [Nat.testBit_mod_two_pow, Nat.zero_testBit]
    rcases Nat.lt_or_ge j k with q | q
    · rw [← tb j]
      cases hb : bt x j
      · simp
      · exact absurd hb (hmin j q)
    · rw [decide_eq_false (by omega)]; rfl
  obtain ⟨M, hM⟩ : ∃ M, N = 2 ^ k * M := ⟨N / 2 ^ k, by have := Nat.div_add_mod N (2 ^ k); omega⟩
  have hM1 : M % 2 = 1 := by
    have := hk
    rw [tb, hM, Nat.testBit_two_pow_mul] at this
    simp at this
    exact this
  obtain ⟨m, hm⟩ : ∃ m, M = 2 * m + 1 := ⟨M / 2, by omega⟩
  have hp : 0 < 2 ^ k := Nat.two_pow_pos k
  have e2 : N - 1 = 2 ^ k * (2 * m) + (2 ^ k - 1) := by
    rw [hM, hm, Nat.mul_add, Nat.mul_one]
    omega
  have e3 : N = 2 ^ k * (2 * m + 1) + 0 := by rw [hM, hm]; rfl
  rw [e2, Nat.testBit_two_pow_mul_add _ (by omega)]
  conv => lhs; lhs; rw [e3]
  conv => rhs; lhs; rw [e3]
  rw [Nat.testBit_two_pow_mul_add _ hp]
  rcases Nat.lt_trichotomy i k with q | q | q
  · simp [q, Nat.zero_testBit]
  · subst q
    simp
  · have e4 : ¬ i < k := by omega
    have e5 : i ≠ k := by omega
    rw [if_neg e4, if_neg e4, decide_eq_true e5, Bool.and_true]
    obtain ⟨z, hz⟩ : ∃ z, i - k = z + 1 := ⟨i - k - 1, by omega⟩
    rw [hz, Nat.testBit_succ, Nat.testBit_succ]
    rw [show (2 * m + 1) / 2 = m by omega, show (2 * m) / 2 = m by omega, Bool.and_self]
theorem card_low {x : Int32} (h : ¬ x = nI 0) : card (x &&& (x - nI 1)) + 1 = card x := by
  obtain ⟨k, h1, h2, h3⟩ := low_bit x h
  exact cnt_del h2 h3 h1
theorem card_0 : card (nI 0) = 0 := cnt_zero.mpr (fun i _ => b_0 i)
/-- a place, a player -/
abbrev pl (p : Int32) : Prop := 0 ≤ p ∧ p ≤ 7
theorem pl_nI {k : Nat} (h : k < 8) : pl (nI k) := ⟨nI_pos' (by omega), nI_le (a := k) (b := 7) (by omega) (by omega)⟩
theorem pl_of {p : Int32} (h : pl p) : ∃ k, k < 8 ∧ p = nI k := by
  obtain ⟨j, hj, e⟩ := nI_of2 (x := p) (M := 7) (n := 7) rfl (Int32.not_lt.mpr h.1) h.2
  exact ⟨j, by omega, e⟩
/-- the road between two places -/
def Ed (a b : Nat) : Nat := min a b * (15 - min a b) / 2 + max a b - min a b - 1
theorem Ed_lt : ∀ a, a < 8 → ∀ b, b < 8 → a ≠ b → Ed a b < 28 := by decide +kernel
theorem Ed_comm (a b : Nat) : Ed a b = Ed b a := by unfold Ed; rw [Nat.min_comm, Nat.max_comm]
theorem Ed_1 {a b : Nat} (h : a < b) : a * (15 - a) / 2 + b - a - 1 = Ed a b := by unfold Ed; rw [Nat.min_eq_left (by omega), Nat.max_eq_right (by omega)]
theorem Ed_2 {a b : Nat} (h : b ≤ a) : b * (15 - b) / 2 + a - b - 1 = Ed a b := by unfold Ed; rw [Nat.min_eq_right (by omega), Nat.max_eq_left (by omega)]
abbrev py (p : Int32) : Prop := 0 ≤ p ∧ p ≤ 2
theorem py_of {p : Int32} (h : py p) : ∃ k, k < 3 ∧ p = nI k := by
  obtain ⟨j, hj, e⟩ := nI_of2 (x := p) (M := 2) (n := 2) rfl (Int32.not_lt.mpr h.1) h.2
  exact ⟨j, by omega, e⟩
def leastS (k : Nat) : Int32 := if k = 1 ∨ k = 3 then nI 1 else nI 0
def mostS (k : Nat) : Int32 := if k = 0 then nI 20 else if k = 3 then nI 200 else nI 50
/-- a turn ends -/
def endS (s : Nat → Int32) : Nat → Int32 := upd (upd s 7 (s 7 + nI 1)) 6 (if s 7 + nI 1 = nI 150 then nI 2 else s 6)
/-- the roads of a place to the first n others -/
def aroundS (a : Nat) : Nat → Int32
  | 0 => nI 0
  | n + 1 => aroundS a n ||| (if n = a then nI 0 else bit (Ed a n))
