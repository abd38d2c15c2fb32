/-! THE MODEL: queries -/
abbrev rm_X3_seen : Room := { frames := 0, cells := 0, slots := 0, locals := 0 }
set_option maxHeartbeats 4000000 in
set_option maxRecDepth 100000 in
theorem mt_X3_seen (G : mGG) (l : Launch) (h0 : Nat) (q1 : Nat) (q2 : Nat) (q3 : Nat) (q4 : Nat) (q5 : Nat) (q6 : Nat) (pasts : Int32) (length : Int32) (known : Int32) (there : Int32) (spot : Int32) (isWrong : Int32) (sign : Int32) (digit : Int32) (first : Int32) (second : Int32) (g : Nat → Int32) (K : Int32) (R : Int32) (e0 : Nat) (he0 : e0 < 28) : Cg G l yX3_seen (ws_ yX3_seen cX3_seen 2 (some FieldType.int)) rm_X3_seen [.ref h0, .int (nI e0)] [[(h0, .inr (3, [.ref q1, .ref q2, .int pasts, .ref q3, .ref q4, .ref q5, .int length, .int K, .int (K &&& R), .ref q6, .int spot, .int isWrong, .int sign, .int digit, .int first, .int second]))]] (Qi G (fun (r : Int32) (u : Unit) => r = seenS K R e0) (fun (u : Unit) => [[(h0, .inr (3, [.ref q1, .ref q2, .int pasts, .ref q3, .ref q4, .ref q5, .int length, .int K, .int (K &&& R), .ref q6, .int spot, .int isWrong, .int sign, .int digit, .int first, .int second]))]])) := by
  refine Cg.intro (own := RX3) (cc := cX3_seen) (maxL := 2) (ret := (some FieldType.int)) (by decide +kernel) rfl rfl (Nat.le_of_ble_eq_true rfl) ?_
  intro p e s m ag below meth c A ls Q X hr hlk hnm S hl hQ
  have hx := X.1
  have hb := X.2.1
  have hl : lv_has ls 2 [(0, .ref h0), (1, .int (nI e0))] := hl
  refine lv_aload_n hx hb dX3_seen_0 rfl (lv_at hl 0 rfl) ?_
  refine m_get X S 0 rfl (T := TX3) (N := 16) in_X3 rfl 7 (by decide) q1719 (fun _ h9 => h9) rfl dX3_seen_1 ?_
  refine lv_iload_n hx hb dX3_seen_4 rfl (lv_at hl 1 rfl) ?_
  refine lv_ishr hx hb dX3_seen_5 ?_
  refine lv_iconst (v := nI 1) hx hb dX3_seen_6 (by decide) ?_
  refine lv_iand hx hb dX3_seen_7 ?_
  refine lv_toe (y := bI K e0) (bI_of (by omega)) ?_
  refine lv_if_ne (tgt := 16) hx hb dX3_seen_8 (by decide) (fun c8_1 => ?_) (fun c8_1 => ?_)
  · skip
    have c8_1 : bt K e0 = true := bI_n0.mp c8_1
    refine lv_aload_n hx hb dX3_seen_16 rfl (lv_at hl 0 rfl) ?_
    refine m_get X S 0 rfl (T := TX3) (N := 16) in_X3 rfl 8 (by decide) q1720 (fun _ h9 => h9) rfl dX3_seen_17 ?_
    refine lv_iload_n hx hb dX3_seen_20 rfl (lv_at hl 1 rfl) ?_
    refine lv_ishr hx hb dX3_seen_21 ?_
    refine lv_iconst (v := nI 1) hx hb dX3_seen_22 (by decide) ?_
    refine lv_iand hx hb dX3_seen_23 ?_
    refine lv_toe (y := bI (K &&& R) e0) (bI_of (by omega)) ?_
    exact m_iret X hr hlk hQ S () (by show (bI (K &&& R) e0) = seenS K R e0; unfold seenS; first | (rw [if_pos (by assumption)]; done) | (rw [if_neg (fun z => by simp_all)]; done)) [0] [] (show ([0] ++ ([] : List Nat)).isPerm (List.range 1) = true by decide +kernel) rfl (Nat.le_of_ble_eq_true rfl) (Nat.le_of_ble_eq_true rfl) dX3_seen_24
  · skip
    have c8_1 : bt K e0 = false := bI_0.mp c8_1
    refine lv_bipush (v := (-6 : Int32)) hx hb dX3_seen_11 (by decide) ?_
    refine lv_goto (tgt := 24) hx hb dX3_seen_13 (by decide) ?_
    exact m_iret X hr hlk hQ S () (by show (-6 : Int32) = seenS K R e0; unfold seenS; first | (rw [if_pos (by assumption)]; done) | (rw [if_neg (fun z => by simp_all)]; done)) [0] [] (show ([0] ++ ([] : List Nat)).isPerm (List.range 1) = true by decide +kernel) rfl (Nat.le_of_ble_eq_true rfl) (Nat.le_of_ble_eq_true rfl) dX3_seen_24

abbrev rm_X3_claimers : Room := { frames := 0, cells := 0, slots := 0, locals := 0 }
set_option maxHeartbeats 4000000 in
set_option maxRecDepth 100000 in
theorem mt_X3_claimers (G : mGG) (l : Launch) (h0 : Nat) (q1 : Nat) (q2 : Nat) (q3 : Nat) (q4 : Nat) (q5 : Nat) (q6 : Nat) (pasts : Int32) (length : Int32) (known : Int32) (there : Int32) (spot : Int32) (isWrong : Int32) (sign : Int32) (digit : Int32) (first : Int32) (second : Int32) (g : Nat → Int32) (f0 : Nat) (e0 : Nat) (hf0 : f0 ≤ 14) (he0 : e0 < 28) : Cg G l yX3_claimers (ws_ yX3_claimers cX3_claimers 5 (some FieldType.int)) rm_X3_claimers [.ref h0, .int (nI f0), .int (nI e0)] [[(h0, .inr (3, [.ref q1, .ref q2, .int pasts, .ref q3, .ref q4, .ref q5, .int length, .int known, .int there, .ref q6, .int spot, .int isWrong, .int sign, .int digit, .int first, .int second]))], [(q1, .inl (gA G 0, 182, .inl g))]] (Qi G (fun (r : Int32) (u : Unit) => r = clmS g f0 e0 3) (fun (u : Unit) => [[(h0, .inr (3, [.ref q1, .ref q2, .int pasts, .ref q3, .ref q4, .ref q5, .int length, .int known, .int there, .ref q6, .int spot, .int isWrong, .int sign, .int digit, .int first, .int second]))], [(q1, .inl (gA G 0, 182, .inl g))]])) := by
  refine Cg.intro (own := RX3) (cc := cX3_claimers) (maxL := 5) (ret := (some FieldType.int)) (by decide +kernel) rfl rfl (Nat.le_of_ble_eq_true rfl) ?_
  intro p e s m ag below meth c A ls Q X hr hlk hnm S hl hQ
  have hx := X.1
  have hb := X.2.1
  have hl : lv_has ls 5 [(0, .ref h0), (1, .int (nI f0)), (2, .int (nI e0))] := hl
  refine lv_iconst (v := nI 0) hx hb dX3_claimers_0 (by decide) ?_
  refine lv_istore_n (lv' := [(3, .int (nI 0)), (0, .ref h0), (1, .int (nI f0)), (2, .int (nI e0))]) hx hb dX3_claimers_1 rfl hl (Nat.le_of_ble_eq_true rfl) rfl (fun ls hl => ?_)
  refine lv_iconst (v := nI 0) hx hb dX3_claimers_2 (by decide) ?_
  refine lv_istore (lv' := [(4, .int (nI 0)), (3, .int (nI 0)), (0, .ref h0), (1, .int (nI f0)), (2, .int (nI e0))]) hx hb dX3_claimers_3 hl (Nat.le_of_ble_eq_true rfl) rfl (fun ls hl => ?_)
  have hL5 : ∀ (kf : Nat) (i : Nat), (3 - i) < kf → (i ≤ 3) → ∀ (H : Heap) (locs : List Loc), Sw G A s.heap [[(h0, .inr (3, [.ref q1, .ref q2, .int pasts, .ref q3, .ref q4, .ref q5, .int length, .int known, .int there, .ref q6, .int spot, .int isWrong, .int sign, .int digit, .int first, .int second]))], [(q1, .inl (gA G 0, 182, .inl g))]] H locs → ∀ (ls : Array Slot), lv_has ls 5 [(3, .int (clmS g f0 e0 i)), (4, .int (nI i)), (0, .ref h0), (1, .int (nI f0)), (2, .int (nI e0))] → W p l e rm_X3_claimers s m ag below meth c H locs (0) (0) Q (F0 m 5 ls []) := by
    intro kf
    induction kf with
    | zero =>
      intro i hm
      exact absurd hm (Nat.not_lt_zero _)
    | succ kf5 ih5 =>
      intro i hm hi H locs S ls hl
      refine lv_iload hx hb dX3_claimers_5 (lv_at hl 1 rfl) ?_
      refine lv_iconst (v := nI 3) hx hb dX3_claimers_7 (by decide) ?_
      refine lv_icmp_ge (tgt := 36) hx hb dX3_claimers_8 (by decide) (fun c8_1 => ?_) (fun c8_1 => ?_)
      · skip
        have c8_1 : 3 ≤ i := (nI_leI (a := 3) (b := i) (by omega) (by omega)).mp c8_1
        refine lv_iload_n hx hb dX3_claimers_36 rfl (lv_at hl 0 rfl) ?_
        exact m_iret X hr hlk hQ S () (by show (clmS g f0 e0 i) = clmS g f0 e0 3; rw [show i = 3 by omega]) [0, 1] [] (show ([0, 1] ++ ([] : List Nat)).isPerm (List.range 2) = true by decide +kernel) rfl (Nat.le_of_ble_eq_true rfl) (Nat.le_of_ble_eq_true rfl) dX3_claimers_37
      · skip
        have c8_1 : ¬ 3 ≤ i := fun z => c8_1 ((nI_leI (a := 3) (b := i) (by omega) (by omega)).mpr z)
        refine lv_iload_n hx hb dX3_claimers_11 rfl (lv_at hl 0 rfl) ?_
        refine lv_aload_n hx hb dX3_claimers_12 rfl (lv_at hl 2 rfl) ?_
        refine m_get X S 0 rfl (T := TX3) (N := 16) in_X3 rfl 0 (by decide) q1712 (fun _ h9 => h9) rfl dX3_claimers_13 ?_
        refine lv_iload_n hx hb dX3_claimers_16 rfl (lv_at hl 3 rfl) ?_
        refine lv_iload hx hb dX3_claimers_17 (lv_at hl 1 rfl) ?_
        refine lv_iadd hx hb dX3_claimers_19 ?_
        refine lv_toe (y := nI (f0 + i)) (nI_add _ _) ?_
        refine m_iald X S 1 rfl (x := nI (f0 + i)) (j := f0 + i) (nI_clamp (by omega)) (vp_in_nI (by omega) (by omega)) (v := g (f0 + i)) rfl dX3_claimers_20 ?_
        refine lv_iload_n hx hb dX3_claimers_21 rfl (lv_at hl 4 rfl) ?_
        refine lv_ishr hx hb dX3_claimers_22 ?_
        refine lv_iconst (v := nI 1) hx hb dX3_claimers_23 (by decide) ?_
        refine lv_iand hx hb dX3_claimers_24 ?_
        refine lv_toe (y := bI (g (f0 + i)) e0) (bI_of (by omega)) ?_
        refine lv_iload hx hb dX3_claimers_25 (lv_at hl 1 rfl) ?_
        refine lv_ishl hx hb dX3_claimers_27 ?_
        refine lv_ior hx hb dX3_claimers_28 ?_
        refine lv_toe (y := clmS g f0 e0 (i + 1)) (rfl) ?_
        refine lv_istore_n (lv' := [(3, .int (clmS g f0 e0 (i + 1))), (4, .int (nI i)), (0, .ref h0), (1, .int (nI f0)), (2, .int (nI e0))]) hx hb dX3_claimers_29 rfl hl (Nat.le_of_ble_eq_true rfl) rfl (fun ls hl => ?_)
        refine lv_iinc (v := nI (i + 1)) (lv' := [(4, .int (nI (i + 1))), (3, .int (clmS g f0 e0 (i + 1))), (0, .ref h0), (1, .int (nI f0)), (2, .int (nI e0))]) hx hb dX3_claimers_30 hl (k := 1) rfl (nI_add _ _) (Nat.le_of_ble_eq_true rfl) rfl (fun ls hl => ?_)
        refine lv_goto (tgt := 5) hx hb dX3_claimers_33 (by decide) ?_
        exact ih5 (i + 1) (by omega) (by omega) _ _ S ls (lv_sub hl [1, 0, 2, 3, 4] rfl)
  exact hL5 _ 0 (Nat.lt_succ_self _) (by omega) _ _ S ls (lv_sub hl [1, 0, 2, 3, 4] rfl)

abbrev rm_X3_ofRoad : Room := { frames := 3, cells := 0, slots := 0, locals := 72 }
set_option maxHeartbeats 4000000 in
set_option maxRecDepth 100000 in
theorem mt_X3_ofRoad (G : mGG) (l : Launch) (h0 : Nat) (q1 : Nat) (q2 : Nat) (q3 : Nat) (q4 : Nat) (q5 : Nat) (q6 : Nat) (pasts : Int32) (length : Int32) (known : Int32) (there : Int32) (spot : Int32) (isWrong : Int32) (sign : Int32) (digit : Int32) (first : Int32) (second : Int32) (g : Nat → Int32) (p1 : Int32) (p2 : Int32) (w : Int32) : Cg G l yX3_ofRoad (ws_ yX3_ofRoad cX3_ofRoad 6 (some FieldType.int)) rm_X3_ofRoad [.ref h0, .int p1, .int p2, .int w] [[(h0, .inr (3, [.ref q1, .ref q2, .int pasts, .ref q3, .ref q4, .ref q5, .int length, .int known, .int there, .ref q6, .int spot, .int isWrong, .int sign, .int digit, .int first, .int second]))], [(q1, .inl (gA G 0, 182, .inl g))]] (Qi G (fun (r : Int32) (u : Int32 × Int32) => (r = ofRoadS g p1 p2 w)) (fun (u : Int32 × Int32) => [[(h0, .inr (3, [.ref q1, .ref q2, .int pasts, .ref q3, .ref q4, .ref q5, .int length, .int u.1, .int u.2, .ref q6, .int spot, .int isWrong, .int sign, .int digit, .int first, .int second]))], [(q1, .inl (gA G 0, 182, .inl g))]])) := by
  refine Cg.intro (own := RX3) (cc := cX3_ofRoad) (maxL := 6) (ret := (some FieldType.int)) (by decide +kernel) rfl rfl (Nat.le_of_ble_eq_true rfl) ?_
  intro p e s m ag below meth c A ls Q X hr hlk hnm S hl hQ
  have hx := X.1
  have hb := X.2.1
  have hl : lv_has ls 6 [(0, .ref h0), (1, .int p1), (2, .int p2), (3, .int w)] := hl
  refine lv_iload_n hx hb dX3_ofRoad_0 rfl (lv_at hl 1 rfl) ?_
  refine lv_iload_n hx hb dX3_ofRoad_1 rfl (lv_at hl 2 rfl) ?_
  have hq1 := S.cut (Bc := []) (Br := [[(h0, .inr (3, [.ref q1, .ref q2, .int pasts, .ref q3, .ref q4, .ref q5, .int length, .int known, .int there, .ref q6, .int spot, .int isWrong, .int sign, .int digit, .int first, .int second]))], [(q1, .inl (gA G 0, 182, .inl g))]]) [] [0, 1] (show ([] ++ ([0, 1] : List Nat)).isPerm (List.range 2) = true by decide +kernel) rfl rfl
  refine m_ri X S hq1 (m_runS (rest := []) (As := [.int p1, .int p2]) (n := 2) X S hq1 (mt_X3_barPair G l p1 p2 ) (lw_S q1898 q1899 q90 q1900) (by decide +kernel) ⟨Nat.le_of_ble_eq_true rfl, Nat.le_of_ble_eq_true rfl⟩ rfl hl.1 rfl (Nat.le_of_ble_eq_true rfl) dX3_ofRoad_2 ⟨(Nat.le_of_ble_eq_true rfl), (Nat.le_of_ble_eq_true rfl)⟩) (fun r2 u H locs hp2 S => ?_)
  obtain ⟨a, b⟩ := u
  have hp2 : (r2 = barPairS p1 p2 ∧ barPairS p1 p2 < nI 0) ∨ (r2 = nI 0 ∧ p1 = nI a ∧ p2 = nI b ∧ a < 8 ∧ b < 8 ∧ a ≠ b ∧ barPairS (nI a) (nI b) = nI 0) := hp2
  have S : Sw G A s.heap [[(h0, .inr (3, [.ref q1, .ref q2, .int pasts, .ref q3, .ref q4, .ref q5, .int length, .int known, .int there, .ref q6, .int spot, .int isWrong, .int sign, .int digit, .int first, .int second]))], [(q1, .inl (gA G 0, 182, .inl g))]] _ _ := S
  rcases hp2 with ⟨hhp2_0, hhp2_1⟩ | ⟨hhp2_0, hhp2_1, hhp2_2, hhp2_3, hhp2_4, hhp2_5, hhp2_6⟩
  · skip
    subst hhp2_0
    have hf0_r2 := hhp2_1
    have S : Sw G A s.heap [[(h0, .inr (3, [.ref q1, .ref q2, .int pasts, .ref q3, .ref q4, .ref q5, .int length, .int known, .int there, .ref q6, .int spot, .int isWrong, .int sign, .int digit, .int first, .int second]))], [(q1, .inl (gA G 0, 182, .inl g))]] _ _ := S
    refine lv_istore (lv' := [(4, .int (barPairS p1 p2)), (0, .ref h0), (1, .int p1), (2, .int p2), (3, .int w)]) hx hb dX3_ofRoad_5 hl (Nat.le_of_ble_eq_true rfl) rfl (fun ls hl => ?_)
    refine lv_iload hx hb dX3_ofRoad_7 (lv_at hl 0 rfl) ?_
    refine lv_if_ge (tgt := 15) hx hb dX3_ofRoad_9 (by decide) (fun c9_3 => ?_) (fun c9_3 => ?_)
    · skip
      have c9_3 : (nI 0) ≤ (barPairS p1 p2) := c9_3
      exact absurd c9_3 (Int32.not_le.mpr (by assumption))
    · skip
      have c9_3 : ¬ (nI 0) ≤ (barPairS p1 p2) := c9_3
      refine lv_iload hx hb dX3_ofRoad_12 (lv_at hl 0 rfl) ?_
      exact m_iret X hr hlk hQ S ⟨known, there⟩ (by show ((barPairS p1 p2) = ofRoadS g p1 p2 w); unfold ofRoadS; rw [if_pos (by assumption)]) [0, 1] [] (show ([0, 1] ++ ([] : List Nat)).isPerm (List.range 2) = true by decide +kernel) rfl (Nat.le_of_ble_eq_true rfl) (Nat.le_of_ble_eq_true rfl) dX3_ofRoad_14
  · skip
    subst hhp2_0
    subst hhp2_1
    subst hhp2_2
    have hf0_r2 := hhp2_3
    have hf1_r2 := hhp2_4
    have hf2_r2 := hhp2_5
    have hf3_r2 := hhp2_6
    have S : Sw G A s.heap [[(h0, .inr (3, [.ref q1, .ref q2, .int pasts, .ref q3, .ref q4, .ref q5, .int length, .int known, .int there, .ref q6, .int spot, .int isWrong, .int sign, .int digit, .int first, .int second]))], [(q1, .inl (gA G 0, 182, .inl g))]] _ _ := S
    refine lv_istore (lv' := [(4, .int (nI 0)), (0, .ref h0), (1, .int (nI a)), (2, .int (nI b)), (3, .int w)]) hx hb dX3_ofRoad_5 hl (Nat.le_of_ble_eq_true rfl) rfl (fun ls hl => ?_)
    refine lv_iload hx hb dX3_ofRoad_7 (lv_at hl 0 rfl) ?_
    refine lv_if_ge (tgt := 15) hx hb dX3_ofRoad_9 (by decide) (fun c9_4 => ?_) (fun c9_4 => absurd (by decide) c9_4)
    refine lv_iload_n hx hb dX3_ofRoad_15 rfl (lv_at hl 2 rfl) ?_
    refine lv_iload_n hx hb dX3_ofRoad_16 rfl (lv_at hl 3 rfl) ?_
    have hq5 := S.cut (Bc := []) (Br := [[(h0, .inr (3, [.ref q1, .ref q2, .int pasts, .ref q3, .ref q4, .ref q5, .int length, .int known, .int there, .ref q6, .int spot, .int isWrong, .int sign, .int digit, .int first, .int second]))], [(q1, .inl (gA G 0, 182, .inl g))]]) [] [0, 1] (show ([] ++ ([0, 1] : List Nat)).isPerm (List.range 2) = true by decide +kernel) rfl rfl
    refine m_ri X S hq5 (m_runS (rest := []) (As := [.int (nI a), .int (nI b)]) (n := 2) X S hq5 (mt_X3_edge G l a b (by omega) (by omega) (by omega)) (lw_S q1798 q1799 q90 q1800) (by decide +kernel) ⟨Nat.le_of_ble_eq_true rfl, Nat.le_of_ble_eq_true rfl⟩ rfl hl.1 rfl (Nat.le_of_ble_eq_true rfl) dX3_ofRoad_17 ⟨(Nat.le_of_ble_eq_true rfl), (Nat.le_of_ble_eq_true rfl)⟩) (fun r6 u H locs hp6 S => ?_)
    have hp6 : r6 = nI (Ed a b) := hp6
    have hhp6_0 := hp6
    subst hhp6_0
    have S : Sw G A s.heap [[(h0, .inr (3, [.ref q1, .ref q2, .int pasts, .ref q3, .ref q4, .ref q5, .int length, .int known, .int there, .ref q6, .int spot, .int isWrong, .int sign, .int digit, .int first, .int second]))], [(q1, .inl (gA G 0, 182, .inl g))]] _ _ := S
    have hEd : Ed a b < 28 := Ed_lt _ (by omega) _ (by omega) (by omega)
    refine lv_istore (lv' := [(5, .int (nI (Ed a b))), (4, .int (nI 0)), (0, .ref h0), (1, .int (nI a)), (2, .int (nI b)), (3, .int w)]) hx hb dX3_ofRoad_20 hl (Nat.le_of_ble_eq_true rfl) rfl (fun ls hl => ?_)
    refine lv_aload_n hx hb dX3_ofRoad_22 rfl (lv_at hl 2 rfl) ?_
    refine lv_aload_n hx hb dX3_ofRoad_23 rfl (lv_at hl 2 rfl) ?_
    refine m_get X S 0 rfl (T := TX3) (N := 16) in_X3 rfl 0 (by decide) q1712 (fun _ h9 => h9) rfl dX3_ofRoad_24 ?_
    refine lv_bipush (v := nI 17) hx hb dX3_ofRoad_27 (by decide) ?_
    refine m_iald X S 1 rfl (x := nI 17) (j := 17) rfl (vp_in_nI (by decide) (by decide)) (v := g 17) rfl dX3_ofRoad_29 ?_
    have hq7 := S.cut (Bc := [[(h0, .inr (3, [.ref q1, .ref q2, .int pasts, .ref q3, .ref q4, .ref q5, .int length, .int known, .int there, .ref q6, .int spot, .int isWrong, .int sign, .int digit, .int first, .int second]))], [(q1, .inl (gA G 0, 182, .inl g))]]) (Br := []) [0, 1] [] (show ([0, 1] ++ ([] : List Nat)).isPerm (List.range 2) = true by decide +kernel) rfl rfl
    refine m_rv X S hq7 (m_runV (rest := []) (As := [.int (g 17)]) (n := 1) X S hq7 (mt_X3_follows G l h0 q1 q2 q3 q4 q5 q6 pasts length known there spot isWrong sign digit first second g (g 17) ) (lw_V q1816 q1818 qs51 q90 q1819) (m_recv X S 0 rfl rfl) (by decide +kernel) ⟨Nat.le_of_ble_eq_true rfl, Nat.le_of_ble_eq_true rfl⟩ rfl hl.1 rfl (Nat.le_of_ble_eq_true rfl) dX3_ofRoad_30 ⟨(Nat.le_of_ble_eq_true rfl), (Nat.le_of_ble_eq_true rfl)⟩) (fun u H locs hp8 S => ?_)
    obtain ⟨k8, rfl⟩ : ∃ z, z = u := ⟨_, rfl⟩
    have hp8 : (k8 = knownS g (g 17)) := hp8
    have S : Sw G A s.heap [[(h0, .inr (3, [.ref q1, .ref q2, .int pasts, .ref q3, .ref q4, .ref q5, .int length, .int k8, .int (k8 &&& g 0), .ref q6, .int spot, .int isWrong, .int sign, .int digit, .int first, .int second]))], [(q1, .inl (gA G 0, 182, .inl g))]] _ _ := S
    have hhp8_0 := hp8
    subst hhp8_0
    have S : Sw G A s.heap [[(h0, .inr (3, [.ref q1, .ref q2, .int pasts, .ref q3, .ref q4, .ref q5, .int length, .int (knownS g (g 17)), .int ((knownS g (g 17)) &&& g 0), .ref q6, .int spot, .int isWrong, .int sign, .int digit, .int first, .int second]))], [(q1, .inl (gA G 0, 182, .inl g))]] _ _ := S
    refine lv_iload_n hx hb dX3_ofRoad_33 rfl (lv_at hl 5 rfl) ?_
    rcases sw_in w 5 (by decide) with c34_9 | ⟨j10, hj10, c34_9⟩
    · skip
      refine lv_tableOut (tgt := 118) hx hb dX3_ofRoad_34 c34_9 (by decide) ?_
      refine lv_bipush (v := (-2 : Int32)) hx hb dX3_ofRoad_118 (by decide) ?_
      exact m_iret X hr hlk hQ S ⟨knownS g (g 17), (knownS g (g 17)) &&& g 0⟩ (by show ((-2 : Int32) = ofRoadS g (nI a) (nI b) w); unfold ofRoadS; rw [if_neg (lt_cut (by assumption)), tn_nI (n := a) (by omega), tn_nI (n := b) (by omega)]; rw [if_pos c34_9]) [0, 1] [] (show ([0, 1] ++ ([] : List Nat)).isPerm (List.range 2) = true by decide +kernel) rfl (Nat.le_of_ble_eq_true rfl) (Nat.le_of_ble_eq_true rfl) dX3_ofRoad_120
    · rcases (show j10 = 0 ∨ j10 = 1 ∨ j10 = 2 ∨ j10 = 3 ∨ j10 = 4 ∨ j10 = 5 by omega) with rfl | rfl | rfl | rfl | rfl | rfl
      · skip
        subst c34_9
        refine lv_tableIn (x := nI 0) (off := 38) (tgt := 72) hx hb dX3_ofRoad_34 (by decide) (by decide) (by decide) (by decide) ?_
        refine lv_iload hx hb dX3_ofRoad_72 (lv_at hl 0 rfl) ?_
        exact m_iret X hr hlk hQ S ⟨knownS g (g 17), (knownS g (g 17)) &&& g 0⟩ (by show ((nI (Ed a b)) = ofRoadS g (nI a) (nI b) (nI 0)); unfold ofRoadS; rw [if_neg (lt_cut (by assumption)), tn_nI (n := a) (by omega), tn_nI (n := b) (by omega)]; rw [if_neg (by decide), tn_nI (by decide)]; rfl) [0, 1] [] (show ([0, 1] ++ ([] : List Nat)).isPerm (List.range 2) = true by decide +kernel) rfl (Nat.le_of_ble_eq_true rfl) (Nat.le_of_ble_eq_true rfl) dX3_ofRoad_74
      · skip
        subst c34_9
        refine lv_tableIn (x := nI 1) (off := 41) (tgt := 75) hx hb dX3_ofRoad_34 (by decide) (by decide) (by decide) (by decide) ?_
        refine lv_iload hx hb dX3_ofRoad_75 (lv_at hl 0 rfl) ?_
        refine lv_iconst (v := nI 3) hx hb dX3_ofRoad_77 (by decide) ?_
        refine lv_irem hx hb dX3_ofRoad_78 (nI_ne0 (by omega) (by omega)) ?_
        refine lv_toe (y := nI ((Ed a b) % 3)) (pk_rem (by omega) (by omega) (by omega)) ?_
        exact m_iret X hr hlk hQ S ⟨knownS g (g 17), (knownS g (g 17)) &&& g 0⟩ (by show ((nI ((Ed a b) % 3)) = ofRoadS g (nI a) (nI b) (nI 1)); unfold ofRoadS; rw [if_neg (lt_cut (by assumption)), tn_nI (n := a) (by omega), tn_nI (n := b) (by omega)]; rw [if_neg (by decide), tn_nI (by decide)]; rfl) [0, 1] [] (show ([0, 1] ++ ([] : List Nat)).isPerm (List.range 2) = true by decide +kernel) rfl (Nat.le_of_ble_eq_true rfl) (Nat.le_of_ble_eq_true rfl) dX3_ofRoad_79
      · skip
        subst c34_9
        refine lv_tableIn (x := nI 2) (off := 46) (tgt := 80) hx hb dX3_ofRoad_34 (by decide) (by decide) (by decide) (by decide) ?_
        refine lv_aload_n hx hb dX3_ofRoad_80 rfl (lv_at hl 2 rfl) ?_
        refine m_get X S 0 rfl (T := TX3) (N := 16) in_X3 rfl 0 (by decide) q1712 (fun _ h9 => h9) rfl dX3_ofRoad_81 ?_
        refine lv_bipush (v := nI 17) hx hb dX3_ofRoad_84 (by decide) ?_
        refine m_iald X S 1 rfl (x := nI 17) (j := 17) rfl (vp_in_nI (by decide) (by decide)) (v := g 17) rfl dX3_ofRoad_86 ?_
        refine lv_iload hx hb dX3_ofRoad_87 (lv_at hl 0 rfl) ?_
        refine lv_ishr hx hb dX3_ofRoad_89 ?_
        refine lv_iconst (v := nI 1) hx hb dX3_ofRoad_90 (by decide) ?_
        refine lv_iand hx hb dX3_ofRoad_91 ?_
        refine lv_toe (y := bI (g 17) (Ed a b)) (bI_of (by omega)) ?_
        exact m_iret X hr hlk hQ S ⟨knownS g (g 17), (knownS g (g 17)) &&& g 0⟩ (by show ((bI (g 17) (Ed a b)) = ofRoadS g (nI a) (nI b) (nI 2)); unfold ofRoadS; rw [if_neg (lt_cut (by assumption)), tn_nI (n := a) (by omega), tn_nI (n := b) (by omega)]; rw [if_neg (by decide), tn_nI (by decide)]; rfl) [0, 1] [] (show ([0, 1] ++ ([] : List Nat)).isPerm (List.range 2) = true by decide +kernel) rfl (Nat.le_of_ble_eq_true rfl) (Nat.le_of_ble_eq_true rfl) dX3_ofRoad_92
      · skip
        subst c34_9
        refine lv_tableIn (x := nI 3) (off := 59) (tgt := 93) hx hb dX3_ofRoad_34 (by decide) (by decide) (by decide) (by decide) ?_
        refine lv_aload_n hx hb dX3_ofRoad_93 rfl (lv_at hl 2 rfl) ?_
        refine lv_iload hx hb dX3_ofRoad_94 (lv_at hl 0 rfl) ?_
        have hq11 := S.cut (Bc := [[(h0, .inr (3, [.ref q1, .ref q2, .int pasts, .ref q3, .ref q4, .ref q5, .int length, .int (knownS g (g 17)), .int ((knownS g (g 17)) &&& (g 0)), .ref q6, .int spot, .int isWrong, .int sign, .int digit, .int first, .int second]))]]) (Br := [[(q1, .inl (gA G 0, 182, .inl g))]]) [0] [1] (show ([0] ++ ([1] : List Nat)).isPerm (List.range 2) = true by decide +kernel) rfl rfl
        refine m_ri X S hq11 (m_runV (rest := []) (As := [.int (nI (Ed a b))]) (n := 1) X S hq11 (mt_X3_seen G l h0 q1 q2 q3 q4 q5 q6 pasts length known there spot isWrong sign digit first second g (knownS g (g 17)) (g 0) (Ed a b) (by omega)) (lw_V q1901 q1903 qs65 q90 q1904) (m_recv X S 0 rfl rfl) (by decide +kernel) ⟨Nat.le_of_ble_eq_true rfl, Nat.le_of_ble_eq_true rfl⟩ rfl hl.1 rfl (Nat.le_of_ble_eq_true rfl) dX3_ofRoad_96 ⟨(Nat.le_of_ble_eq_true rfl), (Nat.le_of_ble_eq_true rfl)⟩) (fun r12 u H locs hp12 S => ?_)
        have hp12 : r12 = seenS (knownS g (g 17)) (g 0) (Ed a b) := hp12
        have hhp12_0 := hp12
        subst hhp12_0
        have S : Sw G A s.heap [[(q1, .inl (gA G 0, 182, .inl g))], [(h0, .inr (3, [.ref q1, .ref q2, .int pasts, .ref q3, .ref q4, .ref q5, .int length, .int (knownS g (g 17)), .int ((knownS g (g 17)) &&& (g 0)), .ref q6, .int spot, .int isWrong, .int sign, .int digit, .int first, .int second]))]] _ _ := S
        exact m_iret X hr hlk hQ S ⟨knownS g (g 17), (knownS g (g 17)) &&& (g 0)⟩ (by show ((seenS (knownS g (g 17)) (g 0) (Ed a b)) = ofRoadS g (nI a) (nI b) (nI 3)); unfold ofRoadS; rw [if_neg (lt_cut (by assumption)), tn_nI (n := a) (by omega), tn_nI (n := b) (by omega)]; rw [if_neg (by decide), tn_nI (by decide)]; rfl) [1, 0] [] (show ([1, 0] ++ ([] : List Nat)).isPerm (List.range 2) = true by decide +kernel) rfl (Nat.le_of_ble_eq_true rfl) (Nat.le_of_ble_eq_true rfl) dX3_ofRoad_99
      · skip
        subst c34_9
        refine lv_tableIn (x := nI 4) (off := 66) (tgt := 100) hx hb dX3_ofRoad_34 (by decide) (by decide) (by decide) (by decide) ?_
        refine lv_aload_n hx hb dX3_ofRoad_100 rfl (lv_at hl 2 rfl) ?_
        refine lv_bipush (v := nI 11) hx hb dX3_ofRoad_101 (by decide) ?_
        refine lv_iload hx hb dX3_ofRoad_103 (lv_at hl 0 rfl) ?_
        have hq13 := S.cut (Bc := [[(h0, .inr (3, [.ref q1, .ref q2, .int pasts, .ref q3, .ref q4, .ref q5, .int length, .int (knownS g (g 17)), .int ((knownS g (g 17)) &&& g 0), .ref q6, .int spot, .int isWrong, .int sign, .int digit, .int first, .int second]))], [(q1, .inl (gA G 0, 182, .inl g))]]) (Br := []) [0, 1] [] (show ([0, 1] ++ ([] : List Nat)).isPerm (List.range 2) = true by decide +kernel) rfl rfl
        refine m_ri X S hq13 (m_runV (rest := []) (As := [.int (nI 11), .int (nI (Ed a b))]) (n := 2) X S hq13 (mt_X3_claimers G l h0 q1 q2 q3 q4 q5 q6 pasts length (knownS g (g 17)) ((knownS g (g 17)) &&& g 0) spot isWrong sign digit first second g 11 (Ed a b) (by omega) (by omega)) (lw_V q1905 q1907 qs66 q90 q1908) (m_recv X S 0 rfl rfl) (by decide +kernel) ⟨Nat.le_of_ble_eq_true rfl, Nat.le_of_ble_eq_true rfl⟩ rfl hl.1 rfl (Nat.le_of_ble_eq_true rfl) dX3_ofRoad_105 ⟨(Nat.le_of_ble_eq_true rfl), (Nat.le_of_ble_eq_true rfl)⟩) (fun r14 u H locs hp14 S => ?_)
        have hp14 : r14 = clmS g 11 (Ed a b) 3 := hp14
        have hhp14_0 := hp14
        subst hhp14_0
        have S : Sw G A s.heap [[(h0, .inr (3, [.ref q1, .ref q2, .int pasts, .ref q3, .ref q4, .ref q5, .int length, .int (knownS g (g 17)), .int ((knownS g (g 17)) &&& g 0), .ref q6, .int spot, .int isWrong, .int sign, .int digit, .int first, .int second]))], [(q1, .inl (gA G 0, 182, .inl g))]] _ _ := S
        exact m_iret X hr hlk hQ S ⟨knownS g (g 17), (knownS g (g 17)) &&& g 0⟩ (by show ((clmS g 11 (Ed a b) 3) = ofRoadS g (nI a) (nI b) (nI 4)); unfold ofRoadS; rw [if_neg (lt_cut (by assumption)), tn_nI (n := a) (by omega), tn_nI (n := b) (by omega)]; rw [if_neg (by decide), tn_nI (by decide)]; rfl) [0, 1] [] (show ([0, 1] ++ ([] : List Nat)).isPerm (List.range 2) = true by decide +kernel) rfl (Nat.le_of_ble_eq_true rfl) (Nat.le_of_ble_eq_true rfl) dX3_ofRoad_108
      · skip
        subst c34_9
        refine lv_tableIn (x := nI 5) (off := 75) (tgt := 109) hx hb dX3_ofRoad_34 (by decide) (by decide) (by decide) (by decide) ?_
        refine lv_aload_n hx hb dX3_ofRoad_109 rfl (lv_at hl 2 rfl) ?_
        refine lv_bipush (v := nI 14) hx hb dX3_ofRoad_110 (by decide) ?_
        refine lv_iload hx hb dX3_ofRoad_112 (lv_at hl 0 rfl) ?_
        have hq15 := S.cut (Bc := [[(h0, .inr (3, [.ref q1, .ref q2, .int pasts, .ref q3, .ref q4, .ref q5, .int length, .int (knownS g (g 17)), .int ((knownS g (g 17)) &&& g 0), .ref q6, .int spot, .int isWrong, .int sign, .int digit, .int first, .int second]))], [(q1, .inl (gA G 0, 182, .inl g))]]) (Br := []) [0, 1] [] (show ([0, 1] ++ ([] : List Nat)).isPerm (List.range 2) = true by decide +kernel) rfl rfl
        refine m_ri X S hq15 (m_runV (rest := []) (As := [.int (nI 14), .int (nI (Ed a b))]) (n := 2) X S hq15 (mt_X3_claimers G l h0 q1 q2 q3 q4 q5 q6 pasts length (knownS g (g 17)) ((knownS g (g 17)) &&& g 0) spot isWrong sign digit first second g 14 (Ed a b) (by omega) (by omega)) (lw_V q1905 q1907 qs66 q90 q1908) (m_recv X S 0 rfl rfl) (by decide +kernel) ⟨Nat.le_of_ble_eq_true rfl, Nat.le_of_ble_eq_true rfl⟩ rfl hl.1 rfl (Nat.le_of_ble_eq_true rfl) dX3_ofRoad_114 ⟨(Nat.le_of_ble_eq_true rfl), (Nat.le_of_ble_eq_true rfl)⟩) (fun r16 u H locs hp16 S => ?_)
        have hp16 : r16 = clmS g 14 (Ed a b) 3 := hp16
        have hhp16_0 := hp16
        subst hhp16_0
        have S : Sw G A s.heap [[(h0, .inr (3, [.ref q1, .ref q2, .int pasts, .ref q3, .ref q4, .ref q5, .int length, .int (knownS g (g 17)), .int ((knownS g (g 17)) &&& g 0), .ref q6, .int spot, .int isWrong, .int sign, .int digit, .int first, .int second]))], [(q1, .inl (gA G 0, 182, .inl g))]] _ _ := S
        exact m_iret X hr hlk hQ S ⟨knownS g (g 17), (knownS g (g 17)) &&& g 0⟩ (by show ((clmS g 14 (Ed a b) 3) = ofRoadS g (nI a) (nI b) (nI 5)); unfold ofRoadS; rw [if_neg (lt_cut (by assumption)), tn_nI (n := a) (by omega), tn_nI (n := b) (by omega)]; rw [if_neg (by decide), tn_nI (by decide)]; rfl) [0, 1] [] (show ([0, 1] ++ ([] : List Nat)).isPerm (List.range 2) = true by decide +kernel) rfl (Nat.le_of_ble_eq_true rfl) (Nat.le_of_ble_eq_true rfl) dX3_ofRoad_117

abbrev rm_X3_knows : Room := { frames := 3, cells := 0, slots := 0, locals := 72 }
set_option maxHeartbeats 4000000 in
set_option maxRecDepth 100000 in
theorem mt_X3_knows (G : mGG) (l : Launch) (h0 : Nat) (q1 : Nat) (q2 : Nat) (q3 : Nat) (q4 : Nat) (q5 : Nat) (q6 : Nat) (pasts : Int32) (length : Int32) (known : Int32) (there : Int32) (spot : Int32) (isWrong : Int32) (sign : Int32) (digit : Int32) (first : Int32) (second : Int32) (g : Nat → Int32) (y1 : Int32) (p1 : Int32) (p2 : Int32) : Cg G l yX3_knows (ws_ yX3_knows cX3_knows 6 (some FieldType.int)) rm_X3_knows [.ref h0, .int y1, .int p1, .int p2] [[(h0, .inr (3, [.ref q1, .ref q2, .int pasts, .ref q3, .ref q4, .ref q5, .int length, .int known, .int there, .ref q6, .int spot, .int isWrong, .int sign, .int digit, .int first, .int second]))], [(q1, .inl (gA G 0, 182, .inl g))]] (Qi G (fun (r : Int32) (u : Int32 × Int32) => (r = knowsS g y1 p1 p2)) (fun (u : Int32 × Int32) => [[(h0, .inr (3, [.ref q1, .ref q2, .int pasts, .ref q3, .ref q4, .ref q5, .int length, .int u.1, .int u.2, .ref q6, .int spot, .int isWrong, .int sign, .int digit, .int first, .int second]))], [(q1, .inl (gA G 0, 182, .inl g))]])) := by
  refine Cg.intro (own := RX3) (cc := cX3_knows) (maxL := 6) (ret := (some FieldType.int)) (by decide +kernel) rfl rfl (Nat.le_of_ble_eq_true rfl) ?_
  intro p e s m ag below meth c A ls Q X hr hlk hnm S hl hQ
  have hx := X.1
  have hb := X.2.1
  have hl : lv_has ls 6 [(0, .ref h0), (1, .int y1), (2, .int p1), (3, .int p2)] := hl
  refine lv_iload_n hx hb dX3_knows_0 rfl (lv_at hl 1 rfl) ?_
  have hq1 := S.cut (Bc := []) (Br := [[(h0, .inr (3, [.ref q1, .ref q2, .int pasts, .ref q3, .ref q4, .ref q5, .int length, .int known, .int there, .ref q6, .int spot, .int isWrong, .int sign, .int digit, .int first, .int second]))], [(q1, .inl (gA G 0, 182, .inl g))]]) [] [0, 1] (show ([] ++ ([0, 1] : List Nat)).isPerm (List.range 2) = true by decide +kernel) rfl rfl
  refine m_ri X S hq1 (m_runS (rest := []) (As := [.int y1]) (n := 1) X S hq1 (mt_X3_isPlayer G l y1 ) (lw_S q1859 q1860 q90 q1861) (by decide +kernel) ⟨Nat.le_of_ble_eq_true rfl, Nat.le_of_ble_eq_true rfl⟩ rfl hl.1 rfl (Nat.le_of_ble_eq_true rfl) dX3_knows_1 ⟨(Nat.le_of_ble_eq_true rfl), (Nat.le_of_ble_eq_true rfl)⟩) (fun r2 u H locs hp2 S => ?_)
  obtain ⟨y, rfl⟩ : ∃ z, z = u := ⟨_, rfl⟩
  have hp2 : (r2 = nI 1 ∧ y1 = nI y ∧ y < 3) ∨ (r2 = nI 0 ∧ ¬ py y1) := hp2
  have S : Sw G A s.heap [[(h0, .inr (3, [.ref q1, .ref q2, .int pasts, .ref q3, .ref q4, .ref q5, .int length, .int known, .int there, .ref q6, .int spot, .int isWrong, .int sign, .int digit, .int first, .int second]))], [(q1, .inl (gA G 0, 182, .inl g))]] _ _ := S
  rcases hp2 with ⟨hhp2_0, hhp2_1, hhp2_2⟩ | ⟨hhp2_0, hhp2_1⟩
  · skip
    subst hhp2_0
    subst hhp2_1
    have hf0_r2 := hhp2_2
    have S : Sw G A s.heap [[(h0, .inr (3, [.ref q1, .ref q2, .int pasts, .ref q3, .ref q4, .ref q5, .int length, .int known, .int there, .ref q6, .int spot, .int isWrong, .int sign, .int digit, .int first, .int second]))], [(q1, .inl (gA G 0, 182, .inl g))]] _ _ := S
    refine lv_if_ne (tgt := 9) hx hb dX3_knows_4 (by decide) (fun c4_3 => ?_) (fun c4_3 => absurd c4_3 (by decide))
    refine lv_iload_n hx hb dX3_knows_9 rfl (lv_at hl 2 rfl) ?_
    refine lv_iload_n hx hb dX3_knows_10 rfl (lv_at hl 3 rfl) ?_
    have hq4 := S.cut (Bc := []) (Br := [[(h0, .inr (3, [.ref q1, .ref q2, .int pasts, .ref q3, .ref q4, .ref q5, .int length, .int known, .int there, .ref q6, .int spot, .int isWrong, .int sign, .int digit, .int first, .int second]))], [(q1, .inl (gA G 0, 182, .inl g))]]) [] [0, 1] (show ([] ++ ([0, 1] : List Nat)).isPerm (List.range 2) = true by decide +kernel) rfl rfl
    refine m_ri X S hq4 (m_runS (rest := []) (As := [.int p1, .int p2]) (n := 2) X S hq4 (mt_X3_barPair G l p1 p2 ) (lw_S q1898 q1899 q90 q1900) (by decide +kernel) ⟨Nat.le_of_ble_eq_true rfl, Nat.le_of_ble_eq_true rfl⟩ rfl hl.1 rfl (Nat.le_of_ble_eq_true rfl) dX3_knows_11 ⟨(Nat.le_of_ble_eq_true rfl), (Nat.le_of_ble_eq_true rfl)⟩) (fun r5 u H locs hp5 S => ?_)
    obtain ⟨a, b⟩ := u
    have hp5 : (r5 = barPairS p1 p2 ∧ barPairS p1 p2 < nI 0) ∨ (r5 = nI 0 ∧ p1 = nI a ∧ p2 = nI b ∧ a < 8 ∧ b < 8 ∧ a ≠ b ∧ barPairS (nI a) (nI b) = nI 0) := hp5
    have S : Sw G A s.heap [[(h0, .inr (3, [.ref q1, .ref q2, .int pasts, .ref q3, .ref q4, .ref q5, .int length, .int known, .int there, .ref q6, .int spot, .int isWrong, .int sign, .int digit, .int first, .int second]))], [(q1, .inl (gA G 0, 182, .inl g))]] _ _ := S
    rcases hp5 with ⟨hhp5_0, hhp5_1⟩ | ⟨hhp5_0, hhp5_1, hhp5_2, hhp5_3, hhp5_4, hhp5_5, hhp5_6⟩
    · skip
      subst hhp5_0
      have hf0_r5 := hhp5_1
      have S : Sw G A s.heap [[(h0, .inr (3, [.ref q1, .ref q2, .int pasts, .ref q3, .ref q4, .ref q5, .int length, .int known, .int there, .ref q6, .int spot, .int isWrong, .int sign, .int digit, .int first, .int second]))], [(q1, .inl (gA G 0, 182, .inl g))]] _ _ := S
      refine lv_istore (lv' := [(4, .int (barPairS p1 p2)), (0, .ref h0), (1, .int (nI y)), (2, .int p1), (3, .int p2)]) hx hb dX3_knows_14 hl (Nat.le_of_ble_eq_true rfl) rfl (fun ls hl => ?_)
      refine lv_iload hx hb dX3_knows_16 (lv_at hl 0 rfl) ?_
      refine lv_if_ge (tgt := 24) hx hb dX3_knows_18 (by decide) (fun c18_6 => ?_) (fun c18_6 => ?_)
      · skip
        have c18_6 : (nI 0) ≤ (barPairS p1 p2) := c18_6
        exact absurd c18_6 (Int32.not_le.mpr (by assumption))
      · skip
        have c18_6 : ¬ (nI 0) ≤ (barPairS p1 p2) := c18_6
        refine lv_iload hx hb dX3_knows_21 (lv_at hl 0 rfl) ?_
        exact m_iret X hr hlk hQ S ⟨known, there⟩ (by show ((barPairS p1 p2) = knowsS g (nI y) p1 p2); unfold knowsS; first | (rw [if_pos (by assumption)]; done) | (rw [if_neg (fun z => z (py_nI (by assumption))), if_pos (by assumption)]; done) | (rw [if_neg (fun z => z (py_nI (by assumption))), if_neg (lt_cut (by assumption)), tn_nI (n := a) (by omega), tn_nI (n := b) (by omega), tn_nI (n := y) (by omega)]; unfold knowsV; first | (rw [if_pos (by assumption)]; done) | (rw [if_neg (by assumption)]; rfl))) [0, 1] [] (show ([0, 1] ++ ([] : List Nat)).isPerm (List.range 2) = true by decide +kernel) rfl (Nat.le_of_ble_eq_true rfl) (Nat.le_of_ble_eq_true rfl) dX3_knows_23
    · skip
      subst hhp5_0
      subst hhp5_1
      subst hhp5_2
      have hf0_r5 := hhp5_3
      have hf1_r5 := hhp5_4
      have hf2_r5 := hhp5_5
      have hf3_r5 := hhp5_6
      have S : Sw G A s.heap [[(h0, .inr (3, [.ref q1, .ref q2, .int pasts, .ref q3, .ref q4, .ref q5, .int length, .int known, .int there, .ref q6, .int spot, .int isWrong, .int sign, .int digit, .int first, .int second]))], [(q1, .inl (gA G 0, 182, .inl g))]] _ _ := S
      refine lv_istore (lv' := [(4, .int (nI 0)), (0, .ref h0), (1, .int (nI y)), (2, .int (nI a)), (3, .int (nI b))]) hx hb dX3_knows_14 hl (Nat.le_of_ble_eq_true rfl) rfl (fun ls hl => ?_)
      refine lv_iload hx hb dX3_knows_16 (lv_at hl 0 rfl) ?_
      refine lv_if_ge (tgt := 24) hx hb dX3_knows_18 (by decide) (fun c18_7 => ?_) (fun c18_7 => absurd (by decide) c18_7)
      refine lv_iload_n hx hb dX3_knows_24 rfl (lv_at hl 3 rfl) ?_
      refine lv_iload_n hx hb dX3_knows_25 rfl (lv_at hl 4 rfl) ?_
      have hq8 := S.cut (Bc := []) (Br := [[(h0, .inr (3, [.ref q1, .ref q2, .int pasts, .ref q3, .ref q4, .ref q5, .int length, .int known, .int there, .ref q6, .int spot, .int isWrong, .int sign, .int digit, .int first, .int second]))], [(q1, .inl (gA G 0, 182, .inl g))]]) [] [0, 1] (show ([] ++ ([0, 1] : List Nat)).isPerm (List.range 2) = true by decide +kernel) rfl rfl
      refine m_ri X S hq8 (m_runS (rest := []) (As := [.int (nI a), .int (nI b)]) (n := 2) X S hq8 (mt_X3_edge G l a b (by omega) (by omega) (by omega)) (lw_S q1798 q1799 q90 q1800) (by decide +kernel) ⟨Nat.le_of_ble_eq_true rfl, Nat.le_of_ble_eq_true rfl⟩ rfl hl.1 rfl (Nat.le_of_ble_eq_true rfl) dX3_knows_26 ⟨(Nat.le_of_ble_eq_true rfl), (Nat.le_of_ble_eq_true rfl)⟩) (fun r9 u H locs hp9 S => ?_)
      have hp9 : r9 = nI (Ed a b) := hp9
      have hhp9_0 := hp9
      subst hhp9_0
      have S : Sw G A s.heap [[(h0, .inr (3, [.ref q1, .ref q2, .int pasts, .ref q3, .ref q4, .ref q5, .int length, .int known, .int there, .ref q6, .int spot, .int isWrong, .int sign, .int digit, .int first, .int second]))], [(q1, .inl (gA G 0, 182, .inl g))]] _ _ := S
      have hEd : Ed a b < 28 := Ed_lt _ (by omega) _ (by omega) (by omega)
      refine lv_istore (lv' := [(5, .int (nI (Ed a b))), (4, .int (nI 0)), (0, .ref h0), (1, .int (nI y)), (2, .int (nI a)), (3, .int (nI b))]) hx hb dX3_knows_29 hl (Nat.le_of_ble_eq_true rfl) rfl (fun ls hl => ?_)
      refine lv_aload_n hx hb dX3_knows_31 rfl (lv_at hl 2 rfl) ?_
      refine lv_aload_n hx hb dX3_knows_32 rfl (lv_at hl 2 rfl) ?_
      refine m_get X S 0 rfl (T := TX3) (N := 16) in_X3 rfl 0 (by decide) q1712 (fun _ h9 => h9) rfl dX3_knows_33 ?_
      refine lv_bipush (v := nI 17) hx hb dX3_knows_36 (by decide) ?_
      refine m_iald X S 1 rfl (x := nI 17) (j := 17) rfl (vp_in_nI (by decide) (by decide)) (v := g 17) rfl dX3_knows_38 ?_
      have hq10 := S.cut (Bc := [[(h0, .inr (3, [.ref q1, .ref q2, .int pasts, .ref q3, .ref q4, .ref q5, .int length, .int known, .int there, .ref q6, .int spot, .int isWrong, .int sign, .int digit, .int first, .int second]))], [(q1, .inl (gA G 0, 182, .inl g))]]) (Br := []) [0, 1] [] (show ([0, 1] ++ ([] : List Nat)).isPerm (List.range 2) = true by decide +kernel) rfl rfl
      refine m_rv X S hq10 (m_runV (rest := []) (As := [.int (g 17)]) (n := 1) X S hq10 (mt_X3_follows G l h0 q1 q2 q3 q4 q5 q6 pasts length known there spot isWrong sign digit first second g (g 17) ) (lw_V q1816 q1818 qs51 q90 q1819) (m_recv X S 0 rfl rfl) (by decide +kernel) ⟨Nat.le_of_ble_eq_true rfl, Nat.le_of_ble_eq_true rfl⟩ rfl hl.1 rfl (Nat.le_of_ble_eq_true rfl) dX3_knows_39 ⟨(Nat.le_of_ble_eq_true rfl), (Nat.le_of_ble_eq_true rfl)⟩) (fun u H locs hp11 S => ?_)
      obtain ⟨k8, rfl⟩ : ∃ z, z = u := ⟨_, rfl⟩
      have hp11 : (k8 = knownS g (g 17)) := hp11
      have S : Sw G A s.heap [[(h0, .inr (3, [.ref q1, .ref q2, .int pasts, .ref q3, .ref q4, .ref q5, .int length, .int k8, .int (k8 &&& g 0), .ref q6, .int spot, .int isWrong, .int sign, .int digit, .int first, .int second]))], [(q1, .inl (gA G 0, 182, .inl g))]] _ _ := S
      have hhp11_0 := hp11
      subst hhp11_0
      have S : Sw G A s.heap [[(h0, .inr (3, [.ref q1, .ref q2, .int pasts, .ref q3, .ref q4, .ref q5, .int length, .int (knownS g (g 17)), .int ((knownS g (g 17)) &&& g 0), .ref q6, .int spot, .int isWrong, .int sign, .int digit, .int first, .int second]))], [(q1, .inl (gA G 0, 182, .inl g))]] _ _ := S
      refine lv_iload hx hb dX3_knows_42 (lv_at hl 0 rfl) ?_
      refine lv_iconst (v := nI 3) hx hb dX3_knows_44 (by decide) ?_
      refine lv_irem hx hb dX3_knows_45 (nI_ne0 (by omega) (by omega)) ?_
      refine lv_toe (y := nI ((Ed a b) % 3)) (pk_rem (by omega) (by omega) (by omega)) ?_
      refine lv_iload_n hx hb dX3_knows_46 rfl (lv_at hl 3 rfl) ?_
      refine lv_icmp_ne (tgt := 64) hx hb dX3_knows_47 (by decide) (fun c47_12 => ?_) (fun c47_12 => ?_)
      · skip
        have c47_12 : ¬ ((Ed a b) % 3) = y := fun z => c47_12 ((nI_eq (a := ((Ed a b) % 3)) (b := y) (by omega) (by omega)).mpr z)
        refine lv_aload_n hx hb dX3_knows_64 rfl (lv_at hl 2 rfl) ?_
        refine lv_iload hx hb dX3_knows_65 (lv_at hl 0 rfl) ?_
        have hq13 := S.cut (Bc := [[(h0, .inr (3, [.ref q1, .ref q2, .int pasts, .ref q3, .ref q4, .ref q5, .int length, .int (knownS g (g 17)), .int ((knownS g (g 17)) &&& (g 0)), .ref q6, .int spot, .int isWrong, .int sign, .int digit, .int first, .int second]))]]) (Br := [[(q1, .inl (gA G 0, 182, .inl g))]]) [0] [1] (show ([0] ++ ([1] : List Nat)).isPerm (List.range 2) = true by decide +kernel) rfl rfl
        refine m_ri X S hq13 (m_runV (rest := []) (As := [.int (nI (Ed a b))]) (n := 1) X S hq13 (mt_X3_seen G l h0 q1 q2 q3 q4 q5 q6 pasts length known there spot isWrong sign digit first second g (knownS g (g 17)) (g 0) (Ed a b) (by omega)) (lw_V q1901 q1903 qs65 q90 q1904) (m_recv X S 0 rfl rfl) (by decide +kernel) ⟨Nat.le_of_ble_eq_true rfl, Nat.le_of_ble_eq_true rfl⟩ rfl hl.1 rfl (Nat.le_of_ble_eq_true rfl) dX3_knows_67 ⟨(Nat.le_of_ble_eq_true rfl), (Nat.le_of_ble_eq_true rfl)⟩) (fun r14 u H locs hp14 S => ?_)
        have hp14 : r14 = seenS (knownS g (g 17)) (g 0) (Ed a b) := hp14
        have hhp14_0 := hp14
        subst hhp14_0
        have S : Sw G A s.heap [[(q1, .inl (gA G 0, 182, .inl g))], [(h0, .inr (3, [.ref q1, .ref q2, .int pasts, .ref q3, .ref q4, .ref q5, .int length, .int (knownS g (g 17)), .int ((knownS g (g 17)) &&& (g 0)), .ref q6, .int spot, .int isWrong, .int sign, .int digit, .int first, .int second]))]] _ _ := S
        exact m_iret X hr hlk hQ S ⟨knownS g (g 17), (knownS g (g 17)) &&& (g 0)⟩ (by show ((seenS (knownS g (g 17)) (g 0) (Ed a b)) = knowsS g (nI y) (nI a) (nI b)); unfold knowsS; first | (rw [if_pos (by assumption)]; done) | (rw [if_neg (fun z => z (py_nI (by assumption))), if_pos (by assumption)]; done) | (rw [if_neg (fun z => z (py_nI (by assumption))), if_neg (lt_cut (by assumption)), tn_nI (n := a) (by omega), tn_nI (n := b) (by omega), tn_nI (n := y) (by omega)]; unfold knowsV; first | (rw [if_pos (by assumption)]; done) | (rw [if_neg (by assumption)]; rfl))) [1, 0] [] (show ([1, 0] ++ ([] : List Nat)).isPerm (List.range 2) = true by decide +kernel) rfl (Nat.le_of_ble_eq_true rfl) (Nat.le_of_ble_eq_true rfl) dX3_knows_70
      · skip
        have c47_12 : ((Ed a b) % 3) = y := (nI_eq (a := ((Ed a b) % 3)) (b := y) (by omega) (by omega)).mp c47_12
        refine lv_aload_n hx hb dX3_knows_50 rfl (lv_at hl 2 rfl) ?_
        refine m_get X S 0 rfl (T := TX3) (N := 16) in_X3 rfl 0 (by decide) q1712 (fun _ h9 => h9) rfl dX3_knows_51 ?_
        refine lv_iconst (v := nI 0) hx hb dX3_knows_54 (by decide) ?_
        refine m_iald X S 1 rfl (x := nI 0) (j := 0) rfl (vp_in_nI (by decide) (by decide)) (v := g 0) rfl dX3_knows_55 ?_
        refine lv_iload hx hb dX3_knows_56 (lv_at hl 0 rfl) ?_
        refine lv_ishr hx hb dX3_knows_58 ?_
        refine lv_iconst (v := nI 1) hx hb dX3_knows_59 (by decide) ?_
        refine lv_iand hx hb dX3_knows_60 ?_
        refine lv_toe (y := bI (g 0) (Ed a b)) (bI_of (by omega)) ?_
        refine lv_goto (tgt := 70) hx hb dX3_knows_61 (by decide) ?_
        exact m_iret X hr hlk hQ S ⟨knownS g (g 17), (knownS g (g 17)) &&& g 0⟩ (by show ((bI (g 0) (Ed a b)) = knowsS g (nI y) (nI a) (nI b)); unfold knowsS; first | (rw [if_pos (by assumption)]; done) | (rw [if_neg (fun z => z (py_nI (by assumption))), if_pos (by assumption)]; done) | (rw [if_neg (fun z => z (py_nI (by assumption))), if_neg (lt_cut (by assumption)), tn_nI (n := a) (by omega), tn_nI (n := b) (by omega), tn_nI (n := y) (by omega)]; unfold knowsV; first | (rw [if_pos (by assumption)]; done) | (rw [if_neg (by assumption)]; rfl))) [0, 1] [] (show ([0, 1] ++ ([] : List Nat)).isPerm (List.range 2) = true by decide +kernel) rfl (Nat.le_of_ble_eq_true rfl) (Nat.le_of_ble_eq_true rfl) dX3_knows_70
  · skip
    subst hhp2_0
    have hf0_r2 := hhp2_1
    have S : Sw G A s.heap [[(h0, .inr (3, [.ref q1, .ref q2, .int pasts, .ref q3, .ref q4, .ref q5, .int length, .int known, .int there, .ref q6, .int spot, .int isWrong, .int sign, .int digit, .int first, .int second]))], [(q1, .inl (gA G 0, 182, .inl g))]] _ _ := S
    refine lv_if_ne (tgt := 9) hx hb dX3_knows_4 (by decide) (fun c4_15 => absurd (by decide) c4_15) (fun c4_15 => ?_)
    refine lv_iconst (v := (-1 : Int32)) hx hb dX3_knows_7 (by decide) ?_
    exact m_iret X hr hlk hQ S ⟨known, there⟩ (by show ((-1 : Int32) = knowsS g y1 p1 p2); unfold knowsS; first | (rw [if_pos (by assumption)]; done) | (rw [if_neg (fun z => z (py_nI (by assumption))), if_pos (by assumption)]; done) | (rw [if_neg (fun z => z (py_nI (by assumption))), if_neg (lt_cut (by assumption)), tn_nI (n := a) (by omega), tn_nI (n := b) (by omega), tn_nI (n := y) (by omega)]; unfold knowsV; first | (rw [if_pos (by assumption)]; done) | (rw [if_neg (by assumption)]; rfl))) [0, 1] [] (show ([0, 1] ++ ([] : List Nat)).isPerm (List.range 2) = true by decide +kernel) rfl (Nat.le_of_ble_eq_true rfl) (Nat.le_of_ble_eq_true rfl) dX3_knows_8

abbrev rm_X3_third : Room := { frames := 0, cells := 0, slots := 0, locals := 0 }
set_option maxHeartbeats 4000000 in
set_option maxRecDepth 100000 in
theorem mt_X3_third (G : mGG) (l : Launch) (p0 : Nat) (hp3 : p0 < 3) : Cg G l yX3_third (ws_ yX3_third cX3_third 3 (some FieldType.int)) rm_X3_third [.int (nI p0)] [] (Qi G (fun (r : Int32) (u : Unit) => r = thF p0 28) (fun (u : Unit) => [])) := by
  refine Cg.intro (own := RX3) (cc := cX3_third) (maxL := 3) (ret := (some FieldType.int)) (by decide +kernel) rfl rfl (Nat.le_of_ble_eq_true rfl) ?_
  intro p e s m ag below meth c A ls Q X hr hlk hnm S hl hQ
  have hx := X.1
  have hb := X.2.1
  have hl : lv_has ls 3 [(0, .int (nI p0))] := hl
  refine lv_iconst (v := nI 0) hx hb dX3_third_0 (by decide) ?_
  refine lv_istore_n (lv' := [(1, .int (nI 0)), (0, .int (nI p0))]) hx hb dX3_third_1 rfl hl (Nat.le_of_ble_eq_true rfl) rfl (fun ls hl => ?_)
  have hE1 : nI 0 = thF p0 p0 := (thF_low (Nat.le_refl _) hp3).symm
  have hl := lv_cong hl (congrArg (fun (zz : Int32) => ([(1, .int zz), (0, .int (nI p0))] : List (Nat × Value))) hE1)
  have hl : lv_has ls 3 [(1, .int (thF p0 p0)), (0, .int (nI p0))] := hl
  refine lv_iload_n hx hb dX3_third_2 rfl (lv_at hl 1 rfl) ?_
  refine lv_istore_n (lv' := [(2, .int (nI p0)), (1, .int (thF p0 p0)), (0, .int (nI p0))]) hx hb dX3_third_3 rfl hl (Nat.le_of_ble_eq_true rfl) rfl (fun ls hl => ?_)
  have hL4 : ∀ (kf : Nat) (i : Nat), (31 - i) < kf → (i ≤ 30) → (i % 3 = p0) → ∀ (H : Heap) (locs : List Loc), Sw G A s.heap [] H locs → ∀ (ls : Array Slot), lv_has ls 3 [(1, .int (thF p0 i)), (2, .int (nI i)), (0, .int (nI p0))] → W p l e rm_X3_third s m ag below meth c H locs (0) (0) Q (F0 m 4 ls []) := by
    intro kf
    induction kf with
    | zero =>
      intro i hm
      exact absurd hm (Nat.not_lt_zero _)
    | succ kf4 ih4 =>
      intro i hm hi hi3 H locs S ls hl
      refine lv_iload_n hx hb dX3_third_4 rfl (lv_at hl 1 rfl) ?_
      refine lv_bipush (v := nI 28) hx hb dX3_third_5 (by decide) ?_
      refine lv_icmp_ge (tgt := 22) hx hb dX3_third_7 (by decide) (fun c7_2 => ?_) (fun c7_2 => ?_)
      · skip
        have c7_2 : 28 ≤ i := (nI_leI (a := 28) (b := i) (by omega) (by omega)).mp c7_2
        refine lv_iload_n hx hb dX3_third_22 rfl (lv_at hl 0 rfl) ?_
        exact m_iret X hr hlk hQ S () (by show (thF p0 i) = thF p0 28; exact thF_28 (by omega) hi hi3) [] [] (show ([] ++ ([] : List Nat)).isPerm (List.range 0) = true by decide +kernel) rfl (Nat.le_of_ble_eq_true rfl) (Nat.le_of_ble_eq_true rfl) dX3_third_23
      · skip
        have c7_2 : ¬ 28 ≤ i := fun z => c7_2 ((nI_leI (a := 28) (b := i) (by omega) (by omega)).mpr z)
        refine lv_iload_n hx hb dX3_third_10 rfl (lv_at hl 0 rfl) ?_
        refine lv_iconst (v := nI 1) hx hb dX3_third_11 (by decide) ?_
        refine lv_iload_n hx hb dX3_third_12 rfl (lv_at hl 1 rfl) ?_
        refine lv_ishl hx hb dX3_third_13 ?_
        refine lv_toe (y := bit i) (rfl) ?_
        refine lv_ior hx hb dX3_third_14 ?_
        refine lv_toe (y := thF p0 (i + 3)) (thF_3 hi3) ?_
        refine lv_istore_n (lv' := [(1, .int (thF p0 (i + 3))), (2, .int (nI i)), (0, .int (nI p0))]) hx hb dX3_third_15 rfl hl (Nat.le_of_ble_eq_true rfl) rfl (fun ls hl => ?_)
        refine lv_iinc (v := nI (i + 3)) (lv' := [(2, .int (nI (i + 3))), (1, .int (thF p0 (i + 3))), (0, .int (nI p0))]) hx hb dX3_third_16 hl (k := 1) rfl (nI_add _ _) (Nat.le_of_ble_eq_true rfl) rfl (fun ls hl => ?_)
        refine lv_goto (tgt := 4) hx hb dX3_third_19 (by decide) ?_
        exact ih4 (i + 3) (by omega) (by omega) (by omega) _ _ S ls (lv_sub hl [1, 0, 2] rfl)
  exact hL4 _ p0 (Nat.lt_succ_self _) (by omega) (by omega) _ _ S ls (lv_sub hl [1, 0, 2] rfl)

abbrev rm_X3_shown : Room := { frames := 1, cells := 0, slots := 0, locals := 22 }
set_option maxHeartbeats 4000000 in
set_option maxRecDepth 100000 in
theorem mt_X3_shown (G : mGG) (l : Launch) (h0 : Nat) (q1 : Nat) (q2 : Nat) (q3 : Nat) (q4 : Nat) (q5 : Nat) (q6 : Nat) (pasts : Int32) (length : Int32) (known : Int32) (there : Int32) (spot : Int32) (isWrong : Int32) (sign : Int32) (digit : Int32) (first : Int32) (second : Int32) (g : Nat → Int32) (p0 : Nat) (hp3 : p0 < 3) : Cg G l yX3_shown (ws_ yX3_shown cX3_shown 2 (some FieldType.int)) rm_X3_shown [.ref h0, .int (nI p0)] [[(h0, .inr (3, [.ref q1, .ref q2, .int pasts, .ref q3, .ref q4, .ref q5, .int length, .int (knownS g (g 17)), .int (knownS g (g 17) &&& g 0), .ref q6, .int spot, .int isWrong, .int sign, .int digit, .int first, .int second]))], [(q1, .inl (gA G 0, 182, .inl g))]] (Qi G (fun (r : Int32) (u : Unit) => r = nI (shownS g p0)) (fun (u : Unit) => [[(h0, .inr (3, [.ref q1, .ref q2, .int pasts, .ref q3, .ref q4, .ref q5, .int length, .int (knownS g (g 17)), .int (knownS g (g 17) &&& g 0), .ref q6, .int spot, .int isWrong, .int sign, .int digit, .int first, .int second]))], [(q1, .inl (gA G 0, 182, .inl g))]])) := by
  refine Cg.intro (own := RX3) (cc := cX3_shown) (maxL := 2) (ret := (some FieldType.int)) (by decide +kernel) rfl rfl (Nat.le_of_ble_eq_true rfl) ?_
  intro p e s m ag below meth c A ls Q X hr hlk hnm S hl hQ
  have hx := X.1
  have hb := X.2.1
  have hl : lv_has ls 2 [(0, .ref h0), (1, .int (nI p0))] := hl
  refine lv_aload_n hx hb dX3_shown_0 rfl (lv_at hl 0 rfl) ?_
  refine m_get X S 0 rfl (T := TX3) (N := 16) in_X3 rfl 7 (by decide) q1719 (fun _ h9 => h9) rfl dX3_shown_1 ?_
  refine lv_aload_n hx hb dX3_shown_4 rfl (lv_at hl 0 rfl) ?_
  refine m_get X S 0 rfl (T := TX3) (N := 16) in_X3 rfl 0 (by decide) q1712 (fun _ h9 => h9) rfl dX3_shown_5 ?_
  refine lv_bipush (v := nI 11) hx hb dX3_shown_8 (by decide) ?_
  refine lv_iload_n hx hb dX3_shown_10 rfl (lv_at hl 1 rfl) ?_
  refine lv_iadd hx hb dX3_shown_11 ?_
  refine lv_toe (y := nI (11 + p0)) (nI_add _ _) ?_
  refine m_iald X S 1 rfl (x := nI (11 + p0)) (j := 11 + p0) (nI_clamp (by omega)) (vp_in_nI (by omega) (by omega)) (v := g (11 + p0)) rfl dX3_shown_12 ?_
  refine lv_aload_n hx hb dX3_shown_13 rfl (lv_at hl 0 rfl) ?_
  refine m_get X S 0 rfl (T := TX3) (N := 16) in_X3 rfl 8 (by decide) q1720 (fun _ h9 => h9) rfl dX3_shown_14 ?_
  refine lv_iconst (v := (-1 : Int32)) hx hb dX3_shown_17 (by decide) ?_
  refine lv_ixor hx hb dX3_shown_18 ?_
  refine lv_iand hx hb dX3_shown_19 ?_
  refine lv_aload_n hx hb dX3_shown_20 rfl (lv_at hl 0 rfl) ?_
  refine m_get X S 0 rfl (T := TX3) (N := 16) in_X3 rfl 0 (by decide) q1712 (fun _ h9 => h9) rfl dX3_shown_21 ?_
  refine lv_bipush (v := nI 14) hx hb dX3_shown_24 (by decide) ?_
  refine lv_iload_n hx hb dX3_shown_26 rfl (lv_at hl 1 rfl) ?_
  refine lv_iadd hx hb dX3_shown_27 ?_
  refine lv_toe (y := nI (14 + p0)) (nI_add _ _) ?_
  refine m_iald X S 1 rfl (x := nI (14 + p0)) (j := 14 + p0) (nI_clamp (by omega)) (vp_in_nI (by omega) (by omega)) (v := g (14 + p0)) rfl dX3_shown_28 ?_
  refine lv_aload_n hx hb dX3_shown_29 rfl (lv_at hl 0 rfl) ?_
  refine m_get X S 0 rfl (T := TX3) (N := 16) in_X3 rfl 8 (by decide) q1720 (fun _ h9 => h9) rfl dX3_shown_30 ?_
  refine lv_iand hx hb dX3_shown_33 ?_
  refine lv_ior hx hb dX3_shown_34 ?_
  refine lv_iand hx hb dX3_shown_35 ?_
  have hq1 := S.cut (Bc := []) (Br := [[(h0, .inr (3, [.ref q1, .ref q2, .int pasts, .ref q3, .ref q4, .ref q5, .int length, .int (knownS g (g 17)), .int (knownS g (g 17) &&& g 0), .ref q6, .int spot, .int isWrong, .int sign, .int digit, .int first, .int second]))], [(q1, .inl (gA G 0, 182, .inl g))]]) [] [0, 1] (show ([] ++ ([0, 1] : List Nat)).isPerm (List.range 2) = true by decide +kernel) rfl rfl
  refine m_ri X S hq1 (m_runS (rest := []) (As := [.int ((knownS g (g 17)) &&& (((g (11 + p0)) &&& ((knownS g (g 17) &&& g 0) ^^^ (-1 : Int32))) ||| ((g (14 + p0)) &&& (knownS g (g 17) &&& g 0))))]) (n := 1) X S hq1 (mt_X3_many G l ((knownS g (g 17)) &&& (((g (11 + p0)) &&& ((knownS g (g 17) &&& g 0) ^^^ (-1 : Int32))) ||| ((g (14 + p0)) &&& (knownS g (g 17) &&& g 0)))) ) (lw_S q1801 q1802 q90 q1803) (by decide +kernel) ⟨Nat.le_of_ble_eq_true rfl, Nat.le_of_ble_eq_true rfl⟩ rfl hl.1 rfl (Nat.le_of_ble_eq_true rfl) dX3_shown_36 ⟨(Nat.le_of_ble_eq_true rfl), (Nat.le_of_ble_eq_true rfl)⟩) (fun r2 u H locs hp2 S => ?_)
  have hp2 : r2 = nI (card ((knownS g (g 17)) &&& (((g (11 + p0)) &&& ((knownS g (g 17) &&& g 0) ^^^ (-1 : Int32))) ||| ((g (14 + p0)) &&& (knownS g (g 17) &&& g 0))))) := hp2
  have hhp2_0 := hp2
  subst hhp2_0
  have S : Sw G A s.heap [[(h0, .inr (3, [.ref q1, .ref q2, .int pasts, .ref q3, .ref q4, .ref q5, .int length, .int (knownS g (g 17)), .int (knownS g (g 17) &&& g 0), .ref q6, .int spot, .int isWrong, .int sign, .int digit, .int first, .int second]))], [(q1, .inl (gA G 0, 182, .inl g))]] _ _ := S
  exact m_iret X hr hlk hQ S () (by show (nI (card ((knownS g (g 17)) &&& (((g (11 + p0)) &&& ((knownS g (g 17) &&& g 0) ^^^ (-1 : Int32))) ||| ((g (14 + p0)) &&& (knownS g (g 17) &&& g 0)))))) = nI (shownS g p0); rfl) [0, 1] [] (show ([0, 1] ++ ([] : List Nat)).isPerm (List.range 2) = true by decide +kernel) rfl (Nat.le_of_ble_eq_true rfl) (Nat.le_of_ble_eq_true rfl) dX3_shown_39

abbrev rm_X3_player : Room := { frames := 3, cells := 0, slots := 0, locals := 72 }
set_option maxHeartbeats 4000000 in
set_option maxRecDepth 100000 in
theorem mt_X3_player (G : mGG) (l : Launch) (h0 : Nat) (q1 : Nat) (q2 : Nat) (q3 : Nat) (q4 : Nat) (q5 : Nat) (q6 : Nat) (pasts : Int32) (length : Int32) (known : Int32) (there : Int32) (spot : Int32) (isWrong : Int32) (sign : Int32) (digit : Int32) (first : Int32) (second : Int32) (g : Nat → Int32) (y1 : Int32) (w : Int32) : Cg G l yX3_player (ws_ yX3_player cX3_player 3 (some FieldType.int)) rm_X3_player [.ref h0, .int y1, .int w] [[(h0, .inr (3, [.ref q1, .ref q2, .int pasts, .ref q3, .ref q4, .ref q5, .int length, .int known, .int there, .ref q6, .int spot, .int isWrong, .int sign, .int digit, .int first, .int second]))], [(q1, .inl (gA G 0, 182, .inl g))]] (Qi G (fun (r : Int32) (u : Int32 × Int32) => (r = playerS g y1 w)) (fun (u : Int32 × Int32) => [[(h0, .inr (3, [.ref q1, .ref q2, .int pasts, .ref q3, .ref q4, .ref q5, .int length, .int u.1, .int u.2, .ref q6, .int spot, .int isWrong, .int sign, .int digit, .int first, .int second]))], [(q1, .inl (gA G 0, 182, .inl g))]])) := by
  refine Cg.intro (own := RX3) (cc := cX3_player) (maxL := 3) (ret := (some FieldType.int)) (by decide +kernel) rfl rfl (Nat.le_of_ble_eq_true rfl) ?_
  intro p e s m ag below meth c A ls Q X hr hlk hnm S hl hQ
  have hx := X.1
  have hb := X.2.1
  have hl : lv_has ls 3 [(0, .ref h0), (1, .int y1), (2, .int w)] := hl
  refine lv_iload_n hx hb dX3_player_0 rfl (lv_at hl 1 rfl) ?_
  have hq1 := S.cut (Bc := []) (Br := [[(h0, .inr (3, [.ref q1, .ref q2, .int pasts, .ref q3, .ref q4, .ref q5, .int length, .int known, .int there, .ref q6, .int spot, .int isWrong, .int sign, .int digit, .int first, .int second]))], [(q1, .inl (gA G 0, 182, .inl g))]]) [] [0, 1] (show ([] ++ ([0, 1] : List Nat)).isPerm (List.range 2) = true by decide +kernel) rfl rfl
  refine m_ri X S hq1 (m_runS (rest := []) (As := [.int y1]) (n := 1) X S hq1 (mt_X3_isPlayer G l y1 ) (lw_S q1859 q1860 q90 q1861) (by decide +kernel) ⟨Nat.le_of_ble_eq_true rfl, Nat.le_of_ble_eq_true rfl⟩ rfl hl.1 rfl (Nat.le_of_ble_eq_true rfl) dX3_player_1 ⟨(Nat.le_of_ble_eq_true rfl), (Nat.le_of_ble_eq_true rfl)⟩) (fun r2 u H locs hp2 S => ?_)
  obtain ⟨y, rfl⟩ : ∃ z, z = u := ⟨_, rfl⟩
  have hp2 : (r2 = nI 1 ∧ y1 = nI y ∧ y < 3) ∨ (r2 = nI 0 ∧ ¬ py y1) := hp2
  have S : Sw G A s.heap [[(h0, .inr (3, [.ref q1, .ref q2, .int pasts, .ref q3, .ref q4, .ref q5, .int length, .int known, .int there, .ref q6, .int spot, .int isWrong, .int sign, .int digit, .int first, .int second]))], [(q1, .inl (gA G 0, 182, .inl g))]] _ _ := S
  rcases hp2 with ⟨hhp2_0, hhp2_1, hhp2_2⟩ | ⟨hhp2_0, hhp2_1⟩
  · skip
    subst hhp2_0
    subst hhp2_1
    have hf0_r2 := hhp2_2
    have S : Sw G A s.heap [[(h0, .inr (3, [.ref q1, .ref q2, .int pasts, .ref q3, .ref q4, .ref q5, .int length, .int known, .int there, .ref q6, .int spot, .int isWrong, .int sign, .int digit, .int first, .int second]))], [(q1, .inl (gA G 0, 182, .inl g))]] _ _ := S
    refine lv_if_ne (tgt := 9) hx hb dX3_player_4 (by decide) (fun c4_3 => ?_) (fun c4_3 => absurd c4_3 (by decide))
    refine lv_aload_n hx hb dX3_player_9 rfl (lv_at hl 0 rfl) ?_
    refine lv_aload_n hx hb dX3_player_10 rfl (lv_at hl 0 rfl) ?_
    refine m_get X S 0 rfl (T := TX3) (N := 16) in_X3 rfl 0 (by decide) q1712 (fun _ h9 => h9) rfl dX3_player_11 ?_
    refine lv_bipush (v := nI 17) hx hb dX3_player_14 (by decide) ?_
    refine m_iald X S 1 rfl (x := nI 17) (j := 17) rfl (vp_in_nI (by decide) (by decide)) (v := g 17) rfl dX3_player_16 ?_
    have hq4 := S.cut (Bc := [[(h0, .inr (3, [.ref q1, .ref q2, .int pasts, .ref q3, .ref q4, .ref q5, .int length, .int known, .int there, .ref q6, .int spot, .int isWrong, .int sign, .int digit, .int first, .int second]))], [(q1, .inl (gA G 0, 182, .inl g))]]) (Br := []) [0, 1] [] (show ([0, 1] ++ ([] : List Nat)).isPerm (List.range 2) = true by decide +kernel) rfl rfl
    refine m_rv X S hq4 (m_runV (rest := []) (As := [.int (g 17)]) (n := 1) X S hq4 (mt_X3_follows G l h0 q1 q2 q3 q4 q5 q6 pasts length known there spot isWrong sign digit first second g (g 17) ) (lw_V q1816 q1818 qs51 q90 q1819) (m_recv X S 0 rfl rfl) (by decide +kernel) ⟨Nat.le_of_ble_eq_true rfl, Nat.le_of_ble_eq_true rfl⟩ rfl hl.1 rfl (Nat.le_of_ble_eq_true rfl) dX3_player_17 ⟨(Nat.le_of_ble_eq_true rfl), (Nat.le_of_ble_eq_true rfl)⟩) (fun u H locs hp5 S => ?_)
    obtain ⟨k8, rfl⟩ : ∃ z, z = u := ⟨_, rfl⟩
    have hp5 : (k8 = knownS g (g 17)) := hp5
    have S : Sw G A s.heap [[(h0, .inr (3, [.ref q1, .ref q2, .int pasts, .ref q3, .ref q4, .ref q5, .int length, .int k8, .int (k8 &&& g 0), .ref q6, .int spot, .int isWrong, .int sign, .int digit, .int first, .int second]))], [(q1, .inl (gA G 0, 182, .inl g))]] _ _ := S
    have hhp5_0 := hp5
    subst hhp5_0
    have S : Sw G A s.heap [[(h0, .inr (3, [.ref q1, .ref q2, .int pasts, .ref q3, .ref q4, .ref q5, .int length, .int (knownS g (g 17)), .int ((knownS g (g 17)) &&& g 0), .ref q6, .int spot, .int isWrong, .int sign, .int digit, .int first, .int second]))], [(q1, .inl (gA G 0, 182, .inl g))]] _ _ := S
    refine lv_iload_n hx hb dX3_player_20 rfl (lv_at hl 2 rfl) ?_
    rcases sw_in w 7 (by decide) with c21_6 | ⟨j7, hj7, c21_6⟩
    · skip
      refine lv_tableOut (tgt := 143) hx hb dX3_player_21 c21_6 (by decide) ?_
      refine lv_bipush (v := (-2 : Int32)) hx hb dX3_player_143 (by decide) ?_
      exact m_iret X hr hlk hQ S ⟨knownS g (g 17), (knownS g (g 17)) &&& g 0⟩ (by show ((-2 : Int32) = playerS g (nI y) w); unfold playerS; rw [if_neg (fun z => z (py_nI (by assumption)))]; try rw [tn_nI (n := y) (by omega)]; rw [if_pos c21_6]) [0, 1] [] (show ([0, 1] ++ ([] : List Nat)).isPerm (List.range 2) = true by decide +kernel) rfl (Nat.le_of_ble_eq_true rfl) (Nat.le_of_ble_eq_true rfl) dX3_player_145
    · rcases (show j7 = 0 ∨ j7 = 1 ∨ j7 = 2 ∨ j7 = 3 ∨ j7 = 4 ∨ j7 = 5 ∨ j7 = 6 ∨ j7 = 7 by omega) with rfl | rfl | rfl | rfl | rfl | rfl | rfl | rfl
      · skip
        subst c21_6
        refine lv_tableIn (x := nI 0) (off := 47) (tgt := 68) hx hb dX3_player_21 (by decide) (by decide) (by decide) (by decide) ?_
        refine lv_aload_n hx hb dX3_player_68 rfl (lv_at hl 0 rfl) ?_
        refine m_get X S 0 rfl (T := TX3) (N := 16) in_X3 rfl 0 (by decide) q1712 (fun _ h9 => h9) rfl dX3_player_69 ?_
        refine lv_bipush (v := nI 8) hx hb dX3_player_72 (by decide) ?_
        refine lv_iload_n hx hb dX3_player_74 rfl (lv_at hl 1 rfl) ?_
        refine lv_iadd hx hb dX3_player_75 ?_
        refine lv_toe (y := nI (8 + y)) (nI_add _ _) ?_
        refine m_iald X S 1 rfl (x := nI (8 + y)) (j := 8 + y) (nI_clamp (by omega)) (vp_in_nI (by omega) (by omega)) (v := g (8 + y)) rfl dX3_player_76 ?_
        exact m_iret X hr hlk hQ S ⟨knownS g (g 17), (knownS g (g 17)) &&& g 0⟩ (by show ((g (8 + y)) = playerS g (nI y) (nI 0)); unfold playerS; rw [if_neg (fun z => z (py_nI (by assumption)))]; try rw [tn_nI (n := y) (by omega)]; rw [if_neg (by decide), tn_nI (by decide)]; rfl) [0, 1] [] (show ([0, 1] ++ ([] : List Nat)).isPerm (List.range 2) = true by decide +kernel) rfl (Nat.le_of_ble_eq_true rfl) (Nat.le_of_ble_eq_true rfl) dX3_player_77
      · skip
        subst c21_6
        refine lv_tableIn (x := nI 1) (off := 57) (tgt := 78) hx hb dX3_player_21 (by decide) (by decide) (by decide) (by decide) ?_
        refine lv_aload_n hx hb dX3_player_78 rfl (lv_at hl 0 rfl) ?_
        refine lv_iload_n hx hb dX3_player_79 rfl (lv_at hl 1 rfl) ?_
        have hq8 := S.cut (Bc := [[(h0, .inr (3, [.ref q1, .ref q2, .int pasts, .ref q3, .ref q4, .ref q5, .int length, .int (knownS g (g 17)), .int ((knownS g (g 17)) &&& g 0), .ref q6, .int spot, .int isWrong, .int sign, .int digit, .int first, .int second]))], [(q1, .inl (gA G 0, 182, .inl g))]]) (Br := []) [0, 1] [] (show ([0, 1] ++ ([] : List Nat)).isPerm (List.range 2) = true by decide +kernel) rfl rfl
        refine m_ri X S hq8 (m_runV (rest := []) (As := [.int (nI y)]) (n := 1) X S hq8 (mt_X3_claims G l h0 q1 q2 q3 q4 q5 q6 pasts length (knownS g (g 17)) ((knownS g (g 17)) &&& g 0) spot isWrong sign digit first second g y (by omega)) (lw_V q1847 q1849 qs57 q90 q1850) (m_recv X S 0 rfl rfl) (by decide +kernel) ⟨Nat.le_of_ble_eq_true rfl, Nat.le_of_ble_eq_true rfl⟩ rfl hl.1 rfl (Nat.le_of_ble_eq_true rfl) dX3_player_80 ⟨(Nat.le_of_ble_eq_true rfl), (Nat.le_of_ble_eq_true rfl)⟩) (fun r9 u H locs hp9 S => ?_)
        have hp9 : r9 = nI (card (g (11 + y) ||| g (14 + y))) := hp9
        have hhp9_0 := hp9
        subst hhp9_0
        have S : Sw G A s.heap [[(h0, .inr (3, [.ref q1, .ref q2, .int pasts, .ref q3, .ref q4, .ref q5, .int length, .int (knownS g (g 17)), .int ((knownS g (g 17)) &&& g 0), .ref q6, .int spot, .int isWrong, .int sign, .int digit, .int first, .int second]))], [(q1, .inl (gA G 0, 182, .inl g))]] _ _ := S
        exact m_iret X hr hlk hQ S ⟨knownS g (g 17), (knownS g (g 17)) &&& g 0⟩ (by show ((nI (card (g (11 + y) ||| g (14 + y)))) = playerS g (nI y) (nI 1)); unfold playerS; rw [if_neg (fun z => z (py_nI (by assumption)))]; try rw [tn_nI (n := y) (by omega)]; rw [if_neg (by decide), tn_nI (by decide)]; rfl) [0, 1] [] (show ([0, 1] ++ ([] : List Nat)).isPerm (List.range 2) = true by decide +kernel) rfl (Nat.le_of_ble_eq_true rfl) (Nat.le_of_ble_eq_true rfl) dX3_player_83
      · skip
        subst c21_6
        refine lv_tableIn (x := nI 2) (off := 63) (tgt := 84) hx hb dX3_player_21 (by decide) (by decide) (by decide) (by decide) ?_
        refine lv_aload_n hx hb dX3_player_84 rfl (lv_at hl 0 rfl) ?_
        refine lv_iload_n hx hb dX3_player_85 rfl (lv_at hl 1 rfl) ?_
        have hq10 := S.cut (Bc := [[(h0, .inr (3, [.ref q1, .ref q2, .int pasts, .ref q3, .ref q4, .ref q5, .int length, .int (knownS g (g 17)), .int (knownS g (g 17) &&& g 0), .ref q6, .int spot, .int isWrong, .int sign, .int digit, .int first, .int second]))], [(q1, .inl (gA G 0, 182, .inl g))]]) (Br := []) [0, 1] [] (show ([0, 1] ++ ([] : List Nat)).isPerm (List.range 2) = true by decide +kernel) rfl rfl
        refine m_ri X S hq10 (m_runV (rest := []) (As := [.int (nI y)]) (n := 1) X S hq10 (mt_X3_shown G l h0 q1 q2 q3 q4 q5 q6 pasts length known there spot isWrong sign digit first second g y (by omega)) (lw_V q1917 q1919 qs67 q90 q1920) (m_recv X S 0 rfl rfl) (by decide +kernel) ⟨Nat.le_of_ble_eq_true rfl, Nat.le_of_ble_eq_true rfl⟩ rfl hl.1 rfl (Nat.le_of_ble_eq_true rfl) dX3_player_86 ⟨(Nat.le_of_ble_eq_true rfl), (Nat.le_of_ble_eq_true rfl)⟩) (fun r11 u H locs hp11 S => ?_)
        have hp11 : r11 = nI (shownS g y) := hp11
        have hhp11_0 := hp11
        subst hhp11_0
        have S : Sw G A s.heap [[(h0, .inr (3, [.ref q1, .ref q2, .int pasts, .ref q3, .ref q4, .ref q5, .int length, .int (knownS g (g 17)), .int (knownS g (g 17) &&& g 0), .ref q6, .int spot, .int isWrong, .int sign, .int digit, .int first, .int second]))], [(q1, .inl (gA G 0, 182, .inl g))]] _ _ := S
        exact m_iret X hr hlk hQ S ⟨knownS g (g 17), knownS g (g 17) &&& g 0⟩ (by show ((nI (shownS g y)) = playerS g (nI y) (nI 2)); unfold playerS; rw [if_neg (fun z => z (py_nI (by assumption)))]; try rw [tn_nI (n := y) (by omega)]; rw [if_neg (by decide), tn_nI (by decide)]; rfl) [0, 1] [] (show ([0, 1] ++ ([] : List Nat)).isPerm (List.range 2) = true by decide +kernel) rfl (Nat.le_of_ble_eq_true rfl) (Nat.le_of_ble_eq_true rfl) dX3_player_89
      · skip
        subst c21_6
        refine lv_tableIn (x := nI 3) (off := 69) (tgt := 90) hx hb dX3_player_21 (by decide) (by decide) (by decide) (by decide) ?_
        refine lv_aload_n hx hb dX3_player_90 rfl (lv_at hl 0 rfl) ?_
        refine m_get X S 0 rfl (T := TX3) (N := 16) in_X3 rfl 0 (by decide) q1712 (fun _ h9 => h9) rfl dX3_player_91 ?_
        refine lv_bipush (v := nI 18) hx hb dX3_player_94 (by decide) ?_
        refine lv_iload_n hx hb dX3_player_96 rfl (lv_at hl 1 rfl) ?_
        refine lv_iadd hx hb dX3_player_97 ?_
        refine lv_toe (y := nI (18 + y)) (nI_add _ _) ?_
        refine m_iald X S 1 rfl (x := nI (18 + y)) (j := 18 + y) (nI_clamp (by omega)) (vp_in_nI (by omega) (by omega)) (v := g (18 + y)) rfl dX3_player_98 ?_
        exact m_iret X hr hlk hQ S ⟨knownS g (g 17), (knownS g (g 17)) &&& g 0⟩ (by show ((g (18 + y)) = playerS g (nI y) (nI 3)); unfold playerS; rw [if_neg (fun z => z (py_nI (by assumption)))]; try rw [tn_nI (n := y) (by omega)]; rw [if_neg (by decide), tn_nI (by decide)]; rfl) [0, 1] [] (show ([0, 1] ++ ([] : List Nat)).isPerm (List.range 2) = true by decide +kernel) rfl (Nat.le_of_ble_eq_true rfl) (Nat.le_of_ble_eq_true rfl) dX3_player_99
      · skip
        subst c21_6
        refine lv_tableIn (x := nI 4) (off := 79) (tgt := 100) hx hb dX3_player_21 (by decide) (by decide) (by decide) (by decide) ?_
        refine lv_aload_n hx hb dX3_player_100 rfl (lv_at hl 0 rfl) ?_
        refine m_get X S 0 rfl (T := TX3) (N := 16) in_X3 rfl 0 (by decide) q1712 (fun _ h9 => h9) rfl dX3_player_101 ?_
        refine lv_bipush (v := nI 21) hx hb dX3_player_104 (by decide) ?_
        refine lv_iload_n hx hb dX3_player_106 rfl (lv_at hl 1 rfl) ?_
        refine lv_iadd hx hb dX3_player_107 ?_
        refine lv_toe (y := nI (21 + y)) (nI_add _ _) ?_
        refine m_iald X S 1 rfl (x := nI (21 + y)) (j := 21 + y) (nI_clamp (by omega)) (vp_in_nI (by omega) (by omega)) (v := g (21 + y)) rfl dX3_player_108 ?_
        exact m_iret X hr hlk hQ S ⟨knownS g (g 17), (knownS g (g 17)) &&& g 0⟩ (by show ((g (21 + y)) = playerS g (nI y) (nI 4)); unfold playerS; rw [if_neg (fun z => z (py_nI (by assumption)))]; try rw [tn_nI (n := y) (by omega)]; rw [if_neg (by decide), tn_nI (by decide)]; rfl) [0, 1] [] (show ([0, 1] ++ ([] : List Nat)).isPerm (List.range 2) = true by decide +kernel) rfl (Nat.le_of_ble_eq_true rfl) (Nat.le_of_ble_eq_true rfl) dX3_player_109
      · skip
        subst c21_6
        refine lv_tableIn (x := nI 5) (off := 89) (tgt := 110) hx hb dX3_player_21 (by decide) (by decide) (by decide) (by decide) ?_
        refine lv_aload_n hx hb dX3_player_110 rfl (lv_at hl 0 rfl) ?_
        refine m_get X S 0 rfl (T := TX3) (N := 16) in_X3 rfl 0 (by decide) q1712 (fun _ h9 => h9) rfl dX3_player_111 ?_
        refine lv_bipush (v := nI 24) hx hb dX3_player_114 (by decide) ?_
        refine lv_iload_n hx hb dX3_player_116 rfl (lv_at hl 1 rfl) ?_
        refine lv_iadd hx hb dX3_player_117 ?_
        refine lv_toe (y := nI (24 + y)) (nI_add _ _) ?_
        refine m_iald X S 1 rfl (x := nI (24 + y)) (j := 24 + y) (nI_clamp (by omega)) (vp_in_nI (by omega) (by omega)) (v := g (24 + y)) rfl dX3_player_118 ?_
        exact m_iret X hr hlk hQ S ⟨knownS g (g 17), (knownS g (g 17)) &&& g 0⟩ (by show ((g (24 + y)) = playerS g (nI y) (nI 5)); unfold playerS; rw [if_neg (fun z => z (py_nI (by assumption)))]; try rw [tn_nI (n := y) (by omega)]; rw [if_neg (by decide), tn_nI (by decide)]; rfl) [0, 1] [] (show ([0, 1] ++ ([] : List Nat)).isPerm (List.range 2) = true by decide +kernel) rfl (Nat.le_of_ble_eq_true rfl) (Nat.le_of_ble_eq_true rfl) dX3_player_119
      · skip
        subst c21_6
        refine lv_tableIn (x := nI 6) (off := 99) (tgt := 120) hx hb dX3_player_21 (by decide) (by decide) (by decide) (by decide) ?_
        refine lv_aload_n hx hb dX3_player_120 rfl (lv_at hl 0 rfl) ?_
        refine m_get X S 0 rfl (T := TX3) (N := 16) in_X3 rfl 0 (by decide) q1712 (fun _ h9 => h9) rfl dX3_player_121 ?_
        refine lv_bipush (v := nI 27) hx hb dX3_player_124 (by decide) ?_
        refine lv_iload_n hx hb dX3_player_126 rfl (lv_at hl 1 rfl) ?_
        refine lv_iadd hx hb dX3_player_127 ?_
        refine lv_toe (y := nI (27 + y)) (nI_add _ _) ?_
        refine m_iald X S 1 rfl (x := nI (27 + y)) (j := 27 + y) (nI_clamp (by omega)) (vp_in_nI (by omega) (by omega)) (v := g (27 + y)) rfl dX3_player_128 ?_
        exact m_iret X hr hlk hQ S ⟨knownS g (g 17), (knownS g (g 17)) &&& g 0⟩ (by show ((g (27 + y)) = playerS g (nI y) (nI 6)); unfold playerS; rw [if_neg (fun z => z (py_nI (by assumption)))]; try rw [tn_nI (n := y) (by omega)]; rw [if_neg (by decide), tn_nI (by decide)]; rfl) [0, 1] [] (show ([0, 1] ++ ([] : List Nat)).isPerm (List.range 2) = true by decide +kernel) rfl (Nat.le_of_ble_eq_true rfl) (Nat.le_of_ble_eq_true rfl) dX3_player_129
      · skip
        subst c21_6
        refine lv_tableIn (x := nI 7) (off := 109) (tgt := 130) hx hb dX3_player_21 (by decide) (by decide) (by decide) (by decide) ?_
        refine lv_iload_n hx hb dX3_player_130 rfl (lv_at hl 1 rfl) ?_
        have hq12 := S.cut (Bc := []) (Br := [[(h0, .inr (3, [.ref q1, .ref q2, .int pasts, .ref q3, .ref q4, .ref q5, .int length, .int (knownS g (g 17)), .int ((knownS g (g 17)) &&& g 0), .ref q6, .int spot, .int isWrong, .int sign, .int digit, .int first, .int second]))], [(q1, .inl (gA G 0, 182, .inl g))]]) [] [0, 1] (show ([] ++ ([0, 1] : List Nat)).isPerm (List.range 2) = true by decide +kernel) rfl rfl
        refine m_ri X S hq12 (m_runS (rest := []) (As := [.int (nI y)]) (n := 1) X S hq12 (mt_X3_third G l y (by omega)) (lw_S q1921 q1922 q90 q1923) (by decide +kernel) ⟨Nat.le_of_ble_eq_true rfl, Nat.le_of_ble_eq_true rfl⟩ rfl hl.1 rfl (Nat.le_of_ble_eq_true rfl) dX3_player_131 ⟨(Nat.le_of_ble_eq_true rfl), (Nat.le_of_ble_eq_true rfl)⟩) (fun r13 u H locs hp13 S => ?_)
        have hp13 : r13 = thF y 28 := hp13
        have hhp13_0 := hp13
        subst hhp13_0
        have S : Sw G A s.heap [[(h0, .inr (3, [.ref q1, .ref q2, .int pasts, .ref q3, .ref q4, .ref q5, .int length, .int (knownS g (g 17)), .int ((knownS g (g 17)) &&& g 0), .ref q6, .int spot, .int isWrong, .int sign, .int digit, .int first, .int second]))], [(q1, .inl (gA G 0, 182, .inl g))]] _ _ := S
        refine lv_aload_n hx hb dX3_player_134 rfl (lv_at hl 0 rfl) ?_
        refine m_get X S 0 rfl (T := TX3) (N := 16) in_X3 rfl 7 (by decide) q1719 (fun _ h9 => h9) rfl dX3_player_135 ?_
        refine lv_ior hx hb dX3_player_138 ?_
        have hq14 := S.cut (Bc := []) (Br := [[(h0, .inr (3, [.ref q1, .ref q2, .int pasts, .ref q3, .ref q4, .ref q5, .int length, .int (knownS g (g 17)), .int ((knownS g (g 17)) &&& g 0), .ref q6, .int spot, .int isWrong, .int sign, .int digit, .int first, .int second]))], [(q1, .inl (gA G 0, 182, .inl g))]]) [] [0, 1] (show ([] ++ ([0, 1] : List Nat)).isPerm (List.range 2) = true by decide +kernel) rfl rfl
        refine m_ri X S hq14 (m_runS (rest := []) (As := [.int ((thF y 28) ||| (knownS g (g 17)))]) (n := 1) X S hq14 (mt_X3_many G l ((thF y 28) ||| (knownS g (g 17))) ) (lw_S q1801 q1802 q90 q1803) (by decide +kernel) ⟨Nat.le_of_ble_eq_true rfl, Nat.le_of_ble_eq_true rfl⟩ rfl hl.1 rfl (Nat.le_of_ble_eq_true rfl) dX3_player_139 ⟨(Nat.le_of_ble_eq_true rfl), (Nat.le_of_ble_eq_true rfl)⟩) (fun r15 u H locs hp15 S => ?_)
        have hp15 : r15 = nI (card ((thF y 28) ||| (knownS g (g 17)))) := hp15
        have hhp15_0 := hp15
        subst hhp15_0
        have S : Sw G A s.heap [[(h0, .inr (3, [.ref q1, .ref q2, .int pasts, .ref q3, .ref q4, .ref q5, .int length, .int (knownS g (g 17)), .int ((knownS g (g 17)) &&& g 0), .ref q6, .int spot, .int isWrong, .int sign, .int digit, .int first, .int second]))], [(q1, .inl (gA G 0, 182, .inl g))]] _ _ := S
        exact m_iret X hr hlk hQ S ⟨knownS g (g 17), (knownS g (g 17)) &&& g 0⟩ (by show ((nI (card ((thF y 28) ||| (knownS g (g 17))))) = playerS g (nI y) (nI 7)); unfold playerS; rw [if_neg (fun z => z (py_nI (by assumption)))]; try rw [tn_nI (n := y) (by omega)]; rw [if_neg (by decide), tn_nI (by decide)]; rfl) [0, 1] [] (show ([0, 1] ++ ([] : List Nat)).isPerm (List.range 2) = true by decide +kernel) rfl (Nat.le_of_ble_eq_true rfl) (Nat.le_of_ble_eq_true rfl) dX3_player_142
  · skip
    subst hhp2_0
    have hf0_r2 := hhp2_1
    have S : Sw G A s.heap [[(h0, .inr (3, [.ref q1, .ref q2, .int pasts, .ref q3, .ref q4, .ref q5, .int length, .int known, .int there, .ref q6, .int spot, .int isWrong, .int sign, .int digit, .int first, .int second]))], [(q1, .inl (gA G 0, 182, .inl g))]] _ _ := S
    refine lv_if_ne (tgt := 9) hx hb dX3_player_4 (by decide) (fun c4_16 => absurd (by decide) c4_16) (fun c4_16 => ?_)
    refine lv_iconst (v := (-1 : Int32)) hx hb dX3_player_7 (by decide) ?_
    exact m_iret X hr hlk hQ S ⟨known, there⟩ (by show ((-1 : Int32) = playerS g y1 w); unfold playerS; rw [if_pos (by assumption)]) [0, 1] [] (show ([0, 1] ++ ([] : List Nat)).isPerm (List.range 2) = true by decide +kernel) rfl (Nat.le_of_ble_eq_true rfl) (Nat.le_of_ble_eq_true rfl) dX3_player_8
