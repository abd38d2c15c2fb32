/-! THE MODEL: its small methods -/
abbrev rm_X3_in : Room := { frames := 0, cells := 0, slots := 0, locals := 0 }
set_option maxHeartbeats 4000000 in
set_option maxRecDepth 100000 in
theorem mt_X3_in (G : mGG) (l : Launch) (v : Int32) (lo : Int32) (hi : Int32) : Cg G l yX3_in (ws_ yX3_in cX3_in 3 (some FieldType.boolean)) rm_X3_in [.int v, .int lo, .int hi] [] (Qi G (fun (r : Int32) (u : Unit) => (r = nI 1 ∧ (lo ≤ v ∧ v ≤ hi)) ∨ (r = nI 0 ∧ (¬ (lo ≤ v ∧ v ≤ hi)))) (fun (u : Unit) => [])) := by
  refine Cg.intro (own := RX3) (cc := cX3_in) (maxL := 3) (ret := (some FieldType.boolean)) (by decide +kernel) rfl rfl (Nat.le_of_ble_eq_true rfl) ?_
  intro p e s m ag below meth c A ls Q X hr hlk hnm S hl hQ
  have hx := X.1
  have hb := X.2.1
  have hl : lv_has ls 3 [(0, .int v), (1, .int lo), (2, .int hi)] := hl
  refine lv_iload_n hx hb dX3_in_0 rfl (lv_at hl 0 rfl) ?_
  refine lv_iload_n hx hb dX3_in_1 rfl (lv_at hl 1 rfl) ?_
  refine lv_icmp_lt (tgt := 14) hx hb dX3_in_2 (by decide) (fun c2_1 => ?_) (fun c2_1 => ?_)
  · skip
    refine lv_iconst (v := nI 0) hx hb dX3_in_14 (by decide) ?_
    exact m_zret X hr hlk hQ S rfl () (by show ((nI 0) = nI 1 ∧ (lo ≤ v ∧ v ≤ hi)) ∨ ((nI 0) = nI 0 ∧ (¬ (lo ≤ v ∧ v ≤ hi))); first | exact Or.inl ⟨rfl, Int32.not_lt.mp (by assumption), Int32.not_lt.mp (by assumption)⟩ | exact Or.inr ⟨rfl, fun z => absurd z.1 (Int32.not_le.mpr (by assumption))⟩ | exact Or.inr ⟨rfl, fun z => absurd z.2 (Int32.not_le.mpr (by assumption))⟩) [] [] (show ([] ++ ([] : List Nat)).isPerm (List.range 0) = true by decide +kernel) rfl (Nat.le_of_ble_eq_true rfl) (Nat.le_of_ble_eq_true rfl) dX3_in_15
  · skip
    refine lv_iload_n hx hb dX3_in_5 rfl (lv_at hl 0 rfl) ?_
    refine lv_iload_n hx hb dX3_in_6 rfl (lv_at hl 2 rfl) ?_
    refine lv_icmp_gt (tgt := 14) hx hb dX3_in_7 (by decide) (fun c7_2 => ?_) (fun c7_2 => ?_)
    · skip
      refine lv_iconst (v := nI 0) hx hb dX3_in_14 (by decide) ?_
      exact m_zret X hr hlk hQ S rfl () (by show ((nI 0) = nI 1 ∧ (lo ≤ v ∧ v ≤ hi)) ∨ ((nI 0) = nI 0 ∧ (¬ (lo ≤ v ∧ v ≤ hi))); first | exact Or.inl ⟨rfl, Int32.not_lt.mp (by assumption), Int32.not_lt.mp (by assumption)⟩ | exact Or.inr ⟨rfl, fun z => absurd z.1 (Int32.not_le.mpr (by assumption))⟩ | exact Or.inr ⟨rfl, fun z => absurd z.2 (Int32.not_le.mpr (by assumption))⟩) [] [] (show ([] ++ ([] : List Nat)).isPerm (List.range 0) = true by decide +kernel) rfl (Nat.le_of_ble_eq_true rfl) (Nat.le_of_ble_eq_true rfl) dX3_in_15
    · skip
      refine lv_iconst (v := nI 1) hx hb dX3_in_10 (by decide) ?_
      refine lv_goto (tgt := 15) hx hb dX3_in_11 (by decide) ?_
      exact m_zret X hr hlk hQ S rfl () (by show ((nI 1) = nI 1 ∧ (lo ≤ v ∧ v ≤ hi)) ∨ ((nI 1) = nI 0 ∧ (¬ (lo ≤ v ∧ v ≤ hi))); first | exact Or.inl ⟨rfl, Int32.not_lt.mp (by assumption), Int32.not_lt.mp (by assumption)⟩ | exact Or.inr ⟨rfl, fun z => absurd z.1 (Int32.not_le.mpr (by assumption))⟩ | exact Or.inr ⟨rfl, fun z => absurd z.2 (Int32.not_le.mpr (by assumption))⟩) [] [] (show ([] ++ ([] : List Nat)).isPerm (List.range 0) = true by decide +kernel) rfl (Nat.le_of_ble_eq_true rfl) (Nat.le_of_ble_eq_true rfl) dX3_in_15

abbrev rm_X3_isPlace : Room := { frames := 1, cells := 0, slots := 0, locals := 22 }
set_option maxHeartbeats 4000000 in
set_option maxRecDepth 100000 in
theorem mt_X3_isPlace (G : mGG) (l : Launch) (x : Int32) : Cg G l yX3_isPlace (ws_ yX3_isPlace cX3_isPlace 1 (some FieldType.boolean)) rm_X3_isPlace [.int x] [] (Qi G (fun (r : Int32) (u : Nat) => (r = nI 1 ∧ x = nI u ∧ u < 8) ∨ (r = nI 0 ∧ ¬ pl x)) (fun (u : Nat) => [])) := by
  refine Cg.intro (own := RX3) (cc := cX3_isPlace) (maxL := 1) (ret := (some FieldType.boolean)) (by decide +kernel) rfl rfl (Nat.le_of_ble_eq_true rfl) ?_
  intro p e s m ag below meth c A ls Q X hr hlk hnm S hl hQ
  have hx := X.1
  have hb := X.2.1
  have hl : lv_has ls 1 [(0, .int x)] := hl
  refine lv_iload_n hx hb dX3_isPlace_0 rfl (lv_at hl 0 rfl) ?_
  refine lv_iconst (v := nI 0) hx hb dX3_isPlace_1 (by decide) ?_
  refine lv_bipush (v := nI 7) hx hb dX3_isPlace_2 (by decide) ?_
  have hq1 := S.cut (Bc := []) (Br := []) [] [] (show ([] ++ ([] : List Nat)).isPerm (List.range 0) = true by decide +kernel) rfl rfl
  refine m_ri X S hq1 (m_runS (rest := []) (As := [.int x, .int (nI 0), .int (nI 7)]) (n := 3) X S hq1 (mt_X3_in G l x (nI 0) (nI 7) ) (lw_S q1766 q1767 q90 q1768) (by decide +kernel) ⟨Nat.le_of_ble_eq_true rfl, Nat.le_of_ble_eq_true rfl⟩ rfl hl.1 rfl (Nat.le_of_ble_eq_true rfl) dX3_isPlace_4 ⟨(Nat.le_of_ble_eq_true rfl), (Nat.le_of_ble_eq_true rfl)⟩) (fun r2 u H locs hp2 S => ?_)
  have hp2 : (r2 = nI 1 ∧ ((nI 0) ≤ x ∧ x ≤ (nI 7))) ∨ (r2 = nI 0 ∧ (¬ ((nI 0) ≤ x ∧ x ≤ (nI 7)))) := hp2
  have S : Sw G A s.heap [] _ _ := S
  rcases hp2 with ⟨hhp2_0, hhp2_1⟩ | ⟨hhp2_0, hhp2_1⟩
  · skip
    subst hhp2_0
    have hf0_r2 := hhp2_1
    have S : Sw G A s.heap [] _ _ := S
    obtain ⟨k0, hk0, rfl⟩ := pl_of (p := x) (by assumption)
    exact m_zret X hr hlk hQ S rfl k0 (by show ((nI 1) = nI 1 ∧ (nI k0) = nI k0 ∧ k0 < 8) ∨ ((nI 1) = nI 0 ∧ ¬ pl (nI k0)); first | exact Or.inl ⟨(by with_reducible rfl), (by with_reducible rfl), (by first | assumption | omega)⟩) [] [] (show ([] ++ ([] : List Nat)).isPerm (List.range 0) = true by decide +kernel) rfl (Nat.le_of_ble_eq_true rfl) (Nat.le_of_ble_eq_true rfl) dX3_isPlace_7
  · skip
    subst hhp2_0
    have hf0_r2 := hhp2_1
    have S : Sw G A s.heap [] _ _ := S
    exact m_zret X hr hlk hQ S rfl 0 (by show ((nI 0) = nI 1 ∧ x = nI 0 ∧ 0 < 8) ∨ ((nI 0) = nI 0 ∧ ¬ pl x); first | exact Or.inr (⟨(by with_reducible rfl), (by assumption)⟩)) [] [] (show ([] ++ ([] : List Nat)).isPerm (List.range 0) = true by decide +kernel) rfl (Nat.le_of_ble_eq_true rfl) (Nat.le_of_ble_eq_true rfl) dX3_isPlace_7

abbrev rm_X3_isPlayer : Room := { frames := 1, cells := 0, slots := 0, locals := 22 }
set_option maxHeartbeats 4000000 in
set_option maxRecDepth 100000 in
theorem mt_X3_isPlayer (G : mGG) (l : Launch) (x : Int32) : Cg G l yX3_isPlayer (ws_ yX3_isPlayer cX3_isPlayer 1 (some FieldType.boolean)) rm_X3_isPlayer [.int x] [] (Qi G (fun (r : Int32) (u : Nat) => (r = nI 1 ∧ x = nI u ∧ u < 3) ∨ (r = nI 0 ∧ ¬ py x)) (fun (u : Nat) => [])) := by
  refine Cg.intro (own := RX3) (cc := cX3_isPlayer) (maxL := 1) (ret := (some FieldType.boolean)) (by decide +kernel) rfl rfl (Nat.le_of_ble_eq_true rfl) ?_
  intro p e s m ag below meth c A ls Q X hr hlk hnm S hl hQ
  have hx := X.1
  have hb := X.2.1
  have hl : lv_has ls 1 [(0, .int x)] := hl
  refine lv_iload_n hx hb dX3_isPlayer_0 rfl (lv_at hl 0 rfl) ?_
  refine lv_iconst (v := nI 0) hx hb dX3_isPlayer_1 (by decide) ?_
  refine lv_iconst (v := nI 2) hx hb dX3_isPlayer_2 (by decide) ?_
  have hq1 := S.cut (Bc := []) (Br := []) [] [] (show ([] ++ ([] : List Nat)).isPerm (List.range 0) = true by decide +kernel) rfl rfl
  refine m_ri X S hq1 (m_runS (rest := []) (As := [.int x, .int (nI 0), .int (nI 2)]) (n := 3) X S hq1 (mt_X3_in G l x (nI 0) (nI 2) ) (lw_S q1766 q1767 q90 q1768) (by decide +kernel) ⟨Nat.le_of_ble_eq_true rfl, Nat.le_of_ble_eq_true rfl⟩ rfl hl.1 rfl (Nat.le_of_ble_eq_true rfl) dX3_isPlayer_3 ⟨(Nat.le_of_ble_eq_true rfl), (Nat.le_of_ble_eq_true rfl)⟩) (fun r2 u H locs hp2 S => ?_)
  have hp2 : (r2 = nI 1 ∧ ((nI 0) ≤ x ∧ x ≤ (nI 2))) ∨ (r2 = nI 0 ∧ (¬ ((nI 0) ≤ x ∧ x ≤ (nI 2)))) := hp2
  have S : Sw G A s.heap [] _ _ := S
  rcases hp2 with ⟨hhp2_0, hhp2_1⟩ | ⟨hhp2_0, hhp2_1⟩
  · skip
    subst hhp2_0
    have hf0_r2 := hhp2_1
    have S : Sw G A s.heap [] _ _ := S
    obtain ⟨k0, hk0, rfl⟩ := py_of (p := x) (by assumption)
    exact m_zret X hr hlk hQ S rfl k0 (by show ((nI 1) = nI 1 ∧ (nI k0) = nI k0 ∧ k0 < 3) ∨ ((nI 1) = nI 0 ∧ ¬ py (nI k0)); first | exact Or.inl ⟨(by with_reducible rfl), (by with_reducible rfl), (by first | assumption | omega)⟩) [] [] (show ([] ++ ([] : List Nat)).isPerm (List.range 0) = true by decide +kernel) rfl (Nat.le_of_ble_eq_true rfl) (Nat.le_of_ble_eq_true rfl) dX3_isPlayer_6
  · skip
    subst hhp2_0
    have hf0_r2 := hhp2_1
    have S : Sw G A s.heap [] _ _ := S
    exact m_zret X hr hlk hQ S rfl 0 (by show ((nI 0) = nI 1 ∧ x = nI 0 ∧ 0 < 3) ∨ ((nI 0) = nI 0 ∧ ¬ py x); first | exact Or.inr (⟨(by with_reducible rfl), (by assumption)⟩)) [] [] (show ([] ++ ([] : List Nat)).isPerm (List.range 0) = true by decide +kernel) rfl (Nat.le_of_ble_eq_true rfl) (Nat.le_of_ble_eq_true rfl) dX3_isPlayer_6

abbrev rm_X3_edge : Room := { frames := 0, cells := 0, slots := 0, locals := 0 }
set_option maxHeartbeats 4000000 in
set_option maxRecDepth 100000 in
theorem mt_X3_edge (G : mGG) (l : Launch) (a : Nat) (b : Nat) (ha : a < 8) (hb1 : b < 8) (hne : a ≠ b) : Cg G l yX3_edge (ws_ yX3_edge cX3_edge 4 (some FieldType.int)) rm_X3_edge [.int (nI a), .int (nI b)] [] (Qi G (fun (r : Int32) (u : Unit) => r = nI (Ed a b)) (fun (u : Unit) => [])) := by
  refine Cg.intro (own := RX3) (cc := cX3_edge) (maxL := 4) (ret := (some FieldType.int)) (by decide +kernel) rfl rfl (Nat.le_of_ble_eq_true rfl) ?_
  intro p e s m ag below meth c A ls Q X hr hlk hnm S hl hQ
  have hx := X.1
  have hb := X.2.1
  have hl : lv_has ls 4 [(0, .int (nI a)), (1, .int (nI b))] := hl
  have h1 : a * (15 - a) ≤ 7 * 15 := Nat.mul_le_mul (by omega) (by omega)
  have h2 : b * (15 - b) ≤ 7 * 15 := Nat.mul_le_mul (by omega) (by omega)
  refine lv_iload_n hx hb dX3_edge_0 rfl (lv_at hl 0 rfl) ?_
  refine lv_iload_n hx hb dX3_edge_1 rfl (lv_at hl 1 rfl) ?_
  refine lv_icmp_ge (tgt := 9) hx hb dX3_edge_2 (by decide) (fun c2_1 => ?_) (fun c2_1 => ?_)
  · skip
    have c2_1 : b ≤ a := (nI_leI (a := b) (b := a) (by omega) (by omega)).mp c2_1
    refine lv_iload_n hx hb dX3_edge_9 rfl (lv_at hl 1 rfl) ?_
    refine lv_istore_n (lv' := [(2, .int (nI b)), (0, .int (nI a)), (1, .int (nI b))]) hx hb dX3_edge_10 rfl hl (Nat.le_of_ble_eq_true rfl) rfl (fun ls hl => ?_)
    refine lv_iload_n hx hb dX3_edge_11 rfl (lv_at hl 1 rfl) ?_
    refine lv_iload_n hx hb dX3_edge_12 rfl (lv_at hl 2 rfl) ?_
    refine lv_icmp_ge (tgt := 20) hx hb dX3_edge_13 (by decide) (fun c13_2 => ?_) (fun c13_2 => ?_)
    · skip
      have c13_2 : b ≤ a := (nI_leI (a := b) (b := a) (by omega) (by omega)).mp c13_2
      refine lv_iload_n hx hb dX3_edge_20 rfl (lv_at hl 1 rfl) ?_
      refine lv_istore_n (lv' := [(3, .int (nI a)), (2, .int (nI b)), (0, .int (nI a)), (1, .int (nI b))]) hx hb dX3_edge_21 rfl hl (Nat.le_of_ble_eq_true rfl) rfl (fun ls hl => ?_)
      refine lv_iload_n hx hb dX3_edge_22 rfl (lv_at hl 1 rfl) ?_
      refine lv_bipush (v := nI 15) hx hb dX3_edge_23 (by decide) ?_
      refine lv_iload_n hx hb dX3_edge_25 rfl (lv_at hl 1 rfl) ?_
      refine lv_isub hx hb dX3_edge_26 ?_
      refine lv_toe (y := nI (15 - b)) (pk_sub (by omega)) ?_
      refine lv_imul hx hb dX3_edge_27 ?_
      refine lv_toe (y := nI (b * (15 - b))) (pk_mul _ _) ?_
      refine lv_iconst (v := nI 2) hx hb dX3_edge_28 (by decide) ?_
      refine lv_idiv hx hb dX3_edge_29 (nI_ne0 (by omega) (by omega)) ?_
      refine lv_toe (y := nI ((b * (15 - b)) / 2)) (pk_div (by omega) (by omega) (by omega)) ?_
      refine lv_iload_n hx hb dX3_edge_30 rfl (lv_at hl 0 rfl) ?_
      refine lv_iadd hx hb dX3_edge_31 ?_
      refine lv_toe (y := nI (((b * (15 - b)) / 2) + a)) (nI_add _ _) ?_
      refine lv_iload_n hx hb dX3_edge_32 rfl (lv_at hl 1 rfl) ?_
      refine lv_isub hx hb dX3_edge_33 ?_
      refine lv_toe (y := nI ((((b * (15 - b)) / 2) + a) - b)) (pk_sub (by omega)) ?_
      refine lv_iconst (v := nI 1) hx hb dX3_edge_34 (by decide) ?_
      refine lv_isub hx hb dX3_edge_35 ?_
      refine lv_toe (y := nI (((((b * (15 - b)) / 2) + a) - b) - 1)) (pk_sub (by omega)) ?_
      exact m_iret X hr hlk hQ S () (by show (nI (((((b * (15 - b)) / 2) + a) - b) - 1)) = nI (Ed a b); first | exact congrArg nI (Ed_1 (by omega)) | exact congrArg nI (Ed_2 (by omega))) [] [] (show ([] ++ ([] : List Nat)).isPerm (List.range 0) = true by decide +kernel) rfl (Nat.le_of_ble_eq_true rfl) (Nat.le_of_ble_eq_true rfl) dX3_edge_36
    · skip
      have c13_2 : ¬ b ≤ a := fun z => c13_2 ((nI_leI (a := b) (b := a) (by omega) (by omega)).mpr z)
      contradiction
  · skip
    have c2_1 : ¬ b ≤ a := fun z => c2_1 ((nI_leI (a := b) (b := a) (by omega) (by omega)).mpr z)
    refine lv_iload_n hx hb dX3_edge_5 rfl (lv_at hl 0 rfl) ?_
    refine lv_goto (tgt := 10) hx hb dX3_edge_6 (by decide) ?_
    refine lv_istore_n (lv' := [(2, .int (nI a)), (0, .int (nI a)), (1, .int (nI b))]) hx hb dX3_edge_10 rfl hl (Nat.le_of_ble_eq_true rfl) rfl (fun ls hl => ?_)
    refine lv_iload_n hx hb dX3_edge_11 rfl (lv_at hl 1 rfl) ?_
    refine lv_iload_n hx hb dX3_edge_12 rfl (lv_at hl 2 rfl) ?_
    refine lv_icmp_ge (tgt := 20) hx hb dX3_edge_13 (by decide) (fun c13_3 => ?_) (fun c13_3 => ?_)
    · skip
      have c13_3 : b ≤ a := (nI_leI (a := b) (b := a) (by omega) (by omega)).mp c13_3
      contradiction
    · skip
      have c13_3 : ¬ b ≤ a := fun z => c13_3 ((nI_leI (a := b) (b := a) (by omega) (by omega)).mpr z)
      refine lv_iload_n hx hb dX3_edge_16 rfl (lv_at hl 2 rfl) ?_
      refine lv_goto (tgt := 21) hx hb dX3_edge_17 (by decide) ?_
      refine lv_istore_n (lv' := [(3, .int (nI b)), (2, .int (nI a)), (0, .int (nI a)), (1, .int (nI b))]) hx hb dX3_edge_21 rfl hl (Nat.le_of_ble_eq_true rfl) rfl (fun ls hl => ?_)
      refine lv_iload_n hx hb dX3_edge_22 rfl (lv_at hl 1 rfl) ?_
      refine lv_bipush (v := nI 15) hx hb dX3_edge_23 (by decide) ?_
      refine lv_iload_n hx hb dX3_edge_25 rfl (lv_at hl 1 rfl) ?_
      refine lv_isub hx hb dX3_edge_26 ?_
      refine lv_toe (y := nI (15 - a)) (pk_sub (by omega)) ?_
      refine lv_imul hx hb dX3_edge_27 ?_
      refine lv_toe (y := nI (a * (15 - a))) (pk_mul _ _) ?_
      refine lv_iconst (v := nI 2) hx hb dX3_edge_28 (by decide) ?_
      refine lv_idiv hx hb dX3_edge_29 (nI_ne0 (by omega) (by omega)) ?_
      refine lv_toe (y := nI ((a * (15 - a)) / 2)) (pk_div (by omega) (by omega) (by omega)) ?_
      refine lv_iload_n hx hb dX3_edge_30 rfl (lv_at hl 0 rfl) ?_
      refine lv_iadd hx hb dX3_edge_31 ?_
      refine lv_toe (y := nI (((a * (15 - a)) / 2) + b)) (nI_add _ _) ?_
      refine lv_iload_n hx hb dX3_edge_32 rfl (lv_at hl 1 rfl) ?_
      refine lv_isub hx hb dX3_edge_33 ?_
      refine lv_toe (y := nI ((((a * (15 - a)) / 2) + b) - a)) (pk_sub (by omega)) ?_
      refine lv_iconst (v := nI 1) hx hb dX3_edge_34 (by decide) ?_
      refine lv_isub hx hb dX3_edge_35 ?_
      refine lv_toe (y := nI (((((a * (15 - a)) / 2) + b) - a) - 1)) (pk_sub (by omega)) ?_
      exact m_iret X hr hlk hQ S () (by show (nI (((((a * (15 - a)) / 2) + b) - a) - 1)) = nI (Ed a b); first | exact congrArg nI (Ed_1 (by omega)) | exact congrArg nI (Ed_2 (by omega))) [] [] (show ([] ++ ([] : List Nat)).isPerm (List.range 0) = true by decide +kernel) rfl (Nat.le_of_ble_eq_true rfl) (Nat.le_of_ble_eq_true rfl) dX3_edge_36

abbrev rm_X3_least : Room := { frames := 0, cells := 0, slots := 0, locals := 0 }
set_option maxHeartbeats 4000000 in
set_option maxRecDepth 100000 in
theorem mt_X3_least (G : mGG) (l : Launch) (k : Nat) (hk : k < 4) : Cg G l yX3_least (ws_ yX3_least cX3_least 1 (some FieldType.int)) rm_X3_least [.int (nI k)] [] (Qi G (fun (r : Int32) (u : Unit) => r = leastS k) (fun (u : Unit) => [])) := by
  refine Cg.intro (own := RX3) (cc := cX3_least) (maxL := 1) (ret := (some FieldType.int)) (by decide +kernel) rfl rfl (Nat.le_of_ble_eq_true rfl) ?_
  intro p e s m ag below meth c A ls Q X hr hlk hnm S hl hQ
  have hx := X.1
  have hb := X.2.1
  have hl : lv_has ls 1 [(0, .int (nI k))] := hl
  refine lv_iload_n hx hb dX3_least_0 rfl (lv_at hl 0 rfl) ?_
  refine lv_iconst (v := nI 1) hx hb dX3_least_1 (by decide) ?_
  refine lv_icmp_eq (tgt := 10) hx hb dX3_least_2 (by decide) (fun c2_1 => ?_) (fun c2_1 => ?_)
  · skip
    have c2_1 : k = 1 := (nI_eq (a := k) (b := 1) (by omega) (by omega)).mp c2_1
    refine lv_iconst (v := nI 1) hx hb dX3_least_10 (by decide) ?_
    refine lv_goto (tgt := 15) hx hb dX3_least_11 (by decide) ?_
    exact m_iret X hr hlk hQ S () (by show (nI 1) = leastS k; first | (simp [leastS, *]; done) | (rw [leastS, if_neg (by omega)]; done)) [] [] (show ([] ++ ([] : List Nat)).isPerm (List.range 0) = true by decide +kernel) rfl (Nat.le_of_ble_eq_true rfl) (Nat.le_of_ble_eq_true rfl) dX3_least_15
  · skip
    have c2_1 : ¬ k = 1 := fun z => c2_1 ((nI_eq (a := k) (b := 1) (by omega) (by omega)).mpr z)
    refine lv_iload_n hx hb dX3_least_5 rfl (lv_at hl 0 rfl) ?_
    refine lv_iconst (v := nI 3) hx hb dX3_least_6 (by decide) ?_
    refine lv_icmp_ne (tgt := 14) hx hb dX3_least_7 (by decide) (fun c7_2 => ?_) (fun c7_2 => ?_)
    · skip
      have c7_2 : ¬ k = 3 := fun z => c7_2 ((nI_eq (a := k) (b := 3) (by omega) (by omega)).mpr z)
      refine lv_iconst (v := nI 0) hx hb dX3_least_14 (by decide) ?_
      exact m_iret X hr hlk hQ S () (by show (nI 0) = leastS k; first | (simp [leastS, *]; done) | (rw [leastS, if_neg (by omega)]; done)) [] [] (show ([] ++ ([] : List Nat)).isPerm (List.range 0) = true by decide +kernel) rfl (Nat.le_of_ble_eq_true rfl) (Nat.le_of_ble_eq_true rfl) dX3_least_15
    · skip
      have c7_2 : k = 3 := (nI_eq (a := k) (b := 3) (by omega) (by omega)).mp c7_2
      refine lv_iconst (v := nI 1) hx hb dX3_least_10 (by decide) ?_
      refine lv_goto (tgt := 15) hx hb dX3_least_11 (by decide) ?_
      exact m_iret X hr hlk hQ S () (by show (nI 1) = leastS k; first | (simp [leastS, *]; done) | (rw [leastS, if_neg (by omega)]; done)) [] [] (show ([] ++ ([] : List Nat)).isPerm (List.range 0) = true by decide +kernel) rfl (Nat.le_of_ble_eq_true rfl) (Nat.le_of_ble_eq_true rfl) dX3_least_15

abbrev rm_X3_most : Room := { frames := 0, cells := 0, slots := 0, locals := 0 }
set_option maxHeartbeats 4000000 in
set_option maxRecDepth 100000 in
theorem mt_X3_most (G : mGG) (l : Launch) (k : Nat) (hk : k < 4) : Cg G l yX3_most (ws_ yX3_most cX3_most 1 (some FieldType.int)) rm_X3_most [.int (nI k)] [] (Qi G (fun (r : Int32) (u : Unit) => r = mostS k) (fun (u : Unit) => [])) := by
  refine Cg.intro (own := RX3) (cc := cX3_most) (maxL := 1) (ret := (some FieldType.int)) (by decide +kernel) rfl rfl (Nat.le_of_ble_eq_true rfl) ?_
  intro p e s m ag below meth c A ls Q X hr hlk hnm S hl hQ
  have hx := X.1
  have hb := X.2.1
  have hl : lv_has ls 1 [(0, .int (nI k))] := hl
  refine lv_iload_n hx hb dX3_most_0 rfl (lv_at hl 0 rfl) ?_
  refine lv_if_ne (tgt := 9) hx hb dX3_most_1 (by decide) (fun c1_1 => ?_) (fun c1_1 => ?_)
  · skip
    have c1_1 : ¬ k = 0 := fun z => c1_1 ((nI_eq (a := k) (b := 0) (by omega) (by omega)).mpr z)
    refine lv_iload_n hx hb dX3_most_9 rfl (lv_at hl 0 rfl) ?_
    refine lv_iconst (v := nI 3) hx hb dX3_most_10 (by decide) ?_
    refine lv_icmp_ne (tgt := 20) hx hb dX3_most_11 (by decide) (fun c11_2 => ?_) (fun c11_2 => ?_)
    · skip
      have c11_2 : ¬ k = 3 := fun z => c11_2 ((nI_eq (a := k) (b := 3) (by omega) (by omega)).mpr z)
      refine lv_bipush (v := nI 50) hx hb dX3_most_20 (by decide) ?_
      exact m_iret X hr hlk hQ S () (by show (nI 50) = mostS k; simp [mostS, *]; try rfl) [] [] (show ([] ++ ([] : List Nat)).isPerm (List.range 0) = true by decide +kernel) rfl (Nat.le_of_ble_eq_true rfl) (Nat.le_of_ble_eq_true rfl) dX3_most_22
    · skip
      have c11_2 : k = 3 := (nI_eq (a := k) (b := 3) (by omega) (by omega)).mp c11_2
      refine lv_sipush (v := nI 200) hx hb dX3_most_14 (by decide) ?_
      refine lv_goto (tgt := 22) hx hb dX3_most_17 (by decide) ?_
      exact m_iret X hr hlk hQ S () (by show (nI 200) = mostS k; simp [mostS, *]; try rfl) [] [] (show ([] ++ ([] : List Nat)).isPerm (List.range 0) = true by decide +kernel) rfl (Nat.le_of_ble_eq_true rfl) (Nat.le_of_ble_eq_true rfl) dX3_most_22
  · skip
    have c1_1 : k = 0 := (nI_eq (a := k) (b := 0) (by omega) (by omega)).mp c1_1
    refine lv_bipush (v := nI 20) hx hb dX3_most_4 (by decide) ?_
    refine lv_goto (tgt := 22) hx hb dX3_most_6 (by decide) ?_
    exact m_iret X hr hlk hQ S () (by show (nI 20) = mostS k; simp [mostS, *]; try rfl) [] [] (show ([] ++ ([] : List Nat)).isPerm (List.range 0) = true by decide +kernel) rfl (Nat.le_of_ble_eq_true rfl) (Nat.le_of_ble_eq_true rfl) dX3_most_22

abbrev rm_X3_hasBegun : Room := { frames := 0, cells := 0, slots := 0, locals := 0 }
set_option maxHeartbeats 4000000 in
set_option maxRecDepth 100000 in
theorem mt_X3_hasBegun (G : mGG) (l : Launch) (h0 : Nat) (q1 : Nat) (q2 : Nat) (q3 : Nat) (q4 : Nat) (q5 : Nat) (q6 : Nat) (pasts : Int32) (length : Int32) (known : Int32) (there : Int32) (spot : Int32) (isWrong : Int32) (sign : Int32) (digit : Int32) (first : Int32) (second : Int32) (g : Nat → Int32) : Cg G l yX3_hasBegun (ws_ yX3_hasBegun cX3_hasBegun 1 (some FieldType.boolean)) rm_X3_hasBegun [.ref h0] [[(h0, .inr (3, [.ref q1, .ref q2, .int pasts, .ref q3, .ref q4, .ref q5, .int length, .int known, .int there, .ref q6, .int spot, .int isWrong, .int sign, .int digit, .int first, .int second]))], [(q1, .inl (gA G 0, 182, .inl g))]] (Qi G (fun (r : Int32) (u : Unit) => (r = nI 1 ∧ ¬ g 6 ≤ 0) ∨ (r = nI 0 ∧ g 6 ≤ 0)) (fun (u : Unit) => [[(h0, .inr (3, [.ref q1, .ref q2, .int pasts, .ref q3, .ref q4, .ref q5, .int length, .int known, .int there, .ref q6, .int spot, .int isWrong, .int sign, .int digit, .int first, .int second]))], [(q1, .inl (gA G 0, 182, .inl g))]])) := by
  refine Cg.intro (own := RX3) (cc := cX3_hasBegun) (maxL := 1) (ret := (some FieldType.boolean)) (by decide +kernel) rfl rfl (Nat.le_of_ble_eq_true rfl) ?_
  intro p e s m ag below meth c A ls Q X hr hlk hnm S hl hQ
  have hx := X.1
  have hb := X.2.1
  have hl : lv_has ls 1 [(0, .ref h0)] := hl
  refine lv_aload_n hx hb dX3_hasBegun_0 rfl (lv_at hl 0 rfl) ?_
  refine m_get X S 0 rfl (T := TX3) (N := 16) in_X3 rfl 0 (by decide) q1712 (fun _ h9 => h9) rfl dX3_hasBegun_1 ?_
  refine lv_bipush (v := nI 6) hx hb dX3_hasBegun_4 (by decide) ?_
  refine m_iald X S 1 rfl (x := nI 6) (j := 6) rfl (vp_in_nI (by decide) (by decide)) (v := g 6) rfl dX3_hasBegun_6 ?_
  refine lv_if_le (tgt := 14) hx hb dX3_hasBegun_7 (by decide) (fun c7_1 => ?_) (fun c7_1 => ?_)
  · skip
    have c7_1 : (g 6) ≤ (nI 0) := c7_1
    refine lv_iconst (v := nI 0) hx hb dX3_hasBegun_14 (by decide) ?_
    exact m_zret X hr hlk hQ S rfl () (by show ((nI 0) = nI 1 ∧ ¬ g 6 ≤ 0) ∨ ((nI 0) = nI 0 ∧ g 6 ≤ 0); first | exact Or.inr (⟨(by with_reducible rfl), (by assumption)⟩)) [0, 1] [] (show ([0, 1] ++ ([] : List Nat)).isPerm (List.range 2) = true by decide +kernel) rfl (Nat.le_of_ble_eq_true rfl) (Nat.le_of_ble_eq_true rfl) dX3_hasBegun_15
  · skip
    have c7_1 : ¬ (g 6) ≤ (nI 0) := c7_1
    refine lv_iconst (v := nI 1) hx hb dX3_hasBegun_10 (by decide) ?_
    refine lv_goto (tgt := 15) hx hb dX3_hasBegun_11 (by decide) ?_
    exact m_zret X hr hlk hQ S rfl () (by show ((nI 1) = nI 1 ∧ ¬ g 6 ≤ 0) ∨ ((nI 1) = nI 0 ∧ g 6 ≤ 0); first | exact Or.inl ⟨(by with_reducible rfl), (by assumption)⟩) [0, 1] [] (show ([0, 1] ++ ([] : List Nat)).isPerm (List.range 2) = true by decide +kernel) rfl (Nat.le_of_ble_eq_true rfl) (Nat.le_of_ble_eq_true rfl) dX3_hasBegun_15

abbrev rm_X3_goes : Room := { frames := 0, cells := 0, slots := 0, locals := 0 }
set_option maxHeartbeats 4000000 in
set_option maxRecDepth 100000 in
theorem mt_X3_goes (G : mGG) (l : Launch) (h0 : Nat) (q1 : Nat) (q2 : Nat) (q3 : Nat) (q4 : Nat) (q5 : Nat) (q6 : Nat) (pasts : Int32) (length : Int32) (known : Int32) (there : Int32) (spot : Int32) (isWrong : Int32) (sign : Int32) (digit : Int32) (first : Int32) (second : Int32) (g : Nat → Int32) : Cg G l yX3_goes (ws_ yX3_goes cX3_goes 1 (some FieldType.boolean)) rm_X3_goes [.ref h0] [[(h0, .inr (3, [.ref q1, .ref q2, .int pasts, .ref q3, .ref q4, .ref q5, .int length, .int known, .int there, .ref q6, .int spot, .int isWrong, .int sign, .int digit, .int first, .int second]))], [(q1, .inl (gA G 0, 182, .inl g))]] (Qi G (fun (r : Int32) (u : Unit) => (r = nI 1 ∧ g 6 = 1) ∨ (r = nI 0 ∧ ¬ g 6 = 1)) (fun (u : Unit) => [[(h0, .inr (3, [.ref q1, .ref q2, .int pasts, .ref q3, .ref q4, .ref q5, .int length, .int known, .int there, .ref q6, .int spot, .int isWrong, .int sign, .int digit, .int first, .int second]))], [(q1, .inl (gA G 0, 182, .inl g))]])) := by
  refine Cg.intro (own := RX3) (cc := cX3_goes) (maxL := 1) (ret := (some FieldType.boolean)) (by decide +kernel) rfl rfl (Nat.le_of_ble_eq_true rfl) ?_
  intro p e s m ag below meth c A ls Q X hr hlk hnm S hl hQ
  have hx := X.1
  have hb := X.2.1
  have hl : lv_has ls 1 [(0, .ref h0)] := hl
  refine lv_aload_n hx hb dX3_goes_0 rfl (lv_at hl 0 rfl) ?_
  refine m_get X S 0 rfl (T := TX3) (N := 16) in_X3 rfl 0 (by decide) q1712 (fun _ h9 => h9) rfl dX3_goes_1 ?_
  refine lv_bipush (v := nI 6) hx hb dX3_goes_4 (by decide) ?_
  refine m_iald X S 1 rfl (x := nI 6) (j := 6) rfl (vp_in_nI (by decide) (by decide)) (v := g 6) rfl dX3_goes_6 ?_
  refine lv_iconst (v := nI 1) hx hb dX3_goes_7 (by decide) ?_
  refine lv_icmp_ne (tgt := 15) hx hb dX3_goes_8 (by decide) (fun c8_1 => ?_) (fun c8_1 => ?_)
  · skip
    have c8_1 : ¬ (g 6) = (nI 1) := c8_1
    refine lv_iconst (v := nI 0) hx hb dX3_goes_15 (by decide) ?_
    exact m_zret X hr hlk hQ S rfl () (by show ((nI 0) = nI 1 ∧ g 6 = 1) ∨ ((nI 0) = nI 0 ∧ ¬ g 6 = 1); first | exact Or.inr (⟨(by with_reducible rfl), (by assumption)⟩)) [0, 1] [] (show ([0, 1] ++ ([] : List Nat)).isPerm (List.range 2) = true by decide +kernel) rfl (Nat.le_of_ble_eq_true rfl) (Nat.le_of_ble_eq_true rfl) dX3_goes_16
  · skip
    have c8_1 : (g 6) = (nI 1) := c8_1
    refine lv_iconst (v := nI 1) hx hb dX3_goes_11 (by decide) ?_
    refine lv_goto (tgt := 16) hx hb dX3_goes_12 (by decide) ?_
    exact m_zret X hr hlk hQ S rfl () (by show ((nI 1) = nI 1 ∧ g 6 = 1) ∨ ((nI 1) = nI 0 ∧ ¬ g 6 = 1); first | exact Or.inl ⟨(by with_reducible rfl), (by assumption)⟩) [0, 1] [] (show ([0, 1] ++ ([] : List Nat)).isPerm (List.range 2) = true by decide +kernel) rfl (Nat.le_of_ble_eq_true rfl) (Nat.le_of_ble_eq_true rfl) dX3_goes_16

abbrev rm_X3_turn : Room := { frames := 0, cells := 0, slots := 0, locals := 0 }
set_option maxHeartbeats 4000000 in
set_option maxRecDepth 100000 in
theorem mt_X3_turn (G : mGG) (l : Launch) (h0 : Nat) (q1 : Nat) (q2 : Nat) (q3 : Nat) (q4 : Nat) (q5 : Nat) (q6 : Nat) (pasts : Int32) (length : Int32) (known : Int32) (there : Int32) (spot : Int32) (isWrong : Int32) (sign : Int32) (digit : Int32) (first : Int32) (second : Int32) (g : Nat → Int32) (t : Nat) (ht : g 7 = nI t) (ht2 : t ≤ 150) : Cg G l yX3_turn (ws_ yX3_turn cX3_turn 1 (some FieldType.int)) rm_X3_turn [.ref h0] [[(h0, .inr (3, [.ref q1, .ref q2, .int pasts, .ref q3, .ref q4, .ref q5, .int length, .int known, .int there, .ref q6, .int spot, .int isWrong, .int sign, .int digit, .int first, .int second]))], [(q1, .inl (gA G 0, 182, .inl g))]] (Qi G (fun (r : Int32) (u : Unit) => r = nI (t % 3)) (fun (u : Unit) => [[(h0, .inr (3, [.ref q1, .ref q2, .int pasts, .ref q3, .ref q4, .ref q5, .int length, .int known, .int there, .ref q6, .int spot, .int isWrong, .int sign, .int digit, .int first, .int second]))], [(q1, .inl (gA G 0, 182, .inl g))]])) := by
  refine Cg.intro (own := RX3) (cc := cX3_turn) (maxL := 1) (ret := (some FieldType.int)) (by decide +kernel) rfl rfl (Nat.le_of_ble_eq_true rfl) ?_
  intro p e s m ag below meth c A ls Q X hr hlk hnm S hl hQ
  have hx := X.1
  have hb := X.2.1
  have hl : lv_has ls 1 [(0, .ref h0)] := hl
  refine lv_aload_n hx hb dX3_turn_0 rfl (lv_at hl 0 rfl) ?_
  refine m_get X S 0 rfl (T := TX3) (N := 16) in_X3 rfl 0 (by decide) q1712 (fun _ h9 => h9) rfl dX3_turn_1 ?_
  refine lv_bipush (v := nI 7) hx hb dX3_turn_4 (by decide) ?_
  refine m_iald X S 1 rfl (x := nI 7) (j := 7) rfl (vp_in_nI (by decide) (by decide)) (v := nI t) ht dX3_turn_6 ?_
  refine lv_iconst (v := nI 3) hx hb dX3_turn_7 (by decide) ?_
  refine lv_irem hx hb dX3_turn_8 (nI_ne0 (by omega) (by omega)) ?_
  refine lv_toe (y := nI (t % 3)) (pk_rem (by omega) (by omega) (by omega)) ?_
  exact m_iret X hr hlk hQ S () (by show (nI (t % 3)) = nI (t % 3); first | rfl | exact ⟨rfl, rfl⟩ | omega | assumption) [0, 1] [] (show ([0, 1] ++ ([] : List Nat)).isPerm (List.range 2) = true by decide +kernel) rfl (Nat.le_of_ble_eq_true rfl) (Nat.le_of_ble_eq_true rfl) dX3_turn_9

abbrev rm_X3_ends : Room := { frames := 0, cells := 0, slots := 0, locals := 0 }
set_option maxHeartbeats 4000000 in
set_option maxRecDepth 100000 in
theorem mt_X3_ends (G : mGG) (l : Launch) (h0 : Nat) (q1 : Nat) (q2 : Nat) (q3 : Nat) (q4 : Nat) (q5 : Nat) (q6 : Nat) (pasts : Int32) (length : Int32) (known : Int32) (there : Int32) (spot : Int32) (isWrong : Int32) (sign : Int32) (digit : Int32) (first : Int32) (second : Int32) (g : Nat → Int32) : Cg G l yX3_ends (ws_ yX3_ends cX3_ends 1 (none)) rm_X3_ends [.ref h0] [[(h0, .inr (3, [.ref q1, .ref q2, .int pasts, .ref q3, .ref q4, .ref q5, .int length, .int known, .int there, .ref q6, .int spot, .int isWrong, .int sign, .int digit, .int first, .int second]))], [(q1, .inl (gA G 0, 182, .inl g))]] (Qv G (fun (u : (Nat → Int32)) => (u = endS g)) (fun (u : (Nat → Int32)) => [[(h0, .inr (3, [.ref q1, .ref q2, .int pasts, .ref q3, .ref q4, .ref q5, .int length, .int known, .int there, .ref q6, .int spot, .int isWrong, .int sign, .int digit, .int first, .int second]))], [(q1, .inl (gA G 0, 182, .inl u))]])) := by
  refine Cg.intro (own := RX3) (cc := cX3_ends) (maxL := 1) (ret := (none)) (by decide +kernel) rfl rfl (Nat.le_of_ble_eq_true rfl) ?_
  intro p e s m ag below meth c A ls Q X hr hlk hnm S hl hQ
  have hx := X.1
  have hb := X.2.1
  have hl : lv_has ls 1 [(0, .ref h0)] := hl
  refine lv_aload_n hx hb dX3_ends_0 rfl (lv_at hl 0 rfl) ?_
  refine m_get X S 0 rfl (T := TX3) (N := 16) in_X3 rfl 0 (by decide) q1712 (fun _ h9 => h9) rfl dX3_ends_1 ?_
  refine lv_bipush (v := nI 7) hx hb dX3_ends_4 (by decide) ?_
  refine lv_dup2_11 hx hb dX3_ends_6 rfl rfl ?_
  refine m_iald X S 1 rfl (x := nI 7) (j := 7) rfl (vp_in_nI (by decide) (by decide)) (v := g 7) rfl dX3_ends_7 ?_
  refine lv_iconst (v := nI 1) hx hb dX3_ends_8 (by decide) ?_
  refine lv_iadd hx hb dX3_ends_9 ?_
  refine m_iast X S 1 rfl (x := nI 7) (j := 7) rfl (vp_in_nI (by decide) (by decide)) dX3_ends_10 (fun H locs S => ?_)
  have S : Sw G A s.heap [[(h0, .inr (3, [.ref q1, .ref q2, .int pasts, .ref q3, .ref q4, .ref q5, .int length, .int known, .int there, .ref q6, .int spot, .int isWrong, .int sign, .int digit, .int first, .int second]))], [(q1, .inl (gA G 0, 182, .inl (upd g 7 ((g 7) + (nI 1)))))]] _ _ := S
  refine lv_aload_n hx hb dX3_ends_11 rfl (lv_at hl 0 rfl) ?_
  refine m_get X S 0 rfl (T := TX3) (N := 16) in_X3 rfl 0 (by decide) q1712 (fun _ h9 => h9) rfl dX3_ends_12 ?_
  refine lv_bipush (v := nI 6) hx hb dX3_ends_15 (by decide) ?_
  refine lv_aload_n hx hb dX3_ends_17 rfl (lv_at hl 0 rfl) ?_
  refine m_get X S 0 rfl (T := TX3) (N := 16) in_X3 rfl 0 (by decide) q1712 (fun _ h9 => h9) rfl dX3_ends_18 ?_
  refine lv_bipush (v := nI 7) hx hb dX3_ends_21 (by decide) ?_
  refine m_iald X S 1 rfl (x := nI 7) (j := 7) rfl (vp_in_nI (by decide) (by decide)) (v := (g 7) + (nI 1)) rfl dX3_ends_23 ?_
  refine lv_sipush (v := nI 150) hx hb dX3_ends_24 (by decide) ?_
  refine lv_icmp_ne (tgt := 34) hx hb dX3_ends_27 (by decide) (fun c27_1 => ?_) (fun c27_1 => ?_)
  · skip
    have c27_1 : ¬ ((g 7) + (nI 1)) = (nI 150) := c27_1
    refine lv_aload_n hx hb dX3_ends_34 rfl (lv_at hl 0 rfl) ?_
    refine m_get X S 0 rfl (T := TX3) (N := 16) in_X3 rfl 0 (by decide) q1712 (fun _ h9 => h9) rfl dX3_ends_35 ?_
    refine lv_bipush (v := nI 6) hx hb dX3_ends_38 (by decide) ?_
    refine m_iald X S 1 rfl (x := nI 6) (j := 6) rfl (vp_in_nI (by decide) (by decide)) (v := g 6) rfl dX3_ends_40 ?_
    refine m_iast X S 1 rfl (x := nI 6) (j := 6) rfl (vp_in_nI (by decide) (by decide)) dX3_ends_41 (fun H locs S => ?_)
    have S : Sw G A s.heap [[(h0, .inr (3, [.ref q1, .ref q2, .int pasts, .ref q3, .ref q4, .ref q5, .int length, .int known, .int there, .ref q6, .int spot, .int isWrong, .int sign, .int digit, .int first, .int second]))], [(q1, .inl (gA G 0, 182, .inl (upd (upd g 7 ((g 7) + (nI 1))) 6 (g 6))))]] _ _ := S
    exact m_vret X hr hlk hQ S (upd (upd g 7 ((g 7) + (nI 1))) 6 (g 6)) (by show ((upd (upd g 7 ((g 7) + (nI 1))) 6 (g 6)) = endS g); simp only [endS, if_pos, if_neg, *]; try rfl) [0, 1] [] (show ([0, 1] ++ ([] : List Nat)).isPerm (List.range 2) = true by decide +kernel) rfl (Nat.le_of_ble_eq_true rfl) (Nat.le_of_ble_eq_true rfl) dX3_ends_42
  · skip
    have c27_1 : ((g 7) + (nI 1)) = (nI 150) := c27_1
    refine lv_iconst (v := nI 2) hx hb dX3_ends_30 (by decide) ?_
    refine lv_goto (tgt := 41) hx hb dX3_ends_31 (by decide) ?_
    refine m_iast X S 1 rfl (x := nI 6) (j := 6) rfl (vp_in_nI (by decide) (by decide)) dX3_ends_41 (fun H locs S => ?_)
    have S : Sw G A s.heap [[(h0, .inr (3, [.ref q1, .ref q2, .int pasts, .ref q3, .ref q4, .ref q5, .int length, .int known, .int there, .ref q6, .int spot, .int isWrong, .int sign, .int digit, .int first, .int second]))], [(q1, .inl (gA G 0, 182, .inl (upd (upd g 7 ((g 7) + (nI 1))) 6 (nI 2))))]] _ _ := S
    exact m_vret X hr hlk hQ S (upd (upd g 7 ((g 7) + (nI 1))) 6 (nI 2)) (by show ((upd (upd g 7 ((g 7) + (nI 1))) 6 (nI 2)) = endS g); simp only [endS, if_pos, if_neg, *]; try rfl) [0, 1] [] (show ([0, 1] ++ ([] : List Nat)).isPerm (List.range 2) = true by decide +kernel) rfl (Nat.le_of_ble_eq_true rfl) (Nat.le_of_ble_eq_true rfl) dX3_ends_42

abbrev rm_X3_many : Room := { frames := 0, cells := 0, slots := 0, locals := 0 }
set_option maxHeartbeats 4000000 in
set_option maxRecDepth 100000 in
theorem mt_X3_many (G : mGG) (l : Launch) (x : Int32) : Cg G l yX3_many (ws_ yX3_many cX3_many 3 (some FieldType.int)) rm_X3_many [.int x] [] (Qi G (fun (r : Int32) (u : Unit) => r = nI (card x)) (fun (u : Unit) => [])) := by
  refine Cg.intro (own := RX3) (cc := cX3_many) (maxL := 3) (ret := (some FieldType.int)) (by decide +kernel) rfl rfl (Nat.le_of_ble_eq_true rfl) ?_
  intro p e s m ag below meth c A ls Q X hr hlk hnm S hl hQ
  have hx := X.1
  have hb := X.2.1
  have hl : lv_has ls 3 [(0, .int x)] := hl
  refine lv_iconst (v := nI 0) hx hb dX3_many_0 (by decide) ?_
  refine lv_istore_n (lv' := [(1, .int (nI 0)), (0, .int x)]) hx hb dX3_many_1 rfl hl (Nat.le_of_ble_eq_true rfl) rfl (fun ls hl => ?_)
  refine lv_iload_n hx hb dX3_many_2 rfl (lv_at hl 1 rfl) ?_
  refine lv_istore_n (lv' := [(2, .int x), (1, .int (nI 0)), (0, .int x)]) hx hb dX3_many_3 rfl hl (Nat.le_of_ble_eq_true rfl) rfl (fun ls hl => ?_)
  have hL4 : ∀ (kf : Nat) (n : Nat) (y : Int32), (card y) < kf → (n + card y = card x) → (n ≤ 32) → ∀ (H : Heap) (locs : List Loc), Sw G A s.heap [] H locs → ∀ (ls : Array Slot), lv_has ls 3 [(1, .int (nI n)), (2, .int y), (0, .int x)] → W p l e rm_X3_many s m ag below meth c H locs (0) (0) Q (F0 m 4 ls []) := by
    intro kf
    induction kf with
    | zero =>
      intro n y hm
      exact absurd hm (Nat.not_lt_zero _)
    | succ kf4 ih4 =>
      intro n y hm hc hn H locs S ls hl
      refine lv_iload_n hx hb dX3_many_4 rfl (lv_at hl 1 rfl) ?_
      refine lv_if_eq (tgt := 20) hx hb dX3_many_5 (by decide) (fun c5_1 => ?_) (fun c5_1 => ?_)
      · skip
        have c5_1 : y = (nI 0) := c5_1
        have hz : card y = 0 := by rw [c5_1]; exact card_0
        refine lv_iload_n hx hb dX3_many_20 rfl (lv_at hl 0 rfl) ?_
        exact m_iret X hr hlk hQ S () (by show (nI n) = nI (card x); exact congrArg nI (by omega)) [] [] (show ([] ++ ([] : List Nat)).isPerm (List.range 0) = true by decide +kernel) rfl (Nat.le_of_ble_eq_true rfl) (Nat.le_of_ble_eq_true rfl) dX3_many_21
      · skip
        have c5_1 : ¬ y = (nI 0) := c5_1
        refine lv_iinc (v := nI (n + 1)) (lv' := [(1, .int (nI (n + 1))), (2, .int y), (0, .int x)]) hx hb dX3_many_8 hl (k := 0) rfl (nI_add _ _) (Nat.le_of_ble_eq_true rfl) rfl (fun ls hl => ?_)
        refine lv_iload_n hx hb dX3_many_11 rfl (lv_at hl 1 rfl) ?_
        refine lv_iload_n hx hb dX3_many_12 rfl (lv_at hl 1 rfl) ?_
        refine lv_iconst (v := nI 1) hx hb dX3_many_13 (by decide) ?_
        refine lv_isub hx hb dX3_many_14 ?_
        refine lv_iand hx hb dX3_many_15 ?_
        refine lv_istore_n (lv' := [(2, .int (y &&& (y - (nI 1)))), (1, .int (nI (n + 1))), (0, .int x)]) hx hb dX3_many_16 rfl hl (Nat.le_of_ble_eq_true rfl) rfl (fun ls hl => ?_)
        refine lv_goto (tgt := 4) hx hb dX3_many_17 (by decide) ?_
        exact ih4 (n + 1) (y &&& (y - (nI 1))) (by have := card_low (x := y) (by assumption); omega) (by have := card_low (x := y) (by assumption); omega) (by have := card_low (x := y) (by assumption); have := card_le x; omega) _ _ S ls (lv_sub hl [1, 0, 2] rfl)
  exact hL4 _ 0 x (Nat.lt_succ_self _) (by omega) (by omega) _ _ S ls (lv_sub hl [1, 0, 2] rfl)

abbrev rm_X3_around : Room := { frames := 1, cells := 0, slots := 0, locals := 23 }
set_option maxHeartbeats 4000000 in
set_option maxRecDepth 100000 in
theorem mt_X3_around (G : mGG) (l : Launch) (a : Nat) (ha : a < 8) : Cg G l yX3_around (ws_ yX3_around cX3_around 3 (some FieldType.int)) rm_X3_around [.int (nI a)] [] (Qi G (fun (r : Int32) (u : Unit) => r = aroundS a 8) (fun (u : Unit) => [])) := by
  refine Cg.intro (own := RX3) (cc := cX3_around) (maxL := 3) (ret := (some FieldType.int)) (by decide +kernel) rfl rfl (Nat.le_of_ble_eq_true rfl) ?_
  intro p e s m ag below meth c A ls Q X hr hlk hnm S hl hQ
  have hx := X.1
  have hb := X.2.1
  have hl : lv_has ls 3 [(0, .int (nI a))] := hl
  refine lv_iconst (v := nI 0) hx hb dX3_around_0 (by decide) ?_
  refine lv_istore_n (lv' := [(1, .int (nI 0)), (0, .int (nI a))]) hx hb dX3_around_1 rfl hl (Nat.le_of_ble_eq_true rfl) rfl (fun ls hl => ?_)
  refine lv_iconst (v := nI 0) hx hb dX3_around_2 (by decide) ?_
  refine lv_istore_n (lv' := [(2, .int (nI 0)), (1, .int (nI 0)), (0, .int (nI a))]) hx hb dX3_around_3 rfl hl (Nat.le_of_ble_eq_true rfl) rfl (fun ls hl => ?_)
  have hL4 : ∀ (kf : Nat) (i : Nat), (8 - i) < kf → (i ≤ 8) → ∀ (H : Heap) (locs : List Loc), Sw G A s.heap [] H locs → ∀ (ls : Array Slot), lv_has ls 3 [(1, .int (aroundS a i)), (2, .int (nI i)), (0, .int (nI a))] → W p l e rm_X3_around s m ag below meth c H locs (0) (0) Q (F0 m 4 ls []) := by
    intro kf
    induction kf with
    | zero =>
      intro i hm
      exact absurd hm (Nat.not_lt_zero _)
    | succ kf4 ih4 =>
      intro i hm hi H locs S ls hl
      refine lv_iload_n hx hb dX3_around_4 rfl (lv_at hl 1 rfl) ?_
      refine lv_bipush (v := nI 8) hx hb dX3_around_5 (by decide) ?_
      refine lv_icmp_ge (tgt := 35) hx hb dX3_around_7 (by decide) (fun c7_1 => ?_) (fun c7_1 => ?_)
      · skip
        have c7_1 : 8 ≤ i := (nI_leI (a := 8) (b := i) (by omega) (by omega)).mp c7_1
        refine lv_iload_n hx hb dX3_around_35 rfl (lv_at hl 0 rfl) ?_
        exact m_iret X hr hlk hQ S () (by show (aroundS a i) = aroundS a 8; rw [show i = 8 by omega]) [] [] (show ([] ++ ([] : List Nat)).isPerm (List.range 0) = true by decide +kernel) rfl (Nat.le_of_ble_eq_true rfl) (Nat.le_of_ble_eq_true rfl) dX3_around_36
      · skip
        have c7_1 : ¬ 8 ≤ i := fun z => c7_1 ((nI_leI (a := 8) (b := i) (by omega) (by omega)).mpr z)
        refine lv_iload_n hx hb dX3_around_10 rfl (lv_at hl 0 rfl) ?_
        refine lv_iload_n hx hb dX3_around_11 rfl (lv_at hl 1 rfl) ?_
        refine lv_iload_n hx hb dX3_around_12 rfl (lv_at hl 2 rfl) ?_
        refine lv_icmp_ne (tgt := 20) hx hb dX3_around_13 (by decide) (fun c13_2 => ?_) (fun c13_2 => ?_)
        · skip
          have c13_2 : ¬ i = a := fun z => c13_2 ((nI_eq (a := i) (b := a) (by omega) (by omega)).mpr z)
          refine lv_iconst (v := nI 1) hx hb dX3_around_20 (by decide) ?_
          refine lv_iload_n hx hb dX3_around_21 rfl (lv_at hl 2 rfl) ?_
          refine lv_iload_n hx hb dX3_around_22 rfl (lv_at hl 1 rfl) ?_
          have hq3 := S.cut (Bc := []) (Br := []) [] [] (show ([] ++ ([] : List Nat)).isPerm (List.range 0) = true by decide +kernel) rfl rfl
          refine m_ri X S hq3 (m_runS (rest := [.int (nI 1), .int (aroundS a i)]) (As := [.int (nI a), .int (nI i)]) (n := 2) X S hq3 (mt_X3_edge G l a i (by omega) (by omega) (by omega)) (lw_S q1798 q1799 q90 q1800) (by decide +kernel) ⟨Nat.le_of_ble_eq_true rfl, Nat.le_of_ble_eq_true rfl⟩ rfl hl.1 rfl (Nat.le_of_ble_eq_true rfl) dX3_around_23 ⟨(Nat.le_of_ble_eq_true rfl), (Nat.le_of_ble_eq_true rfl)⟩) (fun r4 u H locs hp4 S => ?_)
          have hp4 : r4 = nI (Ed a i) := hp4
          have hhp4_0 := hp4
          subst hhp4_0
          have S : Sw G A s.heap [] _ _ := S
          refine lv_ishl hx hb dX3_around_26 ?_
          refine lv_toe (y := bit (Ed a i)) (rfl) ?_
          refine lv_ior hx hb dX3_around_27 ?_
          refine lv_toe (y := aroundS a (i + 1)) (by simp [aroundS, *]) ?_
          refine lv_istore_n (lv' := [(1, .int (aroundS a (i + 1))), (2, .int (nI i)), (0, .int (nI a))]) hx hb dX3_around_28 rfl hl (Nat.le_of_ble_eq_true rfl) rfl (fun ls hl => ?_)
          refine lv_iinc (v := nI (i + 1)) (lv' := [(2, .int (nI (i + 1))), (1, .int (aroundS a (i + 1))), (0, .int (nI a))]) hx hb dX3_around_29 hl (k := 1) rfl (nI_add _ _) (Nat.le_of_ble_eq_true rfl) rfl (fun ls hl => ?_)
          refine lv_goto (tgt := 4) hx hb dX3_around_32 (by decide) ?_
          exact ih4 (i + 1) (by omega) (by omega) _ _ S ls (lv_sub hl [1, 0, 2] rfl)
        · skip
          have c13_2 : i = a := (nI_eq (a := i) (b := a) (by omega) (by omega)).mp c13_2
          refine lv_iconst (v := nI 0) hx hb dX3_around_16 (by decide) ?_
          refine lv_goto (tgt := 27) hx hb dX3_around_17 (by decide) ?_
          refine lv_ior hx hb dX3_around_27 ?_
          refine lv_toe (y := aroundS a (i + 1)) (by simp [aroundS, *]) ?_
          refine lv_istore_n (lv' := [(1, .int (aroundS a (i + 1))), (2, .int (nI i)), (0, .int (nI a))]) hx hb dX3_around_28 rfl hl (Nat.le_of_ble_eq_true rfl) rfl (fun ls hl => ?_)
          refine lv_iinc (v := nI (i + 1)) (lv' := [(2, .int (nI (i + 1))), (1, .int (aroundS a (i + 1))), (0, .int (nI a))]) hx hb dX3_around_29 hl (k := 1) rfl (nI_add _ _) (Nat.le_of_ble_eq_true rfl) rfl (fun ls hl => ?_)
          refine lv_goto (tgt := 4) hx hb dX3_around_32 (by decide) ?_
          exact ih4 (i + 1) (by omega) (by omega) _ _ S ls (lv_sub hl [1, 0, 2] rfl)
  exact hL4 _ 0 (Nat.lt_succ_self _) (by omega) _ _ S ls (lv_sub hl [1, 0, 2] rfl)
