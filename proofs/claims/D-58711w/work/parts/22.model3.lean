/-! THE MODEL: its changes -/
abbrev rm_X3_barRoad : Room := { frames := 2, cells := 0, slots := 0, locals := 42 }
set_option maxHeartbeats 4000000 in
set_option maxRecDepth 100000 in
theorem mt_X3_barRoad (G : mGG) (l : Launch) (h0 : Nat) (q1 : Nat) (q2 : Nat) (q3 : Nat) (q4 : Nat) (q5 : Nat) (q6 : Nat) (pasts : Int32) (length : Int32) (known : Int32) (there : Int32) (spot : Int32) (isWrong : Int32) (sign : Int32) (digit : Int32) (first : Int32) (second : Int32) (g : Nat → Int32) (p1 : Int32) (p2 : Int32) : Cg G l yX3_barRoad (ws_ yX3_barRoad cX3_barRoad 3 (some FieldType.int)) rm_X3_barRoad [.ref h0, .int p1, .int p2] [[(h0, .inr (3, [.ref q1, .ref q2, .int pasts, .ref q3, .ref q4, .ref q5, .int length, .int known, .int there, .ref q6, .int spot, .int isWrong, .int sign, .int digit, .int first, .int second]))], [(q1, .inl (gA G 0, 182, .inl g))]] (Qi G (fun (r : Int32) (u : Nat × Nat) => (r = barRoadS g p1 p2 ∧ barRoadS g p1 p2 < nI 0) ∨ (r = nI 0 ∧ p1 = nI u.1 ∧ p2 = nI u.2 ∧ u.1 < 8 ∧ u.2 < 8 ∧ u.1 ≠ u.2 ∧ g 6 ≤ nI 0 ∧ barRoadS g (nI u.1) (nI u.2) = nI 0)) (fun (u : Nat × Nat) => [[(h0, .inr (3, [.ref q1, .ref q2, .int pasts, .ref q3, .ref q4, .ref q5, .int length, .int known, .int there, .ref q6, .int spot, .int isWrong, .int sign, .int digit, .int first, .int second]))], [(q1, .inl (gA G 0, 182, .inl g))]])) := by
  refine Cg.intro (own := RX3) (cc := cX3_barRoad) (maxL := 3) (ret := (some FieldType.int)) (by decide +kernel) rfl rfl (Nat.le_of_ble_eq_true rfl) ?_
  intro p e s m ag below meth c A ls Q X hr hlk hnm S hl hQ
  have hx := X.1
  have hb := X.2.1
  have hl : lv_has ls 3 [(0, .ref h0), (1, .int p1), (2, .int p2)] := hl
  refine lv_iload_n hx hb dX3_barRoad_0 rfl (lv_at hl 1 rfl) ?_
  have hq1 := S.cut (Bc := []) (Br := [[(h0, .inr (3, [.ref q1, .ref q2, .int pasts, .ref q3, .ref q4, .ref q5, .int length, .int known, .int there, .ref q6, .int spot, .int isWrong, .int sign, .int digit, .int first, .int second]))], [(q1, .inl (gA G 0, 182, .inl g))]]) [] [0, 1] (show ([] ++ ([0, 1] : List Nat)).isPerm (List.range 2) = true by decide +kernel) rfl rfl
  refine m_ri X S hq1 (m_runS (rest := []) (As := [.int p1]) (n := 1) X S hq1 (mt_X3_isPlace G l p1 ) (lw_S q1787 q1788 q90 q1789) (by decide +kernel) ⟨Nat.le_of_ble_eq_true rfl, Nat.le_of_ble_eq_true rfl⟩ rfl hl.1 rfl (Nat.le_of_ble_eq_true rfl) dX3_barRoad_1 ⟨(Nat.le_of_ble_eq_true rfl), (Nat.le_of_ble_eq_true rfl)⟩) (fun r2 u H locs hp2 S => ?_)
  obtain ⟨k1, rfl⟩ : ∃ z, z = u := ⟨_, rfl⟩
  have hp2 : (r2 = nI 1 ∧ p1 = nI k1 ∧ k1 < 8) ∨ (r2 = nI 0 ∧ ¬ pl p1) := hp2
  have S : Sw G A s.heap [[(h0, .inr (3, [.ref q1, .ref q2, .int pasts, .ref q3, .ref q4, .ref q5, .int length, .int known, .int there, .ref q6, .int spot, .int isWrong, .int sign, .int digit, .int first, .int second]))], [(q1, .inl (gA G 0, 182, .inl g))]] _ _ := S
  rcases hp2 with ⟨hhp2_0, hhp2_1, hhp2_2⟩ | ⟨hhp2_0, hhp2_1⟩
  · skip
    subst hhp2_0
    subst hhp2_1
    have hf0_r2 := hhp2_2
    have S : Sw G A s.heap [[(h0, .inr (3, [.ref q1, .ref q2, .int pasts, .ref q3, .ref q4, .ref q5, .int length, .int known, .int there, .ref q6, .int spot, .int isWrong, .int sign, .int digit, .int first, .int second]))], [(q1, .inl (gA G 0, 182, .inl g))]] _ _ := S
    refine lv_if_eq (tgt := 14) hx hb dX3_barRoad_4 (by decide) (fun c4_3 => absurd c4_3 (by decide)) (fun c4_3 => ?_)
    refine lv_iload_n hx hb dX3_barRoad_7 rfl (lv_at hl 2 rfl) ?_
    have hq4 := S.cut (Bc := []) (Br := [[(h0, .inr (3, [.ref q1, .ref q2, .int pasts, .ref q3, .ref q4, .ref q5, .int length, .int known, .int there, .ref q6, .int spot, .int isWrong, .int sign, .int digit, .int first, .int second]))], [(q1, .inl (gA G 0, 182, .inl g))]]) [] [0, 1] (show ([] ++ ([0, 1] : List Nat)).isPerm (List.range 2) = true by decide +kernel) rfl rfl
    refine m_ri X S hq4 (m_runS (rest := []) (As := [.int p2]) (n := 1) X S hq4 (mt_X3_isPlace G l p2 ) (lw_S q1787 q1788 q90 q1789) (by decide +kernel) ⟨Nat.le_of_ble_eq_true rfl, Nat.le_of_ble_eq_true rfl⟩ rfl hl.1 rfl (Nat.le_of_ble_eq_true rfl) dX3_barRoad_8 ⟨(Nat.le_of_ble_eq_true rfl), (Nat.le_of_ble_eq_true rfl)⟩) (fun r5 u H locs hp5 S => ?_)
    obtain ⟨k2, rfl⟩ : ∃ z, z = u := ⟨_, rfl⟩
    have hp5 : (r5 = nI 1 ∧ p2 = nI k2 ∧ k2 < 8) ∨ (r5 = nI 0 ∧ ¬ pl p2) := hp5
    have S : Sw G A s.heap [[(h0, .inr (3, [.ref q1, .ref q2, .int pasts, .ref q3, .ref q4, .ref q5, .int length, .int known, .int there, .ref q6, .int spot, .int isWrong, .int sign, .int digit, .int first, .int second]))], [(q1, .inl (gA G 0, 182, .inl g))]] _ _ := S
    rcases hp5 with ⟨hhp5_0, hhp5_1, hhp5_2⟩ | ⟨hhp5_0, hhp5_1⟩
    · skip
      subst hhp5_0
      subst hhp5_1
      have hf0_r5 := hhp5_2
      have S : Sw G A s.heap [[(h0, .inr (3, [.ref q1, .ref q2, .int pasts, .ref q3, .ref q4, .ref q5, .int length, .int known, .int there, .ref q6, .int spot, .int isWrong, .int sign, .int digit, .int first, .int second]))], [(q1, .inl (gA G 0, 182, .inl g))]] _ _ := S
      refine lv_if_ne (tgt := 18) hx hb dX3_barRoad_11 (by decide) (fun c11_6 => ?_) (fun c11_6 => absurd c11_6 (by decide))
      refine lv_iload_n hx hb dX3_barRoad_18 rfl (lv_at hl 1 rfl) ?_
      refine lv_iload_n hx hb dX3_barRoad_19 rfl (lv_at hl 2 rfl) ?_
      refine lv_icmp_ne (tgt := 28) hx hb dX3_barRoad_20 (by decide) (fun c20_7 => ?_) (fun c20_7 => ?_)
      · skip
        have c20_7 : ¬ k1 = k2 := fun z => c20_7 ((nI_eq (a := k1) (b := k2) (by omega) (by omega)).mpr z)
        refine lv_aload_n hx hb dX3_barRoad_28 rfl (lv_at hl 0 rfl) ?_
        have hq8 := S.cut (Bc := [[(h0, .inr (3, [.ref q1, .ref q2, .int pasts, .ref q3, .ref q4, .ref q5, .int length, .int known, .int there, .ref q6, .int spot, .int isWrong, .int sign, .int digit, .int first, .int second]))], [(q1, .inl (gA G 0, 182, .inl g))]]) (Br := []) [0, 1] [] (show ([0, 1] ++ ([] : List Nat)).isPerm (List.range 2) = true by decide +kernel) rfl rfl
        refine m_ri X S hq8 (m_runV (rest := []) (As := []) (n := 0) X S hq8 (mt_X3_hasBegun G l h0 q1 q2 q3 q4 q5 q6 pasts length known there spot isWrong sign digit first second g ) (lw_V q1790 q1792 qs48 q90 q1793) (m_recv X S 0 rfl rfl) (by decide +kernel) ⟨Nat.le_of_ble_eq_true rfl, Nat.le_of_ble_eq_true rfl⟩ rfl hl.1 rfl (Nat.le_of_ble_eq_true rfl) dX3_barRoad_29 ⟨(Nat.le_of_ble_eq_true rfl), (Nat.le_of_ble_eq_true rfl)⟩) (fun r9 u H locs hp9 S => ?_)
        have hp9 : (r9 = nI 1 ∧ ¬ g 6 ≤ 0) ∨ (r9 = nI 0 ∧ g 6 ≤ 0) := hp9
        have S : Sw G A s.heap [[(h0, .inr (3, [.ref q1, .ref q2, .int pasts, .ref q3, .ref q4, .ref q5, .int length, .int known, .int there, .ref q6, .int spot, .int isWrong, .int sign, .int digit, .int first, .int second]))], [(q1, .inl (gA G 0, 182, .inl g))]] _ _ := S
        rcases hp9 with ⟨hhp9_0, hhp9_1⟩ | ⟨hhp9_0, hhp9_1⟩
        · skip
          subst hhp9_0
          have hf0_r9 := hhp9_1
          have S : Sw G A s.heap [[(h0, .inr (3, [.ref q1, .ref q2, .int pasts, .ref q3, .ref q4, .ref q5, .int length, .int known, .int there, .ref q6, .int spot, .int isWrong, .int sign, .int digit, .int first, .int second]))], [(q1, .inl (gA G 0, 182, .inl g))]] _ _ := S
          refine lv_if_eq (tgt := 40) hx hb dX3_barRoad_32 (by decide) (fun c32_10 => absurd c32_10 (by decide)) (fun c32_10 => ?_)
          refine lv_bipush (v := (-5 : Int32)) hx hb dX3_barRoad_35 (by decide) ?_
          refine lv_goto (tgt := 41) hx hb dX3_barRoad_37 (by decide) ?_
          exact m_iret X hr hlk hQ S ⟨k1, k2⟩ (by show ((-5 : Int32) = barRoadS g (nI k1) (nI k2) ∧ barRoadS g (nI k1) (nI k2) < nI 0) ∨ ((-5 : Int32) = nI 0 ∧ (nI k1) = nI k1 ∧ (nI k2) = nI k2 ∧ k1 < 8 ∧ k2 < 8 ∧ k1 ≠ k2 ∧ g 6 ≤ nI 0 ∧ barRoadS g (nI k1) (nI k2) = nI 0); exact Or.inl ⟨(barRoad_5  (by omega) (by omega) (by omega) (by assumption)).symm, by rw [barRoad_5  (by omega) (by omega) (by omega) (by assumption)]; exact lt_m5⟩) [0, 1] [] (show ([0, 1] ++ ([] : List Nat)).isPerm (List.range 2) = true by decide +kernel) rfl (Nat.le_of_ble_eq_true rfl) (Nat.le_of_ble_eq_true rfl) dX3_barRoad_41
        · skip
          subst hhp9_0
          have hf0_r9 := hhp9_1
          have S : Sw G A s.heap [[(h0, .inr (3, [.ref q1, .ref q2, .int pasts, .ref q3, .ref q4, .ref q5, .int length, .int known, .int there, .ref q6, .int spot, .int isWrong, .int sign, .int digit, .int first, .int second]))], [(q1, .inl (gA G 0, 182, .inl g))]] _ _ := S
          refine lv_if_eq (tgt := 40) hx hb dX3_barRoad_32 (by decide) (fun c32_11 => ?_) (fun c32_11 => absurd (by decide) c32_11)
          refine lv_iconst (v := nI 0) hx hb dX3_barRoad_40 (by decide) ?_
          exact m_iret X hr hlk hQ S ⟨k1, k2⟩ (by show ((nI 0) = barRoadS g (nI k1) (nI k2) ∧ barRoadS g (nI k1) (nI k2) < nI 0) ∨ ((nI 0) = nI 0 ∧ (nI k1) = nI k1 ∧ (nI k2) = nI k2 ∧ k1 < 8 ∧ k2 < 8 ∧ k1 ≠ k2 ∧ g 6 ≤ nI 0 ∧ barRoadS g (nI k1) (nI k2) = nI 0); exact Or.inr ⟨rfl, rfl, rfl, (by first | assumption | omega), (by first | assumption | omega), (by first | assumption | omega), (by assumption), barRoad_0  (by omega) (by omega) (by omega) (by assumption)⟩) [0, 1] [] (show ([0, 1] ++ ([] : List Nat)).isPerm (List.range 2) = true by decide +kernel) rfl (Nat.le_of_ble_eq_true rfl) (Nat.le_of_ble_eq_true rfl) dX3_barRoad_41
      · skip
        have c20_7 : k1 = k2 := (nI_eq (a := k1) (b := k2) (by omega) (by omega)).mp c20_7
        refine lv_bipush (v := (-2 : Int32)) hx hb dX3_barRoad_23 (by decide) ?_
        refine lv_goto (tgt := 41) hx hb dX3_barRoad_25 (by decide) ?_
        exact m_iret X hr hlk hQ S ⟨k1, k2⟩ (by show ((-2 : Int32) = barRoadS g (nI k1) (nI k2) ∧ barRoadS g (nI k1) (nI k2) < nI 0) ∨ ((-2 : Int32) = nI 0 ∧ (nI k1) = nI k1 ∧ (nI k2) = nI k2 ∧ k1 < 8 ∧ k2 < 8 ∧ k1 ≠ k2 ∧ g 6 ≤ nI 0 ∧ barRoadS g (nI k1) (nI k2) = nI 0); exact Or.inl ⟨(barRoad_2  (by omega) (by omega) (by omega)).symm, by rw [barRoad_2  (by omega) (by omega) (by omega)]; exact lt_m2⟩) [0, 1] [] (show ([0, 1] ++ ([] : List Nat)).isPerm (List.range 2) = true by decide +kernel) rfl (Nat.le_of_ble_eq_true rfl) (Nat.le_of_ble_eq_true rfl) dX3_barRoad_41
    · skip
      subst hhp5_0
      have hf0_r5 := hhp5_1
      have S : Sw G A s.heap [[(h0, .inr (3, [.ref q1, .ref q2, .int pasts, .ref q3, .ref q4, .ref q5, .int length, .int known, .int there, .ref q6, .int spot, .int isWrong, .int sign, .int digit, .int first, .int second]))], [(q1, .inl (gA G 0, 182, .inl g))]] _ _ := S
      refine lv_if_ne (tgt := 18) hx hb dX3_barRoad_11 (by decide) (fun c11_12 => absurd (by decide) c11_12) (fun c11_12 => ?_)
      refine lv_iconst (v := (-1 : Int32)) hx hb dX3_barRoad_14 (by decide) ?_
      refine lv_goto (tgt := 41) hx hb dX3_barRoad_15 (by decide) ?_
      exact m_iret X hr hlk hQ S ⟨k1, 0⟩ (by show ((-1 : Int32) = barRoadS g (nI k1) p2 ∧ barRoadS g (nI k1) p2 < nI 0) ∨ ((-1 : Int32) = nI 0 ∧ (nI k1) = nI k1 ∧ p2 = nI 0 ∧ k1 < 8 ∧ 0 < 8 ∧ k1 ≠ 0 ∧ g 6 ≤ nI 0 ∧ barRoadS g (nI k1) (nI 0) = nI 0); exact Or.inl ⟨(barRoad_1  (by first | assumption | exact Or.inl (by assumption) | exact Or.inr (by assumption) | exact Or.inl (by omega) | exact Or.inr (Or.inl (by assumption)) | exact Or.inr (Or.inr (by assumption)))).symm, by rw [barRoad_1  (by first | assumption | exact Or.inl (by assumption) | exact Or.inr (by assumption) | exact Or.inl (by omega) | exact Or.inr (Or.inl (by assumption)) | exact Or.inr (Or.inr (by assumption)))]; exact lt_m1⟩) [0, 1] [] (show ([0, 1] ++ ([] : List Nat)).isPerm (List.range 2) = true by decide +kernel) rfl (Nat.le_of_ble_eq_true rfl) (Nat.le_of_ble_eq_true rfl) dX3_barRoad_41
  · skip
    subst hhp2_0
    have hf0_r2 := hhp2_1
    have S : Sw G A s.heap [[(h0, .inr (3, [.ref q1, .ref q2, .int pasts, .ref q3, .ref q4, .ref q5, .int length, .int known, .int there, .ref q6, .int spot, .int isWrong, .int sign, .int digit, .int first, .int second]))], [(q1, .inl (gA G 0, 182, .inl g))]] _ _ := S
    refine lv_if_eq (tgt := 14) hx hb dX3_barRoad_4 (by decide) (fun c4_13 => ?_) (fun c4_13 => absurd (by decide) c4_13)
    refine lv_iconst (v := (-1 : Int32)) hx hb dX3_barRoad_14 (by decide) ?_
    refine lv_goto (tgt := 41) hx hb dX3_barRoad_15 (by decide) ?_
    exact m_iret X hr hlk hQ S ⟨0, 0⟩ (by show ((-1 : Int32) = barRoadS g p1 p2 ∧ barRoadS g p1 p2 < nI 0) ∨ ((-1 : Int32) = nI 0 ∧ p1 = nI 0 ∧ p2 = nI 0 ∧ 0 < 8 ∧ 0 < 8 ∧ 0 ≠ 0 ∧ g 6 ≤ nI 0 ∧ barRoadS g (nI 0) (nI 0) = nI 0); exact Or.inl ⟨(barRoad_1  (by first | assumption | exact Or.inl (by assumption) | exact Or.inr (by assumption) | exact Or.inl (by omega) | exact Or.inr (Or.inl (by assumption)) | exact Or.inr (Or.inr (by assumption)))).symm, by rw [barRoad_1  (by first | assumption | exact Or.inl (by assumption) | exact Or.inr (by assumption) | exact Or.inl (by omega) | exact Or.inr (Or.inl (by assumption)) | exact Or.inr (Or.inr (by assumption)))]; exact lt_m1⟩) [0, 1] [] (show ([0, 1] ++ ([] : List Nat)).isPerm (List.range 2) = true by decide +kernel) rfl (Nat.le_of_ble_eq_true rfl) (Nat.le_of_ble_eq_true rfl) dX3_barRoad_41

abbrev rm_X3_barTreasure : Room := { frames := 2, cells := 0, slots := 0, locals := 42 }
set_option maxHeartbeats 4000000 in
set_option maxRecDepth 100000 in
theorem mt_X3_barTreasure (G : mGG) (l : Launch) (h0 : Nat) (q1 : Nat) (q2 : Nat) (q3 : Nat) (q4 : Nat) (q5 : Nat) (q6 : Nat) (pasts : Int32) (length : Int32) (known : Int32) (there : Int32) (spot : Int32) (isWrong : Int32) (sign : Int32) (digit : Int32) (first : Int32) (second : Int32) (g : Nat → Int32) (p1 : Int32) : Cg G l yX3_barTreasure (ws_ yX3_barTreasure cX3_barTreasure 2 (some FieldType.int)) rm_X3_barTreasure [.ref h0, .int p1] [[(h0, .inr (3, [.ref q1, .ref q2, .int pasts, .ref q3, .ref q4, .ref q5, .int length, .int known, .int there, .ref q6, .int spot, .int isWrong, .int sign, .int digit, .int first, .int second]))], [(q1, .inl (gA G 0, 182, .inl g))]] (Qi G (fun (r : Int32) (u : Nat) => (r = barTreasS g p1 ∧ barTreasS g p1 < nI 0) ∨ (r = nI 0 ∧ p1 = nI u ∧ u < 8 ∧ g 6 ≤ nI 0 ∧ barTreasS g (nI u) = nI 0)) (fun (u : Nat) => [[(h0, .inr (3, [.ref q1, .ref q2, .int pasts, .ref q3, .ref q4, .ref q5, .int length, .int known, .int there, .ref q6, .int spot, .int isWrong, .int sign, .int digit, .int first, .int second]))], [(q1, .inl (gA G 0, 182, .inl g))]])) := by
  refine Cg.intro (own := RX3) (cc := cX3_barTreasure) (maxL := 2) (ret := (some FieldType.int)) (by decide +kernel) rfl rfl (Nat.le_of_ble_eq_true rfl) ?_
  intro p e s m ag below meth c A ls Q X hr hlk hnm S hl hQ
  have hx := X.1
  have hb := X.2.1
  have hl : lv_has ls 2 [(0, .ref h0), (1, .int p1)] := hl
  refine lv_iload_n hx hb dX3_barTreasure_0 rfl (lv_at hl 1 rfl) ?_
  have hq1 := S.cut (Bc := []) (Br := [[(h0, .inr (3, [.ref q1, .ref q2, .int pasts, .ref q3, .ref q4, .ref q5, .int length, .int known, .int there, .ref q6, .int spot, .int isWrong, .int sign, .int digit, .int first, .int second]))], [(q1, .inl (gA G 0, 182, .inl g))]]) [] [0, 1] (show ([] ++ ([0, 1] : List Nat)).isPerm (List.range 2) = true by decide +kernel) rfl rfl
  refine m_ri X S hq1 (m_runS (rest := []) (As := [.int p1]) (n := 1) X S hq1 (mt_X3_isPlace G l p1 ) (lw_S q1787 q1788 q90 q1789) (by decide +kernel) ⟨Nat.le_of_ble_eq_true rfl, Nat.le_of_ble_eq_true rfl⟩ rfl hl.1 rfl (Nat.le_of_ble_eq_true rfl) dX3_barTreasure_1 ⟨(Nat.le_of_ble_eq_true rfl), (Nat.le_of_ble_eq_true rfl)⟩) (fun r2 u H locs hp2 S => ?_)
  obtain ⟨k1, rfl⟩ : ∃ z, z = u := ⟨_, rfl⟩
  have hp2 : (r2 = nI 1 ∧ p1 = nI k1 ∧ k1 < 8) ∨ (r2 = nI 0 ∧ ¬ pl p1) := hp2
  have S : Sw G A s.heap [[(h0, .inr (3, [.ref q1, .ref q2, .int pasts, .ref q3, .ref q4, .ref q5, .int length, .int known, .int there, .ref q6, .int spot, .int isWrong, .int sign, .int digit, .int first, .int second]))], [(q1, .inl (gA G 0, 182, .inl g))]] _ _ := S
  rcases hp2 with ⟨hhp2_0, hhp2_1, hhp2_2⟩ | ⟨hhp2_0, hhp2_1⟩
  · skip
    subst hhp2_0
    subst hhp2_1
    have hf0_r2 := hhp2_2
    have S : Sw G A s.heap [[(h0, .inr (3, [.ref q1, .ref q2, .int pasts, .ref q3, .ref q4, .ref q5, .int length, .int known, .int there, .ref q6, .int spot, .int isWrong, .int sign, .int digit, .int first, .int second]))], [(q1, .inl (gA G 0, 182, .inl g))]] _ _ := S
    refine lv_if_ne (tgt := 11) hx hb dX3_barTreasure_4 (by decide) (fun c4_3 => ?_) (fun c4_3 => absurd c4_3 (by decide))
    refine lv_aload_n hx hb dX3_barTreasure_11 rfl (lv_at hl 0 rfl) ?_
    have hq4 := S.cut (Bc := [[(h0, .inr (3, [.ref q1, .ref q2, .int pasts, .ref q3, .ref q4, .ref q5, .int length, .int known, .int there, .ref q6, .int spot, .int isWrong, .int sign, .int digit, .int first, .int second]))], [(q1, .inl (gA G 0, 182, .inl g))]]) (Br := []) [0, 1] [] (show ([0, 1] ++ ([] : List Nat)).isPerm (List.range 2) = true by decide +kernel) rfl rfl
    refine m_ri X S hq4 (m_runV (rest := []) (As := []) (n := 0) X S hq4 (mt_X3_hasBegun G l h0 q1 q2 q3 q4 q5 q6 pasts length known there spot isWrong sign digit first second g ) (lw_V q1790 q1792 qs48 q90 q1793) (m_recv X S 0 rfl rfl) (by decide +kernel) ⟨Nat.le_of_ble_eq_true rfl, Nat.le_of_ble_eq_true rfl⟩ rfl hl.1 rfl (Nat.le_of_ble_eq_true rfl) dX3_barTreasure_12 ⟨(Nat.le_of_ble_eq_true rfl), (Nat.le_of_ble_eq_true rfl)⟩) (fun r5 u H locs hp5 S => ?_)
    have hp5 : (r5 = nI 1 ∧ ¬ g 6 ≤ 0) ∨ (r5 = nI 0 ∧ g 6 ≤ 0) := hp5
    have S : Sw G A s.heap [[(h0, .inr (3, [.ref q1, .ref q2, .int pasts, .ref q3, .ref q4, .ref q5, .int length, .int known, .int there, .ref q6, .int spot, .int isWrong, .int sign, .int digit, .int first, .int second]))], [(q1, .inl (gA G 0, 182, .inl g))]] _ _ := S
    rcases hp5 with ⟨hhp5_0, hhp5_1⟩ | ⟨hhp5_0, hhp5_1⟩
    · skip
      subst hhp5_0
      have hf0_r5 := hhp5_1
      have S : Sw G A s.heap [[(h0, .inr (3, [.ref q1, .ref q2, .int pasts, .ref q3, .ref q4, .ref q5, .int length, .int known, .int there, .ref q6, .int spot, .int isWrong, .int sign, .int digit, .int first, .int second]))], [(q1, .inl (gA G 0, 182, .inl g))]] _ _ := S
      refine lv_if_eq (tgt := 23) hx hb dX3_barTreasure_15 (by decide) (fun c15_6 => absurd c15_6 (by decide)) (fun c15_6 => ?_)
      refine lv_bipush (v := (-5 : Int32)) hx hb dX3_barTreasure_18 (by decide) ?_
      refine lv_goto (tgt := 24) hx hb dX3_barTreasure_20 (by decide) ?_
      exact m_iret X hr hlk hQ S k1 (by show ((-5 : Int32) = barTreasS g (nI k1) ∧ barTreasS g (nI k1) < nI 0) ∨ ((-5 : Int32) = nI 0 ∧ (nI k1) = nI k1 ∧ k1 < 8 ∧ g 6 ≤ nI 0 ∧ barTreasS g (nI k1) = nI 0); exact Or.inl ⟨(barTreas_5  (by omega) (by assumption)).symm, by rw [barTreas_5  (by omega) (by assumption)]; exact lt_m5⟩) [0, 1] [] (show ([0, 1] ++ ([] : List Nat)).isPerm (List.range 2) = true by decide +kernel) rfl (Nat.le_of_ble_eq_true rfl) (Nat.le_of_ble_eq_true rfl) dX3_barTreasure_24
    · skip
      subst hhp5_0
      have hf0_r5 := hhp5_1
      have S : Sw G A s.heap [[(h0, .inr (3, [.ref q1, .ref q2, .int pasts, .ref q3, .ref q4, .ref q5, .int length, .int known, .int there, .ref q6, .int spot, .int isWrong, .int sign, .int digit, .int first, .int second]))], [(q1, .inl (gA G 0, 182, .inl g))]] _ _ := S
      refine lv_if_eq (tgt := 23) hx hb dX3_barTreasure_15 (by decide) (fun c15_7 => ?_) (fun c15_7 => absurd (by decide) c15_7)
      refine lv_iconst (v := nI 0) hx hb dX3_barTreasure_23 (by decide) ?_
      exact m_iret X hr hlk hQ S k1 (by show ((nI 0) = barTreasS g (nI k1) ∧ barTreasS g (nI k1) < nI 0) ∨ ((nI 0) = nI 0 ∧ (nI k1) = nI k1 ∧ k1 < 8 ∧ g 6 ≤ nI 0 ∧ barTreasS g (nI k1) = nI 0); exact Or.inr ⟨rfl, rfl, (by first | assumption | omega), (by assumption), barTreas_0  (by omega) (by assumption)⟩) [0, 1] [] (show ([0, 1] ++ ([] : List Nat)).isPerm (List.range 2) = true by decide +kernel) rfl (Nat.le_of_ble_eq_true rfl) (Nat.le_of_ble_eq_true rfl) dX3_barTreasure_24
  · skip
    subst hhp2_0
    have hf0_r2 := hhp2_1
    have S : Sw G A s.heap [[(h0, .inr (3, [.ref q1, .ref q2, .int pasts, .ref q3, .ref q4, .ref q5, .int length, .int known, .int there, .ref q6, .int spot, .int isWrong, .int sign, .int digit, .int first, .int second]))], [(q1, .inl (gA G 0, 182, .inl g))]] _ _ := S
    refine lv_if_ne (tgt := 11) hx hb dX3_barTreasure_4 (by decide) (fun c4_8 => absurd (by decide) c4_8) (fun c4_8 => ?_)
    refine lv_iconst (v := (-1 : Int32)) hx hb dX3_barTreasure_7 (by decide) ?_
    refine lv_goto (tgt := 24) hx hb dX3_barTreasure_8 (by decide) ?_
    exact m_iret X hr hlk hQ S 0 (by show ((-1 : Int32) = barTreasS g p1 ∧ barTreasS g p1 < nI 0) ∨ ((-1 : Int32) = nI 0 ∧ p1 = nI 0 ∧ 0 < 8 ∧ g 6 ≤ nI 0 ∧ barTreasS g (nI 0) = nI 0); exact Or.inl ⟨(barTreas_1  (by assumption)).symm, by rw [barTreas_1  (by assumption)]; exact lt_m1⟩) [0, 1] [] (show ([0, 1] ++ ([] : List Nat)).isPerm (List.range 2) = true by decide +kernel) rfl (Nat.le_of_ble_eq_true rfl) (Nat.le_of_ble_eq_true rfl) dX3_barTreasure_24

abbrev rm_X3_barPair : Room := { frames := 2, cells := 0, slots := 0, locals := 42 }
set_option maxHeartbeats 4000000 in
set_option maxRecDepth 100000 in
theorem mt_X3_barPair (G : mGG) (l : Launch) (p1 : Int32) (p2 : Int32) : Cg G l yX3_barPair (ws_ yX3_barPair cX3_barPair 2 (some FieldType.int)) rm_X3_barPair [.int p1, .int p2] [] (Qi G (fun (r : Int32) (u : Nat × Nat) => (r = barPairS p1 p2 ∧ barPairS p1 p2 < nI 0) ∨ (r = nI 0 ∧ p1 = nI u.1 ∧ p2 = nI u.2 ∧ u.1 < 8 ∧ u.2 < 8 ∧ u.1 ≠ u.2 ∧ barPairS (nI u.1) (nI u.2) = nI 0)) (fun (u : Nat × Nat) => [])) := by
  refine Cg.intro (own := RX3) (cc := cX3_barPair) (maxL := 2) (ret := (some FieldType.int)) (by decide +kernel) rfl rfl (Nat.le_of_ble_eq_true rfl) ?_
  intro p e s m ag below meth c A ls Q X hr hlk hnm S hl hQ
  have hx := X.1
  have hb := X.2.1
  have hl : lv_has ls 2 [(0, .int p1), (1, .int p2)] := hl
  refine lv_iload_n hx hb dX3_barPair_0 rfl (lv_at hl 0 rfl) ?_
  have hq1 := S.cut (Bc := []) (Br := []) [] [] (show ([] ++ ([] : List Nat)).isPerm (List.range 0) = true by decide +kernel) rfl rfl
  refine m_ri X S hq1 (m_runS (rest := []) (As := [.int p1]) (n := 1) X S hq1 (mt_X3_isPlace G l p1 ) (lw_S q1787 q1788 q90 q1789) (by decide +kernel) ⟨Nat.le_of_ble_eq_true rfl, Nat.le_of_ble_eq_true rfl⟩ rfl hl.1 rfl (Nat.le_of_ble_eq_true rfl) dX3_barPair_1 ⟨(Nat.le_of_ble_eq_true rfl), (Nat.le_of_ble_eq_true rfl)⟩) (fun r2 u H locs hp2 S => ?_)
  obtain ⟨k1, rfl⟩ : ∃ z, z = u := ⟨_, rfl⟩
  have hp2 : (r2 = nI 1 ∧ p1 = nI k1 ∧ k1 < 8) ∨ (r2 = nI 0 ∧ ¬ pl p1) := hp2
  have S : Sw G A s.heap [] _ _ := S
  rcases hp2 with ⟨hhp2_0, hhp2_1, hhp2_2⟩ | ⟨hhp2_0, hhp2_1⟩
  · skip
    subst hhp2_0
    subst hhp2_1
    have hf0_r2 := hhp2_2
    have S : Sw G A s.heap [] _ _ := S
    refine lv_if_eq (tgt := 14) hx hb dX3_barPair_4 (by decide) (fun c4_3 => absurd c4_3 (by decide)) (fun c4_3 => ?_)
    refine lv_iload_n hx hb dX3_barPair_7 rfl (lv_at hl 1 rfl) ?_
    have hq4 := S.cut (Bc := []) (Br := []) [] [] (show ([] ++ ([] : List Nat)).isPerm (List.range 0) = true by decide +kernel) rfl rfl
    refine m_ri X S hq4 (m_runS (rest := []) (As := [.int p2]) (n := 1) X S hq4 (mt_X3_isPlace G l p2 ) (lw_S q1787 q1788 q90 q1789) (by decide +kernel) ⟨Nat.le_of_ble_eq_true rfl, Nat.le_of_ble_eq_true rfl⟩ rfl hl.1 rfl (Nat.le_of_ble_eq_true rfl) dX3_barPair_8 ⟨(Nat.le_of_ble_eq_true rfl), (Nat.le_of_ble_eq_true rfl)⟩) (fun r5 u H locs hp5 S => ?_)
    obtain ⟨k2, rfl⟩ : ∃ z, z = u := ⟨_, rfl⟩
    have hp5 : (r5 = nI 1 ∧ p2 = nI k2 ∧ k2 < 8) ∨ (r5 = nI 0 ∧ ¬ pl p2) := hp5
    have S : Sw G A s.heap [] _ _ := S
    rcases hp5 with ⟨hhp5_0, hhp5_1, hhp5_2⟩ | ⟨hhp5_0, hhp5_1⟩
    · skip
      subst hhp5_0
      subst hhp5_1
      have hf0_r5 := hhp5_2
      have S : Sw G A s.heap [] _ _ := S
      refine lv_if_ne (tgt := 18) hx hb dX3_barPair_11 (by decide) (fun c11_6 => ?_) (fun c11_6 => absurd c11_6 (by decide))
      refine lv_iload_n hx hb dX3_barPair_18 rfl (lv_at hl 0 rfl) ?_
      refine lv_iload_n hx hb dX3_barPair_19 rfl (lv_at hl 1 rfl) ?_
      refine lv_icmp_ne (tgt := 28) hx hb dX3_barPair_20 (by decide) (fun c20_7 => ?_) (fun c20_7 => ?_)
      · skip
        have c20_7 : ¬ k1 = k2 := fun z => c20_7 ((nI_eq (a := k1) (b := k2) (by omega) (by omega)).mpr z)
        refine lv_iconst (v := nI 0) hx hb dX3_barPair_28 (by decide) ?_
        exact m_iret X hr hlk hQ S ⟨k1, k2⟩ (by show ((nI 0) = barPairS (nI k1) (nI k2) ∧ barPairS (nI k1) (nI k2) < nI 0) ∨ ((nI 0) = nI 0 ∧ (nI k1) = nI k1 ∧ (nI k2) = nI k2 ∧ k1 < 8 ∧ k2 < 8 ∧ k1 ≠ k2 ∧ barPairS (nI k1) (nI k2) = nI 0); exact Or.inr ⟨rfl, rfl, rfl, (by first | assumption | omega), (by first | assumption | omega), (by first | assumption | omega), barPair_0  (by omega) (by omega) (by omega)⟩) [] [] (show ([] ++ ([] : List Nat)).isPerm (List.range 0) = true by decide +kernel) rfl (Nat.le_of_ble_eq_true rfl) (Nat.le_of_ble_eq_true rfl) dX3_barPair_29
      · skip
        have c20_7 : k1 = k2 := (nI_eq (a := k1) (b := k2) (by omega) (by omega)).mp c20_7
        refine lv_bipush (v := (-2 : Int32)) hx hb dX3_barPair_23 (by decide) ?_
        refine lv_goto (tgt := 29) hx hb dX3_barPair_25 (by decide) ?_
        exact m_iret X hr hlk hQ S ⟨k1, k2⟩ (by show ((-2 : Int32) = barPairS (nI k1) (nI k2) ∧ barPairS (nI k1) (nI k2) < nI 0) ∨ ((-2 : Int32) = nI 0 ∧ (nI k1) = nI k1 ∧ (nI k2) = nI k2 ∧ k1 < 8 ∧ k2 < 8 ∧ k1 ≠ k2 ∧ barPairS (nI k1) (nI k2) = nI 0); exact Or.inl ⟨(barPair_2  (by omega) (by omega) (by omega)).symm, by rw [barPair_2  (by omega) (by omega) (by omega)]; exact lt_m2⟩) [] [] (show ([] ++ ([] : List Nat)).isPerm (List.range 0) = true by decide +kernel) rfl (Nat.le_of_ble_eq_true rfl) (Nat.le_of_ble_eq_true rfl) dX3_barPair_29
    · skip
      subst hhp5_0
      have hf0_r5 := hhp5_1
      have S : Sw G A s.heap [] _ _ := S
      refine lv_if_ne (tgt := 18) hx hb dX3_barPair_11 (by decide) (fun c11_8 => absurd (by decide) c11_8) (fun c11_8 => ?_)
      refine lv_iconst (v := (-1 : Int32)) hx hb dX3_barPair_14 (by decide) ?_
      refine lv_goto (tgt := 29) hx hb dX3_barPair_15 (by decide) ?_
      exact m_iret X hr hlk hQ S ⟨k1, 0⟩ (by show ((-1 : Int32) = barPairS (nI k1) p2 ∧ barPairS (nI k1) p2 < nI 0) ∨ ((-1 : Int32) = nI 0 ∧ (nI k1) = nI k1 ∧ p2 = nI 0 ∧ k1 < 8 ∧ 0 < 8 ∧ k1 ≠ 0 ∧ barPairS (nI k1) (nI 0) = nI 0); exact Or.inl ⟨(barPair_1  (by first | assumption | exact Or.inl (by assumption) | exact Or.inr (by assumption) | exact Or.inl (by omega) | exact Or.inr (Or.inl (by assumption)) | exact Or.inr (Or.inr (by assumption)))).symm, by rw [barPair_1  (by first | assumption | exact Or.inl (by assumption) | exact Or.inr (by assumption) | exact Or.inl (by omega) | exact Or.inr (Or.inl (by assumption)) | exact Or.inr (Or.inr (by assumption)))]; exact lt_m1⟩) [] [] (show ([] ++ ([] : List Nat)).isPerm (List.range 0) = true by decide +kernel) rfl (Nat.le_of_ble_eq_true rfl) (Nat.le_of_ble_eq_true rfl) dX3_barPair_29
  · skip
    subst hhp2_0
    have hf0_r2 := hhp2_1
    have S : Sw G A s.heap [] _ _ := S
    refine lv_if_eq (tgt := 14) hx hb dX3_barPair_4 (by decide) (fun c4_9 => ?_) (fun c4_9 => absurd (by decide) c4_9)
    refine lv_iconst (v := (-1 : Int32)) hx hb dX3_barPair_14 (by decide) ?_
    refine lv_goto (tgt := 29) hx hb dX3_barPair_15 (by decide) ?_
    exact m_iret X hr hlk hQ S ⟨0, 0⟩ (by show ((-1 : Int32) = barPairS p1 p2 ∧ barPairS p1 p2 < nI 0) ∨ ((-1 : Int32) = nI 0 ∧ p1 = nI 0 ∧ p2 = nI 0 ∧ 0 < 8 ∧ 0 < 8 ∧ 0 ≠ 0 ∧ barPairS (nI 0) (nI 0) = nI 0); exact Or.inl ⟨(barPair_1  (by first | assumption | exact Or.inl (by assumption) | exact Or.inr (by assumption) | exact Or.inl (by omega) | exact Or.inr (Or.inl (by assumption)) | exact Or.inr (Or.inr (by assumption)))).symm, by rw [barPair_1  (by first | assumption | exact Or.inl (by assumption) | exact Or.inr (by assumption) | exact Or.inl (by omega) | exact Or.inr (Or.inl (by assumption)) | exact Or.inr (Or.inr (by assumption)))]; exact lt_m1⟩) [] [] (show ([] ++ ([] : List Nat)).isPerm (List.range 0) = true by decide +kernel) rfl (Nat.le_of_ble_eq_true rfl) (Nat.le_of_ble_eq_true rfl) dX3_barPair_29

abbrev rm_X3_barClaim : Room := { frames := 2, cells := 0, slots := 0, locals := 42 }
set_option maxHeartbeats 4000000 in
set_option maxRecDepth 100000 in
theorem mt_X3_barClaim (G : mGG) (l : Launch) (h0 : Nat) (q1 : Nat) (q2 : Nat) (q3 : Nat) (q4 : Nat) (q5 : Nat) (q6 : Nat) (pasts : Int32) (length : Int32) (known : Int32) (there : Int32) (spot : Int32) (isWrong : Int32) (sign : Int32) (digit : Int32) (first : Int32) (second : Int32) (g : Nat → Int32) (p1 : Int32) (p2 : Int32) (is : Int32) : Cg G l yX3_barClaim (ws_ yX3_barClaim cX3_barClaim 4 (some FieldType.int)) rm_X3_barClaim [.ref h0, .int p1, .int p2, .int is] [[(h0, .inr (3, [.ref q1, .ref q2, .int pasts, .ref q3, .ref q4, .ref q5, .int length, .int known, .int there, .ref q6, .int spot, .int isWrong, .int sign, .int digit, .int first, .int second]))], [(q1, .inl (gA G 0, 182, .inl g))]] (Qi G (fun (r : Int32) (u : Nat × Nat) => (r = barClaimS g p1 p2 is ∧ barClaimS g p1 p2 is < nI 0) ∨ (r = nI 0 ∧ p1 = nI u.1 ∧ p2 = nI u.2 ∧ u.1 < 8 ∧ u.2 < 8 ∧ u.1 ≠ u.2 ∧ (nI 0 ≤ is ∧ is ≤ nI 1) ∧ g 6 = 1 ∧ barClaimS g (nI u.1) (nI u.2) is = nI 0)) (fun (u : Nat × Nat) => [[(h0, .inr (3, [.ref q1, .ref q2, .int pasts, .ref q3, .ref q4, .ref q5, .int length, .int known, .int there, .ref q6, .int spot, .int isWrong, .int sign, .int digit, .int first, .int second]))], [(q1, .inl (gA G 0, 182, .inl g))]])) := by
  refine Cg.intro (own := RX3) (cc := cX3_barClaim) (maxL := 4) (ret := (some FieldType.int)) (by decide +kernel) rfl rfl (Nat.le_of_ble_eq_true rfl) ?_
  intro p e s m ag below meth c A ls Q X hr hlk hnm S hl hQ
  have hx := X.1
  have hb := X.2.1
  have hl : lv_has ls 4 [(0, .ref h0), (1, .int p1), (2, .int p2), (3, .int is)] := hl
  refine lv_iload_n hx hb dX3_barClaim_0 rfl (lv_at hl 1 rfl) ?_
  have hq1 := S.cut (Bc := []) (Br := [[(h0, .inr (3, [.ref q1, .ref q2, .int pasts, .ref q3, .ref q4, .ref q5, .int length, .int known, .int there, .ref q6, .int spot, .int isWrong, .int sign, .int digit, .int first, .int second]))], [(q1, .inl (gA G 0, 182, .inl g))]]) [] [0, 1] (show ([] ++ ([0, 1] : List Nat)).isPerm (List.range 2) = true by decide +kernel) rfl rfl
  refine m_ri X S hq1 (m_runS (rest := []) (As := [.int p1]) (n := 1) X S hq1 (mt_X3_isPlace G l p1 ) (lw_S q1787 q1788 q90 q1789) (by decide +kernel) ⟨Nat.le_of_ble_eq_true rfl, Nat.le_of_ble_eq_true rfl⟩ rfl hl.1 rfl (Nat.le_of_ble_eq_true rfl) dX3_barClaim_1 ⟨(Nat.le_of_ble_eq_true rfl), (Nat.le_of_ble_eq_true rfl)⟩) (fun r2 u H locs hp2 S => ?_)
  obtain ⟨k1, rfl⟩ : ∃ z, z = u := ⟨_, rfl⟩
  have hp2 : (r2 = nI 1 ∧ p1 = nI k1 ∧ k1 < 8) ∨ (r2 = nI 0 ∧ ¬ pl p1) := hp2
  have S : Sw G A s.heap [[(h0, .inr (3, [.ref q1, .ref q2, .int pasts, .ref q3, .ref q4, .ref q5, .int length, .int known, .int there, .ref q6, .int spot, .int isWrong, .int sign, .int digit, .int first, .int second]))], [(q1, .inl (gA G 0, 182, .inl g))]] _ _ := S
  rcases hp2 with ⟨hhp2_0, hhp2_1, hhp2_2⟩ | ⟨hhp2_0, hhp2_1⟩
  · skip
    subst hhp2_0
    subst hhp2_1
    have hf0_r2 := hhp2_2
    have S : Sw G A s.heap [[(h0, .inr (3, [.ref q1, .ref q2, .int pasts, .ref q3, .ref q4, .ref q5, .int length, .int known, .int there, .ref q6, .int spot, .int isWrong, .int sign, .int digit, .int first, .int second]))], [(q1, .inl (gA G 0, 182, .inl g))]] _ _ := S
    refine lv_if_eq (tgt := 14) hx hb dX3_barClaim_4 (by decide) (fun c4_3 => absurd c4_3 (by decide)) (fun c4_3 => ?_)
    refine lv_iload_n hx hb dX3_barClaim_7 rfl (lv_at hl 2 rfl) ?_
    have hq4 := S.cut (Bc := []) (Br := [[(h0, .inr (3, [.ref q1, .ref q2, .int pasts, .ref q3, .ref q4, .ref q5, .int length, .int known, .int there, .ref q6, .int spot, .int isWrong, .int sign, .int digit, .int first, .int second]))], [(q1, .inl (gA G 0, 182, .inl g))]]) [] [0, 1] (show ([] ++ ([0, 1] : List Nat)).isPerm (List.range 2) = true by decide +kernel) rfl rfl
    refine m_ri X S hq4 (m_runS (rest := []) (As := [.int p2]) (n := 1) X S hq4 (mt_X3_isPlace G l p2 ) (lw_S q1787 q1788 q90 q1789) (by decide +kernel) ⟨Nat.le_of_ble_eq_true rfl, Nat.le_of_ble_eq_true rfl⟩ rfl hl.1 rfl (Nat.le_of_ble_eq_true rfl) dX3_barClaim_8 ⟨(Nat.le_of_ble_eq_true rfl), (Nat.le_of_ble_eq_true rfl)⟩) (fun r5 u H locs hp5 S => ?_)
    obtain ⟨k2, rfl⟩ : ∃ z, z = u := ⟨_, rfl⟩
    have hp5 : (r5 = nI 1 ∧ p2 = nI k2 ∧ k2 < 8) ∨ (r5 = nI 0 ∧ ¬ pl p2) := hp5
    have S : Sw G A s.heap [[(h0, .inr (3, [.ref q1, .ref q2, .int pasts, .ref q3, .ref q4, .ref q5, .int length, .int known, .int there, .ref q6, .int spot, .int isWrong, .int sign, .int digit, .int first, .int second]))], [(q1, .inl (gA G 0, 182, .inl g))]] _ _ := S
    rcases hp5 with ⟨hhp5_0, hhp5_1, hhp5_2⟩ | ⟨hhp5_0, hhp5_1⟩
    · skip
      subst hhp5_0
      subst hhp5_1
      have hf0_r5 := hhp5_2
      have S : Sw G A s.heap [[(h0, .inr (3, [.ref q1, .ref q2, .int pasts, .ref q3, .ref q4, .ref q5, .int length, .int known, .int there, .ref q6, .int spot, .int isWrong, .int sign, .int digit, .int first, .int second]))], [(q1, .inl (gA G 0, 182, .inl g))]] _ _ := S
      refine lv_if_ne (tgt := 18) hx hb dX3_barClaim_11 (by decide) (fun c11_6 => ?_) (fun c11_6 => absurd c11_6 (by decide))
      refine lv_iload_n hx hb dX3_barClaim_18 rfl (lv_at hl 1 rfl) ?_
      refine lv_iload_n hx hb dX3_barClaim_19 rfl (lv_at hl 2 rfl) ?_
      refine lv_icmp_eq (tgt := 32) hx hb dX3_barClaim_20 (by decide) (fun c20_7 => ?_) (fun c20_7 => ?_)
      · skip
        have c20_7 : k1 = k2 := (nI_eq (a := k1) (b := k2) (by omega) (by omega)).mp c20_7
        refine lv_bipush (v := (-2 : Int32)) hx hb dX3_barClaim_32 (by decide) ?_
        refine lv_goto (tgt := 50) hx hb dX3_barClaim_34 (by decide) ?_
        exact m_iret X hr hlk hQ S ⟨k1, k2⟩ (by show ((-2 : Int32) = barClaimS g (nI k1) (nI k2) is ∧ barClaimS g (nI k1) (nI k2) is < nI 0) ∨ ((-2 : Int32) = nI 0 ∧ (nI k1) = nI k1 ∧ (nI k2) = nI k2 ∧ k1 < 8 ∧ k2 < 8 ∧ k1 ≠ k2 ∧ (nI 0 ≤ is ∧ is ≤ nI 1) ∧ g 6 = 1 ∧ barClaimS g (nI k1) (nI k2) is = nI 0); exact Or.inl ⟨(barClaim_2  (by omega) (by omega) (by first | assumption | exact Or.inl (by assumption) | exact Or.inr (by assumption) | exact Or.inl (by omega) | exact Or.inr (Or.inl (by assumption)) | exact Or.inr (Or.inr (by assumption)))).symm, by rw [barClaim_2  (by omega) (by omega) (by first | assumption | exact Or.inl (by assumption) | exact Or.inr (by assumption) | exact Or.inl (by omega) | exact Or.inr (Or.inl (by assumption)) | exact Or.inr (Or.inr (by assumption)))]; exact lt_m2⟩) [0, 1] [] (show ([0, 1] ++ ([] : List Nat)).isPerm (List.range 2) = true by decide +kernel) rfl (Nat.le_of_ble_eq_true rfl) (Nat.le_of_ble_eq_true rfl) dX3_barClaim_50
      · skip
        have c20_7 : ¬ k1 = k2 := fun z => c20_7 ((nI_eq (a := k1) (b := k2) (by omega) (by omega)).mpr z)
        refine lv_iload_n hx hb dX3_barClaim_23 rfl (lv_at hl 3 rfl) ?_
        refine lv_iconst (v := nI 0) hx hb dX3_barClaim_24 (by decide) ?_
        refine lv_iconst (v := nI 1) hx hb dX3_barClaim_25 (by decide) ?_
        have hq8 := S.cut (Bc := []) (Br := [[(h0, .inr (3, [.ref q1, .ref q2, .int pasts, .ref q3, .ref q4, .ref q5, .int length, .int known, .int there, .ref q6, .int spot, .int isWrong, .int sign, .int digit, .int first, .int second]))], [(q1, .inl (gA G 0, 182, .inl g))]]) [] [0, 1] (show ([] ++ ([0, 1] : List Nat)).isPerm (List.range 2) = true by decide +kernel) rfl rfl
        refine m_ri X S hq8 (m_runS (rest := []) (As := [.int is, .int (nI 0), .int (nI 1)]) (n := 3) X S hq8 (mt_X3_in G l is (nI 0) (nI 1) ) (lw_S q1766 q1767 q90 q1768) (by decide +kernel) ⟨Nat.le_of_ble_eq_true rfl, Nat.le_of_ble_eq_true rfl⟩ rfl hl.1 rfl (Nat.le_of_ble_eq_true rfl) dX3_barClaim_26 ⟨(Nat.le_of_ble_eq_true rfl), (Nat.le_of_ble_eq_true rfl)⟩) (fun r9 u H locs hp9 S => ?_)
        have hp9 : (r9 = nI 1 ∧ ((nI 0) ≤ is ∧ is ≤ (nI 1))) ∨ (r9 = nI 0 ∧ (¬ ((nI 0) ≤ is ∧ is ≤ (nI 1)))) := hp9
        have S : Sw G A s.heap [[(h0, .inr (3, [.ref q1, .ref q2, .int pasts, .ref q3, .ref q4, .ref q5, .int length, .int known, .int there, .ref q6, .int spot, .int isWrong, .int sign, .int digit, .int first, .int second]))], [(q1, .inl (gA G 0, 182, .inl g))]] _ _ := S
        rcases hp9 with ⟨hhp9_0, hhp9_1⟩ | ⟨hhp9_0, hhp9_1⟩
        · skip
          subst hhp9_0
          have hf0_r9 := hhp9_1
          have S : Sw G A s.heap [[(h0, .inr (3, [.ref q1, .ref q2, .int pasts, .ref q3, .ref q4, .ref q5, .int length, .int known, .int there, .ref q6, .int spot, .int isWrong, .int sign, .int digit, .int first, .int second]))], [(q1, .inl (gA G 0, 182, .inl g))]] _ _ := S
          refine lv_if_ne (tgt := 37) hx hb dX3_barClaim_29 (by decide) (fun c29_10 => ?_) (fun c29_10 => absurd c29_10 (by decide))
          refine lv_aload_n hx hb dX3_barClaim_37 rfl (lv_at hl 0 rfl) ?_
          have hq11 := S.cut (Bc := [[(h0, .inr (3, [.ref q1, .ref q2, .int pasts, .ref q3, .ref q4, .ref q5, .int length, .int known, .int there, .ref q6, .int spot, .int isWrong, .int sign, .int digit, .int first, .int second]))], [(q1, .inl (gA G 0, 182, .inl g))]]) (Br := []) [0, 1] [] (show ([0, 1] ++ ([] : List Nat)).isPerm (List.range 2) = true by decide +kernel) rfl rfl
          refine m_ri X S hq11 (m_runV (rest := []) (As := []) (n := 0) X S hq11 (mt_X3_goes G l h0 q1 q2 q3 q4 q5 q6 pasts length known there spot isWrong sign digit first second g ) (lw_V q1831 q1833 qs53 q90 q1834) (m_recv X S 0 rfl rfl) (by decide +kernel) ⟨Nat.le_of_ble_eq_true rfl, Nat.le_of_ble_eq_true rfl⟩ rfl hl.1 rfl (Nat.le_of_ble_eq_true rfl) dX3_barClaim_38 ⟨(Nat.le_of_ble_eq_true rfl), (Nat.le_of_ble_eq_true rfl)⟩) (fun r12 u H locs hp12 S => ?_)
          have hp12 : (r12 = nI 1 ∧ g 6 = 1) ∨ (r12 = nI 0 ∧ ¬ g 6 = 1) := hp12
          have S : Sw G A s.heap [[(h0, .inr (3, [.ref q1, .ref q2, .int pasts, .ref q3, .ref q4, .ref q5, .int length, .int known, .int there, .ref q6, .int spot, .int isWrong, .int sign, .int digit, .int first, .int second]))], [(q1, .inl (gA G 0, 182, .inl g))]] _ _ := S
          rcases hp12 with ⟨hhp12_0, hhp12_1⟩ | ⟨hhp12_0, hhp12_1⟩
          · skip
            subst hhp12_0
            have hf0_r12 := hhp12_1
            have S : Sw G A s.heap [[(h0, .inr (3, [.ref q1, .ref q2, .int pasts, .ref q3, .ref q4, .ref q5, .int length, .int known, .int there, .ref q6, .int spot, .int isWrong, .int sign, .int digit, .int first, .int second]))], [(q1, .inl (gA G 0, 182, .inl g))]] _ _ := S
            refine lv_if_eq (tgt := 48) hx hb dX3_barClaim_41 (by decide) (fun c41_13 => absurd c41_13 (by decide)) (fun c41_13 => ?_)
            refine lv_iconst (v := nI 0) hx hb dX3_barClaim_44 (by decide) ?_
            refine lv_goto (tgt := 50) hx hb dX3_barClaim_45 (by decide) ?_
            exact m_iret X hr hlk hQ S ⟨k1, k2⟩ (by show ((nI 0) = barClaimS g (nI k1) (nI k2) is ∧ barClaimS g (nI k1) (nI k2) is < nI 0) ∨ ((nI 0) = nI 0 ∧ (nI k1) = nI k1 ∧ (nI k2) = nI k2 ∧ k1 < 8 ∧ k2 < 8 ∧ k1 ≠ k2 ∧ (nI 0 ≤ is ∧ is ≤ nI 1) ∧ g 6 = 1 ∧ barClaimS g (nI k1) (nI k2) is = nI 0); exact Or.inr ⟨rfl, rfl, rfl, (by first | assumption | omega), (by first | assumption | omega), (by first | assumption | omega), (by first | assumption | exact ⟨(by assumption), (by assumption)⟩), (by assumption), barClaim_0  (by omega) (by omega) (by omega) (by assumption) (by assumption)⟩) [0, 1] [] (show ([0, 1] ++ ([] : List Nat)).isPerm (List.range 2) = true by decide +kernel) rfl (Nat.le_of_ble_eq_true rfl) (Nat.le_of_ble_eq_true rfl) dX3_barClaim_50
          · skip
            subst hhp12_0
            have hf0_r12 := hhp12_1
            have S : Sw G A s.heap [[(h0, .inr (3, [.ref q1, .ref q2, .int pasts, .ref q3, .ref q4, .ref q5, .int length, .int known, .int there, .ref q6, .int spot, .int isWrong, .int sign, .int digit, .int first, .int second]))], [(q1, .inl (gA G 0, 182, .inl g))]] _ _ := S
            refine lv_if_eq (tgt := 48) hx hb dX3_barClaim_41 (by decide) (fun c41_14 => ?_) (fun c41_14 => absurd (by decide) c41_14)
            refine lv_bipush (v := (-5 : Int32)) hx hb dX3_barClaim_48 (by decide) ?_
            exact m_iret X hr hlk hQ S ⟨k1, k2⟩ (by show ((-5 : Int32) = barClaimS g (nI k1) (nI k2) is ∧ barClaimS g (nI k1) (nI k2) is < nI 0) ∨ ((-5 : Int32) = nI 0 ∧ (nI k1) = nI k1 ∧ (nI k2) = nI k2 ∧ k1 < 8 ∧ k2 < 8 ∧ k1 ≠ k2 ∧ (nI 0 ≤ is ∧ is ≤ nI 1) ∧ g 6 = 1 ∧ barClaimS g (nI k1) (nI k2) is = nI 0); exact Or.inl ⟨(barClaim_5  (by omega) (by omega) (by omega) (by assumption) (by assumption)).symm, by rw [barClaim_5  (by omega) (by omega) (by omega) (by assumption) (by assumption)]; exact lt_m5⟩) [0, 1] [] (show ([0, 1] ++ ([] : List Nat)).isPerm (List.range 2) = true by decide +kernel) rfl (Nat.le_of_ble_eq_true rfl) (Nat.le_of_ble_eq_true rfl) dX3_barClaim_50
        · skip
          subst hhp9_0
          have hf0_r9 := hhp9_1
          have S : Sw G A s.heap [[(h0, .inr (3, [.ref q1, .ref q2, .int pasts, .ref q3, .ref q4, .ref q5, .int length, .int known, .int there, .ref q6, .int spot, .int isWrong, .int sign, .int digit, .int first, .int second]))], [(q1, .inl (gA G 0, 182, .inl g))]] _ _ := S
          refine lv_if_ne (tgt := 37) hx hb dX3_barClaim_29 (by decide) (fun c29_15 => absurd (by decide) c29_15) (fun c29_15 => ?_)
          refine lv_bipush (v := (-2 : Int32)) hx hb dX3_barClaim_32 (by decide) ?_
          refine lv_goto (tgt := 50) hx hb dX3_barClaim_34 (by decide) ?_
          exact m_iret X hr hlk hQ S ⟨k1, k2⟩ (by show ((-2 : Int32) = barClaimS g (nI k1) (nI k2) is ∧ barClaimS g (nI k1) (nI k2) is < nI 0) ∨ ((-2 : Int32) = nI 0 ∧ (nI k1) = nI k1 ∧ (nI k2) = nI k2 ∧ k1 < 8 ∧ k2 < 8 ∧ k1 ≠ k2 ∧ (nI 0 ≤ is ∧ is ≤ nI 1) ∧ g 6 = 1 ∧ barClaimS g (nI k1) (nI k2) is = nI 0); exact Or.inl ⟨(barClaim_2  (by omega) (by omega) (by first | assumption | exact Or.inl (by assumption) | exact Or.inr (by assumption) | exact Or.inl (by omega) | exact Or.inr (Or.inl (by assumption)) | exact Or.inr (Or.inr (by assumption)))).symm, by rw [barClaim_2  (by omega) (by omega) (by first | assumption | exact Or.inl (by assumption) | exact Or.inr (by assumption) | exact Or.inl (by omega) | exact Or.inr (Or.inl (by assumption)) | exact Or.inr (Or.inr (by assumption)))]; exact lt_m2⟩) [0, 1] [] (show ([0, 1] ++ ([] : List Nat)).isPerm (List.range 2) = true by decide +kernel) rfl (Nat.le_of_ble_eq_true rfl) (Nat.le_of_ble_eq_true rfl) dX3_barClaim_50
    · skip
      subst hhp5_0
      have hf0_r5 := hhp5_1
      have S : Sw G A s.heap [[(h0, .inr (3, [.ref q1, .ref q2, .int pasts, .ref q3, .ref q4, .ref q5, .int length, .int known, .int there, .ref q6, .int spot, .int isWrong, .int sign, .int digit, .int first, .int second]))], [(q1, .inl (gA G 0, 182, .inl g))]] _ _ := S
      refine lv_if_ne (tgt := 18) hx hb dX3_barClaim_11 (by decide) (fun c11_16 => absurd (by decide) c11_16) (fun c11_16 => ?_)
      refine lv_iconst (v := (-1 : Int32)) hx hb dX3_barClaim_14 (by decide) ?_
      refine lv_goto (tgt := 50) hx hb dX3_barClaim_15 (by decide) ?_
      exact m_iret X hr hlk hQ S ⟨k1, 0⟩ (by show ((-1 : Int32) = barClaimS g (nI k1) p2 is ∧ barClaimS g (nI k1) p2 is < nI 0) ∨ ((-1 : Int32) = nI 0 ∧ (nI k1) = nI k1 ∧ p2 = nI 0 ∧ k1 < 8 ∧ 0 < 8 ∧ k1 ≠ 0 ∧ (nI 0 ≤ is ∧ is ≤ nI 1) ∧ g 6 = 1 ∧ barClaimS g (nI k1) (nI 0) is = nI 0); exact Or.inl ⟨(barClaim_1  (by first | assumption | exact Or.inl (by assumption) | exact Or.inr (by assumption) | exact Or.inl (by omega) | exact Or.inr (Or.inl (by assumption)) | exact Or.inr (Or.inr (by assumption)))).symm, by rw [barClaim_1  (by first | assumption | exact Or.inl (by assumption) | exact Or.inr (by assumption) | exact Or.inl (by omega) | exact Or.inr (Or.inl (by assumption)) | exact Or.inr (Or.inr (by assumption)))]; exact lt_m1⟩) [0, 1] [] (show ([0, 1] ++ ([] : List Nat)).isPerm (List.range 2) = true by decide +kernel) rfl (Nat.le_of_ble_eq_true rfl) (Nat.le_of_ble_eq_true rfl) dX3_barClaim_50
  · skip
    subst hhp2_0
    have hf0_r2 := hhp2_1
    have S : Sw G A s.heap [[(h0, .inr (3, [.ref q1, .ref q2, .int pasts, .ref q3, .ref q4, .ref q5, .int length, .int known, .int there, .ref q6, .int spot, .int isWrong, .int sign, .int digit, .int first, .int second]))], [(q1, .inl (gA G 0, 182, .inl g))]] _ _ := S
    refine lv_if_eq (tgt := 14) hx hb dX3_barClaim_4 (by decide) (fun c4_17 => ?_) (fun c4_17 => absurd (by decide) c4_17)
    refine lv_iconst (v := (-1 : Int32)) hx hb dX3_barClaim_14 (by decide) ?_
    refine lv_goto (tgt := 50) hx hb dX3_barClaim_15 (by decide) ?_
    exact m_iret X hr hlk hQ S ⟨0, 0⟩ (by show ((-1 : Int32) = barClaimS g p1 p2 is ∧ barClaimS g p1 p2 is < nI 0) ∨ ((-1 : Int32) = nI 0 ∧ p1 = nI 0 ∧ p2 = nI 0 ∧ 0 < 8 ∧ 0 < 8 ∧ 0 ≠ 0 ∧ (nI 0 ≤ is ∧ is ≤ nI 1) ∧ g 6 = 1 ∧ barClaimS g (nI 0) (nI 0) is = nI 0); exact Or.inl ⟨(barClaim_1  (by first | assumption | exact Or.inl (by assumption) | exact Or.inr (by assumption) | exact Or.inl (by omega) | exact Or.inr (Or.inl (by assumption)) | exact Or.inr (Or.inr (by assumption)))).symm, by rw [barClaim_1  (by first | assumption | exact Or.inl (by assumption) | exact Or.inr (by assumption) | exact Or.inl (by omega) | exact Or.inr (Or.inl (by assumption)) | exact Or.inr (Or.inr (by assumption)))]; exact lt_m1⟩) [0, 1] [] (show ([0, 1] ++ ([] : List Nat)).isPerm (List.range 2) = true by decide +kernel) rfl (Nat.le_of_ble_eq_true rfl) (Nat.le_of_ble_eq_true rfl) dX3_barClaim_50

abbrev rm_X3_barCheck : Room := { frames := 2, cells := 0, slots := 0, locals := 42 }
set_option maxHeartbeats 4000000 in
set_option maxRecDepth 100000 in
theorem mt_X3_barCheck (G : mGG) (l : Launch) (h0 : Nat) (q1 : Nat) (q2 : Nat) (q3 : Nat) (q4 : Nat) (q5 : Nat) (q6 : Nat) (pasts : Int32) (length : Int32) (known : Int32) (there : Int32) (spot : Int32) (isWrong : Int32) (sign : Int32) (digit : Int32) (first : Int32) (second : Int32) (g : Nat → Int32) (t : Nat) (y1 : Int32) (p1 : Int32) (p2 : Int32) (ht : g 7 = nI t) (ht2 : t ≤ 150) : Cg G l yX3_barCheck (ws_ yX3_barCheck cX3_barCheck 5 (some FieldType.int)) rm_X3_barCheck [.ref h0, .int y1, .int p1, .int p2] [[(h0, .inr (3, [.ref q1, .ref q2, .int pasts, .ref q3, .ref q4, .ref q5, .int length, .int known, .int there, .ref q6, .int spot, .int isWrong, .int sign, .int digit, .int first, .int second]))], [(q1, .inl (gA G 0, 182, .inl g))]] (Qi G (fun (r : Int32) (u : Nat × Nat × Nat) => (r = barCheckS g t y1 p1 p2 ∧ barCheckS g t y1 p1 p2 < nI 0) ∨ (r = nI 0 ∧ y1 = nI u.1 ∧ p1 = nI u.2.1 ∧ p2 = nI u.2.2 ∧ u.1 < 3 ∧ u.1 ≠ t % 3 ∧ u.2.1 < 8 ∧ u.2.2 < 8 ∧ u.2.1 ≠ u.2.2 ∧ g 6 = 1 ∧ bt (g (11 + u.1) ||| g (14 + u.1)) (Ed u.2.1 u.2.2) = true ∧ bt (g 17) (Ed u.2.1 u.2.2) = false ∧ barCheckS g t (nI u.1) (nI u.2.1) (nI u.2.2) = nI 0)) (fun (u : Nat × Nat × Nat) => [[(h0, .inr (3, [.ref q1, .ref q2, .int pasts, .ref q3, .ref q4, .ref q5, .int length, .int known, .int there, .ref q6, .int spot, .int isWrong, .int sign, .int digit, .int first, .int second]))], [(q1, .inl (gA G 0, 182, .inl g))]])) := by
  refine Cg.intro (own := RX3) (cc := cX3_barCheck) (maxL := 5) (ret := (some FieldType.int)) (by decide +kernel) rfl rfl (Nat.le_of_ble_eq_true rfl) ?_
  intro p e s m ag below meth c A ls Q X hr hlk hnm S hl hQ
  have hx := X.1
  have hb := X.2.1
  have hl : lv_has ls 5 [(0, .ref h0), (1, .int y1), (2, .int p1), (3, .int p2)] := hl
  refine lv_iload_n hx hb dX3_barCheck_0 rfl (lv_at hl 1 rfl) ?_
  have hq1 := S.cut (Bc := []) (Br := [[(h0, .inr (3, [.ref q1, .ref q2, .int pasts, .ref q3, .ref q4, .ref q5, .int length, .int known, .int there, .ref q6, .int spot, .int isWrong, .int sign, .int digit, .int first, .int second]))], [(q1, .inl (gA G 0, 182, .inl g))]]) [] [0, 1] (show ([] ++ ([0, 1] : List Nat)).isPerm (List.range 2) = true by decide +kernel) rfl rfl
  refine m_ri X S hq1 (m_runS (rest := []) (As := [.int y1]) (n := 1) X S hq1 (mt_X3_isPlayer G l y1 ) (lw_S q1859 q1860 q90 q1861) (by decide +kernel) ⟨Nat.le_of_ble_eq_true rfl, Nat.le_of_ble_eq_true rfl⟩ rfl hl.1 rfl (Nat.le_of_ble_eq_true rfl) dX3_barCheck_1 ⟨(Nat.le_of_ble_eq_true rfl), (Nat.le_of_ble_eq_true rfl)⟩) (fun r2 u H locs hp2 S => ?_)
  obtain ⟨k0, rfl⟩ : ∃ z, z = u := ⟨_, rfl⟩
  have hp2 : (r2 = nI 1 ∧ y1 = nI k0 ∧ k0 < 3) ∨ (r2 = nI 0 ∧ ¬ py y1) := hp2
  have S : Sw G A s.heap [[(h0, .inr (3, [.ref q1, .ref q2, .int pasts, .ref q3, .ref q4, .ref q5, .int length, .int known, .int there, .ref q6, .int spot, .int isWrong, .int sign, .int digit, .int first, .int second]))], [(q1, .inl (gA G 0, 182, .inl g))]] _ _ := S
  rcases hp2 with ⟨hhp2_0, hhp2_1, hhp2_2⟩ | ⟨hhp2_0, hhp2_1⟩
  · skip
    subst hhp2_0
    subst hhp2_1
    have hf0_r2 := hhp2_2
    have S : Sw G A s.heap [[(h0, .inr (3, [.ref q1, .ref q2, .int pasts, .ref q3, .ref q4, .ref q5, .int length, .int known, .int there, .ref q6, .int spot, .int isWrong, .int sign, .int digit, .int first, .int second]))], [(q1, .inl (gA G 0, 182, .inl g))]] _ _ := S
    refine lv_if_eq (tgt := 21) hx hb dX3_barCheck_4 (by decide) (fun c4_3 => absurd c4_3 (by decide)) (fun c4_3 => ?_)
    refine lv_iload_n hx hb dX3_barCheck_7 rfl (lv_at hl 2 rfl) ?_
    have hq4 := S.cut (Bc := []) (Br := [[(h0, .inr (3, [.ref q1, .ref q2, .int pasts, .ref q3, .ref q4, .ref q5, .int length, .int known, .int there, .ref q6, .int spot, .int isWrong, .int sign, .int digit, .int first, .int second]))], [(q1, .inl (gA G 0, 182, .inl g))]]) [] [0, 1] (show ([] ++ ([0, 1] : List Nat)).isPerm (List.range 2) = true by decide +kernel) rfl rfl
    refine m_ri X S hq4 (m_runS (rest := []) (As := [.int p1]) (n := 1) X S hq4 (mt_X3_isPlace G l p1 ) (lw_S q1787 q1788 q90 q1789) (by decide +kernel) ⟨Nat.le_of_ble_eq_true rfl, Nat.le_of_ble_eq_true rfl⟩ rfl hl.1 rfl (Nat.le_of_ble_eq_true rfl) dX3_barCheck_8 ⟨(Nat.le_of_ble_eq_true rfl), (Nat.le_of_ble_eq_true rfl)⟩) (fun r5 u H locs hp5 S => ?_)
    obtain ⟨k1, rfl⟩ : ∃ z, z = u := ⟨_, rfl⟩
    have hp5 : (r5 = nI 1 ∧ p1 = nI k1 ∧ k1 < 8) ∨ (r5 = nI 0 ∧ ¬ pl p1) := hp5
    have S : Sw G A s.heap [[(h0, .inr (3, [.ref q1, .ref q2, .int pasts, .ref q3, .ref q4, .ref q5, .int length, .int known, .int there, .ref q6, .int spot, .int isWrong, .int sign, .int digit, .int first, .int second]))], [(q1, .inl (gA G 0, 182, .inl g))]] _ _ := S
    rcases hp5 with ⟨hhp5_0, hhp5_1, hhp5_2⟩ | ⟨hhp5_0, hhp5_1⟩
    · skip
      subst hhp5_0
      subst hhp5_1
      have hf0_r5 := hhp5_2
      have S : Sw G A s.heap [[(h0, .inr (3, [.ref q1, .ref q2, .int pasts, .ref q3, .ref q4, .ref q5, .int length, .int known, .int there, .ref q6, .int spot, .int isWrong, .int sign, .int digit, .int first, .int second]))], [(q1, .inl (gA G 0, 182, .inl g))]] _ _ := S
      refine lv_if_eq (tgt := 21) hx hb dX3_barCheck_11 (by decide) (fun c11_6 => absurd c11_6 (by decide)) (fun c11_6 => ?_)
      refine lv_iload_n hx hb dX3_barCheck_14 rfl (lv_at hl 3 rfl) ?_
      have hq7 := S.cut (Bc := []) (Br := [[(h0, .inr (3, [.ref q1, .ref q2, .int pasts, .ref q3, .ref q4, .ref q5, .int length, .int known, .int there, .ref q6, .int spot, .int isWrong, .int sign, .int digit, .int first, .int second]))], [(q1, .inl (gA G 0, 182, .inl g))]]) [] [0, 1] (show ([] ++ ([0, 1] : List Nat)).isPerm (List.range 2) = true by decide +kernel) rfl rfl
      refine m_ri X S hq7 (m_runS (rest := []) (As := [.int p2]) (n := 1) X S hq7 (mt_X3_isPlace G l p2 ) (lw_S q1787 q1788 q90 q1789) (by decide +kernel) ⟨Nat.le_of_ble_eq_true rfl, Nat.le_of_ble_eq_true rfl⟩ rfl hl.1 rfl (Nat.le_of_ble_eq_true rfl) dX3_barCheck_15 ⟨(Nat.le_of_ble_eq_true rfl), (Nat.le_of_ble_eq_true rfl)⟩) (fun r8 u H locs hp8 S => ?_)
      obtain ⟨k2, rfl⟩ : ∃ z, z = u := ⟨_, rfl⟩
      have hp8 : (r8 = nI 1 ∧ p2 = nI k2 ∧ k2 < 8) ∨ (r8 = nI 0 ∧ ¬ pl p2) := hp8
      have S : Sw G A s.heap [[(h0, .inr (3, [.ref q1, .ref q2, .int pasts, .ref q3, .ref q4, .ref q5, .int length, .int known, .int there, .ref q6, .int spot, .int isWrong, .int sign, .int digit, .int first, .int second]))], [(q1, .inl (gA G 0, 182, .inl g))]] _ _ := S
      rcases hp8 with ⟨hhp8_0, hhp8_1, hhp8_2⟩ | ⟨hhp8_0, hhp8_1⟩
      · skip
        subst hhp8_0
        subst hhp8_1
        have hf0_r8 := hhp8_2
        have S : Sw G A s.heap [[(h0, .inr (3, [.ref q1, .ref q2, .int pasts, .ref q3, .ref q4, .ref q5, .int length, .int known, .int there, .ref q6, .int spot, .int isWrong, .int sign, .int digit, .int first, .int second]))], [(q1, .inl (gA G 0, 182, .inl g))]] _ _ := S
        refine lv_if_ne (tgt := 23) hx hb dX3_barCheck_18 (by decide) (fun c18_9 => ?_) (fun c18_9 => absurd c18_9 (by decide))
        refine lv_iload_n hx hb dX3_barCheck_23 rfl (lv_at hl 1 rfl) ?_
        refine lv_aload_n hx hb dX3_barCheck_24 rfl (lv_at hl 0 rfl) ?_
        have hq10 := S.cut (Bc := [[(h0, .inr (3, [.ref q1, .ref q2, .int pasts, .ref q3, .ref q4, .ref q5, .int length, .int known, .int there, .ref q6, .int spot, .int isWrong, .int sign, .int digit, .int first, .int second]))], [(q1, .inl (gA G 0, 182, .inl g))]]) (Br := []) [0, 1] [] (show ([0, 1] ++ ([] : List Nat)).isPerm (List.range 2) = true by decide +kernel) rfl rfl
        refine m_ri X S hq10 (m_runV (rest := [.int (nI k0)]) (As := []) (n := 0) X S hq10 (mt_X3_turn G l h0 q1 q2 q3 q4 q5 q6 pasts length known there spot isWrong sign digit first second g t (by omega) (by omega)) (lw_V q1839 q1841 qs55 q90 q1842) (m_recv X S 0 rfl rfl) (by decide +kernel) ⟨Nat.le_of_ble_eq_true rfl, Nat.le_of_ble_eq_true rfl⟩ rfl hl.1 rfl (Nat.le_of_ble_eq_true rfl) dX3_barCheck_25 ⟨(Nat.le_of_ble_eq_true rfl), (Nat.le_of_ble_eq_true rfl)⟩) (fun r11 u H locs hp11 S => ?_)
        have hp11 : r11 = nI (t % 3) := hp11
        have hhp11_0 := hp11
        subst hhp11_0
        have S : Sw G A s.heap [[(h0, .inr (3, [.ref q1, .ref q2, .int pasts, .ref q3, .ref q4, .ref q5, .int length, .int known, .int there, .ref q6, .int spot, .int isWrong, .int sign, .int digit, .int first, .int second]))], [(q1, .inl (gA G 0, 182, .inl g))]] _ _ := S
        refine lv_icmp_eq (tgt := 36) hx hb dX3_barCheck_28 (by decide) (fun c28_12 => ?_) (fun c28_12 => ?_)
        · skip
          have c28_12 : k0 = (t % 3) := (nI_eq (a := k0) (b := (t % 3)) (by omega) (by omega)).mp c28_12
          refine lv_bipush (v := (-2 : Int32)) hx hb dX3_barCheck_36 (by decide) ?_
          exact m_iret X hr hlk hQ S ⟨k0, k1, k2⟩ (by show ((-2 : Int32) = barCheckS g t (nI k0) (nI k1) (nI k2) ∧ barCheckS g t (nI k0) (nI k1) (nI k2) < nI 0) ∨ ((-2 : Int32) = nI 0 ∧ (nI k0) = nI k0 ∧ (nI k1) = nI k1 ∧ (nI k2) = nI k2 ∧ k0 < 3 ∧ k0 ≠ t % 3 ∧ k1 < 8 ∧ k2 < 8 ∧ k1 ≠ k2 ∧ g 6 = 1 ∧ bt (g (11 + k0) ||| g (14 + k0)) (Ed k1 k2) = true ∧ bt (g 17) (Ed k1 k2) = false ∧ barCheckS g t (nI k0) (nI k1) (nI k2) = nI 0); exact Or.inl ⟨(barCheck_2  (by omega) (by omega) (by omega) (by first | assumption | exact Or.inl (by assumption) | exact Or.inr (by assumption) | exact Or.inr (by omega) | exact Or.inl (by omega) | exact Or.inr (Or.inl (by assumption)) | exact Or.inr (Or.inr (by assumption)))).symm, by rw [barCheck_2  (by omega) (by omega) (by omega) (by first | assumption | exact Or.inl (by assumption) | exact Or.inr (by assumption) | exact Or.inr (by omega) | exact Or.inl (by omega) | exact Or.inr (Or.inl (by assumption)) | exact Or.inr (Or.inr (by assumption)))]; exact lt_m2⟩) [0, 1] [] (show ([0, 1] ++ ([] : List Nat)).isPerm (List.range 2) = true by decide +kernel) rfl (Nat.le_of_ble_eq_true rfl) (Nat.le_of_ble_eq_true rfl) dX3_barCheck_38
        · skip
          have c28_12 : ¬ k0 = (t % 3) := fun z => c28_12 ((nI_eq (a := k0) (b := (t % 3)) (by omega) (by omega)).mpr z)
          refine lv_iload_n hx hb dX3_barCheck_31 rfl (lv_at hl 2 rfl) ?_
          refine lv_iload_n hx hb dX3_barCheck_32 rfl (lv_at hl 3 rfl) ?_
          refine lv_icmp_ne (tgt := 39) hx hb dX3_barCheck_33 (by decide) (fun c33_13 => ?_) (fun c33_13 => ?_)
          · skip
            have c33_13 : ¬ k1 = k2 := fun z => c33_13 ((nI_eq (a := k1) (b := k2) (by omega) (by omega)).mpr z)
            have hEd : Ed k1 k2 < 28 := Ed_lt _ (by omega) _ (by omega) (by omega)
            refine lv_iconst (v := nI 1) hx hb dX3_barCheck_39 (by decide) ?_
            refine lv_iload_n hx hb dX3_barCheck_40 rfl (lv_at hl 2 rfl) ?_
            refine lv_iload_n hx hb dX3_barCheck_41 rfl (lv_at hl 3 rfl) ?_
            have hq14 := S.cut (Bc := []) (Br := [[(h0, .inr (3, [.ref q1, .ref q2, .int pasts, .ref q3, .ref q4, .ref q5, .int length, .int known, .int there, .ref q6, .int spot, .int isWrong, .int sign, .int digit, .int first, .int second]))], [(q1, .inl (gA G 0, 182, .inl g))]]) [] [0, 1] (show ([] ++ ([0, 1] : List Nat)).isPerm (List.range 2) = true by decide +kernel) rfl rfl
            refine m_ri X S hq14 (m_runS (rest := [.int (nI 1)]) (As := [.int (nI k1), .int (nI k2)]) (n := 2) X S hq14 (mt_X3_edge G l k1 k2 (by omega) (by omega) (by omega)) (lw_S q1798 q1799 q90 q1800) (by decide +kernel) ⟨Nat.le_of_ble_eq_true rfl, Nat.le_of_ble_eq_true rfl⟩ rfl hl.1 rfl (Nat.le_of_ble_eq_true rfl) dX3_barCheck_42 ⟨(Nat.le_of_ble_eq_true rfl), (Nat.le_of_ble_eq_true rfl)⟩) (fun r15 u H locs hp15 S => ?_)
            have hp15 : r15 = nI (Ed k1 k2) := hp15
            have hhp15_0 := hp15
            subst hhp15_0
            have S : Sw G A s.heap [[(h0, .inr (3, [.ref q1, .ref q2, .int pasts, .ref q3, .ref q4, .ref q5, .int length, .int known, .int there, .ref q6, .int spot, .int isWrong, .int sign, .int digit, .int first, .int second]))], [(q1, .inl (gA G 0, 182, .inl g))]] _ _ := S
            refine lv_ishl hx hb dX3_barCheck_45 ?_
            refine lv_toe (y := bit (Ed k1 k2)) (rfl) ?_
            refine lv_istore (lv' := [(4, .int (bit (Ed k1 k2))), (0, .ref h0), (1, .int (nI k0)), (2, .int (nI k1)), (3, .int (nI k2))]) hx hb dX3_barCheck_46 hl (Nat.le_of_ble_eq_true rfl) rfl (fun ls hl => ?_)
            refine lv_aload_n hx hb dX3_barCheck_48 rfl (lv_at hl 1 rfl) ?_
            have hq16 := S.cut (Bc := [[(h0, .inr (3, [.ref q1, .ref q2, .int pasts, .ref q3, .ref q4, .ref q5, .int length, .int known, .int there, .ref q6, .int spot, .int isWrong, .int sign, .int digit, .int first, .int second]))], [(q1, .inl (gA G 0, 182, .inl g))]]) (Br := []) [0, 1] [] (show ([0, 1] ++ ([] : List Nat)).isPerm (List.range 2) = true by decide +kernel) rfl rfl
            refine m_ri X S hq16 (m_runV (rest := []) (As := []) (n := 0) X S hq16 (mt_X3_goes G l h0 q1 q2 q3 q4 q5 q6 pasts length known there spot isWrong sign digit first second g ) (lw_V q1831 q1833 qs53 q90 q1834) (m_recv X S 0 rfl rfl) (by decide +kernel) ⟨Nat.le_of_ble_eq_true rfl, Nat.le_of_ble_eq_true rfl⟩ rfl hl.1 rfl (Nat.le_of_ble_eq_true rfl) dX3_barCheck_49 ⟨(Nat.le_of_ble_eq_true rfl), (Nat.le_of_ble_eq_true rfl)⟩) (fun r17 u H locs hp17 S => ?_)
            have hp17 : (r17 = nI 1 ∧ g 6 = 1) ∨ (r17 = nI 0 ∧ ¬ g 6 = 1) := hp17
            have S : Sw G A s.heap [[(h0, .inr (3, [.ref q1, .ref q2, .int pasts, .ref q3, .ref q4, .ref q5, .int length, .int known, .int there, .ref q6, .int spot, .int isWrong, .int sign, .int digit, .int first, .int second]))], [(q1, .inl (gA G 0, 182, .inl g))]] _ _ := S
            rcases hp17 with ⟨hhp17_0, hhp17_1⟩ | ⟨hhp17_0, hhp17_1⟩
            · skip
              subst hhp17_0
              have hf0_r17 := hhp17_1
              have S : Sw G A s.heap [[(h0, .inr (3, [.ref q1, .ref q2, .int pasts, .ref q3, .ref q4, .ref q5, .int length, .int known, .int there, .ref q6, .int spot, .int isWrong, .int sign, .int digit, .int first, .int second]))], [(q1, .inl (gA G 0, 182, .inl g))]] _ _ := S
              refine lv_if_eq (tgt := 93) hx hb dX3_barCheck_52 (by decide) (fun c52_18 => absurd c52_18 (by decide)) (fun c52_18 => ?_)
              refine lv_aload_n hx hb dX3_barCheck_55 rfl (lv_at hl 1 rfl) ?_
              refine m_get X S 0 rfl (T := TX3) (N := 16) in_X3 rfl 0 (by decide) q1712 (fun _ h9 => h9) rfl dX3_barCheck_56 ?_
              refine lv_bipush (v := nI 11) hx hb dX3_barCheck_59 (by decide) ?_
              refine lv_iload_n hx hb dX3_barCheck_61 rfl (lv_at hl 2 rfl) ?_
              refine lv_iadd hx hb dX3_barCheck_62 ?_
              refine lv_toe (y := nI (11 + k0)) (nI_add _ _) ?_
              refine m_iald X S 1 rfl (x := nI (11 + k0)) (j := 11 + k0) (nI_clamp (by omega)) (vp_in_nI (by omega) (by omega)) (v := g (11 + k0)) rfl dX3_barCheck_63 ?_
              refine lv_aload_n hx hb dX3_barCheck_64 rfl (lv_at hl 1 rfl) ?_
              refine m_get X S 0 rfl (T := TX3) (N := 16) in_X3 rfl 0 (by decide) q1712 (fun _ h9 => h9) rfl dX3_barCheck_65 ?_
              refine lv_bipush (v := nI 14) hx hb dX3_barCheck_68 (by decide) ?_
              refine lv_iload_n hx hb dX3_barCheck_70 rfl (lv_at hl 2 rfl) ?_
              refine lv_iadd hx hb dX3_barCheck_71 ?_
              refine lv_toe (y := nI (14 + k0)) (nI_add _ _) ?_
              refine m_iald X S 1 rfl (x := nI (14 + k0)) (j := 14 + k0) (nI_clamp (by omega)) (vp_in_nI (by omega) (by omega)) (v := g (14 + k0)) rfl dX3_barCheck_72 ?_
              refine lv_ior hx hb dX3_barCheck_73 ?_
              refine lv_iload hx hb dX3_barCheck_74 (lv_at hl 0 rfl) ?_
              refine lv_iand hx hb dX3_barCheck_76 ?_
              refine lv_if_eq (tgt := 93) hx hb dX3_barCheck_77 (by decide) (fun c77_19 => ?_) (fun c77_19 => ?_)
              · skip
                have c77_19 : bt ((g (11 + k0)) ||| (g (14 + k0))) (Ed k1 k2) = false := (ab_z (by omega)).mp c77_19
                refine lv_bipush (v := (-5 : Int32)) hx hb dX3_barCheck_93 (by decide) ?_
                refine lv_goto (tgt := 99) hx hb dX3_barCheck_95 (by decide) ?_
                exact m_iret X hr hlk hQ S ⟨k0, k1, k2⟩ (by show ((-5 : Int32) = barCheckS g t (nI k0) (nI k1) (nI k2) ∧ barCheckS g t (nI k0) (nI k1) (nI k2) < nI 0) ∨ ((-5 : Int32) = nI 0 ∧ (nI k0) = nI k0 ∧ (nI k1) = nI k1 ∧ (nI k2) = nI k2 ∧ k0 < 3 ∧ k0 ≠ t % 3 ∧ k1 < 8 ∧ k2 < 8 ∧ k1 ≠ k2 ∧ g 6 = 1 ∧ bt (g (11 + k0) ||| g (14 + k0)) (Ed k1 k2) = true ∧ bt (g 17) (Ed k1 k2) = false ∧ barCheckS g t (nI k0) (nI k1) (nI k2) = nI 0); exact Or.inl ⟨(barCheck_5  (by omega) (by omega) (by omega) (by omega) (by omega) (by first | assumption | exact Or.inl (by assumption) | exact Or.inr (by assumption) | exact Or.inl (by omega) | exact Or.inr (Or.inl (by assumption)) | exact Or.inr (Or.inr (by assumption)))).symm, by rw [barCheck_5  (by omega) (by omega) (by omega) (by omega) (by omega) (by first | assumption | exact Or.inl (by assumption) | exact Or.inr (by assumption) | exact Or.inl (by omega) | exact Or.inr (Or.inl (by assumption)) | exact Or.inr (Or.inr (by assumption)))]; exact lt_m5⟩) [0, 1] [] (show ([0, 1] ++ ([] : List Nat)).isPerm (List.range 2) = true by decide +kernel) rfl (Nat.le_of_ble_eq_true rfl) (Nat.le_of_ble_eq_true rfl) dX3_barCheck_99
              · skip
                have c77_19 : bt ((g (11 + k0)) ||| (g (14 + k0))) (Ed k1 k2) = true := (ab_nz (by omega)).mp c77_19
                refine lv_aload_n hx hb dX3_barCheck_80 rfl (lv_at hl 1 rfl) ?_
                refine m_get X S 0 rfl (T := TX3) (N := 16) in_X3 rfl 0 (by decide) q1712 (fun _ h9 => h9) rfl dX3_barCheck_81 ?_
                refine lv_bipush (v := nI 17) hx hb dX3_barCheck_84 (by decide) ?_
                refine m_iald X S 1 rfl (x := nI 17) (j := 17) rfl (vp_in_nI (by decide) (by decide)) (v := g 17) rfl dX3_barCheck_86 ?_
                refine lv_iload hx hb dX3_barCheck_87 (lv_at hl 0 rfl) ?_
                refine lv_iand hx hb dX3_barCheck_89 ?_
                refine lv_if_eq (tgt := 98) hx hb dX3_barCheck_90 (by decide) (fun c90_20 => ?_) (fun c90_20 => ?_)
                · skip
                  have c90_20 : bt (g 17) (Ed k1 k2) = false := (ab_z (by omega)).mp c90_20
                  refine lv_iconst (v := nI 0) hx hb dX3_barCheck_98 (by decide) ?_
                  exact m_iret X hr hlk hQ S ⟨k0, k1, k2⟩ (by show ((nI 0) = barCheckS g t (nI k0) (nI k1) (nI k2) ∧ barCheckS g t (nI k0) (nI k1) (nI k2) < nI 0) ∨ ((nI 0) = nI 0 ∧ (nI k0) = nI k0 ∧ (nI k1) = nI k1 ∧ (nI k2) = nI k2 ∧ k0 < 3 ∧ k0 ≠ t % 3 ∧ k1 < 8 ∧ k2 < 8 ∧ k1 ≠ k2 ∧ g 6 = 1 ∧ bt (g (11 + k0) ||| g (14 + k0)) (Ed k1 k2) = true ∧ bt (g 17) (Ed k1 k2) = false ∧ barCheckS g t (nI k0) (nI k1) (nI k2) = nI 0); exact Or.inr ⟨rfl, rfl, rfl, rfl, (by first | assumption | omega), (by first | assumption | omega), (by first | assumption | omega), (by first | assumption | omega), (by first | assumption | omega), (by assumption), (by assumption), (by assumption), barCheck_0  (by omega) (by omega) (by omega) (by omega) (by omega) (by assumption) (by assumption) (by assumption)⟩) [0, 1] [] (show ([0, 1] ++ ([] : List Nat)).isPerm (List.range 2) = true by decide +kernel) rfl (Nat.le_of_ble_eq_true rfl) (Nat.le_of_ble_eq_true rfl) dX3_barCheck_99
                · skip
                  have c90_20 : bt (g 17) (Ed k1 k2) = true := (ab_nz (by omega)).mp c90_20
                  refine lv_bipush (v := (-5 : Int32)) hx hb dX3_barCheck_93 (by decide) ?_
                  refine lv_goto (tgt := 99) hx hb dX3_barCheck_95 (by decide) ?_
                  exact m_iret X hr hlk hQ S ⟨k0, k1, k2⟩ (by show ((-5 : Int32) = barCheckS g t (nI k0) (nI k1) (nI k2) ∧ barCheckS g t (nI k0) (nI k1) (nI k2) < nI 0) ∨ ((-5 : Int32) = nI 0 ∧ (nI k0) = nI k0 ∧ (nI k1) = nI k1 ∧ (nI k2) = nI k2 ∧ k0 < 3 ∧ k0 ≠ t % 3 ∧ k1 < 8 ∧ k2 < 8 ∧ k1 ≠ k2 ∧ g 6 = 1 ∧ bt (g (11 + k0) ||| g (14 + k0)) (Ed k1 k2) = true ∧ bt (g 17) (Ed k1 k2) = false ∧ barCheckS g t (nI k0) (nI k1) (nI k2) = nI 0); exact Or.inl ⟨(barCheck_5  (by omega) (by omega) (by omega) (by omega) (by omega) (by first | assumption | exact Or.inl (by assumption) | exact Or.inr (by assumption) | exact Or.inl (by omega) | exact Or.inr (Or.inl (by assumption)) | exact Or.inr (Or.inr (by assumption)))).symm, by rw [barCheck_5  (by omega) (by omega) (by omega) (by omega) (by omega) (by first | assumption | exact Or.inl (by assumption) | exact Or.inr (by assumption) | exact Or.inl (by omega) | exact Or.inr (Or.inl (by assumption)) | exact Or.inr (Or.inr (by assumption)))]; exact lt_m5⟩) [0, 1] [] (show ([0, 1] ++ ([] : List Nat)).isPerm (List.range 2) = true by decide +kernel) rfl (Nat.le_of_ble_eq_true rfl) (Nat.le_of_ble_eq_true rfl) dX3_barCheck_99
            · skip
              subst hhp17_0
              have hf0_r17 := hhp17_1
              have S : Sw G A s.heap [[(h0, .inr (3, [.ref q1, .ref q2, .int pasts, .ref q3, .ref q4, .ref q5, .int length, .int known, .int there, .ref q6, .int spot, .int isWrong, .int sign, .int digit, .int first, .int second]))], [(q1, .inl (gA G 0, 182, .inl g))]] _ _ := S
              refine lv_if_eq (tgt := 93) hx hb dX3_barCheck_52 (by decide) (fun c52_21 => ?_) (fun c52_21 => absurd (by decide) c52_21)
              refine lv_bipush (v := (-5 : Int32)) hx hb dX3_barCheck_93 (by decide) ?_
              refine lv_goto (tgt := 99) hx hb dX3_barCheck_95 (by decide) ?_
              exact m_iret X hr hlk hQ S ⟨k0, k1, k2⟩ (by show ((-5 : Int32) = barCheckS g t (nI k0) (nI k1) (nI k2) ∧ barCheckS g t (nI k0) (nI k1) (nI k2) < nI 0) ∨ ((-5 : Int32) = nI 0 ∧ (nI k0) = nI k0 ∧ (nI k1) = nI k1 ∧ (nI k2) = nI k2 ∧ k0 < 3 ∧ k0 ≠ t % 3 ∧ k1 < 8 ∧ k2 < 8 ∧ k1 ≠ k2 ∧ g 6 = 1 ∧ bt (g (11 + k0) ||| g (14 + k0)) (Ed k1 k2) = true ∧ bt (g 17) (Ed k1 k2) = false ∧ barCheckS g t (nI k0) (nI k1) (nI k2) = nI 0); exact Or.inl ⟨(barCheck_5  (by omega) (by omega) (by omega) (by omega) (by omega) (by first | assumption | exact Or.inl (by assumption) | exact Or.inr (by assumption) | exact Or.inl (by omega) | exact Or.inr (Or.inl (by assumption)) | exact Or.inr (Or.inr (by assumption)))).symm, by rw [barCheck_5  (by omega) (by omega) (by omega) (by omega) (by omega) (by first | assumption | exact Or.inl (by assumption) | exact Or.inr (by assumption) | exact Or.inl (by omega) | exact Or.inr (Or.inl (by assumption)) | exact Or.inr (Or.inr (by assumption)))]; exact lt_m5⟩) [0, 1] [] (show ([0, 1] ++ ([] : List Nat)).isPerm (List.range 2) = true by decide +kernel) rfl (Nat.le_of_ble_eq_true rfl) (Nat.le_of_ble_eq_true rfl) dX3_barCheck_99
          · skip
            have c33_13 : k1 = k2 := (nI_eq (a := k1) (b := k2) (by omega) (by omega)).mp c33_13
            refine lv_bipush (v := (-2 : Int32)) hx hb dX3_barCheck_36 (by decide) ?_
            exact m_iret X hr hlk hQ S ⟨k0, k1, k2⟩ (by show ((-2 : Int32) = barCheckS g t (nI k0) (nI k1) (nI k2) ∧ barCheckS g t (nI k0) (nI k1) (nI k2) < nI 0) ∨ ((-2 : Int32) = nI 0 ∧ (nI k0) = nI k0 ∧ (nI k1) = nI k1 ∧ (nI k2) = nI k2 ∧ k0 < 3 ∧ k0 ≠ t % 3 ∧ k1 < 8 ∧ k2 < 8 ∧ k1 ≠ k2 ∧ g 6 = 1 ∧ bt (g (11 + k0) ||| g (14 + k0)) (Ed k1 k2) = true ∧ bt (g 17) (Ed k1 k2) = false ∧ barCheckS g t (nI k0) (nI k1) (nI k2) = nI 0); exact Or.inl ⟨(barCheck_2  (by omega) (by omega) (by omega) (by first | assumption | exact Or.inl (by assumption) | exact Or.inr (by assumption) | exact Or.inr (by omega) | exact Or.inl (by omega) | exact Or.inr (Or.inl (by assumption)) | exact Or.inr (Or.inr (by assumption)))).symm, by rw [barCheck_2  (by omega) (by omega) (by omega) (by first | assumption | exact Or.inl (by assumption) | exact Or.inr (by assumption) | exact Or.inr (by omega) | exact Or.inl (by omega) | exact Or.inr (Or.inl (by assumption)) | exact Or.inr (Or.inr (by assumption)))]; exact lt_m2⟩) [0, 1] [] (show ([0, 1] ++ ([] : List Nat)).isPerm (List.range 2) = true by decide +kernel) rfl (Nat.le_of_ble_eq_true rfl) (Nat.le_of_ble_eq_true rfl) dX3_barCheck_38
      · skip
        subst hhp8_0
        have hf0_r8 := hhp8_1
        have S : Sw G A s.heap [[(h0, .inr (3, [.ref q1, .ref q2, .int pasts, .ref q3, .ref q4, .ref q5, .int length, .int known, .int there, .ref q6, .int spot, .int isWrong, .int sign, .int digit, .int first, .int second]))], [(q1, .inl (gA G 0, 182, .inl g))]] _ _ := S
        refine lv_if_ne (tgt := 23) hx hb dX3_barCheck_18 (by decide) (fun c18_22 => absurd (by decide) c18_22) (fun c18_22 => ?_)
        refine lv_iconst (v := (-1 : Int32)) hx hb dX3_barCheck_21 (by decide) ?_
        exact m_iret X hr hlk hQ S ⟨k0, k1, 0⟩ (by show ((-1 : Int32) = barCheckS g t (nI k0) (nI k1) p2 ∧ barCheckS g t (nI k0) (nI k1) p2 < nI 0) ∨ ((-1 : Int32) = nI 0 ∧ (nI k0) = nI k0 ∧ (nI k1) = nI k1 ∧ p2 = nI 0 ∧ k0 < 3 ∧ k0 ≠ t % 3 ∧ k1 < 8 ∧ 0 < 8 ∧ k1 ≠ 0 ∧ g 6 = 1 ∧ bt (g (11 + k0) ||| g (14 + k0)) (Ed k1 0) = true ∧ bt (g 17) (Ed k1 0) = false ∧ barCheckS g t (nI k0) (nI k1) (nI 0) = nI 0); exact Or.inl ⟨(barCheck_1  (by first | assumption | exact Or.inl (by assumption) | exact Or.inr (by assumption) | exact Or.inl (by omega) | exact Or.inr (Or.inl (by assumption)) | exact Or.inr (Or.inr (by assumption)))).symm, by rw [barCheck_1  (by first | assumption | exact Or.inl (by assumption) | exact Or.inr (by assumption) | exact Or.inl (by omega) | exact Or.inr (Or.inl (by assumption)) | exact Or.inr (Or.inr (by assumption)))]; exact lt_m1⟩) [0, 1] [] (show ([0, 1] ++ ([] : List Nat)).isPerm (List.range 2) = true by decide +kernel) rfl (Nat.le_of_ble_eq_true rfl) (Nat.le_of_ble_eq_true rfl) dX3_barCheck_22
    · skip
      subst hhp5_0
      have hf0_r5 := hhp5_1
      have S : Sw G A s.heap [[(h0, .inr (3, [.ref q1, .ref q2, .int pasts, .ref q3, .ref q4, .ref q5, .int length, .int known, .int there, .ref q6, .int spot, .int isWrong, .int sign, .int digit, .int first, .int second]))], [(q1, .inl (gA G 0, 182, .inl g))]] _ _ := S
      refine lv_if_eq (tgt := 21) hx hb dX3_barCheck_11 (by decide) (fun c11_23 => ?_) (fun c11_23 => absurd (by decide) c11_23)
      refine lv_iconst (v := (-1 : Int32)) hx hb dX3_barCheck_21 (by decide) ?_
      exact m_iret X hr hlk hQ S ⟨k0, 0, 0⟩ (by show ((-1 : Int32) = barCheckS g t (nI k0) p1 p2 ∧ barCheckS g t (nI k0) p1 p2 < nI 0) ∨ ((-1 : Int32) = nI 0 ∧ (nI k0) = nI k0 ∧ p1 = nI 0 ∧ p2 = nI 0 ∧ k0 < 3 ∧ k0 ≠ t % 3 ∧ 0 < 8 ∧ 0 < 8 ∧ 0 ≠ 0 ∧ g 6 = 1 ∧ bt (g (11 + k0) ||| g (14 + k0)) (Ed 0 0) = true ∧ bt (g 17) (Ed 0 0) = false ∧ barCheckS g t (nI k0) (nI 0) (nI 0) = nI 0); exact Or.inl ⟨(barCheck_1  (by first | assumption | exact Or.inl (by assumption) | exact Or.inr (by assumption) | exact Or.inl (by omega) | exact Or.inr (Or.inl (by assumption)) | exact Or.inr (Or.inr (by assumption)))).symm, by rw [barCheck_1  (by first | assumption | exact Or.inl (by assumption) | exact Or.inr (by assumption) | exact Or.inl (by omega) | exact Or.inr (Or.inl (by assumption)) | exact Or.inr (Or.inr (by assumption)))]; exact lt_m1⟩) [0, 1] [] (show ([0, 1] ++ ([] : List Nat)).isPerm (List.range 2) = true by decide +kernel) rfl (Nat.le_of_ble_eq_true rfl) (Nat.le_of_ble_eq_true rfl) dX3_barCheck_22
  · skip
    subst hhp2_0
    have hf0_r2 := hhp2_1
    have S : Sw G A s.heap [[(h0, .inr (3, [.ref q1, .ref q2, .int pasts, .ref q3, .ref q4, .ref q5, .int length, .int known, .int there, .ref q6, .int spot, .int isWrong, .int sign, .int digit, .int first, .int second]))], [(q1, .inl (gA G 0, 182, .inl g))]] _ _ := S
    refine lv_if_eq (tgt := 21) hx hb dX3_barCheck_4 (by decide) (fun c4_24 => ?_) (fun c4_24 => absurd (by decide) c4_24)
    refine lv_iconst (v := (-1 : Int32)) hx hb dX3_barCheck_21 (by decide) ?_
    exact m_iret X hr hlk hQ S ⟨0, 0, 0⟩ (by show ((-1 : Int32) = barCheckS g t y1 p1 p2 ∧ barCheckS g t y1 p1 p2 < nI 0) ∨ ((-1 : Int32) = nI 0 ∧ y1 = nI 0 ∧ p1 = nI 0 ∧ p2 = nI 0 ∧ 0 < 3 ∧ 0 ≠ t % 3 ∧ 0 < 8 ∧ 0 < 8 ∧ 0 ≠ 0 ∧ g 6 = 1 ∧ bt (g (11 + 0) ||| g (14 + 0)) (Ed 0 0) = true ∧ bt (g 17) (Ed 0 0) = false ∧ barCheckS g t (nI 0) (nI 0) (nI 0) = nI 0); exact Or.inl ⟨(barCheck_1  (by first | assumption | exact Or.inl (by assumption) | exact Or.inr (by assumption) | exact Or.inl (by omega) | exact Or.inr (Or.inl (by assumption)) | exact Or.inr (Or.inr (by assumption)))).symm, by rw [barCheck_1  (by first | assumption | exact Or.inl (by assumption) | exact Or.inr (by assumption) | exact Or.inl (by omega) | exact Or.inr (Or.inl (by assumption)) | exact Or.inr (Or.inr (by assumption)))]; exact lt_m1⟩) [0, 1] [] (show ([0, 1] ++ ([] : List Nat)).isPerm (List.range 2) = true by decide +kernel) rfl (Nat.le_of_ble_eq_true rfl) (Nat.le_of_ble_eq_true rfl) dX3_barCheck_22

abbrev rm_X3_barDig : Room := { frames := 2, cells := 0, slots := 0, locals := 42 }
set_option maxHeartbeats 4000000 in
set_option maxRecDepth 100000 in
theorem mt_X3_barDig (G : mGG) (l : Launch) (h0 : Nat) (q1 : Nat) (q2 : Nat) (q3 : Nat) (q4 : Nat) (q5 : Nat) (q6 : Nat) (pasts : Int32) (length : Int32) (known : Int32) (there : Int32) (spot : Int32) (isWrong : Int32) (sign : Int32) (digit : Int32) (first : Int32) (second : Int32) (g : Nat → Int32) (t : Nat) (p1 : Int32) (ht : g 7 = nI t) (ht2 : t ≤ 150) : Cg G l yX3_barDig (ws_ yX3_barDig cX3_barDig 2 (some FieldType.int)) rm_X3_barDig [.ref h0, .int p1] [[(h0, .inr (3, [.ref q1, .ref q2, .int pasts, .ref q3, .ref q4, .ref q5, .int length, .int known, .int there, .ref q6, .int spot, .int isWrong, .int sign, .int digit, .int first, .int second]))], [(q1, .inl (gA G 0, 182, .inl g))]] (Qi G (fun (r : Int32) (u : Nat) => (r = barDigS g t p1 ∧ barDigS g t p1 < nI 0) ∨ (r = nI 0 ∧ p1 = nI u ∧ u < 8 ∧ g 6 = 1 ∧ g 4 ≤ g (8 + t % 3) ∧ barDigS g t (nI u) = nI 0)) (fun (u : Nat) => [[(h0, .inr (3, [.ref q1, .ref q2, .int pasts, .ref q3, .ref q4, .ref q5, .int length, .int known, .int there, .ref q6, .int spot, .int isWrong, .int sign, .int digit, .int first, .int second]))], [(q1, .inl (gA G 0, 182, .inl g))]])) := by
  refine Cg.intro (own := RX3) (cc := cX3_barDig) (maxL := 2) (ret := (some FieldType.int)) (by decide +kernel) rfl rfl (Nat.le_of_ble_eq_true rfl) ?_
  intro p e s m ag below meth c A ls Q X hr hlk hnm S hl hQ
  have hx := X.1
  have hb := X.2.1
  have hl : lv_has ls 2 [(0, .ref h0), (1, .int p1)] := hl
  refine lv_iload_n hx hb dX3_barDig_0 rfl (lv_at hl 1 rfl) ?_
  have hq1 := S.cut (Bc := []) (Br := [[(h0, .inr (3, [.ref q1, .ref q2, .int pasts, .ref q3, .ref q4, .ref q5, .int length, .int known, .int there, .ref q6, .int spot, .int isWrong, .int sign, .int digit, .int first, .int second]))], [(q1, .inl (gA G 0, 182, .inl g))]]) [] [0, 1] (show ([] ++ ([0, 1] : List Nat)).isPerm (List.range 2) = true by decide +kernel) rfl rfl
  refine m_ri X S hq1 (m_runS (rest := []) (As := [.int p1]) (n := 1) X S hq1 (mt_X3_isPlace G l p1 ) (lw_S q1787 q1788 q90 q1789) (by decide +kernel) ⟨Nat.le_of_ble_eq_true rfl, Nat.le_of_ble_eq_true rfl⟩ rfl hl.1 rfl (Nat.le_of_ble_eq_true rfl) dX3_barDig_1 ⟨(Nat.le_of_ble_eq_true rfl), (Nat.le_of_ble_eq_true rfl)⟩) (fun r2 u H locs hp2 S => ?_)
  obtain ⟨k1, rfl⟩ : ∃ z, z = u := ⟨_, rfl⟩
  have hp2 : (r2 = nI 1 ∧ p1 = nI k1 ∧ k1 < 8) ∨ (r2 = nI 0 ∧ ¬ pl p1) := hp2
  have S : Sw G A s.heap [[(h0, .inr (3, [.ref q1, .ref q2, .int pasts, .ref q3, .ref q4, .ref q5, .int length, .int known, .int there, .ref q6, .int spot, .int isWrong, .int sign, .int digit, .int first, .int second]))], [(q1, .inl (gA G 0, 182, .inl g))]] _ _ := S
  rcases hp2 with ⟨hhp2_0, hhp2_1, hhp2_2⟩ | ⟨hhp2_0, hhp2_1⟩
  · skip
    subst hhp2_0
    subst hhp2_1
    have hf0_r2 := hhp2_2
    have S : Sw G A s.heap [[(h0, .inr (3, [.ref q1, .ref q2, .int pasts, .ref q3, .ref q4, .ref q5, .int length, .int known, .int there, .ref q6, .int spot, .int isWrong, .int sign, .int digit, .int first, .int second]))], [(q1, .inl (gA G 0, 182, .inl g))]] _ _ := S
    refine lv_if_ne (tgt := 11) hx hb dX3_barDig_4 (by decide) (fun c4_3 => ?_) (fun c4_3 => absurd c4_3 (by decide))
    refine lv_aload_n hx hb dX3_barDig_11 rfl (lv_at hl 0 rfl) ?_
    have hq4 := S.cut (Bc := [[(h0, .inr (3, [.ref q1, .ref q2, .int pasts, .ref q3, .ref q4, .ref q5, .int length, .int known, .int there, .ref q6, .int spot, .int isWrong, .int sign, .int digit, .int first, .int second]))], [(q1, .inl (gA G 0, 182, .inl g))]]) (Br := []) [0, 1] [] (show ([0, 1] ++ ([] : List Nat)).isPerm (List.range 2) = true by decide +kernel) rfl rfl
    refine m_ri X S hq4 (m_runV (rest := []) (As := []) (n := 0) X S hq4 (mt_X3_goes G l h0 q1 q2 q3 q4 q5 q6 pasts length known there spot isWrong sign digit first second g ) (lw_V q1831 q1833 qs53 q90 q1834) (m_recv X S 0 rfl rfl) (by decide +kernel) ⟨Nat.le_of_ble_eq_true rfl, Nat.le_of_ble_eq_true rfl⟩ rfl hl.1 rfl (Nat.le_of_ble_eq_true rfl) dX3_barDig_12 ⟨(Nat.le_of_ble_eq_true rfl), (Nat.le_of_ble_eq_true rfl)⟩) (fun r5 u H locs hp5 S => ?_)
    have hp5 : (r5 = nI 1 ∧ g 6 = 1) ∨ (r5 = nI 0 ∧ ¬ g 6 = 1) := hp5
    have S : Sw G A s.heap [[(h0, .inr (3, [.ref q1, .ref q2, .int pasts, .ref q3, .ref q4, .ref q5, .int length, .int known, .int there, .ref q6, .int spot, .int isWrong, .int sign, .int digit, .int first, .int second]))], [(q1, .inl (gA G 0, 182, .inl g))]] _ _ := S
    rcases hp5 with ⟨hhp5_0, hhp5_1⟩ | ⟨hhp5_0, hhp5_1⟩
    · skip
      subst hhp5_0
      have hf0_r5 := hhp5_1
      have S : Sw G A s.heap [[(h0, .inr (3, [.ref q1, .ref q2, .int pasts, .ref q3, .ref q4, .ref q5, .int length, .int known, .int there, .ref q6, .int spot, .int isWrong, .int sign, .int digit, .int first, .int second]))], [(q1, .inl (gA G 0, 182, .inl g))]] _ _ := S
      refine lv_if_eq (tgt := 39) hx hb dX3_barDig_15 (by decide) (fun c15_6 => absurd c15_6 (by decide)) (fun c15_6 => ?_)
      refine lv_aload_n hx hb dX3_barDig_18 rfl (lv_at hl 0 rfl) ?_
      refine m_get X S 0 rfl (T := TX3) (N := 16) in_X3 rfl 0 (by decide) q1712 (fun _ h9 => h9) rfl dX3_barDig_19 ?_
      refine lv_bipush (v := nI 8) hx hb dX3_barDig_22 (by decide) ?_
      refine lv_aload_n hx hb dX3_barDig_24 rfl (lv_at hl 0 rfl) ?_
      have hq7 := S.cut (Bc := [[(h0, .inr (3, [.ref q1, .ref q2, .int pasts, .ref q3, .ref q4, .ref q5, .int length, .int known, .int there, .ref q6, .int spot, .int isWrong, .int sign, .int digit, .int first, .int second]))], [(q1, .inl (gA G 0, 182, .inl g))]]) (Br := []) [0, 1] [] (show ([0, 1] ++ ([] : List Nat)).isPerm (List.range 2) = true by decide +kernel) rfl rfl
      refine m_ri X S hq7 (m_runV (rest := [.int (nI 8), .ref q1]) (As := []) (n := 0) X S hq7 (mt_X3_turn G l h0 q1 q2 q3 q4 q5 q6 pasts length known there spot isWrong sign digit first second g t (by omega) (by omega)) (lw_V q1839 q1841 qs55 q90 q1842) (m_recv X S 0 rfl rfl) (by decide +kernel) ⟨Nat.le_of_ble_eq_true rfl, Nat.le_of_ble_eq_true rfl⟩ rfl hl.1 rfl (Nat.le_of_ble_eq_true rfl) dX3_barDig_25 ⟨(Nat.le_of_ble_eq_true rfl), (Nat.le_of_ble_eq_true rfl)⟩) (fun r8 u H locs hp8 S => ?_)
      have hp8 : r8 = nI (t % 3) := hp8
      have hhp8_0 := hp8
      subst hhp8_0
      have S : Sw G A s.heap [[(h0, .inr (3, [.ref q1, .ref q2, .int pasts, .ref q3, .ref q4, .ref q5, .int length, .int known, .int there, .ref q6, .int spot, .int isWrong, .int sign, .int digit, .int first, .int second]))], [(q1, .inl (gA G 0, 182, .inl g))]] _ _ := S
      refine lv_iadd hx hb dX3_barDig_28 ?_
      refine lv_toe (y := nI (8 + (t % 3))) (nI_add _ _) ?_
      refine m_iald X S 1 rfl (x := nI (8 + (t % 3))) (j := 8 + (t % 3)) (nI_clamp (by omega)) (vp_in_nI (by omega) (by omega)) (v := g (8 + (t % 3))) rfl dX3_barDig_29 ?_
      refine lv_aload_n hx hb dX3_barDig_30 rfl (lv_at hl 0 rfl) ?_
      refine m_get X S 0 rfl (T := TX3) (N := 16) in_X3 rfl 0 (by decide) q1712 (fun _ h9 => h9) rfl dX3_barDig_31 ?_
      refine lv_iconst (v := nI 4) hx hb dX3_barDig_34 (by decide) ?_
      refine m_iald X S 1 rfl (x := nI 4) (j := 4) rfl (vp_in_nI (by decide) (by decide)) (v := g 4) rfl dX3_barDig_35 ?_
      refine lv_icmp_ge (tgt := 44) hx hb dX3_barDig_36 (by decide) (fun c36_9 => ?_) (fun c36_9 => ?_)
      · skip
        refine lv_iconst (v := nI 0) hx hb dX3_barDig_44 (by decide) ?_
        exact m_iret X hr hlk hQ S k1 (by show ((nI 0) = barDigS g t (nI k1) ∧ barDigS g t (nI k1) < nI 0) ∨ ((nI 0) = nI 0 ∧ (nI k1) = nI k1 ∧ k1 < 8 ∧ g 6 = 1 ∧ g 4 ≤ g (8 + t % 3) ∧ barDigS g t (nI k1) = nI 0); exact Or.inr ⟨rfl, rfl, (by first | assumption | omega), (by assumption), (by assumption), barDig_0  (by omega) (by assumption) (by assumption)⟩) [0, 1] [] (show ([0, 1] ++ ([] : List Nat)).isPerm (List.range 2) = true by decide +kernel) rfl (Nat.le_of_ble_eq_true rfl) (Nat.le_of_ble_eq_true rfl) dX3_barDig_45
      · skip
        refine lv_bipush (v := (-5 : Int32)) hx hb dX3_barDig_39 (by decide) ?_
        refine lv_goto (tgt := 45) hx hb dX3_barDig_41 (by decide) ?_
        exact m_iret X hr hlk hQ S k1 (by show ((-5 : Int32) = barDigS g t (nI k1) ∧ barDigS g t (nI k1) < nI 0) ∨ ((-5 : Int32) = nI 0 ∧ (nI k1) = nI k1 ∧ k1 < 8 ∧ g 6 = 1 ∧ g 4 ≤ g (8 + t % 3) ∧ barDigS g t (nI k1) = nI 0); exact Or.inl ⟨(barDig_5  (by omega) (by first | assumption | exact Or.inl (by assumption) | exact Or.inr (by assumption) | exact Or.inl (by omega) | exact Or.inr (Or.inl (by assumption)) | exact Or.inr (Or.inr (by assumption)))).symm, by rw [barDig_5  (by omega) (by first | assumption | exact Or.inl (by assumption) | exact Or.inr (by assumption) | exact Or.inl (by omega) | exact Or.inr (Or.inl (by assumption)) | exact Or.inr (Or.inr (by assumption)))]; exact lt_m5⟩) [0, 1] [] (show ([0, 1] ++ ([] : List Nat)).isPerm (List.range 2) = true by decide +kernel) rfl (Nat.le_of_ble_eq_true rfl) (Nat.le_of_ble_eq_true rfl) dX3_barDig_45
    · skip
      subst hhp5_0
      have hf0_r5 := hhp5_1
      have S : Sw G A s.heap [[(h0, .inr (3, [.ref q1, .ref q2, .int pasts, .ref q3, .ref q4, .ref q5, .int length, .int known, .int there, .ref q6, .int spot, .int isWrong, .int sign, .int digit, .int first, .int second]))], [(q1, .inl (gA G 0, 182, .inl g))]] _ _ := S
      refine lv_if_eq (tgt := 39) hx hb dX3_barDig_15 (by decide) (fun c15_10 => ?_) (fun c15_10 => absurd (by decide) c15_10)
      refine lv_bipush (v := (-5 : Int32)) hx hb dX3_barDig_39 (by decide) ?_
      refine lv_goto (tgt := 45) hx hb dX3_barDig_41 (by decide) ?_
      exact m_iret X hr hlk hQ S k1 (by show ((-5 : Int32) = barDigS g t (nI k1) ∧ barDigS g t (nI k1) < nI 0) ∨ ((-5 : Int32) = nI 0 ∧ (nI k1) = nI k1 ∧ k1 < 8 ∧ g 6 = 1 ∧ g 4 ≤ g (8 + t % 3) ∧ barDigS g t (nI k1) = nI 0); exact Or.inl ⟨(barDig_5  (by omega) (by first | assumption | exact Or.inl (by assumption) | exact Or.inr (by assumption) | exact Or.inl (by omega) | exact Or.inr (Or.inl (by assumption)) | exact Or.inr (Or.inr (by assumption)))).symm, by rw [barDig_5  (by omega) (by first | assumption | exact Or.inl (by assumption) | exact Or.inr (by assumption) | exact Or.inl (by omega) | exact Or.inr (Or.inl (by assumption)) | exact Or.inr (Or.inr (by assumption)))]; exact lt_m5⟩) [0, 1] [] (show ([0, 1] ++ ([] : List Nat)).isPerm (List.range 2) = true by decide +kernel) rfl (Nat.le_of_ble_eq_true rfl) (Nat.le_of_ble_eq_true rfl) dX3_barDig_45
  · skip
    subst hhp2_0
    have hf0_r2 := hhp2_1
    have S : Sw G A s.heap [[(h0, .inr (3, [.ref q1, .ref q2, .int pasts, .ref q3, .ref q4, .ref q5, .int length, .int known, .int there, .ref q6, .int spot, .int isWrong, .int sign, .int digit, .int first, .int second]))], [(q1, .inl (gA G 0, 182, .inl g))]] _ _ := S
    refine lv_if_ne (tgt := 11) hx hb dX3_barDig_4 (by decide) (fun c4_11 => absurd (by decide) c4_11) (fun c4_11 => ?_)
    refine lv_iconst (v := (-1 : Int32)) hx hb dX3_barDig_7 (by decide) ?_
    refine lv_goto (tgt := 45) hx hb dX3_barDig_8 (by decide) ?_
    exact m_iret X hr hlk hQ S 0 (by show ((-1 : Int32) = barDigS g t p1 ∧ barDigS g t p1 < nI 0) ∨ ((-1 : Int32) = nI 0 ∧ p1 = nI 0 ∧ 0 < 8 ∧ g 6 = 1 ∧ g 4 ≤ g (8 + t % 3) ∧ barDigS g t (nI 0) = nI 0); exact Or.inl ⟨(barDig_1  (by assumption)).symm, by rw [barDig_1  (by assumption)]; exact lt_m1⟩) [0, 1] [] (show ([0, 1] ++ ([] : List Nat)).isPerm (List.range 2) = true by decide +kernel) rfl (Nat.le_of_ble_eq_true rfl) (Nat.le_of_ble_eq_true rfl) dX3_barDig_45

abbrev rm_X3_lays : Room := { frames := 1, cells := 0, slots := 0, locals := 23 }
set_option maxHeartbeats 4000000 in
set_option maxRecDepth 100000 in
theorem mt_X3_lays (G : mGG) (l : Launch) (h0 : Nat) (q1 : Nat) (q2 : Nat) (q3 : Nat) (q4 : Nat) (q5 : Nat) (q6 : Nat) (pasts : Int32) (length : Int32) (known : Int32) (there : Int32) (spot : Int32) (isWrong : Int32) (sign : Int32) (digit : Int32) (first : Int32) (second : Int32) (g : Nat → Int32) (a : Nat) (b : Nat) (ha : a < 8) (hb1 : b < 8) (hne : a ≠ b) : Cg G l yX3_lays (ws_ yX3_lays cX3_lays 3 (some FieldType.int)) rm_X3_lays [.ref h0, .int (nI a), .int (nI b)] [[(h0, .inr (3, [.ref q1, .ref q2, .int pasts, .ref q3, .ref q4, .ref q5, .int length, .int known, .int there, .ref q6, .int spot, .int isWrong, .int sign, .int digit, .int first, .int second]))], [(q1, .inl (gA G 0, 182, .inl g))]] (Qi G (fun (r : Int32) (u : Unit) => r = nI (card (g 0 ^^^ bit (Ed a b)))) (fun (u : Unit) => [[(h0, .inr (3, [.ref q1, .ref q2, .int pasts, .ref q3, .ref q4, .ref q5, .int length, .int known, .int there, .ref q6, .int spot, .int isWrong, .int sign, .int digit, .int first, .int second]))], [(q1, .inl (gA G 0, 182, .inl (upd g 0 (g 0 ^^^ bit (Ed a b)))))]])) := by
  refine Cg.intro (own := RX3) (cc := cX3_lays) (maxL := 3) (ret := (some FieldType.int)) (by decide +kernel) rfl rfl (Nat.le_of_ble_eq_true rfl) ?_
  intro p e s m ag below meth c A ls Q X hr hlk hnm S hl hQ
  have hx := X.1
  have hb := X.2.1
  have hl : lv_has ls 3 [(0, .ref h0), (1, .int (nI a)), (2, .int (nI b))] := hl
  refine lv_aload_n hx hb dX3_lays_0 rfl (lv_at hl 0 rfl) ?_
  refine m_get X S 0 rfl (T := TX3) (N := 16) in_X3 rfl 0 (by decide) q1712 (fun _ h9 => h9) rfl dX3_lays_1 ?_
  refine lv_iconst (v := nI 0) hx hb dX3_lays_4 (by decide) ?_
  refine lv_dup2_11 hx hb dX3_lays_5 rfl rfl ?_
  refine m_iald X S 1 rfl (x := nI 0) (j := 0) rfl (vp_in_nI (by decide) (by decide)) (v := g 0) rfl dX3_lays_6 ?_
  refine lv_iconst (v := nI 1) hx hb dX3_lays_7 (by decide) ?_
  refine lv_iload_n hx hb dX3_lays_8 rfl (lv_at hl 1 rfl) ?_
  refine lv_iload_n hx hb dX3_lays_9 rfl (lv_at hl 2 rfl) ?_
  have hq1 := S.cut (Bc := []) (Br := [[(h0, .inr (3, [.ref q1, .ref q2, .int pasts, .ref q3, .ref q4, .ref q5, .int length, .int known, .int there, .ref q6, .int spot, .int isWrong, .int sign, .int digit, .int first, .int second]))], [(q1, .inl (gA G 0, 182, .inl g))]]) [] [0, 1] (show ([] ++ ([0, 1] : List Nat)).isPerm (List.range 2) = true by decide +kernel) rfl rfl
  refine m_ri X S hq1 (m_runS (rest := [.int (nI 1), .int (g 0), .int (nI 0), .ref q1]) (As := [.int (nI a), .int (nI b)]) (n := 2) X S hq1 (mt_X3_edge G l a b (by omega) (by omega) (by omega)) (lw_S q1798 q1799 q90 q1800) (by decide +kernel) ⟨Nat.le_of_ble_eq_true rfl, Nat.le_of_ble_eq_true rfl⟩ rfl hl.1 rfl (Nat.le_of_ble_eq_true rfl) dX3_lays_10 ⟨(Nat.le_of_ble_eq_true rfl), (Nat.le_of_ble_eq_true rfl)⟩) (fun r2 u H locs hp2 S => ?_)
  have hp2 : r2 = nI (Ed a b) := hp2
  have hhp2_0 := hp2
  subst hhp2_0
  have S : Sw G A s.heap [[(h0, .inr (3, [.ref q1, .ref q2, .int pasts, .ref q3, .ref q4, .ref q5, .int length, .int known, .int there, .ref q6, .int spot, .int isWrong, .int sign, .int digit, .int first, .int second]))], [(q1, .inl (gA G 0, 182, .inl g))]] _ _ := S
  refine lv_ishl hx hb dX3_lays_13 ?_
  refine lv_toe (y := bit (Ed a b)) (rfl) ?_
  refine lv_ixor hx hb dX3_lays_14 ?_
  refine m_iast X S 1 rfl (x := nI 0) (j := 0) rfl (vp_in_nI (by decide) (by decide)) dX3_lays_15 (fun H locs S => ?_)
  have S : Sw G A s.heap [[(h0, .inr (3, [.ref q1, .ref q2, .int pasts, .ref q3, .ref q4, .ref q5, .int length, .int known, .int there, .ref q6, .int spot, .int isWrong, .int sign, .int digit, .int first, .int second]))], [(q1, .inl (gA G 0, 182, .inl (upd g 0 ((g 0) ^^^ (bit (Ed a b))))))]] _ _ := S
  refine lv_aload_n hx hb dX3_lays_16 rfl (lv_at hl 0 rfl) ?_
  refine m_get X S 0 rfl (T := TX3) (N := 16) in_X3 rfl 0 (by decide) q1712 (fun _ h9 => h9) rfl dX3_lays_17 ?_
  refine lv_iconst (v := nI 0) hx hb dX3_lays_20 (by decide) ?_
  refine m_iald X S 1 rfl (x := nI 0) (j := 0) rfl (vp_in_nI (by decide) (by decide)) (v := (g 0) ^^^ (bit (Ed a b))) rfl dX3_lays_21 ?_
  have hq3 := S.cut (Bc := []) (Br := [[(h0, .inr (3, [.ref q1, .ref q2, .int pasts, .ref q3, .ref q4, .ref q5, .int length, .int known, .int there, .ref q6, .int spot, .int isWrong, .int sign, .int digit, .int first, .int second]))], [(q1, .inl (gA G 0, 182, .inl (upd g 0 ((g 0) ^^^ (bit (Ed a b))))))]]) [] [0, 1] (show ([] ++ ([0, 1] : List Nat)).isPerm (List.range 2) = true by decide +kernel) rfl rfl
  refine m_ri X S hq3 (m_runS (rest := []) (As := [.int ((g 0) ^^^ (bit (Ed a b)))]) (n := 1) X S hq3 (mt_X3_many G l ((g 0) ^^^ (bit (Ed a b))) ) (lw_S q1801 q1802 q90 q1803) (by decide +kernel) ⟨Nat.le_of_ble_eq_true rfl, Nat.le_of_ble_eq_true rfl⟩ rfl hl.1 rfl (Nat.le_of_ble_eq_true rfl) dX3_lays_22 ⟨(Nat.le_of_ble_eq_true rfl), (Nat.le_of_ble_eq_true rfl)⟩) (fun r4 u H locs hp4 S => ?_)
  have hp4 : r4 = nI (card ((g 0) ^^^ (bit (Ed a b)))) := hp4
  have hhp4_0 := hp4
  subst hhp4_0
  have S : Sw G A s.heap [[(h0, .inr (3, [.ref q1, .ref q2, .int pasts, .ref q3, .ref q4, .ref q5, .int length, .int known, .int there, .ref q6, .int spot, .int isWrong, .int sign, .int digit, .int first, .int second]))], [(q1, .inl (gA G 0, 182, .inl (upd g 0 ((g 0) ^^^ (bit (Ed a b))))))]] _ _ := S
  exact m_iret X hr hlk hQ S () (by show (nI (card ((g 0) ^^^ (bit (Ed a b))))) = nI (card (g 0 ^^^ bit (Ed a b))); first | rfl | exact ⟨rfl, rfl⟩ | omega | assumption) [0, 1] [] (show ([0, 1] ++ ([] : List Nat)).isPerm (List.range 2) = true by decide +kernel) rfl (Nat.le_of_ble_eq_true rfl) (Nat.le_of_ble_eq_true rfl) dX3_lays_25

abbrev rm_X3_says : Room := { frames := 2, cells := 0, slots := 0, locals := 43 }
set_option maxHeartbeats 4000000 in
set_option maxRecDepth 100000 in
theorem mt_X3_says (G : mGG) (l : Launch) (h0 : Nat) (q1 : Nat) (q2 : Nat) (q3 : Nat) (q4 : Nat) (q5 : Nat) (q6 : Nat) (pasts : Int32) (length : Int32) (known : Int32) (there : Int32) (spot : Int32) (isWrong : Int32) (sign : Int32) (digit : Int32) (first : Int32) (second : Int32) (g : Nat → Int32) (t : Nat) (a : Nat) (b : Nat) (is : Int32) (ht : g 7 = nI t) (ht2 : t ≤ 150) (ha : a < 8) (hb1 : b < 8) (hne : a ≠ b) : Cg G l yX3_says (ws_ yX3_says cX3_says 6 (some FieldType.int)) rm_X3_says [.ref h0, .int (nI a), .int (nI b), .int is] [[(h0, .inr (3, [.ref q1, .ref q2, .int pasts, .ref q3, .ref q4, .ref q5, .int length, .int known, .int there, .ref q6, .int spot, .int isWrong, .int sign, .int digit, .int first, .int second]))], [(q1, .inl (gA G 0, 182, .inl g))]] (Qi G (fun (r : Int32) (u : (Nat → Int32)) => (r = nI (card (sayS g (Ed a b) is (t % 3) (11 + t % 3) ||| sayS g (Ed a b) is (t % 3) (14 + t % 3))) ∧ u = sayS g (Ed a b) is (t % 3))) (fun (u : (Nat → Int32)) => [[(h0, .inr (3, [.ref q1, .ref q2, .int pasts, .ref q3, .ref q4, .ref q5, .int length, .int known, .int there, .ref q6, .int spot, .int isWrong, .int sign, .int digit, .int first, .int second]))], [(q1, .inl (gA G 0, 182, .inl u))]])) := by
  refine Cg.intro (own := RX3) (cc := cX3_says) (maxL := 6) (ret := (some FieldType.int)) (by decide +kernel) rfl rfl (Nat.le_of_ble_eq_true rfl) ?_
  intro p e s m ag below meth c A ls Q X hr hlk hnm S hl hQ
  have hx := X.1
  have hb := X.2.1
  have hl : lv_has ls 6 [(0, .ref h0), (1, .int (nI a)), (2, .int (nI b)), (3, .int is)] := hl
  have hEd : Ed a b < 28 := Ed_lt a ha b hb1 hne
  have ht3 : t % 3 < 3 := Nat.mod_lt _ (by omega)
  refine lv_iconst (v := nI 1) hx hb dX3_says_0 (by decide) ?_
  refine lv_iload_n hx hb dX3_says_1 rfl (lv_at hl 1 rfl) ?_
  refine lv_iload_n hx hb dX3_says_2 rfl (lv_at hl 2 rfl) ?_
  have hq1 := S.cut (Bc := []) (Br := [[(h0, .inr (3, [.ref q1, .ref q2, .int pasts, .ref q3, .ref q4, .ref q5, .int length, .int known, .int there, .ref q6, .int spot, .int isWrong, .int sign, .int digit, .int first, .int second]))], [(q1, .inl (gA G 0, 182, .inl g))]]) [] [0, 1] (show ([] ++ ([0, 1] : List Nat)).isPerm (List.range 2) = true by decide +kernel) rfl rfl
  refine m_ri X S hq1 (m_runS (rest := [.int (nI 1)]) (As := [.int (nI a), .int (nI b)]) (n := 2) X S hq1 (mt_X3_edge G l a b (by omega) (by omega) (by omega)) (lw_S q1798 q1799 q90 q1800) (by decide +kernel) ⟨Nat.le_of_ble_eq_true rfl, Nat.le_of_ble_eq_true rfl⟩ rfl hl.1 rfl (Nat.le_of_ble_eq_true rfl) dX3_says_3 ⟨(Nat.le_of_ble_eq_true rfl), (Nat.le_of_ble_eq_true rfl)⟩) (fun r2 u H locs hp2 S => ?_)
  have hp2 : r2 = nI (Ed a b) := hp2
  have hhp2_0 := hp2
  subst hhp2_0
  have S : Sw G A s.heap [[(h0, .inr (3, [.ref q1, .ref q2, .int pasts, .ref q3, .ref q4, .ref q5, .int length, .int known, .int there, .ref q6, .int spot, .int isWrong, .int sign, .int digit, .int first, .int second]))], [(q1, .inl (gA G 0, 182, .inl g))]] _ _ := S
  refine lv_ishl hx hb dX3_says_6 ?_
  refine lv_toe (y := bit (Ed a b)) (rfl) ?_
  refine lv_istore (lv' := [(4, .int (bit (Ed a b))), (0, .ref h0), (1, .int (nI a)), (2, .int (nI b)), (3, .int is)]) hx hb dX3_says_7 hl (Nat.le_of_ble_eq_true rfl) rfl (fun ls hl => ?_)
  refine lv_aload_n hx hb dX3_says_9 rfl (lv_at hl 1 rfl) ?_
  have hq3 := S.cut (Bc := [[(h0, .inr (3, [.ref q1, .ref q2, .int pasts, .ref q3, .ref q4, .ref q5, .int length, .int known, .int there, .ref q6, .int spot, .int isWrong, .int sign, .int digit, .int first, .int second]))], [(q1, .inl (gA G 0, 182, .inl g))]]) (Br := []) [0, 1] [] (show ([0, 1] ++ ([] : List Nat)).isPerm (List.range 2) = true by decide +kernel) rfl rfl
  refine m_ri X S hq3 (m_runV (rest := []) (As := []) (n := 0) X S hq3 (mt_X3_turn G l h0 q1 q2 q3 q4 q5 q6 pasts length known there spot isWrong sign digit first second g t (by omega) (by omega)) (lw_V q1839 q1841 qs55 q90 q1842) (m_recv X S 0 rfl rfl) (by decide +kernel) ⟨Nat.le_of_ble_eq_true rfl, Nat.le_of_ble_eq_true rfl⟩ rfl hl.1 rfl (Nat.le_of_ble_eq_true rfl) dX3_says_10 ⟨(Nat.le_of_ble_eq_true rfl), (Nat.le_of_ble_eq_true rfl)⟩) (fun r4 u H locs hp4 S => ?_)
  have hp4 : r4 = nI (t % 3) := hp4
  have hhp4_0 := hp4
  subst hhp4_0
  have S : Sw G A s.heap [[(h0, .inr (3, [.ref q1, .ref q2, .int pasts, .ref q3, .ref q4, .ref q5, .int length, .int known, .int there, .ref q6, .int spot, .int isWrong, .int sign, .int digit, .int first, .int second]))], [(q1, .inl (gA G 0, 182, .inl g))]] _ _ := S
  refine lv_istore (lv' := [(5, .int (nI (t % 3))), (4, .int (bit (Ed a b))), (0, .ref h0), (1, .int (nI a)), (2, .int (nI b)), (3, .int is)]) hx hb dX3_says_13 hl (Nat.le_of_ble_eq_true rfl) rfl (fun ls hl => ?_)
  refine lv_aload_n hx hb dX3_says_15 rfl (lv_at hl 2 rfl) ?_
  refine m_get X S 0 rfl (T := TX3) (N := 16) in_X3 rfl 0 (by decide) q1712 (fun _ h9 => h9) rfl dX3_says_16 ?_
  refine lv_bipush (v := nI 11) hx hb dX3_says_19 (by decide) ?_
  refine lv_iload hx hb dX3_says_21 (lv_at hl 0 rfl) ?_
  refine lv_iadd hx hb dX3_says_23 ?_
  refine lv_toe (y := nI (11 + (t % 3))) (nI_add _ _) ?_
  refine lv_iload_n hx hb dX3_says_24 rfl (lv_at hl 5 rfl) ?_
  refine lv_iconst (v := nI 1) hx hb dX3_says_25 (by decide) ?_
  refine lv_icmp_ne (tgt := 45) hx hb dX3_says_26 (by decide) (fun c26_5 => ?_) (fun c26_5 => ?_)
  · skip
    have c26_5 : ¬ is = (nI 1) := c26_5
    refine lv_aload_n hx hb dX3_says_45 rfl (lv_at hl 2 rfl) ?_
    refine m_get X S 0 rfl (T := TX3) (N := 16) in_X3 rfl 0 (by decide) q1712 (fun _ h9 => h9) rfl dX3_says_46 ?_
    refine lv_bipush (v := nI 11) hx hb dX3_says_49 (by decide) ?_
    refine lv_iload hx hb dX3_says_51 (lv_at hl 0 rfl) ?_
    refine lv_iadd hx hb dX3_says_53 ?_
    refine lv_toe (y := nI (11 + (t % 3))) (nI_add _ _) ?_
    refine m_iald X S 1 rfl (x := nI (11 + (t % 3))) (j := 11 + (t % 3)) (nI_clamp (by omega)) (vp_in_nI (by omega) (by omega)) (v := g (11 + (t % 3))) rfl dX3_says_54 ?_
    refine lv_iload hx hb dX3_says_55 (lv_at hl 1 rfl) ?_
    refine lv_iconst (v := (-1 : Int32)) hx hb dX3_says_57 (by decide) ?_
    refine lv_ixor hx hb dX3_says_58 ?_
    refine lv_iand hx hb dX3_says_59 ?_
    refine m_iast X S 1 rfl (x := nI (11 + (t % 3))) (j := 11 + (t % 3)) (nI_clamp (by omega)) (vp_in_nI (by omega) (by omega)) dX3_says_60 (fun H locs S => ?_)
    have S : Sw G A s.heap [[(h0, .inr (3, [.ref q1, .ref q2, .int pasts, .ref q3, .ref q4, .ref q5, .int length, .int known, .int there, .ref q6, .int spot, .int isWrong, .int sign, .int digit, .int first, .int second]))], [(q1, .inl (gA G 0, 182, .inl (upd g (11 + (t % 3)) ((g (11 + (t % 3))) &&& ((bit (Ed a b)) ^^^ (-1 : Int32))))))]] _ _ := S
    refine lv_aload_n hx hb dX3_says_61 rfl (lv_at hl 2 rfl) ?_
    refine m_get X S 0 rfl (T := TX3) (N := 16) in_X3 rfl 0 (by decide) q1712 (fun _ h9 => h9) rfl dX3_says_62 ?_
    refine lv_bipush (v := nI 14) hx hb dX3_says_65 (by decide) ?_
    refine lv_iload hx hb dX3_says_67 (lv_at hl 0 rfl) ?_
    refine lv_iadd hx hb dX3_says_69 ?_
    refine lv_toe (y := nI (14 + (t % 3))) (nI_add _ _) ?_
    refine lv_iload_n hx hb dX3_says_70 rfl (lv_at hl 5 rfl) ?_
    refine lv_if_ne (tgt := 90) hx hb dX3_says_71 (by decide) (fun c71_6 => ?_) (fun c71_6 => ?_)
    · skip
      have c71_6 : ¬ is = (nI 0) := c71_6
      refine lv_aload_n hx hb dX3_says_90 rfl (lv_at hl 2 rfl) ?_
      refine m_get X S 0 rfl (T := TX3) (N := 16) in_X3 rfl 0 (by decide) q1712 (fun _ h9 => h9) rfl dX3_says_91 ?_
      refine lv_bipush (v := nI 14) hx hb dX3_says_94 (by decide) ?_
      refine lv_iload hx hb dX3_says_96 (lv_at hl 0 rfl) ?_
      refine lv_iadd hx hb dX3_says_98 ?_
      refine lv_toe (y := nI (14 + (t % 3))) (nI_add _ _) ?_
      refine m_iald X S 1 rfl (x := nI (14 + (t % 3))) (j := 14 + (t % 3)) (nI_clamp (by omega)) (vp_in_nI (by omega) (by omega)) (v := g (14 + (t % 3))) (pk_un (by omega)) dX3_says_99 ?_
      refine lv_iload hx hb dX3_says_100 (lv_at hl 1 rfl) ?_
      refine lv_iconst (v := (-1 : Int32)) hx hb dX3_says_102 (by decide) ?_
      refine lv_ixor hx hb dX3_says_103 ?_
      refine lv_iand hx hb dX3_says_104 ?_
      refine m_iast X S 1 rfl (x := nI (14 + (t % 3))) (j := 14 + (t % 3)) (nI_clamp (by omega)) (vp_in_nI (by omega) (by omega)) dX3_says_105 (fun H locs S => ?_)
      have S : Sw G A s.heap [[(h0, .inr (3, [.ref q1, .ref q2, .int pasts, .ref q3, .ref q4, .ref q5, .int length, .int known, .int there, .ref q6, .int spot, .int isWrong, .int sign, .int digit, .int first, .int second]))], [(q1, .inl (gA G 0, 182, .inl (upd (upd g (11 + (t % 3)) ((g (11 + (t % 3))) &&& ((bit (Ed a b)) ^^^ (-1 : Int32)))) (14 + (t % 3)) ((g (14 + (t % 3))) &&& ((bit (Ed a b)) ^^^ (-1 : Int32))))))]] _ _ := S
      refine lv_aload_n hx hb dX3_says_106 rfl (lv_at hl 2 rfl) ?_
      have hq7 := S.cut (Bc := [[(h0, .inr (3, [.ref q1, .ref q2, .int pasts, .ref q3, .ref q4, .ref q5, .int length, .int known, .int there, .ref q6, .int spot, .int isWrong, .int sign, .int digit, .int first, .int second]))], [(q1, .inl (gA G 0, 182, .inl (upd (upd g (11 + (t % 3)) ((g (11 + (t % 3))) &&& ((bit (Ed a b)) ^^^ (-1 : Int32)))) (14 + (t % 3)) ((g (14 + (t % 3))) &&& ((bit (Ed a b)) ^^^ (-1 : Int32))))))]]) (Br := []) [0, 1] [] (show ([0, 1] ++ ([] : List Nat)).isPerm (List.range 2) = true by decide +kernel) rfl rfl
      refine m_rv X S hq7 (m_runV (rest := []) (As := []) (n := 0) X S hq7 (mt_X3_ends G l h0 q1 q2 q3 q4 q5 q6 pasts length known there spot isWrong sign digit first second (upd (upd g (11 + (t % 3)) ((g (11 + (t % 3))) &&& ((bit (Ed a b)) ^^^ (-1 : Int32)))) (14 + (t % 3)) ((g (14 + (t % 3))) &&& ((bit (Ed a b)) ^^^ (-1 : Int32)))) ) (lw_V q1843 q1845 qs56 q90 q1846) (m_recv X S 0 rfl rfl) (by decide +kernel) ⟨Nat.le_of_ble_eq_true rfl, Nat.le_of_ble_eq_true rfl⟩ rfl hl.1 rfl (Nat.le_of_ble_eq_true rfl) dX3_says_107 ⟨(Nat.le_of_ble_eq_true rfl), (Nat.le_of_ble_eq_true rfl)⟩) (fun u H locs hp8 S => ?_)
      obtain ⟨u9, rfl⟩ : ∃ z, z = u := ⟨_, rfl⟩
      have hp8 : (u9 = endS (upd (upd g (11 + (t % 3)) ((g (11 + (t % 3))) &&& ((bit (Ed a b)) ^^^ (-1 : Int32)))) (14 + (t % 3)) ((g (14 + (t % 3))) &&& ((bit (Ed a b)) ^^^ (-1 : Int32))))) := hp8
      have S : Sw G A s.heap [[(h0, .inr (3, [.ref q1, .ref q2, .int pasts, .ref q3, .ref q4, .ref q5, .int length, .int known, .int there, .ref q6, .int spot, .int isWrong, .int sign, .int digit, .int first, .int second]))], [(q1, .inl (gA G 0, 182, .inl u9))]] _ _ := S
      have hhp8_0 := hp8
      subst hhp8_0
      have S : Sw G A s.heap [[(h0, .inr (3, [.ref q1, .ref q2, .int pasts, .ref q3, .ref q4, .ref q5, .int length, .int known, .int there, .ref q6, .int spot, .int isWrong, .int sign, .int digit, .int first, .int second]))], [(q1, .inl (gA G 0, 182, .inl (endS (upd (upd g (11 + (t % 3)) ((g (11 + (t % 3))) &&& ((bit (Ed a b)) ^^^ (-1 : Int32)))) (14 + (t % 3)) ((g (14 + (t % 3))) &&& ((bit (Ed a b)) ^^^ (-1 : Int32)))))))]] _ _ := S
      refine lv_aload_n hx hb dX3_says_110 rfl (lv_at hl 2 rfl) ?_
      refine lv_iload hx hb dX3_says_111 (lv_at hl 0 rfl) ?_
      have hq10 := S.cut (Bc := [[(h0, .inr (3, [.ref q1, .ref q2, .int pasts, .ref q3, .ref q4, .ref q5, .int length, .int known, .int there, .ref q6, .int spot, .int isWrong, .int sign, .int digit, .int first, .int second]))], [(q1, .inl (gA G 0, 182, .inl (endS (upd (upd g (11 + (t % 3)) ((g (11 + (t % 3))) &&& ((bit (Ed a b)) ^^^ (-1 : Int32)))) (14 + (t % 3)) ((g (14 + (t % 3))) &&& ((bit (Ed a b)) ^^^ (-1 : Int32)))))))]]) (Br := []) [0, 1] [] (show ([0, 1] ++ ([] : List Nat)).isPerm (List.range 2) = true by decide +kernel) rfl rfl
      refine m_ri X S hq10 (m_runV (rest := []) (As := [.int (nI (t % 3))]) (n := 1) X S hq10 (mt_X3_claims G l h0 q1 q2 q3 q4 q5 q6 pasts length known there spot isWrong sign digit first second (endS (upd (upd g (11 + (t % 3)) ((g (11 + (t % 3))) &&& ((bit (Ed a b)) ^^^ (-1 : Int32)))) (14 + (t % 3)) ((g (14 + (t % 3))) &&& ((bit (Ed a b)) ^^^ (-1 : Int32))))) (t % 3) (by omega)) (lw_V q1847 q1849 qs57 q90 q1850) (m_recv X S 0 rfl rfl) (by decide +kernel) ⟨Nat.le_of_ble_eq_true rfl, Nat.le_of_ble_eq_true rfl⟩ rfl hl.1 rfl (Nat.le_of_ble_eq_true rfl) dX3_says_113 ⟨(Nat.le_of_ble_eq_true rfl), (Nat.le_of_ble_eq_true rfl)⟩) (fun r11 u H locs hp11 S => ?_)
      have hp11 : r11 = nI (card ((endS (upd (upd g (11 + (t % 3)) ((g (11 + (t % 3))) &&& ((bit (Ed a b)) ^^^ (-1 : Int32)))) (14 + (t % 3)) ((g (14 + (t % 3))) &&& ((bit (Ed a b)) ^^^ (-1 : Int32))))) (11 + (t % 3)) ||| (endS (upd (upd g (11 + (t % 3)) ((g (11 + (t % 3))) &&& ((bit (Ed a b)) ^^^ (-1 : Int32)))) (14 + (t % 3)) ((g (14 + (t % 3))) &&& ((bit (Ed a b)) ^^^ (-1 : Int32))))) (14 + (t % 3)))) := hp11
      have hhp11_0 := hp11
      subst hhp11_0
      have S : Sw G A s.heap [[(h0, .inr (3, [.ref q1, .ref q2, .int pasts, .ref q3, .ref q4, .ref q5, .int length, .int known, .int there, .ref q6, .int spot, .int isWrong, .int sign, .int digit, .int first, .int second]))], [(q1, .inl (gA G 0, 182, .inl (endS (upd (upd g (11 + (t % 3)) ((g (11 + (t % 3))) &&& ((bit (Ed a b)) ^^^ (-1 : Int32)))) (14 + (t % 3)) ((g (14 + (t % 3))) &&& ((bit (Ed a b)) ^^^ (-1 : Int32)))))))]] _ _ := S
      exact m_iret X hr hlk hQ S (endS (upd (upd g (11 + (t % 3)) ((g (11 + (t % 3))) &&& ((bit (Ed a b)) ^^^ (-1 : Int32)))) (14 + (t % 3)) ((g (14 + (t % 3))) &&& ((bit (Ed a b)) ^^^ (-1 : Int32))))) (by show ((nI (card ((endS (upd (upd g (11 + (t % 3)) ((g (11 + (t % 3))) &&& ((bit (Ed a b)) ^^^ (-1 : Int32)))) (14 + (t % 3)) ((g (14 + (t % 3))) &&& ((bit (Ed a b)) ^^^ (-1 : Int32))))) (11 + (t % 3)) ||| (endS (upd (upd g (11 + (t % 3)) ((g (11 + (t % 3))) &&& ((bit (Ed a b)) ^^^ (-1 : Int32)))) (14 + (t % 3)) ((g (14 + (t % 3))) &&& ((bit (Ed a b)) ^^^ (-1 : Int32))))) (14 + (t % 3))))) = nI (card (sayS g (Ed a b) is (t % 3) (11 + t % 3) ||| sayS g (Ed a b) is (t % 3) (14 + t % 3))) ∧ (endS (upd (upd g (11 + (t % 3)) ((g (11 + (t % 3))) &&& ((bit (Ed a b)) ^^^ (-1 : Int32)))) (14 + (t % 3)) ((g (14 + (t % 3))) &&& ((bit (Ed a b)) ^^^ (-1 : Int32))))) = sayS g (Ed a b) is (t % 3)); refine (fun z => ⟨by rw [z], z⟩) ?_; unfold sayS; first | (rw [if_pos (by assumption), if_pos (by assumption)]; done) | (rw [if_pos (by assumption), if_neg (by assumption)]; done) | (rw [if_neg (by assumption), if_pos (by assumption)]; done) | (rw [if_neg (by assumption), if_neg (by assumption)]; done)) [0, 1] [] (show ([0, 1] ++ ([] : List Nat)).isPerm (List.range 2) = true by decide +kernel) rfl (Nat.le_of_ble_eq_true rfl) (Nat.le_of_ble_eq_true rfl) dX3_says_116
    · skip
      have c71_6 : is = (nI 0) := c71_6
      refine lv_aload_n hx hb dX3_says_74 rfl (lv_at hl 2 rfl) ?_
      refine m_get X S 0 rfl (T := TX3) (N := 16) in_X3 rfl 0 (by decide) q1712 (fun _ h9 => h9) rfl dX3_says_75 ?_
      refine lv_bipush (v := nI 14) hx hb dX3_says_78 (by decide) ?_
      refine lv_iload hx hb dX3_says_80 (lv_at hl 0 rfl) ?_
      refine lv_iadd hx hb dX3_says_82 ?_
      refine lv_toe (y := nI (14 + (t % 3))) (nI_add _ _) ?_
      refine m_iald X S 1 rfl (x := nI (14 + (t % 3))) (j := 14 + (t % 3)) (nI_clamp (by omega)) (vp_in_nI (by omega) (by omega)) (v := g (14 + (t % 3))) (pk_un (by omega)) dX3_says_83 ?_
      refine lv_iload hx hb dX3_says_84 (lv_at hl 1 rfl) ?_
      refine lv_ior hx hb dX3_says_86 ?_
      refine lv_goto (tgt := 105) hx hb dX3_says_87 (by decide) ?_
      refine m_iast X S 1 rfl (x := nI (14 + (t % 3))) (j := 14 + (t % 3)) (nI_clamp (by omega)) (vp_in_nI (by omega) (by omega)) dX3_says_105 (fun H locs S => ?_)
      have S : Sw G A s.heap [[(h0, .inr (3, [.ref q1, .ref q2, .int pasts, .ref q3, .ref q4, .ref q5, .int length, .int known, .int there, .ref q6, .int spot, .int isWrong, .int sign, .int digit, .int first, .int second]))], [(q1, .inl (gA G 0, 182, .inl (upd (upd g (11 + (t % 3)) ((g (11 + (t % 3))) &&& ((bit (Ed a b)) ^^^ (-1 : Int32)))) (14 + (t % 3)) ((g (14 + (t % 3))) ||| (bit (Ed a b))))))]] _ _ := S
      refine lv_aload_n hx hb dX3_says_106 rfl (lv_at hl 2 rfl) ?_
      have hq12 := S.cut (Bc := [[(h0, .inr (3, [.ref q1, .ref q2, .int pasts, .ref q3, .ref q4, .ref q5, .int length, .int known, .int there, .ref q6, .int spot, .int isWrong, .int sign, .int digit, .int first, .int second]))], [(q1, .inl (gA G 0, 182, .inl (upd (upd g (11 + (t % 3)) ((g (11 + (t % 3))) &&& ((bit (Ed a b)) ^^^ (-1 : Int32)))) (14 + (t % 3)) ((g (14 + (t % 3))) ||| (bit (Ed a b))))))]]) (Br := []) [0, 1] [] (show ([0, 1] ++ ([] : List Nat)).isPerm (List.range 2) = true by decide +kernel) rfl rfl
      refine m_rv X S hq12 (m_runV (rest := []) (As := []) (n := 0) X S hq12 (mt_X3_ends G l h0 q1 q2 q3 q4 q5 q6 pasts length known there spot isWrong sign digit first second (upd (upd g (11 + (t % 3)) ((g (11 + (t % 3))) &&& ((bit (Ed a b)) ^^^ (-1 : Int32)))) (14 + (t % 3)) ((g (14 + (t % 3))) ||| (bit (Ed a b)))) ) (lw_V q1843 q1845 qs56 q90 q1846) (m_recv X S 0 rfl rfl) (by decide +kernel) ⟨Nat.le_of_ble_eq_true rfl, Nat.le_of_ble_eq_true rfl⟩ rfl hl.1 rfl (Nat.le_of_ble_eq_true rfl) dX3_says_107 ⟨(Nat.le_of_ble_eq_true rfl), (Nat.le_of_ble_eq_true rfl)⟩) (fun u H locs hp13 S => ?_)
      obtain ⟨u14, rfl⟩ : ∃ z, z = u := ⟨_, rfl⟩
      have hp13 : (u14 = endS (upd (upd g (11 + (t % 3)) ((g (11 + (t % 3))) &&& ((bit (Ed a b)) ^^^ (-1 : Int32)))) (14 + (t % 3)) ((g (14 + (t % 3))) ||| (bit (Ed a b))))) := hp13
      have S : Sw G A s.heap [[(h0, .inr (3, [.ref q1, .ref q2, .int pasts, .ref q3, .ref q4, .ref q5, .int length, .int known, .int there, .ref q6, .int spot, .int isWrong, .int sign, .int digit, .int first, .int second]))], [(q1, .inl (gA G 0, 182, .inl u14))]] _ _ := S
      have hhp13_0 := hp13
      subst hhp13_0
      have S : Sw G A s.heap [[(h0, .inr (3, [.ref q1, .ref q2, .int pasts, .ref q3, .ref q4, .ref q5, .int length, .int known, .int there, .ref q6, .int spot, .int isWrong, .int sign, .int digit, .int first, .int second]))], [(q1, .inl (gA G 0, 182, .inl (endS (upd (upd g (11 + (t % 3)) ((g (11 + (t % 3))) &&& ((bit (Ed a b)) ^^^ (-1 : Int32)))) (14 + (t % 3)) ((g (14 + (t % 3))) ||| (bit (Ed a b)))))))]] _ _ := S
      refine lv_aload_n hx hb dX3_says_110 rfl (lv_at hl 2 rfl) ?_
      refine lv_iload hx hb dX3_says_111 (lv_at hl 0 rfl) ?_
      have hq15 := S.cut (Bc := [[(h0, .inr (3, [.ref q1, .ref q2, .int pasts, .ref q3, .ref q4, .ref q5, .int length, .int known, .int there, .ref q6, .int spot, .int isWrong, .int sign, .int digit, .int first, .int second]))], [(q1, .inl (gA G 0, 182, .inl (endS (upd (upd g (11 + (t % 3)) ((g (11 + (t % 3))) &&& ((bit (Ed a b)) ^^^ (-1 : Int32)))) (14 + (t % 3)) ((g (14 + (t % 3))) ||| (bit (Ed a b)))))))]]) (Br := []) [0, 1] [] (show ([0, 1] ++ ([] : List Nat)).isPerm (List.range 2) = true by decide +kernel) rfl rfl
      refine m_ri X S hq15 (m_runV (rest := []) (As := [.int (nI (t % 3))]) (n := 1) X S hq15 (mt_X3_claims G l h0 q1 q2 q3 q4 q5 q6 pasts length known there spot isWrong sign digit first second (endS (upd (upd g (11 + (t % 3)) ((g (11 + (t % 3))) &&& ((bit (Ed a b)) ^^^ (-1 : Int32)))) (14 + (t % 3)) ((g (14 + (t % 3))) ||| (bit (Ed a b))))) (t % 3) (by omega)) (lw_V q1847 q1849 qs57 q90 q1850) (m_recv X S 0 rfl rfl) (by decide +kernel) ⟨Nat.le_of_ble_eq_true rfl, Nat.le_of_ble_eq_true rfl⟩ rfl hl.1 rfl (Nat.le_of_ble_eq_true rfl) dX3_says_113 ⟨(Nat.le_of_ble_eq_true rfl), (Nat.le_of_ble_eq_true rfl)⟩) (fun r16 u H locs hp16 S => ?_)
      have hp16 : r16 = nI (card ((endS (upd (upd g (11 + (t % 3)) ((g (11 + (t % 3))) &&& ((bit (Ed a b)) ^^^ (-1 : Int32)))) (14 + (t % 3)) ((g (14 + (t % 3))) ||| (bit (Ed a b))))) (11 + (t % 3)) ||| (endS (upd (upd g (11 + (t % 3)) ((g (11 + (t % 3))) &&& ((bit (Ed a b)) ^^^ (-1 : Int32)))) (14 + (t % 3)) ((g (14 + (t % 3))) ||| (bit (Ed a b))))) (14 + (t % 3)))) := hp16
      have hhp16_0 := hp16
      subst hhp16_0
      have S : Sw G A s.heap [[(h0, .inr (3, [.ref q1, .ref q2, .int pasts, .ref q3, .ref q4, .ref q5, .int length, .int known, .int there, .ref q6, .int spot, .int isWrong, .int sign, .int digit, .int first, .int second]))], [(q1, .inl (gA G 0, 182, .inl (endS (upd (upd g (11 + (t % 3)) ((g (11 + (t % 3))) &&& ((bit (Ed a b)) ^^^ (-1 : Int32)))) (14 + (t % 3)) ((g (14 + (t % 3))) ||| (bit (Ed a b)))))))]] _ _ := S
      exact m_iret X hr hlk hQ S (endS (upd (upd g (11 + (t % 3)) ((g (11 + (t % 3))) &&& ((bit (Ed a b)) ^^^ (-1 : Int32)))) (14 + (t % 3)) ((g (14 + (t % 3))) ||| (bit (Ed a b))))) (by show ((nI (card ((endS (upd (upd g (11 + (t % 3)) ((g (11 + (t % 3))) &&& ((bit (Ed a b)) ^^^ (-1 : Int32)))) (14 + (t % 3)) ((g (14 + (t % 3))) ||| (bit (Ed a b))))) (11 + (t % 3)) ||| (endS (upd (upd g (11 + (t % 3)) ((g (11 + (t % 3))) &&& ((bit (Ed a b)) ^^^ (-1 : Int32)))) (14 + (t % 3)) ((g (14 + (t % 3))) ||| (bit (Ed a b))))) (14 + (t % 3))))) = nI (card (sayS g (Ed a b) is (t % 3) (11 + t % 3) ||| sayS g (Ed a b) is (t % 3) (14 + t % 3))) ∧ (endS (upd (upd g (11 + (t % 3)) ((g (11 + (t % 3))) &&& ((bit (Ed a b)) ^^^ (-1 : Int32)))) (14 + (t % 3)) ((g (14 + (t % 3))) ||| (bit (Ed a b))))) = sayS g (Ed a b) is (t % 3)); refine (fun z => ⟨by rw [z], z⟩) ?_; unfold sayS; first | (rw [if_pos (by assumption), if_pos (by assumption)]; done) | (rw [if_pos (by assumption), if_neg (by assumption)]; done) | (rw [if_neg (by assumption), if_pos (by assumption)]; done) | (rw [if_neg (by assumption), if_neg (by assumption)]; done)) [0, 1] [] (show ([0, 1] ++ ([] : List Nat)).isPerm (List.range 2) = true by decide +kernel) rfl (Nat.le_of_ble_eq_true rfl) (Nat.le_of_ble_eq_true rfl) dX3_says_116
  · skip
    have c26_5 : is = (nI 1) := c26_5
    refine lv_aload_n hx hb dX3_says_29 rfl (lv_at hl 2 rfl) ?_
    refine m_get X S 0 rfl (T := TX3) (N := 16) in_X3 rfl 0 (by decide) q1712 (fun _ h9 => h9) rfl dX3_says_30 ?_
    refine lv_bipush (v := nI 11) hx hb dX3_says_33 (by decide) ?_
    refine lv_iload hx hb dX3_says_35 (lv_at hl 0 rfl) ?_
    refine lv_iadd hx hb dX3_says_37 ?_
    refine lv_toe (y := nI (11 + (t % 3))) (nI_add _ _) ?_
    refine m_iald X S 1 rfl (x := nI (11 + (t % 3))) (j := 11 + (t % 3)) (nI_clamp (by omega)) (vp_in_nI (by omega) (by omega)) (v := g (11 + (t % 3))) rfl dX3_says_38 ?_
    refine lv_iload hx hb dX3_says_39 (lv_at hl 1 rfl) ?_
    refine lv_ior hx hb dX3_says_41 ?_
    refine lv_goto (tgt := 60) hx hb dX3_says_42 (by decide) ?_
    refine m_iast X S 1 rfl (x := nI (11 + (t % 3))) (j := 11 + (t % 3)) (nI_clamp (by omega)) (vp_in_nI (by omega) (by omega)) dX3_says_60 (fun H locs S => ?_)
    have S : Sw G A s.heap [[(h0, .inr (3, [.ref q1, .ref q2, .int pasts, .ref q3, .ref q4, .ref q5, .int length, .int known, .int there, .ref q6, .int spot, .int isWrong, .int sign, .int digit, .int first, .int second]))], [(q1, .inl (gA G 0, 182, .inl (upd g (11 + (t % 3)) ((g (11 + (t % 3))) ||| (bit (Ed a b))))))]] _ _ := S
    refine lv_aload_n hx hb dX3_says_61 rfl (lv_at hl 2 rfl) ?_
    refine m_get X S 0 rfl (T := TX3) (N := 16) in_X3 rfl 0 (by decide) q1712 (fun _ h9 => h9) rfl dX3_says_62 ?_
    refine lv_bipush (v := nI 14) hx hb dX3_says_65 (by decide) ?_
    refine lv_iload hx hb dX3_says_67 (lv_at hl 0 rfl) ?_
    refine lv_iadd hx hb dX3_says_69 ?_
    refine lv_toe (y := nI (14 + (t % 3))) (nI_add _ _) ?_
    refine lv_iload_n hx hb dX3_says_70 rfl (lv_at hl 5 rfl) ?_
    refine lv_if_ne (tgt := 90) hx hb dX3_says_71 (by decide) (fun c71_17 => ?_) (fun c71_17 => ?_)
    · skip
      have c71_17 : ¬ is = (nI 0) := c71_17
      refine lv_aload_n hx hb dX3_says_90 rfl (lv_at hl 2 rfl) ?_
      refine m_get X S 0 rfl (T := TX3) (N := 16) in_X3 rfl 0 (by decide) q1712 (fun _ h9 => h9) rfl dX3_says_91 ?_
      refine lv_bipush (v := nI 14) hx hb dX3_says_94 (by decide) ?_
      refine lv_iload hx hb dX3_says_96 (lv_at hl 0 rfl) ?_
      refine lv_iadd hx hb dX3_says_98 ?_
      refine lv_toe (y := nI (14 + (t % 3))) (nI_add _ _) ?_
      refine m_iald X S 1 rfl (x := nI (14 + (t % 3))) (j := 14 + (t % 3)) (nI_clamp (by omega)) (vp_in_nI (by omega) (by omega)) (v := g (14 + (t % 3))) (pk_un (by omega)) dX3_says_99 ?_
      refine lv_iload hx hb dX3_says_100 (lv_at hl 1 rfl) ?_
      refine lv_iconst (v := (-1 : Int32)) hx hb dX3_says_102 (by decide) ?_
      refine lv_ixor hx hb dX3_says_103 ?_
      refine lv_iand hx hb dX3_says_104 ?_
      refine m_iast X S 1 rfl (x := nI (14 + (t % 3))) (j := 14 + (t % 3)) (nI_clamp (by omega)) (vp_in_nI (by omega) (by omega)) dX3_says_105 (fun H locs S => ?_)
      have S : Sw G A s.heap [[(h0, .inr (3, [.ref q1, .ref q2, .int pasts, .ref q3, .ref q4, .ref q5, .int length, .int known, .int there, .ref q6, .int spot, .int isWrong, .int sign, .int digit, .int first, .int second]))], [(q1, .inl (gA G 0, 182, .inl (upd (upd g (11 + (t % 3)) ((g (11 + (t % 3))) ||| (bit (Ed a b)))) (14 + (t % 3)) ((g (14 + (t % 3))) &&& ((bit (Ed a b)) ^^^ (-1 : Int32))))))]] _ _ := S
      refine lv_aload_n hx hb dX3_says_106 rfl (lv_at hl 2 rfl) ?_
      have hq18 := S.cut (Bc := [[(h0, .inr (3, [.ref q1, .ref q2, .int pasts, .ref q3, .ref q4, .ref q5, .int length, .int known, .int there, .ref q6, .int spot, .int isWrong, .int sign, .int digit, .int first, .int second]))], [(q1, .inl (gA G 0, 182, .inl (upd (upd g (11 + (t % 3)) ((g (11 + (t % 3))) ||| (bit (Ed a b)))) (14 + (t % 3)) ((g (14 + (t % 3))) &&& ((bit (Ed a b)) ^^^ (-1 : Int32))))))]]) (Br := []) [0, 1] [] (show ([0, 1] ++ ([] : List Nat)).isPerm (List.range 2) = true by decide +kernel) rfl rfl
      refine m_rv X S hq18 (m_runV (rest := []) (As := []) (n := 0) X S hq18 (mt_X3_ends G l h0 q1 q2 q3 q4 q5 q6 pasts length known there spot isWrong sign digit first second (upd (upd g (11 + (t % 3)) ((g (11 + (t % 3))) ||| (bit (Ed a b)))) (14 + (t % 3)) ((g (14 + (t % 3))) &&& ((bit (Ed a b)) ^^^ (-1 : Int32)))) ) (lw_V q1843 q1845 qs56 q90 q1846) (m_recv X S 0 rfl rfl) (by decide +kernel) ⟨Nat.le_of_ble_eq_true rfl, Nat.le_of_ble_eq_true rfl⟩ rfl hl.1 rfl (Nat.le_of_ble_eq_true rfl) dX3_says_107 ⟨(Nat.le_of_ble_eq_true rfl), (Nat.le_of_ble_eq_true rfl)⟩) (fun u H locs hp19 S => ?_)
      obtain ⟨u20, rfl⟩ : ∃ z, z = u := ⟨_, rfl⟩
      have hp19 : (u20 = endS (upd (upd g (11 + (t % 3)) ((g (11 + (t % 3))) ||| (bit (Ed a b)))) (14 + (t % 3)) ((g (14 + (t % 3))) &&& ((bit (Ed a b)) ^^^ (-1 : Int32))))) := hp19
      have S : Sw G A s.heap [[(h0, .inr (3, [.ref q1, .ref q2, .int pasts, .ref q3, .ref q4, .ref q5, .int length, .int known, .int there, .ref q6, .int spot, .int isWrong, .int sign, .int digit, .int first, .int second]))], [(q1, .inl (gA G 0, 182, .inl u20))]] _ _ := S
      have hhp19_0 := hp19
      subst hhp19_0
      have S : Sw G A s.heap [[(h0, .inr (3, [.ref q1, .ref q2, .int pasts, .ref q3, .ref q4, .ref q5, .int length, .int known, .int there, .ref q6, .int spot, .int isWrong, .int sign, .int digit, .int first, .int second]))], [(q1, .inl (gA G 0, 182, .inl (endS (upd (upd g (11 + (t % 3)) ((g (11 + (t % 3))) ||| (bit (Ed a b)))) (14 + (t % 3)) ((g (14 + (t % 3))) &&& ((bit (Ed a b)) ^^^ (-1 : Int32)))))))]] _ _ := S
      refine lv_aload_n hx hb dX3_says_110 rfl (lv_at hl 2 rfl) ?_
      refine lv_iload hx hb dX3_says_111 (lv_at hl 0 rfl) ?_
      have hq21 := S.cut (Bc := [[(h0, .inr (3, [.ref q1, .ref q2, .int pasts, .ref q3, .ref q4, .ref q5, .int length, .int known, .int there, .ref q6, .int spot, .int isWrong, .int sign, .int digit, .int first, .int second]))], [(q1, .inl (gA G 0, 182, .inl (endS (upd (upd g (11 + (t % 3)) ((g (11 + (t % 3))) ||| (bit (Ed a b)))) (14 + (t % 3)) ((g (14 + (t % 3))) &&& ((bit (Ed a b)) ^^^ (-1 : Int32)))))))]]) (Br := []) [0, 1] [] (show ([0, 1] ++ ([] : List Nat)).isPerm (List.range 2) = true by decide +kernel) rfl rfl
      refine m_ri X S hq21 (m_runV (rest := []) (As := [.int (nI (t % 3))]) (n := 1) X S hq21 (mt_X3_claims G l h0 q1 q2 q3 q4 q5 q6 pasts length known there spot isWrong sign digit first second (endS (upd (upd g (11 + (t % 3)) ((g (11 + (t % 3))) ||| (bit (Ed a b)))) (14 + (t % 3)) ((g (14 + (t % 3))) &&& ((bit (Ed a b)) ^^^ (-1 : Int32))))) (t % 3) (by omega)) (lw_V q1847 q1849 qs57 q90 q1850) (m_recv X S 0 rfl rfl) (by decide +kernel) ⟨Nat.le_of_ble_eq_true rfl, Nat.le_of_ble_eq_true rfl⟩ rfl hl.1 rfl (Nat.le_of_ble_eq_true rfl) dX3_says_113 ⟨(Nat.le_of_ble_eq_true rfl), (Nat.le_of_ble_eq_true rfl)⟩) (fun r22 u H locs hp22 S => ?_)
      have hp22 : r22 = nI (card ((endS (upd (upd g (11 + (t % 3)) ((g (11 + (t % 3))) ||| (bit (Ed a b)))) (14 + (t % 3)) ((g (14 + (t % 3))) &&& ((bit (Ed a b)) ^^^ (-1 : Int32))))) (11 + (t % 3)) ||| (endS (upd (upd g (11 + (t % 3)) ((g (11 + (t % 3))) ||| (bit (Ed a b)))) (14 + (t % 3)) ((g (14 + (t % 3))) &&& ((bit (Ed a b)) ^^^ (-1 : Int32))))) (14 + (t % 3)))) := hp22
      have hhp22_0 := hp22
      subst hhp22_0
      have S : Sw G A s.heap [[(h0, .inr (3, [.ref q1, .ref q2, .int pasts, .ref q3, .ref q4, .ref q5, .int length, .int known, .int there, .ref q6, .int spot, .int isWrong, .int sign, .int digit, .int first, .int second]))], [(q1, .inl (gA G 0, 182, .inl (endS (upd (upd g (11 + (t % 3)) ((g (11 + (t % 3))) ||| (bit (Ed a b)))) (14 + (t % 3)) ((g (14 + (t % 3))) &&& ((bit (Ed a b)) ^^^ (-1 : Int32)))))))]] _ _ := S
      exact m_iret X hr hlk hQ S (endS (upd (upd g (11 + (t % 3)) ((g (11 + (t % 3))) ||| (bit (Ed a b)))) (14 + (t % 3)) ((g (14 + (t % 3))) &&& ((bit (Ed a b)) ^^^ (-1 : Int32))))) (by show ((nI (card ((endS (upd (upd g (11 + (t % 3)) ((g (11 + (t % 3))) ||| (bit (Ed a b)))) (14 + (t % 3)) ((g (14 + (t % 3))) &&& ((bit (Ed a b)) ^^^ (-1 : Int32))))) (11 + (t % 3)) ||| (endS (upd (upd g (11 + (t % 3)) ((g (11 + (t % 3))) ||| (bit (Ed a b)))) (14 + (t % 3)) ((g (14 + (t % 3))) &&& ((bit (Ed a b)) ^^^ (-1 : Int32))))) (14 + (t % 3))))) = nI (card (sayS g (Ed a b) is (t % 3) (11 + t % 3) ||| sayS g (Ed a b) is (t % 3) (14 + t % 3))) ∧ (endS (upd (upd g (11 + (t % 3)) ((g (11 + (t % 3))) ||| (bit (Ed a b)))) (14 + (t % 3)) ((g (14 + (t % 3))) &&& ((bit (Ed a b)) ^^^ (-1 : Int32))))) = sayS g (Ed a b) is (t % 3)); refine (fun z => ⟨by rw [z], z⟩) ?_; unfold sayS; first | (rw [if_pos (by assumption), if_pos (by assumption)]; done) | (rw [if_pos (by assumption), if_neg (by assumption)]; done) | (rw [if_neg (by assumption), if_pos (by assumption)]; done) | (rw [if_neg (by assumption), if_neg (by assumption)]; done)) [0, 1] [] (show ([0, 1] ++ ([] : List Nat)).isPerm (List.range 2) = true by decide +kernel) rfl (Nat.le_of_ble_eq_true rfl) (Nat.le_of_ble_eq_true rfl) dX3_says_116
    · skip
      have c71_17 : is = (nI 0) := c71_17
      refine lv_aload_n hx hb dX3_says_74 rfl (lv_at hl 2 rfl) ?_
      refine m_get X S 0 rfl (T := TX3) (N := 16) in_X3 rfl 0 (by decide) q1712 (fun _ h9 => h9) rfl dX3_says_75 ?_
      refine lv_bipush (v := nI 14) hx hb dX3_says_78 (by decide) ?_
      refine lv_iload hx hb dX3_says_80 (lv_at hl 0 rfl) ?_
      refine lv_iadd hx hb dX3_says_82 ?_
      refine lv_toe (y := nI (14 + (t % 3))) (nI_add _ _) ?_
      refine m_iald X S 1 rfl (x := nI (14 + (t % 3))) (j := 14 + (t % 3)) (nI_clamp (by omega)) (vp_in_nI (by omega) (by omega)) (v := g (14 + (t % 3))) (pk_un (by omega)) dX3_says_83 ?_
      refine lv_iload hx hb dX3_says_84 (lv_at hl 1 rfl) ?_
      refine lv_ior hx hb dX3_says_86 ?_
      refine lv_goto (tgt := 105) hx hb dX3_says_87 (by decide) ?_
      refine m_iast X S 1 rfl (x := nI (14 + (t % 3))) (j := 14 + (t % 3)) (nI_clamp (by omega)) (vp_in_nI (by omega) (by omega)) dX3_says_105 (fun H locs S => ?_)
      have S : Sw G A s.heap [[(h0, .inr (3, [.ref q1, .ref q2, .int pasts, .ref q3, .ref q4, .ref q5, .int length, .int known, .int there, .ref q6, .int spot, .int isWrong, .int sign, .int digit, .int first, .int second]))], [(q1, .inl (gA G 0, 182, .inl (upd (upd g (11 + (t % 3)) ((g (11 + (t % 3))) ||| (bit (Ed a b)))) (14 + (t % 3)) ((g (14 + (t % 3))) ||| (bit (Ed a b))))))]] _ _ := S
      refine lv_aload_n hx hb dX3_says_106 rfl (lv_at hl 2 rfl) ?_
      have hq23 := S.cut (Bc := [[(h0, .inr (3, [.ref q1, .ref q2, .int pasts, .ref q3, .ref q4, .ref q5, .int length, .int known, .int there, .ref q6, .int spot, .int isWrong, .int sign, .int digit, .int first, .int second]))], [(q1, .inl (gA G 0, 182, .inl (upd (upd g (11 + (t % 3)) ((g (11 + (t % 3))) ||| (bit (Ed a b)))) (14 + (t % 3)) ((g (14 + (t % 3))) ||| (bit (Ed a b))))))]]) (Br := []) [0, 1] [] (show ([0, 1] ++ ([] : List Nat)).isPerm (List.range 2) = true by decide +kernel) rfl rfl
      refine m_rv X S hq23 (m_runV (rest := []) (As := []) (n := 0) X S hq23 (mt_X3_ends G l h0 q1 q2 q3 q4 q5 q6 pasts length known there spot isWrong sign digit first second (upd (upd g (11 + (t % 3)) ((g (11 + (t % 3))) ||| (bit (Ed a b)))) (14 + (t % 3)) ((g (14 + (t % 3))) ||| (bit (Ed a b)))) ) (lw_V q1843 q1845 qs56 q90 q1846) (m_recv X S 0 rfl rfl) (by decide +kernel) ⟨Nat.le_of_ble_eq_true rfl, Nat.le_of_ble_eq_true rfl⟩ rfl hl.1 rfl (Nat.le_of_ble_eq_true rfl) dX3_says_107 ⟨(Nat.le_of_ble_eq_true rfl), (Nat.le_of_ble_eq_true rfl)⟩) (fun u H locs hp24 S => ?_)
      obtain ⟨u25, rfl⟩ : ∃ z, z = u := ⟨_, rfl⟩
      have hp24 : (u25 = endS (upd (upd g (11 + (t % 3)) ((g (11 + (t % 3))) ||| (bit (Ed a b)))) (14 + (t % 3)) ((g (14 + (t % 3))) ||| (bit (Ed a b))))) := hp24
      have S : Sw G A s.heap [[(h0, .inr (3, [.ref q1, .ref q2, .int pasts, .ref q3, .ref q4, .ref q5, .int length, .int known, .int there, .ref q6, .int spot, .int isWrong, .int sign, .int digit, .int first, .int second]))], [(q1, .inl (gA G 0, 182, .inl u25))]] _ _ := S
      have hhp24_0 := hp24
      subst hhp24_0
      have S : Sw G A s.heap [[(h0, .inr (3, [.ref q1, .ref q2, .int pasts, .ref q3, .ref q4, .ref q5, .int length, .int known, .int there, .ref q6, .int spot, .int isWrong, .int sign, .int digit, .int first, .int second]))], [(q1, .inl (gA G 0, 182, .inl (endS (upd (upd g (11 + (t % 3)) ((g (11 + (t % 3))) ||| (bit (Ed a b)))) (14 + (t % 3)) ((g (14 + (t % 3))) ||| (bit (Ed a b)))))))]] _ _ := S
      refine lv_aload_n hx hb dX3_says_110 rfl (lv_at hl 2 rfl) ?_
      refine lv_iload hx hb dX3_says_111 (lv_at hl 0 rfl) ?_
      have hq26 := S.cut (Bc := [[(h0, .inr (3, [.ref q1, .ref q2, .int pasts, .ref q3, .ref q4, .ref q5, .int length, .int known, .int there, .ref q6, .int spot, .int isWrong, .int sign, .int digit, .int first, .int second]))], [(q1, .inl (gA G 0, 182, .inl (endS (upd (upd g (11 + (t % 3)) ((g (11 + (t % 3))) ||| (bit (Ed a b)))) (14 + (t % 3)) ((g (14 + (t % 3))) ||| (bit (Ed a b)))))))]]) (Br := []) [0, 1] [] (show ([0, 1] ++ ([] : List Nat)).isPerm (List.range 2) = true by decide +kernel) rfl rfl
      refine m_ri X S hq26 (m_runV (rest := []) (As := [.int (nI (t % 3))]) (n := 1) X S hq26 (mt_X3_claims G l h0 q1 q2 q3 q4 q5 q6 pasts length known there spot isWrong sign digit first second (endS (upd (upd g (11 + (t % 3)) ((g (11 + (t % 3))) ||| (bit (Ed a b)))) (14 + (t % 3)) ((g (14 + (t % 3))) ||| (bit (Ed a b))))) (t % 3) (by omega)) (lw_V q1847 q1849 qs57 q90 q1850) (m_recv X S 0 rfl rfl) (by decide +kernel) ⟨Nat.le_of_ble_eq_true rfl, Nat.le_of_ble_eq_true rfl⟩ rfl hl.1 rfl (Nat.le_of_ble_eq_true rfl) dX3_says_113 ⟨(Nat.le_of_ble_eq_true rfl), (Nat.le_of_ble_eq_true rfl)⟩) (fun r27 u H locs hp27 S => ?_)
      have hp27 : r27 = nI (card ((endS (upd (upd g (11 + (t % 3)) ((g (11 + (t % 3))) ||| (bit (Ed a b)))) (14 + (t % 3)) ((g (14 + (t % 3))) ||| (bit (Ed a b))))) (11 + (t % 3)) ||| (endS (upd (upd g (11 + (t % 3)) ((g (11 + (t % 3))) ||| (bit (Ed a b)))) (14 + (t % 3)) ((g (14 + (t % 3))) ||| (bit (Ed a b))))) (14 + (t % 3)))) := hp27
      have hhp27_0 := hp27
      subst hhp27_0
      have S : Sw G A s.heap [[(h0, .inr (3, [.ref q1, .ref q2, .int pasts, .ref q3, .ref q4, .ref q5, .int length, .int known, .int there, .ref q6, .int spot, .int isWrong, .int sign, .int digit, .int first, .int second]))], [(q1, .inl (gA G 0, 182, .inl (endS (upd (upd g (11 + (t % 3)) ((g (11 + (t % 3))) ||| (bit (Ed a b)))) (14 + (t % 3)) ((g (14 + (t % 3))) ||| (bit (Ed a b)))))))]] _ _ := S
      exact m_iret X hr hlk hQ S (endS (upd (upd g (11 + (t % 3)) ((g (11 + (t % 3))) ||| (bit (Ed a b)))) (14 + (t % 3)) ((g (14 + (t % 3))) ||| (bit (Ed a b))))) (by show ((nI (card ((endS (upd (upd g (11 + (t % 3)) ((g (11 + (t % 3))) ||| (bit (Ed a b)))) (14 + (t % 3)) ((g (14 + (t % 3))) ||| (bit (Ed a b))))) (11 + (t % 3)) ||| (endS (upd (upd g (11 + (t % 3)) ((g (11 + (t % 3))) ||| (bit (Ed a b)))) (14 + (t % 3)) ((g (14 + (t % 3))) ||| (bit (Ed a b))))) (14 + (t % 3))))) = nI (card (sayS g (Ed a b) is (t % 3) (11 + t % 3) ||| sayS g (Ed a b) is (t % 3) (14 + t % 3))) ∧ (endS (upd (upd g (11 + (t % 3)) ((g (11 + (t % 3))) ||| (bit (Ed a b)))) (14 + (t % 3)) ((g (14 + (t % 3))) ||| (bit (Ed a b))))) = sayS g (Ed a b) is (t % 3)); refine (fun z => ⟨by rw [z], z⟩) ?_; unfold sayS; first | (rw [if_pos (by assumption), if_pos (by assumption)]; done) | (rw [if_pos (by assumption), if_neg (by assumption)]; done) | (rw [if_neg (by assumption), if_pos (by assumption)]; done) | (rw [if_neg (by assumption), if_neg (by assumption)]; done)) [0, 1] [] (show ([0, 1] ++ ([] : List Nat)).isPerm (List.range 2) = true by decide +kernel) rfl (Nat.le_of_ble_eq_true rfl) (Nat.le_of_ble_eq_true rfl) dX3_says_116
