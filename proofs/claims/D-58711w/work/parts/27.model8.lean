/-! THE MODEL: the pad -/
abbrev rm_X3_within : Room := { frames := 1, cells := 0, slots := 0, locals := 22 }
set_option maxHeartbeats 4000000 in
set_option maxRecDepth 100000 in
theorem mt_X3_within (G : mGG) (l : Launch) (h0 : Nat) (q1 : Nat) (q2 : Nat) (q3 : Nat) (q4 : Nat) (q5 : Nat) (q6 : Nat) (pasts : Int32) (known : Int32) (there : Int32) (sign : Int32) (digit : Int32) (first : Int32) (second : Int32) (pd : Nat → Int32) (i : Nat) (w : Bool) (L : Nat) (lo : Nat) (hi : Nat) (hiL : i ≤ L) (hL : L ≤ 80) : Cg G l yX3_within (ws_ yX3_within cX3_within 4 (some FieldType.int)) rm_X3_within [.ref h0, .int (nI lo), .int (nI hi)] [[(h0, .inr (3, [.ref q1, .ref q2, .int pasts, .ref q3, .ref q4, .ref q5, .int (nI L), .int known, .int there, .ref q6, .int (nI i), .int (cI w), .int sign, .int digit, .int first, .int second]))], [(q5, .inl (gA G 0, 80, .inl pd))]] (Qi G (fun (r : Int32) (u : Nat × Bool) => (r = chS pd L i - nI lo ∧ u.1 = okI i (okW pd L lo hi i w) ∧ u.2 = okW pd L lo hi i w)) (fun (u : Nat × Bool) => [[(h0, .inr (3, [.ref q1, .ref q2, .int pasts, .ref q3, .ref q4, .ref q5, .int (nI L), .int known, .int there, .ref q6, .int (nI u.1), .int (cI u.2), .int sign, .int digit, .int first, .int second]))], [(q5, .inl (gA G 0, 80, .inl pd))]])) := by
  refine Cg.intro (own := RX3) (cc := cX3_within) (maxL := 4) (ret := (some FieldType.int)) (by decide +kernel) rfl rfl (Nat.le_of_ble_eq_true rfl) ?_
  intro p e s m ag below meth c A ls Q X hr hlk hnm S hl hQ
  have hx := X.1
  have hb := X.2.1
  have hl : lv_has ls 4 [(0, .ref h0), (1, .int (nI lo)), (2, .int (nI hi))] := hl
  refine lv_aload_n hx hb dX3_within_0 rfl (lv_at hl 0 rfl) ?_
  refine m_get X S 0 rfl (T := TX3) (N := 16) in_X3 rfl 10 (by decide) q1722 (fun _ h9 => h9) rfl dX3_within_1 ?_
  refine lv_aload_n hx hb dX3_within_4 rfl (lv_at hl 0 rfl) ?_
  refine m_get X S 0 rfl (T := TX3) (N := 16) in_X3 rfl 6 (by decide) q1718 (fun _ h9 => h9) rfl dX3_within_5 ?_
  refine lv_icmp_ge (tgt := 23) hx hb dX3_within_8 (by decide) (fun c8_1 => ?_) (fun c8_1 => ?_)
  · skip
    have c8_1 : L ≤ i := (nI_leI (a := L) (b := i) (by omega) (by omega)).mp c8_1
    refine lv_iconst (v := nI 0) hx hb dX3_within_23 (by decide) ?_
    refine lv_toe (y := chS pd L i) (by first | exact chS_in (by omega) | exact chS_out (by omega)) ?_
    refine lv_istore_n (lv' := [(3, .int (chS pd L i)), (0, .ref h0), (1, .int (nI lo)), (2, .int (nI hi))]) hx hb dX3_within_24 rfl hl (Nat.le_of_ble_eq_true rfl) rfl (fun ls hl => ?_)
    refine lv_aload_n hx hb dX3_within_25 rfl (lv_at hl 1 rfl) ?_
    refine lv_aload_n hx hb dX3_within_26 rfl (lv_at hl 1 rfl) ?_
    refine m_get X S 0 rfl (T := TX3) (N := 16) in_X3 rfl 11 (by decide) q1723 (fun _ h9 => h9) rfl dX3_within_27 ?_
    refine lv_if_ne (tgt := 42) hx hb dX3_within_30 (by decide) (fun c30_2 => ?_) (fun c30_2 => ?_)
    · skip
      have c30_2 : ¬ (cI w) = (nI 0) := c30_2
      have hwt : w = true := cI_n0.mp c30_2
      refine lv_iconst (v := nI 1) hx hb dX3_within_42 (by decide) ?_
      refine lv_goto (tgt := 47) hx hb dX3_within_43 (by decide) ?_
      refine m_put X S 0 rfl (T := TX3) (N := 16) in_X3 tyX3 tyX3_ok nmX3 rfl 11 (by decide) q1723 (fun _ h9 => h9) rfl rfl rfl (Nat.le_of_ble_eq_true rfl) dX3_within_47 (fun H locs S => ?_)
      have S : Sw G A s.heap [[(h0, .inr (3, [.ref q1, .ref q2, .int pasts, .ref q3, .ref q4, .ref q5, .int (nI L), .int known, .int there, .ref q6, .int (nI i), .int (nI 1), .int sign, .int digit, .int first, .int second]))], [(q5, .inl (gA G 0, 80, .inl pd))]] _ _ := S
      refine lv_aload_n hx hb dX3_within_50 rfl (lv_at hl 1 rfl) ?_
      refine lv_dup hx hb dX3_within_51 rfl ?_
      refine m_get X S 0 rfl (T := TX3) (N := 16) in_X3 rfl 10 (by decide) q1722 (fun _ h9 => h9) rfl dX3_within_52 ?_
      refine lv_aload_n hx hb dX3_within_55 rfl (lv_at hl 1 rfl) ?_
      refine m_get X S 0 rfl (T := TX3) (N := 16) in_X3 rfl 11 (by decide) q1723 (fun _ h9 => h9) rfl dX3_within_56 ?_
      refine lv_if_eq (tgt := 66) hx hb dX3_within_59 (by decide) (fun c59_3 => absurd c59_3 (by decide)) (fun c59_3 => ?_)
      refine lv_iconst (v := nI 0) hx hb dX3_within_62 (by decide) ?_
      refine lv_goto (tgt := 67) hx hb dX3_within_63 (by decide) ?_
      refine lv_iadd hx hb dX3_within_67 ?_
      refine lv_toe (y := nI i) (nI_add _ _) ?_
      refine m_put X S 0 rfl (T := TX3) (N := 16) in_X3 tyX3 tyX3_ok nmX3 rfl 10 (by decide) q1722 (fun _ h9 => h9) rfl rfl rfl (Nat.le_of_ble_eq_true rfl) dX3_within_68 (fun H locs S => ?_)
      have S : Sw G A s.heap [[(h0, .inr (3, [.ref q1, .ref q2, .int pasts, .ref q3, .ref q4, .ref q5, .int (nI L), .int known, .int there, .ref q6, .int (nI i), .int (nI 1), .int sign, .int digit, .int first, .int second]))], [(q5, .inl (gA G 0, 80, .inl pd))]] _ _ := S
      have hok : okW pd L lo hi i w = true := by first | exact okW_w (by assumption) | exact okW_n (by assumption) | exact okW_y (by assumption) (by assumption)
      have hE4 : nI i = nI (okI i (okW pd L lo hi i w)) := by rw [hok]; rfl
      have S := S.cong (congrArg (fun (zz : Int32) => ([[(h0, .inr (3, [.ref q1, .ref q2, .int pasts, .ref q3, .ref q4, .ref q5, .int (nI L), .int known, .int there, .ref q6, .int zz, .int (nI 1), .int sign, .int digit, .int first, .int second]))], [(q5, .inl (gA G 0, 80, .inl pd))]] : List va_W)) hE4)
      have S : Sw G A s.heap [[(h0, .inr (3, [.ref q1, .ref q2, .int pasts, .ref q3, .ref q4, .ref q5, .int (nI L), .int known, .int there, .ref q6, .int (nI (okI i (okW pd L lo hi i w))), .int (nI 1), .int sign, .int digit, .int first, .int second]))], [(q5, .inl (gA G 0, 80, .inl pd))]] _ _ := S
      have hE5 : nI 1 = cI (okW pd L lo hi i w) := by rw [hok]; rfl
      have S := S.cong (congrArg (fun (zz : Int32) => ([[(h0, .inr (3, [.ref q1, .ref q2, .int pasts, .ref q3, .ref q4, .ref q5, .int (nI L), .int known, .int there, .ref q6, .int (nI (okI i (okW pd L lo hi i w))), .int zz, .int sign, .int digit, .int first, .int second]))], [(q5, .inl (gA G 0, 80, .inl pd))]] : List va_W)) hE5)
      have S : Sw G A s.heap [[(h0, .inr (3, [.ref q1, .ref q2, .int pasts, .ref q3, .ref q4, .ref q5, .int (nI L), .int known, .int there, .ref q6, .int (nI (okI i (okW pd L lo hi i w))), .int (cI (okW pd L lo hi i w)), .int sign, .int digit, .int first, .int second]))], [(q5, .inl (gA G 0, 80, .inl pd))]] _ _ := S
      refine lv_iload_n hx hb dX3_within_71 rfl (lv_at hl 0 rfl) ?_
      refine lv_iload_n hx hb dX3_within_72 rfl (lv_at hl 2 rfl) ?_
      refine lv_isub hx hb dX3_within_73 ?_
      exact m_iret X hr hlk hQ S ⟨okI i (okW pd L lo hi i w), okW pd L lo hi i w⟩ (by show (((chS pd L i) - (nI lo)) = chS pd L i - nI lo ∧ (okI i (okW pd L lo hi i w)) = okI i (okW pd L lo hi i w) ∧ (okW pd L lo hi i w) = okW pd L lo hi i w); first | exact ⟨(by with_reducible rfl), (by with_reducible rfl), (by with_reducible rfl)⟩) [0, 1] [] (show ([0, 1] ++ ([] : List Nat)).isPerm (List.range 2) = true by decide +kernel) rfl (Nat.le_of_ble_eq_true rfl) (Nat.le_of_ble_eq_true rfl) dX3_within_74
    · skip
      have c30_2 : (cI w) = (nI 0) := c30_2
      have hwf : w = false := cI_0.mp c30_2
      refine lv_iload_n hx hb dX3_within_33 rfl (lv_at hl 0 rfl) ?_
      refine lv_iload_n hx hb dX3_within_34 rfl (lv_at hl 2 rfl) ?_
      refine lv_iload_n hx hb dX3_within_35 rfl (lv_at hl 3 rfl) ?_
      have hq6 := S.cut (Bc := []) (Br := [[(h0, .inr (3, [.ref q1, .ref q2, .int pasts, .ref q3, .ref q4, .ref q5, .int (nI L), .int known, .int there, .ref q6, .int (nI i), .int (cI w), .int sign, .int digit, .int first, .int second]))], [(q5, .inl (gA G 0, 80, .inl pd))]]) [] [0, 1] (show ([] ++ ([0, 1] : List Nat)).isPerm (List.range 2) = true by decide +kernel) rfl rfl
      refine m_ri X S hq6 (m_runS (rest := [.ref h0]) (As := [.int (chS pd L i), .int (nI lo), .int (nI hi)]) (n := 3) X S hq6 (mt_X3_in G l (chS pd L i) (nI lo) (nI hi) ) (lw_S q1766 q1767 q90 q1768) (by decide +kernel) ⟨Nat.le_of_ble_eq_true rfl, Nat.le_of_ble_eq_true rfl⟩ rfl hl.1 rfl (Nat.le_of_ble_eq_true rfl) dX3_within_36 ⟨(Nat.le_of_ble_eq_true rfl), (Nat.le_of_ble_eq_true rfl)⟩) (fun r7 u H locs hp7 S => ?_)
      have hp7 : (r7 = nI 1 ∧ ((nI lo) ≤ (chS pd L i) ∧ (chS pd L i) ≤ (nI hi))) ∨ (r7 = nI 0 ∧ (¬ ((nI lo) ≤ (chS pd L i) ∧ (chS pd L i) ≤ (nI hi)))) := hp7
      have S : Sw G A s.heap [[(h0, .inr (3, [.ref q1, .ref q2, .int pasts, .ref q3, .ref q4, .ref q5, .int (nI L), .int known, .int there, .ref q6, .int (nI i), .int (cI w), .int sign, .int digit, .int first, .int second]))], [(q5, .inl (gA G 0, 80, .inl pd))]] _ _ := S
      rcases hp7 with ⟨hhp7_0, hhp7_1⟩ | ⟨hhp7_0, hhp7_1⟩
      · skip
        subst hhp7_0
        have hf0_r7 := hhp7_1
        have S : Sw G A s.heap [[(h0, .inr (3, [.ref q1, .ref q2, .int pasts, .ref q3, .ref q4, .ref q5, .int (nI L), .int known, .int there, .ref q6, .int (nI i), .int (cI w), .int sign, .int digit, .int first, .int second]))], [(q5, .inl (gA G 0, 80, .inl pd))]] _ _ := S
        refine lv_if_ne (tgt := 46) hx hb dX3_within_39 (by decide) (fun c39_8 => ?_) (fun c39_8 => absurd c39_8 (by decide))
        refine lv_iconst (v := nI 0) hx hb dX3_within_46 (by decide) ?_
        refine m_put X S 0 rfl (T := TX3) (N := 16) in_X3 tyX3 tyX3_ok nmX3 rfl 11 (by decide) q1723 (fun _ h9 => h9) rfl rfl rfl (Nat.le_of_ble_eq_true rfl) dX3_within_47 (fun H locs S => ?_)
        have S : Sw G A s.heap [[(h0, .inr (3, [.ref q1, .ref q2, .int pasts, .ref q3, .ref q4, .ref q5, .int (nI L), .int known, .int there, .ref q6, .int (nI i), .int (nI 0), .int sign, .int digit, .int first, .int second]))], [(q5, .inl (gA G 0, 80, .inl pd))]] _ _ := S
        refine lv_aload_n hx hb dX3_within_50 rfl (lv_at hl 1 rfl) ?_
        refine lv_dup hx hb dX3_within_51 rfl ?_
        refine m_get X S 0 rfl (T := TX3) (N := 16) in_X3 rfl 10 (by decide) q1722 (fun _ h9 => h9) rfl dX3_within_52 ?_
        refine lv_aload_n hx hb dX3_within_55 rfl (lv_at hl 1 rfl) ?_
        refine m_get X S 0 rfl (T := TX3) (N := 16) in_X3 rfl 11 (by decide) q1723 (fun _ h9 => h9) rfl dX3_within_56 ?_
        refine lv_if_eq (tgt := 66) hx hb dX3_within_59 (by decide) (fun c59_9 => ?_) (fun c59_9 => absurd (by decide) c59_9)
        refine lv_iconst (v := nI 1) hx hb dX3_within_66 (by decide) ?_
        refine lv_iadd hx hb dX3_within_67 ?_
        refine lv_toe (y := nI (i + 1)) (nI_add _ _) ?_
        refine m_put X S 0 rfl (T := TX3) (N := 16) in_X3 tyX3 tyX3_ok nmX3 rfl 10 (by decide) q1722 (fun _ h9 => h9) rfl rfl rfl (Nat.le_of_ble_eq_true rfl) dX3_within_68 (fun H locs S => ?_)
        have S : Sw G A s.heap [[(h0, .inr (3, [.ref q1, .ref q2, .int pasts, .ref q3, .ref q4, .ref q5, .int (nI L), .int known, .int there, .ref q6, .int (nI (i + 1)), .int (nI 0), .int sign, .int digit, .int first, .int second]))], [(q5, .inl (gA G 0, 80, .inl pd))]] _ _ := S
        have hok : okW pd L lo hi i w = false := by first | exact okW_w (by assumption) | exact okW_n (by assumption) | exact okW_y (by assumption) (by assumption)
        have hE10 : nI (i + 1) = nI (okI i (okW pd L lo hi i w)) := by rw [hok]; rfl
        have S := S.cong (congrArg (fun (zz : Int32) => ([[(h0, .inr (3, [.ref q1, .ref q2, .int pasts, .ref q3, .ref q4, .ref q5, .int (nI L), .int known, .int there, .ref q6, .int zz, .int (nI 0), .int sign, .int digit, .int first, .int second]))], [(q5, .inl (gA G 0, 80, .inl pd))]] : List va_W)) hE10)
        have S : Sw G A s.heap [[(h0, .inr (3, [.ref q1, .ref q2, .int pasts, .ref q3, .ref q4, .ref q5, .int (nI L), .int known, .int there, .ref q6, .int (nI (okI i (okW pd L lo hi i w))), .int (nI 0), .int sign, .int digit, .int first, .int second]))], [(q5, .inl (gA G 0, 80, .inl pd))]] _ _ := S
        have hE11 : nI 0 = cI (okW pd L lo hi i w) := by rw [hok]; rfl
        have S := S.cong (congrArg (fun (zz : Int32) => ([[(h0, .inr (3, [.ref q1, .ref q2, .int pasts, .ref q3, .ref q4, .ref q5, .int (nI L), .int known, .int there, .ref q6, .int (nI (okI i (okW pd L lo hi i w))), .int zz, .int sign, .int digit, .int first, .int second]))], [(q5, .inl (gA G 0, 80, .inl pd))]] : List va_W)) hE11)
        have S : Sw G A s.heap [[(h0, .inr (3, [.ref q1, .ref q2, .int pasts, .ref q3, .ref q4, .ref q5, .int (nI L), .int known, .int there, .ref q6, .int (nI (okI i (okW pd L lo hi i w))), .int (cI (okW pd L lo hi i w)), .int sign, .int digit, .int first, .int second]))], [(q5, .inl (gA G 0, 80, .inl pd))]] _ _ := S
        refine lv_iload_n hx hb dX3_within_71 rfl (lv_at hl 0 rfl) ?_
        refine lv_iload_n hx hb dX3_within_72 rfl (lv_at hl 2 rfl) ?_
        refine lv_isub hx hb dX3_within_73 ?_
        exact m_iret X hr hlk hQ S ⟨okI i (okW pd L lo hi i w), okW pd L lo hi i w⟩ (by show (((chS pd L i) - (nI lo)) = chS pd L i - nI lo ∧ (okI i (okW pd L lo hi i w)) = okI i (okW pd L lo hi i w) ∧ (okW pd L lo hi i w) = okW pd L lo hi i w); first | exact ⟨(by with_reducible rfl), (by with_reducible rfl), (by with_reducible rfl)⟩) [0, 1] [] (show ([0, 1] ++ ([] : List Nat)).isPerm (List.range 2) = true by decide +kernel) rfl (Nat.le_of_ble_eq_true rfl) (Nat.le_of_ble_eq_true rfl) dX3_within_74
      · skip
        subst hhp7_0
        have hf0_r7 := hhp7_1
        have S : Sw G A s.heap [[(h0, .inr (3, [.ref q1, .ref q2, .int pasts, .ref q3, .ref q4, .ref q5, .int (nI L), .int known, .int there, .ref q6, .int (nI i), .int (cI w), .int sign, .int digit, .int first, .int second]))], [(q5, .inl (gA G 0, 80, .inl pd))]] _ _ := S
        refine lv_if_ne (tgt := 46) hx hb dX3_within_39 (by decide) (fun c39_12 => absurd (by decide) c39_12) (fun c39_12 => ?_)
        refine lv_iconst (v := nI 1) hx hb dX3_within_42 (by decide) ?_
        refine lv_goto (tgt := 47) hx hb dX3_within_43 (by decide) ?_
        refine m_put X S 0 rfl (T := TX3) (N := 16) in_X3 tyX3 tyX3_ok nmX3 rfl 11 (by decide) q1723 (fun _ h9 => h9) rfl rfl rfl (Nat.le_of_ble_eq_true rfl) dX3_within_47 (fun H locs S => ?_)
        have S : Sw G A s.heap [[(h0, .inr (3, [.ref q1, .ref q2, .int pasts, .ref q3, .ref q4, .ref q5, .int (nI L), .int known, .int there, .ref q6, .int (nI i), .int (nI 1), .int sign, .int digit, .int first, .int second]))], [(q5, .inl (gA G 0, 80, .inl pd))]] _ _ := S
        refine lv_aload_n hx hb dX3_within_50 rfl (lv_at hl 1 rfl) ?_
        refine lv_dup hx hb dX3_within_51 rfl ?_
        refine m_get X S 0 rfl (T := TX3) (N := 16) in_X3 rfl 10 (by decide) q1722 (fun _ h9 => h9) rfl dX3_within_52 ?_
        refine lv_aload_n hx hb dX3_within_55 rfl (lv_at hl 1 rfl) ?_
        refine m_get X S 0 rfl (T := TX3) (N := 16) in_X3 rfl 11 (by decide) q1723 (fun _ h9 => h9) rfl dX3_within_56 ?_
        refine lv_if_eq (tgt := 66) hx hb dX3_within_59 (by decide) (fun c59_13 => absurd c59_13 (by decide)) (fun c59_13 => ?_)
        refine lv_iconst (v := nI 0) hx hb dX3_within_62 (by decide) ?_
        refine lv_goto (tgt := 67) hx hb dX3_within_63 (by decide) ?_
        refine lv_iadd hx hb dX3_within_67 ?_
        refine lv_toe (y := nI i) (nI_add _ _) ?_
        refine m_put X S 0 rfl (T := TX3) (N := 16) in_X3 tyX3 tyX3_ok nmX3 rfl 10 (by decide) q1722 (fun _ h9 => h9) rfl rfl rfl (Nat.le_of_ble_eq_true rfl) dX3_within_68 (fun H locs S => ?_)
        have S : Sw G A s.heap [[(h0, .inr (3, [.ref q1, .ref q2, .int pasts, .ref q3, .ref q4, .ref q5, .int (nI L), .int known, .int there, .ref q6, .int (nI i), .int (nI 1), .int sign, .int digit, .int first, .int second]))], [(q5, .inl (gA G 0, 80, .inl pd))]] _ _ := S
        have hok : okW pd L lo hi i w = true := by first | exact okW_w (by assumption) | exact okW_n (by assumption) | exact okW_y (by assumption) (by assumption)
        have hE14 : nI i = nI (okI i (okW pd L lo hi i w)) := by rw [hok]; rfl
        have S := S.cong (congrArg (fun (zz : Int32) => ([[(h0, .inr (3, [.ref q1, .ref q2, .int pasts, .ref q3, .ref q4, .ref q5, .int (nI L), .int known, .int there, .ref q6, .int zz, .int (nI 1), .int sign, .int digit, .int first, .int second]))], [(q5, .inl (gA G 0, 80, .inl pd))]] : List va_W)) hE14)
        have S : Sw G A s.heap [[(h0, .inr (3, [.ref q1, .ref q2, .int pasts, .ref q3, .ref q4, .ref q5, .int (nI L), .int known, .int there, .ref q6, .int (nI (okI i (okW pd L lo hi i w))), .int (nI 1), .int sign, .int digit, .int first, .int second]))], [(q5, .inl (gA G 0, 80, .inl pd))]] _ _ := S
        have hE15 : nI 1 = cI (okW pd L lo hi i w) := by rw [hok]; rfl
        have S := S.cong (congrArg (fun (zz : Int32) => ([[(h0, .inr (3, [.ref q1, .ref q2, .int pasts, .ref q3, .ref q4, .ref q5, .int (nI L), .int known, .int there, .ref q6, .int (nI (okI i (okW pd L lo hi i w))), .int zz, .int sign, .int digit, .int first, .int second]))], [(q5, .inl (gA G 0, 80, .inl pd))]] : List va_W)) hE15)
        have S : Sw G A s.heap [[(h0, .inr (3, [.ref q1, .ref q2, .int pasts, .ref q3, .ref q4, .ref q5, .int (nI L), .int known, .int there, .ref q6, .int (nI (okI i (okW pd L lo hi i w))), .int (cI (okW pd L lo hi i w)), .int sign, .int digit, .int first, .int second]))], [(q5, .inl (gA G 0, 80, .inl pd))]] _ _ := S
        refine lv_iload_n hx hb dX3_within_71 rfl (lv_at hl 0 rfl) ?_
        refine lv_iload_n hx hb dX3_within_72 rfl (lv_at hl 2 rfl) ?_
        refine lv_isub hx hb dX3_within_73 ?_
        exact m_iret X hr hlk hQ S ⟨okI i (okW pd L lo hi i w), okW pd L lo hi i w⟩ (by show (((chS pd L i) - (nI lo)) = chS pd L i - nI lo ∧ (okI i (okW pd L lo hi i w)) = okI i (okW pd L lo hi i w) ∧ (okW pd L lo hi i w) = okW pd L lo hi i w); first | exact ⟨(by with_reducible rfl), (by with_reducible rfl), (by with_reducible rfl)⟩) [0, 1] [] (show ([0, 1] ++ ([] : List Nat)).isPerm (List.range 2) = true by decide +kernel) rfl (Nat.le_of_ble_eq_true rfl) (Nat.le_of_ble_eq_true rfl) dX3_within_74
  · skip
    have c8_1 : ¬ L ≤ i := fun z => c8_1 ((nI_leI (a := L) (b := i) (by omega) (by omega)).mpr z)
    refine lv_aload_n hx hb dX3_within_11 rfl (lv_at hl 0 rfl) ?_
    refine m_get X S 0 rfl (T := TX3) (N := 16) in_X3 rfl 5 (by decide) q1717 (fun _ h9 => h9) rfl dX3_within_12 ?_
    refine lv_aload_n hx hb dX3_within_15 rfl (lv_at hl 0 rfl) ?_
    refine m_get X S 0 rfl (T := TX3) (N := 16) in_X3 rfl 10 (by decide) q1722 (fun _ h9 => h9) rfl dX3_within_16 ?_
    refine m_iald X S 1 rfl (x := nI i) (j := i) (nI_clamp (by omega)) (vp_in_nI (by omega) (by omega)) (v := pd i) rfl dX3_within_19 ?_
    refine lv_goto (tgt := 24) hx hb dX3_within_20 (by decide) ?_
    refine lv_toe (y := chS pd L i) (by first | exact chS_in (by omega) | exact chS_out (by omega)) ?_
    refine lv_istore_n (lv' := [(3, .int (chS pd L i)), (0, .ref h0), (1, .int (nI lo)), (2, .int (nI hi))]) hx hb dX3_within_24 rfl hl (Nat.le_of_ble_eq_true rfl) rfl (fun ls hl => ?_)
    refine lv_aload_n hx hb dX3_within_25 rfl (lv_at hl 1 rfl) ?_
    refine lv_aload_n hx hb dX3_within_26 rfl (lv_at hl 1 rfl) ?_
    refine m_get X S 0 rfl (T := TX3) (N := 16) in_X3 rfl 11 (by decide) q1723 (fun _ h9 => h9) rfl dX3_within_27 ?_
    refine lv_if_ne (tgt := 42) hx hb dX3_within_30 (by decide) (fun c30_16 => ?_) (fun c30_16 => ?_)
    · skip
      have c30_16 : ¬ (cI w) = (nI 0) := c30_16
      have hwt : w = true := cI_n0.mp c30_16
      refine lv_iconst (v := nI 1) hx hb dX3_within_42 (by decide) ?_
      refine lv_goto (tgt := 47) hx hb dX3_within_43 (by decide) ?_
      refine m_put X S 0 rfl (T := TX3) (N := 16) in_X3 tyX3 tyX3_ok nmX3 rfl 11 (by decide) q1723 (fun _ h9 => h9) rfl rfl rfl (Nat.le_of_ble_eq_true rfl) dX3_within_47 (fun H locs S => ?_)
      have S : Sw G A s.heap [[(h0, .inr (3, [.ref q1, .ref q2, .int pasts, .ref q3, .ref q4, .ref q5, .int (nI L), .int known, .int there, .ref q6, .int (nI i), .int (nI 1), .int sign, .int digit, .int first, .int second]))], [(q5, .inl (gA G 0, 80, .inl pd))]] _ _ := S
      refine lv_aload_n hx hb dX3_within_50 rfl (lv_at hl 1 rfl) ?_
      refine lv_dup hx hb dX3_within_51 rfl ?_
      refine m_get X S 0 rfl (T := TX3) (N := 16) in_X3 rfl 10 (by decide) q1722 (fun _ h9 => h9) rfl dX3_within_52 ?_
      refine lv_aload_n hx hb dX3_within_55 rfl (lv_at hl 1 rfl) ?_
      refine m_get X S 0 rfl (T := TX3) (N := 16) in_X3 rfl 11 (by decide) q1723 (fun _ h9 => h9) rfl dX3_within_56 ?_
      refine lv_if_eq (tgt := 66) hx hb dX3_within_59 (by decide) (fun c59_17 => absurd c59_17 (by decide)) (fun c59_17 => ?_)
      refine lv_iconst (v := nI 0) hx hb dX3_within_62 (by decide) ?_
      refine lv_goto (tgt := 67) hx hb dX3_within_63 (by decide) ?_
      refine lv_iadd hx hb dX3_within_67 ?_
      refine lv_toe (y := nI i) (nI_add _ _) ?_
      refine m_put X S 0 rfl (T := TX3) (N := 16) in_X3 tyX3 tyX3_ok nmX3 rfl 10 (by decide) q1722 (fun _ h9 => h9) rfl rfl rfl (Nat.le_of_ble_eq_true rfl) dX3_within_68 (fun H locs S => ?_)
      have S : Sw G A s.heap [[(h0, .inr (3, [.ref q1, .ref q2, .int pasts, .ref q3, .ref q4, .ref q5, .int (nI L), .int known, .int there, .ref q6, .int (nI i), .int (nI 1), .int sign, .int digit, .int first, .int second]))], [(q5, .inl (gA G 0, 80, .inl pd))]] _ _ := S
      have hok : okW pd L lo hi i w = true := by first | exact okW_w (by assumption) | exact okW_n (by assumption) | exact okW_y (by assumption) (by assumption)
      have hE18 : nI i = nI (okI i (okW pd L lo hi i w)) := by rw [hok]; rfl
      have S := S.cong (congrArg (fun (zz : Int32) => ([[(h0, .inr (3, [.ref q1, .ref q2, .int pasts, .ref q3, .ref q4, .ref q5, .int (nI L), .int known, .int there, .ref q6, .int zz, .int (nI 1), .int sign, .int digit, .int first, .int second]))], [(q5, .inl (gA G 0, 80, .inl pd))]] : List va_W)) hE18)
      have S : Sw G A s.heap [[(h0, .inr (3, [.ref q1, .ref q2, .int pasts, .ref q3, .ref q4, .ref q5, .int (nI L), .int known, .int there, .ref q6, .int (nI (okI i (okW pd L lo hi i w))), .int (nI 1), .int sign, .int digit, .int first, .int second]))], [(q5, .inl (gA G 0, 80, .inl pd))]] _ _ := S
      have hE19 : nI 1 = cI (okW pd L lo hi i w) := by rw [hok]; rfl
      have S := S.cong (congrArg (fun (zz : Int32) => ([[(h0, .inr (3, [.ref q1, .ref q2, .int pasts, .ref q3, .ref q4, .ref q5, .int (nI L), .int known, .int there, .ref q6, .int (nI (okI i (okW pd L lo hi i w))), .int zz, .int sign, .int digit, .int first, .int second]))], [(q5, .inl (gA G 0, 80, .inl pd))]] : List va_W)) hE19)
      have S : Sw G A s.heap [[(h0, .inr (3, [.ref q1, .ref q2, .int pasts, .ref q3, .ref q4, .ref q5, .int (nI L), .int known, .int there, .ref q6, .int (nI (okI i (okW pd L lo hi i w))), .int (cI (okW pd L lo hi i w)), .int sign, .int digit, .int first, .int second]))], [(q5, .inl (gA G 0, 80, .inl pd))]] _ _ := S
      refine lv_iload_n hx hb dX3_within_71 rfl (lv_at hl 0 rfl) ?_
      refine lv_iload_n hx hb dX3_within_72 rfl (lv_at hl 2 rfl) ?_
      refine lv_isub hx hb dX3_within_73 ?_
      exact m_iret X hr hlk hQ S ⟨okI i (okW pd L lo hi i w), okW pd L lo hi i w⟩ (by show (((chS pd L i) - (nI lo)) = chS pd L i - nI lo ∧ (okI i (okW pd L lo hi i w)) = okI i (okW pd L lo hi i w) ∧ (okW pd L lo hi i w) = okW pd L lo hi i w); first | exact ⟨(by with_reducible rfl), (by with_reducible rfl), (by with_reducible rfl)⟩) [0, 1] [] (show ([0, 1] ++ ([] : List Nat)).isPerm (List.range 2) = true by decide +kernel) rfl (Nat.le_of_ble_eq_true rfl) (Nat.le_of_ble_eq_true rfl) dX3_within_74
    · skip
      have c30_16 : (cI w) = (nI 0) := c30_16
      have hwf : w = false := cI_0.mp c30_16
      refine lv_iload_n hx hb dX3_within_33 rfl (lv_at hl 0 rfl) ?_
      refine lv_iload_n hx hb dX3_within_34 rfl (lv_at hl 2 rfl) ?_
      refine lv_iload_n hx hb dX3_within_35 rfl (lv_at hl 3 rfl) ?_
      have hq20 := S.cut (Bc := []) (Br := [[(h0, .inr (3, [.ref q1, .ref q2, .int pasts, .ref q3, .ref q4, .ref q5, .int (nI L), .int known, .int there, .ref q6, .int (nI i), .int (cI w), .int sign, .int digit, .int first, .int second]))], [(q5, .inl (gA G 0, 80, .inl pd))]]) [] [0, 1] (show ([] ++ ([0, 1] : List Nat)).isPerm (List.range 2) = true by decide +kernel) rfl rfl
      refine m_ri X S hq20 (m_runS (rest := [.ref h0]) (As := [.int (chS pd L i), .int (nI lo), .int (nI hi)]) (n := 3) X S hq20 (mt_X3_in G l (chS pd L i) (nI lo) (nI hi) ) (lw_S q1766 q1767 q90 q1768) (by decide +kernel) ⟨Nat.le_of_ble_eq_true rfl, Nat.le_of_ble_eq_true rfl⟩ rfl hl.1 rfl (Nat.le_of_ble_eq_true rfl) dX3_within_36 ⟨(Nat.le_of_ble_eq_true rfl), (Nat.le_of_ble_eq_true rfl)⟩) (fun r21 u H locs hp21 S => ?_)
      have hp21 : (r21 = nI 1 ∧ ((nI lo) ≤ (chS pd L i) ∧ (chS pd L i) ≤ (nI hi))) ∨ (r21 = nI 0 ∧ (¬ ((nI lo) ≤ (chS pd L i) ∧ (chS pd L i) ≤ (nI hi)))) := hp21
      have S : Sw G A s.heap [[(h0, .inr (3, [.ref q1, .ref q2, .int pasts, .ref q3, .ref q4, .ref q5, .int (nI L), .int known, .int there, .ref q6, .int (nI i), .int (cI w), .int sign, .int digit, .int first, .int second]))], [(q5, .inl (gA G 0, 80, .inl pd))]] _ _ := S
      rcases hp21 with ⟨hhp21_0, hhp21_1⟩ | ⟨hhp21_0, hhp21_1⟩
      · skip
        subst hhp21_0
        have hf0_r21 := hhp21_1
        have S : Sw G A s.heap [[(h0, .inr (3, [.ref q1, .ref q2, .int pasts, .ref q3, .ref q4, .ref q5, .int (nI L), .int known, .int there, .ref q6, .int (nI i), .int (cI w), .int sign, .int digit, .int first, .int second]))], [(q5, .inl (gA G 0, 80, .inl pd))]] _ _ := S
        refine lv_if_ne (tgt := 46) hx hb dX3_within_39 (by decide) (fun c39_22 => ?_) (fun c39_22 => absurd c39_22 (by decide))
        refine lv_iconst (v := nI 0) hx hb dX3_within_46 (by decide) ?_
        refine m_put X S 0 rfl (T := TX3) (N := 16) in_X3 tyX3 tyX3_ok nmX3 rfl 11 (by decide) q1723 (fun _ h9 => h9) rfl rfl rfl (Nat.le_of_ble_eq_true rfl) dX3_within_47 (fun H locs S => ?_)
        have S : Sw G A s.heap [[(h0, .inr (3, [.ref q1, .ref q2, .int pasts, .ref q3, .ref q4, .ref q5, .int (nI L), .int known, .int there, .ref q6, .int (nI i), .int (nI 0), .int sign, .int digit, .int first, .int second]))], [(q5, .inl (gA G 0, 80, .inl pd))]] _ _ := S
        refine lv_aload_n hx hb dX3_within_50 rfl (lv_at hl 1 rfl) ?_
        refine lv_dup hx hb dX3_within_51 rfl ?_
        refine m_get X S 0 rfl (T := TX3) (N := 16) in_X3 rfl 10 (by decide) q1722 (fun _ h9 => h9) rfl dX3_within_52 ?_
        refine lv_aload_n hx hb dX3_within_55 rfl (lv_at hl 1 rfl) ?_
        refine m_get X S 0 rfl (T := TX3) (N := 16) in_X3 rfl 11 (by decide) q1723 (fun _ h9 => h9) rfl dX3_within_56 ?_
        refine lv_if_eq (tgt := 66) hx hb dX3_within_59 (by decide) (fun c59_23 => ?_) (fun c59_23 => absurd (by decide) c59_23)
        refine lv_iconst (v := nI 1) hx hb dX3_within_66 (by decide) ?_
        refine lv_iadd hx hb dX3_within_67 ?_
        refine lv_toe (y := nI (i + 1)) (nI_add _ _) ?_
        refine m_put X S 0 rfl (T := TX3) (N := 16) in_X3 tyX3 tyX3_ok nmX3 rfl 10 (by decide) q1722 (fun _ h9 => h9) rfl rfl rfl (Nat.le_of_ble_eq_true rfl) dX3_within_68 (fun H locs S => ?_)
        have S : Sw G A s.heap [[(h0, .inr (3, [.ref q1, .ref q2, .int pasts, .ref q3, .ref q4, .ref q5, .int (nI L), .int known, .int there, .ref q6, .int (nI (i + 1)), .int (nI 0), .int sign, .int digit, .int first, .int second]))], [(q5, .inl (gA G 0, 80, .inl pd))]] _ _ := S
        have hok : okW pd L lo hi i w = false := by first | exact okW_w (by assumption) | exact okW_n (by assumption) | exact okW_y (by assumption) (by assumption)
        have hE24 : nI (i + 1) = nI (okI i (okW pd L lo hi i w)) := by rw [hok]; rfl
        have S := S.cong (congrArg (fun (zz : Int32) => ([[(h0, .inr (3, [.ref q1, .ref q2, .int pasts, .ref q3, .ref q4, .ref q5, .int (nI L), .int known, .int there, .ref q6, .int zz, .int (nI 0), .int sign, .int digit, .int first, .int second]))], [(q5, .inl (gA G 0, 80, .inl pd))]] : List va_W)) hE24)
        have S : Sw G A s.heap [[(h0, .inr (3, [.ref q1, .ref q2, .int pasts, .ref q3, .ref q4, .ref q5, .int (nI L), .int known, .int there, .ref q6, .int (nI (okI i (okW pd L lo hi i w))), .int (nI 0), .int sign, .int digit, .int first, .int second]))], [(q5, .inl (gA G 0, 80, .inl pd))]] _ _ := S
        have hE25 : nI 0 = cI (okW pd L lo hi i w) := by rw [hok]; rfl
        have S := S.cong (congrArg (fun (zz : Int32) => ([[(h0, .inr (3, [.ref q1, .ref q2, .int pasts, .ref q3, .ref q4, .ref q5, .int (nI L), .int known, .int there, .ref q6, .int (nI (okI i (okW pd L lo hi i w))), .int zz, .int sign, .int digit, .int first, .int second]))], [(q5, .inl (gA G 0, 80, .inl pd))]] : List va_W)) hE25)
        have S : Sw G A s.heap [[(h0, .inr (3, [.ref q1, .ref q2, .int pasts, .ref q3, .ref q4, .ref q5, .int (nI L), .int known, .int there, .ref q6, .int (nI (okI i (okW pd L lo hi i w))), .int (cI (okW pd L lo hi i w)), .int sign, .int digit, .int first, .int second]))], [(q5, .inl (gA G 0, 80, .inl pd))]] _ _ := S
        refine lv_iload_n hx hb dX3_within_71 rfl (lv_at hl 0 rfl) ?_
        refine lv_iload_n hx hb dX3_within_72 rfl (lv_at hl 2 rfl) ?_
        refine lv_isub hx hb dX3_within_73 ?_
        exact m_iret X hr hlk hQ S ⟨okI i (okW pd L lo hi i w), okW pd L lo hi i w⟩ (by show (((chS pd L i) - (nI lo)) = chS pd L i - nI lo ∧ (okI i (okW pd L lo hi i w)) = okI i (okW pd L lo hi i w) ∧ (okW pd L lo hi i w) = okW pd L lo hi i w); first | exact ⟨(by with_reducible rfl), (by with_reducible rfl), (by with_reducible rfl)⟩) [0, 1] [] (show ([0, 1] ++ ([] : List Nat)).isPerm (List.range 2) = true by decide +kernel) rfl (Nat.le_of_ble_eq_true rfl) (Nat.le_of_ble_eq_true rfl) dX3_within_74
      · skip
        subst hhp21_0
        have hf0_r21 := hhp21_1
        have S : Sw G A s.heap [[(h0, .inr (3, [.ref q1, .ref q2, .int pasts, .ref q3, .ref q4, .ref q5, .int (nI L), .int known, .int there, .ref q6, .int (nI i), .int (cI w), .int sign, .int digit, .int first, .int second]))], [(q5, .inl (gA G 0, 80, .inl pd))]] _ _ := S
        refine lv_if_ne (tgt := 46) hx hb dX3_within_39 (by decide) (fun c39_26 => absurd (by decide) c39_26) (fun c39_26 => ?_)
        refine lv_iconst (v := nI 1) hx hb dX3_within_42 (by decide) ?_
        refine lv_goto (tgt := 47) hx hb dX3_within_43 (by decide) ?_
        refine m_put X S 0 rfl (T := TX3) (N := 16) in_X3 tyX3 tyX3_ok nmX3 rfl 11 (by decide) q1723 (fun _ h9 => h9) rfl rfl rfl (Nat.le_of_ble_eq_true rfl) dX3_within_47 (fun H locs S => ?_)
        have S : Sw G A s.heap [[(h0, .inr (3, [.ref q1, .ref q2, .int pasts, .ref q3, .ref q4, .ref q5, .int (nI L), .int known, .int there, .ref q6, .int (nI i), .int (nI 1), .int sign, .int digit, .int first, .int second]))], [(q5, .inl (gA G 0, 80, .inl pd))]] _ _ := S
        refine lv_aload_n hx hb dX3_within_50 rfl (lv_at hl 1 rfl) ?_
        refine lv_dup hx hb dX3_within_51 rfl ?_
        refine m_get X S 0 rfl (T := TX3) (N := 16) in_X3 rfl 10 (by decide) q1722 (fun _ h9 => h9) rfl dX3_within_52 ?_
        refine lv_aload_n hx hb dX3_within_55 rfl (lv_at hl 1 rfl) ?_
        refine m_get X S 0 rfl (T := TX3) (N := 16) in_X3 rfl 11 (by decide) q1723 (fun _ h9 => h9) rfl dX3_within_56 ?_
        refine lv_if_eq (tgt := 66) hx hb dX3_within_59 (by decide) (fun c59_27 => absurd c59_27 (by decide)) (fun c59_27 => ?_)
        refine lv_iconst (v := nI 0) hx hb dX3_within_62 (by decide) ?_
        refine lv_goto (tgt := 67) hx hb dX3_within_63 (by decide) ?_
        refine lv_iadd hx hb dX3_within_67 ?_
        refine lv_toe (y := nI i) (nI_add _ _) ?_
        refine m_put X S 0 rfl (T := TX3) (N := 16) in_X3 tyX3 tyX3_ok nmX3 rfl 10 (by decide) q1722 (fun _ h9 => h9) rfl rfl rfl (Nat.le_of_ble_eq_true rfl) dX3_within_68 (fun H locs S => ?_)
        have S : Sw G A s.heap [[(h0, .inr (3, [.ref q1, .ref q2, .int pasts, .ref q3, .ref q4, .ref q5, .int (nI L), .int known, .int there, .ref q6, .int (nI i), .int (nI 1), .int sign, .int digit, .int first, .int second]))], [(q5, .inl (gA G 0, 80, .inl pd))]] _ _ := S
        have hok : okW pd L lo hi i w = true := by first | exact okW_w (by assumption) | exact okW_n (by assumption) | exact okW_y (by assumption) (by assumption)
        have hE28 : nI i = nI (okI i (okW pd L lo hi i w)) := by rw [hok]; rfl
        have S := S.cong (congrArg (fun (zz : Int32) => ([[(h0, .inr (3, [.ref q1, .ref q2, .int pasts, .ref q3, .ref q4, .ref q5, .int (nI L), .int known, .int there, .ref q6, .int zz, .int (nI 1), .int sign, .int digit, .int first, .int second]))], [(q5, .inl (gA G 0, 80, .inl pd))]] : List va_W)) hE28)
        have S : Sw G A s.heap [[(h0, .inr (3, [.ref q1, .ref q2, .int pasts, .ref q3, .ref q4, .ref q5, .int (nI L), .int known, .int there, .ref q6, .int (nI (okI i (okW pd L lo hi i w))), .int (nI 1), .int sign, .int digit, .int first, .int second]))], [(q5, .inl (gA G 0, 80, .inl pd))]] _ _ := S
        have hE29 : nI 1 = cI (okW pd L lo hi i w) := by rw [hok]; rfl
        have S := S.cong (congrArg (fun (zz : Int32) => ([[(h0, .inr (3, [.ref q1, .ref q2, .int pasts, .ref q3, .ref q4, .ref q5, .int (nI L), .int known, .int there, .ref q6, .int (nI (okI i (okW pd L lo hi i w))), .int zz, .int sign, .int digit, .int first, .int second]))], [(q5, .inl (gA G 0, 80, .inl pd))]] : List va_W)) hE29)
        have S : Sw G A s.heap [[(h0, .inr (3, [.ref q1, .ref q2, .int pasts, .ref q3, .ref q4, .ref q5, .int (nI L), .int known, .int there, .ref q6, .int (nI (okI i (okW pd L lo hi i w))), .int (cI (okW pd L lo hi i w)), .int sign, .int digit, .int first, .int second]))], [(q5, .inl (gA G 0, 80, .inl pd))]] _ _ := S
        refine lv_iload_n hx hb dX3_within_71 rfl (lv_at hl 0 rfl) ?_
        refine lv_iload_n hx hb dX3_within_72 rfl (lv_at hl 2 rfl) ?_
        refine lv_isub hx hb dX3_within_73 ?_
        exact m_iret X hr hlk hQ S ⟨okI i (okW pd L lo hi i w), okW pd L lo hi i w⟩ (by show (((chS pd L i) - (nI lo)) = chS pd L i - nI lo ∧ (okI i (okW pd L lo hi i w)) = okI i (okW pd L lo hi i w) ∧ (okW pd L lo hi i w) = okW pd L lo hi i w); first | exact ⟨(by with_reducible rfl), (by with_reducible rfl), (by with_reducible rfl)⟩) [0, 1] [] (show ([0, 1] ++ ([] : List Nat)).isPerm (List.range 2) = true by decide +kernel) rfl (Nat.le_of_ble_eq_true rfl) (Nat.le_of_ble_eq_true rfl) dX3_within_74

abbrev rm_X3_order : Room := { frames := 2, cells := 0, slots := 0, locals := 45 }
set_option maxHeartbeats 4000000 in
set_option maxRecDepth 100000 in
theorem mt_X3_order (G : mGG) (l : Launch) (h0 : Nat) (q1 : Nat) (q2 : Nat) (q3 : Nat) (q4 : Nat) (q5 : Nat) (q6 : Nat) (pasts : Int32) (known : Int32) (there : Int32) (sign : Int32) (digit : Int32) (first : Int32) (second : Int32) (pd : Nat → Int32) (i : Nat) (w : Bool) (L : Nat) (hiL : i ≤ L) (hL : L ≤ 80) : Cg G l yX3_order (ws_ yX3_order cX3_order 3 (none)) rm_X3_order [.ref h0] [[(h0, .inr (3, [.ref q1, .ref q2, .int pasts, .ref q3, .ref q4, .ref q5, .int (nI L), .int known, .int there, .ref q6, .int (nI i), .int (cI w), .int sign, .int digit, .int first, .int second]))], [(q5, .inl (gA G 0, 80, .inl pd))]] (Qv G (fun (u : Nat × Bool × Int32 × Int32 × Int32 × Int32) => (u.1 = s4I pd L i w ∧ u.2.1 = s4W pd L i w ∧ u.2.2.1 = sgnS pd L i w ∧ u.2.2.2.1 = dgS pd L i w ∧ u.2.2.2.2.1 = fiS pd L i w ∧ u.2.2.2.2.2 = seS pd L i w)) (fun (u : Nat × Bool × Int32 × Int32 × Int32 × Int32) => [[(h0, .inr (3, [.ref q1, .ref q2, .int pasts, .ref q3, .ref q4, .ref q5, .int (nI L), .int known, .int there, .ref q6, .int (nI u.1), .int (cI u.2.1), .int u.2.2.1, .int u.2.2.2.1, .int u.2.2.2.2.1, .int u.2.2.2.2.2]))], [(q5, .inl (gA G 0, 80, .inl pd))]])) := by
  refine Cg.intro (own := RX3) (cc := cX3_order) (maxL := 3) (ret := (none)) (by decide +kernel) rfl rfl (Nat.le_of_ble_eq_true rfl) ?_
  intro p e s m ag below meth c A ls Q X hr hlk hnm S hl hQ
  have hx := X.1
  have hb := X.2.1
  have hl : lv_has ls 3 [(0, .ref h0)] := hl
  have hJ32 : ∀ (cc : Int32), (cc = sgnS pd L i w) → ∀ (H : Heap) (locs : List Loc), Sw G A s.heap [[(h0, .inr (3, [.ref q1, .ref q2, .int pasts, .ref q3, .ref q4, .ref q5, .int (nI L), .int known, .int there, .ref q6, .int (nI i), .int (cI w), .int sign, .int digit, .int first, .int second]))], [(q5, .inl (gA G 0, 80, .inl pd))]] H locs → ∀ (ls : Array Slot), lv_has ls 3 [(0, .ref h0)] → W p l e rm_X3_order s m ag below meth c H locs (0) (0) Q (F0 m 32 ls [.int cc, .ref h0]) := by
    intro cc hc H locs S ls hl
    refine m_put X S 0 rfl (T := TX3) (N := 16) in_X3 tyX3 tyX3_ok nmX3 rfl 12 (by decide) q1724 (fun _ h9 => h9) rfl rfl rfl (Nat.le_of_ble_eq_true rfl) dX3_order_32 (fun H locs S => ?_)
    have S : Sw G A s.heap [[(h0, .inr (3, [.ref q1, .ref q2, .int pasts, .ref q3, .ref q4, .ref q5, .int (nI L), .int known, .int there, .ref q6, .int (nI i), .int (cI w), .int cc, .int digit, .int first, .int second]))], [(q5, .inl (gA G 0, 80, .inl pd))]] _ _ := S
    refine lv_aload_n hx hb dX3_order_35 rfl (lv_at hl 0 rfl) ?_
    refine m_get X S 0 rfl (T := TX3) (N := 16) in_X3 rfl 12 (by decide) q1724 (fun _ h9 => h9) rfl dX3_order_36 ?_
    refine lv_bipush (v := nI 114) hx hb dX3_order_39 (by decide) ?_
    refine lv_icmp_eq (tgt := 71) hx hb dX3_order_41 (by decide) (fun c41_1 => ?_) (fun c41_1 => ?_)
    · skip
      have c41_1 : cc = (nI 114) := c41_1
      have c41_1 : cc = nI 114 := c41_1
      subst c41_1
      refine lv_iconst (v := nI 1) hx hb dX3_order_71 (by decide) ?_
      refine lv_goto (tgt := 76) hx hb dX3_order_72 (by decide) ?_
      refine lv_istore_n (lv' := [(1, .int (nI 1)), (0, .ref h0)]) hx hb dX3_order_76 rfl hl (Nat.le_of_ble_eq_true rfl) rfl (fun ls hl => ?_)
      refine lv_iload_n hx hb dX3_order_77 rfl (lv_at hl 0 rfl) ?_
      refine lv_if_ne (tgt := 99) hx hb dX3_order_78 (by decide) (fun c78_2 => ?_) (fun c78_2 => absurd c78_2 (by decide))
      refine lv_iconst (v := nI 1) hx hb dX3_order_99 (by decide) ?_
      refine lv_goto (tgt := 104) hx hb dX3_order_100 (by decide) ?_
      refine lv_istore_n (lv' := [(2, .int (nI 1)), (1, .int (nI 1)), (0, .ref h0)]) hx hb dX3_order_104 rfl hl (Nat.le_of_ble_eq_true rfl) rfl (fun ls hl => ?_)
      refine lv_aload_n hx hb dX3_order_105 rfl (lv_at hl 2 rfl) ?_
      refine lv_aload_n hx hb dX3_order_106 rfl (lv_at hl 2 rfl) ?_
      refine m_get X S 0 rfl (T := TX3) (N := 16) in_X3 rfl 11 (by decide) q1723 (fun _ h9 => h9) rfl dX3_order_107 ?_
      refine lv_if_ne (tgt := 135) hx hb dX3_order_110 (by decide) (fun c110_3 => ?_) (fun c110_3 => ?_)
      · skip
        have c110_3 : ¬ (cI w) = (nI 0) := c110_3
        have hwt : w = true := cI_n0.mp c110_3
        refine lv_iconst (v := nI 1) hx hb dX3_order_135 (by decide) ?_
        refine lv_goto (tgt := 140) hx hb dX3_order_136 (by decide) ?_
        refine m_put X S 0 rfl (T := TX3) (N := 16) in_X3 tyX3 tyX3_ok nmX3 rfl 11 (by decide) q1723 (fun _ h9 => h9) rfl rfl rfl (Nat.le_of_ble_eq_true rfl) dX3_order_140 (fun H locs S => ?_)
        have S : Sw G A s.heap [[(h0, .inr (3, [.ref q1, .ref q2, .int pasts, .ref q3, .ref q4, .ref q5, .int (nI L), .int known, .int there, .ref q6, .int (nI i), .int (nI 1), .int (nI 114), .int digit, .int first, .int second]))], [(q5, .inl (gA G 0, 80, .inl pd))]] _ _ := S
        refine lv_aload_n hx hb dX3_order_143 rfl (lv_at hl 2 rfl) ?_
        refine lv_dup hx hb dX3_order_144 rfl ?_
        refine m_get X S 0 rfl (T := TX3) (N := 16) in_X3 rfl 10 (by decide) q1722 (fun _ h9 => h9) rfl dX3_order_145 ?_
        refine lv_aload_n hx hb dX3_order_148 rfl (lv_at hl 2 rfl) ?_
        refine m_get X S 0 rfl (T := TX3) (N := 16) in_X3 rfl 11 (by decide) q1723 (fun _ h9 => h9) rfl dX3_order_149 ?_
        refine lv_if_eq (tgt := 159) hx hb dX3_order_152 (by decide) (fun c152_4 => absurd c152_4 (by decide)) (fun c152_4 => ?_)
        refine lv_iconst (v := nI 0) hx hb dX3_order_155 (by decide) ?_
        refine lv_goto (tgt := 160) hx hb dX3_order_156 (by decide) ?_
        refine lv_iadd hx hb dX3_order_160 ?_
        refine lv_toe (y := nI i) (nI_add _ _) ?_
        refine m_put X S 0 rfl (T := TX3) (N := 16) in_X3 tyX3 tyX3_ok nmX3 rfl 10 (by decide) q1722 (fun _ h9 => h9) rfl rfl rfl (Nat.le_of_ble_eq_true rfl) dX3_order_161 (fun H locs S => ?_)
        have S : Sw G A s.heap [[(h0, .inr (3, [.ref q1, .ref q2, .int pasts, .ref q3, .ref q4, .ref q5, .int (nI L), .int known, .int there, .ref q6, .int (nI i), .int (nI 1), .int (nI 114), .int digit, .int first, .int second]))], [(q5, .inl (gA G 0, 80, .inl pd))]] _ _ := S
        have hs1 : s1W pd L i w = true := by first | exact s1W_w (by assumption) | exact s1W_n hc (by assumption) | exact s1W_y hc (by assumption) (by first | decide | exact Or.inr (Or.inl (by assumption)) | exact Or.inr (Or.inr (by assumption)))
        have hE5 : nI i = nI (s1I pd L i w) := by unfold s1I; rw [hs1]; rfl
        have S := S.cong (congrArg (fun (zz : Int32) => ([[(h0, .inr (3, [.ref q1, .ref q2, .int pasts, .ref q3, .ref q4, .ref q5, .int (nI L), .int known, .int there, .ref q6, .int zz, .int (nI 1), .int (nI 114), .int digit, .int first, .int second]))], [(q5, .inl (gA G 0, 80, .inl pd))]] : List va_W)) hE5)
        have S : Sw G A s.heap [[(h0, .inr (3, [.ref q1, .ref q2, .int pasts, .ref q3, .ref q4, .ref q5, .int (nI L), .int known, .int there, .ref q6, .int (nI (s1I pd L i w)), .int (nI 1), .int (nI 114), .int digit, .int first, .int second]))], [(q5, .inl (gA G 0, 80, .inl pd))]] _ _ := S
        have hE6 : nI 1 = cI (s1W pd L i w) := by rw [hs1]; rfl
        have S := S.cong (congrArg (fun (zz : Int32) => ([[(h0, .inr (3, [.ref q1, .ref q2, .int pasts, .ref q3, .ref q4, .ref q5, .int (nI L), .int known, .int there, .ref q6, .int (nI (s1I pd L i w)), .int zz, .int (nI 114), .int digit, .int first, .int second]))], [(q5, .inl (gA G 0, 80, .inl pd))]] : List va_W)) hE6)
        have S : Sw G A s.heap [[(h0, .inr (3, [.ref q1, .ref q2, .int pasts, .ref q3, .ref q4, .ref q5, .int (nI L), .int known, .int there, .ref q6, .int (nI (s1I pd L i w)), .int (cI (s1W pd L i w)), .int (nI 114), .int digit, .int first, .int second]))], [(q5, .inl (gA G 0, 80, .inl pd))]] _ _ := S
        have hl1 := s1I_le (pd := pd) (w := w) hiL
        have hl2 := s2I_le (pd := pd) (w := w) hiL
        have hl3 := s3I_le (pd := pd) (w := w) hiL
        refine lv_aload_n hx hb dX3_order_164 rfl (lv_at hl 2 rfl) ?_
        refine lv_aload_n hx hb dX3_order_165 rfl (lv_at hl 2 rfl) ?_
        refine m_get X S 0 rfl (T := TX3) (N := 16) in_X3 rfl 12 (by decide) q1724 (fun _ h9 => h9) rfl dX3_order_166 ?_
        refine lv_bipush (v := nI 99) hx hb dX3_order_169 (by decide) ?_
        refine lv_icmp_ne (tgt := 185) hx hb dX3_order_171 (by decide) (fun c171_7 => ?_) (fun c171_7 => absurd c171_7 (by decide))
        refine lv_iconst (v := nI 0) hx hb dX3_order_185 (by decide) ?_
        refine lv_toe (y := dgS pd L i w) (by unfold dgS; rw [← hc]; first | (rw [if_pos (by decide)]; done) | (rw [if_neg (by decide)]; done) | (rw [if_neg (by assumption)]; done)) ?_
        refine m_put X S 0 rfl (T := TX3) (N := 16) in_X3 tyX3 tyX3_ok nmX3 rfl 13 (by decide) q1725 (fun _ h9 => h9) rfl rfl rfl (Nat.le_of_ble_eq_true rfl) dX3_order_186 (fun H locs S => ?_)
        have S : Sw G A s.heap [[(h0, .inr (3, [.ref q1, .ref q2, .int pasts, .ref q3, .ref q4, .ref q5, .int (nI L), .int known, .int there, .ref q6, .int (nI (s1I pd L i w)), .int (cI (s1W pd L i w)), .int (nI 114), .int (dgS pd L i w), .int first, .int second]))], [(q5, .inl (gA G 0, 80, .inl pd))]] _ _ := S
        have hE8 : nI (s1I pd L i w) = nI (s2I pd L i w) := congrArg nI (by unfold s2I; rw [← hc]; first | (rw [if_pos (by decide)]; done) | (rw [if_neg (by decide)]; done) | (rw [if_neg (by assumption)]; done))
        have S := S.cong (congrArg (fun (zz : Int32) => ([[(h0, .inr (3, [.ref q1, .ref q2, .int pasts, .ref q3, .ref q4, .ref q5, .int (nI L), .int known, .int there, .ref q6, .int zz, .int (cI (s1W pd L i w)), .int (nI 114), .int (dgS pd L i w), .int first, .int second]))], [(q5, .inl (gA G 0, 80, .inl pd))]] : List va_W)) hE8)
        have S : Sw G A s.heap [[(h0, .inr (3, [.ref q1, .ref q2, .int pasts, .ref q3, .ref q4, .ref q5, .int (nI L), .int known, .int there, .ref q6, .int (nI (s2I pd L i w)), .int (cI (s1W pd L i w)), .int (nI 114), .int (dgS pd L i w), .int first, .int second]))], [(q5, .inl (gA G 0, 80, .inl pd))]] _ _ := S
        have hE9 : cI (s1W pd L i w) = cI (s2W pd L i w) := congrArg cI (by unfold s2W; rw [← hc]; first | (rw [if_pos (by decide)]; done) | (rw [if_neg (by decide)]; done) | (rw [if_neg (by assumption)]; done))
        have S := S.cong (congrArg (fun (zz : Int32) => ([[(h0, .inr (3, [.ref q1, .ref q2, .int pasts, .ref q3, .ref q4, .ref q5, .int (nI L), .int known, .int there, .ref q6, .int (nI (s2I pd L i w)), .int zz, .int (nI 114), .int (dgS pd L i w), .int first, .int second]))], [(q5, .inl (gA G 0, 80, .inl pd))]] : List va_W)) hE9)
        have S : Sw G A s.heap [[(h0, .inr (3, [.ref q1, .ref q2, .int pasts, .ref q3, .ref q4, .ref q5, .int (nI L), .int known, .int there, .ref q6, .int (nI (s2I pd L i w)), .int (cI (s2W pd L i w)), .int (nI 114), .int (dgS pd L i w), .int first, .int second]))], [(q5, .inl (gA G 0, 80, .inl pd))]] _ _ := S
        refine lv_aload_n hx hb dX3_order_189 rfl (lv_at hl 2 rfl) ?_
        refine lv_iload_n hx hb dX3_order_190 rfl (lv_at hl 0 rfl) ?_
        refine lv_if_eq (tgt := 205) hx hb dX3_order_191 (by decide) (fun c191_10 => absurd c191_10 (by decide)) (fun c191_10 => ?_)
        refine lv_aload_n hx hb dX3_order_194 rfl (lv_at hl 2 rfl) ?_
        refine lv_bipush (v := nI 97) hx hb dX3_order_195 (by decide) ?_
        refine lv_bipush (v := nI 104) hx hb dX3_order_197 (by decide) ?_
        have hq11 := S.cut (Bc := [[(h0, .inr (3, [.ref q1, .ref q2, .int pasts, .ref q3, .ref q4, .ref q5, .int (nI L), .int known, .int there, .ref q6, .int (nI (s2I pd L i w)), .int (cI (s2W pd L i w)), .int (nI 114), .int (dgS pd L i w), .int first, .int second]))], [(q5, .inl (gA G 0, 80, .inl pd))]]) (Br := []) [0, 1] [] (show ([0, 1] ++ ([] : List Nat)).isPerm (List.range 2) = true by decide +kernel) rfl rfl
        refine m_ri X S hq11 (m_runV (rest := [.ref h0]) (As := [.int (nI 97), .int (nI 104)]) (n := 2) X S hq11 (mt_X3_within G l h0 q1 q2 q3 q4 q5 q6 pasts known there (nI 114) (dgS pd L i w) first second pd (s2I pd L i w) (s2W pd L i w) L 97 104 (by omega) (by omega)) (lw_V q1985 q1987 qs73 q90 q1988) (m_recv X S 0 rfl rfl) (by decide +kernel) ⟨Nat.le_of_ble_eq_true rfl, Nat.le_of_ble_eq_true rfl⟩ rfl hl.1 rfl (Nat.le_of_ble_eq_true rfl) dX3_order_199 ⟨(Nat.le_of_ble_eq_true rfl), (Nat.le_of_ble_eq_true rfl)⟩) (fun r12 u H locs hp12 S => ?_)
        obtain ⟨u13, u14⟩ := u
        have hp12 : (r12 = chS pd L (s2I pd L i w) - nI 97 ∧ u13 = okI (s2I pd L i w) (okW pd L 97 104 (s2I pd L i w) (s2W pd L i w)) ∧ u14 = okW pd L 97 104 (s2I pd L i w) (s2W pd L i w)) := hp12
        have S : Sw G A s.heap [[(h0, .inr (3, [.ref q1, .ref q2, .int pasts, .ref q3, .ref q4, .ref q5, .int (nI L), .int known, .int there, .ref q6, .int (nI u13), .int (cI u14), .int (nI 114), .int (dgS pd L i w), .int first, .int second]))], [(q5, .inl (gA G 0, 80, .inl pd))]] _ _ := S
        rcases hp12 with ⟨hhp12_0, hhp12_1, hhp12_2⟩
        subst hhp12_0
        subst hhp12_1
        subst hhp12_2
        have S : Sw G A s.heap [[(h0, .inr (3, [.ref q1, .ref q2, .int pasts, .ref q3, .ref q4, .ref q5, .int (nI L), .int known, .int there, .ref q6, .int (nI (okI (s2I pd L i w) (okW pd L 97 104 (s2I pd L i w) (s2W pd L i w)))), .int (cI (okW pd L 97 104 (s2I pd L i w) (s2W pd L i w))), .int (nI 114), .int (dgS pd L i w), .int first, .int second]))], [(q5, .inl (gA G 0, 80, .inl pd))]] _ _ := S
        refine lv_goto (tgt := 206) hx hb dX3_order_202 (by decide) ?_
        refine lv_toe (y := fiS pd L i w) (by unfold fiS; rw [← hc]; first | (rw [if_pos (by decide)]; done) | (rw [if_neg (by decide)]; done) | (rw [if_neg (by assumption)]; done)) ?_
        refine m_put X S 0 rfl (T := TX3) (N := 16) in_X3 tyX3 tyX3_ok nmX3 rfl 14 (by decide) q1726 (fun _ h9 => h9) rfl rfl rfl (Nat.le_of_ble_eq_true rfl) dX3_order_206 (fun H locs S => ?_)
        have S : Sw G A s.heap [[(h0, .inr (3, [.ref q1, .ref q2, .int pasts, .ref q3, .ref q4, .ref q5, .int (nI L), .int known, .int there, .ref q6, .int (nI (okI (s2I pd L i w) (okW pd L 97 104 (s2I pd L i w) (s2W pd L i w)))), .int (cI (okW pd L 97 104 (s2I pd L i w) (s2W pd L i w))), .int (nI 114), .int (dgS pd L i w), .int (fiS pd L i w), .int second]))], [(q5, .inl (gA G 0, 80, .inl pd))]] _ _ := S
        have hE15 : nI (okI (s2I pd L i w) (okW pd L 97 104 (s2I pd L i w) (s2W pd L i w))) = nI (s3I pd L i w) := congrArg nI (by unfold s3I; rw [← hc]; first | (rw [if_pos (by decide)]; done) | (rw [if_neg (by decide)]; done) | (rw [if_neg (by assumption)]; done))
        have S := S.cong (congrArg (fun (zz : Int32) => ([[(h0, .inr (3, [.ref q1, .ref q2, .int pasts, .ref q3, .ref q4, .ref q5, .int (nI L), .int known, .int there, .ref q6, .int zz, .int (cI (okW pd L 97 104 (s2I pd L i w) (s2W pd L i w))), .int (nI 114), .int (dgS pd L i w), .int (fiS pd L i w), .int second]))], [(q5, .inl (gA G 0, 80, .inl pd))]] : List va_W)) hE15)
        have S : Sw G A s.heap [[(h0, .inr (3, [.ref q1, .ref q2, .int pasts, .ref q3, .ref q4, .ref q5, .int (nI L), .int known, .int there, .ref q6, .int (nI (s3I pd L i w)), .int (cI (okW pd L 97 104 (s2I pd L i w) (s2W pd L i w))), .int (nI 114), .int (dgS pd L i w), .int (fiS pd L i w), .int second]))], [(q5, .inl (gA G 0, 80, .inl pd))]] _ _ := S
        have hE16 : cI (okW pd L 97 104 (s2I pd L i w) (s2W pd L i w)) = cI (s3W pd L i w) := congrArg cI (by unfold s3W; rw [← hc]; first | (rw [if_pos (by decide)]; done) | (rw [if_neg (by decide)]; done) | (rw [if_neg (by assumption)]; done))
        have S := S.cong (congrArg (fun (zz : Int32) => ([[(h0, .inr (3, [.ref q1, .ref q2, .int pasts, .ref q3, .ref q4, .ref q5, .int (nI L), .int known, .int there, .ref q6, .int (nI (s3I pd L i w)), .int zz, .int (nI 114), .int (dgS pd L i w), .int (fiS pd L i w), .int second]))], [(q5, .inl (gA G 0, 80, .inl pd))]] : List va_W)) hE16)
        have S : Sw G A s.heap [[(h0, .inr (3, [.ref q1, .ref q2, .int pasts, .ref q3, .ref q4, .ref q5, .int (nI L), .int known, .int there, .ref q6, .int (nI (s3I pd L i w)), .int (cI (s3W pd L i w)), .int (nI 114), .int (dgS pd L i w), .int (fiS pd L i w), .int second]))], [(q5, .inl (gA G 0, 80, .inl pd))]] _ _ := S
        refine lv_aload_n hx hb dX3_order_209 rfl (lv_at hl 2 rfl) ?_
        refine lv_iload_n hx hb dX3_order_210 rfl (lv_at hl 1 rfl) ?_
        refine lv_if_eq (tgt := 225) hx hb dX3_order_211 (by decide) (fun c211_17 => absurd c211_17 (by decide)) (fun c211_17 => ?_)
        refine lv_aload_n hx hb dX3_order_214 rfl (lv_at hl 2 rfl) ?_
        refine lv_bipush (v := nI 97) hx hb dX3_order_215 (by decide) ?_
        refine lv_bipush (v := nI 104) hx hb dX3_order_217 (by decide) ?_
        have hq18 := S.cut (Bc := [[(h0, .inr (3, [.ref q1, .ref q2, .int pasts, .ref q3, .ref q4, .ref q5, .int (nI L), .int known, .int there, .ref q6, .int (nI (s3I pd L i w)), .int (cI (s3W pd L i w)), .int (nI 114), .int (dgS pd L i w), .int (fiS pd L i w), .int second]))], [(q5, .inl (gA G 0, 80, .inl pd))]]) (Br := []) [0, 1] [] (show ([0, 1] ++ ([] : List Nat)).isPerm (List.range 2) = true by decide +kernel) rfl rfl
        refine m_ri X S hq18 (m_runV (rest := [.ref h0]) (As := [.int (nI 97), .int (nI 104)]) (n := 2) X S hq18 (mt_X3_within G l h0 q1 q2 q3 q4 q5 q6 pasts known there (nI 114) (dgS pd L i w) (fiS pd L i w) second pd (s3I pd L i w) (s3W pd L i w) L 97 104 (by omega) (by omega)) (lw_V q1985 q1987 qs73 q90 q1988) (m_recv X S 0 rfl rfl) (by decide +kernel) ⟨Nat.le_of_ble_eq_true rfl, Nat.le_of_ble_eq_true rfl⟩ rfl hl.1 rfl (Nat.le_of_ble_eq_true rfl) dX3_order_219 ⟨(Nat.le_of_ble_eq_true rfl), (Nat.le_of_ble_eq_true rfl)⟩) (fun r19 u H locs hp19 S => ?_)
        obtain ⟨u20, u21⟩ := u
        have hp19 : (r19 = chS pd L (s3I pd L i w) - nI 97 ∧ u20 = okI (s3I pd L i w) (okW pd L 97 104 (s3I pd L i w) (s3W pd L i w)) ∧ u21 = okW pd L 97 104 (s3I pd L i w) (s3W pd L i w)) := hp19
        have S : Sw G A s.heap [[(h0, .inr (3, [.ref q1, .ref q2, .int pasts, .ref q3, .ref q4, .ref q5, .int (nI L), .int known, .int there, .ref q6, .int (nI u20), .int (cI u21), .int (nI 114), .int (dgS pd L i w), .int (fiS pd L i w), .int second]))], [(q5, .inl (gA G 0, 80, .inl pd))]] _ _ := S
        rcases hp19 with ⟨hhp19_0, hhp19_1, hhp19_2⟩
        subst hhp19_0
        subst hhp19_1
        subst hhp19_2
        have S : Sw G A s.heap [[(h0, .inr (3, [.ref q1, .ref q2, .int pasts, .ref q3, .ref q4, .ref q5, .int (nI L), .int known, .int there, .ref q6, .int (nI (okI (s3I pd L i w) (okW pd L 97 104 (s3I pd L i w) (s3W pd L i w)))), .int (cI (okW pd L 97 104 (s3I pd L i w) (s3W pd L i w))), .int (nI 114), .int (dgS pd L i w), .int (fiS pd L i w), .int second]))], [(q5, .inl (gA G 0, 80, .inl pd))]] _ _ := S
        refine lv_goto (tgt := 226) hx hb dX3_order_222 (by decide) ?_
        refine lv_toe (y := seS pd L i w) (by unfold seS; rw [← hc]; first | (rw [if_pos (by decide)]; done) | (rw [if_neg (by decide)]; done) | (rw [if_neg (by assumption)]; done)) ?_
        refine m_put X S 0 rfl (T := TX3) (N := 16) in_X3 tyX3 tyX3_ok nmX3 rfl 15 (by decide) q1727 (fun _ h9 => h9) rfl rfl rfl (Nat.le_of_ble_eq_true rfl) dX3_order_226 (fun H locs S => ?_)
        have S : Sw G A s.heap [[(h0, .inr (3, [.ref q1, .ref q2, .int pasts, .ref q3, .ref q4, .ref q5, .int (nI L), .int known, .int there, .ref q6, .int (nI (okI (s3I pd L i w) (okW pd L 97 104 (s3I pd L i w) (s3W pd L i w)))), .int (cI (okW pd L 97 104 (s3I pd L i w) (s3W pd L i w))), .int (nI 114), .int (dgS pd L i w), .int (fiS pd L i w), .int (seS pd L i w)]))], [(q5, .inl (gA G 0, 80, .inl pd))]] _ _ := S
        have hE22 : nI (okI (s3I pd L i w) (okW pd L 97 104 (s3I pd L i w) (s3W pd L i w))) = nI (s4I pd L i w) := congrArg nI (by unfold s4I; rw [← hc]; first | (rw [if_pos (by decide)]; done) | (rw [if_neg (by decide)]; done) | (rw [if_neg (by assumption)]; done))
        have S := S.cong (congrArg (fun (zz : Int32) => ([[(h0, .inr (3, [.ref q1, .ref q2, .int pasts, .ref q3, .ref q4, .ref q5, .int (nI L), .int known, .int there, .ref q6, .int zz, .int (cI (okW pd L 97 104 (s3I pd L i w) (s3W pd L i w))), .int (nI 114), .int (dgS pd L i w), .int (fiS pd L i w), .int (seS pd L i w)]))], [(q5, .inl (gA G 0, 80, .inl pd))]] : List va_W)) hE22)
        have S : Sw G A s.heap [[(h0, .inr (3, [.ref q1, .ref q2, .int pasts, .ref q3, .ref q4, .ref q5, .int (nI L), .int known, .int there, .ref q6, .int (nI (s4I pd L i w)), .int (cI (okW pd L 97 104 (s3I pd L i w) (s3W pd L i w))), .int (nI 114), .int (dgS pd L i w), .int (fiS pd L i w), .int (seS pd L i w)]))], [(q5, .inl (gA G 0, 80, .inl pd))]] _ _ := S
        have hE23 : cI (okW pd L 97 104 (s3I pd L i w) (s3W pd L i w)) = cI (s4W pd L i w) := congrArg cI (by unfold s4W; rw [← hc]; first | (rw [if_pos (by decide)]; done) | (rw [if_neg (by decide)]; done) | (rw [if_neg (by assumption)]; done))
        have S := S.cong (congrArg (fun (zz : Int32) => ([[(h0, .inr (3, [.ref q1, .ref q2, .int pasts, .ref q3, .ref q4, .ref q5, .int (nI L), .int known, .int there, .ref q6, .int (nI (s4I pd L i w)), .int zz, .int (nI 114), .int (dgS pd L i w), .int (fiS pd L i w), .int (seS pd L i w)]))], [(q5, .inl (gA G 0, 80, .inl pd))]] : List va_W)) hE23)
        have S : Sw G A s.heap [[(h0, .inr (3, [.ref q1, .ref q2, .int pasts, .ref q3, .ref q4, .ref q5, .int (nI L), .int known, .int there, .ref q6, .int (nI (s4I pd L i w)), .int (cI (s4W pd L i w)), .int (nI 114), .int (dgS pd L i w), .int (fiS pd L i w), .int (seS pd L i w)]))], [(q5, .inl (gA G 0, 80, .inl pd))]] _ _ := S
        have hE24 : (nI 114) = sgnS pd L i w := hc
        have S := S.cong (congrArg (fun (zz : Int32) => ([[(h0, .inr (3, [.ref q1, .ref q2, .int pasts, .ref q3, .ref q4, .ref q5, .int (nI L), .int known, .int there, .ref q6, .int (nI (s4I pd L i w)), .int (cI (s4W pd L i w)), .int zz, .int (dgS pd L i w), .int (fiS pd L i w), .int (seS pd L i w)]))], [(q5, .inl (gA G 0, 80, .inl pd))]] : List va_W)) hE24)
        have S : Sw G A s.heap [[(h0, .inr (3, [.ref q1, .ref q2, .int pasts, .ref q3, .ref q4, .ref q5, .int (nI L), .int known, .int there, .ref q6, .int (nI (s4I pd L i w)), .int (cI (s4W pd L i w)), .int (sgnS pd L i w), .int (dgS pd L i w), .int (fiS pd L i w), .int (seS pd L i w)]))], [(q5, .inl (gA G 0, 80, .inl pd))]] _ _ := S
        exact m_vret X hr hlk hQ S ⟨s4I pd L i w, s4W pd L i w, sgnS pd L i w, dgS pd L i w, fiS pd L i w, seS pd L i w⟩ (by show ((s4I pd L i w) = s4I pd L i w ∧ (s4W pd L i w) = s4W pd L i w ∧ (sgnS pd L i w) = sgnS pd L i w ∧ (dgS pd L i w) = dgS pd L i w ∧ (fiS pd L i w) = fiS pd L i w ∧ (seS pd L i w) = seS pd L i w); exact ⟨rfl, rfl, rfl, rfl, rfl, rfl⟩) [0, 1] [] (show ([0, 1] ++ ([] : List Nat)).isPerm (List.range 2) = true by decide +kernel) rfl (Nat.le_of_ble_eq_true rfl) (Nat.le_of_ble_eq_true rfl) dX3_order_229
      · skip
        have c110_3 : (cI w) = (nI 0) := c110_3
        have hwf : w = false := cI_0.mp c110_3
        refine lv_iload_n hx hb dX3_order_113 rfl (lv_at hl 0 rfl) ?_
        refine lv_if_ne (tgt := 139) hx hb dX3_order_114 (by decide) (fun c114_25 => ?_) (fun c114_25 => absurd c114_25 (by decide))
        refine lv_iconst (v := nI 0) hx hb dX3_order_139 (by decide) ?_
        refine m_put X S 0 rfl (T := TX3) (N := 16) in_X3 tyX3 tyX3_ok nmX3 rfl 11 (by decide) q1723 (fun _ h9 => h9) rfl rfl rfl (Nat.le_of_ble_eq_true rfl) dX3_order_140 (fun H locs S => ?_)
        have S : Sw G A s.heap [[(h0, .inr (3, [.ref q1, .ref q2, .int pasts, .ref q3, .ref q4, .ref q5, .int (nI L), .int known, .int there, .ref q6, .int (nI i), .int (nI 0), .int (nI 114), .int digit, .int first, .int second]))], [(q5, .inl (gA G 0, 80, .inl pd))]] _ _ := S
        refine lv_aload_n hx hb dX3_order_143 rfl (lv_at hl 2 rfl) ?_
        refine lv_dup hx hb dX3_order_144 rfl ?_
        refine m_get X S 0 rfl (T := TX3) (N := 16) in_X3 rfl 10 (by decide) q1722 (fun _ h9 => h9) rfl dX3_order_145 ?_
        refine lv_aload_n hx hb dX3_order_148 rfl (lv_at hl 2 rfl) ?_
        refine m_get X S 0 rfl (T := TX3) (N := 16) in_X3 rfl 11 (by decide) q1723 (fun _ h9 => h9) rfl dX3_order_149 ?_
        refine lv_if_eq (tgt := 159) hx hb dX3_order_152 (by decide) (fun c152_26 => ?_) (fun c152_26 => absurd (by decide) c152_26)
        refine lv_iconst (v := nI 1) hx hb dX3_order_159 (by decide) ?_
        refine lv_iadd hx hb dX3_order_160 ?_
        refine lv_toe (y := nI (i + 1)) (nI_add _ _) ?_
        refine m_put X S 0 rfl (T := TX3) (N := 16) in_X3 tyX3 tyX3_ok nmX3 rfl 10 (by decide) q1722 (fun _ h9 => h9) rfl rfl rfl (Nat.le_of_ble_eq_true rfl) dX3_order_161 (fun H locs S => ?_)
        have S : Sw G A s.heap [[(h0, .inr (3, [.ref q1, .ref q2, .int pasts, .ref q3, .ref q4, .ref q5, .int (nI L), .int known, .int there, .ref q6, .int (nI (i + 1)), .int (nI 0), .int (nI 114), .int digit, .int first, .int second]))], [(q5, .inl (gA G 0, 80, .inl pd))]] _ _ := S
        have hs1 : s1W pd L i w = false := by first | exact s1W_w (by assumption) | exact s1W_n hc (by assumption) | exact s1W_y hc (by assumption) (by first | decide | exact Or.inr (Or.inl (by assumption)) | exact Or.inr (Or.inr (by assumption)))
        have hE27 : nI (i + 1) = nI (s1I pd L i w) := by unfold s1I; rw [hs1]; rfl
        have S := S.cong (congrArg (fun (zz : Int32) => ([[(h0, .inr (3, [.ref q1, .ref q2, .int pasts, .ref q3, .ref q4, .ref q5, .int (nI L), .int known, .int there, .ref q6, .int zz, .int (nI 0), .int (nI 114), .int digit, .int first, .int second]))], [(q5, .inl (gA G 0, 80, .inl pd))]] : List va_W)) hE27)
        have S : Sw G A s.heap [[(h0, .inr (3, [.ref q1, .ref q2, .int pasts, .ref q3, .ref q4, .ref q5, .int (nI L), .int known, .int there, .ref q6, .int (nI (s1I pd L i w)), .int (nI 0), .int (nI 114), .int digit, .int first, .int second]))], [(q5, .inl (gA G 0, 80, .inl pd))]] _ _ := S
        have hE28 : nI 0 = cI (s1W pd L i w) := by rw [hs1]; rfl
        have S := S.cong (congrArg (fun (zz : Int32) => ([[(h0, .inr (3, [.ref q1, .ref q2, .int pasts, .ref q3, .ref q4, .ref q5, .int (nI L), .int known, .int there, .ref q6, .int (nI (s1I pd L i w)), .int zz, .int (nI 114), .int digit, .int first, .int second]))], [(q5, .inl (gA G 0, 80, .inl pd))]] : List va_W)) hE28)
        have S : Sw G A s.heap [[(h0, .inr (3, [.ref q1, .ref q2, .int pasts, .ref q3, .ref q4, .ref q5, .int (nI L), .int known, .int there, .ref q6, .int (nI (s1I pd L i w)), .int (cI (s1W pd L i w)), .int (nI 114), .int digit, .int first, .int second]))], [(q5, .inl (gA G 0, 80, .inl pd))]] _ _ := S
        have hl1 := s1I_le (pd := pd) (w := w) hiL
        have hl2 := s2I_le (pd := pd) (w := w) hiL
        have hl3 := s3I_le (pd := pd) (w := w) hiL
        refine lv_aload_n hx hb dX3_order_164 rfl (lv_at hl 2 rfl) ?_
        refine lv_aload_n hx hb dX3_order_165 rfl (lv_at hl 2 rfl) ?_
        refine m_get X S 0 rfl (T := TX3) (N := 16) in_X3 rfl 12 (by decide) q1724 (fun _ h9 => h9) rfl dX3_order_166 ?_
        refine lv_bipush (v := nI 99) hx hb dX3_order_169 (by decide) ?_
        refine lv_icmp_ne (tgt := 185) hx hb dX3_order_171 (by decide) (fun c171_29 => ?_) (fun c171_29 => absurd c171_29 (by decide))
        refine lv_iconst (v := nI 0) hx hb dX3_order_185 (by decide) ?_
        refine lv_toe (y := dgS pd L i w) (by unfold dgS; rw [← hc]; first | (rw [if_pos (by decide)]; done) | (rw [if_neg (by decide)]; done) | (rw [if_neg (by assumption)]; done)) ?_
        refine m_put X S 0 rfl (T := TX3) (N := 16) in_X3 tyX3 tyX3_ok nmX3 rfl 13 (by decide) q1725 (fun _ h9 => h9) rfl rfl rfl (Nat.le_of_ble_eq_true rfl) dX3_order_186 (fun H locs S => ?_)
        have S : Sw G A s.heap [[(h0, .inr (3, [.ref q1, .ref q2, .int pasts, .ref q3, .ref q4, .ref q5, .int (nI L), .int known, .int there, .ref q6, .int (nI (s1I pd L i w)), .int (cI (s1W pd L i w)), .int (nI 114), .int (dgS pd L i w), .int first, .int second]))], [(q5, .inl (gA G 0, 80, .inl pd))]] _ _ := S
        have hE30 : nI (s1I pd L i w) = nI (s2I pd L i w) := congrArg nI (by unfold s2I; rw [← hc]; first | (rw [if_pos (by decide)]; done) | (rw [if_neg (by decide)]; done) | (rw [if_neg (by assumption)]; done))
        have S := S.cong (congrArg (fun (zz : Int32) => ([[(h0, .inr (3, [.ref q1, .ref q2, .int pasts, .ref q3, .ref q4, .ref q5, .int (nI L), .int known, .int there, .ref q6, .int zz, .int (cI (s1W pd L i w)), .int (nI 114), .int (dgS pd L i w), .int first, .int second]))], [(q5, .inl (gA G 0, 80, .inl pd))]] : List va_W)) hE30)
        have S : Sw G A s.heap [[(h0, .inr (3, [.ref q1, .ref q2, .int pasts, .ref q3, .ref q4, .ref q5, .int (nI L), .int known, .int there, .ref q6, .int (nI (s2I pd L i w)), .int (cI (s1W pd L i w)), .int (nI 114), .int (dgS pd L i w), .int first, .int second]))], [(q5, .inl (gA G 0, 80, .inl pd))]] _ _ := S
        have hE31 : cI (s1W pd L i w) = cI (s2W pd L i w) := congrArg cI (by unfold s2W; rw [← hc]; first | (rw [if_pos (by decide)]; done) | (rw [if_neg (by decide)]; done) | (rw [if_neg (by assumption)]; done))
        have S := S.cong (congrArg (fun (zz : Int32) => ([[(h0, .inr (3, [.ref q1, .ref q2, .int pasts, .ref q3, .ref q4, .ref q5, .int (nI L), .int known, .int there, .ref q6, .int (nI (s2I pd L i w)), .int zz, .int (nI 114), .int (dgS pd L i w), .int first, .int second]))], [(q5, .inl (gA G 0, 80, .inl pd))]] : List va_W)) hE31)
        have S : Sw G A s.heap [[(h0, .inr (3, [.ref q1, .ref q2, .int pasts, .ref q3, .ref q4, .ref q5, .int (nI L), .int known, .int there, .ref q6, .int (nI (s2I pd L i w)), .int (cI (s2W pd L i w)), .int (nI 114), .int (dgS pd L i w), .int first, .int second]))], [(q5, .inl (gA G 0, 80, .inl pd))]] _ _ := S
        refine lv_aload_n hx hb dX3_order_189 rfl (lv_at hl 2 rfl) ?_
        refine lv_iload_n hx hb dX3_order_190 rfl (lv_at hl 0 rfl) ?_
        refine lv_if_eq (tgt := 205) hx hb dX3_order_191 (by decide) (fun c191_32 => absurd c191_32 (by decide)) (fun c191_32 => ?_)
        refine lv_aload_n hx hb dX3_order_194 rfl (lv_at hl 2 rfl) ?_
        refine lv_bipush (v := nI 97) hx hb dX3_order_195 (by decide) ?_
        refine lv_bipush (v := nI 104) hx hb dX3_order_197 (by decide) ?_
        have hq33 := S.cut (Bc := [[(h0, .inr (3, [.ref q1, .ref q2, .int pasts, .ref q3, .ref q4, .ref q5, .int (nI L), .int known, .int there, .ref q6, .int (nI (s2I pd L i w)), .int (cI (s2W pd L i w)), .int (nI 114), .int (dgS pd L i w), .int first, .int second]))], [(q5, .inl (gA G 0, 80, .inl pd))]]) (Br := []) [0, 1] [] (show ([0, 1] ++ ([] : List Nat)).isPerm (List.range 2) = true by decide +kernel) rfl rfl
        refine m_ri X S hq33 (m_runV (rest := [.ref h0]) (As := [.int (nI 97), .int (nI 104)]) (n := 2) X S hq33 (mt_X3_within G l h0 q1 q2 q3 q4 q5 q6 pasts known there (nI 114) (dgS pd L i w) first second pd (s2I pd L i w) (s2W pd L i w) L 97 104 (by omega) (by omega)) (lw_V q1985 q1987 qs73 q90 q1988) (m_recv X S 0 rfl rfl) (by decide +kernel) ⟨Nat.le_of_ble_eq_true rfl, Nat.le_of_ble_eq_true rfl⟩ rfl hl.1 rfl (Nat.le_of_ble_eq_true rfl) dX3_order_199 ⟨(Nat.le_of_ble_eq_true rfl), (Nat.le_of_ble_eq_true rfl)⟩) (fun r34 u H locs hp34 S => ?_)
        obtain ⟨u35, u36⟩ := u
        have hp34 : (r34 = chS pd L (s2I pd L i w) - nI 97 ∧ u35 = okI (s2I pd L i w) (okW pd L 97 104 (s2I pd L i w) (s2W pd L i w)) ∧ u36 = okW pd L 97 104 (s2I pd L i w) (s2W pd L i w)) := hp34
        have S : Sw G A s.heap [[(h0, .inr (3, [.ref q1, .ref q2, .int pasts, .ref q3, .ref q4, .ref q5, .int (nI L), .int known, .int there, .ref q6, .int (nI u35), .int (cI u36), .int (nI 114), .int (dgS pd L i w), .int first, .int second]))], [(q5, .inl (gA G 0, 80, .inl pd))]] _ _ := S
        rcases hp34 with ⟨hhp34_0, hhp34_1, hhp34_2⟩
        subst hhp34_0
        subst hhp34_1
        subst hhp34_2
        have S : Sw G A s.heap [[(h0, .inr (3, [.ref q1, .ref q2, .int pasts, .ref q3, .ref q4, .ref q5, .int (nI L), .int known, .int there, .ref q6, .int (nI (okI (s2I pd L i w) (okW pd L 97 104 (s2I pd L i w) (s2W pd L i w)))), .int (cI (okW pd L 97 104 (s2I pd L i w) (s2W pd L i w))), .int (nI 114), .int (dgS pd L i w), .int first, .int second]))], [(q5, .inl (gA G 0, 80, .inl pd))]] _ _ := S
        refine lv_goto (tgt := 206) hx hb dX3_order_202 (by decide) ?_
        refine lv_toe (y := fiS pd L i w) (by unfold fiS; rw [← hc]; first | (rw [if_pos (by decide)]; done) | (rw [if_neg (by decide)]; done) | (rw [if_neg (by assumption)]; done)) ?_
        refine m_put X S 0 rfl (T := TX3) (N := 16) in_X3 tyX3 tyX3_ok nmX3 rfl 14 (by decide) q1726 (fun _ h9 => h9) rfl rfl rfl (Nat.le_of_ble_eq_true rfl) dX3_order_206 (fun H locs S => ?_)
        have S : Sw G A s.heap [[(h0, .inr (3, [.ref q1, .ref q2, .int pasts, .ref q3, .ref q4, .ref q5, .int (nI L), .int known, .int there, .ref q6, .int (nI (okI (s2I pd L i w) (okW pd L 97 104 (s2I pd L i w) (s2W pd L i w)))), .int (cI (okW pd L 97 104 (s2I pd L i w) (s2W pd L i w))), .int (nI 114), .int (dgS pd L i w), .int (fiS pd L i w), .int second]))], [(q5, .inl (gA G 0, 80, .inl pd))]] _ _ := S
        have hE37 : nI (okI (s2I pd L i w) (okW pd L 97 104 (s2I pd L i w) (s2W pd L i w))) = nI (s3I pd L i w) := congrArg nI (by unfold s3I; rw [← hc]; first | (rw [if_pos (by decide)]; done) | (rw [if_neg (by decide)]; done) | (rw [if_neg (by assumption)]; done))
        have S := S.cong (congrArg (fun (zz : Int32) => ([[(h0, .inr (3, [.ref q1, .ref q2, .int pasts, .ref q3, .ref q4, .ref q5, .int (nI L), .int known, .int there, .ref q6, .int zz, .int (cI (okW pd L 97 104 (s2I pd L i w) (s2W pd L i w))), .int (nI 114), .int (dgS pd L i w), .int (fiS pd L i w), .int second]))], [(q5, .inl (gA G 0, 80, .inl pd))]] : List va_W)) hE37)
        have S : Sw G A s.heap [[(h0, .inr (3, [.ref q1, .ref q2, .int pasts, .ref q3, .ref q4, .ref q5, .int (nI L), .int known, .int there, .ref q6, .int (nI (s3I pd L i w)), .int (cI (okW pd L 97 104 (s2I pd L i w) (s2W pd L i w))), .int (nI 114), .int (dgS pd L i w), .int (fiS pd L i w), .int second]))], [(q5, .inl (gA G 0, 80, .inl pd))]] _ _ := S
        have hE38 : cI (okW pd L 97 104 (s2I pd L i w) (s2W pd L i w)) = cI (s3W pd L i w) := congrArg cI (by unfold s3W; rw [← hc]; first | (rw [if_pos (by decide)]; done) | (rw [if_neg (by decide)]; done) | (rw [if_neg (by assumption)]; done))
        have S := S.cong (congrArg (fun (zz : Int32) => ([[(h0, .inr (3, [.ref q1, .ref q2, .int pasts, .ref q3, .ref q4, .ref q5, .int (nI L), .int known, .int there, .ref q6, .int (nI (s3I pd L i w)), .int zz, .int (nI 114), .int (dgS pd L i w), .int (fiS pd L i w), .int second]))], [(q5, .inl (gA G 0, 80, .inl pd))]] : List va_W)) hE38)
        have S : Sw G A s.heap [[(h0, .inr (3, [.ref q1, .ref q2, .int pasts, .ref q3, .ref q4, .ref q5, .int (nI L), .int known, .int there, .ref q6, .int (nI (s3I pd L i w)), .int (cI (s3W pd L i w)), .int (nI 114), .int (dgS pd L i w), .int (fiS pd L i w), .int second]))], [(q5, .inl (gA G 0, 80, .inl pd))]] _ _ := S
        refine lv_aload_n hx hb dX3_order_209 rfl (lv_at hl 2 rfl) ?_
        refine lv_iload_n hx hb dX3_order_210 rfl (lv_at hl 1 rfl) ?_
        refine lv_if_eq (tgt := 225) hx hb dX3_order_211 (by decide) (fun c211_39 => absurd c211_39 (by decide)) (fun c211_39 => ?_)
        refine lv_aload_n hx hb dX3_order_214 rfl (lv_at hl 2 rfl) ?_
        refine lv_bipush (v := nI 97) hx hb dX3_order_215 (by decide) ?_
        refine lv_bipush (v := nI 104) hx hb dX3_order_217 (by decide) ?_
        have hq40 := S.cut (Bc := [[(h0, .inr (3, [.ref q1, .ref q2, .int pasts, .ref q3, .ref q4, .ref q5, .int (nI L), .int known, .int there, .ref q6, .int (nI (s3I pd L i w)), .int (cI (s3W pd L i w)), .int (nI 114), .int (dgS pd L i w), .int (fiS pd L i w), .int second]))], [(q5, .inl (gA G 0, 80, .inl pd))]]) (Br := []) [0, 1] [] (show ([0, 1] ++ ([] : List Nat)).isPerm (List.range 2) = true by decide +kernel) rfl rfl
        refine m_ri X S hq40 (m_runV (rest := [.ref h0]) (As := [.int (nI 97), .int (nI 104)]) (n := 2) X S hq40 (mt_X3_within G l h0 q1 q2 q3 q4 q5 q6 pasts known there (nI 114) (dgS pd L i w) (fiS pd L i w) second pd (s3I pd L i w) (s3W pd L i w) L 97 104 (by omega) (by omega)) (lw_V q1985 q1987 qs73 q90 q1988) (m_recv X S 0 rfl rfl) (by decide +kernel) ⟨Nat.le_of_ble_eq_true rfl, Nat.le_of_ble_eq_true rfl⟩ rfl hl.1 rfl (Nat.le_of_ble_eq_true rfl) dX3_order_219 ⟨(Nat.le_of_ble_eq_true rfl), (Nat.le_of_ble_eq_true rfl)⟩) (fun r41 u H locs hp41 S => ?_)
        obtain ⟨u42, u43⟩ := u
        have hp41 : (r41 = chS pd L (s3I pd L i w) - nI 97 ∧ u42 = okI (s3I pd L i w) (okW pd L 97 104 (s3I pd L i w) (s3W pd L i w)) ∧ u43 = okW pd L 97 104 (s3I pd L i w) (s3W pd L i w)) := hp41
        have S : Sw G A s.heap [[(h0, .inr (3, [.ref q1, .ref q2, .int pasts, .ref q3, .ref q4, .ref q5, .int (nI L), .int known, .int there, .ref q6, .int (nI u42), .int (cI u43), .int (nI 114), .int (dgS pd L i w), .int (fiS pd L i w), .int second]))], [(q5, .inl (gA G 0, 80, .inl pd))]] _ _ := S
        rcases hp41 with ⟨hhp41_0, hhp41_1, hhp41_2⟩
        subst hhp41_0
        subst hhp41_1
        subst hhp41_2
        have S : Sw G A s.heap [[(h0, .inr (3, [.ref q1, .ref q2, .int pasts, .ref q3, .ref q4, .ref q5, .int (nI L), .int known, .int there, .ref q6, .int (nI (okI (s3I pd L i w) (okW pd L 97 104 (s3I pd L i w) (s3W pd L i w)))), .int (cI (okW pd L 97 104 (s3I pd L i w) (s3W pd L i w))), .int (nI 114), .int (dgS pd L i w), .int (fiS pd L i w), .int second]))], [(q5, .inl (gA G 0, 80, .inl pd))]] _ _ := S
        refine lv_goto (tgt := 226) hx hb dX3_order_222 (by decide) ?_
        refine lv_toe (y := seS pd L i w) (by unfold seS; rw [← hc]; first | (rw [if_pos (by decide)]; done) | (rw [if_neg (by decide)]; done) | (rw [if_neg (by assumption)]; done)) ?_
        refine m_put X S 0 rfl (T := TX3) (N := 16) in_X3 tyX3 tyX3_ok nmX3 rfl 15 (by decide) q1727 (fun _ h9 => h9) rfl rfl rfl (Nat.le_of_ble_eq_true rfl) dX3_order_226 (fun H locs S => ?_)
        have S : Sw G A s.heap [[(h0, .inr (3, [.ref q1, .ref q2, .int pasts, .ref q3, .ref q4, .ref q5, .int (nI L), .int known, .int there, .ref q6, .int (nI (okI (s3I pd L i w) (okW pd L 97 104 (s3I pd L i w) (s3W pd L i w)))), .int (cI (okW pd L 97 104 (s3I pd L i w) (s3W pd L i w))), .int (nI 114), .int (dgS pd L i w), .int (fiS pd L i w), .int (seS pd L i w)]))], [(q5, .inl (gA G 0, 80, .inl pd))]] _ _ := S
        have hE44 : nI (okI (s3I pd L i w) (okW pd L 97 104 (s3I pd L i w) (s3W pd L i w))) = nI (s4I pd L i w) := congrArg nI (by unfold s4I; rw [← hc]; first | (rw [if_pos (by decide)]; done) | (rw [if_neg (by decide)]; done) | (rw [if_neg (by assumption)]; done))
        have S := S.cong (congrArg (fun (zz : Int32) => ([[(h0, .inr (3, [.ref q1, .ref q2, .int pasts, .ref q3, .ref q4, .ref q5, .int (nI L), .int known, .int there, .ref q6, .int zz, .int (cI (okW pd L 97 104 (s3I pd L i w) (s3W pd L i w))), .int (nI 114), .int (dgS pd L i w), .int (fiS pd L i w), .int (seS pd L i w)]))], [(q5, .inl (gA G 0, 80, .inl pd))]] : List va_W)) hE44)
        have S : Sw G A s.heap [[(h0, .inr (3, [.ref q1, .ref q2, .int pasts, .ref q3, .ref q4, .ref q5, .int (nI L), .int known, .int there, .ref q6, .int (nI (s4I pd L i w)), .int (cI (okW pd L 97 104 (s3I pd L i w) (s3W pd L i w))), .int (nI 114), .int (dgS pd L i w), .int (fiS pd L i w), .int (seS pd L i w)]))], [(q5, .inl (gA G 0, 80, .inl pd))]] _ _ := S
        have hE45 : cI (okW pd L 97 104 (s3I pd L i w) (s3W pd L i w)) = cI (s4W pd L i w) := congrArg cI (by unfold s4W; rw [← hc]; first | (rw [if_pos (by decide)]; done) | (rw [if_neg (by decide)]; done) | (rw [if_neg (by assumption)]; done))
        have S := S.cong (congrArg (fun (zz : Int32) => ([[(h0, .inr (3, [.ref q1, .ref q2, .int pasts, .ref q3, .ref q4, .ref q5, .int (nI L), .int known, .int there, .ref q6, .int (nI (s4I pd L i w)), .int zz, .int (nI 114), .int (dgS pd L i w), .int (fiS pd L i w), .int (seS pd L i w)]))], [(q5, .inl (gA G 0, 80, .inl pd))]] : List va_W)) hE45)
        have S : Sw G A s.heap [[(h0, .inr (3, [.ref q1, .ref q2, .int pasts, .ref q3, .ref q4, .ref q5, .int (nI L), .int known, .int there, .ref q6, .int (nI (s4I pd L i w)), .int (cI (s4W pd L i w)), .int (nI 114), .int (dgS pd L i w), .int (fiS pd L i w), .int (seS pd L i w)]))], [(q5, .inl (gA G 0, 80, .inl pd))]] _ _ := S
        have hE46 : (nI 114) = sgnS pd L i w := hc
        have S := S.cong (congrArg (fun (zz : Int32) => ([[(h0, .inr (3, [.ref q1, .ref q2, .int pasts, .ref q3, .ref q4, .ref q5, .int (nI L), .int known, .int there, .ref q6, .int (nI (s4I pd L i w)), .int (cI (s4W pd L i w)), .int zz, .int (dgS pd L i w), .int (fiS pd L i w), .int (seS pd L i w)]))], [(q5, .inl (gA G 0, 80, .inl pd))]] : List va_W)) hE46)
        have S : Sw G A s.heap [[(h0, .inr (3, [.ref q1, .ref q2, .int pasts, .ref q3, .ref q4, .ref q5, .int (nI L), .int known, .int there, .ref q6, .int (nI (s4I pd L i w)), .int (cI (s4W pd L i w)), .int (sgnS pd L i w), .int (dgS pd L i w), .int (fiS pd L i w), .int (seS pd L i w)]))], [(q5, .inl (gA G 0, 80, .inl pd))]] _ _ := S
        exact m_vret X hr hlk hQ S ⟨s4I pd L i w, s4W pd L i w, sgnS pd L i w, dgS pd L i w, fiS pd L i w, seS pd L i w⟩ (by show ((s4I pd L i w) = s4I pd L i w ∧ (s4W pd L i w) = s4W pd L i w ∧ (sgnS pd L i w) = sgnS pd L i w ∧ (dgS pd L i w) = dgS pd L i w ∧ (fiS pd L i w) = fiS pd L i w ∧ (seS pd L i w) = seS pd L i w); exact ⟨rfl, rfl, rfl, rfl, rfl, rfl⟩) [0, 1] [] (show ([0, 1] ++ ([] : List Nat)).isPerm (List.range 2) = true by decide +kernel) rfl (Nat.le_of_ble_eq_true rfl) (Nat.le_of_ble_eq_true rfl) dX3_order_229
    · skip
      have c41_1 : ¬ cc = (nI 114) := c41_1
      refine lv_aload_n hx hb dX3_order_44 rfl (lv_at hl 0 rfl) ?_
      refine m_get X S 0 rfl (T := TX3) (N := 16) in_X3 rfl 12 (by decide) q1724 (fun _ h9 => h9) rfl dX3_order_45 ?_
      refine lv_bipush (v := nI 43) hx hb dX3_order_48 (by decide) ?_
      refine lv_icmp_eq (tgt := 71) hx hb dX3_order_50 (by decide) (fun c50_47 => ?_) (fun c50_47 => ?_)
      · skip
        have c50_47 : cc = (nI 43) := c50_47
        have c50_47 : cc = nI 43 := c50_47
        subst c50_47
        refine lv_iconst (v := nI 1) hx hb dX3_order_71 (by decide) ?_
        refine lv_goto (tgt := 76) hx hb dX3_order_72 (by decide) ?_
        refine lv_istore_n (lv' := [(1, .int (nI 1)), (0, .ref h0)]) hx hb dX3_order_76 rfl hl (Nat.le_of_ble_eq_true rfl) rfl (fun ls hl => ?_)
        refine lv_iload_n hx hb dX3_order_77 rfl (lv_at hl 0 rfl) ?_
        refine lv_if_ne (tgt := 99) hx hb dX3_order_78 (by decide) (fun c78_48 => ?_) (fun c78_48 => absurd c78_48 (by decide))
        refine lv_iconst (v := nI 1) hx hb dX3_order_99 (by decide) ?_
        refine lv_goto (tgt := 104) hx hb dX3_order_100 (by decide) ?_
        refine lv_istore_n (lv' := [(2, .int (nI 1)), (1, .int (nI 1)), (0, .ref h0)]) hx hb dX3_order_104 rfl hl (Nat.le_of_ble_eq_true rfl) rfl (fun ls hl => ?_)
        refine lv_aload_n hx hb dX3_order_105 rfl (lv_at hl 2 rfl) ?_
        refine lv_aload_n hx hb dX3_order_106 rfl (lv_at hl 2 rfl) ?_
        refine m_get X S 0 rfl (T := TX3) (N := 16) in_X3 rfl 11 (by decide) q1723 (fun _ h9 => h9) rfl dX3_order_107 ?_
        refine lv_if_ne (tgt := 135) hx hb dX3_order_110 (by decide) (fun c110_49 => ?_) (fun c110_49 => ?_)
        · skip
          have c110_49 : ¬ (cI w) = (nI 0) := c110_49
          have hwt : w = true := cI_n0.mp c110_49
          refine lv_iconst (v := nI 1) hx hb dX3_order_135 (by decide) ?_
          refine lv_goto (tgt := 140) hx hb dX3_order_136 (by decide) ?_
          refine m_put X S 0 rfl (T := TX3) (N := 16) in_X3 tyX3 tyX3_ok nmX3 rfl 11 (by decide) q1723 (fun _ h9 => h9) rfl rfl rfl (Nat.le_of_ble_eq_true rfl) dX3_order_140 (fun H locs S => ?_)
          have S : Sw G A s.heap [[(h0, .inr (3, [.ref q1, .ref q2, .int pasts, .ref q3, .ref q4, .ref q5, .int (nI L), .int known, .int there, .ref q6, .int (nI i), .int (nI 1), .int (nI 43), .int digit, .int first, .int second]))], [(q5, .inl (gA G 0, 80, .inl pd))]] _ _ := S
          refine lv_aload_n hx hb dX3_order_143 rfl (lv_at hl 2 rfl) ?_
          refine lv_dup hx hb dX3_order_144 rfl ?_
          refine m_get X S 0 rfl (T := TX3) (N := 16) in_X3 rfl 10 (by decide) q1722 (fun _ h9 => h9) rfl dX3_order_145 ?_
          refine lv_aload_n hx hb dX3_order_148 rfl (lv_at hl 2 rfl) ?_
          refine m_get X S 0 rfl (T := TX3) (N := 16) in_X3 rfl 11 (by decide) q1723 (fun _ h9 => h9) rfl dX3_order_149 ?_
          refine lv_if_eq (tgt := 159) hx hb dX3_order_152 (by decide) (fun c152_50 => absurd c152_50 (by decide)) (fun c152_50 => ?_)
          refine lv_iconst (v := nI 0) hx hb dX3_order_155 (by decide) ?_
          refine lv_goto (tgt := 160) hx hb dX3_order_156 (by decide) ?_
          refine lv_iadd hx hb dX3_order_160 ?_
          refine lv_toe (y := nI i) (nI_add _ _) ?_
          refine m_put X S 0 rfl (T := TX3) (N := 16) in_X3 tyX3 tyX3_ok nmX3 rfl 10 (by decide) q1722 (fun _ h9 => h9) rfl rfl rfl (Nat.le_of_ble_eq_true rfl) dX3_order_161 (fun H locs S => ?_)
          have S : Sw G A s.heap [[(h0, .inr (3, [.ref q1, .ref q2, .int pasts, .ref q3, .ref q4, .ref q5, .int (nI L), .int known, .int there, .ref q6, .int (nI i), .int (nI 1), .int (nI 43), .int digit, .int first, .int second]))], [(q5, .inl (gA G 0, 80, .inl pd))]] _ _ := S
          have hs1 : s1W pd L i w = true := by first | exact s1W_w (by assumption) | exact s1W_n hc (by assumption) | exact s1W_y hc (by assumption) (by first | decide | exact Or.inr (Or.inl (by assumption)) | exact Or.inr (Or.inr (by assumption)))
          have hE51 : nI i = nI (s1I pd L i w) := by unfold s1I; rw [hs1]; rfl
          have S := S.cong (congrArg (fun (zz : Int32) => ([[(h0, .inr (3, [.ref q1, .ref q2, .int pasts, .ref q3, .ref q4, .ref q5, .int (nI L), .int known, .int there, .ref q6, .int zz, .int (nI 1), .int (nI 43), .int digit, .int first, .int second]))], [(q5, .inl (gA G 0, 80, .inl pd))]] : List va_W)) hE51)
          have S : Sw G A s.heap [[(h0, .inr (3, [.ref q1, .ref q2, .int pasts, .ref q3, .ref q4, .ref q5, .int (nI L), .int known, .int there, .ref q6, .int (nI (s1I pd L i w)), .int (nI 1), .int (nI 43), .int digit, .int first, .int second]))], [(q5, .inl (gA G 0, 80, .inl pd))]] _ _ := S
          have hE52 : nI 1 = cI (s1W pd L i w) := by rw [hs1]; rfl
          have S := S.cong (congrArg (fun (zz : Int32) => ([[(h0, .inr (3, [.ref q1, .ref q2, .int pasts, .ref q3, .ref q4, .ref q5, .int (nI L), .int known, .int there, .ref q6, .int (nI (s1I pd L i w)), .int zz, .int (nI 43), .int digit, .int first, .int second]))], [(q5, .inl (gA G 0, 80, .inl pd))]] : List va_W)) hE52)
          have S : Sw G A s.heap [[(h0, .inr (3, [.ref q1, .ref q2, .int pasts, .ref q3, .ref q4, .ref q5, .int (nI L), .int known, .int there, .ref q6, .int (nI (s1I pd L i w)), .int (cI (s1W pd L i w)), .int (nI 43), .int digit, .int first, .int second]))], [(q5, .inl (gA G 0, 80, .inl pd))]] _ _ := S
          have hl1 := s1I_le (pd := pd) (w := w) hiL
          have hl2 := s2I_le (pd := pd) (w := w) hiL
          have hl3 := s3I_le (pd := pd) (w := w) hiL
          refine lv_aload_n hx hb dX3_order_164 rfl (lv_at hl 2 rfl) ?_
          refine lv_aload_n hx hb dX3_order_165 rfl (lv_at hl 2 rfl) ?_
          refine m_get X S 0 rfl (T := TX3) (N := 16) in_X3 rfl 12 (by decide) q1724 (fun _ h9 => h9) rfl dX3_order_166 ?_
          refine lv_bipush (v := nI 99) hx hb dX3_order_169 (by decide) ?_
          refine lv_icmp_ne (tgt := 185) hx hb dX3_order_171 (by decide) (fun c171_53 => ?_) (fun c171_53 => absurd c171_53 (by decide))
          refine lv_iconst (v := nI 0) hx hb dX3_order_185 (by decide) ?_
          refine lv_toe (y := dgS pd L i w) (by unfold dgS; rw [← hc]; first | (rw [if_pos (by decide)]; done) | (rw [if_neg (by decide)]; done) | (rw [if_neg (by assumption)]; done)) ?_
          refine m_put X S 0 rfl (T := TX3) (N := 16) in_X3 tyX3 tyX3_ok nmX3 rfl 13 (by decide) q1725 (fun _ h9 => h9) rfl rfl rfl (Nat.le_of_ble_eq_true rfl) dX3_order_186 (fun H locs S => ?_)
          have S : Sw G A s.heap [[(h0, .inr (3, [.ref q1, .ref q2, .int pasts, .ref q3, .ref q4, .ref q5, .int (nI L), .int known, .int there, .ref q6, .int (nI (s1I pd L i w)), .int (cI (s1W pd L i w)), .int (nI 43), .int (dgS pd L i w), .int first, .int second]))], [(q5, .inl (gA G 0, 80, .inl pd))]] _ _ := S
          have hE54 : nI (s1I pd L i w) = nI (s2I pd L i w) := congrArg nI (by unfold s2I; rw [← hc]; first | (rw [if_pos (by decide)]; done) | (rw [if_neg (by decide)]; done) | (rw [if_neg (by assumption)]; done))
          have S := S.cong (congrArg (fun (zz : Int32) => ([[(h0, .inr (3, [.ref q1, .ref q2, .int pasts, .ref q3, .ref q4, .ref q5, .int (nI L), .int known, .int there, .ref q6, .int zz, .int (cI (s1W pd L i w)), .int (nI 43), .int (dgS pd L i w), .int first, .int second]))], [(q5, .inl (gA G 0, 80, .inl pd))]] : List va_W)) hE54)
          have S : Sw G A s.heap [[(h0, .inr (3, [.ref q1, .ref q2, .int pasts, .ref q3, .ref q4, .ref q5, .int (nI L), .int known, .int there, .ref q6, .int (nI (s2I pd L i w)), .int (cI (s1W pd L i w)), .int (nI 43), .int (dgS pd L i w), .int first, .int second]))], [(q5, .inl (gA G 0, 80, .inl pd))]] _ _ := S
          have hE55 : cI (s1W pd L i w) = cI (s2W pd L i w) := congrArg cI (by unfold s2W; rw [← hc]; first | (rw [if_pos (by decide)]; done) | (rw [if_neg (by decide)]; done) | (rw [if_neg (by assumption)]; done))
          have S := S.cong (congrArg (fun (zz : Int32) => ([[(h0, .inr (3, [.ref q1, .ref q2, .int pasts, .ref q3, .ref q4, .ref q5, .int (nI L), .int known, .int there, .ref q6, .int (nI (s2I pd L i w)), .int zz, .int (nI 43), .int (dgS pd L i w), .int first, .int second]))], [(q5, .inl (gA G 0, 80, .inl pd))]] : List va_W)) hE55)
          have S : Sw G A s.heap [[(h0, .inr (3, [.ref q1, .ref q2, .int pasts, .ref q3, .ref q4, .ref q5, .int (nI L), .int known, .int there, .ref q6, .int (nI (s2I pd L i w)), .int (cI (s2W pd L i w)), .int (nI 43), .int (dgS pd L i w), .int first, .int second]))], [(q5, .inl (gA G 0, 80, .inl pd))]] _ _ := S
          refine lv_aload_n hx hb dX3_order_189 rfl (lv_at hl 2 rfl) ?_
          refine lv_iload_n hx hb dX3_order_190 rfl (lv_at hl 0 rfl) ?_
          refine lv_if_eq (tgt := 205) hx hb dX3_order_191 (by decide) (fun c191_56 => absurd c191_56 (by decide)) (fun c191_56 => ?_)
          refine lv_aload_n hx hb dX3_order_194 rfl (lv_at hl 2 rfl) ?_
          refine lv_bipush (v := nI 97) hx hb dX3_order_195 (by decide) ?_
          refine lv_bipush (v := nI 104) hx hb dX3_order_197 (by decide) ?_
          have hq57 := S.cut (Bc := [[(h0, .inr (3, [.ref q1, .ref q2, .int pasts, .ref q3, .ref q4, .ref q5, .int (nI L), .int known, .int there, .ref q6, .int (nI (s2I pd L i w)), .int (cI (s2W pd L i w)), .int (nI 43), .int (dgS pd L i w), .int first, .int second]))], [(q5, .inl (gA G 0, 80, .inl pd))]]) (Br := []) [0, 1] [] (show ([0, 1] ++ ([] : List Nat)).isPerm (List.range 2) = true by decide +kernel) rfl rfl
          refine m_ri X S hq57 (m_runV (rest := [.ref h0]) (As := [.int (nI 97), .int (nI 104)]) (n := 2) X S hq57 (mt_X3_within G l h0 q1 q2 q3 q4 q5 q6 pasts known there (nI 43) (dgS pd L i w) first second pd (s2I pd L i w) (s2W pd L i w) L 97 104 (by omega) (by omega)) (lw_V q1985 q1987 qs73 q90 q1988) (m_recv X S 0 rfl rfl) (by decide +kernel) ⟨Nat.le_of_ble_eq_true rfl, Nat.le_of_ble_eq_true rfl⟩ rfl hl.1 rfl (Nat.le_of_ble_eq_true rfl) dX3_order_199 ⟨(Nat.le_of_ble_eq_true rfl), (Nat.le_of_ble_eq_true rfl)⟩) (fun r58 u H locs hp58 S => ?_)
          obtain ⟨u59, u60⟩ := u
          have hp58 : (r58 = chS pd L (s2I pd L i w) - nI 97 ∧ u59 = okI (s2I pd L i w) (okW pd L 97 104 (s2I pd L i w) (s2W pd L i w)) ∧ u60 = okW pd L 97 104 (s2I pd L i w) (s2W pd L i w)) := hp58
          have S : Sw G A s.heap [[(h0, .inr (3, [.ref q1, .ref q2, .int pasts, .ref q3, .ref q4, .ref q5, .int (nI L), .int known, .int there, .ref q6, .int (nI u59), .int (cI u60), .int (nI 43), .int (dgS pd L i w), .int first, .int second]))], [(q5, .inl (gA G 0, 80, .inl pd))]] _ _ := S
          rcases hp58 with ⟨hhp58_0, hhp58_1, hhp58_2⟩
          subst hhp58_0
          subst hhp58_1
          subst hhp58_2
          have S : Sw G A s.heap [[(h0, .inr (3, [.ref q1, .ref q2, .int pasts, .ref q3, .ref q4, .ref q5, .int (nI L), .int known, .int there, .ref q6, .int (nI (okI (s2I pd L i w) (okW pd L 97 104 (s2I pd L i w) (s2W pd L i w)))), .int (cI (okW pd L 97 104 (s2I pd L i w) (s2W pd L i w))), .int (nI 43), .int (dgS pd L i w), .int first, .int second]))], [(q5, .inl (gA G 0, 80, .inl pd))]] _ _ := S
          refine lv_goto (tgt := 206) hx hb dX3_order_202 (by decide) ?_
          refine lv_toe (y := fiS pd L i w) (by unfold fiS; rw [← hc]; first | (rw [if_pos (by decide)]; done) | (rw [if_neg (by decide)]; done) | (rw [if_neg (by assumption)]; done)) ?_
          refine m_put X S 0 rfl (T := TX3) (N := 16) in_X3 tyX3 tyX3_ok nmX3 rfl 14 (by decide) q1726 (fun _ h9 => h9) rfl rfl rfl (Nat.le_of_ble_eq_true rfl) dX3_order_206 (fun H locs S => ?_)
          have S : Sw G A s.heap [[(h0, .inr (3, [.ref q1, .ref q2, .int pasts, .ref q3, .ref q4, .ref q5, .int (nI L), .int known, .int there, .ref q6, .int (nI (okI (s2I pd L i w) (okW pd L 97 104 (s2I pd L i w) (s2W pd L i w)))), .int (cI (okW pd L 97 104 (s2I pd L i w) (s2W pd L i w))), .int (nI 43), .int (dgS pd L i w), .int (fiS pd L i w), .int second]))], [(q5, .inl (gA G 0, 80, .inl pd))]] _ _ := S
          have hE61 : nI (okI (s2I pd L i w) (okW pd L 97 104 (s2I pd L i w) (s2W pd L i w))) = nI (s3I pd L i w) := congrArg nI (by unfold s3I; rw [← hc]; first | (rw [if_pos (by decide)]; done) | (rw [if_neg (by decide)]; done) | (rw [if_neg (by assumption)]; done))
          have S := S.cong (congrArg (fun (zz : Int32) => ([[(h0, .inr (3, [.ref q1, .ref q2, .int pasts, .ref q3, .ref q4, .ref q5, .int (nI L), .int known, .int there, .ref q6, .int zz, .int (cI (okW pd L 97 104 (s2I pd L i w) (s2W pd L i w))), .int (nI 43), .int (dgS pd L i w), .int (fiS pd L i w), .int second]))], [(q5, .inl (gA G 0, 80, .inl pd))]] : List va_W)) hE61)
          have S : Sw G A s.heap [[(h0, .inr (3, [.ref q1, .ref q2, .int pasts, .ref q3, .ref q4, .ref q5, .int (nI L), .int known, .int there, .ref q6, .int (nI (s3I pd L i w)), .int (cI (okW pd L 97 104 (s2I pd L i w) (s2W pd L i w))), .int (nI 43), .int (dgS pd L i w), .int (fiS pd L i w), .int second]))], [(q5, .inl (gA G 0, 80, .inl pd))]] _ _ := S
          have hE62 : cI (okW pd L 97 104 (s2I pd L i w) (s2W pd L i w)) = cI (s3W pd L i w) := congrArg cI (by unfold s3W; rw [← hc]; first | (rw [if_pos (by decide)]; done) | (rw [if_neg (by decide)]; done) | (rw [if_neg (by assumption)]; done))
          have S := S.cong (congrArg (fun (zz : Int32) => ([[(h0, .inr (3, [.ref q1, .ref q2, .int pasts, .ref q3, .ref q4, .ref q5, .int (nI L), .int known, .int there, .ref q6, .int (nI (s3I pd L i w)), .int zz, .int (nI 43), .int (dgS pd L i w), .int (fiS pd L i w), .int second]))], [(q5, .inl (gA G 0, 80, .inl pd))]] : List va_W)) hE62)
          have S : Sw G A s.heap [[(h0, .inr (3, [.ref q1, .ref q2, .int pasts, .ref q3, .ref q4, .ref q5, .int (nI L), .int known, .int there, .ref q6, .int (nI (s3I pd L i w)), .int (cI (s3W pd L i w)), .int (nI 43), .int (dgS pd L i w), .int (fiS pd L i w), .int second]))], [(q5, .inl (gA G 0, 80, .inl pd))]] _ _ := S
          refine lv_aload_n hx hb dX3_order_209 rfl (lv_at hl 2 rfl) ?_
          refine lv_iload_n hx hb dX3_order_210 rfl (lv_at hl 1 rfl) ?_
          refine lv_if_eq (tgt := 225) hx hb dX3_order_211 (by decide) (fun c211_63 => absurd c211_63 (by decide)) (fun c211_63 => ?_)
          refine lv_aload_n hx hb dX3_order_214 rfl (lv_at hl 2 rfl) ?_
          refine lv_bipush (v := nI 97) hx hb dX3_order_215 (by decide) ?_
          refine lv_bipush (v := nI 104) hx hb dX3_order_217 (by decide) ?_
          have hq64 := S.cut (Bc := [[(h0, .inr (3, [.ref q1, .ref q2, .int pasts, .ref q3, .ref q4, .ref q5, .int (nI L), .int known, .int there, .ref q6, .int (nI (s3I pd L i w)), .int (cI (s3W pd L i w)), .int (nI 43), .int (dgS pd L i w), .int (fiS pd L i w), .int second]))], [(q5, .inl (gA G 0, 80, .inl pd))]]) (Br := []) [0, 1] [] (show ([0, 1] ++ ([] : List Nat)).isPerm (List.range 2) = true by decide +kernel) rfl rfl
          refine m_ri X S hq64 (m_runV (rest := [.ref h0]) (As := [.int (nI 97), .int (nI 104)]) (n := 2) X S hq64 (mt_X3_within G l h0 q1 q2 q3 q4 q5 q6 pasts known there (nI 43) (dgS pd L i w) (fiS pd L i w) second pd (s3I pd L i w) (s3W pd L i w) L 97 104 (by omega) (by omega)) (lw_V q1985 q1987 qs73 q90 q1988) (m_recv X S 0 rfl rfl) (by decide +kernel) ⟨Nat.le_of_ble_eq_true rfl, Nat.le_of_ble_eq_true rfl⟩ rfl hl.1 rfl (Nat.le_of_ble_eq_true rfl) dX3_order_219 ⟨(Nat.le_of_ble_eq_true rfl), (Nat.le_of_ble_eq_true rfl)⟩) (fun r65 u H locs hp65 S => ?_)
          obtain ⟨u66, u67⟩ := u
          have hp65 : (r65 = chS pd L (s3I pd L i w) - nI 97 ∧ u66 = okI (s3I pd L i w) (okW pd L 97 104 (s3I pd L i w) (s3W pd L i w)) ∧ u67 = okW pd L 97 104 (s3I pd L i w) (s3W pd L i w)) := hp65
          have S : Sw G A s.heap [[(h0, .inr (3, [.ref q1, .ref q2, .int pasts, .ref q3, .ref q4, .ref q5, .int (nI L), .int known, .int there, .ref q6, .int (nI u66), .int (cI u67), .int (nI 43), .int (dgS pd L i w), .int (fiS pd L i w), .int second]))], [(q5, .inl (gA G 0, 80, .inl pd))]] _ _ := S
          rcases hp65 with ⟨hhp65_0, hhp65_1, hhp65_2⟩
          subst hhp65_0
          subst hhp65_1
          subst hhp65_2
          have S : Sw G A s.heap [[(h0, .inr (3, [.ref q1, .ref q2, .int pasts, .ref q3, .ref q4, .ref q5, .int (nI L), .int known, .int there, .ref q6, .int (nI (okI (s3I pd L i w) (okW pd L 97 104 (s3I pd L i w) (s3W pd L i w)))), .int (cI (okW pd L 97 104 (s3I pd L i w) (s3W pd L i w))), .int (nI 43), .int (dgS pd L i w), .int (fiS pd L i w), .int second]))], [(q5, .inl (gA G 0, 80, .inl pd))]] _ _ := S
          refine lv_goto (tgt := 226) hx hb dX3_order_222 (by decide) ?_
          refine lv_toe (y := seS pd L i w) (by unfold seS; rw [← hc]; first | (rw [if_pos (by decide)]; done) | (rw [if_neg (by decide)]; done) | (rw [if_neg (by assumption)]; done)) ?_
          refine m_put X S 0 rfl (T := TX3) (N := 16) in_X3 tyX3 tyX3_ok nmX3 rfl 15 (by decide) q1727 (fun _ h9 => h9) rfl rfl rfl (Nat.le_of_ble_eq_true rfl) dX3_order_226 (fun H locs S => ?_)
          have S : Sw G A s.heap [[(h0, .inr (3, [.ref q1, .ref q2, .int pasts, .ref q3, .ref q4, .ref q5, .int (nI L), .int known, .int there, .ref q6, .int (nI (okI (s3I pd L i w) (okW pd L 97 104 (s3I pd L i w) (s3W pd L i w)))), .int (cI (okW pd L 97 104 (s3I pd L i w) (s3W pd L i w))), .int (nI 43), .int (dgS pd L i w), .int (fiS pd L i w), .int (seS pd L i w)]))], [(q5, .inl (gA G 0, 80, .inl pd))]] _ _ := S
          have hE68 : nI (okI (s3I pd L i w) (okW pd L 97 104 (s3I pd L i w) (s3W pd L i w))) = nI (s4I pd L i w) := congrArg nI (by unfold s4I; rw [← hc]; first | (rw [if_pos (by decide)]; done) | (rw [if_neg (by decide)]; done) | (rw [if_neg (by assumption)]; done))
          have S := S.cong (congrArg (fun (zz : Int32) => ([[(h0, .inr (3, [.ref q1, .ref q2, .int pasts, .ref q3, .ref q4, .ref q5, .int (nI L), .int known, .int there, .ref q6, .int zz, .int (cI (okW pd L 97 104 (s3I pd L i w) (s3W pd L i w))), .int (nI 43), .int (dgS pd L i w), .int (fiS pd L i w), .int (seS pd L i w)]))], [(q5, .inl (gA G 0, 80, .inl pd))]] : List va_W)) hE68)
          have S : Sw G A s.heap [[(h0, .inr (3, [.ref q1, .ref q2, .int pasts, .ref q3, .ref q4, .ref q5, .int (nI L), .int known, .int there, .ref q6, .int (nI (s4I pd L i w)), .int (cI (okW pd L 97 104 (s3I pd L i w) (s3W pd L i w))), .int (nI 43), .int (dgS pd L i w), .int (fiS pd L i w), .int (seS pd L i w)]))], [(q5, .inl (gA G 0, 80, .inl pd))]] _ _ := S
          have hE69 : cI (okW pd L 97 104 (s3I pd L i w) (s3W pd L i w)) = cI (s4W pd L i w) := congrArg cI (by unfold s4W; rw [← hc]; first | (rw [if_pos (by decide)]; done) | (rw [if_neg (by decide)]; done) | (rw [if_neg (by assumption)]; done))
          have S := S.cong (congrArg (fun (zz : Int32) => ([[(h0, .inr (3, [.ref q1, .ref q2, .int pasts, .ref q3, .ref q4, .ref q5, .int (nI L), .int known, .int there, .ref q6, .int (nI (s4I pd L i w)), .int zz, .int (nI 43), .int (dgS pd L i w), .int (fiS pd L i w), .int (seS pd L i w)]))], [(q5, .inl (gA G 0, 80, .inl pd))]] : List va_W)) hE69)
          have S : Sw G A s.heap [[(h0, .inr (3, [.ref q1, .ref q2, .int pasts, .ref q3, .ref q4, .ref q5, .int (nI L), .int known, .int there, .ref q6, .int (nI (s4I pd L i w)), .int (cI (s4W pd L i w)), .int (nI 43), .int (dgS pd L i w), .int (fiS pd L i w), .int (seS pd L i w)]))], [(q5, .inl (gA G 0, 80, .inl pd))]] _ _ := S
          have hE70 : (nI 43) = sgnS pd L i w := hc
          have S := S.cong (congrArg (fun (zz : Int32) => ([[(h0, .inr (3, [.ref q1, .ref q2, .int pasts, .ref q3, .ref q4, .ref q5, .int (nI L), .int known, .int there, .ref q6, .int (nI (s4I pd L i w)), .int (cI (s4W pd L i w)), .int zz, .int (dgS pd L i w), .int (fiS pd L i w), .int (seS pd L i w)]))], [(q5, .inl (gA G 0, 80, .inl pd))]] : List va_W)) hE70)
          have S : Sw G A s.heap [[(h0, .inr (3, [.ref q1, .ref q2, .int pasts, .ref q3, .ref q4, .ref q5, .int (nI L), .int known, .int there, .ref q6, .int (nI (s4I pd L i w)), .int (cI (s4W pd L i w)), .int (sgnS pd L i w), .int (dgS pd L i w), .int (fiS pd L i w), .int (seS pd L i w)]))], [(q5, .inl (gA G 0, 80, .inl pd))]] _ _ := S
          exact m_vret X hr hlk hQ S ⟨s4I pd L i w, s4W pd L i w, sgnS pd L i w, dgS pd L i w, fiS pd L i w, seS pd L i w⟩ (by show ((s4I pd L i w) = s4I pd L i w ∧ (s4W pd L i w) = s4W pd L i w ∧ (sgnS pd L i w) = sgnS pd L i w ∧ (dgS pd L i w) = dgS pd L i w ∧ (fiS pd L i w) = fiS pd L i w ∧ (seS pd L i w) = seS pd L i w); exact ⟨rfl, rfl, rfl, rfl, rfl, rfl⟩) [0, 1] [] (show ([0, 1] ++ ([] : List Nat)).isPerm (List.range 2) = true by decide +kernel) rfl (Nat.le_of_ble_eq_true rfl) (Nat.le_of_ble_eq_true rfl) dX3_order_229
        · skip
          have c110_49 : (cI w) = (nI 0) := c110_49
          have hwf : w = false := cI_0.mp c110_49
          refine lv_iload_n hx hb dX3_order_113 rfl (lv_at hl 0 rfl) ?_
          refine lv_if_ne (tgt := 139) hx hb dX3_order_114 (by decide) (fun c114_71 => ?_) (fun c114_71 => absurd c114_71 (by decide))
          refine lv_iconst (v := nI 0) hx hb dX3_order_139 (by decide) ?_
          refine m_put X S 0 rfl (T := TX3) (N := 16) in_X3 tyX3 tyX3_ok nmX3 rfl 11 (by decide) q1723 (fun _ h9 => h9) rfl rfl rfl (Nat.le_of_ble_eq_true rfl) dX3_order_140 (fun H locs S => ?_)
          have S : Sw G A s.heap [[(h0, .inr (3, [.ref q1, .ref q2, .int pasts, .ref q3, .ref q4, .ref q5, .int (nI L), .int known, .int there, .ref q6, .int (nI i), .int (nI 0), .int (nI 43), .int digit, .int first, .int second]))], [(q5, .inl (gA G 0, 80, .inl pd))]] _ _ := S
          refine lv_aload_n hx hb dX3_order_143 rfl (lv_at hl 2 rfl) ?_
          refine lv_dup hx hb dX3_order_144 rfl ?_
          refine m_get X S 0 rfl (T := TX3) (N := 16) in_X3 rfl 10 (by decide) q1722 (fun _ h9 => h9) rfl dX3_order_145 ?_
          refine lv_aload_n hx hb dX3_order_148 rfl (lv_at hl 2 rfl) ?_
          refine m_get X S 0 rfl (T := TX3) (N := 16) in_X3 rfl 11 (by decide) q1723 (fun _ h9 => h9) rfl dX3_order_149 ?_
          refine lv_if_eq (tgt := 159) hx hb dX3_order_152 (by decide) (fun c152_72 => ?_) (fun c152_72 => absurd (by decide) c152_72)
          refine lv_iconst (v := nI 1) hx hb dX3_order_159 (by decide) ?_
          refine lv_iadd hx hb dX3_order_160 ?_
          refine lv_toe (y := nI (i + 1)) (nI_add _ _) ?_
          refine m_put X S 0 rfl (T := TX3) (N := 16) in_X3 tyX3 tyX3_ok nmX3 rfl 10 (by decide) q1722 (fun _ h9 => h9) rfl rfl rfl (Nat.le_of_ble_eq_true rfl) dX3_order_161 (fun H locs S => ?_)
          have S : Sw G A s.heap [[(h0, .inr (3, [.ref q1, .ref q2, .int pasts, .ref q3, .ref q4, .ref q5, .int (nI L), .int known, .int there, .ref q6, .int (nI (i + 1)), .int (nI 0), .int (nI 43), .int digit, .int first, .int second]))], [(q5, .inl (gA G 0, 80, .inl pd))]] _ _ := S
          have hs1 : s1W pd L i w = false := by first | exact s1W_w (by assumption) | exact s1W_n hc (by assumption) | exact s1W_y hc (by assumption) (by first | decide | exact Or.inr (Or.inl (by assumption)) | exact Or.inr (Or.inr (by assumption)))
          have hE73 : nI (i + 1) = nI (s1I pd L i w) := by unfold s1I; rw [hs1]; rfl
          have S := S.cong (congrArg (fun (zz : Int32) => ([[(h0, .inr (3, [.ref q1, .ref q2, .int pasts, .ref q3, .ref q4, .ref q5, .int (nI L), .int known, .int there, .ref q6, .int zz, .int (nI 0), .int (nI 43), .int digit, .int first, .int second]))], [(q5, .inl (gA G 0, 80, .inl pd))]] : List va_W)) hE73)
          have S : Sw G A s.heap [[(h0, .inr (3, [.ref q1, .ref q2, .int pasts, .ref q3, .ref q4, .ref q5, .int (nI L), .int known, .int there, .ref q6, .int (nI (s1I pd L i w)), .int (nI 0), .int (nI 43), .int digit, .int first, .int second]))], [(q5, .inl (gA G 0, 80, .inl pd))]] _ _ := S
          have hE74 : nI 0 = cI (s1W pd L i w) := by rw [hs1]; rfl
          have S := S.cong (congrArg (fun (zz : Int32) => ([[(h0, .inr (3, [.ref q1, .ref q2, .int pasts, .ref q3, .ref q4, .ref q5, .int (nI L), .int known, .int there, .ref q6, .int (nI (s1I pd L i w)), .int zz, .int (nI 43), .int digit, .int first, .int second]))], [(q5, .inl (gA G 0, 80, .inl pd))]] : List va_W)) hE74)
          have S : Sw G A s.heap [[(h0, .inr (3, [.ref q1, .ref q2, .int pasts, .ref q3, .ref q4, .ref q5, .int (nI L), .int known, .int there, .ref q6, .int (nI (s1I pd L i w)), .int (cI (s1W pd L i w)), .int (nI 43), .int digit, .int first, .int second]))], [(q5, .inl (gA G 0, 80, .inl pd))]] _ _ := S
          have hl1 := s1I_le (pd := pd) (w := w) hiL
          have hl2 := s2I_le (pd := pd) (w := w) hiL
          have hl3 := s3I_le (pd := pd) (w := w) hiL
          refine lv_aload_n hx hb dX3_order_164 rfl (lv_at hl 2 rfl) ?_
          refine lv_aload_n hx hb dX3_order_165 rfl (lv_at hl 2 rfl) ?_
          refine m_get X S 0 rfl (T := TX3) (N := 16) in_X3 rfl 12 (by decide) q1724 (fun _ h9 => h9) rfl dX3_order_166 ?_
          refine lv_bipush (v := nI 99) hx hb dX3_order_169 (by decide) ?_
          refine lv_icmp_ne (tgt := 185) hx hb dX3_order_171 (by decide) (fun c171_75 => ?_) (fun c171_75 => absurd c171_75 (by decide))
          refine lv_iconst (v := nI 0) hx hb dX3_order_185 (by decide) ?_
          refine lv_toe (y := dgS pd L i w) (by unfold dgS; rw [← hc]; first | (rw [if_pos (by decide)]; done) | (rw [if_neg (by decide)]; done) | (rw [if_neg (by assumption)]; done)) ?_
          refine m_put X S 0 rfl (T := TX3) (N := 16) in_X3 tyX3 tyX3_ok nmX3 rfl 13 (by decide) q1725 (fun _ h9 => h9) rfl rfl rfl (Nat.le_of_ble_eq_true rfl) dX3_order_186 (fun H locs S => ?_)
          have S : Sw G A s.heap [[(h0, .inr (3, [.ref q1, .ref q2, .int pasts, .ref q3, .ref q4, .ref q5, .int (nI L), .int known, .int there, .ref q6, .int (nI (s1I pd L i w)), .int (cI (s1W pd L i w)), .int (nI 43), .int (dgS pd L i w), .int first, .int second]))], [(q5, .inl (gA G 0, 80, .inl pd))]] _ _ := S
          have hE76 : nI (s1I pd L i w) = nI (s2I pd L i w) := congrArg nI (by unfold s2I; rw [← hc]; first | (rw [if_pos (by decide)]; done) | (rw [if_neg (by decide)]; done) | (rw [if_neg (by assumption)]; done))
          have S := S.cong (congrArg (fun (zz : Int32) => ([[(h0, .inr (3, [.ref q1, .ref q2, .int pasts, .ref q3, .ref q4, .ref q5, .int (nI L), .int known, .int there, .ref q6, .int zz, .int (cI (s1W pd L i w)), .int (nI 43), .int (dgS pd L i w), .int first, .int second]))], [(q5, .inl (gA G 0, 80, .inl pd))]] : List va_W)) hE76)
          have S : Sw G A s.heap [[(h0, .inr (3, [.ref q1, .ref q2, .int pasts, .ref q3, .ref q4, .ref q5, .int (nI L), .int known, .int there, .ref q6, .int (nI (s2I pd L i w)), .int (cI (s1W pd L i w)), .int (nI 43), .int (dgS pd L i w), .int first, .int second]))], [(q5, .inl (gA G 0, 80, .inl pd))]] _ _ := S
          have hE77 : cI (s1W pd L i w) = cI (s2W pd L i w) := congrArg cI (by unfold s2W; rw [← hc]; first | (rw [if_pos (by decide)]; done) | (rw [if_neg (by decide)]; done) | (rw [if_neg (by assumption)]; done))
          have S := S.cong (congrArg (fun (zz : Int32) => ([[(h0, .inr (3, [.ref q1, .ref q2, .int pasts, .ref q3, .ref q4, .ref q5, .int (nI L), .int known, .int there, .ref q6, .int (nI (s2I pd L i w)), .int zz, .int (nI 43), .int (dgS pd L i w), .int first, .int second]))], [(q5, .inl (gA G 0, 80, .inl pd))]] : List va_W)) hE77)
          have S : Sw G A s.heap [[(h0, .inr (3, [.ref q1, .ref q2, .int pasts, .ref q3, .ref q4, .ref q5, .int (nI L), .int known, .int there, .ref q6, .int (nI (s2I pd L i w)), .int (cI (s2W pd L i w)), .int (nI 43), .int (dgS pd L i w), .int first, .int second]))], [(q5, .inl (gA G 0, 80, .inl pd))]] _ _ := S
          refine lv_aload_n hx hb dX3_order_189 rfl (lv_at hl 2 rfl) ?_
          refine lv_iload_n hx hb dX3_order_190 rfl (lv_at hl 0 rfl) ?_
          refine lv_if_eq (tgt := 205) hx hb dX3_order_191 (by decide) (fun c191_78 => absurd c191_78 (by decide)) (fun c191_78 => ?_)
          refine lv_aload_n hx hb dX3_order_194 rfl (lv_at hl 2 rfl) ?_
          refine lv_bipush (v := nI 97) hx hb dX3_order_195 (by decide) ?_
          refine lv_bipush (v := nI 104) hx hb dX3_order_197 (by decide) ?_
          have hq79 := S.cut (Bc := [[(h0, .inr (3, [.ref q1, .ref q2, .int pasts, .ref q3, .ref q4, .ref q5, .int (nI L), .int known, .int there, .ref q6, .int (nI (s2I pd L i w)), .int (cI (s2W pd L i w)), .int (nI 43), .int (dgS pd L i w), .int first, .int second]))], [(q5, .inl (gA G 0, 80, .inl pd))]]) (Br := []) [0, 1] [] (show ([0, 1] ++ ([] : List Nat)).isPerm (List.range 2) = true by decide +kernel) rfl rfl
          refine m_ri X S hq79 (m_runV (rest := [.ref h0]) (As := [.int (nI 97), .int (nI 104)]) (n := 2) X S hq79 (mt_X3_within G l h0 q1 q2 q3 q4 q5 q6 pasts known there (nI 43) (dgS pd L i w) first second pd (s2I pd L i w) (s2W pd L i w) L 97 104 (by omega) (by omega)) (lw_V q1985 q1987 qs73 q90 q1988) (m_recv X S 0 rfl rfl) (by decide +kernel) ⟨Nat.le_of_ble_eq_true rfl, Nat.le_of_ble_eq_true rfl⟩ rfl hl.1 rfl (Nat.le_of_ble_eq_true rfl) dX3_order_199 ⟨(Nat.le_of_ble_eq_true rfl), (Nat.le_of_ble_eq_true rfl)⟩) (fun r80 u H locs hp80 S => ?_)
          obtain ⟨u81, u82⟩ := u
          have hp80 : (r80 = chS pd L (s2I pd L i w) - nI 97 ∧ u81 = okI (s2I pd L i w) (okW pd L 97 104 (s2I pd L i w) (s2W pd L i w)) ∧ u82 = okW pd L 97 104 (s2I pd L i w) (s2W pd L i w)) := hp80
          have S : Sw G A s.heap [[(h0, .inr (3, [.ref q1, .ref q2, .int pasts, .ref q3, .ref q4, .ref q5, .int (nI L), .int known, .int there, .ref q6, .int (nI u81), .int (cI u82), .int (nI 43), .int (dgS pd L i w), .int first, .int second]))], [(q5, .inl (gA G 0, 80, .inl pd))]] _ _ := S
          rcases hp80 with ⟨hhp80_0, hhp80_1, hhp80_2⟩
          subst hhp80_0
          subst hhp80_1
          subst hhp80_2
          have S : Sw G A s.heap [[(h0, .inr (3, [.ref q1, .ref q2, .int pasts, .ref q3, .ref q4, .ref q5, .int (nI L), .int known, .int there, .ref q6, .int (nI (okI (s2I pd L i w) (okW pd L 97 104 (s2I pd L i w) (s2W pd L i w)))), .int (cI (okW pd L 97 104 (s2I pd L i w) (s2W pd L i w))), .int (nI 43), .int (dgS pd L i w), .int first, .int second]))], [(q5, .inl (gA G 0, 80, .inl pd))]] _ _ := S
          refine lv_goto (tgt := 206) hx hb dX3_order_202 (by decide) ?_
          refine lv_toe (y := fiS pd L i w) (by unfold fiS; rw [← hc]; first | (rw [if_pos (by decide)]; done) | (rw [if_neg (by decide)]; done) | (rw [if_neg (by assumption)]; done)) ?_
          refine m_put X S 0 rfl (T := TX3) (N := 16) in_X3 tyX3 tyX3_ok nmX3 rfl 14 (by decide) q1726 (fun _ h9 => h9) rfl rfl rfl (Nat.le_of_ble_eq_true rfl) dX3_order_206 (fun H locs S => ?_)
          have S : Sw G A s.heap [[(h0, .inr (3, [.ref q1, .ref q2, .int pasts, .ref q3, .ref q4, .ref q5, .int (nI L), .int known, .int there, .ref q6, .int (nI (okI (s2I pd L i w) (okW pd L 97 104 (s2I pd L i w) (s2W pd L i w)))), .int (cI (okW pd L 97 104 (s2I pd L i w) (s2W pd L i w))), .int (nI 43), .int (dgS pd L i w), .int (fiS pd L i w), .int second]))], [(q5, .inl (gA G 0, 80, .inl pd))]] _ _ := S
          have hE83 : nI (okI (s2I pd L i w) (okW pd L 97 104 (s2I pd L i w) (s2W pd L i w))) = nI (s3I pd L i w) := congrArg nI (by unfold s3I; rw [← hc]; first | (rw [if_pos (by decide)]; done) | (rw [if_neg (by decide)]; done) | (rw [if_neg (by assumption)]; done))
          have S := S.cong (congrArg (fun (zz : Int32) => ([[(h0, .inr (3, [.ref q1, .ref q2, .int pasts, .ref q3, .ref q4, .ref q5, .int (nI L), .int known, .int there, .ref q6, .int zz, .int (cI (okW pd L 97 104 (s2I pd L i w) (s2W pd L i w))), .int (nI 43), .int (dgS pd L i w), .int (fiS pd L i w), .int second]))], [(q5, .inl (gA G 0, 80, .inl pd))]] : List va_W)) hE83)
          have S : Sw G A s.heap [[(h0, .inr (3, [.ref q1, .ref q2, .int pasts, .ref q3, .ref q4, .ref q5, .int (nI L), .int known, .int there, .ref q6, .int (nI (s3I pd L i w)), .int (cI (okW pd L 97 104 (s2I pd L i w) (s2W pd L i w))), .int (nI 43), .int (dgS pd L i w), .int (fiS pd L i w), .int second]))], [(q5, .inl (gA G 0, 80, .inl pd))]] _ _ := S
          have hE84 : cI (okW pd L 97 104 (s2I pd L i w) (s2W pd L i w)) = cI (s3W pd L i w) := congrArg cI (by unfold s3W; rw [← hc]; first | (rw [if_pos (by decide)]; done) | (rw [if_neg (by decide)]; done) | (rw [if_neg (by assumption)]; done))
          have S := S.cong (congrArg (fun (zz : Int32) => ([[(h0, .inr (3, [.ref q1, .ref q2, .int pasts, .ref q3, .ref q4, .ref q5, .int (nI L), .int known, .int there, .ref q6, .int (nI (s3I pd L i w)), .int zz, .int (nI 43), .int (dgS pd L i w), .int (fiS pd L i w), .int second]))], [(q5, .inl (gA G 0, 80, .inl pd))]] : List va_W)) hE84)
          have S : Sw G A s.heap [[(h0, .inr (3, [.ref q1, .ref q2, .int pasts, .ref q3, .ref q4, .ref q5, .int (nI L), .int known, .int there, .ref q6, .int (nI (s3I pd L i w)), .int (cI (s3W pd L i w)), .int (nI 43), .int (dgS pd L i w), .int (fiS pd L i w), .int second]))], [(q5, .inl (gA G 0, 80, .inl pd))]] _ _ := S
          refine lv_aload_n hx hb dX3_order_209 rfl (lv_at hl 2 rfl) ?_
          refine lv_iload_n hx hb dX3_order_210 rfl (lv_at hl 1 rfl) ?_
          refine lv_if_eq (tgt := 225) hx hb dX3_order_211 (by decide) (fun c211_85 => absurd c211_85 (by decide)) (fun c211_85 => ?_)
          refine lv_aload_n hx hb dX3_order_214 rfl (lv_at hl 2 rfl) ?_
          refine lv_bipush (v := nI 97) hx hb dX3_order_215 (by decide) ?_
          refine lv_bipush (v := nI 104) hx hb dX3_order_217 (by decide) ?_
          have hq86 := S.cut (Bc := [[(h0, .inr (3, [.ref q1, .ref q2, .int pasts, .ref q3, .ref q4, .ref q5, .int (nI L), .int known, .int there, .ref q6, .int (nI (s3I pd L i w)), .int (cI (s3W pd L i w)), .int (nI 43), .int (dgS pd L i w), .int (fiS pd L i w), .int second]))], [(q5, .inl (gA G 0, 80, .inl pd))]]) (Br := []) [0, 1] [] (show ([0, 1] ++ ([] : List Nat)).isPerm (List.range 2) = true by decide +kernel) rfl rfl
          refine m_ri X S hq86 (m_runV (rest := [.ref h0]) (As := [.int (nI 97), .int (nI 104)]) (n := 2) X S hq86 (mt_X3_within G l h0 q1 q2 q3 q4 q5 q6 pasts known there (nI 43) (dgS pd L i w) (fiS pd L i w) second pd (s3I pd L i w) (s3W pd L i w) L 97 104 (by omega) (by omega)) (lw_V q1985 q1987 qs73 q90 q1988) (m_recv X S 0 rfl rfl) (by decide +kernel) ⟨Nat.le_of_ble_eq_true rfl, Nat.le_of_ble_eq_true rfl⟩ rfl hl.1 rfl (Nat.le_of_ble_eq_true rfl) dX3_order_219 ⟨(Nat.le_of_ble_eq_true rfl), (Nat.le_of_ble_eq_true rfl)⟩) (fun r87 u H locs hp87 S => ?_)
          obtain ⟨u88, u89⟩ := u
          have hp87 : (r87 = chS pd L (s3I pd L i w) - nI 97 ∧ u88 = okI (s3I pd L i w) (okW pd L 97 104 (s3I pd L i w) (s3W pd L i w)) ∧ u89 = okW pd L 97 104 (s3I pd L i w) (s3W pd L i w)) := hp87
          have S : Sw G A s.heap [[(h0, .inr (3, [.ref q1, .ref q2, .int pasts, .ref q3, .ref q4, .ref q5, .int (nI L), .int known, .int there, .ref q6, .int (nI u88), .int (cI u89), .int (nI 43), .int (dgS pd L i w), .int (fiS pd L i w), .int second]))], [(q5, .inl (gA G 0, 80, .inl pd))]] _ _ := S
          rcases hp87 with ⟨hhp87_0, hhp87_1, hhp87_2⟩
          subst hhp87_0
          subst hhp87_1
          subst hhp87_2
          have S : Sw G A s.heap [[(h0, .inr (3, [.ref q1, .ref q2, .int pasts, .ref q3, .ref q4, .ref q5, .int (nI L), .int known, .int there, .ref q6, .int (nI (okI (s3I pd L i w) (okW pd L 97 104 (s3I pd L i w) (s3W pd L i w)))), .int (cI (okW pd L 97 104 (s3I pd L i w) (s3W pd L i w))), .int (nI 43), .int (dgS pd L i w), .int (fiS pd L i w), .int second]))], [(q5, .inl (gA G 0, 80, .inl pd))]] _ _ := S
          refine lv_goto (tgt := 226) hx hb dX3_order_222 (by decide) ?_
          refine lv_toe (y := seS pd L i w) (by unfold seS; rw [← hc]; first | (rw [if_pos (by decide)]; done) | (rw [if_neg (by decide)]; done) | (rw [if_neg (by assumption)]; done)) ?_
          refine m_put X S 0 rfl (T := TX3) (N := 16) in_X3 tyX3 tyX3_ok nmX3 rfl 15 (by decide) q1727 (fun _ h9 => h9) rfl rfl rfl (Nat.le_of_ble_eq_true rfl) dX3_order_226 (fun H locs S => ?_)
          have S : Sw G A s.heap [[(h0, .inr (3, [.ref q1, .ref q2, .int pasts, .ref q3, .ref q4, .ref q5, .int (nI L), .int known, .int there, .ref q6, .int (nI (okI (s3I pd L i w) (okW pd L 97 104 (s3I pd L i w) (s3W pd L i w)))), .int (cI (okW pd L 97 104 (s3I pd L i w) (s3W pd L i w))), .int (nI 43), .int (dgS pd L i w), .int (fiS pd L i w), .int (seS pd L i w)]))], [(q5, .inl (gA G 0, 80, .inl pd))]] _ _ := S
          have hE90 : nI (okI (s3I pd L i w) (okW pd L 97 104 (s3I pd L i w) (s3W pd L i w))) = nI (s4I pd L i w) := congrArg nI (by unfold s4I; rw [← hc]; first | (rw [if_pos (by decide)]; done) | (rw [if_neg (by decide)]; done) | (rw [if_neg (by assumption)]; done))
          have S := S.cong (congrArg (fun (zz : Int32) => ([[(h0, .inr (3, [.ref q1, .ref q2, .int pasts, .ref q3, .ref q4, .ref q5, .int (nI L), .int known, .int there, .ref q6, .int zz, .int (cI (okW pd L 97 104 (s3I pd L i w) (s3W pd L i w))), .int (nI 43), .int (dgS pd L i w), .int (fiS pd L i w), .int (seS pd L i w)]))], [(q5, .inl (gA G 0, 80, .inl pd))]] : List va_W)) hE90)
          have S : Sw G A s.heap [[(h0, .inr (3, [.ref q1, .ref q2, .int pasts, .ref q3, .ref q4, .ref q5, .int (nI L), .int known, .int there, .ref q6, .int (nI (s4I pd L i w)), .int (cI (okW pd L 97 104 (s3I pd L i w) (s3W pd L i w))), .int (nI 43), .int (dgS pd L i w), .int (fiS pd L i w), .int (seS pd L i w)]))], [(q5, .inl (gA G 0, 80, .inl pd))]] _ _ := S
          have hE91 : cI (okW pd L 97 104 (s3I pd L i w) (s3W pd L i w)) = cI (s4W pd L i w) := congrArg cI (by unfold s4W; rw [← hc]; first | (rw [if_pos (by decide)]; done) | (rw [if_neg (by decide)]; done) | (rw [if_neg (by assumption)]; done))
          have S := S.cong (congrArg (fun (zz : Int32) => ([[(h0, .inr (3, [.ref q1, .ref q2, .int pasts, .ref q3, .ref q4, .ref q5, .int (nI L), .int known, .int there, .ref q6, .int (nI (s4I pd L i w)), .int zz, .int (nI 43), .int (dgS pd L i w), .int (fiS pd L i w), .int (seS pd L i w)]))], [(q5, .inl (gA G 0, 80, .inl pd))]] : List va_W)) hE91)
          have S : Sw G A s.heap [[(h0, .inr (3, [.ref q1, .ref q2, .int pasts, .ref q3, .ref q4, .ref q5, .int (nI L), .int known, .int there, .ref q6, .int (nI (s4I pd L i w)), .int (cI (s4W pd L i w)), .int (nI 43), .int (dgS pd L i w), .int (fiS pd L i w), .int (seS pd L i w)]))], [(q5, .inl (gA G 0, 80, .inl pd))]] _ _ := S
          have hE92 : (nI 43) = sgnS pd L i w := hc
          have S := S.cong (congrArg (fun (zz : Int32) => ([[(h0, .inr (3, [.ref q1, .ref q2, .int pasts, .ref q3, .ref q4, .ref q5, .int (nI L), .int known, .int there, .ref q6, .int (nI (s4I pd L i w)), .int (cI (s4W pd L i w)), .int zz, .int (dgS pd L i w), .int (fiS pd L i w), .int (seS pd L i w)]))], [(q5, .inl (gA G 0, 80, .inl pd))]] : List va_W)) hE92)
          have S : Sw G A s.heap [[(h0, .inr (3, [.ref q1, .ref q2, .int pasts, .ref q3, .ref q4, .ref q5, .int (nI L), .int known, .int there, .ref q6, .int (nI (s4I pd L i w)), .int (cI (s4W pd L i w)), .int (sgnS pd L i w), .int (dgS pd L i w), .int (fiS pd L i w), .int (seS pd L i w)]))], [(q5, .inl (gA G 0, 80, .inl pd))]] _ _ := S
          exact m_vret X hr hlk hQ S ⟨s4I pd L i w, s4W pd L i w, sgnS pd L i w, dgS pd L i w, fiS pd L i w, seS pd L i w⟩ (by show ((s4I pd L i w) = s4I pd L i w ∧ (s4W pd L i w) = s4W pd L i w ∧ (sgnS pd L i w) = sgnS pd L i w ∧ (dgS pd L i w) = dgS pd L i w ∧ (fiS pd L i w) = fiS pd L i w ∧ (seS pd L i w) = seS pd L i w); exact ⟨rfl, rfl, rfl, rfl, rfl, rfl⟩) [0, 1] [] (show ([0, 1] ++ ([] : List Nat)).isPerm (List.range 2) = true by decide +kernel) rfl (Nat.le_of_ble_eq_true rfl) (Nat.le_of_ble_eq_true rfl) dX3_order_229
      · skip
        have c50_47 : ¬ cc = (nI 43) := c50_47
        refine lv_aload_n hx hb dX3_order_53 rfl (lv_at hl 0 rfl) ?_
        refine m_get X S 0 rfl (T := TX3) (N := 16) in_X3 rfl 12 (by decide) q1724 (fun _ h9 => h9) rfl dX3_order_54 ?_
        refine lv_bipush (v := nI 45) hx hb dX3_order_57 (by decide) ?_
        refine lv_icmp_eq (tgt := 71) hx hb dX3_order_59 (by decide) (fun c59_93 => ?_) (fun c59_93 => ?_)
        · skip
          have c59_93 : cc = (nI 45) := c59_93
          have c59_93 : cc = nI 45 := c59_93
          subst c59_93
          refine lv_iconst (v := nI 1) hx hb dX3_order_71 (by decide) ?_
          refine lv_goto (tgt := 76) hx hb dX3_order_72 (by decide) ?_
          refine lv_istore_n (lv' := [(1, .int (nI 1)), (0, .ref h0)]) hx hb dX3_order_76 rfl hl (Nat.le_of_ble_eq_true rfl) rfl (fun ls hl => ?_)
          refine lv_iload_n hx hb dX3_order_77 rfl (lv_at hl 0 rfl) ?_
          refine lv_if_ne (tgt := 99) hx hb dX3_order_78 (by decide) (fun c78_94 => ?_) (fun c78_94 => absurd c78_94 (by decide))
          refine lv_iconst (v := nI 1) hx hb dX3_order_99 (by decide) ?_
          refine lv_goto (tgt := 104) hx hb dX3_order_100 (by decide) ?_
          refine lv_istore_n (lv' := [(2, .int (nI 1)), (1, .int (nI 1)), (0, .ref h0)]) hx hb dX3_order_104 rfl hl (Nat.le_of_ble_eq_true rfl) rfl (fun ls hl => ?_)
          refine lv_aload_n hx hb dX3_order_105 rfl (lv_at hl 2 rfl) ?_
          refine lv_aload_n hx hb dX3_order_106 rfl (lv_at hl 2 rfl) ?_
          refine m_get X S 0 rfl (T := TX3) (N := 16) in_X3 rfl 11 (by decide) q1723 (fun _ h9 => h9) rfl dX3_order_107 ?_
          refine lv_if_ne (tgt := 135) hx hb dX3_order_110 (by decide) (fun c110_95 => ?_) (fun c110_95 => ?_)
          · skip
            have c110_95 : ¬ (cI w) = (nI 0) := c110_95
            have hwt : w = true := cI_n0.mp c110_95
            refine lv_iconst (v := nI 1) hx hb dX3_order_135 (by decide) ?_
            refine lv_goto (tgt := 140) hx hb dX3_order_136 (by decide) ?_
            refine m_put X S 0 rfl (T := TX3) (N := 16) in_X3 tyX3 tyX3_ok nmX3 rfl 11 (by decide) q1723 (fun _ h9 => h9) rfl rfl rfl (Nat.le_of_ble_eq_true rfl) dX3_order_140 (fun H locs S => ?_)
            have S : Sw G A s.heap [[(h0, .inr (3, [.ref q1, .ref q2, .int pasts, .ref q3, .ref q4, .ref q5, .int (nI L), .int known, .int there, .ref q6, .int (nI i), .int (nI 1), .int (nI 45), .int digit, .int first, .int second]))], [(q5, .inl (gA G 0, 80, .inl pd))]] _ _ := S
            refine lv_aload_n hx hb dX3_order_143 rfl (lv_at hl 2 rfl) ?_
            refine lv_dup hx hb dX3_order_144 rfl ?_
            refine m_get X S 0 rfl (T := TX3) (N := 16) in_X3 rfl 10 (by decide) q1722 (fun _ h9 => h9) rfl dX3_order_145 ?_
            refine lv_aload_n hx hb dX3_order_148 rfl (lv_at hl 2 rfl) ?_
            refine m_get X S 0 rfl (T := TX3) (N := 16) in_X3 rfl 11 (by decide) q1723 (fun _ h9 => h9) rfl dX3_order_149 ?_
            refine lv_if_eq (tgt := 159) hx hb dX3_order_152 (by decide) (fun c152_96 => absurd c152_96 (by decide)) (fun c152_96 => ?_)
            refine lv_iconst (v := nI 0) hx hb dX3_order_155 (by decide) ?_
            refine lv_goto (tgt := 160) hx hb dX3_order_156 (by decide) ?_
            refine lv_iadd hx hb dX3_order_160 ?_
            refine lv_toe (y := nI i) (nI_add _ _) ?_
            refine m_put X S 0 rfl (T := TX3) (N := 16) in_X3 tyX3 tyX3_ok nmX3 rfl 10 (by decide) q1722 (fun _ h9 => h9) rfl rfl rfl (Nat.le_of_ble_eq_true rfl) dX3_order_161 (fun H locs S => ?_)
            have S : Sw G A s.heap [[(h0, .inr (3, [.ref q1, .ref q2, .int pasts, .ref q3, .ref q4, .ref q5, .int (nI L), .int known, .int there, .ref q6, .int (nI i), .int (nI 1), .int (nI 45), .int digit, .int first, .int second]))], [(q5, .inl (gA G 0, 80, .inl pd))]] _ _ := S
            have hs1 : s1W pd L i w = true := by first | exact s1W_w (by assumption) | exact s1W_n hc (by assumption) | exact s1W_y hc (by assumption) (by first | decide | exact Or.inr (Or.inl (by assumption)) | exact Or.inr (Or.inr (by assumption)))
            have hE97 : nI i = nI (s1I pd L i w) := by unfold s1I; rw [hs1]; rfl
            have S := S.cong (congrArg (fun (zz : Int32) => ([[(h0, .inr (3, [.ref q1, .ref q2, .int pasts, .ref q3, .ref q4, .ref q5, .int (nI L), .int known, .int there, .ref q6, .int zz, .int (nI 1), .int (nI 45), .int digit, .int first, .int second]))], [(q5, .inl (gA G 0, 80, .inl pd))]] : List va_W)) hE97)
            have S : Sw G A s.heap [[(h0, .inr (3, [.ref q1, .ref q2, .int pasts, .ref q3, .ref q4, .ref q5, .int (nI L), .int known, .int there, .ref q6, .int (nI (s1I pd L i w)), .int (nI 1), .int (nI 45), .int digit, .int first, .int second]))], [(q5, .inl (gA G 0, 80, .inl pd))]] _ _ := S
            have hE98 : nI 1 = cI (s1W pd L i w) := by rw [hs1]; rfl
            have S := S.cong (congrArg (fun (zz : Int32) => ([[(h0, .inr (3, [.ref q1, .ref q2, .int pasts, .ref q3, .ref q4, .ref q5, .int (nI L), .int known, .int there, .ref q6, .int (nI (s1I pd L i w)), .int zz, .int (nI 45), .int digit, .int first, .int second]))], [(q5, .inl (gA G 0, 80, .inl pd))]] : List va_W)) hE98)
            have S : Sw G A s.heap [[(h0, .inr (3, [.ref q1, .ref q2, .int pasts, .ref q3, .ref q4, .ref q5, .int (nI L), .int known, .int there, .ref q6, .int (nI (s1I pd L i w)), .int (cI (s1W pd L i w)), .int (nI 45), .int digit, .int first, .int second]))], [(q5, .inl (gA G 0, 80, .inl pd))]] _ _ := S
            have hl1 := s1I_le (pd := pd) (w := w) hiL
            have hl2 := s2I_le (pd := pd) (w := w) hiL
            have hl3 := s3I_le (pd := pd) (w := w) hiL
            refine lv_aload_n hx hb dX3_order_164 rfl (lv_at hl 2 rfl) ?_
            refine lv_aload_n hx hb dX3_order_165 rfl (lv_at hl 2 rfl) ?_
            refine m_get X S 0 rfl (T := TX3) (N := 16) in_X3 rfl 12 (by decide) q1724 (fun _ h9 => h9) rfl dX3_order_166 ?_
            refine lv_bipush (v := nI 99) hx hb dX3_order_169 (by decide) ?_
            refine lv_icmp_ne (tgt := 185) hx hb dX3_order_171 (by decide) (fun c171_99 => ?_) (fun c171_99 => absurd c171_99 (by decide))
            refine lv_iconst (v := nI 0) hx hb dX3_order_185 (by decide) ?_
            refine lv_toe (y := dgS pd L i w) (by unfold dgS; rw [← hc]; first | (rw [if_pos (by decide)]; done) | (rw [if_neg (by decide)]; done) | (rw [if_neg (by assumption)]; done)) ?_
            refine m_put X S 0 rfl (T := TX3) (N := 16) in_X3 tyX3 tyX3_ok nmX3 rfl 13 (by decide) q1725 (fun _ h9 => h9) rfl rfl rfl (Nat.le_of_ble_eq_true rfl) dX3_order_186 (fun H locs S => ?_)
            have S : Sw G A s.heap [[(h0, .inr (3, [.ref q1, .ref q2, .int pasts, .ref q3, .ref q4, .ref q5, .int (nI L), .int known, .int there, .ref q6, .int (nI (s1I pd L i w)), .int (cI (s1W pd L i w)), .int (nI 45), .int (dgS pd L i w), .int first, .int second]))], [(q5, .inl (gA G 0, 80, .inl pd))]] _ _ := S
            have hE100 : nI (s1I pd L i w) = nI (s2I pd L i w) := congrArg nI (by unfold s2I; rw [← hc]; first | (rw [if_pos (by decide)]; done) | (rw [if_neg (by decide)]; done) | (rw [if_neg (by assumption)]; done))
            have S := S.cong (congrArg (fun (zz : Int32) => ([[(h0, .inr (3, [.ref q1, .ref q2, .int pasts, .ref q3, .ref q4, .ref q5, .int (nI L), .int known, .int there, .ref q6, .int zz, .int (cI (s1W pd L i w)), .int (nI 45), .int (dgS pd L i w), .int first, .int second]))], [(q5, .inl (gA G 0, 80, .inl pd))]] : List va_W)) hE100)
            have S : Sw G A s.heap [[(h0, .inr (3, [.ref q1, .ref q2, .int pasts, .ref q3, .ref q4, .ref q5, .int (nI L), .int known, .int there, .ref q6, .int (nI (s2I pd L i w)), .int (cI (s1W pd L i w)), .int (nI 45), .int (dgS pd L i w), .int first, .int second]))], [(q5, .inl (gA G 0, 80, .inl pd))]] _ _ := S
            have hE101 : cI (s1W pd L i w) = cI (s2W pd L i w) := congrArg cI (by unfold s2W; rw [← hc]; first | (rw [if_pos (by decide)]; done) | (rw [if_neg (by decide)]; done) | (rw [if_neg (by assumption)]; done))
            have S := S.cong (congrArg (fun (zz : Int32) => ([[(h0, .inr (3, [.ref q1, .ref q2, .int pasts, .ref q3, .ref q4, .ref q5, .int (nI L), .int known, .int there, .ref q6, .int (nI (s2I pd L i w)), .int zz, .int (nI 45), .int (dgS pd L i w), .int first, .int second]))], [(q5, .inl (gA G 0, 80, .inl pd))]] : List va_W)) hE101)
            have S : Sw G A s.heap [[(h0, .inr (3, [.ref q1, .ref q2, .int pasts, .ref q3, .ref q4, .ref q5, .int (nI L), .int known, .int there, .ref q6, .int (nI (s2I pd L i w)), .int (cI (s2W pd L i w)), .int (nI 45), .int (dgS pd L i w), .int first, .int second]))], [(q5, .inl (gA G 0, 80, .inl pd))]] _ _ := S
            refine lv_aload_n hx hb dX3_order_189 rfl (lv_at hl 2 rfl) ?_
            refine lv_iload_n hx hb dX3_order_190 rfl (lv_at hl 0 rfl) ?_
            refine lv_if_eq (tgt := 205) hx hb dX3_order_191 (by decide) (fun c191_102 => absurd c191_102 (by decide)) (fun c191_102 => ?_)
            refine lv_aload_n hx hb dX3_order_194 rfl (lv_at hl 2 rfl) ?_
            refine lv_bipush (v := nI 97) hx hb dX3_order_195 (by decide) ?_
            refine lv_bipush (v := nI 104) hx hb dX3_order_197 (by decide) ?_
            have hq103 := S.cut (Bc := [[(h0, .inr (3, [.ref q1, .ref q2, .int pasts, .ref q3, .ref q4, .ref q5, .int (nI L), .int known, .int there, .ref q6, .int (nI (s2I pd L i w)), .int (cI (s2W pd L i w)), .int (nI 45), .int (dgS pd L i w), .int first, .int second]))], [(q5, .inl (gA G 0, 80, .inl pd))]]) (Br := []) [0, 1] [] (show ([0, 1] ++ ([] : List Nat)).isPerm (List.range 2) = true by decide +kernel) rfl rfl
            refine m_ri X S hq103 (m_runV (rest := [.ref h0]) (As := [.int (nI 97), .int (nI 104)]) (n := 2) X S hq103 (mt_X3_within G l h0 q1 q2 q3 q4 q5 q6 pasts known there (nI 45) (dgS pd L i w) first second pd (s2I pd L i w) (s2W pd L i w) L 97 104 (by omega) (by omega)) (lw_V q1985 q1987 qs73 q90 q1988) (m_recv X S 0 rfl rfl) (by decide +kernel) ⟨Nat.le_of_ble_eq_true rfl, Nat.le_of_ble_eq_true rfl⟩ rfl hl.1 rfl (Nat.le_of_ble_eq_true rfl) dX3_order_199 ⟨(Nat.le_of_ble_eq_true rfl), (Nat.le_of_ble_eq_true rfl)⟩) (fun r104 u H locs hp104 S => ?_)
            obtain ⟨u105, u106⟩ := u
            have hp104 : (r104 = chS pd L (s2I pd L i w) - nI 97 ∧ u105 = okI (s2I pd L i w) (okW pd L 97 104 (s2I pd L i w) (s2W pd L i w)) ∧ u106 = okW pd L 97 104 (s2I pd L i w) (s2W pd L i w)) := hp104
            have S : Sw G A s.heap [[(h0, .inr (3, [.ref q1, .ref q2, .int pasts, .ref q3, .ref q4, .ref q5, .int (nI L), .int known, .int there, .ref q6, .int (nI u105), .int (cI u106), .int (nI 45), .int (dgS pd L i w), .int first, .int second]))], [(q5, .inl (gA G 0, 80, .inl pd))]] _ _ := S
            rcases hp104 with ⟨hhp104_0, hhp104_1, hhp104_2⟩
            subst hhp104_0
            subst hhp104_1
            subst hhp104_2
            have S : Sw G A s.heap [[(h0, .inr (3, [.ref q1, .ref q2, .int pasts, .ref q3, .ref q4, .ref q5, .int (nI L), .int known, .int there, .ref q6, .int (nI (okI (s2I pd L i w) (okW pd L 97 104 (s2I pd L i w) (s2W pd L i w)))), .int (cI (okW pd L 97 104 (s2I pd L i w) (s2W pd L i w))), .int (nI 45), .int (dgS pd L i w), .int first, .int second]))], [(q5, .inl (gA G 0, 80, .inl pd))]] _ _ := S
            refine lv_goto (tgt := 206) hx hb dX3_order_202 (by decide) ?_
            refine lv_toe (y := fiS pd L i w) (by unfold fiS; rw [← hc]; first | (rw [if_pos (by decide)]; done) | (rw [if_neg (by decide)]; done) | (rw [if_neg (by assumption)]; done)) ?_
            refine m_put X S 0 rfl (T := TX3) (N := 16) in_X3 tyX3 tyX3_ok nmX3 rfl 14 (by decide) q1726 (fun _ h9 => h9) rfl rfl rfl (Nat.le_of_ble_eq_true rfl) dX3_order_206 (fun H locs S => ?_)
            have S : Sw G A s.heap [[(h0, .inr (3, [.ref q1, .ref q2, .int pasts, .ref q3, .ref q4, .ref q5, .int (nI L), .int known, .int there, .ref q6, .int (nI (okI (s2I pd L i w) (okW pd L 97 104 (s2I pd L i w) (s2W pd L i w)))), .int (cI (okW pd L 97 104 (s2I pd L i w) (s2W pd L i w))), .int (nI 45), .int (dgS pd L i w), .int (fiS pd L i w), .int second]))], [(q5, .inl (gA G 0, 80, .inl pd))]] _ _ := S
            have hE107 : nI (okI (s2I pd L i w) (okW pd L 97 104 (s2I pd L i w) (s2W pd L i w))) = nI (s3I pd L i w) := congrArg nI (by unfold s3I; rw [← hc]; first | (rw [if_pos (by decide)]; done) | (rw [if_neg (by decide)]; done) | (rw [if_neg (by assumption)]; done))
            have S := S.cong (congrArg (fun (zz : Int32) => ([[(h0, .inr (3, [.ref q1, .ref q2, .int pasts, .ref q3, .ref q4, .ref q5, .int (nI L), .int known, .int there, .ref q6, .int zz, .int (cI (okW pd L 97 104 (s2I pd L i w) (s2W pd L i w))), .int (nI 45), .int (dgS pd L i w), .int (fiS pd L i w), .int second]))], [(q5, .inl (gA G 0, 80, .inl pd))]] : List va_W)) hE107)
            have S : Sw G A s.heap [[(h0, .inr (3, [.ref q1, .ref q2, .int pasts, .ref q3, .ref q4, .ref q5, .int (nI L), .int known, .int there, .ref q6, .int (nI (s3I pd L i w)), .int (cI (okW pd L 97 104 (s2I pd L i w) (s2W pd L i w))), .int (nI 45), .int (dgS pd L i w), .int (fiS pd L i w), .int second]))], [(q5, .inl (gA G 0, 80, .inl pd))]] _ _ := S
            have hE108 : cI (okW pd L 97 104 (s2I pd L i w) (s2W pd L i w)) = cI (s3W pd L i w) := congrArg cI (by unfold s3W; rw [← hc]; first | (rw [if_pos (by decide)]; done) | (rw [if_neg (by decide)]; done) | (rw [if_neg (by assumption)]; done))
            have S := S.cong (congrArg (fun (zz : Int32) => ([[(h0, .inr (3, [.ref q1, .ref q2, .int pasts, .ref q3, .ref q4, .ref q5, .int (nI L), .int known, .int there, .ref q6, .int (nI (s3I pd L i w)), .int zz, .int (nI 45), .int (dgS pd L i w), .int (fiS pd L i w), .int second]))], [(q5, .inl (gA G 0, 80, .inl pd))]] : List va_W)) hE108)
            have S : Sw G A s.heap [[(h0, .inr (3, [.ref q1, .ref q2, .int pasts, .ref q3, .ref q4, .ref q5, .int (nI L), .int known, .int there, .ref q6, .int (nI (s3I pd L i w)), .int (cI (s3W pd L i w)), .int (nI 45), .int (dgS pd L i w), .int (fiS pd L i w), .int second]))], [(q5, .inl (gA G 0, 80, .inl pd))]] _ _ := S
            refine lv_aload_n hx hb dX3_order_209 rfl (lv_at hl 2 rfl) ?_
            refine lv_iload_n hx hb dX3_order_210 rfl (lv_at hl 1 rfl) ?_
            refine lv_if_eq (tgt := 225) hx hb dX3_order_211 (by decide) (fun c211_109 => absurd c211_109 (by decide)) (fun c211_109 => ?_)
            refine lv_aload_n hx hb dX3_order_214 rfl (lv_at hl 2 rfl) ?_
            refine lv_bipush (v := nI 97) hx hb dX3_order_215 (by decide) ?_
            refine lv_bipush (v := nI 104) hx hb dX3_order_217 (by decide) ?_
            have hq110 := S.cut (Bc := [[(h0, .inr (3, [.ref q1, .ref q2, .int pasts, .ref q3, .ref q4, .ref q5, .int (nI L), .int known, .int there, .ref q6, .int (nI (s3I pd L i w)), .int (cI (s3W pd L i w)), .int (nI 45), .int (dgS pd L i w), .int (fiS pd L i w), .int second]))], [(q5, .inl (gA G 0, 80, .inl pd))]]) (Br := []) [0, 1] [] (show ([0, 1] ++ ([] : List Nat)).isPerm (List.range 2) = true by decide +kernel) rfl rfl
            refine m_ri X S hq110 (m_runV (rest := [.ref h0]) (As := [.int (nI 97), .int (nI 104)]) (n := 2) X S hq110 (mt_X3_within G l h0 q1 q2 q3 q4 q5 q6 pasts known there (nI 45) (dgS pd L i w) (fiS pd L i w) second pd (s3I pd L i w) (s3W pd L i w) L 97 104 (by omega) (by omega)) (lw_V q1985 q1987 qs73 q90 q1988) (m_recv X S 0 rfl rfl) (by decide +kernel) ⟨Nat.le_of_ble_eq_true rfl, Nat.le_of_ble_eq_true rfl⟩ rfl hl.1 rfl (Nat.le_of_ble_eq_true rfl) dX3_order_219 ⟨(Nat.le_of_ble_eq_true rfl), (Nat.le_of_ble_eq_true rfl)⟩) (fun r111 u H locs hp111 S => ?_)
            obtain ⟨u112, u113⟩ := u
            have hp111 : (r111 = chS pd L (s3I pd L i w) - nI 97 ∧ u112 = okI (s3I pd L i w) (okW pd L 97 104 (s3I pd L i w) (s3W pd L i w)) ∧ u113 = okW pd L 97 104 (s3I pd L i w) (s3W pd L i w)) := hp111
            have S : Sw G A s.heap [[(h0, .inr (3, [.ref q1, .ref q2, .int pasts, .ref q3, .ref q4, .ref q5, .int (nI L), .int known, .int there, .ref q6, .int (nI u112), .int (cI u113), .int (nI 45), .int (dgS pd L i w), .int (fiS pd L i w), .int second]))], [(q5, .inl (gA G 0, 80, .inl pd))]] _ _ := S
            rcases hp111 with ⟨hhp111_0, hhp111_1, hhp111_2⟩
            subst hhp111_0
            subst hhp111_1
            subst hhp111_2
            have S : Sw G A s.heap [[(h0, .inr (3, [.ref q1, .ref q2, .int pasts, .ref q3, .ref q4, .ref q5, .int (nI L), .int known, .int there, .ref q6, .int (nI (okI (s3I pd L i w) (okW pd L 97 104 (s3I pd L i w) (s3W pd L i w)))), .int (cI (okW pd L 97 104 (s3I pd L i w) (s3W pd L i w))), .int (nI 45), .int (dgS pd L i w), .int (fiS pd L i w), .int second]))], [(q5, .inl (gA G 0, 80, .inl pd))]] _ _ := S
            refine lv_goto (tgt := 226) hx hb dX3_order_222 (by decide) ?_
            refine lv_toe (y := seS pd L i w) (by unfold seS; rw [← hc]; first | (rw [if_pos (by decide)]; done) | (rw [if_neg (by decide)]; done) | (rw [if_neg (by assumption)]; done)) ?_
            refine m_put X S 0 rfl (T := TX3) (N := 16) in_X3 tyX3 tyX3_ok nmX3 rfl 15 (by decide) q1727 (fun _ h9 => h9) rfl rfl rfl (Nat.le_of_ble_eq_true rfl) dX3_order_226 (fun H locs S => ?_)
            have S : Sw G A s.heap [[(h0, .inr (3, [.ref q1, .ref q2, .int pasts, .ref q3, .ref q4, .ref q5, .int (nI L), .int known, .int there, .ref q6, .int (nI (okI (s3I pd L i w) (okW pd L 97 104 (s3I pd L i w) (s3W pd L i w)))), .int (cI (okW pd L 97 104 (s3I pd L i w) (s3W pd L i w))), .int (nI 45), .int (dgS pd L i w), .int (fiS pd L i w), .int (seS pd L i w)]))], [(q5, .inl (gA G 0, 80, .inl pd))]] _ _ := S
            have hE114 : nI (okI (s3I pd L i w) (okW pd L 97 104 (s3I pd L i w) (s3W pd L i w))) = nI (s4I pd L i w) := congrArg nI (by unfold s4I; rw [← hc]; first | (rw [if_pos (by decide)]; done) | (rw [if_neg (by decide)]; done) | (rw [if_neg (by assumption)]; done))
            have S := S.cong (congrArg (fun (zz : Int32) => ([[(h0, .inr (3, [.ref q1, .ref q2, .int pasts, .ref q3, .ref q4, .ref q5, .int (nI L), .int known, .int there, .ref q6, .int zz, .int (cI (okW pd L 97 104 (s3I pd L i w) (s3W pd L i w))), .int (nI 45), .int (dgS pd L i w), .int (fiS pd L i w), .int (seS pd L i w)]))], [(q5, .inl (gA G 0, 80, .inl pd))]] : List va_W)) hE114)
            have S : Sw G A s.heap [[(h0, .inr (3, [.ref q1, .ref q2, .int pasts, .ref q3, .ref q4, .ref q5, .int (nI L), .int known, .int there, .ref q6, .int (nI (s4I pd L i w)), .int (cI (okW pd L 97 104 (s3I pd L i w) (s3W pd L i w))), .int (nI 45), .int (dgS pd L i w), .int (fiS pd L i w), .int (seS pd L i w)]))], [(q5, .inl (gA G 0, 80, .inl pd))]] _ _ := S
            have hE115 : cI (okW pd L 97 104 (s3I pd L i w) (s3W pd L i w)) = cI (s4W pd L i w) := congrArg cI (by unfold s4W; rw [← hc]; first | (rw [if_pos (by decide)]; done) | (rw [if_neg (by decide)]; done) | (rw [if_neg (by assumption)]; done))
            have S := S.cong (congrArg (fun (zz : Int32) => ([[(h0, .inr (3, [.ref q1, .ref q2, .int pasts, .ref q3, .ref q4, .ref q5, .int (nI L), .int known, .int there, .ref q6, .int (nI (s4I pd L i w)), .int zz, .int (nI 45), .int (dgS pd L i w), .int (fiS pd L i w), .int (seS pd L i w)]))], [(q5, .inl (gA G 0, 80, .inl pd))]] : List va_W)) hE115)
            have S : Sw G A s.heap [[(h0, .inr (3, [.ref q1, .ref q2, .int pasts, .ref q3, .ref q4, .ref q5, .int (nI L), .int known, .int there, .ref q6, .int (nI (s4I pd L i w)), .int (cI (s4W pd L i w)), .int (nI 45), .int (dgS pd L i w), .int (fiS pd L i w), .int (seS pd L i w)]))], [(q5, .inl (gA G 0, 80, .inl pd))]] _ _ := S
            have hE116 : (nI 45) = sgnS pd L i w := hc
            have S := S.cong (congrArg (fun (zz : Int32) => ([[(h0, .inr (3, [.ref q1, .ref q2, .int pasts, .ref q3, .ref q4, .ref q5, .int (nI L), .int known, .int there, .ref q6, .int (nI (s4I pd L i w)), .int (cI (s4W pd L i w)), .int zz, .int (dgS pd L i w), .int (fiS pd L i w), .int (seS pd L i w)]))], [(q5, .inl (gA G 0, 80, .inl pd))]] : List va_W)) hE116)
            have S : Sw G A s.heap [[(h0, .inr (3, [.ref q1, .ref q2, .int pasts, .ref q3, .ref q4, .ref q5, .int (nI L), .int known, .int there, .ref q6, .int (nI (s4I pd L i w)), .int (cI (s4W pd L i w)), .int (sgnS pd L i w), .int (dgS pd L i w), .int (fiS pd L i w), .int (seS pd L i w)]))], [(q5, .inl (gA G 0, 80, .inl pd))]] _ _ := S
            exact m_vret X hr hlk hQ S ⟨s4I pd L i w, s4W pd L i w, sgnS pd L i w, dgS pd L i w, fiS pd L i w, seS pd L i w⟩ (by show ((s4I pd L i w) = s4I pd L i w ∧ (s4W pd L i w) = s4W pd L i w ∧ (sgnS pd L i w) = sgnS pd L i w ∧ (dgS pd L i w) = dgS pd L i w ∧ (fiS pd L i w) = fiS pd L i w ∧ (seS pd L i w) = seS pd L i w); exact ⟨rfl, rfl, rfl, rfl, rfl, rfl⟩) [0, 1] [] (show ([0, 1] ++ ([] : List Nat)).isPerm (List.range 2) = true by decide +kernel) rfl (Nat.le_of_ble_eq_true rfl) (Nat.le_of_ble_eq_true rfl) dX3_order_229
          · skip
            have c110_95 : (cI w) = (nI 0) := c110_95
            have hwf : w = false := cI_0.mp c110_95
            refine lv_iload_n hx hb dX3_order_113 rfl (lv_at hl 0 rfl) ?_
            refine lv_if_ne (tgt := 139) hx hb dX3_order_114 (by decide) (fun c114_117 => ?_) (fun c114_117 => absurd c114_117 (by decide))
            refine lv_iconst (v := nI 0) hx hb dX3_order_139 (by decide) ?_
            refine m_put X S 0 rfl (T := TX3) (N := 16) in_X3 tyX3 tyX3_ok nmX3 rfl 11 (by decide) q1723 (fun _ h9 => h9) rfl rfl rfl (Nat.le_of_ble_eq_true rfl) dX3_order_140 (fun H locs S => ?_)
            have S : Sw G A s.heap [[(h0, .inr (3, [.ref q1, .ref q2, .int pasts, .ref q3, .ref q4, .ref q5, .int (nI L), .int known, .int there, .ref q6, .int (nI i), .int (nI 0), .int (nI 45), .int digit, .int first, .int second]))], [(q5, .inl (gA G 0, 80, .inl pd))]] _ _ := S
            refine lv_aload_n hx hb dX3_order_143 rfl (lv_at hl 2 rfl) ?_
            refine lv_dup hx hb dX3_order_144 rfl ?_
            refine m_get X S 0 rfl (T := TX3) (N := 16) in_X3 rfl 10 (by decide) q1722 (fun _ h9 => h9) rfl dX3_order_145 ?_
            refine lv_aload_n hx hb dX3_order_148 rfl (lv_at hl 2 rfl) ?_
            refine m_get X S 0 rfl (T := TX3) (N := 16) in_X3 rfl 11 (by decide) q1723 (fun _ h9 => h9) rfl dX3_order_149 ?_
            refine lv_if_eq (tgt := 159) hx hb dX3_order_152 (by decide) (fun c152_118 => ?_) (fun c152_118 => absurd (by decide) c152_118)
            refine lv_iconst (v := nI 1) hx hb dX3_order_159 (by decide) ?_
            refine lv_iadd hx hb dX3_order_160 ?_
            refine lv_toe (y := nI (i + 1)) (nI_add _ _) ?_
            refine m_put X S 0 rfl (T := TX3) (N := 16) in_X3 tyX3 tyX3_ok nmX3 rfl 10 (by decide) q1722 (fun _ h9 => h9) rfl rfl rfl (Nat.le_of_ble_eq_true rfl) dX3_order_161 (fun H locs S => ?_)
            have S : Sw G A s.heap [[(h0, .inr (3, [.ref q1, .ref q2, .int pasts, .ref q3, .ref q4, .ref q5, .int (nI L), .int known, .int there, .ref q6, .int (nI (i + 1)), .int (nI 0), .int (nI 45), .int digit, .int first, .int second]))], [(q5, .inl (gA G 0, 80, .inl pd))]] _ _ := S
            have hs1 : s1W pd L i w = false := by first | exact s1W_w (by assumption) | exact s1W_n hc (by assumption) | exact s1W_y hc (by assumption) (by first | decide | exact Or.inr (Or.inl (by assumption)) | exact Or.inr (Or.inr (by assumption)))
            have hE119 : nI (i + 1) = nI (s1I pd L i w) := by unfold s1I; rw [hs1]; rfl
            have S := S.cong (congrArg (fun (zz : Int32) => ([[(h0, .inr (3, [.ref q1, .ref q2, .int pasts, .ref q3, .ref q4, .ref q5, .int (nI L), .int known, .int there, .ref q6, .int zz, .int (nI 0), .int (nI 45), .int digit, .int first, .int second]))], [(q5, .inl (gA G 0, 80, .inl pd))]] : List va_W)) hE119)
            have S : Sw G A s.heap [[(h0, .inr (3, [.ref q1, .ref q2, .int pasts, .ref q3, .ref q4, .ref q5, .int (nI L), .int known, .int there, .ref q6, .int (nI (s1I pd L i w)), .int (nI 0), .int (nI 45), .int digit, .int first, .int second]))], [(q5, .inl (gA G 0, 80, .inl pd))]] _ _ := S
            have hE120 : nI 0 = cI (s1W pd L i w) := by rw [hs1]; rfl
            have S := S.cong (congrArg (fun (zz : Int32) => ([[(h0, .inr (3, [.ref q1, .ref q2, .int pasts, .ref q3, .ref q4, .ref q5, .int (nI L), .int known, .int there, .ref q6, .int (nI (s1I pd L i w)), .int zz, .int (nI 45), .int digit, .int first, .int second]))], [(q5, .inl (gA G 0, 80, .inl pd))]] : List va_W)) hE120)
            have S : Sw G A s.heap [[(h0, .inr (3, [.ref q1, .ref q2, .int pasts, .ref q3, .ref q4, .ref q5, .int (nI L), .int known, .int there, .ref q6, .int (nI (s1I pd L i w)), .int (cI (s1W pd L i w)), .int (nI 45), .int digit, .int first, .int second]))], [(q5, .inl (gA G 0, 80, .inl pd))]] _ _ := S
            have hl1 := s1I_le (pd := pd) (w := w) hiL
            have hl2 := s2I_le (pd := pd) (w := w) hiL
            have hl3 := s3I_le (pd := pd) (w := w) hiL
            refine lv_aload_n hx hb dX3_order_164 rfl (lv_at hl 2 rfl) ?_
            refine lv_aload_n hx hb dX3_order_165 rfl (lv_at hl 2 rfl) ?_
            refine m_get X S 0 rfl (T := TX3) (N := 16) in_X3 rfl 12 (by decide) q1724 (fun _ h9 => h9) rfl dX3_order_166 ?_
            refine lv_bipush (v := nI 99) hx hb dX3_order_169 (by decide) ?_
            refine lv_icmp_ne (tgt := 185) hx hb dX3_order_171 (by decide) (fun c171_121 => ?_) (fun c171_121 => absurd c171_121 (by decide))
            refine lv_iconst (v := nI 0) hx hb dX3_order_185 (by decide) ?_
            refine lv_toe (y := dgS pd L i w) (by unfold dgS; rw [← hc]; first | (rw [if_pos (by decide)]; done) | (rw [if_neg (by decide)]; done) | (rw [if_neg (by assumption)]; done)) ?_
            refine m_put X S 0 rfl (T := TX3) (N := 16) in_X3 tyX3 tyX3_ok nmX3 rfl 13 (by decide) q1725 (fun _ h9 => h9) rfl rfl rfl (Nat.le_of_ble_eq_true rfl) dX3_order_186 (fun H locs S => ?_)
            have S : Sw G A s.heap [[(h0, .inr (3, [.ref q1, .ref q2, .int pasts, .ref q3, .ref q4, .ref q5, .int (nI L), .int known, .int there, .ref q6, .int (nI (s1I pd L i w)), .int (cI (s1W pd L i w)), .int (nI 45), .int (dgS pd L i w), .int first, .int second]))], [(q5, .inl (gA G 0, 80, .inl pd))]] _ _ := S
            have hE122 : nI (s1I pd L i w) = nI (s2I pd L i w) := congrArg nI (by unfold s2I; rw [← hc]; first | (rw [if_pos (by decide)]; done) | (rw [if_neg (by decide)]; done) | (rw [if_neg (by assumption)]; done))
            have S := S.cong (congrArg (fun (zz : Int32) => ([[(h0, .inr (3, [.ref q1, .ref q2, .int pasts, .ref q3, .ref q4, .ref q5, .int (nI L), .int known, .int there, .ref q6, .int zz, .int (cI (s1W pd L i w)), .int (nI 45), .int (dgS pd L i w), .int first, .int second]))], [(q5, .inl (gA G 0, 80, .inl pd))]] : List va_W)) hE122)
            have S : Sw G A s.heap [[(h0, .inr (3, [.ref q1, .ref q2, .int pasts, .ref q3, .ref q4, .ref q5, .int (nI L), .int known, .int there, .ref q6, .int (nI (s2I pd L i w)), .int (cI (s1W pd L i w)), .int (nI 45), .int (dgS pd L i w), .int first, .int second]))], [(q5, .inl (gA G 0, 80, .inl pd))]] _ _ := S
            have hE123 : cI (s1W pd L i w) = cI (s2W pd L i w) := congrArg cI (by unfold s2W; rw [← hc]; first | (rw [if_pos (by decide)]; done) | (rw [if_neg (by decide)]; done) | (rw [if_neg (by assumption)]; done))
            have S := S.cong (congrArg (fun (zz : Int32) => ([[(h0, .inr (3, [.ref q1, .ref q2, .int pasts, .ref q3, .ref q4, .ref q5, .int (nI L), .int known, .int there, .ref q6, .int (nI (s2I pd L i w)), .int zz, .int (nI 45), .int (dgS pd L i w), .int first, .int second]))], [(q5, .inl (gA G 0, 80, .inl pd))]] : List va_W)) hE123)
            have S : Sw G A s.heap [[(h0, .inr (3, [.ref q1, .ref q2, .int pasts, .ref q3, .ref q4, .ref q5, .int (nI L), .int known, .int there, .ref q6, .int (nI (s2I pd L i w)), .int (cI (s2W pd L i w)), .int (nI 45), .int (dgS pd L i w), .int first, .int second]))], [(q5, .inl (gA G 0, 80, .inl pd))]] _ _ := S
            refine lv_aload_n hx hb dX3_order_189 rfl (lv_at hl 2 rfl) ?_
            refine lv_iload_n hx hb dX3_order_190 rfl (lv_at hl 0 rfl) ?_
            refine lv_if_eq (tgt := 205) hx hb dX3_order_191 (by decide) (fun c191_124 => absurd c191_124 (by decide)) (fun c191_124 => ?_)
            refine lv_aload_n hx hb dX3_order_194 rfl (lv_at hl 2 rfl) ?_
            refine lv_bipush (v := nI 97) hx hb dX3_order_195 (by decide) ?_
            refine lv_bipush (v := nI 104) hx hb dX3_order_197 (by decide) ?_
            have hq125 := S.cut (Bc := [[(h0, .inr (3, [.ref q1, .ref q2, .int pasts, .ref q3, .ref q4, .ref q5, .int (nI L), .int known, .int there, .ref q6, .int (nI (s2I pd L i w)), .int (cI (s2W pd L i w)), .int (nI 45), .int (dgS pd L i w), .int first, .int second]))], [(q5, .inl (gA G 0, 80, .inl pd))]]) (Br := []) [0, 1] [] (show ([0, 1] ++ ([] : List Nat)).isPerm (List.range 2) = true by decide +kernel) rfl rfl
            refine m_ri X S hq125 (m_runV (rest := [.ref h0]) (As := [.int (nI 97), .int (nI 104)]) (n := 2) X S hq125 (mt_X3_within G l h0 q1 q2 q3 q4 q5 q6 pasts known there (nI 45) (dgS pd L i w) first second pd (s2I pd L i w) (s2W pd L i w) L 97 104 (by omega) (by omega)) (lw_V q1985 q1987 qs73 q90 q1988) (m_recv X S 0 rfl rfl) (by decide +kernel) ⟨Nat.le_of_ble_eq_true rfl, Nat.le_of_ble_eq_true rfl⟩ rfl hl.1 rfl (Nat.le_of_ble_eq_true rfl) dX3_order_199 ⟨(Nat.le_of_ble_eq_true rfl), (Nat.le_of_ble_eq_true rfl)⟩) (fun r126 u H locs hp126 S => ?_)
            obtain ⟨u127, u128⟩ := u
            have hp126 : (r126 = chS pd L (s2I pd L i w) - nI 97 ∧ u127 = okI (s2I pd L i w) (okW pd L 97 104 (s2I pd L i w) (s2W pd L i w)) ∧ u128 = okW pd L 97 104 (s2I pd L i w) (s2W pd L i w)) := hp126
            have S : Sw G A s.heap [[(h0, .inr (3, [.ref q1, .ref q2, .int pasts, .ref q3, .ref q4, .ref q5, .int (nI L), .int known, .int there, .ref q6, .int (nI u127), .int (cI u128), .int (nI 45), .int (dgS pd L i w), .int first, .int second]))], [(q5, .inl (gA G 0, 80, .inl pd))]] _ _ := S
            rcases hp126 with ⟨hhp126_0, hhp126_1, hhp126_2⟩
            subst hhp126_0
            subst hhp126_1
            subst hhp126_2
            have S : Sw G A s.heap [[(h0, .inr (3, [.ref q1, .ref q2, .int pasts, .ref q3, .ref q4, .ref q5, .int (nI L), .int known, .int there, .ref q6, .int (nI (okI (s2I pd L i w) (okW pd L 97 104 (s2I pd L i w) (s2W pd L i w)))), .int (cI (okW pd L 97 104 (s2I pd L i w) (s2W pd L i w))), .int (nI 45), .int (dgS pd L i w), .int first, .int second]))], [(q5, .inl (gA G 0, 80, .inl pd))]] _ _ := S
            refine lv_goto (tgt := 206) hx hb dX3_order_202 (by decide) ?_
            refine lv_toe (y := fiS pd L i w) (by unfold fiS; rw [← hc]; first | (rw [if_pos (by decide)]; done) | (rw [if_neg (by decide)]; done) | (rw [if_neg (by assumption)]; done)) ?_
            refine m_put X S 0 rfl (T := TX3) (N := 16) in_X3 tyX3 tyX3_ok nmX3 rfl 14 (by decide) q1726 (fun _ h9 => h9) rfl rfl rfl (Nat.le_of_ble_eq_true rfl) dX3_order_206 (fun H locs S => ?_)
            have S : Sw G A s.heap [[(h0, .inr (3, [.ref q1, .ref q2, .int pasts, .ref q3, .ref q4, .ref q5, .int (nI L), .int known, .int there, .ref q6, .int (nI (okI (s2I pd L i w) (okW pd L 97 104 (s2I pd L i w) (s2W pd L i w)))), .int (cI (okW pd L 97 104 (s2I pd L i w) (s2W pd L i w))), .int (nI 45), .int (dgS pd L i w), .int (fiS pd L i w), .int second]))], [(q5, .inl (gA G 0, 80, .inl pd))]] _ _ := S
            have hE129 : nI (okI (s2I pd L i w) (okW pd L 97 104 (s2I pd L i w) (s2W pd L i w))) = nI (s3I pd L i w) := congrArg nI (by unfold s3I; rw [← hc]; first | (rw [if_pos (by decide)]; done) | (rw [if_neg (by decide)]; done) | (rw [if_neg (by assumption)]; done))
            have S := S.cong (congrArg (fun (zz : Int32) => ([[(h0, .inr (3, [.ref q1, .ref q2, .int pasts, .ref q3, .ref q4, .ref q5, .int (nI L), .int known, .int there, .ref q6, .int zz, .int (cI (okW pd L 97 104 (s2I pd L i w) (s2W pd L i w))), .int (nI 45), .int (dgS pd L i w), .int (fiS pd L i w), .int second]))], [(q5, .inl (gA G 0, 80, .inl pd))]] : List va_W)) hE129)
            have S : Sw G A s.heap [[(h0, .inr (3, [.ref q1, .ref q2, .int pasts, .ref q3, .ref q4, .ref q5, .int (nI L), .int known, .int there, .ref q6, .int (nI (s3I pd L i w)), .int (cI (okW pd L 97 104 (s2I pd L i w) (s2W pd L i w))), .int (nI 45), .int (dgS pd L i w), .int (fiS pd L i w), .int second]))], [(q5, .inl (gA G 0, 80, .inl pd))]] _ _ := S
            have hE130 : cI (okW pd L 97 104 (s2I pd L i w) (s2W pd L i w)) = cI (s3W pd L i w) := congrArg cI (by unfold s3W; rw [← hc]; first | (rw [if_pos (by decide)]; done) | (rw [if_neg (by decide)]; done) | (rw [if_neg (by assumption)]; done))
            have S := S.cong (congrArg (fun (zz : Int32) => ([[(h0, .inr (3, [.ref q1, .ref q2, .int pasts, .ref q3, .ref q4, .ref q5, .int (nI L), .int known, .int there, .ref q6, .int (nI (s3I pd L i w)), .int zz, .int (nI 45), .int (dgS pd L i w), .int (fiS pd L i w), .int second]))], [(q5, .inl (gA G 0, 80, .inl pd))]] : List va_W)) hE130)
            have S : Sw G A s.heap [[(h0, .inr (3, [.ref q1, .ref q2, .int pasts, .ref q3, .ref q4, .ref q5, .int (nI L), .int known, .int there, .ref q6, .int (nI (s3I pd L i w)), .int (cI (s3W pd L i w)), .int (nI 45), .int (dgS pd L i w), .int (fiS pd L i w), .int second]))], [(q5, .inl (gA G 0, 80, .inl pd))]] _ _ := S
            refine lv_aload_n hx hb dX3_order_209 rfl (lv_at hl 2 rfl) ?_
            refine lv_iload_n hx hb dX3_order_210 rfl (lv_at hl 1 rfl) ?_
            refine lv_if_eq (tgt := 225) hx hb dX3_order_211 (by decide) (fun c211_131 => absurd c211_131 (by decide)) (fun c211_131 => ?_)
            refine lv_aload_n hx hb dX3_order_214 rfl (lv_at hl 2 rfl) ?_
            refine lv_bipush (v := nI 97) hx hb dX3_order_215 (by decide) ?_
            refine lv_bipush (v := nI 104) hx hb dX3_order_217 (by decide) ?_
            have hq132 := S.cut (Bc := [[(h0, .inr (3, [.ref q1, .ref q2, .int pasts, .ref q3, .ref q4, .ref q5, .int (nI L), .int known, .int there, .ref q6, .int (nI (s3I pd L i w)), .int (cI (s3W pd L i w)), .int (nI 45), .int (dgS pd L i w), .int (fiS pd L i w), .int second]))], [(q5, .inl (gA G 0, 80, .inl pd))]]) (Br := []) [0, 1] [] (show ([0, 1] ++ ([] : List Nat)).isPerm (List.range 2) = true by decide +kernel) rfl rfl
            refine m_ri X S hq132 (m_runV (rest := [.ref h0]) (As := [.int (nI 97), .int (nI 104)]) (n := 2) X S hq132 (mt_X3_within G l h0 q1 q2 q3 q4 q5 q6 pasts known there (nI 45) (dgS pd L i w) (fiS pd L i w) second pd (s3I pd L i w) (s3W pd L i w) L 97 104 (by omega) (by omega)) (lw_V q1985 q1987 qs73 q90 q1988) (m_recv X S 0 rfl rfl) (by decide +kernel) ⟨Nat.le_of_ble_eq_true rfl, Nat.le_of_ble_eq_true rfl⟩ rfl hl.1 rfl (Nat.le_of_ble_eq_true rfl) dX3_order_219 ⟨(Nat.le_of_ble_eq_true rfl), (Nat.le_of_ble_eq_true rfl)⟩) (fun r133 u H locs hp133 S => ?_)
            obtain ⟨u134, u135⟩ := u
            have hp133 : (r133 = chS pd L (s3I pd L i w) - nI 97 ∧ u134 = okI (s3I pd L i w) (okW pd L 97 104 (s3I pd L i w) (s3W pd L i w)) ∧ u135 = okW pd L 97 104 (s3I pd L i w) (s3W pd L i w)) := hp133
            have S : Sw G A s.heap [[(h0, .inr (3, [.ref q1, .ref q2, .int pasts, .ref q3, .ref q4, .ref q5, .int (nI L), .int known, .int there, .ref q6, .int (nI u134), .int (cI u135), .int (nI 45), .int (dgS pd L i w), .int (fiS pd L i w), .int second]))], [(q5, .inl (gA G 0, 80, .inl pd))]] _ _ := S
            rcases hp133 with ⟨hhp133_0, hhp133_1, hhp133_2⟩
            subst hhp133_0
            subst hhp133_1
            subst hhp133_2
            have S : Sw G A s.heap [[(h0, .inr (3, [.ref q1, .ref q2, .int pasts, .ref q3, .ref q4, .ref q5, .int (nI L), .int known, .int there, .ref q6, .int (nI (okI (s3I pd L i w) (okW pd L 97 104 (s3I pd L i w) (s3W pd L i w)))), .int (cI (okW pd L 97 104 (s3I pd L i w) (s3W pd L i w))), .int (nI 45), .int (dgS pd L i w), .int (fiS pd L i w), .int second]))], [(q5, .inl (gA G 0, 80, .inl pd))]] _ _ := S
            refine lv_goto (tgt := 226) hx hb dX3_order_222 (by decide) ?_
            refine lv_toe (y := seS pd L i w) (by unfold seS; rw [← hc]; first | (rw [if_pos (by decide)]; done) | (rw [if_neg (by decide)]; done) | (rw [if_neg (by assumption)]; done)) ?_
            refine m_put X S 0 rfl (T := TX3) (N := 16) in_X3 tyX3 tyX3_ok nmX3 rfl 15 (by decide) q1727 (fun _ h9 => h9) rfl rfl rfl (Nat.le_of_ble_eq_true rfl) dX3_order_226 (fun H locs S => ?_)
            have S : Sw G A s.heap [[(h0, .inr (3, [.ref q1, .ref q2, .int pasts, .ref q3, .ref q4, .ref q5, .int (nI L), .int known, .int there, .ref q6, .int (nI (okI (s3I pd L i w) (okW pd L 97 104 (s3I pd L i w) (s3W pd L i w)))), .int (cI (okW pd L 97 104 (s3I pd L i w) (s3W pd L i w))), .int (nI 45), .int (dgS pd L i w), .int (fiS pd L i w), .int (seS pd L i w)]))], [(q5, .inl (gA G 0, 80, .inl pd))]] _ _ := S
            have hE136 : nI (okI (s3I pd L i w) (okW pd L 97 104 (s3I pd L i w) (s3W pd L i w))) = nI (s4I pd L i w) := congrArg nI (by unfold s4I; rw [← hc]; first | (rw [if_pos (by decide)]; done) | (rw [if_neg (by decide)]; done) | (rw [if_neg (by assumption)]; done))
            have S := S.cong (congrArg (fun (zz : Int32) => ([[(h0, .inr (3, [.ref q1, .ref q2, .int pasts, .ref q3, .ref q4, .ref q5, .int (nI L), .int known, .int there, .ref q6, .int zz, .int (cI (okW pd L 97 104 (s3I pd L i w) (s3W pd L i w))), .int (nI 45), .int (dgS pd L i w), .int (fiS pd L i w), .int (seS pd L i w)]))], [(q5, .inl (gA G 0, 80, .inl pd))]] : List va_W)) hE136)
            have S : Sw G A s.heap [[(h0, .inr (3, [.ref q1, .ref q2, .int pasts, .ref q3, .ref q4, .ref q5, .int (nI L), .int known, .int there, .ref q6, .int (nI (s4I pd L i w)), .int (cI (okW pd L 97 104 (s3I pd L i w) (s3W pd L i w))), .int (nI 45), .int (dgS pd L i w), .int (fiS pd L i w), .int (seS pd L i w)]))], [(q5, .inl (gA G 0, 80, .inl pd))]] _ _ := S
            have hE137 : cI (okW pd L 97 104 (s3I pd L i w) (s3W pd L i w)) = cI (s4W pd L i w) := congrArg cI (by unfold s4W; rw [← hc]; first | (rw [if_pos (by decide)]; done) | (rw [if_neg (by decide)]; done) | (rw [if_neg (by assumption)]; done))
            have S := S.cong (congrArg (fun (zz : Int32) => ([[(h0, .inr (3, [.ref q1, .ref q2, .int pasts, .ref q3, .ref q4, .ref q5, .int (nI L), .int known, .int there, .ref q6, .int (nI (s4I pd L i w)), .int zz, .int (nI 45), .int (dgS pd L i w), .int (fiS pd L i w), .int (seS pd L i w)]))], [(q5, .inl (gA G 0, 80, .inl pd))]] : List va_W)) hE137)
            have S : Sw G A s.heap [[(h0, .inr (3, [.ref q1, .ref q2, .int pasts, .ref q3, .ref q4, .ref q5, .int (nI L), .int known, .int there, .ref q6, .int (nI (s4I pd L i w)), .int (cI (s4W pd L i w)), .int (nI 45), .int (dgS pd L i w), .int (fiS pd L i w), .int (seS pd L i w)]))], [(q5, .inl (gA G 0, 80, .inl pd))]] _ _ := S
            have hE138 : (nI 45) = sgnS pd L i w := hc
            have S := S.cong (congrArg (fun (zz : Int32) => ([[(h0, .inr (3, [.ref q1, .ref q2, .int pasts, .ref q3, .ref q4, .ref q5, .int (nI L), .int known, .int there, .ref q6, .int (nI (s4I pd L i w)), .int (cI (s4W pd L i w)), .int zz, .int (dgS pd L i w), .int (fiS pd L i w), .int (seS pd L i w)]))], [(q5, .inl (gA G 0, 80, .inl pd))]] : List va_W)) hE138)
            have S : Sw G A s.heap [[(h0, .inr (3, [.ref q1, .ref q2, .int pasts, .ref q3, .ref q4, .ref q5, .int (nI L), .int known, .int there, .ref q6, .int (nI (s4I pd L i w)), .int (cI (s4W pd L i w)), .int (sgnS pd L i w), .int (dgS pd L i w), .int (fiS pd L i w), .int (seS pd L i w)]))], [(q5, .inl (gA G 0, 80, .inl pd))]] _ _ := S
            exact m_vret X hr hlk hQ S ⟨s4I pd L i w, s4W pd L i w, sgnS pd L i w, dgS pd L i w, fiS pd L i w, seS pd L i w⟩ (by show ((s4I pd L i w) = s4I pd L i w ∧ (s4W pd L i w) = s4W pd L i w ∧ (sgnS pd L i w) = sgnS pd L i w ∧ (dgS pd L i w) = dgS pd L i w ∧ (fiS pd L i w) = fiS pd L i w ∧ (seS pd L i w) = seS pd L i w); exact ⟨rfl, rfl, rfl, rfl, rfl, rfl⟩) [0, 1] [] (show ([0, 1] ++ ([] : List Nat)).isPerm (List.range 2) = true by decide +kernel) rfl (Nat.le_of_ble_eq_true rfl) (Nat.le_of_ble_eq_true rfl) dX3_order_229
        · skip
          have c59_93 : ¬ cc = (nI 45) := c59_93
          refine lv_aload_n hx hb dX3_order_62 rfl (lv_at hl 0 rfl) ?_
          refine m_get X S 0 rfl (T := TX3) (N := 16) in_X3 rfl 12 (by decide) q1724 (fun _ h9 => h9) rfl dX3_order_63 ?_
          refine lv_bipush (v := nI 99) hx hb dX3_order_66 (by decide) ?_
          refine lv_icmp_ne (tgt := 75) hx hb dX3_order_68 (by decide) (fun c68_139 => ?_) (fun c68_139 => ?_)
          · skip
            have c68_139 : ¬ cc = (nI 99) := c68_139
            have htw : ¬ twoP cc := twoP_n (by assumption) (by assumption) (by assumption) c68_139
            refine lv_iconst (v := nI 0) hx hb dX3_order_75 (by decide) ?_
            refine lv_istore_n (lv' := [(1, .int (nI 0)), (0, .ref h0)]) hx hb dX3_order_76 rfl hl (Nat.le_of_ble_eq_true rfl) rfl (fun ls hl => ?_)
            refine lv_iload_n hx hb dX3_order_77 rfl (lv_at hl 0 rfl) ?_
            refine lv_if_ne (tgt := 99) hx hb dX3_order_78 (by decide) (fun c78_140 => absurd (by decide) c78_140) (fun c78_140 => ?_)
            refine lv_aload_n hx hb dX3_order_81 rfl (lv_at hl 1 rfl) ?_
            refine m_get X S 0 rfl (T := TX3) (N := 16) in_X3 rfl 12 (by decide) q1724 (fun _ h9 => h9) rfl dX3_order_82 ?_
            refine lv_bipush (v := nI 116) hx hb dX3_order_85 (by decide) ?_
            refine lv_icmp_eq (tgt := 99) hx hb dX3_order_87 (by decide) (fun c87_141 => ?_) (fun c87_141 => ?_)
            · skip
              have c87_141 : cc = (nI 116) := c87_141
              have c87_141 : cc = nI 116 := c87_141
              subst c87_141
              refine lv_iconst (v := nI 1) hx hb dX3_order_99 (by decide) ?_
              refine lv_goto (tgt := 104) hx hb dX3_order_100 (by decide) ?_
              refine lv_istore_n (lv' := [(2, .int (nI 1)), (1, .int (nI 0)), (0, .ref h0)]) hx hb dX3_order_104 rfl hl (Nat.le_of_ble_eq_true rfl) rfl (fun ls hl => ?_)
              refine lv_aload_n hx hb dX3_order_105 rfl (lv_at hl 2 rfl) ?_
              refine lv_aload_n hx hb dX3_order_106 rfl (lv_at hl 2 rfl) ?_
              refine m_get X S 0 rfl (T := TX3) (N := 16) in_X3 rfl 11 (by decide) q1723 (fun _ h9 => h9) rfl dX3_order_107 ?_
              refine lv_if_ne (tgt := 135) hx hb dX3_order_110 (by decide) (fun c110_142 => ?_) (fun c110_142 => ?_)
              · skip
                have c110_142 : ¬ (cI w) = (nI 0) := c110_142
                have hwt : w = true := cI_n0.mp c110_142
                refine lv_iconst (v := nI 1) hx hb dX3_order_135 (by decide) ?_
                refine lv_goto (tgt := 140) hx hb dX3_order_136 (by decide) ?_
                refine m_put X S 0 rfl (T := TX3) (N := 16) in_X3 tyX3 tyX3_ok nmX3 rfl 11 (by decide) q1723 (fun _ h9 => h9) rfl rfl rfl (Nat.le_of_ble_eq_true rfl) dX3_order_140 (fun H locs S => ?_)
                have S : Sw G A s.heap [[(h0, .inr (3, [.ref q1, .ref q2, .int pasts, .ref q3, .ref q4, .ref q5, .int (nI L), .int known, .int there, .ref q6, .int (nI i), .int (nI 1), .int (nI 116), .int digit, .int first, .int second]))], [(q5, .inl (gA G 0, 80, .inl pd))]] _ _ := S
                refine lv_aload_n hx hb dX3_order_143 rfl (lv_at hl 2 rfl) ?_
                refine lv_dup hx hb dX3_order_144 rfl ?_
                refine m_get X S 0 rfl (T := TX3) (N := 16) in_X3 rfl 10 (by decide) q1722 (fun _ h9 => h9) rfl dX3_order_145 ?_
                refine lv_aload_n hx hb dX3_order_148 rfl (lv_at hl 2 rfl) ?_
                refine m_get X S 0 rfl (T := TX3) (N := 16) in_X3 rfl 11 (by decide) q1723 (fun _ h9 => h9) rfl dX3_order_149 ?_
                refine lv_if_eq (tgt := 159) hx hb dX3_order_152 (by decide) (fun c152_143 => absurd c152_143 (by decide)) (fun c152_143 => ?_)
                refine lv_iconst (v := nI 0) hx hb dX3_order_155 (by decide) ?_
                refine lv_goto (tgt := 160) hx hb dX3_order_156 (by decide) ?_
                refine lv_iadd hx hb dX3_order_160 ?_
                refine lv_toe (y := nI i) (nI_add _ _) ?_
                refine m_put X S 0 rfl (T := TX3) (N := 16) in_X3 tyX3 tyX3_ok nmX3 rfl 10 (by decide) q1722 (fun _ h9 => h9) rfl rfl rfl (Nat.le_of_ble_eq_true rfl) dX3_order_161 (fun H locs S => ?_)
                have S : Sw G A s.heap [[(h0, .inr (3, [.ref q1, .ref q2, .int pasts, .ref q3, .ref q4, .ref q5, .int (nI L), .int known, .int there, .ref q6, .int (nI i), .int (nI 1), .int (nI 116), .int digit, .int first, .int second]))], [(q5, .inl (gA G 0, 80, .inl pd))]] _ _ := S
                have hs1 : s1W pd L i w = true := by first | exact s1W_w (by assumption) | exact s1W_n hc (by assumption) | exact s1W_y hc (by assumption) (by first | decide | exact Or.inr (Or.inl (by assumption)) | exact Or.inr (Or.inr (by assumption)))
                have hE144 : nI i = nI (s1I pd L i w) := by unfold s1I; rw [hs1]; rfl
                have S := S.cong (congrArg (fun (zz : Int32) => ([[(h0, .inr (3, [.ref q1, .ref q2, .int pasts, .ref q3, .ref q4, .ref q5, .int (nI L), .int known, .int there, .ref q6, .int zz, .int (nI 1), .int (nI 116), .int digit, .int first, .int second]))], [(q5, .inl (gA G 0, 80, .inl pd))]] : List va_W)) hE144)
                have S : Sw G A s.heap [[(h0, .inr (3, [.ref q1, .ref q2, .int pasts, .ref q3, .ref q4, .ref q5, .int (nI L), .int known, .int there, .ref q6, .int (nI (s1I pd L i w)), .int (nI 1), .int (nI 116), .int digit, .int first, .int second]))], [(q5, .inl (gA G 0, 80, .inl pd))]] _ _ := S
                have hE145 : nI 1 = cI (s1W pd L i w) := by rw [hs1]; rfl
                have S := S.cong (congrArg (fun (zz : Int32) => ([[(h0, .inr (3, [.ref q1, .ref q2, .int pasts, .ref q3, .ref q4, .ref q5, .int (nI L), .int known, .int there, .ref q6, .int (nI (s1I pd L i w)), .int zz, .int (nI 116), .int digit, .int first, .int second]))], [(q5, .inl (gA G 0, 80, .inl pd))]] : List va_W)) hE145)
                have S : Sw G A s.heap [[(h0, .inr (3, [.ref q1, .ref q2, .int pasts, .ref q3, .ref q4, .ref q5, .int (nI L), .int known, .int there, .ref q6, .int (nI (s1I pd L i w)), .int (cI (s1W pd L i w)), .int (nI 116), .int digit, .int first, .int second]))], [(q5, .inl (gA G 0, 80, .inl pd))]] _ _ := S
                have hl1 := s1I_le (pd := pd) (w := w) hiL
                have hl2 := s2I_le (pd := pd) (w := w) hiL
                have hl3 := s3I_le (pd := pd) (w := w) hiL
                refine lv_aload_n hx hb dX3_order_164 rfl (lv_at hl 2 rfl) ?_
                refine lv_aload_n hx hb dX3_order_165 rfl (lv_at hl 2 rfl) ?_
                refine m_get X S 0 rfl (T := TX3) (N := 16) in_X3 rfl 12 (by decide) q1724 (fun _ h9 => h9) rfl dX3_order_166 ?_
                refine lv_bipush (v := nI 99) hx hb dX3_order_169 (by decide) ?_
                refine lv_icmp_ne (tgt := 185) hx hb dX3_order_171 (by decide) (fun c171_146 => ?_) (fun c171_146 => absurd c171_146 (by decide))
                refine lv_iconst (v := nI 0) hx hb dX3_order_185 (by decide) ?_
                refine lv_toe (y := dgS pd L i w) (by unfold dgS; rw [← hc]; first | (rw [if_pos (by decide)]; done) | (rw [if_neg (by decide)]; done) | (rw [if_neg (by assumption)]; done)) ?_
                refine m_put X S 0 rfl (T := TX3) (N := 16) in_X3 tyX3 tyX3_ok nmX3 rfl 13 (by decide) q1725 (fun _ h9 => h9) rfl rfl rfl (Nat.le_of_ble_eq_true rfl) dX3_order_186 (fun H locs S => ?_)
                have S : Sw G A s.heap [[(h0, .inr (3, [.ref q1, .ref q2, .int pasts, .ref q3, .ref q4, .ref q5, .int (nI L), .int known, .int there, .ref q6, .int (nI (s1I pd L i w)), .int (cI (s1W pd L i w)), .int (nI 116), .int (dgS pd L i w), .int first, .int second]))], [(q5, .inl (gA G 0, 80, .inl pd))]] _ _ := S
                have hE147 : nI (s1I pd L i w) = nI (s2I pd L i w) := congrArg nI (by unfold s2I; rw [← hc]; first | (rw [if_pos (by decide)]; done) | (rw [if_neg (by decide)]; done) | (rw [if_neg (by assumption)]; done))
                have S := S.cong (congrArg (fun (zz : Int32) => ([[(h0, .inr (3, [.ref q1, .ref q2, .int pasts, .ref q3, .ref q4, .ref q5, .int (nI L), .int known, .int there, .ref q6, .int zz, .int (cI (s1W pd L i w)), .int (nI 116), .int (dgS pd L i w), .int first, .int second]))], [(q5, .inl (gA G 0, 80, .inl pd))]] : List va_W)) hE147)
                have S : Sw G A s.heap [[(h0, .inr (3, [.ref q1, .ref q2, .int pasts, .ref q3, .ref q4, .ref q5, .int (nI L), .int known, .int there, .ref q6, .int (nI (s2I pd L i w)), .int (cI (s1W pd L i w)), .int (nI 116), .int (dgS pd L i w), .int first, .int second]))], [(q5, .inl (gA G 0, 80, .inl pd))]] _ _ := S
                have hE148 : cI (s1W pd L i w) = cI (s2W pd L i w) := congrArg cI (by unfold s2W; rw [← hc]; first | (rw [if_pos (by decide)]; done) | (rw [if_neg (by decide)]; done) | (rw [if_neg (by assumption)]; done))
                have S := S.cong (congrArg (fun (zz : Int32) => ([[(h0, .inr (3, [.ref q1, .ref q2, .int pasts, .ref q3, .ref q4, .ref q5, .int (nI L), .int known, .int there, .ref q6, .int (nI (s2I pd L i w)), .int zz, .int (nI 116), .int (dgS pd L i w), .int first, .int second]))], [(q5, .inl (gA G 0, 80, .inl pd))]] : List va_W)) hE148)
                have S : Sw G A s.heap [[(h0, .inr (3, [.ref q1, .ref q2, .int pasts, .ref q3, .ref q4, .ref q5, .int (nI L), .int known, .int there, .ref q6, .int (nI (s2I pd L i w)), .int (cI (s2W pd L i w)), .int (nI 116), .int (dgS pd L i w), .int first, .int second]))], [(q5, .inl (gA G 0, 80, .inl pd))]] _ _ := S
                refine lv_aload_n hx hb dX3_order_189 rfl (lv_at hl 2 rfl) ?_
                refine lv_iload_n hx hb dX3_order_190 rfl (lv_at hl 0 rfl) ?_
                refine lv_if_eq (tgt := 205) hx hb dX3_order_191 (by decide) (fun c191_149 => absurd c191_149 (by decide)) (fun c191_149 => ?_)
                refine lv_aload_n hx hb dX3_order_194 rfl (lv_at hl 2 rfl) ?_
                refine lv_bipush (v := nI 97) hx hb dX3_order_195 (by decide) ?_
                refine lv_bipush (v := nI 104) hx hb dX3_order_197 (by decide) ?_
                have hq150 := S.cut (Bc := [[(h0, .inr (3, [.ref q1, .ref q2, .int pasts, .ref q3, .ref q4, .ref q5, .int (nI L), .int known, .int there, .ref q6, .int (nI (s2I pd L i w)), .int (cI (s2W pd L i w)), .int (nI 116), .int (dgS pd L i w), .int first, .int second]))], [(q5, .inl (gA G 0, 80, .inl pd))]]) (Br := []) [0, 1] [] (show ([0, 1] ++ ([] : List Nat)).isPerm (List.range 2) = true by decide +kernel) rfl rfl
                refine m_ri X S hq150 (m_runV (rest := [.ref h0]) (As := [.int (nI 97), .int (nI 104)]) (n := 2) X S hq150 (mt_X3_within G l h0 q1 q2 q3 q4 q5 q6 pasts known there (nI 116) (dgS pd L i w) first second pd (s2I pd L i w) (s2W pd L i w) L 97 104 (by omega) (by omega)) (lw_V q1985 q1987 qs73 q90 q1988) (m_recv X S 0 rfl rfl) (by decide +kernel) ⟨Nat.le_of_ble_eq_true rfl, Nat.le_of_ble_eq_true rfl⟩ rfl hl.1 rfl (Nat.le_of_ble_eq_true rfl) dX3_order_199 ⟨(Nat.le_of_ble_eq_true rfl), (Nat.le_of_ble_eq_true rfl)⟩) (fun r151 u H locs hp151 S => ?_)
                obtain ⟨u152, u153⟩ := u
                have hp151 : (r151 = chS pd L (s2I pd L i w) - nI 97 ∧ u152 = okI (s2I pd L i w) (okW pd L 97 104 (s2I pd L i w) (s2W pd L i w)) ∧ u153 = okW pd L 97 104 (s2I pd L i w) (s2W pd L i w)) := hp151
                have S : Sw G A s.heap [[(h0, .inr (3, [.ref q1, .ref q2, .int pasts, .ref q3, .ref q4, .ref q5, .int (nI L), .int known, .int there, .ref q6, .int (nI u152), .int (cI u153), .int (nI 116), .int (dgS pd L i w), .int first, .int second]))], [(q5, .inl (gA G 0, 80, .inl pd))]] _ _ := S
                rcases hp151 with ⟨hhp151_0, hhp151_1, hhp151_2⟩
                subst hhp151_0
                subst hhp151_1
                subst hhp151_2
                have S : Sw G A s.heap [[(h0, .inr (3, [.ref q1, .ref q2, .int pasts, .ref q3, .ref q4, .ref q5, .int (nI L), .int known, .int there, .ref q6, .int (nI (okI (s2I pd L i w) (okW pd L 97 104 (s2I pd L i w) (s2W pd L i w)))), .int (cI (okW pd L 97 104 (s2I pd L i w) (s2W pd L i w))), .int (nI 116), .int (dgS pd L i w), .int first, .int second]))], [(q5, .inl (gA G 0, 80, .inl pd))]] _ _ := S
                refine lv_goto (tgt := 206) hx hb dX3_order_202 (by decide) ?_
                refine lv_toe (y := fiS pd L i w) (by unfold fiS; rw [← hc]; first | (rw [if_pos (by decide)]; done) | (rw [if_neg (by decide)]; done) | (rw [if_neg (by assumption)]; done)) ?_
                refine m_put X S 0 rfl (T := TX3) (N := 16) in_X3 tyX3 tyX3_ok nmX3 rfl 14 (by decide) q1726 (fun _ h9 => h9) rfl rfl rfl (Nat.le_of_ble_eq_true rfl) dX3_order_206 (fun H locs S => ?_)
                have S : Sw G A s.heap [[(h0, .inr (3, [.ref q1, .ref q2, .int pasts, .ref q3, .ref q4, .ref q5, .int (nI L), .int known, .int there, .ref q6, .int (nI (okI (s2I pd L i w) (okW pd L 97 104 (s2I pd L i w) (s2W pd L i w)))), .int (cI (okW pd L 97 104 (s2I pd L i w) (s2W pd L i w))), .int (nI 116), .int (dgS pd L i w), .int (fiS pd L i w), .int second]))], [(q5, .inl (gA G 0, 80, .inl pd))]] _ _ := S
                have hE154 : nI (okI (s2I pd L i w) (okW pd L 97 104 (s2I pd L i w) (s2W pd L i w))) = nI (s3I pd L i w) := congrArg nI (by unfold s3I; rw [← hc]; first | (rw [if_pos (by decide)]; done) | (rw [if_neg (by decide)]; done) | (rw [if_neg (by assumption)]; done))
                have S := S.cong (congrArg (fun (zz : Int32) => ([[(h0, .inr (3, [.ref q1, .ref q2, .int pasts, .ref q3, .ref q4, .ref q5, .int (nI L), .int known, .int there, .ref q6, .int zz, .int (cI (okW pd L 97 104 (s2I pd L i w) (s2W pd L i w))), .int (nI 116), .int (dgS pd L i w), .int (fiS pd L i w), .int second]))], [(q5, .inl (gA G 0, 80, .inl pd))]] : List va_W)) hE154)
                have S : Sw G A s.heap [[(h0, .inr (3, [.ref q1, .ref q2, .int pasts, .ref q3, .ref q4, .ref q5, .int (nI L), .int known, .int there, .ref q6, .int (nI (s3I pd L i w)), .int (cI (okW pd L 97 104 (s2I pd L i w) (s2W pd L i w))), .int (nI 116), .int (dgS pd L i w), .int (fiS pd L i w), .int second]))], [(q5, .inl (gA G 0, 80, .inl pd))]] _ _ := S
                have hE155 : cI (okW pd L 97 104 (s2I pd L i w) (s2W pd L i w)) = cI (s3W pd L i w) := congrArg cI (by unfold s3W; rw [← hc]; first | (rw [if_pos (by decide)]; done) | (rw [if_neg (by decide)]; done) | (rw [if_neg (by assumption)]; done))
                have S := S.cong (congrArg (fun (zz : Int32) => ([[(h0, .inr (3, [.ref q1, .ref q2, .int pasts, .ref q3, .ref q4, .ref q5, .int (nI L), .int known, .int there, .ref q6, .int (nI (s3I pd L i w)), .int zz, .int (nI 116), .int (dgS pd L i w), .int (fiS pd L i w), .int second]))], [(q5, .inl (gA G 0, 80, .inl pd))]] : List va_W)) hE155)
                have S : Sw G A s.heap [[(h0, .inr (3, [.ref q1, .ref q2, .int pasts, .ref q3, .ref q4, .ref q5, .int (nI L), .int known, .int there, .ref q6, .int (nI (s3I pd L i w)), .int (cI (s3W pd L i w)), .int (nI 116), .int (dgS pd L i w), .int (fiS pd L i w), .int second]))], [(q5, .inl (gA G 0, 80, .inl pd))]] _ _ := S
                refine lv_aload_n hx hb dX3_order_209 rfl (lv_at hl 2 rfl) ?_
                refine lv_iload_n hx hb dX3_order_210 rfl (lv_at hl 1 rfl) ?_
                refine lv_if_eq (tgt := 225) hx hb dX3_order_211 (by decide) (fun c211_156 => ?_) (fun c211_156 => absurd (by decide) c211_156)
                refine lv_iconst (v := nI 0) hx hb dX3_order_225 (by decide) ?_
                refine lv_toe (y := seS pd L i w) (by unfold seS; rw [← hc]; first | (rw [if_pos (by decide)]; done) | (rw [if_neg (by decide)]; done) | (rw [if_neg (by assumption)]; done)) ?_
                refine m_put X S 0 rfl (T := TX3) (N := 16) in_X3 tyX3 tyX3_ok nmX3 rfl 15 (by decide) q1727 (fun _ h9 => h9) rfl rfl rfl (Nat.le_of_ble_eq_true rfl) dX3_order_226 (fun H locs S => ?_)
                have S : Sw G A s.heap [[(h0, .inr (3, [.ref q1, .ref q2, .int pasts, .ref q3, .ref q4, .ref q5, .int (nI L), .int known, .int there, .ref q6, .int (nI (s3I pd L i w)), .int (cI (s3W pd L i w)), .int (nI 116), .int (dgS pd L i w), .int (fiS pd L i w), .int (seS pd L i w)]))], [(q5, .inl (gA G 0, 80, .inl pd))]] _ _ := S
                have hE157 : nI (s3I pd L i w) = nI (s4I pd L i w) := congrArg nI (by unfold s4I; rw [← hc]; first | (rw [if_pos (by decide)]; done) | (rw [if_neg (by decide)]; done) | (rw [if_neg (by assumption)]; done))
                have S := S.cong (congrArg (fun (zz : Int32) => ([[(h0, .inr (3, [.ref q1, .ref q2, .int pasts, .ref q3, .ref q4, .ref q5, .int (nI L), .int known, .int there, .ref q6, .int zz, .int (cI (s3W pd L i w)), .int (nI 116), .int (dgS pd L i w), .int (fiS pd L i w), .int (seS pd L i w)]))], [(q5, .inl (gA G 0, 80, .inl pd))]] : List va_W)) hE157)
                have S : Sw G A s.heap [[(h0, .inr (3, [.ref q1, .ref q2, .int pasts, .ref q3, .ref q4, .ref q5, .int (nI L), .int known, .int there, .ref q6, .int (nI (s4I pd L i w)), .int (cI (s3W pd L i w)), .int (nI 116), .int (dgS pd L i w), .int (fiS pd L i w), .int (seS pd L i w)]))], [(q5, .inl (gA G 0, 80, .inl pd))]] _ _ := S
                have hE158 : cI (s3W pd L i w) = cI (s4W pd L i w) := congrArg cI (by unfold s4W; rw [← hc]; first | (rw [if_pos (by decide)]; done) | (rw [if_neg (by decide)]; done) | (rw [if_neg (by assumption)]; done))
                have S := S.cong (congrArg (fun (zz : Int32) => ([[(h0, .inr (3, [.ref q1, .ref q2, .int pasts, .ref q3, .ref q4, .ref q5, .int (nI L), .int known, .int there, .ref q6, .int (nI (s4I pd L i w)), .int zz, .int (nI 116), .int (dgS pd L i w), .int (fiS pd L i w), .int (seS pd L i w)]))], [(q5, .inl (gA G 0, 80, .inl pd))]] : List va_W)) hE158)
                have S : Sw G A s.heap [[(h0, .inr (3, [.ref q1, .ref q2, .int pasts, .ref q3, .ref q4, .ref q5, .int (nI L), .int known, .int there, .ref q6, .int (nI (s4I pd L i w)), .int (cI (s4W pd L i w)), .int (nI 116), .int (dgS pd L i w), .int (fiS pd L i w), .int (seS pd L i w)]))], [(q5, .inl (gA G 0, 80, .inl pd))]] _ _ := S
                have hE159 : (nI 116) = sgnS pd L i w := hc
                have S := S.cong (congrArg (fun (zz : Int32) => ([[(h0, .inr (3, [.ref q1, .ref q2, .int pasts, .ref q3, .ref q4, .ref q5, .int (nI L), .int known, .int there, .ref q6, .int (nI (s4I pd L i w)), .int (cI (s4W pd L i w)), .int zz, .int (dgS pd L i w), .int (fiS pd L i w), .int (seS pd L i w)]))], [(q5, .inl (gA G 0, 80, .inl pd))]] : List va_W)) hE159)
                have S : Sw G A s.heap [[(h0, .inr (3, [.ref q1, .ref q2, .int pasts, .ref q3, .ref q4, .ref q5, .int (nI L), .int known, .int there, .ref q6, .int (nI (s4I pd L i w)), .int (cI (s4W pd L i w)), .int (sgnS pd L i w), .int (dgS pd L i w), .int (fiS pd L i w), .int (seS pd L i w)]))], [(q5, .inl (gA G 0, 80, .inl pd))]] _ _ := S
                exact m_vret X hr hlk hQ S ⟨s4I pd L i w, s4W pd L i w, sgnS pd L i w, dgS pd L i w, fiS pd L i w, seS pd L i w⟩ (by show ((s4I pd L i w) = s4I pd L i w ∧ (s4W pd L i w) = s4W pd L i w ∧ (sgnS pd L i w) = sgnS pd L i w ∧ (dgS pd L i w) = dgS pd L i w ∧ (fiS pd L i w) = fiS pd L i w ∧ (seS pd L i w) = seS pd L i w); exact ⟨rfl, rfl, rfl, rfl, rfl, rfl⟩) [0, 1] [] (show ([0, 1] ++ ([] : List Nat)).isPerm (List.range 2) = true by decide +kernel) rfl (Nat.le_of_ble_eq_true rfl) (Nat.le_of_ble_eq_true rfl) dX3_order_229
              · skip
                have c110_142 : (cI w) = (nI 0) := c110_142
                have hwf : w = false := cI_0.mp c110_142
                refine lv_iload_n hx hb dX3_order_113 rfl (lv_at hl 0 rfl) ?_
                refine lv_if_ne (tgt := 139) hx hb dX3_order_114 (by decide) (fun c114_160 => ?_) (fun c114_160 => absurd c114_160 (by decide))
                refine lv_iconst (v := nI 0) hx hb dX3_order_139 (by decide) ?_
                refine m_put X S 0 rfl (T := TX3) (N := 16) in_X3 tyX3 tyX3_ok nmX3 rfl 11 (by decide) q1723 (fun _ h9 => h9) rfl rfl rfl (Nat.le_of_ble_eq_true rfl) dX3_order_140 (fun H locs S => ?_)
                have S : Sw G A s.heap [[(h0, .inr (3, [.ref q1, .ref q2, .int pasts, .ref q3, .ref q4, .ref q5, .int (nI L), .int known, .int there, .ref q6, .int (nI i), .int (nI 0), .int (nI 116), .int digit, .int first, .int second]))], [(q5, .inl (gA G 0, 80, .inl pd))]] _ _ := S
                refine lv_aload_n hx hb dX3_order_143 rfl (lv_at hl 2 rfl) ?_
                refine lv_dup hx hb dX3_order_144 rfl ?_
                refine m_get X S 0 rfl (T := TX3) (N := 16) in_X3 rfl 10 (by decide) q1722 (fun _ h9 => h9) rfl dX3_order_145 ?_
                refine lv_aload_n hx hb dX3_order_148 rfl (lv_at hl 2 rfl) ?_
                refine m_get X S 0 rfl (T := TX3) (N := 16) in_X3 rfl 11 (by decide) q1723 (fun _ h9 => h9) rfl dX3_order_149 ?_
                refine lv_if_eq (tgt := 159) hx hb dX3_order_152 (by decide) (fun c152_161 => ?_) (fun c152_161 => absurd (by decide) c152_161)
                refine lv_iconst (v := nI 1) hx hb dX3_order_159 (by decide) ?_
                refine lv_iadd hx hb dX3_order_160 ?_
                refine lv_toe (y := nI (i + 1)) (nI_add _ _) ?_
                refine m_put X S 0 rfl (T := TX3) (N := 16) in_X3 tyX3 tyX3_ok nmX3 rfl 10 (by decide) q1722 (fun _ h9 => h9) rfl rfl rfl (Nat.le_of_ble_eq_true rfl) dX3_order_161 (fun H locs S => ?_)
                have S : Sw G A s.heap [[(h0, .inr (3, [.ref q1, .ref q2, .int pasts, .ref q3, .ref q4, .ref q5, .int (nI L), .int known, .int there, .ref q6, .int (nI (i + 1)), .int (nI 0), .int (nI 116), .int digit, .int first, .int second]))], [(q5, .inl (gA G 0, 80, .inl pd))]] _ _ := S
                have hs1 : s1W pd L i w = false := by first | exact s1W_w (by assumption) | exact s1W_n hc (by assumption) | exact s1W_y hc (by assumption) (by first | decide | exact Or.inr (Or.inl (by assumption)) | exact Or.inr (Or.inr (by assumption)))
                have hE162 : nI (i + 1) = nI (s1I pd L i w) := by unfold s1I; rw [hs1]; rfl
                have S := S.cong (congrArg (fun (zz : Int32) => ([[(h0, .inr (3, [.ref q1, .ref q2, .int pasts, .ref q3, .ref q4, .ref q5, .int (nI L), .int known, .int there, .ref q6, .int zz, .int (nI 0), .int (nI 116), .int digit, .int first, .int second]))], [(q5, .inl (gA G 0, 80, .inl pd))]] : List va_W)) hE162)
                have S : Sw G A s.heap [[(h0, .inr (3, [.ref q1, .ref q2, .int pasts, .ref q3, .ref q4, .ref q5, .int (nI L), .int known, .int there, .ref q6, .int (nI (s1I pd L i w)), .int (nI 0), .int (nI 116), .int digit, .int first, .int second]))], [(q5, .inl (gA G 0, 80, .inl pd))]] _ _ := S
                have hE163 : nI 0 = cI (s1W pd L i w) := by rw [hs1]; rfl
                have S := S.cong (congrArg (fun (zz : Int32) => ([[(h0, .inr (3, [.ref q1, .ref q2, .int pasts, .ref q3, .ref q4, .ref q5, .int (nI L), .int known, .int there, .ref q6, .int (nI (s1I pd L i w)), .int zz, .int (nI 116), .int digit, .int first, .int second]))], [(q5, .inl (gA G 0, 80, .inl pd))]] : List va_W)) hE163)
                have S : Sw G A s.heap [[(h0, .inr (3, [.ref q1, .ref q2, .int pasts, .ref q3, .ref q4, .ref q5, .int (nI L), .int known, .int there, .ref q6, .int (nI (s1I pd L i w)), .int (cI (s1W pd L i w)), .int (nI 116), .int digit, .int first, .int second]))], [(q5, .inl (gA G 0, 80, .inl pd))]] _ _ := S
                have hl1 := s1I_le (pd := pd) (w := w) hiL
                have hl2 := s2I_le (pd := pd) (w := w) hiL
                have hl3 := s3I_le (pd := pd) (w := w) hiL
                refine lv_aload_n hx hb dX3_order_164 rfl (lv_at hl 2 rfl) ?_
                refine lv_aload_n hx hb dX3_order_165 rfl (lv_at hl 2 rfl) ?_
                refine m_get X S 0 rfl (T := TX3) (N := 16) in_X3 rfl 12 (by decide) q1724 (fun _ h9 => h9) rfl dX3_order_166 ?_
                refine lv_bipush (v := nI 99) hx hb dX3_order_169 (by decide) ?_
                refine lv_icmp_ne (tgt := 185) hx hb dX3_order_171 (by decide) (fun c171_164 => ?_) (fun c171_164 => absurd c171_164 (by decide))
                refine lv_iconst (v := nI 0) hx hb dX3_order_185 (by decide) ?_
                refine lv_toe (y := dgS pd L i w) (by unfold dgS; rw [← hc]; first | (rw [if_pos (by decide)]; done) | (rw [if_neg (by decide)]; done) | (rw [if_neg (by assumption)]; done)) ?_
                refine m_put X S 0 rfl (T := TX3) (N := 16) in_X3 tyX3 tyX3_ok nmX3 rfl 13 (by decide) q1725 (fun _ h9 => h9) rfl rfl rfl (Nat.le_of_ble_eq_true rfl) dX3_order_186 (fun H locs S => ?_)
                have S : Sw G A s.heap [[(h0, .inr (3, [.ref q1, .ref q2, .int pasts, .ref q3, .ref q4, .ref q5, .int (nI L), .int known, .int there, .ref q6, .int (nI (s1I pd L i w)), .int (cI (s1W pd L i w)), .int (nI 116), .int (dgS pd L i w), .int first, .int second]))], [(q5, .inl (gA G 0, 80, .inl pd))]] _ _ := S
                have hE165 : nI (s1I pd L i w) = nI (s2I pd L i w) := congrArg nI (by unfold s2I; rw [← hc]; first | (rw [if_pos (by decide)]; done) | (rw [if_neg (by decide)]; done) | (rw [if_neg (by assumption)]; done))
                have S := S.cong (congrArg (fun (zz : Int32) => ([[(h0, .inr (3, [.ref q1, .ref q2, .int pasts, .ref q3, .ref q4, .ref q5, .int (nI L), .int known, .int there, .ref q6, .int zz, .int (cI (s1W pd L i w)), .int (nI 116), .int (dgS pd L i w), .int first, .int second]))], [(q5, .inl (gA G 0, 80, .inl pd))]] : List va_W)) hE165)
                have S : Sw G A s.heap [[(h0, .inr (3, [.ref q1, .ref q2, .int pasts, .ref q3, .ref q4, .ref q5, .int (nI L), .int known, .int there, .ref q6, .int (nI (s2I pd L i w)), .int (cI (s1W pd L i w)), .int (nI 116), .int (dgS pd L i w), .int first, .int second]))], [(q5, .inl (gA G 0, 80, .inl pd))]] _ _ := S
                have hE166 : cI (s1W pd L i w) = cI (s2W pd L i w) := congrArg cI (by unfold s2W; rw [← hc]; first | (rw [if_pos (by decide)]; done) | (rw [if_neg (by decide)]; done) | (rw [if_neg (by assumption)]; done))
                have S := S.cong (congrArg (fun (zz : Int32) => ([[(h0, .inr (3, [.ref q1, .ref q2, .int pasts, .ref q3, .ref q4, .ref q5, .int (nI L), .int known, .int there, .ref q6, .int (nI (s2I pd L i w)), .int zz, .int (nI 116), .int (dgS pd L i w), .int first, .int second]))], [(q5, .inl (gA G 0, 80, .inl pd))]] : List va_W)) hE166)
                have S : Sw G A s.heap [[(h0, .inr (3, [.ref q1, .ref q2, .int pasts, .ref q3, .ref q4, .ref q5, .int (nI L), .int known, .int there, .ref q6, .int (nI (s2I pd L i w)), .int (cI (s2W pd L i w)), .int (nI 116), .int (dgS pd L i w), .int first, .int second]))], [(q5, .inl (gA G 0, 80, .inl pd))]] _ _ := S
                refine lv_aload_n hx hb dX3_order_189 rfl (lv_at hl 2 rfl) ?_
                refine lv_iload_n hx hb dX3_order_190 rfl (lv_at hl 0 rfl) ?_
                refine lv_if_eq (tgt := 205) hx hb dX3_order_191 (by decide) (fun c191_167 => absurd c191_167 (by decide)) (fun c191_167 => ?_)
                refine lv_aload_n hx hb dX3_order_194 rfl (lv_at hl 2 rfl) ?_
                refine lv_bipush (v := nI 97) hx hb dX3_order_195 (by decide) ?_
                refine lv_bipush (v := nI 104) hx hb dX3_order_197 (by decide) ?_
                have hq168 := S.cut (Bc := [[(h0, .inr (3, [.ref q1, .ref q2, .int pasts, .ref q3, .ref q4, .ref q5, .int (nI L), .int known, .int there, .ref q6, .int (nI (s2I pd L i w)), .int (cI (s2W pd L i w)), .int (nI 116), .int (dgS pd L i w), .int first, .int second]))], [(q5, .inl (gA G 0, 80, .inl pd))]]) (Br := []) [0, 1] [] (show ([0, 1] ++ ([] : List Nat)).isPerm (List.range 2) = true by decide +kernel) rfl rfl
                refine m_ri X S hq168 (m_runV (rest := [.ref h0]) (As := [.int (nI 97), .int (nI 104)]) (n := 2) X S hq168 (mt_X3_within G l h0 q1 q2 q3 q4 q5 q6 pasts known there (nI 116) (dgS pd L i w) first second pd (s2I pd L i w) (s2W pd L i w) L 97 104 (by omega) (by omega)) (lw_V q1985 q1987 qs73 q90 q1988) (m_recv X S 0 rfl rfl) (by decide +kernel) ⟨Nat.le_of_ble_eq_true rfl, Nat.le_of_ble_eq_true rfl⟩ rfl hl.1 rfl (Nat.le_of_ble_eq_true rfl) dX3_order_199 ⟨(Nat.le_of_ble_eq_true rfl), (Nat.le_of_ble_eq_true rfl)⟩) (fun r169 u H locs hp169 S => ?_)
                obtain ⟨u170, u171⟩ := u
                have hp169 : (r169 = chS pd L (s2I pd L i w) - nI 97 ∧ u170 = okI (s2I pd L i w) (okW pd L 97 104 (s2I pd L i w) (s2W pd L i w)) ∧ u171 = okW pd L 97 104 (s2I pd L i w) (s2W pd L i w)) := hp169
                have S : Sw G A s.heap [[(h0, .inr (3, [.ref q1, .ref q2, .int pasts, .ref q3, .ref q4, .ref q5, .int (nI L), .int known, .int there, .ref q6, .int (nI u170), .int (cI u171), .int (nI 116), .int (dgS pd L i w), .int first, .int second]))], [(q5, .inl (gA G 0, 80, .inl pd))]] _ _ := S
                rcases hp169 with ⟨hhp169_0, hhp169_1, hhp169_2⟩
                subst hhp169_0
                subst hhp169_1
                subst hhp169_2
                have S : Sw G A s.heap [[(h0, .inr (3, [.ref q1, .ref q2, .int pasts, .ref q3, .ref q4, .ref q5, .int (nI L), .int known, .int there, .ref q6, .int (nI (okI (s2I pd L i w) (okW pd L 97 104 (s2I pd L i w) (s2W pd L i w)))), .int (cI (okW pd L 97 104 (s2I pd L i w) (s2W pd L i w))), .int (nI 116), .int (dgS pd L i w), .int first, .int second]))], [(q5, .inl (gA G 0, 80, .inl pd))]] _ _ := S
                refine lv_goto (tgt := 206) hx hb dX3_order_202 (by decide) ?_
                refine lv_toe (y := fiS pd L i w) (by unfold fiS; rw [← hc]; first | (rw [if_pos (by decide)]; done) | (rw [if_neg (by decide)]; done) | (rw [if_neg (by assumption)]; done)) ?_
                refine m_put X S 0 rfl (T := TX3) (N := 16) in_X3 tyX3 tyX3_ok nmX3 rfl 14 (by decide) q1726 (fun _ h9 => h9) rfl rfl rfl (Nat.le_of_ble_eq_true rfl) dX3_order_206 (fun H locs S => ?_)
                have S : Sw G A s.heap [[(h0, .inr (3, [.ref q1, .ref q2, .int pasts, .ref q3, .ref q4, .ref q5, .int (nI L), .int known, .int there, .ref q6, .int (nI (okI (s2I pd L i w) (okW pd L 97 104 (s2I pd L i w) (s2W pd L i w)))), .int (cI (okW pd L 97 104 (s2I pd L i w) (s2W pd L i w))), .int (nI 116), .int (dgS pd L i w), .int (fiS pd L i w), .int second]))], [(q5, .inl (gA G 0, 80, .inl pd))]] _ _ := S
                have hE172 : nI (okI (s2I pd L i w) (okW pd L 97 104 (s2I pd L i w) (s2W pd L i w))) = nI (s3I pd L i w) := congrArg nI (by unfold s3I; rw [← hc]; first | (rw [if_pos (by decide)]; done) | (rw [if_neg (by decide)]; done) | (rw [if_neg (by assumption)]; done))
                have S := S.cong (congrArg (fun (zz : Int32) => ([[(h0, .inr (3, [.ref q1, .ref q2, .int pasts, .ref q3, .ref q4, .ref q5, .int (nI L), .int known, .int there, .ref q6, .int zz, .int (cI (okW pd L 97 104 (s2I pd L i w) (s2W pd L i w))), .int (nI 116), .int (dgS pd L i w), .int (fiS pd L i w), .int second]))], [(q5, .inl (gA G 0, 80, .inl pd))]] : List va_W)) hE172)
                have S : Sw G A s.heap [[(h0, .inr (3, [.ref q1, .ref q2, .int pasts, .ref q3, .ref q4, .ref q5, .int (nI L), .int known, .int there, .ref q6, .int (nI (s3I pd L i w)), .int (cI (okW pd L 97 104 (s2I pd L i w) (s2W pd L i w))), .int (nI 116), .int (dgS pd L i w), .int (fiS pd L i w), .int second]))], [(q5, .inl (gA G 0, 80, .inl pd))]] _ _ := S
                have hE173 : cI (okW pd L 97 104 (s2I pd L i w) (s2W pd L i w)) = cI (s3W pd L i w) := congrArg cI (by unfold s3W; rw [← hc]; first | (rw [if_pos (by decide)]; done) | (rw [if_neg (by decide)]; done) | (rw [if_neg (by assumption)]; done))
                have S := S.cong (congrArg (fun (zz : Int32) => ([[(h0, .inr (3, [.ref q1, .ref q2, .int pasts, .ref q3, .ref q4, .ref q5, .int (nI L), .int known, .int there, .ref q6, .int (nI (s3I pd L i w)), .int zz, .int (nI 116), .int (dgS pd L i w), .int (fiS pd L i w), .int second]))], [(q5, .inl (gA G 0, 80, .inl pd))]] : List va_W)) hE173)
                have S : Sw G A s.heap [[(h0, .inr (3, [.ref q1, .ref q2, .int pasts, .ref q3, .ref q4, .ref q5, .int (nI L), .int known, .int there, .ref q6, .int (nI (s3I pd L i w)), .int (cI (s3W pd L i w)), .int (nI 116), .int (dgS pd L i w), .int (fiS pd L i w), .int second]))], [(q5, .inl (gA G 0, 80, .inl pd))]] _ _ := S
                refine lv_aload_n hx hb dX3_order_209 rfl (lv_at hl 2 rfl) ?_
                refine lv_iload_n hx hb dX3_order_210 rfl (lv_at hl 1 rfl) ?_
                refine lv_if_eq (tgt := 225) hx hb dX3_order_211 (by decide) (fun c211_174 => ?_) (fun c211_174 => absurd (by decide) c211_174)
                refine lv_iconst (v := nI 0) hx hb dX3_order_225 (by decide) ?_
                refine lv_toe (y := seS pd L i w) (by unfold seS; rw [← hc]; first | (rw [if_pos (by decide)]; done) | (rw [if_neg (by decide)]; done) | (rw [if_neg (by assumption)]; done)) ?_
                refine m_put X S 0 rfl (T := TX3) (N := 16) in_X3 tyX3 tyX3_ok nmX3 rfl 15 (by decide) q1727 (fun _ h9 => h9) rfl rfl rfl (Nat.le_of_ble_eq_true rfl) dX3_order_226 (fun H locs S => ?_)
                have S : Sw G A s.heap [[(h0, .inr (3, [.ref q1, .ref q2, .int pasts, .ref q3, .ref q4, .ref q5, .int (nI L), .int known, .int there, .ref q6, .int (nI (s3I pd L i w)), .int (cI (s3W pd L i w)), .int (nI 116), .int (dgS pd L i w), .int (fiS pd L i w), .int (seS pd L i w)]))], [(q5, .inl (gA G 0, 80, .inl pd))]] _ _ := S
                have hE175 : nI (s3I pd L i w) = nI (s4I pd L i w) := congrArg nI (by unfold s4I; rw [← hc]; first | (rw [if_pos (by decide)]; done) | (rw [if_neg (by decide)]; done) | (rw [if_neg (by assumption)]; done))
                have S := S.cong (congrArg (fun (zz : Int32) => ([[(h0, .inr (3, [.ref q1, .ref q2, .int pasts, .ref q3, .ref q4, .ref q5, .int (nI L), .int known, .int there, .ref q6, .int zz, .int (cI (s3W pd L i w)), .int (nI 116), .int (dgS pd L i w), .int (fiS pd L i w), .int (seS pd L i w)]))], [(q5, .inl (gA G 0, 80, .inl pd))]] : List va_W)) hE175)
                have S : Sw G A s.heap [[(h0, .inr (3, [.ref q1, .ref q2, .int pasts, .ref q3, .ref q4, .ref q5, .int (nI L), .int known, .int there, .ref q6, .int (nI (s4I pd L i w)), .int (cI (s3W pd L i w)), .int (nI 116), .int (dgS pd L i w), .int (fiS pd L i w), .int (seS pd L i w)]))], [(q5, .inl (gA G 0, 80, .inl pd))]] _ _ := S
                have hE176 : cI (s3W pd L i w) = cI (s4W pd L i w) := congrArg cI (by unfold s4W; rw [← hc]; first | (rw [if_pos (by decide)]; done) | (rw [if_neg (by decide)]; done) | (rw [if_neg (by assumption)]; done))
                have S := S.cong (congrArg (fun (zz : Int32) => ([[(h0, .inr (3, [.ref q1, .ref q2, .int pasts, .ref q3, .ref q4, .ref q5, .int (nI L), .int known, .int there, .ref q6, .int (nI (s4I pd L i w)), .int zz, .int (nI 116), .int (dgS pd L i w), .int (fiS pd L i w), .int (seS pd L i w)]))], [(q5, .inl (gA G 0, 80, .inl pd))]] : List va_W)) hE176)
                have S : Sw G A s.heap [[(h0, .inr (3, [.ref q1, .ref q2, .int pasts, .ref q3, .ref q4, .ref q5, .int (nI L), .int known, .int there, .ref q6, .int (nI (s4I pd L i w)), .int (cI (s4W pd L i w)), .int (nI 116), .int (dgS pd L i w), .int (fiS pd L i w), .int (seS pd L i w)]))], [(q5, .inl (gA G 0, 80, .inl pd))]] _ _ := S
                have hE177 : (nI 116) = sgnS pd L i w := hc
                have S := S.cong (congrArg (fun (zz : Int32) => ([[(h0, .inr (3, [.ref q1, .ref q2, .int pasts, .ref q3, .ref q4, .ref q5, .int (nI L), .int known, .int there, .ref q6, .int (nI (s4I pd L i w)), .int (cI (s4W pd L i w)), .int zz, .int (dgS pd L i w), .int (fiS pd L i w), .int (seS pd L i w)]))], [(q5, .inl (gA G 0, 80, .inl pd))]] : List va_W)) hE177)
                have S : Sw G A s.heap [[(h0, .inr (3, [.ref q1, .ref q2, .int pasts, .ref q3, .ref q4, .ref q5, .int (nI L), .int known, .int there, .ref q6, .int (nI (s4I pd L i w)), .int (cI (s4W pd L i w)), .int (sgnS pd L i w), .int (dgS pd L i w), .int (fiS pd L i w), .int (seS pd L i w)]))], [(q5, .inl (gA G 0, 80, .inl pd))]] _ _ := S
                exact m_vret X hr hlk hQ S ⟨s4I pd L i w, s4W pd L i w, sgnS pd L i w, dgS pd L i w, fiS pd L i w, seS pd L i w⟩ (by show ((s4I pd L i w) = s4I pd L i w ∧ (s4W pd L i w) = s4W pd L i w ∧ (sgnS pd L i w) = sgnS pd L i w ∧ (dgS pd L i w) = dgS pd L i w ∧ (fiS pd L i w) = fiS pd L i w ∧ (seS pd L i w) = seS pd L i w); exact ⟨rfl, rfl, rfl, rfl, rfl, rfl⟩) [0, 1] [] (show ([0, 1] ++ ([] : List Nat)).isPerm (List.range 2) = true by decide +kernel) rfl (Nat.le_of_ble_eq_true rfl) (Nat.le_of_ble_eq_true rfl) dX3_order_229
            · skip
              have c87_141 : ¬ cc = (nI 116) := c87_141
              refine lv_aload_n hx hb dX3_order_90 rfl (lv_at hl 1 rfl) ?_
              refine m_get X S 0 rfl (T := TX3) (N := 16) in_X3 rfl 12 (by decide) q1724 (fun _ h9 => h9) rfl dX3_order_91 ?_
              refine lv_bipush (v := nI 100) hx hb dX3_order_94 (by decide) ?_
              refine lv_icmp_ne (tgt := 103) hx hb dX3_order_96 (by decide) (fun c96_178 => ?_) (fun c96_178 => ?_)
              · skip
                have c96_178 : ¬ cc = (nI 100) := c96_178
                have hon : ¬ oneP cc := oneP_n htw (by assumption) c96_178
                refine lv_iconst (v := nI 0) hx hb dX3_order_103 (by decide) ?_
                refine lv_istore_n (lv' := [(2, .int (nI 0)), (1, .int (nI 0)), (0, .ref h0)]) hx hb dX3_order_104 rfl hl (Nat.le_of_ble_eq_true rfl) rfl (fun ls hl => ?_)
                refine lv_aload_n hx hb dX3_order_105 rfl (lv_at hl 2 rfl) ?_
                refine lv_aload_n hx hb dX3_order_106 rfl (lv_at hl 2 rfl) ?_
                refine m_get X S 0 rfl (T := TX3) (N := 16) in_X3 rfl 11 (by decide) q1723 (fun _ h9 => h9) rfl dX3_order_107 ?_
                refine lv_if_ne (tgt := 135) hx hb dX3_order_110 (by decide) (fun c110_179 => ?_) (fun c110_179 => ?_)
                · skip
                  have c110_179 : ¬ (cI w) = (nI 0) := c110_179
                  have hwt : w = true := cI_n0.mp c110_179
                  refine lv_iconst (v := nI 1) hx hb dX3_order_135 (by decide) ?_
                  refine lv_goto (tgt := 140) hx hb dX3_order_136 (by decide) ?_
                  refine m_put X S 0 rfl (T := TX3) (N := 16) in_X3 tyX3 tyX3_ok nmX3 rfl 11 (by decide) q1723 (fun _ h9 => h9) rfl rfl rfl (Nat.le_of_ble_eq_true rfl) dX3_order_140 (fun H locs S => ?_)
                  have S : Sw G A s.heap [[(h0, .inr (3, [.ref q1, .ref q2, .int pasts, .ref q3, .ref q4, .ref q5, .int (nI L), .int known, .int there, .ref q6, .int (nI i), .int (nI 1), .int cc, .int digit, .int first, .int second]))], [(q5, .inl (gA G 0, 80, .inl pd))]] _ _ := S
                  refine lv_aload_n hx hb dX3_order_143 rfl (lv_at hl 2 rfl) ?_
                  refine lv_dup hx hb dX3_order_144 rfl ?_
                  refine m_get X S 0 rfl (T := TX3) (N := 16) in_X3 rfl 10 (by decide) q1722 (fun _ h9 => h9) rfl dX3_order_145 ?_
                  refine lv_aload_n hx hb dX3_order_148 rfl (lv_at hl 2 rfl) ?_
                  refine m_get X S 0 rfl (T := TX3) (N := 16) in_X3 rfl 11 (by decide) q1723 (fun _ h9 => h9) rfl dX3_order_149 ?_
                  refine lv_if_eq (tgt := 159) hx hb dX3_order_152 (by decide) (fun c152_180 => absurd c152_180 (by decide)) (fun c152_180 => ?_)
                  refine lv_iconst (v := nI 0) hx hb dX3_order_155 (by decide) ?_
                  refine lv_goto (tgt := 160) hx hb dX3_order_156 (by decide) ?_
                  refine lv_iadd hx hb dX3_order_160 ?_
                  refine lv_toe (y := nI i) (nI_add _ _) ?_
                  refine m_put X S 0 rfl (T := TX3) (N := 16) in_X3 tyX3 tyX3_ok nmX3 rfl 10 (by decide) q1722 (fun _ h9 => h9) rfl rfl rfl (Nat.le_of_ble_eq_true rfl) dX3_order_161 (fun H locs S => ?_)
                  have S : Sw G A s.heap [[(h0, .inr (3, [.ref q1, .ref q2, .int pasts, .ref q3, .ref q4, .ref q5, .int (nI L), .int known, .int there, .ref q6, .int (nI i), .int (nI 1), .int cc, .int digit, .int first, .int second]))], [(q5, .inl (gA G 0, 80, .inl pd))]] _ _ := S
                  have hs1 : s1W pd L i w = true := by first | exact s1W_w (by assumption) | exact s1W_n hc (by assumption) | exact s1W_y hc (by assumption) (by first | decide | exact Or.inr (Or.inl (by assumption)) | exact Or.inr (Or.inr (by assumption)))
                  have hE181 : nI i = nI (s1I pd L i w) := by unfold s1I; rw [hs1]; rfl
                  have S := S.cong (congrArg (fun (zz : Int32) => ([[(h0, .inr (3, [.ref q1, .ref q2, .int pasts, .ref q3, .ref q4, .ref q5, .int (nI L), .int known, .int there, .ref q6, .int zz, .int (nI 1), .int cc, .int digit, .int first, .int second]))], [(q5, .inl (gA G 0, 80, .inl pd))]] : List va_W)) hE181)
                  have S : Sw G A s.heap [[(h0, .inr (3, [.ref q1, .ref q2, .int pasts, .ref q3, .ref q4, .ref q5, .int (nI L), .int known, .int there, .ref q6, .int (nI (s1I pd L i w)), .int (nI 1), .int cc, .int digit, .int first, .int second]))], [(q5, .inl (gA G 0, 80, .inl pd))]] _ _ := S
                  have hE182 : nI 1 = cI (s1W pd L i w) := by rw [hs1]; rfl
                  have S := S.cong (congrArg (fun (zz : Int32) => ([[(h0, .inr (3, [.ref q1, .ref q2, .int pasts, .ref q3, .ref q4, .ref q5, .int (nI L), .int known, .int there, .ref q6, .int (nI (s1I pd L i w)), .int zz, .int cc, .int digit, .int first, .int second]))], [(q5, .inl (gA G 0, 80, .inl pd))]] : List va_W)) hE182)
                  have S : Sw G A s.heap [[(h0, .inr (3, [.ref q1, .ref q2, .int pasts, .ref q3, .ref q4, .ref q5, .int (nI L), .int known, .int there, .ref q6, .int (nI (s1I pd L i w)), .int (cI (s1W pd L i w)), .int cc, .int digit, .int first, .int second]))], [(q5, .inl (gA G 0, 80, .inl pd))]] _ _ := S
                  have hl1 := s1I_le (pd := pd) (w := w) hiL
                  have hl2 := s2I_le (pd := pd) (w := w) hiL
                  have hl3 := s3I_le (pd := pd) (w := w) hiL
                  refine lv_aload_n hx hb dX3_order_164 rfl (lv_at hl 2 rfl) ?_
                  refine lv_aload_n hx hb dX3_order_165 rfl (lv_at hl 2 rfl) ?_
                  refine m_get X S 0 rfl (T := TX3) (N := 16) in_X3 rfl 12 (by decide) q1724 (fun _ h9 => h9) rfl dX3_order_166 ?_
                  refine lv_bipush (v := nI 99) hx hb dX3_order_169 (by decide) ?_
                  refine lv_icmp_ne (tgt := 185) hx hb dX3_order_171 (by decide) (fun c171_183 => ?_) (fun c171_183 => ?_)
                  · skip
                    have c171_183 : ¬ cc = (nI 99) := c171_183
                    refine lv_iconst (v := nI 0) hx hb dX3_order_185 (by decide) ?_
                    refine lv_toe (y := dgS pd L i w) (by unfold dgS; rw [← hc]; first | (rw [if_pos (by decide)]; done) | (rw [if_neg (by decide)]; done) | (rw [if_neg (by assumption)]; done)) ?_
                    refine m_put X S 0 rfl (T := TX3) (N := 16) in_X3 tyX3 tyX3_ok nmX3 rfl 13 (by decide) q1725 (fun _ h9 => h9) rfl rfl rfl (Nat.le_of_ble_eq_true rfl) dX3_order_186 (fun H locs S => ?_)
                    have S : Sw G A s.heap [[(h0, .inr (3, [.ref q1, .ref q2, .int pasts, .ref q3, .ref q4, .ref q5, .int (nI L), .int known, .int there, .ref q6, .int (nI (s1I pd L i w)), .int (cI (s1W pd L i w)), .int cc, .int (dgS pd L i w), .int first, .int second]))], [(q5, .inl (gA G 0, 80, .inl pd))]] _ _ := S
                    have hE184 : nI (s1I pd L i w) = nI (s2I pd L i w) := congrArg nI (by unfold s2I; rw [← hc]; first | (rw [if_pos (by decide)]; done) | (rw [if_neg (by decide)]; done) | (rw [if_neg (by assumption)]; done))
                    have S := S.cong (congrArg (fun (zz : Int32) => ([[(h0, .inr (3, [.ref q1, .ref q2, .int pasts, .ref q3, .ref q4, .ref q5, .int (nI L), .int known, .int there, .ref q6, .int zz, .int (cI (s1W pd L i w)), .int cc, .int (dgS pd L i w), .int first, .int second]))], [(q5, .inl (gA G 0, 80, .inl pd))]] : List va_W)) hE184)
                    have S : Sw G A s.heap [[(h0, .inr (3, [.ref q1, .ref q2, .int pasts, .ref q3, .ref q4, .ref q5, .int (nI L), .int known, .int there, .ref q6, .int (nI (s2I pd L i w)), .int (cI (s1W pd L i w)), .int cc, .int (dgS pd L i w), .int first, .int second]))], [(q5, .inl (gA G 0, 80, .inl pd))]] _ _ := S
                    have hE185 : cI (s1W pd L i w) = cI (s2W pd L i w) := congrArg cI (by unfold s2W; rw [← hc]; first | (rw [if_pos (by decide)]; done) | (rw [if_neg (by decide)]; done) | (rw [if_neg (by assumption)]; done))
                    have S := S.cong (congrArg (fun (zz : Int32) => ([[(h0, .inr (3, [.ref q1, .ref q2, .int pasts, .ref q3, .ref q4, .ref q5, .int (nI L), .int known, .int there, .ref q6, .int (nI (s2I pd L i w)), .int zz, .int cc, .int (dgS pd L i w), .int first, .int second]))], [(q5, .inl (gA G 0, 80, .inl pd))]] : List va_W)) hE185)
                    have S : Sw G A s.heap [[(h0, .inr (3, [.ref q1, .ref q2, .int pasts, .ref q3, .ref q4, .ref q5, .int (nI L), .int known, .int there, .ref q6, .int (nI (s2I pd L i w)), .int (cI (s2W pd L i w)), .int cc, .int (dgS pd L i w), .int first, .int second]))], [(q5, .inl (gA G 0, 80, .inl pd))]] _ _ := S
                    refine lv_aload_n hx hb dX3_order_189 rfl (lv_at hl 2 rfl) ?_
                    refine lv_iload_n hx hb dX3_order_190 rfl (lv_at hl 0 rfl) ?_
                    refine lv_if_eq (tgt := 205) hx hb dX3_order_191 (by decide) (fun c191_186 => ?_) (fun c191_186 => absurd (by decide) c191_186)
                    refine lv_iconst (v := nI 0) hx hb dX3_order_205 (by decide) ?_
                    refine lv_toe (y := fiS pd L i w) (by unfold fiS; rw [← hc]; first | (rw [if_pos (by decide)]; done) | (rw [if_neg (by decide)]; done) | (rw [if_neg (by assumption)]; done)) ?_
                    refine m_put X S 0 rfl (T := TX3) (N := 16) in_X3 tyX3 tyX3_ok nmX3 rfl 14 (by decide) q1726 (fun _ h9 => h9) rfl rfl rfl (Nat.le_of_ble_eq_true rfl) dX3_order_206 (fun H locs S => ?_)
                    have S : Sw G A s.heap [[(h0, .inr (3, [.ref q1, .ref q2, .int pasts, .ref q3, .ref q4, .ref q5, .int (nI L), .int known, .int there, .ref q6, .int (nI (s2I pd L i w)), .int (cI (s2W pd L i w)), .int cc, .int (dgS pd L i w), .int (fiS pd L i w), .int second]))], [(q5, .inl (gA G 0, 80, .inl pd))]] _ _ := S
                    have hE187 : nI (s2I pd L i w) = nI (s3I pd L i w) := congrArg nI (by unfold s3I; rw [← hc]; first | (rw [if_pos (by decide)]; done) | (rw [if_neg (by decide)]; done) | (rw [if_neg (by assumption)]; done))
                    have S := S.cong (congrArg (fun (zz : Int32) => ([[(h0, .inr (3, [.ref q1, .ref q2, .int pasts, .ref q3, .ref q4, .ref q5, .int (nI L), .int known, .int there, .ref q6, .int zz, .int (cI (s2W pd L i w)), .int cc, .int (dgS pd L i w), .int (fiS pd L i w), .int second]))], [(q5, .inl (gA G 0, 80, .inl pd))]] : List va_W)) hE187)
                    have S : Sw G A s.heap [[(h0, .inr (3, [.ref q1, .ref q2, .int pasts, .ref q3, .ref q4, .ref q5, .int (nI L), .int known, .int there, .ref q6, .int (nI (s3I pd L i w)), .int (cI (s2W pd L i w)), .int cc, .int (dgS pd L i w), .int (fiS pd L i w), .int second]))], [(q5, .inl (gA G 0, 80, .inl pd))]] _ _ := S
                    have hE188 : cI (s2W pd L i w) = cI (s3W pd L i w) := congrArg cI (by unfold s3W; rw [← hc]; first | (rw [if_pos (by decide)]; done) | (rw [if_neg (by decide)]; done) | (rw [if_neg (by assumption)]; done))
                    have S := S.cong (congrArg (fun (zz : Int32) => ([[(h0, .inr (3, [.ref q1, .ref q2, .int pasts, .ref q3, .ref q4, .ref q5, .int (nI L), .int known, .int there, .ref q6, .int (nI (s3I pd L i w)), .int zz, .int cc, .int (dgS pd L i w), .int (fiS pd L i w), .int second]))], [(q5, .inl (gA G 0, 80, .inl pd))]] : List va_W)) hE188)
                    have S : Sw G A s.heap [[(h0, .inr (3, [.ref q1, .ref q2, .int pasts, .ref q3, .ref q4, .ref q5, .int (nI L), .int known, .int there, .ref q6, .int (nI (s3I pd L i w)), .int (cI (s3W pd L i w)), .int cc, .int (dgS pd L i w), .int (fiS pd L i w), .int second]))], [(q5, .inl (gA G 0, 80, .inl pd))]] _ _ := S
                    refine lv_aload_n hx hb dX3_order_209 rfl (lv_at hl 2 rfl) ?_
                    refine lv_iload_n hx hb dX3_order_210 rfl (lv_at hl 1 rfl) ?_
                    refine lv_if_eq (tgt := 225) hx hb dX3_order_211 (by decide) (fun c211_189 => ?_) (fun c211_189 => absurd (by decide) c211_189)
                    refine lv_iconst (v := nI 0) hx hb dX3_order_225 (by decide) ?_
                    refine lv_toe (y := seS pd L i w) (by unfold seS; rw [← hc]; first | (rw [if_pos (by decide)]; done) | (rw [if_neg (by decide)]; done) | (rw [if_neg (by assumption)]; done)) ?_
                    refine m_put X S 0 rfl (T := TX3) (N := 16) in_X3 tyX3 tyX3_ok nmX3 rfl 15 (by decide) q1727 (fun _ h9 => h9) rfl rfl rfl (Nat.le_of_ble_eq_true rfl) dX3_order_226 (fun H locs S => ?_)
                    have S : Sw G A s.heap [[(h0, .inr (3, [.ref q1, .ref q2, .int pasts, .ref q3, .ref q4, .ref q5, .int (nI L), .int known, .int there, .ref q6, .int (nI (s3I pd L i w)), .int (cI (s3W pd L i w)), .int cc, .int (dgS pd L i w), .int (fiS pd L i w), .int (seS pd L i w)]))], [(q5, .inl (gA G 0, 80, .inl pd))]] _ _ := S
                    have hE190 : nI (s3I pd L i w) = nI (s4I pd L i w) := congrArg nI (by unfold s4I; rw [← hc]; first | (rw [if_pos (by decide)]; done) | (rw [if_neg (by decide)]; done) | (rw [if_neg (by assumption)]; done))
                    have S := S.cong (congrArg (fun (zz : Int32) => ([[(h0, .inr (3, [.ref q1, .ref q2, .int pasts, .ref q3, .ref q4, .ref q5, .int (nI L), .int known, .int there, .ref q6, .int zz, .int (cI (s3W pd L i w)), .int cc, .int (dgS pd L i w), .int (fiS pd L i w), .int (seS pd L i w)]))], [(q5, .inl (gA G 0, 80, .inl pd))]] : List va_W)) hE190)
                    have S : Sw G A s.heap [[(h0, .inr (3, [.ref q1, .ref q2, .int pasts, .ref q3, .ref q4, .ref q5, .int (nI L), .int known, .int there, .ref q6, .int (nI (s4I pd L i w)), .int (cI (s3W pd L i w)), .int cc, .int (dgS pd L i w), .int (fiS pd L i w), .int (seS pd L i w)]))], [(q5, .inl (gA G 0, 80, .inl pd))]] _ _ := S
                    have hE191 : cI (s3W pd L i w) = cI (s4W pd L i w) := congrArg cI (by unfold s4W; rw [← hc]; first | (rw [if_pos (by decide)]; done) | (rw [if_neg (by decide)]; done) | (rw [if_neg (by assumption)]; done))
                    have S := S.cong (congrArg (fun (zz : Int32) => ([[(h0, .inr (3, [.ref q1, .ref q2, .int pasts, .ref q3, .ref q4, .ref q5, .int (nI L), .int known, .int there, .ref q6, .int (nI (s4I pd L i w)), .int zz, .int cc, .int (dgS pd L i w), .int (fiS pd L i w), .int (seS pd L i w)]))], [(q5, .inl (gA G 0, 80, .inl pd))]] : List va_W)) hE191)
                    have S : Sw G A s.heap [[(h0, .inr (3, [.ref q1, .ref q2, .int pasts, .ref q3, .ref q4, .ref q5, .int (nI L), .int known, .int there, .ref q6, .int (nI (s4I pd L i w)), .int (cI (s4W pd L i w)), .int cc, .int (dgS pd L i w), .int (fiS pd L i w), .int (seS pd L i w)]))], [(q5, .inl (gA G 0, 80, .inl pd))]] _ _ := S
                    have hE192 : cc = sgnS pd L i w := hc
                    have S := S.cong (congrArg (fun (zz : Int32) => ([[(h0, .inr (3, [.ref q1, .ref q2, .int pasts, .ref q3, .ref q4, .ref q5, .int (nI L), .int known, .int there, .ref q6, .int (nI (s4I pd L i w)), .int (cI (s4W pd L i w)), .int zz, .int (dgS pd L i w), .int (fiS pd L i w), .int (seS pd L i w)]))], [(q5, .inl (gA G 0, 80, .inl pd))]] : List va_W)) hE192)
                    have S : Sw G A s.heap [[(h0, .inr (3, [.ref q1, .ref q2, .int pasts, .ref q3, .ref q4, .ref q5, .int (nI L), .int known, .int there, .ref q6, .int (nI (s4I pd L i w)), .int (cI (s4W pd L i w)), .int (sgnS pd L i w), .int (dgS pd L i w), .int (fiS pd L i w), .int (seS pd L i w)]))], [(q5, .inl (gA G 0, 80, .inl pd))]] _ _ := S
                    exact m_vret X hr hlk hQ S ⟨s4I pd L i w, s4W pd L i w, sgnS pd L i w, dgS pd L i w, fiS pd L i w, seS pd L i w⟩ (by show ((s4I pd L i w) = s4I pd L i w ∧ (s4W pd L i w) = s4W pd L i w ∧ (sgnS pd L i w) = sgnS pd L i w ∧ (dgS pd L i w) = dgS pd L i w ∧ (fiS pd L i w) = fiS pd L i w ∧ (seS pd L i w) = seS pd L i w); exact ⟨rfl, rfl, rfl, rfl, rfl, rfl⟩) [0, 1] [] (show ([0, 1] ++ ([] : List Nat)).isPerm (List.range 2) = true by decide +kernel) rfl (Nat.le_of_ble_eq_true rfl) (Nat.le_of_ble_eq_true rfl) dX3_order_229
                  · skip
                    have c171_183 : cc = (nI 99) := c171_183
                    contradiction
                · skip
                  have c110_179 : (cI w) = (nI 0) := c110_179
                  have hwf : w = false := cI_0.mp c110_179
                  refine lv_iload_n hx hb dX3_order_113 rfl (lv_at hl 0 rfl) ?_
                  refine lv_if_ne (tgt := 139) hx hb dX3_order_114 (by decide) (fun c114_193 => absurd (by decide) c114_193) (fun c114_193 => ?_)
                  refine lv_aload_n hx hb dX3_order_117 rfl (lv_at hl 2 rfl) ?_
                  refine m_get X S 0 rfl (T := TX3) (N := 16) in_X3 rfl 12 (by decide) q1724 (fun _ h9 => h9) rfl dX3_order_118 ?_
                  refine lv_bipush (v := nI 98) hx hb dX3_order_121 (by decide) ?_
                  refine lv_icmp_eq (tgt := 139) hx hb dX3_order_123 (by decide) (fun c123_194 => ?_) (fun c123_194 => ?_)
                  · skip
                    have c123_194 : cc = (nI 98) := c123_194
                    have c123_194 : cc = nI 98 := c123_194
                    subst c123_194
                    refine lv_iconst (v := nI 0) hx hb dX3_order_139 (by decide) ?_
                    refine m_put X S 0 rfl (T := TX3) (N := 16) in_X3 tyX3 tyX3_ok nmX3 rfl 11 (by decide) q1723 (fun _ h9 => h9) rfl rfl rfl (Nat.le_of_ble_eq_true rfl) dX3_order_140 (fun H locs S => ?_)
                    have S : Sw G A s.heap [[(h0, .inr (3, [.ref q1, .ref q2, .int pasts, .ref q3, .ref q4, .ref q5, .int (nI L), .int known, .int there, .ref q6, .int (nI i), .int (nI 0), .int (nI 98), .int digit, .int first, .int second]))], [(q5, .inl (gA G 0, 80, .inl pd))]] _ _ := S
                    refine lv_aload_n hx hb dX3_order_143 rfl (lv_at hl 2 rfl) ?_
                    refine lv_dup hx hb dX3_order_144 rfl ?_
                    refine m_get X S 0 rfl (T := TX3) (N := 16) in_X3 rfl 10 (by decide) q1722 (fun _ h9 => h9) rfl dX3_order_145 ?_
                    refine lv_aload_n hx hb dX3_order_148 rfl (lv_at hl 2 rfl) ?_
                    refine m_get X S 0 rfl (T := TX3) (N := 16) in_X3 rfl 11 (by decide) q1723 (fun _ h9 => h9) rfl dX3_order_149 ?_
                    refine lv_if_eq (tgt := 159) hx hb dX3_order_152 (by decide) (fun c152_195 => ?_) (fun c152_195 => absurd (by decide) c152_195)
                    refine lv_iconst (v := nI 1) hx hb dX3_order_159 (by decide) ?_
                    refine lv_iadd hx hb dX3_order_160 ?_
                    refine lv_toe (y := nI (i + 1)) (nI_add _ _) ?_
                    refine m_put X S 0 rfl (T := TX3) (N := 16) in_X3 tyX3 tyX3_ok nmX3 rfl 10 (by decide) q1722 (fun _ h9 => h9) rfl rfl rfl (Nat.le_of_ble_eq_true rfl) dX3_order_161 (fun H locs S => ?_)
                    have S : Sw G A s.heap [[(h0, .inr (3, [.ref q1, .ref q2, .int pasts, .ref q3, .ref q4, .ref q5, .int (nI L), .int known, .int there, .ref q6, .int (nI (i + 1)), .int (nI 0), .int (nI 98), .int digit, .int first, .int second]))], [(q5, .inl (gA G 0, 80, .inl pd))]] _ _ := S
                    have hs1 : s1W pd L i w = false := by first | exact s1W_w (by assumption) | exact s1W_n hc (by assumption) | exact s1W_y hc (by assumption) (by first | decide | exact Or.inr (Or.inl (by assumption)) | exact Or.inr (Or.inr (by assumption)))
                    have hE196 : nI (i + 1) = nI (s1I pd L i w) := by unfold s1I; rw [hs1]; rfl
                    have S := S.cong (congrArg (fun (zz : Int32) => ([[(h0, .inr (3, [.ref q1, .ref q2, .int pasts, .ref q3, .ref q4, .ref q5, .int (nI L), .int known, .int there, .ref q6, .int zz, .int (nI 0), .int (nI 98), .int digit, .int first, .int second]))], [(q5, .inl (gA G 0, 80, .inl pd))]] : List va_W)) hE196)
                    have S : Sw G A s.heap [[(h0, .inr (3, [.ref q1, .ref q2, .int pasts, .ref q3, .ref q4, .ref q5, .int (nI L), .int known, .int there, .ref q6, .int (nI (s1I pd L i w)), .int (nI 0), .int (nI 98), .int digit, .int first, .int second]))], [(q5, .inl (gA G 0, 80, .inl pd))]] _ _ := S
                    have hE197 : nI 0 = cI (s1W pd L i w) := by rw [hs1]; rfl
                    have S := S.cong (congrArg (fun (zz : Int32) => ([[(h0, .inr (3, [.ref q1, .ref q2, .int pasts, .ref q3, .ref q4, .ref q5, .int (nI L), .int known, .int there, .ref q6, .int (nI (s1I pd L i w)), .int zz, .int (nI 98), .int digit, .int first, .int second]))], [(q5, .inl (gA G 0, 80, .inl pd))]] : List va_W)) hE197)
                    have S : Sw G A s.heap [[(h0, .inr (3, [.ref q1, .ref q2, .int pasts, .ref q3, .ref q4, .ref q5, .int (nI L), .int known, .int there, .ref q6, .int (nI (s1I pd L i w)), .int (cI (s1W pd L i w)), .int (nI 98), .int digit, .int first, .int second]))], [(q5, .inl (gA G 0, 80, .inl pd))]] _ _ := S
                    have hl1 := s1I_le (pd := pd) (w := w) hiL
                    have hl2 := s2I_le (pd := pd) (w := w) hiL
                    have hl3 := s3I_le (pd := pd) (w := w) hiL
                    refine lv_aload_n hx hb dX3_order_164 rfl (lv_at hl 2 rfl) ?_
                    refine lv_aload_n hx hb dX3_order_165 rfl (lv_at hl 2 rfl) ?_
                    refine m_get X S 0 rfl (T := TX3) (N := 16) in_X3 rfl 12 (by decide) q1724 (fun _ h9 => h9) rfl dX3_order_166 ?_
                    refine lv_bipush (v := nI 99) hx hb dX3_order_169 (by decide) ?_
                    refine lv_icmp_ne (tgt := 185) hx hb dX3_order_171 (by decide) (fun c171_198 => ?_) (fun c171_198 => absurd c171_198 (by decide))
                    refine lv_iconst (v := nI 0) hx hb dX3_order_185 (by decide) ?_
                    refine lv_toe (y := dgS pd L i w) (by unfold dgS; rw [← hc]; first | (rw [if_pos (by decide)]; done) | (rw [if_neg (by decide)]; done) | (rw [if_neg (by assumption)]; done)) ?_
                    refine m_put X S 0 rfl (T := TX3) (N := 16) in_X3 tyX3 tyX3_ok nmX3 rfl 13 (by decide) q1725 (fun _ h9 => h9) rfl rfl rfl (Nat.le_of_ble_eq_true rfl) dX3_order_186 (fun H locs S => ?_)
                    have S : Sw G A s.heap [[(h0, .inr (3, [.ref q1, .ref q2, .int pasts, .ref q3, .ref q4, .ref q5, .int (nI L), .int known, .int there, .ref q6, .int (nI (s1I pd L i w)), .int (cI (s1W pd L i w)), .int (nI 98), .int (dgS pd L i w), .int first, .int second]))], [(q5, .inl (gA G 0, 80, .inl pd))]] _ _ := S
                    have hE199 : nI (s1I pd L i w) = nI (s2I pd L i w) := congrArg nI (by unfold s2I; rw [← hc]; first | (rw [if_pos (by decide)]; done) | (rw [if_neg (by decide)]; done) | (rw [if_neg (by assumption)]; done))
                    have S := S.cong (congrArg (fun (zz : Int32) => ([[(h0, .inr (3, [.ref q1, .ref q2, .int pasts, .ref q3, .ref q4, .ref q5, .int (nI L), .int known, .int there, .ref q6, .int zz, .int (cI (s1W pd L i w)), .int (nI 98), .int (dgS pd L i w), .int first, .int second]))], [(q5, .inl (gA G 0, 80, .inl pd))]] : List va_W)) hE199)
                    have S : Sw G A s.heap [[(h0, .inr (3, [.ref q1, .ref q2, .int pasts, .ref q3, .ref q4, .ref q5, .int (nI L), .int known, .int there, .ref q6, .int (nI (s2I pd L i w)), .int (cI (s1W pd L i w)), .int (nI 98), .int (dgS pd L i w), .int first, .int second]))], [(q5, .inl (gA G 0, 80, .inl pd))]] _ _ := S
                    have hE200 : cI (s1W pd L i w) = cI (s2W pd L i w) := congrArg cI (by unfold s2W; rw [← hc]; first | (rw [if_pos (by decide)]; done) | (rw [if_neg (by decide)]; done) | (rw [if_neg (by assumption)]; done))
                    have S := S.cong (congrArg (fun (zz : Int32) => ([[(h0, .inr (3, [.ref q1, .ref q2, .int pasts, .ref q3, .ref q4, .ref q5, .int (nI L), .int known, .int there, .ref q6, .int (nI (s2I pd L i w)), .int zz, .int (nI 98), .int (dgS pd L i w), .int first, .int second]))], [(q5, .inl (gA G 0, 80, .inl pd))]] : List va_W)) hE200)
                    have S : Sw G A s.heap [[(h0, .inr (3, [.ref q1, .ref q2, .int pasts, .ref q3, .ref q4, .ref q5, .int (nI L), .int known, .int there, .ref q6, .int (nI (s2I pd L i w)), .int (cI (s2W pd L i w)), .int (nI 98), .int (dgS pd L i w), .int first, .int second]))], [(q5, .inl (gA G 0, 80, .inl pd))]] _ _ := S
                    refine lv_aload_n hx hb dX3_order_189 rfl (lv_at hl 2 rfl) ?_
                    refine lv_iload_n hx hb dX3_order_190 rfl (lv_at hl 0 rfl) ?_
                    refine lv_if_eq (tgt := 205) hx hb dX3_order_191 (by decide) (fun c191_201 => ?_) (fun c191_201 => absurd (by decide) c191_201)
                    refine lv_iconst (v := nI 0) hx hb dX3_order_205 (by decide) ?_
                    refine lv_toe (y := fiS pd L i w) (by unfold fiS; rw [← hc]; first | (rw [if_pos (by decide)]; done) | (rw [if_neg (by decide)]; done) | (rw [if_neg (by assumption)]; done)) ?_
                    refine m_put X S 0 rfl (T := TX3) (N := 16) in_X3 tyX3 tyX3_ok nmX3 rfl 14 (by decide) q1726 (fun _ h9 => h9) rfl rfl rfl (Nat.le_of_ble_eq_true rfl) dX3_order_206 (fun H locs S => ?_)
                    have S : Sw G A s.heap [[(h0, .inr (3, [.ref q1, .ref q2, .int pasts, .ref q3, .ref q4, .ref q5, .int (nI L), .int known, .int there, .ref q6, .int (nI (s2I pd L i w)), .int (cI (s2W pd L i w)), .int (nI 98), .int (dgS pd L i w), .int (fiS pd L i w), .int second]))], [(q5, .inl (gA G 0, 80, .inl pd))]] _ _ := S
                    have hE202 : nI (s2I pd L i w) = nI (s3I pd L i w) := congrArg nI (by unfold s3I; rw [← hc]; first | (rw [if_pos (by decide)]; done) | (rw [if_neg (by decide)]; done) | (rw [if_neg (by assumption)]; done))
                    have S := S.cong (congrArg (fun (zz : Int32) => ([[(h0, .inr (3, [.ref q1, .ref q2, .int pasts, .ref q3, .ref q4, .ref q5, .int (nI L), .int known, .int there, .ref q6, .int zz, .int (cI (s2W pd L i w)), .int (nI 98), .int (dgS pd L i w), .int (fiS pd L i w), .int second]))], [(q5, .inl (gA G 0, 80, .inl pd))]] : List va_W)) hE202)
                    have S : Sw G A s.heap [[(h0, .inr (3, [.ref q1, .ref q2, .int pasts, .ref q3, .ref q4, .ref q5, .int (nI L), .int known, .int there, .ref q6, .int (nI (s3I pd L i w)), .int (cI (s2W pd L i w)), .int (nI 98), .int (dgS pd L i w), .int (fiS pd L i w), .int second]))], [(q5, .inl (gA G 0, 80, .inl pd))]] _ _ := S
                    have hE203 : cI (s2W pd L i w) = cI (s3W pd L i w) := congrArg cI (by unfold s3W; rw [← hc]; first | (rw [if_pos (by decide)]; done) | (rw [if_neg (by decide)]; done) | (rw [if_neg (by assumption)]; done))
                    have S := S.cong (congrArg (fun (zz : Int32) => ([[(h0, .inr (3, [.ref q1, .ref q2, .int pasts, .ref q3, .ref q4, .ref q5, .int (nI L), .int known, .int there, .ref q6, .int (nI (s3I pd L i w)), .int zz, .int (nI 98), .int (dgS pd L i w), .int (fiS pd L i w), .int second]))], [(q5, .inl (gA G 0, 80, .inl pd))]] : List va_W)) hE203)
                    have S : Sw G A s.heap [[(h0, .inr (3, [.ref q1, .ref q2, .int pasts, .ref q3, .ref q4, .ref q5, .int (nI L), .int known, .int there, .ref q6, .int (nI (s3I pd L i w)), .int (cI (s3W pd L i w)), .int (nI 98), .int (dgS pd L i w), .int (fiS pd L i w), .int second]))], [(q5, .inl (gA G 0, 80, .inl pd))]] _ _ := S
                    refine lv_aload_n hx hb dX3_order_209 rfl (lv_at hl 2 rfl) ?_
                    refine lv_iload_n hx hb dX3_order_210 rfl (lv_at hl 1 rfl) ?_
                    refine lv_if_eq (tgt := 225) hx hb dX3_order_211 (by decide) (fun c211_204 => ?_) (fun c211_204 => absurd (by decide) c211_204)
                    refine lv_iconst (v := nI 0) hx hb dX3_order_225 (by decide) ?_
                    refine lv_toe (y := seS pd L i w) (by unfold seS; rw [← hc]; first | (rw [if_pos (by decide)]; done) | (rw [if_neg (by decide)]; done) | (rw [if_neg (by assumption)]; done)) ?_
                    refine m_put X S 0 rfl (T := TX3) (N := 16) in_X3 tyX3 tyX3_ok nmX3 rfl 15 (by decide) q1727 (fun _ h9 => h9) rfl rfl rfl (Nat.le_of_ble_eq_true rfl) dX3_order_226 (fun H locs S => ?_)
                    have S : Sw G A s.heap [[(h0, .inr (3, [.ref q1, .ref q2, .int pasts, .ref q3, .ref q4, .ref q5, .int (nI L), .int known, .int there, .ref q6, .int (nI (s3I pd L i w)), .int (cI (s3W pd L i w)), .int (nI 98), .int (dgS pd L i w), .int (fiS pd L i w), .int (seS pd L i w)]))], [(q5, .inl (gA G 0, 80, .inl pd))]] _ _ := S
                    have hE205 : nI (s3I pd L i w) = nI (s4I pd L i w) := congrArg nI (by unfold s4I; rw [← hc]; first | (rw [if_pos (by decide)]; done) | (rw [if_neg (by decide)]; done) | (rw [if_neg (by assumption)]; done))
                    have S := S.cong (congrArg (fun (zz : Int32) => ([[(h0, .inr (3, [.ref q1, .ref q2, .int pasts, .ref q3, .ref q4, .ref q5, .int (nI L), .int known, .int there, .ref q6, .int zz, .int (cI (s3W pd L i w)), .int (nI 98), .int (dgS pd L i w), .int (fiS pd L i w), .int (seS pd L i w)]))], [(q5, .inl (gA G 0, 80, .inl pd))]] : List va_W)) hE205)
                    have S : Sw G A s.heap [[(h0, .inr (3, [.ref q1, .ref q2, .int pasts, .ref q3, .ref q4, .ref q5, .int (nI L), .int known, .int there, .ref q6, .int (nI (s4I pd L i w)), .int (cI (s3W pd L i w)), .int (nI 98), .int (dgS pd L i w), .int (fiS pd L i w), .int (seS pd L i w)]))], [(q5, .inl (gA G 0, 80, .inl pd))]] _ _ := S
                    have hE206 : cI (s3W pd L i w) = cI (s4W pd L i w) := congrArg cI (by unfold s4W; rw [← hc]; first | (rw [if_pos (by decide)]; done) | (rw [if_neg (by decide)]; done) | (rw [if_neg (by assumption)]; done))
                    have S := S.cong (congrArg (fun (zz : Int32) => ([[(h0, .inr (3, [.ref q1, .ref q2, .int pasts, .ref q3, .ref q4, .ref q5, .int (nI L), .int known, .int there, .ref q6, .int (nI (s4I pd L i w)), .int zz, .int (nI 98), .int (dgS pd L i w), .int (fiS pd L i w), .int (seS pd L i w)]))], [(q5, .inl (gA G 0, 80, .inl pd))]] : List va_W)) hE206)
                    have S : Sw G A s.heap [[(h0, .inr (3, [.ref q1, .ref q2, .int pasts, .ref q3, .ref q4, .ref q5, .int (nI L), .int known, .int there, .ref q6, .int (nI (s4I pd L i w)), .int (cI (s4W pd L i w)), .int (nI 98), .int (dgS pd L i w), .int (fiS pd L i w), .int (seS pd L i w)]))], [(q5, .inl (gA G 0, 80, .inl pd))]] _ _ := S
                    have hE207 : nI 98 = sgnS pd L i w := hc
                    have S := S.cong (congrArg (fun (zz : Int32) => ([[(h0, .inr (3, [.ref q1, .ref q2, .int pasts, .ref q3, .ref q4, .ref q5, .int (nI L), .int known, .int there, .ref q6, .int (nI (s4I pd L i w)), .int (cI (s4W pd L i w)), .int zz, .int (dgS pd L i w), .int (fiS pd L i w), .int (seS pd L i w)]))], [(q5, .inl (gA G 0, 80, .inl pd))]] : List va_W)) hE207)
                    have S : Sw G A s.heap [[(h0, .inr (3, [.ref q1, .ref q2, .int pasts, .ref q3, .ref q4, .ref q5, .int (nI L), .int known, .int there, .ref q6, .int (nI (s4I pd L i w)), .int (cI (s4W pd L i w)), .int (sgnS pd L i w), .int (dgS pd L i w), .int (fiS pd L i w), .int (seS pd L i w)]))], [(q5, .inl (gA G 0, 80, .inl pd))]] _ _ := S
                    exact m_vret X hr hlk hQ S ⟨s4I pd L i w, s4W pd L i w, sgnS pd L i w, dgS pd L i w, fiS pd L i w, seS pd L i w⟩ (by show ((s4I pd L i w) = s4I pd L i w ∧ (s4W pd L i w) = s4W pd L i w ∧ (sgnS pd L i w) = sgnS pd L i w ∧ (dgS pd L i w) = dgS pd L i w ∧ (fiS pd L i w) = fiS pd L i w ∧ (seS pd L i w) = seS pd L i w); exact ⟨rfl, rfl, rfl, rfl, rfl, rfl⟩) [0, 1] [] (show ([0, 1] ++ ([] : List Nat)).isPerm (List.range 2) = true by decide +kernel) rfl (Nat.le_of_ble_eq_true rfl) (Nat.le_of_ble_eq_true rfl) dX3_order_229
                  · skip
                    have c123_194 : ¬ cc = (nI 98) := c123_194
                    refine lv_aload_n hx hb dX3_order_126 rfl (lv_at hl 2 rfl) ?_
                    refine m_get X S 0 rfl (T := TX3) (N := 16) in_X3 rfl 12 (by decide) q1724 (fun _ h9 => h9) rfl dX3_order_127 ?_
                    refine lv_bipush (v := nI 112) hx hb dX3_order_130 (by decide) ?_
                    refine lv_icmp_eq (tgt := 139) hx hb dX3_order_132 (by decide) (fun c132_208 => ?_) (fun c132_208 => ?_)
                    · skip
                      have c132_208 : cc = (nI 112) := c132_208
                      have c132_208 : cc = nI 112 := c132_208
                      subst c132_208
                      refine lv_iconst (v := nI 0) hx hb dX3_order_139 (by decide) ?_
                      refine m_put X S 0 rfl (T := TX3) (N := 16) in_X3 tyX3 tyX3_ok nmX3 rfl 11 (by decide) q1723 (fun _ h9 => h9) rfl rfl rfl (Nat.le_of_ble_eq_true rfl) dX3_order_140 (fun H locs S => ?_)
                      have S : Sw G A s.heap [[(h0, .inr (3, [.ref q1, .ref q2, .int pasts, .ref q3, .ref q4, .ref q5, .int (nI L), .int known, .int there, .ref q6, .int (nI i), .int (nI 0), .int (nI 112), .int digit, .int first, .int second]))], [(q5, .inl (gA G 0, 80, .inl pd))]] _ _ := S
                      refine lv_aload_n hx hb dX3_order_143 rfl (lv_at hl 2 rfl) ?_
                      refine lv_dup hx hb dX3_order_144 rfl ?_
                      refine m_get X S 0 rfl (T := TX3) (N := 16) in_X3 rfl 10 (by decide) q1722 (fun _ h9 => h9) rfl dX3_order_145 ?_
                      refine lv_aload_n hx hb dX3_order_148 rfl (lv_at hl 2 rfl) ?_
                      refine m_get X S 0 rfl (T := TX3) (N := 16) in_X3 rfl 11 (by decide) q1723 (fun _ h9 => h9) rfl dX3_order_149 ?_
                      refine lv_if_eq (tgt := 159) hx hb dX3_order_152 (by decide) (fun c152_209 => ?_) (fun c152_209 => absurd (by decide) c152_209)
                      refine lv_iconst (v := nI 1) hx hb dX3_order_159 (by decide) ?_
                      refine lv_iadd hx hb dX3_order_160 ?_
                      refine lv_toe (y := nI (i + 1)) (nI_add _ _) ?_
                      refine m_put X S 0 rfl (T := TX3) (N := 16) in_X3 tyX3 tyX3_ok nmX3 rfl 10 (by decide) q1722 (fun _ h9 => h9) rfl rfl rfl (Nat.le_of_ble_eq_true rfl) dX3_order_161 (fun H locs S => ?_)
                      have S : Sw G A s.heap [[(h0, .inr (3, [.ref q1, .ref q2, .int pasts, .ref q3, .ref q4, .ref q5, .int (nI L), .int known, .int there, .ref q6, .int (nI (i + 1)), .int (nI 0), .int (nI 112), .int digit, .int first, .int second]))], [(q5, .inl (gA G 0, 80, .inl pd))]] _ _ := S
                      have hs1 : s1W pd L i w = false := by first | exact s1W_w (by assumption) | exact s1W_n hc (by assumption) | exact s1W_y hc (by assumption) (by first | decide | exact Or.inr (Or.inl (by assumption)) | exact Or.inr (Or.inr (by assumption)))
                      have hE210 : nI (i + 1) = nI (s1I pd L i w) := by unfold s1I; rw [hs1]; rfl
                      have S := S.cong (congrArg (fun (zz : Int32) => ([[(h0, .inr (3, [.ref q1, .ref q2, .int pasts, .ref q3, .ref q4, .ref q5, .int (nI L), .int known, .int there, .ref q6, .int zz, .int (nI 0), .int (nI 112), .int digit, .int first, .int second]))], [(q5, .inl (gA G 0, 80, .inl pd))]] : List va_W)) hE210)
                      have S : Sw G A s.heap [[(h0, .inr (3, [.ref q1, .ref q2, .int pasts, .ref q3, .ref q4, .ref q5, .int (nI L), .int known, .int there, .ref q6, .int (nI (s1I pd L i w)), .int (nI 0), .int (nI 112), .int digit, .int first, .int second]))], [(q5, .inl (gA G 0, 80, .inl pd))]] _ _ := S
                      have hE211 : nI 0 = cI (s1W pd L i w) := by rw [hs1]; rfl
                      have S := S.cong (congrArg (fun (zz : Int32) => ([[(h0, .inr (3, [.ref q1, .ref q2, .int pasts, .ref q3, .ref q4, .ref q5, .int (nI L), .int known, .int there, .ref q6, .int (nI (s1I pd L i w)), .int zz, .int (nI 112), .int digit, .int first, .int second]))], [(q5, .inl (gA G 0, 80, .inl pd))]] : List va_W)) hE211)
                      have S : Sw G A s.heap [[(h0, .inr (3, [.ref q1, .ref q2, .int pasts, .ref q3, .ref q4, .ref q5, .int (nI L), .int known, .int there, .ref q6, .int (nI (s1I pd L i w)), .int (cI (s1W pd L i w)), .int (nI 112), .int digit, .int first, .int second]))], [(q5, .inl (gA G 0, 80, .inl pd))]] _ _ := S
                      have hl1 := s1I_le (pd := pd) (w := w) hiL
                      have hl2 := s2I_le (pd := pd) (w := w) hiL
                      have hl3 := s3I_le (pd := pd) (w := w) hiL
                      refine lv_aload_n hx hb dX3_order_164 rfl (lv_at hl 2 rfl) ?_
                      refine lv_aload_n hx hb dX3_order_165 rfl (lv_at hl 2 rfl) ?_
                      refine m_get X S 0 rfl (T := TX3) (N := 16) in_X3 rfl 12 (by decide) q1724 (fun _ h9 => h9) rfl dX3_order_166 ?_
                      refine lv_bipush (v := nI 99) hx hb dX3_order_169 (by decide) ?_
                      refine lv_icmp_ne (tgt := 185) hx hb dX3_order_171 (by decide) (fun c171_212 => ?_) (fun c171_212 => absurd c171_212 (by decide))
                      refine lv_iconst (v := nI 0) hx hb dX3_order_185 (by decide) ?_
                      refine lv_toe (y := dgS pd L i w) (by unfold dgS; rw [← hc]; first | (rw [if_pos (by decide)]; done) | (rw [if_neg (by decide)]; done) | (rw [if_neg (by assumption)]; done)) ?_
                      refine m_put X S 0 rfl (T := TX3) (N := 16) in_X3 tyX3 tyX3_ok nmX3 rfl 13 (by decide) q1725 (fun _ h9 => h9) rfl rfl rfl (Nat.le_of_ble_eq_true rfl) dX3_order_186 (fun H locs S => ?_)
                      have S : Sw G A s.heap [[(h0, .inr (3, [.ref q1, .ref q2, .int pasts, .ref q3, .ref q4, .ref q5, .int (nI L), .int known, .int there, .ref q6, .int (nI (s1I pd L i w)), .int (cI (s1W pd L i w)), .int (nI 112), .int (dgS pd L i w), .int first, .int second]))], [(q5, .inl (gA G 0, 80, .inl pd))]] _ _ := S
                      have hE213 : nI (s1I pd L i w) = nI (s2I pd L i w) := congrArg nI (by unfold s2I; rw [← hc]; first | (rw [if_pos (by decide)]; done) | (rw [if_neg (by decide)]; done) | (rw [if_neg (by assumption)]; done))
                      have S := S.cong (congrArg (fun (zz : Int32) => ([[(h0, .inr (3, [.ref q1, .ref q2, .int pasts, .ref q3, .ref q4, .ref q5, .int (nI L), .int known, .int there, .ref q6, .int zz, .int (cI (s1W pd L i w)), .int (nI 112), .int (dgS pd L i w), .int first, .int second]))], [(q5, .inl (gA G 0, 80, .inl pd))]] : List va_W)) hE213)
                      have S : Sw G A s.heap [[(h0, .inr (3, [.ref q1, .ref q2, .int pasts, .ref q3, .ref q4, .ref q5, .int (nI L), .int known, .int there, .ref q6, .int (nI (s2I pd L i w)), .int (cI (s1W pd L i w)), .int (nI 112), .int (dgS pd L i w), .int first, .int second]))], [(q5, .inl (gA G 0, 80, .inl pd))]] _ _ := S
                      have hE214 : cI (s1W pd L i w) = cI (s2W pd L i w) := congrArg cI (by unfold s2W; rw [← hc]; first | (rw [if_pos (by decide)]; done) | (rw [if_neg (by decide)]; done) | (rw [if_neg (by assumption)]; done))
                      have S := S.cong (congrArg (fun (zz : Int32) => ([[(h0, .inr (3, [.ref q1, .ref q2, .int pasts, .ref q3, .ref q4, .ref q5, .int (nI L), .int known, .int there, .ref q6, .int (nI (s2I pd L i w)), .int zz, .int (nI 112), .int (dgS pd L i w), .int first, .int second]))], [(q5, .inl (gA G 0, 80, .inl pd))]] : List va_W)) hE214)
                      have S : Sw G A s.heap [[(h0, .inr (3, [.ref q1, .ref q2, .int pasts, .ref q3, .ref q4, .ref q5, .int (nI L), .int known, .int there, .ref q6, .int (nI (s2I pd L i w)), .int (cI (s2W pd L i w)), .int (nI 112), .int (dgS pd L i w), .int first, .int second]))], [(q5, .inl (gA G 0, 80, .inl pd))]] _ _ := S
                      refine lv_aload_n hx hb dX3_order_189 rfl (lv_at hl 2 rfl) ?_
                      refine lv_iload_n hx hb dX3_order_190 rfl (lv_at hl 0 rfl) ?_
                      refine lv_if_eq (tgt := 205) hx hb dX3_order_191 (by decide) (fun c191_215 => ?_) (fun c191_215 => absurd (by decide) c191_215)
                      refine lv_iconst (v := nI 0) hx hb dX3_order_205 (by decide) ?_
                      refine lv_toe (y := fiS pd L i w) (by unfold fiS; rw [← hc]; first | (rw [if_pos (by decide)]; done) | (rw [if_neg (by decide)]; done) | (rw [if_neg (by assumption)]; done)) ?_
                      refine m_put X S 0 rfl (T := TX3) (N := 16) in_X3 tyX3 tyX3_ok nmX3 rfl 14 (by decide) q1726 (fun _ h9 => h9) rfl rfl rfl (Nat.le_of_ble_eq_true rfl) dX3_order_206 (fun H locs S => ?_)
                      have S : Sw G A s.heap [[(h0, .inr (3, [.ref q1, .ref q2, .int pasts, .ref q3, .ref q4, .ref q5, .int (nI L), .int known, .int there, .ref q6, .int (nI (s2I pd L i w)), .int (cI (s2W pd L i w)), .int (nI 112), .int (dgS pd L i w), .int (fiS pd L i w), .int second]))], [(q5, .inl (gA G 0, 80, .inl pd))]] _ _ := S
                      have hE216 : nI (s2I pd L i w) = nI (s3I pd L i w) := congrArg nI (by unfold s3I; rw [← hc]; first | (rw [if_pos (by decide)]; done) | (rw [if_neg (by decide)]; done) | (rw [if_neg (by assumption)]; done))
                      have S := S.cong (congrArg (fun (zz : Int32) => ([[(h0, .inr (3, [.ref q1, .ref q2, .int pasts, .ref q3, .ref q4, .ref q5, .int (nI L), .int known, .int there, .ref q6, .int zz, .int (cI (s2W pd L i w)), .int (nI 112), .int (dgS pd L i w), .int (fiS pd L i w), .int second]))], [(q5, .inl (gA G 0, 80, .inl pd))]] : List va_W)) hE216)
                      have S : Sw G A s.heap [[(h0, .inr (3, [.ref q1, .ref q2, .int pasts, .ref q3, .ref q4, .ref q5, .int (nI L), .int known, .int there, .ref q6, .int (nI (s3I pd L i w)), .int (cI (s2W pd L i w)), .int (nI 112), .int (dgS pd L i w), .int (fiS pd L i w), .int second]))], [(q5, .inl (gA G 0, 80, .inl pd))]] _ _ := S
                      have hE217 : cI (s2W pd L i w) = cI (s3W pd L i w) := congrArg cI (by unfold s3W; rw [← hc]; first | (rw [if_pos (by decide)]; done) | (rw [if_neg (by decide)]; done) | (rw [if_neg (by assumption)]; done))
                      have S := S.cong (congrArg (fun (zz : Int32) => ([[(h0, .inr (3, [.ref q1, .ref q2, .int pasts, .ref q3, .ref q4, .ref q5, .int (nI L), .int known, .int there, .ref q6, .int (nI (s3I pd L i w)), .int zz, .int (nI 112), .int (dgS pd L i w), .int (fiS pd L i w), .int second]))], [(q5, .inl (gA G 0, 80, .inl pd))]] : List va_W)) hE217)
                      have S : Sw G A s.heap [[(h0, .inr (3, [.ref q1, .ref q2, .int pasts, .ref q3, .ref q4, .ref q5, .int (nI L), .int known, .int there, .ref q6, .int (nI (s3I pd L i w)), .int (cI (s3W pd L i w)), .int (nI 112), .int (dgS pd L i w), .int (fiS pd L i w), .int second]))], [(q5, .inl (gA G 0, 80, .inl pd))]] _ _ := S
                      refine lv_aload_n hx hb dX3_order_209 rfl (lv_at hl 2 rfl) ?_
                      refine lv_iload_n hx hb dX3_order_210 rfl (lv_at hl 1 rfl) ?_
                      refine lv_if_eq (tgt := 225) hx hb dX3_order_211 (by decide) (fun c211_218 => ?_) (fun c211_218 => absurd (by decide) c211_218)
                      refine lv_iconst (v := nI 0) hx hb dX3_order_225 (by decide) ?_
                      refine lv_toe (y := seS pd L i w) (by unfold seS; rw [← hc]; first | (rw [if_pos (by decide)]; done) | (rw [if_neg (by decide)]; done) | (rw [if_neg (by assumption)]; done)) ?_
                      refine m_put X S 0 rfl (T := TX3) (N := 16) in_X3 tyX3 tyX3_ok nmX3 rfl 15 (by decide) q1727 (fun _ h9 => h9) rfl rfl rfl (Nat.le_of_ble_eq_true rfl) dX3_order_226 (fun H locs S => ?_)
                      have S : Sw G A s.heap [[(h0, .inr (3, [.ref q1, .ref q2, .int pasts, .ref q3, .ref q4, .ref q5, .int (nI L), .int known, .int there, .ref q6, .int (nI (s3I pd L i w)), .int (cI (s3W pd L i w)), .int (nI 112), .int (dgS pd L i w), .int (fiS pd L i w), .int (seS pd L i w)]))], [(q5, .inl (gA G 0, 80, .inl pd))]] _ _ := S
                      have hE219 : nI (s3I pd L i w) = nI (s4I pd L i w) := congrArg nI (by unfold s4I; rw [← hc]; first | (rw [if_pos (by decide)]; done) | (rw [if_neg (by decide)]; done) | (rw [if_neg (by assumption)]; done))
                      have S := S.cong (congrArg (fun (zz : Int32) => ([[(h0, .inr (3, [.ref q1, .ref q2, .int pasts, .ref q3, .ref q4, .ref q5, .int (nI L), .int known, .int there, .ref q6, .int zz, .int (cI (s3W pd L i w)), .int (nI 112), .int (dgS pd L i w), .int (fiS pd L i w), .int (seS pd L i w)]))], [(q5, .inl (gA G 0, 80, .inl pd))]] : List va_W)) hE219)
                      have S : Sw G A s.heap [[(h0, .inr (3, [.ref q1, .ref q2, .int pasts, .ref q3, .ref q4, .ref q5, .int (nI L), .int known, .int there, .ref q6, .int (nI (s4I pd L i w)), .int (cI (s3W pd L i w)), .int (nI 112), .int (dgS pd L i w), .int (fiS pd L i w), .int (seS pd L i w)]))], [(q5, .inl (gA G 0, 80, .inl pd))]] _ _ := S
                      have hE220 : cI (s3W pd L i w) = cI (s4W pd L i w) := congrArg cI (by unfold s4W; rw [← hc]; first | (rw [if_pos (by decide)]; done) | (rw [if_neg (by decide)]; done) | (rw [if_neg (by assumption)]; done))
                      have S := S.cong (congrArg (fun (zz : Int32) => ([[(h0, .inr (3, [.ref q1, .ref q2, .int pasts, .ref q3, .ref q4, .ref q5, .int (nI L), .int known, .int there, .ref q6, .int (nI (s4I pd L i w)), .int zz, .int (nI 112), .int (dgS pd L i w), .int (fiS pd L i w), .int (seS pd L i w)]))], [(q5, .inl (gA G 0, 80, .inl pd))]] : List va_W)) hE220)
                      have S : Sw G A s.heap [[(h0, .inr (3, [.ref q1, .ref q2, .int pasts, .ref q3, .ref q4, .ref q5, .int (nI L), .int known, .int there, .ref q6, .int (nI (s4I pd L i w)), .int (cI (s4W pd L i w)), .int (nI 112), .int (dgS pd L i w), .int (fiS pd L i w), .int (seS pd L i w)]))], [(q5, .inl (gA G 0, 80, .inl pd))]] _ _ := S
                      have hE221 : nI 112 = sgnS pd L i w := hc
                      have S := S.cong (congrArg (fun (zz : Int32) => ([[(h0, .inr (3, [.ref q1, .ref q2, .int pasts, .ref q3, .ref q4, .ref q5, .int (nI L), .int known, .int there, .ref q6, .int (nI (s4I pd L i w)), .int (cI (s4W pd L i w)), .int zz, .int (dgS pd L i w), .int (fiS pd L i w), .int (seS pd L i w)]))], [(q5, .inl (gA G 0, 80, .inl pd))]] : List va_W)) hE221)
                      have S : Sw G A s.heap [[(h0, .inr (3, [.ref q1, .ref q2, .int pasts, .ref q3, .ref q4, .ref q5, .int (nI L), .int known, .int there, .ref q6, .int (nI (s4I pd L i w)), .int (cI (s4W pd L i w)), .int (sgnS pd L i w), .int (dgS pd L i w), .int (fiS pd L i w), .int (seS pd L i w)]))], [(q5, .inl (gA G 0, 80, .inl pd))]] _ _ := S
                      exact m_vret X hr hlk hQ S ⟨s4I pd L i w, s4W pd L i w, sgnS pd L i w, dgS pd L i w, fiS pd L i w, seS pd L i w⟩ (by show ((s4I pd L i w) = s4I pd L i w ∧ (s4W pd L i w) = s4W pd L i w ∧ (sgnS pd L i w) = sgnS pd L i w ∧ (dgS pd L i w) = dgS pd L i w ∧ (fiS pd L i w) = fiS pd L i w ∧ (seS pd L i w) = seS pd L i w); exact ⟨rfl, rfl, rfl, rfl, rfl, rfl⟩) [0, 1] [] (show ([0, 1] ++ ([] : List Nat)).isPerm (List.range 2) = true by decide +kernel) rfl (Nat.le_of_ble_eq_true rfl) (Nat.le_of_ble_eq_true rfl) dX3_order_229
                    · skip
                      have c132_208 : ¬ cc = (nI 112) := c132_208
                      have hsg : ¬ sgP cc := sgP_n hon (by assumption) c132_208
                      refine lv_iconst (v := nI 1) hx hb dX3_order_135 (by decide) ?_
                      refine lv_goto (tgt := 140) hx hb dX3_order_136 (by decide) ?_
                      refine m_put X S 0 rfl (T := TX3) (N := 16) in_X3 tyX3 tyX3_ok nmX3 rfl 11 (by decide) q1723 (fun _ h9 => h9) rfl rfl rfl (Nat.le_of_ble_eq_true rfl) dX3_order_140 (fun H locs S => ?_)
                      have S : Sw G A s.heap [[(h0, .inr (3, [.ref q1, .ref q2, .int pasts, .ref q3, .ref q4, .ref q5, .int (nI L), .int known, .int there, .ref q6, .int (nI i), .int (nI 1), .int cc, .int digit, .int first, .int second]))], [(q5, .inl (gA G 0, 80, .inl pd))]] _ _ := S
                      refine lv_aload_n hx hb dX3_order_143 rfl (lv_at hl 2 rfl) ?_
                      refine lv_dup hx hb dX3_order_144 rfl ?_
                      refine m_get X S 0 rfl (T := TX3) (N := 16) in_X3 rfl 10 (by decide) q1722 (fun _ h9 => h9) rfl dX3_order_145 ?_
                      refine lv_aload_n hx hb dX3_order_148 rfl (lv_at hl 2 rfl) ?_
                      refine m_get X S 0 rfl (T := TX3) (N := 16) in_X3 rfl 11 (by decide) q1723 (fun _ h9 => h9) rfl dX3_order_149 ?_
                      refine lv_if_eq (tgt := 159) hx hb dX3_order_152 (by decide) (fun c152_222 => absurd c152_222 (by decide)) (fun c152_222 => ?_)
                      refine lv_iconst (v := nI 0) hx hb dX3_order_155 (by decide) ?_
                      refine lv_goto (tgt := 160) hx hb dX3_order_156 (by decide) ?_
                      refine lv_iadd hx hb dX3_order_160 ?_
                      refine lv_toe (y := nI i) (nI_add _ _) ?_
                      refine m_put X S 0 rfl (T := TX3) (N := 16) in_X3 tyX3 tyX3_ok nmX3 rfl 10 (by decide) q1722 (fun _ h9 => h9) rfl rfl rfl (Nat.le_of_ble_eq_true rfl) dX3_order_161 (fun H locs S => ?_)
                      have S : Sw G A s.heap [[(h0, .inr (3, [.ref q1, .ref q2, .int pasts, .ref q3, .ref q4, .ref q5, .int (nI L), .int known, .int there, .ref q6, .int (nI i), .int (nI 1), .int cc, .int digit, .int first, .int second]))], [(q5, .inl (gA G 0, 80, .inl pd))]] _ _ := S
                      have hs1 : s1W pd L i w = true := by first | exact s1W_w (by assumption) | exact s1W_n hc (by assumption) | exact s1W_y hc (by assumption) (by first | decide | exact Or.inr (Or.inl (by assumption)) | exact Or.inr (Or.inr (by assumption)))
                      have hE223 : nI i = nI (s1I pd L i w) := by unfold s1I; rw [hs1]; rfl
                      have S := S.cong (congrArg (fun (zz : Int32) => ([[(h0, .inr (3, [.ref q1, .ref q2, .int pasts, .ref q3, .ref q4, .ref q5, .int (nI L), .int known, .int there, .ref q6, .int zz, .int (nI 1), .int cc, .int digit, .int first, .int second]))], [(q5, .inl (gA G 0, 80, .inl pd))]] : List va_W)) hE223)
                      have S : Sw G A s.heap [[(h0, .inr (3, [.ref q1, .ref q2, .int pasts, .ref q3, .ref q4, .ref q5, .int (nI L), .int known, .int there, .ref q6, .int (nI (s1I pd L i w)), .int (nI 1), .int cc, .int digit, .int first, .int second]))], [(q5, .inl (gA G 0, 80, .inl pd))]] _ _ := S
                      have hE224 : nI 1 = cI (s1W pd L i w) := by rw [hs1]; rfl
                      have S := S.cong (congrArg (fun (zz : Int32) => ([[(h0, .inr (3, [.ref q1, .ref q2, .int pasts, .ref q3, .ref q4, .ref q5, .int (nI L), .int known, .int there, .ref q6, .int (nI (s1I pd L i w)), .int zz, .int cc, .int digit, .int first, .int second]))], [(q5, .inl (gA G 0, 80, .inl pd))]] : List va_W)) hE224)
                      have S : Sw G A s.heap [[(h0, .inr (3, [.ref q1, .ref q2, .int pasts, .ref q3, .ref q4, .ref q5, .int (nI L), .int known, .int there, .ref q6, .int (nI (s1I pd L i w)), .int (cI (s1W pd L i w)), .int cc, .int digit, .int first, .int second]))], [(q5, .inl (gA G 0, 80, .inl pd))]] _ _ := S
                      have hl1 := s1I_le (pd := pd) (w := w) hiL
                      have hl2 := s2I_le (pd := pd) (w := w) hiL
                      have hl3 := s3I_le (pd := pd) (w := w) hiL
                      refine lv_aload_n hx hb dX3_order_164 rfl (lv_at hl 2 rfl) ?_
                      refine lv_aload_n hx hb dX3_order_165 rfl (lv_at hl 2 rfl) ?_
                      refine m_get X S 0 rfl (T := TX3) (N := 16) in_X3 rfl 12 (by decide) q1724 (fun _ h9 => h9) rfl dX3_order_166 ?_
                      refine lv_bipush (v := nI 99) hx hb dX3_order_169 (by decide) ?_
                      refine lv_icmp_ne (tgt := 185) hx hb dX3_order_171 (by decide) (fun c171_225 => ?_) (fun c171_225 => ?_)
                      · skip
                        have c171_225 : ¬ cc = (nI 99) := c171_225
                        refine lv_iconst (v := nI 0) hx hb dX3_order_185 (by decide) ?_
                        refine lv_toe (y := dgS pd L i w) (by unfold dgS; rw [← hc]; first | (rw [if_pos (by decide)]; done) | (rw [if_neg (by decide)]; done) | (rw [if_neg (by assumption)]; done)) ?_
                        refine m_put X S 0 rfl (T := TX3) (N := 16) in_X3 tyX3 tyX3_ok nmX3 rfl 13 (by decide) q1725 (fun _ h9 => h9) rfl rfl rfl (Nat.le_of_ble_eq_true rfl) dX3_order_186 (fun H locs S => ?_)
                        have S : Sw G A s.heap [[(h0, .inr (3, [.ref q1, .ref q2, .int pasts, .ref q3, .ref q4, .ref q5, .int (nI L), .int known, .int there, .ref q6, .int (nI (s1I pd L i w)), .int (cI (s1W pd L i w)), .int cc, .int (dgS pd L i w), .int first, .int second]))], [(q5, .inl (gA G 0, 80, .inl pd))]] _ _ := S
                        have hE226 : nI (s1I pd L i w) = nI (s2I pd L i w) := congrArg nI (by unfold s2I; rw [← hc]; first | (rw [if_pos (by decide)]; done) | (rw [if_neg (by decide)]; done) | (rw [if_neg (by assumption)]; done))
                        have S := S.cong (congrArg (fun (zz : Int32) => ([[(h0, .inr (3, [.ref q1, .ref q2, .int pasts, .ref q3, .ref q4, .ref q5, .int (nI L), .int known, .int there, .ref q6, .int zz, .int (cI (s1W pd L i w)), .int cc, .int (dgS pd L i w), .int first, .int second]))], [(q5, .inl (gA G 0, 80, .inl pd))]] : List va_W)) hE226)
                        have S : Sw G A s.heap [[(h0, .inr (3, [.ref q1, .ref q2, .int pasts, .ref q3, .ref q4, .ref q5, .int (nI L), .int known, .int there, .ref q6, .int (nI (s2I pd L i w)), .int (cI (s1W pd L i w)), .int cc, .int (dgS pd L i w), .int first, .int second]))], [(q5, .inl (gA G 0, 80, .inl pd))]] _ _ := S
                        have hE227 : cI (s1W pd L i w) = cI (s2W pd L i w) := congrArg cI (by unfold s2W; rw [← hc]; first | (rw [if_pos (by decide)]; done) | (rw [if_neg (by decide)]; done) | (rw [if_neg (by assumption)]; done))
                        have S := S.cong (congrArg (fun (zz : Int32) => ([[(h0, .inr (3, [.ref q1, .ref q2, .int pasts, .ref q3, .ref q4, .ref q5, .int (nI L), .int known, .int there, .ref q6, .int (nI (s2I pd L i w)), .int zz, .int cc, .int (dgS pd L i w), .int first, .int second]))], [(q5, .inl (gA G 0, 80, .inl pd))]] : List va_W)) hE227)
                        have S : Sw G A s.heap [[(h0, .inr (3, [.ref q1, .ref q2, .int pasts, .ref q3, .ref q4, .ref q5, .int (nI L), .int known, .int there, .ref q6, .int (nI (s2I pd L i w)), .int (cI (s2W pd L i w)), .int cc, .int (dgS pd L i w), .int first, .int second]))], [(q5, .inl (gA G 0, 80, .inl pd))]] _ _ := S
                        refine lv_aload_n hx hb dX3_order_189 rfl (lv_at hl 2 rfl) ?_
                        refine lv_iload_n hx hb dX3_order_190 rfl (lv_at hl 0 rfl) ?_
                        refine lv_if_eq (tgt := 205) hx hb dX3_order_191 (by decide) (fun c191_228 => ?_) (fun c191_228 => absurd (by decide) c191_228)
                        refine lv_iconst (v := nI 0) hx hb dX3_order_205 (by decide) ?_
                        refine lv_toe (y := fiS pd L i w) (by unfold fiS; rw [← hc]; first | (rw [if_pos (by decide)]; done) | (rw [if_neg (by decide)]; done) | (rw [if_neg (by assumption)]; done)) ?_
                        refine m_put X S 0 rfl (T := TX3) (N := 16) in_X3 tyX3 tyX3_ok nmX3 rfl 14 (by decide) q1726 (fun _ h9 => h9) rfl rfl rfl (Nat.le_of_ble_eq_true rfl) dX3_order_206 (fun H locs S => ?_)
                        have S : Sw G A s.heap [[(h0, .inr (3, [.ref q1, .ref q2, .int pasts, .ref q3, .ref q4, .ref q5, .int (nI L), .int known, .int there, .ref q6, .int (nI (s2I pd L i w)), .int (cI (s2W pd L i w)), .int cc, .int (dgS pd L i w), .int (fiS pd L i w), .int second]))], [(q5, .inl (gA G 0, 80, .inl pd))]] _ _ := S
                        have hE229 : nI (s2I pd L i w) = nI (s3I pd L i w) := congrArg nI (by unfold s3I; rw [← hc]; first | (rw [if_pos (by decide)]; done) | (rw [if_neg (by decide)]; done) | (rw [if_neg (by assumption)]; done))
                        have S := S.cong (congrArg (fun (zz : Int32) => ([[(h0, .inr (3, [.ref q1, .ref q2, .int pasts, .ref q3, .ref q4, .ref q5, .int (nI L), .int known, .int there, .ref q6, .int zz, .int (cI (s2W pd L i w)), .int cc, .int (dgS pd L i w), .int (fiS pd L i w), .int second]))], [(q5, .inl (gA G 0, 80, .inl pd))]] : List va_W)) hE229)
                        have S : Sw G A s.heap [[(h0, .inr (3, [.ref q1, .ref q2, .int pasts, .ref q3, .ref q4, .ref q5, .int (nI L), .int known, .int there, .ref q6, .int (nI (s3I pd L i w)), .int (cI (s2W pd L i w)), .int cc, .int (dgS pd L i w), .int (fiS pd L i w), .int second]))], [(q5, .inl (gA G 0, 80, .inl pd))]] _ _ := S
                        have hE230 : cI (s2W pd L i w) = cI (s3W pd L i w) := congrArg cI (by unfold s3W; rw [← hc]; first | (rw [if_pos (by decide)]; done) | (rw [if_neg (by decide)]; done) | (rw [if_neg (by assumption)]; done))
                        have S := S.cong (congrArg (fun (zz : Int32) => ([[(h0, .inr (3, [.ref q1, .ref q2, .int pasts, .ref q3, .ref q4, .ref q5, .int (nI L), .int known, .int there, .ref q6, .int (nI (s3I pd L i w)), .int zz, .int cc, .int (dgS pd L i w), .int (fiS pd L i w), .int second]))], [(q5, .inl (gA G 0, 80, .inl pd))]] : List va_W)) hE230)
                        have S : Sw G A s.heap [[(h0, .inr (3, [.ref q1, .ref q2, .int pasts, .ref q3, .ref q4, .ref q5, .int (nI L), .int known, .int there, .ref q6, .int (nI (s3I pd L i w)), .int (cI (s3W pd L i w)), .int cc, .int (dgS pd L i w), .int (fiS pd L i w), .int second]))], [(q5, .inl (gA G 0, 80, .inl pd))]] _ _ := S
                        refine lv_aload_n hx hb dX3_order_209 rfl (lv_at hl 2 rfl) ?_
                        refine lv_iload_n hx hb dX3_order_210 rfl (lv_at hl 1 rfl) ?_
                        refine lv_if_eq (tgt := 225) hx hb dX3_order_211 (by decide) (fun c211_231 => ?_) (fun c211_231 => absurd (by decide) c211_231)
                        refine lv_iconst (v := nI 0) hx hb dX3_order_225 (by decide) ?_
                        refine lv_toe (y := seS pd L i w) (by unfold seS; rw [← hc]; first | (rw [if_pos (by decide)]; done) | (rw [if_neg (by decide)]; done) | (rw [if_neg (by assumption)]; done)) ?_
                        refine m_put X S 0 rfl (T := TX3) (N := 16) in_X3 tyX3 tyX3_ok nmX3 rfl 15 (by decide) q1727 (fun _ h9 => h9) rfl rfl rfl (Nat.le_of_ble_eq_true rfl) dX3_order_226 (fun H locs S => ?_)
                        have S : Sw G A s.heap [[(h0, .inr (3, [.ref q1, .ref q2, .int pasts, .ref q3, .ref q4, .ref q5, .int (nI L), .int known, .int there, .ref q6, .int (nI (s3I pd L i w)), .int (cI (s3W pd L i w)), .int cc, .int (dgS pd L i w), .int (fiS pd L i w), .int (seS pd L i w)]))], [(q5, .inl (gA G 0, 80, .inl pd))]] _ _ := S
                        have hE232 : nI (s3I pd L i w) = nI (s4I pd L i w) := congrArg nI (by unfold s4I; rw [← hc]; first | (rw [if_pos (by decide)]; done) | (rw [if_neg (by decide)]; done) | (rw [if_neg (by assumption)]; done))
                        have S := S.cong (congrArg (fun (zz : Int32) => ([[(h0, .inr (3, [.ref q1, .ref q2, .int pasts, .ref q3, .ref q4, .ref q5, .int (nI L), .int known, .int there, .ref q6, .int zz, .int (cI (s3W pd L i w)), .int cc, .int (dgS pd L i w), .int (fiS pd L i w), .int (seS pd L i w)]))], [(q5, .inl (gA G 0, 80, .inl pd))]] : List va_W)) hE232)
                        have S : Sw G A s.heap [[(h0, .inr (3, [.ref q1, .ref q2, .int pasts, .ref q3, .ref q4, .ref q5, .int (nI L), .int known, .int there, .ref q6, .int (nI (s4I pd L i w)), .int (cI (s3W pd L i w)), .int cc, .int (dgS pd L i w), .int (fiS pd L i w), .int (seS pd L i w)]))], [(q5, .inl (gA G 0, 80, .inl pd))]] _ _ := S
                        have hE233 : cI (s3W pd L i w) = cI (s4W pd L i w) := congrArg cI (by unfold s4W; rw [← hc]; first | (rw [if_pos (by decide)]; done) | (rw [if_neg (by decide)]; done) | (rw [if_neg (by assumption)]; done))
                        have S := S.cong (congrArg (fun (zz : Int32) => ([[(h0, .inr (3, [.ref q1, .ref q2, .int pasts, .ref q3, .ref q4, .ref q5, .int (nI L), .int known, .int there, .ref q6, .int (nI (s4I pd L i w)), .int zz, .int cc, .int (dgS pd L i w), .int (fiS pd L i w), .int (seS pd L i w)]))], [(q5, .inl (gA G 0, 80, .inl pd))]] : List va_W)) hE233)
                        have S : Sw G A s.heap [[(h0, .inr (3, [.ref q1, .ref q2, .int pasts, .ref q3, .ref q4, .ref q5, .int (nI L), .int known, .int there, .ref q6, .int (nI (s4I pd L i w)), .int (cI (s4W pd L i w)), .int cc, .int (dgS pd L i w), .int (fiS pd L i w), .int (seS pd L i w)]))], [(q5, .inl (gA G 0, 80, .inl pd))]] _ _ := S
                        have hE234 : cc = sgnS pd L i w := hc
                        have S := S.cong (congrArg (fun (zz : Int32) => ([[(h0, .inr (3, [.ref q1, .ref q2, .int pasts, .ref q3, .ref q4, .ref q5, .int (nI L), .int known, .int there, .ref q6, .int (nI (s4I pd L i w)), .int (cI (s4W pd L i w)), .int zz, .int (dgS pd L i w), .int (fiS pd L i w), .int (seS pd L i w)]))], [(q5, .inl (gA G 0, 80, .inl pd))]] : List va_W)) hE234)
                        have S : Sw G A s.heap [[(h0, .inr (3, [.ref q1, .ref q2, .int pasts, .ref q3, .ref q4, .ref q5, .int (nI L), .int known, .int there, .ref q6, .int (nI (s4I pd L i w)), .int (cI (s4W pd L i w)), .int (sgnS pd L i w), .int (dgS pd L i w), .int (fiS pd L i w), .int (seS pd L i w)]))], [(q5, .inl (gA G 0, 80, .inl pd))]] _ _ := S
                        exact m_vret X hr hlk hQ S ⟨s4I pd L i w, s4W pd L i w, sgnS pd L i w, dgS pd L i w, fiS pd L i w, seS pd L i w⟩ (by show ((s4I pd L i w) = s4I pd L i w ∧ (s4W pd L i w) = s4W pd L i w ∧ (sgnS pd L i w) = sgnS pd L i w ∧ (dgS pd L i w) = dgS pd L i w ∧ (fiS pd L i w) = fiS pd L i w ∧ (seS pd L i w) = seS pd L i w); exact ⟨rfl, rfl, rfl, rfl, rfl, rfl⟩) [0, 1] [] (show ([0, 1] ++ ([] : List Nat)).isPerm (List.range 2) = true by decide +kernel) rfl (Nat.le_of_ble_eq_true rfl) (Nat.le_of_ble_eq_true rfl) dX3_order_229
                      · skip
                        have c171_225 : cc = (nI 99) := c171_225
                        contradiction
              · skip
                have c96_178 : cc = (nI 100) := c96_178
                have c96_178 : cc = nI 100 := c96_178
                subst c96_178
                refine lv_iconst (v := nI 1) hx hb dX3_order_99 (by decide) ?_
                refine lv_goto (tgt := 104) hx hb dX3_order_100 (by decide) ?_
                refine lv_istore_n (lv' := [(2, .int (nI 1)), (1, .int (nI 0)), (0, .ref h0)]) hx hb dX3_order_104 rfl hl (Nat.le_of_ble_eq_true rfl) rfl (fun ls hl => ?_)
                refine lv_aload_n hx hb dX3_order_105 rfl (lv_at hl 2 rfl) ?_
                refine lv_aload_n hx hb dX3_order_106 rfl (lv_at hl 2 rfl) ?_
                refine m_get X S 0 rfl (T := TX3) (N := 16) in_X3 rfl 11 (by decide) q1723 (fun _ h9 => h9) rfl dX3_order_107 ?_
                refine lv_if_ne (tgt := 135) hx hb dX3_order_110 (by decide) (fun c110_235 => ?_) (fun c110_235 => ?_)
                · skip
                  have c110_235 : ¬ (cI w) = (nI 0) := c110_235
                  have hwt : w = true := cI_n0.mp c110_235
                  refine lv_iconst (v := nI 1) hx hb dX3_order_135 (by decide) ?_
                  refine lv_goto (tgt := 140) hx hb dX3_order_136 (by decide) ?_
                  refine m_put X S 0 rfl (T := TX3) (N := 16) in_X3 tyX3 tyX3_ok nmX3 rfl 11 (by decide) q1723 (fun _ h9 => h9) rfl rfl rfl (Nat.le_of_ble_eq_true rfl) dX3_order_140 (fun H locs S => ?_)
                  have S : Sw G A s.heap [[(h0, .inr (3, [.ref q1, .ref q2, .int pasts, .ref q3, .ref q4, .ref q5, .int (nI L), .int known, .int there, .ref q6, .int (nI i), .int (nI 1), .int (nI 100), .int digit, .int first, .int second]))], [(q5, .inl (gA G 0, 80, .inl pd))]] _ _ := S
                  refine lv_aload_n hx hb dX3_order_143 rfl (lv_at hl 2 rfl) ?_
                  refine lv_dup hx hb dX3_order_144 rfl ?_
                  refine m_get X S 0 rfl (T := TX3) (N := 16) in_X3 rfl 10 (by decide) q1722 (fun _ h9 => h9) rfl dX3_order_145 ?_
                  refine lv_aload_n hx hb dX3_order_148 rfl (lv_at hl 2 rfl) ?_
                  refine m_get X S 0 rfl (T := TX3) (N := 16) in_X3 rfl 11 (by decide) q1723 (fun _ h9 => h9) rfl dX3_order_149 ?_
                  refine lv_if_eq (tgt := 159) hx hb dX3_order_152 (by decide) (fun c152_236 => absurd c152_236 (by decide)) (fun c152_236 => ?_)
                  refine lv_iconst (v := nI 0) hx hb dX3_order_155 (by decide) ?_
                  refine lv_goto (tgt := 160) hx hb dX3_order_156 (by decide) ?_
                  refine lv_iadd hx hb dX3_order_160 ?_
                  refine lv_toe (y := nI i) (nI_add _ _) ?_
                  refine m_put X S 0 rfl (T := TX3) (N := 16) in_X3 tyX3 tyX3_ok nmX3 rfl 10 (by decide) q1722 (fun _ h9 => h9) rfl rfl rfl (Nat.le_of_ble_eq_true rfl) dX3_order_161 (fun H locs S => ?_)
                  have S : Sw G A s.heap [[(h0, .inr (3, [.ref q1, .ref q2, .int pasts, .ref q3, .ref q4, .ref q5, .int (nI L), .int known, .int there, .ref q6, .int (nI i), .int (nI 1), .int (nI 100), .int digit, .int first, .int second]))], [(q5, .inl (gA G 0, 80, .inl pd))]] _ _ := S
                  have hs1 : s1W pd L i w = true := by first | exact s1W_w (by assumption) | exact s1W_n hc (by assumption) | exact s1W_y hc (by assumption) (by first | decide | exact Or.inr (Or.inl (by assumption)) | exact Or.inr (Or.inr (by assumption)))
                  have hE237 : nI i = nI (s1I pd L i w) := by unfold s1I; rw [hs1]; rfl
                  have S := S.cong (congrArg (fun (zz : Int32) => ([[(h0, .inr (3, [.ref q1, .ref q2, .int pasts, .ref q3, .ref q4, .ref q5, .int (nI L), .int known, .int there, .ref q6, .int zz, .int (nI 1), .int (nI 100), .int digit, .int first, .int second]))], [(q5, .inl (gA G 0, 80, .inl pd))]] : List va_W)) hE237)
                  have S : Sw G A s.heap [[(h0, .inr (3, [.ref q1, .ref q2, .int pasts, .ref q3, .ref q4, .ref q5, .int (nI L), .int known, .int there, .ref q6, .int (nI (s1I pd L i w)), .int (nI 1), .int (nI 100), .int digit, .int first, .int second]))], [(q5, .inl (gA G 0, 80, .inl pd))]] _ _ := S
                  have hE238 : nI 1 = cI (s1W pd L i w) := by rw [hs1]; rfl
                  have S := S.cong (congrArg (fun (zz : Int32) => ([[(h0, .inr (3, [.ref q1, .ref q2, .int pasts, .ref q3, .ref q4, .ref q5, .int (nI L), .int known, .int there, .ref q6, .int (nI (s1I pd L i w)), .int zz, .int (nI 100), .int digit, .int first, .int second]))], [(q5, .inl (gA G 0, 80, .inl pd))]] : List va_W)) hE238)
                  have S : Sw G A s.heap [[(h0, .inr (3, [.ref q1, .ref q2, .int pasts, .ref q3, .ref q4, .ref q5, .int (nI L), .int known, .int there, .ref q6, .int (nI (s1I pd L i w)), .int (cI (s1W pd L i w)), .int (nI 100), .int digit, .int first, .int second]))], [(q5, .inl (gA G 0, 80, .inl pd))]] _ _ := S
                  have hl1 := s1I_le (pd := pd) (w := w) hiL
                  have hl2 := s2I_le (pd := pd) (w := w) hiL
                  have hl3 := s3I_le (pd := pd) (w := w) hiL
                  refine lv_aload_n hx hb dX3_order_164 rfl (lv_at hl 2 rfl) ?_
                  refine lv_aload_n hx hb dX3_order_165 rfl (lv_at hl 2 rfl) ?_
                  refine m_get X S 0 rfl (T := TX3) (N := 16) in_X3 rfl 12 (by decide) q1724 (fun _ h9 => h9) rfl dX3_order_166 ?_
                  refine lv_bipush (v := nI 99) hx hb dX3_order_169 (by decide) ?_
                  refine lv_icmp_ne (tgt := 185) hx hb dX3_order_171 (by decide) (fun c171_239 => ?_) (fun c171_239 => absurd c171_239 (by decide))
                  refine lv_iconst (v := nI 0) hx hb dX3_order_185 (by decide) ?_
                  refine lv_toe (y := dgS pd L i w) (by unfold dgS; rw [← hc]; first | (rw [if_pos (by decide)]; done) | (rw [if_neg (by decide)]; done) | (rw [if_neg (by assumption)]; done)) ?_
                  refine m_put X S 0 rfl (T := TX3) (N := 16) in_X3 tyX3 tyX3_ok nmX3 rfl 13 (by decide) q1725 (fun _ h9 => h9) rfl rfl rfl (Nat.le_of_ble_eq_true rfl) dX3_order_186 (fun H locs S => ?_)
                  have S : Sw G A s.heap [[(h0, .inr (3, [.ref q1, .ref q2, .int pasts, .ref q3, .ref q4, .ref q5, .int (nI L), .int known, .int there, .ref q6, .int (nI (s1I pd L i w)), .int (cI (s1W pd L i w)), .int (nI 100), .int (dgS pd L i w), .int first, .int second]))], [(q5, .inl (gA G 0, 80, .inl pd))]] _ _ := S
                  have hE240 : nI (s1I pd L i w) = nI (s2I pd L i w) := congrArg nI (by unfold s2I; rw [← hc]; first | (rw [if_pos (by decide)]; done) | (rw [if_neg (by decide)]; done) | (rw [if_neg (by assumption)]; done))
                  have S := S.cong (congrArg (fun (zz : Int32) => ([[(h0, .inr (3, [.ref q1, .ref q2, .int pasts, .ref q3, .ref q4, .ref q5, .int (nI L), .int known, .int there, .ref q6, .int zz, .int (cI (s1W pd L i w)), .int (nI 100), .int (dgS pd L i w), .int first, .int second]))], [(q5, .inl (gA G 0, 80, .inl pd))]] : List va_W)) hE240)
                  have S : Sw G A s.heap [[(h0, .inr (3, [.ref q1, .ref q2, .int pasts, .ref q3, .ref q4, .ref q5, .int (nI L), .int known, .int there, .ref q6, .int (nI (s2I pd L i w)), .int (cI (s1W pd L i w)), .int (nI 100), .int (dgS pd L i w), .int first, .int second]))], [(q5, .inl (gA G 0, 80, .inl pd))]] _ _ := S
                  have hE241 : cI (s1W pd L i w) = cI (s2W pd L i w) := congrArg cI (by unfold s2W; rw [← hc]; first | (rw [if_pos (by decide)]; done) | (rw [if_neg (by decide)]; done) | (rw [if_neg (by assumption)]; done))
                  have S := S.cong (congrArg (fun (zz : Int32) => ([[(h0, .inr (3, [.ref q1, .ref q2, .int pasts, .ref q3, .ref q4, .ref q5, .int (nI L), .int known, .int there, .ref q6, .int (nI (s2I pd L i w)), .int zz, .int (nI 100), .int (dgS pd L i w), .int first, .int second]))], [(q5, .inl (gA G 0, 80, .inl pd))]] : List va_W)) hE241)
                  have S : Sw G A s.heap [[(h0, .inr (3, [.ref q1, .ref q2, .int pasts, .ref q3, .ref q4, .ref q5, .int (nI L), .int known, .int there, .ref q6, .int (nI (s2I pd L i w)), .int (cI (s2W pd L i w)), .int (nI 100), .int (dgS pd L i w), .int first, .int second]))], [(q5, .inl (gA G 0, 80, .inl pd))]] _ _ := S
                  refine lv_aload_n hx hb dX3_order_189 rfl (lv_at hl 2 rfl) ?_
                  refine lv_iload_n hx hb dX3_order_190 rfl (lv_at hl 0 rfl) ?_
                  refine lv_if_eq (tgt := 205) hx hb dX3_order_191 (by decide) (fun c191_242 => absurd c191_242 (by decide)) (fun c191_242 => ?_)
                  refine lv_aload_n hx hb dX3_order_194 rfl (lv_at hl 2 rfl) ?_
                  refine lv_bipush (v := nI 97) hx hb dX3_order_195 (by decide) ?_
                  refine lv_bipush (v := nI 104) hx hb dX3_order_197 (by decide) ?_
                  have hq243 := S.cut (Bc := [[(h0, .inr (3, [.ref q1, .ref q2, .int pasts, .ref q3, .ref q4, .ref q5, .int (nI L), .int known, .int there, .ref q6, .int (nI (s2I pd L i w)), .int (cI (s2W pd L i w)), .int (nI 100), .int (dgS pd L i w), .int first, .int second]))], [(q5, .inl (gA G 0, 80, .inl pd))]]) (Br := []) [0, 1] [] (show ([0, 1] ++ ([] : List Nat)).isPerm (List.range 2) = true by decide +kernel) rfl rfl
                  refine m_ri X S hq243 (m_runV (rest := [.ref h0]) (As := [.int (nI 97), .int (nI 104)]) (n := 2) X S hq243 (mt_X3_within G l h0 q1 q2 q3 q4 q5 q6 pasts known there (nI 100) (dgS pd L i w) first second pd (s2I pd L i w) (s2W pd L i w) L 97 104 (by omega) (by omega)) (lw_V q1985 q1987 qs73 q90 q1988) (m_recv X S 0 rfl rfl) (by decide +kernel) ⟨Nat.le_of_ble_eq_true rfl, Nat.le_of_ble_eq_true rfl⟩ rfl hl.1 rfl (Nat.le_of_ble_eq_true rfl) dX3_order_199 ⟨(Nat.le_of_ble_eq_true rfl), (Nat.le_of_ble_eq_true rfl)⟩) (fun r244 u H locs hp244 S => ?_)
                  obtain ⟨u245, u246⟩ := u
                  have hp244 : (r244 = chS pd L (s2I pd L i w) - nI 97 ∧ u245 = okI (s2I pd L i w) (okW pd L 97 104 (s2I pd L i w) (s2W pd L i w)) ∧ u246 = okW pd L 97 104 (s2I pd L i w) (s2W pd L i w)) := hp244
                  have S : Sw G A s.heap [[(h0, .inr (3, [.ref q1, .ref q2, .int pasts, .ref q3, .ref q4, .ref q5, .int (nI L), .int known, .int there, .ref q6, .int (nI u245), .int (cI u246), .int (nI 100), .int (dgS pd L i w), .int first, .int second]))], [(q5, .inl (gA G 0, 80, .inl pd))]] _ _ := S
                  rcases hp244 with ⟨hhp244_0, hhp244_1, hhp244_2⟩
                  subst hhp244_0
                  subst hhp244_1
                  subst hhp244_2
                  have S : Sw G A s.heap [[(h0, .inr (3, [.ref q1, .ref q2, .int pasts, .ref q3, .ref q4, .ref q5, .int (nI L), .int known, .int there, .ref q6, .int (nI (okI (s2I pd L i w) (okW pd L 97 104 (s2I pd L i w) (s2W pd L i w)))), .int (cI (okW pd L 97 104 (s2I pd L i w) (s2W pd L i w))), .int (nI 100), .int (dgS pd L i w), .int first, .int second]))], [(q5, .inl (gA G 0, 80, .inl pd))]] _ _ := S
                  refine lv_goto (tgt := 206) hx hb dX3_order_202 (by decide) ?_
                  refine lv_toe (y := fiS pd L i w) (by unfold fiS; rw [← hc]; first | (rw [if_pos (by decide)]; done) | (rw [if_neg (by decide)]; done) | (rw [if_neg (by assumption)]; done)) ?_
                  refine m_put X S 0 rfl (T := TX3) (N := 16) in_X3 tyX3 tyX3_ok nmX3 rfl 14 (by decide) q1726 (fun _ h9 => h9) rfl rfl rfl (Nat.le_of_ble_eq_true rfl) dX3_order_206 (fun H locs S => ?_)
                  have S : Sw G A s.heap [[(h0, .inr (3, [.ref q1, .ref q2, .int pasts, .ref q3, .ref q4, .ref q5, .int (nI L), .int known, .int there, .ref q6, .int (nI (okI (s2I pd L i w) (okW pd L 97 104 (s2I pd L i w) (s2W pd L i w)))), .int (cI (okW pd L 97 104 (s2I pd L i w) (s2W pd L i w))), .int (nI 100), .int (dgS pd L i w), .int (fiS pd L i w), .int second]))], [(q5, .inl (gA G 0, 80, .inl pd))]] _ _ := S
                  have hE247 : nI (okI (s2I pd L i w) (okW pd L 97 104 (s2I pd L i w) (s2W pd L i w))) = nI (s3I pd L i w) := congrArg nI (by unfold s3I; rw [← hc]; first | (rw [if_pos (by decide)]; done) | (rw [if_neg (by decide)]; done) | (rw [if_neg (by assumption)]; done))
                  have S := S.cong (congrArg (fun (zz : Int32) => ([[(h0, .inr (3, [.ref q1, .ref q2, .int pasts, .ref q3, .ref q4, .ref q5, .int (nI L), .int known, .int there, .ref q6, .int zz, .int (cI (okW pd L 97 104 (s2I pd L i w) (s2W pd L i w))), .int (nI 100), .int (dgS pd L i w), .int (fiS pd L i w), .int second]))], [(q5, .inl (gA G 0, 80, .inl pd))]] : List va_W)) hE247)
                  have S : Sw G A s.heap [[(h0, .inr (3, [.ref q1, .ref q2, .int pasts, .ref q3, .ref q4, .ref q5, .int (nI L), .int known, .int there, .ref q6, .int (nI (s3I pd L i w)), .int (cI (okW pd L 97 104 (s2I pd L i w) (s2W pd L i w))), .int (nI 100), .int (dgS pd L i w), .int (fiS pd L i w), .int second]))], [(q5, .inl (gA G 0, 80, .inl pd))]] _ _ := S
                  have hE248 : cI (okW pd L 97 104 (s2I pd L i w) (s2W pd L i w)) = cI (s3W pd L i w) := congrArg cI (by unfold s3W; rw [← hc]; first | (rw [if_pos (by decide)]; done) | (rw [if_neg (by decide)]; done) | (rw [if_neg (by assumption)]; done))
                  have S := S.cong (congrArg (fun (zz : Int32) => ([[(h0, .inr (3, [.ref q1, .ref q2, .int pasts, .ref q3, .ref q4, .ref q5, .int (nI L), .int known, .int there, .ref q6, .int (nI (s3I pd L i w)), .int zz, .int (nI 100), .int (dgS pd L i w), .int (fiS pd L i w), .int second]))], [(q5, .inl (gA G 0, 80, .inl pd))]] : List va_W)) hE248)
                  have S : Sw G A s.heap [[(h0, .inr (3, [.ref q1, .ref q2, .int pasts, .ref q3, .ref q4, .ref q5, .int (nI L), .int known, .int there, .ref q6, .int (nI (s3I pd L i w)), .int (cI (s3W pd L i w)), .int (nI 100), .int (dgS pd L i w), .int (fiS pd L i w), .int second]))], [(q5, .inl (gA G 0, 80, .inl pd))]] _ _ := S
                  refine lv_aload_n hx hb dX3_order_209 rfl (lv_at hl 2 rfl) ?_
                  refine lv_iload_n hx hb dX3_order_210 rfl (lv_at hl 1 rfl) ?_
                  refine lv_if_eq (tgt := 225) hx hb dX3_order_211 (by decide) (fun c211_249 => ?_) (fun c211_249 => absurd (by decide) c211_249)
                  refine lv_iconst (v := nI 0) hx hb dX3_order_225 (by decide) ?_
                  refine lv_toe (y := seS pd L i w) (by unfold seS; rw [← hc]; first | (rw [if_pos (by decide)]; done) | (rw [if_neg (by decide)]; done) | (rw [if_neg (by assumption)]; done)) ?_
                  refine m_put X S 0 rfl (T := TX3) (N := 16) in_X3 tyX3 tyX3_ok nmX3 rfl 15 (by decide) q1727 (fun _ h9 => h9) rfl rfl rfl (Nat.le_of_ble_eq_true rfl) dX3_order_226 (fun H locs S => ?_)
                  have S : Sw G A s.heap [[(h0, .inr (3, [.ref q1, .ref q2, .int pasts, .ref q3, .ref q4, .ref q5, .int (nI L), .int known, .int there, .ref q6, .int (nI (s3I pd L i w)), .int (cI (s3W pd L i w)), .int (nI 100), .int (dgS pd L i w), .int (fiS pd L i w), .int (seS pd L i w)]))], [(q5, .inl (gA G 0, 80, .inl pd))]] _ _ := S
                  have hE250 : nI (s3I pd L i w) = nI (s4I pd L i w) := congrArg nI (by unfold s4I; rw [← hc]; first | (rw [if_pos (by decide)]; done) | (rw [if_neg (by decide)]; done) | (rw [if_neg (by assumption)]; done))
                  have S := S.cong (congrArg (fun (zz : Int32) => ([[(h0, .inr (3, [.ref q1, .ref q2, .int pasts, .ref q3, .ref q4, .ref q5, .int (nI L), .int known, .int there, .ref q6, .int zz, .int (cI (s3W pd L i w)), .int (nI 100), .int (dgS pd L i w), .int (fiS pd L i w), .int (seS pd L i w)]))], [(q5, .inl (gA G 0, 80, .inl pd))]] : List va_W)) hE250)
                  have S : Sw G A s.heap [[(h0, .inr (3, [.ref q1, .ref q2, .int pasts, .ref q3, .ref q4, .ref q5, .int (nI L), .int known, .int there, .ref q6, .int (nI (s4I pd L i w)), .int (cI (s3W pd L i w)), .int (nI 100), .int (dgS pd L i w), .int (fiS pd L i w), .int (seS pd L i w)]))], [(q5, .inl (gA G 0, 80, .inl pd))]] _ _ := S
                  have hE251 : cI (s3W pd L i w) = cI (s4W pd L i w) := congrArg cI (by unfold s4W; rw [← hc]; first | (rw [if_pos (by decide)]; done) | (rw [if_neg (by decide)]; done) | (rw [if_neg (by assumption)]; done))
                  have S := S.cong (congrArg (fun (zz : Int32) => ([[(h0, .inr (3, [.ref q1, .ref q2, .int pasts, .ref q3, .ref q4, .ref q5, .int (nI L), .int known, .int there, .ref q6, .int (nI (s4I pd L i w)), .int zz, .int (nI 100), .int (dgS pd L i w), .int (fiS pd L i w), .int (seS pd L i w)]))], [(q5, .inl (gA G 0, 80, .inl pd))]] : List va_W)) hE251)
                  have S : Sw G A s.heap [[(h0, .inr (3, [.ref q1, .ref q2, .int pasts, .ref q3, .ref q4, .ref q5, .int (nI L), .int known, .int there, .ref q6, .int (nI (s4I pd L i w)), .int (cI (s4W pd L i w)), .int (nI 100), .int (dgS pd L i w), .int (fiS pd L i w), .int (seS pd L i w)]))], [(q5, .inl (gA G 0, 80, .inl pd))]] _ _ := S
                  have hE252 : (nI 100) = sgnS pd L i w := hc
                  have S := S.cong (congrArg (fun (zz : Int32) => ([[(h0, .inr (3, [.ref q1, .ref q2, .int pasts, .ref q3, .ref q4, .ref q5, .int (nI L), .int known, .int there, .ref q6, .int (nI (s4I pd L i w)), .int (cI (s4W pd L i w)), .int zz, .int (dgS pd L i w), .int (fiS pd L i w), .int (seS pd L i w)]))], [(q5, .inl (gA G 0, 80, .inl pd))]] : List va_W)) hE252)
                  have S : Sw G A s.heap [[(h0, .inr (3, [.ref q1, .ref q2, .int pasts, .ref q3, .ref q4, .ref q5, .int (nI L), .int known, .int there, .ref q6, .int (nI (s4I pd L i w)), .int (cI (s4W pd L i w)), .int (sgnS pd L i w), .int (dgS pd L i w), .int (fiS pd L i w), .int (seS pd L i w)]))], [(q5, .inl (gA G 0, 80, .inl pd))]] _ _ := S
                  exact m_vret X hr hlk hQ S ⟨s4I pd L i w, s4W pd L i w, sgnS pd L i w, dgS pd L i w, fiS pd L i w, seS pd L i w⟩ (by show ((s4I pd L i w) = s4I pd L i w ∧ (s4W pd L i w) = s4W pd L i w ∧ (sgnS pd L i w) = sgnS pd L i w ∧ (dgS pd L i w) = dgS pd L i w ∧ (fiS pd L i w) = fiS pd L i w ∧ (seS pd L i w) = seS pd L i w); exact ⟨rfl, rfl, rfl, rfl, rfl, rfl⟩) [0, 1] [] (show ([0, 1] ++ ([] : List Nat)).isPerm (List.range 2) = true by decide +kernel) rfl (Nat.le_of_ble_eq_true rfl) (Nat.le_of_ble_eq_true rfl) dX3_order_229
                · skip
                  have c110_235 : (cI w) = (nI 0) := c110_235
                  have hwf : w = false := cI_0.mp c110_235
                  refine lv_iload_n hx hb dX3_order_113 rfl (lv_at hl 0 rfl) ?_
                  refine lv_if_ne (tgt := 139) hx hb dX3_order_114 (by decide) (fun c114_253 => ?_) (fun c114_253 => absurd c114_253 (by decide))
                  refine lv_iconst (v := nI 0) hx hb dX3_order_139 (by decide) ?_
                  refine m_put X S 0 rfl (T := TX3) (N := 16) in_X3 tyX3 tyX3_ok nmX3 rfl 11 (by decide) q1723 (fun _ h9 => h9) rfl rfl rfl (Nat.le_of_ble_eq_true rfl) dX3_order_140 (fun H locs S => ?_)
                  have S : Sw G A s.heap [[(h0, .inr (3, [.ref q1, .ref q2, .int pasts, .ref q3, .ref q4, .ref q5, .int (nI L), .int known, .int there, .ref q6, .int (nI i), .int (nI 0), .int (nI 100), .int digit, .int first, .int second]))], [(q5, .inl (gA G 0, 80, .inl pd))]] _ _ := S
                  refine lv_aload_n hx hb dX3_order_143 rfl (lv_at hl 2 rfl) ?_
                  refine lv_dup hx hb dX3_order_144 rfl ?_
                  refine m_get X S 0 rfl (T := TX3) (N := 16) in_X3 rfl 10 (by decide) q1722 (fun _ h9 => h9) rfl dX3_order_145 ?_
                  refine lv_aload_n hx hb dX3_order_148 rfl (lv_at hl 2 rfl) ?_
                  refine m_get X S 0 rfl (T := TX3) (N := 16) in_X3 rfl 11 (by decide) q1723 (fun _ h9 => h9) rfl dX3_order_149 ?_
                  refine lv_if_eq (tgt := 159) hx hb dX3_order_152 (by decide) (fun c152_254 => ?_) (fun c152_254 => absurd (by decide) c152_254)
                  refine lv_iconst (v := nI 1) hx hb dX3_order_159 (by decide) ?_
                  refine lv_iadd hx hb dX3_order_160 ?_
                  refine lv_toe (y := nI (i + 1)) (nI_add _ _) ?_
                  refine m_put X S 0 rfl (T := TX3) (N := 16) in_X3 tyX3 tyX3_ok nmX3 rfl 10 (by decide) q1722 (fun _ h9 => h9) rfl rfl rfl (Nat.le_of_ble_eq_true rfl) dX3_order_161 (fun H locs S => ?_)
                  have S : Sw G A s.heap [[(h0, .inr (3, [.ref q1, .ref q2, .int pasts, .ref q3, .ref q4, .ref q5, .int (nI L), .int known, .int there, .ref q6, .int (nI (i + 1)), .int (nI 0), .int (nI 100), .int digit, .int first, .int second]))], [(q5, .inl (gA G 0, 80, .inl pd))]] _ _ := S
                  have hs1 : s1W pd L i w = false := by first | exact s1W_w (by assumption) | exact s1W_n hc (by assumption) | exact s1W_y hc (by assumption) (by first | decide | exact Or.inr (Or.inl (by assumption)) | exact Or.inr (Or.inr (by assumption)))
                  have hE255 : nI (i + 1) = nI (s1I pd L i w) := by unfold s1I; rw [hs1]; rfl
                  have S := S.cong (congrArg (fun (zz : Int32) => ([[(h0, .inr (3, [.ref q1, .ref q2, .int pasts, .ref q3, .ref q4, .ref q5, .int (nI L), .int known, .int there, .ref q6, .int zz, .int (nI 0), .int (nI 100), .int digit, .int first, .int second]))], [(q5, .inl (gA G 0, 80, .inl pd))]] : List va_W)) hE255)
                  have S : Sw G A s.heap [[(h0, .inr (3, [.ref q1, .ref q2, .int pasts, .ref q3, .ref q4, .ref q5, .int (nI L), .int known, .int there, .ref q6, .int (nI (s1I pd L i w)), .int (nI 0), .int (nI 100), .int digit, .int first, .int second]))], [(q5, .inl (gA G 0, 80, .inl pd))]] _ _ := S
                  have hE256 : nI 0 = cI (s1W pd L i w) := by rw [hs1]; rfl
                  have S := S.cong (congrArg (fun (zz : Int32) => ([[(h0, .inr (3, [.ref q1, .ref q2, .int pasts, .ref q3, .ref q4, .ref q5, .int (nI L), .int known, .int there, .ref q6, .int (nI (s1I pd L i w)), .int zz, .int (nI 100), .int digit, .int first, .int second]))], [(q5, .inl (gA G 0, 80, .inl pd))]] : List va_W)) hE256)
                  have S : Sw G A s.heap [[(h0, .inr (3, [.ref q1, .ref q2, .int pasts, .ref q3, .ref q4, .ref q5, .int (nI L), .int known, .int there, .ref q6, .int (nI (s1I pd L i w)), .int (cI (s1W pd L i w)), .int (nI 100), .int digit, .int first, .int second]))], [(q5, .inl (gA G 0, 80, .inl pd))]] _ _ := S
                  have hl1 := s1I_le (pd := pd) (w := w) hiL
                  have hl2 := s2I_le (pd := pd) (w := w) hiL
                  have hl3 := s3I_le (pd := pd) (w := w) hiL
                  refine lv_aload_n hx hb dX3_order_164 rfl (lv_at hl 2 rfl) ?_
                  refine lv_aload_n hx hb dX3_order_165 rfl (lv_at hl 2 rfl) ?_
                  refine m_get X S 0 rfl (T := TX3) (N := 16) in_X3 rfl 12 (by decide) q1724 (fun _ h9 => h9) rfl dX3_order_166 ?_
                  refine lv_bipush (v := nI 99) hx hb dX3_order_169 (by decide) ?_
                  refine lv_icmp_ne (tgt := 185) hx hb dX3_order_171 (by decide) (fun c171_257 => ?_) (fun c171_257 => absurd c171_257 (by decide))
                  refine lv_iconst (v := nI 0) hx hb dX3_order_185 (by decide) ?_
                  refine lv_toe (y := dgS pd L i w) (by unfold dgS; rw [← hc]; first | (rw [if_pos (by decide)]; done) | (rw [if_neg (by decide)]; done) | (rw [if_neg (by assumption)]; done)) ?_
                  refine m_put X S 0 rfl (T := TX3) (N := 16) in_X3 tyX3 tyX3_ok nmX3 rfl 13 (by decide) q1725 (fun _ h9 => h9) rfl rfl rfl (Nat.le_of_ble_eq_true rfl) dX3_order_186 (fun H locs S => ?_)
                  have S : Sw G A s.heap [[(h0, .inr (3, [.ref q1, .ref q2, .int pasts, .ref q3, .ref q4, .ref q5, .int (nI L), .int known, .int there, .ref q6, .int (nI (s1I pd L i w)), .int (cI (s1W pd L i w)), .int (nI 100), .int (dgS pd L i w), .int first, .int second]))], [(q5, .inl (gA G 0, 80, .inl pd))]] _ _ := S
                  have hE258 : nI (s1I pd L i w) = nI (s2I pd L i w) := congrArg nI (by unfold s2I; rw [← hc]; first | (rw [if_pos (by decide)]; done) | (rw [if_neg (by decide)]; done) | (rw [if_neg (by assumption)]; done))
                  have S := S.cong (congrArg (fun (zz : Int32) => ([[(h0, .inr (3, [.ref q1, .ref q2, .int pasts, .ref q3, .ref q4, .ref q5, .int (nI L), .int known, .int there, .ref q6, .int zz, .int (cI (s1W pd L i w)), .int (nI 100), .int (dgS pd L i w), .int first, .int second]))], [(q5, .inl (gA G 0, 80, .inl pd))]] : List va_W)) hE258)
                  have S : Sw G A s.heap [[(h0, .inr (3, [.ref q1, .ref q2, .int pasts, .ref q3, .ref q4, .ref q5, .int (nI L), .int known, .int there, .ref q6, .int (nI (s2I pd L i w)), .int (cI (s1W pd L i w)), .int (nI 100), .int (dgS pd L i w), .int first, .int second]))], [(q5, .inl (gA G 0, 80, .inl pd))]] _ _ := S
                  have hE259 : cI (s1W pd L i w) = cI (s2W pd L i w) := congrArg cI (by unfold s2W; rw [← hc]; first | (rw [if_pos (by decide)]; done) | (rw [if_neg (by decide)]; done) | (rw [if_neg (by assumption)]; done))
                  have S := S.cong (congrArg (fun (zz : Int32) => ([[(h0, .inr (3, [.ref q1, .ref q2, .int pasts, .ref q3, .ref q4, .ref q5, .int (nI L), .int known, .int there, .ref q6, .int (nI (s2I pd L i w)), .int zz, .int (nI 100), .int (dgS pd L i w), .int first, .int second]))], [(q5, .inl (gA G 0, 80, .inl pd))]] : List va_W)) hE259)
                  have S : Sw G A s.heap [[(h0, .inr (3, [.ref q1, .ref q2, .int pasts, .ref q3, .ref q4, .ref q5, .int (nI L), .int known, .int there, .ref q6, .int (nI (s2I pd L i w)), .int (cI (s2W pd L i w)), .int (nI 100), .int (dgS pd L i w), .int first, .int second]))], [(q5, .inl (gA G 0, 80, .inl pd))]] _ _ := S
                  refine lv_aload_n hx hb dX3_order_189 rfl (lv_at hl 2 rfl) ?_
                  refine lv_iload_n hx hb dX3_order_190 rfl (lv_at hl 0 rfl) ?_
                  refine lv_if_eq (tgt := 205) hx hb dX3_order_191 (by decide) (fun c191_260 => absurd c191_260 (by decide)) (fun c191_260 => ?_)
                  refine lv_aload_n hx hb dX3_order_194 rfl (lv_at hl 2 rfl) ?_
                  refine lv_bipush (v := nI 97) hx hb dX3_order_195 (by decide) ?_
                  refine lv_bipush (v := nI 104) hx hb dX3_order_197 (by decide) ?_
                  have hq261 := S.cut (Bc := [[(h0, .inr (3, [.ref q1, .ref q2, .int pasts, .ref q3, .ref q4, .ref q5, .int (nI L), .int known, .int there, .ref q6, .int (nI (s2I pd L i w)), .int (cI (s2W pd L i w)), .int (nI 100), .int (dgS pd L i w), .int first, .int second]))], [(q5, .inl (gA G 0, 80, .inl pd))]]) (Br := []) [0, 1] [] (show ([0, 1] ++ ([] : List Nat)).isPerm (List.range 2) = true by decide +kernel) rfl rfl
                  refine m_ri X S hq261 (m_runV (rest := [.ref h0]) (As := [.int (nI 97), .int (nI 104)]) (n := 2) X S hq261 (mt_X3_within G l h0 q1 q2 q3 q4 q5 q6 pasts known there (nI 100) (dgS pd L i w) first second pd (s2I pd L i w) (s2W pd L i w) L 97 104 (by omega) (by omega)) (lw_V q1985 q1987 qs73 q90 q1988) (m_recv X S 0 rfl rfl) (by decide +kernel) ⟨Nat.le_of_ble_eq_true rfl, Nat.le_of_ble_eq_true rfl⟩ rfl hl.1 rfl (Nat.le_of_ble_eq_true rfl) dX3_order_199 ⟨(Nat.le_of_ble_eq_true rfl), (Nat.le_of_ble_eq_true rfl)⟩) (fun r262 u H locs hp262 S => ?_)
                  obtain ⟨u263, u264⟩ := u
                  have hp262 : (r262 = chS pd L (s2I pd L i w) - nI 97 ∧ u263 = okI (s2I pd L i w) (okW pd L 97 104 (s2I pd L i w) (s2W pd L i w)) ∧ u264 = okW pd L 97 104 (s2I pd L i w) (s2W pd L i w)) := hp262
                  have S : Sw G A s.heap [[(h0, .inr (3, [.ref q1, .ref q2, .int pasts, .ref q3, .ref q4, .ref q5, .int (nI L), .int known, .int there, .ref q6, .int (nI u263), .int (cI u264), .int (nI 100), .int (dgS pd L i w), .int first, .int second]))], [(q5, .inl (gA G 0, 80, .inl pd))]] _ _ := S
                  rcases hp262 with ⟨hhp262_0, hhp262_1, hhp262_2⟩
                  subst hhp262_0
                  subst hhp262_1
                  subst hhp262_2
                  have S : Sw G A s.heap [[(h0, .inr (3, [.ref q1, .ref q2, .int pasts, .ref q3, .ref q4, .ref q5, .int (nI L), .int known, .int there, .ref q6, .int (nI (okI (s2I pd L i w) (okW pd L 97 104 (s2I pd L i w) (s2W pd L i w)))), .int (cI (okW pd L 97 104 (s2I pd L i w) (s2W pd L i w))), .int (nI 100), .int (dgS pd L i w), .int first, .int second]))], [(q5, .inl (gA G 0, 80, .inl pd))]] _ _ := S
                  refine lv_goto (tgt := 206) hx hb dX3_order_202 (by decide) ?_
                  refine lv_toe (y := fiS pd L i w) (by unfold fiS; rw [← hc]; first | (rw [if_pos (by decide)]; done) | (rw [if_neg (by decide)]; done) | (rw [if_neg (by assumption)]; done)) ?_
                  refine m_put X S 0 rfl (T := TX3) (N := 16) in_X3 tyX3 tyX3_ok nmX3 rfl 14 (by decide) q1726 (fun _ h9 => h9) rfl rfl rfl (Nat.le_of_ble_eq_true rfl) dX3_order_206 (fun H locs S => ?_)
                  have S : Sw G A s.heap [[(h0, .inr (3, [.ref q1, .ref q2, .int pasts, .ref q3, .ref q4, .ref q5, .int (nI L), .int known, .int there, .ref q6, .int (nI (okI (s2I pd L i w) (okW pd L 97 104 (s2I pd L i w) (s2W pd L i w)))), .int (cI (okW pd L 97 104 (s2I pd L i w) (s2W pd L i w))), .int (nI 100), .int (dgS pd L i w), .int (fiS pd L i w), .int second]))], [(q5, .inl (gA G 0, 80, .inl pd))]] _ _ := S
                  have hE265 : nI (okI (s2I pd L i w) (okW pd L 97 104 (s2I pd L i w) (s2W pd L i w))) = nI (s3I pd L i w) := congrArg nI (by unfold s3I; rw [← hc]; first | (rw [if_pos (by decide)]; done) | (rw [if_neg (by decide)]; done) | (rw [if_neg (by assumption)]; done))
                  have S := S.cong (congrArg (fun (zz : Int32) => ([[(h0, .inr (3, [.ref q1, .ref q2, .int pasts, .ref q3, .ref q4, .ref q5, .int (nI L), .int known, .int there, .ref q6, .int zz, .int (cI (okW pd L 97 104 (s2I pd L i w) (s2W pd L i w))), .int (nI 100), .int (dgS pd L i w), .int (fiS pd L i w), .int second]))], [(q5, .inl (gA G 0, 80, .inl pd))]] : List va_W)) hE265)
                  have S : Sw G A s.heap [[(h0, .inr (3, [.ref q1, .ref q2, .int pasts, .ref q3, .ref q4, .ref q5, .int (nI L), .int known, .int there, .ref q6, .int (nI (s3I pd L i w)), .int (cI (okW pd L 97 104 (s2I pd L i w) (s2W pd L i w))), .int (nI 100), .int (dgS pd L i w), .int (fiS pd L i w), .int second]))], [(q5, .inl (gA G 0, 80, .inl pd))]] _ _ := S
                  have hE266 : cI (okW pd L 97 104 (s2I pd L i w) (s2W pd L i w)) = cI (s3W pd L i w) := congrArg cI (by unfold s3W; rw [← hc]; first | (rw [if_pos (by decide)]; done) | (rw [if_neg (by decide)]; done) | (rw [if_neg (by assumption)]; done))
                  have S := S.cong (congrArg (fun (zz : Int32) => ([[(h0, .inr (3, [.ref q1, .ref q2, .int pasts, .ref q3, .ref q4, .ref q5, .int (nI L), .int known, .int there, .ref q6, .int (nI (s3I pd L i w)), .int zz, .int (nI 100), .int (dgS pd L i w), .int (fiS pd L i w), .int second]))], [(q5, .inl (gA G 0, 80, .inl pd))]] : List va_W)) hE266)
                  have S : Sw G A s.heap [[(h0, .inr (3, [.ref q1, .ref q2, .int pasts, .ref q3, .ref q4, .ref q5, .int (nI L), .int known, .int there, .ref q6, .int (nI (s3I pd L i w)), .int (cI (s3W pd L i w)), .int (nI 100), .int (dgS pd L i w), .int (fiS pd L i w), .int second]))], [(q5, .inl (gA G 0, 80, .inl pd))]] _ _ := S
                  refine lv_aload_n hx hb dX3_order_209 rfl (lv_at hl 2 rfl) ?_
                  refine lv_iload_n hx hb dX3_order_210 rfl (lv_at hl 1 rfl) ?_
                  refine lv_if_eq (tgt := 225) hx hb dX3_order_211 (by decide) (fun c211_267 => ?_) (fun c211_267 => absurd (by decide) c211_267)
                  refine lv_iconst (v := nI 0) hx hb dX3_order_225 (by decide) ?_
                  refine lv_toe (y := seS pd L i w) (by unfold seS; rw [← hc]; first | (rw [if_pos (by decide)]; done) | (rw [if_neg (by decide)]; done) | (rw [if_neg (by assumption)]; done)) ?_
                  refine m_put X S 0 rfl (T := TX3) (N := 16) in_X3 tyX3 tyX3_ok nmX3 rfl 15 (by decide) q1727 (fun _ h9 => h9) rfl rfl rfl (Nat.le_of_ble_eq_true rfl) dX3_order_226 (fun H locs S => ?_)
                  have S : Sw G A s.heap [[(h0, .inr (3, [.ref q1, .ref q2, .int pasts, .ref q3, .ref q4, .ref q5, .int (nI L), .int known, .int there, .ref q6, .int (nI (s3I pd L i w)), .int (cI (s3W pd L i w)), .int (nI 100), .int (dgS pd L i w), .int (fiS pd L i w), .int (seS pd L i w)]))], [(q5, .inl (gA G 0, 80, .inl pd))]] _ _ := S
                  have hE268 : nI (s3I pd L i w) = nI (s4I pd L i w) := congrArg nI (by unfold s4I; rw [← hc]; first | (rw [if_pos (by decide)]; done) | (rw [if_neg (by decide)]; done) | (rw [if_neg (by assumption)]; done))
                  have S := S.cong (congrArg (fun (zz : Int32) => ([[(h0, .inr (3, [.ref q1, .ref q2, .int pasts, .ref q3, .ref q4, .ref q5, .int (nI L), .int known, .int there, .ref q6, .int zz, .int (cI (s3W pd L i w)), .int (nI 100), .int (dgS pd L i w), .int (fiS pd L i w), .int (seS pd L i w)]))], [(q5, .inl (gA G 0, 80, .inl pd))]] : List va_W)) hE268)
                  have S : Sw G A s.heap [[(h0, .inr (3, [.ref q1, .ref q2, .int pasts, .ref q3, .ref q4, .ref q5, .int (nI L), .int known, .int there, .ref q6, .int (nI (s4I pd L i w)), .int (cI (s3W pd L i w)), .int (nI 100), .int (dgS pd L i w), .int (fiS pd L i w), .int (seS pd L i w)]))], [(q5, .inl (gA G 0, 80, .inl pd))]] _ _ := S
                  have hE269 : cI (s3W pd L i w) = cI (s4W pd L i w) := congrArg cI (by unfold s4W; rw [← hc]; first | (rw [if_pos (by decide)]; done) | (rw [if_neg (by decide)]; done) | (rw [if_neg (by assumption)]; done))
                  have S := S.cong (congrArg (fun (zz : Int32) => ([[(h0, .inr (3, [.ref q1, .ref q2, .int pasts, .ref q3, .ref q4, .ref q5, .int (nI L), .int known, .int there, .ref q6, .int (nI (s4I pd L i w)), .int zz, .int (nI 100), .int (dgS pd L i w), .int (fiS pd L i w), .int (seS pd L i w)]))], [(q5, .inl (gA G 0, 80, .inl pd))]] : List va_W)) hE269)
                  have S : Sw G A s.heap [[(h0, .inr (3, [.ref q1, .ref q2, .int pasts, .ref q3, .ref q4, .ref q5, .int (nI L), .int known, .int there, .ref q6, .int (nI (s4I pd L i w)), .int (cI (s4W pd L i w)), .int (nI 100), .int (dgS pd L i w), .int (fiS pd L i w), .int (seS pd L i w)]))], [(q5, .inl (gA G 0, 80, .inl pd))]] _ _ := S
                  have hE270 : (nI 100) = sgnS pd L i w := hc
                  have S := S.cong (congrArg (fun (zz : Int32) => ([[(h0, .inr (3, [.ref q1, .ref q2, .int pasts, .ref q3, .ref q4, .ref q5, .int (nI L), .int known, .int there, .ref q6, .int (nI (s4I pd L i w)), .int (cI (s4W pd L i w)), .int zz, .int (dgS pd L i w), .int (fiS pd L i w), .int (seS pd L i w)]))], [(q5, .inl (gA G 0, 80, .inl pd))]] : List va_W)) hE270)
                  have S : Sw G A s.heap [[(h0, .inr (3, [.ref q1, .ref q2, .int pasts, .ref q3, .ref q4, .ref q5, .int (nI L), .int known, .int there, .ref q6, .int (nI (s4I pd L i w)), .int (cI (s4W pd L i w)), .int (sgnS pd L i w), .int (dgS pd L i w), .int (fiS pd L i w), .int (seS pd L i w)]))], [(q5, .inl (gA G 0, 80, .inl pd))]] _ _ := S
                  exact m_vret X hr hlk hQ S ⟨s4I pd L i w, s4W pd L i w, sgnS pd L i w, dgS pd L i w, fiS pd L i w, seS pd L i w⟩ (by show ((s4I pd L i w) = s4I pd L i w ∧ (s4W pd L i w) = s4W pd L i w ∧ (sgnS pd L i w) = sgnS pd L i w ∧ (dgS pd L i w) = dgS pd L i w ∧ (fiS pd L i w) = fiS pd L i w ∧ (seS pd L i w) = seS pd L i w); exact ⟨rfl, rfl, rfl, rfl, rfl, rfl⟩) [0, 1] [] (show ([0, 1] ++ ([] : List Nat)).isPerm (List.range 2) = true by decide +kernel) rfl (Nat.le_of_ble_eq_true rfl) (Nat.le_of_ble_eq_true rfl) dX3_order_229
          · skip
            have c68_139 : cc = (nI 99) := c68_139
            have c68_139 : cc = nI 99 := c68_139
            subst c68_139
            refine lv_iconst (v := nI 1) hx hb dX3_order_71 (by decide) ?_
            refine lv_goto (tgt := 76) hx hb dX3_order_72 (by decide) ?_
            refine lv_istore_n (lv' := [(1, .int (nI 1)), (0, .ref h0)]) hx hb dX3_order_76 rfl hl (Nat.le_of_ble_eq_true rfl) rfl (fun ls hl => ?_)
            refine lv_iload_n hx hb dX3_order_77 rfl (lv_at hl 0 rfl) ?_
            refine lv_if_ne (tgt := 99) hx hb dX3_order_78 (by decide) (fun c78_271 => ?_) (fun c78_271 => absurd c78_271 (by decide))
            refine lv_iconst (v := nI 1) hx hb dX3_order_99 (by decide) ?_
            refine lv_goto (tgt := 104) hx hb dX3_order_100 (by decide) ?_
            refine lv_istore_n (lv' := [(2, .int (nI 1)), (1, .int (nI 1)), (0, .ref h0)]) hx hb dX3_order_104 rfl hl (Nat.le_of_ble_eq_true rfl) rfl (fun ls hl => ?_)
            refine lv_aload_n hx hb dX3_order_105 rfl (lv_at hl 2 rfl) ?_
            refine lv_aload_n hx hb dX3_order_106 rfl (lv_at hl 2 rfl) ?_
            refine m_get X S 0 rfl (T := TX3) (N := 16) in_X3 rfl 11 (by decide) q1723 (fun _ h9 => h9) rfl dX3_order_107 ?_
            refine lv_if_ne (tgt := 135) hx hb dX3_order_110 (by decide) (fun c110_272 => ?_) (fun c110_272 => ?_)
            · skip
              have c110_272 : ¬ (cI w) = (nI 0) := c110_272
              have hwt : w = true := cI_n0.mp c110_272
              refine lv_iconst (v := nI 1) hx hb dX3_order_135 (by decide) ?_
              refine lv_goto (tgt := 140) hx hb dX3_order_136 (by decide) ?_
              refine m_put X S 0 rfl (T := TX3) (N := 16) in_X3 tyX3 tyX3_ok nmX3 rfl 11 (by decide) q1723 (fun _ h9 => h9) rfl rfl rfl (Nat.le_of_ble_eq_true rfl) dX3_order_140 (fun H locs S => ?_)
              have S : Sw G A s.heap [[(h0, .inr (3, [.ref q1, .ref q2, .int pasts, .ref q3, .ref q4, .ref q5, .int (nI L), .int known, .int there, .ref q6, .int (nI i), .int (nI 1), .int (nI 99), .int digit, .int first, .int second]))], [(q5, .inl (gA G 0, 80, .inl pd))]] _ _ := S
              refine lv_aload_n hx hb dX3_order_143 rfl (lv_at hl 2 rfl) ?_
              refine lv_dup hx hb dX3_order_144 rfl ?_
              refine m_get X S 0 rfl (T := TX3) (N := 16) in_X3 rfl 10 (by decide) q1722 (fun _ h9 => h9) rfl dX3_order_145 ?_
              refine lv_aload_n hx hb dX3_order_148 rfl (lv_at hl 2 rfl) ?_
              refine m_get X S 0 rfl (T := TX3) (N := 16) in_X3 rfl 11 (by decide) q1723 (fun _ h9 => h9) rfl dX3_order_149 ?_
              refine lv_if_eq (tgt := 159) hx hb dX3_order_152 (by decide) (fun c152_273 => absurd c152_273 (by decide)) (fun c152_273 => ?_)
              refine lv_iconst (v := nI 0) hx hb dX3_order_155 (by decide) ?_
              refine lv_goto (tgt := 160) hx hb dX3_order_156 (by decide) ?_
              refine lv_iadd hx hb dX3_order_160 ?_
              refine lv_toe (y := nI i) (nI_add _ _) ?_
              refine m_put X S 0 rfl (T := TX3) (N := 16) in_X3 tyX3 tyX3_ok nmX3 rfl 10 (by decide) q1722 (fun _ h9 => h9) rfl rfl rfl (Nat.le_of_ble_eq_true rfl) dX3_order_161 (fun H locs S => ?_)
              have S : Sw G A s.heap [[(h0, .inr (3, [.ref q1, .ref q2, .int pasts, .ref q3, .ref q4, .ref q5, .int (nI L), .int known, .int there, .ref q6, .int (nI i), .int (nI 1), .int (nI 99), .int digit, .int first, .int second]))], [(q5, .inl (gA G 0, 80, .inl pd))]] _ _ := S
              have hs1 : s1W pd L i w = true := by first | exact s1W_w (by assumption) | exact s1W_n hc (by assumption) | exact s1W_y hc (by assumption) (by first | decide | exact Or.inr (Or.inl (by assumption)) | exact Or.inr (Or.inr (by assumption)))
              have hE274 : nI i = nI (s1I pd L i w) := by unfold s1I; rw [hs1]; rfl
              have S := S.cong (congrArg (fun (zz : Int32) => ([[(h0, .inr (3, [.ref q1, .ref q2, .int pasts, .ref q3, .ref q4, .ref q5, .int (nI L), .int known, .int there, .ref q6, .int zz, .int (nI 1), .int (nI 99), .int digit, .int first, .int second]))], [(q5, .inl (gA G 0, 80, .inl pd))]] : List va_W)) hE274)
              have S : Sw G A s.heap [[(h0, .inr (3, [.ref q1, .ref q2, .int pasts, .ref q3, .ref q4, .ref q5, .int (nI L), .int known, .int there, .ref q6, .int (nI (s1I pd L i w)), .int (nI 1), .int (nI 99), .int digit, .int first, .int second]))], [(q5, .inl (gA G 0, 80, .inl pd))]] _ _ := S
              have hE275 : nI 1 = cI (s1W pd L i w) := by rw [hs1]; rfl
              have S := S.cong (congrArg (fun (zz : Int32) => ([[(h0, .inr (3, [.ref q1, .ref q2, .int pasts, .ref q3, .ref q4, .ref q5, .int (nI L), .int known, .int there, .ref q6, .int (nI (s1I pd L i w)), .int zz, .int (nI 99), .int digit, .int first, .int second]))], [(q5, .inl (gA G 0, 80, .inl pd))]] : List va_W)) hE275)
              have S : Sw G A s.heap [[(h0, .inr (3, [.ref q1, .ref q2, .int pasts, .ref q3, .ref q4, .ref q5, .int (nI L), .int known, .int there, .ref q6, .int (nI (s1I pd L i w)), .int (cI (s1W pd L i w)), .int (nI 99), .int digit, .int first, .int second]))], [(q5, .inl (gA G 0, 80, .inl pd))]] _ _ := S
              have hl1 := s1I_le (pd := pd) (w := w) hiL
              have hl2 := s2I_le (pd := pd) (w := w) hiL
              have hl3 := s3I_le (pd := pd) (w := w) hiL
              refine lv_aload_n hx hb dX3_order_164 rfl (lv_at hl 2 rfl) ?_
              refine lv_aload_n hx hb dX3_order_165 rfl (lv_at hl 2 rfl) ?_
              refine m_get X S 0 rfl (T := TX3) (N := 16) in_X3 rfl 12 (by decide) q1724 (fun _ h9 => h9) rfl dX3_order_166 ?_
              refine lv_bipush (v := nI 99) hx hb dX3_order_169 (by decide) ?_
              refine lv_icmp_ne (tgt := 185) hx hb dX3_order_171 (by decide) (fun c171_276 => absurd (by decide) c171_276) (fun c171_276 => ?_)
              refine lv_aload_n hx hb dX3_order_174 rfl (lv_at hl 2 rfl) ?_
              refine lv_bipush (v := nI 48) hx hb dX3_order_175 (by decide) ?_
              refine lv_bipush (v := nI 57) hx hb dX3_order_177 (by decide) ?_
              have hq277 := S.cut (Bc := [[(h0, .inr (3, [.ref q1, .ref q2, .int pasts, .ref q3, .ref q4, .ref q5, .int (nI L), .int known, .int there, .ref q6, .int (nI (s1I pd L i w)), .int (cI (s1W pd L i w)), .int (nI 99), .int digit, .int first, .int second]))], [(q5, .inl (gA G 0, 80, .inl pd))]]) (Br := []) [0, 1] [] (show ([0, 1] ++ ([] : List Nat)).isPerm (List.range 2) = true by decide +kernel) rfl rfl
              refine m_ri X S hq277 (m_runV (rest := [.ref h0]) (As := [.int (nI 48), .int (nI 57)]) (n := 2) X S hq277 (mt_X3_within G l h0 q1 q2 q3 q4 q5 q6 pasts known there (nI 99) digit first second pd (s1I pd L i w) (s1W pd L i w) L 48 57 (by omega) (by omega)) (lw_V q1985 q1987 qs73 q90 q1988) (m_recv X S 0 rfl rfl) (by decide +kernel) ⟨Nat.le_of_ble_eq_true rfl, Nat.le_of_ble_eq_true rfl⟩ rfl hl.1 rfl (Nat.le_of_ble_eq_true rfl) dX3_order_179 ⟨(Nat.le_of_ble_eq_true rfl), (Nat.le_of_ble_eq_true rfl)⟩) (fun r278 u H locs hp278 S => ?_)
              obtain ⟨u279, u280⟩ := u
              have hp278 : (r278 = chS pd L (s1I pd L i w) - nI 48 ∧ u279 = okI (s1I pd L i w) (okW pd L 48 57 (s1I pd L i w) (s1W pd L i w)) ∧ u280 = okW pd L 48 57 (s1I pd L i w) (s1W pd L i w)) := hp278
              have S : Sw G A s.heap [[(h0, .inr (3, [.ref q1, .ref q2, .int pasts, .ref q3, .ref q4, .ref q5, .int (nI L), .int known, .int there, .ref q6, .int (nI u279), .int (cI u280), .int (nI 99), .int digit, .int first, .int second]))], [(q5, .inl (gA G 0, 80, .inl pd))]] _ _ := S
              rcases hp278 with ⟨hhp278_0, hhp278_1, hhp278_2⟩
              subst hhp278_0
              subst hhp278_1
              subst hhp278_2
              have S : Sw G A s.heap [[(h0, .inr (3, [.ref q1, .ref q2, .int pasts, .ref q3, .ref q4, .ref q5, .int (nI L), .int known, .int there, .ref q6, .int (nI (okI (s1I pd L i w) (okW pd L 48 57 (s1I pd L i w) (s1W pd L i w)))), .int (cI (okW pd L 48 57 (s1I pd L i w) (s1W pd L i w))), .int (nI 99), .int digit, .int first, .int second]))], [(q5, .inl (gA G 0, 80, .inl pd))]] _ _ := S
              refine lv_goto (tgt := 186) hx hb dX3_order_182 (by decide) ?_
              refine lv_toe (y := dgS pd L i w) (by unfold dgS; rw [← hc]; first | (rw [if_pos (by decide)]; done) | (rw [if_neg (by decide)]; done) | (rw [if_neg (by assumption)]; done)) ?_
              refine m_put X S 0 rfl (T := TX3) (N := 16) in_X3 tyX3 tyX3_ok nmX3 rfl 13 (by decide) q1725 (fun _ h9 => h9) rfl rfl rfl (Nat.le_of_ble_eq_true rfl) dX3_order_186 (fun H locs S => ?_)
              have S : Sw G A s.heap [[(h0, .inr (3, [.ref q1, .ref q2, .int pasts, .ref q3, .ref q4, .ref q5, .int (nI L), .int known, .int there, .ref q6, .int (nI (okI (s1I pd L i w) (okW pd L 48 57 (s1I pd L i w) (s1W pd L i w)))), .int (cI (okW pd L 48 57 (s1I pd L i w) (s1W pd L i w))), .int (nI 99), .int (dgS pd L i w), .int first, .int second]))], [(q5, .inl (gA G 0, 80, .inl pd))]] _ _ := S
              have hE281 : nI (okI (s1I pd L i w) (okW pd L 48 57 (s1I pd L i w) (s1W pd L i w))) = nI (s2I pd L i w) := congrArg nI (by unfold s2I; rw [← hc]; first | (rw [if_pos (by decide)]; done) | (rw [if_neg (by decide)]; done) | (rw [if_neg (by assumption)]; done))
              have S := S.cong (congrArg (fun (zz : Int32) => ([[(h0, .inr (3, [.ref q1, .ref q2, .int pasts, .ref q3, .ref q4, .ref q5, .int (nI L), .int known, .int there, .ref q6, .int zz, .int (cI (okW pd L 48 57 (s1I pd L i w) (s1W pd L i w))), .int (nI 99), .int (dgS pd L i w), .int first, .int second]))], [(q5, .inl (gA G 0, 80, .inl pd))]] : List va_W)) hE281)
              have S : Sw G A s.heap [[(h0, .inr (3, [.ref q1, .ref q2, .int pasts, .ref q3, .ref q4, .ref q5, .int (nI L), .int known, .int there, .ref q6, .int (nI (s2I pd L i w)), .int (cI (okW pd L 48 57 (s1I pd L i w) (s1W pd L i w))), .int (nI 99), .int (dgS pd L i w), .int first, .int second]))], [(q5, .inl (gA G 0, 80, .inl pd))]] _ _ := S
              have hE282 : cI (okW pd L 48 57 (s1I pd L i w) (s1W pd L i w)) = cI (s2W pd L i w) := congrArg cI (by unfold s2W; rw [← hc]; first | (rw [if_pos (by decide)]; done) | (rw [if_neg (by decide)]; done) | (rw [if_neg (by assumption)]; done))
              have S := S.cong (congrArg (fun (zz : Int32) => ([[(h0, .inr (3, [.ref q1, .ref q2, .int pasts, .ref q3, .ref q4, .ref q5, .int (nI L), .int known, .int there, .ref q6, .int (nI (s2I pd L i w)), .int zz, .int (nI 99), .int (dgS pd L i w), .int first, .int second]))], [(q5, .inl (gA G 0, 80, .inl pd))]] : List va_W)) hE282)
              have S : Sw G A s.heap [[(h0, .inr (3, [.ref q1, .ref q2, .int pasts, .ref q3, .ref q4, .ref q5, .int (nI L), .int known, .int there, .ref q6, .int (nI (s2I pd L i w)), .int (cI (s2W pd L i w)), .int (nI 99), .int (dgS pd L i w), .int first, .int second]))], [(q5, .inl (gA G 0, 80, .inl pd))]] _ _ := S
              refine lv_aload_n hx hb dX3_order_189 rfl (lv_at hl 2 rfl) ?_
              refine lv_iload_n hx hb dX3_order_190 rfl (lv_at hl 0 rfl) ?_
              refine lv_if_eq (tgt := 205) hx hb dX3_order_191 (by decide) (fun c191_283 => absurd c191_283 (by decide)) (fun c191_283 => ?_)
              refine lv_aload_n hx hb dX3_order_194 rfl (lv_at hl 2 rfl) ?_
              refine lv_bipush (v := nI 97) hx hb dX3_order_195 (by decide) ?_
              refine lv_bipush (v := nI 104) hx hb dX3_order_197 (by decide) ?_
              have hq284 := S.cut (Bc := [[(h0, .inr (3, [.ref q1, .ref q2, .int pasts, .ref q3, .ref q4, .ref q5, .int (nI L), .int known, .int there, .ref q6, .int (nI (s2I pd L i w)), .int (cI (s2W pd L i w)), .int (nI 99), .int (dgS pd L i w), .int first, .int second]))], [(q5, .inl (gA G 0, 80, .inl pd))]]) (Br := []) [0, 1] [] (show ([0, 1] ++ ([] : List Nat)).isPerm (List.range 2) = true by decide +kernel) rfl rfl
              refine m_ri X S hq284 (m_runV (rest := [.ref h0]) (As := [.int (nI 97), .int (nI 104)]) (n := 2) X S hq284 (mt_X3_within G l h0 q1 q2 q3 q4 q5 q6 pasts known there (nI 99) (dgS pd L i w) first second pd (s2I pd L i w) (s2W pd L i w) L 97 104 (by omega) (by omega)) (lw_V q1985 q1987 qs73 q90 q1988) (m_recv X S 0 rfl rfl) (by decide +kernel) ⟨Nat.le_of_ble_eq_true rfl, Nat.le_of_ble_eq_true rfl⟩ rfl hl.1 rfl (Nat.le_of_ble_eq_true rfl) dX3_order_199 ⟨(Nat.le_of_ble_eq_true rfl), (Nat.le_of_ble_eq_true rfl)⟩) (fun r285 u H locs hp285 S => ?_)
              obtain ⟨u286, u287⟩ := u
              have hp285 : (r285 = chS pd L (s2I pd L i w) - nI 97 ∧ u286 = okI (s2I pd L i w) (okW pd L 97 104 (s2I pd L i w) (s2W pd L i w)) ∧ u287 = okW pd L 97 104 (s2I pd L i w) (s2W pd L i w)) := hp285
              have S : Sw G A s.heap [[(h0, .inr (3, [.ref q1, .ref q2, .int pasts, .ref q3, .ref q4, .ref q5, .int (nI L), .int known, .int there, .ref q6, .int (nI u286), .int (cI u287), .int (nI 99), .int (dgS pd L i w), .int first, .int second]))], [(q5, .inl (gA G 0, 80, .inl pd))]] _ _ := S
              rcases hp285 with ⟨hhp285_0, hhp285_1, hhp285_2⟩
              subst hhp285_0
              subst hhp285_1
              subst hhp285_2
              have S : Sw G A s.heap [[(h0, .inr (3, [.ref q1, .ref q2, .int pasts, .ref q3, .ref q4, .ref q5, .int (nI L), .int known, .int there, .ref q6, .int (nI (okI (s2I pd L i w) (okW pd L 97 104 (s2I pd L i w) (s2W pd L i w)))), .int (cI (okW pd L 97 104 (s2I pd L i w) (s2W pd L i w))), .int (nI 99), .int (dgS pd L i w), .int first, .int second]))], [(q5, .inl (gA G 0, 80, .inl pd))]] _ _ := S
              refine lv_goto (tgt := 206) hx hb dX3_order_202 (by decide) ?_
              refine lv_toe (y := fiS pd L i w) (by unfold fiS; rw [← hc]; first | (rw [if_pos (by decide)]; done) | (rw [if_neg (by decide)]; done) | (rw [if_neg (by assumption)]; done)) ?_
              refine m_put X S 0 rfl (T := TX3) (N := 16) in_X3 tyX3 tyX3_ok nmX3 rfl 14 (by decide) q1726 (fun _ h9 => h9) rfl rfl rfl (Nat.le_of_ble_eq_true rfl) dX3_order_206 (fun H locs S => ?_)
              have S : Sw G A s.heap [[(h0, .inr (3, [.ref q1, .ref q2, .int pasts, .ref q3, .ref q4, .ref q5, .int (nI L), .int known, .int there, .ref q6, .int (nI (okI (s2I pd L i w) (okW pd L 97 104 (s2I pd L i w) (s2W pd L i w)))), .int (cI (okW pd L 97 104 (s2I pd L i w) (s2W pd L i w))), .int (nI 99), .int (dgS pd L i w), .int (fiS pd L i w), .int second]))], [(q5, .inl (gA G 0, 80, .inl pd))]] _ _ := S
              have hE288 : nI (okI (s2I pd L i w) (okW pd L 97 104 (s2I pd L i w) (s2W pd L i w))) = nI (s3I pd L i w) := congrArg nI (by unfold s3I; rw [← hc]; first | (rw [if_pos (by decide)]; done) | (rw [if_neg (by decide)]; done) | (rw [if_neg (by assumption)]; done))
              have S := S.cong (congrArg (fun (zz : Int32) => ([[(h0, .inr (3, [.ref q1, .ref q2, .int pasts, .ref q3, .ref q4, .ref q5, .int (nI L), .int known, .int there, .ref q6, .int zz, .int (cI (okW pd L 97 104 (s2I pd L i w) (s2W pd L i w))), .int (nI 99), .int (dgS pd L i w), .int (fiS pd L i w), .int second]))], [(q5, .inl (gA G 0, 80, .inl pd))]] : List va_W)) hE288)
              have S : Sw G A s.heap [[(h0, .inr (3, [.ref q1, .ref q2, .int pasts, .ref q3, .ref q4, .ref q5, .int (nI L), .int known, .int there, .ref q6, .int (nI (s3I pd L i w)), .int (cI (okW pd L 97 104 (s2I pd L i w) (s2W pd L i w))), .int (nI 99), .int (dgS pd L i w), .int (fiS pd L i w), .int second]))], [(q5, .inl (gA G 0, 80, .inl pd))]] _ _ := S
              have hE289 : cI (okW pd L 97 104 (s2I pd L i w) (s2W pd L i w)) = cI (s3W pd L i w) := congrArg cI (by unfold s3W; rw [← hc]; first | (rw [if_pos (by decide)]; done) | (rw [if_neg (by decide)]; done) | (rw [if_neg (by assumption)]; done))
              have S := S.cong (congrArg (fun (zz : Int32) => ([[(h0, .inr (3, [.ref q1, .ref q2, .int pasts, .ref q3, .ref q4, .ref q5, .int (nI L), .int known, .int there, .ref q6, .int (nI (s3I pd L i w)), .int zz, .int (nI 99), .int (dgS pd L i w), .int (fiS pd L i w), .int second]))], [(q5, .inl (gA G 0, 80, .inl pd))]] : List va_W)) hE289)
              have S : Sw G A s.heap [[(h0, .inr (3, [.ref q1, .ref q2, .int pasts, .ref q3, .ref q4, .ref q5, .int (nI L), .int known, .int there, .ref q6, .int (nI (s3I pd L i w)), .int (cI (s3W pd L i w)), .int (nI 99), .int (dgS pd L i w), .int (fiS pd L i w), .int second]))], [(q5, .inl (gA G 0, 80, .inl pd))]] _ _ := S
              refine lv_aload_n hx hb dX3_order_209 rfl (lv_at hl 2 rfl) ?_
              refine lv_iload_n hx hb dX3_order_210 rfl (lv_at hl 1 rfl) ?_
              refine lv_if_eq (tgt := 225) hx hb dX3_order_211 (by decide) (fun c211_290 => absurd c211_290 (by decide)) (fun c211_290 => ?_)
              refine lv_aload_n hx hb dX3_order_214 rfl (lv_at hl 2 rfl) ?_
              refine lv_bipush (v := nI 97) hx hb dX3_order_215 (by decide) ?_
              refine lv_bipush (v := nI 104) hx hb dX3_order_217 (by decide) ?_
              have hq291 := S.cut (Bc := [[(h0, .inr (3, [.ref q1, .ref q2, .int pasts, .ref q3, .ref q4, .ref q5, .int (nI L), .int known, .int there, .ref q6, .int (nI (s3I pd L i w)), .int (cI (s3W pd L i w)), .int (nI 99), .int (dgS pd L i w), .int (fiS pd L i w), .int second]))], [(q5, .inl (gA G 0, 80, .inl pd))]]) (Br := []) [0, 1] [] (show ([0, 1] ++ ([] : List Nat)).isPerm (List.range 2) = true by decide +kernel) rfl rfl
              refine m_ri X S hq291 (m_runV (rest := [.ref h0]) (As := [.int (nI 97), .int (nI 104)]) (n := 2) X S hq291 (mt_X3_within G l h0 q1 q2 q3 q4 q5 q6 pasts known there (nI 99) (dgS pd L i w) (fiS pd L i w) second pd (s3I pd L i w) (s3W pd L i w) L 97 104 (by omega) (by omega)) (lw_V q1985 q1987 qs73 q90 q1988) (m_recv X S 0 rfl rfl) (by decide +kernel) ⟨Nat.le_of_ble_eq_true rfl, Nat.le_of_ble_eq_true rfl⟩ rfl hl.1 rfl (Nat.le_of_ble_eq_true rfl) dX3_order_219 ⟨(Nat.le_of_ble_eq_true rfl), (Nat.le_of_ble_eq_true rfl)⟩) (fun r292 u H locs hp292 S => ?_)
              obtain ⟨u293, u294⟩ := u
              have hp292 : (r292 = chS pd L (s3I pd L i w) - nI 97 ∧ u293 = okI (s3I pd L i w) (okW pd L 97 104 (s3I pd L i w) (s3W pd L i w)) ∧ u294 = okW pd L 97 104 (s3I pd L i w) (s3W pd L i w)) := hp292
              have S : Sw G A s.heap [[(h0, .inr (3, [.ref q1, .ref q2, .int pasts, .ref q3, .ref q4, .ref q5, .int (nI L), .int known, .int there, .ref q6, .int (nI u293), .int (cI u294), .int (nI 99), .int (dgS pd L i w), .int (fiS pd L i w), .int second]))], [(q5, .inl (gA G 0, 80, .inl pd))]] _ _ := S
              rcases hp292 with ⟨hhp292_0, hhp292_1, hhp292_2⟩
              subst hhp292_0
              subst hhp292_1
              subst hhp292_2
              have S : Sw G A s.heap [[(h0, .inr (3, [.ref q1, .ref q2, .int pasts, .ref q3, .ref q4, .ref q5, .int (nI L), .int known, .int there, .ref q6, .int (nI (okI (s3I pd L i w) (okW pd L 97 104 (s3I pd L i w) (s3W pd L i w)))), .int (cI (okW pd L 97 104 (s3I pd L i w) (s3W pd L i w))), .int (nI 99), .int (dgS pd L i w), .int (fiS pd L i w), .int second]))], [(q5, .inl (gA G 0, 80, .inl pd))]] _ _ := S
              refine lv_goto (tgt := 226) hx hb dX3_order_222 (by decide) ?_
              refine lv_toe (y := seS pd L i w) (by unfold seS; rw [← hc]; first | (rw [if_pos (by decide)]; done) | (rw [if_neg (by decide)]; done) | (rw [if_neg (by assumption)]; done)) ?_
              refine m_put X S 0 rfl (T := TX3) (N := 16) in_X3 tyX3 tyX3_ok nmX3 rfl 15 (by decide) q1727 (fun _ h9 => h9) rfl rfl rfl (Nat.le_of_ble_eq_true rfl) dX3_order_226 (fun H locs S => ?_)
              have S : Sw G A s.heap [[(h0, .inr (3, [.ref q1, .ref q2, .int pasts, .ref q3, .ref q4, .ref q5, .int (nI L), .int known, .int there, .ref q6, .int (nI (okI (s3I pd L i w) (okW pd L 97 104 (s3I pd L i w) (s3W pd L i w)))), .int (cI (okW pd L 97 104 (s3I pd L i w) (s3W pd L i w))), .int (nI 99), .int (dgS pd L i w), .int (fiS pd L i w), .int (seS pd L i w)]))], [(q5, .inl (gA G 0, 80, .inl pd))]] _ _ := S
              have hE295 : nI (okI (s3I pd L i w) (okW pd L 97 104 (s3I pd L i w) (s3W pd L i w))) = nI (s4I pd L i w) := congrArg nI (by unfold s4I; rw [← hc]; first | (rw [if_pos (by decide)]; done) | (rw [if_neg (by decide)]; done) | (rw [if_neg (by assumption)]; done))
              have S := S.cong (congrArg (fun (zz : Int32) => ([[(h0, .inr (3, [.ref q1, .ref q2, .int pasts, .ref q3, .ref q4, .ref q5, .int (nI L), .int known, .int there, .ref q6, .int zz, .int (cI (okW pd L 97 104 (s3I pd L i w) (s3W pd L i w))), .int (nI 99), .int (dgS pd L i w), .int (fiS pd L i w), .int (seS pd L i w)]))], [(q5, .inl (gA G 0, 80, .inl pd))]] : List va_W)) hE295)
              have S : Sw G A s.heap [[(h0, .inr (3, [.ref q1, .ref q2, .int pasts, .ref q3, .ref q4, .ref q5, .int (nI L), .int known, .int there, .ref q6, .int (nI (s4I pd L i w)), .int (cI (okW pd L 97 104 (s3I pd L i w) (s3W pd L i w))), .int (nI 99), .int (dgS pd L i w), .int (fiS pd L i w), .int (seS pd L i w)]))], [(q5, .inl (gA G 0, 80, .inl pd))]] _ _ := S
              have hE296 : cI (okW pd L 97 104 (s3I pd L i w) (s3W pd L i w)) = cI (s4W pd L i w) := congrArg cI (by unfold s4W; rw [← hc]; first | (rw [if_pos (by decide)]; done) | (rw [if_neg (by decide)]; done) | (rw [if_neg (by assumption)]; done))
              have S := S.cong (congrArg (fun (zz : Int32) => ([[(h0, .inr (3, [.ref q1, .ref q2, .int pasts, .ref q3, .ref q4, .ref q5, .int (nI L), .int known, .int there, .ref q6, .int (nI (s4I pd L i w)), .int zz, .int (nI 99), .int (dgS pd L i w), .int (fiS pd L i w), .int (seS pd L i w)]))], [(q5, .inl (gA G 0, 80, .inl pd))]] : List va_W)) hE296)
              have S : Sw G A s.heap [[(h0, .inr (3, [.ref q1, .ref q2, .int pasts, .ref q3, .ref q4, .ref q5, .int (nI L), .int known, .int there, .ref q6, .int (nI (s4I pd L i w)), .int (cI (s4W pd L i w)), .int (nI 99), .int (dgS pd L i w), .int (fiS pd L i w), .int (seS pd L i w)]))], [(q5, .inl (gA G 0, 80, .inl pd))]] _ _ := S
              have hE297 : (nI 99) = sgnS pd L i w := hc
              have S := S.cong (congrArg (fun (zz : Int32) => ([[(h0, .inr (3, [.ref q1, .ref q2, .int pasts, .ref q3, .ref q4, .ref q5, .int (nI L), .int known, .int there, .ref q6, .int (nI (s4I pd L i w)), .int (cI (s4W pd L i w)), .int zz, .int (dgS pd L i w), .int (fiS pd L i w), .int (seS pd L i w)]))], [(q5, .inl (gA G 0, 80, .inl pd))]] : List va_W)) hE297)
              have S : Sw G A s.heap [[(h0, .inr (3, [.ref q1, .ref q2, .int pasts, .ref q3, .ref q4, .ref q5, .int (nI L), .int known, .int there, .ref q6, .int (nI (s4I pd L i w)), .int (cI (s4W pd L i w)), .int (sgnS pd L i w), .int (dgS pd L i w), .int (fiS pd L i w), .int (seS pd L i w)]))], [(q5, .inl (gA G 0, 80, .inl pd))]] _ _ := S
              exact m_vret X hr hlk hQ S ⟨s4I pd L i w, s4W pd L i w, sgnS pd L i w, dgS pd L i w, fiS pd L i w, seS pd L i w⟩ (by show ((s4I pd L i w) = s4I pd L i w ∧ (s4W pd L i w) = s4W pd L i w ∧ (sgnS pd L i w) = sgnS pd L i w ∧ (dgS pd L i w) = dgS pd L i w ∧ (fiS pd L i w) = fiS pd L i w ∧ (seS pd L i w) = seS pd L i w); exact ⟨rfl, rfl, rfl, rfl, rfl, rfl⟩) [0, 1] [] (show ([0, 1] ++ ([] : List Nat)).isPerm (List.range 2) = true by decide +kernel) rfl (Nat.le_of_ble_eq_true rfl) (Nat.le_of_ble_eq_true rfl) dX3_order_229
            · skip
              have c110_272 : (cI w) = (nI 0) := c110_272
              have hwf : w = false := cI_0.mp c110_272
              refine lv_iload_n hx hb dX3_order_113 rfl (lv_at hl 0 rfl) ?_
              refine lv_if_ne (tgt := 139) hx hb dX3_order_114 (by decide) (fun c114_298 => ?_) (fun c114_298 => absurd c114_298 (by decide))
              refine lv_iconst (v := nI 0) hx hb dX3_order_139 (by decide) ?_
              refine m_put X S 0 rfl (T := TX3) (N := 16) in_X3 tyX3 tyX3_ok nmX3 rfl 11 (by decide) q1723 (fun _ h9 => h9) rfl rfl rfl (Nat.le_of_ble_eq_true rfl) dX3_order_140 (fun H locs S => ?_)
              have S : Sw G A s.heap [[(h0, .inr (3, [.ref q1, .ref q2, .int pasts, .ref q3, .ref q4, .ref q5, .int (nI L), .int known, .int there, .ref q6, .int (nI i), .int (nI 0), .int (nI 99), .int digit, .int first, .int second]))], [(q5, .inl (gA G 0, 80, .inl pd))]] _ _ := S
              refine lv_aload_n hx hb dX3_order_143 rfl (lv_at hl 2 rfl) ?_
              refine lv_dup hx hb dX3_order_144 rfl ?_
              refine m_get X S 0 rfl (T := TX3) (N := 16) in_X3 rfl 10 (by decide) q1722 (fun _ h9 => h9) rfl dX3_order_145 ?_
              refine lv_aload_n hx hb dX3_order_148 rfl (lv_at hl 2 rfl) ?_
              refine m_get X S 0 rfl (T := TX3) (N := 16) in_X3 rfl 11 (by decide) q1723 (fun _ h9 => h9) rfl dX3_order_149 ?_
              refine lv_if_eq (tgt := 159) hx hb dX3_order_152 (by decide) (fun c152_299 => ?_) (fun c152_299 => absurd (by decide) c152_299)
              refine lv_iconst (v := nI 1) hx hb dX3_order_159 (by decide) ?_
              refine lv_iadd hx hb dX3_order_160 ?_
              refine lv_toe (y := nI (i + 1)) (nI_add _ _) ?_
              refine m_put X S 0 rfl (T := TX3) (N := 16) in_X3 tyX3 tyX3_ok nmX3 rfl 10 (by decide) q1722 (fun _ h9 => h9) rfl rfl rfl (Nat.le_of_ble_eq_true rfl) dX3_order_161 (fun H locs S => ?_)
              have S : Sw G A s.heap [[(h0, .inr (3, [.ref q1, .ref q2, .int pasts, .ref q3, .ref q4, .ref q5, .int (nI L), .int known, .int there, .ref q6, .int (nI (i + 1)), .int (nI 0), .int (nI 99), .int digit, .int first, .int second]))], [(q5, .inl (gA G 0, 80, .inl pd))]] _ _ := S
              have hs1 : s1W pd L i w = false := by first | exact s1W_w (by assumption) | exact s1W_n hc (by assumption) | exact s1W_y hc (by assumption) (by first | decide | exact Or.inr (Or.inl (by assumption)) | exact Or.inr (Or.inr (by assumption)))
              have hE300 : nI (i + 1) = nI (s1I pd L i w) := by unfold s1I; rw [hs1]; rfl
              have S := S.cong (congrArg (fun (zz : Int32) => ([[(h0, .inr (3, [.ref q1, .ref q2, .int pasts, .ref q3, .ref q4, .ref q5, .int (nI L), .int known, .int there, .ref q6, .int zz, .int (nI 0), .int (nI 99), .int digit, .int first, .int second]))], [(q5, .inl (gA G 0, 80, .inl pd))]] : List va_W)) hE300)
              have S : Sw G A s.heap [[(h0, .inr (3, [.ref q1, .ref q2, .int pasts, .ref q3, .ref q4, .ref q5, .int (nI L), .int known, .int there, .ref q6, .int (nI (s1I pd L i w)), .int (nI 0), .int (nI 99), .int digit, .int first, .int second]))], [(q5, .inl (gA G 0, 80, .inl pd))]] _ _ := S
              have hE301 : nI 0 = cI (s1W pd L i w) := by rw [hs1]; rfl
              have S := S.cong (congrArg (fun (zz : Int32) => ([[(h0, .inr (3, [.ref q1, .ref q2, .int pasts, .ref q3, .ref q4, .ref q5, .int (nI L), .int known, .int there, .ref q6, .int (nI (s1I pd L i w)), .int zz, .int (nI 99), .int digit, .int first, .int second]))], [(q5, .inl (gA G 0, 80, .inl pd))]] : List va_W)) hE301)
              have S : Sw G A s.heap [[(h0, .inr (3, [.ref q1, .ref q2, .int pasts, .ref q3, .ref q4, .ref q5, .int (nI L), .int known, .int there, .ref q6, .int (nI (s1I pd L i w)), .int (cI (s1W pd L i w)), .int (nI 99), .int digit, .int first, .int second]))], [(q5, .inl (gA G 0, 80, .inl pd))]] _ _ := S
              have hl1 := s1I_le (pd := pd) (w := w) hiL
              have hl2 := s2I_le (pd := pd) (w := w) hiL
              have hl3 := s3I_le (pd := pd) (w := w) hiL
              refine lv_aload_n hx hb dX3_order_164 rfl (lv_at hl 2 rfl) ?_
              refine lv_aload_n hx hb dX3_order_165 rfl (lv_at hl 2 rfl) ?_
              refine m_get X S 0 rfl (T := TX3) (N := 16) in_X3 rfl 12 (by decide) q1724 (fun _ h9 => h9) rfl dX3_order_166 ?_
              refine lv_bipush (v := nI 99) hx hb dX3_order_169 (by decide) ?_
              refine lv_icmp_ne (tgt := 185) hx hb dX3_order_171 (by decide) (fun c171_302 => absurd (by decide) c171_302) (fun c171_302 => ?_)
              refine lv_aload_n hx hb dX3_order_174 rfl (lv_at hl 2 rfl) ?_
              refine lv_bipush (v := nI 48) hx hb dX3_order_175 (by decide) ?_
              refine lv_bipush (v := nI 57) hx hb dX3_order_177 (by decide) ?_
              have hq303 := S.cut (Bc := [[(h0, .inr (3, [.ref q1, .ref q2, .int pasts, .ref q3, .ref q4, .ref q5, .int (nI L), .int known, .int there, .ref q6, .int (nI (s1I pd L i w)), .int (cI (s1W pd L i w)), .int (nI 99), .int digit, .int first, .int second]))], [(q5, .inl (gA G 0, 80, .inl pd))]]) (Br := []) [0, 1] [] (show ([0, 1] ++ ([] : List Nat)).isPerm (List.range 2) = true by decide +kernel) rfl rfl
              refine m_ri X S hq303 (m_runV (rest := [.ref h0]) (As := [.int (nI 48), .int (nI 57)]) (n := 2) X S hq303 (mt_X3_within G l h0 q1 q2 q3 q4 q5 q6 pasts known there (nI 99) digit first second pd (s1I pd L i w) (s1W pd L i w) L 48 57 (by omega) (by omega)) (lw_V q1985 q1987 qs73 q90 q1988) (m_recv X S 0 rfl rfl) (by decide +kernel) ⟨Nat.le_of_ble_eq_true rfl, Nat.le_of_ble_eq_true rfl⟩ rfl hl.1 rfl (Nat.le_of_ble_eq_true rfl) dX3_order_179 ⟨(Nat.le_of_ble_eq_true rfl), (Nat.le_of_ble_eq_true rfl)⟩) (fun r304 u H locs hp304 S => ?_)
              obtain ⟨u305, u306⟩ := u
              have hp304 : (r304 = chS pd L (s1I pd L i w) - nI 48 ∧ u305 = okI (s1I pd L i w) (okW pd L 48 57 (s1I pd L i w) (s1W pd L i w)) ∧ u306 = okW pd L 48 57 (s1I pd L i w) (s1W pd L i w)) := hp304
              have S : Sw G A s.heap [[(h0, .inr (3, [.ref q1, .ref q2, .int pasts, .ref q3, .ref q4, .ref q5, .int (nI L), .int known, .int there, .ref q6, .int (nI u305), .int (cI u306), .int (nI 99), .int digit, .int first, .int second]))], [(q5, .inl (gA G 0, 80, .inl pd))]] _ _ := S
              rcases hp304 with ⟨hhp304_0, hhp304_1, hhp304_2⟩
              subst hhp304_0
              subst hhp304_1
              subst hhp304_2
              have S : Sw G A s.heap [[(h0, .inr (3, [.ref q1, .ref q2, .int pasts, .ref q3, .ref q4, .ref q5, .int (nI L), .int known, .int there, .ref q6, .int (nI (okI (s1I pd L i w) (okW pd L 48 57 (s1I pd L i w) (s1W pd L i w)))), .int (cI (okW pd L 48 57 (s1I pd L i w) (s1W pd L i w))), .int (nI 99), .int digit, .int first, .int second]))], [(q5, .inl (gA G 0, 80, .inl pd))]] _ _ := S
              refine lv_goto (tgt := 186) hx hb dX3_order_182 (by decide) ?_
              refine lv_toe (y := dgS pd L i w) (by unfold dgS; rw [← hc]; first | (rw [if_pos (by decide)]; done) | (rw [if_neg (by decide)]; done) | (rw [if_neg (by assumption)]; done)) ?_
              refine m_put X S 0 rfl (T := TX3) (N := 16) in_X3 tyX3 tyX3_ok nmX3 rfl 13 (by decide) q1725 (fun _ h9 => h9) rfl rfl rfl (Nat.le_of_ble_eq_true rfl) dX3_order_186 (fun H locs S => ?_)
              have S : Sw G A s.heap [[(h0, .inr (3, [.ref q1, .ref q2, .int pasts, .ref q3, .ref q4, .ref q5, .int (nI L), .int known, .int there, .ref q6, .int (nI (okI (s1I pd L i w) (okW pd L 48 57 (s1I pd L i w) (s1W pd L i w)))), .int (cI (okW pd L 48 57 (s1I pd L i w) (s1W pd L i w))), .int (nI 99), .int (dgS pd L i w), .int first, .int second]))], [(q5, .inl (gA G 0, 80, .inl pd))]] _ _ := S
              have hE307 : nI (okI (s1I pd L i w) (okW pd L 48 57 (s1I pd L i w) (s1W pd L i w))) = nI (s2I pd L i w) := congrArg nI (by unfold s2I; rw [← hc]; first | (rw [if_pos (by decide)]; done) | (rw [if_neg (by decide)]; done) | (rw [if_neg (by assumption)]; done))
              have S := S.cong (congrArg (fun (zz : Int32) => ([[(h0, .inr (3, [.ref q1, .ref q2, .int pasts, .ref q3, .ref q4, .ref q5, .int (nI L), .int known, .int there, .ref q6, .int zz, .int (cI (okW pd L 48 57 (s1I pd L i w) (s1W pd L i w))), .int (nI 99), .int (dgS pd L i w), .int first, .int second]))], [(q5, .inl (gA G 0, 80, .inl pd))]] : List va_W)) hE307)
              have S : Sw G A s.heap [[(h0, .inr (3, [.ref q1, .ref q2, .int pasts, .ref q3, .ref q4, .ref q5, .int (nI L), .int known, .int there, .ref q6, .int (nI (s2I pd L i w)), .int (cI (okW pd L 48 57 (s1I pd L i w) (s1W pd L i w))), .int (nI 99), .int (dgS pd L i w), .int first, .int second]))], [(q5, .inl (gA G 0, 80, .inl pd))]] _ _ := S
              have hE308 : cI (okW pd L 48 57 (s1I pd L i w) (s1W pd L i w)) = cI (s2W pd L i w) := congrArg cI (by unfold s2W; rw [← hc]; first | (rw [if_pos (by decide)]; done) | (rw [if_neg (by decide)]; done) | (rw [if_neg (by assumption)]; done))
              have S := S.cong (congrArg (fun (zz : Int32) => ([[(h0, .inr (3, [.ref q1, .ref q2, .int pasts, .ref q3, .ref q4, .ref q5, .int (nI L), .int known, .int there, .ref q6, .int (nI (s2I pd L i w)), .int zz, .int (nI 99), .int (dgS pd L i w), .int first, .int second]))], [(q5, .inl (gA G 0, 80, .inl pd))]] : List va_W)) hE308)
              have S : Sw G A s.heap [[(h0, .inr (3, [.ref q1, .ref q2, .int pasts, .ref q3, .ref q4, .ref q5, .int (nI L), .int known, .int there, .ref q6, .int (nI (s2I pd L i w)), .int (cI (s2W pd L i w)), .int (nI 99), .int (dgS pd L i w), .int first, .int second]))], [(q5, .inl (gA G 0, 80, .inl pd))]] _ _ := S
              refine lv_aload_n hx hb dX3_order_189 rfl (lv_at hl 2 rfl) ?_
              refine lv_iload_n hx hb dX3_order_190 rfl (lv_at hl 0 rfl) ?_
              refine lv_if_eq (tgt := 205) hx hb dX3_order_191 (by decide) (fun c191_309 => absurd c191_309 (by decide)) (fun c191_309 => ?_)
              refine lv_aload_n hx hb dX3_order_194 rfl (lv_at hl 2 rfl) ?_
              refine lv_bipush (v := nI 97) hx hb dX3_order_195 (by decide) ?_
              refine lv_bipush (v := nI 104) hx hb dX3_order_197 (by decide) ?_
              have hq310 := S.cut (Bc := [[(h0, .inr (3, [.ref q1, .ref q2, .int pasts, .ref q3, .ref q4, .ref q5, .int (nI L), .int known, .int there, .ref q6, .int (nI (s2I pd L i w)), .int (cI (s2W pd L i w)), .int (nI 99), .int (dgS pd L i w), .int first, .int second]))], [(q5, .inl (gA G 0, 80, .inl pd))]]) (Br := []) [0, 1] [] (show ([0, 1] ++ ([] : List Nat)).isPerm (List.range 2) = true by decide +kernel) rfl rfl
              refine m_ri X S hq310 (m_runV (rest := [.ref h0]) (As := [.int (nI 97), .int (nI 104)]) (n := 2) X S hq310 (mt_X3_within G l h0 q1 q2 q3 q4 q5 q6 pasts known there (nI 99) (dgS pd L i w) first second pd (s2I pd L i w) (s2W pd L i w) L 97 104 (by omega) (by omega)) (lw_V q1985 q1987 qs73 q90 q1988) (m_recv X S 0 rfl rfl) (by decide +kernel) ⟨Nat.le_of_ble_eq_true rfl, Nat.le_of_ble_eq_true rfl⟩ rfl hl.1 rfl (Nat.le_of_ble_eq_true rfl) dX3_order_199 ⟨(Nat.le_of_ble_eq_true rfl), (Nat.le_of_ble_eq_true rfl)⟩) (fun r311 u H locs hp311 S => ?_)
              obtain ⟨u312, u313⟩ := u
              have hp311 : (r311 = chS pd L (s2I pd L i w) - nI 97 ∧ u312 = okI (s2I pd L i w) (okW pd L 97 104 (s2I pd L i w) (s2W pd L i w)) ∧ u313 = okW pd L 97 104 (s2I pd L i w) (s2W pd L i w)) := hp311
              have S : Sw G A s.heap [[(h0, .inr (3, [.ref q1, .ref q2, .int pasts, .ref q3, .ref q4, .ref q5, .int (nI L), .int known, .int there, .ref q6, .int (nI u312), .int (cI u313), .int (nI 99), .int (dgS pd L i w), .int first, .int second]))], [(q5, .inl (gA G 0, 80, .inl pd))]] _ _ := S
              rcases hp311 with ⟨hhp311_0, hhp311_1, hhp311_2⟩
              subst hhp311_0
              subst hhp311_1
              subst hhp311_2
              have S : Sw G A s.heap [[(h0, .inr (3, [.ref q1, .ref q2, .int pasts, .ref q3, .ref q4, .ref q5, .int (nI L), .int known, .int there, .ref q6, .int (nI (okI (s2I pd L i w) (okW pd L 97 104 (s2I pd L i w) (s2W pd L i w)))), .int (cI (okW pd L 97 104 (s2I pd L i w) (s2W pd L i w))), .int (nI 99), .int (dgS pd L i w), .int first, .int second]))], [(q5, .inl (gA G 0, 80, .inl pd))]] _ _ := S
              refine lv_goto (tgt := 206) hx hb dX3_order_202 (by decide) ?_
              refine lv_toe (y := fiS pd L i w) (by unfold fiS; rw [← hc]; first | (rw [if_pos (by decide)]; done) | (rw [if_neg (by decide)]; done) | (rw [if_neg (by assumption)]; done)) ?_
              refine m_put X S 0 rfl (T := TX3) (N := 16) in_X3 tyX3 tyX3_ok nmX3 rfl 14 (by decide) q1726 (fun _ h9 => h9) rfl rfl rfl (Nat.le_of_ble_eq_true rfl) dX3_order_206 (fun H locs S => ?_)
              have S : Sw G A s.heap [[(h0, .inr (3, [.ref q1, .ref q2, .int pasts, .ref q3, .ref q4, .ref q5, .int (nI L), .int known, .int there, .ref q6, .int (nI (okI (s2I pd L i w) (okW pd L 97 104 (s2I pd L i w) (s2W pd L i w)))), .int (cI (okW pd L 97 104 (s2I pd L i w) (s2W pd L i w))), .int (nI 99), .int (dgS pd L i w), .int (fiS pd L i w), .int second]))], [(q5, .inl (gA G 0, 80, .inl pd))]] _ _ := S
              have hE314 : nI (okI (s2I pd L i w) (okW pd L 97 104 (s2I pd L i w) (s2W pd L i w))) = nI (s3I pd L i w) := congrArg nI (by unfold s3I; rw [← hc]; first | (rw [if_pos (by decide)]; done) | (rw [if_neg (by decide)]; done) | (rw [if_neg (by assumption)]; done))
              have S := S.cong (congrArg (fun (zz : Int32) => ([[(h0, .inr (3, [.ref q1, .ref q2, .int pasts, .ref q3, .ref q4, .ref q5, .int (nI L), .int known, .int there, .ref q6, .int zz, .int (cI (okW pd L 97 104 (s2I pd L i w) (s2W pd L i w))), .int (nI 99), .int (dgS pd L i w), .int (fiS pd L i w), .int second]))], [(q5, .inl (gA G 0, 80, .inl pd))]] : List va_W)) hE314)
              have S : Sw G A s.heap [[(h0, .inr (3, [.ref q1, .ref q2, .int pasts, .ref q3, .ref q4, .ref q5, .int (nI L), .int known, .int there, .ref q6, .int (nI (s3I pd L i w)), .int (cI (okW pd L 97 104 (s2I pd L i w) (s2W pd L i w))), .int (nI 99), .int (dgS pd L i w), .int (fiS pd L i w), .int second]))], [(q5, .inl (gA G 0, 80, .inl pd))]] _ _ := S
              have hE315 : cI (okW pd L 97 104 (s2I pd L i w) (s2W pd L i w)) = cI (s3W pd L i w) := congrArg cI (by unfold s3W; rw [← hc]; first | (rw [if_pos (by decide)]; done) | (rw [if_neg (by decide)]; done) | (rw [if_neg (by assumption)]; done))
              have S := S.cong (congrArg (fun (zz : Int32) => ([[(h0, .inr (3, [.ref q1, .ref q2, .int pasts, .ref q3, .ref q4, .ref q5, .int (nI L), .int known, .int there, .ref q6, .int (nI (s3I pd L i w)), .int zz, .int (nI 99), .int (dgS pd L i w), .int (fiS pd L i w), .int second]))], [(q5, .inl (gA G 0, 80, .inl pd))]] : List va_W)) hE315)
              have S : Sw G A s.heap [[(h0, .inr (3, [.ref q1, .ref q2, .int pasts, .ref q3, .ref q4, .ref q5, .int (nI L), .int known, .int there, .ref q6, .int (nI (s3I pd L i w)), .int (cI (s3W pd L i w)), .int (nI 99), .int (dgS pd L i w), .int (fiS pd L i w), .int second]))], [(q5, .inl (gA G 0, 80, .inl pd))]] _ _ := S
              refine lv_aload_n hx hb dX3_order_209 rfl (lv_at hl 2 rfl) ?_
              refine lv_iload_n hx hb dX3_order_210 rfl (lv_at hl 1 rfl) ?_
              refine lv_if_eq (tgt := 225) hx hb dX3_order_211 (by decide) (fun c211_316 => absurd c211_316 (by decide)) (fun c211_316 => ?_)
              refine lv_aload_n hx hb dX3_order_214 rfl (lv_at hl 2 rfl) ?_
              refine lv_bipush (v := nI 97) hx hb dX3_order_215 (by decide) ?_
              refine lv_bipush (v := nI 104) hx hb dX3_order_217 (by decide) ?_
              have hq317 := S.cut (Bc := [[(h0, .inr (3, [.ref q1, .ref q2, .int pasts, .ref q3, .ref q4, .ref q5, .int (nI L), .int known, .int there, .ref q6, .int (nI (s3I pd L i w)), .int (cI (s3W pd L i w)), .int (nI 99), .int (dgS pd L i w), .int (fiS pd L i w), .int second]))], [(q5, .inl (gA G 0, 80, .inl pd))]]) (Br := []) [0, 1] [] (show ([0, 1] ++ ([] : List Nat)).isPerm (List.range 2) = true by decide +kernel) rfl rfl
              refine m_ri X S hq317 (m_runV (rest := [.ref h0]) (As := [.int (nI 97), .int (nI 104)]) (n := 2) X S hq317 (mt_X3_within G l h0 q1 q2 q3 q4 q5 q6 pasts known there (nI 99) (dgS pd L i w) (fiS pd L i w) second pd (s3I pd L i w) (s3W pd L i w) L 97 104 (by omega) (by omega)) (lw_V q1985 q1987 qs73 q90 q1988) (m_recv X S 0 rfl rfl) (by decide +kernel) ⟨Nat.le_of_ble_eq_true rfl, Nat.le_of_ble_eq_true rfl⟩ rfl hl.1 rfl (Nat.le_of_ble_eq_true rfl) dX3_order_219 ⟨(Nat.le_of_ble_eq_true rfl), (Nat.le_of_ble_eq_true rfl)⟩) (fun r318 u H locs hp318 S => ?_)
              obtain ⟨u319, u320⟩ := u
              have hp318 : (r318 = chS pd L (s3I pd L i w) - nI 97 ∧ u319 = okI (s3I pd L i w) (okW pd L 97 104 (s3I pd L i w) (s3W pd L i w)) ∧ u320 = okW pd L 97 104 (s3I pd L i w) (s3W pd L i w)) := hp318
              have S : Sw G A s.heap [[(h0, .inr (3, [.ref q1, .ref q2, .int pasts, .ref q3, .ref q4, .ref q5, .int (nI L), .int known, .int there, .ref q6, .int (nI u319), .int (cI u320), .int (nI 99), .int (dgS pd L i w), .int (fiS pd L i w), .int second]))], [(q5, .inl (gA G 0, 80, .inl pd))]] _ _ := S
              rcases hp318 with ⟨hhp318_0, hhp318_1, hhp318_2⟩
              subst hhp318_0
              subst hhp318_1
              subst hhp318_2
              have S : Sw G A s.heap [[(h0, .inr (3, [.ref q1, .ref q2, .int pasts, .ref q3, .ref q4, .ref q5, .int (nI L), .int known, .int there, .ref q6, .int (nI (okI (s3I pd L i w) (okW pd L 97 104 (s3I pd L i w) (s3W pd L i w)))), .int (cI (okW pd L 97 104 (s3I pd L i w) (s3W pd L i w))), .int (nI 99), .int (dgS pd L i w), .int (fiS pd L i w), .int second]))], [(q5, .inl (gA G 0, 80, .inl pd))]] _ _ := S
              refine lv_goto (tgt := 226) hx hb dX3_order_222 (by decide) ?_
              refine lv_toe (y := seS pd L i w) (by unfold seS; rw [← hc]; first | (rw [if_pos (by decide)]; done) | (rw [if_neg (by decide)]; done) | (rw [if_neg (by assumption)]; done)) ?_
              refine m_put X S 0 rfl (T := TX3) (N := 16) in_X3 tyX3 tyX3_ok nmX3 rfl 15 (by decide) q1727 (fun _ h9 => h9) rfl rfl rfl (Nat.le_of_ble_eq_true rfl) dX3_order_226 (fun H locs S => ?_)
              have S : Sw G A s.heap [[(h0, .inr (3, [.ref q1, .ref q2, .int pasts, .ref q3, .ref q4, .ref q5, .int (nI L), .int known, .int there, .ref q6, .int (nI (okI (s3I pd L i w) (okW pd L 97 104 (s3I pd L i w) (s3W pd L i w)))), .int (cI (okW pd L 97 104 (s3I pd L i w) (s3W pd L i w))), .int (nI 99), .int (dgS pd L i w), .int (fiS pd L i w), .int (seS pd L i w)]))], [(q5, .inl (gA G 0, 80, .inl pd))]] _ _ := S
              have hE321 : nI (okI (s3I pd L i w) (okW pd L 97 104 (s3I pd L i w) (s3W pd L i w))) = nI (s4I pd L i w) := congrArg nI (by unfold s4I; rw [← hc]; first | (rw [if_pos (by decide)]; done) | (rw [if_neg (by decide)]; done) | (rw [if_neg (by assumption)]; done))
              have S := S.cong (congrArg (fun (zz : Int32) => ([[(h0, .inr (3, [.ref q1, .ref q2, .int pasts, .ref q3, .ref q4, .ref q5, .int (nI L), .int known, .int there, .ref q6, .int zz, .int (cI (okW pd L 97 104 (s3I pd L i w) (s3W pd L i w))), .int (nI 99), .int (dgS pd L i w), .int (fiS pd L i w), .int (seS pd L i w)]))], [(q5, .inl (gA G 0, 80, .inl pd))]] : List va_W)) hE321)
              have S : Sw G A s.heap [[(h0, .inr (3, [.ref q1, .ref q2, .int pasts, .ref q3, .ref q4, .ref q5, .int (nI L), .int known, .int there, .ref q6, .int (nI (s4I pd L i w)), .int (cI (okW pd L 97 104 (s3I pd L i w) (s3W pd L i w))), .int (nI 99), .int (dgS pd L i w), .int (fiS pd L i w), .int (seS pd L i w)]))], [(q5, .inl (gA G 0, 80, .inl pd))]] _ _ := S
              have hE322 : cI (okW pd L 97 104 (s3I pd L i w) (s3W pd L i w)) = cI (s4W pd L i w) := congrArg cI (by unfold s4W; rw [← hc]; first | (rw [if_pos (by decide)]; done) | (rw [if_neg (by decide)]; done) | (rw [if_neg (by assumption)]; done))
              have S := S.cong (congrArg (fun (zz : Int32) => ([[(h0, .inr (3, [.ref q1, .ref q2, .int pasts, .ref q3, .ref q4, .ref q5, .int (nI L), .int known, .int there, .ref q6, .int (nI (s4I pd L i w)), .int zz, .int (nI 99), .int (dgS pd L i w), .int (fiS pd L i w), .int (seS pd L i w)]))], [(q5, .inl (gA G 0, 80, .inl pd))]] : List va_W)) hE322)
              have S : Sw G A s.heap [[(h0, .inr (3, [.ref q1, .ref q2, .int pasts, .ref q3, .ref q4, .ref q5, .int (nI L), .int known, .int there, .ref q6, .int (nI (s4I pd L i w)), .int (cI (s4W pd L i w)), .int (nI 99), .int (dgS pd L i w), .int (fiS pd L i w), .int (seS pd L i w)]))], [(q5, .inl (gA G 0, 80, .inl pd))]] _ _ := S
              have hE323 : (nI 99) = sgnS pd L i w := hc
              have S := S.cong (congrArg (fun (zz : Int32) => ([[(h0, .inr (3, [.ref q1, .ref q2, .int pasts, .ref q3, .ref q4, .ref q5, .int (nI L), .int known, .int there, .ref q6, .int (nI (s4I pd L i w)), .int (cI (s4W pd L i w)), .int zz, .int (dgS pd L i w), .int (fiS pd L i w), .int (seS pd L i w)]))], [(q5, .inl (gA G 0, 80, .inl pd))]] : List va_W)) hE323)
              have S : Sw G A s.heap [[(h0, .inr (3, [.ref q1, .ref q2, .int pasts, .ref q3, .ref q4, .ref q5, .int (nI L), .int known, .int there, .ref q6, .int (nI (s4I pd L i w)), .int (cI (s4W pd L i w)), .int (sgnS pd L i w), .int (dgS pd L i w), .int (fiS pd L i w), .int (seS pd L i w)]))], [(q5, .inl (gA G 0, 80, .inl pd))]] _ _ := S
              exact m_vret X hr hlk hQ S ⟨s4I pd L i w, s4W pd L i w, sgnS pd L i w, dgS pd L i w, fiS pd L i w, seS pd L i w⟩ (by show ((s4I pd L i w) = s4I pd L i w ∧ (s4W pd L i w) = s4W pd L i w ∧ (sgnS pd L i w) = sgnS pd L i w ∧ (dgS pd L i w) = dgS pd L i w ∧ (fiS pd L i w) = fiS pd L i w ∧ (seS pd L i w) = seS pd L i w); exact ⟨rfl, rfl, rfl, rfl, rfl, rfl⟩) [0, 1] [] (show ([0, 1] ++ ([] : List Nat)).isPerm (List.range 2) = true by decide +kernel) rfl (Nat.le_of_ble_eq_true rfl) (Nat.le_of_ble_eq_true rfl) dX3_order_229
  refine lv_aload_n hx hb dX3_order_0 rfl (lv_at hl 0 rfl) ?_
  refine lv_aload_n hx hb dX3_order_1 rfl (lv_at hl 0 rfl) ?_
  refine m_get X S 0 rfl (T := TX3) (N := 16) in_X3 rfl 11 (by decide) q1723 (fun _ h9 => h9) rfl dX3_order_2 ?_
  refine lv_if_ne (tgt := 19) hx hb dX3_order_5 (by decide) (fun c5_324 => ?_) (fun c5_324 => ?_)
  · skip
    have c5_324 : ¬ (cI w) = (nI 0) := c5_324
    have hwt : w = true := cI_n0.mp c5_324
    refine lv_iconst (v := nI 0) hx hb dX3_order_19 (by decide) ?_
    refine lv_goto (tgt := 32) hx hb dX3_order_20 (by decide) ?_
    exact hJ32 (nI 0)  (by first | exact sgn_w (by assumption) | exact sgn_e (by assumption) | exact sgn_y (by assumption) (by assumption)) _ _ S ls (lv_sub hl [0] rfl)
  · skip
    have c5_324 : (cI w) = (nI 0) := c5_324
    have hwf : w = false := cI_0.mp c5_324
    refine lv_aload_n hx hb dX3_order_8 rfl (lv_at hl 0 rfl) ?_
    refine m_get X S 0 rfl (T := TX3) (N := 16) in_X3 rfl 10 (by decide) q1722 (fun _ h9 => h9) rfl dX3_order_9 ?_
    refine lv_aload_n hx hb dX3_order_12 rfl (lv_at hl 0 rfl) ?_
    refine m_get X S 0 rfl (T := TX3) (N := 16) in_X3 rfl 6 (by decide) q1718 (fun _ h9 => h9) rfl dX3_order_13 ?_
    refine lv_icmp_ne (tgt := 23) hx hb dX3_order_16 (by decide) (fun c16_325 => ?_) (fun c16_325 => ?_)
    · skip
      have c16_325 : ¬ i = L := fun z => c16_325 ((nI_eq (a := i) (b := L) (by omega) (by omega)).mpr z)
      refine lv_aload_n hx hb dX3_order_23 rfl (lv_at hl 0 rfl) ?_
      refine m_get X S 0 rfl (T := TX3) (N := 16) in_X3 rfl 5 (by decide) q1717 (fun _ h9 => h9) rfl dX3_order_24 ?_
      refine lv_aload_n hx hb dX3_order_27 rfl (lv_at hl 0 rfl) ?_
      refine m_get X S 0 rfl (T := TX3) (N := 16) in_X3 rfl 10 (by decide) q1722 (fun _ h9 => h9) rfl dX3_order_28 ?_
      refine m_iald X S 1 rfl (x := nI i) (j := i) (nI_clamp (by omega)) (vp_in_nI (by omega) (by omega)) (v := pd i) rfl dX3_order_31 ?_
      exact hJ32 (pd i)  (by first | exact sgn_w (by assumption) | exact sgn_e (by assumption) | exact sgn_y (by assumption) (by assumption)) _ _ S ls (lv_sub hl [0] rfl)
    · skip
      have c16_325 : i = L := (nI_eq (a := i) (b := L) (by omega) (by omega)).mp c16_325
      refine lv_iconst (v := nI 0) hx hb dX3_order_19 (by decide) ?_
      refine lv_goto (tgt := 32) hx hb dX3_order_20 (by decide) ?_
      exact hJ32 (nI 0)  (by first | exact sgn_w (by assumption) | exact sgn_e (by assumption) | exact sgn_y (by assumption) (by assumption)) _ _ S ls (lv_sub hl [0] rfl)
