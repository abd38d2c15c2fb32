/-! THE MODEL: what changes it -/
abbrev rm_X3_records : Room := { frames := 0, cells := 0, slots := 0, locals := 0 }
set_option maxHeartbeats 4000000 in
set_option maxRecDepth 100000 in
theorem mt_X3_records (G : mGG) (l : Launch) (h0 : Nat) (q1 : Nat) (q2 : Nat) (q3 : Nat) (q4 : Nat) (q5 : Nat) (q6 : Nat) (length : Int32) (known : Int32) (there : Int32) (spot : Int32) (isWrong : Int32) (sign : Int32) (digit : Int32) (first : Int32) (second : Int32) (g : Nat → Int32) (pa : Nat → Int32) (n : Nat) (hn6 : n ≤ 6) : Cg G l yX3_records (ws_ yX3_records cX3_records 2 (none)) rm_X3_records [.ref h0] [[(h0, .inr (3, [.ref q1, .ref q2, .int (nI n), .ref q3, .ref q4, .ref q5, .int length, .int known, .int there, .ref q6, .int spot, .int isWrong, .int sign, .int digit, .int first, .int second]))], [(q1, .inl (gA G 0, 182, .inl g))], [(q2, .inl (gA G 0, 1092, .inl pa))]] (Qv G (fun (u : Nat × (Nat → Int32)) => (u.1 = recN n ∧ u.2 = recP n pa g)) (fun (u : Nat × (Nat → Int32)) => [[(h0, .inr (3, [.ref q1, .ref q2, .int (nI u.1), .ref q3, .ref q4, .ref q5, .int length, .int known, .int there, .ref q6, .int spot, .int isWrong, .int sign, .int digit, .int first, .int second]))], [(q1, .inl (gA G 0, 182, .inl g))], [(q2, .inl (gA G 0, 1092, .inl u.2))]])) := by
  refine Cg.intro (own := RX3) (cc := cX3_records) (maxL := 2) (ret := (none)) (by decide +kernel) rfl rfl (Nat.le_of_ble_eq_true rfl) ?_
  intro p e s m ag below meth c A ls Q X hr hlk hnm S hl hQ
  have hx := X.1
  have hb := X.2.1
  have hl : lv_has ls 2 [(0, .ref h0)] := hl
  refine lv_aload_n hx hb dX3_records_0 rfl (lv_at hl 0 rfl) ?_
  refine m_get X S 0 rfl (T := TX3) (N := 16) in_X3 rfl 2 (by decide) q1714 (fun _ h9 => h9) rfl dX3_records_1 ?_
  refine lv_bipush (v := nI 6) hx hb dX3_records_4 (by decide) ?_
  refine lv_icmp_ne (tgt := 50) hx hb dX3_records_6 (by decide) (fun c6_1 => ?_) (fun c6_1 => ?_)
  · skip
    have c6_1 : ¬ n = 6 := fun z => c6_1 ((nI_eq (a := n) (b := 6) (by omega) (by omega)).mpr z)
    have hE2 : pa = cpP pa (182 * (n)) g 0 := (cpP_0 _ _ _).symm
    have S := S.cong (congrArg (fun (zz : Nat → Int32) => ([[(h0, .inr (3, [.ref q1, .ref q2, .int (nI n), .ref q3, .ref q4, .ref q5, .int length, .int known, .int there, .ref q6, .int spot, .int isWrong, .int sign, .int digit, .int first, .int second]))], [(q1, .inl (gA G 0, 182, .inl g))], [(q2, .inl (gA G 0, 1092, .inl zz))]] : List va_W)) hE2)
    have S : Sw G A s.heap [[(h0, .inr (3, [.ref q1, .ref q2, .int (nI n), .ref q3, .ref q4, .ref q5, .int length, .int known, .int there, .ref q6, .int spot, .int isWrong, .int sign, .int digit, .int first, .int second]))], [(q1, .inl (gA G 0, 182, .inl g))], [(q2, .inl (gA G 0, 1092, .inl (cpP pa (182 * (n)) g 0)))]] _ _ := S
    refine lv_iconst (v := nI 0) hx hb dX3_records_50 (by decide) ?_
    refine lv_istore_n (lv' := [(1, .int (nI 0)), (0, .ref h0)]) hx hb dX3_records_51 rfl hl (Nat.le_of_ble_eq_true rfl) rfl (fun ls hl => ?_)
    have hL52 : ∀ (kf : Nat) (k : Nat), (182 - k) < kf → (k ≤ 182) → ∀ (H : Heap) (locs : List Loc), Sw G A s.heap [[(h0, .inr (3, [.ref q1, .ref q2, .int (nI n), .ref q3, .ref q4, .ref q5, .int length, .int known, .int there, .ref q6, .int spot, .int isWrong, .int sign, .int digit, .int first, .int second]))], [(q1, .inl (gA G 0, 182, .inl g))], [(q2, .inl (gA G 0, 1092, .inl (cpP pa (182 * (n)) g k)))]] H locs → ∀ (ls : Array Slot), lv_has ls 2 [(1, .int (nI k)), (0, .ref h0)] → W p l e rm_X3_records s m ag below meth c H locs (0) (0) Q (F0 m 52 ls []) := by
      intro kf
      induction kf with
      | zero =>
        intro k hm
        exact absurd hm (Nat.not_lt_zero _)
      | succ kf52 ih52 =>
        intro k hm hk H locs S ls hl
        refine lv_iload_n hx hb dX3_records_52 rfl (lv_at hl 0 rfl) ?_
        refine lv_sipush (v := nI 182) hx hb dX3_records_53 (by decide) ?_
        refine lv_icmp_ge (tgt := 86) hx hb dX3_records_56 (by decide) (fun c56_3 => ?_) (fun c56_3 => ?_)
        · skip
          have c56_3 : 182 ≤ k := (nI_leI (a := 182) (b := k) (by omega) (by omega)).mp c56_3
          refine lv_aload_n hx hb dX3_records_86 rfl (lv_at hl 1 rfl) ?_
          refine lv_dup hx hb dX3_records_87 rfl ?_
          refine m_get X S 0 rfl (T := TX3) (N := 16) in_X3 rfl 2 (by decide) q1714 (fun _ h9 => h9) rfl dX3_records_88 ?_
          refine lv_iconst (v := nI 1) hx hb dX3_records_91 (by decide) ?_
          refine lv_iadd hx hb dX3_records_92 ?_
          refine lv_toe (y := nI (n + 1)) (nI_add _ _) ?_
          refine m_put X S 0 rfl (T := TX3) (N := 16) in_X3 tyX3 tyX3_ok nmX3 rfl 2 (by decide) q1714 (fun _ h9 => h9) rfl rfl rfl (Nat.le_of_ble_eq_true rfl) dX3_records_93 (fun H locs S => ?_)
          have S : Sw G A s.heap [[(h0, .inr (3, [.ref q1, .ref q2, .int (nI (n + 1)), .ref q3, .ref q4, .ref q5, .int length, .int known, .int there, .ref q6, .int spot, .int isWrong, .int sign, .int digit, .int first, .int second]))], [(q1, .inl (gA G 0, 182, .inl g))], [(q2, .inl (gA G 0, 1092, .inl (cpP pa (182 * (n)) g k)))]] _ _ := S
          exact m_vret X hr hlk hQ S ⟨n + 1, cpP pa (182 * (n)) g k⟩ (by show ((n + 1) = recN n ∧ (cpP pa (182 * (n)) g k) = recP n pa g); rw [show k = 182 by omega]; unfold recN recP; first | (rw [if_pos (by omega), if_pos (by omega)]; exact ⟨by omega, rfl⟩) | (rw [if_neg (by omega), if_neg (by omega)]; exact ⟨rfl, rfl⟩)) [0, 1, 2] [] (show ([0, 1, 2] ++ ([] : List Nat)).isPerm (List.range 3) = true by decide +kernel) rfl (Nat.le_of_ble_eq_true rfl) (Nat.le_of_ble_eq_true rfl) dX3_records_96
        · skip
          have c56_3 : ¬ 182 ≤ k := fun z => c56_3 ((nI_leI (a := 182) (b := k) (by omega) (by omega)).mpr z)
          refine lv_aload_n hx hb dX3_records_59 rfl (lv_at hl 1 rfl) ?_
          refine m_get X S 0 rfl (T := TX3) (N := 16) in_X3 rfl 1 (by decide) q1713 (fun _ h9 => h9) rfl dX3_records_60 ?_
          refine lv_sipush (v := nI 182) hx hb dX3_records_63 (by decide) ?_
          refine lv_aload_n hx hb dX3_records_66 rfl (lv_at hl 1 rfl) ?_
          refine m_get X S 0 rfl (T := TX3) (N := 16) in_X3 rfl 2 (by decide) q1714 (fun _ h9 => h9) rfl dX3_records_67 ?_
          refine lv_imul hx hb dX3_records_70 ?_
          refine lv_toe (y := nI (182 * n)) (pk_mul _ _) ?_
          refine lv_iload_n hx hb dX3_records_71 rfl (lv_at hl 0 rfl) ?_
          refine lv_iadd hx hb dX3_records_72 ?_
          refine lv_toe (y := nI ((182 * n) + k)) (nI_add _ _) ?_
          refine lv_aload_n hx hb dX3_records_73 rfl (lv_at hl 1 rfl) ?_
          refine m_get X S 0 rfl (T := TX3) (N := 16) in_X3 rfl 0 (by decide) q1712 (fun _ h9 => h9) rfl dX3_records_74 ?_
          refine lv_iload_n hx hb dX3_records_77 rfl (lv_at hl 0 rfl) ?_
          refine m_iald X S 1 rfl (x := nI k) (j := k) (nI_clamp (by omega)) (vp_in_nI (by omega) (by omega)) (v := g k) rfl dX3_records_78 ?_
          refine m_iast X S 2 rfl (x := nI ((182 * n) + k)) (j := (182 * n) + k) (nI_clamp (by omega)) (vp_in_nI (by omega) (by omega)) dX3_records_79 (fun H locs S => ?_)
          have S : Sw G A s.heap [[(h0, .inr (3, [.ref q1, .ref q2, .int (nI n), .ref q3, .ref q4, .ref q5, .int length, .int known, .int there, .ref q6, .int spot, .int isWrong, .int sign, .int digit, .int first, .int second]))], [(q1, .inl (gA G 0, 182, .inl g))], [(q2, .inl (gA G 0, 1092, .inl (upd (cpP pa (182 * (n)) g k) ((182 * n) + k) (g k))))]] _ _ := S
          have hE4 : upd (cpP pa (182 * (n)) g k) ((182 * n) + k) (g k) = cpP pa (182 * (n)) g (k + 1) := cpP_step _ _ _ _
          have S := S.cong (congrArg (fun (zz : Nat → Int32) => ([[(h0, .inr (3, [.ref q1, .ref q2, .int (nI n), .ref q3, .ref q4, .ref q5, .int length, .int known, .int there, .ref q6, .int spot, .int isWrong, .int sign, .int digit, .int first, .int second]))], [(q1, .inl (gA G 0, 182, .inl g))], [(q2, .inl (gA G 0, 1092, .inl zz))]] : List va_W)) hE4)
          have S : Sw G A s.heap [[(h0, .inr (3, [.ref q1, .ref q2, .int (nI n), .ref q3, .ref q4, .ref q5, .int length, .int known, .int there, .ref q6, .int spot, .int isWrong, .int sign, .int digit, .int first, .int second]))], [(q1, .inl (gA G 0, 182, .inl g))], [(q2, .inl (gA G 0, 1092, .inl (cpP pa (182 * (n)) g (k + 1))))]] _ _ := S
          refine lv_iinc (v := nI (k + 1)) (lv' := [(1, .int (nI (k + 1))), (0, .ref h0)]) hx hb dX3_records_80 hl (k := 0) rfl (nI_add _ _) (Nat.le_of_ble_eq_true rfl) rfl (fun ls hl => ?_)
          refine lv_goto (tgt := 52) hx hb dX3_records_83 (by decide) ?_
          exact ih52 (k + 1) (by omega) (by omega) _ _ S ls (lv_sub hl [0, 1] rfl)
    exact hL52 _ 0 (Nat.lt_succ_self _) (by omega) _ _ S ls (lv_sub hl [0, 1] rfl)
  · skip
    have c6_1 : n = 6 := (nI_eq (a := n) (b := 6) (by omega) (by omega)).mp c6_1
    have hE5 : pa = shP pa 0 := by funext j; simp [shP]
    have S := S.cong (congrArg (fun (zz : Nat → Int32) => ([[(h0, .inr (3, [.ref q1, .ref q2, .int (nI n), .ref q3, .ref q4, .ref q5, .int length, .int known, .int there, .ref q6, .int spot, .int isWrong, .int sign, .int digit, .int first, .int second]))], [(q1, .inl (gA G 0, 182, .inl g))], [(q2, .inl (gA G 0, 1092, .inl zz))]] : List va_W)) hE5)
    have S : Sw G A s.heap [[(h0, .inr (3, [.ref q1, .ref q2, .int (nI n), .ref q3, .ref q4, .ref q5, .int length, .int known, .int there, .ref q6, .int spot, .int isWrong, .int sign, .int digit, .int first, .int second]))], [(q1, .inl (gA G 0, 182, .inl g))], [(q2, .inl (gA G 0, 1092, .inl (shP pa 0)))]] _ _ := S
    refine lv_iconst (v := nI 0) hx hb dX3_records_9 (by decide) ?_
    refine lv_istore_n (lv' := [(1, .int (nI 0)), (0, .ref h0)]) hx hb dX3_records_10 rfl hl (Nat.le_of_ble_eq_true rfl) rfl (fun ls hl => ?_)
    have hL11 : ∀ (kf : Nat) (k : Nat), (910 - k) < kf → (k ≤ 910) → ∀ (H : Heap) (locs : List Loc), Sw G A s.heap [[(h0, .inr (3, [.ref q1, .ref q2, .int (nI n), .ref q3, .ref q4, .ref q5, .int length, .int known, .int there, .ref q6, .int spot, .int isWrong, .int sign, .int digit, .int first, .int second]))], [(q1, .inl (gA G 0, 182, .inl g))], [(q2, .inl (gA G 0, 1092, .inl (shP pa k)))]] H locs → ∀ (ls : Array Slot), lv_has ls 2 [(1, .int (nI k)), (0, .ref h0)] → W p l e rm_X3_records s m ag below meth c H locs (0) (0) Q (F0 m 11 ls []) := by
      intro kf
      induction kf with
      | zero =>
        intro k hm
        exact absurd hm (Nat.not_lt_zero _)
      | succ kf11 ih11 =>
        intro k hm hk H locs S ls hl
        refine lv_iload_n hx hb dX3_records_11 rfl (lv_at hl 0 rfl) ?_
        refine lv_sipush (v := nI 910) hx hb dX3_records_12 (by decide) ?_
        refine lv_icmp_ge (tgt := 40) hx hb dX3_records_15 (by decide) (fun c15_6 => ?_) (fun c15_6 => ?_)
        · skip
          have c15_6 : 910 ≤ k := (nI_leI (a := 910) (b := k) (by omega) (by omega)).mp c15_6
          refine lv_aload_n hx hb dX3_records_40 rfl (lv_at hl 1 rfl) ?_
          refine lv_dup hx hb dX3_records_41 rfl ?_
          refine m_get X S 0 rfl (T := TX3) (N := 16) in_X3 rfl 2 (by decide) q1714 (fun _ h9 => h9) rfl dX3_records_42 ?_
          refine lv_iconst (v := nI 1) hx hb dX3_records_45 (by decide) ?_
          refine lv_isub hx hb dX3_records_46 ?_
          refine lv_toe (y := nI (n - 1)) (pk_sub (by omega)) ?_
          refine m_put X S 0 rfl (T := TX3) (N := 16) in_X3 tyX3 tyX3_ok nmX3 rfl 2 (by decide) q1714 (fun _ h9 => h9) rfl rfl rfl (Nat.le_of_ble_eq_true rfl) dX3_records_47 (fun H locs S => ?_)
          have S : Sw G A s.heap [[(h0, .inr (3, [.ref q1, .ref q2, .int (nI (n - 1)), .ref q3, .ref q4, .ref q5, .int length, .int known, .int there, .ref q6, .int spot, .int isWrong, .int sign, .int digit, .int first, .int second]))], [(q1, .inl (gA G 0, 182, .inl g))], [(q2, .inl (gA G 0, 1092, .inl (shP pa k)))]] _ _ := S
          have hE7 : shP pa k = shP pa 910 := by rw [show k = 910 by omega]
          have S := S.cong (congrArg (fun (zz : Nat → Int32) => ([[(h0, .inr (3, [.ref q1, .ref q2, .int (nI (n - 1)), .ref q3, .ref q4, .ref q5, .int length, .int known, .int there, .ref q6, .int spot, .int isWrong, .int sign, .int digit, .int first, .int second]))], [(q1, .inl (gA G 0, 182, .inl g))], [(q2, .inl (gA G 0, 1092, .inl zz))]] : List va_W)) hE7)
          have S : Sw G A s.heap [[(h0, .inr (3, [.ref q1, .ref q2, .int (nI (n - 1)), .ref q3, .ref q4, .ref q5, .int length, .int known, .int there, .ref q6, .int spot, .int isWrong, .int sign, .int digit, .int first, .int second]))], [(q1, .inl (gA G 0, 182, .inl g))], [(q2, .inl (gA G 0, 1092, .inl (shP pa 910)))]] _ _ := S
          have hE8 : shP pa 910 = cpP (shP pa 910) (182 * (n - 1)) g 0 := (cpP_0 _ _ _).symm
          have S := S.cong (congrArg (fun (zz : Nat → Int32) => ([[(h0, .inr (3, [.ref q1, .ref q2, .int (nI (n - 1)), .ref q3, .ref q4, .ref q5, .int length, .int known, .int there, .ref q6, .int spot, .int isWrong, .int sign, .int digit, .int first, .int second]))], [(q1, .inl (gA G 0, 182, .inl g))], [(q2, .inl (gA G 0, 1092, .inl zz))]] : List va_W)) hE8)
          have S : Sw G A s.heap [[(h0, .inr (3, [.ref q1, .ref q2, .int (nI (n - 1)), .ref q3, .ref q4, .ref q5, .int length, .int known, .int there, .ref q6, .int spot, .int isWrong, .int sign, .int digit, .int first, .int second]))], [(q1, .inl (gA G 0, 182, .inl g))], [(q2, .inl (gA G 0, 1092, .inl (cpP (shP pa 910) (182 * (n - 1)) g 0)))]] _ _ := S
          refine lv_iconst (v := nI 0) hx hb dX3_records_50 (by decide) ?_
          refine lv_istore_n (lv' := [(1, .int (nI 0)), (0, .ref h0)]) hx hb dX3_records_51 rfl hl (Nat.le_of_ble_eq_true rfl) rfl (fun ls hl => ?_)
          have hL52 : ∀ (kf : Nat) (k : Nat), (182 - k) < kf → (k ≤ 182) → ∀ (H : Heap) (locs : List Loc), Sw G A s.heap [[(h0, .inr (3, [.ref q1, .ref q2, .int (nI (n - 1)), .ref q3, .ref q4, .ref q5, .int length, .int known, .int there, .ref q6, .int spot, .int isWrong, .int sign, .int digit, .int first, .int second]))], [(q1, .inl (gA G 0, 182, .inl g))], [(q2, .inl (gA G 0, 1092, .inl (cpP (shP pa 910) (182 * (n - 1)) g k)))]] H locs → ∀ (ls : Array Slot), lv_has ls 2 [(1, .int (nI k)), (0, .ref h0)] → W p l e rm_X3_records s m ag below meth c H locs (0) (0) Q (F0 m 52 ls []) := by
            intro kf
            induction kf with
            | zero =>
              intro k hm
              exact absurd hm (Nat.not_lt_zero _)
            | succ kf52 ih52 =>
              intro k hm hk H locs S ls hl
              refine lv_iload_n hx hb dX3_records_52 rfl (lv_at hl 0 rfl) ?_
              refine lv_sipush (v := nI 182) hx hb dX3_records_53 (by decide) ?_
              refine lv_icmp_ge (tgt := 86) hx hb dX3_records_56 (by decide) (fun c56_9 => ?_) (fun c56_9 => ?_)
              · skip
                have c56_9 : 182 ≤ k := (nI_leI (a := 182) (b := k) (by omega) (by omega)).mp c56_9
                refine lv_aload_n hx hb dX3_records_86 rfl (lv_at hl 1 rfl) ?_
                refine lv_dup hx hb dX3_records_87 rfl ?_
                refine m_get X S 0 rfl (T := TX3) (N := 16) in_X3 rfl 2 (by decide) q1714 (fun _ h9 => h9) rfl dX3_records_88 ?_
                refine lv_iconst (v := nI 1) hx hb dX3_records_91 (by decide) ?_
                refine lv_iadd hx hb dX3_records_92 ?_
                refine lv_toe (y := nI ((n - 1) + 1)) (nI_add _ _) ?_
                refine m_put X S 0 rfl (T := TX3) (N := 16) in_X3 tyX3 tyX3_ok nmX3 rfl 2 (by decide) q1714 (fun _ h9 => h9) rfl rfl rfl (Nat.le_of_ble_eq_true rfl) dX3_records_93 (fun H locs S => ?_)
                have S : Sw G A s.heap [[(h0, .inr (3, [.ref q1, .ref q2, .int (nI ((n - 1) + 1)), .ref q3, .ref q4, .ref q5, .int length, .int known, .int there, .ref q6, .int spot, .int isWrong, .int sign, .int digit, .int first, .int second]))], [(q1, .inl (gA G 0, 182, .inl g))], [(q2, .inl (gA G 0, 1092, .inl (cpP (shP pa 910) (182 * (n - 1)) g k)))]] _ _ := S
                exact m_vret X hr hlk hQ S ⟨(n - 1) + 1, cpP (shP pa 910) (182 * (n - 1)) g k⟩ (by show (((n - 1) + 1) = recN n ∧ (cpP (shP pa 910) (182 * (n - 1)) g k) = recP n pa g); rw [show k = 182 by omega]; unfold recN recP; first | (rw [if_pos (by omega), if_pos (by omega)]; exact ⟨by omega, rfl⟩) | (rw [if_neg (by omega), if_neg (by omega)]; exact ⟨rfl, rfl⟩)) [0, 1, 2] [] (show ([0, 1, 2] ++ ([] : List Nat)).isPerm (List.range 3) = true by decide +kernel) rfl (Nat.le_of_ble_eq_true rfl) (Nat.le_of_ble_eq_true rfl) dX3_records_96
              · skip
                have c56_9 : ¬ 182 ≤ k := fun z => c56_9 ((nI_leI (a := 182) (b := k) (by omega) (by omega)).mpr z)
                refine lv_aload_n hx hb dX3_records_59 rfl (lv_at hl 1 rfl) ?_
                refine m_get X S 0 rfl (T := TX3) (N := 16) in_X3 rfl 1 (by decide) q1713 (fun _ h9 => h9) rfl dX3_records_60 ?_
                refine lv_sipush (v := nI 182) hx hb dX3_records_63 (by decide) ?_
                refine lv_aload_n hx hb dX3_records_66 rfl (lv_at hl 1 rfl) ?_
                refine m_get X S 0 rfl (T := TX3) (N := 16) in_X3 rfl 2 (by decide) q1714 (fun _ h9 => h9) rfl dX3_records_67 ?_
                refine lv_imul hx hb dX3_records_70 ?_
                refine lv_toe (y := nI (182 * (n - 1))) (pk_mul _ _) ?_
                refine lv_iload_n hx hb dX3_records_71 rfl (lv_at hl 0 rfl) ?_
                refine lv_iadd hx hb dX3_records_72 ?_
                refine lv_toe (y := nI ((182 * (n - 1)) + k)) (nI_add _ _) ?_
                refine lv_aload_n hx hb dX3_records_73 rfl (lv_at hl 1 rfl) ?_
                refine m_get X S 0 rfl (T := TX3) (N := 16) in_X3 rfl 0 (by decide) q1712 (fun _ h9 => h9) rfl dX3_records_74 ?_
                refine lv_iload_n hx hb dX3_records_77 rfl (lv_at hl 0 rfl) ?_
                refine m_iald X S 1 rfl (x := nI k) (j := k) (nI_clamp (by omega)) (vp_in_nI (by omega) (by omega)) (v := g k) rfl dX3_records_78 ?_
                refine m_iast X S 2 rfl (x := nI ((182 * (n - 1)) + k)) (j := (182 * (n - 1)) + k) (nI_clamp (by omega)) (vp_in_nI (by omega) (by omega)) dX3_records_79 (fun H locs S => ?_)
                have S : Sw G A s.heap [[(h0, .inr (3, [.ref q1, .ref q2, .int (nI (n - 1)), .ref q3, .ref q4, .ref q5, .int length, .int known, .int there, .ref q6, .int spot, .int isWrong, .int sign, .int digit, .int first, .int second]))], [(q1, .inl (gA G 0, 182, .inl g))], [(q2, .inl (gA G 0, 1092, .inl (upd (cpP (shP pa 910) (182 * (n - 1)) g k) ((182 * (n - 1)) + k) (g k))))]] _ _ := S
                have hE10 : upd (cpP (shP pa 910) (182 * (n - 1)) g k) ((182 * (n - 1)) + k) (g k) = cpP (shP pa 910) (182 * (n - 1)) g (k + 1) := cpP_step _ _ _ _
                have S := S.cong (congrArg (fun (zz : Nat → Int32) => ([[(h0, .inr (3, [.ref q1, .ref q2, .int (nI (n - 1)), .ref q3, .ref q4, .ref q5, .int length, .int known, .int there, .ref q6, .int spot, .int isWrong, .int sign, .int digit, .int first, .int second]))], [(q1, .inl (gA G 0, 182, .inl g))], [(q2, .inl (gA G 0, 1092, .inl zz))]] : List va_W)) hE10)
                have S : Sw G A s.heap [[(h0, .inr (3, [.ref q1, .ref q2, .int (nI (n - 1)), .ref q3, .ref q4, .ref q5, .int length, .int known, .int there, .ref q6, .int spot, .int isWrong, .int sign, .int digit, .int first, .int second]))], [(q1, .inl (gA G 0, 182, .inl g))], [(q2, .inl (gA G 0, 1092, .inl (cpP (shP pa 910) (182 * (n - 1)) g (k + 1))))]] _ _ := S
                refine lv_iinc (v := nI (k + 1)) (lv' := [(1, .int (nI (k + 1))), (0, .ref h0)]) hx hb dX3_records_80 hl (k := 0) rfl (nI_add _ _) (Nat.le_of_ble_eq_true rfl) rfl (fun ls hl => ?_)
                refine lv_goto (tgt := 52) hx hb dX3_records_83 (by decide) ?_
                exact ih52 (k + 1) (by omega) (by omega) _ _ S ls (lv_sub hl [0, 1] rfl)
          exact hL52 _ 0 (Nat.lt_succ_self _) (by omega) _ _ S ls (lv_sub hl [0, 1] rfl)
        · skip
          have c15_6 : ¬ 910 ≤ k := fun z => c15_6 ((nI_leI (a := 910) (b := k) (by omega) (by omega)).mpr z)
          refine lv_aload_n hx hb dX3_records_18 rfl (lv_at hl 1 rfl) ?_
          refine m_get X S 0 rfl (T := TX3) (N := 16) in_X3 rfl 1 (by decide) q1713 (fun _ h9 => h9) rfl dX3_records_19 ?_
          refine lv_iload_n hx hb dX3_records_22 rfl (lv_at hl 0 rfl) ?_
          refine lv_aload_n hx hb dX3_records_23 rfl (lv_at hl 1 rfl) ?_
          refine m_get X S 0 rfl (T := TX3) (N := 16) in_X3 rfl 1 (by decide) q1713 (fun _ h9 => h9) rfl dX3_records_24 ?_
          refine lv_sipush (v := nI 182) hx hb dX3_records_27 (by decide) ?_
          refine lv_iload_n hx hb dX3_records_30 rfl (lv_at hl 0 rfl) ?_
          refine lv_iadd hx hb dX3_records_31 ?_
          refine lv_toe (y := nI (182 + k)) (nI_add _ _) ?_
          refine m_iald X S 2 rfl (x := nI (182 + k)) (j := 182 + k) (nI_clamp (by omega)) (vp_in_nI (by omega) (by omega)) (v := (shP pa k) (182 + k)) rfl dX3_records_32 ?_
          refine m_iast X S 2 rfl (x := nI k) (j := k) (nI_clamp (by omega)) (vp_in_nI (by omega) (by omega)) dX3_records_33 (fun H locs S => ?_)
          have S : Sw G A s.heap [[(h0, .inr (3, [.ref q1, .ref q2, .int (nI n), .ref q3, .ref q4, .ref q5, .int length, .int known, .int there, .ref q6, .int spot, .int isWrong, .int sign, .int digit, .int first, .int second]))], [(q1, .inl (gA G 0, 182, .inl g))], [(q2, .inl (gA G 0, 1092, .inl (upd (shP pa k) k ((shP pa k) (182 + k)))))]] _ _ := S
          have hE11 : upd (shP pa k) k ((shP pa k) (182 + k)) = shP pa (k + 1) := shP_step pa k
          have S := S.cong (congrArg (fun (zz : Nat → Int32) => ([[(h0, .inr (3, [.ref q1, .ref q2, .int (nI n), .ref q3, .ref q4, .ref q5, .int length, .int known, .int there, .ref q6, .int spot, .int isWrong, .int sign, .int digit, .int first, .int second]))], [(q1, .inl (gA G 0, 182, .inl g))], [(q2, .inl (gA G 0, 1092, .inl zz))]] : List va_W)) hE11)
          have S : Sw G A s.heap [[(h0, .inr (3, [.ref q1, .ref q2, .int (nI n), .ref q3, .ref q4, .ref q5, .int length, .int known, .int there, .ref q6, .int spot, .int isWrong, .int sign, .int digit, .int first, .int second]))], [(q1, .inl (gA G 0, 182, .inl g))], [(q2, .inl (gA G 0, 1092, .inl (shP pa (k + 1))))]] _ _ := S
          refine lv_iinc (v := nI (k + 1)) (lv' := [(1, .int (nI (k + 1))), (0, .ref h0)]) hx hb dX3_records_34 hl (k := 0) rfl (nI_add _ _) (Nat.le_of_ble_eq_true rfl) rfl (fun ls hl => ?_)
          refine lv_goto (tgt := 11) hx hb dX3_records_37 (by decide) ?_
          exact ih11 (k + 1) (by omega) (by omega) _ _ S ls (lv_sub hl [0, 1] rfl)
    exact hL11 _ 0 (Nat.lt_succ_self _) (by omega) _ _ S ls (lv_sub hl [0, 1] rfl)

abbrev rm_X3_gets : Room := { frames := 0, cells := 0, slots := 0, locals := 0 }
set_option maxHeartbeats 4000000 in
set_option maxRecDepth 100000 in
theorem mt_X3_gets (G : mGG) (l : Launch) (h0 : Nat) (q1 : Nat) (q2 : Nat) (q3 : Nat) (q4 : Nat) (q5 : Nat) (q6 : Nat) (pasts : Int32) (length : Int32) (known : Int32) (there : Int32) (spot : Int32) (isWrong : Int32) (sign : Int32) (digit : Int32) (first : Int32) (second : Int32) (g : Nat → Int32) (p0 : Nat) (cn : Int32) (hp3 : p0 < 3) : Cg G l yX3_gets (ws_ yX3_gets cX3_gets 3 (none)) rm_X3_gets [.ref h0, .int (nI p0), .int cn] [[(h0, .inr (3, [.ref q1, .ref q2, .int pasts, .ref q3, .ref q4, .ref q5, .int length, .int known, .int there, .ref q6, .int spot, .int isWrong, .int sign, .int digit, .int first, .int second]))], [(q1, .inl (gA G 0, 182, .inl g))]] (Qv G (fun (u : (Nat → Int32)) => (u = getS g p0 cn)) (fun (u : (Nat → Int32)) => [[(h0, .inr (3, [.ref q1, .ref q2, .int pasts, .ref q3, .ref q4, .ref q5, .int length, .int known, .int there, .ref q6, .int spot, .int isWrong, .int sign, .int digit, .int first, .int second]))], [(q1, .inl (gA G 0, 182, .inl u))]])) := by
  refine Cg.intro (own := RX3) (cc := cX3_gets) (maxL := 3) (ret := (none)) (by decide +kernel) rfl rfl (Nat.le_of_ble_eq_true rfl) ?_
  intro p e s m ag below meth c A ls Q X hr hlk hnm S hl hQ
  have hx := X.1
  have hb := X.2.1
  have hl : lv_has ls 3 [(0, .ref h0), (1, .int (nI p0)), (2, .int cn)] := hl
  refine lv_aload_n hx hb dX3_gets_0 rfl (lv_at hl 0 rfl) ?_
  refine m_get X S 0 rfl (T := TX3) (N := 16) in_X3 rfl 0 (by decide) q1712 (fun _ h9 => h9) rfl dX3_gets_1 ?_
  refine lv_bipush (v := nI 8) hx hb dX3_gets_4 (by decide) ?_
  refine lv_iload_n hx hb dX3_gets_6 rfl (lv_at hl 1 rfl) ?_
  refine lv_iadd hx hb dX3_gets_7 ?_
  refine lv_toe (y := nI (8 + p0)) (nI_add _ _) ?_
  refine lv_aload_n hx hb dX3_gets_8 rfl (lv_at hl 0 rfl) ?_
  refine m_get X S 0 rfl (T := TX3) (N := 16) in_X3 rfl 0 (by decide) q1712 (fun _ h9 => h9) rfl dX3_gets_9 ?_
  refine lv_bipush (v := nI 8) hx hb dX3_gets_12 (by decide) ?_
  refine lv_iload_n hx hb dX3_gets_14 rfl (lv_at hl 1 rfl) ?_
  refine lv_iadd hx hb dX3_gets_15 ?_
  refine lv_toe (y := nI (8 + p0)) (nI_add _ _) ?_
  refine m_iald X S 1 rfl (x := nI (8 + p0)) (j := 8 + p0) (nI_clamp (by omega)) (vp_in_nI (by omega) (by omega)) (v := g (8 + p0)) rfl dX3_gets_16 ?_
  refine lv_iload_n hx hb dX3_gets_17 rfl (lv_at hl 2 rfl) ?_
  refine lv_iadd hx hb dX3_gets_18 ?_
  refine lv_sipush (v := nI 9999) hx hb dX3_gets_19 (by decide) ?_
  refine lv_icmp_le (tgt := 31) hx hb dX3_gets_22 (by decide) (fun c22_1 => ?_) (fun c22_1 => ?_)
  · skip
    have c22_1 : ((g (8 + p0)) + cn) ≤ (nI 9999) := c22_1
    refine lv_aload_n hx hb dX3_gets_31 rfl (lv_at hl 0 rfl) ?_
    refine m_get X S 0 rfl (T := TX3) (N := 16) in_X3 rfl 0 (by decide) q1712 (fun _ h9 => h9) rfl dX3_gets_32 ?_
    refine lv_bipush (v := nI 8) hx hb dX3_gets_35 (by decide) ?_
    refine lv_iload_n hx hb dX3_gets_37 rfl (lv_at hl 1 rfl) ?_
    refine lv_iadd hx hb dX3_gets_38 ?_
    refine lv_toe (y := nI (8 + p0)) (nI_add _ _) ?_
    refine m_iald X S 1 rfl (x := nI (8 + p0)) (j := 8 + p0) (nI_clamp (by omega)) (vp_in_nI (by omega) (by omega)) (v := g (8 + p0)) rfl dX3_gets_39 ?_
    refine lv_iload_n hx hb dX3_gets_40 rfl (lv_at hl 2 rfl) ?_
    refine lv_iadd hx hb dX3_gets_41 ?_
    refine m_iast X S 1 rfl (x := nI (8 + p0)) (j := 8 + p0) (nI_clamp (by omega)) (vp_in_nI (by omega) (by omega)) dX3_gets_42 (fun H locs S => ?_)
    have S : Sw G A s.heap [[(h0, .inr (3, [.ref q1, .ref q2, .int pasts, .ref q3, .ref q4, .ref q5, .int length, .int known, .int there, .ref q6, .int spot, .int isWrong, .int sign, .int digit, .int first, .int second]))], [(q1, .inl (gA G 0, 182, .inl (upd g (8 + p0) ((g (8 + p0)) + cn))))]] _ _ := S
    exact m_vret X hr hlk hQ S (upd g (8 + p0) ((g (8 + p0)) + cn)) (by show ((upd g (8 + p0) ((g (8 + p0)) + cn)) = getS g p0 cn); unfold getS; first | (rw [if_pos (by assumption)]; done) | (rw [if_neg (by assumption)]; done)) [0, 1] [] (show ([0, 1] ++ ([] : List Nat)).isPerm (List.range 2) = true by decide +kernel) rfl (Nat.le_of_ble_eq_true rfl) (Nat.le_of_ble_eq_true rfl) dX3_gets_43
  · skip
    have c22_1 : ¬ ((g (8 + p0)) + cn) ≤ (nI 9999) := c22_1
    refine lv_sipush (v := nI 9999) hx hb dX3_gets_25 (by decide) ?_
    refine lv_goto (tgt := 42) hx hb dX3_gets_28 (by decide) ?_
    refine m_iast X S 1 rfl (x := nI (8 + p0)) (j := 8 + p0) (nI_clamp (by omega)) (vp_in_nI (by omega) (by omega)) dX3_gets_42 (fun H locs S => ?_)
    have S : Sw G A s.heap [[(h0, .inr (3, [.ref q1, .ref q2, .int pasts, .ref q3, .ref q4, .ref q5, .int length, .int known, .int there, .ref q6, .int spot, .int isWrong, .int sign, .int digit, .int first, .int second]))], [(q1, .inl (gA G 0, 182, .inl (upd g (8 + p0) (nI 9999))))]] _ _ := S
    exact m_vret X hr hlk hQ S (upd g (8 + p0) (nI 9999)) (by show ((upd g (8 + p0) (nI 9999)) = getS g p0 cn); unfold getS; first | (rw [if_pos (by assumption)]; done) | (rw [if_neg (by assumption)]; done)) [0, 1] [] (show ([0, 1] ++ ([] : List Nat)).isPerm (List.range 2) = true by decide +kernel) rfl (Nat.le_of_ble_eq_true rfl) (Nat.le_of_ble_eq_true rfl) dX3_gets_43

abbrev rm_X3_pays : Room := { frames := 1, cells := 0, slots := 0, locals := 22 }
set_option maxHeartbeats 4000000 in
set_option maxRecDepth 100000 in
theorem mt_X3_pays (G : mGG) (l : Launch) (h0 : Nat) (q1 : Nat) (q2 : Nat) (q3 : Nat) (q4 : Nat) (q5 : Nat) (q6 : Nat) (pasts : Int32) (length : Int32) (known : Int32) (there : Int32) (spot : Int32) (isWrong : Int32) (sign : Int32) (digit : Int32) (first : Int32) (second : Int32) (g : Nat → Int32) (f0 : Nat) (t0 : Nat) (cn : Int32) (hf3 : f0 < 3) (ht3 : t0 < 3) : Cg G l yX3_pays (ws_ yX3_pays cX3_pays 5 (none)) rm_X3_pays [.ref h0, .int (nI f0), .int (nI t0), .int cn] [[(h0, .inr (3, [.ref q1, .ref q2, .int pasts, .ref q3, .ref q4, .ref q5, .int length, .int known, .int there, .ref q6, .int spot, .int isWrong, .int sign, .int digit, .int first, .int second]))], [(q1, .inl (gA G 0, 182, .inl g))]] (Qv G (fun (u : (Nat → Int32)) => (u = payS g f0 t0 cn)) (fun (u : (Nat → Int32)) => [[(h0, .inr (3, [.ref q1, .ref q2, .int pasts, .ref q3, .ref q4, .ref q5, .int length, .int known, .int there, .ref q6, .int spot, .int isWrong, .int sign, .int digit, .int first, .int second]))], [(q1, .inl (gA G 0, 182, .inl u))]])) := by
  refine Cg.intro (own := RX3) (cc := cX3_pays) (maxL := 5) (ret := (none)) (by decide +kernel) rfl rfl (Nat.le_of_ble_eq_true rfl) ?_
  intro p e s m ag below meth c A ls Q X hr hlk hnm S hl hQ
  have hx := X.1
  have hb := X.2.1
  have hl : lv_has ls 5 [(0, .ref h0), (1, .int (nI f0)), (2, .int (nI t0)), (3, .int cn)] := hl
  refine lv_aload_n hx hb dX3_pays_0 rfl (lv_at hl 0 rfl) ?_
  refine m_get X S 0 rfl (T := TX3) (N := 16) in_X3 rfl 0 (by decide) q1712 (fun _ h9 => h9) rfl dX3_pays_1 ?_
  refine lv_bipush (v := nI 8) hx hb dX3_pays_4 (by decide) ?_
  refine lv_iload_n hx hb dX3_pays_6 rfl (lv_at hl 1 rfl) ?_
  refine lv_iadd hx hb dX3_pays_7 ?_
  refine lv_toe (y := nI (8 + f0)) (nI_add _ _) ?_
  refine m_iald X S 1 rfl (x := nI (8 + f0)) (j := 8 + f0) (nI_clamp (by omega)) (vp_in_nI (by omega) (by omega)) (v := g (8 + f0)) rfl dX3_pays_8 ?_
  refine lv_iload_n hx hb dX3_pays_9 rfl (lv_at hl 3 rfl) ?_
  refine lv_icmp_ge (tgt := 25) hx hb dX3_pays_10 (by decide) (fun c10_1 => ?_) (fun c10_1 => ?_)
  · skip
    refine lv_iload_n hx hb dX3_pays_25 rfl (lv_at hl 3 rfl) ?_
    refine lv_istore (lv' := [(4, .int cn), (0, .ref h0), (1, .int (nI f0)), (2, .int (nI t0)), (3, .int cn)]) hx hb dX3_pays_26 hl (Nat.le_of_ble_eq_true rfl) rfl (fun ls hl => ?_)
    refine lv_aload_n hx hb dX3_pays_28 rfl (lv_at hl 1 rfl) ?_
    refine m_get X S 0 rfl (T := TX3) (N := 16) in_X3 rfl 0 (by decide) q1712 (fun _ h9 => h9) rfl dX3_pays_29 ?_
    refine lv_bipush (v := nI 8) hx hb dX3_pays_32 (by decide) ?_
    refine lv_iload_n hx hb dX3_pays_34 rfl (lv_at hl 2 rfl) ?_
    refine lv_iadd hx hb dX3_pays_35 ?_
    refine lv_toe (y := nI (8 + f0)) (nI_add _ _) ?_
    refine lv_dup2_11 hx hb dX3_pays_36 rfl rfl ?_
    refine m_iald X S 1 rfl (x := nI (8 + f0)) (j := 8 + f0) (nI_clamp (by omega)) (vp_in_nI (by omega) (by omega)) (v := g (8 + f0)) rfl dX3_pays_37 ?_
    refine lv_iload hx hb dX3_pays_38 (lv_at hl 0 rfl) ?_
    refine lv_isub hx hb dX3_pays_40 ?_
    refine m_iast X S 1 rfl (x := nI (8 + f0)) (j := 8 + f0) (nI_clamp (by omega)) (vp_in_nI (by omega) (by omega)) dX3_pays_41 (fun H locs S => ?_)
    have S : Sw G A s.heap [[(h0, .inr (3, [.ref q1, .ref q2, .int pasts, .ref q3, .ref q4, .ref q5, .int length, .int known, .int there, .ref q6, .int spot, .int isWrong, .int sign, .int digit, .int first, .int second]))], [(q1, .inl (gA G 0, 182, .inl (upd g (8 + f0) ((g (8 + f0)) - cn))))]] _ _ := S
    refine lv_aload_n hx hb dX3_pays_42 rfl (lv_at hl 1 rfl) ?_
    refine lv_iload_n hx hb dX3_pays_43 rfl (lv_at hl 3 rfl) ?_
    refine lv_iload hx hb dX3_pays_44 (lv_at hl 0 rfl) ?_
    have hq2 := S.cut (Bc := [[(h0, .inr (3, [.ref q1, .ref q2, .int pasts, .ref q3, .ref q4, .ref q5, .int length, .int known, .int there, .ref q6, .int spot, .int isWrong, .int sign, .int digit, .int first, .int second]))], [(q1, .inl (gA G 0, 182, .inl (upd g (8 + f0) ((g (8 + f0)) - cn))))]]) (Br := []) [0, 1] [] (show ([0, 1] ++ ([] : List Nat)).isPerm (List.range 2) = true by decide +kernel) rfl rfl
    refine m_rv X S hq2 (m_runV (rest := []) (As := [.int (nI t0), .int cn]) (n := 2) X S hq2 (mt_X3_gets G l h0 q1 q2 q3 q4 q5 q6 pasts length known there spot isWrong sign digit first second (upd g (8 + f0) ((g (8 + f0)) - cn)) t0 cn (by omega)) (lw_V q1870 q1872 qs61 q90 q1873) (m_recv X S 0 rfl rfl) (by decide +kernel) ⟨Nat.le_of_ble_eq_true rfl, Nat.le_of_ble_eq_true rfl⟩ rfl hl.1 rfl (Nat.le_of_ble_eq_true rfl) dX3_pays_46 ⟨(Nat.le_of_ble_eq_true rfl), (Nat.le_of_ble_eq_true rfl)⟩) (fun u H locs hp3 S => ?_)
    obtain ⟨u4, rfl⟩ : ∃ z, z = u := ⟨_, rfl⟩
    have hp3 : (u4 = getS (upd g (8 + f0) ((g (8 + f0)) - cn)) t0 cn) := hp3
    have S : Sw G A s.heap [[(h0, .inr (3, [.ref q1, .ref q2, .int pasts, .ref q3, .ref q4, .ref q5, .int length, .int known, .int there, .ref q6, .int spot, .int isWrong, .int sign, .int digit, .int first, .int second]))], [(q1, .inl (gA G 0, 182, .inl u4))]] _ _ := S
    have hhp3_0 := hp3
    subst hhp3_0
    have S : Sw G A s.heap [[(h0, .inr (3, [.ref q1, .ref q2, .int pasts, .ref q3, .ref q4, .ref q5, .int length, .int known, .int there, .ref q6, .int spot, .int isWrong, .int sign, .int digit, .int first, .int second]))], [(q1, .inl (gA G 0, 182, .inl (getS (upd g (8 + f0) ((g (8 + f0)) - cn)) t0 cn)))]] _ _ := S
    exact m_vret X hr hlk hQ S (getS (upd g (8 + f0) ((g (8 + f0)) - cn)) t0 cn) (by show ((getS (upd g (8 + f0) ((g (8 + f0)) - cn)) t0 cn) = payS g f0 t0 cn); unfold payS paidS; first | (rw [if_pos (by assumption)]; done) | (rw [if_neg (by assumption)]; done)) [0, 1] [] (show ([0, 1] ++ ([] : List Nat)).isPerm (List.range 2) = true by decide +kernel) rfl (Nat.le_of_ble_eq_true rfl) (Nat.le_of_ble_eq_true rfl) dX3_pays_49
  · skip
    refine lv_aload_n hx hb dX3_pays_13 rfl (lv_at hl 0 rfl) ?_
    refine m_get X S 0 rfl (T := TX3) (N := 16) in_X3 rfl 0 (by decide) q1712 (fun _ h9 => h9) rfl dX3_pays_14 ?_
    refine lv_bipush (v := nI 8) hx hb dX3_pays_17 (by decide) ?_
    refine lv_iload_n hx hb dX3_pays_19 rfl (lv_at hl 1 rfl) ?_
    refine lv_iadd hx hb dX3_pays_20 ?_
    refine lv_toe (y := nI (8 + f0)) (nI_add _ _) ?_
    refine m_iald X S 1 rfl (x := nI (8 + f0)) (j := 8 + f0) (nI_clamp (by omega)) (vp_in_nI (by omega) (by omega)) (v := g (8 + f0)) rfl dX3_pays_21 ?_
    refine lv_goto (tgt := 26) hx hb dX3_pays_22 (by decide) ?_
    refine lv_istore (lv' := [(4, .int (g (8 + f0))), (0, .ref h0), (1, .int (nI f0)), (2, .int (nI t0)), (3, .int cn)]) hx hb dX3_pays_26 hl (Nat.le_of_ble_eq_true rfl) rfl (fun ls hl => ?_)
    refine lv_aload_n hx hb dX3_pays_28 rfl (lv_at hl 1 rfl) ?_
    refine m_get X S 0 rfl (T := TX3) (N := 16) in_X3 rfl 0 (by decide) q1712 (fun _ h9 => h9) rfl dX3_pays_29 ?_
    refine lv_bipush (v := nI 8) hx hb dX3_pays_32 (by decide) ?_
    refine lv_iload_n hx hb dX3_pays_34 rfl (lv_at hl 2 rfl) ?_
    refine lv_iadd hx hb dX3_pays_35 ?_
    refine lv_toe (y := nI (8 + f0)) (nI_add _ _) ?_
    refine lv_dup2_11 hx hb dX3_pays_36 rfl rfl ?_
    refine m_iald X S 1 rfl (x := nI (8 + f0)) (j := 8 + f0) (nI_clamp (by omega)) (vp_in_nI (by omega) (by omega)) (v := g (8 + f0)) rfl dX3_pays_37 ?_
    refine lv_iload hx hb dX3_pays_38 (lv_at hl 0 rfl) ?_
    refine lv_isub hx hb dX3_pays_40 ?_
    refine m_iast X S 1 rfl (x := nI (8 + f0)) (j := 8 + f0) (nI_clamp (by omega)) (vp_in_nI (by omega) (by omega)) dX3_pays_41 (fun H locs S => ?_)
    have S : Sw G A s.heap [[(h0, .inr (3, [.ref q1, .ref q2, .int pasts, .ref q3, .ref q4, .ref q5, .int length, .int known, .int there, .ref q6, .int spot, .int isWrong, .int sign, .int digit, .int first, .int second]))], [(q1, .inl (gA G 0, 182, .inl (upd g (8 + f0) ((g (8 + f0)) - (g (8 + f0))))))]] _ _ := S
    refine lv_aload_n hx hb dX3_pays_42 rfl (lv_at hl 1 rfl) ?_
    refine lv_iload_n hx hb dX3_pays_43 rfl (lv_at hl 3 rfl) ?_
    refine lv_iload hx hb dX3_pays_44 (lv_at hl 0 rfl) ?_
    have hq5 := S.cut (Bc := [[(h0, .inr (3, [.ref q1, .ref q2, .int pasts, .ref q3, .ref q4, .ref q5, .int length, .int known, .int there, .ref q6, .int spot, .int isWrong, .int sign, .int digit, .int first, .int second]))], [(q1, .inl (gA G 0, 182, .inl (upd g (8 + f0) ((g (8 + f0)) - (g (8 + f0))))))]]) (Br := []) [0, 1] [] (show ([0, 1] ++ ([] : List Nat)).isPerm (List.range 2) = true by decide +kernel) rfl rfl
    refine m_rv X S hq5 (m_runV (rest := []) (As := [.int (nI t0), .int (g (8 + f0))]) (n := 2) X S hq5 (mt_X3_gets G l h0 q1 q2 q3 q4 q5 q6 pasts length known there spot isWrong sign digit first second (upd g (8 + f0) ((g (8 + f0)) - (g (8 + f0)))) t0 (g (8 + f0)) (by omega)) (lw_V q1870 q1872 qs61 q90 q1873) (m_recv X S 0 rfl rfl) (by decide +kernel) ⟨Nat.le_of_ble_eq_true rfl, Nat.le_of_ble_eq_true rfl⟩ rfl hl.1 rfl (Nat.le_of_ble_eq_true rfl) dX3_pays_46 ⟨(Nat.le_of_ble_eq_true rfl), (Nat.le_of_ble_eq_true rfl)⟩) (fun u H locs hp6 S => ?_)
    obtain ⟨u7, rfl⟩ : ∃ z, z = u := ⟨_, rfl⟩
    have hp6 : (u7 = getS (upd g (8 + f0) ((g (8 + f0)) - (g (8 + f0)))) t0 (g (8 + f0))) := hp6
    have S : Sw G A s.heap [[(h0, .inr (3, [.ref q1, .ref q2, .int pasts, .ref q3, .ref q4, .ref q5, .int length, .int known, .int there, .ref q6, .int spot, .int isWrong, .int sign, .int digit, .int first, .int second]))], [(q1, .inl (gA G 0, 182, .inl u7))]] _ _ := S
    have hhp6_0 := hp6
    subst hhp6_0
    have S : Sw G A s.heap [[(h0, .inr (3, [.ref q1, .ref q2, .int pasts, .ref q3, .ref q4, .ref q5, .int length, .int known, .int there, .ref q6, .int spot, .int isWrong, .int sign, .int digit, .int first, .int second]))], [(q1, .inl (gA G 0, 182, .inl (getS (upd g (8 + f0) ((g (8 + f0)) - (g (8 + f0)))) t0 (g (8 + f0)))))]] _ _ := S
    exact m_vret X hr hlk hQ S (getS (upd g (8 + f0) ((g (8 + f0)) - (g (8 + f0)))) t0 (g (8 + f0))) (by show ((getS (upd g (8 + f0) ((g (8 + f0)) - (g (8 + f0)))) t0 (g (8 + f0))) = payS g f0 t0 cn); unfold payS paidS; first | (rw [if_pos (by assumption)]; done) | (rw [if_neg (by assumption)]; done)) [0, 1] [] (show ([0, 1] ++ ([] : List Nat)).isPerm (List.range 2) = true by decide +kernel) rfl (Nat.le_of_ble_eq_true rfl) (Nat.le_of_ble_eq_true rfl) dX3_pays_49

abbrev rm_X3_claims : Room := { frames := 1, cells := 0, slots := 0, locals := 22 }
set_option maxHeartbeats 4000000 in
set_option maxRecDepth 100000 in
theorem mt_X3_claims (G : mGG) (l : Launch) (h0 : Nat) (q1 : Nat) (q2 : Nat) (q3 : Nat) (q4 : Nat) (q5 : Nat) (q6 : Nat) (pasts : Int32) (length : Int32) (known : Int32) (there : Int32) (spot : Int32) (isWrong : Int32) (sign : Int32) (digit : Int32) (first : Int32) (second : Int32) (g : Nat → Int32) (p0 : Nat) (hp3 : p0 < 3) : Cg G l yX3_claims (ws_ yX3_claims cX3_claims 2 (some FieldType.int)) rm_X3_claims [.ref h0, .int (nI p0)] [[(h0, .inr (3, [.ref q1, .ref q2, .int pasts, .ref q3, .ref q4, .ref q5, .int length, .int known, .int there, .ref q6, .int spot, .int isWrong, .int sign, .int digit, .int first, .int second]))], [(q1, .inl (gA G 0, 182, .inl g))]] (Qi G (fun (r : Int32) (u : Unit) => r = nI (card (g (11 + p0) ||| g (14 + p0)))) (fun (u : Unit) => [[(h0, .inr (3, [.ref q1, .ref q2, .int pasts, .ref q3, .ref q4, .ref q5, .int length, .int known, .int there, .ref q6, .int spot, .int isWrong, .int sign, .int digit, .int first, .int second]))], [(q1, .inl (gA G 0, 182, .inl g))]])) := by
  refine Cg.intro (own := RX3) (cc := cX3_claims) (maxL := 2) (ret := (some FieldType.int)) (by decide +kernel) rfl rfl (Nat.le_of_ble_eq_true rfl) ?_
  intro p e s m ag below meth c A ls Q X hr hlk hnm S hl hQ
  have hx := X.1
  have hb := X.2.1
  have hl : lv_has ls 2 [(0, .ref h0), (1, .int (nI p0))] := hl
  refine lv_aload_n hx hb dX3_claims_0 rfl (lv_at hl 0 rfl) ?_
  refine m_get X S 0 rfl (T := TX3) (N := 16) in_X3 rfl 0 (by decide) q1712 (fun _ h9 => h9) rfl dX3_claims_1 ?_
  refine lv_bipush (v := nI 11) hx hb dX3_claims_4 (by decide) ?_
  refine lv_iload_n hx hb dX3_claims_6 rfl (lv_at hl 1 rfl) ?_
  refine lv_iadd hx hb dX3_claims_7 ?_
  refine lv_toe (y := nI (11 + p0)) (nI_add _ _) ?_
  refine m_iald X S 1 rfl (x := nI (11 + p0)) (j := 11 + p0) (nI_clamp (by omega)) (vp_in_nI (by omega) (by omega)) (v := g (11 + p0)) rfl dX3_claims_8 ?_
  refine lv_aload_n hx hb dX3_claims_9 rfl (lv_at hl 0 rfl) ?_
  refine m_get X S 0 rfl (T := TX3) (N := 16) in_X3 rfl 0 (by decide) q1712 (fun _ h9 => h9) rfl dX3_claims_10 ?_
  refine lv_bipush (v := nI 14) hx hb dX3_claims_13 (by decide) ?_
  refine lv_iload_n hx hb dX3_claims_15 rfl (lv_at hl 1 rfl) ?_
  refine lv_iadd hx hb dX3_claims_16 ?_
  refine lv_toe (y := nI (14 + p0)) (nI_add _ _) ?_
  refine m_iald X S 1 rfl (x := nI (14 + p0)) (j := 14 + p0) (nI_clamp (by omega)) (vp_in_nI (by omega) (by omega)) (v := g (14 + p0)) rfl dX3_claims_17 ?_
  refine lv_ior hx hb dX3_claims_18 ?_
  have hq1 := S.cut (Bc := []) (Br := [[(h0, .inr (3, [.ref q1, .ref q2, .int pasts, .ref q3, .ref q4, .ref q5, .int length, .int known, .int there, .ref q6, .int spot, .int isWrong, .int sign, .int digit, .int first, .int second]))], [(q1, .inl (gA G 0, 182, .inl g))]]) [] [0, 1] (show ([] ++ ([0, 1] : List Nat)).isPerm (List.range 2) = true by decide +kernel) rfl rfl
  refine m_ri X S hq1 (m_runS (rest := []) (As := [.int ((g (11 + p0)) ||| (g (14 + p0)))]) (n := 1) X S hq1 (mt_X3_many G l ((g (11 + p0)) ||| (g (14 + p0))) ) (lw_S q1801 q1802 q90 q1803) (by decide +kernel) ⟨Nat.le_of_ble_eq_true rfl, Nat.le_of_ble_eq_true rfl⟩ rfl hl.1 rfl (Nat.le_of_ble_eq_true rfl) dX3_claims_19 ⟨(Nat.le_of_ble_eq_true rfl), (Nat.le_of_ble_eq_true rfl)⟩) (fun r2 u H locs hp2 S => ?_)
  have hp2 : r2 = nI (card ((g (11 + p0)) ||| (g (14 + p0)))) := hp2
  have hhp2_0 := hp2
  subst hhp2_0
  have S : Sw G A s.heap [[(h0, .inr (3, [.ref q1, .ref q2, .int pasts, .ref q3, .ref q4, .ref q5, .int length, .int known, .int there, .ref q6, .int spot, .int isWrong, .int sign, .int digit, .int first, .int second]))], [(q1, .inl (gA G 0, 182, .inl g))]] _ _ := S
  exact m_iret X hr hlk hQ S () (by show (nI (card ((g (11 + p0)) ||| (g (14 + p0))))) = nI (card (g (11 + p0) ||| g (14 + p0))); first | rfl | exact ⟨rfl, rfl⟩ | omega | assumption) [0, 1] [] (show ([0, 1] ++ ([] : List Nat)).isPerm (List.range 2) = true by decide +kernel) rfl (Nat.le_of_ble_eq_true rfl) (Nat.le_of_ble_eq_true rfl) dX3_claims_22

abbrev rm_X3_measures : Room := { frames := 1, cells := 0, slots := 0, locals := 23 }
set_option maxHeartbeats 4000000 in
set_option maxRecDepth 100000 in
theorem mt_X3_measures (G : mGG) (l : Launch) (h0 : Nat) (q1 : Nat) (q2 : Nat) (q3 : Nat) (q4 : Nat) (q5 : Nat) (q6 : Nat) (pasts : Int32) (length : Int32) (known : Int32) (there : Int32) (spot : Int32) (isWrong : Int32) (sign : Int32) (digit : Int32) (first : Int32) (second : Int32) (fr : Nat → Int32) (a : Nat) (R : Int32) (ha : a < 8) : Cg G l yX3_measures (ws_ yX3_measures cX3_measures 7 (none)) rm_X3_measures [.ref h0, .int (nI a), .int R] [[(h0, .inr (3, [.ref q1, .ref q2, .int pasts, .ref q3, .ref q4, .ref q5, .int length, .int known, .int there, .ref q6, .int spot, .int isWrong, .int sign, .int digit, .int first, .int second]))], [(q6, .inl (gA G 0, 8, .inl fr))]] (Qv G (fun (u : Unit) => True) (fun (u : Unit) => [[(h0, .inr (3, [.ref q1, .ref q2, .int pasts, .ref q3, .ref q4, .ref q5, .int length, .int known, .int there, .ref q6, .int spot, .int isWrong, .int sign, .int digit, .int first, .int second]))], [(q6, .inl (gA G 0, 8, .inl (distA R a)))]])) := by
  refine Cg.intro (own := RX3) (cc := cX3_measures) (maxL := 7) (ret := (none)) (by decide +kernel) rfl rfl (Nat.le_of_ble_eq_true rfl) ?_
  intro p e s m ag below meth c A ls Q X hr hlk hnm S hl hQ
  have hx := X.1
  have hb := X.2.1
  have hl : lv_has ls 7 [(0, .ref h0), (1, .int (nI a)), (2, .int R)] := hl
  refine lv_iconst (v := nI 0) hx hb dX3_measures_0 (by decide) ?_
  refine lv_istore_n (lv' := [(3, .int (nI 0)), (0, .ref h0), (1, .int (nI a)), (2, .int R)]) hx hb dX3_measures_1 rfl hl (Nat.le_of_ble_eq_true rfl) rfl (fun ls hl => ?_)
  have hL2 : ∀ (kf : Nat) (i : Nat), (8 - i) < kf → (i ≤ 8) → ∀ (H : Heap) (locs : List Loc), Sw G A s.heap [[(h0, .inr (3, [.ref q1, .ref q2, .int pasts, .ref q3, .ref q4, .ref q5, .int length, .int known, .int there, .ref q6, .int spot, .int isWrong, .int sign, .int digit, .int first, .int second]))], [(q6, .inl (gA G 0, 8, .inl (initF a fr i)))]] H locs → ∀ (ls : Array Slot), lv_has ls 7 [(3, .int (nI i)), (0, .ref h0), (1, .int (nI a)), (2, .int R)] → W p l e rm_X3_measures s m ag below meth c H locs (0) (0) Q (F0 m 2 ls []) := by
    intro kf
    induction kf with
    | zero =>
      intro i hm
      exact absurd hm (Nat.not_lt_zero _)
    | succ kf2 ih2 =>
      intro i hm hi H locs S ls hl
      refine lv_iload_n hx hb dX3_measures_2 rfl (lv_at hl 0 rfl) ?_
      refine lv_bipush (v := nI 8) hx hb dX3_measures_3 (by decide) ?_
      refine lv_icmp_ge (tgt := 31) hx hb dX3_measures_5 (by decide) (fun c5_1 => ?_) (fun c5_1 => ?_)
      · skip
        have c5_1 : 8 ≤ i := (nI_leI (a := 8) (b := i) (by omega) (by omega)).mp c5_1
        have hE2 : initF a fr i = itF R (initF a fr 8) 0 := by rw [show i = 8 by omega]; rfl
        have S := S.cong (congrArg (fun (zz : Nat → Int32) => ([[(h0, .inr (3, [.ref q1, .ref q2, .int pasts, .ref q3, .ref q4, .ref q5, .int length, .int known, .int there, .ref q6, .int spot, .int isWrong, .int sign, .int digit, .int first, .int second]))], [(q6, .inl (gA G 0, 8, .inl zz))]] : List va_W)) hE2)
        have S : Sw G A s.heap [[(h0, .inr (3, [.ref q1, .ref q2, .int pasts, .ref q3, .ref q4, .ref q5, .int length, .int known, .int there, .ref q6, .int spot, .int isWrong, .int sign, .int digit, .int first, .int second]))], [(q6, .inl (gA G 0, 8, .inl (itF R (initF a fr 8) 0)))]] _ _ := S
        refine lv_iconst (v := nI 0) hx hb dX3_measures_31 (by decide) ?_
        refine lv_istore_n (lv' := [(3, .int (nI 0)), (0, .ref h0), (1, .int (nI a)), (2, .int R)]) hx hb dX3_measures_32 rfl hl (Nat.le_of_ble_eq_true rfl) rfl (fun ls hl => ?_)
        have hL33 : ∀ (kf : Nat) (r0 : Nat), (8 - r0) < kf → (r0 ≤ 8) → ∀ (H : Heap) (locs : List Loc), Sw G A s.heap [[(h0, .inr (3, [.ref q1, .ref q2, .int pasts, .ref q3, .ref q4, .ref q5, .int length, .int known, .int there, .ref q6, .int spot, .int isWrong, .int sign, .int digit, .int first, .int second]))], [(q6, .inl (gA G 0, 8, .inl (itF R (initF a fr 8) r0)))]] H locs → ∀ (ls : Array Slot), lv_has ls 7 [(3, .int (nI r0)), (0, .ref h0), (1, .int (nI a)), (2, .int R)] → W p l e rm_X3_measures s m ag below meth c H locs (0) (0) Q (F0 m 33 ls []) := by
          intro kf
          induction kf with
          | zero =>
            intro r0 hm
            exact absurd hm (Nat.not_lt_zero _)
          | succ kf33 ih33 =>
            intro r0 hm hr0 H locs S ls hl
            refine lv_iload_n hx hb dX3_measures_33 rfl (lv_at hl 0 rfl) ?_
            refine lv_bipush (v := nI 8) hx hb dX3_measures_34 (by decide) ?_
            refine lv_icmp_ge (tgt := 168) hx hb dX3_measures_36 (by decide) (fun c36_3 => ?_) (fun c36_3 => ?_)
            · skip
              have c36_3 : 8 ≤ r0 := (nI_leI (a := 8) (b := r0) (by omega) (by omega)).mp c36_3
              have S := S.ext 1 rfl (f' := distA R a) (by rw [show r0 = 8 by omega]; exact meas_ok ha fr)
              have S : Sw G A s.heap [[(h0, .inr (3, [.ref q1, .ref q2, .int pasts, .ref q3, .ref q4, .ref q5, .int length, .int known, .int there, .ref q6, .int spot, .int isWrong, .int sign, .int digit, .int first, .int second]))], [(q6, .inl (gA G 0, 8, .inl (distA R a)))]] _ _ := S
              exact m_vret X hr hlk hQ S () trivial [0, 1] [] (show ([0, 1] ++ ([] : List Nat)).isPerm (List.range 2) = true by decide +kernel) rfl (Nat.le_of_ble_eq_true rfl) (Nat.le_of_ble_eq_true rfl) dX3_measures_168
            · skip
              have c36_3 : ¬ 8 ≤ r0 := fun z => c36_3 ((nI_leI (a := 8) (b := r0) (by omega) (by omega)).mpr z)
              have hE4 : itF R (initF a fr 8) r0 = rndF R (itF R (initF a fr 8) r0) 0 := rfl
              have S := S.cong (congrArg (fun (zz : Nat → Int32) => ([[(h0, .inr (3, [.ref q1, .ref q2, .int pasts, .ref q3, .ref q4, .ref q5, .int length, .int known, .int there, .ref q6, .int spot, .int isWrong, .int sign, .int digit, .int first, .int second]))], [(q6, .inl (gA G 0, 8, .inl zz))]] : List va_W)) hE4)
              have S : Sw G A s.heap [[(h0, .inr (3, [.ref q1, .ref q2, .int pasts, .ref q3, .ref q4, .ref q5, .int length, .int known, .int there, .ref q6, .int spot, .int isWrong, .int sign, .int digit, .int first, .int second]))], [(q6, .inl (gA G 0, 8, .inl (rndF R (itF R (initF a fr 8) r0) 0)))]] _ _ := S
              refine lv_iconst (v := nI 0) hx hb dX3_measures_39 (by decide) ?_
              refine lv_istore (lv' := [(4, .int (nI 0)), (3, .int (nI r0)), (0, .ref h0), (1, .int (nI a)), (2, .int R)]) hx hb dX3_measures_40 hl (Nat.le_of_ble_eq_true rfl) rfl (fun ls hl => ?_)
              have hL42 : ∀ (kf : Nat) (x : Nat), (8 - x) < kf → (x ≤ 8) → ∀ (H : Heap) (locs : List Loc), Sw G A s.heap [[(h0, .inr (3, [.ref q1, .ref q2, .int pasts, .ref q3, .ref q4, .ref q5, .int length, .int known, .int there, .ref q6, .int spot, .int isWrong, .int sign, .int digit, .int first, .int second]))], [(q6, .inl (gA G 0, 8, .inl (rndF R (itF R (initF a fr 8) r0) x)))]] H locs → ∀ (ls : Array Slot), lv_has ls 7 [(4, .int (nI x)), (3, .int (nI r0)), (0, .ref h0), (1, .int (nI a)), (2, .int R)] → W p l e rm_X3_measures s m ag below meth c H locs (0) (0) Q (F0 m 42 ls []) := by
                intro kf
                induction kf with
                | zero =>
                  intro x hm
                  exact absurd hm (Nat.not_lt_zero _)
                | succ kf42 ih42 =>
                  intro x hm hx8 H locs S ls hl
                  refine lv_iload hx hb dX3_measures_42 (lv_at hl 0 rfl) ?_
                  refine lv_bipush (v := nI 8) hx hb dX3_measures_44 (by decide) ?_
                  refine lv_icmp_ge (tgt := 162) hx hb dX3_measures_46 (by decide) (fun c46_5 => ?_) (fun c46_5 => ?_)
                  · skip
                    have c46_5 : 8 ≤ x := (nI_leI (a := 8) (b := x) (by omega) (by omega)).mp c46_5
                    have hE6 : rndF R (itF R (initF a fr 8) r0) x = itF R (initF a fr 8) (r0 + 1) := by rw [show x = 8 by omega]; rfl
                    have S := S.cong (congrArg (fun (zz : Nat → Int32) => ([[(h0, .inr (3, [.ref q1, .ref q2, .int pasts, .ref q3, .ref q4, .ref q5, .int length, .int known, .int there, .ref q6, .int spot, .int isWrong, .int sign, .int digit, .int first, .int second]))], [(q6, .inl (gA G 0, 8, .inl zz))]] : List va_W)) hE6)
                    have S : Sw G A s.heap [[(h0, .inr (3, [.ref q1, .ref q2, .int pasts, .ref q3, .ref q4, .ref q5, .int length, .int known, .int there, .ref q6, .int spot, .int isWrong, .int sign, .int digit, .int first, .int second]))], [(q6, .inl (gA G 0, 8, .inl (itF R (initF a fr 8) (r0 + 1))))]] _ _ := S
                    refine lv_iinc (v := nI (r0 + 1)) (lv' := [(3, .int (nI (r0 + 1))), (4, .int (nI x)), (0, .ref h0), (1, .int (nI a)), (2, .int R)]) hx hb dX3_measures_162 hl (k := 1) rfl (nI_add _ _) (Nat.le_of_ble_eq_true rfl) rfl (fun ls hl => ?_)
                    refine lv_goto (tgt := 33) hx hb dX3_measures_165 (by decide) ?_
                    exact ih33 (r0 + 1) (by omega) (by omega) _ _ S ls (lv_sub hl [0, 2, 3, 4] rfl)
                  · skip
                    have c46_5 : ¬ 8 ≤ x := fun z => c46_5 ((nI_leI (a := 8) (b := x) (by omega) (by omega)).mpr z)
                    have hE7 : rndF R (itF R (initF a fr 8) r0) x = rowF R (rndF R (itF R (initF a fr 8) r0) x) x 0 := rfl
                    have S := S.cong (congrArg (fun (zz : Nat → Int32) => ([[(h0, .inr (3, [.ref q1, .ref q2, .int pasts, .ref q3, .ref q4, .ref q5, .int length, .int known, .int there, .ref q6, .int spot, .int isWrong, .int sign, .int digit, .int first, .int second]))], [(q6, .inl (gA G 0, 8, .inl zz))]] : List va_W)) hE7)
                    have S : Sw G A s.heap [[(h0, .inr (3, [.ref q1, .ref q2, .int pasts, .ref q3, .ref q4, .ref q5, .int length, .int known, .int there, .ref q6, .int spot, .int isWrong, .int sign, .int digit, .int first, .int second]))], [(q6, .inl (gA G 0, 8, .inl (rowF R (rndF R (itF R (initF a fr 8) r0) x) x 0)))]] _ _ := S
                    refine lv_iconst (v := nI 0) hx hb dX3_measures_49 (by decide) ?_
                    refine lv_istore (lv' := [(5, .int (nI 0)), (4, .int (nI x)), (3, .int (nI r0)), (0, .ref h0), (1, .int (nI a)), (2, .int R)]) hx hb dX3_measures_50 hl (Nat.le_of_ble_eq_true rfl) rfl (fun ls hl => ?_)
                    have hL52 : ∀ (kf : Nat) (y : Nat), (8 - y) < kf → (y ≤ 8) → ∀ (H : Heap) (locs : List Loc), Sw G A s.heap [[(h0, .inr (3, [.ref q1, .ref q2, .int pasts, .ref q3, .ref q4, .ref q5, .int length, .int known, .int there, .ref q6, .int spot, .int isWrong, .int sign, .int digit, .int first, .int second]))], [(q6, .inl (gA G 0, 8, .inl (rowF R (rndF R (itF R (initF a fr 8) r0) x) x y)))]] H locs → ∀ (ls : Array Slot), lv_has ls 7 [(5, .int (nI y)), (4, .int (nI x)), (3, .int (nI r0)), (0, .ref h0), (1, .int (nI a)), (2, .int R)] → W p l e rm_X3_measures s m ag below meth c H locs (0) (0) Q (F0 m 52 ls []) := by
                      intro kf
                      induction kf with
                      | zero =>
                        intro y hm
                        exact absurd hm (Nat.not_lt_zero _)
                      | succ kf52 ih52 =>
                        intro y hm hy8 H locs S ls hl
                        refine lv_iload hx hb dX3_measures_52 (lv_at hl 0 rfl) ?_
                        refine lv_bipush (v := nI 8) hx hb dX3_measures_54 (by decide) ?_
                        refine lv_icmp_ge (tgt := 156) hx hb dX3_measures_56 (by decide) (fun c56_8 => ?_) (fun c56_8 => ?_)
                        · skip
                          have c56_8 : 8 ≤ y := (nI_leI (a := 8) (b := y) (by omega) (by omega)).mp c56_8
                          have hE9 : rowF R (rndF R (itF R (initF a fr 8) r0) x) x y = rndF R (itF R (initF a fr 8) r0) (x + 1) := by rw [show y = 8 by omega]; rfl
                          have S := S.cong (congrArg (fun (zz : Nat → Int32) => ([[(h0, .inr (3, [.ref q1, .ref q2, .int pasts, .ref q3, .ref q4, .ref q5, .int length, .int known, .int there, .ref q6, .int spot, .int isWrong, .int sign, .int digit, .int first, .int second]))], [(q6, .inl (gA G 0, 8, .inl zz))]] : List va_W)) hE9)
                          have S : Sw G A s.heap [[(h0, .inr (3, [.ref q1, .ref q2, .int pasts, .ref q3, .ref q4, .ref q5, .int length, .int known, .int there, .ref q6, .int spot, .int isWrong, .int sign, .int digit, .int first, .int second]))], [(q6, .inl (gA G 0, 8, .inl (rndF R (itF R (initF a fr 8) r0) (x + 1))))]] _ _ := S
                          refine lv_iinc (v := nI (x + 1)) (lv' := [(4, .int (nI (x + 1))), (5, .int (nI y)), (3, .int (nI r0)), (0, .ref h0), (1, .int (nI a)), (2, .int R)]) hx hb dX3_measures_156 hl (k := 1) rfl (nI_add _ _) (Nat.le_of_ble_eq_true rfl) rfl (fun ls hl => ?_)
                          refine lv_goto (tgt := 42) hx hb dX3_measures_159 (by decide) ?_
                          exact ih42 (x + 1) (by omega) (by omega) _ _ S ls (lv_sub hl [0, 2, 3, 4, 5] rfl)
                        · skip
                          have c56_8 : ¬ 8 ≤ y := fun z => c56_8 ((nI_leI (a := 8) (b := y) (by omega) (by omega)).mpr z)
                          refine lv_iload hx hb dX3_measures_59 (lv_at hl 1 rfl) ?_
                          refine lv_iload hx hb dX3_measures_61 (lv_at hl 0 rfl) ?_
                          refine lv_icmp_eq (tgt := 97) hx hb dX3_measures_63 (by decide) (fun c63_10 => ?_) (fun c63_10 => ?_)
                          · skip
                            have c63_10 : x = y := (nI_eq (a := x) (b := y) (by omega) (by omega)).mp c63_10
                            refine lv_iconst (v := nI 0) hx hb dX3_measures_97 (by decide) ?_
                            refine lv_istore (lv' := [(6, .int (nI 0)), (5, .int (nI y)), (4, .int (nI x)), (3, .int (nI r0)), (0, .ref h0), (1, .int (nI a)), (2, .int R)]) hx hb dX3_measures_98 hl (Nat.le_of_ble_eq_true rfl) rfl (fun ls hl => ?_)
                            refine lv_aload_n hx hb dX3_measures_100 rfl (lv_at hl 4 rfl) ?_
                            refine m_get X S 0 rfl (T := TX3) (N := 16) in_X3 rfl 9 (by decide) q1721 (fun _ h9 => h9) rfl dX3_measures_101 ?_
                            refine lv_iload hx hb dX3_measures_104 (lv_at hl 1 rfl) ?_
                            refine lv_iload hx hb dX3_measures_106 (lv_at hl 0 rfl) ?_
                            refine lv_if_eq (tgt := 142) hx hb dX3_measures_108 (by decide) (fun c108_11 => ?_) (fun c108_11 => absurd (by decide) c108_11)
                            refine lv_aload_n hx hb dX3_measures_142 rfl (lv_at hl 4 rfl) ?_
                            refine m_get X S 0 rfl (T := TX3) (N := 16) in_X3 rfl 9 (by decide) q1721 (fun _ h9 => h9) rfl dX3_measures_143 ?_
                            refine lv_iload hx hb dX3_measures_146 (lv_at hl 1 rfl) ?_
                            refine m_iald X S 1 rfl (x := nI y) (j := y) (nI_clamp (by omega)) (vp_in_nI (by omega) (by omega)) (v := (rowF R (rndF R (itF R (initF a fr 8) r0) x) x y) y) rfl dX3_measures_148 ?_
                            refine m_iast X S 1 rfl (x := nI y) (j := y) (nI_clamp (by omega)) (vp_in_nI (by omega) (by omega)) dX3_measures_149 (fun H locs S => ?_)
                            have S : Sw G A s.heap [[(h0, .inr (3, [.ref q1, .ref q2, .int pasts, .ref q3, .ref q4, .ref q5, .int length, .int known, .int there, .ref q6, .int spot, .int isWrong, .int sign, .int digit, .int first, .int second]))], [(q6, .inl (gA G 0, 8, .inl (upd (rowF R (rndF R (itF R (initF a fr 8) r0) x) x y) y ((rowF R (rndF R (itF R (initF a fr 8) r0) x) x y) y))))]] _ _ := S
                            have hE12 : upd (rowF R (rndF R (itF R (initF a fr 8) r0) x) x y) y ((rowF R (rndF R (itF R (initF a fr 8) r0) x) x y) y) = rowF R (rndF R (itF R (initF a fr 8) r0) x) x (y + 1) := by first | exact relax_eq (by assumption) | exact relax_nb (by assumption) | exact relax_99 (by assumption) | exact relax_no (by assumption) | exact relax_yes (by assumption) (by assumption) (by assumption) (by assumption)
                            have S := S.cong (congrArg (fun (zz : Nat → Int32) => ([[(h0, .inr (3, [.ref q1, .ref q2, .int pasts, .ref q3, .ref q4, .ref q5, .int length, .int known, .int there, .ref q6, .int spot, .int isWrong, .int sign, .int digit, .int first, .int second]))], [(q6, .inl (gA G 0, 8, .inl zz))]] : List va_W)) hE12)
                            have S : Sw G A s.heap [[(h0, .inr (3, [.ref q1, .ref q2, .int pasts, .ref q3, .ref q4, .ref q5, .int length, .int known, .int there, .ref q6, .int spot, .int isWrong, .int sign, .int digit, .int first, .int second]))], [(q6, .inl (gA G 0, 8, .inl (rowF R (rndF R (itF R (initF a fr 8) r0) x) x (y + 1))))]] _ _ := S
                            refine lv_iinc (v := nI (y + 1)) (lv' := [(5, .int (nI (y + 1))), (6, .int (nI 0)), (4, .int (nI x)), (3, .int (nI r0)), (0, .ref h0), (1, .int (nI a)), (2, .int R)]) hx hb dX3_measures_150 hl (k := 1) rfl (nI_add _ _) (Nat.le_of_ble_eq_true rfl) rfl (fun ls hl => ?_)
                            refine lv_goto (tgt := 52) hx hb dX3_measures_153 (by decide) ?_
                            exact ih52 (y + 1) (by omega) (by omega) _ _ S ls (lv_sub hl [0, 2, 3, 4, 5, 6] rfl)
                          · skip
                            have c63_10 : ¬ x = y := fun z => c63_10 ((nI_eq (a := x) (b := y) (by omega) (by omega)).mpr z)
                            have hEd : Ed x y < 28 := Ed_lt x (by omega) y (by omega) (by assumption)
                            refine lv_iload_n hx hb dX3_measures_66 rfl (lv_at hl 5 rfl) ?_
                            refine lv_iload hx hb dX3_measures_67 (lv_at hl 1 rfl) ?_
                            refine lv_iload hx hb dX3_measures_69 (lv_at hl 0 rfl) ?_
                            have hq13 := S.cut (Bc := []) (Br := [[(h0, .inr (3, [.ref q1, .ref q2, .int pasts, .ref q3, .ref q4, .ref q5, .int length, .int known, .int there, .ref q6, .int spot, .int isWrong, .int sign, .int digit, .int first, .int second]))], [(q6, .inl (gA G 0, 8, .inl (rowF R (rndF R (itF R (initF a fr 8) r0) x) x y)))]]) [] [0, 1] (show ([] ++ ([0, 1] : List Nat)).isPerm (List.range 2) = true by decide +kernel) rfl rfl
                            refine m_ri X S hq13 (m_runS (rest := [.int R]) (As := [.int (nI x), .int (nI y)]) (n := 2) X S hq13 (mt_X3_edge G l x y (by omega) (by omega) (by omega)) (lw_S q1798 q1799 q90 q1800) (by decide +kernel) ⟨Nat.le_of_ble_eq_true rfl, Nat.le_of_ble_eq_true rfl⟩ rfl hl.1 rfl (Nat.le_of_ble_eq_true rfl) dX3_measures_71 ⟨(Nat.le_of_ble_eq_true rfl), (Nat.le_of_ble_eq_true rfl)⟩) (fun r14 u H locs hp14 S => ?_)
                            have hp14 : r14 = nI (Ed x y) := hp14
                            have hhp14_0 := hp14
                            subst hhp14_0
                            have S : Sw G A s.heap [[(h0, .inr (3, [.ref q1, .ref q2, .int pasts, .ref q3, .ref q4, .ref q5, .int length, .int known, .int there, .ref q6, .int spot, .int isWrong, .int sign, .int digit, .int first, .int second]))], [(q6, .inl (gA G 0, 8, .inl (rowF R (rndF R (itF R (initF a fr 8) r0) x) x y)))]] _ _ := S
                            refine lv_ishr hx hb dX3_measures_74 ?_
                            refine lv_iconst (v := nI 1) hx hb dX3_measures_75 (by decide) ?_
                            refine lv_iand hx hb dX3_measures_76 ?_
                            refine lv_toe (y := bI R (Ed x y)) (bI_of (by omega)) ?_
                            refine lv_iconst (v := nI 1) hx hb dX3_measures_77 (by decide) ?_
                            refine lv_icmp_ne (tgt := 97) hx hb dX3_measures_78 (by decide) (fun c78_15 => ?_) (fun c78_15 => ?_)
                            · skip
                              have c78_15 : bt R (Ed x y) = false := bI_n1.mp c78_15
                              refine lv_iconst (v := nI 0) hx hb dX3_measures_97 (by decide) ?_
                              refine lv_istore (lv' := [(6, .int (nI 0)), (5, .int (nI y)), (4, .int (nI x)), (3, .int (nI r0)), (0, .ref h0), (1, .int (nI a)), (2, .int R)]) hx hb dX3_measures_98 hl (Nat.le_of_ble_eq_true rfl) rfl (fun ls hl => ?_)
                              refine lv_aload_n hx hb dX3_measures_100 rfl (lv_at hl 4 rfl) ?_
                              refine m_get X S 0 rfl (T := TX3) (N := 16) in_X3 rfl 9 (by decide) q1721 (fun _ h9 => h9) rfl dX3_measures_101 ?_
                              refine lv_iload hx hb dX3_measures_104 (lv_at hl 1 rfl) ?_
                              refine lv_iload hx hb dX3_measures_106 (lv_at hl 0 rfl) ?_
                              refine lv_if_eq (tgt := 142) hx hb dX3_measures_108 (by decide) (fun c108_16 => ?_) (fun c108_16 => absurd (by decide) c108_16)
                              refine lv_aload_n hx hb dX3_measures_142 rfl (lv_at hl 4 rfl) ?_
                              refine m_get X S 0 rfl (T := TX3) (N := 16) in_X3 rfl 9 (by decide) q1721 (fun _ h9 => h9) rfl dX3_measures_143 ?_
                              refine lv_iload hx hb dX3_measures_146 (lv_at hl 1 rfl) ?_
                              refine m_iald X S 1 rfl (x := nI y) (j := y) (nI_clamp (by omega)) (vp_in_nI (by omega) (by omega)) (v := (rowF R (rndF R (itF R (initF a fr 8) r0) x) x y) y) rfl dX3_measures_148 ?_
                              refine m_iast X S 1 rfl (x := nI y) (j := y) (nI_clamp (by omega)) (vp_in_nI (by omega) (by omega)) dX3_measures_149 (fun H locs S => ?_)
                              have S : Sw G A s.heap [[(h0, .inr (3, [.ref q1, .ref q2, .int pasts, .ref q3, .ref q4, .ref q5, .int length, .int known, .int there, .ref q6, .int spot, .int isWrong, .int sign, .int digit, .int first, .int second]))], [(q6, .inl (gA G 0, 8, .inl (upd (rowF R (rndF R (itF R (initF a fr 8) r0) x) x y) y ((rowF R (rndF R (itF R (initF a fr 8) r0) x) x y) y))))]] _ _ := S
                              have hE17 : upd (rowF R (rndF R (itF R (initF a fr 8) r0) x) x y) y ((rowF R (rndF R (itF R (initF a fr 8) r0) x) x y) y) = rowF R (rndF R (itF R (initF a fr 8) r0) x) x (y + 1) := by first | exact relax_eq (by assumption) | exact relax_nb (by assumption) | exact relax_99 (by assumption) | exact relax_no (by assumption) | exact relax_yes (by assumption) (by assumption) (by assumption) (by assumption)
                              have S := S.cong (congrArg (fun (zz : Nat → Int32) => ([[(h0, .inr (3, [.ref q1, .ref q2, .int pasts, .ref q3, .ref q4, .ref q5, .int length, .int known, .int there, .ref q6, .int spot, .int isWrong, .int sign, .int digit, .int first, .int second]))], [(q6, .inl (gA G 0, 8, .inl zz))]] : List va_W)) hE17)
                              have S : Sw G A s.heap [[(h0, .inr (3, [.ref q1, .ref q2, .int pasts, .ref q3, .ref q4, .ref q5, .int length, .int known, .int there, .ref q6, .int spot, .int isWrong, .int sign, .int digit, .int first, .int second]))], [(q6, .inl (gA G 0, 8, .inl (rowF R (rndF R (itF R (initF a fr 8) r0) x) x (y + 1))))]] _ _ := S
                              refine lv_iinc (v := nI (y + 1)) (lv' := [(5, .int (nI (y + 1))), (6, .int (nI 0)), (4, .int (nI x)), (3, .int (nI r0)), (0, .ref h0), (1, .int (nI a)), (2, .int R)]) hx hb dX3_measures_150 hl (k := 1) rfl (nI_add _ _) (Nat.le_of_ble_eq_true rfl) rfl (fun ls hl => ?_)
                              refine lv_goto (tgt := 52) hx hb dX3_measures_153 (by decide) ?_
                              exact ih52 (y + 1) (by omega) (by omega) _ _ S ls (lv_sub hl [0, 2, 3, 4, 5, 6] rfl)
                            · skip
                              have c78_15 : bt R (Ed x y) = true := bI_1.mp c78_15
                              refine lv_aload_n hx hb dX3_measures_81 rfl (lv_at hl 3 rfl) ?_
                              refine m_get X S 0 rfl (T := TX3) (N := 16) in_X3 rfl 9 (by decide) q1721 (fun _ h9 => h9) rfl dX3_measures_82 ?_
                              refine lv_iload hx hb dX3_measures_85 (lv_at hl 1 rfl) ?_
                              refine m_iald X S 1 rfl (x := nI x) (j := x) (nI_clamp (by omega)) (vp_in_nI (by omega) (by omega)) (v := (rowF R (rndF R (itF R (initF a fr 8) r0) x) x y) x) rfl dX3_measures_87 ?_
                              refine lv_bipush (v := nI 99) hx hb dX3_measures_88 (by decide) ?_
                              refine lv_icmp_ge (tgt := 97) hx hb dX3_measures_90 (by decide) (fun c90_18 => ?_) (fun c90_18 => ?_)
                              · skip
                                have c90_18 : (nI 99) ≤ ((rowF R (rndF R (itF R (initF a fr 8) r0) x) x y) x) := c90_18
                                refine lv_iconst (v := nI 0) hx hb dX3_measures_97 (by decide) ?_
                                refine lv_istore (lv' := [(6, .int (nI 0)), (5, .int (nI y)), (4, .int (nI x)), (3, .int (nI r0)), (0, .ref h0), (1, .int (nI a)), (2, .int R)]) hx hb dX3_measures_98 hl (Nat.le_of_ble_eq_true rfl) rfl (fun ls hl => ?_)
                                refine lv_aload_n hx hb dX3_measures_100 rfl (lv_at hl 4 rfl) ?_
                                refine m_get X S 0 rfl (T := TX3) (N := 16) in_X3 rfl 9 (by decide) q1721 (fun _ h9 => h9) rfl dX3_measures_101 ?_
                                refine lv_iload hx hb dX3_measures_104 (lv_at hl 1 rfl) ?_
                                refine lv_iload hx hb dX3_measures_106 (lv_at hl 0 rfl) ?_
                                refine lv_if_eq (tgt := 142) hx hb dX3_measures_108 (by decide) (fun c108_19 => ?_) (fun c108_19 => absurd (by decide) c108_19)
                                refine lv_aload_n hx hb dX3_measures_142 rfl (lv_at hl 4 rfl) ?_
                                refine m_get X S 0 rfl (T := TX3) (N := 16) in_X3 rfl 9 (by decide) q1721 (fun _ h9 => h9) rfl dX3_measures_143 ?_
                                refine lv_iload hx hb dX3_measures_146 (lv_at hl 1 rfl) ?_
                                refine m_iald X S 1 rfl (x := nI y) (j := y) (nI_clamp (by omega)) (vp_in_nI (by omega) (by omega)) (v := (rowF R (rndF R (itF R (initF a fr 8) r0) x) x y) y) rfl dX3_measures_148 ?_
                                refine m_iast X S 1 rfl (x := nI y) (j := y) (nI_clamp (by omega)) (vp_in_nI (by omega) (by omega)) dX3_measures_149 (fun H locs S => ?_)
                                have S : Sw G A s.heap [[(h0, .inr (3, [.ref q1, .ref q2, .int pasts, .ref q3, .ref q4, .ref q5, .int length, .int known, .int there, .ref q6, .int spot, .int isWrong, .int sign, .int digit, .int first, .int second]))], [(q6, .inl (gA G 0, 8, .inl (upd (rowF R (rndF R (itF R (initF a fr 8) r0) x) x y) y ((rowF R (rndF R (itF R (initF a fr 8) r0) x) x y) y))))]] _ _ := S
                                have hE20 : upd (rowF R (rndF R (itF R (initF a fr 8) r0) x) x y) y ((rowF R (rndF R (itF R (initF a fr 8) r0) x) x y) y) = rowF R (rndF R (itF R (initF a fr 8) r0) x) x (y + 1) := by first | exact relax_eq (by assumption) | exact relax_nb (by assumption) | exact relax_99 (by assumption) | exact relax_no (by assumption) | exact relax_yes (by assumption) (by assumption) (by assumption) (by assumption)
                                have S := S.cong (congrArg (fun (zz : Nat → Int32) => ([[(h0, .inr (3, [.ref q1, .ref q2, .int pasts, .ref q3, .ref q4, .ref q5, .int length, .int known, .int there, .ref q6, .int spot, .int isWrong, .int sign, .int digit, .int first, .int second]))], [(q6, .inl (gA G 0, 8, .inl zz))]] : List va_W)) hE20)
                                have S : Sw G A s.heap [[(h0, .inr (3, [.ref q1, .ref q2, .int pasts, .ref q3, .ref q4, .ref q5, .int length, .int known, .int there, .ref q6, .int spot, .int isWrong, .int sign, .int digit, .int first, .int second]))], [(q6, .inl (gA G 0, 8, .inl (rowF R (rndF R (itF R (initF a fr 8) r0) x) x (y + 1))))]] _ _ := S
                                refine lv_iinc (v := nI (y + 1)) (lv' := [(5, .int (nI (y + 1))), (6, .int (nI 0)), (4, .int (nI x)), (3, .int (nI r0)), (0, .ref h0), (1, .int (nI a)), (2, .int R)]) hx hb dX3_measures_150 hl (k := 1) rfl (nI_add _ _) (Nat.le_of_ble_eq_true rfl) rfl (fun ls hl => ?_)
                                refine lv_goto (tgt := 52) hx hb dX3_measures_153 (by decide) ?_
                                exact ih52 (y + 1) (by omega) (by omega) _ _ S ls (lv_sub hl [0, 2, 3, 4, 5, 6] rfl)
                              · skip
                                have c90_18 : ¬ (nI 99) ≤ ((rowF R (rndF R (itF R (initF a fr 8) r0) x) x y) x) := c90_18
                                refine lv_iconst (v := nI 1) hx hb dX3_measures_93 (by decide) ?_
                                refine lv_goto (tgt := 98) hx hb dX3_measures_94 (by decide) ?_
                                refine lv_istore (lv' := [(6, .int (nI 1)), (5, .int (nI y)), (4, .int (nI x)), (3, .int (nI r0)), (0, .ref h0), (1, .int (nI a)), (2, .int R)]) hx hb dX3_measures_98 hl (Nat.le_of_ble_eq_true rfl) rfl (fun ls hl => ?_)
                                refine lv_aload_n hx hb dX3_measures_100 rfl (lv_at hl 4 rfl) ?_
                                refine m_get X S 0 rfl (T := TX3) (N := 16) in_X3 rfl 9 (by decide) q1721 (fun _ h9 => h9) rfl dX3_measures_101 ?_
                                refine lv_iload hx hb dX3_measures_104 (lv_at hl 1 rfl) ?_
                                refine lv_iload hx hb dX3_measures_106 (lv_at hl 0 rfl) ?_
                                refine lv_if_eq (tgt := 142) hx hb dX3_measures_108 (by decide) (fun c108_21 => absurd c108_21 (by decide)) (fun c108_21 => ?_)
                                refine lv_aload_n hx hb dX3_measures_111 rfl (lv_at hl 4 rfl) ?_
                                refine m_get X S 0 rfl (T := TX3) (N := 16) in_X3 rfl 9 (by decide) q1721 (fun _ h9 => h9) rfl dX3_measures_112 ?_
                                refine lv_iload hx hb dX3_measures_115 (lv_at hl 2 rfl) ?_
                                refine m_iald X S 1 rfl (x := nI x) (j := x) (nI_clamp (by omega)) (vp_in_nI (by omega) (by omega)) (v := (rowF R (rndF R (itF R (initF a fr 8) r0) x) x y) x) rfl dX3_measures_117 ?_
                                refine lv_iconst (v := nI 1) hx hb dX3_measures_118 (by decide) ?_
                                refine lv_iadd hx hb dX3_measures_119 ?_
                                refine lv_aload_n hx hb dX3_measures_120 rfl (lv_at hl 4 rfl) ?_
                                refine m_get X S 0 rfl (T := TX3) (N := 16) in_X3 rfl 9 (by decide) q1721 (fun _ h9 => h9) rfl dX3_measures_121 ?_
                                refine lv_iload hx hb dX3_measures_124 (lv_at hl 1 rfl) ?_
                                refine m_iald X S 1 rfl (x := nI y) (j := y) (nI_clamp (by omega)) (vp_in_nI (by omega) (by omega)) (v := (rowF R (rndF R (itF R (initF a fr 8) r0) x) x y) y) rfl dX3_measures_126 ?_
                                refine lv_icmp_ge (tgt := 142) hx hb dX3_measures_127 (by decide) (fun c127_22 => ?_) (fun c127_22 => ?_)
                                · skip
                                  refine lv_aload_n hx hb dX3_measures_142 rfl (lv_at hl 4 rfl) ?_
                                  refine m_get X S 0 rfl (T := TX3) (N := 16) in_X3 rfl 9 (by decide) q1721 (fun _ h9 => h9) rfl dX3_measures_143 ?_
                                  refine lv_iload hx hb dX3_measures_146 (lv_at hl 1 rfl) ?_
                                  refine m_iald X S 1 rfl (x := nI y) (j := y) (nI_clamp (by omega)) (vp_in_nI (by omega) (by omega)) (v := (rowF R (rndF R (itF R (initF a fr 8) r0) x) x y) y) rfl dX3_measures_148 ?_
                                  refine m_iast X S 1 rfl (x := nI y) (j := y) (nI_clamp (by omega)) (vp_in_nI (by omega) (by omega)) dX3_measures_149 (fun H locs S => ?_)
                                  have S : Sw G A s.heap [[(h0, .inr (3, [.ref q1, .ref q2, .int pasts, .ref q3, .ref q4, .ref q5, .int length, .int known, .int there, .ref q6, .int spot, .int isWrong, .int sign, .int digit, .int first, .int second]))], [(q6, .inl (gA G 0, 8, .inl (upd (rowF R (rndF R (itF R (initF a fr 8) r0) x) x y) y ((rowF R (rndF R (itF R (initF a fr 8) r0) x) x y) y))))]] _ _ := S
                                  have hE23 : upd (rowF R (rndF R (itF R (initF a fr 8) r0) x) x y) y ((rowF R (rndF R (itF R (initF a fr 8) r0) x) x y) y) = rowF R (rndF R (itF R (initF a fr 8) r0) x) x (y + 1) := by first | exact relax_eq (by assumption) | exact relax_nb (by assumption) | exact relax_99 (by assumption) | exact relax_no (by assumption) | exact relax_yes (by assumption) (by assumption) (by assumption) (by assumption)
                                  have S := S.cong (congrArg (fun (zz : Nat → Int32) => ([[(h0, .inr (3, [.ref q1, .ref q2, .int pasts, .ref q3, .ref q4, .ref q5, .int length, .int known, .int there, .ref q6, .int spot, .int isWrong, .int sign, .int digit, .int first, .int second]))], [(q6, .inl (gA G 0, 8, .inl zz))]] : List va_W)) hE23)
                                  have S : Sw G A s.heap [[(h0, .inr (3, [.ref q1, .ref q2, .int pasts, .ref q3, .ref q4, .ref q5, .int length, .int known, .int there, .ref q6, .int spot, .int isWrong, .int sign, .int digit, .int first, .int second]))], [(q6, .inl (gA G 0, 8, .inl (rowF R (rndF R (itF R (initF a fr 8) r0) x) x (y + 1))))]] _ _ := S
                                  refine lv_iinc (v := nI (y + 1)) (lv' := [(5, .int (nI (y + 1))), (6, .int (nI 1)), (4, .int (nI x)), (3, .int (nI r0)), (0, .ref h0), (1, .int (nI a)), (2, .int R)]) hx hb dX3_measures_150 hl (k := 1) rfl (nI_add _ _) (Nat.le_of_ble_eq_true rfl) rfl (fun ls hl => ?_)
                                  refine lv_goto (tgt := 52) hx hb dX3_measures_153 (by decide) ?_
                                  exact ih52 (y + 1) (by omega) (by omega) _ _ S ls (lv_sub hl [0, 2, 3, 4, 5, 6] rfl)
                                · skip
                                  refine lv_aload_n hx hb dX3_measures_130 rfl (lv_at hl 4 rfl) ?_
                                  refine m_get X S 0 rfl (T := TX3) (N := 16) in_X3 rfl 9 (by decide) q1721 (fun _ h9 => h9) rfl dX3_measures_131 ?_
                                  refine lv_iload hx hb dX3_measures_134 (lv_at hl 2 rfl) ?_
                                  refine m_iald X S 1 rfl (x := nI x) (j := x) (nI_clamp (by omega)) (vp_in_nI (by omega) (by omega)) (v := (rowF R (rndF R (itF R (initF a fr 8) r0) x) x y) x) rfl dX3_measures_136 ?_
                                  refine lv_iconst (v := nI 1) hx hb dX3_measures_137 (by decide) ?_
                                  refine lv_iadd hx hb dX3_measures_138 ?_
                                  refine lv_goto (tgt := 149) hx hb dX3_measures_139 (by decide) ?_
                                  refine m_iast X S 1 rfl (x := nI y) (j := y) (nI_clamp (by omega)) (vp_in_nI (by omega) (by omega)) dX3_measures_149 (fun H locs S => ?_)
                                  have S : Sw G A s.heap [[(h0, .inr (3, [.ref q1, .ref q2, .int pasts, .ref q3, .ref q4, .ref q5, .int length, .int known, .int there, .ref q6, .int spot, .int isWrong, .int sign, .int digit, .int first, .int second]))], [(q6, .inl (gA G 0, 8, .inl (upd (rowF R (rndF R (itF R (initF a fr 8) r0) x) x y) y (((rowF R (rndF R (itF R (initF a fr 8) r0) x) x y) x) + (nI 1)))))]] _ _ := S
                                  have hE24 : upd (rowF R (rndF R (itF R (initF a fr 8) r0) x) x y) y (((rowF R (rndF R (itF R (initF a fr 8) r0) x) x y) x) + (nI 1)) = rowF R (rndF R (itF R (initF a fr 8) r0) x) x (y + 1) := by first | exact relax_eq (by assumption) | exact relax_nb (by assumption) | exact relax_99 (by assumption) | exact relax_no (by assumption) | exact relax_yes (by assumption) (by assumption) (by assumption) (by assumption)
                                  have S := S.cong (congrArg (fun (zz : Nat → Int32) => ([[(h0, .inr (3, [.ref q1, .ref q2, .int pasts, .ref q3, .ref q4, .ref q5, .int length, .int known, .int there, .ref q6, .int spot, .int isWrong, .int sign, .int digit, .int first, .int second]))], [(q6, .inl (gA G 0, 8, .inl zz))]] : List va_W)) hE24)
                                  have S : Sw G A s.heap [[(h0, .inr (3, [.ref q1, .ref q2, .int pasts, .ref q3, .ref q4, .ref q5, .int length, .int known, .int there, .ref q6, .int spot, .int isWrong, .int sign, .int digit, .int first, .int second]))], [(q6, .inl (gA G 0, 8, .inl (rowF R (rndF R (itF R (initF a fr 8) r0) x) x (y + 1))))]] _ _ := S
                                  refine lv_iinc (v := nI (y + 1)) (lv' := [(5, .int (nI (y + 1))), (6, .int (nI 1)), (4, .int (nI x)), (3, .int (nI r0)), (0, .ref h0), (1, .int (nI a)), (2, .int R)]) hx hb dX3_measures_150 hl (k := 1) rfl (nI_add _ _) (Nat.le_of_ble_eq_true rfl) rfl (fun ls hl => ?_)
                                  refine lv_goto (tgt := 52) hx hb dX3_measures_153 (by decide) ?_
                                  exact ih52 (y + 1) (by omega) (by omega) _ _ S ls (lv_sub hl [0, 2, 3, 4, 5, 6] rfl)
                    exact hL52 _ 0 (Nat.lt_succ_self _) (by omega) _ _ S ls (lv_sub hl [0, 1, 2, 3, 4, 5] rfl)
              exact hL42 _ 0 (Nat.lt_succ_self _) (by omega) _ _ S ls (lv_sub hl [0, 1, 2, 3, 4] rfl)
        exact hL33 _ 0 (Nat.lt_succ_self _) (by omega) _ _ S ls (lv_sub hl [0, 1, 2, 3] rfl)
      · skip
        have c5_1 : ¬ 8 ≤ i := fun z => c5_1 ((nI_leI (a := 8) (b := i) (by omega) (by omega)).mpr z)
        refine lv_aload_n hx hb dX3_measures_8 rfl (lv_at hl 1 rfl) ?_
        refine m_get X S 0 rfl (T := TX3) (N := 16) in_X3 rfl 9 (by decide) q1721 (fun _ h9 => h9) rfl dX3_measures_9 ?_
        refine lv_iload_n hx hb dX3_measures_12 rfl (lv_at hl 0 rfl) ?_
        refine lv_iload_n hx hb dX3_measures_13 rfl (lv_at hl 0 rfl) ?_
        refine lv_iload_n hx hb dX3_measures_14 rfl (lv_at hl 2 rfl) ?_
        refine lv_icmp_ne (tgt := 22) hx hb dX3_measures_15 (by decide) (fun c15_25 => ?_) (fun c15_25 => ?_)
        · skip
          have c15_25 : ¬ i = a := fun z => c15_25 ((nI_eq (a := i) (b := a) (by omega) (by omega)).mpr z)
          refine lv_bipush (v := nI 99) hx hb dX3_measures_22 (by decide) ?_
          refine m_iast X S 1 rfl (x := nI i) (j := i) (nI_clamp (by omega)) (vp_in_nI (by omega) (by omega)) dX3_measures_24 (fun H locs S => ?_)
          have S : Sw G A s.heap [[(h0, .inr (3, [.ref q1, .ref q2, .int pasts, .ref q3, .ref q4, .ref q5, .int length, .int known, .int there, .ref q6, .int spot, .int isWrong, .int sign, .int digit, .int first, .int second]))], [(q6, .inl (gA G 0, 8, .inl (upd (initF a fr i) i (nI 99))))]] _ _ := S
          have hE26 : upd (initF a fr i) i (nI 99) = initF a fr (i + 1) := by first | (rw [initF, if_pos (by omega)]; done) | (rw [initF, if_neg (by omega)]; done)
          have S := S.cong (congrArg (fun (zz : Nat → Int32) => ([[(h0, .inr (3, [.ref q1, .ref q2, .int pasts, .ref q3, .ref q4, .ref q5, .int length, .int known, .int there, .ref q6, .int spot, .int isWrong, .int sign, .int digit, .int first, .int second]))], [(q6, .inl (gA G 0, 8, .inl zz))]] : List va_W)) hE26)
          have S : Sw G A s.heap [[(h0, .inr (3, [.ref q1, .ref q2, .int pasts, .ref q3, .ref q4, .ref q5, .int length, .int known, .int there, .ref q6, .int spot, .int isWrong, .int sign, .int digit, .int first, .int second]))], [(q6, .inl (gA G 0, 8, .inl (initF a fr (i + 1))))]] _ _ := S
          refine lv_iinc (v := nI (i + 1)) (lv' := [(3, .int (nI (i + 1))), (0, .ref h0), (1, .int (nI a)), (2, .int R)]) hx hb dX3_measures_25 hl (k := 0) rfl (nI_add _ _) (Nat.le_of_ble_eq_true rfl) rfl (fun ls hl => ?_)
          refine lv_goto (tgt := 2) hx hb dX3_measures_28 (by decide) ?_
          exact ih2 (i + 1) (by omega) (by omega) _ _ S ls (lv_sub hl [0, 1, 2, 3] rfl)
        · skip
          have c15_25 : i = a := (nI_eq (a := i) (b := a) (by omega) (by omega)).mp c15_25
          refine lv_iconst (v := nI 0) hx hb dX3_measures_18 (by decide) ?_
          refine lv_goto (tgt := 24) hx hb dX3_measures_19 (by decide) ?_
          refine m_iast X S 1 rfl (x := nI i) (j := i) (nI_clamp (by omega)) (vp_in_nI (by omega) (by omega)) dX3_measures_24 (fun H locs S => ?_)
          have S : Sw G A s.heap [[(h0, .inr (3, [.ref q1, .ref q2, .int pasts, .ref q3, .ref q4, .ref q5, .int length, .int known, .int there, .ref q6, .int spot, .int isWrong, .int sign, .int digit, .int first, .int second]))], [(q6, .inl (gA G 0, 8, .inl (upd (initF a fr i) i (nI 0))))]] _ _ := S
          have hE27 : upd (initF a fr i) i (nI 0) = initF a fr (i + 1) := by first | (rw [initF, if_pos (by omega)]; done) | (rw [initF, if_neg (by omega)]; done)
          have S := S.cong (congrArg (fun (zz : Nat → Int32) => ([[(h0, .inr (3, [.ref q1, .ref q2, .int pasts, .ref q3, .ref q4, .ref q5, .int length, .int known, .int there, .ref q6, .int spot, .int isWrong, .int sign, .int digit, .int first, .int second]))], [(q6, .inl (gA G 0, 8, .inl zz))]] : List va_W)) hE27)
          have S : Sw G A s.heap [[(h0, .inr (3, [.ref q1, .ref q2, .int pasts, .ref q3, .ref q4, .ref q5, .int length, .int known, .int there, .ref q6, .int spot, .int isWrong, .int sign, .int digit, .int first, .int second]))], [(q6, .inl (gA G 0, 8, .inl (initF a fr (i + 1))))]] _ _ := S
          refine lv_iinc (v := nI (i + 1)) (lv' := [(3, .int (nI (i + 1))), (0, .ref h0), (1, .int (nI a)), (2, .int R)]) hx hb dX3_measures_25 hl (k := 0) rfl (nI_add _ _) (Nat.le_of_ble_eq_true rfl) rfl (fun ls hl => ?_)
          refine lv_goto (tgt := 2) hx hb dX3_measures_28 (by decide) ?_
          exact ih2 (i + 1) (by omega) (by omega) _ _ S ls (lv_sub hl [0, 1, 2, 3] rfl)
  exact hL2 _ 0 (Nat.lt_succ_self _) (by omega) _ _ S ls (lv_sub hl [0, 1, 2, 3] rfl)
