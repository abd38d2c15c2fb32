/-! THE MODEL: begin, check, dig, pass, set -/
abbrev rm_X3_begin : Room := { frames := 3, cells := 0, slots := 0, locals := 72 }
set_option maxHeartbeats 4000000 in
set_option maxRecDepth 100000 in
theorem mt_X3_begin (G : mGG) (l : Launch) (h0 : Nat) (q1 : Nat) (q2 : Nat) (q3 : Nat) (q4 : Nat) (q5 : Nat) (q6 : Nat) (length : Int32) (known : Int32) (there : Int32) (spot : Int32) (isWrong : Int32) (sign : Int32) (digit : Int32) (first : Int32) (second : Int32) (g : Nat → Int32) (pa : Nat → Int32) (n : Nat) (hn6 : n ≤ 6) : Cg G l yX3_begin (ws_ yX3_begin cX3_begin 1 (some FieldType.int)) rm_X3_begin [.ref h0] [[(h0, .inr (3, [.ref q1, .ref q2, .int (nI n), .ref q3, .ref q4, .ref q5, .int length, .int known, .int there, .ref q6, .int spot, .int isWrong, .int sign, .int digit, .int first, .int second]))], [(q1, .inl (gA G 0, 182, .inl g))], [(q2, .inl (gA G 0, 1092, .inl pa))]] (Qi G (fun (r : Int32) (u : (Nat → Int32) × Nat × (Nat → Int32) × Int32 × Int32) => (r = (-5 : Int32) ∧ u.1 = g ∧ u.2.1 = n ∧ u.2.2.1 = pa ∧ ¬ g 6 ≤ nI 0) ∨ (r = nI (card (knownS (upd g 6 (nI 1)) (g 17))) ∧ u.1 = upd g 6 (nI 1) ∧ u.2.1 = recN n ∧ u.2.2.1 = recP n pa g ∧ g 6 ≤ nI 0)) (fun (u : (Nat → Int32) × Nat × (Nat → Int32) × Int32 × Int32) => [[(h0, .inr (3, [.ref q1, .ref q2, .int (nI u.2.1), .ref q3, .ref q4, .ref q5, .int length, .int u.2.2.2.1, .int u.2.2.2.2, .ref q6, .int spot, .int isWrong, .int sign, .int digit, .int first, .int second]))], [(q1, .inl (gA G 0, 182, .inl u.1))], [(q2, .inl (gA G 0, 1092, .inl u.2.2.1))]])) := by
  refine Cg.intro (own := RX3) (cc := cX3_begin) (maxL := 1) (ret := (some FieldType.int)) (by decide +kernel) rfl rfl (Nat.le_of_ble_eq_true rfl) ?_
  intro p e s m ag below meth c A ls Q X hr hlk hnm S hl hQ
  have hx := X.1
  have hb := X.2.1
  have hl : lv_has ls 1 [(0, .ref h0)] := hl
  refine lv_aload_n hx hb dX3_begin_0 rfl (lv_at hl 0 rfl) ?_
  have hq1 := S.cut (Bc := [[(h0, .inr (3, [.ref q1, .ref q2, .int (nI n), .ref q3, .ref q4, .ref q5, .int length, .int known, .int there, .ref q6, .int spot, .int isWrong, .int sign, .int digit, .int first, .int second]))], [(q1, .inl (gA G 0, 182, .inl g))]]) (Br := [[(q2, .inl (gA G 0, 1092, .inl pa))]]) [0, 1] [2] (show ([0, 1] ++ ([2] : List Nat)).isPerm (List.range 3) = true by decide +kernel) rfl rfl
  refine m_ri X S hq1 (m_runV (rest := []) (As := []) (n := 0) X S hq1 (mt_X3_hasBegun G l h0 q1 q2 q3 q4 q5 q6 (nI n) length known there spot isWrong sign digit first second g ) (lw_V q1790 q1792 qs48 q90 q1793) (m_recv X S 0 rfl rfl) (by decide +kernel) ⟨Nat.le_of_ble_eq_true rfl, Nat.le_of_ble_eq_true rfl⟩ rfl hl.1 rfl (Nat.le_of_ble_eq_true rfl) dX3_begin_1 ⟨(Nat.le_of_ble_eq_true rfl), (Nat.le_of_ble_eq_true rfl)⟩) (fun r2 u H locs hp2 S => ?_)
  have hp2 : (r2 = nI 1 ∧ ¬ g 6 ≤ 0) ∨ (r2 = nI 0 ∧ g 6 ≤ 0) := hp2
  have S : Sw G A s.heap [[(q2, .inl (gA G 0, 1092, .inl pa))], [(h0, .inr (3, [.ref q1, .ref q2, .int (nI n), .ref q3, .ref q4, .ref q5, .int length, .int known, .int there, .ref q6, .int spot, .int isWrong, .int sign, .int digit, .int first, .int second]))], [(q1, .inl (gA G 0, 182, .inl g))]] _ _ := S
  rcases hp2 with ⟨hhp2_0, hhp2_1⟩ | ⟨hhp2_0, hhp2_1⟩
  · skip
    subst hhp2_0
    have hf0_r2 := hhp2_1
    have S : Sw G A s.heap [[(q2, .inl (gA G 0, 1092, .inl pa))], [(h0, .inr (3, [.ref q1, .ref q2, .int (nI n), .ref q3, .ref q4, .ref q5, .int length, .int known, .int there, .ref q6, .int spot, .int isWrong, .int sign, .int digit, .int first, .int second]))], [(q1, .inl (gA G 0, 182, .inl g))]] _ _ := S
    refine lv_if_eq (tgt := 10) hx hb dX3_begin_4 (by decide) (fun c4_3 => absurd c4_3 (by decide)) (fun c4_3 => ?_)
    refine lv_bipush (v := (-5 : Int32)) hx hb dX3_begin_7 (by decide) ?_
    exact m_iret X hr hlk hQ S ⟨g, n, pa, known, there⟩ (by show ((-5 : Int32) = (-5 : Int32) ∧ g = g ∧ n = n ∧ pa = pa ∧ ¬ g 6 ≤ nI 0) ∨ ((-5 : Int32) = nI (card (knownS (upd g 6 (nI 1)) (g 17))) ∧ g = upd g 6 (nI 1) ∧ n = recN n ∧ pa = recP n pa g ∧ g 6 ≤ nI 0); first | exact Or.inl ⟨(by with_reducible rfl), (by with_reducible rfl), (by with_reducible rfl), (by with_reducible rfl), (by assumption)⟩ | exact Or.inr (⟨(by with_reducible rfl), (by with_reducible rfl), (by with_reducible rfl), (by with_reducible rfl), (by assumption)⟩)) [1, 2, 0] [] (show ([1, 2, 0] ++ ([] : List Nat)).isPerm (List.range 3) = true by decide +kernel) rfl (Nat.le_of_ble_eq_true rfl) (Nat.le_of_ble_eq_true rfl) dX3_begin_9
  · skip
    subst hhp2_0
    have hf0_r2 := hhp2_1
    have S : Sw G A s.heap [[(q2, .inl (gA G 0, 1092, .inl pa))], [(h0, .inr (3, [.ref q1, .ref q2, .int (nI n), .ref q3, .ref q4, .ref q5, .int length, .int known, .int there, .ref q6, .int spot, .int isWrong, .int sign, .int digit, .int first, .int second]))], [(q1, .inl (gA G 0, 182, .inl g))]] _ _ := S
    refine lv_if_eq (tgt := 10) hx hb dX3_begin_4 (by decide) (fun c4_4 => ?_) (fun c4_4 => absurd (by decide) c4_4)
    refine lv_aload_n hx hb dX3_begin_10 rfl (lv_at hl 0 rfl) ?_
    have hq5 := S.cut (Bc := [[(h0, .inr (3, [.ref q1, .ref q2, .int (nI n), .ref q3, .ref q4, .ref q5, .int length, .int known, .int there, .ref q6, .int spot, .int isWrong, .int sign, .int digit, .int first, .int second]))], [(q1, .inl (gA G 0, 182, .inl g))], [(q2, .inl (gA G 0, 1092, .inl pa))]]) (Br := []) [1, 2, 0] [] (show ([1, 2, 0] ++ ([] : List Nat)).isPerm (List.range 3) = true by decide +kernel) rfl rfl
    refine m_rv X S hq5 (m_runV (rest := []) (As := []) (n := 0) X S hq5 (mt_X3_records G l h0 q1 q2 q3 q4 q5 q6 length known there spot isWrong sign digit first second g pa n (by omega)) (lw_V q1775 q1777 qs46 q90 q1778) (m_recv X S 1 rfl rfl) (by decide +kernel) ⟨Nat.le_of_ble_eq_true rfl, Nat.le_of_ble_eq_true rfl⟩ rfl hl.1 rfl (Nat.le_of_ble_eq_true rfl) dX3_begin_11 ⟨(Nat.le_of_ble_eq_true rfl), (Nat.le_of_ble_eq_true rfl)⟩) (fun u H locs hp6 S => ?_)
    obtain ⟨u7, u8⟩ := u
    have hp6 : (u7 = recN n ∧ u8 = recP n pa g) := hp6
    have S : Sw G A s.heap [[(h0, .inr (3, [.ref q1, .ref q2, .int (nI u7), .ref q3, .ref q4, .ref q5, .int length, .int known, .int there, .ref q6, .int spot, .int isWrong, .int sign, .int digit, .int first, .int second]))], [(q1, .inl (gA G 0, 182, .inl g))], [(q2, .inl (gA G 0, 1092, .inl u8))]] _ _ := S
    rcases hp6 with ⟨hhp6_0, hhp6_1⟩
    subst hhp6_0
    subst hhp6_1
    have S : Sw G A s.heap [[(h0, .inr (3, [.ref q1, .ref q2, .int (nI (recN n)), .ref q3, .ref q4, .ref q5, .int length, .int known, .int there, .ref q6, .int spot, .int isWrong, .int sign, .int digit, .int first, .int second]))], [(q1, .inl (gA G 0, 182, .inl g))], [(q2, .inl (gA G 0, 1092, .inl (recP n pa g)))]] _ _ := S
    refine lv_aload_n hx hb dX3_begin_14 rfl (lv_at hl 0 rfl) ?_
    refine m_get X S 0 rfl (T := TX3) (N := 16) in_X3 rfl 0 (by decide) q1712 (fun _ h9 => h9) rfl dX3_begin_15 ?_
    refine lv_bipush (v := nI 6) hx hb dX3_begin_18 (by decide) ?_
    refine lv_iconst (v := nI 1) hx hb dX3_begin_20 (by decide) ?_
    refine m_iast X S 1 rfl (x := nI 6) (j := 6) rfl (vp_in_nI (by decide) (by decide)) dX3_begin_21 (fun H locs S => ?_)
    have S : Sw G A s.heap [[(h0, .inr (3, [.ref q1, .ref q2, .int (nI (recN n)), .ref q3, .ref q4, .ref q5, .int length, .int known, .int there, .ref q6, .int spot, .int isWrong, .int sign, .int digit, .int first, .int second]))], [(q1, .inl (gA G 0, 182, .inl (upd g 6 (nI 1))))], [(q2, .inl (gA G 0, 1092, .inl (recP n pa g)))]] _ _ := S
    refine lv_aload_n hx hb dX3_begin_22 rfl (lv_at hl 0 rfl) ?_
    refine lv_aload_n hx hb dX3_begin_23 rfl (lv_at hl 0 rfl) ?_
    refine m_get X S 0 rfl (T := TX3) (N := 16) in_X3 rfl 0 (by decide) q1712 (fun _ h9 => h9) rfl dX3_begin_24 ?_
    refine lv_bipush (v := nI 17) hx hb dX3_begin_27 (by decide) ?_
    refine m_iald X S 1 rfl (x := nI 17) (j := 17) rfl (vp_in_nI (by decide) (by decide)) (v := g 17) rfl dX3_begin_29 ?_
    have hq9 := S.cut (Bc := [[(h0, .inr (3, [.ref q1, .ref q2, .int (nI (recN n)), .ref q3, .ref q4, .ref q5, .int length, .int known, .int there, .ref q6, .int spot, .int isWrong, .int sign, .int digit, .int first, .int second]))], [(q1, .inl (gA G 0, 182, .inl (upd g 6 (nI 1))))]]) (Br := [[(q2, .inl (gA G 0, 1092, .inl (recP n pa g)))]]) [0, 1] [2] (show ([0, 1] ++ ([2] : List Nat)).isPerm (List.range 3) = true by decide +kernel) rfl rfl
    refine m_rv X S hq9 (m_runV (rest := []) (As := [.int (g 17)]) (n := 1) X S hq9 (mt_X3_follows G l h0 q1 q2 q3 q4 q5 q6 (nI (recN n)) length known there spot isWrong sign digit first second (upd g 6 (nI 1)) (g 17) ) (lw_V q1816 q1818 qs51 q90 q1819) (m_recv X S 0 rfl rfl) (by decide +kernel) ⟨Nat.le_of_ble_eq_true rfl, Nat.le_of_ble_eq_true rfl⟩ rfl hl.1 rfl (Nat.le_of_ble_eq_true rfl) dX3_begin_30 ⟨(Nat.le_of_ble_eq_true rfl), (Nat.le_of_ble_eq_true rfl)⟩) (fun u H locs hp10 S => ?_)
    obtain ⟨u11, rfl⟩ : ∃ z, z = u := ⟨_, rfl⟩
    have hp10 : (u11 = knownS (upd g 6 (nI 1)) (g 17)) := hp10
    have S : Sw G A s.heap [[(q2, .inl (gA G 0, 1092, .inl (recP n pa g)))], [(h0, .inr (3, [.ref q1, .ref q2, .int (nI (recN n)), .ref q3, .ref q4, .ref q5, .int length, .int u11, .int (u11 &&& (upd g 6 (nI 1)) 0), .ref q6, .int spot, .int isWrong, .int sign, .int digit, .int first, .int second]))], [(q1, .inl (gA G 0, 182, .inl (upd g 6 (nI 1))))]] _ _ := S
    have hhp10_0 := hp10
    subst hhp10_0
    have S : Sw G A s.heap [[(q2, .inl (gA G 0, 1092, .inl (recP n pa g)))], [(h0, .inr (3, [.ref q1, .ref q2, .int (nI (recN n)), .ref q3, .ref q4, .ref q5, .int length, .int (knownS (upd g 6 (nI 1)) (g 17)), .int ((knownS (upd g 6 (nI 1)) (g 17)) &&& (upd g 6 (nI 1)) 0), .ref q6, .int spot, .int isWrong, .int sign, .int digit, .int first, .int second]))], [(q1, .inl (gA G 0, 182, .inl (upd g 6 (nI 1))))]] _ _ := S
    refine lv_aload_n hx hb dX3_begin_33 rfl (lv_at hl 0 rfl) ?_
    refine m_get X S 1 rfl (T := TX3) (N := 16) in_X3 rfl 7 (by decide) q1719 (fun _ h9 => h9) rfl dX3_begin_34 ?_
    have hq12 := S.cut (Bc := []) (Br := [[(q2, .inl (gA G 0, 1092, .inl (recP n pa g)))], [(h0, .inr (3, [.ref q1, .ref q2, .int (nI (recN n)), .ref q3, .ref q4, .ref q5, .int length, .int (knownS (upd g 6 (nI 1)) (g 17)), .int ((knownS (upd g 6 (nI 1)) (g 17)) &&& (upd g 6 (nI 1)) 0), .ref q6, .int spot, .int isWrong, .int sign, .int digit, .int first, .int second]))], [(q1, .inl (gA G 0, 182, .inl (upd g 6 (nI 1))))]]) [] [0, 1, 2] (show ([] ++ ([0, 1, 2] : List Nat)).isPerm (List.range 3) = true by decide +kernel) rfl rfl
    refine m_ri X S hq12 (m_runS (rest := []) (As := [.int (knownS (upd g 6 (nI 1)) (g 17))]) (n := 1) X S hq12 (mt_X3_many G l (knownS (upd g 6 (nI 1)) (g 17)) ) (lw_S q1801 q1802 q90 q1803) (by decide +kernel) ⟨Nat.le_of_ble_eq_true rfl, Nat.le_of_ble_eq_true rfl⟩ rfl hl.1 rfl (Nat.le_of_ble_eq_true rfl) dX3_begin_37 ⟨(Nat.le_of_ble_eq_true rfl), (Nat.le_of_ble_eq_true rfl)⟩) (fun r13 u H locs hp13 S => ?_)
    have hp13 : r13 = nI (card (knownS (upd g 6 (nI 1)) (g 17))) := hp13
    have hhp13_0 := hp13
    subst hhp13_0
    have S : Sw G A s.heap [[(q2, .inl (gA G 0, 1092, .inl (recP n pa g)))], [(h0, .inr (3, [.ref q1, .ref q2, .int (nI (recN n)), .ref q3, .ref q4, .ref q5, .int length, .int (knownS (upd g 6 (nI 1)) (g 17)), .int ((knownS (upd g 6 (nI 1)) (g 17)) &&& (upd g 6 (nI 1)) 0), .ref q6, .int spot, .int isWrong, .int sign, .int digit, .int first, .int second]))], [(q1, .inl (gA G 0, 182, .inl (upd g 6 (nI 1))))]] _ _ := S
    exact m_iret X hr hlk hQ S ⟨upd g 6 (nI 1), recN n, recP n pa g, knownS (upd g 6 (nI 1)) (g 17), (knownS (upd g 6 (nI 1)) (g 17)) &&& (upd g 6 (nI 1)) 0⟩ (by show ((nI (card (knownS (upd g 6 (nI 1)) (g 17)))) = (-5 : Int32) ∧ (upd g 6 (nI 1)) = g ∧ (recN n) = n ∧ (recP n pa g) = pa ∧ ¬ g 6 ≤ nI 0) ∨ ((nI (card (knownS (upd g 6 (nI 1)) (g 17)))) = nI (card (knownS (upd g 6 (nI 1)) (g 17))) ∧ (upd g 6 (nI 1)) = upd g 6 (nI 1) ∧ (recN n) = recN n ∧ (recP n pa g) = recP n pa g ∧ g 6 ≤ nI 0); first | exact Or.inl ⟨(by with_reducible rfl), (by with_reducible rfl), (by with_reducible rfl), (by with_reducible rfl), (by assumption)⟩ | exact Or.inr (⟨(by with_reducible rfl), (by with_reducible rfl), (by with_reducible rfl), (by with_reducible rfl), (by assumption)⟩)) [1, 2, 0] [] (show ([1, 2, 0] ++ ([] : List Nat)).isPerm (List.range 3) = true by decide +kernel) rfl (Nat.le_of_ble_eq_true rfl) (Nat.le_of_ble_eq_true rfl) dX3_begin_40

abbrev rm_X3_checks : Room := { frames := 2, cells := 0, slots := 0, locals := 46 }
set_option maxHeartbeats 4000000 in
set_option maxRecDepth 100000 in
theorem mt_X3_checks (G : mGG) (l : Launch) (h0 : Nat) (q1 : Nat) (q2 : Nat) (q3 : Nat) (q4 : Nat) (q5 : Nat) (q6 : Nat) (pasts : Int32) (length : Int32) (known : Int32) (there : Int32) (spot : Int32) (isWrong : Int32) (sign : Int32) (digit : Int32) (first : Int32) (second : Int32) (g : Nat → Int32) (t : Nat) (y : Nat) (a : Nat) (b : Nat) (ht : g 7 = nI t) (ht2 : t ≤ 150) (hy3 : y < 3) (ha : a < 8) (hb1 : b < 8) (hne : a ≠ b) : Cg G l yX3_checks (ws_ yX3_checks cX3_checks 7 (some FieldType.int)) rm_X3_checks [.ref h0, .int (nI y), .int (nI a), .int (nI b)] [[(h0, .inr (3, [.ref q1, .ref q2, .int pasts, .ref q3, .ref q4, .ref q5, .int length, .int known, .int there, .ref q6, .int spot, .int isWrong, .int sign, .int digit, .int first, .int second]))], [(q1, .inl (gA G 0, 182, .inl g))]] (Qi G (fun (r : Int32) (u : (Nat → Int32)) => (r = (if lieS g y (Ed a b) = true then nI 1 else nI 0) ∧ u = checkS g y (Ed a b) (t % 3))) (fun (u : (Nat → Int32)) => [[(h0, .inr (3, [.ref q1, .ref q2, .int pasts, .ref q3, .ref q4, .ref q5, .int length, .int known, .int there, .ref q6, .int spot, .int isWrong, .int sign, .int digit, .int first, .int second]))], [(q1, .inl (gA G 0, 182, .inl u))]])) := by
  refine Cg.intro (own := RX3) (cc := cX3_checks) (maxL := 7) (ret := (some FieldType.int)) (by decide +kernel) rfl rfl (Nat.le_of_ble_eq_true rfl) ?_
  intro p e s m ag below meth c A ls Q X hr hlk hnm S hl hQ
  have hx := X.1
  have hb := X.2.1
  have hl : lv_has ls 7 [(0, .ref h0), (1, .int (nI y)), (2, .int (nI a)), (3, .int (nI b))] := hl
  have hEd : Ed a b < 28 := Ed_lt a ha b hb1 hne
  have ht3 : t % 3 < 3 := Nat.mod_lt _ (by omega)
  refine lv_iconst (v := nI 1) hx hb dX3_checks_0 (by decide) ?_
  refine lv_iload_n hx hb dX3_checks_1 rfl (lv_at hl 2 rfl) ?_
  refine lv_iload_n hx hb dX3_checks_2 rfl (lv_at hl 3 rfl) ?_
  have hq1 := S.cut (Bc := []) (Br := [[(h0, .inr (3, [.ref q1, .ref q2, .int pasts, .ref q3, .ref q4, .ref q5, .int length, .int known, .int there, .ref q6, .int spot, .int isWrong, .int sign, .int digit, .int first, .int second]))], [(q1, .inl (gA G 0, 182, .inl g))]]) [] [0, 1] (show ([] ++ ([0, 1] : List Nat)).isPerm (List.range 2) = true by decide +kernel) rfl rfl
  refine m_ri X S hq1 (m_runS (rest := [.int (nI 1)]) (As := [.int (nI a), .int (nI b)]) (n := 2) X S hq1 (mt_X3_edge G l a b (by omega) (by omega) (by omega)) (lw_S q1798 q1799 q90 q1800) (by decide +kernel) ⟨Nat.le_of_ble_eq_true rfl, Nat.le_of_ble_eq_true rfl⟩ rfl hl.1 rfl (Nat.le_of_ble_eq_true rfl) dX3_checks_3 ⟨(Nat.le_of_ble_eq_true rfl), (Nat.le_of_ble_eq_true rfl)⟩) (fun r2 u H locs hp2 S => ?_)
  have hp2 : r2 = nI (Ed a b) := hp2
  have hhp2_0 := hp2
  subst hhp2_0
  have S : Sw G A s.heap [[(h0, .inr (3, [.ref q1, .ref q2, .int pasts, .ref q3, .ref q4, .ref q5, .int length, .int known, .int there, .ref q6, .int spot, .int isWrong, .int sign, .int digit, .int first, .int second]))], [(q1, .inl (gA G 0, 182, .inl g))]] _ _ := S
  refine lv_ishl hx hb dX3_checks_6 ?_
  refine lv_toe (y := bit (Ed a b)) (rfl) ?_
  refine lv_istore (lv' := [(4, .int (bit (Ed a b))), (0, .ref h0), (1, .int (nI y)), (2, .int (nI a)), (3, .int (nI b))]) hx hb dX3_checks_7 hl (Nat.le_of_ble_eq_true rfl) rfl (fun ls hl => ?_)
  refine lv_aload_n hx hb dX3_checks_9 rfl (lv_at hl 1 rfl) ?_
  have hq3 := S.cut (Bc := [[(h0, .inr (3, [.ref q1, .ref q2, .int pasts, .ref q3, .ref q4, .ref q5, .int length, .int known, .int there, .ref q6, .int spot, .int isWrong, .int sign, .int digit, .int first, .int second]))], [(q1, .inl (gA G 0, 182, .inl g))]]) (Br := []) [0, 1] [] (show ([0, 1] ++ ([] : List Nat)).isPerm (List.range 2) = true by decide +kernel) rfl rfl
  refine m_ri X S hq3 (m_runV (rest := []) (As := []) (n := 0) X S hq3 (mt_X3_turn G l h0 q1 q2 q3 q4 q5 q6 pasts length known there spot isWrong sign digit first second g t (by omega) (by omega)) (lw_V q1839 q1841 qs55 q90 q1842) (m_recv X S 0 rfl rfl) (by decide +kernel) ⟨Nat.le_of_ble_eq_true rfl, Nat.le_of_ble_eq_true rfl⟩ rfl hl.1 rfl (Nat.le_of_ble_eq_true rfl) dX3_checks_10 ⟨(Nat.le_of_ble_eq_true rfl), (Nat.le_of_ble_eq_true rfl)⟩) (fun r4 u H locs hp4 S => ?_)
  have hp4 : r4 = nI (t % 3) := hp4
  have hhp4_0 := hp4
  subst hhp4_0
  have S : Sw G A s.heap [[(h0, .inr (3, [.ref q1, .ref q2, .int pasts, .ref q3, .ref q4, .ref q5, .int length, .int known, .int there, .ref q6, .int spot, .int isWrong, .int sign, .int digit, .int first, .int second]))], [(q1, .inl (gA G 0, 182, .inl g))]] _ _ := S
  refine lv_istore (lv' := [(5, .int (nI (t % 3))), (4, .int (bit (Ed a b))), (0, .ref h0), (1, .int (nI y)), (2, .int (nI a)), (3, .int (nI b))]) hx hb dX3_checks_13 hl (Nat.le_of_ble_eq_true rfl) rfl (fun ls hl => ?_)
  refine lv_aload_n hx hb dX3_checks_15 rfl (lv_at hl 2 rfl) ?_
  refine m_get X S 0 rfl (T := TX3) (N := 16) in_X3 rfl 0 (by decide) q1712 (fun _ h9 => h9) rfl dX3_checks_16 ?_
  refine lv_bipush (v := nI 11) hx hb dX3_checks_19 (by decide) ?_
  refine lv_iload_n hx hb dX3_checks_21 rfl (lv_at hl 3 rfl) ?_
  refine lv_iadd hx hb dX3_checks_22 ?_
  refine lv_toe (y := nI (11 + y)) (nI_add _ _) ?_
  refine m_iald X S 1 rfl (x := nI (11 + y)) (j := 11 + y) (nI_clamp (by omega)) (vp_in_nI (by omega) (by omega)) (v := g (11 + y)) rfl dX3_checks_23 ?_
  refine lv_iload hx hb dX3_checks_24 (lv_at hl 1 rfl) ?_
  refine lv_iand hx hb dX3_checks_26 ?_
  refine lv_if_eq (tgt := 34) hx hb dX3_checks_27 (by decide) (fun c27_5 => ?_) (fun c27_5 => ?_)
  · skip
    have c27_5 : bt (g (11 + y)) (Ed a b) = false := (ab_z (by omega)).mp c27_5
    refine lv_iconst (v := nI 0) hx hb dX3_checks_34 (by decide) ?_
    refine lv_aload_n hx hb dX3_checks_35 rfl (lv_at hl 2 rfl) ?_
    refine m_get X S 0 rfl (T := TX3) (N := 16) in_X3 rfl 0 (by decide) q1712 (fun _ h9 => h9) rfl dX3_checks_36 ?_
    refine lv_iconst (v := nI 0) hx hb dX3_checks_39 (by decide) ?_
    refine m_iald X S 1 rfl (x := nI 0) (j := 0) rfl (vp_in_nI (by decide) (by decide)) (v := g 0) rfl dX3_checks_40 ?_
    refine lv_iload hx hb dX3_checks_41 (lv_at hl 1 rfl) ?_
    refine lv_iand hx hb dX3_checks_43 ?_
    refine lv_if_eq (tgt := 51) hx hb dX3_checks_44 (by decide) (fun c44_6 => ?_) (fun c44_6 => ?_)
    · skip
      have c44_6 : bt (g 0) (Ed a b) = false := (ab_z (by omega)).mp c44_6
      refine lv_iconst (v := nI 0) hx hb dX3_checks_51 (by decide) ?_
      refine lv_icmp_eq (tgt := 59) hx hb dX3_checks_52 (by decide) (fun c52_7 => ?_) (fun c52_7 => absurd (by decide) c52_7)
      refine lv_iconst (v := nI 0) hx hb dX3_checks_59 (by decide) ?_
      have hlie : lieS g y (Ed a b) = false := by unfold lieS; simp only [*]; rfl
      refine lv_istore (lv' := [(6, .int (nI 0)), (5, .int (nI (t % 3))), (4, .int (bit (Ed a b))), (0, .ref h0), (1, .int (nI y)), (2, .int (nI a)), (3, .int (nI b))]) hx hb dX3_checks_60 hl (Nat.le_of_ble_eq_true rfl) rfl (fun ls hl => ?_)
      refine lv_aload_n hx hb dX3_checks_62 rfl (lv_at hl 3 rfl) ?_
      refine lv_iload hx hb dX3_checks_63 (lv_at hl 1 rfl) ?_
      refine lv_iload_n hx hb dX3_checks_65 rfl (lv_at hl 4 rfl) ?_
      refine lv_aload_n hx hb dX3_checks_66 rfl (lv_at hl 3 rfl) ?_
      refine m_get X S 0 rfl (T := TX3) (N := 16) in_X3 rfl 0 (by decide) q1712 (fun _ h9 => h9) rfl dX3_checks_67 ?_
      refine lv_iconst (v := nI 2) hx hb dX3_checks_70 (by decide) ?_
      refine m_iald X S 1 rfl (x := nI 2) (j := 2) rfl (vp_in_nI (by decide) (by decide)) (v := g 2) rfl dX3_checks_71 ?_
      have hq8 := S.cut (Bc := [[(h0, .inr (3, [.ref q1, .ref q2, .int pasts, .ref q3, .ref q4, .ref q5, .int length, .int known, .int there, .ref q6, .int spot, .int isWrong, .int sign, .int digit, .int first, .int second]))], [(q1, .inl (gA G 0, 182, .inl g))]]) (Br := []) [0, 1] [] (show ([0, 1] ++ ([] : List Nat)).isPerm (List.range 2) = true by decide +kernel) rfl rfl
      refine m_rv X S hq8 (m_runV (rest := []) (As := [.int (nI (t % 3)), .int (nI y), .int (g 2)]) (n := 3) X S hq8 (mt_X3_pays G l h0 q1 q2 q3 q4 q5 q6 pasts length known there spot isWrong sign digit first second g (t % 3) y (g 2) (by omega) (by omega)) (lw_V q1866 q1868 qs60 q90 q1869) (m_recv X S 0 rfl rfl) (by decide +kernel) ⟨Nat.le_of_ble_eq_true rfl, Nat.le_of_ble_eq_true rfl⟩ rfl hl.1 rfl (Nat.le_of_ble_eq_true rfl) dX3_checks_72 ⟨(Nat.le_of_ble_eq_true rfl), (Nat.le_of_ble_eq_true rfl)⟩) (fun u H locs hp9 S => ?_)
      obtain ⟨u10, rfl⟩ : ∃ z, z = u := ⟨_, rfl⟩
      have hp9 : (u10 = payS g (t % 3) y (g 2)) := hp9
      have S : Sw G A s.heap [[(h0, .inr (3, [.ref q1, .ref q2, .int pasts, .ref q3, .ref q4, .ref q5, .int length, .int known, .int there, .ref q6, .int spot, .int isWrong, .int sign, .int digit, .int first, .int second]))], [(q1, .inl (gA G 0, 182, .inl u10))]] _ _ := S
      have hhp9_0 := hp9
      subst hhp9_0
      have S : Sw G A s.heap [[(h0, .inr (3, [.ref q1, .ref q2, .int pasts, .ref q3, .ref q4, .ref q5, .int length, .int known, .int there, .ref q6, .int spot, .int isWrong, .int sign, .int digit, .int first, .int second]))], [(q1, .inl (gA G 0, 182, .inl (payS g (t % 3) y (g 2))))]] _ _ := S
      refine lv_aload_n hx hb dX3_checks_75 rfl (lv_at hl 3 rfl) ?_
      refine m_get X S 0 rfl (T := TX3) (N := 16) in_X3 rfl 0 (by decide) q1712 (fun _ h9 => h9) rfl dX3_checks_76 ?_
      refine lv_bipush (v := nI 17) hx hb dX3_checks_79 (by decide) ?_
      refine lv_dup2_11 hx hb dX3_checks_81 rfl rfl ?_
      refine m_iald X S 1 rfl (x := nI 17) (j := 17) rfl (vp_in_nI (by decide) (by decide)) (v := (payS g (t % 3) y (g 2)) 17) rfl dX3_checks_82 ?_
      refine lv_iload hx hb dX3_checks_83 (lv_at hl 2 rfl) ?_
      refine lv_ior hx hb dX3_checks_85 ?_
      refine m_iast X S 1 rfl (x := nI 17) (j := 17) rfl (vp_in_nI (by decide) (by decide)) dX3_checks_86 (fun H locs S => ?_)
      have S : Sw G A s.heap [[(h0, .inr (3, [.ref q1, .ref q2, .int pasts, .ref q3, .ref q4, .ref q5, .int length, .int known, .int there, .ref q6, .int spot, .int isWrong, .int sign, .int digit, .int first, .int second]))], [(q1, .inl (gA G 0, 182, .inl (upd (payS g (t % 3) y (g 2)) 17 (((payS g (t % 3) y (g 2)) 17) ||| (bit (Ed a b))))))]] _ _ := S
      refine lv_aload_n hx hb dX3_checks_87 rfl (lv_at hl 3 rfl) ?_
      refine m_get X S 0 rfl (T := TX3) (N := 16) in_X3 rfl 0 (by decide) q1712 (fun _ h9 => h9) rfl dX3_checks_88 ?_
      refine lv_bipush (v := nI 21) hx hb dX3_checks_91 (by decide) ?_
      refine lv_iload hx hb dX3_checks_93 (lv_at hl 1 rfl) ?_
      refine lv_iadd hx hb dX3_checks_95 ?_
      refine lv_toe (y := nI (21 + (t % 3))) (nI_add _ _) ?_
      refine lv_dup2_11 hx hb dX3_checks_96 rfl rfl ?_
      refine m_iald X S 1 rfl (x := nI (21 + (t % 3))) (j := 21 + (t % 3)) (nI_clamp (by omega)) (vp_in_nI (by omega) (by omega)) (v := (upd (payS g (t % 3) y (g 2)) 17 (((payS g (t % 3) y (g 2)) 17) ||| (bit (Ed a b)))) (21 + (t % 3))) rfl dX3_checks_97 ?_
      refine lv_iconst (v := nI 1) hx hb dX3_checks_98 (by decide) ?_
      refine lv_iadd hx hb dX3_checks_99 ?_
      refine m_iast X S 1 rfl (x := nI (21 + (t % 3))) (j := 21 + (t % 3)) (nI_clamp (by omega)) (vp_in_nI (by omega) (by omega)) dX3_checks_100 (fun H locs S => ?_)
      have S : Sw G A s.heap [[(h0, .inr (3, [.ref q1, .ref q2, .int pasts, .ref q3, .ref q4, .ref q5, .int length, .int known, .int there, .ref q6, .int spot, .int isWrong, .int sign, .int digit, .int first, .int second]))], [(q1, .inl (gA G 0, 182, .inl (upd (upd (payS g (t % 3) y (g 2)) 17 (((payS g (t % 3) y (g 2)) 17) ||| (bit (Ed a b)))) (21 + (t % 3)) (((upd (payS g (t % 3) y (g 2)) 17 (((payS g (t % 3) y (g 2)) 17) ||| (bit (Ed a b)))) (21 + (t % 3))) + (nI 1)))))]] _ _ := S
      have hE11 : upd (upd (payS g (t % 3) y (g 2)) 17 (((payS g (t % 3) y (g 2)) 17) ||| (bit (Ed a b)))) (21 + (t % 3)) (((upd (payS g (t % 3) y (g 2)) 17 (((payS g (t % 3) y (g 2)) 17) ||| (bit (Ed a b)))) (21 + (t % 3))) + (nI 1)) = chk1 g y (Ed a b) (t % 3) := rfl
      have S := S.cong (congrArg (fun (zz : Nat → Int32) => ([[(h0, .inr (3, [.ref q1, .ref q2, .int pasts, .ref q3, .ref q4, .ref q5, .int length, .int known, .int there, .ref q6, .int spot, .int isWrong, .int sign, .int digit, .int first, .int second]))], [(q1, .inl (gA G 0, 182, .inl zz))]] : List va_W)) hE11)
      have S : Sw G A s.heap [[(h0, .inr (3, [.ref q1, .ref q2, .int pasts, .ref q3, .ref q4, .ref q5, .int length, .int known, .int there, .ref q6, .int spot, .int isWrong, .int sign, .int digit, .int first, .int second]))], [(q1, .inl (gA G 0, 182, .inl (chk1 g y (Ed a b) (t % 3))))]] _ _ := S
      refine lv_iload hx hb dX3_checks_101 (lv_at hl 0 rfl) ?_
      refine lv_if_eq (tgt := 146) hx hb dX3_checks_103 (by decide) (fun c103_12 => ?_) (fun c103_12 => absurd (by decide) c103_12)
      refine lv_aload_n hx hb dX3_checks_146 rfl (lv_at hl 3 rfl) ?_
      have hq13 := S.cut (Bc := [[(h0, .inr (3, [.ref q1, .ref q2, .int pasts, .ref q3, .ref q4, .ref q5, .int length, .int known, .int there, .ref q6, .int spot, .int isWrong, .int sign, .int digit, .int first, .int second]))], [(q1, .inl (gA G 0, 182, .inl (chk1 g y (Ed a b) (t % 3))))]]) (Br := []) [0, 1] [] (show ([0, 1] ++ ([] : List Nat)).isPerm (List.range 2) = true by decide +kernel) rfl rfl
      refine m_rv X S hq13 (m_runV (rest := []) (As := []) (n := 0) X S hq13 (mt_X3_ends G l h0 q1 q2 q3 q4 q5 q6 pasts length known there spot isWrong sign digit first second (chk1 g y (Ed a b) (t % 3)) ) (lw_V q1843 q1845 qs56 q90 q1846) (m_recv X S 0 rfl rfl) (by decide +kernel) ⟨Nat.le_of_ble_eq_true rfl, Nat.le_of_ble_eq_true rfl⟩ rfl hl.1 rfl (Nat.le_of_ble_eq_true rfl) dX3_checks_147 ⟨(Nat.le_of_ble_eq_true rfl), (Nat.le_of_ble_eq_true rfl)⟩) (fun u H locs hp14 S => ?_)
      obtain ⟨u15, rfl⟩ : ∃ z, z = u := ⟨_, rfl⟩
      have hp14 : (u15 = endS (chk1 g y (Ed a b) (t % 3))) := hp14
      have S : Sw G A s.heap [[(h0, .inr (3, [.ref q1, .ref q2, .int pasts, .ref q3, .ref q4, .ref q5, .int length, .int known, .int there, .ref q6, .int spot, .int isWrong, .int sign, .int digit, .int first, .int second]))], [(q1, .inl (gA G 0, 182, .inl u15))]] _ _ := S
      have hhp14_0 := hp14
      subst hhp14_0
      have S : Sw G A s.heap [[(h0, .inr (3, [.ref q1, .ref q2, .int pasts, .ref q3, .ref q4, .ref q5, .int length, .int known, .int there, .ref q6, .int spot, .int isWrong, .int sign, .int digit, .int first, .int second]))], [(q1, .inl (gA G 0, 182, .inl (endS (chk1 g y (Ed a b) (t % 3)))))]] _ _ := S
      refine lv_iload hx hb dX3_checks_150 (lv_at hl 0 rfl) ?_
      refine lv_if_eq (tgt := 159) hx hb dX3_checks_152 (by decide) (fun c152_16 => ?_) (fun c152_16 => absurd (by decide) c152_16)
      refine lv_iconst (v := nI 0) hx hb dX3_checks_159 (by decide) ?_
      exact m_iret X hr hlk hQ S (endS (chk1 g y (Ed a b) (t % 3))) (by show ((nI 0) = (if lieS g y (Ed a b) = true then nI 1 else nI 0) ∧ (endS (chk1 g y (Ed a b) (t % 3))) = checkS g y (Ed a b) (t % 3)); unfold checkS; rw [hlie]; first | exact ⟨rfl, rfl⟩ | exact ⟨rfl, by rw [if_neg (by decide)]⟩ | exact ⟨by rw [if_neg (by decide)], by rw [if_neg (by decide)]⟩) [0, 1] [] (show ([0, 1] ++ ([] : List Nat)).isPerm (List.range 2) = true by decide +kernel) rfl (Nat.le_of_ble_eq_true rfl) (Nat.le_of_ble_eq_true rfl) dX3_checks_160
    · skip
      have c44_6 : bt (g 0) (Ed a b) = true := (ab_nz (by omega)).mp c44_6
      refine lv_iconst (v := nI 1) hx hb dX3_checks_47 (by decide) ?_
      refine lv_goto (tgt := 52) hx hb dX3_checks_48 (by decide) ?_
      refine lv_icmp_eq (tgt := 59) hx hb dX3_checks_52 (by decide) (fun c52_17 => absurd c52_17 (by decide)) (fun c52_17 => ?_)
      refine lv_iconst (v := nI 1) hx hb dX3_checks_55 (by decide) ?_
      refine lv_goto (tgt := 60) hx hb dX3_checks_56 (by decide) ?_
      have hlie : lieS g y (Ed a b) = true := by unfold lieS; simp only [*]; rfl
      refine lv_istore (lv' := [(6, .int (nI 1)), (5, .int (nI (t % 3))), (4, .int (bit (Ed a b))), (0, .ref h0), (1, .int (nI y)), (2, .int (nI a)), (3, .int (nI b))]) hx hb dX3_checks_60 hl (Nat.le_of_ble_eq_true rfl) rfl (fun ls hl => ?_)
      refine lv_aload_n hx hb dX3_checks_62 rfl (lv_at hl 3 rfl) ?_
      refine lv_iload hx hb dX3_checks_63 (lv_at hl 1 rfl) ?_
      refine lv_iload_n hx hb dX3_checks_65 rfl (lv_at hl 4 rfl) ?_
      refine lv_aload_n hx hb dX3_checks_66 rfl (lv_at hl 3 rfl) ?_
      refine m_get X S 0 rfl (T := TX3) (N := 16) in_X3 rfl 0 (by decide) q1712 (fun _ h9 => h9) rfl dX3_checks_67 ?_
      refine lv_iconst (v := nI 2) hx hb dX3_checks_70 (by decide) ?_
      refine m_iald X S 1 rfl (x := nI 2) (j := 2) rfl (vp_in_nI (by decide) (by decide)) (v := g 2) rfl dX3_checks_71 ?_
      have hq18 := S.cut (Bc := [[(h0, .inr (3, [.ref q1, .ref q2, .int pasts, .ref q3, .ref q4, .ref q5, .int length, .int known, .int there, .ref q6, .int spot, .int isWrong, .int sign, .int digit, .int first, .int second]))], [(q1, .inl (gA G 0, 182, .inl g))]]) (Br := []) [0, 1] [] (show ([0, 1] ++ ([] : List Nat)).isPerm (List.range 2) = true by decide +kernel) rfl rfl
      refine m_rv X S hq18 (m_runV (rest := []) (As := [.int (nI (t % 3)), .int (nI y), .int (g 2)]) (n := 3) X S hq18 (mt_X3_pays G l h0 q1 q2 q3 q4 q5 q6 pasts length known there spot isWrong sign digit first second g (t % 3) y (g 2) (by omega) (by omega)) (lw_V q1866 q1868 qs60 q90 q1869) (m_recv X S 0 rfl rfl) (by decide +kernel) ⟨Nat.le_of_ble_eq_true rfl, Nat.le_of_ble_eq_true rfl⟩ rfl hl.1 rfl (Nat.le_of_ble_eq_true rfl) dX3_checks_72 ⟨(Nat.le_of_ble_eq_true rfl), (Nat.le_of_ble_eq_true rfl)⟩) (fun u H locs hp19 S => ?_)
      obtain ⟨u20, rfl⟩ : ∃ z, z = u := ⟨_, rfl⟩
      have hp19 : (u20 = payS g (t % 3) y (g 2)) := hp19
      have S : Sw G A s.heap [[(h0, .inr (3, [.ref q1, .ref q2, .int pasts, .ref q3, .ref q4, .ref q5, .int length, .int known, .int there, .ref q6, .int spot, .int isWrong, .int sign, .int digit, .int first, .int second]))], [(q1, .inl (gA G 0, 182, .inl u20))]] _ _ := S
      have hhp19_0 := hp19
      subst hhp19_0
      have S : Sw G A s.heap [[(h0, .inr (3, [.ref q1, .ref q2, .int pasts, .ref q3, .ref q4, .ref q5, .int length, .int known, .int there, .ref q6, .int spot, .int isWrong, .int sign, .int digit, .int first, .int second]))], [(q1, .inl (gA G 0, 182, .inl (payS g (t % 3) y (g 2))))]] _ _ := S
      refine lv_aload_n hx hb dX3_checks_75 rfl (lv_at hl 3 rfl) ?_
      refine m_get X S 0 rfl (T := TX3) (N := 16) in_X3 rfl 0 (by decide) q1712 (fun _ h9 => h9) rfl dX3_checks_76 ?_
      refine lv_bipush (v := nI 17) hx hb dX3_checks_79 (by decide) ?_
      refine lv_dup2_11 hx hb dX3_checks_81 rfl rfl ?_
      refine m_iald X S 1 rfl (x := nI 17) (j := 17) rfl (vp_in_nI (by decide) (by decide)) (v := (payS g (t % 3) y (g 2)) 17) rfl dX3_checks_82 ?_
      refine lv_iload hx hb dX3_checks_83 (lv_at hl 2 rfl) ?_
      refine lv_ior hx hb dX3_checks_85 ?_
      refine m_iast X S 1 rfl (x := nI 17) (j := 17) rfl (vp_in_nI (by decide) (by decide)) dX3_checks_86 (fun H locs S => ?_)
      have S : Sw G A s.heap [[(h0, .inr (3, [.ref q1, .ref q2, .int pasts, .ref q3, .ref q4, .ref q5, .int length, .int known, .int there, .ref q6, .int spot, .int isWrong, .int sign, .int digit, .int first, .int second]))], [(q1, .inl (gA G 0, 182, .inl (upd (payS g (t % 3) y (g 2)) 17 (((payS g (t % 3) y (g 2)) 17) ||| (bit (Ed a b))))))]] _ _ := S
      refine lv_aload_n hx hb dX3_checks_87 rfl (lv_at hl 3 rfl) ?_
      refine m_get X S 0 rfl (T := TX3) (N := 16) in_X3 rfl 0 (by decide) q1712 (fun _ h9 => h9) rfl dX3_checks_88 ?_
      refine lv_bipush (v := nI 21) hx hb dX3_checks_91 (by decide) ?_
      refine lv_iload hx hb dX3_checks_93 (lv_at hl 1 rfl) ?_
      refine lv_iadd hx hb dX3_checks_95 ?_
      refine lv_toe (y := nI (21 + (t % 3))) (nI_add _ _) ?_
      refine lv_dup2_11 hx hb dX3_checks_96 rfl rfl ?_
      refine m_iald X S 1 rfl (x := nI (21 + (t % 3))) (j := 21 + (t % 3)) (nI_clamp (by omega)) (vp_in_nI (by omega) (by omega)) (v := (upd (payS g (t % 3) y (g 2)) 17 (((payS g (t % 3) y (g 2)) 17) ||| (bit (Ed a b)))) (21 + (t % 3))) rfl dX3_checks_97 ?_
      refine lv_iconst (v := nI 1) hx hb dX3_checks_98 (by decide) ?_
      refine lv_iadd hx hb dX3_checks_99 ?_
      refine m_iast X S 1 rfl (x := nI (21 + (t % 3))) (j := 21 + (t % 3)) (nI_clamp (by omega)) (vp_in_nI (by omega) (by omega)) dX3_checks_100 (fun H locs S => ?_)
      have S : Sw G A s.heap [[(h0, .inr (3, [.ref q1, .ref q2, .int pasts, .ref q3, .ref q4, .ref q5, .int length, .int known, .int there, .ref q6, .int spot, .int isWrong, .int sign, .int digit, .int first, .int second]))], [(q1, .inl (gA G 0, 182, .inl (upd (upd (payS g (t % 3) y (g 2)) 17 (((payS g (t % 3) y (g 2)) 17) ||| (bit (Ed a b)))) (21 + (t % 3)) (((upd (payS g (t % 3) y (g 2)) 17 (((payS g (t % 3) y (g 2)) 17) ||| (bit (Ed a b)))) (21 + (t % 3))) + (nI 1)))))]] _ _ := S
      have hE21 : upd (upd (payS g (t % 3) y (g 2)) 17 (((payS g (t % 3) y (g 2)) 17) ||| (bit (Ed a b)))) (21 + (t % 3)) (((upd (payS g (t % 3) y (g 2)) 17 (((payS g (t % 3) y (g 2)) 17) ||| (bit (Ed a b)))) (21 + (t % 3))) + (nI 1)) = chk1 g y (Ed a b) (t % 3) := rfl
      have S := S.cong (congrArg (fun (zz : Nat → Int32) => ([[(h0, .inr (3, [.ref q1, .ref q2, .int pasts, .ref q3, .ref q4, .ref q5, .int length, .int known, .int there, .ref q6, .int spot, .int isWrong, .int sign, .int digit, .int first, .int second]))], [(q1, .inl (gA G 0, 182, .inl zz))]] : List va_W)) hE21)
      have S : Sw G A s.heap [[(h0, .inr (3, [.ref q1, .ref q2, .int pasts, .ref q3, .ref q4, .ref q5, .int length, .int known, .int there, .ref q6, .int spot, .int isWrong, .int sign, .int digit, .int first, .int second]))], [(q1, .inl (gA G 0, 182, .inl (chk1 g y (Ed a b) (t % 3))))]] _ _ := S
      refine lv_iload hx hb dX3_checks_101 (lv_at hl 0 rfl) ?_
      refine lv_if_eq (tgt := 146) hx hb dX3_checks_103 (by decide) (fun c103_22 => absurd c103_22 (by decide)) (fun c103_22 => ?_)
      refine lv_aload_n hx hb dX3_checks_106 rfl (lv_at hl 3 rfl) ?_
      refine lv_iload_n hx hb dX3_checks_107 rfl (lv_at hl 4 rfl) ?_
      refine lv_iload hx hb dX3_checks_108 (lv_at hl 1 rfl) ?_
      refine lv_aload_n hx hb dX3_checks_110 rfl (lv_at hl 3 rfl) ?_
      refine m_get X S 0 rfl (T := TX3) (N := 16) in_X3 rfl 0 (by decide) q1712 (fun _ h9 => h9) rfl dX3_checks_111 ?_
      refine lv_iconst (v := nI 3) hx hb dX3_checks_114 (by decide) ?_
      refine m_iald X S 1 rfl (x := nI 3) (j := 3) rfl (vp_in_nI (by decide) (by decide)) (v := (chk1 g y (Ed a b) (t % 3)) 3) rfl dX3_checks_115 ?_
      have hq23 := S.cut (Bc := [[(h0, .inr (3, [.ref q1, .ref q2, .int pasts, .ref q3, .ref q4, .ref q5, .int length, .int known, .int there, .ref q6, .int spot, .int isWrong, .int sign, .int digit, .int first, .int second]))], [(q1, .inl (gA G 0, 182, .inl (chk1 g y (Ed a b) (t % 3))))]]) (Br := []) [0, 1] [] (show ([0, 1] ++ ([] : List Nat)).isPerm (List.range 2) = true by decide +kernel) rfl rfl
      refine m_rv X S hq23 (m_runV (rest := []) (As := [.int (nI y), .int (nI (t % 3)), .int ((chk1 g y (Ed a b) (t % 3)) 3)]) (n := 3) X S hq23 (mt_X3_pays G l h0 q1 q2 q3 q4 q5 q6 pasts length known there spot isWrong sign digit first second (chk1 g y (Ed a b) (t % 3)) y (t % 3) ((chk1 g y (Ed a b) (t % 3)) 3) (by omega) (by omega)) (lw_V q1866 q1868 qs60 q90 q1869) (m_recv X S 0 rfl rfl) (by decide +kernel) ⟨Nat.le_of_ble_eq_true rfl, Nat.le_of_ble_eq_true rfl⟩ rfl hl.1 rfl (Nat.le_of_ble_eq_true rfl) dX3_checks_116 ⟨(Nat.le_of_ble_eq_true rfl), (Nat.le_of_ble_eq_true rfl)⟩) (fun u H locs hp24 S => ?_)
      obtain ⟨u25, rfl⟩ : ∃ z, z = u := ⟨_, rfl⟩
      have hp24 : (u25 = payS (chk1 g y (Ed a b) (t % 3)) y (t % 3) ((chk1 g y (Ed a b) (t % 3)) 3)) := hp24
      have S : Sw G A s.heap [[(h0, .inr (3, [.ref q1, .ref q2, .int pasts, .ref q3, .ref q4, .ref q5, .int length, .int known, .int there, .ref q6, .int spot, .int isWrong, .int sign, .int digit, .int first, .int second]))], [(q1, .inl (gA G 0, 182, .inl u25))]] _ _ := S
      have hhp24_0 := hp24
      subst hhp24_0
      have S : Sw G A s.heap [[(h0, .inr (3, [.ref q1, .ref q2, .int pasts, .ref q3, .ref q4, .ref q5, .int length, .int known, .int there, .ref q6, .int spot, .int isWrong, .int sign, .int digit, .int first, .int second]))], [(q1, .inl (gA G 0, 182, .inl (payS (chk1 g y (Ed a b) (t % 3)) y (t % 3) ((chk1 g y (Ed a b) (t % 3)) 3))))]] _ _ := S
      refine lv_aload_n hx hb dX3_checks_119 rfl (lv_at hl 3 rfl) ?_
      refine m_get X S 0 rfl (T := TX3) (N := 16) in_X3 rfl 0 (by decide) q1712 (fun _ h9 => h9) rfl dX3_checks_120 ?_
      refine lv_bipush (v := nI 18) hx hb dX3_checks_123 (by decide) ?_
      refine lv_iload_n hx hb dX3_checks_125 rfl (lv_at hl 4 rfl) ?_
      refine lv_iadd hx hb dX3_checks_126 ?_
      refine lv_toe (y := nI (18 + y)) (nI_add _ _) ?_
      refine lv_dup2_11 hx hb dX3_checks_127 rfl rfl ?_
      refine m_iald X S 1 rfl (x := nI (18 + y)) (j := 18 + y) (nI_clamp (by omega)) (vp_in_nI (by omega) (by omega)) (v := (payS (chk1 g y (Ed a b) (t % 3)) y (t % 3) ((chk1 g y (Ed a b) (t % 3)) 3)) (18 + y)) rfl dX3_checks_128 ?_
      refine lv_iconst (v := nI 1) hx hb dX3_checks_129 (by decide) ?_
      refine lv_iadd hx hb dX3_checks_130 ?_
      refine m_iast X S 1 rfl (x := nI (18 + y)) (j := 18 + y) (nI_clamp (by omega)) (vp_in_nI (by omega) (by omega)) dX3_checks_131 (fun H locs S => ?_)
      have S : Sw G A s.heap [[(h0, .inr (3, [.ref q1, .ref q2, .int pasts, .ref q3, .ref q4, .ref q5, .int length, .int known, .int there, .ref q6, .int spot, .int isWrong, .int sign, .int digit, .int first, .int second]))], [(q1, .inl (gA G 0, 182, .inl (upd (payS (chk1 g y (Ed a b) (t % 3)) y (t % 3) ((chk1 g y (Ed a b) (t % 3)) 3)) (18 + y) (((payS (chk1 g y (Ed a b) (t % 3)) y (t % 3) ((chk1 g y (Ed a b) (t % 3)) 3)) (18 + y)) + (nI 1)))))]] _ _ := S
      refine lv_aload_n hx hb dX3_checks_132 rfl (lv_at hl 3 rfl) ?_
      refine m_get X S 0 rfl (T := TX3) (N := 16) in_X3 rfl 0 (by decide) q1712 (fun _ h9 => h9) rfl dX3_checks_133 ?_
      refine lv_bipush (v := nI 24) hx hb dX3_checks_136 (by decide) ?_
      refine lv_iload hx hb dX3_checks_138 (lv_at hl 1 rfl) ?_
      refine lv_iadd hx hb dX3_checks_140 ?_
      refine lv_toe (y := nI (24 + (t % 3))) (nI_add _ _) ?_
      refine lv_dup2_11 hx hb dX3_checks_141 rfl rfl ?_
      refine m_iald X S 1 rfl (x := nI (24 + (t % 3))) (j := 24 + (t % 3)) (nI_clamp (by omega)) (vp_in_nI (by omega) (by omega)) (v := (upd (payS (chk1 g y (Ed a b) (t % 3)) y (t % 3) ((chk1 g y (Ed a b) (t % 3)) 3)) (18 + y) (((payS (chk1 g y (Ed a b) (t % 3)) y (t % 3) ((chk1 g y (Ed a b) (t % 3)) 3)) (18 + y)) + (nI 1))) (24 + (t % 3))) rfl dX3_checks_142 ?_
      refine lv_iconst (v := nI 1) hx hb dX3_checks_143 (by decide) ?_
      refine lv_iadd hx hb dX3_checks_144 ?_
      refine m_iast X S 1 rfl (x := nI (24 + (t % 3))) (j := 24 + (t % 3)) (nI_clamp (by omega)) (vp_in_nI (by omega) (by omega)) dX3_checks_145 (fun H locs S => ?_)
      have S : Sw G A s.heap [[(h0, .inr (3, [.ref q1, .ref q2, .int pasts, .ref q3, .ref q4, .ref q5, .int length, .int known, .int there, .ref q6, .int spot, .int isWrong, .int sign, .int digit, .int first, .int second]))], [(q1, .inl (gA G 0, 182, .inl (upd (upd (payS (chk1 g y (Ed a b) (t % 3)) y (t % 3) ((chk1 g y (Ed a b) (t % 3)) 3)) (18 + y) (((payS (chk1 g y (Ed a b) (t % 3)) y (t % 3) ((chk1 g y (Ed a b) (t % 3)) 3)) (18 + y)) + (nI 1))) (24 + (t % 3)) (((upd (payS (chk1 g y (Ed a b) (t % 3)) y (t % 3) ((chk1 g y (Ed a b) (t % 3)) 3)) (18 + y) (((payS (chk1 g y (Ed a b) (t % 3)) y (t % 3) ((chk1 g y (Ed a b) (t % 3)) 3)) (18 + y)) + (nI 1))) (24 + (t % 3))) + (nI 1)))))]] _ _ := S
      have hE26 : upd (upd (payS (chk1 g y (Ed a b) (t % 3)) y (t % 3) ((chk1 g y (Ed a b) (t % 3)) 3)) (18 + y) (((payS (chk1 g y (Ed a b) (t % 3)) y (t % 3) ((chk1 g y (Ed a b) (t % 3)) 3)) (18 + y)) + (nI 1))) (24 + (t % 3)) (((upd (payS (chk1 g y (Ed a b) (t % 3)) y (t % 3) ((chk1 g y (Ed a b) (t % 3)) 3)) (18 + y) (((payS (chk1 g y (Ed a b) (t % 3)) y (t % 3) ((chk1 g y (Ed a b) (t % 3)) 3)) (18 + y)) + (nI 1))) (24 + (t % 3))) + (nI 1)) = chk2 (chk1 g y (Ed a b) (t % 3)) y (t % 3) := rfl
      have S := S.cong (congrArg (fun (zz : Nat → Int32) => ([[(h0, .inr (3, [.ref q1, .ref q2, .int pasts, .ref q3, .ref q4, .ref q5, .int length, .int known, .int there, .ref q6, .int spot, .int isWrong, .int sign, .int digit, .int first, .int second]))], [(q1, .inl (gA G 0, 182, .inl zz))]] : List va_W)) hE26)
      have S : Sw G A s.heap [[(h0, .inr (3, [.ref q1, .ref q2, .int pasts, .ref q3, .ref q4, .ref q5, .int length, .int known, .int there, .ref q6, .int spot, .int isWrong, .int sign, .int digit, .int first, .int second]))], [(q1, .inl (gA G 0, 182, .inl (chk2 (chk1 g y (Ed a b) (t % 3)) y (t % 3))))]] _ _ := S
      refine lv_aload_n hx hb dX3_checks_146 rfl (lv_at hl 3 rfl) ?_
      have hq27 := S.cut (Bc := [[(h0, .inr (3, [.ref q1, .ref q2, .int pasts, .ref q3, .ref q4, .ref q5, .int length, .int known, .int there, .ref q6, .int spot, .int isWrong, .int sign, .int digit, .int first, .int second]))], [(q1, .inl (gA G 0, 182, .inl (chk2 (chk1 g y (Ed a b) (t % 3)) y (t % 3))))]]) (Br := []) [0, 1] [] (show ([0, 1] ++ ([] : List Nat)).isPerm (List.range 2) = true by decide +kernel) rfl rfl
      refine m_rv X S hq27 (m_runV (rest := []) (As := []) (n := 0) X S hq27 (mt_X3_ends G l h0 q1 q2 q3 q4 q5 q6 pasts length known there spot isWrong sign digit first second (chk2 (chk1 g y (Ed a b) (t % 3)) y (t % 3)) ) (lw_V q1843 q1845 qs56 q90 q1846) (m_recv X S 0 rfl rfl) (by decide +kernel) ⟨Nat.le_of_ble_eq_true rfl, Nat.le_of_ble_eq_true rfl⟩ rfl hl.1 rfl (Nat.le_of_ble_eq_true rfl) dX3_checks_147 ⟨(Nat.le_of_ble_eq_true rfl), (Nat.le_of_ble_eq_true rfl)⟩) (fun u H locs hp28 S => ?_)
      obtain ⟨u29, rfl⟩ : ∃ z, z = u := ⟨_, rfl⟩
      have hp28 : (u29 = endS (chk2 (chk1 g y (Ed a b) (t % 3)) y (t % 3))) := hp28
      have S : Sw G A s.heap [[(h0, .inr (3, [.ref q1, .ref q2, .int pasts, .ref q3, .ref q4, .ref q5, .int length, .int known, .int there, .ref q6, .int spot, .int isWrong, .int sign, .int digit, .int first, .int second]))], [(q1, .inl (gA G 0, 182, .inl u29))]] _ _ := S
      have hhp28_0 := hp28
      subst hhp28_0
      have S : Sw G A s.heap [[(h0, .inr (3, [.ref q1, .ref q2, .int pasts, .ref q3, .ref q4, .ref q5, .int length, .int known, .int there, .ref q6, .int spot, .int isWrong, .int sign, .int digit, .int first, .int second]))], [(q1, .inl (gA G 0, 182, .inl (endS (chk2 (chk1 g y (Ed a b) (t % 3)) y (t % 3)))))]] _ _ := S
      refine lv_iload hx hb dX3_checks_150 (lv_at hl 0 rfl) ?_
      refine lv_if_eq (tgt := 159) hx hb dX3_checks_152 (by decide) (fun c152_30 => absurd c152_30 (by decide)) (fun c152_30 => ?_)
      refine lv_iconst (v := nI 1) hx hb dX3_checks_155 (by decide) ?_
      refine lv_goto (tgt := 160) hx hb dX3_checks_156 (by decide) ?_
      exact m_iret X hr hlk hQ S (endS (chk2 (chk1 g y (Ed a b) (t % 3)) y (t % 3))) (by show ((nI 1) = (if lieS g y (Ed a b) = true then nI 1 else nI 0) ∧ (endS (chk2 (chk1 g y (Ed a b) (t % 3)) y (t % 3))) = checkS g y (Ed a b) (t % 3)); unfold checkS; rw [hlie]; first | exact ⟨rfl, rfl⟩ | exact ⟨rfl, by rw [if_neg (by decide)]⟩ | exact ⟨by rw [if_neg (by decide)], by rw [if_neg (by decide)]⟩) [0, 1] [] (show ([0, 1] ++ ([] : List Nat)).isPerm (List.range 2) = true by decide +kernel) rfl (Nat.le_of_ble_eq_true rfl) (Nat.le_of_ble_eq_true rfl) dX3_checks_160
  · skip
    have c27_5 : bt (g (11 + y)) (Ed a b) = true := (ab_nz (by omega)).mp c27_5
    refine lv_iconst (v := nI 1) hx hb dX3_checks_30 (by decide) ?_
    refine lv_goto (tgt := 35) hx hb dX3_checks_31 (by decide) ?_
    refine lv_aload_n hx hb dX3_checks_35 rfl (lv_at hl 2 rfl) ?_
    refine m_get X S 0 rfl (T := TX3) (N := 16) in_X3 rfl 0 (by decide) q1712 (fun _ h9 => h9) rfl dX3_checks_36 ?_
    refine lv_iconst (v := nI 0) hx hb dX3_checks_39 (by decide) ?_
    refine m_iald X S 1 rfl (x := nI 0) (j := 0) rfl (vp_in_nI (by decide) (by decide)) (v := g 0) rfl dX3_checks_40 ?_
    refine lv_iload hx hb dX3_checks_41 (lv_at hl 1 rfl) ?_
    refine lv_iand hx hb dX3_checks_43 ?_
    refine lv_if_eq (tgt := 51) hx hb dX3_checks_44 (by decide) (fun c44_31 => ?_) (fun c44_31 => ?_)
    · skip
      have c44_31 : bt (g 0) (Ed a b) = false := (ab_z (by omega)).mp c44_31
      refine lv_iconst (v := nI 0) hx hb dX3_checks_51 (by decide) ?_
      refine lv_icmp_eq (tgt := 59) hx hb dX3_checks_52 (by decide) (fun c52_32 => absurd c52_32 (by decide)) (fun c52_32 => ?_)
      refine lv_iconst (v := nI 1) hx hb dX3_checks_55 (by decide) ?_
      refine lv_goto (tgt := 60) hx hb dX3_checks_56 (by decide) ?_
      have hlie : lieS g y (Ed a b) = true := by unfold lieS; simp only [*]; rfl
      refine lv_istore (lv' := [(6, .int (nI 1)), (5, .int (nI (t % 3))), (4, .int (bit (Ed a b))), (0, .ref h0), (1, .int (nI y)), (2, .int (nI a)), (3, .int (nI b))]) hx hb dX3_checks_60 hl (Nat.le_of_ble_eq_true rfl) rfl (fun ls hl => ?_)
      refine lv_aload_n hx hb dX3_checks_62 rfl (lv_at hl 3 rfl) ?_
      refine lv_iload hx hb dX3_checks_63 (lv_at hl 1 rfl) ?_
      refine lv_iload_n hx hb dX3_checks_65 rfl (lv_at hl 4 rfl) ?_
      refine lv_aload_n hx hb dX3_checks_66 rfl (lv_at hl 3 rfl) ?_
      refine m_get X S 0 rfl (T := TX3) (N := 16) in_X3 rfl 0 (by decide) q1712 (fun _ h9 => h9) rfl dX3_checks_67 ?_
      refine lv_iconst (v := nI 2) hx hb dX3_checks_70 (by decide) ?_
      refine m_iald X S 1 rfl (x := nI 2) (j := 2) rfl (vp_in_nI (by decide) (by decide)) (v := g 2) rfl dX3_checks_71 ?_
      have hq33 := S.cut (Bc := [[(h0, .inr (3, [.ref q1, .ref q2, .int pasts, .ref q3, .ref q4, .ref q5, .int length, .int known, .int there, .ref q6, .int spot, .int isWrong, .int sign, .int digit, .int first, .int second]))], [(q1, .inl (gA G 0, 182, .inl g))]]) (Br := []) [0, 1] [] (show ([0, 1] ++ ([] : List Nat)).isPerm (List.range 2) = true by decide +kernel) rfl rfl
      refine m_rv X S hq33 (m_runV (rest := []) (As := [.int (nI (t % 3)), .int (nI y), .int (g 2)]) (n := 3) X S hq33 (mt_X3_pays G l h0 q1 q2 q3 q4 q5 q6 pasts length known there spot isWrong sign digit first second g (t % 3) y (g 2) (by omega) (by omega)) (lw_V q1866 q1868 qs60 q90 q1869) (m_recv X S 0 rfl rfl) (by decide +kernel) ⟨Nat.le_of_ble_eq_true rfl, Nat.le_of_ble_eq_true rfl⟩ rfl hl.1 rfl (Nat.le_of_ble_eq_true rfl) dX3_checks_72 ⟨(Nat.le_of_ble_eq_true rfl), (Nat.le_of_ble_eq_true rfl)⟩) (fun u H locs hp34 S => ?_)
      obtain ⟨u35, rfl⟩ : ∃ z, z = u := ⟨_, rfl⟩
      have hp34 : (u35 = payS g (t % 3) y (g 2)) := hp34
      have S : Sw G A s.heap [[(h0, .inr (3, [.ref q1, .ref q2, .int pasts, .ref q3, .ref q4, .ref q5, .int length, .int known, .int there, .ref q6, .int spot, .int isWrong, .int sign, .int digit, .int first, .int second]))], [(q1, .inl (gA G 0, 182, .inl u35))]] _ _ := S
      have hhp34_0 := hp34
      subst hhp34_0
      have S : Sw G A s.heap [[(h0, .inr (3, [.ref q1, .ref q2, .int pasts, .ref q3, .ref q4, .ref q5, .int length, .int known, .int there, .ref q6, .int spot, .int isWrong, .int sign, .int digit, .int first, .int second]))], [(q1, .inl (gA G 0, 182, .inl (payS g (t % 3) y (g 2))))]] _ _ := S
      refine lv_aload_n hx hb dX3_checks_75 rfl (lv_at hl 3 rfl) ?_
      refine m_get X S 0 rfl (T := TX3) (N := 16) in_X3 rfl 0 (by decide) q1712 (fun _ h9 => h9) rfl dX3_checks_76 ?_
      refine lv_bipush (v := nI 17) hx hb dX3_checks_79 (by decide) ?_
      refine lv_dup2_11 hx hb dX3_checks_81 rfl rfl ?_
      refine m_iald X S 1 rfl (x := nI 17) (j := 17) rfl (vp_in_nI (by decide) (by decide)) (v := (payS g (t % 3) y (g 2)) 17) rfl dX3_checks_82 ?_
      refine lv_iload hx hb dX3_checks_83 (lv_at hl 2 rfl) ?_
      refine lv_ior hx hb dX3_checks_85 ?_
      refine m_iast X S 1 rfl (x := nI 17) (j := 17) rfl (vp_in_nI (by decide) (by decide)) dX3_checks_86 (fun H locs S => ?_)
      have S : Sw G A s.heap [[(h0, .inr (3, [.ref q1, .ref q2, .int pasts, .ref q3, .ref q4, .ref q5, .int length, .int known, .int there, .ref q6, .int spot, .int isWrong, .int sign, .int digit, .int first, .int second]))], [(q1, .inl (gA G 0, 182, .inl (upd (payS g (t % 3) y (g 2)) 17 (((payS g (t % 3) y (g 2)) 17) ||| (bit (Ed a b))))))]] _ _ := S
      refine lv_aload_n hx hb dX3_checks_87 rfl (lv_at hl 3 rfl) ?_
      refine m_get X S 0 rfl (T := TX3) (N := 16) in_X3 rfl 0 (by decide) q1712 (fun _ h9 => h9) rfl dX3_checks_88 ?_
      refine lv_bipush (v := nI 21) hx hb dX3_checks_91 (by decide) ?_
      refine lv_iload hx hb dX3_checks_93 (lv_at hl 1 rfl) ?_
      refine lv_iadd hx hb dX3_checks_95 ?_
      refine lv_toe (y := nI (21 + (t % 3))) (nI_add _ _) ?_
      refine lv_dup2_11 hx hb dX3_checks_96 rfl rfl ?_
      refine m_iald X S 1 rfl (x := nI (21 + (t % 3))) (j := 21 + (t % 3)) (nI_clamp (by omega)) (vp_in_nI (by omega) (by omega)) (v := (upd (payS g (t % 3) y (g 2)) 17 (((payS g (t % 3) y (g 2)) 17) ||| (bit (Ed a b)))) (21 + (t % 3))) rfl dX3_checks_97 ?_
      refine lv_iconst (v := nI 1) hx hb dX3_checks_98 (by decide) ?_
      refine lv_iadd hx hb dX3_checks_99 ?_
      refine m_iast X S 1 rfl (x := nI (21 + (t % 3))) (j := 21 + (t % 3)) (nI_clamp (by omega)) (vp_in_nI (by omega) (by omega)) dX3_checks_100 (fun H locs S => ?_)
      have S : Sw G A s.heap [[(h0, .inr (3, [.ref q1, .ref q2, .int pasts, .ref q3, .ref q4, .ref q5, .int length, .int known, .int there, .ref q6, .int spot, .int isWrong, .int sign, .int digit, .int first, .int second]))], [(q1, .inl (gA G 0, 182, .inl (upd (upd (payS g (t % 3) y (g 2)) 17 (((payS g (t % 3) y (g 2)) 17) ||| (bit (Ed a b)))) (21 + (t % 3)) (((upd (payS g (t % 3) y (g 2)) 17 (((payS g (t % 3) y (g 2)) 17) ||| (bit (Ed a b)))) (21 + (t % 3))) + (nI 1)))))]] _ _ := S
      have hE36 : upd (upd (payS g (t % 3) y (g 2)) 17 (((payS g (t % 3) y (g 2)) 17) ||| (bit (Ed a b)))) (21 + (t % 3)) (((upd (payS g (t % 3) y (g 2)) 17 (((payS g (t % 3) y (g 2)) 17) ||| (bit (Ed a b)))) (21 + (t % 3))) + (nI 1)) = chk1 g y (Ed a b) (t % 3) := rfl
      have S := S.cong (congrArg (fun (zz : Nat → Int32) => ([[(h0, .inr (3, [.ref q1, .ref q2, .int pasts, .ref q3, .ref q4, .ref q5, .int length, .int known, .int there, .ref q6, .int spot, .int isWrong, .int sign, .int digit, .int first, .int second]))], [(q1, .inl (gA G 0, 182, .inl zz))]] : List va_W)) hE36)
      have S : Sw G A s.heap [[(h0, .inr (3, [.ref q1, .ref q2, .int pasts, .ref q3, .ref q4, .ref q5, .int length, .int known, .int there, .ref q6, .int spot, .int isWrong, .int sign, .int digit, .int first, .int second]))], [(q1, .inl (gA G 0, 182, .inl (chk1 g y (Ed a b) (t % 3))))]] _ _ := S
      refine lv_iload hx hb dX3_checks_101 (lv_at hl 0 rfl) ?_
      refine lv_if_eq (tgt := 146) hx hb dX3_checks_103 (by decide) (fun c103_37 => absurd c103_37 (by decide)) (fun c103_37 => ?_)
      refine lv_aload_n hx hb dX3_checks_106 rfl (lv_at hl 3 rfl) ?_
      refine lv_iload_n hx hb dX3_checks_107 rfl (lv_at hl 4 rfl) ?_
      refine lv_iload hx hb dX3_checks_108 (lv_at hl 1 rfl) ?_
      refine lv_aload_n hx hb dX3_checks_110 rfl (lv_at hl 3 rfl) ?_
      refine m_get X S 0 rfl (T := TX3) (N := 16) in_X3 rfl 0 (by decide) q1712 (fun _ h9 => h9) rfl dX3_checks_111 ?_
      refine lv_iconst (v := nI 3) hx hb dX3_checks_114 (by decide) ?_
      refine m_iald X S 1 rfl (x := nI 3) (j := 3) rfl (vp_in_nI (by decide) (by decide)) (v := (chk1 g y (Ed a b) (t % 3)) 3) rfl dX3_checks_115 ?_
      have hq38 := S.cut (Bc := [[(h0, .inr (3, [.ref q1, .ref q2, .int pasts, .ref q3, .ref q4, .ref q5, .int length, .int known, .int there, .ref q6, .int spot, .int isWrong, .int sign, .int digit, .int first, .int second]))], [(q1, .inl (gA G 0, 182, .inl (chk1 g y (Ed a b) (t % 3))))]]) (Br := []) [0, 1] [] (show ([0, 1] ++ ([] : List Nat)).isPerm (List.range 2) = true by decide +kernel) rfl rfl
      refine m_rv X S hq38 (m_runV (rest := []) (As := [.int (nI y), .int (nI (t % 3)), .int ((chk1 g y (Ed a b) (t % 3)) 3)]) (n := 3) X S hq38 (mt_X3_pays G l h0 q1 q2 q3 q4 q5 q6 pasts length known there spot isWrong sign digit first second (chk1 g y (Ed a b) (t % 3)) y (t % 3) ((chk1 g y (Ed a b) (t % 3)) 3) (by omega) (by omega)) (lw_V q1866 q1868 qs60 q90 q1869) (m_recv X S 0 rfl rfl) (by decide +kernel) ⟨Nat.le_of_ble_eq_true rfl, Nat.le_of_ble_eq_true rfl⟩ rfl hl.1 rfl (Nat.le_of_ble_eq_true rfl) dX3_checks_116 ⟨(Nat.le_of_ble_eq_true rfl), (Nat.le_of_ble_eq_true rfl)⟩) (fun u H locs hp39 S => ?_)
      obtain ⟨u40, rfl⟩ : ∃ z, z = u := ⟨_, rfl⟩
      have hp39 : (u40 = payS (chk1 g y (Ed a b) (t % 3)) y (t % 3) ((chk1 g y (Ed a b) (t % 3)) 3)) := hp39
      have S : Sw G A s.heap [[(h0, .inr (3, [.ref q1, .ref q2, .int pasts, .ref q3, .ref q4, .ref q5, .int length, .int known, .int there, .ref q6, .int spot, .int isWrong, .int sign, .int digit, .int first, .int second]))], [(q1, .inl (gA G 0, 182, .inl u40))]] _ _ := S
      have hhp39_0 := hp39
      subst hhp39_0
      have S : Sw G A s.heap [[(h0, .inr (3, [.ref q1, .ref q2, .int pasts, .ref q3, .ref q4, .ref q5, .int length, .int known, .int there, .ref q6, .int spot, .int isWrong, .int sign, .int digit, .int first, .int second]))], [(q1, .inl (gA G 0, 182, .inl (payS (chk1 g y (Ed a b) (t % 3)) y (t % 3) ((chk1 g y (Ed a b) (t % 3)) 3))))]] _ _ := S
      refine lv_aload_n hx hb dX3_checks_119 rfl (lv_at hl 3 rfl) ?_
      refine m_get X S 0 rfl (T := TX3) (N := 16) in_X3 rfl 0 (by decide) q1712 (fun _ h9 => h9) rfl dX3_checks_120 ?_
      refine lv_bipush (v := nI 18) hx hb dX3_checks_123 (by decide) ?_
      refine lv_iload_n hx hb dX3_checks_125 rfl (lv_at hl 4 rfl) ?_
      refine lv_iadd hx hb dX3_checks_126 ?_
      refine lv_toe (y := nI (18 + y)) (nI_add _ _) ?_
      refine lv_dup2_11 hx hb dX3_checks_127 rfl rfl ?_
      refine m_iald X S 1 rfl (x := nI (18 + y)) (j := 18 + y) (nI_clamp (by omega)) (vp_in_nI (by omega) (by omega)) (v := (payS (chk1 g y (Ed a b) (t % 3)) y (t % 3) ((chk1 g y (Ed a b) (t % 3)) 3)) (18 + y)) rfl dX3_checks_128 ?_
      refine lv_iconst (v := nI 1) hx hb dX3_checks_129 (by decide) ?_
      refine lv_iadd hx hb dX3_checks_130 ?_
      refine m_iast X S 1 rfl (x := nI (18 + y)) (j := 18 + y) (nI_clamp (by omega)) (vp_in_nI (by omega) (by omega)) dX3_checks_131 (fun H locs S => ?_)
      have S : Sw G A s.heap [[(h0, .inr (3, [.ref q1, .ref q2, .int pasts, .ref q3, .ref q4, .ref q5, .int length, .int known, .int there, .ref q6, .int spot, .int isWrong, .int sign, .int digit, .int first, .int second]))], [(q1, .inl (gA G 0, 182, .inl (upd (payS (chk1 g y (Ed a b) (t % 3)) y (t % 3) ((chk1 g y (Ed a b) (t % 3)) 3)) (18 + y) (((payS (chk1 g y (Ed a b) (t % 3)) y (t % 3) ((chk1 g y (Ed a b) (t % 3)) 3)) (18 + y)) + (nI 1)))))]] _ _ := S
      refine lv_aload_n hx hb dX3_checks_132 rfl (lv_at hl 3 rfl) ?_
      refine m_get X S 0 rfl (T := TX3) (N := 16) in_X3 rfl 0 (by decide) q1712 (fun _ h9 => h9) rfl dX3_checks_133 ?_
      refine lv_bipush (v := nI 24) hx hb dX3_checks_136 (by decide) ?_
      refine lv_iload hx hb dX3_checks_138 (lv_at hl 1 rfl) ?_
      refine lv_iadd hx hb dX3_checks_140 ?_
      refine lv_toe (y := nI (24 + (t % 3))) (nI_add _ _) ?_
      refine lv_dup2_11 hx hb dX3_checks_141 rfl rfl ?_
      refine m_iald X S 1 rfl (x := nI (24 + (t % 3))) (j := 24 + (t % 3)) (nI_clamp (by omega)) (vp_in_nI (by omega) (by omega)) (v := (upd (payS (chk1 g y (Ed a b) (t % 3)) y (t % 3) ((chk1 g y (Ed a b) (t % 3)) 3)) (18 + y) (((payS (chk1 g y (Ed a b) (t % 3)) y (t % 3) ((chk1 g y (Ed a b) (t % 3)) 3)) (18 + y)) + (nI 1))) (24 + (t % 3))) rfl dX3_checks_142 ?_
      refine lv_iconst (v := nI 1) hx hb dX3_checks_143 (by decide) ?_
      refine lv_iadd hx hb dX3_checks_144 ?_
      refine m_iast X S 1 rfl (x := nI (24 + (t % 3))) (j := 24 + (t % 3)) (nI_clamp (by omega)) (vp_in_nI (by omega) (by omega)) dX3_checks_145 (fun H locs S => ?_)
      have S : Sw G A s.heap [[(h0, .inr (3, [.ref q1, .ref q2, .int pasts, .ref q3, .ref q4, .ref q5, .int length, .int known, .int there, .ref q6, .int spot, .int isWrong, .int sign, .int digit, .int first, .int second]))], [(q1, .inl (gA G 0, 182, .inl (upd (upd (payS (chk1 g y (Ed a b) (t % 3)) y (t % 3) ((chk1 g y (Ed a b) (t % 3)) 3)) (18 + y) (((payS (chk1 g y (Ed a b) (t % 3)) y (t % 3) ((chk1 g y (Ed a b) (t % 3)) 3)) (18 + y)) + (nI 1))) (24 + (t % 3)) (((upd (payS (chk1 g y (Ed a b) (t % 3)) y (t % 3) ((chk1 g y (Ed a b) (t % 3)) 3)) (18 + y) (((payS (chk1 g y (Ed a b) (t % 3)) y (t % 3) ((chk1 g y (Ed a b) (t % 3)) 3)) (18 + y)) + (nI 1))) (24 + (t % 3))) + (nI 1)))))]] _ _ := S
      have hE41 : upd (upd (payS (chk1 g y (Ed a b) (t % 3)) y (t % 3) ((chk1 g y (Ed a b) (t % 3)) 3)) (18 + y) (((payS (chk1 g y (Ed a b) (t % 3)) y (t % 3) ((chk1 g y (Ed a b) (t % 3)) 3)) (18 + y)) + (nI 1))) (24 + (t % 3)) (((upd (payS (chk1 g y (Ed a b) (t % 3)) y (t % 3) ((chk1 g y (Ed a b) (t % 3)) 3)) (18 + y) (((payS (chk1 g y (Ed a b) (t % 3)) y (t % 3) ((chk1 g y (Ed a b) (t % 3)) 3)) (18 + y)) + (nI 1))) (24 + (t % 3))) + (nI 1)) = chk2 (chk1 g y (Ed a b) (t % 3)) y (t % 3) := rfl
      have S := S.cong (congrArg (fun (zz : Nat → Int32) => ([[(h0, .inr (3, [.ref q1, .ref q2, .int pasts, .ref q3, .ref q4, .ref q5, .int length, .int known, .int there, .ref q6, .int spot, .int isWrong, .int sign, .int digit, .int first, .int second]))], [(q1, .inl (gA G 0, 182, .inl zz))]] : List va_W)) hE41)
      have S : Sw G A s.heap [[(h0, .inr (3, [.ref q1, .ref q2, .int pasts, .ref q3, .ref q4, .ref q5, .int length, .int known, .int there, .ref q6, .int spot, .int isWrong, .int sign, .int digit, .int first, .int second]))], [(q1, .inl (gA G 0, 182, .inl (chk2 (chk1 g y (Ed a b) (t % 3)) y (t % 3))))]] _ _ := S
      refine lv_aload_n hx hb dX3_checks_146 rfl (lv_at hl 3 rfl) ?_
      have hq42 := S.cut (Bc := [[(h0, .inr (3, [.ref q1, .ref q2, .int pasts, .ref q3, .ref q4, .ref q5, .int length, .int known, .int there, .ref q6, .int spot, .int isWrong, .int sign, .int digit, .int first, .int second]))], [(q1, .inl (gA G 0, 182, .inl (chk2 (chk1 g y (Ed a b) (t % 3)) y (t % 3))))]]) (Br := []) [0, 1] [] (show ([0, 1] ++ ([] : List Nat)).isPerm (List.range 2) = true by decide +kernel) rfl rfl
      refine m_rv X S hq42 (m_runV (rest := []) (As := []) (n := 0) X S hq42 (mt_X3_ends G l h0 q1 q2 q3 q4 q5 q6 pasts length known there spot isWrong sign digit first second (chk2 (chk1 g y (Ed a b) (t % 3)) y (t % 3)) ) (lw_V q1843 q1845 qs56 q90 q1846) (m_recv X S 0 rfl rfl) (by decide +kernel) ⟨Nat.le_of_ble_eq_true rfl, Nat.le_of_ble_eq_true rfl⟩ rfl hl.1 rfl (Nat.le_of_ble_eq_true rfl) dX3_checks_147 ⟨(Nat.le_of_ble_eq_true rfl), (Nat.le_of_ble_eq_true rfl)⟩) (fun u H locs hp43 S => ?_)
      obtain ⟨u44, rfl⟩ : ∃ z, z = u := ⟨_, rfl⟩
      have hp43 : (u44 = endS (chk2 (chk1 g y (Ed a b) (t % 3)) y (t % 3))) := hp43
      have S : Sw G A s.heap [[(h0, .inr (3, [.ref q1, .ref q2, .int pasts, .ref q3, .ref q4, .ref q5, .int length, .int known, .int there, .ref q6, .int spot, .int isWrong, .int sign, .int digit, .int first, .int second]))], [(q1, .inl (gA G 0, 182, .inl u44))]] _ _ := S
      have hhp43_0 := hp43
      subst hhp43_0
      have S : Sw G A s.heap [[(h0, .inr (3, [.ref q1, .ref q2, .int pasts, .ref q3, .ref q4, .ref q5, .int length, .int known, .int there, .ref q6, .int spot, .int isWrong, .int sign, .int digit, .int first, .int second]))], [(q1, .inl (gA G 0, 182, .inl (endS (chk2 (chk1 g y (Ed a b) (t % 3)) y (t % 3)))))]] _ _ := S
      refine lv_iload hx hb dX3_checks_150 (lv_at hl 0 rfl) ?_
      refine lv_if_eq (tgt := 159) hx hb dX3_checks_152 (by decide) (fun c152_45 => absurd c152_45 (by decide)) (fun c152_45 => ?_)
      refine lv_iconst (v := nI 1) hx hb dX3_checks_155 (by decide) ?_
      refine lv_goto (tgt := 160) hx hb dX3_checks_156 (by decide) ?_
      exact m_iret X hr hlk hQ S (endS (chk2 (chk1 g y (Ed a b) (t % 3)) y (t % 3))) (by show ((nI 1) = (if lieS g y (Ed a b) = true then nI 1 else nI 0) ∧ (endS (chk2 (chk1 g y (Ed a b) (t % 3)) y (t % 3))) = checkS g y (Ed a b) (t % 3)); unfold checkS; rw [hlie]; first | exact ⟨rfl, rfl⟩ | exact ⟨rfl, by rw [if_neg (by decide)]⟩ | exact ⟨by rw [if_neg (by decide)], by rw [if_neg (by decide)]⟩) [0, 1] [] (show ([0, 1] ++ ([] : List Nat)).isPerm (List.range 2) = true by decide +kernel) rfl (Nat.le_of_ble_eq_true rfl) (Nat.le_of_ble_eq_true rfl) dX3_checks_160
    · skip
      have c44_31 : bt (g 0) (Ed a b) = true := (ab_nz (by omega)).mp c44_31
      refine lv_iconst (v := nI 1) hx hb dX3_checks_47 (by decide) ?_
      refine lv_goto (tgt := 52) hx hb dX3_checks_48 (by decide) ?_
      refine lv_icmp_eq (tgt := 59) hx hb dX3_checks_52 (by decide) (fun c52_46 => ?_) (fun c52_46 => absurd (by decide) c52_46)
      refine lv_iconst (v := nI 0) hx hb dX3_checks_59 (by decide) ?_
      have hlie : lieS g y (Ed a b) = false := by unfold lieS; simp only [*]; rfl
      refine lv_istore (lv' := [(6, .int (nI 0)), (5, .int (nI (t % 3))), (4, .int (bit (Ed a b))), (0, .ref h0), (1, .int (nI y)), (2, .int (nI a)), (3, .int (nI b))]) hx hb dX3_checks_60 hl (Nat.le_of_ble_eq_true rfl) rfl (fun ls hl => ?_)
      refine lv_aload_n hx hb dX3_checks_62 rfl (lv_at hl 3 rfl) ?_
      refine lv_iload hx hb dX3_checks_63 (lv_at hl 1 rfl) ?_
      refine lv_iload_n hx hb dX3_checks_65 rfl (lv_at hl 4 rfl) ?_
      refine lv_aload_n hx hb dX3_checks_66 rfl (lv_at hl 3 rfl) ?_
      refine m_get X S 0 rfl (T := TX3) (N := 16) in_X3 rfl 0 (by decide) q1712 (fun _ h9 => h9) rfl dX3_checks_67 ?_
      refine lv_iconst (v := nI 2) hx hb dX3_checks_70 (by decide) ?_
      refine m_iald X S 1 rfl (x := nI 2) (j := 2) rfl (vp_in_nI (by decide) (by decide)) (v := g 2) rfl dX3_checks_71 ?_
      have hq47 := S.cut (Bc := [[(h0, .inr (3, [.ref q1, .ref q2, .int pasts, .ref q3, .ref q4, .ref q5, .int length, .int known, .int there, .ref q6, .int spot, .int isWrong, .int sign, .int digit, .int first, .int second]))], [(q1, .inl (gA G 0, 182, .inl g))]]) (Br := []) [0, 1] [] (show ([0, 1] ++ ([] : List Nat)).isPerm (List.range 2) = true by decide +kernel) rfl rfl
      refine m_rv X S hq47 (m_runV (rest := []) (As := [.int (nI (t % 3)), .int (nI y), .int (g 2)]) (n := 3) X S hq47 (mt_X3_pays G l h0 q1 q2 q3 q4 q5 q6 pasts length known there spot isWrong sign digit first second g (t % 3) y (g 2) (by omega) (by omega)) (lw_V q1866 q1868 qs60 q90 q1869) (m_recv X S 0 rfl rfl) (by decide +kernel) ⟨Nat.le_of_ble_eq_true rfl, Nat.le_of_ble_eq_true rfl⟩ rfl hl.1 rfl (Nat.le_of_ble_eq_true rfl) dX3_checks_72 ⟨(Nat.le_of_ble_eq_true rfl), (Nat.le_of_ble_eq_true rfl)⟩) (fun u H locs hp48 S => ?_)
      obtain ⟨u49, rfl⟩ : ∃ z, z = u := ⟨_, rfl⟩
      have hp48 : (u49 = payS g (t % 3) y (g 2)) := hp48
      have S : Sw G A s.heap [[(h0, .inr (3, [.ref q1, .ref q2, .int pasts, .ref q3, .ref q4, .ref q5, .int length, .int known, .int there, .ref q6, .int spot, .int isWrong, .int sign, .int digit, .int first, .int second]))], [(q1, .inl (gA G 0, 182, .inl u49))]] _ _ := S
      have hhp48_0 := hp48
      subst hhp48_0
      have S : Sw G A s.heap [[(h0, .inr (3, [.ref q1, .ref q2, .int pasts, .ref q3, .ref q4, .ref q5, .int length, .int known, .int there, .ref q6, .int spot, .int isWrong, .int sign, .int digit, .int first, .int second]))], [(q1, .inl (gA G 0, 182, .inl (payS g (t % 3) y (g 2))))]] _ _ := S
      refine lv_aload_n hx hb dX3_checks_75 rfl (lv_at hl 3 rfl) ?_
      refine m_get X S 0 rfl (T := TX3) (N := 16) in_X3 rfl 0 (by decide) q1712 (fun _ h9 => h9) rfl dX3_checks_76 ?_
      refine lv_bipush (v := nI 17) hx hb dX3_checks_79 (by decide) ?_
      refine lv_dup2_11 hx hb dX3_checks_81 rfl rfl ?_
      refine m_iald X S 1 rfl (x := nI 17) (j := 17) rfl (vp_in_nI (by decide) (by decide)) (v := (payS g (t % 3) y (g 2)) 17) rfl dX3_checks_82 ?_
      refine lv_iload hx hb dX3_checks_83 (lv_at hl 2 rfl) ?_
      refine lv_ior hx hb dX3_checks_85 ?_
      refine m_iast X S 1 rfl (x := nI 17) (j := 17) rfl (vp_in_nI (by decide) (by decide)) dX3_checks_86 (fun H locs S => ?_)
      have S : Sw G A s.heap [[(h0, .inr (3, [.ref q1, .ref q2, .int pasts, .ref q3, .ref q4, .ref q5, .int length, .int known, .int there, .ref q6, .int spot, .int isWrong, .int sign, .int digit, .int first, .int second]))], [(q1, .inl (gA G 0, 182, .inl (upd (payS g (t % 3) y (g 2)) 17 (((payS g (t % 3) y (g 2)) 17) ||| (bit (Ed a b))))))]] _ _ := S
      refine lv_aload_n hx hb dX3_checks_87 rfl (lv_at hl 3 rfl) ?_
      refine m_get X S 0 rfl (T := TX3) (N := 16) in_X3 rfl 0 (by decide) q1712 (fun _ h9 => h9) rfl dX3_checks_88 ?_
      refine lv_bipush (v := nI 21) hx hb dX3_checks_91 (by decide) ?_
      refine lv_iload hx hb dX3_checks_93 (lv_at hl 1 rfl) ?_
      refine lv_iadd hx hb dX3_checks_95 ?_
      refine lv_toe (y := nI (21 + (t % 3))) (nI_add _ _) ?_
      refine lv_dup2_11 hx hb dX3_checks_96 rfl rfl ?_
      refine m_iald X S 1 rfl (x := nI (21 + (t % 3))) (j := 21 + (t % 3)) (nI_clamp (by omega)) (vp_in_nI (by omega) (by omega)) (v := (upd (payS g (t % 3) y (g 2)) 17 (((payS g (t % 3) y (g 2)) 17) ||| (bit (Ed a b)))) (21 + (t % 3))) rfl dX3_checks_97 ?_
      refine lv_iconst (v := nI 1) hx hb dX3_checks_98 (by decide) ?_
      refine lv_iadd hx hb dX3_checks_99 ?_
      refine m_iast X S 1 rfl (x := nI (21 + (t % 3))) (j := 21 + (t % 3)) (nI_clamp (by omega)) (vp_in_nI (by omega) (by omega)) dX3_checks_100 (fun H locs S => ?_)
      have S : Sw G A s.heap [[(h0, .inr (3, [.ref q1, .ref q2, .int pasts, .ref q3, .ref q4, .ref q5, .int length, .int known, .int there, .ref q6, .int spot, .int isWrong, .int sign, .int digit, .int first, .int second]))], [(q1, .inl (gA G 0, 182, .inl (upd (upd (payS g (t % 3) y (g 2)) 17 (((payS g (t % 3) y (g 2)) 17) ||| (bit (Ed a b)))) (21 + (t % 3)) (((upd (payS g (t % 3) y (g 2)) 17 (((payS g (t % 3) y (g 2)) 17) ||| (bit (Ed a b)))) (21 + (t % 3))) + (nI 1)))))]] _ _ := S
      have hE50 : upd (upd (payS g (t % 3) y (g 2)) 17 (((payS g (t % 3) y (g 2)) 17) ||| (bit (Ed a b)))) (21 + (t % 3)) (((upd (payS g (t % 3) y (g 2)) 17 (((payS g (t % 3) y (g 2)) 17) ||| (bit (Ed a b)))) (21 + (t % 3))) + (nI 1)) = chk1 g y (Ed a b) (t % 3) := rfl
      have S := S.cong (congrArg (fun (zz : Nat → Int32) => ([[(h0, .inr (3, [.ref q1, .ref q2, .int pasts, .ref q3, .ref q4, .ref q5, .int length, .int known, .int there, .ref q6, .int spot, .int isWrong, .int sign, .int digit, .int first, .int second]))], [(q1, .inl (gA G 0, 182, .inl zz))]] : List va_W)) hE50)
      have S : Sw G A s.heap [[(h0, .inr (3, [.ref q1, .ref q2, .int pasts, .ref q3, .ref q4, .ref q5, .int length, .int known, .int there, .ref q6, .int spot, .int isWrong, .int sign, .int digit, .int first, .int second]))], [(q1, .inl (gA G 0, 182, .inl (chk1 g y (Ed a b) (t % 3))))]] _ _ := S
      refine lv_iload hx hb dX3_checks_101 (lv_at hl 0 rfl) ?_
      refine lv_if_eq (tgt := 146) hx hb dX3_checks_103 (by decide) (fun c103_51 => ?_) (fun c103_51 => absurd (by decide) c103_51)
      refine lv_aload_n hx hb dX3_checks_146 rfl (lv_at hl 3 rfl) ?_
      have hq52 := S.cut (Bc := [[(h0, .inr (3, [.ref q1, .ref q2, .int pasts, .ref q3, .ref q4, .ref q5, .int length, .int known, .int there, .ref q6, .int spot, .int isWrong, .int sign, .int digit, .int first, .int second]))], [(q1, .inl (gA G 0, 182, .inl (chk1 g y (Ed a b) (t % 3))))]]) (Br := []) [0, 1] [] (show ([0, 1] ++ ([] : List Nat)).isPerm (List.range 2) = true by decide +kernel) rfl rfl
      refine m_rv X S hq52 (m_runV (rest := []) (As := []) (n := 0) X S hq52 (mt_X3_ends G l h0 q1 q2 q3 q4 q5 q6 pasts length known there spot isWrong sign digit first second (chk1 g y (Ed a b) (t % 3)) ) (lw_V q1843 q1845 qs56 q90 q1846) (m_recv X S 0 rfl rfl) (by decide +kernel) ⟨Nat.le_of_ble_eq_true rfl, Nat.le_of_ble_eq_true rfl⟩ rfl hl.1 rfl (Nat.le_of_ble_eq_true rfl) dX3_checks_147 ⟨(Nat.le_of_ble_eq_true rfl), (Nat.le_of_ble_eq_true rfl)⟩) (fun u H locs hp53 S => ?_)
      obtain ⟨u54, rfl⟩ : ∃ z, z = u := ⟨_, rfl⟩
      have hp53 : (u54 = endS (chk1 g y (Ed a b) (t % 3))) := hp53
      have S : Sw G A s.heap [[(h0, .inr (3, [.ref q1, .ref q2, .int pasts, .ref q3, .ref q4, .ref q5, .int length, .int known, .int there, .ref q6, .int spot, .int isWrong, .int sign, .int digit, .int first, .int second]))], [(q1, .inl (gA G 0, 182, .inl u54))]] _ _ := S
      have hhp53_0 := hp53
      subst hhp53_0
      have S : Sw G A s.heap [[(h0, .inr (3, [.ref q1, .ref q2, .int pasts, .ref q3, .ref q4, .ref q5, .int length, .int known, .int there, .ref q6, .int spot, .int isWrong, .int sign, .int digit, .int first, .int second]))], [(q1, .inl (gA G 0, 182, .inl (endS (chk1 g y (Ed a b) (t % 3)))))]] _ _ := S
      refine lv_iload hx hb dX3_checks_150 (lv_at hl 0 rfl) ?_
      refine lv_if_eq (tgt := 159) hx hb dX3_checks_152 (by decide) (fun c152_55 => ?_) (fun c152_55 => absurd (by decide) c152_55)
      refine lv_iconst (v := nI 0) hx hb dX3_checks_159 (by decide) ?_
      exact m_iret X hr hlk hQ S (endS (chk1 g y (Ed a b) (t % 3))) (by show ((nI 0) = (if lieS g y (Ed a b) = true then nI 1 else nI 0) ∧ (endS (chk1 g y (Ed a b) (t % 3))) = checkS g y (Ed a b) (t % 3)); unfold checkS; rw [hlie]; first | exact ⟨rfl, rfl⟩ | exact ⟨rfl, by rw [if_neg (by decide)]⟩ | exact ⟨by rw [if_neg (by decide)], by rw [if_neg (by decide)]⟩) [0, 1] [] (show ([0, 1] ++ ([] : List Nat)).isPerm (List.range 2) = true by decide +kernel) rfl (Nat.le_of_ble_eq_true rfl) (Nat.le_of_ble_eq_true rfl) dX3_checks_160

abbrev rm_X3_check : Room := { frames := 3, cells := 0, slots := 0, locals := 72 }
set_option maxHeartbeats 4000000 in
set_option maxRecDepth 100000 in
theorem mt_X3_check (G : mGG) (l : Launch) (h0 : Nat) (q1 : Nat) (q2 : Nat) (q3 : Nat) (q4 : Nat) (q5 : Nat) (q6 : Nat) (length : Int32) (known : Int32) (there : Int32) (spot : Int32) (isWrong : Int32) (sign : Int32) (digit : Int32) (first : Int32) (second : Int32) (g : Nat → Int32) (pa : Nat → Int32) (n : Nat) (t : Nat) (y1 : Int32) (p1 : Int32) (p2 : Int32) (hn6 : n ≤ 6) (ht : g 7 = nI t) (ht2 : t ≤ 150) : Cg G l yX3_check (ws_ yX3_check cX3_check 5 (some FieldType.int)) rm_X3_check [.ref h0, .int y1, .int p1, .int p2] [[(h0, .inr (3, [.ref q1, .ref q2, .int (nI n), .ref q3, .ref q4, .ref q5, .int length, .int known, .int there, .ref q6, .int spot, .int isWrong, .int sign, .int digit, .int first, .int second]))], [(q1, .inl (gA G 0, 182, .inl g))], [(q2, .inl (gA G 0, 1092, .inl pa))]] (Qi G (fun (r : Int32) (u : Nat × Nat × Nat × (Nat → Int32) × Nat × (Nat → Int32)) => (r = barCheckS g t y1 p1 p2 ∧ u.2.2.2.1 = g ∧ u.2.2.2.2.1 = n ∧ u.2.2.2.2.2 = pa ∧ barCheckS g t y1 p1 p2 < nI 0) ∨ (y1 = nI u.1 ∧ p1 = nI u.2.1 ∧ p2 = nI u.2.2.1 ∧ r = (if lieS g u.1 (Ed u.2.1 u.2.2.1) = true then nI 1 else nI 0) ∧ u.2.2.2.1 = checkS g u.1 (Ed u.2.1 u.2.2.1) (t % 3) ∧ u.2.2.2.2.1 = recN n ∧ u.2.2.2.2.2 = recP n pa g ∧ u.1 < 3 ∧ u.1 ≠ t % 3 ∧ u.2.1 < 8 ∧ u.2.2.1 < 8 ∧ u.2.1 ≠ u.2.2.1 ∧ g 6 = 1 ∧ bt (g (11 + u.1) ||| g (14 + u.1)) (Ed u.2.1 u.2.2.1) = true ∧ bt (g 17) (Ed u.2.1 u.2.2.1) = false ∧ barCheckS g t (nI u.1) (nI u.2.1) (nI u.2.2.1) = nI 0)) (fun (u : Nat × Nat × Nat × (Nat → Int32) × Nat × (Nat → Int32)) => [[(h0, .inr (3, [.ref q1, .ref q2, .int (nI u.2.2.2.2.1), .ref q3, .ref q4, .ref q5, .int length, .int known, .int there, .ref q6, .int spot, .int isWrong, .int sign, .int digit, .int first, .int second]))], [(q1, .inl (gA G 0, 182, .inl u.2.2.2.1))], [(q2, .inl (gA G 0, 1092, .inl u.2.2.2.2.2))]])) := by
  refine Cg.intro (own := RX3) (cc := cX3_check) (maxL := 5) (ret := (some FieldType.int)) (by decide +kernel) rfl rfl (Nat.le_of_ble_eq_true rfl) ?_
  intro p e s m ag below meth c A ls Q X hr hlk hnm S hl hQ
  have hx := X.1
  have hb := X.2.1
  have hl : lv_has ls 5 [(0, .ref h0), (1, .int y1), (2, .int p1), (3, .int p2)] := hl
  refine lv_aload_n hx hb dX3_check_0 rfl (lv_at hl 0 rfl) ?_
  refine lv_iload_n hx hb dX3_check_1 rfl (lv_at hl 1 rfl) ?_
  refine lv_iload_n hx hb dX3_check_2 rfl (lv_at hl 2 rfl) ?_
  refine lv_iload_n hx hb dX3_check_3 rfl (lv_at hl 3 rfl) ?_
  have hq1 := S.cut (Bc := [[(h0, .inr (3, [.ref q1, .ref q2, .int (nI n), .ref q3, .ref q4, .ref q5, .int length, .int known, .int there, .ref q6, .int spot, .int isWrong, .int sign, .int digit, .int first, .int second]))], [(q1, .inl (gA G 0, 182, .inl g))]]) (Br := [[(q2, .inl (gA G 0, 1092, .inl pa))]]) [0, 1] [2] (show ([0, 1] ++ ([2] : List Nat)).isPerm (List.range 3) = true by decide +kernel) rfl rfl
  refine m_ri X S hq1 (m_runV (rest := []) (As := [.int y1, .int p1, .int p2]) (n := 3) X S hq1 (mt_X3_barCheck G l h0 q1 q2 q3 q4 q5 q6 (nI n) length known there spot isWrong sign digit first second g t y1 p1 p2 (by omega) (by omega)) (lw_V q1855 q1857 qs58 q90 q1858) (m_recv X S 0 rfl rfl) (by decide +kernel) ⟨Nat.le_of_ble_eq_true rfl, Nat.le_of_ble_eq_true rfl⟩ rfl hl.1 rfl (Nat.le_of_ble_eq_true rfl) dX3_check_4 ⟨(Nat.le_of_ble_eq_true rfl), (Nat.le_of_ble_eq_true rfl)⟩) (fun r2 u H locs hp2 S => ?_)
  obtain ⟨y, a, b⟩ := u
  have hp2 : (r2 = barCheckS g t y1 p1 p2 ∧ barCheckS g t y1 p1 p2 < nI 0) ∨ (r2 = nI 0 ∧ y1 = nI y ∧ p1 = nI a ∧ p2 = nI b ∧ y < 3 ∧ y ≠ t % 3 ∧ a < 8 ∧ b < 8 ∧ a ≠ b ∧ g 6 = 1 ∧ bt (g (11 + y) ||| g (14 + y)) (Ed a b) = true ∧ bt (g 17) (Ed a b) = false ∧ barCheckS g t (nI y) (nI a) (nI b) = nI 0) := hp2
  have S : Sw G A s.heap [[(q2, .inl (gA G 0, 1092, .inl pa))], [(h0, .inr (3, [.ref q1, .ref q2, .int (nI n), .ref q3, .ref q4, .ref q5, .int length, .int known, .int there, .ref q6, .int spot, .int isWrong, .int sign, .int digit, .int first, .int second]))], [(q1, .inl (gA G 0, 182, .inl g))]] _ _ := S
  rcases hp2 with ⟨hhp2_0, hhp2_1⟩ | ⟨hhp2_0, hhp2_1, hhp2_2, hhp2_3, hhp2_4, hhp2_5, hhp2_6, hhp2_7, hhp2_8, hhp2_9, hhp2_10, hhp2_11, hhp2_12⟩
  · skip
    subst hhp2_0
    have hf0_r2 := hhp2_1
    have S : Sw G A s.heap [[(q2, .inl (gA G 0, 1092, .inl pa))], [(h0, .inr (3, [.ref q1, .ref q2, .int (nI n), .ref q3, .ref q4, .ref q5, .int length, .int known, .int there, .ref q6, .int spot, .int isWrong, .int sign, .int digit, .int first, .int second]))], [(q1, .inl (gA G 0, 182, .inl g))]] _ _ := S
    refine lv_istore (lv' := [(4, .int (barCheckS g t y1 p1 p2)), (0, .ref h0), (1, .int y1), (2, .int p1), (3, .int p2)]) hx hb dX3_check_7 hl (Nat.le_of_ble_eq_true rfl) rfl (fun ls hl => ?_)
    refine lv_iload hx hb dX3_check_9 (lv_at hl 0 rfl) ?_
    refine lv_if_ge (tgt := 17) hx hb dX3_check_11 (by decide) (fun c11_3 => ?_) (fun c11_3 => ?_)
    · skip
      have c11_3 : (nI 0) ≤ (barCheckS g t y1 p1 p2) := c11_3
      exact absurd c11_3 (Int32.not_le.mpr (by assumption))
    · skip
      have c11_3 : ¬ (nI 0) ≤ (barCheckS g t y1 p1 p2) := c11_3
      refine lv_iload hx hb dX3_check_14 (lv_at hl 0 rfl) ?_
      exact m_iret X hr hlk hQ S ⟨0, 0, 0, g, n, pa⟩ (by show ((barCheckS g t y1 p1 p2) = barCheckS g t y1 p1 p2 ∧ g = g ∧ n = n ∧ pa = pa ∧ barCheckS g t y1 p1 p2 < nI 0) ∨ (y1 = nI 0 ∧ p1 = nI 0 ∧ p2 = nI 0 ∧ (barCheckS g t y1 p1 p2) = (if lieS g 0 (Ed 0 0) = true then nI 1 else nI 0) ∧ g = checkS g 0 (Ed 0 0) (t % 3) ∧ n = recN n ∧ pa = recP n pa g ∧ 0 < 3 ∧ 0 ≠ t % 3 ∧ 0 < 8 ∧ 0 < 8 ∧ 0 ≠ 0 ∧ g 6 = 1 ∧ bt (g (11 + 0) ||| g (14 + 0)) (Ed 0 0) = true ∧ bt (g 17) (Ed 0 0) = false ∧ barCheckS g t (nI 0) (nI 0) (nI 0) = nI 0); first | exact Or.inl ⟨(by with_reducible rfl), (by with_reducible rfl), (by with_reducible rfl), (by with_reducible rfl), (by assumption)⟩ | exact Or.inr (⟨(by with_reducible rfl), (by with_reducible rfl), (by with_reducible rfl), (by with_reducible rfl), (by with_reducible rfl), (by with_reducible rfl), (by with_reducible rfl), (by first | assumption | omega), (by first | assumption | omega), (by first | assumption | omega), (by first | assumption | omega), (by first | assumption | omega), (by assumption), (by assumption), (by assumption), (by assumption)⟩)) [1, 2, 0] [] (show ([1, 2, 0] ++ ([] : List Nat)).isPerm (List.range 3) = true by decide +kernel) rfl (Nat.le_of_ble_eq_true rfl) (Nat.le_of_ble_eq_true rfl) dX3_check_16
  · skip
    subst hhp2_0
    subst hhp2_1
    subst hhp2_2
    subst hhp2_3
    have hf0_r2 := hhp2_4
    have hf1_r2 := hhp2_5
    have hf2_r2 := hhp2_6
    have hf3_r2 := hhp2_7
    have hf4_r2 := hhp2_8
    have hf5_r2 := hhp2_9
    have hf6_r2 := hhp2_10
    have hf7_r2 := hhp2_11
    have hf8_r2 := hhp2_12
    have S : Sw G A s.heap [[(q2, .inl (gA G 0, 1092, .inl pa))], [(h0, .inr (3, [.ref q1, .ref q2, .int (nI n), .ref q3, .ref q4, .ref q5, .int length, .int known, .int there, .ref q6, .int spot, .int isWrong, .int sign, .int digit, .int first, .int second]))], [(q1, .inl (gA G 0, 182, .inl g))]] _ _ := S
    refine lv_istore (lv' := [(4, .int (nI 0)), (0, .ref h0), (1, .int (nI y)), (2, .int (nI a)), (3, .int (nI b))]) hx hb dX3_check_7 hl (Nat.le_of_ble_eq_true rfl) rfl (fun ls hl => ?_)
    refine lv_iload hx hb dX3_check_9 (lv_at hl 0 rfl) ?_
    refine lv_if_ge (tgt := 17) hx hb dX3_check_11 (by decide) (fun c11_4 => ?_) (fun c11_4 => absurd (by decide) c11_4)
    refine lv_aload_n hx hb dX3_check_17 rfl (lv_at hl 1 rfl) ?_
    have hq5 := S.cut (Bc := [[(h0, .inr (3, [.ref q1, .ref q2, .int (nI n), .ref q3, .ref q4, .ref q5, .int length, .int known, .int there, .ref q6, .int spot, .int isWrong, .int sign, .int digit, .int first, .int second]))], [(q1, .inl (gA G 0, 182, .inl g))], [(q2, .inl (gA G 0, 1092, .inl pa))]]) (Br := []) [1, 2, 0] [] (show ([1, 2, 0] ++ ([] : List Nat)).isPerm (List.range 3) = true by decide +kernel) rfl rfl
    refine m_rv X S hq5 (m_runV (rest := []) (As := []) (n := 0) X S hq5 (mt_X3_records G l h0 q1 q2 q3 q4 q5 q6 length known there spot isWrong sign digit first second g pa n (by omega)) (lw_V q1775 q1777 qs46 q90 q1778) (m_recv X S 1 rfl rfl) (by decide +kernel) ⟨Nat.le_of_ble_eq_true rfl, Nat.le_of_ble_eq_true rfl⟩ rfl hl.1 rfl (Nat.le_of_ble_eq_true rfl) dX3_check_18 ⟨(Nat.le_of_ble_eq_true rfl), (Nat.le_of_ble_eq_true rfl)⟩) (fun u H locs hp6 S => ?_)
    obtain ⟨u7, u8⟩ := u
    have hp6 : (u7 = recN n ∧ u8 = recP n pa g) := hp6
    have S : Sw G A s.heap [[(h0, .inr (3, [.ref q1, .ref q2, .int (nI u7), .ref q3, .ref q4, .ref q5, .int length, .int known, .int there, .ref q6, .int spot, .int isWrong, .int sign, .int digit, .int first, .int second]))], [(q1, .inl (gA G 0, 182, .inl g))], [(q2, .inl (gA G 0, 1092, .inl u8))]] _ _ := S
    rcases hp6 with ⟨hhp6_0, hhp6_1⟩
    subst hhp6_0
    subst hhp6_1
    have S : Sw G A s.heap [[(h0, .inr (3, [.ref q1, .ref q2, .int (nI (recN n)), .ref q3, .ref q4, .ref q5, .int length, .int known, .int there, .ref q6, .int spot, .int isWrong, .int sign, .int digit, .int first, .int second]))], [(q1, .inl (gA G 0, 182, .inl g))], [(q2, .inl (gA G 0, 1092, .inl (recP n pa g)))]] _ _ := S
    refine lv_aload_n hx hb dX3_check_21 rfl (lv_at hl 1 rfl) ?_
    refine lv_iload_n hx hb dX3_check_22 rfl (lv_at hl 2 rfl) ?_
    refine lv_iload_n hx hb dX3_check_23 rfl (lv_at hl 3 rfl) ?_
    refine lv_iload_n hx hb dX3_check_24 rfl (lv_at hl 4 rfl) ?_
    have hq9 := S.cut (Bc := [[(h0, .inr (3, [.ref q1, .ref q2, .int (nI (recN n)), .ref q3, .ref q4, .ref q5, .int length, .int known, .int there, .ref q6, .int spot, .int isWrong, .int sign, .int digit, .int first, .int second]))], [(q1, .inl (gA G 0, 182, .inl g))]]) (Br := [[(q2, .inl (gA G 0, 1092, .inl (recP n pa g)))]]) [0, 1] [2] (show ([0, 1] ++ ([2] : List Nat)).isPerm (List.range 3) = true by decide +kernel) rfl rfl
    refine m_ri X S hq9 (m_runV (rest := []) (As := [.int (nI y), .int (nI a), .int (nI b)]) (n := 3) X S hq9 (mt_X3_checks G l h0 q1 q2 q3 q4 q5 q6 (nI (recN n)) length known there spot isWrong sign digit first second g t y a b (by omega) (by omega) (by omega) (by omega) (by omega) (by omega)) (lw_V q1862 q1864 qs59 q90 q1865) (m_recv X S 0 rfl rfl) (by decide +kernel) ⟨Nat.le_of_ble_eq_true rfl, Nat.le_of_ble_eq_true rfl⟩ rfl hl.1 rfl (Nat.le_of_ble_eq_true rfl) dX3_check_25 ⟨(Nat.le_of_ble_eq_true rfl), (Nat.le_of_ble_eq_true rfl)⟩) (fun r10 u H locs hp10 S => ?_)
    obtain ⟨u11, rfl⟩ : ∃ z, z = u := ⟨_, rfl⟩
    have hp10 : (r10 = (if lieS g y (Ed a b) = true then nI 1 else nI 0) ∧ u11 = checkS g y (Ed a b) (t % 3)) := hp10
    have S : Sw G A s.heap [[(q2, .inl (gA G 0, 1092, .inl (recP n pa g)))], [(h0, .inr (3, [.ref q1, .ref q2, .int (nI (recN n)), .ref q3, .ref q4, .ref q5, .int length, .int known, .int there, .ref q6, .int spot, .int isWrong, .int sign, .int digit, .int first, .int second]))], [(q1, .inl (gA G 0, 182, .inl u11))]] _ _ := S
    rcases hp10 with ⟨hhp10_0, hhp10_1⟩
    subst hhp10_0
    subst hhp10_1
    have S : Sw G A s.heap [[(q2, .inl (gA G 0, 1092, .inl (recP n pa g)))], [(h0, .inr (3, [.ref q1, .ref q2, .int (nI (recN n)), .ref q3, .ref q4, .ref q5, .int length, .int known, .int there, .ref q6, .int spot, .int isWrong, .int sign, .int digit, .int first, .int second]))], [(q1, .inl (gA G 0, 182, .inl (checkS g y (Ed a b) (t % 3))))]] _ _ := S
    exact m_iret X hr hlk hQ S ⟨y, a, b, checkS g y (Ed a b) (t % 3), recN n, recP n pa g⟩ (by show ((if lieS g y (Ed a b) = true then nI 1 else nI 0) = barCheckS g t (nI y) (nI a) (nI b) ∧ (checkS g y (Ed a b) (t % 3)) = g ∧ (recN n) = n ∧ (recP n pa g) = pa ∧ barCheckS g t (nI y) (nI a) (nI b) < nI 0) ∨ ((nI y) = nI y ∧ (nI a) = nI a ∧ (nI b) = nI b ∧ (if lieS g y (Ed a b) = true then nI 1 else nI 0) = (if lieS g y (Ed a b) = true then nI 1 else nI 0) ∧ (checkS g y (Ed a b) (t % 3)) = checkS g y (Ed a b) (t % 3) ∧ (recN n) = recN n ∧ (recP n pa g) = recP n pa g ∧ y < 3 ∧ y ≠ t % 3 ∧ a < 8 ∧ b < 8 ∧ a ≠ b ∧ g 6 = 1 ∧ bt (g (11 + y) ||| g (14 + y)) (Ed a b) = true ∧ bt (g 17) (Ed a b) = false ∧ barCheckS g t (nI y) (nI a) (nI b) = nI 0); first | exact Or.inl ⟨(by with_reducible rfl), (by with_reducible rfl), (by with_reducible rfl), (by with_reducible rfl), (by assumption)⟩ | exact Or.inr (⟨(by with_reducible rfl), (by with_reducible rfl), (by with_reducible rfl), (by with_reducible rfl), (by with_reducible rfl), (by with_reducible rfl), (by with_reducible rfl), (by first | assumption | omega), (by first | assumption | omega), (by first | assumption | omega), (by first | assumption | omega), (by first | assumption | omega), (by assumption), (by assumption), (by assumption), (by assumption)⟩)) [1, 2, 0] [] (show ([1, 2, 0] ++ ([] : List Nat)).isPerm (List.range 3) = true by decide +kernel) rfl (Nat.le_of_ble_eq_true rfl) (Nat.le_of_ble_eq_true rfl) dX3_check_28

abbrev rm_X3_digs : Room := { frames := 2, cells := 0, slots := 0, locals := 49 }
set_option maxHeartbeats 4000000 in
set_option maxRecDepth 100000 in
theorem mt_X3_digs (G : mGG) (l : Launch) (h0 : Nat) (q1 : Nat) (q2 : Nat) (q3 : Nat) (q4 : Nat) (q5 : Nat) (q6 : Nat) (pasts : Int32) (length : Int32) (known : Int32) (there : Int32) (spot : Int32) (isWrong : Int32) (sign : Int32) (digit : Int32) (first : Int32) (second : Int32) (g : Nat → Int32) (fr : Nat → Int32) (t : Nat) (a : Nat) (d : Nat) (tr : Nat) (ht : g 7 = nI t) (ht2 : t ≤ 150) (ha : a < 8) (hd : g 31 = nI d) (htr : g 1 = nI tr) (htr8 : tr < 8) (hd150 : d < 150) : Cg G l yX3_digs (ws_ yX3_digs cX3_digs 4 (some FieldType.int)) rm_X3_digs [.ref h0, .int (nI a)] [[(h0, .inr (3, [.ref q1, .ref q2, .int pasts, .ref q3, .ref q4, .ref q5, .int length, .int known, .int there, .ref q6, .int spot, .int isWrong, .int sign, .int digit, .int first, .int second]))], [(q1, .inl (gA G 0, 182, .inl g))], [(q6, .inl (gA G 0, 8, .inl fr))]] (Qi G (fun (r : Int32) (u : (Nat → Int32) × (Nat → Int32)) => (r = nI (dist (g 0) a tr) ∧ u.1 = digS g a (t % 3) d tr)) (fun (u : (Nat → Int32) × (Nat → Int32)) => [[(h0, .inr (3, [.ref q1, .ref q2, .int pasts, .ref q3, .ref q4, .ref q5, .int length, .int known, .int there, .ref q6, .int spot, .int isWrong, .int sign, .int digit, .int first, .int second]))], [(q1, .inl (gA G 0, 182, .inl u.1))], [(q6, .inl (gA G 0, 8, .inl u.2))]])) := by
  refine Cg.intro (own := RX3) (cc := cX3_digs) (maxL := 4) (ret := (some FieldType.int)) (by decide +kernel) rfl rfl (Nat.le_of_ble_eq_true rfl) ?_
  intro p e s m ag below meth c A ls Q X hr hlk hnm S hl hQ
  have hx := X.1
  have hb := X.2.1
  have hl : lv_has ls 4 [(0, .ref h0), (1, .int (nI a))] := hl
  have ht3 : t % 3 < 3 := Nat.mod_lt _ (by omega)
  have hdl := dist_le (g 0) a tr
  refine lv_aload_n hx hb dX3_digs_0 rfl (lv_at hl 0 rfl) ?_
  have hq1 := S.cut (Bc := [[(h0, .inr (3, [.ref q1, .ref q2, .int pasts, .ref q3, .ref q4, .ref q5, .int length, .int known, .int there, .ref q6, .int spot, .int isWrong, .int sign, .int digit, .int first, .int second]))], [(q1, .inl (gA G 0, 182, .inl g))]]) (Br := [[(q6, .inl (gA G 0, 8, .inl fr))]]) [0, 1] [2] (show ([0, 1] ++ ([2] : List Nat)).isPerm (List.range 3) = true by decide +kernel) rfl rfl
  refine m_ri X S hq1 (m_runV (rest := []) (As := []) (n := 0) X S hq1 (mt_X3_turn G l h0 q1 q2 q3 q4 q5 q6 pasts length known there spot isWrong sign digit first second g t (by omega) (by omega)) (lw_V q1839 q1841 qs55 q90 q1842) (m_recv X S 0 rfl rfl) (by decide +kernel) ⟨Nat.le_of_ble_eq_true rfl, Nat.le_of_ble_eq_true rfl⟩ rfl hl.1 rfl (Nat.le_of_ble_eq_true rfl) dX3_digs_1 ⟨(Nat.le_of_ble_eq_true rfl), (Nat.le_of_ble_eq_true rfl)⟩) (fun r2 u H locs hp2 S => ?_)
  have hp2 : r2 = nI (t % 3) := hp2
  have hhp2_0 := hp2
  subst hhp2_0
  have S : Sw G A s.heap [[(q6, .inl (gA G 0, 8, .inl fr))], [(h0, .inr (3, [.ref q1, .ref q2, .int pasts, .ref q3, .ref q4, .ref q5, .int length, .int known, .int there, .ref q6, .int spot, .int isWrong, .int sign, .int digit, .int first, .int second]))], [(q1, .inl (gA G 0, 182, .inl g))]] _ _ := S
  refine lv_istore_n (lv' := [(2, .int (nI (t % 3))), (0, .ref h0), (1, .int (nI a))]) hx hb dX3_digs_4 rfl hl (Nat.le_of_ble_eq_true rfl) rfl (fun ls hl => ?_)
  refine lv_aload_n hx hb dX3_digs_5 rfl (lv_at hl 1 rfl) ?_
  refine m_get X S 1 rfl (T := TX3) (N := 16) in_X3 rfl 0 (by decide) q1712 (fun _ h9 => h9) rfl dX3_digs_6 ?_
  refine lv_bipush (v := nI 8) hx hb dX3_digs_9 (by decide) ?_
  refine lv_iload_n hx hb dX3_digs_11 rfl (lv_at hl 0 rfl) ?_
  refine lv_iadd hx hb dX3_digs_12 ?_
  refine lv_toe (y := nI (8 + (t % 3))) (nI_add _ _) ?_
  refine lv_dup2_11 hx hb dX3_digs_13 rfl rfl ?_
  refine m_iald X S 2 rfl (x := nI (8 + (t % 3))) (j := 8 + (t % 3)) (nI_clamp (by omega)) (vp_in_nI (by omega) (by omega)) (v := g (8 + (t % 3))) rfl dX3_digs_14 ?_
  refine lv_aload_n hx hb dX3_digs_15 rfl (lv_at hl 1 rfl) ?_
  refine m_get X S 1 rfl (T := TX3) (N := 16) in_X3 rfl 0 (by decide) q1712 (fun _ h9 => h9) rfl dX3_digs_16 ?_
  refine lv_iconst (v := nI 4) hx hb dX3_digs_19 (by decide) ?_
  refine m_iald X S 2 rfl (x := nI 4) (j := 4) rfl (vp_in_nI (by decide) (by decide)) (v := g 4) rfl dX3_digs_20 ?_
  refine lv_isub hx hb dX3_digs_21 ?_
  refine m_iast X S 2 rfl (x := nI (8 + (t % 3))) (j := 8 + (t % 3)) (nI_clamp (by omega)) (vp_in_nI (by omega) (by omega)) dX3_digs_22 (fun H locs S => ?_)
  have S : Sw G A s.heap [[(q6, .inl (gA G 0, 8, .inl fr))], [(h0, .inr (3, [.ref q1, .ref q2, .int pasts, .ref q3, .ref q4, .ref q5, .int length, .int known, .int there, .ref q6, .int spot, .int isWrong, .int sign, .int digit, .int first, .int second]))], [(q1, .inl (gA G 0, 182, .inl (upd g (8 + (t % 3)) ((g (8 + (t % 3))) - (g 4)))))]] _ _ := S
  refine lv_aload_n hx hb dX3_digs_23 rfl (lv_at hl 1 rfl) ?_
  refine m_get X S 1 rfl (T := TX3) (N := 16) in_X3 rfl 0 (by decide) q1712 (fun _ h9 => h9) rfl dX3_digs_24 ?_
  refine lv_bipush (v := nI 27) hx hb dX3_digs_27 (by decide) ?_
  refine lv_iload_n hx hb dX3_digs_29 rfl (lv_at hl 0 rfl) ?_
  refine lv_iadd hx hb dX3_digs_30 ?_
  refine lv_toe (y := nI (27 + (t % 3))) (nI_add _ _) ?_
  refine lv_dup2_11 hx hb dX3_digs_31 rfl rfl ?_
  refine m_iald X S 2 rfl (x := nI (27 + (t % 3))) (j := 27 + (t % 3)) (nI_clamp (by omega)) (vp_in_nI (by omega) (by omega)) (v := (upd g (8 + (t % 3)) ((g (8 + (t % 3))) - (g 4))) (27 + (t % 3))) rfl dX3_digs_32 ?_
  refine lv_iconst (v := nI 1) hx hb dX3_digs_33 (by decide) ?_
  refine lv_iadd hx hb dX3_digs_34 ?_
  refine m_iast X S 2 rfl (x := nI (27 + (t % 3))) (j := 27 + (t % 3)) (nI_clamp (by omega)) (vp_in_nI (by omega) (by omega)) dX3_digs_35 (fun H locs S => ?_)
  have S : Sw G A s.heap [[(q6, .inl (gA G 0, 8, .inl fr))], [(h0, .inr (3, [.ref q1, .ref q2, .int pasts, .ref q3, .ref q4, .ref q5, .int length, .int known, .int there, .ref q6, .int spot, .int isWrong, .int sign, .int digit, .int first, .int second]))], [(q1, .inl (gA G 0, 182, .inl (upd (upd g (8 + (t % 3)) ((g (8 + (t % 3))) - (g 4))) (27 + (t % 3)) (((upd g (8 + (t % 3)) ((g (8 + (t % 3))) - (g 4))) (27 + (t % 3))) + (nI 1)))))]] _ _ := S
  refine lv_aload_n hx hb dX3_digs_36 rfl (lv_at hl 1 rfl) ?_
  refine m_get X S 1 rfl (T := TX3) (N := 16) in_X3 rfl 0 (by decide) q1712 (fun _ h9 => h9) rfl dX3_digs_37 ?_
  refine lv_bipush (v := nI 32) hx hb dX3_digs_40 (by decide) ?_
  refine lv_aload_n hx hb dX3_digs_42 rfl (lv_at hl 1 rfl) ?_
  refine m_get X S 1 rfl (T := TX3) (N := 16) in_X3 rfl 0 (by decide) q1712 (fun _ h9 => h9) rfl dX3_digs_43 ?_
  refine lv_bipush (v := nI 31) hx hb dX3_digs_46 (by decide) ?_
  refine m_iald X S 2 rfl (x := nI 31) (j := 31) rfl (vp_in_nI (by decide) (by decide)) (v := nI d) (((pk_un (by omega)).trans (pk_un (by omega))).trans hd) dX3_digs_48 ?_
  refine lv_iadd hx hb dX3_digs_49 ?_
  refine lv_toe (y := nI (32 + d)) (nI_add _ _) ?_
  refine lv_iload_n hx hb dX3_digs_50 rfl (lv_at hl 2 rfl) ?_
  refine m_iast X S 2 rfl (x := nI (32 + d)) (j := 32 + d) (nI_clamp (by omega)) (vp_in_nI (by omega) (by omega)) dX3_digs_51 (fun H locs S => ?_)
  have S : Sw G A s.heap [[(q6, .inl (gA G 0, 8, .inl fr))], [(h0, .inr (3, [.ref q1, .ref q2, .int pasts, .ref q3, .ref q4, .ref q5, .int length, .int known, .int there, .ref q6, .int spot, .int isWrong, .int sign, .int digit, .int first, .int second]))], [(q1, .inl (gA G 0, 182, .inl (upd (upd (upd g (8 + (t % 3)) ((g (8 + (t % 3))) - (g 4))) (27 + (t % 3)) (((upd g (8 + (t % 3)) ((g (8 + (t % 3))) - (g 4))) (27 + (t % 3))) + (nI 1))) (32 + d) (nI a))))]] _ _ := S
  refine lv_aload_n hx hb dX3_digs_52 rfl (lv_at hl 1 rfl) ?_
  refine m_get X S 1 rfl (T := TX3) (N := 16) in_X3 rfl 0 (by decide) q1712 (fun _ h9 => h9) rfl dX3_digs_53 ?_
  refine lv_bipush (v := nI 31) hx hb dX3_digs_56 (by decide) ?_
  refine lv_dup2_11 hx hb dX3_digs_58 rfl rfl ?_
  refine m_iald X S 2 rfl (x := nI 31) (j := 31) rfl (vp_in_nI (by decide) (by decide)) (v := (upd (upd (upd g (8 + (t % 3)) ((g (8 + (t % 3))) - (g 4))) (27 + (t % 3)) (((upd g (8 + (t % 3)) ((g (8 + (t % 3))) - (g 4))) (27 + (t % 3))) + (nI 1))) (32 + d) (nI a)) 31) rfl dX3_digs_59 ?_
  refine lv_iconst (v := nI 1) hx hb dX3_digs_60 (by decide) ?_
  refine lv_iadd hx hb dX3_digs_61 ?_
  refine m_iast X S 2 rfl (x := nI 31) (j := 31) rfl (vp_in_nI (by decide) (by decide)) dX3_digs_62 (fun H locs S => ?_)
  have S : Sw G A s.heap [[(q6, .inl (gA G 0, 8, .inl fr))], [(h0, .inr (3, [.ref q1, .ref q2, .int pasts, .ref q3, .ref q4, .ref q5, .int length, .int known, .int there, .ref q6, .int spot, .int isWrong, .int sign, .int digit, .int first, .int second]))], [(q1, .inl (gA G 0, 182, .inl (upd (upd (upd (upd g (8 + (t % 3)) ((g (8 + (t % 3))) - (g 4))) (27 + (t % 3)) (((upd g (8 + (t % 3)) ((g (8 + (t % 3))) - (g 4))) (27 + (t % 3))) + (nI 1))) (32 + d) (nI a)) 31 (((upd (upd (upd g (8 + (t % 3)) ((g (8 + (t % 3))) - (g 4))) (27 + (t % 3)) (((upd g (8 + (t % 3)) ((g (8 + (t % 3))) - (g 4))) (27 + (t % 3))) + (nI 1))) (32 + d) (nI a)) 31) + (nI 1)))))]] _ _ := S
  refine lv_aload_n hx hb dX3_digs_63 rfl (lv_at hl 1 rfl) ?_
  refine lv_iload_n hx hb dX3_digs_64 rfl (lv_at hl 2 rfl) ?_
  refine lv_aload_n hx hb dX3_digs_65 rfl (lv_at hl 1 rfl) ?_
  refine m_get X S 1 rfl (T := TX3) (N := 16) in_X3 rfl 0 (by decide) q1712 (fun _ h9 => h9) rfl dX3_digs_66 ?_
  refine lv_iconst (v := nI 0) hx hb dX3_digs_69 (by decide) ?_
  refine m_iald X S 2 rfl (x := nI 0) (j := 0) rfl (vp_in_nI (by decide) (by decide)) (v := g 0) ((pk_un (by decide)).trans ((pk_un (by omega)).trans ((pk_un (by omega)).trans (pk_un (by omega))))) dX3_digs_70 ?_
  have hq3 := S.cut (Bc := [[(h0, .inr (3, [.ref q1, .ref q2, .int pasts, .ref q3, .ref q4, .ref q5, .int length, .int known, .int there, .ref q6, .int spot, .int isWrong, .int sign, .int digit, .int first, .int second]))], [(q6, .inl (gA G 0, 8, .inl fr))]]) (Br := [[(q1, .inl (gA G 0, 182, .inl (upd (upd (upd (upd g (8 + (t % 3)) ((g (8 + (t % 3))) - (g 4))) (27 + (t % 3)) (((upd g (8 + (t % 3)) ((g (8 + (t % 3))) - (g 4))) (27 + (t % 3))) + (nI 1))) (32 + d) (nI a)) 31 (((upd (upd (upd g (8 + (t % 3)) ((g (8 + (t % 3))) - (g 4))) (27 + (t % 3)) (((upd g (8 + (t % 3)) ((g (8 + (t % 3))) - (g 4))) (27 + (t % 3))) + (nI 1))) (32 + d) (nI a)) 31) + (nI 1)))))]]) [1, 0] [2] (show ([1, 0] ++ ([2] : List Nat)).isPerm (List.range 3) = true by decide +kernel) rfl rfl
  refine m_rv X S hq3 (m_runV (rest := []) (As := [.int (nI a), .int (g 0)]) (n := 2) X S hq3 (mt_X3_measures G l h0 q1 q2 q3 q4 q5 q6 pasts length known there spot isWrong sign digit first second fr a (g 0) (by omega)) (lw_V q1886 q1888 qs64 q90 q1889) (m_recv X S 1 rfl rfl) (by decide +kernel) ⟨Nat.le_of_ble_eq_true rfl, Nat.le_of_ble_eq_true rfl⟩ rfl hl.1 rfl (Nat.le_of_ble_eq_true rfl) dX3_digs_71 ⟨(Nat.le_of_ble_eq_true rfl), (Nat.le_of_ble_eq_true rfl)⟩) (fun u H locs hp4 S => ?_)
  have S : Sw G A s.heap [[(q1, .inl (gA G 0, 182, .inl (upd (upd (upd (upd g (8 + (t % 3)) ((g (8 + (t % 3))) - (g 4))) (27 + (t % 3)) (((upd g (8 + (t % 3)) ((g (8 + (t % 3))) - (g 4))) (27 + (t % 3))) + (nI 1))) (32 + d) (nI a)) 31 (((upd (upd (upd g (8 + (t % 3)) ((g (8 + (t % 3))) - (g 4))) (27 + (t % 3)) (((upd g (8 + (t % 3)) ((g (8 + (t % 3))) - (g 4))) (27 + (t % 3))) + (nI 1))) (32 + d) (nI a)) 31) + (nI 1)))))], [(h0, .inr (3, [.ref q1, .ref q2, .int pasts, .ref q3, .ref q4, .ref q5, .int length, .int known, .int there, .ref q6, .int spot, .int isWrong, .int sign, .int digit, .int first, .int second]))], [(q6, .inl (gA G 0, 8, .inl (distA (g 0) a)))]] _ _ := S
  refine lv_aload_n hx hb dX3_digs_74 rfl (lv_at hl 1 rfl) ?_
  refine m_get X S 1 rfl (T := TX3) (N := 16) in_X3 rfl 9 (by decide) q1721 (fun _ h9 => h9) rfl dX3_digs_75 ?_
  refine lv_aload_n hx hb dX3_digs_78 rfl (lv_at hl 1 rfl) ?_
  refine m_get X S 1 rfl (T := TX3) (N := 16) in_X3 rfl 0 (by decide) q1712 (fun _ h9 => h9) rfl dX3_digs_79 ?_
  refine lv_iconst (v := nI 1) hx hb dX3_digs_82 (by decide) ?_
  refine m_iald X S 0 rfl (x := nI 1) (j := 1) rfl (vp_in_nI (by decide) (by decide)) (v := nI tr) (((pk_un (by decide)).trans ((pk_un (by omega)).trans ((pk_un (by omega)).trans (pk_un (by omega))))).trans htr) dX3_digs_83 ?_
  refine m_iald X S 2 rfl (x := nI tr) (j := tr) (nI_clamp (by omega)) (vp_in_nI (by omega) (by omega)) (v := nI (dist (g 0) a tr)) rfl dX3_digs_84 ?_
  refine lv_istore_n (lv' := [(3, .int (nI (dist (g 0) a tr))), (2, .int (nI (t % 3))), (0, .ref h0), (1, .int (nI a))]) hx hb dX3_digs_85 rfl hl (Nat.le_of_ble_eq_true rfl) rfl (fun ls hl => ?_)
  have hE5 : upd (upd (upd (upd g (8 + (t % 3)) ((g (8 + (t % 3))) - (g 4))) (27 + (t % 3)) (((upd g (8 + (t % 3)) ((g (8 + (t % 3))) - (g 4))) (27 + (t % 3))) + (nI 1))) (32 + d) (nI a)) 31 (((upd (upd (upd g (8 + (t % 3)) ((g (8 + (t % 3))) - (g 4))) (27 + (t % 3)) (((upd g (8 + (t % 3)) ((g (8 + (t % 3))) - (g 4))) (27 + (t % 3))) + (nI 1))) (32 + d) (nI a)) 31) + (nI 1)) = digA g a (t % 3) d := rfl
  have S := S.cong (congrArg (fun (zz : Nat → Int32) => ([[(q1, .inl (gA G 0, 182, .inl zz))], [(h0, .inr (3, [.ref q1, .ref q2, .int pasts, .ref q3, .ref q4, .ref q5, .int length, .int known, .int there, .ref q6, .int spot, .int isWrong, .int sign, .int digit, .int first, .int second]))], [(q6, .inl (gA G 0, 8, .inl (distA (g 0) a)))]] : List va_W)) hE5)
  have S : Sw G A s.heap [[(q1, .inl (gA G 0, 182, .inl (digA g a (t % 3) d)))], [(h0, .inr (3, [.ref q1, .ref q2, .int pasts, .ref q3, .ref q4, .ref q5, .int length, .int known, .int there, .ref q6, .int spot, .int isWrong, .int sign, .int digit, .int first, .int second]))], [(q6, .inl (gA G 0, 8, .inl (distA (g 0) a)))]] _ _ := S
  refine lv_aload_n hx hb dX3_digs_86 rfl (lv_at hl 2 rfl) ?_
  have hq6 := S.cut (Bc := [[(h0, .inr (3, [.ref q1, .ref q2, .int pasts, .ref q3, .ref q4, .ref q5, .int length, .int known, .int there, .ref q6, .int spot, .int isWrong, .int sign, .int digit, .int first, .int second]))], [(q1, .inl (gA G 0, 182, .inl (digA g a (t % 3) d)))]]) (Br := [[(q6, .inl (gA G 0, 8, .inl (distA (g 0) a)))]]) [1, 0] [2] (show ([1, 0] ++ ([2] : List Nat)).isPerm (List.range 3) = true by decide +kernel) rfl rfl
  refine m_rv X S hq6 (m_runV (rest := []) (As := []) (n := 0) X S hq6 (mt_X3_ends G l h0 q1 q2 q3 q4 q5 q6 pasts length known there spot isWrong sign digit first second (digA g a (t % 3) d) ) (lw_V q1843 q1845 qs56 q90 q1846) (m_recv X S 1 rfl rfl) (by decide +kernel) ⟨Nat.le_of_ble_eq_true rfl, Nat.le_of_ble_eq_true rfl⟩ rfl hl.1 rfl (Nat.le_of_ble_eq_true rfl) dX3_digs_87 ⟨(Nat.le_of_ble_eq_true rfl), (Nat.le_of_ble_eq_true rfl)⟩) (fun u H locs hp7 S => ?_)
  obtain ⟨u8, rfl⟩ : ∃ z, z = u := ⟨_, rfl⟩
  have hp7 : (u8 = endS (digA g a (t % 3) d)) := hp7
  have S : Sw G A s.heap [[(q6, .inl (gA G 0, 8, .inl (distA (g 0) a)))], [(h0, .inr (3, [.ref q1, .ref q2, .int pasts, .ref q3, .ref q4, .ref q5, .int length, .int known, .int there, .ref q6, .int spot, .int isWrong, .int sign, .int digit, .int first, .int second]))], [(q1, .inl (gA G 0, 182, .inl u8))]] _ _ := S
  have hhp7_0 := hp7
  subst hhp7_0
  have S : Sw G A s.heap [[(q6, .inl (gA G 0, 8, .inl (distA (g 0) a)))], [(h0, .inr (3, [.ref q1, .ref q2, .int pasts, .ref q3, .ref q4, .ref q5, .int length, .int known, .int there, .ref q6, .int spot, .int isWrong, .int sign, .int digit, .int first, .int second]))], [(q1, .inl (gA G 0, 182, .inl (endS (digA g a (t % 3) d))))]] _ _ := S
  refine lv_iload_n hx hb dX3_digs_90 rfl (lv_at hl 0 rfl) ?_
  refine lv_if_ne (tgt := 121) hx hb dX3_digs_91 (by decide) (fun c91_9 => ?_) (fun c91_9 => ?_)
  · skip
    have c91_9 : ¬ (dist (g 0) a tr) = 0 := fun z => c91_9 ((nI_eq (a := (dist (g 0) a tr)) (b := 0) (by omega) (by omega)).mpr z)
    refine lv_iload_n hx hb dX3_digs_121 rfl (lv_at hl 0 rfl) ?_
    exact m_iret X hr hlk hQ S ⟨endS (digA g a (t % 3) d), distA (g 0) a⟩ (by show ((nI (dist (g 0) a tr)) = nI (dist (g 0) a tr) ∧ (endS (digA g a (t % 3) d)) = digS g a (t % 3) d tr); unfold digS; first | (rw [if_pos (by assumption)]; exact ⟨rfl, rfl⟩) | (rw [if_neg (by assumption)]; exact ⟨rfl, rfl⟩)) [1, 2, 0] [] (show ([1, 2, 0] ++ ([] : List Nat)).isPerm (List.range 3) = true by decide +kernel) rfl (Nat.le_of_ble_eq_true rfl) (Nat.le_of_ble_eq_true rfl) dX3_digs_122
  · skip
    have c91_9 : (dist (g 0) a tr) = 0 := (nI_eq (a := (dist (g 0) a tr)) (b := 0) (by omega) (by omega)).mp c91_9
    refine lv_aload_n hx hb dX3_digs_94 rfl (lv_at hl 2 rfl) ?_
    refine lv_iload_n hx hb dX3_digs_95 rfl (lv_at hl 1 rfl) ?_
    refine lv_aload_n hx hb dX3_digs_96 rfl (lv_at hl 2 rfl) ?_
    refine m_get X S 1 rfl (T := TX3) (N := 16) in_X3 rfl 0 (by decide) q1712 (fun _ h9 => h9) rfl dX3_digs_97 ?_
    refine lv_iconst (v := nI 5) hx hb dX3_digs_100 (by decide) ?_
    refine m_iald X S 2 rfl (x := nI 5) (j := 5) rfl (vp_in_nI (by decide) (by decide)) (v := (endS (digA g a (t % 3) d)) 5) rfl dX3_digs_101 ?_
    have hq10 := S.cut (Bc := [[(h0, .inr (3, [.ref q1, .ref q2, .int pasts, .ref q3, .ref q4, .ref q5, .int length, .int known, .int there, .ref q6, .int spot, .int isWrong, .int sign, .int digit, .int first, .int second]))], [(q1, .inl (gA G 0, 182, .inl (endS (digA g a (t % 3) d))))]]) (Br := [[(q6, .inl (gA G 0, 8, .inl (distA (g 0) a)))]]) [1, 2] [0] (show ([1, 2] ++ ([0] : List Nat)).isPerm (List.range 3) = true by decide +kernel) rfl rfl
    refine m_rv X S hq10 (m_runV (rest := []) (As := [.int (nI (t % 3)), .int ((endS (digA g a (t % 3) d)) 5)]) (n := 2) X S hq10 (mt_X3_gets G l h0 q1 q2 q3 q4 q5 q6 pasts length known there spot isWrong sign digit first second (endS (digA g a (t % 3) d)) (t % 3) ((endS (digA g a (t % 3) d)) 5) (by omega)) (lw_V q1870 q1872 qs61 q90 q1873) (m_recv X S 1 rfl rfl) (by decide +kernel) ⟨Nat.le_of_ble_eq_true rfl, Nat.le_of_ble_eq_true rfl⟩ rfl hl.1 rfl (Nat.le_of_ble_eq_true rfl) dX3_digs_102 ⟨(Nat.le_of_ble_eq_true rfl), (Nat.le_of_ble_eq_true rfl)⟩) (fun u H locs hp11 S => ?_)
    obtain ⟨u12, rfl⟩ : ∃ z, z = u := ⟨_, rfl⟩
    have hp11 : (u12 = getS (endS (digA g a (t % 3) d)) (t % 3) ((endS (digA g a (t % 3) d)) 5)) := hp11
    have S : Sw G A s.heap [[(q6, .inl (gA G 0, 8, .inl (distA (g 0) a)))], [(h0, .inr (3, [.ref q1, .ref q2, .int pasts, .ref q3, .ref q4, .ref q5, .int length, .int known, .int there, .ref q6, .int spot, .int isWrong, .int sign, .int digit, .int first, .int second]))], [(q1, .inl (gA G 0, 182, .inl u12))]] _ _ := S
    have hhp11_0 := hp11
    subst hhp11_0
    have S : Sw G A s.heap [[(q6, .inl (gA G 0, 8, .inl (distA (g 0) a)))], [(h0, .inr (3, [.ref q1, .ref q2, .int pasts, .ref q3, .ref q4, .ref q5, .int length, .int known, .int there, .ref q6, .int spot, .int isWrong, .int sign, .int digit, .int first, .int second]))], [(q1, .inl (gA G 0, 182, .inl (getS (endS (digA g a (t % 3) d)) (t % 3) ((endS (digA g a (t % 3) d)) 5))))]] _ _ := S
    refine lv_aload_n hx hb dX3_digs_105 rfl (lv_at hl 2 rfl) ?_
    refine m_get X S 1 rfl (T := TX3) (N := 16) in_X3 rfl 0 (by decide) q1712 (fun _ h9 => h9) rfl dX3_digs_106 ?_
    refine lv_bipush (v := nI 30) hx hb dX3_digs_109 (by decide) ?_
    refine lv_iload_n hx hb dX3_digs_111 rfl (lv_at hl 1 rfl) ?_
    refine m_iast X S 2 rfl (x := nI 30) (j := 30) rfl (vp_in_nI (by decide) (by decide)) dX3_digs_112 (fun H locs S => ?_)
    have S : Sw G A s.heap [[(q6, .inl (gA G 0, 8, .inl (distA (g 0) a)))], [(h0, .inr (3, [.ref q1, .ref q2, .int pasts, .ref q3, .ref q4, .ref q5, .int length, .int known, .int there, .ref q6, .int spot, .int isWrong, .int sign, .int digit, .int first, .int second]))], [(q1, .inl (gA G 0, 182, .inl (upd (getS (endS (digA g a (t % 3) d)) (t % 3) ((endS (digA g a (t % 3) d)) 5)) 30 (nI (t % 3)))))]] _ _ := S
    refine lv_aload_n hx hb dX3_digs_113 rfl (lv_at hl 2 rfl) ?_
    refine m_get X S 1 rfl (T := TX3) (N := 16) in_X3 rfl 0 (by decide) q1712 (fun _ h9 => h9) rfl dX3_digs_114 ?_
    refine lv_bipush (v := nI 6) hx hb dX3_digs_117 (by decide) ?_
    refine lv_iconst (v := nI 2) hx hb dX3_digs_119 (by decide) ?_
    refine m_iast X S 2 rfl (x := nI 6) (j := 6) rfl (vp_in_nI (by decide) (by decide)) dX3_digs_120 (fun H locs S => ?_)
    have S : Sw G A s.heap [[(q6, .inl (gA G 0, 8, .inl (distA (g 0) a)))], [(h0, .inr (3, [.ref q1, .ref q2, .int pasts, .ref q3, .ref q4, .ref q5, .int length, .int known, .int there, .ref q6, .int spot, .int isWrong, .int sign, .int digit, .int first, .int second]))], [(q1, .inl (gA G 0, 182, .inl (upd (upd (getS (endS (digA g a (t % 3) d)) (t % 3) ((endS (digA g a (t % 3) d)) 5)) 30 (nI (t % 3))) 6 (nI 2))))]] _ _ := S
    refine lv_iload_n hx hb dX3_digs_121 rfl (lv_at hl 0 rfl) ?_
    exact m_iret X hr hlk hQ S ⟨upd (upd (getS (endS (digA g a (t % 3) d)) (t % 3) ((endS (digA g a (t % 3) d)) 5)) 30 (nI (t % 3))) 6 (nI 2), distA (g 0) a⟩ (by show ((nI (dist (g 0) a tr)) = nI (dist (g 0) a tr) ∧ (upd (upd (getS (endS (digA g a (t % 3) d)) (t % 3) ((endS (digA g a (t % 3) d)) 5)) 30 (nI (t % 3))) 6 (nI 2)) = digS g a (t % 3) d tr); unfold digS; first | (rw [if_pos (by assumption)]; exact ⟨rfl, rfl⟩) | (rw [if_neg (by assumption)]; exact ⟨rfl, rfl⟩)) [1, 2, 0] [] (show ([1, 2, 0] ++ ([] : List Nat)).isPerm (List.range 3) = true by decide +kernel) rfl (Nat.le_of_ble_eq_true rfl) (Nat.le_of_ble_eq_true rfl) dX3_digs_122

abbrev rm_X3_dig : Room := { frames := 3, cells := 0, slots := 0, locals := 72 }
set_option maxHeartbeats 4000000 in
set_option maxRecDepth 100000 in
theorem mt_X3_dig (G : mGG) (l : Launch) (h0 : Nat) (q1 : Nat) (q2 : Nat) (q3 : Nat) (q4 : Nat) (q5 : Nat) (q6 : Nat) (length : Int32) (known : Int32) (there : Int32) (spot : Int32) (isWrong : Int32) (sign : Int32) (digit : Int32) (first : Int32) (second : Int32) (g : Nat → Int32) (pa : Nat → Int32) (n : Nat) (fr : Nat → Int32) (t : Nat) (p1 : Int32) (d : Nat) (tr : Nat) (hn6 : n ≤ 6) (ht : g 7 = nI t) (ht2 : t ≤ 150) (hd : g 31 = nI d) (htr : g 1 = nI tr) (htr8 : tr < 8) (hd150 : g 6 = 1 → d < 150) : Cg G l yX3_dig (ws_ yX3_dig cX3_dig 3 (some FieldType.int)) rm_X3_dig [.ref h0, .int p1] [[(h0, .inr (3, [.ref q1, .ref q2, .int (nI n), .ref q3, .ref q4, .ref q5, .int length, .int known, .int there, .ref q6, .int spot, .int isWrong, .int sign, .int digit, .int first, .int second]))], [(q1, .inl (gA G 0, 182, .inl g))], [(q2, .inl (gA G 0, 1092, .inl pa))], [(q6, .inl (gA G 0, 8, .inl fr))]] (Qi G (fun (r : Int32) (u : Nat × (Nat → Int32) × Nat × (Nat → Int32) × (Nat → Int32)) => (r = barDigS g t p1 ∧ u.2.1 = g ∧ u.2.2.1 = n ∧ u.2.2.2.1 = pa ∧ barDigS g t p1 < nI 0) ∨ (p1 = nI u.1 ∧ r = nI (dist (g 0) u.1 tr) ∧ u.2.1 = digS g u.1 (t % 3) d tr ∧ u.2.2.1 = recN n ∧ u.2.2.2.1 = recP n pa g ∧ u.1 < 8 ∧ g 6 = 1 ∧ g 4 ≤ g (8 + t % 3) ∧ barDigS g t (nI u.1) = nI 0)) (fun (u : Nat × (Nat → Int32) × Nat × (Nat → Int32) × (Nat → Int32)) => [[(h0, .inr (3, [.ref q1, .ref q2, .int (nI u.2.2.1), .ref q3, .ref q4, .ref q5, .int length, .int known, .int there, .ref q6, .int spot, .int isWrong, .int sign, .int digit, .int first, .int second]))], [(q1, .inl (gA G 0, 182, .inl u.2.1))], [(q2, .inl (gA G 0, 1092, .inl u.2.2.2.1))], [(q6, .inl (gA G 0, 8, .inl u.2.2.2.2))]])) := by
  refine Cg.intro (own := RX3) (cc := cX3_dig) (maxL := 3) (ret := (some FieldType.int)) (by decide +kernel) rfl rfl (Nat.le_of_ble_eq_true rfl) ?_
  intro p e s m ag below meth c A ls Q X hr hlk hnm S hl hQ
  have hx := X.1
  have hb := X.2.1
  have hl : lv_has ls 3 [(0, .ref h0), (1, .int p1)] := hl
  refine lv_aload_n hx hb dX3_dig_0 rfl (lv_at hl 0 rfl) ?_
  refine lv_iload_n hx hb dX3_dig_1 rfl (lv_at hl 1 rfl) ?_
  have hq1 := S.cut (Bc := [[(h0, .inr (3, [.ref q1, .ref q2, .int (nI n), .ref q3, .ref q4, .ref q5, .int length, .int known, .int there, .ref q6, .int spot, .int isWrong, .int sign, .int digit, .int first, .int second]))], [(q1, .inl (gA G 0, 182, .inl g))]]) (Br := [[(q2, .inl (gA G 0, 1092, .inl pa))], [(q6, .inl (gA G 0, 8, .inl fr))]]) [0, 1] [2, 3] (show ([0, 1] ++ ([2, 3] : List Nat)).isPerm (List.range 4) = true by decide +kernel) rfl rfl
  refine m_ri X S hq1 (m_runV (rest := []) (As := [.int p1]) (n := 1) X S hq1 (mt_X3_barDig G l h0 q1 q2 q3 q4 q5 q6 (nI n) length known there spot isWrong sign digit first second g t p1 (by omega) (by omega)) (lw_V q1878 q1880 qs62 q90 q1881) (m_recv X S 0 rfl rfl) (by decide +kernel) ⟨Nat.le_of_ble_eq_true rfl, Nat.le_of_ble_eq_true rfl⟩ rfl hl.1 rfl (Nat.le_of_ble_eq_true rfl) dX3_dig_2 ⟨(Nat.le_of_ble_eq_true rfl), (Nat.le_of_ble_eq_true rfl)⟩) (fun r2 u H locs hp2 S => ?_)
  obtain ⟨a, rfl⟩ : ∃ z, z = u := ⟨_, rfl⟩
  have hp2 : (r2 = barDigS g t p1 ∧ barDigS g t p1 < nI 0) ∨ (r2 = nI 0 ∧ p1 = nI a ∧ a < 8 ∧ g 6 = 1 ∧ g 4 ≤ g (8 + t % 3) ∧ barDigS g t (nI a) = nI 0) := hp2
  have S : Sw G A s.heap [[(q2, .inl (gA G 0, 1092, .inl pa))], [(q6, .inl (gA G 0, 8, .inl fr))], [(h0, .inr (3, [.ref q1, .ref q2, .int (nI n), .ref q3, .ref q4, .ref q5, .int length, .int known, .int there, .ref q6, .int spot, .int isWrong, .int sign, .int digit, .int first, .int second]))], [(q1, .inl (gA G 0, 182, .inl g))]] _ _ := S
  rcases hp2 with ⟨hhp2_0, hhp2_1⟩ | ⟨hhp2_0, hhp2_1, hhp2_2, hhp2_3, hhp2_4, hhp2_5⟩
  · skip
    subst hhp2_0
    have hf0_r2 := hhp2_1
    have S : Sw G A s.heap [[(q2, .inl (gA G 0, 1092, .inl pa))], [(q6, .inl (gA G 0, 8, .inl fr))], [(h0, .inr (3, [.ref q1, .ref q2, .int (nI n), .ref q3, .ref q4, .ref q5, .int length, .int known, .int there, .ref q6, .int spot, .int isWrong, .int sign, .int digit, .int first, .int second]))], [(q1, .inl (gA G 0, 182, .inl g))]] _ _ := S
    refine lv_istore_n (lv' := [(2, .int (barDigS g t p1)), (0, .ref h0), (1, .int p1)]) hx hb dX3_dig_5 rfl hl (Nat.le_of_ble_eq_true rfl) rfl (fun ls hl => ?_)
    refine lv_iload_n hx hb dX3_dig_6 rfl (lv_at hl 0 rfl) ?_
    refine lv_if_ge (tgt := 12) hx hb dX3_dig_7 (by decide) (fun c7_3 => ?_) (fun c7_3 => ?_)
    · skip
      have c7_3 : (nI 0) ≤ (barDigS g t p1) := c7_3
      exact absurd c7_3 (Int32.not_le.mpr (by assumption))
    · skip
      have c7_3 : ¬ (nI 0) ≤ (barDigS g t p1) := c7_3
      refine lv_iload_n hx hb dX3_dig_10 rfl (lv_at hl 0 rfl) ?_
      exact m_iret X hr hlk hQ S ⟨0, g, n, pa, fr⟩ (by show ((barDigS g t p1) = barDigS g t p1 ∧ g = g ∧ n = n ∧ pa = pa ∧ barDigS g t p1 < nI 0) ∨ (p1 = nI 0 ∧ (barDigS g t p1) = nI (dist (g 0) 0 tr) ∧ g = digS g 0 (t % 3) d tr ∧ n = recN n ∧ pa = recP n pa g ∧ 0 < 8 ∧ g 6 = 1 ∧ g 4 ≤ g (8 + t % 3) ∧ barDigS g t (nI 0) = nI 0); first | exact Or.inl ⟨(by with_reducible rfl), (by with_reducible rfl), (by with_reducible rfl), (by with_reducible rfl), (by assumption)⟩ | exact Or.inr (⟨(by with_reducible rfl), (by with_reducible rfl), (by with_reducible rfl), (by with_reducible rfl), (by with_reducible rfl), (by first | assumption | omega), (by assumption), (by assumption), (by assumption)⟩)) [2, 3, 0, 1] [] (show ([2, 3, 0, 1] ++ ([] : List Nat)).isPerm (List.range 4) = true by decide +kernel) rfl (Nat.le_of_ble_eq_true rfl) (Nat.le_of_ble_eq_true rfl) dX3_dig_11
  · skip
    subst hhp2_0
    subst hhp2_1
    have hf0_r2 := hhp2_2
    have hf1_r2 := hhp2_3
    have hf2_r2 := hhp2_4
    have hf3_r2 := hhp2_5
    have S : Sw G A s.heap [[(q2, .inl (gA G 0, 1092, .inl pa))], [(q6, .inl (gA G 0, 8, .inl fr))], [(h0, .inr (3, [.ref q1, .ref q2, .int (nI n), .ref q3, .ref q4, .ref q5, .int length, .int known, .int there, .ref q6, .int spot, .int isWrong, .int sign, .int digit, .int first, .int second]))], [(q1, .inl (gA G 0, 182, .inl g))]] _ _ := S
    refine lv_istore_n (lv' := [(2, .int (nI 0)), (0, .ref h0), (1, .int (nI a))]) hx hb dX3_dig_5 rfl hl (Nat.le_of_ble_eq_true rfl) rfl (fun ls hl => ?_)
    refine lv_iload_n hx hb dX3_dig_6 rfl (lv_at hl 0 rfl) ?_
    refine lv_if_ge (tgt := 12) hx hb dX3_dig_7 (by decide) (fun c7_4 => ?_) (fun c7_4 => absurd (by decide) c7_4)
    refine lv_aload_n hx hb dX3_dig_12 rfl (lv_at hl 1 rfl) ?_
    have hq5 := S.cut (Bc := [[(h0, .inr (3, [.ref q1, .ref q2, .int (nI n), .ref q3, .ref q4, .ref q5, .int length, .int known, .int there, .ref q6, .int spot, .int isWrong, .int sign, .int digit, .int first, .int second]))], [(q1, .inl (gA G 0, 182, .inl g))], [(q2, .inl (gA G 0, 1092, .inl pa))]]) (Br := [[(q6, .inl (gA G 0, 8, .inl fr))]]) [2, 3, 0] [1] (show ([2, 3, 0] ++ ([1] : List Nat)).isPerm (List.range 4) = true by decide +kernel) rfl rfl
    refine m_rv X S hq5 (m_runV (rest := []) (As := []) (n := 0) X S hq5 (mt_X3_records G l h0 q1 q2 q3 q4 q5 q6 length known there spot isWrong sign digit first second g pa n (by omega)) (lw_V q1775 q1777 qs46 q90 q1778) (m_recv X S 2 rfl rfl) (by decide +kernel) ⟨Nat.le_of_ble_eq_true rfl, Nat.le_of_ble_eq_true rfl⟩ rfl hl.1 rfl (Nat.le_of_ble_eq_true rfl) dX3_dig_13 ⟨(Nat.le_of_ble_eq_true rfl), (Nat.le_of_ble_eq_true rfl)⟩) (fun u H locs hp6 S => ?_)
    obtain ⟨u7, u8⟩ := u
    have hp6 : (u7 = recN n ∧ u8 = recP n pa g) := hp6
    have S : Sw G A s.heap [[(q6, .inl (gA G 0, 8, .inl fr))], [(h0, .inr (3, [.ref q1, .ref q2, .int (nI u7), .ref q3, .ref q4, .ref q5, .int length, .int known, .int there, .ref q6, .int spot, .int isWrong, .int sign, .int digit, .int first, .int second]))], [(q1, .inl (gA G 0, 182, .inl g))], [(q2, .inl (gA G 0, 1092, .inl u8))]] _ _ := S
    rcases hp6 with ⟨hhp6_0, hhp6_1⟩
    subst hhp6_0
    subst hhp6_1
    have S : Sw G A s.heap [[(q6, .inl (gA G 0, 8, .inl fr))], [(h0, .inr (3, [.ref q1, .ref q2, .int (nI (recN n)), .ref q3, .ref q4, .ref q5, .int length, .int known, .int there, .ref q6, .int spot, .int isWrong, .int sign, .int digit, .int first, .int second]))], [(q1, .inl (gA G 0, 182, .inl g))], [(q2, .inl (gA G 0, 1092, .inl (recP n pa g)))]] _ _ := S
    refine lv_aload_n hx hb dX3_dig_16 rfl (lv_at hl 1 rfl) ?_
    refine lv_iload_n hx hb dX3_dig_17 rfl (lv_at hl 2 rfl) ?_
    have hq9 := S.cut (Bc := [[(h0, .inr (3, [.ref q1, .ref q2, .int (nI (recN n)), .ref q3, .ref q4, .ref q5, .int length, .int known, .int there, .ref q6, .int spot, .int isWrong, .int sign, .int digit, .int first, .int second]))], [(q1, .inl (gA G 0, 182, .inl g))], [(q6, .inl (gA G 0, 8, .inl fr))]]) (Br := [[(q2, .inl (gA G 0, 1092, .inl (recP n pa g)))]]) [1, 2, 0] [3] (show ([1, 2, 0] ++ ([3] : List Nat)).isPerm (List.range 4) = true by decide +kernel) rfl rfl
    refine m_ri X S hq9 (m_runV (rest := []) (As := [.int (nI a)]) (n := 1) X S hq9 (mt_X3_digs G l h0 q1 q2 q3 q4 q5 q6 (nI (recN n)) length known there spot isWrong sign digit first second g fr t a d tr (by omega) (by omega) (by omega) (by omega) (by omega) (by omega) (hd150 (by assumption))) (lw_V q1882 q1884 qs63 q90 q1885) (m_recv X S 1 rfl rfl) (by decide +kernel) ⟨Nat.le_of_ble_eq_true rfl, Nat.le_of_ble_eq_true rfl⟩ rfl hl.1 rfl (Nat.le_of_ble_eq_true rfl) dX3_dig_18 ⟨(Nat.le_of_ble_eq_true rfl), (Nat.le_of_ble_eq_true rfl)⟩) (fun r10 u H locs hp10 S => ?_)
    obtain ⟨u11, u12⟩ := u
    have hp10 : (r10 = nI (dist (g 0) a tr) ∧ u11 = digS g a (t % 3) d tr) := hp10
    have S : Sw G A s.heap [[(q2, .inl (gA G 0, 1092, .inl (recP n pa g)))], [(h0, .inr (3, [.ref q1, .ref q2, .int (nI (recN n)), .ref q3, .ref q4, .ref q5, .int length, .int known, .int there, .ref q6, .int spot, .int isWrong, .int sign, .int digit, .int first, .int second]))], [(q1, .inl (gA G 0, 182, .inl u11))], [(q6, .inl (gA G 0, 8, .inl u12))]] _ _ := S
    rcases hp10 with ⟨hhp10_0, hhp10_1⟩
    subst hhp10_0
    subst hhp10_1
    have S : Sw G A s.heap [[(q2, .inl (gA G 0, 1092, .inl (recP n pa g)))], [(h0, .inr (3, [.ref q1, .ref q2, .int (nI (recN n)), .ref q3, .ref q4, .ref q5, .int length, .int known, .int there, .ref q6, .int spot, .int isWrong, .int sign, .int digit, .int first, .int second]))], [(q1, .inl (gA G 0, 182, .inl (digS g a (t % 3) d tr)))], [(q6, .inl (gA G 0, 8, .inl u12))]] _ _ := S
    exact m_iret X hr hlk hQ S ⟨a, digS g a (t % 3) d tr, recN n, recP n pa g, u12⟩ (by show ((nI (dist (g 0) a tr)) = barDigS g t (nI a) ∧ (digS g a (t % 3) d tr) = g ∧ (recN n) = n ∧ (recP n pa g) = pa ∧ barDigS g t (nI a) < nI 0) ∨ ((nI a) = nI a ∧ (nI (dist (g 0) a tr)) = nI (dist (g 0) a tr) ∧ (digS g a (t % 3) d tr) = digS g a (t % 3) d tr ∧ (recN n) = recN n ∧ (recP n pa g) = recP n pa g ∧ a < 8 ∧ g 6 = 1 ∧ g 4 ≤ g (8 + t % 3) ∧ barDigS g t (nI a) = nI 0); first | exact Or.inl ⟨(by with_reducible rfl), (by with_reducible rfl), (by with_reducible rfl), (by with_reducible rfl), (by assumption)⟩ | exact Or.inr (⟨(by with_reducible rfl), (by with_reducible rfl), (by with_reducible rfl), (by with_reducible rfl), (by with_reducible rfl), (by first | assumption | omega), (by assumption), (by assumption), (by assumption)⟩)) [1, 2, 0, 3] [] (show ([1, 2, 0, 3] ++ ([] : List Nat)).isPerm (List.range 4) = true by decide +kernel) rfl (Nat.le_of_ble_eq_true rfl) (Nat.le_of_ble_eq_true rfl) dX3_dig_21

abbrev rm_X3_pass : Room := { frames := 1, cells := 0, slots := 0, locals := 21 }
set_option maxHeartbeats 4000000 in
set_option maxRecDepth 100000 in
theorem mt_X3_pass (G : mGG) (l : Launch) (h0 : Nat) (q1 : Nat) (q2 : Nat) (q3 : Nat) (q4 : Nat) (q5 : Nat) (q6 : Nat) (length : Int32) (known : Int32) (there : Int32) (spot : Int32) (isWrong : Int32) (sign : Int32) (digit : Int32) (first : Int32) (second : Int32) (g : Nat → Int32) (pa : Nat → Int32) (n : Nat) (t : Nat) (hn6 : n ≤ 6) (ht : g 7 = nI t) (ht2 : t ≤ 150) (hT : g 6 = 1 → t < 150) : Cg G l yX3_pass (ws_ yX3_pass cX3_pass 1 (some FieldType.int)) rm_X3_pass [.ref h0] [[(h0, .inr (3, [.ref q1, .ref q2, .int (nI n), .ref q3, .ref q4, .ref q5, .int length, .int known, .int there, .ref q6, .int spot, .int isWrong, .int sign, .int digit, .int first, .int second]))], [(q1, .inl (gA G 0, 182, .inl g))], [(q2, .inl (gA G 0, 1092, .inl pa))]] (Qi G (fun (r : Int32) (u : (Nat → Int32) × Nat × (Nat → Int32)) => (r = (-5 : Int32) ∧ u.1 = g ∧ u.2.1 = n ∧ u.2.2 = pa ∧ ¬ g 6 = 1) ∨ (r = nI ((t + 1) % 3) ∧ u.1 = endS g ∧ u.2.1 = recN n ∧ u.2.2 = recP n pa g ∧ g 6 = 1)) (fun (u : (Nat → Int32) × Nat × (Nat → Int32)) => [[(h0, .inr (3, [.ref q1, .ref q2, .int (nI u.2.1), .ref q3, .ref q4, .ref q5, .int length, .int known, .int there, .ref q6, .int spot, .int isWrong, .int sign, .int digit, .int first, .int second]))], [(q1, .inl (gA G 0, 182, .inl u.1))], [(q2, .inl (gA G 0, 1092, .inl u.2.2))]])) := by
  refine Cg.intro (own := RX3) (cc := cX3_pass) (maxL := 1) (ret := (some FieldType.int)) (by decide +kernel) rfl rfl (Nat.le_of_ble_eq_true rfl) ?_
  intro p e s m ag below meth c A ls Q X hr hlk hnm S hl hQ
  have hx := X.1
  have hb := X.2.1
  have hl : lv_has ls 1 [(0, .ref h0)] := hl
  refine lv_aload_n hx hb dX3_pass_0 rfl (lv_at hl 0 rfl) ?_
  have hq1 := S.cut (Bc := [[(h0, .inr (3, [.ref q1, .ref q2, .int (nI n), .ref q3, .ref q4, .ref q5, .int length, .int known, .int there, .ref q6, .int spot, .int isWrong, .int sign, .int digit, .int first, .int second]))], [(q1, .inl (gA G 0, 182, .inl g))]]) (Br := [[(q2, .inl (gA G 0, 1092, .inl pa))]]) [0, 1] [2] (show ([0, 1] ++ ([2] : List Nat)).isPerm (List.range 3) = true by decide +kernel) rfl rfl
  refine m_ri X S hq1 (m_runV (rest := []) (As := []) (n := 0) X S hq1 (mt_X3_goes G l h0 q1 q2 q3 q4 q5 q6 (nI n) length known there spot isWrong sign digit first second g ) (lw_V q1831 q1833 qs53 q90 q1834) (m_recv X S 0 rfl rfl) (by decide +kernel) ⟨Nat.le_of_ble_eq_true rfl, Nat.le_of_ble_eq_true rfl⟩ rfl hl.1 rfl (Nat.le_of_ble_eq_true rfl) dX3_pass_1 ⟨(Nat.le_of_ble_eq_true rfl), (Nat.le_of_ble_eq_true rfl)⟩) (fun r2 u H locs hp2 S => ?_)
  have hp2 : (r2 = nI 1 ∧ g 6 = 1) ∨ (r2 = nI 0 ∧ ¬ g 6 = 1) := hp2
  have S : Sw G A s.heap [[(q2, .inl (gA G 0, 1092, .inl pa))], [(h0, .inr (3, [.ref q1, .ref q2, .int (nI n), .ref q3, .ref q4, .ref q5, .int length, .int known, .int there, .ref q6, .int spot, .int isWrong, .int sign, .int digit, .int first, .int second]))], [(q1, .inl (gA G 0, 182, .inl g))]] _ _ := S
  rcases hp2 with ⟨hhp2_0, hhp2_1⟩ | ⟨hhp2_0, hhp2_1⟩
  · skip
    subst hhp2_0
    have hf0_r2 := hhp2_1
    have S : Sw G A s.heap [[(q2, .inl (gA G 0, 1092, .inl pa))], [(h0, .inr (3, [.ref q1, .ref q2, .int (nI n), .ref q3, .ref q4, .ref q5, .int length, .int known, .int there, .ref q6, .int spot, .int isWrong, .int sign, .int digit, .int first, .int second]))], [(q1, .inl (gA G 0, 182, .inl g))]] _ _ := S
    refine lv_if_ne (tgt := 10) hx hb dX3_pass_4 (by decide) (fun c4_3 => ?_) (fun c4_3 => absurd c4_3 (by decide))
    refine lv_aload_n hx hb dX3_pass_10 rfl (lv_at hl 0 rfl) ?_
    have hq4 := S.cut (Bc := [[(h0, .inr (3, [.ref q1, .ref q2, .int (nI n), .ref q3, .ref q4, .ref q5, .int length, .int known, .int there, .ref q6, .int spot, .int isWrong, .int sign, .int digit, .int first, .int second]))], [(q1, .inl (gA G 0, 182, .inl g))], [(q2, .inl (gA G 0, 1092, .inl pa))]]) (Br := []) [1, 2, 0] [] (show ([1, 2, 0] ++ ([] : List Nat)).isPerm (List.range 3) = true by decide +kernel) rfl rfl
    refine m_rv X S hq4 (m_runV (rest := []) (As := []) (n := 0) X S hq4 (mt_X3_records G l h0 q1 q2 q3 q4 q5 q6 length known there spot isWrong sign digit first second g pa n (by omega)) (lw_V q1775 q1777 qs46 q90 q1778) (m_recv X S 1 rfl rfl) (by decide +kernel) ⟨Nat.le_of_ble_eq_true rfl, Nat.le_of_ble_eq_true rfl⟩ rfl hl.1 rfl (Nat.le_of_ble_eq_true rfl) dX3_pass_11 ⟨(Nat.le_of_ble_eq_true rfl), (Nat.le_of_ble_eq_true rfl)⟩) (fun u H locs hp5 S => ?_)
    obtain ⟨u6, u7⟩ := u
    have hp5 : (u6 = recN n ∧ u7 = recP n pa g) := hp5
    have S : Sw G A s.heap [[(h0, .inr (3, [.ref q1, .ref q2, .int (nI u6), .ref q3, .ref q4, .ref q5, .int length, .int known, .int there, .ref q6, .int spot, .int isWrong, .int sign, .int digit, .int first, .int second]))], [(q1, .inl (gA G 0, 182, .inl g))], [(q2, .inl (gA G 0, 1092, .inl u7))]] _ _ := S
    rcases hp5 with ⟨hhp5_0, hhp5_1⟩
    subst hhp5_0
    subst hhp5_1
    have S : Sw G A s.heap [[(h0, .inr (3, [.ref q1, .ref q2, .int (nI (recN n)), .ref q3, .ref q4, .ref q5, .int length, .int known, .int there, .ref q6, .int spot, .int isWrong, .int sign, .int digit, .int first, .int second]))], [(q1, .inl (gA G 0, 182, .inl g))], [(q2, .inl (gA G 0, 1092, .inl (recP n pa g)))]] _ _ := S
    refine lv_aload_n hx hb dX3_pass_14 rfl (lv_at hl 0 rfl) ?_
    have hq8 := S.cut (Bc := [[(h0, .inr (3, [.ref q1, .ref q2, .int (nI (recN n)), .ref q3, .ref q4, .ref q5, .int length, .int known, .int there, .ref q6, .int spot, .int isWrong, .int sign, .int digit, .int first, .int second]))], [(q1, .inl (gA G 0, 182, .inl g))]]) (Br := [[(q2, .inl (gA G 0, 1092, .inl (recP n pa g)))]]) [0, 1] [2] (show ([0, 1] ++ ([2] : List Nat)).isPerm (List.range 3) = true by decide +kernel) rfl rfl
    refine m_rv X S hq8 (m_runV (rest := []) (As := []) (n := 0) X S hq8 (mt_X3_ends G l h0 q1 q2 q3 q4 q5 q6 (nI (recN n)) length known there spot isWrong sign digit first second g ) (lw_V q1843 q1845 qs56 q90 q1846) (m_recv X S 0 rfl rfl) (by decide +kernel) ⟨Nat.le_of_ble_eq_true rfl, Nat.le_of_ble_eq_true rfl⟩ rfl hl.1 rfl (Nat.le_of_ble_eq_true rfl) dX3_pass_15 ⟨(Nat.le_of_ble_eq_true rfl), (Nat.le_of_ble_eq_true rfl)⟩) (fun u H locs hp9 S => ?_)
    obtain ⟨u10, rfl⟩ : ∃ z, z = u := ⟨_, rfl⟩
    have hp9 : (u10 = endS g) := hp9
    have S : Sw G A s.heap [[(q2, .inl (gA G 0, 1092, .inl (recP n pa g)))], [(h0, .inr (3, [.ref q1, .ref q2, .int (nI (recN n)), .ref q3, .ref q4, .ref q5, .int length, .int known, .int there, .ref q6, .int spot, .int isWrong, .int sign, .int digit, .int first, .int second]))], [(q1, .inl (gA G 0, 182, .inl u10))]] _ _ := S
    have hhp9_0 := hp9
    subst hhp9_0
    have S : Sw G A s.heap [[(q2, .inl (gA G 0, 1092, .inl (recP n pa g)))], [(h0, .inr (3, [.ref q1, .ref q2, .int (nI (recN n)), .ref q3, .ref q4, .ref q5, .int length, .int known, .int there, .ref q6, .int spot, .int isWrong, .int sign, .int digit, .int first, .int second]))], [(q1, .inl (gA G 0, 182, .inl (endS g)))]] _ _ := S
    refine lv_aload_n hx hb dX3_pass_18 rfl (lv_at hl 0 rfl) ?_
    have hq11 := S.cut (Bc := [[(h0, .inr (3, [.ref q1, .ref q2, .int (nI (recN n)), .ref q3, .ref q4, .ref q5, .int length, .int known, .int there, .ref q6, .int spot, .int isWrong, .int sign, .int digit, .int first, .int second]))], [(q1, .inl (gA G 0, 182, .inl (endS g)))]]) (Br := [[(q2, .inl (gA G 0, 1092, .inl (recP n pa g)))]]) [1, 2] [0] (show ([1, 2] ++ ([0] : List Nat)).isPerm (List.range 3) = true by decide +kernel) rfl rfl
    refine m_ri X S hq11 (m_runV (rest := []) (As := []) (n := 0) X S hq11 (mt_X3_turn G l h0 q1 q2 q3 q4 q5 q6 (nI (recN n)) length known there spot isWrong sign digit first second (endS g) (t + 1) (endS_7 ht) (by have := hT (by assumption); omega)) (lw_V q1839 q1841 qs55 q90 q1842) (m_recv X S 1 rfl rfl) (by decide +kernel) ⟨Nat.le_of_ble_eq_true rfl, Nat.le_of_ble_eq_true rfl⟩ rfl hl.1 rfl (Nat.le_of_ble_eq_true rfl) dX3_pass_19 ⟨(Nat.le_of_ble_eq_true rfl), (Nat.le_of_ble_eq_true rfl)⟩) (fun r12 u H locs hp12 S => ?_)
    have hp12 : r12 = nI ((t + 1) % 3) := hp12
    have hhp12_0 := hp12
    subst hhp12_0
    have S : Sw G A s.heap [[(q2, .inl (gA G 0, 1092, .inl (recP n pa g)))], [(h0, .inr (3, [.ref q1, .ref q2, .int (nI (recN n)), .ref q3, .ref q4, .ref q5, .int length, .int known, .int there, .ref q6, .int spot, .int isWrong, .int sign, .int digit, .int first, .int second]))], [(q1, .inl (gA G 0, 182, .inl (endS g)))]] _ _ := S
    exact m_iret X hr hlk hQ S ⟨endS g, recN n, recP n pa g⟩ (by show ((nI ((t + 1) % 3)) = (-5 : Int32) ∧ (endS g) = g ∧ (recN n) = n ∧ (recP n pa g) = pa ∧ ¬ g 6 = 1) ∨ ((nI ((t + 1) % 3)) = nI ((t + 1) % 3) ∧ (endS g) = endS g ∧ (recN n) = recN n ∧ (recP n pa g) = recP n pa g ∧ g 6 = 1); first | exact Or.inl ⟨(by with_reducible rfl), (by with_reducible rfl), (by with_reducible rfl), (by with_reducible rfl), (by assumption)⟩ | exact Or.inr (⟨(by with_reducible rfl), (by with_reducible rfl), (by with_reducible rfl), (by with_reducible rfl), (by assumption)⟩)) [1, 2, 0] [] (show ([1, 2, 0] ++ ([] : List Nat)).isPerm (List.range 3) = true by decide +kernel) rfl (Nat.le_of_ble_eq_true rfl) (Nat.le_of_ble_eq_true rfl) dX3_pass_22
  · skip
    subst hhp2_0
    have hf0_r2 := hhp2_1
    have S : Sw G A s.heap [[(q2, .inl (gA G 0, 1092, .inl pa))], [(h0, .inr (3, [.ref q1, .ref q2, .int (nI n), .ref q3, .ref q4, .ref q5, .int length, .int known, .int there, .ref q6, .int spot, .int isWrong, .int sign, .int digit, .int first, .int second]))], [(q1, .inl (gA G 0, 182, .inl g))]] _ _ := S
    refine lv_if_ne (tgt := 10) hx hb dX3_pass_4 (by decide) (fun c4_13 => absurd (by decide) c4_13) (fun c4_13 => ?_)
    refine lv_bipush (v := (-5 : Int32)) hx hb dX3_pass_7 (by decide) ?_
    exact m_iret X hr hlk hQ S ⟨g, n, pa⟩ (by show ((-5 : Int32) = (-5 : Int32) ∧ g = g ∧ n = n ∧ pa = pa ∧ ¬ g 6 = 1) ∨ ((-5 : Int32) = nI ((t + 1) % 3) ∧ g = endS g ∧ n = recN n ∧ pa = recP n pa g ∧ g 6 = 1); first | exact Or.inl ⟨(by with_reducible rfl), (by with_reducible rfl), (by with_reducible rfl), (by with_reducible rfl), (by assumption)⟩ | exact Or.inr (⟨(by with_reducible rfl), (by with_reducible rfl), (by with_reducible rfl), (by with_reducible rfl), (by assumption)⟩)) [1, 2, 0] [] (show ([1, 2, 0] ++ ([] : List Nat)).isPerm (List.range 3) = true by decide +kernel) rfl (Nat.le_of_ble_eq_true rfl) (Nat.le_of_ble_eq_true rfl) dX3_pass_9

abbrev rm_X3_set : Room := { frames := 1, cells := 0, slots := 0, locals := 22 }
set_option maxHeartbeats 4000000 in
set_option maxRecDepth 100000 in
theorem mt_X3_set (G : mGG) (l : Launch) (h0 : Nat) (q1 : Nat) (q2 : Nat) (q3 : Nat) (q4 : Nat) (q5 : Nat) (q6 : Nat) (length : Int32) (known : Int32) (there : Int32) (spot : Int32) (isWrong : Int32) (sign : Int32) (digit : Int32) (first : Int32) (second : Int32) (g : Nat → Int32) (pa : Nat → Int32) (n : Nat) (kk : Int32) (vv : Int32) (hn6 : n ≤ 6) : Cg G l yX3_set (ws_ yX3_set cX3_set 4 (some FieldType.int)) rm_X3_set [.ref h0, .int kk, .int vv] [[(h0, .inr (3, [.ref q1, .ref q2, .int (nI n), .ref q3, .ref q4, .ref q5, .int length, .int known, .int there, .ref q6, .int spot, .int isWrong, .int sign, .int digit, .int first, .int second]))], [(q1, .inl (gA G 0, 182, .inl g))], [(q2, .inl (gA G 0, 1092, .inl pa))]] (Qi G (fun (r : Int32) (u : Nat × (Nat → Int32) × Nat × (Nat → Int32)) => (r = (-2 : Int32) ∧ u.2.1 = g ∧ u.2.2.1 = n ∧ u.2.2.2 = pa ∧ ¬ okSet kk vv) ∨ (kk = nI u.1 ∧ r = g (2 + u.1) ∧ u.2.1 = upd g (2 + u.1) vv ∧ u.2.2.1 = recN n ∧ u.2.2.2 = recP n pa g ∧ u.1 < 4 ∧ okSet (nI u.1) vv)) (fun (u : Nat × (Nat → Int32) × Nat × (Nat → Int32)) => [[(h0, .inr (3, [.ref q1, .ref q2, .int (nI u.2.2.1), .ref q3, .ref q4, .ref q5, .int length, .int known, .int there, .ref q6, .int spot, .int isWrong, .int sign, .int digit, .int first, .int second]))], [(q1, .inl (gA G 0, 182, .inl u.2.1))], [(q2, .inl (gA G 0, 1092, .inl u.2.2.2))]])) := by
  refine Cg.intro (own := RX3) (cc := cX3_set) (maxL := 4) (ret := (some FieldType.int)) (by decide +kernel) rfl rfl (Nat.le_of_ble_eq_true rfl) ?_
  intro p e s m ag below meth c A ls Q X hr hlk hnm S hl hQ
  have hx := X.1
  have hb := X.2.1
  have hl : lv_has ls 4 [(0, .ref h0), (1, .int kk), (2, .int vv)] := hl
  refine lv_iload_n hx hb dX3_set_0 rfl (lv_at hl 1 rfl) ?_
  refine lv_iconst (v := nI 0) hx hb dX3_set_1 (by decide) ?_
  refine lv_iconst (v := nI 3) hx hb dX3_set_2 (by decide) ?_
  have hq1 := S.cut (Bc := []) (Br := [[(h0, .inr (3, [.ref q1, .ref q2, .int (nI n), .ref q3, .ref q4, .ref q5, .int length, .int known, .int there, .ref q6, .int spot, .int isWrong, .int sign, .int digit, .int first, .int second]))], [(q1, .inl (gA G 0, 182, .inl g))], [(q2, .inl (gA G 0, 1092, .inl pa))]]) [] [0, 1, 2] (show ([] ++ ([0, 1, 2] : List Nat)).isPerm (List.range 3) = true by decide +kernel) rfl rfl
  refine m_ri X S hq1 (m_runS (rest := []) (As := [.int kk, .int (nI 0), .int (nI 3)]) (n := 3) X S hq1 (mt_X3_in G l kk (nI 0) (nI 3) ) (lw_S q1766 q1767 q90 q1768) (by decide +kernel) ⟨Nat.le_of_ble_eq_true rfl, Nat.le_of_ble_eq_true rfl⟩ rfl hl.1 rfl (Nat.le_of_ble_eq_true rfl) dX3_set_3 ⟨(Nat.le_of_ble_eq_true rfl), (Nat.le_of_ble_eq_true rfl)⟩) (fun r2 u H locs hp2 S => ?_)
  have hp2 : (r2 = nI 1 ∧ ((nI 0) ≤ kk ∧ kk ≤ (nI 3))) ∨ (r2 = nI 0 ∧ (¬ ((nI 0) ≤ kk ∧ kk ≤ (nI 3)))) := hp2
  have S : Sw G A s.heap [[(h0, .inr (3, [.ref q1, .ref q2, .int (nI n), .ref q3, .ref q4, .ref q5, .int length, .int known, .int there, .ref q6, .int spot, .int isWrong, .int sign, .int digit, .int first, .int second]))], [(q1, .inl (gA G 0, 182, .inl g))], [(q2, .inl (gA G 0, 1092, .inl pa))]] _ _ := S
  rcases hp2 with ⟨hhp2_0, hhp2_1⟩ | ⟨hhp2_0, hhp2_1⟩
  · skip
    subst hhp2_0
    have hf0_r2 := hhp2_1
    have S : Sw G A s.heap [[(h0, .inr (3, [.ref q1, .ref q2, .int (nI n), .ref q3, .ref q4, .ref q5, .int length, .int known, .int there, .ref q6, .int spot, .int isWrong, .int sign, .int digit, .int first, .int second]))], [(q1, .inl (gA G 0, 182, .inl g))], [(q2, .inl (gA G 0, 1092, .inl pa))]] _ _ := S
    have hin0 : nI 0 ≤ kk ∧ kk ≤ nI 3 := by assumption
    obtain ⟨j, hj4, rfl⟩ := set_of hin0
    refine lv_if_eq (tgt := 24) hx hb dX3_set_6 (by decide) (fun c6_3 => absurd c6_3 (by decide)) (fun c6_3 => ?_)
    refine lv_iload_n hx hb dX3_set_9 rfl (lv_at hl 2 rfl) ?_
    refine lv_iload_n hx hb dX3_set_10 rfl (lv_at hl 1 rfl) ?_
    have hq4 := S.cut (Bc := []) (Br := [[(h0, .inr (3, [.ref q1, .ref q2, .int (nI n), .ref q3, .ref q4, .ref q5, .int length, .int known, .int there, .ref q6, .int spot, .int isWrong, .int sign, .int digit, .int first, .int second]))], [(q1, .inl (gA G 0, 182, .inl g))], [(q2, .inl (gA G 0, 1092, .inl pa))]]) [] [0, 1, 2] (show ([] ++ ([0, 1, 2] : List Nat)).isPerm (List.range 3) = true by decide +kernel) rfl rfl
    refine m_ri X S hq4 (m_runS (rest := [.int vv]) (As := [.int (nI j)]) (n := 1) X S hq4 (mt_X3_least G l j (by omega)) (lw_S q1769 q1770 q90 q1771) (by decide +kernel) ⟨Nat.le_of_ble_eq_true rfl, Nat.le_of_ble_eq_true rfl⟩ rfl hl.1 rfl (Nat.le_of_ble_eq_true rfl) dX3_set_11 ⟨(Nat.le_of_ble_eq_true rfl), (Nat.le_of_ble_eq_true rfl)⟩) (fun r5 u H locs hp5 S => ?_)
    have hp5 : r5 = leastS j := hp5
    have hhp5_0 := hp5
    subst hhp5_0
    have S : Sw G A s.heap [[(h0, .inr (3, [.ref q1, .ref q2, .int (nI n), .ref q3, .ref q4, .ref q5, .int length, .int known, .int there, .ref q6, .int spot, .int isWrong, .int sign, .int digit, .int first, .int second]))], [(q1, .inl (gA G 0, 182, .inl g))], [(q2, .inl (gA G 0, 1092, .inl pa))]] _ _ := S
    refine lv_iload_n hx hb dX3_set_14 rfl (lv_at hl 1 rfl) ?_
    have hq6 := S.cut (Bc := []) (Br := [[(h0, .inr (3, [.ref q1, .ref q2, .int (nI n), .ref q3, .ref q4, .ref q5, .int length, .int known, .int there, .ref q6, .int spot, .int isWrong, .int sign, .int digit, .int first, .int second]))], [(q1, .inl (gA G 0, 182, .inl g))], [(q2, .inl (gA G 0, 1092, .inl pa))]]) [] [0, 1, 2] (show ([] ++ ([0, 1, 2] : List Nat)).isPerm (List.range 3) = true by decide +kernel) rfl rfl
    refine m_ri X S hq6 (m_runS (rest := [.int (leastS j), .int vv]) (As := [.int (nI j)]) (n := 1) X S hq6 (mt_X3_most G l j (by omega)) (lw_S q1772 q1773 q90 q1774) (by decide +kernel) ⟨Nat.le_of_ble_eq_true rfl, Nat.le_of_ble_eq_true rfl⟩ rfl hl.1 rfl (Nat.le_of_ble_eq_true rfl) dX3_set_15 ⟨(Nat.le_of_ble_eq_true rfl), (Nat.le_of_ble_eq_true rfl)⟩) (fun r7 u H locs hp7 S => ?_)
    have hp7 : r7 = mostS j := hp7
    have hhp7_0 := hp7
    subst hhp7_0
    have S : Sw G A s.heap [[(h0, .inr (3, [.ref q1, .ref q2, .int (nI n), .ref q3, .ref q4, .ref q5, .int length, .int known, .int there, .ref q6, .int spot, .int isWrong, .int sign, .int digit, .int first, .int second]))], [(q1, .inl (gA G 0, 182, .inl g))], [(q2, .inl (gA G 0, 1092, .inl pa))]] _ _ := S
    have hq8 := S.cut (Bc := []) (Br := [[(h0, .inr (3, [.ref q1, .ref q2, .int (nI n), .ref q3, .ref q4, .ref q5, .int length, .int known, .int there, .ref q6, .int spot, .int isWrong, .int sign, .int digit, .int first, .int second]))], [(q1, .inl (gA G 0, 182, .inl g))], [(q2, .inl (gA G 0, 1092, .inl pa))]]) [] [0, 1, 2] (show ([] ++ ([0, 1, 2] : List Nat)).isPerm (List.range 3) = true by decide +kernel) rfl rfl
    refine m_ri X S hq8 (m_runS (rest := []) (As := [.int vv, .int (leastS j), .int (mostS j)]) (n := 3) X S hq8 (mt_X3_in G l vv (leastS j) (mostS j) ) (lw_S q1766 q1767 q90 q1768) (by decide +kernel) ⟨Nat.le_of_ble_eq_true rfl, Nat.le_of_ble_eq_true rfl⟩ rfl hl.1 rfl (Nat.le_of_ble_eq_true rfl) dX3_set_18 ⟨(Nat.le_of_ble_eq_true rfl), (Nat.le_of_ble_eq_true rfl)⟩) (fun r9 u H locs hp9 S => ?_)
    have hp9 : (r9 = nI 1 ∧ ((leastS j) ≤ vv ∧ vv ≤ (mostS j))) ∨ (r9 = nI 0 ∧ (¬ ((leastS j) ≤ vv ∧ vv ≤ (mostS j)))) := hp9
    have S : Sw G A s.heap [[(h0, .inr (3, [.ref q1, .ref q2, .int (nI n), .ref q3, .ref q4, .ref q5, .int length, .int known, .int there, .ref q6, .int spot, .int isWrong, .int sign, .int digit, .int first, .int second]))], [(q1, .inl (gA G 0, 182, .inl g))], [(q2, .inl (gA G 0, 1092, .inl pa))]] _ _ := S
    rcases hp9 with ⟨hhp9_0, hhp9_1⟩ | ⟨hhp9_0, hhp9_1⟩
    · skip
      subst hhp9_0
      have hf0_r9 := hhp9_1
      have S : Sw G A s.heap [[(h0, .inr (3, [.ref q1, .ref q2, .int (nI n), .ref q3, .ref q4, .ref q5, .int length, .int known, .int there, .ref q6, .int spot, .int isWrong, .int sign, .int digit, .int first, .int second]))], [(q1, .inl (gA G 0, 182, .inl g))], [(q2, .inl (gA G 0, 1092, .inl pa))]] _ _ := S
      refine lv_if_ne (tgt := 27) hx hb dX3_set_21 (by decide) (fun c21_10 => ?_) (fun c21_10 => absurd c21_10 (by decide))
      refine lv_aload_n hx hb dX3_set_27 rfl (lv_at hl 0 rfl) ?_
      have hq11 := S.cut (Bc := [[(h0, .inr (3, [.ref q1, .ref q2, .int (nI n), .ref q3, .ref q4, .ref q5, .int length, .int known, .int there, .ref q6, .int spot, .int isWrong, .int sign, .int digit, .int first, .int second]))], [(q1, .inl (gA G 0, 182, .inl g))], [(q2, .inl (gA G 0, 1092, .inl pa))]]) (Br := []) [0, 1, 2] [] (show ([0, 1, 2] ++ ([] : List Nat)).isPerm (List.range 3) = true by decide +kernel) rfl rfl
      refine m_rv X S hq11 (m_runV (rest := []) (As := []) (n := 0) X S hq11 (mt_X3_records G l h0 q1 q2 q3 q4 q5 q6 length known there spot isWrong sign digit first second g pa n (by omega)) (lw_V q1775 q1777 qs46 q90 q1778) (m_recv X S 0 rfl rfl) (by decide +kernel) ⟨Nat.le_of_ble_eq_true rfl, Nat.le_of_ble_eq_true rfl⟩ rfl hl.1 rfl (Nat.le_of_ble_eq_true rfl) dX3_set_28 ⟨(Nat.le_of_ble_eq_true rfl), (Nat.le_of_ble_eq_true rfl)⟩) (fun u H locs hp12 S => ?_)
      obtain ⟨u13, u14⟩ := u
      have hp12 : (u13 = recN n ∧ u14 = recP n pa g) := hp12
      have S : Sw G A s.heap [[(h0, .inr (3, [.ref q1, .ref q2, .int (nI u13), .ref q3, .ref q4, .ref q5, .int length, .int known, .int there, .ref q6, .int spot, .int isWrong, .int sign, .int digit, .int first, .int second]))], [(q1, .inl (gA G 0, 182, .inl g))], [(q2, .inl (gA G 0, 1092, .inl u14))]] _ _ := S
      rcases hp12 with ⟨hhp12_0, hhp12_1⟩
      subst hhp12_0
      subst hhp12_1
      have S : Sw G A s.heap [[(h0, .inr (3, [.ref q1, .ref q2, .int (nI (recN n)), .ref q3, .ref q4, .ref q5, .int length, .int known, .int there, .ref q6, .int spot, .int isWrong, .int sign, .int digit, .int first, .int second]))], [(q1, .inl (gA G 0, 182, .inl g))], [(q2, .inl (gA G 0, 1092, .inl (recP n pa g)))]] _ _ := S
      refine lv_aload_n hx hb dX3_set_31 rfl (lv_at hl 0 rfl) ?_
      refine m_get X S 0 rfl (T := TX3) (N := 16) in_X3 rfl 0 (by decide) q1712 (fun _ h9 => h9) rfl dX3_set_32 ?_
      refine lv_iconst (v := nI 2) hx hb dX3_set_35 (by decide) ?_
      refine lv_iload_n hx hb dX3_set_36 rfl (lv_at hl 1 rfl) ?_
      refine lv_iadd hx hb dX3_set_37 ?_
      refine lv_toe (y := nI (2 + j)) (nI_add _ _) ?_
      refine m_iald X S 1 rfl (x := nI (2 + j)) (j := 2 + j) (nI_clamp (by omega)) (vp_in_nI (by omega) (by omega)) (v := g (2 + j)) rfl dX3_set_38 ?_
      refine lv_istore_n (lv' := [(3, .int (g (2 + j))), (0, .ref h0), (1, .int (nI j)), (2, .int vv)]) hx hb dX3_set_39 rfl hl (Nat.le_of_ble_eq_true rfl) rfl (fun ls hl => ?_)
      refine lv_aload_n hx hb dX3_set_40 rfl (lv_at hl 1 rfl) ?_
      refine m_get X S 0 rfl (T := TX3) (N := 16) in_X3 rfl 0 (by decide) q1712 (fun _ h9 => h9) rfl dX3_set_41 ?_
      refine lv_iconst (v := nI 2) hx hb dX3_set_44 (by decide) ?_
      refine lv_iload_n hx hb dX3_set_45 rfl (lv_at hl 2 rfl) ?_
      refine lv_iadd hx hb dX3_set_46 ?_
      refine lv_toe (y := nI (2 + j)) (nI_add _ _) ?_
      refine lv_iload_n hx hb dX3_set_47 rfl (lv_at hl 3 rfl) ?_
      refine m_iast X S 1 rfl (x := nI (2 + j)) (j := 2 + j) (nI_clamp (by omega)) (vp_in_nI (by omega) (by omega)) dX3_set_48 (fun H locs S => ?_)
      have S : Sw G A s.heap [[(h0, .inr (3, [.ref q1, .ref q2, .int (nI (recN n)), .ref q3, .ref q4, .ref q5, .int length, .int known, .int there, .ref q6, .int spot, .int isWrong, .int sign, .int digit, .int first, .int second]))], [(q1, .inl (gA G 0, 182, .inl (upd g (2 + j) vv)))], [(q2, .inl (gA G 0, 1092, .inl (recP n pa g)))]] _ _ := S
      refine lv_iload_n hx hb dX3_set_49 rfl (lv_at hl 0 rfl) ?_
      exact m_iret X hr hlk hQ S ⟨j, upd g (2 + j) vv, recN n, recP n pa g⟩ (by show ((g (2 + j)) = (-2 : Int32) ∧ (upd g (2 + j) vv) = g ∧ (recN n) = n ∧ (recP n pa g) = pa ∧ ¬ okSet (nI j) vv) ∨ ((nI j) = nI j ∧ (g (2 + j)) = g (2 + j) ∧ (upd g (2 + j) vv) = upd g (2 + j) vv ∧ (recN n) = recN n ∧ (recP n pa g) = recP n pa g ∧ j < 4 ∧ okSet (nI j) vv); exact Or.inr ⟨rfl, rfl, rfl, rfl, rfl, hj4, hin0, by rw [tn_nI (by omega)]; assumption⟩) [0, 1, 2] [] (show ([0, 1, 2] ++ ([] : List Nat)).isPerm (List.range 3) = true by decide +kernel) rfl (Nat.le_of_ble_eq_true rfl) (Nat.le_of_ble_eq_true rfl) dX3_set_50
    · skip
      subst hhp9_0
      have hf0_r9 := hhp9_1
      have S : Sw G A s.heap [[(h0, .inr (3, [.ref q1, .ref q2, .int (nI n), .ref q3, .ref q4, .ref q5, .int length, .int known, .int there, .ref q6, .int spot, .int isWrong, .int sign, .int digit, .int first, .int second]))], [(q1, .inl (gA G 0, 182, .inl g))], [(q2, .inl (gA G 0, 1092, .inl pa))]] _ _ := S
      refine lv_if_ne (tgt := 27) hx hb dX3_set_21 (by decide) (fun c21_15 => absurd (by decide) c21_15) (fun c21_15 => ?_)
      refine lv_bipush (v := (-2 : Int32)) hx hb dX3_set_24 (by decide) ?_
      exact m_iret X hr hlk hQ S ⟨j, g, n, pa⟩ (by show ((-2 : Int32) = (-2 : Int32) ∧ g = g ∧ n = n ∧ pa = pa ∧ ¬ okSet (nI j) vv) ∨ ((nI j) = nI j ∧ (-2 : Int32) = g (2 + j) ∧ g = upd g (2 + j) vv ∧ n = recN n ∧ pa = recP n pa g ∧ j < 4 ∧ okSet (nI j) vv); first | exact Or.inl ⟨rfl, rfl, rfl, rfl, fun z => absurd z.1 (by assumption)⟩ | exact Or.inl ⟨rfl, rfl, rfl, rfl, fun z => absurd z.2 (by rw [tn_nI (by omega)]; assumption)⟩) [0, 1, 2] [] (show ([0, 1, 2] ++ ([] : List Nat)).isPerm (List.range 3) = true by decide +kernel) rfl (Nat.le_of_ble_eq_true rfl) (Nat.le_of_ble_eq_true rfl) dX3_set_26
  · skip
    subst hhp2_0
    have hf0_r2 := hhp2_1
    have S : Sw G A s.heap [[(h0, .inr (3, [.ref q1, .ref q2, .int (nI n), .ref q3, .ref q4, .ref q5, .int length, .int known, .int there, .ref q6, .int spot, .int isWrong, .int sign, .int digit, .int first, .int second]))], [(q1, .inl (gA G 0, 182, .inl g))], [(q2, .inl (gA G 0, 1092, .inl pa))]] _ _ := S
    refine lv_if_eq (tgt := 24) hx hb dX3_set_6 (by decide) (fun c6_16 => ?_) (fun c6_16 => absurd (by decide) c6_16)
    refine lv_bipush (v := (-2 : Int32)) hx hb dX3_set_24 (by decide) ?_
    exact m_iret X hr hlk hQ S ⟨0, g, n, pa⟩ (by show ((-2 : Int32) = (-2 : Int32) ∧ g = g ∧ n = n ∧ pa = pa ∧ ¬ okSet kk vv) ∨ (kk = nI 0 ∧ (-2 : Int32) = g (2 + 0) ∧ g = upd g (2 + 0) vv ∧ n = recN n ∧ pa = recP n pa g ∧ 0 < 4 ∧ okSet (nI 0) vv); first | exact Or.inl ⟨rfl, rfl, rfl, rfl, fun z => absurd z.1 (by assumption)⟩ | exact Or.inl ⟨rfl, rfl, rfl, rfl, fun z => absurd z.2 (by rw [tn_nI (by omega)]; assumption)⟩) [0, 1, 2] [] (show ([0, 1, 2] ++ ([] : List Nat)).isPerm (List.range 3) = true by decide +kernel) rfl (Nat.le_of_ble_eq_true rfl) (Nat.le_of_ble_eq_true rfl) dX3_set_26
