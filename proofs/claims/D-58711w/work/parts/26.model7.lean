/-! THE MODEL: queries, on -/
abbrev rm_X3_told : Room := { frames := 2, cells := 0, slots := 0, locals := 49 }
set_option maxHeartbeats 4000000 in
set_option maxRecDepth 100000 in
theorem mt_X3_told (G : mGG) (l : Launch) (h0 : Nat) (q1 : Nat) (q2 : Nat) (q3 : Nat) (q4 : Nat) (q5 : Nat) (q6 : Nat) (pasts : Int32) (length : Int32) (known : Int32) (there : Int32) (spot : Int32) (isWrong : Int32) (sign : Int32) (digit : Int32) (first : Int32) (second : Int32) (g : Nat → Int32) (fr : Nat → Int32) (a : Nat) (d : Nat) (tr : Nat) (ha : a < 8) (hd : g 31 = nI d) (htr : g 1 = nI tr) (htr8 : tr < 8) (hd2 : d ≤ 150) : Cg G l yX3_told (ws_ yX3_told cX3_told 3 (some FieldType.int)) rm_X3_told [.ref h0, .int (nI a)] [[(h0, .inr (3, [.ref q1, .ref q2, .int pasts, .ref q3, .ref q4, .ref q5, .int length, .int known, .int there, .ref q6, .int spot, .int isWrong, .int sign, .int digit, .int first, .int second]))], [(q1, .inl (gA G 0, 182, .inl g))], [(q6, .inl (gA G 0, 8, .inl fr))]] (Qi G (fun (r : Int32) (u : (Nat → Int32)) => (r = toldS g a d tr)) (fun (u : (Nat → Int32)) => [[(h0, .inr (3, [.ref q1, .ref q2, .int pasts, .ref q3, .ref q4, .ref q5, .int length, .int known, .int there, .ref q6, .int spot, .int isWrong, .int sign, .int digit, .int first, .int second]))], [(q1, .inl (gA G 0, 182, .inl g))], [(q6, .inl (gA G 0, 8, .inl u))]])) := by
  refine Cg.intro (own := RX3) (cc := cX3_told) (maxL := 3) (ret := (some FieldType.int)) (by decide +kernel) rfl rfl (Nat.le_of_ble_eq_true rfl) ?_
  intro p e s m ag below meth c A ls Q X hr hlk hnm S hl hQ
  have hx := X.1
  have hb := X.2.1
  have hl : lv_has ls 3 [(0, .ref h0), (1, .int (nI a))] := hl
  refine lv_iconst (v := nI 0) hx hb dX3_told_0 (by decide) ?_
  refine lv_istore_n (lv' := [(2, .int (nI 0)), (0, .ref h0), (1, .int (nI a))]) hx hb dX3_told_1 rfl hl (Nat.le_of_ble_eq_true rfl) rfl (fun ls hl => ?_)
  have hL2 : ∀ (kf : Nat) (i : Nat), (d + 1 - i) < kf → (i ≤ d) → (toldB g a i = false) → ∀ (H : Heap) (locs : List Loc), Sw G A s.heap [[(h0, .inr (3, [.ref q1, .ref q2, .int pasts, .ref q3, .ref q4, .ref q5, .int length, .int known, .int there, .ref q6, .int spot, .int isWrong, .int sign, .int digit, .int first, .int second]))], [(q1, .inl (gA G 0, 182, .inl g))], [(q6, .inl (gA G 0, 8, .inl fr))]] H locs → ∀ (ls : Array Slot), lv_has ls 3 [(2, .int (nI i)), (0, .ref h0), (1, .int (nI a))] → W p l e rm_X3_told s m ag below meth c H locs (0) (0) Q (F0 m 2 ls []) := by
    intro kf
    induction kf with
    | zero =>
      intro i hm
      exact absurd hm (Nat.not_lt_zero _)
    | succ kf2 ih2 =>
      intro i hm hi hno H locs S ls hl
      refine lv_iload_n hx hb dX3_told_2 rfl (lv_at hl 0 rfl) ?_
      refine lv_aload_n hx hb dX3_told_3 rfl (lv_at hl 1 rfl) ?_
      refine m_get X S 0 rfl (T := TX3) (N := 16) in_X3 rfl 0 (by decide) q1712 (fun _ h9 => h9) rfl dX3_told_4 ?_
      refine lv_bipush (v := nI 31) hx hb dX3_told_7 (by decide) ?_
      refine m_iald X S 1 rfl (x := nI 31) (j := 31) rfl (vp_in_nI (by decide) (by decide)) (v := nI d) hd dX3_told_9 ?_
      refine lv_icmp_ge (tgt := 55) hx hb dX3_told_10 (by decide) (fun c10_1 => ?_) (fun c10_1 => ?_)
      · skip
        have c10_1 : d ≤ i := (nI_leI (a := d) (b := i) (by omega) (by omega)).mp c10_1
        refine lv_bipush (v := (-6 : Int32)) hx hb dX3_told_55 (by decide) ?_
        exact m_iret X hr hlk hQ S fr (by show ((-6 : Int32) = toldS g a d tr); unfold toldS; rw [if_neg (by rw [show d = i by omega, hno]; decide)]) [0, 1, 2] [] (show ([0, 1, 2] ++ ([] : List Nat)).isPerm (List.range 3) = true by decide +kernel) rfl (Nat.le_of_ble_eq_true rfl) (Nat.le_of_ble_eq_true rfl) dX3_told_57
      · skip
        have c10_1 : ¬ d ≤ i := fun z => c10_1 ((nI_leI (a := d) (b := i) (by omega) (by omega)).mpr z)
        refine lv_aload_n hx hb dX3_told_13 rfl (lv_at hl 1 rfl) ?_
        refine m_get X S 0 rfl (T := TX3) (N := 16) in_X3 rfl 0 (by decide) q1712 (fun _ h9 => h9) rfl dX3_told_14 ?_
        refine lv_bipush (v := nI 32) hx hb dX3_told_17 (by decide) ?_
        refine lv_iload_n hx hb dX3_told_19 rfl (lv_at hl 0 rfl) ?_
        refine lv_iadd hx hb dX3_told_20 ?_
        refine lv_toe (y := nI (32 + i)) (nI_add _ _) ?_
        refine m_iald X S 1 rfl (x := nI (32 + i)) (j := 32 + i) (nI_clamp (by omega)) (vp_in_nI (by omega) (by omega)) (v := g (32 + i)) rfl dX3_told_21 ?_
        refine lv_iload_n hx hb dX3_told_22 rfl (lv_at hl 2 rfl) ?_
        refine lv_icmp_ne (tgt := 49) hx hb dX3_told_23 (by decide) (fun c23_2 => ?_) (fun c23_2 => ?_)
        · skip
          refine lv_iinc (v := nI (i + 1)) (lv' := [(2, .int (nI (i + 1))), (0, .ref h0), (1, .int (nI a))]) hx hb dX3_told_49 hl (k := 0) rfl (nI_add _ _) (Nat.le_of_ble_eq_true rfl) rfl (fun ls hl => ?_)
          refine lv_goto (tgt := 2) hx hb dX3_told_52 (by decide) ?_
          exact ih2 (i + 1) (by omega) (by omega) (by rw [toldB, hno, decide_eq_false (by assumption)]; rfl) _ _ S ls (lv_sub hl [0, 1, 2] rfl)
        · skip
          refine lv_aload_n hx hb dX3_told_26 rfl (lv_at hl 1 rfl) ?_
          refine lv_iload_n hx hb dX3_told_27 rfl (lv_at hl 2 rfl) ?_
          refine lv_aload_n hx hb dX3_told_28 rfl (lv_at hl 1 rfl) ?_
          refine m_get X S 0 rfl (T := TX3) (N := 16) in_X3 rfl 0 (by decide) q1712 (fun _ h9 => h9) rfl dX3_told_29 ?_
          refine lv_iconst (v := nI 0) hx hb dX3_told_32 (by decide) ?_
          refine m_iald X S 1 rfl (x := nI 0) (j := 0) rfl (vp_in_nI (by decide) (by decide)) (v := g 0) rfl dX3_told_33 ?_
          have hq3 := S.cut (Bc := [[(h0, .inr (3, [.ref q1, .ref q2, .int pasts, .ref q3, .ref q4, .ref q5, .int length, .int known, .int there, .ref q6, .int spot, .int isWrong, .int sign, .int digit, .int first, .int second]))], [(q6, .inl (gA G 0, 8, .inl fr))]]) (Br := [[(q1, .inl (gA G 0, 182, .inl g))]]) [0, 2] [1] (show ([0, 2] ++ ([1] : List Nat)).isPerm (List.range 3) = true by decide +kernel) rfl rfl
          refine m_rv X S hq3 (m_runV (rest := []) (As := [.int (nI a), .int (g 0)]) (n := 2) X S hq3 (mt_X3_measures G l h0 q1 q2 q3 q4 q5 q6 pasts length known there spot isWrong sign digit first second fr a (g 0) (by omega)) (lw_V q1886 q1888 qs64 q90 q1889) (m_recv X S 0 rfl rfl) (by decide +kernel) ⟨Nat.le_of_ble_eq_true rfl, Nat.le_of_ble_eq_true rfl⟩ rfl hl.1 rfl (Nat.le_of_ble_eq_true rfl) dX3_told_34 ⟨(Nat.le_of_ble_eq_true rfl), (Nat.le_of_ble_eq_true rfl)⟩) (fun u H locs hp4 S => ?_)
          have S : Sw G A s.heap [[(q1, .inl (gA G 0, 182, .inl g))], [(h0, .inr (3, [.ref q1, .ref q2, .int pasts, .ref q3, .ref q4, .ref q5, .int length, .int known, .int there, .ref q6, .int spot, .int isWrong, .int sign, .int digit, .int first, .int second]))], [(q6, .inl (gA G 0, 8, .inl (distA (g 0) a)))]] _ _ := S
          refine lv_aload_n hx hb dX3_told_37 rfl (lv_at hl 1 rfl) ?_
          refine m_get X S 1 rfl (T := TX3) (N := 16) in_X3 rfl 9 (by decide) q1721 (fun _ h9 => h9) rfl dX3_told_38 ?_
          refine lv_aload_n hx hb dX3_told_41 rfl (lv_at hl 1 rfl) ?_
          refine m_get X S 1 rfl (T := TX3) (N := 16) in_X3 rfl 0 (by decide) q1712 (fun _ h9 => h9) rfl dX3_told_42 ?_
          refine lv_iconst (v := nI 1) hx hb dX3_told_45 (by decide) ?_
          refine m_iald X S 0 rfl (x := nI 1) (j := 1) rfl (vp_in_nI (by decide) (by decide)) (v := nI tr) htr dX3_told_46 ?_
          refine m_iald X S 2 rfl (x := nI tr) (j := tr) (nI_clamp (by omega)) (vp_in_nI (by omega) (by omega)) (v := nI (dist (g 0) a tr)) rfl dX3_told_47 ?_
          exact m_iret X hr hlk hQ S (distA (g 0) a) (by show ((nI (dist (g 0) a tr)) = toldS g a d tr); unfold toldS; rw [if_pos (toldB_hit (k := i) (by assumption) (by omega))]) [1, 0, 2] [] (show ([1, 0, 2] ++ ([] : List Nat)).isPerm (List.range 3) = true by decide +kernel) rfl (Nat.le_of_ble_eq_true rfl) (Nat.le_of_ble_eq_true rfl) dX3_told_48
  exact hL2 _ 0 (Nat.lt_succ_self _) (by omega) rfl _ _ S ls (lv_sub hl [0, 1, 2] rfl)

abbrev rm_X3_neighbours : Room := { frames := 1, cells := 0, slots := 0, locals := 23 }
set_option maxHeartbeats 4000000 in
set_option maxRecDepth 100000 in
theorem mt_X3_neighbours (G : mGG) (l : Launch) (h0 : Nat) (q1 : Nat) (q2 : Nat) (q3 : Nat) (q4 : Nat) (q5 : Nat) (q6 : Nat) (pasts : Int32) (length : Int32) (known : Int32) (there : Int32) (spot : Int32) (isWrong : Int32) (sign : Int32) (digit : Int32) (first : Int32) (second : Int32) (T : Int32) (a : Nat) (ha : a < 8) : Cg G l yX3_neighbours (ws_ yX3_neighbours cX3_neighbours 4 (some FieldType.int)) rm_X3_neighbours [.ref h0, .int (nI a)] [[(h0, .inr (3, [.ref q1, .ref q2, .int pasts, .ref q3, .ref q4, .ref q5, .int length, .int known, .int T, .ref q6, .int spot, .int isWrong, .int sign, .int digit, .int first, .int second]))]] (Qi G (fun (r : Int32) (u : Unit) => r = nbS T a 8) (fun (u : Unit) => [[(h0, .inr (3, [.ref q1, .ref q2, .int pasts, .ref q3, .ref q4, .ref q5, .int length, .int known, .int T, .ref q6, .int spot, .int isWrong, .int sign, .int digit, .int first, .int second]))]])) := by
  refine Cg.intro (own := RX3) (cc := cX3_neighbours) (maxL := 4) (ret := (some FieldType.int)) (by decide +kernel) rfl rfl (Nat.le_of_ble_eq_true rfl) ?_
  intro p e s m ag below meth c A ls Q X hr hlk hnm S hl hQ
  have hx := X.1
  have hb := X.2.1
  have hl : lv_has ls 4 [(0, .ref h0), (1, .int (nI a))] := hl
  refine lv_iconst (v := nI 0) hx hb dX3_neighbours_0 (by decide) ?_
  refine lv_istore_n (lv' := [(2, .int (nI 0)), (0, .ref h0), (1, .int (nI a))]) hx hb dX3_neighbours_1 rfl hl (Nat.le_of_ble_eq_true rfl) rfl (fun ls hl => ?_)
  refine lv_iconst (v := nI 0) hx hb dX3_neighbours_2 (by decide) ?_
  refine lv_istore_n (lv' := [(3, .int (nI 0)), (2, .int (nI 0)), (0, .ref h0), (1, .int (nI a))]) hx hb dX3_neighbours_3 rfl hl (Nat.le_of_ble_eq_true rfl) rfl (fun ls hl => ?_)
  have hL4 : ∀ (kf : Nat) (i : Nat), (8 - i) < kf → (i ≤ 8) → ∀ (H : Heap) (locs : List Loc), Sw G A s.heap [[(h0, .inr (3, [.ref q1, .ref q2, .int pasts, .ref q3, .ref q4, .ref q5, .int length, .int known, .int T, .ref q6, .int spot, .int isWrong, .int sign, .int digit, .int first, .int second]))]] H locs → ∀ (ls : Array Slot), lv_has ls 4 [(2, .int (nbS T a i)), (3, .int (nI i)), (0, .ref h0), (1, .int (nI a))] → W p l e rm_X3_neighbours s m ag below meth c H locs (0) (0) Q (F0 m 4 ls []) := by
    intro kf
    induction kf with
    | zero =>
      intro i hm
      exact absurd hm (Nat.not_lt_zero _)
    | succ kf4 ih4 =>
      intro i hm hi H locs S ls hl
      refine lv_iload_n hx hb dX3_neighbours_4 rfl (lv_at hl 1 rfl) ?_
      refine lv_bipush (v := nI 8) hx hb dX3_neighbours_5 (by decide) ?_
      refine lv_icmp_ge (tgt := 47) hx hb dX3_neighbours_7 (by decide) (fun c7_1 => ?_) (fun c7_1 => ?_)
      · skip
        have c7_1 : 8 ≤ i := (nI_leI (a := 8) (b := i) (by omega) (by omega)).mp c7_1
        refine lv_iload_n hx hb dX3_neighbours_47 rfl (lv_at hl 0 rfl) ?_
        exact m_iret X hr hlk hQ S () (by show (nbS T a i) = nbS T a 8; rw [show i = 8 by omega]) [0] [] (show ([0] ++ ([] : List Nat)).isPerm (List.range 1) = true by decide +kernel) rfl (Nat.le_of_ble_eq_true rfl) (Nat.le_of_ble_eq_true rfl) dX3_neighbours_48
      · skip
        have c7_1 : ¬ 8 ≤ i := fun z => c7_1 ((nI_leI (a := 8) (b := i) (by omega) (by omega)).mpr z)
        refine lv_iload_n hx hb dX3_neighbours_10 rfl (lv_at hl 0 rfl) ?_
        refine lv_iload_n hx hb dX3_neighbours_11 rfl (lv_at hl 1 rfl) ?_
        refine lv_iload_n hx hb dX3_neighbours_12 rfl (lv_at hl 3 rfl) ?_
        refine lv_icmp_eq (tgt := 38) hx hb dX3_neighbours_13 (by decide) (fun c13_2 => ?_) (fun c13_2 => ?_)
        · skip
          have c13_2 : i = a := (nI_eq (a := i) (b := a) (by omega) (by omega)).mp c13_2
          refine lv_iconst (v := nI 0) hx hb dX3_neighbours_38 (by decide) ?_
          refine lv_ior hx hb dX3_neighbours_39 ?_
          refine lv_toe (y := nbS T a (i + 1)) (by rw [nbS]; first | rw [if_pos ⟨by assumption, by assumption⟩] | rw [if_neg (fun z => z.1 (by assumption))] | rw [if_neg (fun z => by have q := z.2; simp_all)]) ?_
          refine lv_istore_n (lv' := [(2, .int (nbS T a (i + 1))), (3, .int (nI i)), (0, .ref h0), (1, .int (nI a))]) hx hb dX3_neighbours_40 rfl hl (Nat.le_of_ble_eq_true rfl) rfl (fun ls hl => ?_)
          refine lv_iinc (v := nI (i + 1)) (lv' := [(3, .int (nI (i + 1))), (2, .int (nbS T a (i + 1))), (0, .ref h0), (1, .int (nI a))]) hx hb dX3_neighbours_41 hl (k := 1) rfl (nI_add _ _) (Nat.le_of_ble_eq_true rfl) rfl (fun ls hl => ?_)
          refine lv_goto (tgt := 4) hx hb dX3_neighbours_44 (by decide) ?_
          exact ih4 (i + 1) (by omega) (by omega) _ _ S ls (lv_sub hl [1, 0, 2, 3] rfl)
        · skip
          have c13_2 : ¬ i = a := fun z => c13_2 ((nI_eq (a := i) (b := a) (by omega) (by omega)).mpr z)
          have hEd : Ed a i < 28 := Ed_lt _ (by omega) _ (by omega) (by omega)
          refine lv_aload_n hx hb dX3_neighbours_16 rfl (lv_at hl 2 rfl) ?_
          refine m_get X S 0 rfl (T := TX3) (N := 16) in_X3 rfl 8 (by decide) q1720 (fun _ h9 => h9) rfl dX3_neighbours_17 ?_
          refine lv_iload_n hx hb dX3_neighbours_20 rfl (lv_at hl 3 rfl) ?_
          refine lv_iload_n hx hb dX3_neighbours_21 rfl (lv_at hl 1 rfl) ?_
          have hq3 := S.cut (Bc := []) (Br := [[(h0, .inr (3, [.ref q1, .ref q2, .int pasts, .ref q3, .ref q4, .ref q5, .int length, .int known, .int T, .ref q6, .int spot, .int isWrong, .int sign, .int digit, .int first, .int second]))]]) [] [0] (show ([] ++ ([0] : List Nat)).isPerm (List.range 1) = true by decide +kernel) rfl rfl
          refine m_ri X S hq3 (m_runS (rest := [.int T, .int (nbS T a i)]) (As := [.int (nI a), .int (nI i)]) (n := 2) X S hq3 (mt_X3_edge G l a i (by omega) (by omega) (by omega)) (lw_S q1798 q1799 q90 q1800) (by decide +kernel) ⟨Nat.le_of_ble_eq_true rfl, Nat.le_of_ble_eq_true rfl⟩ rfl hl.1 rfl (Nat.le_of_ble_eq_true rfl) dX3_neighbours_22 ⟨(Nat.le_of_ble_eq_true rfl), (Nat.le_of_ble_eq_true rfl)⟩) (fun r4 u H locs hp4 S => ?_)
          have hp4 : r4 = nI (Ed a i) := hp4
          have hhp4_0 := hp4
          subst hhp4_0
          have S : Sw G A s.heap [[(h0, .inr (3, [.ref q1, .ref q2, .int pasts, .ref q3, .ref q4, .ref q5, .int length, .int known, .int T, .ref q6, .int spot, .int isWrong, .int sign, .int digit, .int first, .int second]))]] _ _ := S
          refine lv_ishr hx hb dX3_neighbours_25 ?_
          refine lv_iconst (v := nI 1) hx hb dX3_neighbours_26 (by decide) ?_
          refine lv_iand hx hb dX3_neighbours_27 ?_
          refine lv_toe (y := bI T (Ed a i)) (bI_of (by omega)) ?_
          refine lv_iconst (v := nI 1) hx hb dX3_neighbours_28 (by decide) ?_
          refine lv_icmp_ne (tgt := 38) hx hb dX3_neighbours_29 (by decide) (fun c29_5 => ?_) (fun c29_5 => ?_)
          · skip
            have c29_5 : bt T (Ed a i) = false := bI_n1.mp c29_5
            refine lv_iconst (v := nI 0) hx hb dX3_neighbours_38 (by decide) ?_
            refine lv_ior hx hb dX3_neighbours_39 ?_
            refine lv_toe (y := nbS T a (i + 1)) (by rw [nbS]; first | rw [if_pos ⟨by assumption, by assumption⟩] | rw [if_neg (fun z => z.1 (by assumption))] | rw [if_neg (fun z => by have q := z.2; simp_all)]) ?_
            refine lv_istore_n (lv' := [(2, .int (nbS T a (i + 1))), (3, .int (nI i)), (0, .ref h0), (1, .int (nI a))]) hx hb dX3_neighbours_40 rfl hl (Nat.le_of_ble_eq_true rfl) rfl (fun ls hl => ?_)
            refine lv_iinc (v := nI (i + 1)) (lv' := [(3, .int (nI (i + 1))), (2, .int (nbS T a (i + 1))), (0, .ref h0), (1, .int (nI a))]) hx hb dX3_neighbours_41 hl (k := 1) rfl (nI_add _ _) (Nat.le_of_ble_eq_true rfl) rfl (fun ls hl => ?_)
            refine lv_goto (tgt := 4) hx hb dX3_neighbours_44 (by decide) ?_
            exact ih4 (i + 1) (by omega) (by omega) _ _ S ls (lv_sub hl [1, 0, 2, 3] rfl)
          · skip
            have c29_5 : bt T (Ed a i) = true := bI_1.mp c29_5
            refine lv_iconst (v := nI 1) hx hb dX3_neighbours_32 (by decide) ?_
            refine lv_iload_n hx hb dX3_neighbours_33 rfl (lv_at hl 1 rfl) ?_
            refine lv_ishl hx hb dX3_neighbours_34 ?_
            refine lv_toe (y := bit i) (rfl) ?_
            refine lv_goto (tgt := 39) hx hb dX3_neighbours_35 (by decide) ?_
            refine lv_ior hx hb dX3_neighbours_39 ?_
            refine lv_toe (y := nbS T a (i + 1)) (by rw [nbS]; first | rw [if_pos ⟨by assumption, by assumption⟩] | rw [if_neg (fun z => z.1 (by assumption))] | rw [if_neg (fun z => by have q := z.2; simp_all)]) ?_
            refine lv_istore_n (lv' := [(2, .int (nbS T a (i + 1))), (3, .int (nI i)), (0, .ref h0), (1, .int (nI a))]) hx hb dX3_neighbours_40 rfl hl (Nat.le_of_ble_eq_true rfl) rfl (fun ls hl => ?_)
            refine lv_iinc (v := nI (i + 1)) (lv' := [(3, .int (nI (i + 1))), (2, .int (nbS T a (i + 1))), (0, .ref h0), (1, .int (nI a))]) hx hb dX3_neighbours_41 hl (k := 1) rfl (nI_add _ _) (Nat.le_of_ble_eq_true rfl) rfl (fun ls hl => ?_)
            refine lv_goto (tgt := 4) hx hb dX3_neighbours_44 (by decide) ?_
            exact ih4 (i + 1) (by omega) (by omega) _ _ S ls (lv_sub hl [1, 0, 2, 3] rfl)
  exact hL4 _ 0 (Nat.lt_succ_self _) (by omega) _ _ S ls (lv_sub hl [1, 0, 2, 3] rfl)

abbrev rm_X3_place : Room := { frames := 3, cells := 0, slots := 0, locals := 72 }
set_option maxHeartbeats 4000000 in
set_option maxRecDepth 100000 in
theorem mt_X3_place (G : mGG) (l : Launch) (h0 : Nat) (q1 : Nat) (q2 : Nat) (q3 : Nat) (q4 : Nat) (q5 : Nat) (q6 : Nat) (pasts : Int32) (length : Int32) (known : Int32) (there : Int32) (spot : Int32) (isWrong : Int32) (sign : Int32) (digit : Int32) (first : Int32) (second : Int32) (g : Nat → Int32) (fr : Nat → Int32) (p1 : Int32) (w : Int32) (d : Nat) (tr : Nat) (hd : g 31 = nI d) (htr : g 1 = nI tr) (htr8 : tr < 8) (hd2 : d ≤ 150) : Cg G l yX3_place (ws_ yX3_place cX3_place 3 (some FieldType.int)) rm_X3_place [.ref h0, .int p1, .int w] [[(h0, .inr (3, [.ref q1, .ref q2, .int pasts, .ref q3, .ref q4, .ref q5, .int length, .int known, .int there, .ref q6, .int spot, .int isWrong, .int sign, .int digit, .int first, .int second]))], [(q1, .inl (gA G 0, 182, .inl g))], [(q6, .inl (gA G 0, 8, .inl fr))]] (Qi G (fun (r : Int32) (u : Int32 × Int32 × (Nat → Int32)) => (r = placeS g d tr p1 w)) (fun (u : Int32 × Int32 × (Nat → Int32)) => [[(h0, .inr (3, [.ref q1, .ref q2, .int pasts, .ref q3, .ref q4, .ref q5, .int length, .int u.1, .int u.2.1, .ref q6, .int spot, .int isWrong, .int sign, .int digit, .int first, .int second]))], [(q1, .inl (gA G 0, 182, .inl g))], [(q6, .inl (gA G 0, 8, .inl u.2.2))]])) := by
  refine Cg.intro (own := RX3) (cc := cX3_place) (maxL := 3) (ret := (some FieldType.int)) (by decide +kernel) rfl rfl (Nat.le_of_ble_eq_true rfl) ?_
  intro p e s m ag below meth c A ls Q X hr hlk hnm S hl hQ
  have hx := X.1
  have hb := X.2.1
  have hl : lv_has ls 3 [(0, .ref h0), (1, .int p1), (2, .int w)] := hl
  refine lv_iload_n hx hb dX3_place_0 rfl (lv_at hl 1 rfl) ?_
  have hq1 := S.cut (Bc := []) (Br := [[(h0, .inr (3, [.ref q1, .ref q2, .int pasts, .ref q3, .ref q4, .ref q5, .int length, .int known, .int there, .ref q6, .int spot, .int isWrong, .int sign, .int digit, .int first, .int second]))], [(q1, .inl (gA G 0, 182, .inl g))], [(q6, .inl (gA G 0, 8, .inl fr))]]) [] [0, 1, 2] (show ([] ++ ([0, 1, 2] : List Nat)).isPerm (List.range 3) = true by decide +kernel) rfl rfl
  refine m_ri X S hq1 (m_runS (rest := []) (As := [.int p1]) (n := 1) X S hq1 (mt_X3_isPlace G l p1 ) (lw_S q1787 q1788 q90 q1789) (by decide +kernel) ⟨Nat.le_of_ble_eq_true rfl, Nat.le_of_ble_eq_true rfl⟩ rfl hl.1 rfl (Nat.le_of_ble_eq_true rfl) dX3_place_1 ⟨(Nat.le_of_ble_eq_true rfl), (Nat.le_of_ble_eq_true rfl)⟩) (fun r2 u H locs hp2 S => ?_)
  obtain ⟨a, rfl⟩ : ∃ z, z = u := ⟨_, rfl⟩
  have hp2 : (r2 = nI 1 ∧ p1 = nI a ∧ a < 8) ∨ (r2 = nI 0 ∧ ¬ pl p1) := hp2
  have S : Sw G A s.heap [[(h0, .inr (3, [.ref q1, .ref q2, .int pasts, .ref q3, .ref q4, .ref q5, .int length, .int known, .int there, .ref q6, .int spot, .int isWrong, .int sign, .int digit, .int first, .int second]))], [(q1, .inl (gA G 0, 182, .inl g))], [(q6, .inl (gA G 0, 8, .inl fr))]] _ _ := S
  rcases hp2 with ⟨hhp2_0, hhp2_1, hhp2_2⟩ | ⟨hhp2_0, hhp2_1⟩
  · skip
    subst hhp2_0
    subst hhp2_1
    have hf0_r2 := hhp2_2
    have S : Sw G A s.heap [[(h0, .inr (3, [.ref q1, .ref q2, .int pasts, .ref q3, .ref q4, .ref q5, .int length, .int known, .int there, .ref q6, .int spot, .int isWrong, .int sign, .int digit, .int first, .int second]))], [(q1, .inl (gA G 0, 182, .inl g))], [(q6, .inl (gA G 0, 8, .inl fr))]] _ _ := S
    refine lv_if_ne (tgt := 9) hx hb dX3_place_4 (by decide) (fun c4_3 => ?_) (fun c4_3 => absurd c4_3 (by decide))
    refine lv_aload_n hx hb dX3_place_9 rfl (lv_at hl 0 rfl) ?_
    refine lv_aload_n hx hb dX3_place_10 rfl (lv_at hl 0 rfl) ?_
    refine m_get X S 0 rfl (T := TX3) (N := 16) in_X3 rfl 0 (by decide) q1712 (fun _ h9 => h9) rfl dX3_place_11 ?_
    refine lv_bipush (v := nI 17) hx hb dX3_place_14 (by decide) ?_
    refine m_iald X S 1 rfl (x := nI 17) (j := 17) rfl (vp_in_nI (by decide) (by decide)) (v := g 17) rfl dX3_place_16 ?_
    have hq4 := S.cut (Bc := [[(h0, .inr (3, [.ref q1, .ref q2, .int pasts, .ref q3, .ref q4, .ref q5, .int length, .int known, .int there, .ref q6, .int spot, .int isWrong, .int sign, .int digit, .int first, .int second]))], [(q1, .inl (gA G 0, 182, .inl g))]]) (Br := [[(q6, .inl (gA G 0, 8, .inl fr))]]) [0, 1] [2] (show ([0, 1] ++ ([2] : List Nat)).isPerm (List.range 3) = true by decide +kernel) rfl rfl
    refine m_rv X S hq4 (m_runV (rest := []) (As := [.int (g 17)]) (n := 1) X S hq4 (mt_X3_follows G l h0 q1 q2 q3 q4 q5 q6 pasts length known there spot isWrong sign digit first second g (g 17) ) (lw_V q1816 q1818 qs51 q90 q1819) (m_recv X S 0 rfl rfl) (by decide +kernel) ⟨Nat.le_of_ble_eq_true rfl, Nat.le_of_ble_eq_true rfl⟩ rfl hl.1 rfl (Nat.le_of_ble_eq_true rfl) dX3_place_17 ⟨(Nat.le_of_ble_eq_true rfl), (Nat.le_of_ble_eq_true rfl)⟩) (fun u H locs hp5 S => ?_)
    obtain ⟨k8, rfl⟩ : ∃ z, z = u := ⟨_, rfl⟩
    have hp5 : (k8 = knownS g (g 17)) := hp5
    have S : Sw G A s.heap [[(q6, .inl (gA G 0, 8, .inl fr))], [(h0, .inr (3, [.ref q1, .ref q2, .int pasts, .ref q3, .ref q4, .ref q5, .int length, .int k8, .int (k8 &&& g 0), .ref q6, .int spot, .int isWrong, .int sign, .int digit, .int first, .int second]))], [(q1, .inl (gA G 0, 182, .inl g))]] _ _ := S
    have hhp5_0 := hp5
    subst hhp5_0
    have S : Sw G A s.heap [[(q6, .inl (gA G 0, 8, .inl fr))], [(h0, .inr (3, [.ref q1, .ref q2, .int pasts, .ref q3, .ref q4, .ref q5, .int length, .int (knownS g (g 17)), .int ((knownS g (g 17)) &&& g 0), .ref q6, .int spot, .int isWrong, .int sign, .int digit, .int first, .int second]))], [(q1, .inl (gA G 0, 182, .inl g))]] _ _ := S
    refine lv_iload_n hx hb dX3_place_20 rfl (lv_at hl 2 rfl) ?_
    rcases sw_in w 4 (by decide) with c21_6 | ⟨j7, hj7, c21_6⟩
    · skip
      refine lv_tableOut (tgt := 123) hx hb dX3_place_21 c21_6 (by decide) ?_
      refine lv_bipush (v := (-2 : Int32)) hx hb dX3_place_123 (by decide) ?_
      exact m_iret X hr hlk hQ S ⟨knownS g (g 17), (knownS g (g 17)) &&& g 0, fr⟩ (by show ((-2 : Int32) = placeS g d tr (nI a) w); unfold placeS; rw [if_neg (npl1 (by assumption)), if_pos c21_6]) [1, 2, 0] [] (show ([1, 2, 0] ++ ([] : List Nat)).isPerm (List.range 3) = true by decide +kernel) rfl (Nat.le_of_ble_eq_true rfl) (Nat.le_of_ble_eq_true rfl) dX3_place_125
    · rcases (show j7 = 0 ∨ j7 = 1 ∨ j7 = 2 ∨ j7 = 3 ∨ j7 = 4 by omega) with rfl | rfl | rfl | rfl | rfl
      · skip
        subst c21_6
        refine lv_tableIn (x := nI 0) (off := 35) (tgt := 56) hx hb dX3_place_21 (by decide) (by decide) (by decide) (by decide) ?_
        refine lv_aload_n hx hb dX3_place_56 rfl (lv_at hl 0 rfl) ?_
        have hq8 := S.cut (Bc := [[(h0, .inr (3, [.ref q1, .ref q2, .int pasts, .ref q3, .ref q4, .ref q5, .int length, .int (knownS g (g 17)), .int ((knownS g (g 17)) &&& g 0), .ref q6, .int spot, .int isWrong, .int sign, .int digit, .int first, .int second]))], [(q1, .inl (gA G 0, 182, .inl g))]]) (Br := [[(q6, .inl (gA G 0, 8, .inl fr))]]) [1, 2] [0] (show ([1, 2] ++ ([0] : List Nat)).isPerm (List.range 3) = true by decide +kernel) rfl rfl
        refine m_ri X S hq8 (m_runV (rest := []) (As := []) (n := 0) X S hq8 (mt_X3_hasBegun G l h0 q1 q2 q3 q4 q5 q6 pasts length (knownS g (g 17)) ((knownS g (g 17)) &&& g 0) spot isWrong sign digit first second g ) (lw_V q1790 q1792 qs48 q90 q1793) (m_recv X S 1 rfl rfl) (by decide +kernel) ⟨Nat.le_of_ble_eq_true rfl, Nat.le_of_ble_eq_true rfl⟩ rfl hl.1 rfl (Nat.le_of_ble_eq_true rfl) dX3_place_57 ⟨(Nat.le_of_ble_eq_true rfl), (Nat.le_of_ble_eq_true rfl)⟩) (fun r9 u H locs hp9 S => ?_)
        have hp9 : (r9 = nI 1 ∧ ¬ g 6 ≤ 0) ∨ (r9 = nI 0 ∧ g 6 ≤ 0) := hp9
        have S : Sw G A s.heap [[(q6, .inl (gA G 0, 8, .inl fr))], [(h0, .inr (3, [.ref q1, .ref q2, .int pasts, .ref q3, .ref q4, .ref q5, .int length, .int (knownS g (g 17)), .int ((knownS g (g 17)) &&& g 0), .ref q6, .int spot, .int isWrong, .int sign, .int digit, .int first, .int second]))], [(q1, .inl (gA G 0, 182, .inl g))]] _ _ := S
        rcases hp9 with ⟨hhp9_0, hhp9_1⟩ | ⟨hhp9_0, hhp9_1⟩
        · skip
          subst hhp9_0
          have hf0_r9 := hhp9_1
          have S : Sw G A s.heap [[(q6, .inl (gA G 0, 8, .inl fr))], [(h0, .inr (3, [.ref q1, .ref q2, .int pasts, .ref q3, .ref q4, .ref q5, .int length, .int (knownS g (g 17)), .int ((knownS g (g 17)) &&& g 0), .ref q6, .int spot, .int isWrong, .int sign, .int digit, .int first, .int second]))], [(q1, .inl (gA G 0, 182, .inl g))]] _ _ := S
          refine lv_if_eq (tgt := 80) hx hb dX3_place_60 (by decide) (fun c60_10 => absurd c60_10 (by decide)) (fun c60_10 => ?_)
          refine lv_iload_n hx hb dX3_place_63 rfl (lv_at hl 1 rfl) ?_
          have hq11 := S.cut (Bc := []) (Br := [[(q6, .inl (gA G 0, 8, .inl fr))], [(h0, .inr (3, [.ref q1, .ref q2, .int pasts, .ref q3, .ref q4, .ref q5, .int length, .int (knownS g (g 17)), .int ((knownS g (g 17)) &&& g 0), .ref q6, .int spot, .int isWrong, .int sign, .int digit, .int first, .int second]))], [(q1, .inl (gA G 0, 182, .inl g))]]) [] [0, 1, 2] (show ([] ++ ([0, 1, 2] : List Nat)).isPerm (List.range 3) = true by decide +kernel) rfl rfl
          refine m_ri X S hq11 (m_runS (rest := []) (As := [.int (nI a)]) (n := 1) X S hq11 (mt_X3_around G l a (by omega)) (lw_S q1820 q1821 q90 q1822) (by decide +kernel) ⟨Nat.le_of_ble_eq_true rfl, Nat.le_of_ble_eq_true rfl⟩ rfl hl.1 rfl (Nat.le_of_ble_eq_true rfl) dX3_place_64 ⟨(Nat.le_of_ble_eq_true rfl), (Nat.le_of_ble_eq_true rfl)⟩) (fun r12 u H locs hp12 S => ?_)
          have hp12 : r12 = aroundS a 8 := hp12
          have hhp12_0 := hp12
          subst hhp12_0
          have S : Sw G A s.heap [[(q6, .inl (gA G 0, 8, .inl fr))], [(h0, .inr (3, [.ref q1, .ref q2, .int pasts, .ref q3, .ref q4, .ref q5, .int length, .int (knownS g (g 17)), .int ((knownS g (g 17)) &&& g 0), .ref q6, .int spot, .int isWrong, .int sign, .int digit, .int first, .int second]))], [(q1, .inl (gA G 0, 182, .inl g))]] _ _ := S
          refine lv_aload_n hx hb dX3_place_67 rfl (lv_at hl 0 rfl) ?_
          refine m_get X S 1 rfl (T := TX3) (N := 16) in_X3 rfl 0 (by decide) q1712 (fun _ h9 => h9) rfl dX3_place_68 ?_
          refine lv_iconst (v := nI 0) hx hb dX3_place_71 (by decide) ?_
          refine m_iald X S 2 rfl (x := nI 0) (j := 0) rfl (vp_in_nI (by decide) (by decide)) (v := g 0) rfl dX3_place_72 ?_
          refine lv_iand hx hb dX3_place_73 ?_
          have hq13 := S.cut (Bc := []) (Br := [[(q6, .inl (gA G 0, 8, .inl fr))], [(h0, .inr (3, [.ref q1, .ref q2, .int pasts, .ref q3, .ref q4, .ref q5, .int length, .int (knownS g (g 17)), .int ((knownS g (g 17)) &&& g 0), .ref q6, .int spot, .int isWrong, .int sign, .int digit, .int first, .int second]))], [(q1, .inl (gA G 0, 182, .inl g))]]) [] [0, 1, 2] (show ([] ++ ([0, 1, 2] : List Nat)).isPerm (List.range 3) = true by decide +kernel) rfl rfl
          refine m_ri X S hq13 (m_runS (rest := []) (As := [.int ((aroundS a 8) &&& (g 0))]) (n := 1) X S hq13 (mt_X3_many G l ((aroundS a 8) &&& (g 0)) ) (lw_S q1801 q1802 q90 q1803) (by decide +kernel) ⟨Nat.le_of_ble_eq_true rfl, Nat.le_of_ble_eq_true rfl⟩ rfl hl.1 rfl (Nat.le_of_ble_eq_true rfl) dX3_place_74 ⟨(Nat.le_of_ble_eq_true rfl), (Nat.le_of_ble_eq_true rfl)⟩) (fun r14 u H locs hp14 S => ?_)
          have hp14 : r14 = nI (card ((aroundS a 8) &&& (g 0))) := hp14
          have hhp14_0 := hp14
          subst hhp14_0
          have S : Sw G A s.heap [[(q6, .inl (gA G 0, 8, .inl fr))], [(h0, .inr (3, [.ref q1, .ref q2, .int pasts, .ref q3, .ref q4, .ref q5, .int length, .int (knownS g (g 17)), .int ((knownS g (g 17)) &&& g 0), .ref q6, .int spot, .int isWrong, .int sign, .int digit, .int first, .int second]))], [(q1, .inl (gA G 0, 182, .inl g))]] _ _ := S
          refine lv_goto (tgt := 82) hx hb dX3_place_77 (by decide) ?_
          exact m_iret X hr hlk hQ S ⟨knownS g (g 17), (knownS g (g 17)) &&& g 0, fr⟩ (by show ((nI (card ((aroundS a 8) &&& (g 0)))) = placeS g d tr (nI a) (nI 0)); unfold placeS; rw [if_neg (npl1 (by assumption)), if_neg (by decide), tn_nI (n := a) (by omega), tn_nI (by decide)]; show _ = (if g 6 ≤ nI 0 then (-6 : Int32) else nI (card (aroundS a 8 &&& g 0))); first | (rw [if_pos (by assumption)]; done) | (rw [if_neg (by assumption)]; done)) [1, 2, 0] [] (show ([1, 2, 0] ++ ([] : List Nat)).isPerm (List.range 3) = true by decide +kernel) rfl (Nat.le_of_ble_eq_true rfl) (Nat.le_of_ble_eq_true rfl) dX3_place_82
        · skip
          subst hhp9_0
          have hf0_r9 := hhp9_1
          have S : Sw G A s.heap [[(q6, .inl (gA G 0, 8, .inl fr))], [(h0, .inr (3, [.ref q1, .ref q2, .int pasts, .ref q3, .ref q4, .ref q5, .int length, .int (knownS g (g 17)), .int ((knownS g (g 17)) &&& g 0), .ref q6, .int spot, .int isWrong, .int sign, .int digit, .int first, .int second]))], [(q1, .inl (gA G 0, 182, .inl g))]] _ _ := S
          refine lv_if_eq (tgt := 80) hx hb dX3_place_60 (by decide) (fun c60_15 => ?_) (fun c60_15 => absurd (by decide) c60_15)
          refine lv_bipush (v := (-6 : Int32)) hx hb dX3_place_80 (by decide) ?_
          exact m_iret X hr hlk hQ S ⟨knownS g (g 17), (knownS g (g 17)) &&& g 0, fr⟩ (by show ((-6 : Int32) = placeS g d tr (nI a) (nI 0)); unfold placeS; rw [if_neg (npl1 (by assumption)), if_neg (by decide), tn_nI (n := a) (by omega), tn_nI (by decide)]; show _ = (if g 6 ≤ nI 0 then (-6 : Int32) else nI (card (aroundS a 8 &&& g 0))); first | (rw [if_pos (by assumption)]; done) | (rw [if_neg (by assumption)]; done)) [1, 2, 0] [] (show ([1, 2, 0] ++ ([] : List Nat)).isPerm (List.range 3) = true by decide +kernel) rfl (Nat.le_of_ble_eq_true rfl) (Nat.le_of_ble_eq_true rfl) dX3_place_82
      · skip
        subst c21_6
        refine lv_tableIn (x := nI 1) (off := 62) (tgt := 83) hx hb dX3_place_21 (by decide) (by decide) (by decide) (by decide) ?_
        refine lv_iload_n hx hb dX3_place_83 rfl (lv_at hl 1 rfl) ?_
        have hq16 := S.cut (Bc := []) (Br := [[(q6, .inl (gA G 0, 8, .inl fr))], [(h0, .inr (3, [.ref q1, .ref q2, .int pasts, .ref q3, .ref q4, .ref q5, .int length, .int (knownS g (g 17)), .int ((knownS g (g 17)) &&& g 0), .ref q6, .int spot, .int isWrong, .int sign, .int digit, .int first, .int second]))], [(q1, .inl (gA G 0, 182, .inl g))]]) [] [0, 1, 2] (show ([] ++ ([0, 1, 2] : List Nat)).isPerm (List.range 3) = true by decide +kernel) rfl rfl
        refine m_ri X S hq16 (m_runS (rest := []) (As := [.int (nI a)]) (n := 1) X S hq16 (mt_X3_around G l a (by omega)) (lw_S q1820 q1821 q90 q1822) (by decide +kernel) ⟨Nat.le_of_ble_eq_true rfl, Nat.le_of_ble_eq_true rfl⟩ rfl hl.1 rfl (Nat.le_of_ble_eq_true rfl) dX3_place_84 ⟨(Nat.le_of_ble_eq_true rfl), (Nat.le_of_ble_eq_true rfl)⟩) (fun r17 u H locs hp17 S => ?_)
        have hp17 : r17 = aroundS a 8 := hp17
        have hhp17_0 := hp17
        subst hhp17_0
        have S : Sw G A s.heap [[(q6, .inl (gA G 0, 8, .inl fr))], [(h0, .inr (3, [.ref q1, .ref q2, .int pasts, .ref q3, .ref q4, .ref q5, .int length, .int (knownS g (g 17)), .int ((knownS g (g 17)) &&& g 0), .ref q6, .int spot, .int isWrong, .int sign, .int digit, .int first, .int second]))], [(q1, .inl (gA G 0, 182, .inl g))]] _ _ := S
        refine lv_aload_n hx hb dX3_place_87 rfl (lv_at hl 0 rfl) ?_
        refine m_get X S 1 rfl (T := TX3) (N := 16) in_X3 rfl 8 (by decide) q1720 (fun _ h9 => h9) rfl dX3_place_88 ?_
        refine lv_iand hx hb dX3_place_91 ?_
        have hq18 := S.cut (Bc := []) (Br := [[(q6, .inl (gA G 0, 8, .inl fr))], [(h0, .inr (3, [.ref q1, .ref q2, .int pasts, .ref q3, .ref q4, .ref q5, .int length, .int (knownS g (g 17)), .int ((knownS g (g 17)) &&& g 0), .ref q6, .int spot, .int isWrong, .int sign, .int digit, .int first, .int second]))], [(q1, .inl (gA G 0, 182, .inl g))]]) [] [0, 1, 2] (show ([] ++ ([0, 1, 2] : List Nat)).isPerm (List.range 3) = true by decide +kernel) rfl rfl
        refine m_ri X S hq18 (m_runS (rest := []) (As := [.int ((aroundS a 8) &&& ((knownS g (g 17)) &&& g 0))]) (n := 1) X S hq18 (mt_X3_many G l ((aroundS a 8) &&& ((knownS g (g 17)) &&& g 0)) ) (lw_S q1801 q1802 q90 q1803) (by decide +kernel) ⟨Nat.le_of_ble_eq_true rfl, Nat.le_of_ble_eq_true rfl⟩ rfl hl.1 rfl (Nat.le_of_ble_eq_true rfl) dX3_place_92 ⟨(Nat.le_of_ble_eq_true rfl), (Nat.le_of_ble_eq_true rfl)⟩) (fun r19 u H locs hp19 S => ?_)
        have hp19 : r19 = nI (card ((aroundS a 8) &&& ((knownS g (g 17)) &&& g 0))) := hp19
        have hhp19_0 := hp19
        subst hhp19_0
        have S : Sw G A s.heap [[(q6, .inl (gA G 0, 8, .inl fr))], [(h0, .inr (3, [.ref q1, .ref q2, .int pasts, .ref q3, .ref q4, .ref q5, .int length, .int (knownS g (g 17)), .int ((knownS g (g 17)) &&& g 0), .ref q6, .int spot, .int isWrong, .int sign, .int digit, .int first, .int second]))], [(q1, .inl (gA G 0, 182, .inl g))]] _ _ := S
        exact m_iret X hr hlk hQ S ⟨knownS g (g 17), (knownS g (g 17)) &&& g 0, fr⟩ (by show ((nI (card ((aroundS a 8) &&& ((knownS g (g 17)) &&& g 0)))) = placeS g d tr (nI a) (nI 1)); unfold placeS; rw [if_neg (npl1 (by assumption)), if_neg (by decide), tn_nI (n := a) (by omega), tn_nI (by decide)]; rfl) [1, 2, 0] [] (show ([1, 2, 0] ++ ([] : List Nat)).isPerm (List.range 3) = true by decide +kernel) rfl (Nat.le_of_ble_eq_true rfl) (Nat.le_of_ble_eq_true rfl) dX3_place_95
      · skip
        subst c21_6
        refine lv_tableIn (x := nI 2) (off := 75) (tgt := 96) hx hb dX3_place_21 (by decide) (by decide) (by decide) (by decide) ?_
        refine lv_iload_n hx hb dX3_place_96 rfl (lv_at hl 1 rfl) ?_
        have hq20 := S.cut (Bc := []) (Br := [[(q6, .inl (gA G 0, 8, .inl fr))], [(h0, .inr (3, [.ref q1, .ref q2, .int pasts, .ref q3, .ref q4, .ref q5, .int length, .int (knownS g (g 17)), .int ((knownS g (g 17)) &&& g 0), .ref q6, .int spot, .int isWrong, .int sign, .int digit, .int first, .int second]))], [(q1, .inl (gA G 0, 182, .inl g))]]) [] [0, 1, 2] (show ([] ++ ([0, 1, 2] : List Nat)).isPerm (List.range 3) = true by decide +kernel) rfl rfl
        refine m_ri X S hq20 (m_runS (rest := []) (As := [.int (nI a)]) (n := 1) X S hq20 (mt_X3_around G l a (by omega)) (lw_S q1820 q1821 q90 q1822) (by decide +kernel) ⟨Nat.le_of_ble_eq_true rfl, Nat.le_of_ble_eq_true rfl⟩ rfl hl.1 rfl (Nat.le_of_ble_eq_true rfl) dX3_place_97 ⟨(Nat.le_of_ble_eq_true rfl), (Nat.le_of_ble_eq_true rfl)⟩) (fun r21 u H locs hp21 S => ?_)
        have hp21 : r21 = aroundS a 8 := hp21
        have hhp21_0 := hp21
        subst hhp21_0
        have S : Sw G A s.heap [[(q6, .inl (gA G 0, 8, .inl fr))], [(h0, .inr (3, [.ref q1, .ref q2, .int pasts, .ref q3, .ref q4, .ref q5, .int length, .int (knownS g (g 17)), .int ((knownS g (g 17)) &&& g 0), .ref q6, .int spot, .int isWrong, .int sign, .int digit, .int first, .int second]))], [(q1, .inl (gA G 0, 182, .inl g))]] _ _ := S
        refine lv_aload_n hx hb dX3_place_100 rfl (lv_at hl 0 rfl) ?_
        refine m_get X S 1 rfl (T := TX3) (N := 16) in_X3 rfl 7 (by decide) q1719 (fun _ h9 => h9) rfl dX3_place_101 ?_
        refine lv_iconst (v := (-1 : Int32)) hx hb dX3_place_104 (by decide) ?_
        refine lv_ixor hx hb dX3_place_105 ?_
        refine lv_iand hx hb dX3_place_106 ?_
        have hq22 := S.cut (Bc := []) (Br := [[(q6, .inl (gA G 0, 8, .inl fr))], [(h0, .inr (3, [.ref q1, .ref q2, .int pasts, .ref q3, .ref q4, .ref q5, .int length, .int (knownS g (g 17)), .int ((knownS g (g 17)) &&& g 0), .ref q6, .int spot, .int isWrong, .int sign, .int digit, .int first, .int second]))], [(q1, .inl (gA G 0, 182, .inl g))]]) [] [0, 1, 2] (show ([] ++ ([0, 1, 2] : List Nat)).isPerm (List.range 3) = true by decide +kernel) rfl rfl
        refine m_ri X S hq22 (m_runS (rest := []) (As := [.int ((aroundS a 8) &&& ((knownS g (g 17)) ^^^ (-1 : Int32)))]) (n := 1) X S hq22 (mt_X3_many G l ((aroundS a 8) &&& ((knownS g (g 17)) ^^^ (-1 : Int32))) ) (lw_S q1801 q1802 q90 q1803) (by decide +kernel) ⟨Nat.le_of_ble_eq_true rfl, Nat.le_of_ble_eq_true rfl⟩ rfl hl.1 rfl (Nat.le_of_ble_eq_true rfl) dX3_place_107 ⟨(Nat.le_of_ble_eq_true rfl), (Nat.le_of_ble_eq_true rfl)⟩) (fun r23 u H locs hp23 S => ?_)
        have hp23 : r23 = nI (card ((aroundS a 8) &&& ((knownS g (g 17)) ^^^ (-1 : Int32)))) := hp23
        have hhp23_0 := hp23
        subst hhp23_0
        have S : Sw G A s.heap [[(q6, .inl (gA G 0, 8, .inl fr))], [(h0, .inr (3, [.ref q1, .ref q2, .int pasts, .ref q3, .ref q4, .ref q5, .int length, .int (knownS g (g 17)), .int ((knownS g (g 17)) &&& g 0), .ref q6, .int spot, .int isWrong, .int sign, .int digit, .int first, .int second]))], [(q1, .inl (gA G 0, 182, .inl g))]] _ _ := S
        exact m_iret X hr hlk hQ S ⟨knownS g (g 17), (knownS g (g 17)) &&& g 0, fr⟩ (by show ((nI (card ((aroundS a 8) &&& ((knownS g (g 17)) ^^^ (-1 : Int32))))) = placeS g d tr (nI a) (nI 2)); unfold placeS; rw [if_neg (npl1 (by assumption)), if_neg (by decide), tn_nI (n := a) (by omega), tn_nI (by decide)]; rfl) [1, 2, 0] [] (show ([1, 2, 0] ++ ([] : List Nat)).isPerm (List.range 3) = true by decide +kernel) rfl (Nat.le_of_ble_eq_true rfl) (Nat.le_of_ble_eq_true rfl) dX3_place_110
      · skip
        subst c21_6
        refine lv_tableIn (x := nI 3) (off := 90) (tgt := 111) hx hb dX3_place_21 (by decide) (by decide) (by decide) (by decide) ?_
        refine lv_aload_n hx hb dX3_place_111 rfl (lv_at hl 0 rfl) ?_
        refine lv_iload_n hx hb dX3_place_112 rfl (lv_at hl 1 rfl) ?_
        have hq24 := S.cut (Bc := [[(h0, .inr (3, [.ref q1, .ref q2, .int pasts, .ref q3, .ref q4, .ref q5, .int length, .int (knownS g (g 17)), .int ((knownS g (g 17)) &&& g 0), .ref q6, .int spot, .int isWrong, .int sign, .int digit, .int first, .int second]))], [(q1, .inl (gA G 0, 182, .inl g))], [(q6, .inl (gA G 0, 8, .inl fr))]]) (Br := []) [1, 2, 0] [] (show ([1, 2, 0] ++ ([] : List Nat)).isPerm (List.range 3) = true by decide +kernel) rfl rfl
        refine m_ri X S hq24 (m_runV (rest := []) (As := [.int (nI a)]) (n := 1) X S hq24 (mt_X3_told G l h0 q1 q2 q3 q4 q5 q6 pasts length (knownS g (g 17)) ((knownS g (g 17)) &&& g 0) spot isWrong sign digit first second g fr a d tr (by omega) (by omega) (by omega) (by omega) (by omega)) (lw_V q1928 q1930 qs68 q90 q1931) (m_recv X S 1 rfl rfl) (by decide +kernel) ⟨Nat.le_of_ble_eq_true rfl, Nat.le_of_ble_eq_true rfl⟩ rfl hl.1 rfl (Nat.le_of_ble_eq_true rfl) dX3_place_113 ⟨(Nat.le_of_ble_eq_true rfl), (Nat.le_of_ble_eq_true rfl)⟩) (fun r25 u H locs hp25 S => ?_)
        obtain ⟨u26, rfl⟩ : ∃ z, z = u := ⟨_, rfl⟩
        have hp25 : (r25 = toldS g a d tr) := hp25
        have S : Sw G A s.heap [[(h0, .inr (3, [.ref q1, .ref q2, .int pasts, .ref q3, .ref q4, .ref q5, .int length, .int (knownS g (g 17)), .int ((knownS g (g 17)) &&& g 0), .ref q6, .int spot, .int isWrong, .int sign, .int digit, .int first, .int second]))], [(q1, .inl (gA G 0, 182, .inl g))], [(q6, .inl (gA G 0, 8, .inl u26))]] _ _ := S
        have hhp25_0 := hp25
        subst hhp25_0
        have S : Sw G A s.heap [[(h0, .inr (3, [.ref q1, .ref q2, .int pasts, .ref q3, .ref q4, .ref q5, .int length, .int (knownS g (g 17)), .int ((knownS g (g 17)) &&& g 0), .ref q6, .int spot, .int isWrong, .int sign, .int digit, .int first, .int second]))], [(q1, .inl (gA G 0, 182, .inl g))], [(q6, .inl (gA G 0, 8, .inl u26))]] _ _ := S
        exact m_iret X hr hlk hQ S ⟨knownS g (g 17), (knownS g (g 17)) &&& g 0, u26⟩ (by show ((toldS g a d tr) = placeS g d tr (nI a) (nI 3)); unfold placeS; rw [if_neg (npl1 (by assumption)), if_neg (by decide), tn_nI (n := a) (by omega), tn_nI (by decide)]; rfl) [0, 1, 2] [] (show ([0, 1, 2] ++ ([] : List Nat)).isPerm (List.range 3) = true by decide +kernel) rfl (Nat.le_of_ble_eq_true rfl) (Nat.le_of_ble_eq_true rfl) dX3_place_116
      · skip
        subst c21_6
        refine lv_tableIn (x := nI 4) (off := 96) (tgt := 117) hx hb dX3_place_21 (by decide) (by decide) (by decide) (by decide) ?_
        refine lv_aload_n hx hb dX3_place_117 rfl (lv_at hl 0 rfl) ?_
        refine lv_iload_n hx hb dX3_place_118 rfl (lv_at hl 1 rfl) ?_
        have hq27 := S.cut (Bc := [[(h0, .inr (3, [.ref q1, .ref q2, .int pasts, .ref q3, .ref q4, .ref q5, .int length, .int (knownS g (g 17)), .int ((knownS g (g 17)) &&& g 0), .ref q6, .int spot, .int isWrong, .int sign, .int digit, .int first, .int second]))]]) (Br := [[(q6, .inl (gA G 0, 8, .inl fr))], [(q1, .inl (gA G 0, 182, .inl g))]]) [1] [0, 2] (show ([1] ++ ([0, 2] : List Nat)).isPerm (List.range 3) = true by decide +kernel) rfl rfl
        refine m_ri X S hq27 (m_runV (rest := []) (As := [.int (nI a)]) (n := 1) X S hq27 (mt_X3_neighbours G l h0 q1 q2 q3 q4 q5 q6 pasts length (knownS g (g 17)) there spot isWrong sign digit first second ((knownS g (g 17)) &&& g 0) a (by omega)) (lw_V q1932 q1934 qs69 q90 q1935) (m_recv X S 1 rfl rfl) (by decide +kernel) ⟨Nat.le_of_ble_eq_true rfl, Nat.le_of_ble_eq_true rfl⟩ rfl hl.1 rfl (Nat.le_of_ble_eq_true rfl) dX3_place_119 ⟨(Nat.le_of_ble_eq_true rfl), (Nat.le_of_ble_eq_true rfl)⟩) (fun r28 u H locs hp28 S => ?_)
        have hp28 : r28 = nbS ((knownS g (g 17)) &&& g 0) a 8 := hp28
        have hhp28_0 := hp28
        subst hhp28_0
        have S : Sw G A s.heap [[(q6, .inl (gA G 0, 8, .inl fr))], [(q1, .inl (gA G 0, 182, .inl g))], [(h0, .inr (3, [.ref q1, .ref q2, .int pasts, .ref q3, .ref q4, .ref q5, .int length, .int (knownS g (g 17)), .int ((knownS g (g 17)) &&& g 0), .ref q6, .int spot, .int isWrong, .int sign, .int digit, .int first, .int second]))]] _ _ := S
        exact m_iret X hr hlk hQ S ⟨knownS g (g 17), (knownS g (g 17)) &&& g 0, fr⟩ (by show ((nbS ((knownS g (g 17)) &&& g 0) a 8) = placeS g d tr (nI a) (nI 4)); unfold placeS; rw [if_neg (npl1 (by assumption)), if_neg (by decide), tn_nI (n := a) (by omega), tn_nI (by decide)]; rfl) [2, 1, 0] [] (show ([2, 1, 0] ++ ([] : List Nat)).isPerm (List.range 3) = true by decide +kernel) rfl (Nat.le_of_ble_eq_true rfl) (Nat.le_of_ble_eq_true rfl) dX3_place_122
  · skip
    subst hhp2_0
    have hf0_r2 := hhp2_1
    have S : Sw G A s.heap [[(h0, .inr (3, [.ref q1, .ref q2, .int pasts, .ref q3, .ref q4, .ref q5, .int length, .int known, .int there, .ref q6, .int spot, .int isWrong, .int sign, .int digit, .int first, .int second]))], [(q1, .inl (gA G 0, 182, .inl g))], [(q6, .inl (gA G 0, 8, .inl fr))]] _ _ := S
    refine lv_if_ne (tgt := 9) hx hb dX3_place_4 (by decide) (fun c4_29 => absurd (by decide) c4_29) (fun c4_29 => ?_)
    refine lv_iconst (v := (-1 : Int32)) hx hb dX3_place_7 (by decide) ?_
    exact m_iret X hr hlk hQ S ⟨known, there, fr⟩ (by show ((-1 : Int32) = placeS g d tr p1 w); unfold placeS; rw [if_pos (by assumption)]) [0, 1, 2] [] (show ([0, 1, 2] ++ ([] : List Nat)).isPerm (List.range 3) = true by decide +kernel) rfl (Nat.le_of_ble_eq_true rfl) (Nat.le_of_ble_eq_true rfl) dX3_place_8

abbrev rm_X3_dug : Room := { frames := 1, cells := 0, slots := 0, locals := 22 }
set_option maxHeartbeats 4000000 in
set_option maxRecDepth 100000 in
theorem mt_X3_dug (G : mGG) (l : Launch) (h0 : Nat) (q1 : Nat) (q2 : Nat) (q3 : Nat) (q4 : Nat) (q5 : Nat) (q6 : Nat) (pasts : Int32) (length : Int32) (known : Int32) (there : Int32) (spot : Int32) (isWrong : Int32) (sign : Int32) (digit : Int32) (first : Int32) (second : Int32) (g : Nat → Int32) (p1 : Int32) (d : Nat) (hd : g 31 = nI d) (hd2 : d ≤ 150) : Cg G l yX3_dug (ws_ yX3_dug cX3_dug 2 (some FieldType.int)) rm_X3_dug [.ref h0, .int p1] [[(h0, .inr (3, [.ref q1, .ref q2, .int pasts, .ref q3, .ref q4, .ref q5, .int length, .int known, .int there, .ref q6, .int spot, .int isWrong, .int sign, .int digit, .int first, .int second]))], [(q1, .inl (gA G 0, 182, .inl g))]] (Qi G (fun (r : Int32) (u : Unit) => (r = dugS g d p1)) (fun (u : Unit) => [[(h0, .inr (3, [.ref q1, .ref q2, .int pasts, .ref q3, .ref q4, .ref q5, .int length, .int known, .int there, .ref q6, .int spot, .int isWrong, .int sign, .int digit, .int first, .int second]))], [(q1, .inl (gA G 0, 182, .inl g))]])) := by
  refine Cg.intro (own := RX3) (cc := cX3_dug) (maxL := 2) (ret := (some FieldType.int)) (by decide +kernel) rfl rfl (Nat.le_of_ble_eq_true rfl) ?_
  intro p e s m ag below meth c A ls Q X hr hlk hnm S hl hQ
  have hx := X.1
  have hb := X.2.1
  have hl : lv_has ls 2 [(0, .ref h0), (1, .int p1)] := hl
  refine lv_iload_n hx hb dX3_dug_0 rfl (lv_at hl 1 rfl) ?_
  refine lv_iconst (v := nI 0) hx hb dX3_dug_1 (by decide) ?_
  refine lv_aload_n hx hb dX3_dug_2 rfl (lv_at hl 0 rfl) ?_
  refine m_get X S 0 rfl (T := TX3) (N := 16) in_X3 rfl 0 (by decide) q1712 (fun _ h9 => h9) rfl dX3_dug_3 ?_
  refine lv_bipush (v := nI 31) hx hb dX3_dug_6 (by decide) ?_
  refine m_iald X S 1 rfl (x := nI 31) (j := 31) rfl (vp_in_nI (by decide) (by decide)) (v := nI d) hd dX3_dug_8 ?_
  refine lv_iconst (v := nI 1) hx hb dX3_dug_9 (by decide) ?_
  refine lv_isub hx hb dX3_dug_10 ?_
  have hq1 := S.cut (Bc := []) (Br := [[(h0, .inr (3, [.ref q1, .ref q2, .int pasts, .ref q3, .ref q4, .ref q5, .int length, .int known, .int there, .ref q6, .int spot, .int isWrong, .int sign, .int digit, .int first, .int second]))], [(q1, .inl (gA G 0, 182, .inl g))]]) [] [0, 1] (show ([] ++ ([0, 1] : List Nat)).isPerm (List.range 2) = true by decide +kernel) rfl rfl
  refine m_ri X S hq1 (m_runS (rest := []) (As := [.int p1, .int (nI 0), .int ((nI d) - (nI 1))]) (n := 3) X S hq1 (mt_X3_in G l p1 (nI 0) ((nI d) - (nI 1)) ) (lw_S q1766 q1767 q90 q1768) (by decide +kernel) ⟨Nat.le_of_ble_eq_true rfl, Nat.le_of_ble_eq_true rfl⟩ rfl hl.1 rfl (Nat.le_of_ble_eq_true rfl) dX3_dug_11 ⟨(Nat.le_of_ble_eq_true rfl), (Nat.le_of_ble_eq_true rfl)⟩) (fun r2 u H locs hp2 S => ?_)
  have hp2 : (r2 = nI 1 ∧ ((nI 0) ≤ p1 ∧ p1 ≤ ((nI d) - (nI 1)))) ∨ (r2 = nI 0 ∧ (¬ ((nI 0) ≤ p1 ∧ p1 ≤ ((nI d) - (nI 1))))) := hp2
  have S : Sw G A s.heap [[(h0, .inr (3, [.ref q1, .ref q2, .int pasts, .ref q3, .ref q4, .ref q5, .int length, .int known, .int there, .ref q6, .int spot, .int isWrong, .int sign, .int digit, .int first, .int second]))], [(q1, .inl (gA G 0, 182, .inl g))]] _ _ := S
  rcases hp2 with ⟨hhp2_0, hhp2_1⟩ | ⟨hhp2_0, hhp2_1⟩
  · skip
    subst hhp2_0
    have hf0_r2 := hhp2_1
    have S : Sw G A s.heap [[(h0, .inr (3, [.ref q1, .ref q2, .int pasts, .ref q3, .ref q4, .ref q5, .int length, .int known, .int there, .ref q6, .int spot, .int isWrong, .int sign, .int digit, .int first, .int second]))], [(q1, .inl (gA G 0, 182, .inl g))]] _ _ := S
    have hin0 : nI 0 ≤ p1 ∧ p1 ≤ nI d - nI 1 := by assumption
    obtain ⟨j, hj, rfl⟩ := dug_of hd2 hin0
    refine lv_if_eq (tgt := 29) hx hb dX3_dug_14 (by decide) (fun c14_3 => absurd c14_3 (by decide)) (fun c14_3 => ?_)
    refine lv_aload_n hx hb dX3_dug_17 rfl (lv_at hl 0 rfl) ?_
    refine m_get X S 0 rfl (T := TX3) (N := 16) in_X3 rfl 0 (by decide) q1712 (fun _ h9 => h9) rfl dX3_dug_18 ?_
    refine lv_bipush (v := nI 32) hx hb dX3_dug_21 (by decide) ?_
    refine lv_iload_n hx hb dX3_dug_23 rfl (lv_at hl 1 rfl) ?_
    refine lv_iadd hx hb dX3_dug_24 ?_
    refine lv_toe (y := nI (32 + j)) (nI_add _ _) ?_
    refine m_iald X S 1 rfl (x := nI (32 + j)) (j := 32 + j) (nI_clamp (by omega)) (vp_in_nI (by omega) (by omega)) (v := g (32 + j)) rfl dX3_dug_25 ?_
    refine lv_goto (tgt := 30) hx hb dX3_dug_26 (by decide) ?_
    exact m_iret X hr hlk hQ S () (by show ((g (32 + j)) = dugS g d (nI j)); unfold dugS; first | (rw [if_pos hin0, tn_nI (by omega)]; done) | (rw [if_neg (by assumption)]; done)) [0, 1] [] (show ([0, 1] ++ ([] : List Nat)).isPerm (List.range 2) = true by decide +kernel) rfl (Nat.le_of_ble_eq_true rfl) (Nat.le_of_ble_eq_true rfl) dX3_dug_30
  · skip
    subst hhp2_0
    have hf0_r2 := hhp2_1
    have S : Sw G A s.heap [[(h0, .inr (3, [.ref q1, .ref q2, .int pasts, .ref q3, .ref q4, .ref q5, .int length, .int known, .int there, .ref q6, .int spot, .int isWrong, .int sign, .int digit, .int first, .int second]))], [(q1, .inl (gA G 0, 182, .inl g))]] _ _ := S
    refine lv_if_eq (tgt := 29) hx hb dX3_dug_14 (by decide) (fun c14_4 => ?_) (fun c14_4 => absurd (by decide) c14_4)
    refine lv_iconst (v := (-1 : Int32)) hx hb dX3_dug_29 (by decide) ?_
    exact m_iret X hr hlk hQ S () (by show ((-1 : Int32) = dugS g d p1); unfold dugS; first | (rw [if_pos hin0, tn_nI (by omega)]; done) | (rw [if_neg (by assumption)]; done)) [0, 1] [] (show ([0, 1] ++ ([] : List Nat)).isPerm (List.range 2) = true by decide +kernel) rfl (Nat.le_of_ble_eq_true rfl) (Nat.le_of_ble_eq_true rfl) dX3_dug_30

abbrev rm_X3_count : Room := { frames := 3, cells := 0, slots := 0, locals := 72 }
set_option maxHeartbeats 4000000 in
set_option maxRecDepth 100000 in
theorem mt_X3_count (G : mGG) (l : Launch) (h0 : Nat) (q1 : Nat) (q2 : Nat) (q3 : Nat) (q4 : Nat) (q5 : Nat) (q6 : Nat) (known : Int32) (there : Int32) (spot : Int32) (isWrong : Int32) (sign : Int32) (digit : Int32) (first : Int32) (second : Int32) (g : Nat → Int32) (w : Int32) (n : Nat) (L : Nat) (t : Nat) (ht : g 7 = nI t) (ht2 : t ≤ 150) : Cg G l yX3_count (ws_ yX3_count cX3_count 2 (some FieldType.int)) rm_X3_count [.ref h0, .int w] [[(h0, .inr (3, [.ref q1, .ref q2, .int (nI n), .ref q3, .ref q4, .ref q5, .int (nI L), .int known, .int there, .ref q6, .int spot, .int isWrong, .int sign, .int digit, .int first, .int second]))], [(q1, .inl (gA G 0, 182, .inl g))]] (Qi G (fun (r : Int32) (u : Int32 × Int32) => (r = countS g t L n w)) (fun (u : Int32 × Int32) => [[(h0, .inr (3, [.ref q1, .ref q2, .int (nI n), .ref q3, .ref q4, .ref q5, .int (nI L), .int u.1, .int u.2, .ref q6, .int spot, .int isWrong, .int sign, .int digit, .int first, .int second]))], [(q1, .inl (gA G 0, 182, .inl g))]])) := by
  refine Cg.intro (own := RX3) (cc := cX3_count) (maxL := 2) (ret := (some FieldType.int)) (by decide +kernel) rfl rfl (Nat.le_of_ble_eq_true rfl) ?_
  intro p e s m ag below meth c A ls Q X hr hlk hnm S hl hQ
  have hx := X.1
  have hb := X.2.1
  have hl : lv_has ls 2 [(0, .ref h0), (1, .int w)] := hl
  refine lv_aload_n hx hb dX3_count_0 rfl (lv_at hl 0 rfl) ?_
  refine lv_aload_n hx hb dX3_count_1 rfl (lv_at hl 0 rfl) ?_
  refine m_get X S 0 rfl (T := TX3) (N := 16) in_X3 rfl 0 (by decide) q1712 (fun _ h9 => h9) rfl dX3_count_2 ?_
  refine lv_bipush (v := nI 17) hx hb dX3_count_5 (by decide) ?_
  refine m_iald X S 1 rfl (x := nI 17) (j := 17) rfl (vp_in_nI (by decide) (by decide)) (v := g 17) rfl dX3_count_7 ?_
  have hq1 := S.cut (Bc := [[(h0, .inr (3, [.ref q1, .ref q2, .int (nI n), .ref q3, .ref q4, .ref q5, .int (nI L), .int known, .int there, .ref q6, .int spot, .int isWrong, .int sign, .int digit, .int first, .int second]))], [(q1, .inl (gA G 0, 182, .inl g))]]) (Br := []) [0, 1] [] (show ([0, 1] ++ ([] : List Nat)).isPerm (List.range 2) = true by decide +kernel) rfl rfl
  refine m_rv X S hq1 (m_runV (rest := []) (As := [.int (g 17)]) (n := 1) X S hq1 (mt_X3_follows G l h0 q1 q2 q3 q4 q5 q6 (nI n) (nI L) known there spot isWrong sign digit first second g (g 17) ) (lw_V q1816 q1818 qs51 q90 q1819) (m_recv X S 0 rfl rfl) (by decide +kernel) ⟨Nat.le_of_ble_eq_true rfl, Nat.le_of_ble_eq_true rfl⟩ rfl hl.1 rfl (Nat.le_of_ble_eq_true rfl) dX3_count_8 ⟨(Nat.le_of_ble_eq_true rfl), (Nat.le_of_ble_eq_true rfl)⟩) (fun u H locs hp2 S => ?_)
  obtain ⟨k8, rfl⟩ : ∃ z, z = u := ⟨_, rfl⟩
  have hp2 : (k8 = knownS g (g 17)) := hp2
  have S : Sw G A s.heap [[(h0, .inr (3, [.ref q1, .ref q2, .int (nI n), .ref q3, .ref q4, .ref q5, .int (nI L), .int k8, .int (k8 &&& g 0), .ref q6, .int spot, .int isWrong, .int sign, .int digit, .int first, .int second]))], [(q1, .inl (gA G 0, 182, .inl g))]] _ _ := S
  have hhp2_0 := hp2
  subst hhp2_0
  have S : Sw G A s.heap [[(h0, .inr (3, [.ref q1, .ref q2, .int (nI n), .ref q3, .ref q4, .ref q5, .int (nI L), .int (knownS g (g 17)), .int ((knownS g (g 17)) &&& g 0), .ref q6, .int spot, .int isWrong, .int sign, .int digit, .int first, .int second]))], [(q1, .inl (gA G 0, 182, .inl g))]] _ _ := S
  refine lv_iload_n hx hb dX3_count_11 rfl (lv_at hl 1 rfl) ?_
  rcases sw_in w 13 (by decide) with c12_3 | ⟨j4, hj4, c12_3⟩
  · skip
    refine lv_tableOut (tgt := 180) hx hb dX3_count_12 c12_3 (by decide) ?_
    refine lv_bipush (v := (-2 : Int32)) hx hb dX3_count_180 (by decide) ?_
    exact m_iret X hr hlk hQ S ⟨knownS g (g 17), (knownS g (g 17)) &&& g 0⟩ (by show ((-2 : Int32) = countS g t L n w); unfold countS; rw [if_pos c12_3]) [0, 1] [] (show ([0, 1] ++ ([] : List Nat)).isPerm (List.range 2) = true by decide +kernel) rfl (Nat.le_of_ble_eq_true rfl) (Nat.le_of_ble_eq_true rfl) dX3_count_182
  · rcases (show j4 = 0 ∨ j4 = 1 ∨ j4 = 2 ∨ j4 = 3 ∨ j4 = 4 ∨ j4 = 5 ∨ j4 = 6 ∨ j4 = 7 ∨ j4 = 8 ∨ j4 = 9 ∨ j4 = 10 ∨ j4 = 11 ∨ j4 = 12 ∨ j4 = 13 by omega) with rfl | rfl | rfl | rfl | rfl | rfl | rfl | rfl | rfl | rfl | rfl | rfl | rfl | rfl
    · skip
      subst c12_3
      refine lv_tableIn (x := nI 0) (off := 72) (tgt := 84) hx hb dX3_count_12 (by decide) (by decide) (by decide) (by decide) ?_
      refine lv_aload_n hx hb dX3_count_84 rfl (lv_at hl 0 rfl) ?_
      refine m_get X S 0 rfl (T := TX3) (N := 16) in_X3 rfl 0 (by decide) q1712 (fun _ h9 => h9) rfl dX3_count_85 ?_
      refine lv_bipush (v := nI 7) hx hb dX3_count_88 (by decide) ?_
      refine m_iald X S 1 rfl (x := nI 7) (j := 7) rfl (vp_in_nI (by decide) (by decide)) (v := g 7) rfl dX3_count_90 ?_
      exact m_iret X hr hlk hQ S ⟨knownS g (g 17), (knownS g (g 17)) &&& g 0⟩ (by show ((g 7) = countS g t L n (nI 0)); unfold countS; rw [if_neg (by decide), tn_nI (by decide)]; rfl) [0, 1] [] (show ([0, 1] ++ ([] : List Nat)).isPerm (List.range 2) = true by decide +kernel) rfl (Nat.le_of_ble_eq_true rfl) (Nat.le_of_ble_eq_true rfl) dX3_count_91
    · skip
      subst c12_3
      refine lv_tableIn (x := nI 1) (off := 80) (tgt := 92) hx hb dX3_count_12 (by decide) (by decide) (by decide) (by decide) ?_
      refine lv_aload_n hx hb dX3_count_92 rfl (lv_at hl 0 rfl) ?_
      have hq5 := S.cut (Bc := [[(h0, .inr (3, [.ref q1, .ref q2, .int (nI n), .ref q3, .ref q4, .ref q5, .int (nI L), .int (knownS g (g 17)), .int ((knownS g (g 17)) &&& g 0), .ref q6, .int spot, .int isWrong, .int sign, .int digit, .int first, .int second]))], [(q1, .inl (gA G 0, 182, .inl g))]]) (Br := []) [0, 1] [] (show ([0, 1] ++ ([] : List Nat)).isPerm (List.range 2) = true by decide +kernel) rfl rfl
      refine m_ri X S hq5 (m_runV (rest := []) (As := []) (n := 0) X S hq5 (mt_X3_turn G l h0 q1 q2 q3 q4 q5 q6 (nI n) (nI L) (knownS g (g 17)) ((knownS g (g 17)) &&& g 0) spot isWrong sign digit first second g t (by omega) (by omega)) (lw_V q1839 q1841 qs55 q90 q1842) (m_recv X S 0 rfl rfl) (by decide +kernel) ⟨Nat.le_of_ble_eq_true rfl, Nat.le_of_ble_eq_true rfl⟩ rfl hl.1 rfl (Nat.le_of_ble_eq_true rfl) dX3_count_93 ⟨(Nat.le_of_ble_eq_true rfl), (Nat.le_of_ble_eq_true rfl)⟩) (fun r6 u H locs hp6 S => ?_)
      have hp6 : r6 = nI (t % 3) := hp6
      have hhp6_0 := hp6
      subst hhp6_0
      have S : Sw G A s.heap [[(h0, .inr (3, [.ref q1, .ref q2, .int (nI n), .ref q3, .ref q4, .ref q5, .int (nI L), .int (knownS g (g 17)), .int ((knownS g (g 17)) &&& g 0), .ref q6, .int spot, .int isWrong, .int sign, .int digit, .int first, .int second]))], [(q1, .inl (gA G 0, 182, .inl g))]] _ _ := S
      exact m_iret X hr hlk hQ S ⟨knownS g (g 17), (knownS g (g 17)) &&& g 0⟩ (by show ((nI (t % 3)) = countS g t L n (nI 1)); unfold countS; rw [if_neg (by decide), tn_nI (by decide)]; rfl) [0, 1] [] (show ([0, 1] ++ ([] : List Nat)).isPerm (List.range 2) = true by decide +kernel) rfl (Nat.le_of_ble_eq_true rfl) (Nat.le_of_ble_eq_true rfl) dX3_count_96
    · skip
      subst c12_3
      refine lv_tableIn (x := nI 2) (off := 85) (tgt := 97) hx hb dX3_count_12 (by decide) (by decide) (by decide) (by decide) ?_
      refine lv_aload_n hx hb dX3_count_97 rfl (lv_at hl 0 rfl) ?_
      refine m_get X S 0 rfl (T := TX3) (N := 16) in_X3 rfl 0 (by decide) q1712 (fun _ h9 => h9) rfl dX3_count_98 ?_
      refine lv_bipush (v := nI 6) hx hb dX3_count_101 (by decide) ?_
      refine m_iald X S 1 rfl (x := nI 6) (j := 6) rfl (vp_in_nI (by decide) (by decide)) (v := g 6) rfl dX3_count_103 ?_
      exact m_iret X hr hlk hQ S ⟨knownS g (g 17), (knownS g (g 17)) &&& g 0⟩ (by show ((g 6) = countS g t L n (nI 2)); unfold countS; rw [if_neg (by decide), tn_nI (by decide)]; rfl) [0, 1] [] (show ([0, 1] ++ ([] : List Nat)).isPerm (List.range 2) = true by decide +kernel) rfl (Nat.le_of_ble_eq_true rfl) (Nat.le_of_ble_eq_true rfl) dX3_count_104
    · skip
      subst c12_3
      refine lv_tableIn (x := nI 3) (off := 93) (tgt := 105) hx hb dX3_count_12 (by decide) (by decide) (by decide) (by decide) ?_
      refine lv_aload_n hx hb dX3_count_105 rfl (lv_at hl 0 rfl) ?_
      refine m_get X S 0 rfl (T := TX3) (N := 16) in_X3 rfl 0 (by decide) q1712 (fun _ h9 => h9) rfl dX3_count_106 ?_
      refine lv_bipush (v := nI 30) hx hb dX3_count_109 (by decide) ?_
      refine m_iald X S 1 rfl (x := nI 30) (j := 30) rfl (vp_in_nI (by decide) (by decide)) (v := g 30) rfl dX3_count_111 ?_
      exact m_iret X hr hlk hQ S ⟨knownS g (g 17), (knownS g (g 17)) &&& g 0⟩ (by show ((g 30) = countS g t L n (nI 3)); unfold countS; rw [if_neg (by decide), tn_nI (by decide)]; rfl) [0, 1] [] (show ([0, 1] ++ ([] : List Nat)).isPerm (List.range 2) = true by decide +kernel) rfl (Nat.le_of_ble_eq_true rfl) (Nat.le_of_ble_eq_true rfl) dX3_count_112
    · skip
      subst c12_3
      refine lv_tableIn (x := nI 4) (off := 101) (tgt := 113) hx hb dX3_count_12 (by decide) (by decide) (by decide) (by decide) ?_
      refine lv_aload_n hx hb dX3_count_113 rfl (lv_at hl 0 rfl) ?_
      refine m_get X S 0 rfl (T := TX3) (N := 16) in_X3 rfl 7 (by decide) q1719 (fun _ h9 => h9) rfl dX3_count_114 ?_
      have hq7 := S.cut (Bc := []) (Br := [[(h0, .inr (3, [.ref q1, .ref q2, .int (nI n), .ref q3, .ref q4, .ref q5, .int (nI L), .int (knownS g (g 17)), .int ((knownS g (g 17)) &&& g 0), .ref q6, .int spot, .int isWrong, .int sign, .int digit, .int first, .int second]))], [(q1, .inl (gA G 0, 182, .inl g))]]) [] [0, 1] (show ([] ++ ([0, 1] : List Nat)).isPerm (List.range 2) = true by decide +kernel) rfl rfl
      refine m_ri X S hq7 (m_runS (rest := []) (As := [.int (knownS g (g 17))]) (n := 1) X S hq7 (mt_X3_many G l (knownS g (g 17)) ) (lw_S q1801 q1802 q90 q1803) (by decide +kernel) ⟨Nat.le_of_ble_eq_true rfl, Nat.le_of_ble_eq_true rfl⟩ rfl hl.1 rfl (Nat.le_of_ble_eq_true rfl) dX3_count_117 ⟨(Nat.le_of_ble_eq_true rfl), (Nat.le_of_ble_eq_true rfl)⟩) (fun r8 u H locs hp8 S => ?_)
      have hp8 : r8 = nI (card (knownS g (g 17))) := hp8
      have hhp8_0 := hp8
      subst hhp8_0
      have S : Sw G A s.heap [[(h0, .inr (3, [.ref q1, .ref q2, .int (nI n), .ref q3, .ref q4, .ref q5, .int (nI L), .int (knownS g (g 17)), .int ((knownS g (g 17)) &&& g 0), .ref q6, .int spot, .int isWrong, .int sign, .int digit, .int first, .int second]))], [(q1, .inl (gA G 0, 182, .inl g))]] _ _ := S
      exact m_iret X hr hlk hQ S ⟨knownS g (g 17), (knownS g (g 17)) &&& g 0⟩ (by show ((nI (card (knownS g (g 17)))) = countS g t L n (nI 4)); unfold countS; rw [if_neg (by decide), tn_nI (by decide)]; rfl) [0, 1] [] (show ([0, 1] ++ ([] : List Nat)).isPerm (List.range 2) = true by decide +kernel) rfl (Nat.le_of_ble_eq_true rfl) (Nat.le_of_ble_eq_true rfl) dX3_count_120
    · skip
      subst c12_3
      refine lv_tableIn (x := nI 5) (off := 109) (tgt := 121) hx hb dX3_count_12 (by decide) (by decide) (by decide) (by decide) ?_
      refine lv_aload_n hx hb dX3_count_121 rfl (lv_at hl 0 rfl) ?_
      refine m_get X S 0 rfl (T := TX3) (N := 16) in_X3 rfl 8 (by decide) q1720 (fun _ h9 => h9) rfl dX3_count_122 ?_
      have hq9 := S.cut (Bc := []) (Br := [[(h0, .inr (3, [.ref q1, .ref q2, .int (nI n), .ref q3, .ref q4, .ref q5, .int (nI L), .int (knownS g (g 17)), .int ((knownS g (g 17)) &&& g 0), .ref q6, .int spot, .int isWrong, .int sign, .int digit, .int first, .int second]))], [(q1, .inl (gA G 0, 182, .inl g))]]) [] [0, 1] (show ([] ++ ([0, 1] : List Nat)).isPerm (List.range 2) = true by decide +kernel) rfl rfl
      refine m_ri X S hq9 (m_runS (rest := []) (As := [.int ((knownS g (g 17)) &&& g 0)]) (n := 1) X S hq9 (mt_X3_many G l ((knownS g (g 17)) &&& g 0) ) (lw_S q1801 q1802 q90 q1803) (by decide +kernel) ⟨Nat.le_of_ble_eq_true rfl, Nat.le_of_ble_eq_true rfl⟩ rfl hl.1 rfl (Nat.le_of_ble_eq_true rfl) dX3_count_125 ⟨(Nat.le_of_ble_eq_true rfl), (Nat.le_of_ble_eq_true rfl)⟩) (fun r10 u H locs hp10 S => ?_)
      have hp10 : r10 = nI (card ((knownS g (g 17)) &&& g 0)) := hp10
      have hhp10_0 := hp10
      subst hhp10_0
      have S : Sw G A s.heap [[(h0, .inr (3, [.ref q1, .ref q2, .int (nI n), .ref q3, .ref q4, .ref q5, .int (nI L), .int (knownS g (g 17)), .int ((knownS g (g 17)) &&& g 0), .ref q6, .int spot, .int isWrong, .int sign, .int digit, .int first, .int second]))], [(q1, .inl (gA G 0, 182, .inl g))]] _ _ := S
      exact m_iret X hr hlk hQ S ⟨knownS g (g 17), (knownS g (g 17)) &&& g 0⟩ (by show ((nI (card ((knownS g (g 17)) &&& g 0))) = countS g t L n (nI 5)); unfold countS; rw [if_neg (by decide), tn_nI (by decide)]; rfl) [0, 1] [] (show ([0, 1] ++ ([] : List Nat)).isPerm (List.range 2) = true by decide +kernel) rfl (Nat.le_of_ble_eq_true rfl) (Nat.le_of_ble_eq_true rfl) dX3_count_128
    · skip
      subst c12_3
      refine lv_tableIn (x := nI 6) (off := 117) (tgt := 129) hx hb dX3_count_12 (by decide) (by decide) (by decide) (by decide) ?_
      refine lv_aload_n hx hb dX3_count_129 rfl (lv_at hl 0 rfl) ?_
      refine lv_iconst (v := nI 0) hx hb dX3_count_130 (by decide) ?_
      have hq11 := S.cut (Bc := [[(h0, .inr (3, [.ref q1, .ref q2, .int (nI n), .ref q3, .ref q4, .ref q5, .int (nI L), .int (knownS g (g 17)), .int (knownS g (g 17) &&& g 0), .ref q6, .int spot, .int isWrong, .int sign, .int digit, .int first, .int second]))], [(q1, .inl (gA G 0, 182, .inl g))]]) (Br := []) [0, 1] [] (show ([0, 1] ++ ([] : List Nat)).isPerm (List.range 2) = true by decide +kernel) rfl rfl
      refine m_ri X S hq11 (m_runV (rest := []) (As := [.int (nI 0)]) (n := 1) X S hq11 (mt_X3_shown G l h0 q1 q2 q3 q4 q5 q6 (nI n) (nI L) known there spot isWrong sign digit first second g 0 (by omega)) (lw_V q1917 q1919 qs67 q90 q1920) (m_recv X S 0 rfl rfl) (by decide +kernel) ⟨Nat.le_of_ble_eq_true rfl, Nat.le_of_ble_eq_true rfl⟩ rfl hl.1 rfl (Nat.le_of_ble_eq_true rfl) dX3_count_131 ⟨(Nat.le_of_ble_eq_true rfl), (Nat.le_of_ble_eq_true rfl)⟩) (fun r12 u H locs hp12 S => ?_)
      have hp12 : r12 = nI (shownS g 0) := hp12
      have hhp12_0 := hp12
      subst hhp12_0
      have S : Sw G A s.heap [[(h0, .inr (3, [.ref q1, .ref q2, .int (nI n), .ref q3, .ref q4, .ref q5, .int (nI L), .int (knownS g (g 17)), .int (knownS g (g 17) &&& g 0), .ref q6, .int spot, .int isWrong, .int sign, .int digit, .int first, .int second]))], [(q1, .inl (gA G 0, 182, .inl g))]] _ _ := S
      refine lv_aload_n hx hb dX3_count_134 rfl (lv_at hl 0 rfl) ?_
      refine lv_iconst (v := nI 1) hx hb dX3_count_135 (by decide) ?_
      have hq13 := S.cut (Bc := [[(h0, .inr (3, [.ref q1, .ref q2, .int (nI n), .ref q3, .ref q4, .ref q5, .int (nI L), .int (knownS g (g 17)), .int (knownS g (g 17) &&& g 0), .ref q6, .int spot, .int isWrong, .int sign, .int digit, .int first, .int second]))], [(q1, .inl (gA G 0, 182, .inl g))]]) (Br := []) [0, 1] [] (show ([0, 1] ++ ([] : List Nat)).isPerm (List.range 2) = true by decide +kernel) rfl rfl
      refine m_ri X S hq13 (m_runV (rest := [.int (nI (shownS g 0))]) (As := [.int (nI 1)]) (n := 1) X S hq13 (mt_X3_shown G l h0 q1 q2 q3 q4 q5 q6 (nI n) (nI L) known there spot isWrong sign digit first second g 1 (by omega)) (lw_V q1917 q1919 qs67 q90 q1920) (m_recv X S 0 rfl rfl) (by decide +kernel) ⟨Nat.le_of_ble_eq_true rfl, Nat.le_of_ble_eq_true rfl⟩ rfl hl.1 rfl (Nat.le_of_ble_eq_true rfl) dX3_count_136 ⟨(Nat.le_of_ble_eq_true rfl), (Nat.le_of_ble_eq_true rfl)⟩) (fun r14 u H locs hp14 S => ?_)
      have hp14 : r14 = nI (shownS g 1) := hp14
      have hhp14_0 := hp14
      subst hhp14_0
      have S : Sw G A s.heap [[(h0, .inr (3, [.ref q1, .ref q2, .int (nI n), .ref q3, .ref q4, .ref q5, .int (nI L), .int (knownS g (g 17)), .int (knownS g (g 17) &&& g 0), .ref q6, .int spot, .int isWrong, .int sign, .int digit, .int first, .int second]))], [(q1, .inl (gA G 0, 182, .inl g))]] _ _ := S
      refine lv_iadd hx hb dX3_count_139 ?_
      refine lv_toe (y := nI ((shownS g 0) + (shownS g 1))) (nI_add _ _) ?_
      refine lv_aload_n hx hb dX3_count_140 rfl (lv_at hl 0 rfl) ?_
      refine lv_iconst (v := nI 2) hx hb dX3_count_141 (by decide) ?_
      have hq15 := S.cut (Bc := [[(h0, .inr (3, [.ref q1, .ref q2, .int (nI n), .ref q3, .ref q4, .ref q5, .int (nI L), .int (knownS g (g 17)), .int (knownS g (g 17) &&& g 0), .ref q6, .int spot, .int isWrong, .int sign, .int digit, .int first, .int second]))], [(q1, .inl (gA G 0, 182, .inl g))]]) (Br := []) [0, 1] [] (show ([0, 1] ++ ([] : List Nat)).isPerm (List.range 2) = true by decide +kernel) rfl rfl
      refine m_ri X S hq15 (m_runV (rest := [.int (nI ((shownS g 0) + (shownS g 1)))]) (As := [.int (nI 2)]) (n := 1) X S hq15 (mt_X3_shown G l h0 q1 q2 q3 q4 q5 q6 (nI n) (nI L) known there spot isWrong sign digit first second g 2 (by omega)) (lw_V q1917 q1919 qs67 q90 q1920) (m_recv X S 0 rfl rfl) (by decide +kernel) ⟨Nat.le_of_ble_eq_true rfl, Nat.le_of_ble_eq_true rfl⟩ rfl hl.1 rfl (Nat.le_of_ble_eq_true rfl) dX3_count_142 ⟨(Nat.le_of_ble_eq_true rfl), (Nat.le_of_ble_eq_true rfl)⟩) (fun r16 u H locs hp16 S => ?_)
      have hp16 : r16 = nI (shownS g 2) := hp16
      have hhp16_0 := hp16
      subst hhp16_0
      have S : Sw G A s.heap [[(h0, .inr (3, [.ref q1, .ref q2, .int (nI n), .ref q3, .ref q4, .ref q5, .int (nI L), .int (knownS g (g 17)), .int (knownS g (g 17) &&& g 0), .ref q6, .int spot, .int isWrong, .int sign, .int digit, .int first, .int second]))], [(q1, .inl (gA G 0, 182, .inl g))]] _ _ := S
      refine lv_iadd hx hb dX3_count_145 ?_
      refine lv_toe (y := nI (((shownS g 0) + (shownS g 1)) + (shownS g 2))) (nI_add _ _) ?_
      exact m_iret X hr hlk hQ S ⟨knownS g (g 17), knownS g (g 17) &&& g 0⟩ (by show ((nI (((shownS g 0) + (shownS g 1)) + (shownS g 2))) = countS g t L n (nI 6)); unfold countS; rw [if_neg (by decide), tn_nI (by decide)]; rfl) [0, 1] [] (show ([0, 1] ++ ([] : List Nat)).isPerm (List.range 2) = true by decide +kernel) rfl (Nat.le_of_ble_eq_true rfl) (Nat.le_of_ble_eq_true rfl) dX3_count_146
    · skip
      subst c12_3
      refine lv_tableIn (x := nI 7) (off := 135) (tgt := 147) hx hb dX3_count_12 (by decide) (by decide) (by decide) (by decide) ?_
      refine lv_aload_n hx hb dX3_count_147 rfl (lv_at hl 0 rfl) ?_
      refine m_get X S 0 rfl (T := TX3) (N := 16) in_X3 rfl 0 (by decide) q1712 (fun _ h9 => h9) rfl dX3_count_148 ?_
      refine lv_bipush (v := nI 17) hx hb dX3_count_151 (by decide) ?_
      refine m_iald X S 1 rfl (x := nI 17) (j := 17) rfl (vp_in_nI (by decide) (by decide)) (v := g 17) rfl dX3_count_153 ?_
      have hq17 := S.cut (Bc := []) (Br := [[(h0, .inr (3, [.ref q1, .ref q2, .int (nI n), .ref q3, .ref q4, .ref q5, .int (nI L), .int (knownS g (g 17)), .int ((knownS g (g 17)) &&& g 0), .ref q6, .int spot, .int isWrong, .int sign, .int digit, .int first, .int second]))], [(q1, .inl (gA G 0, 182, .inl g))]]) [] [0, 1] (show ([] ++ ([0, 1] : List Nat)).isPerm (List.range 2) = true by decide +kernel) rfl rfl
      refine m_ri X S hq17 (m_runS (rest := []) (As := [.int (g 17)]) (n := 1) X S hq17 (mt_X3_many G l (g 17) ) (lw_S q1801 q1802 q90 q1803) (by decide +kernel) ⟨Nat.le_of_ble_eq_true rfl, Nat.le_of_ble_eq_true rfl⟩ rfl hl.1 rfl (Nat.le_of_ble_eq_true rfl) dX3_count_154 ⟨(Nat.le_of_ble_eq_true rfl), (Nat.le_of_ble_eq_true rfl)⟩) (fun r18 u H locs hp18 S => ?_)
      have hp18 : r18 = nI (card (g 17)) := hp18
      have hhp18_0 := hp18
      subst hhp18_0
      have S : Sw G A s.heap [[(h0, .inr (3, [.ref q1, .ref q2, .int (nI n), .ref q3, .ref q4, .ref q5, .int (nI L), .int (knownS g (g 17)), .int ((knownS g (g 17)) &&& g 0), .ref q6, .int spot, .int isWrong, .int sign, .int digit, .int first, .int second]))], [(q1, .inl (gA G 0, 182, .inl g))]] _ _ := S
      exact m_iret X hr hlk hQ S ⟨knownS g (g 17), (knownS g (g 17)) &&& g 0⟩ (by show ((nI (card (g 17))) = countS g t L n (nI 7)); unfold countS; rw [if_neg (by decide), tn_nI (by decide)]; rfl) [0, 1] [] (show ([0, 1] ++ ([] : List Nat)).isPerm (List.range 2) = true by decide +kernel) rfl (Nat.le_of_ble_eq_true rfl) (Nat.le_of_ble_eq_true rfl) dX3_count_157
    · skip
      subst c12_3
      refine lv_tableIn (x := nI 8) (off := 146) (tgt := 158) hx hb dX3_count_12 (by decide) (by decide) (by decide) (by decide) ?_
      refine lv_aload_n hx hb dX3_count_158 rfl (lv_at hl 0 rfl) ?_
      refine m_get X S 0 rfl (T := TX3) (N := 16) in_X3 rfl 0 (by decide) q1712 (fun _ h9 => h9) rfl dX3_count_159 ?_
      refine lv_iconst (v := nI 2) hx hb dX3_count_162 (by decide) ?_
      refine lv_iload_n hx hb dX3_count_163 rfl (lv_at hl 1 rfl) ?_
      refine lv_iadd hx hb dX3_count_164 ?_
      refine lv_toe (y := nI 10) (nI_add _ _) ?_
      refine lv_bipush (v := nI 8) hx hb dX3_count_165 (by decide) ?_
      refine lv_isub hx hb dX3_count_167 ?_
      refine lv_toe (y := nI 2) (pk_sub (by omega)) ?_
      refine m_iald X S 1 rfl (x := nI 2) (j := 2) rfl (vp_in_nI (by decide) (by decide)) (v := g 2) rfl dX3_count_168 ?_
      exact m_iret X hr hlk hQ S ⟨knownS g (g 17), (knownS g (g 17)) &&& g 0⟩ (by show ((g 2) = countS g t L n (nI 8)); unfold countS; rw [if_neg (by decide), tn_nI (by decide)]; rfl) [0, 1] [] (show ([0, 1] ++ ([] : List Nat)).isPerm (List.range 2) = true by decide +kernel) rfl (Nat.le_of_ble_eq_true rfl) (Nat.le_of_ble_eq_true rfl) dX3_count_169
    · skip
      subst c12_3
      refine lv_tableIn (x := nI 9) (off := 146) (tgt := 158) hx hb dX3_count_12 (by decide) (by decide) (by decide) (by decide) ?_
      refine lv_aload_n hx hb dX3_count_158 rfl (lv_at hl 0 rfl) ?_
      refine m_get X S 0 rfl (T := TX3) (N := 16) in_X3 rfl 0 (by decide) q1712 (fun _ h9 => h9) rfl dX3_count_159 ?_
      refine lv_iconst (v := nI 2) hx hb dX3_count_162 (by decide) ?_
      refine lv_iload_n hx hb dX3_count_163 rfl (lv_at hl 1 rfl) ?_
      refine lv_iadd hx hb dX3_count_164 ?_
      refine lv_toe (y := nI 11) (nI_add _ _) ?_
      refine lv_bipush (v := nI 8) hx hb dX3_count_165 (by decide) ?_
      refine lv_isub hx hb dX3_count_167 ?_
      refine lv_toe (y := nI 3) (pk_sub (by omega)) ?_
      refine m_iald X S 1 rfl (x := nI 3) (j := 3) rfl (vp_in_nI (by decide) (by decide)) (v := g 3) rfl dX3_count_168 ?_
      exact m_iret X hr hlk hQ S ⟨knownS g (g 17), (knownS g (g 17)) &&& g 0⟩ (by show ((g 3) = countS g t L n (nI 9)); unfold countS; rw [if_neg (by decide), tn_nI (by decide)]; rfl) [0, 1] [] (show ([0, 1] ++ ([] : List Nat)).isPerm (List.range 2) = true by decide +kernel) rfl (Nat.le_of_ble_eq_true rfl) (Nat.le_of_ble_eq_true rfl) dX3_count_169
    · skip
      subst c12_3
      refine lv_tableIn (x := nI 10) (off := 146) (tgt := 158) hx hb dX3_count_12 (by decide) (by decide) (by decide) (by decide) ?_
      refine lv_aload_n hx hb dX3_count_158 rfl (lv_at hl 0 rfl) ?_
      refine m_get X S 0 rfl (T := TX3) (N := 16) in_X3 rfl 0 (by decide) q1712 (fun _ h9 => h9) rfl dX3_count_159 ?_
      refine lv_iconst (v := nI 2) hx hb dX3_count_162 (by decide) ?_
      refine lv_iload_n hx hb dX3_count_163 rfl (lv_at hl 1 rfl) ?_
      refine lv_iadd hx hb dX3_count_164 ?_
      refine lv_toe (y := nI 12) (nI_add _ _) ?_
      refine lv_bipush (v := nI 8) hx hb dX3_count_165 (by decide) ?_
      refine lv_isub hx hb dX3_count_167 ?_
      refine lv_toe (y := nI 4) (pk_sub (by omega)) ?_
      refine m_iald X S 1 rfl (x := nI 4) (j := 4) rfl (vp_in_nI (by decide) (by decide)) (v := g 4) rfl dX3_count_168 ?_
      exact m_iret X hr hlk hQ S ⟨knownS g (g 17), (knownS g (g 17)) &&& g 0⟩ (by show ((g 4) = countS g t L n (nI 10)); unfold countS; rw [if_neg (by decide), tn_nI (by decide)]; rfl) [0, 1] [] (show ([0, 1] ++ ([] : List Nat)).isPerm (List.range 2) = true by decide +kernel) rfl (Nat.le_of_ble_eq_true rfl) (Nat.le_of_ble_eq_true rfl) dX3_count_169
    · skip
      subst c12_3
      refine lv_tableIn (x := nI 11) (off := 146) (tgt := 158) hx hb dX3_count_12 (by decide) (by decide) (by decide) (by decide) ?_
      refine lv_aload_n hx hb dX3_count_158 rfl (lv_at hl 0 rfl) ?_
      refine m_get X S 0 rfl (T := TX3) (N := 16) in_X3 rfl 0 (by decide) q1712 (fun _ h9 => h9) rfl dX3_count_159 ?_
      refine lv_iconst (v := nI 2) hx hb dX3_count_162 (by decide) ?_
      refine lv_iload_n hx hb dX3_count_163 rfl (lv_at hl 1 rfl) ?_
      refine lv_iadd hx hb dX3_count_164 ?_
      refine lv_toe (y := nI 13) (nI_add _ _) ?_
      refine lv_bipush (v := nI 8) hx hb dX3_count_165 (by decide) ?_
      refine lv_isub hx hb dX3_count_167 ?_
      refine lv_toe (y := nI 5) (pk_sub (by omega)) ?_
      refine m_iald X S 1 rfl (x := nI 5) (j := 5) rfl (vp_in_nI (by decide) (by decide)) (v := g 5) rfl dX3_count_168 ?_
      exact m_iret X hr hlk hQ S ⟨knownS g (g 17), (knownS g (g 17)) &&& g 0⟩ (by show ((g 5) = countS g t L n (nI 11)); unfold countS; rw [if_neg (by decide), tn_nI (by decide)]; rfl) [0, 1] [] (show ([0, 1] ++ ([] : List Nat)).isPerm (List.range 2) = true by decide +kernel) rfl (Nat.le_of_ble_eq_true rfl) (Nat.le_of_ble_eq_true rfl) dX3_count_169
    · skip
      subst c12_3
      refine lv_tableIn (x := nI 12) (off := 158) (tgt := 170) hx hb dX3_count_12 (by decide) (by decide) (by decide) (by decide) ?_
      refine lv_aload_n hx hb dX3_count_170 rfl (lv_at hl 0 rfl) ?_
      refine m_get X S 0 rfl (T := TX3) (N := 16) in_X3 rfl 6 (by decide) q1718 (fun _ h9 => h9) rfl dX3_count_171 ?_
      exact m_iret X hr hlk hQ S ⟨knownS g (g 17), (knownS g (g 17)) &&& g 0⟩ (by show ((nI L) = countS g t L n (nI 12)); unfold countS; rw [if_neg (by decide), tn_nI (by decide)]; rfl) [0, 1] [] (show ([0, 1] ++ ([] : List Nat)).isPerm (List.range 2) = true by decide +kernel) rfl (Nat.le_of_ble_eq_true rfl) (Nat.le_of_ble_eq_true rfl) dX3_count_174
    · skip
      subst c12_3
      refine lv_tableIn (x := nI 13) (off := 163) (tgt := 175) hx hb dX3_count_12 (by decide) (by decide) (by decide) (by decide) ?_
      refine lv_aload_n hx hb dX3_count_175 rfl (lv_at hl 0 rfl) ?_
      refine m_get X S 0 rfl (T := TX3) (N := 16) in_X3 rfl 2 (by decide) q1714 (fun _ h9 => h9) rfl dX3_count_176 ?_
      exact m_iret X hr hlk hQ S ⟨knownS g (g 17), (knownS g (g 17)) &&& g 0⟩ (by show ((nI n) = countS g t L n (nI 13)); unfold countS; rw [if_neg (by decide), tn_nI (by decide)]; rfl) [0, 1] [] (show ([0, 1] ++ ([] : List Nat)).isPerm (List.range 2) = true by decide +kernel) rfl (Nat.le_of_ble_eq_true rfl) (Nat.le_of_ble_eq_true rfl) dX3_count_179

abbrev rm_X3_canBe : Room := { frames := 2, cells := 0, slots := 0, locals := 49 }
set_option maxHeartbeats 4000000 in
set_option maxRecDepth 100000 in
theorem mt_X3_canBe (G : mGG) (l : Launch) (h0 : Nat) (q1 : Nat) (q2 : Nat) (q3 : Nat) (q4 : Nat) (q5 : Nat) (q6 : Nat) (pasts : Int32) (length : Int32) (known : Int32) (there : Int32) (spot : Int32) (isWrong : Int32) (sign : Int32) (digit : Int32) (first : Int32) (second : Int32) (g : Nat → Int32) (fr : Nat → Int32) (d : Nat) (tr : Nat) (hd : g 31 = nI d) (htr : g 1 = nI tr) (htr8 : tr < 8) (hd2 : d ≤ 150) (hpl : ∀ k, k < d → g (32 + k) = nI (plc g k) ∧ plc g k < 8) : Cg G l yX3_canBe (ws_ yX3_canBe cX3_canBe 4 (some FieldType.int)) rm_X3_canBe [.ref h0] [[(h0, .inr (3, [.ref q1, .ref q2, .int pasts, .ref q3, .ref q4, .ref q5, .int length, .int known, .int there, .ref q6, .int spot, .int isWrong, .int sign, .int digit, .int first, .int second]))], [(q1, .inl (gA G 0, 182, .inl g))], [(q6, .inl (gA G 0, 8, .inl fr))]] (Qi G (fun (r : Int32) (u : (Nat → Int32)) => (r = cbK g tr d)) (fun (u : (Nat → Int32)) => [[(h0, .inr (3, [.ref q1, .ref q2, .int pasts, .ref q3, .ref q4, .ref q5, .int length, .int known, .int there, .ref q6, .int spot, .int isWrong, .int sign, .int digit, .int first, .int second]))], [(q1, .inl (gA G 0, 182, .inl g))], [(q6, .inl (gA G 0, 8, .inl u))]])) := by
  refine Cg.intro (own := RX3) (cc := cX3_canBe) (maxL := 4) (ret := (some FieldType.int)) (by decide +kernel) rfl rfl (Nat.le_of_ble_eq_true rfl) ?_
  intro p e s m ag below meth c A ls Q X hr hlk hnm S hl hQ
  have hx := X.1
  have hb := X.2.1
  have hl : lv_has ls 4 [(0, .ref h0)] := hl
  refine lv_aload_n hx hb dX3_canBe_0 rfl (lv_at hl 0 rfl) ?_
  have hq1 := S.cut (Bc := [[(h0, .inr (3, [.ref q1, .ref q2, .int pasts, .ref q3, .ref q4, .ref q5, .int length, .int known, .int there, .ref q6, .int spot, .int isWrong, .int sign, .int digit, .int first, .int second]))], [(q1, .inl (gA G 0, 182, .inl g))]]) (Br := [[(q6, .inl (gA G 0, 8, .inl fr))]]) [0, 1] [2] (show ([0, 1] ++ ([2] : List Nat)).isPerm (List.range 3) = true by decide +kernel) rfl rfl
  refine m_ri X S hq1 (m_runV (rest := []) (As := []) (n := 0) X S hq1 (mt_X3_hasBegun G l h0 q1 q2 q3 q4 q5 q6 pasts length known there spot isWrong sign digit first second g ) (lw_V q1790 q1792 qs48 q90 q1793) (m_recv X S 0 rfl rfl) (by decide +kernel) ⟨Nat.le_of_ble_eq_true rfl, Nat.le_of_ble_eq_true rfl⟩ rfl hl.1 rfl (Nat.le_of_ble_eq_true rfl) dX3_canBe_1 ⟨(Nat.le_of_ble_eq_true rfl), (Nat.le_of_ble_eq_true rfl)⟩) (fun r2 u H locs hp2 S => ?_)
  have hp2 : (r2 = nI 1 ∧ ¬ g 6 ≤ 0) ∨ (r2 = nI 0 ∧ g 6 ≤ 0) := hp2
  have S : Sw G A s.heap [[(q6, .inl (gA G 0, 8, .inl fr))], [(h0, .inr (3, [.ref q1, .ref q2, .int pasts, .ref q3, .ref q4, .ref q5, .int length, .int known, .int there, .ref q6, .int spot, .int isWrong, .int sign, .int digit, .int first, .int second]))], [(q1, .inl (gA G 0, 182, .inl g))]] _ _ := S
  rcases hp2 with ⟨hhp2_0, hhp2_1⟩ | ⟨hhp2_0, hhp2_1⟩
  · skip
    subst hhp2_0
    have hf0_r2 := hhp2_1
    have S : Sw G A s.heap [[(q6, .inl (gA G 0, 8, .inl fr))], [(h0, .inr (3, [.ref q1, .ref q2, .int pasts, .ref q3, .ref q4, .ref q5, .int length, .int known, .int there, .ref q6, .int spot, .int isWrong, .int sign, .int digit, .int first, .int second]))], [(q1, .inl (gA G 0, 182, .inl g))]] _ _ := S
    refine lv_if_eq (tgt := 13) hx hb dX3_canBe_4 (by decide) (fun c4_3 => absurd c4_3 (by decide)) (fun c4_3 => ?_)
    refine lv_sipush (v := nI 255) hx hb dX3_canBe_7 (by decide) ?_
    refine lv_goto (tgt := 14) hx hb dX3_canBe_10 (by decide) ?_
    refine lv_toe (y := cbK g tr 0) (by unfold cbK; first | rw [if_pos (by assumption)] | rw [if_neg (by assumption)]) ?_
    refine lv_istore_n (lv' := [(1, .int (cbK g tr 0)), (0, .ref h0)]) hx hb dX3_canBe_14 rfl hl (Nat.le_of_ble_eq_true rfl) rfl (fun ls hl => ?_)
    refine lv_iconst (v := nI 0) hx hb dX3_canBe_15 (by decide) ?_
    refine lv_istore_n (lv' := [(2, .int (nI 0)), (1, .int (cbK g tr 0)), (0, .ref h0)]) hx hb dX3_canBe_16 rfl hl (Nat.le_of_ble_eq_true rfl) rfl (fun ls hl => ?_)
    have hL17 : ∀ (kf : Nat) (i : Nat) (fz : Nat → Int32), (d + 1 - i) < kf → (i ≤ d) → ∀ (H : Heap) (locs : List Loc), Sw G A s.heap [[(h0, .inr (3, [.ref q1, .ref q2, .int pasts, .ref q3, .ref q4, .ref q5, .int length, .int known, .int there, .ref q6, .int spot, .int isWrong, .int sign, .int digit, .int first, .int second]))], [(q1, .inl (gA G 0, 182, .inl g))], [(q6, .inl (gA G 0, 8, .inl fz))]] H locs → ∀ (ls : Array Slot), lv_has ls 4 [(1, .int (cbK g tr i)), (2, .int (nI i)), (0, .ref h0)] → W p l e rm_X3_canBe s m ag below meth c H locs (0) (0) Q (F0 m 17 ls []) := by
      intro kf
      induction kf with
      | zero =>
        intro i fz hm
        exact absurd hm (Nat.not_lt_zero _)
      | succ kf17 ih17 =>
        intro i fz hm hi H locs S ls hl
        refine lv_iload_n hx hb dX3_canBe_17 rfl (lv_at hl 1 rfl) ?_
        refine lv_aload_n hx hb dX3_canBe_18 rfl (lv_at hl 2 rfl) ?_
        refine m_get X S 0 rfl (T := TX3) (N := 16) in_X3 rfl 0 (by decide) q1712 (fun _ h9 => h9) rfl dX3_canBe_19 ?_
        refine lv_bipush (v := nI 31) hx hb dX3_canBe_22 (by decide) ?_
        refine m_iald X S 1 rfl (x := nI 31) (j := 31) rfl (vp_in_nI (by decide) (by decide)) (v := nI d) hd dX3_canBe_24 ?_
        refine lv_icmp_ge (tgt := 99) hx hb dX3_canBe_25 (by decide) (fun c25_4 => ?_) (fun c25_4 => ?_)
        · skip
          have c25_4 : d ≤ i := (nI_leI (a := d) (b := i) (by omega) (by omega)).mp c25_4
          refine lv_iload_n hx hb dX3_canBe_99 rfl (lv_at hl 0 rfl) ?_
          exact m_iret X hr hlk hQ S fz (by show ((cbK g tr i) = cbK g tr d); rw [show i = d by omega]) [0, 1, 2] [] (show ([0, 1, 2] ++ ([] : List Nat)).isPerm (List.range 3) = true by decide +kernel) rfl (Nat.le_of_ble_eq_true rfl) (Nat.le_of_ble_eq_true rfl) dX3_canBe_100
        · skip
          have c25_4 : ¬ d ≤ i := fun z => c25_4 ((nI_leI (a := d) (b := i) (by omega) (by omega)).mpr z)
          have hpi := hpl i (by omega)
          refine lv_aload_n hx hb dX3_canBe_28 rfl (lv_at hl 2 rfl) ?_
          refine lv_aload_n hx hb dX3_canBe_29 rfl (lv_at hl 2 rfl) ?_
          refine m_get X S 0 rfl (T := TX3) (N := 16) in_X3 rfl 0 (by decide) q1712 (fun _ h9 => h9) rfl dX3_canBe_30 ?_
          refine lv_bipush (v := nI 32) hx hb dX3_canBe_33 (by decide) ?_
          refine lv_iload_n hx hb dX3_canBe_35 rfl (lv_at hl 1 rfl) ?_
          refine lv_iadd hx hb dX3_canBe_36 ?_
          refine lv_toe (y := nI (32 + i)) (nI_add _ _) ?_
          refine m_iald X S 1 rfl (x := nI (32 + i)) (j := 32 + i) (nI_clamp (by omega)) (vp_in_nI (by omega) (by omega)) (v := nI (plc g i)) hpi.1 dX3_canBe_37 ?_
          refine lv_aload_n hx hb dX3_canBe_38 rfl (lv_at hl 2 rfl) ?_
          refine m_get X S 0 rfl (T := TX3) (N := 16) in_X3 rfl 0 (by decide) q1712 (fun _ h9 => h9) rfl dX3_canBe_39 ?_
          refine lv_iconst (v := nI 0) hx hb dX3_canBe_42 (by decide) ?_
          refine m_iald X S 1 rfl (x := nI 0) (j := 0) rfl (vp_in_nI (by decide) (by decide)) (v := g 0) rfl dX3_canBe_43 ?_
          have hq5 := S.cut (Bc := [[(h0, .inr (3, [.ref q1, .ref q2, .int pasts, .ref q3, .ref q4, .ref q5, .int length, .int known, .int there, .ref q6, .int spot, .int isWrong, .int sign, .int digit, .int first, .int second]))], [(q6, .inl (gA G 0, 8, .inl fz))]]) (Br := [[(q1, .inl (gA G 0, 182, .inl g))]]) [0, 2] [1] (show ([0, 2] ++ ([1] : List Nat)).isPerm (List.range 3) = true by decide +kernel) rfl rfl
          refine m_rv X S hq5 (m_runV (rest := []) (As := [.int (nI (plc g i)), .int (g 0)]) (n := 2) X S hq5 (mt_X3_measures G l h0 q1 q2 q3 q4 q5 q6 pasts length known there spot isWrong sign digit first second fz (plc g i) (g 0) (by omega)) (lw_V q1886 q1888 qs64 q90 q1889) (m_recv X S 0 rfl rfl) (by decide +kernel) ⟨Nat.le_of_ble_eq_true rfl, Nat.le_of_ble_eq_true rfl⟩ rfl hl.1 rfl (Nat.le_of_ble_eq_true rfl) dX3_canBe_44 ⟨(Nat.le_of_ble_eq_true rfl), (Nat.le_of_ble_eq_true rfl)⟩) (fun u H locs hp6 S => ?_)
          have S : Sw G A s.heap [[(q1, .inl (gA G 0, 182, .inl g))], [(h0, .inr (3, [.ref q1, .ref q2, .int pasts, .ref q3, .ref q4, .ref q5, .int length, .int known, .int there, .ref q6, .int spot, .int isWrong, .int sign, .int digit, .int first, .int second]))], [(q6, .inl (gA G 0, 8, .inl (distA (g 0) (plc g i))))]] _ _ := S
          refine lv_iconst (v := nI 0) hx hb dX3_canBe_47 (by decide) ?_
          refine lv_istore_n (lv' := [(3, .int (nI 0)), (1, .int (cbK g tr i)), (2, .int (nI i)), (0, .ref h0)]) hx hb dX3_canBe_48 rfl hl (Nat.le_of_ble_eq_true rfl) rfl (fun ls hl => ?_)
          have hL49 : ∀ (kf : Nat) (q : Nat), (9 - q) < kf → (q ≤ 8) → ∀ (H : Heap) (locs : List Loc), Sw G A s.heap [[(q1, .inl (gA G 0, 182, .inl g))], [(h0, .inr (3, [.ref q1, .ref q2, .int pasts, .ref q3, .ref q4, .ref q5, .int length, .int known, .int there, .ref q6, .int spot, .int isWrong, .int sign, .int digit, .int first, .int second]))], [(q6, .inl (gA G 0, 8, .inl (distA (g 0) (plc g i))))]] H locs → ∀ (ls : Array Slot), lv_has ls 4 [(1, .int (cbI (g 0) (plc g i) tr (cbK g tr i) q)), (3, .int (nI q)), (2, .int (nI i)), (0, .ref h0)] → W p l e rm_X3_canBe s m ag below meth c H locs (0) (0) Q (F0 m 49 ls []) := by
            intro kf
            induction kf with
            | zero =>
              intro q hm
              exact absurd hm (Nat.not_lt_zero _)
            | succ kf49 ih49 =>
              intro q hm hq8 H locs S ls hl
              refine lv_iload_n hx hb dX3_canBe_49 rfl (lv_at hl 1 rfl) ?_
              refine lv_bipush (v := nI 8) hx hb dX3_canBe_50 (by decide) ?_
              refine lv_icmp_ge (tgt := 93) hx hb dX3_canBe_52 (by decide) (fun c52_7 => ?_) (fun c52_7 => ?_)
              · skip
                have c52_7 : 8 ≤ q := (nI_leI (a := 8) (b := q) (by omega) (by omega)).mp c52_7
                have hE8 : cbI (g 0) (plc g i) tr (cbK g tr i) q = cbK g tr (i + 1) := by rw [show q = 8 by omega]; rfl
                have hl := lv_cong hl (congrArg (fun (zz : Int32) => ([(1, .int zz), (3, .int (nI q)), (2, .int (nI i)), (0, .ref h0)] : List (Nat × Value))) hE8)
                have hl : lv_has ls 4 [(1, .int (cbK g tr (i + 1))), (3, .int (nI q)), (2, .int (nI i)), (0, .ref h0)] := hl
                refine lv_iinc (v := nI (i + 1)) (lv' := [(2, .int (nI (i + 1))), (1, .int (cbK g tr (i + 1))), (3, .int (nI q)), (0, .ref h0)]) hx hb dX3_canBe_93 hl (k := 2) rfl (nI_add _ _) (Nat.le_of_ble_eq_true rfl) rfl (fun ls hl => ?_)
                refine lv_goto (tgt := 17) hx hb dX3_canBe_96 (by decide) ?_
                exact ih17 (i + 1) (distA (g 0) (plc g i)) (by omega) (by omega) _ _ (S.pick [1, 0, 2] [] (show ([1, 0, 2] ++ ([] : List Nat)).isPerm (List.range 3) = true by decide +kernel) rfl) ls (lv_sub hl [1, 0, 3] rfl)
              · skip
                have c52_7 : ¬ 8 ≤ q := fun z => c52_7 ((nI_leI (a := 8) (b := q) (by omega) (by omega)).mpr z)
                refine lv_iload_n hx hb dX3_canBe_55 rfl (lv_at hl 0 rfl) ?_
                refine lv_aload_n hx hb dX3_canBe_56 rfl (lv_at hl 3 rfl) ?_
                refine m_get X S 1 rfl (T := TX3) (N := 16) in_X3 rfl 9 (by decide) q1721 (fun _ h9 => h9) rfl dX3_canBe_57 ?_
                refine lv_iload_n hx hb dX3_canBe_60 rfl (lv_at hl 1 rfl) ?_
                refine m_iald X S 2 rfl (x := nI q) (j := q) (nI_clamp (by omega)) (vp_in_nI (by omega) (by omega)) (v := distA (g 0) (plc g i) q) rfl dX3_canBe_61 ?_
                refine lv_aload_n hx hb dX3_canBe_62 rfl (lv_at hl 3 rfl) ?_
                refine m_get X S 1 rfl (T := TX3) (N := 16) in_X3 rfl 9 (by decide) q1721 (fun _ h9 => h9) rfl dX3_canBe_63 ?_
                refine lv_aload_n hx hb dX3_canBe_66 rfl (lv_at hl 3 rfl) ?_
                refine m_get X S 1 rfl (T := TX3) (N := 16) in_X3 rfl 0 (by decide) q1712 (fun _ h9 => h9) rfl dX3_canBe_67 ?_
                refine lv_iconst (v := nI 1) hx hb dX3_canBe_70 (by decide) ?_
                refine m_iald X S 0 rfl (x := nI 1) (j := 1) rfl (vp_in_nI (by decide) (by decide)) (v := nI tr) htr dX3_canBe_71 ?_
                refine m_iald X S 2 rfl (x := nI tr) (j := tr) (nI_clamp (by omega)) (vp_in_nI (by omega) (by omega)) (v := distA (g 0) (plc g i) tr) rfl dX3_canBe_72 ?_
                refine lv_icmp_ne (tgt := 80) hx hb dX3_canBe_73 (by decide) (fun c73_9 => ?_) (fun c73_9 => ?_)
                · skip
                  refine lv_iconst (v := nI 1) hx hb dX3_canBe_80 (by decide) ?_
                  refine lv_iload_n hx hb dX3_canBe_81 rfl (lv_at hl 1 rfl) ?_
                  refine lv_ishl hx hb dX3_canBe_82 ?_
                  refine lv_toe (y := bit q) (rfl) ?_
                  refine lv_iconst (v := (-1 : Int32)) hx hb dX3_canBe_83 (by decide) ?_
                  refine lv_ixor hx hb dX3_canBe_84 ?_
                  refine lv_iand hx hb dX3_canBe_85 ?_
                  refine lv_toe (y := cbI (g 0) (plc g i) tr (cbK g tr i) (q + 1)) (by rw [cbI]; first | rw [if_pos (by assumption)] | (rw [if_neg (by assumption)])) ?_
                  refine lv_istore_n (lv' := [(1, .int (cbI (g 0) (plc g i) tr (cbK g tr i) (q + 1))), (3, .int (nI q)), (2, .int (nI i)), (0, .ref h0)]) hx hb dX3_canBe_86 rfl hl (Nat.le_of_ble_eq_true rfl) rfl (fun ls hl => ?_)
                  refine lv_iinc (v := nI (q + 1)) (lv' := [(3, .int (nI (q + 1))), (1, .int (cbI (g 0) (plc g i) tr (cbK g tr i) (q + 1))), (2, .int (nI i)), (0, .ref h0)]) hx hb dX3_canBe_87 hl (k := 1) rfl (nI_add _ _) (Nat.le_of_ble_eq_true rfl) rfl (fun ls hl => ?_)
                  refine lv_goto (tgt := 49) hx hb dX3_canBe_90 (by decide) ?_
                  exact ih49 (q + 1) (by omega) (by omega) _ _ S ls (lv_sub hl [1, 0, 2, 3] rfl)
                · skip
                  refine lv_iconst (v := (-1 : Int32)) hx hb dX3_canBe_76 (by decide) ?_
                  refine lv_goto (tgt := 85) hx hb dX3_canBe_77 (by decide) ?_
                  refine lv_iand hx hb dX3_canBe_85 ?_
                  refine lv_toe (y := cbI (g 0) (plc g i) tr (cbK g tr i) (q + 1)) (by rw [cbI]; first | rw [if_pos (by assumption)] | (rw [if_neg (by assumption)])) ?_
                  refine lv_istore_n (lv' := [(1, .int (cbI (g 0) (plc g i) tr (cbK g tr i) (q + 1))), (3, .int (nI q)), (2, .int (nI i)), (0, .ref h0)]) hx hb dX3_canBe_86 rfl hl (Nat.le_of_ble_eq_true rfl) rfl (fun ls hl => ?_)
                  refine lv_iinc (v := nI (q + 1)) (lv' := [(3, .int (nI (q + 1))), (1, .int (cbI (g 0) (plc g i) tr (cbK g tr i) (q + 1))), (2, .int (nI i)), (0, .ref h0)]) hx hb dX3_canBe_87 hl (k := 1) rfl (nI_add _ _) (Nat.le_of_ble_eq_true rfl) rfl (fun ls hl => ?_)
                  refine lv_goto (tgt := 49) hx hb dX3_canBe_90 (by decide) ?_
                  exact ih49 (q + 1) (by omega) (by omega) _ _ S ls (lv_sub hl [1, 0, 2, 3] rfl)
          exact hL49 _ 0 (Nat.lt_succ_self _) (by omega) _ _ S ls (lv_sub hl [1, 0, 2, 3] rfl)
    exact hL17 _ 0 fr (Nat.lt_succ_self _) (by omega) _ _ (S.pick [1, 2, 0] [] (show ([1, 2, 0] ++ ([] : List Nat)).isPerm (List.range 3) = true by decide +kernel) rfl) ls (lv_sub hl [1, 0, 2] rfl)
  · skip
    subst hhp2_0
    have hf0_r2 := hhp2_1
    have S : Sw G A s.heap [[(q6, .inl (gA G 0, 8, .inl fr))], [(h0, .inr (3, [.ref q1, .ref q2, .int pasts, .ref q3, .ref q4, .ref q5, .int length, .int known, .int there, .ref q6, .int spot, .int isWrong, .int sign, .int digit, .int first, .int second]))], [(q1, .inl (gA G 0, 182, .inl g))]] _ _ := S
    refine lv_if_eq (tgt := 13) hx hb dX3_canBe_4 (by decide) (fun c4_10 => ?_) (fun c4_10 => absurd (by decide) c4_10)
    refine lv_iconst (v := nI 0) hx hb dX3_canBe_13 (by decide) ?_
    refine lv_toe (y := cbK g tr 0) (by unfold cbK; first | rw [if_pos (by assumption)] | rw [if_neg (by assumption)]) ?_
    refine lv_istore_n (lv' := [(1, .int (cbK g tr 0)), (0, .ref h0)]) hx hb dX3_canBe_14 rfl hl (Nat.le_of_ble_eq_true rfl) rfl (fun ls hl => ?_)
    refine lv_iconst (v := nI 0) hx hb dX3_canBe_15 (by decide) ?_
    refine lv_istore_n (lv' := [(2, .int (nI 0)), (1, .int (cbK g tr 0)), (0, .ref h0)]) hx hb dX3_canBe_16 rfl hl (Nat.le_of_ble_eq_true rfl) rfl (fun ls hl => ?_)
    have hL17 : ∀ (kf : Nat) (i : Nat) (fz : Nat → Int32), (d + 1 - i) < kf → (i ≤ d) → ∀ (H : Heap) (locs : List Loc), Sw G A s.heap [[(h0, .inr (3, [.ref q1, .ref q2, .int pasts, .ref q3, .ref q4, .ref q5, .int length, .int known, .int there, .ref q6, .int spot, .int isWrong, .int sign, .int digit, .int first, .int second]))], [(q1, .inl (gA G 0, 182, .inl g))], [(q6, .inl (gA G 0, 8, .inl fz))]] H locs → ∀ (ls : Array Slot), lv_has ls 4 [(1, .int (cbK g tr i)), (2, .int (nI i)), (0, .ref h0)] → W p l e rm_X3_canBe s m ag below meth c H locs (0) (0) Q (F0 m 17 ls []) := by
      intro kf
      induction kf with
      | zero =>
        intro i fz hm
        exact absurd hm (Nat.not_lt_zero _)
      | succ kf17 ih17 =>
        intro i fz hm hi H locs S ls hl
        refine lv_iload_n hx hb dX3_canBe_17 rfl (lv_at hl 1 rfl) ?_
        refine lv_aload_n hx hb dX3_canBe_18 rfl (lv_at hl 2 rfl) ?_
        refine m_get X S 0 rfl (T := TX3) (N := 16) in_X3 rfl 0 (by decide) q1712 (fun _ h9 => h9) rfl dX3_canBe_19 ?_
        refine lv_bipush (v := nI 31) hx hb dX3_canBe_22 (by decide) ?_
        refine m_iald X S 1 rfl (x := nI 31) (j := 31) rfl (vp_in_nI (by decide) (by decide)) (v := nI d) hd dX3_canBe_24 ?_
        refine lv_icmp_ge (tgt := 99) hx hb dX3_canBe_25 (by decide) (fun c25_11 => ?_) (fun c25_11 => ?_)
        · skip
          have c25_11 : d ≤ i := (nI_leI (a := d) (b := i) (by omega) (by omega)).mp c25_11
          refine lv_iload_n hx hb dX3_canBe_99 rfl (lv_at hl 0 rfl) ?_
          exact m_iret X hr hlk hQ S fz (by show ((cbK g tr i) = cbK g tr d); rw [show i = d by omega]) [0, 1, 2] [] (show ([0, 1, 2] ++ ([] : List Nat)).isPerm (List.range 3) = true by decide +kernel) rfl (Nat.le_of_ble_eq_true rfl) (Nat.le_of_ble_eq_true rfl) dX3_canBe_100
        · skip
          have c25_11 : ¬ d ≤ i := fun z => c25_11 ((nI_leI (a := d) (b := i) (by omega) (by omega)).mpr z)
          have hpi := hpl i (by omega)
          refine lv_aload_n hx hb dX3_canBe_28 rfl (lv_at hl 2 rfl) ?_
          refine lv_aload_n hx hb dX3_canBe_29 rfl (lv_at hl 2 rfl) ?_
          refine m_get X S 0 rfl (T := TX3) (N := 16) in_X3 rfl 0 (by decide) q1712 (fun _ h9 => h9) rfl dX3_canBe_30 ?_
          refine lv_bipush (v := nI 32) hx hb dX3_canBe_33 (by decide) ?_
          refine lv_iload_n hx hb dX3_canBe_35 rfl (lv_at hl 1 rfl) ?_
          refine lv_iadd hx hb dX3_canBe_36 ?_
          refine lv_toe (y := nI (32 + i)) (nI_add _ _) ?_
          refine m_iald X S 1 rfl (x := nI (32 + i)) (j := 32 + i) (nI_clamp (by omega)) (vp_in_nI (by omega) (by omega)) (v := nI (plc g i)) hpi.1 dX3_canBe_37 ?_
          refine lv_aload_n hx hb dX3_canBe_38 rfl (lv_at hl 2 rfl) ?_
          refine m_get X S 0 rfl (T := TX3) (N := 16) in_X3 rfl 0 (by decide) q1712 (fun _ h9 => h9) rfl dX3_canBe_39 ?_
          refine lv_iconst (v := nI 0) hx hb dX3_canBe_42 (by decide) ?_
          refine m_iald X S 1 rfl (x := nI 0) (j := 0) rfl (vp_in_nI (by decide) (by decide)) (v := g 0) rfl dX3_canBe_43 ?_
          have hq12 := S.cut (Bc := [[(h0, .inr (3, [.ref q1, .ref q2, .int pasts, .ref q3, .ref q4, .ref q5, .int length, .int known, .int there, .ref q6, .int spot, .int isWrong, .int sign, .int digit, .int first, .int second]))], [(q6, .inl (gA G 0, 8, .inl fz))]]) (Br := [[(q1, .inl (gA G 0, 182, .inl g))]]) [0, 2] [1] (show ([0, 2] ++ ([1] : List Nat)).isPerm (List.range 3) = true by decide +kernel) rfl rfl
          refine m_rv X S hq12 (m_runV (rest := []) (As := [.int (nI (plc g i)), .int (g 0)]) (n := 2) X S hq12 (mt_X3_measures G l h0 q1 q2 q3 q4 q5 q6 pasts length known there spot isWrong sign digit first second fz (plc g i) (g 0) (by omega)) (lw_V q1886 q1888 qs64 q90 q1889) (m_recv X S 0 rfl rfl) (by decide +kernel) ⟨Nat.le_of_ble_eq_true rfl, Nat.le_of_ble_eq_true rfl⟩ rfl hl.1 rfl (Nat.le_of_ble_eq_true rfl) dX3_canBe_44 ⟨(Nat.le_of_ble_eq_true rfl), (Nat.le_of_ble_eq_true rfl)⟩) (fun u H locs hp13 S => ?_)
          have S : Sw G A s.heap [[(q1, .inl (gA G 0, 182, .inl g))], [(h0, .inr (3, [.ref q1, .ref q2, .int pasts, .ref q3, .ref q4, .ref q5, .int length, .int known, .int there, .ref q6, .int spot, .int isWrong, .int sign, .int digit, .int first, .int second]))], [(q6, .inl (gA G 0, 8, .inl (distA (g 0) (plc g i))))]] _ _ := S
          refine lv_iconst (v := nI 0) hx hb dX3_canBe_47 (by decide) ?_
          refine lv_istore_n (lv' := [(3, .int (nI 0)), (1, .int (cbK g tr i)), (2, .int (nI i)), (0, .ref h0)]) hx hb dX3_canBe_48 rfl hl (Nat.le_of_ble_eq_true rfl) rfl (fun ls hl => ?_)
          have hL49 : ∀ (kf : Nat) (q : Nat), (9 - q) < kf → (q ≤ 8) → ∀ (H : Heap) (locs : List Loc), Sw G A s.heap [[(q1, .inl (gA G 0, 182, .inl g))], [(h0, .inr (3, [.ref q1, .ref q2, .int pasts, .ref q3, .ref q4, .ref q5, .int length, .int known, .int there, .ref q6, .int spot, .int isWrong, .int sign, .int digit, .int first, .int second]))], [(q6, .inl (gA G 0, 8, .inl (distA (g 0) (plc g i))))]] H locs → ∀ (ls : Array Slot), lv_has ls 4 [(1, .int (cbI (g 0) (plc g i) tr (cbK g tr i) q)), (3, .int (nI q)), (2, .int (nI i)), (0, .ref h0)] → W p l e rm_X3_canBe s m ag below meth c H locs (0) (0) Q (F0 m 49 ls []) := by
            intro kf
            induction kf with
            | zero =>
              intro q hm
              exact absurd hm (Nat.not_lt_zero _)
            | succ kf49 ih49 =>
              intro q hm hq8 H locs S ls hl
              refine lv_iload_n hx hb dX3_canBe_49 rfl (lv_at hl 1 rfl) ?_
              refine lv_bipush (v := nI 8) hx hb dX3_canBe_50 (by decide) ?_
              refine lv_icmp_ge (tgt := 93) hx hb dX3_canBe_52 (by decide) (fun c52_14 => ?_) (fun c52_14 => ?_)
              · skip
                have c52_14 : 8 ≤ q := (nI_leI (a := 8) (b := q) (by omega) (by omega)).mp c52_14
                have hE15 : cbI (g 0) (plc g i) tr (cbK g tr i) q = cbK g tr (i + 1) := by rw [show q = 8 by omega]; rfl
                have hl := lv_cong hl (congrArg (fun (zz : Int32) => ([(1, .int zz), (3, .int (nI q)), (2, .int (nI i)), (0, .ref h0)] : List (Nat × Value))) hE15)
                have hl : lv_has ls 4 [(1, .int (cbK g tr (i + 1))), (3, .int (nI q)), (2, .int (nI i)), (0, .ref h0)] := hl
                refine lv_iinc (v := nI (i + 1)) (lv' := [(2, .int (nI (i + 1))), (1, .int (cbK g tr (i + 1))), (3, .int (nI q)), (0, .ref h0)]) hx hb dX3_canBe_93 hl (k := 2) rfl (nI_add _ _) (Nat.le_of_ble_eq_true rfl) rfl (fun ls hl => ?_)
                refine lv_goto (tgt := 17) hx hb dX3_canBe_96 (by decide) ?_
                exact ih17 (i + 1) (distA (g 0) (plc g i)) (by omega) (by omega) _ _ (S.pick [1, 0, 2] [] (show ([1, 0, 2] ++ ([] : List Nat)).isPerm (List.range 3) = true by decide +kernel) rfl) ls (lv_sub hl [1, 0, 3] rfl)
              · skip
                have c52_14 : ¬ 8 ≤ q := fun z => c52_14 ((nI_leI (a := 8) (b := q) (by omega) (by omega)).mpr z)
                refine lv_iload_n hx hb dX3_canBe_55 rfl (lv_at hl 0 rfl) ?_
                refine lv_aload_n hx hb dX3_canBe_56 rfl (lv_at hl 3 rfl) ?_
                refine m_get X S 1 rfl (T := TX3) (N := 16) in_X3 rfl 9 (by decide) q1721 (fun _ h9 => h9) rfl dX3_canBe_57 ?_
                refine lv_iload_n hx hb dX3_canBe_60 rfl (lv_at hl 1 rfl) ?_
                refine m_iald X S 2 rfl (x := nI q) (j := q) (nI_clamp (by omega)) (vp_in_nI (by omega) (by omega)) (v := distA (g 0) (plc g i) q) rfl dX3_canBe_61 ?_
                refine lv_aload_n hx hb dX3_canBe_62 rfl (lv_at hl 3 rfl) ?_
                refine m_get X S 1 rfl (T := TX3) (N := 16) in_X3 rfl 9 (by decide) q1721 (fun _ h9 => h9) rfl dX3_canBe_63 ?_
                refine lv_aload_n hx hb dX3_canBe_66 rfl (lv_at hl 3 rfl) ?_
                refine m_get X S 1 rfl (T := TX3) (N := 16) in_X3 rfl 0 (by decide) q1712 (fun _ h9 => h9) rfl dX3_canBe_67 ?_
                refine lv_iconst (v := nI 1) hx hb dX3_canBe_70 (by decide) ?_
                refine m_iald X S 0 rfl (x := nI 1) (j := 1) rfl (vp_in_nI (by decide) (by decide)) (v := nI tr) htr dX3_canBe_71 ?_
                refine m_iald X S 2 rfl (x := nI tr) (j := tr) (nI_clamp (by omega)) (vp_in_nI (by omega) (by omega)) (v := distA (g 0) (plc g i) tr) rfl dX3_canBe_72 ?_
                refine lv_icmp_ne (tgt := 80) hx hb dX3_canBe_73 (by decide) (fun c73_16 => ?_) (fun c73_16 => ?_)
                · skip
                  refine lv_iconst (v := nI 1) hx hb dX3_canBe_80 (by decide) ?_
                  refine lv_iload_n hx hb dX3_canBe_81 rfl (lv_at hl 1 rfl) ?_
                  refine lv_ishl hx hb dX3_canBe_82 ?_
                  refine lv_toe (y := bit q) (rfl) ?_
                  refine lv_iconst (v := (-1 : Int32)) hx hb dX3_canBe_83 (by decide) ?_
                  refine lv_ixor hx hb dX3_canBe_84 ?_
                  refine lv_iand hx hb dX3_canBe_85 ?_
                  refine lv_toe (y := cbI (g 0) (plc g i) tr (cbK g tr i) (q + 1)) (by rw [cbI]; first | rw [if_pos (by assumption)] | (rw [if_neg (by assumption)])) ?_
                  refine lv_istore_n (lv' := [(1, .int (cbI (g 0) (plc g i) tr (cbK g tr i) (q + 1))), (3, .int (nI q)), (2, .int (nI i)), (0, .ref h0)]) hx hb dX3_canBe_86 rfl hl (Nat.le_of_ble_eq_true rfl) rfl (fun ls hl => ?_)
                  refine lv_iinc (v := nI (q + 1)) (lv' := [(3, .int (nI (q + 1))), (1, .int (cbI (g 0) (plc g i) tr (cbK g tr i) (q + 1))), (2, .int (nI i)), (0, .ref h0)]) hx hb dX3_canBe_87 hl (k := 1) rfl (nI_add _ _) (Nat.le_of_ble_eq_true rfl) rfl (fun ls hl => ?_)
                  refine lv_goto (tgt := 49) hx hb dX3_canBe_90 (by decide) ?_
                  exact ih49 (q + 1) (by omega) (by omega) _ _ S ls (lv_sub hl [1, 0, 2, 3] rfl)
                · skip
                  refine lv_iconst (v := (-1 : Int32)) hx hb dX3_canBe_76 (by decide) ?_
                  refine lv_goto (tgt := 85) hx hb dX3_canBe_77 (by decide) ?_
                  refine lv_iand hx hb dX3_canBe_85 ?_
                  refine lv_toe (y := cbI (g 0) (plc g i) tr (cbK g tr i) (q + 1)) (by rw [cbI]; first | rw [if_pos (by assumption)] | (rw [if_neg (by assumption)])) ?_
                  refine lv_istore_n (lv' := [(1, .int (cbI (g 0) (plc g i) tr (cbK g tr i) (q + 1))), (3, .int (nI q)), (2, .int (nI i)), (0, .ref h0)]) hx hb dX3_canBe_86 rfl hl (Nat.le_of_ble_eq_true rfl) rfl (fun ls hl => ?_)
                  refine lv_iinc (v := nI (q + 1)) (lv' := [(3, .int (nI (q + 1))), (1, .int (cbI (g 0) (plc g i) tr (cbK g tr i) (q + 1))), (2, .int (nI i)), (0, .ref h0)]) hx hb dX3_canBe_87 hl (k := 1) rfl (nI_add _ _) (Nat.le_of_ble_eq_true rfl) rfl (fun ls hl => ?_)
                  refine lv_goto (tgt := 49) hx hb dX3_canBe_90 (by decide) ?_
                  exact ih49 (q + 1) (by omega) (by omega) _ _ S ls (lv_sub hl [1, 0, 2, 3] rfl)
          exact hL49 _ 0 (Nat.lt_succ_self _) (by omega) _ _ S ls (lv_sub hl [1, 0, 2, 3] rfl)
    exact hL17 _ 0 fr (Nat.lt_succ_self _) (by omega) _ _ (S.pick [1, 2, 0] [] (show ([1, 2, 0] ++ ([] : List Nat)).isPerm (List.range 3) = true by decide +kernel) rfl) ls (lv_sub hl [1, 0, 2] rfl)

abbrev rm_X3_more : Room := { frames := 3, cells := 0, slots := 0, locals := 72 }
set_option maxHeartbeats 4000000 in
set_option maxRecDepth 100000 in
theorem mt_X3_more (G : mGG) (l : Launch) (h0 : Nat) (q1 : Nat) (q2 : Nat) (q3 : Nat) (q4 : Nat) (q5 : Nat) (q6 : Nat) (pasts : Int32) (length : Int32) (known : Int32) (there : Int32) (spot : Int32) (isWrong : Int32) (sign : Int32) (digit : Int32) (first : Int32) (second : Int32) (g : Nat → Int32) (e0 : Nat) (he0 : e0 < 28) : Cg G l yX3_more (ws_ yX3_more cX3_more 3 (some FieldType.int)) rm_X3_more [.ref h0, .int (nI e0)] [[(h0, .inr (3, [.ref q1, .ref q2, .int pasts, .ref q3, .ref q4, .ref q5, .int length, .int known, .int there, .ref q6, .int spot, .int isWrong, .int sign, .int digit, .int first, .int second]))], [(q1, .inl (gA G 0, 182, .inl g))]] (Qi G (fun (r : Int32) (u : Int32 × Int32) => (r = moreS g e0)) (fun (u : Int32 × Int32) => [[(h0, .inr (3, [.ref q1, .ref q2, .int pasts, .ref q3, .ref q4, .ref q5, .int length, .int u.1, .int u.2, .ref q6, .int spot, .int isWrong, .int sign, .int digit, .int first, .int second]))], [(q1, .inl (gA G 0, 182, .inl g))]])) := by
  refine Cg.intro (own := RX3) (cc := cX3_more) (maxL := 3) (ret := (some FieldType.int)) (by decide +kernel) rfl rfl (Nat.le_of_ble_eq_true rfl) ?_
  intro p e s m ag below meth c A ls Q X hr hlk hnm S hl hQ
  have hx := X.1
  have hb := X.2.1
  have hl : lv_has ls 3 [(0, .ref h0), (1, .int (nI e0))] := hl
  refine lv_aload_n hx hb dX3_more_0 rfl (lv_at hl 0 rfl) ?_
  refine lv_aload_n hx hb dX3_more_1 rfl (lv_at hl 0 rfl) ?_
  refine m_get X S 0 rfl (T := TX3) (N := 16) in_X3 rfl 0 (by decide) q1712 (fun _ h9 => h9) rfl dX3_more_2 ?_
  refine lv_bipush (v := nI 17) hx hb dX3_more_5 (by decide) ?_
  refine m_iald X S 1 rfl (x := nI 17) (j := 17) rfl (vp_in_nI (by decide) (by decide)) (v := g 17) rfl dX3_more_7 ?_
  have hq1 := S.cut (Bc := [[(h0, .inr (3, [.ref q1, .ref q2, .int pasts, .ref q3, .ref q4, .ref q5, .int length, .int known, .int there, .ref q6, .int spot, .int isWrong, .int sign, .int digit, .int first, .int second]))], [(q1, .inl (gA G 0, 182, .inl g))]]) (Br := []) [0, 1] [] (show ([0, 1] ++ ([] : List Nat)).isPerm (List.range 2) = true by decide +kernel) rfl rfl
  refine m_rv X S hq1 (m_runV (rest := []) (As := [.int (g 17)]) (n := 1) X S hq1 (mt_X3_follows G l h0 q1 q2 q3 q4 q5 q6 pasts length known there spot isWrong sign digit first second g (g 17) ) (lw_V q1816 q1818 qs51 q90 q1819) (m_recv X S 0 rfl rfl) (by decide +kernel) ⟨Nat.le_of_ble_eq_true rfl, Nat.le_of_ble_eq_true rfl⟩ rfl hl.1 rfl (Nat.le_of_ble_eq_true rfl) dX3_more_8 ⟨(Nat.le_of_ble_eq_true rfl), (Nat.le_of_ble_eq_true rfl)⟩) (fun u H locs hp2 S => ?_)
  obtain ⟨k8, rfl⟩ : ∃ z, z = u := ⟨_, rfl⟩
  have hp2 : (k8 = knownS g (g 17)) := hp2
  have S : Sw G A s.heap [[(h0, .inr (3, [.ref q1, .ref q2, .int pasts, .ref q3, .ref q4, .ref q5, .int length, .int k8, .int (k8 &&& g 0), .ref q6, .int spot, .int isWrong, .int sign, .int digit, .int first, .int second]))], [(q1, .inl (gA G 0, 182, .inl g))]] _ _ := S
  have hhp2_0 := hp2
  subst hhp2_0
  have S : Sw G A s.heap [[(h0, .inr (3, [.ref q1, .ref q2, .int pasts, .ref q3, .ref q4, .ref q5, .int length, .int (knownS g (g 17)), .int ((knownS g (g 17)) &&& g 0), .ref q6, .int spot, .int isWrong, .int sign, .int digit, .int first, .int second]))], [(q1, .inl (gA G 0, 182, .inl g))]] _ _ := S
  refine lv_aload_n hx hb dX3_more_11 rfl (lv_at hl 0 rfl) ?_
  refine m_get X S 0 rfl (T := TX3) (N := 16) in_X3 rfl 7 (by decide) q1719 (fun _ h9 => h9) rfl dX3_more_12 ?_
  have hq3 := S.cut (Bc := []) (Br := [[(h0, .inr (3, [.ref q1, .ref q2, .int pasts, .ref q3, .ref q4, .ref q5, .int length, .int (knownS g (g 17)), .int ((knownS g (g 17)) &&& g 0), .ref q6, .int spot, .int isWrong, .int sign, .int digit, .int first, .int second]))], [(q1, .inl (gA G 0, 182, .inl g))]]) [] [0, 1] (show ([] ++ ([0, 1] : List Nat)).isPerm (List.range 2) = true by decide +kernel) rfl rfl
  refine m_ri X S hq3 (m_runS (rest := []) (As := [.int (knownS g (g 17))]) (n := 1) X S hq3 (mt_X3_many G l (knownS g (g 17)) ) (lw_S q1801 q1802 q90 q1803) (by decide +kernel) ⟨Nat.le_of_ble_eq_true rfl, Nat.le_of_ble_eq_true rfl⟩ rfl hl.1 rfl (Nat.le_of_ble_eq_true rfl) dX3_more_15 ⟨(Nat.le_of_ble_eq_true rfl), (Nat.le_of_ble_eq_true rfl)⟩) (fun r4 u H locs hp4 S => ?_)
  have hp4 : r4 = nI (card (knownS g (g 17))) := hp4
  have hhp4_0 := hp4
  subst hhp4_0
  have S : Sw G A s.heap [[(h0, .inr (3, [.ref q1, .ref q2, .int pasts, .ref q3, .ref q4, .ref q5, .int length, .int (knownS g (g 17)), .int ((knownS g (g 17)) &&& g 0), .ref q6, .int spot, .int isWrong, .int sign, .int digit, .int first, .int second]))], [(q1, .inl (gA G 0, 182, .inl g))]] _ _ := S
  refine lv_istore_n (lv' := [(2, .int (nI (card (knownS g (g 17))))), (0, .ref h0), (1, .int (nI e0))]) hx hb dX3_more_18 rfl hl (Nat.le_of_ble_eq_true rfl) rfl (fun ls hl => ?_)
  refine lv_aload_n hx hb dX3_more_19 rfl (lv_at hl 1 rfl) ?_
  refine m_get X S 0 rfl (T := TX3) (N := 16) in_X3 rfl 7 (by decide) q1719 (fun _ h9 => h9) rfl dX3_more_20 ?_
  refine lv_iload_n hx hb dX3_more_23 rfl (lv_at hl 2 rfl) ?_
  refine lv_ishr hx hb dX3_more_24 ?_
  refine lv_iconst (v := nI 1) hx hb dX3_more_25 (by decide) ?_
  refine lv_iand hx hb dX3_more_26 ?_
  refine lv_toe (y := bI (knownS g (g 17)) e0) (bI_of (by omega)) ?_
  refine lv_iconst (v := nI 1) hx hb dX3_more_27 (by decide) ?_
  refine lv_icmp_ne (tgt := 33) hx hb dX3_more_28 (by decide) (fun c28_5 => ?_) (fun c28_5 => ?_)
  · skip
    have c28_5 : bt (knownS g (g 17)) e0 = false := bI_n1.mp c28_5
    refine lv_aload_n hx hb dX3_more_33 rfl (lv_at hl 1 rfl) ?_
    refine lv_aload_n hx hb dX3_more_34 rfl (lv_at hl 1 rfl) ?_
    refine m_get X S 0 rfl (T := TX3) (N := 16) in_X3 rfl 0 (by decide) q1712 (fun _ h9 => h9) rfl dX3_more_35 ?_
    refine lv_bipush (v := nI 17) hx hb dX3_more_38 (by decide) ?_
    refine m_iald X S 1 rfl (x := nI 17) (j := 17) rfl (vp_in_nI (by decide) (by decide)) (v := g 17) rfl dX3_more_40 ?_
    refine lv_iconst (v := nI 1) hx hb dX3_more_41 (by decide) ?_
    refine lv_iload_n hx hb dX3_more_42 rfl (lv_at hl 2 rfl) ?_
    refine lv_ishl hx hb dX3_more_43 ?_
    refine lv_toe (y := bit e0) (rfl) ?_
    refine lv_ior hx hb dX3_more_44 ?_
    have hq6 := S.cut (Bc := [[(h0, .inr (3, [.ref q1, .ref q2, .int pasts, .ref q3, .ref q4, .ref q5, .int length, .int (knownS g (g 17)), .int ((knownS g (g 17)) &&& g 0), .ref q6, .int spot, .int isWrong, .int sign, .int digit, .int first, .int second]))], [(q1, .inl (gA G 0, 182, .inl g))]]) (Br := []) [0, 1] [] (show ([0, 1] ++ ([] : List Nat)).isPerm (List.range 2) = true by decide +kernel) rfl rfl
    refine m_rv X S hq6 (m_runV (rest := []) (As := [.int ((g 17) ||| (bit e0))]) (n := 1) X S hq6 (mt_X3_follows G l h0 q1 q2 q3 q4 q5 q6 pasts length (knownS g (g 17)) ((knownS g (g 17)) &&& g 0) spot isWrong sign digit first second g ((g 17) ||| (bit e0)) ) (lw_V q1816 q1818 qs51 q90 q1819) (m_recv X S 0 rfl rfl) (by decide +kernel) ⟨Nat.le_of_ble_eq_true rfl, Nat.le_of_ble_eq_true rfl⟩ rfl hl.1 rfl (Nat.le_of_ble_eq_true rfl) dX3_more_45 ⟨(Nat.le_of_ble_eq_true rfl), (Nat.le_of_ble_eq_true rfl)⟩) (fun u H locs hp7 S => ?_)
    obtain ⟨k7, rfl⟩ : ∃ z, z = u := ⟨_, rfl⟩
    have hp7 : (k7 = knownS g ((g 17) ||| (bit e0))) := hp7
    have S : Sw G A s.heap [[(h0, .inr (3, [.ref q1, .ref q2, .int pasts, .ref q3, .ref q4, .ref q5, .int length, .int k7, .int (k7 &&& g 0), .ref q6, .int spot, .int isWrong, .int sign, .int digit, .int first, .int second]))], [(q1, .inl (gA G 0, 182, .inl g))]] _ _ := S
    have hhp7_0 := hp7
    subst hhp7_0
    have S : Sw G A s.heap [[(h0, .inr (3, [.ref q1, .ref q2, .int pasts, .ref q3, .ref q4, .ref q5, .int length, .int (knownS g ((g 17) ||| (bit e0))), .int ((knownS g ((g 17) ||| (bit e0))) &&& g 0), .ref q6, .int spot, .int isWrong, .int sign, .int digit, .int first, .int second]))], [(q1, .inl (gA G 0, 182, .inl g))]] _ _ := S
    refine lv_aload_n hx hb dX3_more_48 rfl (lv_at hl 1 rfl) ?_
    refine m_get X S 0 rfl (T := TX3) (N := 16) in_X3 rfl 7 (by decide) q1719 (fun _ h9 => h9) rfl dX3_more_49 ?_
    have hq8 := S.cut (Bc := []) (Br := [[(h0, .inr (3, [.ref q1, .ref q2, .int pasts, .ref q3, .ref q4, .ref q5, .int length, .int (knownS g ((g 17) ||| (bit e0))), .int ((knownS g ((g 17) ||| (bit e0))) &&& g 0), .ref q6, .int spot, .int isWrong, .int sign, .int digit, .int first, .int second]))], [(q1, .inl (gA G 0, 182, .inl g))]]) [] [0, 1] (show ([] ++ ([0, 1] : List Nat)).isPerm (List.range 2) = true by decide +kernel) rfl rfl
    refine m_ri X S hq8 (m_runS (rest := []) (As := [.int (knownS g ((g 17) ||| (bit e0)))]) (n := 1) X S hq8 (mt_X3_many G l (knownS g ((g 17) ||| (bit e0))) ) (lw_S q1801 q1802 q90 q1803) (by decide +kernel) ⟨Nat.le_of_ble_eq_true rfl, Nat.le_of_ble_eq_true rfl⟩ rfl hl.1 rfl (Nat.le_of_ble_eq_true rfl) dX3_more_52 ⟨(Nat.le_of_ble_eq_true rfl), (Nat.le_of_ble_eq_true rfl)⟩) (fun r9 u H locs hp9 S => ?_)
    have hp9 : r9 = nI (card (knownS g ((g 17) ||| (bit e0)))) := hp9
    have hhp9_0 := hp9
    subst hhp9_0
    have S : Sw G A s.heap [[(h0, .inr (3, [.ref q1, .ref q2, .int pasts, .ref q3, .ref q4, .ref q5, .int length, .int (knownS g ((g 17) ||| (bit e0))), .int ((knownS g ((g 17) ||| (bit e0))) &&& g 0), .ref q6, .int spot, .int isWrong, .int sign, .int digit, .int first, .int second]))], [(q1, .inl (gA G 0, 182, .inl g))]] _ _ := S
    refine lv_iload_n hx hb dX3_more_55 rfl (lv_at hl 0 rfl) ?_
    refine lv_isub hx hb dX3_more_56 ?_
    exact m_iret X hr hlk hQ S ⟨knownS g ((g 17) ||| (bit e0)), (knownS g ((g 17) ||| (bit e0))) &&& g 0⟩ (by show (((nI (card (knownS g ((g 17) ||| (bit e0))))) - (nI (card (knownS g (g 17))))) = moreS g e0); unfold moreS; first | (rw [if_pos (by assumption)]; done) | (rw [if_neg (fun z => by have q := z; unfold kn at q; simp_all)]; rfl)) [0, 1] [] (show ([0, 1] ++ ([] : List Nat)).isPerm (List.range 2) = true by decide +kernel) rfl (Nat.le_of_ble_eq_true rfl) (Nat.le_of_ble_eq_true rfl) dX3_more_57
  · skip
    have c28_5 : bt (knownS g (g 17)) e0 = true := bI_1.mp c28_5
    refine lv_iconst (v := nI 0) hx hb dX3_more_31 (by decide) ?_
    exact m_iret X hr hlk hQ S ⟨knownS g (g 17), (knownS g (g 17)) &&& g 0⟩ (by show ((nI 0) = moreS g e0); unfold moreS; first | (rw [if_pos (by assumption)]; done) | (rw [if_neg (fun z => by have q := z; unfold kn at q; simp_all)]; rfl)) [0, 1] [] (show ([0, 1] ++ ([] : List Nat)).isPerm (List.range 2) = true by decide +kernel) rfl (Nat.le_of_ble_eq_true rfl) (Nat.le_of_ble_eq_true rfl) dX3_more_32

abbrev rm_X3_shows : Room := { frames := 4, cells := 0, slots := 0, locals := 94 }
set_option maxHeartbeats 4000000 in
set_option maxRecDepth 100000 in
theorem mt_X3_shows (G : mGG) (l : Launch) (h0 : Nat) (q1 : Nat) (q2 : Nat) (q3 : Nat) (q4 : Nat) (q5 : Nat) (q6 : Nat) (pasts : Int32) (length : Int32) (known : Int32) (there : Int32) (spot : Int32) (isWrong : Int32) (sign : Int32) (digit : Int32) (first : Int32) (second : Int32) (g : Nat → Int32) (p1 : Int32) (p2 : Int32) : Cg G l yX3_shows (ws_ yX3_shows cX3_shows 4 (some FieldType.int)) rm_X3_shows [.ref h0, .int p1, .int p2] [[(h0, .inr (3, [.ref q1, .ref q2, .int pasts, .ref q3, .ref q4, .ref q5, .int length, .int known, .int there, .ref q6, .int spot, .int isWrong, .int sign, .int digit, .int first, .int second]))], [(q1, .inl (gA G 0, 182, .inl g))]] (Qi G (fun (r : Int32) (u : Int32 × Int32) => (r = showsS g p1 p2)) (fun (u : Int32 × Int32) => [[(h0, .inr (3, [.ref q1, .ref q2, .int pasts, .ref q3, .ref q4, .ref q5, .int length, .int u.1, .int u.2, .ref q6, .int spot, .int isWrong, .int sign, .int digit, .int first, .int second]))], [(q1, .inl (gA G 0, 182, .inl g))]])) := by
  refine Cg.intro (own := RX3) (cc := cX3_shows) (maxL := 4) (ret := (some FieldType.int)) (by decide +kernel) rfl rfl (Nat.le_of_ble_eq_true rfl) ?_
  intro p e s m ag below meth c A ls Q X hr hlk hnm S hl hQ
  have hx := X.1
  have hb := X.2.1
  have hl : lv_has ls 4 [(0, .ref h0), (1, .int p1), (2, .int p2)] := hl
  refine lv_iload_n hx hb dX3_shows_0 rfl (lv_at hl 1 rfl) ?_
  refine lv_iload_n hx hb dX3_shows_1 rfl (lv_at hl 2 rfl) ?_
  have hq1 := S.cut (Bc := []) (Br := [[(h0, .inr (3, [.ref q1, .ref q2, .int pasts, .ref q3, .ref q4, .ref q5, .int length, .int known, .int there, .ref q6, .int spot, .int isWrong, .int sign, .int digit, .int first, .int second]))], [(q1, .inl (gA G 0, 182, .inl g))]]) [] [0, 1] (show ([] ++ ([0, 1] : List Nat)).isPerm (List.range 2) = true by decide +kernel) rfl rfl
  refine m_ri X S hq1 (m_runS (rest := []) (As := [.int p1, .int p2]) (n := 2) X S hq1 (mt_X3_barPair G l p1 p2 ) (lw_S q1898 q1899 q90 q1900) (by decide +kernel) ⟨Nat.le_of_ble_eq_true rfl, Nat.le_of_ble_eq_true rfl⟩ rfl hl.1 rfl (Nat.le_of_ble_eq_true rfl) dX3_shows_2 ⟨(Nat.le_of_ble_eq_true rfl), (Nat.le_of_ble_eq_true rfl)⟩) (fun r2 u H locs hp2 S => ?_)
  obtain ⟨a, b⟩ := u
  have hp2 : (r2 = barPairS p1 p2 ∧ barPairS p1 p2 < nI 0) ∨ (r2 = nI 0 ∧ p1 = nI a ∧ p2 = nI b ∧ a < 8 ∧ b < 8 ∧ a ≠ b ∧ barPairS (nI a) (nI b) = nI 0) := hp2
  have S : Sw G A s.heap [[(h0, .inr (3, [.ref q1, .ref q2, .int pasts, .ref q3, .ref q4, .ref q5, .int length, .int known, .int there, .ref q6, .int spot, .int isWrong, .int sign, .int digit, .int first, .int second]))], [(q1, .inl (gA G 0, 182, .inl g))]] _ _ := S
  rcases hp2 with ⟨hhp2_0, hhp2_1⟩ | ⟨hhp2_0, hhp2_1, hhp2_2, hhp2_3, hhp2_4, hhp2_5, hhp2_6⟩
  · skip
    subst hhp2_0
    have hf0_r2 := hhp2_1
    have S : Sw G A s.heap [[(h0, .inr (3, [.ref q1, .ref q2, .int pasts, .ref q3, .ref q4, .ref q5, .int length, .int known, .int there, .ref q6, .int spot, .int isWrong, .int sign, .int digit, .int first, .int second]))], [(q1, .inl (gA G 0, 182, .inl g))]] _ _ := S
    refine lv_istore_n (lv' := [(3, .int (barPairS p1 p2)), (0, .ref h0), (1, .int p1), (2, .int p2)]) hx hb dX3_shows_5 rfl hl (Nat.le_of_ble_eq_true rfl) rfl (fun ls hl => ?_)
    refine lv_iload_n hx hb dX3_shows_6 rfl (lv_at hl 0 rfl) ?_
    refine lv_if_ge (tgt := 14) hx hb dX3_shows_7 (by decide) (fun c7_3 => ?_) (fun c7_3 => ?_)
    · skip
      have c7_3 : (nI 0) ≤ (barPairS p1 p2) := c7_3
      exact absurd c7_3 (Int32.not_le.mpr (by assumption))
    · skip
      have c7_3 : ¬ (nI 0) ≤ (barPairS p1 p2) := c7_3
      refine lv_iload_n hx hb dX3_shows_10 rfl (lv_at hl 0 rfl) ?_
      refine lv_goto (tgt := 35) hx hb dX3_shows_11 (by decide) ?_
      exact m_iret X hr hlk hQ S ⟨known, there⟩ (by show ((barPairS p1 p2) = showsS g p1 p2); unfold showsS; first | (rw [if_pos (by assumption)]; done) | (rw [if_neg (lt_cut (by assumption)), if_pos (by assumption)]; done) | (rw [if_neg (lt_cut (by assumption)), if_neg (by assumption), tn_nI (n := a) (by omega), tn_nI (n := b) (by omega)]; done)) [0, 1] [] (show ([0, 1] ++ ([] : List Nat)).isPerm (List.range 2) = true by decide +kernel) rfl (Nat.le_of_ble_eq_true rfl) (Nat.le_of_ble_eq_true rfl) dX3_shows_35
  · skip
    subst hhp2_0
    subst hhp2_1
    subst hhp2_2
    have hf0_r2 := hhp2_3
    have hf1_r2 := hhp2_4
    have hf2_r2 := hhp2_5
    have hf3_r2 := hhp2_6
    have S : Sw G A s.heap [[(h0, .inr (3, [.ref q1, .ref q2, .int pasts, .ref q3, .ref q4, .ref q5, .int length, .int known, .int there, .ref q6, .int spot, .int isWrong, .int sign, .int digit, .int first, .int second]))], [(q1, .inl (gA G 0, 182, .inl g))]] _ _ := S
    refine lv_istore_n (lv' := [(3, .int (nI 0)), (0, .ref h0), (1, .int (nI a)), (2, .int (nI b))]) hx hb dX3_shows_5 rfl hl (Nat.le_of_ble_eq_true rfl) rfl (fun ls hl => ?_)
    refine lv_iload_n hx hb dX3_shows_6 rfl (lv_at hl 0 rfl) ?_
    refine lv_if_ge (tgt := 14) hx hb dX3_shows_7 (by decide) (fun c7_4 => ?_) (fun c7_4 => absurd (by decide) c7_4)
    refine lv_aload_n hx hb dX3_shows_14 rfl (lv_at hl 1 rfl) ?_
    have hq5 := S.cut (Bc := [[(h0, .inr (3, [.ref q1, .ref q2, .int pasts, .ref q3, .ref q4, .ref q5, .int length, .int known, .int there, .ref q6, .int spot, .int isWrong, .int sign, .int digit, .int first, .int second]))], [(q1, .inl (gA G 0, 182, .inl g))]]) (Br := []) [0, 1] [] (show ([0, 1] ++ ([] : List Nat)).isPerm (List.range 2) = true by decide +kernel) rfl rfl
    refine m_ri X S hq5 (m_runV (rest := []) (As := []) (n := 0) X S hq5 (mt_X3_hasBegun G l h0 q1 q2 q3 q4 q5 q6 pasts length known there spot isWrong sign digit first second g ) (lw_V q1790 q1792 qs48 q90 q1793) (m_recv X S 0 rfl rfl) (by decide +kernel) ⟨Nat.le_of_ble_eq_true rfl, Nat.le_of_ble_eq_true rfl⟩ rfl hl.1 rfl (Nat.le_of_ble_eq_true rfl) dX3_shows_15 ⟨(Nat.le_of_ble_eq_true rfl), (Nat.le_of_ble_eq_true rfl)⟩) (fun r6 u H locs hp6 S => ?_)
    have hp6 : (r6 = nI 1 ∧ ¬ g 6 ≤ 0) ∨ (r6 = nI 0 ∧ g 6 ≤ 0) := hp6
    have S : Sw G A s.heap [[(h0, .inr (3, [.ref q1, .ref q2, .int pasts, .ref q3, .ref q4, .ref q5, .int length, .int known, .int there, .ref q6, .int spot, .int isWrong, .int sign, .int digit, .int first, .int second]))], [(q1, .inl (gA G 0, 182, .inl g))]] _ _ := S
    rcases hp6 with ⟨hhp6_0, hhp6_1⟩ | ⟨hhp6_0, hhp6_1⟩
    · skip
      subst hhp6_0
      have hf0_r6 := hhp6_1
      have S : Sw G A s.heap [[(h0, .inr (3, [.ref q1, .ref q2, .int pasts, .ref q3, .ref q4, .ref q5, .int length, .int known, .int there, .ref q6, .int spot, .int isWrong, .int sign, .int digit, .int first, .int second]))], [(q1, .inl (gA G 0, 182, .inl g))]] _ _ := S
      refine lv_if_eq (tgt := 33) hx hb dX3_shows_18 (by decide) (fun c18_7 => absurd c18_7 (by decide)) (fun c18_7 => ?_)
      refine lv_aload_n hx hb dX3_shows_21 rfl (lv_at hl 1 rfl) ?_
      refine lv_iload_n hx hb dX3_shows_22 rfl (lv_at hl 2 rfl) ?_
      refine lv_iload_n hx hb dX3_shows_23 rfl (lv_at hl 3 rfl) ?_
      have hEd : Ed a b < 28 := Ed_lt _ (by omega) _ (by omega) (by omega)
      have hq8 := S.cut (Bc := []) (Br := [[(h0, .inr (3, [.ref q1, .ref q2, .int pasts, .ref q3, .ref q4, .ref q5, .int length, .int known, .int there, .ref q6, .int spot, .int isWrong, .int sign, .int digit, .int first, .int second]))], [(q1, .inl (gA G 0, 182, .inl g))]]) [] [0, 1] (show ([] ++ ([0, 1] : List Nat)).isPerm (List.range 2) = true by decide +kernel) rfl rfl
      refine m_ri X S hq8 (m_runS (rest := [.ref h0]) (As := [.int (nI a), .int (nI b)]) (n := 2) X S hq8 (mt_X3_edge G l a b (by omega) (by omega) (by omega)) (lw_S q1798 q1799 q90 q1800) (by decide +kernel) ⟨Nat.le_of_ble_eq_true rfl, Nat.le_of_ble_eq_true rfl⟩ rfl hl.1 rfl (Nat.le_of_ble_eq_true rfl) dX3_shows_24 ⟨(Nat.le_of_ble_eq_true rfl), (Nat.le_of_ble_eq_true rfl)⟩) (fun r9 u H locs hp9 S => ?_)
      have hp9 : r9 = nI (Ed a b) := hp9
      have hhp9_0 := hp9
      subst hhp9_0
      have S : Sw G A s.heap [[(h0, .inr (3, [.ref q1, .ref q2, .int pasts, .ref q3, .ref q4, .ref q5, .int length, .int known, .int there, .ref q6, .int spot, .int isWrong, .int sign, .int digit, .int first, .int second]))], [(q1, .inl (gA G 0, 182, .inl g))]] _ _ := S
      have hq10 := S.cut (Bc := [[(h0, .inr (3, [.ref q1, .ref q2, .int pasts, .ref q3, .ref q4, .ref q5, .int length, .int known, .int there, .ref q6, .int spot, .int isWrong, .int sign, .int digit, .int first, .int second]))], [(q1, .inl (gA G 0, 182, .inl g))]]) (Br := []) [0, 1] [] (show ([0, 1] ++ ([] : List Nat)).isPerm (List.range 2) = true by decide +kernel) rfl rfl
      refine m_ri X S hq10 (m_runV (rest := []) (As := [.int (nI (Ed a b))]) (n := 1) X S hq10 (mt_X3_more G l h0 q1 q2 q3 q4 q5 q6 pasts length known there spot isWrong sign digit first second g (Ed a b) (by omega)) (lw_V q1952 q1954 qs70 q90 q1955) (m_recv X S 0 rfl rfl) (by decide +kernel) ⟨Nat.le_of_ble_eq_true rfl, Nat.le_of_ble_eq_true rfl⟩ rfl hl.1 rfl (Nat.le_of_ble_eq_true rfl) dX3_shows_27 ⟨(Nat.le_of_ble_eq_true rfl), (Nat.le_of_ble_eq_true rfl)⟩) (fun r11 u H locs hp11 S => ?_)
      obtain ⟨k8, t8⟩ := u
      have hp11 : (r11 = moreS g (Ed a b)) := hp11
      have S : Sw G A s.heap [[(h0, .inr (3, [.ref q1, .ref q2, .int pasts, .ref q3, .ref q4, .ref q5, .int length, .int k8, .int t8, .ref q6, .int spot, .int isWrong, .int sign, .int digit, .int first, .int second]))], [(q1, .inl (gA G 0, 182, .inl g))]] _ _ := S
      have hhp11_0 := hp11
      subst hhp11_0
      have S : Sw G A s.heap [[(h0, .inr (3, [.ref q1, .ref q2, .int pasts, .ref q3, .ref q4, .ref q5, .int length, .int k8, .int t8, .ref q6, .int spot, .int isWrong, .int sign, .int digit, .int first, .int second]))], [(q1, .inl (gA G 0, 182, .inl g))]] _ _ := S
      refine lv_goto (tgt := 35) hx hb dX3_shows_30 (by decide) ?_
      exact m_iret X hr hlk hQ S ⟨k8, t8⟩ (by show ((moreS g (Ed a b)) = showsS g (nI a) (nI b)); unfold showsS; first | (rw [if_pos (by assumption)]; done) | (rw [if_neg (lt_cut (by assumption)), if_pos (by assumption)]; done) | (rw [if_neg (lt_cut (by assumption)), if_neg (by assumption), tn_nI (n := a) (by omega), tn_nI (n := b) (by omega)]; done)) [0, 1] [] (show ([0, 1] ++ ([] : List Nat)).isPerm (List.range 2) = true by decide +kernel) rfl (Nat.le_of_ble_eq_true rfl) (Nat.le_of_ble_eq_true rfl) dX3_shows_35
    · skip
      subst hhp6_0
      have hf0_r6 := hhp6_1
      have S : Sw G A s.heap [[(h0, .inr (3, [.ref q1, .ref q2, .int pasts, .ref q3, .ref q4, .ref q5, .int length, .int known, .int there, .ref q6, .int spot, .int isWrong, .int sign, .int digit, .int first, .int second]))], [(q1, .inl (gA G 0, 182, .inl g))]] _ _ := S
      refine lv_if_eq (tgt := 33) hx hb dX3_shows_18 (by decide) (fun c18_12 => ?_) (fun c18_12 => absurd (by decide) c18_12)
      refine lv_bipush (v := (-5 : Int32)) hx hb dX3_shows_33 (by decide) ?_
      exact m_iret X hr hlk hQ S ⟨known, there⟩ (by show ((-5 : Int32) = showsS g (nI a) (nI b)); unfold showsS; first | (rw [if_pos (by assumption)]; done) | (rw [if_neg (lt_cut (by assumption)), if_pos (by assumption)]; done) | (rw [if_neg (lt_cut (by assumption)), if_neg (by assumption), tn_nI (n := a) (by omega), tn_nI (n := b) (by omega)]; done)) [0, 1] [] (show ([0, 1] ++ ([] : List Nat)).isPerm (List.range 2) = true by decide +kernel) rfl (Nat.le_of_ble_eq_true rfl) (Nat.le_of_ble_eq_true rfl) dX3_shows_35

abbrev rm_X3_bestShow : Room := { frames := 4, cells := 0, slots := 0, locals := 94 }
set_option maxHeartbeats 4000000 in
set_option maxRecDepth 100000 in
theorem mt_X3_bestShow (G : mGG) (l : Launch) (h0 : Nat) (q1 : Nat) (q2 : Nat) (q3 : Nat) (q4 : Nat) (q5 : Nat) (q6 : Nat) (pasts : Int32) (length : Int32) (known : Int32) (there : Int32) (spot : Int32) (isWrong : Int32) (sign : Int32) (digit : Int32) (first : Int32) (second : Int32) (g : Nat → Int32) (w : Int32) : Cg G l yX3_bestShow (ws_ yX3_bestShow cX3_bestShow 6 (some FieldType.int)) rm_X3_bestShow [.ref h0, .int w] [[(h0, .inr (3, [.ref q1, .ref q2, .int pasts, .ref q3, .ref q4, .ref q5, .int length, .int known, .int there, .ref q6, .int spot, .int isWrong, .int sign, .int digit, .int first, .int second]))], [(q1, .inl (gA G 0, 182, .inl g))]] (Qi G (fun (r : Int32) (u : Int32 × Int32) => (r = bestS g w)) (fun (u : Int32 × Int32) => [[(h0, .inr (3, [.ref q1, .ref q2, .int pasts, .ref q3, .ref q4, .ref q5, .int length, .int u.1, .int u.2, .ref q6, .int spot, .int isWrong, .int sign, .int digit, .int first, .int second]))], [(q1, .inl (gA G 0, 182, .inl g))]])) := by
  refine Cg.intro (own := RX3) (cc := cX3_bestShow) (maxL := 6) (ret := (some FieldType.int)) (by decide +kernel) rfl rfl (Nat.le_of_ble_eq_true rfl) ?_
  intro p e s m ag below meth c A ls Q X hr hlk hnm S hl hQ
  have hx := X.1
  have hb := X.2.1
  have hl : lv_has ls 6 [(0, .ref h0), (1, .int w)] := hl
  refine lv_iload_n hx hb dX3_bestShow_0 rfl (lv_at hl 1 rfl) ?_
  refine lv_iconst (v := nI 0) hx hb dX3_bestShow_1 (by decide) ?_
  refine lv_iconst (v := nI 1) hx hb dX3_bestShow_2 (by decide) ?_
  have hq1 := S.cut (Bc := []) (Br := [[(h0, .inr (3, [.ref q1, .ref q2, .int pasts, .ref q3, .ref q4, .ref q5, .int length, .int known, .int there, .ref q6, .int spot, .int isWrong, .int sign, .int digit, .int first, .int second]))], [(q1, .inl (gA G 0, 182, .inl g))]]) [] [0, 1] (show ([] ++ ([0, 1] : List Nat)).isPerm (List.range 2) = true by decide +kernel) rfl rfl
  refine m_ri X S hq1 (m_runS (rest := []) (As := [.int w, .int (nI 0), .int (nI 1)]) (n := 3) X S hq1 (mt_X3_in G l w (nI 0) (nI 1) ) (lw_S q1766 q1767 q90 q1768) (by decide +kernel) ⟨Nat.le_of_ble_eq_true rfl, Nat.le_of_ble_eq_true rfl⟩ rfl hl.1 rfl (Nat.le_of_ble_eq_true rfl) dX3_bestShow_3 ⟨(Nat.le_of_ble_eq_true rfl), (Nat.le_of_ble_eq_true rfl)⟩) (fun r2 u H locs hp2 S => ?_)
  have hp2 : (r2 = nI 1 ∧ ((nI 0) ≤ w ∧ w ≤ (nI 1))) ∨ (r2 = nI 0 ∧ (¬ ((nI 0) ≤ w ∧ w ≤ (nI 1)))) := hp2
  have S : Sw G A s.heap [[(h0, .inr (3, [.ref q1, .ref q2, .int pasts, .ref q3, .ref q4, .ref q5, .int length, .int known, .int there, .ref q6, .int spot, .int isWrong, .int sign, .int digit, .int first, .int second]))], [(q1, .inl (gA G 0, 182, .inl g))]] _ _ := S
  rcases hp2 with ⟨hhp2_0, hhp2_1⟩ | ⟨hhp2_0, hhp2_1⟩
  · skip
    subst hhp2_0
    have hf0_r2 := hhp2_1
    have S : Sw G A s.heap [[(h0, .inr (3, [.ref q1, .ref q2, .int pasts, .ref q3, .ref q4, .ref q5, .int length, .int known, .int there, .ref q6, .int spot, .int isWrong, .int sign, .int digit, .int first, .int second]))], [(q1, .inl (gA G 0, 182, .inl g))]] _ _ := S
    have hin : nI 0 ≤ w ∧ w ≤ nI 1 := by assumption
    refine lv_if_ne (tgt := 12) hx hb dX3_bestShow_6 (by decide) (fun c6_3 => ?_) (fun c6_3 => absurd c6_3 (by decide))
    refine lv_aload_n hx hb dX3_bestShow_12 rfl (lv_at hl 0 rfl) ?_
    have hq4 := S.cut (Bc := [[(h0, .inr (3, [.ref q1, .ref q2, .int pasts, .ref q3, .ref q4, .ref q5, .int length, .int known, .int there, .ref q6, .int spot, .int isWrong, .int sign, .int digit, .int first, .int second]))], [(q1, .inl (gA G 0, 182, .inl g))]]) (Br := []) [0, 1] [] (show ([0, 1] ++ ([] : List Nat)).isPerm (List.range 2) = true by decide +kernel) rfl rfl
    refine m_ri X S hq4 (m_runV (rest := []) (As := []) (n := 0) X S hq4 (mt_X3_hasBegun G l h0 q1 q2 q3 q4 q5 q6 pasts length known there spot isWrong sign digit first second g ) (lw_V q1790 q1792 qs48 q90 q1793) (m_recv X S 0 rfl rfl) (by decide +kernel) ⟨Nat.le_of_ble_eq_true rfl, Nat.le_of_ble_eq_true rfl⟩ rfl hl.1 rfl (Nat.le_of_ble_eq_true rfl) dX3_bestShow_13 ⟨(Nat.le_of_ble_eq_true rfl), (Nat.le_of_ble_eq_true rfl)⟩) (fun r5 u H locs hp5 S => ?_)
    have hp5 : (r5 = nI 1 ∧ ¬ g 6 ≤ 0) ∨ (r5 = nI 0 ∧ g 6 ≤ 0) := hp5
    have S : Sw G A s.heap [[(h0, .inr (3, [.ref q1, .ref q2, .int pasts, .ref q3, .ref q4, .ref q5, .int length, .int known, .int there, .ref q6, .int spot, .int isWrong, .int sign, .int digit, .int first, .int second]))], [(q1, .inl (gA G 0, 182, .inl g))]] _ _ := S
    rcases hp5 with ⟨hhp5_0, hhp5_1⟩ | ⟨hhp5_0, hhp5_1⟩
    · skip
      subst hhp5_0
      have hf0_r5 := hhp5_1
      have S : Sw G A s.heap [[(h0, .inr (3, [.ref q1, .ref q2, .int pasts, .ref q3, .ref q4, .ref q5, .int length, .int known, .int there, .ref q6, .int spot, .int isWrong, .int sign, .int digit, .int first, .int second]))], [(q1, .inl (gA G 0, 182, .inl g))]] _ _ := S
      have hbg : ¬ g 6 ≤ nI 0 := by assumption
      refine lv_if_ne (tgt := 22) hx hb dX3_bestShow_16 (by decide) (fun c16_6 => ?_) (fun c16_6 => absurd c16_6 (by decide))
      refine lv_bipush (v := (-6 : Int32)) hx hb dX3_bestShow_22 (by decide) ?_
      refine lv_istore_n (lv' := [(2, .int (-6 : Int32)), (0, .ref h0), (1, .int w)]) hx hb dX3_bestShow_24 rfl hl (Nat.le_of_ble_eq_true rfl) rfl (fun ls hl => ?_)
      refine lv_iconst (v := nI 0) hx hb dX3_bestShow_25 (by decide) ?_
      refine lv_istore_n (lv' := [(3, .int (nI 0)), (2, .int (-6 : Int32)), (0, .ref h0), (1, .int w)]) hx hb dX3_bestShow_26 rfl hl (Nat.le_of_ble_eq_true rfl) rfl (fun ls hl => ?_)
      have hE7 : (-6 : Int32) = (bsP g 0).1 := rfl
      have hl := lv_cong hl (congrArg (fun (zz : Int32) => ([(3, .int (nI 0)), (2, .int zz), (0, .ref h0), (1, .int w)] : List (Nat × Value))) hE7)
      have hl : lv_has ls 6 [(3, .int (nI 0)), (2, .int ((bsP g 0).1)), (0, .ref h0), (1, .int w)] := hl
      have hE8 : nI 0 = (bsP g 0).2 := rfl
      have hl := lv_cong hl (congrArg (fun (zz : Int32) => ([(3, .int zz), (2, .int ((bsP g 0).1)), (0, .ref h0), (1, .int w)] : List (Nat × Value))) hE8)
      have hl : lv_has ls 6 [(3, .int ((bsP g 0).2)), (2, .int ((bsP g 0).1)), (0, .ref h0), (1, .int w)] := hl
      refine lv_iconst (v := nI 0) hx hb dX3_bestShow_27 (by decide) ?_
      refine lv_istore (lv' := [(4, .int (nI 0)), (3, .int ((bsP g 0).2)), (2, .int ((bsP g 0).1)), (0, .ref h0), (1, .int w)]) hx hb dX3_bestShow_28 hl (Nat.le_of_ble_eq_true rfl) rfl (fun ls hl => ?_)
      have hL30 : ∀ (kf : Nat) (i : Nat) (kz : Int32) (tz : Int32), (29 - i) < kf → (i ≤ 28) → ∀ (H : Heap) (locs : List Loc), Sw G A s.heap [[(h0, .inr (3, [.ref q1, .ref q2, .int pasts, .ref q3, .ref q4, .ref q5, .int length, .int kz, .int tz, .ref q6, .int spot, .int isWrong, .int sign, .int digit, .int first, .int second]))], [(q1, .inl (gA G 0, 182, .inl g))]] H locs → ∀ (ls : Array Slot), lv_has ls 6 [(2, .int ((bsP g i).1)), (3, .int ((bsP g i).2)), (4, .int (nI i)), (0, .ref h0), (1, .int w)] → W p l e rm_X3_bestShow s m ag below meth c H locs (0) (0) Q (F0 m 30 ls []) := by
        intro kf
        induction kf with
        | zero =>
          intro i kz tz hm
          exact absurd hm (Nat.not_lt_zero _)
        | succ kf30 ih30 =>
          intro i kz tz hm hi H locs S ls hl
          refine lv_iload hx hb dX3_bestShow_30 (lv_at hl 2 rfl) ?_
          refine lv_bipush (v := nI 28) hx hb dX3_bestShow_32 (by decide) ?_
          refine lv_icmp_ge (tgt := 77) hx hb dX3_bestShow_34 (by decide) (fun c34_9 => ?_) (fun c34_9 => ?_)
          · skip
            have c34_9 : 28 ≤ i := (nI_leI (a := 28) (b := i) (by omega) (by omega)).mp c34_9
            obtain rfl : i = 28 := by omega
            obtain ⟨b1, hb1e⟩ : ∃ z, z = (bsP g 28).1 := ⟨_, rfl⟩
            obtain ⟨b2, hb2e⟩ : ∃ z, z = (bsP g 28).2 := ⟨_, rfl⟩
            have hE10 : (bsP g 28).1 = b1 := hb1e.symm
            have hl := lv_cong hl (congrArg (fun (zz : Int32) => ([(2, .int zz), (3, .int ((bsP g 28).2)), (4, .int (nI 28)), (0, .ref h0), (1, .int w)] : List (Nat × Value))) hE10)
            have hl : lv_has ls 6 [(2, .int b1), (3, .int ((bsP g 28).2)), (4, .int (nI 28)), (0, .ref h0), (1, .int w)] := hl
            have hE11 : (bsP g 28).2 = b2 := hb2e.symm
            have hl := lv_cong hl (congrArg (fun (zz : Int32) => ([(2, .int b1), (3, .int zz), (4, .int (nI 28)), (0, .ref h0), (1, .int w)] : List (Nat × Value))) hE11)
            have hl : lv_has ls 6 [(2, .int b1), (3, .int b2), (4, .int (nI 28)), (0, .ref h0), (1, .int w)] := hl
            refine lv_iload_n hx hb dX3_bestShow_77 rfl (lv_at hl 0 rfl) ?_
            refine lv_bipush (v := (-6 : Int32)) hx hb dX3_bestShow_78 (by decide) ?_
            refine lv_icmp_eq (tgt := 87) hx hb dX3_bestShow_80 (by decide) (fun c80_12 => ?_) (fun c80_12 => ?_)
            · skip
              have hq1 := c80_12
              refine lv_iload_n hx hb dX3_bestShow_87 rfl (lv_at hl 0 rfl) ?_
              refine lv_goto (tgt := 92) hx hb dX3_bestShow_88 (by decide) ?_
              exact m_iret X hr hlk hQ S ⟨kz, tz⟩ (by show (b1 = bestS g w); unfold bestS; rw [if_neg (fun z => z hin), if_neg hbg, ← hb1e, ← hb2e]; clear hb1e hb2e; first | (rw [if_pos (Or.inl hq1)]; done) | (rw [if_pos (Or.inr hq2)]; done) | (rw [if_neg (fun z => z.elim hq1 hq2)]; done)) [0, 1] [] (show ([0, 1] ++ ([] : List Nat)).isPerm (List.range 2) = true by decide +kernel) rfl (Nat.le_of_ble_eq_true rfl) (Nat.le_of_ble_eq_true rfl) dX3_bestShow_92
            · skip
              have hq1 := c80_12
              refine lv_iload_n hx hb dX3_bestShow_83 rfl (lv_at hl 4 rfl) ?_
              refine lv_if_ne (tgt := 91) hx hb dX3_bestShow_84 (by decide) (fun c84_13 => ?_) (fun c84_13 => ?_)
              · skip
                have c84_13 : ¬ w = (nI 0) := c84_13
                have hq2 := c84_13
                refine lv_iload_n hx hb dX3_bestShow_91 rfl (lv_at hl 1 rfl) ?_
                exact m_iret X hr hlk hQ S ⟨kz, tz⟩ (by show (b2 = bestS g w); unfold bestS; rw [if_neg (fun z => z hin), if_neg hbg, ← hb1e, ← hb2e]; clear hb1e hb2e; first | (rw [if_pos (Or.inl hq1)]; done) | (rw [if_pos (Or.inr hq2)]; done) | (rw [if_neg (fun z => z.elim hq1 hq2)]; done)) [0, 1] [] (show ([0, 1] ++ ([] : List Nat)).isPerm (List.range 2) = true by decide +kernel) rfl (Nat.le_of_ble_eq_true rfl) (Nat.le_of_ble_eq_true rfl) dX3_bestShow_92
              · skip
                have c84_13 : w = (nI 0) := c84_13
                have hq2 := c84_13
                refine lv_iload_n hx hb dX3_bestShow_87 rfl (lv_at hl 0 rfl) ?_
                refine lv_goto (tgt := 92) hx hb dX3_bestShow_88 (by decide) ?_
                exact m_iret X hr hlk hQ S ⟨kz, tz⟩ (by show (b1 = bestS g w); unfold bestS; rw [if_neg (fun z => z hin), if_neg hbg, ← hb1e, ← hb2e]; clear hb1e hb2e; first | (rw [if_pos (Or.inl hq1)]; done) | (rw [if_pos (Or.inr hq2)]; done) | (rw [if_neg (fun z => z.elim hq1 hq2)]; done)) [0, 1] [] (show ([0, 1] ++ ([] : List Nat)).isPerm (List.range 2) = true by decide +kernel) rfl (Nat.le_of_ble_eq_true rfl) (Nat.le_of_ble_eq_true rfl) dX3_bestShow_92
          · skip
            have c34_9 : ¬ 28 ≤ i := fun z => c34_9 ((nI_leI (a := 28) (b := i) (by omega) (by omega)).mpr z)
            refine lv_aload_n hx hb dX3_bestShow_37 rfl (lv_at hl 3 rfl) ?_
            refine lv_iload hx hb dX3_bestShow_38 (lv_at hl 2 rfl) ?_
            have hq14 := S.cut (Bc := [[(h0, .inr (3, [.ref q1, .ref q2, .int pasts, .ref q3, .ref q4, .ref q5, .int length, .int kz, .int tz, .ref q6, .int spot, .int isWrong, .int sign, .int digit, .int first, .int second]))], [(q1, .inl (gA G 0, 182, .inl g))]]) (Br := []) [0, 1] [] (show ([0, 1] ++ ([] : List Nat)).isPerm (List.range 2) = true by decide +kernel) rfl rfl
            refine m_ri X S hq14 (m_runV (rest := []) (As := [.int (nI i)]) (n := 1) X S hq14 (mt_X3_more G l h0 q1 q2 q3 q4 q5 q6 pasts length kz tz spot isWrong sign digit first second g i (by omega)) (lw_V q1952 q1954 qs70 q90 q1955) (m_recv X S 0 rfl rfl) (by decide +kernel) ⟨Nat.le_of_ble_eq_true rfl, Nat.le_of_ble_eq_true rfl⟩ rfl hl.1 rfl (Nat.le_of_ble_eq_true rfl) dX3_bestShow_40 ⟨(Nat.le_of_ble_eq_true rfl), (Nat.le_of_ble_eq_true rfl)⟩) (fun r15 u H locs hp15 S => ?_)
            obtain ⟨k8, t8⟩ := u
            have hp15 : (r15 = moreS g i) := hp15
            have S : Sw G A s.heap [[(h0, .inr (3, [.ref q1, .ref q2, .int pasts, .ref q3, .ref q4, .ref q5, .int length, .int k8, .int t8, .ref q6, .int spot, .int isWrong, .int sign, .int digit, .int first, .int second]))], [(q1, .inl (gA G 0, 182, .inl g))]] _ _ := S
            have hhp15_0 := hp15
            subst hhp15_0
            have S : Sw G A s.heap [[(h0, .inr (3, [.ref q1, .ref q2, .int pasts, .ref q3, .ref q4, .ref q5, .int length, .int k8, .int t8, .ref q6, .int spot, .int isWrong, .int sign, .int digit, .int first, .int second]))], [(q1, .inl (gA G 0, 182, .inl g))]] _ _ := S
            refine lv_istore (lv' := [(5, .int (moreS g i)), (2, .int ((bsP g i).1)), (3, .int ((bsP g i).2)), (4, .int (nI i)), (0, .ref h0), (1, .int w)]) hx hb dX3_bestShow_43 hl (Nat.le_of_ble_eq_true rfl) rfl (fun ls hl => ?_)
            refine lv_iload hx hb dX3_bestShow_45 (lv_at hl 0 rfl) ?_
            refine lv_iload_n hx hb dX3_bestShow_47 rfl (lv_at hl 2 rfl) ?_
            refine lv_icmp_le (tgt := 56) hx hb dX3_bestShow_48 (by decide) (fun c48_16 => ?_) (fun c48_16 => ?_)
            · skip
              refine lv_iload_n hx hb dX3_bestShow_56 rfl (lv_at hl 1 rfl) ?_
              refine lv_istore_n (lv' := [(2, .int ((bsP g i).1)), (5, .int (moreS g i)), (3, .int ((bsP g i).2)), (4, .int (nI i)), (0, .ref h0), (1, .int w)]) hx hb dX3_bestShow_57 rfl hl (Nat.le_of_ble_eq_true rfl) rfl (fun ls hl => ?_)
              refine lv_iload hx hb dX3_bestShow_58 (lv_at hl 1 rfl) ?_
              refine lv_iload_n hx hb dX3_bestShow_60 rfl (lv_at hl 2 rfl) ?_
              refine lv_icmp_le (tgt := 69) hx hb dX3_bestShow_61 (by decide) (fun c61_17 => ?_) (fun c61_17 => ?_)
              · skip
                refine lv_iload_n hx hb dX3_bestShow_69 rfl (lv_at hl 2 rfl) ?_
                refine lv_istore_n (lv' := [(3, .int ((bsP g i).2)), (2, .int ((bsP g i).1)), (5, .int (moreS g i)), (4, .int (nI i)), (0, .ref h0), (1, .int w)]) hx hb dX3_bestShow_70 rfl hl (Nat.le_of_ble_eq_true rfl) rfl (fun ls hl => ?_)
                have hE18 : (bsP g i).1 = (bsP g (i + 1)).1 := by first | rw [bs_no (by assumption)] | rw [bs_yes (by assumption)]
                have hl := lv_cong hl (congrArg (fun (zz : Int32) => ([(3, .int ((bsP g i).2)), (2, .int zz), (5, .int (moreS g i)), (4, .int (nI i)), (0, .ref h0), (1, .int w)] : List (Nat × Value))) hE18)
                have hl : lv_has ls 6 [(3, .int ((bsP g i).2)), (2, .int ((bsP g (i + 1)).1)), (5, .int (moreS g i)), (4, .int (nI i)), (0, .ref h0), (1, .int w)] := hl
                have hE19 : (bsP g i).2 = (bsP g (i + 1)).2 := by first | rw [bs_no (by assumption)] | rw [bs_yes (by assumption)]
                have hl := lv_cong hl (congrArg (fun (zz : Int32) => ([(3, .int zz), (2, .int ((bsP g (i + 1)).1)), (5, .int (moreS g i)), (4, .int (nI i)), (0, .ref h0), (1, .int w)] : List (Nat × Value))) hE19)
                have hl : lv_has ls 6 [(3, .int ((bsP g (i + 1)).2)), (2, .int ((bsP g (i + 1)).1)), (5, .int (moreS g i)), (4, .int (nI i)), (0, .ref h0), (1, .int w)] := hl
                refine lv_iinc (v := nI (i + 1)) (lv' := [(4, .int (nI (i + 1))), (3, .int ((bsP g (i + 1)).2)), (2, .int ((bsP g (i + 1)).1)), (5, .int (moreS g i)), (0, .ref h0), (1, .int w)]) hx hb dX3_bestShow_71 hl (k := 3) rfl (nI_add _ _) (Nat.le_of_ble_eq_true rfl) rfl (fun ls hl => ?_)
                refine lv_goto (tgt := 30) hx hb dX3_bestShow_74 (by decide) ?_
                exact ih30 (i + 1) k8 t8 (by omega) (by omega) _ _ S ls (lv_sub hl [2, 1, 0, 4, 5] rfl)
              · skip
                contradiction
            · skip
              refine lv_iload hx hb dX3_bestShow_51 (lv_at hl 3 rfl) ?_
              refine lv_goto (tgt := 57) hx hb dX3_bestShow_53 (by decide) ?_
              refine lv_istore_n (lv' := [(2, .int (nI i)), (5, .int (moreS g i)), (3, .int ((bsP g i).2)), (4, .int (nI i)), (0, .ref h0), (1, .int w)]) hx hb dX3_bestShow_57 rfl hl (Nat.le_of_ble_eq_true rfl) rfl (fun ls hl => ?_)
              refine lv_iload hx hb dX3_bestShow_58 (lv_at hl 1 rfl) ?_
              refine lv_iload_n hx hb dX3_bestShow_60 rfl (lv_at hl 2 rfl) ?_
              refine lv_icmp_le (tgt := 69) hx hb dX3_bestShow_61 (by decide) (fun c61_20 => ?_) (fun c61_20 => ?_)
              · skip
                contradiction
              · skip
                refine lv_iload hx hb dX3_bestShow_64 (lv_at hl 1 rfl) ?_
                refine lv_goto (tgt := 70) hx hb dX3_bestShow_66 (by decide) ?_
                refine lv_istore_n (lv' := [(3, .int (moreS g i)), (2, .int (nI i)), (5, .int (moreS g i)), (4, .int (nI i)), (0, .ref h0), (1, .int w)]) hx hb dX3_bestShow_70 rfl hl (Nat.le_of_ble_eq_true rfl) rfl (fun ls hl => ?_)
                have hE21 : nI i = (bsP g (i + 1)).1 := by first | rw [bs_no (by assumption)] | rw [bs_yes (by assumption)]
                have hl := lv_cong hl (congrArg (fun (zz : Int32) => ([(3, .int (moreS g i)), (2, .int zz), (5, .int (moreS g i)), (4, .int (nI i)), (0, .ref h0), (1, .int w)] : List (Nat × Value))) hE21)
                have hl : lv_has ls 6 [(3, .int (moreS g i)), (2, .int ((bsP g (i + 1)).1)), (5, .int (moreS g i)), (4, .int (nI i)), (0, .ref h0), (1, .int w)] := hl
                have hE22 : (moreS g i) = (bsP g (i + 1)).2 := by first | rw [bs_no (by assumption)] | rw [bs_yes (by assumption)]
                have hl := lv_cong hl (congrArg (fun (zz : Int32) => ([(3, .int zz), (2, .int ((bsP g (i + 1)).1)), (5, .int (moreS g i)), (4, .int (nI i)), (0, .ref h0), (1, .int w)] : List (Nat × Value))) hE22)
                have hl : lv_has ls 6 [(3, .int ((bsP g (i + 1)).2)), (2, .int ((bsP g (i + 1)).1)), (5, .int (moreS g i)), (4, .int (nI i)), (0, .ref h0), (1, .int w)] := hl
                refine lv_iinc (v := nI (i + 1)) (lv' := [(4, .int (nI (i + 1))), (3, .int ((bsP g (i + 1)).2)), (2, .int ((bsP g (i + 1)).1)), (5, .int (moreS g i)), (0, .ref h0), (1, .int w)]) hx hb dX3_bestShow_71 hl (k := 3) rfl (nI_add _ _) (Nat.le_of_ble_eq_true rfl) rfl (fun ls hl => ?_)
                refine lv_goto (tgt := 30) hx hb dX3_bestShow_74 (by decide) ?_
                exact ih30 (i + 1) k8 t8 (by omega) (by omega) _ _ S ls (lv_sub hl [2, 1, 0, 4, 5] rfl)
      exact hL30 _ 0 known there (Nat.lt_succ_self _) (by omega) _ _ S ls (lv_sub hl [2, 1, 0, 3, 4] rfl)
    · skip
      subst hhp5_0
      have hf0_r5 := hhp5_1
      have S : Sw G A s.heap [[(h0, .inr (3, [.ref q1, .ref q2, .int pasts, .ref q3, .ref q4, .ref q5, .int length, .int known, .int there, .ref q6, .int spot, .int isWrong, .int sign, .int digit, .int first, .int second]))], [(q1, .inl (gA G 0, 182, .inl g))]] _ _ := S
      refine lv_if_ne (tgt := 22) hx hb dX3_bestShow_16 (by decide) (fun c16_23 => absurd (by decide) c16_23) (fun c16_23 => ?_)
      refine lv_bipush (v := (-5 : Int32)) hx hb dX3_bestShow_19 (by decide) ?_
      exact m_iret X hr hlk hQ S ⟨known, there⟩ (by show ((-5 : Int32) = bestS g w); unfold bestS; rw [if_neg (fun z => z hin), if_pos (by assumption)]) [0, 1] [] (show ([0, 1] ++ ([] : List Nat)).isPerm (List.range 2) = true by decide +kernel) rfl (Nat.le_of_ble_eq_true rfl) (Nat.le_of_ble_eq_true rfl) dX3_bestShow_21
  · skip
    subst hhp2_0
    have hf0_r2 := hhp2_1
    have S : Sw G A s.heap [[(h0, .inr (3, [.ref q1, .ref q2, .int pasts, .ref q3, .ref q4, .ref q5, .int length, .int known, .int there, .ref q6, .int spot, .int isWrong, .int sign, .int digit, .int first, .int second]))], [(q1, .inl (gA G 0, 182, .inl g))]] _ _ := S
    refine lv_if_ne (tgt := 12) hx hb dX3_bestShow_6 (by decide) (fun c6_24 => absurd (by decide) c6_24) (fun c6_24 => ?_)
    refine lv_bipush (v := (-2 : Int32)) hx hb dX3_bestShow_9 (by decide) ?_
    exact m_iret X hr hlk hQ S ⟨known, there⟩ (by show ((-2 : Int32) = bestS g w); unfold bestS; rw [if_pos (by assumption)]) [0, 1] [] (show ([0, 1] ++ ([] : List Nat)).isPerm (List.range 2) = true by decide +kernel) rfl (Nat.le_of_ble_eq_true rfl) (Nat.le_of_ble_eq_true rfl) dX3_bestShow_11

abbrev rm_X3_knownWay : Room := { frames := 3, cells := 0, slots := 0, locals := 72 }
set_option maxHeartbeats 4000000 in
set_option maxRecDepth 100000 in
theorem mt_X3_knownWay (G : mGG) (l : Launch) (h0 : Nat) (q1 : Nat) (q2 : Nat) (q3 : Nat) (q4 : Nat) (q5 : Nat) (q6 : Nat) (pasts : Int32) (length : Int32) (known : Int32) (there : Int32) (spot : Int32) (isWrong : Int32) (sign : Int32) (digit : Int32) (first : Int32) (second : Int32) (g : Nat → Int32) (fr : Nat → Int32) (p1 : Int32) (p2 : Int32) : Cg G l yX3_knownWay (ws_ yX3_knownWay cX3_knownWay 3 (some FieldType.int)) rm_X3_knownWay [.ref h0, .int p1, .int p2] [[(h0, .inr (3, [.ref q1, .ref q2, .int pasts, .ref q3, .ref q4, .ref q5, .int length, .int known, .int there, .ref q6, .int spot, .int isWrong, .int sign, .int digit, .int first, .int second]))], [(q1, .inl (gA G 0, 182, .inl g))], [(q6, .inl (gA G 0, 8, .inl fr))]] (Qi G (fun (r : Int32) (u : Int32 × Int32 × (Nat → Int32)) => (r = knownWayS g p1 p2)) (fun (u : Int32 × Int32 × (Nat → Int32)) => [[(h0, .inr (3, [.ref q1, .ref q2, .int pasts, .ref q3, .ref q4, .ref q5, .int length, .int u.1, .int u.2.1, .ref q6, .int spot, .int isWrong, .int sign, .int digit, .int first, .int second]))], [(q1, .inl (gA G 0, 182, .inl g))], [(q6, .inl (gA G 0, 8, .inl u.2.2))]])) := by
  refine Cg.intro (own := RX3) (cc := cX3_knownWay) (maxL := 3) (ret := (some FieldType.int)) (by decide +kernel) rfl rfl (Nat.le_of_ble_eq_true rfl) ?_
  intro p e s m ag below meth c A ls Q X hr hlk hnm S hl hQ
  have hx := X.1
  have hb := X.2.1
  have hl : lv_has ls 3 [(0, .ref h0), (1, .int p1), (2, .int p2)] := hl
  refine lv_iload_n hx hb dX3_knownWay_0 rfl (lv_at hl 1 rfl) ?_
  have hq1 := S.cut (Bc := []) (Br := [[(h0, .inr (3, [.ref q1, .ref q2, .int pasts, .ref q3, .ref q4, .ref q5, .int length, .int known, .int there, .ref q6, .int spot, .int isWrong, .int sign, .int digit, .int first, .int second]))], [(q1, .inl (gA G 0, 182, .inl g))], [(q6, .inl (gA G 0, 8, .inl fr))]]) [] [0, 1, 2] (show ([] ++ ([0, 1, 2] : List Nat)).isPerm (List.range 3) = true by decide +kernel) rfl rfl
  refine m_ri X S hq1 (m_runS (rest := []) (As := [.int p1]) (n := 1) X S hq1 (mt_X3_isPlace G l p1 ) (lw_S q1787 q1788 q90 q1789) (by decide +kernel) ⟨Nat.le_of_ble_eq_true rfl, Nat.le_of_ble_eq_true rfl⟩ rfl hl.1 rfl (Nat.le_of_ble_eq_true rfl) dX3_knownWay_1 ⟨(Nat.le_of_ble_eq_true rfl), (Nat.le_of_ble_eq_true rfl)⟩) (fun r2 u H locs hp2 S => ?_)
  obtain ⟨a, rfl⟩ : ∃ z, z = u := ⟨_, rfl⟩
  have hp2 : (r2 = nI 1 ∧ p1 = nI a ∧ a < 8) ∨ (r2 = nI 0 ∧ ¬ pl p1) := hp2
  have S : Sw G A s.heap [[(h0, .inr (3, [.ref q1, .ref q2, .int pasts, .ref q3, .ref q4, .ref q5, .int length, .int known, .int there, .ref q6, .int spot, .int isWrong, .int sign, .int digit, .int first, .int second]))], [(q1, .inl (gA G 0, 182, .inl g))], [(q6, .inl (gA G 0, 8, .inl fr))]] _ _ := S
  rcases hp2 with ⟨hhp2_0, hhp2_1, hhp2_2⟩ | ⟨hhp2_0, hhp2_1⟩
  · skip
    subst hhp2_0
    subst hhp2_1
    have hf0_r2 := hhp2_2
    have S : Sw G A s.heap [[(h0, .inr (3, [.ref q1, .ref q2, .int pasts, .ref q3, .ref q4, .ref q5, .int length, .int known, .int there, .ref q6, .int spot, .int isWrong, .int sign, .int digit, .int first, .int second]))], [(q1, .inl (gA G 0, 182, .inl g))], [(q6, .inl (gA G 0, 8, .inl fr))]] _ _ := S
    refine lv_if_eq (tgt := 14) hx hb dX3_knownWay_4 (by decide) (fun c4_3 => absurd c4_3 (by decide)) (fun c4_3 => ?_)
    refine lv_iload_n hx hb dX3_knownWay_7 rfl (lv_at hl 2 rfl) ?_
    have hq4 := S.cut (Bc := []) (Br := [[(h0, .inr (3, [.ref q1, .ref q2, .int pasts, .ref q3, .ref q4, .ref q5, .int length, .int known, .int there, .ref q6, .int spot, .int isWrong, .int sign, .int digit, .int first, .int second]))], [(q1, .inl (gA G 0, 182, .inl g))], [(q6, .inl (gA G 0, 8, .inl fr))]]) [] [0, 1, 2] (show ([] ++ ([0, 1, 2] : List Nat)).isPerm (List.range 3) = true by decide +kernel) rfl rfl
    refine m_ri X S hq4 (m_runS (rest := []) (As := [.int p2]) (n := 1) X S hq4 (mt_X3_isPlace G l p2 ) (lw_S q1787 q1788 q90 q1789) (by decide +kernel) ⟨Nat.le_of_ble_eq_true rfl, Nat.le_of_ble_eq_true rfl⟩ rfl hl.1 rfl (Nat.le_of_ble_eq_true rfl) dX3_knownWay_8 ⟨(Nat.le_of_ble_eq_true rfl), (Nat.le_of_ble_eq_true rfl)⟩) (fun r5 u H locs hp5 S => ?_)
    obtain ⟨b, rfl⟩ : ∃ z, z = u := ⟨_, rfl⟩
    have hp5 : (r5 = nI 1 ∧ p2 = nI b ∧ b < 8) ∨ (r5 = nI 0 ∧ ¬ pl p2) := hp5
    have S : Sw G A s.heap [[(h0, .inr (3, [.ref q1, .ref q2, .int pasts, .ref q3, .ref q4, .ref q5, .int length, .int known, .int there, .ref q6, .int spot, .int isWrong, .int sign, .int digit, .int first, .int second]))], [(q1, .inl (gA G 0, 182, .inl g))], [(q6, .inl (gA G 0, 8, .inl fr))]] _ _ := S
    rcases hp5 with ⟨hhp5_0, hhp5_1, hhp5_2⟩ | ⟨hhp5_0, hhp5_1⟩
    · skip
      subst hhp5_0
      subst hhp5_1
      have hf0_r5 := hhp5_2
      have S : Sw G A s.heap [[(h0, .inr (3, [.ref q1, .ref q2, .int pasts, .ref q3, .ref q4, .ref q5, .int length, .int known, .int there, .ref q6, .int spot, .int isWrong, .int sign, .int digit, .int first, .int second]))], [(q1, .inl (gA G 0, 182, .inl g))], [(q6, .inl (gA G 0, 8, .inl fr))]] _ _ := S
      refine lv_if_ne (tgt := 16) hx hb dX3_knownWay_11 (by decide) (fun c11_6 => ?_) (fun c11_6 => absurd c11_6 (by decide))
      refine lv_aload_n hx hb dX3_knownWay_16 rfl (lv_at hl 0 rfl) ?_
      refine lv_aload_n hx hb dX3_knownWay_17 rfl (lv_at hl 0 rfl) ?_
      refine m_get X S 0 rfl (T := TX3) (N := 16) in_X3 rfl 0 (by decide) q1712 (fun _ h9 => h9) rfl dX3_knownWay_18 ?_
      refine lv_bipush (v := nI 17) hx hb dX3_knownWay_21 (by decide) ?_
      refine m_iald X S 1 rfl (x := nI 17) (j := 17) rfl (vp_in_nI (by decide) (by decide)) (v := g 17) rfl dX3_knownWay_23 ?_
      have hq7 := S.cut (Bc := [[(h0, .inr (3, [.ref q1, .ref q2, .int pasts, .ref q3, .ref q4, .ref q5, .int length, .int known, .int there, .ref q6, .int spot, .int isWrong, .int sign, .int digit, .int first, .int second]))], [(q1, .inl (gA G 0, 182, .inl g))]]) (Br := [[(q6, .inl (gA G 0, 8, .inl fr))]]) [0, 1] [2] (show ([0, 1] ++ ([2] : List Nat)).isPerm (List.range 3) = true by decide +kernel) rfl rfl
      refine m_rv X S hq7 (m_runV (rest := []) (As := [.int (g 17)]) (n := 1) X S hq7 (mt_X3_follows G l h0 q1 q2 q3 q4 q5 q6 pasts length known there spot isWrong sign digit first second g (g 17) ) (lw_V q1816 q1818 qs51 q90 q1819) (m_recv X S 0 rfl rfl) (by decide +kernel) ⟨Nat.le_of_ble_eq_true rfl, Nat.le_of_ble_eq_true rfl⟩ rfl hl.1 rfl (Nat.le_of_ble_eq_true rfl) dX3_knownWay_24 ⟨(Nat.le_of_ble_eq_true rfl), (Nat.le_of_ble_eq_true rfl)⟩) (fun u H locs hp8 S => ?_)
      obtain ⟨k8, rfl⟩ : ∃ z, z = u := ⟨_, rfl⟩
      have hp8 : (k8 = knownS g (g 17)) := hp8
      have S : Sw G A s.heap [[(q6, .inl (gA G 0, 8, .inl fr))], [(h0, .inr (3, [.ref q1, .ref q2, .int pasts, .ref q3, .ref q4, .ref q5, .int length, .int k8, .int (k8 &&& g 0), .ref q6, .int spot, .int isWrong, .int sign, .int digit, .int first, .int second]))], [(q1, .inl (gA G 0, 182, .inl g))]] _ _ := S
      have hhp8_0 := hp8
      subst hhp8_0
      have S : Sw G A s.heap [[(q6, .inl (gA G 0, 8, .inl fr))], [(h0, .inr (3, [.ref q1, .ref q2, .int pasts, .ref q3, .ref q4, .ref q5, .int length, .int (knownS g (g 17)), .int ((knownS g (g 17)) &&& g 0), .ref q6, .int spot, .int isWrong, .int sign, .int digit, .int first, .int second]))], [(q1, .inl (gA G 0, 182, .inl g))]] _ _ := S
      refine lv_aload_n hx hb dX3_knownWay_27 rfl (lv_at hl 0 rfl) ?_
      refine lv_iload_n hx hb dX3_knownWay_28 rfl (lv_at hl 1 rfl) ?_
      refine lv_aload_n hx hb dX3_knownWay_29 rfl (lv_at hl 0 rfl) ?_
      refine m_get X S 1 rfl (T := TX3) (N := 16) in_X3 rfl 8 (by decide) q1720 (fun _ h9 => h9) rfl dX3_knownWay_30 ?_
      have hq9 := S.cut (Bc := [[(h0, .inr (3, [.ref q1, .ref q2, .int pasts, .ref q3, .ref q4, .ref q5, .int length, .int (knownS g (g 17)), .int ((knownS g (g 17)) &&& g 0), .ref q6, .int spot, .int isWrong, .int sign, .int digit, .int first, .int second]))], [(q6, .inl (gA G 0, 8, .inl fr))]]) (Br := [[(q1, .inl (gA G 0, 182, .inl g))]]) [1, 0] [2] (show ([1, 0] ++ ([2] : List Nat)).isPerm (List.range 3) = true by decide +kernel) rfl rfl
      refine m_rv X S hq9 (m_runV (rest := []) (As := [.int (nI a), .int ((knownS g (g 17)) &&& g 0)]) (n := 2) X S hq9 (mt_X3_measures G l h0 q1 q2 q3 q4 q5 q6 pasts length (knownS g (g 17)) ((knownS g (g 17)) &&& g 0) spot isWrong sign digit first second fr a ((knownS g (g 17)) &&& g 0) (by omega)) (lw_V q1886 q1888 qs64 q90 q1889) (m_recv X S 1 rfl rfl) (by decide +kernel) ⟨Nat.le_of_ble_eq_true rfl, Nat.le_of_ble_eq_true rfl⟩ rfl hl.1 rfl (Nat.le_of_ble_eq_true rfl) dX3_knownWay_33 ⟨(Nat.le_of_ble_eq_true rfl), (Nat.le_of_ble_eq_true rfl)⟩) (fun u H locs hp10 S => ?_)
      have S : Sw G A s.heap [[(q1, .inl (gA G 0, 182, .inl g))], [(h0, .inr (3, [.ref q1, .ref q2, .int pasts, .ref q3, .ref q4, .ref q5, .int length, .int (knownS g (g 17)), .int ((knownS g (g 17)) &&& g 0), .ref q6, .int spot, .int isWrong, .int sign, .int digit, .int first, .int second]))], [(q6, .inl (gA G 0, 8, .inl (distA ((knownS g (g 17)) &&& g 0) a)))]] _ _ := S
      have hdl := dist_le (th g) a b
      refine lv_aload_n hx hb dX3_knownWay_36 rfl (lv_at hl 0 rfl) ?_
      refine m_get X S 1 rfl (T := TX3) (N := 16) in_X3 rfl 9 (by decide) q1721 (fun _ h9 => h9) rfl dX3_knownWay_37 ?_
      refine lv_iload_n hx hb dX3_knownWay_40 rfl (lv_at hl 2 rfl) ?_
      refine m_iald X S 2 rfl (x := nI b) (j := b) (nI_clamp (by omega)) (vp_in_nI (by omega) (by omega)) (v := nI (dist (th g) a b)) rfl dX3_knownWay_41 ?_
      refine lv_bipush (v := nI 99) hx hb dX3_knownWay_42 (by decide) ?_
      refine lv_icmp_ne (tgt := 52) hx hb dX3_knownWay_44 (by decide) (fun c44_11 => ?_) (fun c44_11 => ?_)
      · skip
        have c44_11 : ¬ (dist (th g) a b) = 99 := fun z => c44_11 ((nI_eq (a := (dist (th g) a b)) (b := 99) (by omega) (by omega)).mpr z)
        refine lv_aload_n hx hb dX3_knownWay_52 rfl (lv_at hl 0 rfl) ?_
        refine m_get X S 1 rfl (T := TX3) (N := 16) in_X3 rfl 9 (by decide) q1721 (fun _ h9 => h9) rfl dX3_knownWay_53 ?_
        refine lv_iload_n hx hb dX3_knownWay_56 rfl (lv_at hl 2 rfl) ?_
        refine m_iald X S 2 rfl (x := nI b) (j := b) (nI_clamp (by omega)) (vp_in_nI (by omega) (by omega)) (v := nI (dist (th g) a b)) rfl dX3_knownWay_57 ?_
        exact m_iret X hr hlk hQ S ⟨knownS g (g 17), (knownS g (g 17)) &&& g 0, distA ((knownS g (g 17)) &&& g 0) a⟩ (by show ((nI (dist (th g) a b)) = knownWayS g (nI a) (nI b)); unfold knownWayS; first | (rw [if_pos (by first | exact Or.inl (by assumption) | exact Or.inr (by assumption))]; done) | (rw [if_neg (npl2 (by assumption) (by assumption)), tn_nI (n := a) (by omega), tn_nI (n := b) (by omega)]; unfold kwS; first | (rw [if_pos (by assumption)]; done) | (rw [if_neg (by assumption)]; done))) [1, 0, 2] [] (show ([1, 0, 2] ++ ([] : List Nat)).isPerm (List.range 3) = true by decide +kernel) rfl (Nat.le_of_ble_eq_true rfl) (Nat.le_of_ble_eq_true rfl) dX3_knownWay_58
      · skip
        have c44_11 : (dist (th g) a b) = 99 := (nI_eq (a := (dist (th g) a b)) (b := 99) (by omega) (by omega)).mp c44_11
        refine lv_bipush (v := (-6 : Int32)) hx hb dX3_knownWay_47 (by decide) ?_
        refine lv_goto (tgt := 58) hx hb dX3_knownWay_49 (by decide) ?_
        exact m_iret X hr hlk hQ S ⟨knownS g (g 17), (knownS g (g 17)) &&& g 0, distA ((knownS g (g 17)) &&& g 0) a⟩ (by show ((-6 : Int32) = knownWayS g (nI a) (nI b)); unfold knownWayS; first | (rw [if_pos (by first | exact Or.inl (by assumption) | exact Or.inr (by assumption))]; done) | (rw [if_neg (npl2 (by assumption) (by assumption)), tn_nI (n := a) (by omega), tn_nI (n := b) (by omega)]; unfold kwS; first | (rw [if_pos (by assumption)]; done) | (rw [if_neg (by assumption)]; done))) [1, 0, 2] [] (show ([1, 0, 2] ++ ([] : List Nat)).isPerm (List.range 3) = true by decide +kernel) rfl (Nat.le_of_ble_eq_true rfl) (Nat.le_of_ble_eq_true rfl) dX3_knownWay_58
    · skip
      subst hhp5_0
      have hf0_r5 := hhp5_1
      have S : Sw G A s.heap [[(h0, .inr (3, [.ref q1, .ref q2, .int pasts, .ref q3, .ref q4, .ref q5, .int length, .int known, .int there, .ref q6, .int spot, .int isWrong, .int sign, .int digit, .int first, .int second]))], [(q1, .inl (gA G 0, 182, .inl g))], [(q6, .inl (gA G 0, 8, .inl fr))]] _ _ := S
      refine lv_if_ne (tgt := 16) hx hb dX3_knownWay_11 (by decide) (fun c11_12 => absurd (by decide) c11_12) (fun c11_12 => ?_)
      refine lv_iconst (v := (-1 : Int32)) hx hb dX3_knownWay_14 (by decide) ?_
      exact m_iret X hr hlk hQ S ⟨known, there, fr⟩ (by show ((-1 : Int32) = knownWayS g (nI a) p2); unfold knownWayS; first | (rw [if_pos (by first | exact Or.inl (by assumption) | exact Or.inr (by assumption))]; done) | (rw [if_neg (npl2 (by assumption) (by assumption)), tn_nI (n := a) (by omega), tn_nI (n := b) (by omega)]; unfold kwS; first | (rw [if_pos (by assumption)]; done) | (rw [if_neg (by assumption)]; done))) [0, 1, 2] [] (show ([0, 1, 2] ++ ([] : List Nat)).isPerm (List.range 3) = true by decide +kernel) rfl (Nat.le_of_ble_eq_true rfl) (Nat.le_of_ble_eq_true rfl) dX3_knownWay_15
  · skip
    subst hhp2_0
    have hf0_r2 := hhp2_1
    have S : Sw G A s.heap [[(h0, .inr (3, [.ref q1, .ref q2, .int pasts, .ref q3, .ref q4, .ref q5, .int length, .int known, .int there, .ref q6, .int spot, .int isWrong, .int sign, .int digit, .int first, .int second]))], [(q1, .inl (gA G 0, 182, .inl g))], [(q6, .inl (gA G 0, 8, .inl fr))]] _ _ := S
    refine lv_if_eq (tgt := 14) hx hb dX3_knownWay_4 (by decide) (fun c4_13 => ?_) (fun c4_13 => absurd (by decide) c4_13)
    refine lv_iconst (v := (-1 : Int32)) hx hb dX3_knownWay_14 (by decide) ?_
    exact m_iret X hr hlk hQ S ⟨known, there, fr⟩ (by show ((-1 : Int32) = knownWayS g p1 p2); unfold knownWayS; first | (rw [if_pos (by first | exact Or.inl (by assumption) | exact Or.inr (by assumption))]; done) | (rw [if_neg (npl2 (by assumption) (by assumption)), tn_nI (n := a) (by omega), tn_nI (n := b) (by omega)]; unfold kwS; first | (rw [if_pos (by assumption)]; done) | (rw [if_neg (by assumption)]; done))) [0, 1, 2] [] (show ([0, 1, 2] ++ ([] : List Nat)).isPerm (List.range 3) = true by decide +kernel) rfl (Nat.le_of_ble_eq_true rfl) (Nat.le_of_ble_eq_true rfl) dX3_knownWay_15

abbrev rm_X3_wipe : Room := { frames := 0, cells := 0, slots := 0, locals := 0 }
set_option maxHeartbeats 4000000 in
set_option maxRecDepth 100000 in
theorem mt_X3_wipe (G : mGG) (l : Launch) (h0 : Nat) (q1 : Nat) (q2 : Nat) (q3 : Nat) (q4 : Nat) (q5 : Nat) (q6 : Nat) (pasts : Int32) (known : Int32) (there : Int32) (spot : Int32) (isWrong : Int32) (sign : Int32) (digit : Int32) (first : Int32) (second : Int32) (L : Nat) : Cg G l yX3_wipe (ws_ yX3_wipe cX3_wipe 2 (some FieldType.int)) rm_X3_wipe [.ref h0] [[(h0, .inr (3, [.ref q1, .ref q2, .int pasts, .ref q3, .ref q4, .ref q5, .int (nI L), .int known, .int there, .ref q6, .int spot, .int isWrong, .int sign, .int digit, .int first, .int second]))]] (Qi G (fun (r : Int32) (u : Unit) => r = nI L) (fun (u : Unit) => [[(h0, .inr (3, [.ref q1, .ref q2, .int pasts, .ref q3, .ref q4, .ref q5, .int (nI 0), .int known, .int there, .ref q6, .int spot, .int isWrong, .int sign, .int digit, .int first, .int second]))]])) := by
  refine Cg.intro (own := RX3) (cc := cX3_wipe) (maxL := 2) (ret := (some FieldType.int)) (by decide +kernel) rfl rfl (Nat.le_of_ble_eq_true rfl) ?_
  intro p e s m ag below meth c A ls Q X hr hlk hnm S hl hQ
  have hx := X.1
  have hb := X.2.1
  have hl : lv_has ls 2 [(0, .ref h0)] := hl
  refine lv_aload_n hx hb dX3_wipe_0 rfl (lv_at hl 0 rfl) ?_
  refine m_get X S 0 rfl (T := TX3) (N := 16) in_X3 rfl 6 (by decide) q1718 (fun _ h9 => h9) rfl dX3_wipe_1 ?_
  refine lv_istore_n (lv' := [(1, .int (nI L)), (0, .ref h0)]) hx hb dX3_wipe_4 rfl hl (Nat.le_of_ble_eq_true rfl) rfl (fun ls hl => ?_)
  refine lv_aload_n hx hb dX3_wipe_5 rfl (lv_at hl 1 rfl) ?_
  refine lv_iconst (v := nI 0) hx hb dX3_wipe_6 (by decide) ?_
  refine m_put X S 0 rfl (T := TX3) (N := 16) in_X3 tyX3 tyX3_ok nmX3 rfl 6 (by decide) q1718 (fun _ h9 => h9) rfl rfl rfl (Nat.le_of_ble_eq_true rfl) dX3_wipe_7 (fun H locs S => ?_)
  have S : Sw G A s.heap [[(h0, .inr (3, [.ref q1, .ref q2, .int pasts, .ref q3, .ref q4, .ref q5, .int (nI 0), .int known, .int there, .ref q6, .int spot, .int isWrong, .int sign, .int digit, .int first, .int second]))]] _ _ := S
  refine lv_iload_n hx hb dX3_wipe_10 rfl (lv_at hl 0 rfl) ?_
  exact m_iret X hr hlk hQ S () (by show (nI L) = nI L; first | rfl | exact ⟨rfl, rfl⟩ | omega | assumption) [0] [] (show ([0] ++ ([] : List Nat)).isPerm (List.range 1) = true by decide +kernel) rfl (Nat.le_of_ble_eq_true rfl) (Nat.le_of_ble_eq_true rfl) dX3_wipe_11
