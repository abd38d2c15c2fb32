/-! THE MODEL: what follows, its changes -/
abbrev rm_X3_follows : Room := { frames := 2, cells := 0, slots := 0, locals := 45 }
set_option maxHeartbeats 4000000 in
set_option maxRecDepth 100000 in
theorem mt_X3_follows (G : mGG) (l : Launch) (h0 : Nat) (q1 : Nat) (q2 : Nat) (q3 : Nat) (q4 : Nat) (q5 : Nat) (q6 : Nat) (pasts : Int32) (length : Int32) (known : Int32) (there : Int32) (spot : Int32) (isWrong : Int32) (sign : Int32) (digit : Int32) (first : Int32) (second : Int32) (g : Nat → Int32) (rev : Int32) : Cg G l yX3_follows (ws_ yX3_follows cX3_follows 8 (none)) rm_X3_follows [.ref h0, .int rev] [[(h0, .inr (3, [.ref q1, .ref q2, .int pasts, .ref q3, .ref q4, .ref q5, .int length, .int known, .int there, .ref q6, .int spot, .int isWrong, .int sign, .int digit, .int first, .int second]))], [(q1, .inl (gA G 0, 182, .inl g))]] (Qv G (fun (u : Int32) => (u = knownS g rev)) (fun (u : Int32) => [[(h0, .inr (3, [.ref q1, .ref q2, .int pasts, .ref q3, .ref q4, .ref q5, .int length, .int u, .int (u &&& g 0), .ref q6, .int spot, .int isWrong, .int sign, .int digit, .int first, .int second]))], [(q1, .inl (gA G 0, 182, .inl g))]])) := by
  refine Cg.intro (own := RX3) (cc := cX3_follows) (maxL := 8) (ret := (none)) (by decide +kernel) rfl rfl (Nat.le_of_ble_eq_true rfl) ?_
  intro p e s m ag below meth c A ls Q X hr hlk hnm S hl hQ
  have hx := X.1
  have hb := X.2.1
  have hl : lv_has ls 8 [(0, .ref h0), (1, .int rev)] := hl
  refine lv_aload_n hx hb dX3_follows_0 rfl (lv_at hl 0 rfl) ?_
  refine lv_aload_n hx hb dX3_follows_1 rfl (lv_at hl 0 rfl) ?_
  have hq1 := S.cut (Bc := [[(h0, .inr (3, [.ref q1, .ref q2, .int pasts, .ref q3, .ref q4, .ref q5, .int length, .int known, .int there, .ref q6, .int spot, .int isWrong, .int sign, .int digit, .int first, .int second]))], [(q1, .inl (gA G 0, 182, .inl g))]]) (Br := []) [0, 1] [] (show ([0, 1] ++ ([] : List Nat)).isPerm (List.range 2) = true by decide +kernel) rfl rfl
  refine m_ri X S hq1 (m_runV (rest := [.ref h0]) (As := []) (n := 0) X S hq1 (mt_X3_hasBegun G l h0 q1 q2 q3 q4 q5 q6 pasts length known there spot isWrong sign digit first second g ) (lw_V q1790 q1792 qs48 q90 q1793) (m_recv X S 0 rfl rfl) (by decide +kernel) ⟨Nat.le_of_ble_eq_true rfl, Nat.le_of_ble_eq_true rfl⟩ rfl hl.1 rfl (Nat.le_of_ble_eq_true rfl) dX3_follows_2 ⟨(Nat.le_of_ble_eq_true rfl), (Nat.le_of_ble_eq_true rfl)⟩) (fun r2 u H locs hp2 S => ?_)
  have hp2 : (r2 = nI 1 ∧ ¬ g 6 ≤ 0) ∨ (r2 = nI 0 ∧ g 6 ≤ 0) := hp2
  have S : Sw G A s.heap [[(h0, .inr (3, [.ref q1, .ref q2, .int pasts, .ref q3, .ref q4, .ref q5, .int length, .int known, .int there, .ref q6, .int spot, .int isWrong, .int sign, .int digit, .int first, .int second]))], [(q1, .inl (gA G 0, 182, .inl g))]] _ _ := S
  rcases hp2 with ⟨hhp2_0, hhp2_1⟩ | ⟨hhp2_0, hhp2_1⟩
  · skip
    subst hhp2_0
    have hf0_r2 := hhp2_1
    have S : Sw G A s.heap [[(h0, .inr (3, [.ref q1, .ref q2, .int pasts, .ref q3, .ref q4, .ref q5, .int length, .int known, .int there, .ref q6, .int spot, .int isWrong, .int sign, .int digit, .int first, .int second]))], [(q1, .inl (gA G 0, 182, .inl g))]] _ _ := S
    refine lv_if_eq (tgt := 12) hx hb dX3_follows_5 (by decide) (fun c5_3 => absurd c5_3 (by decide)) (fun c5_3 => ?_)
    refine lv_iload_n hx hb dX3_follows_8 rfl (lv_at hl 1 rfl) ?_
    refine lv_goto (tgt := 13) hx hb dX3_follows_9 (by decide) ?_
    refine m_put X S 0 rfl (T := TX3) (N := 16) in_X3 tyX3 tyX3_ok nmX3 rfl 7 (by decide) q1719 (fun _ h9 => h9) rfl rfl rfl (Nat.le_of_ble_eq_true rfl) dX3_follows_13 (fun H locs S => ?_)
    have S : Sw G A s.heap [[(h0, .inr (3, [.ref q1, .ref q2, .int pasts, .ref q3, .ref q4, .ref q5, .int length, .int rev, .int there, .ref q6, .int spot, .int isWrong, .int sign, .int digit, .int first, .int second]))], [(q1, .inl (gA G 0, 182, .inl g))]] _ _ := S
    refine lv_aload_n hx hb dX3_follows_16 rfl (lv_at hl 0 rfl) ?_
    refine lv_aload_n hx hb dX3_follows_17 rfl (lv_at hl 0 rfl) ?_
    refine m_get X S 0 rfl (T := TX3) (N := 16) in_X3 rfl 7 (by decide) q1719 (fun _ h9 => h9) rfl dX3_follows_18 ?_
    refine lv_aload_n hx hb dX3_follows_21 rfl (lv_at hl 0 rfl) ?_
    refine m_get X S 0 rfl (T := TX3) (N := 16) in_X3 rfl 0 (by decide) q1712 (fun _ h9 => h9) rfl dX3_follows_22 ?_
    refine lv_iconst (v := nI 0) hx hb dX3_follows_25 (by decide) ?_
    refine m_iald X S 1 rfl (x := nI 0) (j := 0) rfl (vp_in_nI (by decide) (by decide)) (v := g 0) rfl dX3_follows_26 ?_
    refine lv_iand hx hb dX3_follows_27 ?_
    refine m_put X S 0 rfl (T := TX3) (N := 16) in_X3 tyX3 tyX3_ok nmX3 rfl 8 (by decide) q1720 (fun _ h9 => h9) rfl rfl rfl (Nat.le_of_ble_eq_true rfl) dX3_follows_28 (fun H locs S => ?_)
    have S : Sw G A s.heap [[(h0, .inr (3, [.ref q1, .ref q2, .int pasts, .ref q3, .ref q4, .ref q5, .int length, .int rev, .int (rev &&& (g 0)), .ref q6, .int spot, .int isWrong, .int sign, .int digit, .int first, .int second]))], [(q1, .inl (gA G 0, 182, .inl g))]] _ _ := S
    refine lv_aload_n hx hb dX3_follows_31 rfl (lv_at hl 0 rfl) ?_
    have hq4 := S.cut (Bc := [[(h0, .inr (3, [.ref q1, .ref q2, .int pasts, .ref q3, .ref q4, .ref q5, .int length, .int rev, .int (rev &&& (g 0)), .ref q6, .int spot, .int isWrong, .int sign, .int digit, .int first, .int second]))], [(q1, .inl (gA G 0, 182, .inl g))]]) (Br := []) [0, 1] [] (show ([0, 1] ++ ([] : List Nat)).isPerm (List.range 2) = true by decide +kernel) rfl rfl
    refine m_ri X S hq4 (m_runV (rest := []) (As := []) (n := 0) X S hq4 (mt_X3_hasBegun G l h0 q1 q2 q3 q4 q5 q6 pasts length rev (rev &&& (g 0)) spot isWrong sign digit first second g ) (lw_V q1790 q1792 qs48 q90 q1793) (m_recv X S 0 rfl rfl) (by decide +kernel) ⟨Nat.le_of_ble_eq_true rfl, Nat.le_of_ble_eq_true rfl⟩ rfl hl.1 rfl (Nat.le_of_ble_eq_true rfl) dX3_follows_32 ⟨(Nat.le_of_ble_eq_true rfl), (Nat.le_of_ble_eq_true rfl)⟩) (fun r5 u H locs hp5 S => ?_)
    have hp5 : (r5 = nI 1 ∧ ¬ g 6 ≤ 0) ∨ (r5 = nI 0 ∧ g 6 ≤ 0) := hp5
    have S : Sw G A s.heap [[(h0, .inr (3, [.ref q1, .ref q2, .int pasts, .ref q3, .ref q4, .ref q5, .int length, .int rev, .int (rev &&& (g 0)), .ref q6, .int spot, .int isWrong, .int sign, .int digit, .int first, .int second]))], [(q1, .inl (gA G 0, 182, .inl g))]] _ _ := S
    rcases hp5 with ⟨hhp5_0, hhp5_1⟩ | ⟨hhp5_0, hhp5_1⟩
    · skip
      subst hhp5_0
      have hf0_r5 := hhp5_1
      have S : Sw G A s.heap [[(h0, .inr (3, [.ref q1, .ref q2, .int pasts, .ref q3, .ref q4, .ref q5, .int length, .int rev, .int (rev &&& (g 0)), .ref q6, .int spot, .int isWrong, .int sign, .int digit, .int first, .int second]))], [(q1, .inl (gA G 0, 182, .inl g))]] _ _ := S
      refine lv_toe (y := cI true) (rfl) ?_
      refine lv_istore_n (lv' := [(2, .int (cI true)), (0, .ref h0), (1, .int rev)]) hx hb dX3_follows_35 rfl hl (Nat.le_of_ble_eq_true rfl) rfl (fun ls hl => ?_)
      have hL36 : ∀ (kf : Nat) (K : Int32) (bb : Bool) (nn : Nat), (33 - card K + bb.toNat) < kf → (folI (g 0) (knownS g rev) K bb nn) → ∀ (H : Heap) (locs : List Loc), Sw G A s.heap [[(h0, .inr (3, [.ref q1, .ref q2, .int pasts, .ref q3, .ref q4, .ref q5, .int length, .int K, .int (K &&& g 0), .ref q6, .int spot, .int isWrong, .int sign, .int digit, .int first, .int second]))], [(q1, .inl (gA G 0, 182, .inl g))]] H locs → ∀ (ls : Array Slot), lv_has ls 8 [(2, .int (cI bb)), (0, .ref h0), (1, .int rev)] → W p l e rm_X3_follows s m ag below meth c H locs (0) (0) Q (F0 m 36 ls []) := by
        intro kf
        induction kf with
        | zero =>
          intro K bb nn hm
          exact absurd hm (Nat.not_lt_zero _)
        | succ kf36 ih36 =>
          intro K bb nn hm hf H locs S ls hl
          refine lv_iload_n hx hb dX3_follows_36 rfl (lv_at hl 0 rfl) ?_
          refine lv_if_eq (tgt := 162) hx hb dX3_follows_37 (by decide) (fun c37_6 => ?_) (fun c37_6 => ?_)
          · skip
            have c37_6 : (cI bb) = (nI 0) := c37_6
            have hb0 : bb = false := cI_0.mp c37_6
            exact m_vret X hr hlk hQ S K (by show (K = knownS g rev); first | exact (hf.elim (fun z => absurd z.1 (by rw [hb0]; decide)) (fun z => z.2)) | (unfold knownS; rw [if_pos (by assumption)])) [0, 1] [] (show ([0, 1] ++ ([] : List Nat)).isPerm (List.range 2) = true by decide +kernel) rfl (Nat.le_of_ble_eq_true rfl) (Nat.le_of_ble_eq_true rfl) dX3_follows_162
          · skip
            have c37_6 : ¬ (cI bb) = (nI 0) := c37_6
            have hb1 : bb = true := cI_n0.mp c37_6
            subst hb1
            refine lv_iconst (v := nI 0) hx hb dX3_follows_40 (by decide) ?_
            refine lv_toe (y := cI (rndC (g 0) K 0)) (rfl) ?_
            refine lv_istore_n (lv' := [(2, .int (cI (rndC (g 0) K 0))), (0, .ref h0), (1, .int rev)]) hx hb dX3_follows_41 rfl hl (Nat.le_of_ble_eq_true rfl) rfl (fun ls hl => ?_)
            refine lv_iconst (v := nI 0) hx hb dX3_follows_42 (by decide) ?_
            refine lv_istore_n (lv' := [(3, .int (nI 0)), (2, .int (cI (rndC (g 0) K 0))), (0, .ref h0), (1, .int rev)]) hx hb dX3_follows_43 rfl hl (Nat.le_of_ble_eq_true rfl) rfl (fun ls hl => ?_)
            have hL44 : ∀ (kf : Nat) (i : Nat), (8 - i) < kf → (i ≤ 8) → ∀ (H : Heap) (locs : List Loc), Sw G A s.heap [[(h0, .inr (3, [.ref q1, .ref q2, .int pasts, .ref q3, .ref q4, .ref q5, .int length, .int (rndK (g 0) K i), .int (rndK (g 0) K i &&& g 0), .ref q6, .int spot, .int isWrong, .int sign, .int digit, .int first, .int second]))], [(q1, .inl (gA G 0, 182, .inl g))]] H locs → ∀ (ls : Array Slot), lv_has ls 8 [(2, .int (cI (rndC (g 0) K i))), (3, .int (nI i)), (0, .ref h0), (1, .int rev)] → W p l e rm_X3_follows s m ag below meth c H locs (0) (0) Q (F0 m 44 ls []) := by
              intro kf
              induction kf with
              | zero =>
                intro i hm
                exact absurd hm (Nat.not_lt_zero _)
              | succ kf44 ih44 =>
                intro i hm hi H locs S ls hl
                refine lv_iload_n hx hb dX3_follows_44 rfl (lv_at hl 1 rfl) ?_
                refine lv_bipush (v := nI 8) hx hb dX3_follows_45 (by decide) ?_
                refine lv_icmp_ge (tgt := 159) hx hb dX3_follows_47 (by decide) (fun c47_7 => ?_) (fun c47_7 => ?_)
                · skip
                  have c47_7 : 8 ≤ i := (nI_leI (a := 8) (b := i) (by omega) (by omega)).mp c47_7
                  obtain rfl : i = 8 := by omega
                  refine lv_goto (tgt := 36) hx hb dX3_follows_159 (by decide) ?_
                  exact ih36 (rndK (g 0) K 8) (rndC (g 0) K 8) (nn - 1) (by have := follow_meas (R := g 0) (K := K); omega) (follow_back hf) _ _ S ls (lv_sub hl [0, 2, 3] rfl)
                · skip
                  have c47_7 : ¬ 8 ≤ i := fun z => c47_7 ((nI_leI (a := 8) (b := i) (by omega) (by omega)).mpr z)
                  refine lv_iload_n hx hb dX3_follows_50 rfl (lv_at hl 1 rfl) ?_
                  have hq8 := S.cut (Bc := []) (Br := [[(h0, .inr (3, [.ref q1, .ref q2, .int pasts, .ref q3, .ref q4, .ref q5, .int length, .int (rndK (g 0) K i), .int (rndK (g 0) K i &&& g 0), .ref q6, .int spot, .int isWrong, .int sign, .int digit, .int first, .int second]))], [(q1, .inl (gA G 0, 182, .inl g))]]) [] [0, 1] (show ([] ++ ([0, 1] : List Nat)).isPerm (List.range 2) = true by decide +kernel) rfl rfl
                  refine m_ri X S hq8 (m_runS (rest := []) (As := [.int (nI i)]) (n := 1) X S hq8 (mt_X3_around G l i (by omega)) (lw_S q1820 q1821 q90 q1822) (by decide +kernel) ⟨Nat.le_of_ble_eq_true rfl, Nat.le_of_ble_eq_true rfl⟩ rfl hl.1 rfl (Nat.le_of_ble_eq_true rfl) dX3_follows_51 ⟨(Nat.le_of_ble_eq_true rfl), (Nat.le_of_ble_eq_true rfl)⟩) (fun r9 u H locs hp9 S => ?_)
                  have hp9 : r9 = aroundS i 8 := hp9
                  have hhp9_0 := hp9
                  subst hhp9_0
                  have S : Sw G A s.heap [[(h0, .inr (3, [.ref q1, .ref q2, .int pasts, .ref q3, .ref q4, .ref q5, .int length, .int (rndK (g 0) K i), .int (rndK (g 0) K i &&& g 0), .ref q6, .int spot, .int isWrong, .int sign, .int digit, .int first, .int second]))], [(q1, .inl (gA G 0, 182, .inl g))]] _ _ := S
                  refine lv_istore (lv' := [(4, .int (aroundS i 8)), (2, .int (cI (rndC (g 0) K i))), (3, .int (nI i)), (0, .ref h0), (1, .int rev)]) hx hb dX3_follows_54 hl (Nat.le_of_ble_eq_true rfl) rfl (fun ls hl => ?_)
                  refine lv_iload hx hb dX3_follows_56 (lv_at hl 0 rfl) ?_
                  refine lv_aload_n hx hb dX3_follows_58 rfl (lv_at hl 3 rfl) ?_
                  refine m_get X S 0 rfl (T := TX3) (N := 16) in_X3 rfl 7 (by decide) q1719 (fun _ h9 => h9) rfl dX3_follows_59 ?_
                  refine lv_iconst (v := (-1 : Int32)) hx hb dX3_follows_62 (by decide) ?_
                  refine lv_ixor hx hb dX3_follows_63 ?_
                  refine lv_iand hx hb dX3_follows_64 ?_
                  refine lv_istore (lv' := [(5, .int ((aroundS i 8) &&& ((rndK (g 0) K i) ^^^ (-1 : Int32)))), (4, .int (aroundS i 8)), (2, .int (cI (rndC (g 0) K i))), (3, .int (nI i)), (0, .ref h0), (1, .int rev)]) hx hb dX3_follows_65 hl (Nat.le_of_ble_eq_true rfl) rfl (fun ls hl => ?_)
                  refine lv_iload hx hb dX3_follows_67 (lv_at hl 1 rfl) ?_
                  refine lv_aload_n hx hb dX3_follows_69 rfl (lv_at hl 4 rfl) ?_
                  refine m_get X S 0 rfl (T := TX3) (N := 16) in_X3 rfl 0 (by decide) q1712 (fun _ h9 => h9) rfl dX3_follows_70 ?_
                  refine lv_iconst (v := nI 0) hx hb dX3_follows_73 (by decide) ?_
                  refine m_iald X S 1 rfl (x := nI 0) (j := 0) rfl (vp_in_nI (by decide) (by decide)) (v := g 0) rfl dX3_follows_74 ?_
                  refine lv_iand hx hb dX3_follows_75 ?_
                  have hq10 := S.cut (Bc := []) (Br := [[(h0, .inr (3, [.ref q1, .ref q2, .int pasts, .ref q3, .ref q4, .ref q5, .int length, .int (rndK (g 0) K i), .int (rndK (g 0) K i &&& g 0), .ref q6, .int spot, .int isWrong, .int sign, .int digit, .int first, .int second]))], [(q1, .inl (gA G 0, 182, .inl g))]]) [] [0, 1] (show ([] ++ ([0, 1] : List Nat)).isPerm (List.range 2) = true by decide +kernel) rfl rfl
                  refine m_ri X S hq10 (m_runS (rest := []) (As := [.int ((aroundS i 8) &&& (g 0))]) (n := 1) X S hq10 (mt_X3_many G l ((aroundS i 8) &&& (g 0)) ) (lw_S q1801 q1802 q90 q1803) (by decide +kernel) ⟨Nat.le_of_ble_eq_true rfl, Nat.le_of_ble_eq_true rfl⟩ rfl hl.1 rfl (Nat.le_of_ble_eq_true rfl) dX3_follows_76 ⟨(Nat.le_of_ble_eq_true rfl), (Nat.le_of_ble_eq_true rfl)⟩) (fun r11 u H locs hp11 S => ?_)
                  have hp11 : r11 = nI (card ((aroundS i 8) &&& (g 0))) := hp11
                  have hhp11_0 := hp11
                  subst hhp11_0
                  have S : Sw G A s.heap [[(h0, .inr (3, [.ref q1, .ref q2, .int pasts, .ref q3, .ref q4, .ref q5, .int length, .int (rndK (g 0) K i), .int (rndK (g 0) K i &&& g 0), .ref q6, .int spot, .int isWrong, .int sign, .int digit, .int first, .int second]))], [(q1, .inl (gA G 0, 182, .inl g))]] _ _ := S
                  refine lv_istore (lv' := [(6, .int (nI (card ((aroundS i 8) &&& (g 0))))), (5, .int ((aroundS i 8) &&& ((rndK (g 0) K i) ^^^ (-1 : Int32)))), (4, .int (aroundS i 8)), (2, .int (cI (rndC (g 0) K i))), (3, .int (nI i)), (0, .ref h0), (1, .int rev)]) hx hb dX3_follows_79 hl (Nat.le_of_ble_eq_true rfl) rfl (fun ls hl => ?_)
                  refine lv_iload hx hb dX3_follows_81 (lv_at hl 2 rfl) ?_
                  refine lv_aload_n hx hb dX3_follows_83 rfl (lv_at hl 5 rfl) ?_
                  refine m_get X S 0 rfl (T := TX3) (N := 16) in_X3 rfl 8 (by decide) q1720 (fun _ h9 => h9) rfl dX3_follows_84 ?_
                  refine lv_iand hx hb dX3_follows_87 ?_
                  have hq12 := S.cut (Bc := []) (Br := [[(h0, .inr (3, [.ref q1, .ref q2, .int pasts, .ref q3, .ref q4, .ref q5, .int length, .int (rndK (g 0) K i), .int (rndK (g 0) K i &&& g 0), .ref q6, .int spot, .int isWrong, .int sign, .int digit, .int first, .int second]))], [(q1, .inl (gA G 0, 182, .inl g))]]) [] [0, 1] (show ([] ++ ([0, 1] : List Nat)).isPerm (List.range 2) = true by decide +kernel) rfl rfl
                  refine m_ri X S hq12 (m_runS (rest := []) (As := [.int ((aroundS i 8) &&& (rndK (g 0) K i &&& g 0))]) (n := 1) X S hq12 (mt_X3_many G l ((aroundS i 8) &&& (rndK (g 0) K i &&& g 0)) ) (lw_S q1801 q1802 q90 q1803) (by decide +kernel) ⟨Nat.le_of_ble_eq_true rfl, Nat.le_of_ble_eq_true rfl⟩ rfl hl.1 rfl (Nat.le_of_ble_eq_true rfl) dX3_follows_88 ⟨(Nat.le_of_ble_eq_true rfl), (Nat.le_of_ble_eq_true rfl)⟩) (fun r13 u H locs hp13 S => ?_)
                  have hp13 : r13 = nI (card ((aroundS i 8) &&& (rndK (g 0) K i &&& g 0))) := hp13
                  have hhp13_0 := hp13
                  subst hhp13_0
                  have S : Sw G A s.heap [[(h0, .inr (3, [.ref q1, .ref q2, .int pasts, .ref q3, .ref q4, .ref q5, .int length, .int (rndK (g 0) K i), .int (rndK (g 0) K i &&& g 0), .ref q6, .int spot, .int isWrong, .int sign, .int digit, .int first, .int second]))], [(q1, .inl (gA G 0, 182, .inl g))]] _ _ := S
                  refine lv_istore (lv' := [(7, .int (nI (card ((aroundS i 8) &&& (rndK (g 0) K i &&& g 0))))), (6, .int (nI (card ((aroundS i 8) &&& (g 0))))), (5, .int ((aroundS i 8) &&& ((rndK (g 0) K i) ^^^ (-1 : Int32)))), (4, .int (aroundS i 8)), (2, .int (cI (rndC (g 0) K i))), (3, .int (nI i)), (0, .ref h0), (1, .int rev)]) hx hb dX3_follows_91 hl (Nat.le_of_ble_eq_true rfl) rfl (fun ls hl => ?_)
                  have hc1 := card_le (aroundS i 8 &&& (rndK (g 0) K i &&& g 0))
                  have hc2 := card_le (aroundS i 8 &&& g 0)
                  have hc3 := card_le (aroundS i 8 &&& (rndK (g 0) K i ^^^ (-1 : Int32)))
                  refine lv_iload hx hb dX3_follows_93 (lv_at hl 2 rfl) ?_
                  refine lv_if_eq (tgt := 153) hx hb dX3_follows_95 (by decide) (fun c95_14 => ?_) (fun c95_14 => ?_)
                  · skip
                    have c95_14 : ((aroundS i 8) &&& ((rndK (g 0) K i) ^^^ (-1 : Int32))) = (nI 0) := c95_14
                    have hcan : decP (g 0) (rndK (g 0) K i) i = false := decP_f (by first | exact fun z => z.1 (by assumption) | exact fun z => z.2.elim (by assumption) (by assumption))
                    have hE15 : rndK (g 0) K i = rndK (g 0) K (i + 1) := rnd_no hcan
                    have S := S.cong (congrArg (fun (zz : Int32) => ([[(h0, .inr (3, [.ref q1, .ref q2, .int pasts, .ref q3, .ref q4, .ref q5, .int length, .int zz, .int (rndK (g 0) K i &&& g 0), .ref q6, .int spot, .int isWrong, .int sign, .int digit, .int first, .int second]))], [(q1, .inl (gA G 0, 182, .inl g))]] : List va_W)) hE15)
                    have S : Sw G A s.heap [[(h0, .inr (3, [.ref q1, .ref q2, .int pasts, .ref q3, .ref q4, .ref q5, .int length, .int (rndK (g 0) K (i + 1)), .int (rndK (g 0) K i &&& g 0), .ref q6, .int spot, .int isWrong, .int sign, .int digit, .int first, .int second]))], [(q1, .inl (gA G 0, 182, .inl g))]] _ _ := S
                    have hE16 : rndK (g 0) K i &&& g 0 = rndK (g 0) K (i + 1) &&& g 0 := rnd_noT hcan
                    have S := S.cong (congrArg (fun (zz : Int32) => ([[(h0, .inr (3, [.ref q1, .ref q2, .int pasts, .ref q3, .ref q4, .ref q5, .int length, .int (rndK (g 0) K (i + 1)), .int zz, .ref q6, .int spot, .int isWrong, .int sign, .int digit, .int first, .int second]))], [(q1, .inl (gA G 0, 182, .inl g))]] : List va_W)) hE16)
                    have S : Sw G A s.heap [[(h0, .inr (3, [.ref q1, .ref q2, .int pasts, .ref q3, .ref q4, .ref q5, .int length, .int (rndK (g 0) K (i + 1)), .int (rndK (g 0) K (i + 1) &&& g 0), .ref q6, .int spot, .int isWrong, .int sign, .int digit, .int first, .int second]))], [(q1, .inl (gA G 0, 182, .inl g))]] _ _ := S
                    have hE17 : cI (rndC (g 0) K i) = cI (rndC (g 0) K (i + 1)) := rnd_noC hcan
                    have hl := lv_cong hl (congrArg (fun (zz : Int32) => ([(7, .int (nI (card ((aroundS i 8) &&& (rndK (g 0) K i &&& g 0))))), (6, .int (nI (card ((aroundS i 8) &&& (g 0))))), (5, .int ((aroundS i 8) &&& ((rndK (g 0) K i) ^^^ (-1 : Int32)))), (4, .int (aroundS i 8)), (2, .int zz), (3, .int (nI i)), (0, .ref h0), (1, .int rev)] : List (Nat × Value))) hE17)
                    have hl : lv_has ls 8 [(7, .int (nI (card ((aroundS i 8) &&& (rndK (g 0) K i &&& g 0))))), (6, .int (nI (card ((aroundS i 8) &&& (g 0))))), (5, .int ((aroundS i 8) &&& ((rndK (g 0) K i) ^^^ (-1 : Int32)))), (4, .int (aroundS i 8)), (2, .int (cI (rndC (g 0) K (i + 1)))), (3, .int (nI i)), (0, .ref h0), (1, .int rev)] := hl
                    refine lv_iinc (v := nI (i + 1)) (lv' := [(3, .int (nI (i + 1))), (7, .int (nI (card ((aroundS i 8) &&& (rndK (g 0) K i &&& g 0))))), (6, .int (nI (card ((aroundS i 8) &&& (g 0))))), (5, .int ((aroundS i 8) &&& ((rndK (g 0) K i) ^^^ (-1 : Int32)))), (4, .int (aroundS i 8)), (2, .int (cI (rndC (g 0) K (i + 1)))), (0, .ref h0), (1, .int rev)]) hx hb dX3_follows_153 hl (k := 5) rfl (nI_add _ _) (Nat.le_of_ble_eq_true rfl) rfl (fun ls hl => ?_)
                    refine lv_goto (tgt := 44) hx hb dX3_follows_156 (by decide) ?_
                    exact ih44 (i + 1) (by omega) (by omega) _ _ S ls (lv_sub hl [5, 0, 6, 7] rfl)
                  · skip
                    have c95_14 : ¬ ((aroundS i 8) &&& ((rndK (g 0) K i) ^^^ (-1 : Int32))) = (nI 0) := c95_14
                    refine lv_iload hx hb dX3_follows_98 (lv_at hl 0 rfl) ?_
                    refine lv_iload hx hb dX3_follows_100 (lv_at hl 1 rfl) ?_
                    refine lv_icmp_eq (tgt := 118) hx hb dX3_follows_102 (by decide) (fun c102_18 => ?_) (fun c102_18 => ?_)
                    · skip
                      have c102_18 : (card ((aroundS i 8) &&& (rndK (g 0) K i &&& g 0))) = (card ((aroundS i 8) &&& (g 0))) := (nI_eq (a := (card ((aroundS i 8) &&& (rndK (g 0) K i &&& g 0)))) (b := (card ((aroundS i 8) &&& (g 0)))) (by omega) (by omega)).mp c102_18
                      refine lv_aload_n hx hb dX3_follows_118 rfl (lv_at hl 6 rfl) ?_
                      refine lv_dup hx hb dX3_follows_119 rfl ?_
                      refine m_get X S 0 rfl (T := TX3) (N := 16) in_X3 rfl 8 (by decide) q1720 (fun _ h9 => h9) rfl dX3_follows_120 ?_
                      refine lv_iload hx hb dX3_follows_123 (lv_at hl 0 rfl) ?_
                      refine lv_iload hx hb dX3_follows_125 (lv_at hl 1 rfl) ?_
                      refine lv_icmp_ne (tgt := 134) hx hb dX3_follows_127 (by decide) (fun c127_19 => ?_) (fun c127_19 => ?_)
                      · skip
                        have c127_19 : ¬ (card ((aroundS i 8) &&& (rndK (g 0) K i &&& g 0))) = (card ((aroundS i 8) &&& (g 0))) := fun z => c127_19 ((nI_eq (a := (card ((aroundS i 8) &&& (rndK (g 0) K i &&& g 0)))) (b := (card ((aroundS i 8) &&& (g 0)))) (by omega) (by omega)).mpr z)
                        refine lv_iload hx hb dX3_follows_134 (lv_at hl 2 rfl) ?_
                        refine lv_ior hx hb dX3_follows_136 ?_
                        refine m_put X S 0 rfl (T := TX3) (N := 16) in_X3 tyX3 tyX3_ok nmX3 rfl 8 (by decide) q1720 (fun _ h9 => h9) rfl rfl rfl (Nat.le_of_ble_eq_true rfl) dX3_follows_137 (fun H locs S => ?_)
                        have S : Sw G A s.heap [[(h0, .inr (3, [.ref q1, .ref q2, .int pasts, .ref q3, .ref q4, .ref q5, .int length, .int (rndK (g 0) K i), .int ((rndK (g 0) K i &&& g 0) ||| ((aroundS i 8) &&& ((rndK (g 0) K i) ^^^ (-1 : Int32)))), .ref q6, .int spot, .int isWrong, .int sign, .int digit, .int first, .int second]))], [(q1, .inl (gA G 0, 182, .inl g))]] _ _ := S
                        refine lv_aload_n hx hb dX3_follows_140 rfl (lv_at hl 6 rfl) ?_
                        refine lv_dup hx hb dX3_follows_141 rfl ?_
                        refine m_get X S 0 rfl (T := TX3) (N := 16) in_X3 rfl 7 (by decide) q1719 (fun _ h9 => h9) rfl dX3_follows_142 ?_
                        refine lv_iload hx hb dX3_follows_145 (lv_at hl 2 rfl) ?_
                        refine lv_ior hx hb dX3_follows_147 ?_
                        refine m_put X S 0 rfl (T := TX3) (N := 16) in_X3 tyX3 tyX3_ok nmX3 rfl 7 (by decide) q1719 (fun _ h9 => h9) rfl rfl rfl (Nat.le_of_ble_eq_true rfl) dX3_follows_148 (fun H locs S => ?_)
                        have S : Sw G A s.heap [[(h0, .inr (3, [.ref q1, .ref q2, .int pasts, .ref q3, .ref q4, .ref q5, .int length, .int ((rndK (g 0) K i) ||| ((aroundS i 8) &&& ((rndK (g 0) K i) ^^^ (-1 : Int32)))), .int ((rndK (g 0) K i &&& g 0) ||| ((aroundS i 8) &&& ((rndK (g 0) K i) ^^^ (-1 : Int32)))), .ref q6, .int spot, .int isWrong, .int sign, .int digit, .int first, .int second]))], [(q1, .inl (gA G 0, 182, .inl g))]] _ _ := S
                        refine lv_iconst (v := nI 1) hx hb dX3_follows_151 (by decide) ?_
                        refine lv_istore_n (lv' := [(2, .int (nI 1)), (7, .int (nI (card ((aroundS i 8) &&& (rndK (g 0) K i &&& g 0))))), (6, .int (nI (card ((aroundS i 8) &&& (g 0))))), (5, .int ((aroundS i 8) &&& ((rndK (g 0) K i) ^^^ (-1 : Int32)))), (4, .int (aroundS i 8)), (3, .int (nI i)), (0, .ref h0), (1, .int rev)]) hx hb dX3_follows_152 rfl hl (Nat.le_of_ble_eq_true rfl) rfl (fun ls hl => ?_)
                        have hcan : decP (g 0) (rndK (g 0) K i) i = true := by first | exact decP_t ⟨by assumption, Or.inl (by assumption)⟩ | exact decP_t ⟨by assumption, Or.inr (by assumption)⟩
                        have hE20 : (rndK (g 0) K i) ||| ((aroundS i 8) &&& ((rndK (g 0) K i) ^^^ (-1 : Int32))) = rndK (g 0) K (i + 1) := rnd_yes hcan
                        have S := S.cong (congrArg (fun (zz : Int32) => ([[(h0, .inr (3, [.ref q1, .ref q2, .int pasts, .ref q3, .ref q4, .ref q5, .int length, .int zz, .int ((rndK (g 0) K i &&& g 0) ||| ((aroundS i 8) &&& ((rndK (g 0) K i) ^^^ (-1 : Int32)))), .ref q6, .int spot, .int isWrong, .int sign, .int digit, .int first, .int second]))], [(q1, .inl (gA G 0, 182, .inl g))]] : List va_W)) hE20)
                        have S : Sw G A s.heap [[(h0, .inr (3, [.ref q1, .ref q2, .int pasts, .ref q3, .ref q4, .ref q5, .int length, .int (rndK (g 0) K (i + 1)), .int ((rndK (g 0) K i &&& g 0) ||| ((aroundS i 8) &&& ((rndK (g 0) K i) ^^^ (-1 : Int32)))), .ref q6, .int spot, .int isWrong, .int sign, .int digit, .int first, .int second]))], [(q1, .inl (gA G 0, 182, .inl g))]] _ _ := S
                        have hE21 : (rndK (g 0) K i &&& g 0) ||| ((aroundS i 8) &&& ((rndK (g 0) K i) ^^^ (-1 : Int32))) = rndK (g 0) K (i + 1) &&& g 0 := by first | exact rnd_T0 hcan (by assumption) | exact rnd_T1 hcan (by assumption)
                        have S := S.cong (congrArg (fun (zz : Int32) => ([[(h0, .inr (3, [.ref q1, .ref q2, .int pasts, .ref q3, .ref q4, .ref q5, .int length, .int (rndK (g 0) K (i + 1)), .int zz, .ref q6, .int spot, .int isWrong, .int sign, .int digit, .int first, .int second]))], [(q1, .inl (gA G 0, 182, .inl g))]] : List va_W)) hE21)
                        have S : Sw G A s.heap [[(h0, .inr (3, [.ref q1, .ref q2, .int pasts, .ref q3, .ref q4, .ref q5, .int length, .int (rndK (g 0) K (i + 1)), .int (rndK (g 0) K (i + 1) &&& g 0), .ref q6, .int spot, .int isWrong, .int sign, .int digit, .int first, .int second]))], [(q1, .inl (gA G 0, 182, .inl g))]] _ _ := S
                        have hE22 : nI 1 = cI (rndC (g 0) K (i + 1)) := rnd_yesC hcan
                        have hl := lv_cong hl (congrArg (fun (zz : Int32) => ([(2, .int zz), (7, .int (nI (card ((aroundS i 8) &&& (rndK (g 0) K i &&& g 0))))), (6, .int (nI (card ((aroundS i 8) &&& (g 0))))), (5, .int ((aroundS i 8) &&& ((rndK (g 0) K i) ^^^ (-1 : Int32)))), (4, .int (aroundS i 8)), (3, .int (nI i)), (0, .ref h0), (1, .int rev)] : List (Nat × Value))) hE22)
                        have hl : lv_has ls 8 [(2, .int (cI (rndC (g 0) K (i + 1)))), (7, .int (nI (card ((aroundS i 8) &&& (rndK (g 0) K i &&& g 0))))), (6, .int (nI (card ((aroundS i 8) &&& (g 0))))), (5, .int ((aroundS i 8) &&& ((rndK (g 0) K i) ^^^ (-1 : Int32)))), (4, .int (aroundS i 8)), (3, .int (nI i)), (0, .ref h0), (1, .int rev)] := hl
                        refine lv_iinc (v := nI (i + 1)) (lv' := [(3, .int (nI (i + 1))), (2, .int (cI (rndC (g 0) K (i + 1)))), (7, .int (nI (card ((aroundS i 8) &&& (rndK (g 0) K i &&& g 0))))), (6, .int (nI (card ((aroundS i 8) &&& (g 0))))), (5, .int ((aroundS i 8) &&& ((rndK (g 0) K i) ^^^ (-1 : Int32)))), (4, .int (aroundS i 8)), (0, .ref h0), (1, .int rev)]) hx hb dX3_follows_153 hl (k := 5) rfl (nI_add _ _) (Nat.le_of_ble_eq_true rfl) rfl (fun ls hl => ?_)
                        refine lv_goto (tgt := 44) hx hb dX3_follows_156 (by decide) ?_
                        exact ih44 (i + 1) (by omega) (by omega) _ _ S ls (lv_sub hl [1, 0, 6, 7] rfl)
                      · skip
                        have c127_19 : (card ((aroundS i 8) &&& (rndK (g 0) K i &&& g 0))) = (card ((aroundS i 8) &&& (g 0))) := (nI_eq (a := (card ((aroundS i 8) &&& (rndK (g 0) K i &&& g 0)))) (b := (card ((aroundS i 8) &&& (g 0)))) (by omega) (by omega)).mp c127_19
                        refine lv_iconst (v := nI 0) hx hb dX3_follows_130 (by decide) ?_
                        refine lv_goto (tgt := 136) hx hb dX3_follows_131 (by decide) ?_
                        refine lv_ior hx hb dX3_follows_136 ?_
                        refine m_put X S 0 rfl (T := TX3) (N := 16) in_X3 tyX3 tyX3_ok nmX3 rfl 8 (by decide) q1720 (fun _ h9 => h9) rfl rfl rfl (Nat.le_of_ble_eq_true rfl) dX3_follows_137 (fun H locs S => ?_)
                        have S : Sw G A s.heap [[(h0, .inr (3, [.ref q1, .ref q2, .int pasts, .ref q3, .ref q4, .ref q5, .int length, .int (rndK (g 0) K i), .int ((rndK (g 0) K i &&& g 0) ||| (nI 0)), .ref q6, .int spot, .int isWrong, .int sign, .int digit, .int first, .int second]))], [(q1, .inl (gA G 0, 182, .inl g))]] _ _ := S
                        refine lv_aload_n hx hb dX3_follows_140 rfl (lv_at hl 6 rfl) ?_
                        refine lv_dup hx hb dX3_follows_141 rfl ?_
                        refine m_get X S 0 rfl (T := TX3) (N := 16) in_X3 rfl 7 (by decide) q1719 (fun _ h9 => h9) rfl dX3_follows_142 ?_
                        refine lv_iload hx hb dX3_follows_145 (lv_at hl 2 rfl) ?_
                        refine lv_ior hx hb dX3_follows_147 ?_
                        refine m_put X S 0 rfl (T := TX3) (N := 16) in_X3 tyX3 tyX3_ok nmX3 rfl 7 (by decide) q1719 (fun _ h9 => h9) rfl rfl rfl (Nat.le_of_ble_eq_true rfl) dX3_follows_148 (fun H locs S => ?_)
                        have S : Sw G A s.heap [[(h0, .inr (3, [.ref q1, .ref q2, .int pasts, .ref q3, .ref q4, .ref q5, .int length, .int ((rndK (g 0) K i) ||| ((aroundS i 8) &&& ((rndK (g 0) K i) ^^^ (-1 : Int32)))), .int ((rndK (g 0) K i &&& g 0) ||| (nI 0)), .ref q6, .int spot, .int isWrong, .int sign, .int digit, .int first, .int second]))], [(q1, .inl (gA G 0, 182, .inl g))]] _ _ := S
                        refine lv_iconst (v := nI 1) hx hb dX3_follows_151 (by decide) ?_
                        refine lv_istore_n (lv' := [(2, .int (nI 1)), (7, .int (nI (card ((aroundS i 8) &&& (rndK (g 0) K i &&& g 0))))), (6, .int (nI (card ((aroundS i 8) &&& (g 0))))), (5, .int ((aroundS i 8) &&& ((rndK (g 0) K i) ^^^ (-1 : Int32)))), (4, .int (aroundS i 8)), (3, .int (nI i)), (0, .ref h0), (1, .int rev)]) hx hb dX3_follows_152 rfl hl (Nat.le_of_ble_eq_true rfl) rfl (fun ls hl => ?_)
                        have hcan : decP (g 0) (rndK (g 0) K i) i = true := by first | exact decP_t ⟨by assumption, Or.inl (by assumption)⟩ | exact decP_t ⟨by assumption, Or.inr (by assumption)⟩
                        have hE23 : (rndK (g 0) K i) ||| ((aroundS i 8) &&& ((rndK (g 0) K i) ^^^ (-1 : Int32))) = rndK (g 0) K (i + 1) := rnd_yes hcan
                        have S := S.cong (congrArg (fun (zz : Int32) => ([[(h0, .inr (3, [.ref q1, .ref q2, .int pasts, .ref q3, .ref q4, .ref q5, .int length, .int zz, .int ((rndK (g 0) K i &&& g 0) ||| (nI 0)), .ref q6, .int spot, .int isWrong, .int sign, .int digit, .int first, .int second]))], [(q1, .inl (gA G 0, 182, .inl g))]] : List va_W)) hE23)
                        have S : Sw G A s.heap [[(h0, .inr (3, [.ref q1, .ref q2, .int pasts, .ref q3, .ref q4, .ref q5, .int length, .int (rndK (g 0) K (i + 1)), .int ((rndK (g 0) K i &&& g 0) ||| (nI 0)), .ref q6, .int spot, .int isWrong, .int sign, .int digit, .int first, .int second]))], [(q1, .inl (gA G 0, 182, .inl g))]] _ _ := S
                        have hE24 : (rndK (g 0) K i &&& g 0) ||| (nI 0) = rndK (g 0) K (i + 1) &&& g 0 := by first | exact rnd_T0 hcan (by assumption) | exact rnd_T1 hcan (by assumption)
                        have S := S.cong (congrArg (fun (zz : Int32) => ([[(h0, .inr (3, [.ref q1, .ref q2, .int pasts, .ref q3, .ref q4, .ref q5, .int length, .int (rndK (g 0) K (i + 1)), .int zz, .ref q6, .int spot, .int isWrong, .int sign, .int digit, .int first, .int second]))], [(q1, .inl (gA G 0, 182, .inl g))]] : List va_W)) hE24)
                        have S : Sw G A s.heap [[(h0, .inr (3, [.ref q1, .ref q2, .int pasts, .ref q3, .ref q4, .ref q5, .int length, .int (rndK (g 0) K (i + 1)), .int (rndK (g 0) K (i + 1) &&& g 0), .ref q6, .int spot, .int isWrong, .int sign, .int digit, .int first, .int second]))], [(q1, .inl (gA G 0, 182, .inl g))]] _ _ := S
                        have hE25 : nI 1 = cI (rndC (g 0) K (i + 1)) := rnd_yesC hcan
                        have hl := lv_cong hl (congrArg (fun (zz : Int32) => ([(2, .int zz), (7, .int (nI (card ((aroundS i 8) &&& (rndK (g 0) K i &&& g 0))))), (6, .int (nI (card ((aroundS i 8) &&& (g 0))))), (5, .int ((aroundS i 8) &&& ((rndK (g 0) K i) ^^^ (-1 : Int32)))), (4, .int (aroundS i 8)), (3, .int (nI i)), (0, .ref h0), (1, .int rev)] : List (Nat × Value))) hE25)
                        have hl : lv_has ls 8 [(2, .int (cI (rndC (g 0) K (i + 1)))), (7, .int (nI (card ((aroundS i 8) &&& (rndK (g 0) K i &&& g 0))))), (6, .int (nI (card ((aroundS i 8) &&& (g 0))))), (5, .int ((aroundS i 8) &&& ((rndK (g 0) K i) ^^^ (-1 : Int32)))), (4, .int (aroundS i 8)), (3, .int (nI i)), (0, .ref h0), (1, .int rev)] := hl
                        refine lv_iinc (v := nI (i + 1)) (lv' := [(3, .int (nI (i + 1))), (2, .int (cI (rndC (g 0) K (i + 1)))), (7, .int (nI (card ((aroundS i 8) &&& (rndK (g 0) K i &&& g 0))))), (6, .int (nI (card ((aroundS i 8) &&& (g 0))))), (5, .int ((aroundS i 8) &&& ((rndK (g 0) K i) ^^^ (-1 : Int32)))), (4, .int (aroundS i 8)), (0, .ref h0), (1, .int rev)]) hx hb dX3_follows_153 hl (k := 5) rfl (nI_add _ _) (Nat.le_of_ble_eq_true rfl) rfl (fun ls hl => ?_)
                        refine lv_goto (tgt := 44) hx hb dX3_follows_156 (by decide) ?_
                        exact ih44 (i + 1) (by omega) (by omega) _ _ S ls (lv_sub hl [1, 0, 6, 7] rfl)
                    · skip
                      have c102_18 : ¬ (card ((aroundS i 8) &&& (rndK (g 0) K i &&& g 0))) = (card ((aroundS i 8) &&& (g 0))) := fun z => c102_18 ((nI_eq (a := (card ((aroundS i 8) &&& (rndK (g 0) K i &&& g 0)))) (b := (card ((aroundS i 8) &&& (g 0)))) (by omega) (by omega)).mpr z)
                      refine lv_iload hx hb dX3_follows_105 (lv_at hl 0 rfl) ?_
                      refine lv_iload hx hb dX3_follows_107 (lv_at hl 2 rfl) ?_
                      have hq26 := S.cut (Bc := []) (Br := [[(h0, .inr (3, [.ref q1, .ref q2, .int pasts, .ref q3, .ref q4, .ref q5, .int length, .int (rndK (g 0) K i), .int (rndK (g 0) K i &&& g 0), .ref q6, .int spot, .int isWrong, .int sign, .int digit, .int first, .int second]))], [(q1, .inl (gA G 0, 182, .inl g))]]) [] [0, 1] (show ([] ++ ([0, 1] : List Nat)).isPerm (List.range 2) = true by decide +kernel) rfl rfl
                      refine m_ri X S hq26 (m_runS (rest := [.int (nI (card ((aroundS i 8) &&& (rndK (g 0) K i &&& g 0))))]) (As := [.int ((aroundS i 8) &&& ((rndK (g 0) K i) ^^^ (-1 : Int32)))]) (n := 1) X S hq26 (mt_X3_many G l ((aroundS i 8) &&& ((rndK (g 0) K i) ^^^ (-1 : Int32))) ) (lw_S q1801 q1802 q90 q1803) (by decide +kernel) ⟨Nat.le_of_ble_eq_true rfl, Nat.le_of_ble_eq_true rfl⟩ rfl hl.1 rfl (Nat.le_of_ble_eq_true rfl) dX3_follows_109 ⟨(Nat.le_of_ble_eq_true rfl), (Nat.le_of_ble_eq_true rfl)⟩) (fun r27 u H locs hp27 S => ?_)
                      have hp27 : r27 = nI (card ((aroundS i 8) &&& ((rndK (g 0) K i) ^^^ (-1 : Int32)))) := hp27
                      have hhp27_0 := hp27
                      subst hhp27_0
                      have S : Sw G A s.heap [[(h0, .inr (3, [.ref q1, .ref q2, .int pasts, .ref q3, .ref q4, .ref q5, .int length, .int (rndK (g 0) K i), .int (rndK (g 0) K i &&& g 0), .ref q6, .int spot, .int isWrong, .int sign, .int digit, .int first, .int second]))], [(q1, .inl (gA G 0, 182, .inl g))]] _ _ := S
                      refine lv_iadd hx hb dX3_follows_112 ?_
                      refine lv_toe (y := nI ((card ((aroundS i 8) &&& (rndK (g 0) K i &&& g 0))) + (card ((aroundS i 8) &&& ((rndK (g 0) K i) ^^^ (-1 : Int32)))))) (nI_add _ _) ?_
                      refine lv_iload hx hb dX3_follows_113 (lv_at hl 1 rfl) ?_
                      refine lv_icmp_ne (tgt := 153) hx hb dX3_follows_115 (by decide) (fun c115_28 => ?_) (fun c115_28 => ?_)
                      · skip
                        have c115_28 : ¬ ((card ((aroundS i 8) &&& (rndK (g 0) K i &&& g 0))) + (card ((aroundS i 8) &&& ((rndK (g 0) K i) ^^^ (-1 : Int32))))) = (card ((aroundS i 8) &&& (g 0))) := fun z => c115_28 ((nI_eq (a := ((card ((aroundS i 8) &&& (rndK (g 0) K i &&& g 0))) + (card ((aroundS i 8) &&& ((rndK (g 0) K i) ^^^ (-1 : Int32)))))) (b := (card ((aroundS i 8) &&& (g 0)))) (by omega) (by omega)).mpr z)
                        have hcan : decP (g 0) (rndK (g 0) K i) i = false := decP_f (by first | exact fun z => z.1 (by assumption) | exact fun z => z.2.elim (by assumption) (by assumption))
                        have hE29 : rndK (g 0) K i = rndK (g 0) K (i + 1) := rnd_no hcan
                        have S := S.cong (congrArg (fun (zz : Int32) => ([[(h0, .inr (3, [.ref q1, .ref q2, .int pasts, .ref q3, .ref q4, .ref q5, .int length, .int zz, .int (rndK (g 0) K i &&& g 0), .ref q6, .int spot, .int isWrong, .int sign, .int digit, .int first, .int second]))], [(q1, .inl (gA G 0, 182, .inl g))]] : List va_W)) hE29)
                        have S : Sw G A s.heap [[(h0, .inr (3, [.ref q1, .ref q2, .int pasts, .ref q3, .ref q4, .ref q5, .int length, .int (rndK (g 0) K (i + 1)), .int (rndK (g 0) K i &&& g 0), .ref q6, .int spot, .int isWrong, .int sign, .int digit, .int first, .int second]))], [(q1, .inl (gA G 0, 182, .inl g))]] _ _ := S
                        have hE30 : rndK (g 0) K i &&& g 0 = rndK (g 0) K (i + 1) &&& g 0 := rnd_noT hcan
                        have S := S.cong (congrArg (fun (zz : Int32) => ([[(h0, .inr (3, [.ref q1, .ref q2, .int pasts, .ref q3, .ref q4, .ref q5, .int length, .int (rndK (g 0) K (i + 1)), .int zz, .ref q6, .int spot, .int isWrong, .int sign, .int digit, .int first, .int second]))], [(q1, .inl (gA G 0, 182, .inl g))]] : List va_W)) hE30)
                        have S : Sw G A s.heap [[(h0, .inr (3, [.ref q1, .ref q2, .int pasts, .ref q3, .ref q4, .ref q5, .int length, .int (rndK (g 0) K (i + 1)), .int (rndK (g 0) K (i + 1) &&& g 0), .ref q6, .int spot, .int isWrong, .int sign, .int digit, .int first, .int second]))], [(q1, .inl (gA G 0, 182, .inl g))]] _ _ := S
                        have hE31 : cI (rndC (g 0) K i) = cI (rndC (g 0) K (i + 1)) := rnd_noC hcan
                        have hl := lv_cong hl (congrArg (fun (zz : Int32) => ([(7, .int (nI (card ((aroundS i 8) &&& (rndK (g 0) K i &&& g 0))))), (6, .int (nI (card ((aroundS i 8) &&& (g 0))))), (5, .int ((aroundS i 8) &&& ((rndK (g 0) K i) ^^^ (-1 : Int32)))), (4, .int (aroundS i 8)), (2, .int zz), (3, .int (nI i)), (0, .ref h0), (1, .int rev)] : List (Nat × Value))) hE31)
                        have hl : lv_has ls 8 [(7, .int (nI (card ((aroundS i 8) &&& (rndK (g 0) K i &&& g 0))))), (6, .int (nI (card ((aroundS i 8) &&& (g 0))))), (5, .int ((aroundS i 8) &&& ((rndK (g 0) K i) ^^^ (-1 : Int32)))), (4, .int (aroundS i 8)), (2, .int (cI (rndC (g 0) K (i + 1)))), (3, .int (nI i)), (0, .ref h0), (1, .int rev)] := hl
                        refine lv_iinc (v := nI (i + 1)) (lv' := [(3, .int (nI (i + 1))), (7, .int (nI (card ((aroundS i 8) &&& (rndK (g 0) K i &&& g 0))))), (6, .int (nI (card ((aroundS i 8) &&& (g 0))))), (5, .int ((aroundS i 8) &&& ((rndK (g 0) K i) ^^^ (-1 : Int32)))), (4, .int (aroundS i 8)), (2, .int (cI (rndC (g 0) K (i + 1)))), (0, .ref h0), (1, .int rev)]) hx hb dX3_follows_153 hl (k := 5) rfl (nI_add _ _) (Nat.le_of_ble_eq_true rfl) rfl (fun ls hl => ?_)
                        refine lv_goto (tgt := 44) hx hb dX3_follows_156 (by decide) ?_
                        exact ih44 (i + 1) (by omega) (by omega) _ _ S ls (lv_sub hl [5, 0, 6, 7] rfl)
                      · skip
                        have c115_28 : ((card ((aroundS i 8) &&& (rndK (g 0) K i &&& g 0))) + (card ((aroundS i 8) &&& ((rndK (g 0) K i) ^^^ (-1 : Int32))))) = (card ((aroundS i 8) &&& (g 0))) := (nI_eq (a := ((card ((aroundS i 8) &&& (rndK (g 0) K i &&& g 0))) + (card ((aroundS i 8) &&& ((rndK (g 0) K i) ^^^ (-1 : Int32)))))) (b := (card ((aroundS i 8) &&& (g 0)))) (by omega) (by omega)).mp c115_28
                        refine lv_aload_n hx hb dX3_follows_118 rfl (lv_at hl 6 rfl) ?_
                        refine lv_dup hx hb dX3_follows_119 rfl ?_
                        refine m_get X S 0 rfl (T := TX3) (N := 16) in_X3 rfl 8 (by decide) q1720 (fun _ h9 => h9) rfl dX3_follows_120 ?_
                        refine lv_iload hx hb dX3_follows_123 (lv_at hl 0 rfl) ?_
                        refine lv_iload hx hb dX3_follows_125 (lv_at hl 1 rfl) ?_
                        refine lv_icmp_ne (tgt := 134) hx hb dX3_follows_127 (by decide) (fun c127_32 => ?_) (fun c127_32 => ?_)
                        · skip
                          have c127_32 : ¬ (card ((aroundS i 8) &&& (rndK (g 0) K i &&& g 0))) = (card ((aroundS i 8) &&& (g 0))) := fun z => c127_32 ((nI_eq (a := (card ((aroundS i 8) &&& (rndK (g 0) K i &&& g 0)))) (b := (card ((aroundS i 8) &&& (g 0)))) (by omega) (by omega)).mpr z)
                          refine lv_iload hx hb dX3_follows_134 (lv_at hl 2 rfl) ?_
                          refine lv_ior hx hb dX3_follows_136 ?_
                          refine m_put X S 0 rfl (T := TX3) (N := 16) in_X3 tyX3 tyX3_ok nmX3 rfl 8 (by decide) q1720 (fun _ h9 => h9) rfl rfl rfl (Nat.le_of_ble_eq_true rfl) dX3_follows_137 (fun H locs S => ?_)
                          have S : Sw G A s.heap [[(h0, .inr (3, [.ref q1, .ref q2, .int pasts, .ref q3, .ref q4, .ref q5, .int length, .int (rndK (g 0) K i), .int ((rndK (g 0) K i &&& g 0) ||| ((aroundS i 8) &&& ((rndK (g 0) K i) ^^^ (-1 : Int32)))), .ref q6, .int spot, .int isWrong, .int sign, .int digit, .int first, .int second]))], [(q1, .inl (gA G 0, 182, .inl g))]] _ _ := S
                          refine lv_aload_n hx hb dX3_follows_140 rfl (lv_at hl 6 rfl) ?_
                          refine lv_dup hx hb dX3_follows_141 rfl ?_
                          refine m_get X S 0 rfl (T := TX3) (N := 16) in_X3 rfl 7 (by decide) q1719 (fun _ h9 => h9) rfl dX3_follows_142 ?_
                          refine lv_iload hx hb dX3_follows_145 (lv_at hl 2 rfl) ?_
                          refine lv_ior hx hb dX3_follows_147 ?_
                          refine m_put X S 0 rfl (T := TX3) (N := 16) in_X3 tyX3 tyX3_ok nmX3 rfl 7 (by decide) q1719 (fun _ h9 => h9) rfl rfl rfl (Nat.le_of_ble_eq_true rfl) dX3_follows_148 (fun H locs S => ?_)
                          have S : Sw G A s.heap [[(h0, .inr (3, [.ref q1, .ref q2, .int pasts, .ref q3, .ref q4, .ref q5, .int length, .int ((rndK (g 0) K i) ||| ((aroundS i 8) &&& ((rndK (g 0) K i) ^^^ (-1 : Int32)))), .int ((rndK (g 0) K i &&& g 0) ||| ((aroundS i 8) &&& ((rndK (g 0) K i) ^^^ (-1 : Int32)))), .ref q6, .int spot, .int isWrong, .int sign, .int digit, .int first, .int second]))], [(q1, .inl (gA G 0, 182, .inl g))]] _ _ := S
                          refine lv_iconst (v := nI 1) hx hb dX3_follows_151 (by decide) ?_
                          refine lv_istore_n (lv' := [(2, .int (nI 1)), (7, .int (nI (card ((aroundS i 8) &&& (rndK (g 0) K i &&& g 0))))), (6, .int (nI (card ((aroundS i 8) &&& (g 0))))), (5, .int ((aroundS i 8) &&& ((rndK (g 0) K i) ^^^ (-1 : Int32)))), (4, .int (aroundS i 8)), (3, .int (nI i)), (0, .ref h0), (1, .int rev)]) hx hb dX3_follows_152 rfl hl (Nat.le_of_ble_eq_true rfl) rfl (fun ls hl => ?_)
                          have hcan : decP (g 0) (rndK (g 0) K i) i = true := by first | exact decP_t ⟨by assumption, Or.inl (by assumption)⟩ | exact decP_t ⟨by assumption, Or.inr (by assumption)⟩
                          have hE33 : (rndK (g 0) K i) ||| ((aroundS i 8) &&& ((rndK (g 0) K i) ^^^ (-1 : Int32))) = rndK (g 0) K (i + 1) := rnd_yes hcan
                          have S := S.cong (congrArg (fun (zz : Int32) => ([[(h0, .inr (3, [.ref q1, .ref q2, .int pasts, .ref q3, .ref q4, .ref q5, .int length, .int zz, .int ((rndK (g 0) K i &&& g 0) ||| ((aroundS i 8) &&& ((rndK (g 0) K i) ^^^ (-1 : Int32)))), .ref q6, .int spot, .int isWrong, .int sign, .int digit, .int first, .int second]))], [(q1, .inl (gA G 0, 182, .inl g))]] : List va_W)) hE33)
                          have S : Sw G A s.heap [[(h0, .inr (3, [.ref q1, .ref q2, .int pasts, .ref q3, .ref q4, .ref q5, .int length, .int (rndK (g 0) K (i + 1)), .int ((rndK (g 0) K i &&& g 0) ||| ((aroundS i 8) &&& ((rndK (g 0) K i) ^^^ (-1 : Int32)))), .ref q6, .int spot, .int isWrong, .int sign, .int digit, .int first, .int second]))], [(q1, .inl (gA G 0, 182, .inl g))]] _ _ := S
                          have hE34 : (rndK (g 0) K i &&& g 0) ||| ((aroundS i 8) &&& ((rndK (g 0) K i) ^^^ (-1 : Int32))) = rndK (g 0) K (i + 1) &&& g 0 := by first | exact rnd_T0 hcan (by assumption) | exact rnd_T1 hcan (by assumption)
                          have S := S.cong (congrArg (fun (zz : Int32) => ([[(h0, .inr (3, [.ref q1, .ref q2, .int pasts, .ref q3, .ref q4, .ref q5, .int length, .int (rndK (g 0) K (i + 1)), .int zz, .ref q6, .int spot, .int isWrong, .int sign, .int digit, .int first, .int second]))], [(q1, .inl (gA G 0, 182, .inl g))]] : List va_W)) hE34)
                          have S : Sw G A s.heap [[(h0, .inr (3, [.ref q1, .ref q2, .int pasts, .ref q3, .ref q4, .ref q5, .int length, .int (rndK (g 0) K (i + 1)), .int (rndK (g 0) K (i + 1) &&& g 0), .ref q6, .int spot, .int isWrong, .int sign, .int digit, .int first, .int second]))], [(q1, .inl (gA G 0, 182, .inl g))]] _ _ := S
                          have hE35 : nI 1 = cI (rndC (g 0) K (i + 1)) := rnd_yesC hcan
                          have hl := lv_cong hl (congrArg (fun (zz : Int32) => ([(2, .int zz), (7, .int (nI (card ((aroundS i 8) &&& (rndK (g 0) K i &&& g 0))))), (6, .int (nI (card ((aroundS i 8) &&& (g 0))))), (5, .int ((aroundS i 8) &&& ((rndK (g 0) K i) ^^^ (-1 : Int32)))), (4, .int (aroundS i 8)), (3, .int (nI i)), (0, .ref h0), (1, .int rev)] : List (Nat × Value))) hE35)
                          have hl : lv_has ls 8 [(2, .int (cI (rndC (g 0) K (i + 1)))), (7, .int (nI (card ((aroundS i 8) &&& (rndK (g 0) K i &&& g 0))))), (6, .int (nI (card ((aroundS i 8) &&& (g 0))))), (5, .int ((aroundS i 8) &&& ((rndK (g 0) K i) ^^^ (-1 : Int32)))), (4, .int (aroundS i 8)), (3, .int (nI i)), (0, .ref h0), (1, .int rev)] := hl
                          refine lv_iinc (v := nI (i + 1)) (lv' := [(3, .int (nI (i + 1))), (2, .int (cI (rndC (g 0) K (i + 1)))), (7, .int (nI (card ((aroundS i 8) &&& (rndK (g 0) K i &&& g 0))))), (6, .int (nI (card ((aroundS i 8) &&& (g 0))))), (5, .int ((aroundS i 8) &&& ((rndK (g 0) K i) ^^^ (-1 : Int32)))), (4, .int (aroundS i 8)), (0, .ref h0), (1, .int rev)]) hx hb dX3_follows_153 hl (k := 5) rfl (nI_add _ _) (Nat.le_of_ble_eq_true rfl) rfl (fun ls hl => ?_)
                          refine lv_goto (tgt := 44) hx hb dX3_follows_156 (by decide) ?_
                          exact ih44 (i + 1) (by omega) (by omega) _ _ S ls (lv_sub hl [1, 0, 6, 7] rfl)
                        · skip
                          have c127_32 : (card ((aroundS i 8) &&& (rndK (g 0) K i &&& g 0))) = (card ((aroundS i 8) &&& (g 0))) := (nI_eq (a := (card ((aroundS i 8) &&& (rndK (g 0) K i &&& g 0)))) (b := (card ((aroundS i 8) &&& (g 0)))) (by omega) (by omega)).mp c127_32
                          refine lv_iconst (v := nI 0) hx hb dX3_follows_130 (by decide) ?_
                          refine lv_goto (tgt := 136) hx hb dX3_follows_131 (by decide) ?_
                          refine lv_ior hx hb dX3_follows_136 ?_
                          refine m_put X S 0 rfl (T := TX3) (N := 16) in_X3 tyX3 tyX3_ok nmX3 rfl 8 (by decide) q1720 (fun _ h9 => h9) rfl rfl rfl (Nat.le_of_ble_eq_true rfl) dX3_follows_137 (fun H locs S => ?_)
                          have S : Sw G A s.heap [[(h0, .inr (3, [.ref q1, .ref q2, .int pasts, .ref q3, .ref q4, .ref q5, .int length, .int (rndK (g 0) K i), .int ((rndK (g 0) K i &&& g 0) ||| (nI 0)), .ref q6, .int spot, .int isWrong, .int sign, .int digit, .int first, .int second]))], [(q1, .inl (gA G 0, 182, .inl g))]] _ _ := S
                          refine lv_aload_n hx hb dX3_follows_140 rfl (lv_at hl 6 rfl) ?_
                          refine lv_dup hx hb dX3_follows_141 rfl ?_
                          refine m_get X S 0 rfl (T := TX3) (N := 16) in_X3 rfl 7 (by decide) q1719 (fun _ h9 => h9) rfl dX3_follows_142 ?_
                          refine lv_iload hx hb dX3_follows_145 (lv_at hl 2 rfl) ?_
                          refine lv_ior hx hb dX3_follows_147 ?_
                          refine m_put X S 0 rfl (T := TX3) (N := 16) in_X3 tyX3 tyX3_ok nmX3 rfl 7 (by decide) q1719 (fun _ h9 => h9) rfl rfl rfl (Nat.le_of_ble_eq_true rfl) dX3_follows_148 (fun H locs S => ?_)
                          have S : Sw G A s.heap [[(h0, .inr (3, [.ref q1, .ref q2, .int pasts, .ref q3, .ref q4, .ref q5, .int length, .int ((rndK (g 0) K i) ||| ((aroundS i 8) &&& ((rndK (g 0) K i) ^^^ (-1 : Int32)))), .int ((rndK (g 0) K i &&& g 0) ||| (nI 0)), .ref q6, .int spot, .int isWrong, .int sign, .int digit, .int first, .int second]))], [(q1, .inl (gA G 0, 182, .inl g))]] _ _ := S
                          refine lv_iconst (v := nI 1) hx hb dX3_follows_151 (by decide) ?_
                          refine lv_istore_n (lv' := [(2, .int (nI 1)), (7, .int (nI (card ((aroundS i 8) &&& (rndK (g 0) K i &&& g 0))))), (6, .int (nI (card ((aroundS i 8) &&& (g 0))))), (5, .int ((aroundS i 8) &&& ((rndK (g 0) K i) ^^^ (-1 : Int32)))), (4, .int (aroundS i 8)), (3, .int (nI i)), (0, .ref h0), (1, .int rev)]) hx hb dX3_follows_152 rfl hl (Nat.le_of_ble_eq_true rfl) rfl (fun ls hl => ?_)
                          have hcan : decP (g 0) (rndK (g 0) K i) i = true := by first | exact decP_t ⟨by assumption, Or.inl (by assumption)⟩ | exact decP_t ⟨by assumption, Or.inr (by assumption)⟩
                          have hE36 : (rndK (g 0) K i) ||| ((aroundS i 8) &&& ((rndK (g 0) K i) ^^^ (-1 : Int32))) = rndK (g 0) K (i + 1) := rnd_yes hcan
                          have S := S.cong (congrArg (fun (zz : Int32) => ([[(h0, .inr (3, [.ref q1, .ref q2, .int pasts, .ref q3, .ref q4, .ref q5, .int length, .int zz, .int ((rndK (g 0) K i &&& g 0) ||| (nI 0)), .ref q6, .int spot, .int isWrong, .int sign, .int digit, .int first, .int second]))], [(q1, .inl (gA G 0, 182, .inl g))]] : List va_W)) hE36)
                          have S : Sw G A s.heap [[(h0, .inr (3, [.ref q1, .ref q2, .int pasts, .ref q3, .ref q4, .ref q5, .int length, .int (rndK (g 0) K (i + 1)), .int ((rndK (g 0) K i &&& g 0) ||| (nI 0)), .ref q6, .int spot, .int isWrong, .int sign, .int digit, .int first, .int second]))], [(q1, .inl (gA G 0, 182, .inl g))]] _ _ := S
                          have hE37 : (rndK (g 0) K i &&& g 0) ||| (nI 0) = rndK (g 0) K (i + 1) &&& g 0 := by first | exact rnd_T0 hcan (by assumption) | exact rnd_T1 hcan (by assumption)
                          have S := S.cong (congrArg (fun (zz : Int32) => ([[(h0, .inr (3, [.ref q1, .ref q2, .int pasts, .ref q3, .ref q4, .ref q5, .int length, .int (rndK (g 0) K (i + 1)), .int zz, .ref q6, .int spot, .int isWrong, .int sign, .int digit, .int first, .int second]))], [(q1, .inl (gA G 0, 182, .inl g))]] : List va_W)) hE37)
                          have S : Sw G A s.heap [[(h0, .inr (3, [.ref q1, .ref q2, .int pasts, .ref q3, .ref q4, .ref q5, .int length, .int (rndK (g 0) K (i + 1)), .int (rndK (g 0) K (i + 1) &&& g 0), .ref q6, .int spot, .int isWrong, .int sign, .int digit, .int first, .int second]))], [(q1, .inl (gA G 0, 182, .inl g))]] _ _ := S
                          have hE38 : nI 1 = cI (rndC (g 0) K (i + 1)) := rnd_yesC hcan
                          have hl := lv_cong hl (congrArg (fun (zz : Int32) => ([(2, .int zz), (7, .int (nI (card ((aroundS i 8) &&& (rndK (g 0) K i &&& g 0))))), (6, .int (nI (card ((aroundS i 8) &&& (g 0))))), (5, .int ((aroundS i 8) &&& ((rndK (g 0) K i) ^^^ (-1 : Int32)))), (4, .int (aroundS i 8)), (3, .int (nI i)), (0, .ref h0), (1, .int rev)] : List (Nat × Value))) hE38)
                          have hl : lv_has ls 8 [(2, .int (cI (rndC (g 0) K (i + 1)))), (7, .int (nI (card ((aroundS i 8) &&& (rndK (g 0) K i &&& g 0))))), (6, .int (nI (card ((aroundS i 8) &&& (g 0))))), (5, .int ((aroundS i 8) &&& ((rndK (g 0) K i) ^^^ (-1 : Int32)))), (4, .int (aroundS i 8)), (3, .int (nI i)), (0, .ref h0), (1, .int rev)] := hl
                          refine lv_iinc (v := nI (i + 1)) (lv' := [(3, .int (nI (i + 1))), (2, .int (cI (rndC (g 0) K (i + 1)))), (7, .int (nI (card ((aroundS i 8) &&& (rndK (g 0) K i &&& g 0))))), (6, .int (nI (card ((aroundS i 8) &&& (g 0))))), (5, .int ((aroundS i 8) &&& ((rndK (g 0) K i) ^^^ (-1 : Int32)))), (4, .int (aroundS i 8)), (0, .ref h0), (1, .int rev)]) hx hb dX3_follows_153 hl (k := 5) rfl (nI_add _ _) (Nat.le_of_ble_eq_true rfl) rfl (fun ls hl => ?_)
                          refine lv_goto (tgt := 44) hx hb dX3_follows_156 (by decide) ?_
                          exact ih44 (i + 1) (by omega) (by omega) _ _ S ls (lv_sub hl [1, 0, 6, 7] rfl)
            exact hL44 _ 0 (Nat.lt_succ_self _) (by omega) _ _ S ls (lv_sub hl [1, 0, 2, 3] rfl)
      exact hL36 _ rev true 33 (Nat.lt_succ_self _) (by first | exact Or.inl ⟨rfl, by unfold knownS; rw [if_neg (by assumption)], by omega⟩ | exact Or.inr ⟨rfl, by unfold knownS; rw [if_pos (by assumption)]⟩) _ _ S ls (lv_sub hl [0, 1, 2] rfl)
    · skip
      subst hhp5_0
      have hf0_r5 := hhp5_1
      contradiction
  · skip
    subst hhp2_0
    have hf0_r2 := hhp2_1
    have S : Sw G A s.heap [[(h0, .inr (3, [.ref q1, .ref q2, .int pasts, .ref q3, .ref q4, .ref q5, .int length, .int known, .int there, .ref q6, .int spot, .int isWrong, .int sign, .int digit, .int first, .int second]))], [(q1, .inl (gA G 0, 182, .inl g))]] _ _ := S
    refine lv_if_eq (tgt := 12) hx hb dX3_follows_5 (by decide) (fun c5_39 => ?_) (fun c5_39 => absurd (by decide) c5_39)
    refine lv_iconst (v := nI 0) hx hb dX3_follows_12 (by decide) ?_
    refine m_put X S 0 rfl (T := TX3) (N := 16) in_X3 tyX3 tyX3_ok nmX3 rfl 7 (by decide) q1719 (fun _ h9 => h9) rfl rfl rfl (Nat.le_of_ble_eq_true rfl) dX3_follows_13 (fun H locs S => ?_)
    have S : Sw G A s.heap [[(h0, .inr (3, [.ref q1, .ref q2, .int pasts, .ref q3, .ref q4, .ref q5, .int length, .int (nI 0), .int there, .ref q6, .int spot, .int isWrong, .int sign, .int digit, .int first, .int second]))], [(q1, .inl (gA G 0, 182, .inl g))]] _ _ := S
    refine lv_aload_n hx hb dX3_follows_16 rfl (lv_at hl 0 rfl) ?_
    refine lv_aload_n hx hb dX3_follows_17 rfl (lv_at hl 0 rfl) ?_
    refine m_get X S 0 rfl (T := TX3) (N := 16) in_X3 rfl 7 (by decide) q1719 (fun _ h9 => h9) rfl dX3_follows_18 ?_
    refine lv_aload_n hx hb dX3_follows_21 rfl (lv_at hl 0 rfl) ?_
    refine m_get X S 0 rfl (T := TX3) (N := 16) in_X3 rfl 0 (by decide) q1712 (fun _ h9 => h9) rfl dX3_follows_22 ?_
    refine lv_iconst (v := nI 0) hx hb dX3_follows_25 (by decide) ?_
    refine m_iald X S 1 rfl (x := nI 0) (j := 0) rfl (vp_in_nI (by decide) (by decide)) (v := g 0) rfl dX3_follows_26 ?_
    refine lv_iand hx hb dX3_follows_27 ?_
    refine m_put X S 0 rfl (T := TX3) (N := 16) in_X3 tyX3 tyX3_ok nmX3 rfl 8 (by decide) q1720 (fun _ h9 => h9) rfl rfl rfl (Nat.le_of_ble_eq_true rfl) dX3_follows_28 (fun H locs S => ?_)
    have S : Sw G A s.heap [[(h0, .inr (3, [.ref q1, .ref q2, .int pasts, .ref q3, .ref q4, .ref q5, .int length, .int (nI 0), .int ((nI 0) &&& (g 0)), .ref q6, .int spot, .int isWrong, .int sign, .int digit, .int first, .int second]))], [(q1, .inl (gA G 0, 182, .inl g))]] _ _ := S
    refine lv_aload_n hx hb dX3_follows_31 rfl (lv_at hl 0 rfl) ?_
    have hq40 := S.cut (Bc := [[(h0, .inr (3, [.ref q1, .ref q2, .int pasts, .ref q3, .ref q4, .ref q5, .int length, .int (nI 0), .int ((nI 0) &&& (g 0)), .ref q6, .int spot, .int isWrong, .int sign, .int digit, .int first, .int second]))], [(q1, .inl (gA G 0, 182, .inl g))]]) (Br := []) [0, 1] [] (show ([0, 1] ++ ([] : List Nat)).isPerm (List.range 2) = true by decide +kernel) rfl rfl
    refine m_ri X S hq40 (m_runV (rest := []) (As := []) (n := 0) X S hq40 (mt_X3_hasBegun G l h0 q1 q2 q3 q4 q5 q6 pasts length (nI 0) ((nI 0) &&& (g 0)) spot isWrong sign digit first second g ) (lw_V q1790 q1792 qs48 q90 q1793) (m_recv X S 0 rfl rfl) (by decide +kernel) ⟨Nat.le_of_ble_eq_true rfl, Nat.le_of_ble_eq_true rfl⟩ rfl hl.1 rfl (Nat.le_of_ble_eq_true rfl) dX3_follows_32 ⟨(Nat.le_of_ble_eq_true rfl), (Nat.le_of_ble_eq_true rfl)⟩) (fun r41 u H locs hp41 S => ?_)
    have hp41 : (r41 = nI 1 ∧ ¬ g 6 ≤ 0) ∨ (r41 = nI 0 ∧ g 6 ≤ 0) := hp41
    have S : Sw G A s.heap [[(h0, .inr (3, [.ref q1, .ref q2, .int pasts, .ref q3, .ref q4, .ref q5, .int length, .int (nI 0), .int ((nI 0) &&& (g 0)), .ref q6, .int spot, .int isWrong, .int sign, .int digit, .int first, .int second]))], [(q1, .inl (gA G 0, 182, .inl g))]] _ _ := S
    rcases hp41 with ⟨hhp41_0, hhp41_1⟩ | ⟨hhp41_0, hhp41_1⟩
    · skip
      subst hhp41_0
      have hf0_r41 := hhp41_1
      contradiction
    · skip
      subst hhp41_0
      have hf0_r41 := hhp41_1
      have S : Sw G A s.heap [[(h0, .inr (3, [.ref q1, .ref q2, .int pasts, .ref q3, .ref q4, .ref q5, .int length, .int (nI 0), .int ((nI 0) &&& (g 0)), .ref q6, .int spot, .int isWrong, .int sign, .int digit, .int first, .int second]))], [(q1, .inl (gA G 0, 182, .inl g))]] _ _ := S
      refine lv_toe (y := cI false) (rfl) ?_
      refine lv_istore_n (lv' := [(2, .int (cI false)), (0, .ref h0), (1, .int rev)]) hx hb dX3_follows_35 rfl hl (Nat.le_of_ble_eq_true rfl) rfl (fun ls hl => ?_)
      have hL36 : ∀ (kf : Nat) (K : Int32) (bb : Bool) (nn : Nat), (33 - card K + bb.toNat) < kf → (folI (g 0) (knownS g rev) K bb nn) → ∀ (H : Heap) (locs : List Loc), Sw G A s.heap [[(h0, .inr (3, [.ref q1, .ref q2, .int pasts, .ref q3, .ref q4, .ref q5, .int length, .int K, .int (K &&& g 0), .ref q6, .int spot, .int isWrong, .int sign, .int digit, .int first, .int second]))], [(q1, .inl (gA G 0, 182, .inl g))]] H locs → ∀ (ls : Array Slot), lv_has ls 8 [(2, .int (cI bb)), (0, .ref h0), (1, .int rev)] → W p l e rm_X3_follows s m ag below meth c H locs (0) (0) Q (F0 m 36 ls []) := by
        intro kf
        induction kf with
        | zero =>
          intro K bb nn hm
          exact absurd hm (Nat.not_lt_zero _)
        | succ kf36 ih36 =>
          intro K bb nn hm hf H locs S ls hl
          refine lv_iload_n hx hb dX3_follows_36 rfl (lv_at hl 0 rfl) ?_
          refine lv_if_eq (tgt := 162) hx hb dX3_follows_37 (by decide) (fun c37_42 => ?_) (fun c37_42 => ?_)
          · skip
            have c37_42 : (cI bb) = (nI 0) := c37_42
            have hb0 : bb = false := cI_0.mp c37_42
            exact m_vret X hr hlk hQ S K (by show (K = knownS g rev); first | exact (hf.elim (fun z => absurd z.1 (by rw [hb0]; decide)) (fun z => z.2)) | (unfold knownS; rw [if_pos (by assumption)])) [0, 1] [] (show ([0, 1] ++ ([] : List Nat)).isPerm (List.range 2) = true by decide +kernel) rfl (Nat.le_of_ble_eq_true rfl) (Nat.le_of_ble_eq_true rfl) dX3_follows_162
          · skip
            have c37_42 : ¬ (cI bb) = (nI 0) := c37_42
            have hb1 : bb = true := cI_n0.mp c37_42
            subst hb1
            refine lv_iconst (v := nI 0) hx hb dX3_follows_40 (by decide) ?_
            refine lv_toe (y := cI (rndC (g 0) K 0)) (rfl) ?_
            refine lv_istore_n (lv' := [(2, .int (cI (rndC (g 0) K 0))), (0, .ref h0), (1, .int rev)]) hx hb dX3_follows_41 rfl hl (Nat.le_of_ble_eq_true rfl) rfl (fun ls hl => ?_)
            refine lv_iconst (v := nI 0) hx hb dX3_follows_42 (by decide) ?_
            refine lv_istore_n (lv' := [(3, .int (nI 0)), (2, .int (cI (rndC (g 0) K 0))), (0, .ref h0), (1, .int rev)]) hx hb dX3_follows_43 rfl hl (Nat.le_of_ble_eq_true rfl) rfl (fun ls hl => ?_)
            have hL44 : ∀ (kf : Nat) (i : Nat), (8 - i) < kf → (i ≤ 8) → ∀ (H : Heap) (locs : List Loc), Sw G A s.heap [[(h0, .inr (3, [.ref q1, .ref q2, .int pasts, .ref q3, .ref q4, .ref q5, .int length, .int (rndK (g 0) K i), .int (rndK (g 0) K i &&& g 0), .ref q6, .int spot, .int isWrong, .int sign, .int digit, .int first, .int second]))], [(q1, .inl (gA G 0, 182, .inl g))]] H locs → ∀ (ls : Array Slot), lv_has ls 8 [(2, .int (cI (rndC (g 0) K i))), (3, .int (nI i)), (0, .ref h0), (1, .int rev)] → W p l e rm_X3_follows s m ag below meth c H locs (0) (0) Q (F0 m 44 ls []) := by
              intro kf
              induction kf with
              | zero =>
                intro i hm
                exact absurd hm (Nat.not_lt_zero _)
              | succ kf44 ih44 =>
                intro i hm hi H locs S ls hl
                refine lv_iload_n hx hb dX3_follows_44 rfl (lv_at hl 1 rfl) ?_
                refine lv_bipush (v := nI 8) hx hb dX3_follows_45 (by decide) ?_
                refine lv_icmp_ge (tgt := 159) hx hb dX3_follows_47 (by decide) (fun c47_43 => ?_) (fun c47_43 => ?_)
                · skip
                  have c47_43 : 8 ≤ i := (nI_leI (a := 8) (b := i) (by omega) (by omega)).mp c47_43
                  obtain rfl : i = 8 := by omega
                  refine lv_goto (tgt := 36) hx hb dX3_follows_159 (by decide) ?_
                  exact ih36 (rndK (g 0) K 8) (rndC (g 0) K 8) (nn - 1) (by have := follow_meas (R := g 0) (K := K); omega) (follow_back hf) _ _ S ls (lv_sub hl [0, 2, 3] rfl)
                · skip
                  have c47_43 : ¬ 8 ≤ i := fun z => c47_43 ((nI_leI (a := 8) (b := i) (by omega) (by omega)).mpr z)
                  refine lv_iload_n hx hb dX3_follows_50 rfl (lv_at hl 1 rfl) ?_
                  have hq44 := S.cut (Bc := []) (Br := [[(h0, .inr (3, [.ref q1, .ref q2, .int pasts, .ref q3, .ref q4, .ref q5, .int length, .int (rndK (g 0) K i), .int (rndK (g 0) K i &&& g 0), .ref q6, .int spot, .int isWrong, .int sign, .int digit, .int first, .int second]))], [(q1, .inl (gA G 0, 182, .inl g))]]) [] [0, 1] (show ([] ++ ([0, 1] : List Nat)).isPerm (List.range 2) = true by decide +kernel) rfl rfl
                  refine m_ri X S hq44 (m_runS (rest := []) (As := [.int (nI i)]) (n := 1) X S hq44 (mt_X3_around G l i (by omega)) (lw_S q1820 q1821 q90 q1822) (by decide +kernel) ⟨Nat.le_of_ble_eq_true rfl, Nat.le_of_ble_eq_true rfl⟩ rfl hl.1 rfl (Nat.le_of_ble_eq_true rfl) dX3_follows_51 ⟨(Nat.le_of_ble_eq_true rfl), (Nat.le_of_ble_eq_true rfl)⟩) (fun r45 u H locs hp45 S => ?_)
                  have hp45 : r45 = aroundS i 8 := hp45
                  have hhp45_0 := hp45
                  subst hhp45_0
                  have S : Sw G A s.heap [[(h0, .inr (3, [.ref q1, .ref q2, .int pasts, .ref q3, .ref q4, .ref q5, .int length, .int (rndK (g 0) K i), .int (rndK (g 0) K i &&& g 0), .ref q6, .int spot, .int isWrong, .int sign, .int digit, .int first, .int second]))], [(q1, .inl (gA G 0, 182, .inl g))]] _ _ := S
                  refine lv_istore (lv' := [(4, .int (aroundS i 8)), (2, .int (cI (rndC (g 0) K i))), (3, .int (nI i)), (0, .ref h0), (1, .int rev)]) hx hb dX3_follows_54 hl (Nat.le_of_ble_eq_true rfl) rfl (fun ls hl => ?_)
                  refine lv_iload hx hb dX3_follows_56 (lv_at hl 0 rfl) ?_
                  refine lv_aload_n hx hb dX3_follows_58 rfl (lv_at hl 3 rfl) ?_
                  refine m_get X S 0 rfl (T := TX3) (N := 16) in_X3 rfl 7 (by decide) q1719 (fun _ h9 => h9) rfl dX3_follows_59 ?_
                  refine lv_iconst (v := (-1 : Int32)) hx hb dX3_follows_62 (by decide) ?_
                  refine lv_ixor hx hb dX3_follows_63 ?_
                  refine lv_iand hx hb dX3_follows_64 ?_
                  refine lv_istore (lv' := [(5, .int ((aroundS i 8) &&& ((rndK (g 0) K i) ^^^ (-1 : Int32)))), (4, .int (aroundS i 8)), (2, .int (cI (rndC (g 0) K i))), (3, .int (nI i)), (0, .ref h0), (1, .int rev)]) hx hb dX3_follows_65 hl (Nat.le_of_ble_eq_true rfl) rfl (fun ls hl => ?_)
                  refine lv_iload hx hb dX3_follows_67 (lv_at hl 1 rfl) ?_
                  refine lv_aload_n hx hb dX3_follows_69 rfl (lv_at hl 4 rfl) ?_
                  refine m_get X S 0 rfl (T := TX3) (N := 16) in_X3 rfl 0 (by decide) q1712 (fun _ h9 => h9) rfl dX3_follows_70 ?_
                  refine lv_iconst (v := nI 0) hx hb dX3_follows_73 (by decide) ?_
                  refine m_iald X S 1 rfl (x := nI 0) (j := 0) rfl (vp_in_nI (by decide) (by decide)) (v := g 0) rfl dX3_follows_74 ?_
                  refine lv_iand hx hb dX3_follows_75 ?_
                  have hq46 := S.cut (Bc := []) (Br := [[(h0, .inr (3, [.ref q1, .ref q2, .int pasts, .ref q3, .ref q4, .ref q5, .int length, .int (rndK (g 0) K i), .int (rndK (g 0) K i &&& g 0), .ref q6, .int spot, .int isWrong, .int sign, .int digit, .int first, .int second]))], [(q1, .inl (gA G 0, 182, .inl g))]]) [] [0, 1] (show ([] ++ ([0, 1] : List Nat)).isPerm (List.range 2) = true by decide +kernel) rfl rfl
                  refine m_ri X S hq46 (m_runS (rest := []) (As := [.int ((aroundS i 8) &&& (g 0))]) (n := 1) X S hq46 (mt_X3_many G l ((aroundS i 8) &&& (g 0)) ) (lw_S q1801 q1802 q90 q1803) (by decide +kernel) ⟨Nat.le_of_ble_eq_true rfl, Nat.le_of_ble_eq_true rfl⟩ rfl hl.1 rfl (Nat.le_of_ble_eq_true rfl) dX3_follows_76 ⟨(Nat.le_of_ble_eq_true rfl), (Nat.le_of_ble_eq_true rfl)⟩) (fun r47 u H locs hp47 S => ?_)
                  have hp47 : r47 = nI (card ((aroundS i 8) &&& (g 0))) := hp47
                  have hhp47_0 := hp47
                  subst hhp47_0
                  have S : Sw G A s.heap [[(h0, .inr (3, [.ref q1, .ref q2, .int pasts, .ref q3, .ref q4, .ref q5, .int length, .int (rndK (g 0) K i), .int (rndK (g 0) K i &&& g 0), .ref q6, .int spot, .int isWrong, .int sign, .int digit, .int first, .int second]))], [(q1, .inl (gA G 0, 182, .inl g))]] _ _ := S
                  refine lv_istore (lv' := [(6, .int (nI (card ((aroundS i 8) &&& (g 0))))), (5, .int ((aroundS i 8) &&& ((rndK (g 0) K i) ^^^ (-1 : Int32)))), (4, .int (aroundS i 8)), (2, .int (cI (rndC (g 0) K i))), (3, .int (nI i)), (0, .ref h0), (1, .int rev)]) hx hb dX3_follows_79 hl (Nat.le_of_ble_eq_true rfl) rfl (fun ls hl => ?_)
                  refine lv_iload hx hb dX3_follows_81 (lv_at hl 2 rfl) ?_
                  refine lv_aload_n hx hb dX3_follows_83 rfl (lv_at hl 5 rfl) ?_
                  refine m_get X S 0 rfl (T := TX3) (N := 16) in_X3 rfl 8 (by decide) q1720 (fun _ h9 => h9) rfl dX3_follows_84 ?_
                  refine lv_iand hx hb dX3_follows_87 ?_
                  have hq48 := S.cut (Bc := []) (Br := [[(h0, .inr (3, [.ref q1, .ref q2, .int pasts, .ref q3, .ref q4, .ref q5, .int length, .int (rndK (g 0) K i), .int (rndK (g 0) K i &&& g 0), .ref q6, .int spot, .int isWrong, .int sign, .int digit, .int first, .int second]))], [(q1, .inl (gA G 0, 182, .inl g))]]) [] [0, 1] (show ([] ++ ([0, 1] : List Nat)).isPerm (List.range 2) = true by decide +kernel) rfl rfl
                  refine m_ri X S hq48 (m_runS (rest := []) (As := [.int ((aroundS i 8) &&& (rndK (g 0) K i &&& g 0))]) (n := 1) X S hq48 (mt_X3_many G l ((aroundS i 8) &&& (rndK (g 0) K i &&& g 0)) ) (lw_S q1801 q1802 q90 q1803) (by decide +kernel) ⟨Nat.le_of_ble_eq_true rfl, Nat.le_of_ble_eq_true rfl⟩ rfl hl.1 rfl (Nat.le_of_ble_eq_true rfl) dX3_follows_88 ⟨(Nat.le_of_ble_eq_true rfl), (Nat.le_of_ble_eq_true rfl)⟩) (fun r49 u H locs hp49 S => ?_)
                  have hp49 : r49 = nI (card ((aroundS i 8) &&& (rndK (g 0) K i &&& g 0))) := hp49
                  have hhp49_0 := hp49
                  subst hhp49_0
                  have S : Sw G A s.heap [[(h0, .inr (3, [.ref q1, .ref q2, .int pasts, .ref q3, .ref q4, .ref q5, .int length, .int (rndK (g 0) K i), .int (rndK (g 0) K i &&& g 0), .ref q6, .int spot, .int isWrong, .int sign, .int digit, .int first, .int second]))], [(q1, .inl (gA G 0, 182, .inl g))]] _ _ := S
                  refine lv_istore (lv' := [(7, .int (nI (card ((aroundS i 8) &&& (rndK (g 0) K i &&& g 0))))), (6, .int (nI (card ((aroundS i 8) &&& (g 0))))), (5, .int ((aroundS i 8) &&& ((rndK (g 0) K i) ^^^ (-1 : Int32)))), (4, .int (aroundS i 8)), (2, .int (cI (rndC (g 0) K i))), (3, .int (nI i)), (0, .ref h0), (1, .int rev)]) hx hb dX3_follows_91 hl (Nat.le_of_ble_eq_true rfl) rfl (fun ls hl => ?_)
                  have hc1 := card_le (aroundS i 8 &&& (rndK (g 0) K i &&& g 0))
                  have hc2 := card_le (aroundS i 8 &&& g 0)
                  have hc3 := card_le (aroundS i 8 &&& (rndK (g 0) K i ^^^ (-1 : Int32)))
                  refine lv_iload hx hb dX3_follows_93 (lv_at hl 2 rfl) ?_
                  refine lv_if_eq (tgt := 153) hx hb dX3_follows_95 (by decide) (fun c95_50 => ?_) (fun c95_50 => ?_)
                  · skip
                    have c95_50 : ((aroundS i 8) &&& ((rndK (g 0) K i) ^^^ (-1 : Int32))) = (nI 0) := c95_50
                    have hcan : decP (g 0) (rndK (g 0) K i) i = false := decP_f (by first | exact fun z => z.1 (by assumption) | exact fun z => z.2.elim (by assumption) (by assumption))
                    have hE51 : rndK (g 0) K i = rndK (g 0) K (i + 1) := rnd_no hcan
                    have S := S.cong (congrArg (fun (zz : Int32) => ([[(h0, .inr (3, [.ref q1, .ref q2, .int pasts, .ref q3, .ref q4, .ref q5, .int length, .int zz, .int (rndK (g 0) K i &&& g 0), .ref q6, .int spot, .int isWrong, .int sign, .int digit, .int first, .int second]))], [(q1, .inl (gA G 0, 182, .inl g))]] : List va_W)) hE51)
                    have S : Sw G A s.heap [[(h0, .inr (3, [.ref q1, .ref q2, .int pasts, .ref q3, .ref q4, .ref q5, .int length, .int (rndK (g 0) K (i + 1)), .int (rndK (g 0) K i &&& g 0), .ref q6, .int spot, .int isWrong, .int sign, .int digit, .int first, .int second]))], [(q1, .inl (gA G 0, 182, .inl g))]] _ _ := S
                    have hE52 : rndK (g 0) K i &&& g 0 = rndK (g 0) K (i + 1) &&& g 0 := rnd_noT hcan
                    have S := S.cong (congrArg (fun (zz : Int32) => ([[(h0, .inr (3, [.ref q1, .ref q2, .int pasts, .ref q3, .ref q4, .ref q5, .int length, .int (rndK (g 0) K (i + 1)), .int zz, .ref q6, .int spot, .int isWrong, .int sign, .int digit, .int first, .int second]))], [(q1, .inl (gA G 0, 182, .inl g))]] : List va_W)) hE52)
                    have S : Sw G A s.heap [[(h0, .inr (3, [.ref q1, .ref q2, .int pasts, .ref q3, .ref q4, .ref q5, .int length, .int (rndK (g 0) K (i + 1)), .int (rndK (g 0) K (i + 1) &&& g 0), .ref q6, .int spot, .int isWrong, .int sign, .int digit, .int first, .int second]))], [(q1, .inl (gA G 0, 182, .inl g))]] _ _ := S
                    have hE53 : cI (rndC (g 0) K i) = cI (rndC (g 0) K (i + 1)) := rnd_noC hcan
                    have hl := lv_cong hl (congrArg (fun (zz : Int32) => ([(7, .int (nI (card ((aroundS i 8) &&& (rndK (g 0) K i &&& g 0))))), (6, .int (nI (card ((aroundS i 8) &&& (g 0))))), (5, .int ((aroundS i 8) &&& ((rndK (g 0) K i) ^^^ (-1 : Int32)))), (4, .int (aroundS i 8)), (2, .int zz), (3, .int (nI i)), (0, .ref h0), (1, .int rev)] : List (Nat × Value))) hE53)
                    have hl : lv_has ls 8 [(7, .int (nI (card ((aroundS i 8) &&& (rndK (g 0) K i &&& g 0))))), (6, .int (nI (card ((aroundS i 8) &&& (g 0))))), (5, .int ((aroundS i 8) &&& ((rndK (g 0) K i) ^^^ (-1 : Int32)))), (4, .int (aroundS i 8)), (2, .int (cI (rndC (g 0) K (i + 1)))), (3, .int (nI i)), (0, .ref h0), (1, .int rev)] := hl
                    refine lv_iinc (v := nI (i + 1)) (lv' := [(3, .int (nI (i + 1))), (7, .int (nI (card ((aroundS i 8) &&& (rndK (g 0) K i &&& g 0))))), (6, .int (nI (card ((aroundS i 8) &&& (g 0))))), (5, .int ((aroundS i 8) &&& ((rndK (g 0) K i) ^^^ (-1 : Int32)))), (4, .int (aroundS i 8)), (2, .int (cI (rndC (g 0) K (i + 1)))), (0, .ref h0), (1, .int rev)]) hx hb dX3_follows_153 hl (k := 5) rfl (nI_add _ _) (Nat.le_of_ble_eq_true rfl) rfl (fun ls hl => ?_)
                    refine lv_goto (tgt := 44) hx hb dX3_follows_156 (by decide) ?_
                    exact ih44 (i + 1) (by omega) (by omega) _ _ S ls (lv_sub hl [5, 0, 6, 7] rfl)
                  · skip
                    have c95_50 : ¬ ((aroundS i 8) &&& ((rndK (g 0) K i) ^^^ (-1 : Int32))) = (nI 0) := c95_50
                    refine lv_iload hx hb dX3_follows_98 (lv_at hl 0 rfl) ?_
                    refine lv_iload hx hb dX3_follows_100 (lv_at hl 1 rfl) ?_
                    refine lv_icmp_eq (tgt := 118) hx hb dX3_follows_102 (by decide) (fun c102_54 => ?_) (fun c102_54 => ?_)
                    · skip
                      have c102_54 : (card ((aroundS i 8) &&& (rndK (g 0) K i &&& g 0))) = (card ((aroundS i 8) &&& (g 0))) := (nI_eq (a := (card ((aroundS i 8) &&& (rndK (g 0) K i &&& g 0)))) (b := (card ((aroundS i 8) &&& (g 0)))) (by omega) (by omega)).mp c102_54
                      refine lv_aload_n hx hb dX3_follows_118 rfl (lv_at hl 6 rfl) ?_
                      refine lv_dup hx hb dX3_follows_119 rfl ?_
                      refine m_get X S 0 rfl (T := TX3) (N := 16) in_X3 rfl 8 (by decide) q1720 (fun _ h9 => h9) rfl dX3_follows_120 ?_
                      refine lv_iload hx hb dX3_follows_123 (lv_at hl 0 rfl) ?_
                      refine lv_iload hx hb dX3_follows_125 (lv_at hl 1 rfl) ?_
                      refine lv_icmp_ne (tgt := 134) hx hb dX3_follows_127 (by decide) (fun c127_55 => ?_) (fun c127_55 => ?_)
                      · skip
                        have c127_55 : ¬ (card ((aroundS i 8) &&& (rndK (g 0) K i &&& g 0))) = (card ((aroundS i 8) &&& (g 0))) := fun z => c127_55 ((nI_eq (a := (card ((aroundS i 8) &&& (rndK (g 0) K i &&& g 0)))) (b := (card ((aroundS i 8) &&& (g 0)))) (by omega) (by omega)).mpr z)
                        refine lv_iload hx hb dX3_follows_134 (lv_at hl 2 rfl) ?_
                        refine lv_ior hx hb dX3_follows_136 ?_
                        refine m_put X S 0 rfl (T := TX3) (N := 16) in_X3 tyX3 tyX3_ok nmX3 rfl 8 (by decide) q1720 (fun _ h9 => h9) rfl rfl rfl (Nat.le_of_ble_eq_true rfl) dX3_follows_137 (fun H locs S => ?_)
                        have S : Sw G A s.heap [[(h0, .inr (3, [.ref q1, .ref q2, .int pasts, .ref q3, .ref q4, .ref q5, .int length, .int (rndK (g 0) K i), .int ((rndK (g 0) K i &&& g 0) ||| ((aroundS i 8) &&& ((rndK (g 0) K i) ^^^ (-1 : Int32)))), .ref q6, .int spot, .int isWrong, .int sign, .int digit, .int first, .int second]))], [(q1, .inl (gA G 0, 182, .inl g))]] _ _ := S
                        refine lv_aload_n hx hb dX3_follows_140 rfl (lv_at hl 6 rfl) ?_
                        refine lv_dup hx hb dX3_follows_141 rfl ?_
                        refine m_get X S 0 rfl (T := TX3) (N := 16) in_X3 rfl 7 (by decide) q1719 (fun _ h9 => h9) rfl dX3_follows_142 ?_
                        refine lv_iload hx hb dX3_follows_145 (lv_at hl 2 rfl) ?_
                        refine lv_ior hx hb dX3_follows_147 ?_
                        refine m_put X S 0 rfl (T := TX3) (N := 16) in_X3 tyX3 tyX3_ok nmX3 rfl 7 (by decide) q1719 (fun _ h9 => h9) rfl rfl rfl (Nat.le_of_ble_eq_true rfl) dX3_follows_148 (fun H locs S => ?_)
                        have S : Sw G A s.heap [[(h0, .inr (3, [.ref q1, .ref q2, .int pasts, .ref q3, .ref q4, .ref q5, .int length, .int ((rndK (g 0) K i) ||| ((aroundS i 8) &&& ((rndK (g 0) K i) ^^^ (-1 : Int32)))), .int ((rndK (g 0) K i &&& g 0) ||| ((aroundS i 8) &&& ((rndK (g 0) K i) ^^^ (-1 : Int32)))), .ref q6, .int spot, .int isWrong, .int sign, .int digit, .int first, .int second]))], [(q1, .inl (gA G 0, 182, .inl g))]] _ _ := S
                        refine lv_iconst (v := nI 1) hx hb dX3_follows_151 (by decide) ?_
                        refine lv_istore_n (lv' := [(2, .int (nI 1)), (7, .int (nI (card ((aroundS i 8) &&& (rndK (g 0) K i &&& g 0))))), (6, .int (nI (card ((aroundS i 8) &&& (g 0))))), (5, .int ((aroundS i 8) &&& ((rndK (g 0) K i) ^^^ (-1 : Int32)))), (4, .int (aroundS i 8)), (3, .int (nI i)), (0, .ref h0), (1, .int rev)]) hx hb dX3_follows_152 rfl hl (Nat.le_of_ble_eq_true rfl) rfl (fun ls hl => ?_)
                        have hcan : decP (g 0) (rndK (g 0) K i) i = true := by first | exact decP_t ⟨by assumption, Or.inl (by assumption)⟩ | exact decP_t ⟨by assumption, Or.inr (by assumption)⟩
                        have hE56 : (rndK (g 0) K i) ||| ((aroundS i 8) &&& ((rndK (g 0) K i) ^^^ (-1 : Int32))) = rndK (g 0) K (i + 1) := rnd_yes hcan
                        have S := S.cong (congrArg (fun (zz : Int32) => ([[(h0, .inr (3, [.ref q1, .ref q2, .int pasts, .ref q3, .ref q4, .ref q5, .int length, .int zz, .int ((rndK (g 0) K i &&& g 0) ||| ((aroundS i 8) &&& ((rndK (g 0) K i) ^^^ (-1 : Int32)))), .ref q6, .int spot, .int isWrong, .int sign, .int digit, .int first, .int second]))], [(q1, .inl (gA G 0, 182, .inl g))]] : List va_W)) hE56)
                        have S : Sw G A s.heap [[(h0, .inr (3, [.ref q1, .ref q2, .int pasts, .ref q3, .ref q4, .ref q5, .int length, .int (rndK (g 0) K (i + 1)), .int ((rndK (g 0) K i &&& g 0) ||| ((aroundS i 8) &&& ((rndK (g 0) K i) ^^^ (-1 : Int32)))), .ref q6, .int spot, .int isWrong, .int sign, .int digit, .int first, .int second]))], [(q1, .inl (gA G 0, 182, .inl g))]] _ _ := S
                        have hE57 : (rndK (g 0) K i &&& g 0) ||| ((aroundS i 8) &&& ((rndK (g 0) K i) ^^^ (-1 : Int32))) = rndK (g 0) K (i + 1) &&& g 0 := by first | exact rnd_T0 hcan (by assumption) | exact rnd_T1 hcan (by assumption)
                        have S := S.cong (congrArg (fun (zz : Int32) => ([[(h0, .inr (3, [.ref q1, .ref q2, .int pasts, .ref q3, .ref q4, .ref q5, .int length, .int (rndK (g 0) K (i + 1)), .int zz, .ref q6, .int spot, .int isWrong, .int sign, .int digit, .int first, .int second]))], [(q1, .inl (gA G 0, 182, .inl g))]] : List va_W)) hE57)
                        have S : Sw G A s.heap [[(h0, .inr (3, [.ref q1, .ref q2, .int pasts, .ref q3, .ref q4, .ref q5, .int length, .int (rndK (g 0) K (i + 1)), .int (rndK (g 0) K (i + 1) &&& g 0), .ref q6, .int spot, .int isWrong, .int sign, .int digit, .int first, .int second]))], [(q1, .inl (gA G 0, 182, .inl g))]] _ _ := S
                        have hE58 : nI 1 = cI (rndC (g 0) K (i + 1)) := rnd_yesC hcan
                        have hl := lv_cong hl (congrArg (fun (zz : Int32) => ([(2, .int zz), (7, .int (nI (card ((aroundS i 8) &&& (rndK (g 0) K i &&& g 0))))), (6, .int (nI (card ((aroundS i 8) &&& (g 0))))), (5, .int ((aroundS i 8) &&& ((rndK (g 0) K i) ^^^ (-1 : Int32)))), (4, .int (aroundS i 8)), (3, .int (nI i)), (0, .ref h0), (1, .int rev)] : List (Nat × Value))) hE58)
                        have hl : lv_has ls 8 [(2, .int (cI (rndC (g 0) K (i + 1)))), (7, .int (nI (card ((aroundS i 8) &&& (rndK (g 0) K i &&& g 0))))), (6, .int (nI (card ((aroundS i 8) &&& (g 0))))), (5, .int ((aroundS i 8) &&& ((rndK (g 0) K i) ^^^ (-1 : Int32)))), (4, .int (aroundS i 8)), (3, .int (nI i)), (0, .ref h0), (1, .int rev)] := hl
                        refine lv_iinc (v := nI (i + 1)) (lv' := [(3, .int (nI (i + 1))), (2, .int (cI (rndC (g 0) K (i + 1)))), (7, .int (nI (card ((aroundS i 8) &&& (rndK (g 0) K i &&& g 0))))), (6, .int (nI (card ((aroundS i 8) &&& (g 0))))), (5, .int ((aroundS i 8) &&& ((rndK (g 0) K i) ^^^ (-1 : Int32)))), (4, .int (aroundS i 8)), (0, .ref h0), (1, .int rev)]) hx hb dX3_follows_153 hl (k := 5) rfl (nI_add _ _) (Nat.le_of_ble_eq_true rfl) rfl (fun ls hl => ?_)
                        refine lv_goto (tgt := 44) hx hb dX3_follows_156 (by decide) ?_
                        exact ih44 (i + 1) (by omega) (by omega) _ _ S ls (lv_sub hl [1, 0, 6, 7] rfl)
                      · skip
                        have c127_55 : (card ((aroundS i 8) &&& (rndK (g 0) K i &&& g 0))) = (card ((aroundS i 8) &&& (g 0))) := (nI_eq (a := (card ((aroundS i 8) &&& (rndK (g 0) K i &&& g 0)))) (b := (card ((aroundS i 8) &&& (g 0)))) (by omega) (by omega)).mp c127_55
                        refine lv_iconst (v := nI 0) hx hb dX3_follows_130 (by decide) ?_
                        refine lv_goto (tgt := 136) hx hb dX3_follows_131 (by decide) ?_
                        refine lv_ior hx hb dX3_follows_136 ?_
                        refine m_put X S 0 rfl (T := TX3) (N := 16) in_X3 tyX3 tyX3_ok nmX3 rfl 8 (by decide) q1720 (fun _ h9 => h9) rfl rfl rfl (Nat.le_of_ble_eq_true rfl) dX3_follows_137 (fun H locs S => ?_)
                        have S : Sw G A s.heap [[(h0, .inr (3, [.ref q1, .ref q2, .int pasts, .ref q3, .ref q4, .ref q5, .int length, .int (rndK (g 0) K i), .int ((rndK (g 0) K i &&& g 0) ||| (nI 0)), .ref q6, .int spot, .int isWrong, .int sign, .int digit, .int first, .int second]))], [(q1, .inl (gA G 0, 182, .inl g))]] _ _ := S
                        refine lv_aload_n hx hb dX3_follows_140 rfl (lv_at hl 6 rfl) ?_
                        refine lv_dup hx hb dX3_follows_141 rfl ?_
                        refine m_get X S 0 rfl (T := TX3) (N := 16) in_X3 rfl 7 (by decide) q1719 (fun _ h9 => h9) rfl dX3_follows_142 ?_
                        refine lv_iload hx hb dX3_follows_145 (lv_at hl 2 rfl) ?_
                        refine lv_ior hx hb dX3_follows_147 ?_
                        refine m_put X S 0 rfl (T := TX3) (N := 16) in_X3 tyX3 tyX3_ok nmX3 rfl 7 (by decide) q1719 (fun _ h9 => h9) rfl rfl rfl (Nat.le_of_ble_eq_true rfl) dX3_follows_148 (fun H locs S => ?_)
                        have S : Sw G A s.heap [[(h0, .inr (3, [.ref q1, .ref q2, .int pasts, .ref q3, .ref q4, .ref q5, .int length, .int ((rndK (g 0) K i) ||| ((aroundS i 8) &&& ((rndK (g 0) K i) ^^^ (-1 : Int32)))), .int ((rndK (g 0) K i &&& g 0) ||| (nI 0)), .ref q6, .int spot, .int isWrong, .int sign, .int digit, .int first, .int second]))], [(q1, .inl (gA G 0, 182, .inl g))]] _ _ := S
                        refine lv_iconst (v := nI 1) hx hb dX3_follows_151 (by decide) ?_
                        refine lv_istore_n (lv' := [(2, .int (nI 1)), (7, .int (nI (card ((aroundS i 8) &&& (rndK (g 0) K i &&& g 0))))), (6, .int (nI (card ((aroundS i 8) &&& (g 0))))), (5, .int ((aroundS i 8) &&& ((rndK (g 0) K i) ^^^ (-1 : Int32)))), (4, .int (aroundS i 8)), (3, .int (nI i)), (0, .ref h0), (1, .int rev)]) hx hb dX3_follows_152 rfl hl (Nat.le_of_ble_eq_true rfl) rfl (fun ls hl => ?_)
                        have hcan : decP (g 0) (rndK (g 0) K i) i = true := by first | exact decP_t ⟨by assumption, Or.inl (by assumption)⟩ | exact decP_t ⟨by assumption, Or.inr (by assumption)⟩
                        have hE59 : (rndK (g 0) K i) ||| ((aroundS i 8) &&& ((rndK (g 0) K i) ^^^ (-1 : Int32))) = rndK (g 0) K (i + 1) := rnd_yes hcan
                        have S := S.cong (congrArg (fun (zz : Int32) => ([[(h0, .inr (3, [.ref q1, .ref q2, .int pasts, .ref q3, .ref q4, .ref q5, .int length, .int zz, .int ((rndK (g 0) K i &&& g 0) ||| (nI 0)), .ref q6, .int spot, .int isWrong, .int sign, .int digit, .int first, .int second]))], [(q1, .inl (gA G 0, 182, .inl g))]] : List va_W)) hE59)
                        have S : Sw G A s.heap [[(h0, .inr (3, [.ref q1, .ref q2, .int pasts, .ref q3, .ref q4, .ref q5, .int length, .int (rndK (g 0) K (i + 1)), .int ((rndK (g 0) K i &&& g 0) ||| (nI 0)), .ref q6, .int spot, .int isWrong, .int sign, .int digit, .int first, .int second]))], [(q1, .inl (gA G 0, 182, .inl g))]] _ _ := S
                        have hE60 : (rndK (g 0) K i &&& g 0) ||| (nI 0) = rndK (g 0) K (i + 1) &&& g 0 := by first | exact rnd_T0 hcan (by assumption) | exact rnd_T1 hcan (by assumption)
                        have S := S.cong (congrArg (fun (zz : Int32) => ([[(h0, .inr (3, [.ref q1, .ref q2, .int pasts, .ref q3, .ref q4, .ref q5, .int length, .int (rndK (g 0) K (i + 1)), .int zz, .ref q6, .int spot, .int isWrong, .int sign, .int digit, .int first, .int second]))], [(q1, .inl (gA G 0, 182, .inl g))]] : List va_W)) hE60)
                        have S : Sw G A s.heap [[(h0, .inr (3, [.ref q1, .ref q2, .int pasts, .ref q3, .ref q4, .ref q5, .int length, .int (rndK (g 0) K (i + 1)), .int (rndK (g 0) K (i + 1) &&& g 0), .ref q6, .int spot, .int isWrong, .int sign, .int digit, .int first, .int second]))], [(q1, .inl (gA G 0, 182, .inl g))]] _ _ := S
                        have hE61 : nI 1 = cI (rndC (g 0) K (i + 1)) := rnd_yesC hcan
                        have hl := lv_cong hl (congrArg (fun (zz : Int32) => ([(2, .int zz), (7, .int (nI (card ((aroundS i 8) &&& (rndK (g 0) K i &&& g 0))))), (6, .int (nI (card ((aroundS i 8) &&& (g 0))))), (5, .int ((aroundS i 8) &&& ((rndK (g 0) K i) ^^^ (-1 : Int32)))), (4, .int (aroundS i 8)), (3, .int (nI i)), (0, .ref h0), (1, .int rev)] : List (Nat × Value))) hE61)
                        have hl : lv_has ls 8 [(2, .int (cI (rndC (g 0) K (i + 1)))), (7, .int (nI (card ((aroundS i 8) &&& (rndK (g 0) K i &&& g 0))))), (6, .int (nI (card ((aroundS i 8) &&& (g 0))))), (5, .int ((aroundS i 8) &&& ((rndK (g 0) K i) ^^^ (-1 : Int32)))), (4, .int (aroundS i 8)), (3, .int (nI i)), (0, .ref h0), (1, .int rev)] := hl
                        refine lv_iinc (v := nI (i + 1)) (lv' := [(3, .int (nI (i + 1))), (2, .int (cI (rndC (g 0) K (i + 1)))), (7, .int (nI (card ((aroundS i 8) &&& (rndK (g 0) K i &&& g 0))))), (6, .int (nI (card ((aroundS i 8) &&& (g 0))))), (5, .int ((aroundS i 8) &&& ((rndK (g 0) K i) ^^^ (-1 : Int32)))), (4, .int (aroundS i 8)), (0, .ref h0), (1, .int rev)]) hx hb dX3_follows_153 hl (k := 5) rfl (nI_add _ _) (Nat.le_of_ble_eq_true rfl) rfl (fun ls hl => ?_)
                        refine lv_goto (tgt := 44) hx hb dX3_follows_156 (by decide) ?_
                        exact ih44 (i + 1) (by omega) (by omega) _ _ S ls (lv_sub hl [1, 0, 6, 7] rfl)
                    · skip
                      have c102_54 : ¬ (card ((aroundS i 8) &&& (rndK (g 0) K i &&& g 0))) = (card ((aroundS i 8) &&& (g 0))) := fun z => c102_54 ((nI_eq (a := (card ((aroundS i 8) &&& (rndK (g 0) K i &&& g 0)))) (b := (card ((aroundS i 8) &&& (g 0)))) (by omega) (by omega)).mpr z)
                      refine lv_iload hx hb dX3_follows_105 (lv_at hl 0 rfl) ?_
                      refine lv_iload hx hb dX3_follows_107 (lv_at hl 2 rfl) ?_
                      have hq62 := S.cut (Bc := []) (Br := [[(h0, .inr (3, [.ref q1, .ref q2, .int pasts, .ref q3, .ref q4, .ref q5, .int length, .int (rndK (g 0) K i), .int (rndK (g 0) K i &&& g 0), .ref q6, .int spot, .int isWrong, .int sign, .int digit, .int first, .int second]))], [(q1, .inl (gA G 0, 182, .inl g))]]) [] [0, 1] (show ([] ++ ([0, 1] : List Nat)).isPerm (List.range 2) = true by decide +kernel) rfl rfl
                      refine m_ri X S hq62 (m_runS (rest := [.int (nI (card ((aroundS i 8) &&& (rndK (g 0) K i &&& g 0))))]) (As := [.int ((aroundS i 8) &&& ((rndK (g 0) K i) ^^^ (-1 : Int32)))]) (n := 1) X S hq62 (mt_X3_many G l ((aroundS i 8) &&& ((rndK (g 0) K i) ^^^ (-1 : Int32))) ) (lw_S q1801 q1802 q90 q1803) (by decide +kernel) ⟨Nat.le_of_ble_eq_true rfl, Nat.le_of_ble_eq_true rfl⟩ rfl hl.1 rfl (Nat.le_of_ble_eq_true rfl) dX3_follows_109 ⟨(Nat.le_of_ble_eq_true rfl), (Nat.le_of_ble_eq_true rfl)⟩) (fun r63 u H locs hp63 S => ?_)
                      have hp63 : r63 = nI (card ((aroundS i 8) &&& ((rndK (g 0) K i) ^^^ (-1 : Int32)))) := hp63
                      have hhp63_0 := hp63
                      subst hhp63_0
                      have S : Sw G A s.heap [[(h0, .inr (3, [.ref q1, .ref q2, .int pasts, .ref q3, .ref q4, .ref q5, .int length, .int (rndK (g 0) K i), .int (rndK (g 0) K i &&& g 0), .ref q6, .int spot, .int isWrong, .int sign, .int digit, .int first, .int second]))], [(q1, .inl (gA G 0, 182, .inl g))]] _ _ := S
                      refine lv_iadd hx hb dX3_follows_112 ?_
                      refine lv_toe (y := nI ((card ((aroundS i 8) &&& (rndK (g 0) K i &&& g 0))) + (card ((aroundS i 8) &&& ((rndK (g 0) K i) ^^^ (-1 : Int32)))))) (nI_add _ _) ?_
                      refine lv_iload hx hb dX3_follows_113 (lv_at hl 1 rfl) ?_
                      refine lv_icmp_ne (tgt := 153) hx hb dX3_follows_115 (by decide) (fun c115_64 => ?_) (fun c115_64 => ?_)
                      · skip
                        have c115_64 : ¬ ((card ((aroundS i 8) &&& (rndK (g 0) K i &&& g 0))) + (card ((aroundS i 8) &&& ((rndK (g 0) K i) ^^^ (-1 : Int32))))) = (card ((aroundS i 8) &&& (g 0))) := fun z => c115_64 ((nI_eq (a := ((card ((aroundS i 8) &&& (rndK (g 0) K i &&& g 0))) + (card ((aroundS i 8) &&& ((rndK (g 0) K i) ^^^ (-1 : Int32)))))) (b := (card ((aroundS i 8) &&& (g 0)))) (by omega) (by omega)).mpr z)
                        have hcan : decP (g 0) (rndK (g 0) K i) i = false := decP_f (by first | exact fun z => z.1 (by assumption) | exact fun z => z.2.elim (by assumption) (by assumption))
                        have hE65 : rndK (g 0) K i = rndK (g 0) K (i + 1) := rnd_no hcan
                        have S := S.cong (congrArg (fun (zz : Int32) => ([[(h0, .inr (3, [.ref q1, .ref q2, .int pasts, .ref q3, .ref q4, .ref q5, .int length, .int zz, .int (rndK (g 0) K i &&& g 0), .ref q6, .int spot, .int isWrong, .int sign, .int digit, .int first, .int second]))], [(q1, .inl (gA G 0, 182, .inl g))]] : List va_W)) hE65)
                        have S : Sw G A s.heap [[(h0, .inr (3, [.ref q1, .ref q2, .int pasts, .ref q3, .ref q4, .ref q5, .int length, .int (rndK (g 0) K (i + 1)), .int (rndK (g 0) K i &&& g 0), .ref q6, .int spot, .int isWrong, .int sign, .int digit, .int first, .int second]))], [(q1, .inl (gA G 0, 182, .inl g))]] _ _ := S
                        have hE66 : rndK (g 0) K i &&& g 0 = rndK (g 0) K (i + 1) &&& g 0 := rnd_noT hcan
                        have S := S.cong (congrArg (fun (zz : Int32) => ([[(h0, .inr (3, [.ref q1, .ref q2, .int pasts, .ref q3, .ref q4, .ref q5, .int length, .int (rndK (g 0) K (i + 1)), .int zz, .ref q6, .int spot, .int isWrong, .int sign, .int digit, .int first, .int second]))], [(q1, .inl (gA G 0, 182, .inl g))]] : List va_W)) hE66)
                        have S : Sw G A s.heap [[(h0, .inr (3, [.ref q1, .ref q2, .int pasts, .ref q3, .ref q4, .ref q5, .int length, .int (rndK (g 0) K (i + 1)), .int (rndK (g 0) K (i + 1) &&& g 0), .ref q6, .int spot, .int isWrong, .int sign, .int digit, .int first, .int second]))], [(q1, .inl (gA G 0, 182, .inl g))]] _ _ := S
                        have hE67 : cI (rndC (g 0) K i) = cI (rndC (g 0) K (i + 1)) := rnd_noC hcan
                        have hl := lv_cong hl (congrArg (fun (zz : Int32) => ([(7, .int (nI (card ((aroundS i 8) &&& (rndK (g 0) K i &&& g 0))))), (6, .int (nI (card ((aroundS i 8) &&& (g 0))))), (5, .int ((aroundS i 8) &&& ((rndK (g 0) K i) ^^^ (-1 : Int32)))), (4, .int (aroundS i 8)), (2, .int zz), (3, .int (nI i)), (0, .ref h0), (1, .int rev)] : List (Nat × Value))) hE67)
                        have hl : lv_has ls 8 [(7, .int (nI (card ((aroundS i 8) &&& (rndK (g 0) K i &&& g 0))))), (6, .int (nI (card ((aroundS i 8) &&& (g 0))))), (5, .int ((aroundS i 8) &&& ((rndK (g 0) K i) ^^^ (-1 : Int32)))), (4, .int (aroundS i 8)), (2, .int (cI (rndC (g 0) K (i + 1)))), (3, .int (nI i)), (0, .ref h0), (1, .int rev)] := hl
                        refine lv_iinc (v := nI (i + 1)) (lv' := [(3, .int (nI (i + 1))), (7, .int (nI (card ((aroundS i 8) &&& (rndK (g 0) K i &&& g 0))))), (6, .int (nI (card ((aroundS i 8) &&& (g 0))))), (5, .int ((aroundS i 8) &&& ((rndK (g 0) K i) ^^^ (-1 : Int32)))), (4, .int (aroundS i 8)), (2, .int (cI (rndC (g 0) K (i + 1)))), (0, .ref h0), (1, .int rev)]) hx hb dX3_follows_153 hl (k := 5) rfl (nI_add _ _) (Nat.le_of_ble_eq_true rfl) rfl (fun ls hl => ?_)
                        refine lv_goto (tgt := 44) hx hb dX3_follows_156 (by decide) ?_
                        exact ih44 (i + 1) (by omega) (by omega) _ _ S ls (lv_sub hl [5, 0, 6, 7] rfl)
                      · skip
                        have c115_64 : ((card ((aroundS i 8) &&& (rndK (g 0) K i &&& g 0))) + (card ((aroundS i 8) &&& ((rndK (g 0) K i) ^^^ (-1 : Int32))))) = (card ((aroundS i 8) &&& (g 0))) := (nI_eq (a := ((card ((aroundS i 8) &&& (rndK (g 0) K i &&& g 0))) + (card ((aroundS i 8) &&& ((rndK (g 0) K i) ^^^ (-1 : Int32)))))) (b := (card ((aroundS i 8) &&& (g 0)))) (by omega) (by omega)).mp c115_64
                        refine lv_aload_n hx hb dX3_follows_118 rfl (lv_at hl 6 rfl) ?_
                        refine lv_dup hx hb dX3_follows_119 rfl ?_
                        refine m_get X S 0 rfl (T := TX3) (N := 16) in_X3 rfl 8 (by decide) q1720 (fun _ h9 => h9) rfl dX3_follows_120 ?_
                        refine lv_iload hx hb dX3_follows_123 (lv_at hl 0 rfl) ?_
                        refine lv_iload hx hb dX3_follows_125 (lv_at hl 1 rfl) ?_
                        refine lv_icmp_ne (tgt := 134) hx hb dX3_follows_127 (by decide) (fun c127_68 => ?_) (fun c127_68 => ?_)
                        · skip
                          have c127_68 : ¬ (card ((aroundS i 8) &&& (rndK (g 0) K i &&& g 0))) = (card ((aroundS i 8) &&& (g 0))) := fun z => c127_68 ((nI_eq (a := (card ((aroundS i 8) &&& (rndK (g 0) K i &&& g 0)))) (b := (card ((aroundS i 8) &&& (g 0)))) (by omega) (by omega)).mpr z)
                          refine lv_iload hx hb dX3_follows_134 (lv_at hl 2 rfl) ?_
                          refine lv_ior hx hb dX3_follows_136 ?_
                          refine m_put X S 0 rfl (T := TX3) (N := 16) in_X3 tyX3 tyX3_ok nmX3 rfl 8 (by decide) q1720 (fun _ h9 => h9) rfl rfl rfl (Nat.le_of_ble_eq_true rfl) dX3_follows_137 (fun H locs S => ?_)
                          have S : Sw G A s.heap [[(h0, .inr (3, [.ref q1, .ref q2, .int pasts, .ref q3, .ref q4, .ref q5, .int length, .int (rndK (g 0) K i), .int ((rndK (g 0) K i &&& g 0) ||| ((aroundS i 8) &&& ((rndK (g 0) K i) ^^^ (-1 : Int32)))), .ref q6, .int spot, .int isWrong, .int sign, .int digit, .int first, .int second]))], [(q1, .inl (gA G 0, 182, .inl g))]] _ _ := S
                          refine lv_aload_n hx hb dX3_follows_140 rfl (lv_at hl 6 rfl) ?_
                          refine lv_dup hx hb dX3_follows_141 rfl ?_
                          refine m_get X S 0 rfl (T := TX3) (N := 16) in_X3 rfl 7 (by decide) q1719 (fun _ h9 => h9) rfl dX3_follows_142 ?_
                          refine lv_iload hx hb dX3_follows_145 (lv_at hl 2 rfl) ?_
                          refine lv_ior hx hb dX3_follows_147 ?_
                          refine m_put X S 0 rfl (T := TX3) (N := 16) in_X3 tyX3 tyX3_ok nmX3 rfl 7 (by decide) q1719 (fun _ h9 => h9) rfl rfl rfl (Nat.le_of_ble_eq_true rfl) dX3_follows_148 (fun H locs S => ?_)
                          have S : Sw G A s.heap [[(h0, .inr (3, [.ref q1, .ref q2, .int pasts, .ref q3, .ref q4, .ref q5, .int length, .int ((rndK (g 0) K i) ||| ((aroundS i 8) &&& ((rndK (g 0) K i) ^^^ (-1 : Int32)))), .int ((rndK (g 0) K i &&& g 0) ||| ((aroundS i 8) &&& ((rndK (g 0) K i) ^^^ (-1 : Int32)))), .ref q6, .int spot, .int isWrong, .int sign, .int digit, .int first, .int second]))], [(q1, .inl (gA G 0, 182, .inl g))]] _ _ := S
                          refine lv_iconst (v := nI 1) hx hb dX3_follows_151 (by decide) ?_
                          refine lv_istore_n (lv' := [(2, .int (nI 1)), (7, .int (nI (card ((aroundS i 8) &&& (rndK (g 0) K i &&& g 0))))), (6, .int (nI (card ((aroundS i 8) &&& (g 0))))), (5, .int ((aroundS i 8) &&& ((rndK (g 0) K i) ^^^ (-1 : Int32)))), (4, .int (aroundS i 8)), (3, .int (nI i)), (0, .ref h0), (1, .int rev)]) hx hb dX3_follows_152 rfl hl (Nat.le_of_ble_eq_true rfl) rfl (fun ls hl => ?_)
                          have hcan : decP (g 0) (rndK (g 0) K i) i = true := by first | exact decP_t ⟨by assumption, Or.inl (by assumption)⟩ | exact decP_t ⟨by assumption, Or.inr (by assumption)⟩
                          have hE69 : (rndK (g 0) K i) ||| ((aroundS i 8) &&& ((rndK (g 0) K i) ^^^ (-1 : Int32))) = rndK (g 0) K (i + 1) := rnd_yes hcan
                          have S := S.cong (congrArg (fun (zz : Int32) => ([[(h0, .inr (3, [.ref q1, .ref q2, .int pasts, .ref q3, .ref q4, .ref q5, .int length, .int zz, .int ((rndK (g 0) K i &&& g 0) ||| ((aroundS i 8) &&& ((rndK (g 0) K i) ^^^ (-1 : Int32)))), .ref q6, .int spot, .int isWrong, .int sign, .int digit, .int first, .int second]))], [(q1, .inl (gA G 0, 182, .inl g))]] : List va_W)) hE69)
                          have S : Sw G A s.heap [[(h0, .inr (3, [.ref q1, .ref q2, .int pasts, .ref q3, .ref q4, .ref q5, .int length, .int (rndK (g 0) K (i + 1)), .int ((rndK (g 0) K i &&& g 0) ||| ((aroundS i 8) &&& ((rndK (g 0) K i) ^^^ (-1 : Int32)))), .ref q6, .int spot, .int isWrong, .int sign, .int digit, .int first, .int second]))], [(q1, .inl (gA G 0, 182, .inl g))]] _ _ := S
                          have hE70 : (rndK (g 0) K i &&& g 0) ||| ((aroundS i 8) &&& ((rndK (g 0) K i) ^^^ (-1 : Int32))) = rndK (g 0) K (i + 1) &&& g 0 := by first | exact rnd_T0 hcan (by assumption) | exact rnd_T1 hcan (by assumption)
                          have S := S.cong (congrArg (fun (zz : Int32) => ([[(h0, .inr (3, [.ref q1, .ref q2, .int pasts, .ref q3, .ref q4, .ref q5, .int length, .int (rndK (g 0) K (i + 1)), .int zz, .ref q6, .int spot, .int isWrong, .int sign, .int digit, .int first, .int second]))], [(q1, .inl (gA G 0, 182, .inl g))]] : List va_W)) hE70)
                          have S : Sw G A s.heap [[(h0, .inr (3, [.ref q1, .ref q2, .int pasts, .ref q3, .ref q4, .ref q5, .int length, .int (rndK (g 0) K (i + 1)), .int (rndK (g 0) K (i + 1) &&& g 0), .ref q6, .int spot, .int isWrong, .int sign, .int digit, .int first, .int second]))], [(q1, .inl (gA G 0, 182, .inl g))]] _ _ := S
                          have hE71 : nI 1 = cI (rndC (g 0) K (i + 1)) := rnd_yesC hcan
                          have hl := lv_cong hl (congrArg (fun (zz : Int32) => ([(2, .int zz), (7, .int (nI (card ((aroundS i 8) &&& (rndK (g 0) K i &&& g 0))))), (6, .int (nI (card ((aroundS i 8) &&& (g 0))))), (5, .int ((aroundS i 8) &&& ((rndK (g 0) K i) ^^^ (-1 : Int32)))), (4, .int (aroundS i 8)), (3, .int (nI i)), (0, .ref h0), (1, .int rev)] : List (Nat × Value))) hE71)
                          have hl : lv_has ls 8 [(2, .int (cI (rndC (g 0) K (i + 1)))), (7, .int (nI (card ((aroundS i 8) &&& (rndK (g 0) K i &&& g 0))))), (6, .int (nI (card ((aroundS i 8) &&& (g 0))))), (5, .int ((aroundS i 8) &&& ((rndK (g 0) K i) ^^^ (-1 : Int32)))), (4, .int (aroundS i 8)), (3, .int (nI i)), (0, .ref h0), (1, .int rev)] := hl
                          refine lv_iinc (v := nI (i + 1)) (lv' := [(3, .int (nI (i + 1))), (2, .int (cI (rndC (g 0) K (i + 1)))), (7, .int (nI (card ((aroundS i 8) &&& (rndK (g 0) K i &&& g 0))))), (6, .int (nI (card ((aroundS i 8) &&& (g 0))))), (5, .int ((aroundS i 8) &&& ((rndK (g 0) K i) ^^^ (-1 : Int32)))), (4, .int (aroundS i 8)), (0, .ref h0), (1, .int rev)]) hx hb dX3_follows_153 hl (k := 5) rfl (nI_add _ _) (Nat.le_of_ble_eq_true rfl) rfl (fun ls hl => ?_)
                          refine lv_goto (tgt := 44) hx hb dX3_follows_156 (by decide) ?_
                          exact ih44 (i + 1) (by omega) (by omega) _ _ S ls (lv_sub hl [1, 0, 6, 7] rfl)
                        · skip
                          have c127_68 : (card ((aroundS i 8) &&& (rndK (g 0) K i &&& g 0))) = (card ((aroundS i 8) &&& (g 0))) := (nI_eq (a := (card ((aroundS i 8) &&& (rndK (g 0) K i &&& g 0)))) (b := (card ((aroundS i 8) &&& (g 0)))) (by omega) (by omega)).mp c127_68
                          refine lv_iconst (v := nI 0) hx hb dX3_follows_130 (by decide) ?_
                          refine lv_goto (tgt := 136) hx hb dX3_follows_131 (by decide) ?_
                          refine lv_ior hx hb dX3_follows_136 ?_
                          refine m_put X S 0 rfl (T := TX3) (N := 16) in_X3 tyX3 tyX3_ok nmX3 rfl 8 (by decide) q1720 (fun _ h9 => h9) rfl rfl rfl (Nat.le_of_ble_eq_true rfl) dX3_follows_137 (fun H locs S => ?_)
                          have S : Sw G A s.heap [[(h0, .inr (3, [.ref q1, .ref q2, .int pasts, .ref q3, .ref q4, .ref q5, .int length, .int (rndK (g 0) K i), .int ((rndK (g 0) K i &&& g 0) ||| (nI 0)), .ref q6, .int spot, .int isWrong, .int sign, .int digit, .int first, .int second]))], [(q1, .inl (gA G 0, 182, .inl g))]] _ _ := S
                          refine lv_aload_n hx hb dX3_follows_140 rfl (lv_at hl 6 rfl) ?_
                          refine lv_dup hx hb dX3_follows_141 rfl ?_
                          refine m_get X S 0 rfl (T := TX3) (N := 16) in_X3 rfl 7 (by decide) q1719 (fun _ h9 => h9) rfl dX3_follows_142 ?_
                          refine lv_iload hx hb dX3_follows_145 (lv_at hl 2 rfl) ?_
                          refine lv_ior hx hb dX3_follows_147 ?_
                          refine m_put X S 0 rfl (T := TX3) (N := 16) in_X3 tyX3 tyX3_ok nmX3 rfl 7 (by decide) q1719 (fun _ h9 => h9) rfl rfl rfl (Nat.le_of_ble_eq_true rfl) dX3_follows_148 (fun H locs S => ?_)
                          have S : Sw G A s.heap [[(h0, .inr (3, [.ref q1, .ref q2, .int pasts, .ref q3, .ref q4, .ref q5, .int length, .int ((rndK (g 0) K i) ||| ((aroundS i 8) &&& ((rndK (g 0) K i) ^^^ (-1 : Int32)))), .int ((rndK (g 0) K i &&& g 0) ||| (nI 0)), .ref q6, .int spot, .int isWrong, .int sign, .int digit, .int first, .int second]))], [(q1, .inl (gA G 0, 182, .inl g))]] _ _ := S
                          refine lv_iconst (v := nI 1) hx hb dX3_follows_151 (by decide) ?_
                          refine lv_istore_n (lv' := [(2, .int (nI 1)), (7, .int (nI (card ((aroundS i 8) &&& (rndK (g 0) K i &&& g 0))))), (6, .int (nI (card ((aroundS i 8) &&& (g 0))))), (5, .int ((aroundS i 8) &&& ((rndK (g 0) K i) ^^^ (-1 : Int32)))), (4, .int (aroundS i 8)), (3, .int (nI i)), (0, .ref h0), (1, .int rev)]) hx hb dX3_follows_152 rfl hl (Nat.le_of_ble_eq_true rfl) rfl (fun ls hl => ?_)
                          have hcan : decP (g 0) (rndK (g 0) K i) i = true := by first | exact decP_t ⟨by assumption, Or.inl (by assumption)⟩ | exact decP_t ⟨by assumption, Or.inr (by assumption)⟩
                          have hE72 : (rndK (g 0) K i) ||| ((aroundS i 8) &&& ((rndK (g 0) K i) ^^^ (-1 : Int32))) = rndK (g 0) K (i + 1) := rnd_yes hcan
                          have S := S.cong (congrArg (fun (zz : Int32) => ([[(h0, .inr (3, [.ref q1, .ref q2, .int pasts, .ref q3, .ref q4, .ref q5, .int length, .int zz, .int ((rndK (g 0) K i &&& g 0) ||| (nI 0)), .ref q6, .int spot, .int isWrong, .int sign, .int digit, .int first, .int second]))], [(q1, .inl (gA G 0, 182, .inl g))]] : List va_W)) hE72)
                          have S : Sw G A s.heap [[(h0, .inr (3, [.ref q1, .ref q2, .int pasts, .ref q3, .ref q4, .ref q5, .int length, .int (rndK (g 0) K (i + 1)), .int ((rndK (g 0) K i &&& g 0) ||| (nI 0)), .ref q6, .int spot, .int isWrong, .int sign, .int digit, .int first, .int second]))], [(q1, .inl (gA G 0, 182, .inl g))]] _ _ := S
                          have hE73 : (rndK (g 0) K i &&& g 0) ||| (nI 0) = rndK (g 0) K (i + 1) &&& g 0 := by first | exact rnd_T0 hcan (by assumption) | exact rnd_T1 hcan (by assumption)
                          have S := S.cong (congrArg (fun (zz : Int32) => ([[(h0, .inr (3, [.ref q1, .ref q2, .int pasts, .ref q3, .ref q4, .ref q5, .int length, .int (rndK (g 0) K (i + 1)), .int zz, .ref q6, .int spot, .int isWrong, .int sign, .int digit, .int first, .int second]))], [(q1, .inl (gA G 0, 182, .inl g))]] : List va_W)) hE73)
                          have S : Sw G A s.heap [[(h0, .inr (3, [.ref q1, .ref q2, .int pasts, .ref q3, .ref q4, .ref q5, .int length, .int (rndK (g 0) K (i + 1)), .int (rndK (g 0) K (i + 1) &&& g 0), .ref q6, .int spot, .int isWrong, .int sign, .int digit, .int first, .int second]))], [(q1, .inl (gA G 0, 182, .inl g))]] _ _ := S
                          have hE74 : nI 1 = cI (rndC (g 0) K (i + 1)) := rnd_yesC hcan
                          have hl := lv_cong hl (congrArg (fun (zz : Int32) => ([(2, .int zz), (7, .int (nI (card ((aroundS i 8) &&& (rndK (g 0) K i &&& g 0))))), (6, .int (nI (card ((aroundS i 8) &&& (g 0))))), (5, .int ((aroundS i 8) &&& ((rndK (g 0) K i) ^^^ (-1 : Int32)))), (4, .int (aroundS i 8)), (3, .int (nI i)), (0, .ref h0), (1, .int rev)] : List (Nat × Value))) hE74)
                          have hl : lv_has ls 8 [(2, .int (cI (rndC (g 0) K (i + 1)))), (7, .int (nI (card ((aroundS i 8) &&& (rndK (g 0) K i &&& g 0))))), (6, .int (nI (card ((aroundS i 8) &&& (g 0))))), (5, .int ((aroundS i 8) &&& ((rndK (g 0) K i) ^^^ (-1 : Int32)))), (4, .int (aroundS i 8)), (3, .int (nI i)), (0, .ref h0), (1, .int rev)] := hl
                          refine lv_iinc (v := nI (i + 1)) (lv' := [(3, .int (nI (i + 1))), (2, .int (cI (rndC (g 0) K (i + 1)))), (7, .int (nI (card ((aroundS i 8) &&& (rndK (g 0) K i &&& g 0))))), (6, .int (nI (card ((aroundS i 8) &&& (g 0))))), (5, .int ((aroundS i 8) &&& ((rndK (g 0) K i) ^^^ (-1 : Int32)))), (4, .int (aroundS i 8)), (0, .ref h0), (1, .int rev)]) hx hb dX3_follows_153 hl (k := 5) rfl (nI_add _ _) (Nat.le_of_ble_eq_true rfl) rfl (fun ls hl => ?_)
                          refine lv_goto (tgt := 44) hx hb dX3_follows_156 (by decide) ?_
                          exact ih44 (i + 1) (by omega) (by omega) _ _ S ls (lv_sub hl [1, 0, 6, 7] rfl)
            exact hL44 _ 0 (Nat.lt_succ_self _) (by omega) _ _ S ls (lv_sub hl [1, 0, 2, 3] rfl)
      exact hL36 _ (nI 0) false 33 (Nat.lt_succ_self _) (by first | exact Or.inl ⟨rfl, by unfold knownS; rw [if_neg (by assumption)], by omega⟩ | exact Or.inr ⟨rfl, by unfold knownS; rw [if_pos (by assumption)]⟩) _ _ S ls (lv_sub hl [0, 1, 2] rfl)

abbrev rm_X3_road : Room := { frames := 3, cells := 0, slots := 0, locals := 64 }
set_option maxHeartbeats 4000000 in
set_option maxRecDepth 100000 in
theorem mt_X3_road (G : mGG) (l : Launch) (h0 : Nat) (q1 : Nat) (q2 : Nat) (q3 : Nat) (q4 : Nat) (q5 : Nat) (q6 : Nat) (length : Int32) (known : Int32) (there : Int32) (spot : Int32) (isWrong : Int32) (sign : Int32) (digit : Int32) (first : Int32) (second : Int32) (g : Nat → Int32) (pa : Nat → Int32) (n : Nat) (p1 : Int32) (p2 : Int32) (hn6 : n ≤ 6) : Cg G l yX3_road (ws_ yX3_road cX3_road 4 (some FieldType.int)) rm_X3_road [.ref h0, .int p1, .int p2] [[(h0, .inr (3, [.ref q1, .ref q2, .int (nI n), .ref q3, .ref q4, .ref q5, .int length, .int known, .int there, .ref q6, .int spot, .int isWrong, .int sign, .int digit, .int first, .int second]))], [(q1, .inl (gA G 0, 182, .inl g))], [(q2, .inl (gA G 0, 1092, .inl pa))]] (Qi G (fun (r : Int32) (u : Nat × Nat × (Nat → Int32) × Nat × (Nat → Int32)) => (r = barRoadS g p1 p2 ∧ u.2.2.1 = g ∧ u.2.2.2.1 = n ∧ u.2.2.2.2 = pa ∧ barRoadS g p1 p2 < nI 0) ∨ (p1 = nI u.1 ∧ p2 = nI u.2.1 ∧ r = nI (card (g 0 ^^^ bit (Ed u.1 u.2.1))) ∧ u.2.2.1 = upd g 0 (g 0 ^^^ bit (Ed u.1 u.2.1)) ∧ u.2.2.2.1 = recN n ∧ u.2.2.2.2 = recP n pa g ∧ u.1 < 8 ∧ u.2.1 < 8 ∧ u.1 ≠ u.2.1 ∧ g 6 ≤ nI 0 ∧ barRoadS g (nI u.1) (nI u.2.1) = nI 0)) (fun (u : Nat × Nat × (Nat → Int32) × Nat × (Nat → Int32)) => [[(h0, .inr (3, [.ref q1, .ref q2, .int (nI u.2.2.2.1), .ref q3, .ref q4, .ref q5, .int length, .int known, .int there, .ref q6, .int spot, .int isWrong, .int sign, .int digit, .int first, .int second]))], [(q1, .inl (gA G 0, 182, .inl u.2.2.1))], [(q2, .inl (gA G 0, 1092, .inl u.2.2.2.2))]])) := by
  refine Cg.intro (own := RX3) (cc := cX3_road) (maxL := 4) (ret := (some FieldType.int)) (by decide +kernel) rfl rfl (Nat.le_of_ble_eq_true rfl) ?_
  intro p e s m ag below meth c A ls Q X hr hlk hnm S hl hQ
  have hx := X.1
  have hb := X.2.1
  have hl : lv_has ls 4 [(0, .ref h0), (1, .int p1), (2, .int p2)] := hl
  refine lv_aload_n hx hb dX3_road_0 rfl (lv_at hl 0 rfl) ?_
  refine lv_iload_n hx hb dX3_road_1 rfl (lv_at hl 1 rfl) ?_
  refine lv_iload_n hx hb dX3_road_2 rfl (lv_at hl 2 rfl) ?_
  have hq1 := S.cut (Bc := [[(h0, .inr (3, [.ref q1, .ref q2, .int (nI n), .ref q3, .ref q4, .ref q5, .int length, .int known, .int there, .ref q6, .int spot, .int isWrong, .int sign, .int digit, .int first, .int second]))], [(q1, .inl (gA G 0, 182, .inl g))]]) (Br := [[(q2, .inl (gA G 0, 1092, .inl pa))]]) [0, 1] [2] (show ([0, 1] ++ ([2] : List Nat)).isPerm (List.range 3) = true by decide +kernel) rfl rfl
  refine m_ri X S hq1 (m_runV (rest := []) (As := [.int p1, .int p2]) (n := 2) X S hq1 (mt_X3_barRoad G l h0 q1 q2 q3 q4 q5 q6 (nI n) length known there spot isWrong sign digit first second g p1 p2 ) (lw_V q1783 q1785 qs47 q90 q1786) (m_recv X S 0 rfl rfl) (by decide +kernel) ⟨Nat.le_of_ble_eq_true rfl, Nat.le_of_ble_eq_true rfl⟩ rfl hl.1 rfl (Nat.le_of_ble_eq_true rfl) dX3_road_3 ⟨(Nat.le_of_ble_eq_true rfl), (Nat.le_of_ble_eq_true rfl)⟩) (fun r2 u H locs hp2 S => ?_)
  obtain ⟨a, b⟩ := u
  have hp2 : (r2 = barRoadS g p1 p2 ∧ barRoadS g p1 p2 < nI 0) ∨ (r2 = nI 0 ∧ p1 = nI a ∧ p2 = nI b ∧ a < 8 ∧ b < 8 ∧ a ≠ b ∧ g 6 ≤ nI 0 ∧ barRoadS g (nI a) (nI b) = nI 0) := hp2
  have S : Sw G A s.heap [[(q2, .inl (gA G 0, 1092, .inl pa))], [(h0, .inr (3, [.ref q1, .ref q2, .int (nI n), .ref q3, .ref q4, .ref q5, .int length, .int known, .int there, .ref q6, .int spot, .int isWrong, .int sign, .int digit, .int first, .int second]))], [(q1, .inl (gA G 0, 182, .inl g))]] _ _ := S
  rcases hp2 with ⟨hhp2_0, hhp2_1⟩ | ⟨hhp2_0, hhp2_1, hhp2_2, hhp2_3, hhp2_4, hhp2_5, hhp2_6, hhp2_7⟩
  · skip
    subst hhp2_0
    have hf0_r2 := hhp2_1
    have S : Sw G A s.heap [[(q2, .inl (gA G 0, 1092, .inl pa))], [(h0, .inr (3, [.ref q1, .ref q2, .int (nI n), .ref q3, .ref q4, .ref q5, .int length, .int known, .int there, .ref q6, .int spot, .int isWrong, .int sign, .int digit, .int first, .int second]))], [(q1, .inl (gA G 0, 182, .inl g))]] _ _ := S
    refine lv_istore_n (lv' := [(3, .int (barRoadS g p1 p2)), (0, .ref h0), (1, .int p1), (2, .int p2)]) hx hb dX3_road_6 rfl hl (Nat.le_of_ble_eq_true rfl) rfl (fun ls hl => ?_)
    refine lv_iload_n hx hb dX3_road_7 rfl (lv_at hl 0 rfl) ?_
    refine lv_if_ge (tgt := 13) hx hb dX3_road_8 (by decide) (fun c8_3 => ?_) (fun c8_3 => ?_)
    · skip
      have c8_3 : (nI 0) ≤ (barRoadS g p1 p2) := c8_3
      exact absurd c8_3 (Int32.not_le.mpr (by assumption))
    · skip
      have c8_3 : ¬ (nI 0) ≤ (barRoadS g p1 p2) := c8_3
      refine lv_iload_n hx hb dX3_road_11 rfl (lv_at hl 0 rfl) ?_
      exact m_iret X hr hlk hQ S ⟨0, 0, g, n, pa⟩ (by show ((barRoadS g p1 p2) = barRoadS g p1 p2 ∧ g = g ∧ n = n ∧ pa = pa ∧ barRoadS g p1 p2 < nI 0) ∨ (p1 = nI 0 ∧ p2 = nI 0 ∧ (barRoadS g p1 p2) = nI (card (g 0 ^^^ bit (Ed 0 0))) ∧ g = upd g 0 (g 0 ^^^ bit (Ed 0 0)) ∧ n = recN n ∧ pa = recP n pa g ∧ 0 < 8 ∧ 0 < 8 ∧ 0 ≠ 0 ∧ g 6 ≤ nI 0 ∧ barRoadS g (nI 0) (nI 0) = nI 0); first | exact Or.inl ⟨(by with_reducible rfl), (by with_reducible rfl), (by with_reducible rfl), (by with_reducible rfl), (by assumption)⟩ | exact Or.inr (⟨(by with_reducible rfl), (by with_reducible rfl), (by with_reducible rfl), (by with_reducible rfl), (by with_reducible rfl), (by with_reducible rfl), (by first | assumption | omega), (by first | assumption | omega), (by first | assumption | omega), (by assumption), (by assumption)⟩)) [1, 2, 0] [] (show ([1, 2, 0] ++ ([] : List Nat)).isPerm (List.range 3) = true by decide +kernel) rfl (Nat.le_of_ble_eq_true rfl) (Nat.le_of_ble_eq_true rfl) dX3_road_12
  · skip
    subst hhp2_0
    subst hhp2_1
    subst hhp2_2
    have hf0_r2 := hhp2_3
    have hf1_r2 := hhp2_4
    have hf2_r2 := hhp2_5
    have hf3_r2 := hhp2_6
    have hf4_r2 := hhp2_7
    have S : Sw G A s.heap [[(q2, .inl (gA G 0, 1092, .inl pa))], [(h0, .inr (3, [.ref q1, .ref q2, .int (nI n), .ref q3, .ref q4, .ref q5, .int length, .int known, .int there, .ref q6, .int spot, .int isWrong, .int sign, .int digit, .int first, .int second]))], [(q1, .inl (gA G 0, 182, .inl g))]] _ _ := S
    refine lv_istore_n (lv' := [(3, .int (nI 0)), (0, .ref h0), (1, .int (nI a)), (2, .int (nI b))]) hx hb dX3_road_6 rfl hl (Nat.le_of_ble_eq_true rfl) rfl (fun ls hl => ?_)
    refine lv_iload_n hx hb dX3_road_7 rfl (lv_at hl 0 rfl) ?_
    refine lv_if_ge (tgt := 13) hx hb dX3_road_8 (by decide) (fun c8_4 => ?_) (fun c8_4 => absurd (by decide) c8_4)
    refine lv_aload_n hx hb dX3_road_13 rfl (lv_at hl 1 rfl) ?_
    have hq5 := S.cut (Bc := [[(h0, .inr (3, [.ref q1, .ref q2, .int (nI n), .ref q3, .ref q4, .ref q5, .int length, .int known, .int there, .ref q6, .int spot, .int isWrong, .int sign, .int digit, .int first, .int second]))], [(q1, .inl (gA G 0, 182, .inl g))], [(q2, .inl (gA G 0, 1092, .inl pa))]]) (Br := []) [1, 2, 0] [] (show ([1, 2, 0] ++ ([] : List Nat)).isPerm (List.range 3) = true by decide +kernel) rfl rfl
    refine m_rv X S hq5 (m_runV (rest := []) (As := []) (n := 0) X S hq5 (mt_X3_records G l h0 q1 q2 q3 q4 q5 q6 length known there spot isWrong sign digit first second g pa n (by omega)) (lw_V q1775 q1777 qs46 q90 q1778) (m_recv X S 1 rfl rfl) (by decide +kernel) ⟨Nat.le_of_ble_eq_true rfl, Nat.le_of_ble_eq_true rfl⟩ rfl hl.1 rfl (Nat.le_of_ble_eq_true rfl) dX3_road_14 ⟨(Nat.le_of_ble_eq_true rfl), (Nat.le_of_ble_eq_true rfl)⟩) (fun u H locs hp6 S => ?_)
    obtain ⟨u7, u8⟩ := u
    have hp6 : (u7 = recN n ∧ u8 = recP n pa g) := hp6
    have S : Sw G A s.heap [[(h0, .inr (3, [.ref q1, .ref q2, .int (nI u7), .ref q3, .ref q4, .ref q5, .int length, .int known, .int there, .ref q6, .int spot, .int isWrong, .int sign, .int digit, .int first, .int second]))], [(q1, .inl (gA G 0, 182, .inl g))], [(q2, .inl (gA G 0, 1092, .inl u8))]] _ _ := S
    rcases hp6 with ⟨hhp6_0, hhp6_1⟩
    subst hhp6_0
    subst hhp6_1
    have S : Sw G A s.heap [[(h0, .inr (3, [.ref q1, .ref q2, .int (nI (recN n)), .ref q3, .ref q4, .ref q5, .int length, .int known, .int there, .ref q6, .int spot, .int isWrong, .int sign, .int digit, .int first, .int second]))], [(q1, .inl (gA G 0, 182, .inl g))], [(q2, .inl (gA G 0, 1092, .inl (recP n pa g)))]] _ _ := S
    refine lv_aload_n hx hb dX3_road_17 rfl (lv_at hl 1 rfl) ?_
    refine lv_iload_n hx hb dX3_road_18 rfl (lv_at hl 2 rfl) ?_
    refine lv_iload_n hx hb dX3_road_19 rfl (lv_at hl 3 rfl) ?_
    have hq9 := S.cut (Bc := [[(h0, .inr (3, [.ref q1, .ref q2, .int (nI (recN n)), .ref q3, .ref q4, .ref q5, .int length, .int known, .int there, .ref q6, .int spot, .int isWrong, .int sign, .int digit, .int first, .int second]))], [(q1, .inl (gA G 0, 182, .inl g))]]) (Br := [[(q2, .inl (gA G 0, 1092, .inl (recP n pa g)))]]) [0, 1] [2] (show ([0, 1] ++ ([2] : List Nat)).isPerm (List.range 3) = true by decide +kernel) rfl rfl
    refine m_ri X S hq9 (m_runV (rest := []) (As := [.int (nI a), .int (nI b)]) (n := 2) X S hq9 (mt_X3_lays G l h0 q1 q2 q3 q4 q5 q6 (nI (recN n)) length known there spot isWrong sign digit first second g a b (by omega) (by omega) (by omega)) (lw_V q1794 q1796 qs49 q90 q1797) (m_recv X S 0 rfl rfl) (by decide +kernel) ⟨Nat.le_of_ble_eq_true rfl, Nat.le_of_ble_eq_true rfl⟩ rfl hl.1 rfl (Nat.le_of_ble_eq_true rfl) dX3_road_20 ⟨(Nat.le_of_ble_eq_true rfl), (Nat.le_of_ble_eq_true rfl)⟩) (fun r10 u H locs hp10 S => ?_)
    have hp10 : r10 = nI (card (g 0 ^^^ bit (Ed a b))) := hp10
    have hhp10_0 := hp10
    subst hhp10_0
    have S : Sw G A s.heap [[(q2, .inl (gA G 0, 1092, .inl (recP n pa g)))], [(h0, .inr (3, [.ref q1, .ref q2, .int (nI (recN n)), .ref q3, .ref q4, .ref q5, .int length, .int known, .int there, .ref q6, .int spot, .int isWrong, .int sign, .int digit, .int first, .int second]))], [(q1, .inl (gA G 0, 182, .inl (upd g 0 (g 0 ^^^ bit (Ed a b)))))]] _ _ := S
    exact m_iret X hr hlk hQ S ⟨a, b, upd g 0 (g 0 ^^^ bit (Ed a b)), recN n, recP n pa g⟩ (by show ((nI (card (g 0 ^^^ bit (Ed a b)))) = barRoadS g (nI a) (nI b) ∧ (upd g 0 (g 0 ^^^ bit (Ed a b))) = g ∧ (recN n) = n ∧ (recP n pa g) = pa ∧ barRoadS g (nI a) (nI b) < nI 0) ∨ ((nI a) = nI a ∧ (nI b) = nI b ∧ (nI (card (g 0 ^^^ bit (Ed a b)))) = nI (card (g 0 ^^^ bit (Ed a b))) ∧ (upd g 0 (g 0 ^^^ bit (Ed a b))) = upd g 0 (g 0 ^^^ bit (Ed a b)) ∧ (recN n) = recN n ∧ (recP n pa g) = recP n pa g ∧ a < 8 ∧ b < 8 ∧ a ≠ b ∧ g 6 ≤ nI 0 ∧ barRoadS g (nI a) (nI b) = nI 0); first | exact Or.inl ⟨(by with_reducible rfl), (by with_reducible rfl), (by with_reducible rfl), (by with_reducible rfl), (by assumption)⟩ | exact Or.inr (⟨(by with_reducible rfl), (by with_reducible rfl), (by with_reducible rfl), (by with_reducible rfl), (by with_reducible rfl), (by with_reducible rfl), (by first | assumption | omega), (by first | assumption | omega), (by first | assumption | omega), (by assumption), (by assumption)⟩)) [1, 2, 0] [] (show ([1, 2, 0] ++ ([] : List Nat)).isPerm (List.range 3) = true by decide +kernel) rfl (Nat.le_of_ble_eq_true rfl) (Nat.le_of_ble_eq_true rfl) dX3_road_23

abbrev rm_X3_treasure : Room := { frames := 3, cells := 0, slots := 0, locals := 63 }
set_option maxHeartbeats 4000000 in
set_option maxRecDepth 100000 in
theorem mt_X3_treasure (G : mGG) (l : Launch) (h0 : Nat) (q1 : Nat) (q2 : Nat) (q3 : Nat) (q4 : Nat) (q5 : Nat) (q6 : Nat) (length : Int32) (known : Int32) (there : Int32) (spot : Int32) (isWrong : Int32) (sign : Int32) (digit : Int32) (first : Int32) (second : Int32) (g : Nat → Int32) (pa : Nat → Int32) (n : Nat) (p1 : Int32) (hn6 : n ≤ 6) : Cg G l yX3_treasure (ws_ yX3_treasure cX3_treasure 4 (some FieldType.int)) rm_X3_treasure [.ref h0, .int p1] [[(h0, .inr (3, [.ref q1, .ref q2, .int (nI n), .ref q3, .ref q4, .ref q5, .int length, .int known, .int there, .ref q6, .int spot, .int isWrong, .int sign, .int digit, .int first, .int second]))], [(q1, .inl (gA G 0, 182, .inl g))], [(q2, .inl (gA G 0, 1092, .inl pa))]] (Qi G (fun (r : Int32) (u : Nat × (Nat → Int32) × Nat × (Nat → Int32)) => (r = barTreasS g p1 ∧ u.2.1 = g ∧ u.2.2.1 = n ∧ u.2.2.2 = pa ∧ barTreasS g p1 < nI 0) ∨ (p1 = nI u.1 ∧ r = g 1 ∧ u.2.1 = upd g 1 (nI u.1) ∧ u.2.2.1 = recN n ∧ u.2.2.2 = recP n pa g ∧ u.1 < 8 ∧ g 6 ≤ nI 0 ∧ barTreasS g (nI u.1) = nI 0)) (fun (u : Nat × (Nat → Int32) × Nat × (Nat → Int32)) => [[(h0, .inr (3, [.ref q1, .ref q2, .int (nI u.2.2.1), .ref q3, .ref q4, .ref q5, .int length, .int known, .int there, .ref q6, .int spot, .int isWrong, .int sign, .int digit, .int first, .int second]))], [(q1, .inl (gA G 0, 182, .inl u.2.1))], [(q2, .inl (gA G 0, 1092, .inl u.2.2.2))]])) := by
  refine Cg.intro (own := RX3) (cc := cX3_treasure) (maxL := 4) (ret := (some FieldType.int)) (by decide +kernel) rfl rfl (Nat.le_of_ble_eq_true rfl) ?_
  intro p e s m ag below meth c A ls Q X hr hlk hnm S hl hQ
  have hx := X.1
  have hb := X.2.1
  have hl : lv_has ls 4 [(0, .ref h0), (1, .int p1)] := hl
  refine lv_aload_n hx hb dX3_treasure_0 rfl (lv_at hl 0 rfl) ?_
  refine lv_iload_n hx hb dX3_treasure_1 rfl (lv_at hl 1 rfl) ?_
  have hq1 := S.cut (Bc := [[(h0, .inr (3, [.ref q1, .ref q2, .int (nI n), .ref q3, .ref q4, .ref q5, .int length, .int known, .int there, .ref q6, .int spot, .int isWrong, .int sign, .int digit, .int first, .int second]))], [(q1, .inl (gA G 0, 182, .inl g))]]) (Br := [[(q2, .inl (gA G 0, 1092, .inl pa))]]) [0, 1] [2] (show ([0, 1] ++ ([2] : List Nat)).isPerm (List.range 3) = true by decide +kernel) rfl rfl
  refine m_ri X S hq1 (m_runV (rest := []) (As := [.int p1]) (n := 1) X S hq1 (mt_X3_barTreasure G l h0 q1 q2 q3 q4 q5 q6 (nI n) length known there spot isWrong sign digit first second g p1 ) (lw_V q1808 q1810 qs50 q90 q1811) (m_recv X S 0 rfl rfl) (by decide +kernel) ⟨Nat.le_of_ble_eq_true rfl, Nat.le_of_ble_eq_true rfl⟩ rfl hl.1 rfl (Nat.le_of_ble_eq_true rfl) dX3_treasure_2 ⟨(Nat.le_of_ble_eq_true rfl), (Nat.le_of_ble_eq_true rfl)⟩) (fun r2 u H locs hp2 S => ?_)
  obtain ⟨a, rfl⟩ : ∃ z, z = u := ⟨_, rfl⟩
  have hp2 : (r2 = barTreasS g p1 ∧ barTreasS g p1 < nI 0) ∨ (r2 = nI 0 ∧ p1 = nI a ∧ a < 8 ∧ g 6 ≤ nI 0 ∧ barTreasS g (nI a) = nI 0) := hp2
  have S : Sw G A s.heap [[(q2, .inl (gA G 0, 1092, .inl pa))], [(h0, .inr (3, [.ref q1, .ref q2, .int (nI n), .ref q3, .ref q4, .ref q5, .int length, .int known, .int there, .ref q6, .int spot, .int isWrong, .int sign, .int digit, .int first, .int second]))], [(q1, .inl (gA G 0, 182, .inl g))]] _ _ := S
  rcases hp2 with ⟨hhp2_0, hhp2_1⟩ | ⟨hhp2_0, hhp2_1, hhp2_2, hhp2_3, hhp2_4⟩
  · skip
    subst hhp2_0
    have hf0_r2 := hhp2_1
    have S : Sw G A s.heap [[(q2, .inl (gA G 0, 1092, .inl pa))], [(h0, .inr (3, [.ref q1, .ref q2, .int (nI n), .ref q3, .ref q4, .ref q5, .int length, .int known, .int there, .ref q6, .int spot, .int isWrong, .int sign, .int digit, .int first, .int second]))], [(q1, .inl (gA G 0, 182, .inl g))]] _ _ := S
    refine lv_istore_n (lv' := [(2, .int (barTreasS g p1)), (0, .ref h0), (1, .int p1)]) hx hb dX3_treasure_5 rfl hl (Nat.le_of_ble_eq_true rfl) rfl (fun ls hl => ?_)
    refine lv_iload_n hx hb dX3_treasure_6 rfl (lv_at hl 0 rfl) ?_
    refine lv_if_ge (tgt := 12) hx hb dX3_treasure_7 (by decide) (fun c7_3 => ?_) (fun c7_3 => ?_)
    · skip
      have c7_3 : (nI 0) ≤ (barTreasS g p1) := c7_3
      exact absurd c7_3 (Int32.not_le.mpr (by assumption))
    · skip
      have c7_3 : ¬ (nI 0) ≤ (barTreasS g p1) := c7_3
      refine lv_iload_n hx hb dX3_treasure_10 rfl (lv_at hl 0 rfl) ?_
      exact m_iret X hr hlk hQ S ⟨0, g, n, pa⟩ (by show ((barTreasS g p1) = barTreasS g p1 ∧ g = g ∧ n = n ∧ pa = pa ∧ barTreasS g p1 < nI 0) ∨ (p1 = nI 0 ∧ (barTreasS g p1) = g 1 ∧ g = upd g 1 (nI 0) ∧ n = recN n ∧ pa = recP n pa g ∧ 0 < 8 ∧ g 6 ≤ nI 0 ∧ barTreasS g (nI 0) = nI 0); first | exact Or.inl ⟨(by with_reducible rfl), (by with_reducible rfl), (by with_reducible rfl), (by with_reducible rfl), (by assumption)⟩ | exact Or.inr (⟨(by with_reducible rfl), (by with_reducible rfl), (by with_reducible rfl), (by with_reducible rfl), (by with_reducible rfl), (by first | assumption | omega), (by assumption), (by assumption)⟩)) [1, 2, 0] [] (show ([1, 2, 0] ++ ([] : List Nat)).isPerm (List.range 3) = true by decide +kernel) rfl (Nat.le_of_ble_eq_true rfl) (Nat.le_of_ble_eq_true rfl) dX3_treasure_11
  · skip
    subst hhp2_0
    subst hhp2_1
    have hf0_r2 := hhp2_2
    have hf1_r2 := hhp2_3
    have hf2_r2 := hhp2_4
    have S : Sw G A s.heap [[(q2, .inl (gA G 0, 1092, .inl pa))], [(h0, .inr (3, [.ref q1, .ref q2, .int (nI n), .ref q3, .ref q4, .ref q5, .int length, .int known, .int there, .ref q6, .int spot, .int isWrong, .int sign, .int digit, .int first, .int second]))], [(q1, .inl (gA G 0, 182, .inl g))]] _ _ := S
    refine lv_istore_n (lv' := [(2, .int (nI 0)), (0, .ref h0), (1, .int (nI a))]) hx hb dX3_treasure_5 rfl hl (Nat.le_of_ble_eq_true rfl) rfl (fun ls hl => ?_)
    refine lv_iload_n hx hb dX3_treasure_6 rfl (lv_at hl 0 rfl) ?_
    refine lv_if_ge (tgt := 12) hx hb dX3_treasure_7 (by decide) (fun c7_4 => ?_) (fun c7_4 => absurd (by decide) c7_4)
    refine lv_aload_n hx hb dX3_treasure_12 rfl (lv_at hl 1 rfl) ?_
    have hq5 := S.cut (Bc := [[(h0, .inr (3, [.ref q1, .ref q2, .int (nI n), .ref q3, .ref q4, .ref q5, .int length, .int known, .int there, .ref q6, .int spot, .int isWrong, .int sign, .int digit, .int first, .int second]))], [(q1, .inl (gA G 0, 182, .inl g))], [(q2, .inl (gA G 0, 1092, .inl pa))]]) (Br := []) [1, 2, 0] [] (show ([1, 2, 0] ++ ([] : List Nat)).isPerm (List.range 3) = true by decide +kernel) rfl rfl
    refine m_rv X S hq5 (m_runV (rest := []) (As := []) (n := 0) X S hq5 (mt_X3_records G l h0 q1 q2 q3 q4 q5 q6 length known there spot isWrong sign digit first second g pa n (by omega)) (lw_V q1775 q1777 qs46 q90 q1778) (m_recv X S 1 rfl rfl) (by decide +kernel) ⟨Nat.le_of_ble_eq_true rfl, Nat.le_of_ble_eq_true rfl⟩ rfl hl.1 rfl (Nat.le_of_ble_eq_true rfl) dX3_treasure_13 ⟨(Nat.le_of_ble_eq_true rfl), (Nat.le_of_ble_eq_true rfl)⟩) (fun u H locs hp6 S => ?_)
    obtain ⟨u7, u8⟩ := u
    have hp6 : (u7 = recN n ∧ u8 = recP n pa g) := hp6
    have S : Sw G A s.heap [[(h0, .inr (3, [.ref q1, .ref q2, .int (nI u7), .ref q3, .ref q4, .ref q5, .int length, .int known, .int there, .ref q6, .int spot, .int isWrong, .int sign, .int digit, .int first, .int second]))], [(q1, .inl (gA G 0, 182, .inl g))], [(q2, .inl (gA G 0, 1092, .inl u8))]] _ _ := S
    rcases hp6 with ⟨hhp6_0, hhp6_1⟩
    subst hhp6_0
    subst hhp6_1
    have S : Sw G A s.heap [[(h0, .inr (3, [.ref q1, .ref q2, .int (nI (recN n)), .ref q3, .ref q4, .ref q5, .int length, .int known, .int there, .ref q6, .int spot, .int isWrong, .int sign, .int digit, .int first, .int second]))], [(q1, .inl (gA G 0, 182, .inl g))], [(q2, .inl (gA G 0, 1092, .inl (recP n pa g)))]] _ _ := S
    refine lv_aload_n hx hb dX3_treasure_16 rfl (lv_at hl 1 rfl) ?_
    refine m_get X S 0 rfl (T := TX3) (N := 16) in_X3 rfl 0 (by decide) q1712 (fun _ h9 => h9) rfl dX3_treasure_17 ?_
    refine lv_iconst (v := nI 1) hx hb dX3_treasure_20 (by decide) ?_
    refine m_iald X S 1 rfl (x := nI 1) (j := 1) rfl (vp_in_nI (by decide) (by decide)) (v := g 1) rfl dX3_treasure_21 ?_
    refine lv_istore_n (lv' := [(3, .int (g 1)), (2, .int (nI 0)), (0, .ref h0), (1, .int (nI a))]) hx hb dX3_treasure_22 rfl hl (Nat.le_of_ble_eq_true rfl) rfl (fun ls hl => ?_)
    refine lv_aload_n hx hb dX3_treasure_23 rfl (lv_at hl 2 rfl) ?_
    refine m_get X S 0 rfl (T := TX3) (N := 16) in_X3 rfl 0 (by decide) q1712 (fun _ h9 => h9) rfl dX3_treasure_24 ?_
    refine lv_iconst (v := nI 1) hx hb dX3_treasure_27 (by decide) ?_
    refine lv_iload_n hx hb dX3_treasure_28 rfl (lv_at hl 3 rfl) ?_
    refine m_iast X S 1 rfl (x := nI 1) (j := 1) rfl (vp_in_nI (by decide) (by decide)) dX3_treasure_29 (fun H locs S => ?_)
    have S : Sw G A s.heap [[(h0, .inr (3, [.ref q1, .ref q2, .int (nI (recN n)), .ref q3, .ref q4, .ref q5, .int length, .int known, .int there, .ref q6, .int spot, .int isWrong, .int sign, .int digit, .int first, .int second]))], [(q1, .inl (gA G 0, 182, .inl (upd g 1 (nI a))))], [(q2, .inl (gA G 0, 1092, .inl (recP n pa g)))]] _ _ := S
    refine lv_iload_n hx hb dX3_treasure_30 rfl (lv_at hl 0 rfl) ?_
    exact m_iret X hr hlk hQ S ⟨a, upd g 1 (nI a), recN n, recP n pa g⟩ (by show ((g 1) = barTreasS g (nI a) ∧ (upd g 1 (nI a)) = g ∧ (recN n) = n ∧ (recP n pa g) = pa ∧ barTreasS g (nI a) < nI 0) ∨ ((nI a) = nI a ∧ (g 1) = g 1 ∧ (upd g 1 (nI a)) = upd g 1 (nI a) ∧ (recN n) = recN n ∧ (recP n pa g) = recP n pa g ∧ a < 8 ∧ g 6 ≤ nI 0 ∧ barTreasS g (nI a) = nI 0); first | exact Or.inl ⟨(by with_reducible rfl), (by with_reducible rfl), (by with_reducible rfl), (by with_reducible rfl), (by assumption)⟩ | exact Or.inr (⟨(by with_reducible rfl), (by with_reducible rfl), (by with_reducible rfl), (by with_reducible rfl), (by with_reducible rfl), (by first | assumption | omega), (by assumption), (by assumption)⟩)) [0, 1, 2] [] (show ([0, 1, 2] ++ ([] : List Nat)).isPerm (List.range 3) = true by decide +kernel) rfl (Nat.le_of_ble_eq_true rfl) (Nat.le_of_ble_eq_true rfl) dX3_treasure_31

abbrev rm_X3_claim : Room := { frames := 3, cells := 0, slots := 0, locals := 68 }
set_option maxHeartbeats 4000000 in
set_option maxRecDepth 100000 in
theorem mt_X3_claim (G : mGG) (l : Launch) (h0 : Nat) (q1 : Nat) (q2 : Nat) (q3 : Nat) (q4 : Nat) (q5 : Nat) (q6 : Nat) (length : Int32) (known : Int32) (there : Int32) (spot : Int32) (isWrong : Int32) (sign : Int32) (digit : Int32) (first : Int32) (second : Int32) (g : Nat → Int32) (pa : Nat → Int32) (n : Nat) (t : Nat) (p1 : Int32) (p2 : Int32) (is : Int32) (hn6 : n ≤ 6) (ht : g 7 = nI t) (ht2 : t ≤ 150) : Cg G l yX3_claim (ws_ yX3_claim cX3_claim 5 (some FieldType.int)) rm_X3_claim [.ref h0, .int p1, .int p2, .int is] [[(h0, .inr (3, [.ref q1, .ref q2, .int (nI n), .ref q3, .ref q4, .ref q5, .int length, .int known, .int there, .ref q6, .int spot, .int isWrong, .int sign, .int digit, .int first, .int second]))], [(q1, .inl (gA G 0, 182, .inl g))], [(q2, .inl (gA G 0, 1092, .inl pa))]] (Qi G (fun (r : Int32) (u : Nat × Nat × (Nat → Int32) × Nat × (Nat → Int32)) => (r = barClaimS g p1 p2 is ∧ u.2.2.1 = g ∧ u.2.2.2.1 = n ∧ u.2.2.2.2 = pa ∧ barClaimS g p1 p2 is < nI 0) ∨ (p1 = nI u.1 ∧ p2 = nI u.2.1 ∧ r = nI (card (sayS g (Ed u.1 u.2.1) is (t % 3) (11 + t % 3) ||| sayS g (Ed u.1 u.2.1) is (t % 3) (14 + t % 3))) ∧ u.2.2.1 = sayS g (Ed u.1 u.2.1) is (t % 3) ∧ u.2.2.2.1 = recN n ∧ u.2.2.2.2 = recP n pa g ∧ u.1 < 8 ∧ u.2.1 < 8 ∧ u.1 ≠ u.2.1 ∧ (nI 0 ≤ is ∧ is ≤ nI 1) ∧ g 6 = 1 ∧ barClaimS g (nI u.1) (nI u.2.1) is = nI 0)) (fun (u : Nat × Nat × (Nat → Int32) × Nat × (Nat → Int32)) => [[(h0, .inr (3, [.ref q1, .ref q2, .int (nI u.2.2.2.1), .ref q3, .ref q4, .ref q5, .int length, .int known, .int there, .ref q6, .int spot, .int isWrong, .int sign, .int digit, .int first, .int second]))], [(q1, .inl (gA G 0, 182, .inl u.2.2.1))], [(q2, .inl (gA G 0, 1092, .inl u.2.2.2.2))]])) := by
  refine Cg.intro (own := RX3) (cc := cX3_claim) (maxL := 5) (ret := (some FieldType.int)) (by decide +kernel) rfl rfl (Nat.le_of_ble_eq_true rfl) ?_
  intro p e s m ag below meth c A ls Q X hr hlk hnm S hl hQ
  have hx := X.1
  have hb := X.2.1
  have hl : lv_has ls 5 [(0, .ref h0), (1, .int p1), (2, .int p2), (3, .int is)] := hl
  refine lv_aload_n hx hb dX3_claim_0 rfl (lv_at hl 0 rfl) ?_
  refine lv_iload_n hx hb dX3_claim_1 rfl (lv_at hl 1 rfl) ?_
  refine lv_iload_n hx hb dX3_claim_2 rfl (lv_at hl 2 rfl) ?_
  refine lv_iload_n hx hb dX3_claim_3 rfl (lv_at hl 3 rfl) ?_
  have hq1 := S.cut (Bc := [[(h0, .inr (3, [.ref q1, .ref q2, .int (nI n), .ref q3, .ref q4, .ref q5, .int length, .int known, .int there, .ref q6, .int spot, .int isWrong, .int sign, .int digit, .int first, .int second]))], [(q1, .inl (gA G 0, 182, .inl g))]]) (Br := [[(q2, .inl (gA G 0, 1092, .inl pa))]]) [0, 1] [2] (show ([0, 1] ++ ([2] : List Nat)).isPerm (List.range 3) = true by decide +kernel) rfl rfl
  refine m_ri X S hq1 (m_runV (rest := []) (As := [.int p1, .int p2, .int is]) (n := 3) X S hq1 (mt_X3_barClaim G l h0 q1 q2 q3 q4 q5 q6 (nI n) length known there spot isWrong sign digit first second g p1 p2 is ) (lw_V q1827 q1829 qs52 q90 q1830) (m_recv X S 0 rfl rfl) (by decide +kernel) ⟨Nat.le_of_ble_eq_true rfl, Nat.le_of_ble_eq_true rfl⟩ rfl hl.1 rfl (Nat.le_of_ble_eq_true rfl) dX3_claim_4 ⟨(Nat.le_of_ble_eq_true rfl), (Nat.le_of_ble_eq_true rfl)⟩) (fun r2 u H locs hp2 S => ?_)
  obtain ⟨a, b⟩ := u
  have hp2 : (r2 = barClaimS g p1 p2 is ∧ barClaimS g p1 p2 is < nI 0) ∨ (r2 = nI 0 ∧ p1 = nI a ∧ p2 = nI b ∧ a < 8 ∧ b < 8 ∧ a ≠ b ∧ (nI 0 ≤ is ∧ is ≤ nI 1) ∧ g 6 = 1 ∧ barClaimS g (nI a) (nI b) is = nI 0) := hp2
  have S : Sw G A s.heap [[(q2, .inl (gA G 0, 1092, .inl pa))], [(h0, .inr (3, [.ref q1, .ref q2, .int (nI n), .ref q3, .ref q4, .ref q5, .int length, .int known, .int there, .ref q6, .int spot, .int isWrong, .int sign, .int digit, .int first, .int second]))], [(q1, .inl (gA G 0, 182, .inl g))]] _ _ := S
  rcases hp2 with ⟨hhp2_0, hhp2_1⟩ | ⟨hhp2_0, hhp2_1, hhp2_2, hhp2_3, hhp2_4, hhp2_5, hhp2_6, hhp2_7, hhp2_8⟩
  · skip
    subst hhp2_0
    have hf0_r2 := hhp2_1
    have S : Sw G A s.heap [[(q2, .inl (gA G 0, 1092, .inl pa))], [(h0, .inr (3, [.ref q1, .ref q2, .int (nI n), .ref q3, .ref q4, .ref q5, .int length, .int known, .int there, .ref q6, .int spot, .int isWrong, .int sign, .int digit, .int first, .int second]))], [(q1, .inl (gA G 0, 182, .inl g))]] _ _ := S
    refine lv_istore (lv' := [(4, .int (barClaimS g p1 p2 is)), (0, .ref h0), (1, .int p1), (2, .int p2), (3, .int is)]) hx hb dX3_claim_7 hl (Nat.le_of_ble_eq_true rfl) rfl (fun ls hl => ?_)
    refine lv_iload hx hb dX3_claim_9 (lv_at hl 0 rfl) ?_
    refine lv_if_ge (tgt := 17) hx hb dX3_claim_11 (by decide) (fun c11_3 => ?_) (fun c11_3 => ?_)
    · skip
      have c11_3 : (nI 0) ≤ (barClaimS g p1 p2 is) := c11_3
      exact absurd c11_3 (Int32.not_le.mpr (by assumption))
    · skip
      have c11_3 : ¬ (nI 0) ≤ (barClaimS g p1 p2 is) := c11_3
      refine lv_iload hx hb dX3_claim_14 (lv_at hl 0 rfl) ?_
      exact m_iret X hr hlk hQ S ⟨0, 0, g, n, pa⟩ (by show ((barClaimS g p1 p2 is) = barClaimS g p1 p2 is ∧ g = g ∧ n = n ∧ pa = pa ∧ barClaimS g p1 p2 is < nI 0) ∨ (p1 = nI 0 ∧ p2 = nI 0 ∧ (barClaimS g p1 p2 is) = nI (card (sayS g (Ed 0 0) is (t % 3) (11 + t % 3) ||| sayS g (Ed 0 0) is (t % 3) (14 + t % 3))) ∧ g = sayS g (Ed 0 0) is (t % 3) ∧ n = recN n ∧ pa = recP n pa g ∧ 0 < 8 ∧ 0 < 8 ∧ 0 ≠ 0 ∧ (nI 0 ≤ is ∧ is ≤ nI 1) ∧ g 6 = 1 ∧ barClaimS g (nI 0) (nI 0) is = nI 0); first | exact Or.inl ⟨(by with_reducible rfl), (by with_reducible rfl), (by with_reducible rfl), (by with_reducible rfl), (by assumption)⟩ | exact Or.inr (⟨(by with_reducible rfl), (by with_reducible rfl), (by with_reducible rfl), (by with_reducible rfl), (by with_reducible rfl), (by with_reducible rfl), (by first | assumption | omega), (by first | assumption | omega), (by first | assumption | omega), (by first | assumption | exact ⟨(by assumption), (by assumption)⟩), (by assumption), (by assumption)⟩)) [1, 2, 0] [] (show ([1, 2, 0] ++ ([] : List Nat)).isPerm (List.range 3) = true by decide +kernel) rfl (Nat.le_of_ble_eq_true rfl) (Nat.le_of_ble_eq_true rfl) dX3_claim_16
  · skip
    subst hhp2_0
    subst hhp2_1
    subst hhp2_2
    have hf0_r2 := hhp2_3
    have hf1_r2 := hhp2_4
    have hf2_r2 := hhp2_5
    have hf3_r2 := hhp2_6
    have hf4_r2 := hhp2_7
    have hf5_r2 := hhp2_8
    have S : Sw G A s.heap [[(q2, .inl (gA G 0, 1092, .inl pa))], [(h0, .inr (3, [.ref q1, .ref q2, .int (nI n), .ref q3, .ref q4, .ref q5, .int length, .int known, .int there, .ref q6, .int spot, .int isWrong, .int sign, .int digit, .int first, .int second]))], [(q1, .inl (gA G 0, 182, .inl g))]] _ _ := S
    refine lv_istore (lv' := [(4, .int (nI 0)), (0, .ref h0), (1, .int (nI a)), (2, .int (nI b)), (3, .int is)]) hx hb dX3_claim_7 hl (Nat.le_of_ble_eq_true rfl) rfl (fun ls hl => ?_)
    refine lv_iload hx hb dX3_claim_9 (lv_at hl 0 rfl) ?_
    refine lv_if_ge (tgt := 17) hx hb dX3_claim_11 (by decide) (fun c11_4 => ?_) (fun c11_4 => absurd (by decide) c11_4)
    refine lv_aload_n hx hb dX3_claim_17 rfl (lv_at hl 1 rfl) ?_
    have hq5 := S.cut (Bc := [[(h0, .inr (3, [.ref q1, .ref q2, .int (nI n), .ref q3, .ref q4, .ref q5, .int length, .int known, .int there, .ref q6, .int spot, .int isWrong, .int sign, .int digit, .int first, .int second]))], [(q1, .inl (gA G 0, 182, .inl g))], [(q2, .inl (gA G 0, 1092, .inl pa))]]) (Br := []) [1, 2, 0] [] (show ([1, 2, 0] ++ ([] : List Nat)).isPerm (List.range 3) = true by decide +kernel) rfl rfl
    refine m_rv X S hq5 (m_runV (rest := []) (As := []) (n := 0) X S hq5 (mt_X3_records G l h0 q1 q2 q3 q4 q5 q6 length known there spot isWrong sign digit first second g pa n (by omega)) (lw_V q1775 q1777 qs46 q90 q1778) (m_recv X S 1 rfl rfl) (by decide +kernel) ⟨Nat.le_of_ble_eq_true rfl, Nat.le_of_ble_eq_true rfl⟩ rfl hl.1 rfl (Nat.le_of_ble_eq_true rfl) dX3_claim_18 ⟨(Nat.le_of_ble_eq_true rfl), (Nat.le_of_ble_eq_true rfl)⟩) (fun u H locs hp6 S => ?_)
    obtain ⟨u7, u8⟩ := u
    have hp6 : (u7 = recN n ∧ u8 = recP n pa g) := hp6
    have S : Sw G A s.heap [[(h0, .inr (3, [.ref q1, .ref q2, .int (nI u7), .ref q3, .ref q4, .ref q5, .int length, .int known, .int there, .ref q6, .int spot, .int isWrong, .int sign, .int digit, .int first, .int second]))], [(q1, .inl (gA G 0, 182, .inl g))], [(q2, .inl (gA G 0, 1092, .inl u8))]] _ _ := S
    rcases hp6 with ⟨hhp6_0, hhp6_1⟩
    subst hhp6_0
    subst hhp6_1
    have S : Sw G A s.heap [[(h0, .inr (3, [.ref q1, .ref q2, .int (nI (recN n)), .ref q3, .ref q4, .ref q5, .int length, .int known, .int there, .ref q6, .int spot, .int isWrong, .int sign, .int digit, .int first, .int second]))], [(q1, .inl (gA G 0, 182, .inl g))], [(q2, .inl (gA G 0, 1092, .inl (recP n pa g)))]] _ _ := S
    refine lv_aload_n hx hb dX3_claim_21 rfl (lv_at hl 1 rfl) ?_
    refine lv_iload_n hx hb dX3_claim_22 rfl (lv_at hl 2 rfl) ?_
    refine lv_iload_n hx hb dX3_claim_23 rfl (lv_at hl 3 rfl) ?_
    refine lv_iload_n hx hb dX3_claim_24 rfl (lv_at hl 4 rfl) ?_
    have hq9 := S.cut (Bc := [[(h0, .inr (3, [.ref q1, .ref q2, .int (nI (recN n)), .ref q3, .ref q4, .ref q5, .int length, .int known, .int there, .ref q6, .int spot, .int isWrong, .int sign, .int digit, .int first, .int second]))], [(q1, .inl (gA G 0, 182, .inl g))]]) (Br := [[(q2, .inl (gA G 0, 1092, .inl (recP n pa g)))]]) [0, 1] [2] (show ([0, 1] ++ ([2] : List Nat)).isPerm (List.range 3) = true by decide +kernel) rfl rfl
    refine m_ri X S hq9 (m_runV (rest := []) (As := [.int (nI a), .int (nI b), .int is]) (n := 3) X S hq9 (mt_X3_says G l h0 q1 q2 q3 q4 q5 q6 (nI (recN n)) length known there spot isWrong sign digit first second g t a b is (by omega) (by omega) (by omega) (by omega) (by omega)) (lw_V q1835 q1837 qs54 q90 q1838) (m_recv X S 0 rfl rfl) (by decide +kernel) ⟨Nat.le_of_ble_eq_true rfl, Nat.le_of_ble_eq_true rfl⟩ rfl hl.1 rfl (Nat.le_of_ble_eq_true rfl) dX3_claim_25 ⟨(Nat.le_of_ble_eq_true rfl), (Nat.le_of_ble_eq_true rfl)⟩) (fun r10 u H locs hp10 S => ?_)
    obtain ⟨u11, rfl⟩ : ∃ z, z = u := ⟨_, rfl⟩
    have hp10 : (r10 = nI (card (sayS g (Ed a b) is (t % 3) (11 + t % 3) ||| sayS g (Ed a b) is (t % 3) (14 + t % 3))) ∧ u11 = sayS g (Ed a b) is (t % 3)) := hp10
    have S : Sw G A s.heap [[(q2, .inl (gA G 0, 1092, .inl (recP n pa g)))], [(h0, .inr (3, [.ref q1, .ref q2, .int (nI (recN n)), .ref q3, .ref q4, .ref q5, .int length, .int known, .int there, .ref q6, .int spot, .int isWrong, .int sign, .int digit, .int first, .int second]))], [(q1, .inl (gA G 0, 182, .inl u11))]] _ _ := S
    rcases hp10 with ⟨hhp10_0, hhp10_1⟩
    subst hhp10_0
    subst hhp10_1
    have S : Sw G A s.heap [[(q2, .inl (gA G 0, 1092, .inl (recP n pa g)))], [(h0, .inr (3, [.ref q1, .ref q2, .int (nI (recN n)), .ref q3, .ref q4, .ref q5, .int length, .int known, .int there, .ref q6, .int spot, .int isWrong, .int sign, .int digit, .int first, .int second]))], [(q1, .inl (gA G 0, 182, .inl (sayS g (Ed a b) is (t % 3))))]] _ _ := S
    exact m_iret X hr hlk hQ S ⟨a, b, sayS g (Ed a b) is (t % 3), recN n, recP n pa g⟩ (by show ((nI (card (sayS g (Ed a b) is (t % 3) (11 + t % 3) ||| sayS g (Ed a b) is (t % 3) (14 + t % 3)))) = barClaimS g (nI a) (nI b) is ∧ (sayS g (Ed a b) is (t % 3)) = g ∧ (recN n) = n ∧ (recP n pa g) = pa ∧ barClaimS g (nI a) (nI b) is < nI 0) ∨ ((nI a) = nI a ∧ (nI b) = nI b ∧ (nI (card (sayS g (Ed a b) is (t % 3) (11 + t % 3) ||| sayS g (Ed a b) is (t % 3) (14 + t % 3)))) = nI (card (sayS g (Ed a b) is (t % 3) (11 + t % 3) ||| sayS g (Ed a b) is (t % 3) (14 + t % 3))) ∧ (sayS g (Ed a b) is (t % 3)) = sayS g (Ed a b) is (t % 3) ∧ (recN n) = recN n ∧ (recP n pa g) = recP n pa g ∧ a < 8 ∧ b < 8 ∧ a ≠ b ∧ (nI 0 ≤ is ∧ is ≤ nI 1) ∧ g 6 = 1 ∧ barClaimS g (nI a) (nI b) is = nI 0); first | exact Or.inl ⟨(by with_reducible rfl), (by with_reducible rfl), (by with_reducible rfl), (by with_reducible rfl), (by assumption)⟩ | exact Or.inr (⟨(by with_reducible rfl), (by with_reducible rfl), (by with_reducible rfl), (by with_reducible rfl), (by with_reducible rfl), (by with_reducible rfl), (by first | assumption | omega), (by first | assumption | omega), (by first | assumption | omega), (by first | assumption | exact ⟨(by assumption), (by assumption)⟩), (by assumption), (by assumption)⟩)) [1, 2, 0] [] (show ([1, 2, 0] ++ ([] : List Nat)).isPerm (List.range 3) = true by decide +kernel) rfl (Nat.le_of_ble_eq_true rfl) (Nat.le_of_ble_eq_true rfl) dX3_claim_28
