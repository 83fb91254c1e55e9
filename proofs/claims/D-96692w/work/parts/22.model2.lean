/-! the model: minutes -/
set_option maxRecDepth 100000
theorem cd_X4_gains : yX4_gains.cls = RX4 ∧ yX4_gains.cls ≠ "java/lang/invoke/MethodHandle" ∧ yX4_gains.cls ≠ "java/lang/invoke/VarHandle" ∧ (parseMethodDescriptor yX4_gains.desc).map (fun d => d.parameters.length) = some 2 := by decide +kernel
set_option maxHeartbeats 4000000 in
theorem m_X4_gains (l : Launch) (D : va_G) (ca : Nat → ClassId) (n : Nat) (B X : Nat → Nat → Int32) (Y : Nat → Nat → Int64) (kp : Nat) (c : Int32) (v : Int32) (hB : wfB n B) : MMv l D ca yX4_gains (ws_ yX4_gains cX4_gains 3 none) (rmN 2) (fun ad => [.int c, .int v]) B X Y kp (sGain n B c v) X Y kp := by
  refine MMv_start (by decide) (fun _ => Nat.le_of_ble_eq_true rfl) ?_
  intro p e s m args below meth c0 ad A Q ls hx hb hml hown hts hK hR hl hQ
  have hl : lv_has ls 3 [(0, .ref (ad 0)), (1, .int c), (2, .int v)] := hl
  have hn6 : n ≤ 6 := hB.1
  refine lv_aload_n hx hb dX4_gains_0 rfl (lv_at hl 0 rfl) ?_
  refine lv_iload_n hx hb dX4_gains_1 rfl (lv_at hl 1 rfl) ?_
  refine mm_calli (rest := []) hx hb hml hown hts hK hl.1 hR (m_X4_isChild l D ca n B X Y kp c hB) (cwV 1 hts (lw_V q1336 q1338 qs44 q82 q1339) rfl rfl rfl cd_X4_isChild ⟨Nat.le_of_ble_eq_true rfl, Nat.le_of_ble_eq_true rfl⟩) rfl rfl (Nat.le_of_ble_eq_true rfl) dX4_gains_2 ⟨Nat.le_refl _, Nat.le_refl _⟩ (fun H locs hR => ?_)
  refine lb_eq (tgt := 27) hx hb dX4_gains_5 (by decide) (fun c_1 => ?_) (fun c_1 => ?_)
  · skip
    exact hQ _ _ _ _ (RW.eq hR (by first | (simp [sGain, c_1]; done) | simp_all [sGain])) dX4_gains_27
  · skip
    obtain ⟨jc, hjc, rfl⟩ := isC_nat hn6 c_1
    refine lv_aload_n hx hb dX4_gains_8 rfl (lv_at hl 0 rfl) ?_
    refine rw_get (v := .ref (ad 3)) hx hb hts in_X4 hown hK hR 0 (by decide) rfl rfl 3 (by decide) q1165 rfl rfl dX4_gains_9 ?_
    refine lv_iload_n hx hb dX4_gains_12 rfl (lv_at hl 1 rfl) ?_
    refine lv_aload_n hx hb dX4_gains_13 rfl (lv_at hl 0 rfl) ?_
    refine rw_get (v := .ref (ad 3)) hx hb hts in_X4 hown hK hR 0 (by decide) rfl rfl 3 (by decide) q1165 rfl rfl dX4_gains_14 ?_
    refine lv_iload_n hx hb dX4_gains_17 rfl (lv_at hl 1 rfl) ?_
    refine rw_ialdN (n := 6) hx hb hK hR 3 (by decide) rfl jc rfl (by omega) (by decide) dX4_gains_18 ?_
    refine lv_iload_n hx hb dX4_gains_19 rfl (lv_at hl 2 rfl) ?_
    refine lv_iadd hx hb dX4_gains_20 ?_
    refine lv_bipush (v := 20) hx hb dX4_gains_21 (by decide) ?_
    refine rs_calli (rest := [.int (nI jc), .ref (ad 3)]) hx hb hml hown hts hl.1 hR (m_X4_held l ((B 3 jc) + v) 20) (va_cwS 2 hts (lw_S q1355 q1356 q82 q1357) rfl rfl rfl cd_X4_held ⟨Nat.le_of_ble_eq_true rfl, Nat.le_of_ble_eq_true rfl⟩) rfl rfl (Nat.le_of_ble_eq_true rfl) dX4_gains_23 ⟨Nat.le_refl _, Nat.le_refl _⟩ (fun H locs hR => ?_)
    refine rw_iastN (n := 6) hx hb hK hR 3 (by decide) rfl jc rfl (by omega) (by decide) dX4_gains_26 (mE_B 3 (by decide)) (fun H locs hR => ?_)
    exact hQ _ _ _ _ (RW.eq hR (by first | (simp [sGain, c_1, nI_clamp (show jc < 2 ^ 31 by omega)]; done) | simp_all [sGain, nI_clamp (show jc < 2 ^ 31 by omega)])) dX4_gains_27
theorem cd_X4_letGo : yX4_letGo.cls = RX4 ∧ yX4_letGo.cls ≠ "java/lang/invoke/MethodHandle" ∧ yX4_letGo.cls ≠ "java/lang/invoke/VarHandle" ∧ (parseMethodDescriptor yX4_letGo.desc).map (fun d => d.parameters.length) = some 1 := by decide +kernel
set_option maxHeartbeats 4000000 in
theorem m_X4_letGo (l : Launch) (D : va_G) (ca : Nat → ClassId) (n : Nat) (B X : Nat → Nat → Int32) (Y : Nat → Nat → Int64) (kp : Nat) (j : Nat) (hB : wfB n B) (hj : j < n) : MMv l D ca yX4_letGo (ws_ yX4_letGo cX4_letGo 3 none) (rmN 3) (fun ad => [.int (nI j)]) B X Y kp (sLet n B j) X Y kp := by
  refine MMv_start (by decide) (fun _ => Nat.le_of_ble_eq_true rfl) ?_
  intro p e s m args below meth c0 ad A Q ls hx hb hml hown hts hK hR hl hQ
  have hl : lv_has ls 3 [(0, .ref (ad 0)), (1, .int (nI j))] := hl
  have hn6 : n ≤ 6 := hB.1
  refine lv_aload_n hx hb dX4_letGo_0 rfl (lv_at hl 0 rfl) ?_
  refine lv_iload_n hx hb dX4_letGo_1 rfl (lv_at hl 1 rfl) ?_
  refine mm_calli (rest := []) hx hb hml hown hts hK hl.1 hR (m_X4_passesOf l D ca B X Y kp j (by omega)) (cwV 1 hts (lw_V q1370 q1372 qs51 q82 q1373) rfl rfl rfl cd_X4_passesOf ⟨Nat.le_of_ble_eq_true rfl, Nat.le_of_ble_eq_true rfl⟩) rfl rfl (Nat.le_of_ble_eq_true rfl) dX4_letGo_2 ⟨Nat.le_refl _, Nat.le_refl _⟩ (fun H locs hR => ?_)
  refine lv_istore_n (lv' := [(2, .int (passesF (B 1 j))), (0, .ref (ad 0)), (1, .int (nI j))]) hx hb dX4_letGo_5 rfl hl (by decide) rfl (fun ls hl => ?_)
  refine lv_aload_n hx hb dX4_letGo_6 rfl (lv_at hl 1 rfl) ?_
  refine lv_iload_n hx hb dX4_letGo_7 rfl (lv_at hl 2 rfl) ?_
  refine mm_calli (rest := []) hx hb hml hown hts hK hl.1 hR (m_X4_isReady l D ca B X Y kp j (by omega)) (cwV 1 hts (lw_V q1374 q1376 qs52 q82 q1377) rfl rfl rfl cd_X4_isReady ⟨Nat.le_of_ble_eq_true rfl, Nat.le_of_ble_eq_true rfl⟩) rfl rfl (Nat.le_of_ble_eq_true rfl) dX4_letGo_8 ⟨Nat.le_refl _, Nat.le_refl _⟩ (fun H locs hR => ?_)
  refine lb_eq (tgt := 43) hx hb dX4_letGo_11 (by decide) (fun c_1 => ?_) (fun c_1 => ?_)
  · skip
    refine lv_aload_n hx hb dX4_letGo_43 rfl (lv_at hl 1 rfl) ?_
    refine lv_iload_n hx hb dX4_letGo_44 rfl (lv_at hl 2 rfl) ?_
    refine lv_aload_n hx hb dX4_letGo_45 rfl (lv_at hl 1 rfl) ?_
    refine lv_iload_n hx hb dX4_letGo_46 rfl (lv_at hl 2 rfl) ?_
    refine mm_calli (rest := [.int (nI j), .ref (ad 0)]) hx hb hml hown hts hK hl.1 hR (m_X4_frightOf l D ca B X Y kp j (by omega)) (cwV 1 hts (lw_V q1378 q1380 qs53 q82 q1381) rfl rfl rfl cd_X4_frightOf ⟨Nat.le_of_ble_eq_true rfl, Nat.le_of_ble_eq_true rfl⟩) rfl rfl (Nat.le_of_ble_eq_true rfl) dX4_letGo_47 ⟨Nat.le_refl _, Nat.le_refl _⟩ (fun H locs hR => ?_)
    refine lv_ineg hx hb dX4_letGo_50 ?_
    refine mm_callv (rest := []) hx hb hml hown hts hK hl.1 hR (m_X4_gains l D ca n B X Y kp (nI j) (-(frightF (B 1 j) (B 2 j))) hB) (cwV 2 hts (lw_V q1351 q1353 qs47 q82 q1354) rfl rfl rfl cd_X4_gains ⟨Nat.le_of_ble_eq_true rfl, Nat.le_of_ble_eq_true rfl⟩) rfl rfl (Nat.le_of_ble_eq_true rfl) dX4_letGo_51 ⟨Nat.le_refl _, Nat.le_refl _⟩ (fun H locs hR => ?_)
    refine lv_aload_n hx hb dX4_letGo_54 rfl (lv_at hl 1 rfl) ?_
    refine lv_iload_n hx hb dX4_letGo_55 rfl (lv_at hl 2 rfl) ?_
    refine lv_iconst (v := 1) hx hb dX4_letGo_56 (by decide) ?_
    refine lv_isub hx hb dX4_letGo_57 ?_
    refine lv_iload_n hx hb dX4_letGo_58 rfl (lv_at hl 0 rfl) ?_
    refine lv_ineg hx hb dX4_letGo_59 ?_
    refine mm_callv (rest := []) hx hb hml hown hts hK hl.1 hR (m_X4_gains l D ca n (sGain n B (nI j) (-(frightF (B 1 j) (B 2 j)))) X Y kp ((nI j) - 1) (-(passesF (B 1 j))) (wf_gain hB (nI j) (-(frightF (B 1 j) (B 2 j))))) (cwV 2 hts (lw_V q1351 q1353 qs47 q82 q1354) rfl rfl rfl cd_X4_gains ⟨Nat.le_of_ble_eq_true rfl, Nat.le_of_ble_eq_true rfl⟩) rfl rfl (Nat.le_of_ble_eq_true rfl) dX4_letGo_60 ⟨Nat.le_refl _, Nat.le_refl _⟩ (fun H locs hR => ?_)
    refine lv_aload_n hx hb dX4_letGo_63 rfl (lv_at hl 1 rfl) ?_
    refine lv_iload_n hx hb dX4_letGo_64 rfl (lv_at hl 2 rfl) ?_
    refine lv_iconst (v := 1) hx hb dX4_letGo_65 (by decide) ?_
    refine lv_iadd hx hb dX4_letGo_66 ?_
    refine W.eqs (st2 := [.int (nI (j + 1)), .ref (ad 0)]) (congrArg (fun z : Int32 => Value.int z :: _) (nI_add j 1)) ?_
    refine lv_iload_n hx hb dX4_letGo_67 rfl (lv_at hl 0 rfl) ?_
    refine lv_ineg hx hb dX4_letGo_68 ?_
    refine mm_callv (rest := []) hx hb hml hown hts hK hl.1 hR (m_X4_gains l D ca n (sGain n (sGain n B (nI j) (-(frightF (B 1 j) (B 2 j)))) ((nI j) - 1) (-(passesF (B 1 j)))) X Y kp (nI (j + 1)) (-(passesF (B 1 j))) (wf_gain (wf_gain hB (nI j) (-(frightF (B 1 j) (B 2 j)))) ((nI j) - 1) (-(passesF (B 1 j))))) (cwV 2 hts (lw_V q1351 q1353 qs47 q82 q1354) rfl rfl rfl cd_X4_gains ⟨Nat.le_of_ble_eq_true rfl, Nat.le_of_ble_eq_true rfl⟩) rfl rfl (Nat.le_of_ble_eq_true rfl) dX4_letGo_69 ⟨Nat.le_refl _, Nat.le_refl _⟩ (fun H locs hR => ?_)
    exact hQ _ _ _ _ (RW.eq hR (by simp [sLet, c_1])) dX4_letGo_72
  · skip
    refine lv_aload_n hx hb dX4_letGo_14 rfl (lv_at hl 1 rfl) ?_
    refine rw_get (v := .ref (ad 4)) hx hb hts in_X4 hown hK hR 0 (by decide) rfl rfl 4 (by decide) q1166 rfl rfl dX4_letGo_15 ?_
    refine lv_iload_n hx hb dX4_letGo_18 rfl (lv_at hl 2 rfl) ?_
    refine lv_dup2_11 hx hb dX4_letGo_19 rfl rfl ?_
    refine rw_ialdN (n := 6) hx hb hK hR 4 (by decide) rfl j rfl (by omega) (by decide) dX4_letGo_20 ?_
    refine lv_iconst (v := 1) hx hb dX4_letGo_21 (by decide) ?_
    refine lv_iadd hx hb dX4_letGo_22 ?_
    refine rw_iastN (n := 6) hx hb hK hR 4 (by decide) rfl j rfl (by omega) (by decide) dX4_letGo_23 (mE_B 4 (by decide)) (fun H locs hR => ?_)
    refine lv_aload_n hx hb dX4_letGo_24 rfl (lv_at hl 1 rfl) ?_
    refine lv_iload_n hx hb dX4_letGo_25 rfl (lv_at hl 2 rfl) ?_
    refine lv_iconst (v := 1) hx hb dX4_letGo_26 (by decide) ?_
    refine lv_isub hx hb dX4_letGo_27 ?_
    refine lv_iload_n hx hb dX4_letGo_28 rfl (lv_at hl 0 rfl) ?_
    refine mm_callv (rest := []) hx hb hml hown hts hK hl.1 hR (m_X4_gains l D ca n (st B 4 j ((B 4 j) + 1)) X Y kp ((nI j) - 1) (passesF (B 1 j)) (wf_st4 hB (by omega) (rng_add1 ⟨(hB.2.2.2.2.2.1 j).1, rdy_lt c_1⟩ (by decide)))) (cwV 2 hts (lw_V q1351 q1353 qs47 q82 q1354) rfl rfl rfl cd_X4_gains ⟨Nat.le_of_ble_eq_true rfl, Nat.le_of_ble_eq_true rfl⟩) rfl rfl (Nat.le_of_ble_eq_true rfl) dX4_letGo_29 ⟨Nat.le_refl _, Nat.le_refl _⟩ (fun H locs hR => ?_)
    refine lv_aload_n hx hb dX4_letGo_32 rfl (lv_at hl 1 rfl) ?_
    refine lv_iload_n hx hb dX4_letGo_33 rfl (lv_at hl 2 rfl) ?_
    refine lv_iconst (v := 1) hx hb dX4_letGo_34 (by decide) ?_
    refine lv_iadd hx hb dX4_letGo_35 ?_
    refine W.eqs (st2 := [.int (nI (j + 1)), .ref (ad 0)]) (congrArg (fun z : Int32 => Value.int z :: _) (nI_add j 1)) ?_
    refine lv_iload_n hx hb dX4_letGo_36 rfl (lv_at hl 0 rfl) ?_
    refine mm_callv (rest := []) hx hb hml hown hts hK hl.1 hR (m_X4_gains l D ca n (sGain n (st B 4 j ((B 4 j) + 1)) ((nI j) - 1) (passesF (B 1 j))) X Y kp (nI (j + 1)) (passesF (B 1 j)) (wf_gain (wf_st4 hB (by omega) (rng_add1 ⟨(hB.2.2.2.2.2.1 j).1, rdy_lt c_1⟩ (by decide))) ((nI j) - 1) (passesF (B 1 j)))) (cwV 2 hts (lw_V q1351 q1353 qs47 q82 q1354) rfl rfl rfl cd_X4_gains ⟨Nat.le_of_ble_eq_true rfl, Nat.le_of_ble_eq_true rfl⟩) rfl rfl (Nat.le_of_ble_eq_true rfl) dX4_letGo_37 ⟨Nat.le_refl _, Nat.le_refl _⟩ (fun H locs hR => ?_)
    refine lv_goto (tgt := 72) hx hb dX4_letGo_40 (by decide) ?_
    exact hQ _ _ _ _ (RW.eq hR (by simp [sLet, c_1])) dX4_letGo_72
theorem cd_X4_show : yX4_show.cls = RX4 ∧ yX4_show.cls ≠ "java/lang/invoke/MethodHandle" ∧ yX4_show.cls ≠ "java/lang/invoke/VarHandle" ∧ (parseMethodDescriptor yX4_show.desc).map (fun d => d.parameters.length) = some 1 := by decide +kernel
set_option maxHeartbeats 4000000 in
theorem m_X4_show (l : Launch) (D : va_G) (ca : Nat → ClassId) (n : Nat) (B X : Nat → Nat → Int32) (Y : Nat → Nat → Int64) (kp : Nat) (j : Nat) (hB : wfB n B) (hj : j < n) : MMv l D ca yX4_show (ws_ yX4_show cX4_show 6 none) (rmN 3) (fun ad => [.int (nI j)]) B X Y kp (sShow n B j) X Y kp := by
  refine MMv_start (by decide) (fun _ => Nat.le_of_ble_eq_true rfl) ?_
  intro p e s m args below meth c0 ad A Q ls hx hb hml hown hts hK hR hl hQ
  have hl : lv_has ls 6 [(0, .ref (ad 0)), (1, .int (nI j))] := hl
  have hn6 : n ≤ 6 := hB.1
  refine lv_iconst (v := 0) hx hb dX4_show_0 (by decide) ?_
  refine lv_istore_n (lv' := [(2, .int 0), (0, .ref (ad 0)), (1, .int (nI j))]) hx hb dX4_show_1 rfl hl (by decide) rfl (fun ls hl => ?_)
  refine lv_iconst (v := 0) hx hb dX4_show_2 (by decide) ?_
  refine lv_istore_n (lv' := [(3, .int 0), (2, .int 0), (0, .ref (ad 0)), (1, .int (nI j))]) hx hb dX4_show_3 rfl hl (by decide) rfl (fun ls hl => ?_)
  refine lv_iconst (v := 0) hx hb dX4_show_4 (by decide) ?_
  refine lv_istore (lv' := [(4, .int 0), (3, .int 0), (2, .int 0), (0, .ref (ad 0)), (1, .int (nI j))]) hx hb dX4_show_5 hl (by decide) rfl (fun ls hl => ?_)
  have loop_7 : ∀ (nn : Nat) (o : Nat) (any : Bool) (near : Bool), n - o < nn → (o ≤ n) → (any = anyTo B j o) → (near = nearTo B j o) → ∀ (H : Heap) (locs : List Loc), RW D 23 ad (mE ca ad B X Y kp) A s.heap H locs → ∀ (ls : Array Slot), lv_has ls 6 [(0, .ref (ad 0)), (1, .int (nI j)), (2, .int (bI any)), (3, .int (bI near)), (4, .int (nI o))] → W p l e (rmN 3) s m args below meth c0 H locs 0 0 Q (F0 m 7 ls []) := by
    intro nn
    induction nn with
    | zero => intro o any near hm; exact absurd hm (Nat.not_lt_zero _)
    | succ nn ih_7 =>
      intro o any near hm_7 ho hany hnear H locs hR ls hl
      refine lv_iload hx hb dX4_show_7 (lv_at hl 4 rfl) ?_
      refine lv_aload_n hx hb dX4_show_9 rfl (lv_at hl 0 rfl) ?_
      refine rw_get (v := .int (nI n)) hx hb hts in_X4 hown hK hR 0 (by decide) rfl rfl 0 (by decide) q1162 rfl (mF_ch hB) dX4_show_10 ?_
      refine ln_ge (tgt := 91) hx hb (o) (n) rfl rfl (by omega) (by omega) dX4_show_13 (by decide) (fun c_1 => ?_) (fun c_1 => ?_)
      · skip
        refine lv_aload_n hx hb dX4_show_91 rfl (lv_at hl 0 rfl) ?_
        refine lv_iload_n hx hb dX4_show_92 rfl (lv_at hl 1 rfl) ?_
        refine lv_iload_n hx hb dX4_show_93 rfl (lv_at hl 2 rfl) ?_
        refine lb_eq (tgt := 101) hx hb dX4_show_94 (by decide) (fun c_2 => ?_) (fun c_2 => ?_)
        · skip
          refine lv_iconst (v := 0) hx hb dX4_show_101 (by decide) ?_
          refine lv_iload_n hx hb dX4_show_102 rfl (lv_at hl 3 rfl) ?_
          refine lb_eq (tgt := 110) hx hb dX4_show_103 (by decide) (fun c_3 => ?_) (fun c_3 => ?_)
          · skip
            refine lv_iconst (v := 0) hx hb dX4_show_110 (by decide) ?_
            refine lv_iadd hx hb dX4_show_111 ?_
            refine W.eqs (st2 := [.int 0, .int (nI j), .ref (ad 0)]) (congrArg (fun z : Int32 => Value.int z :: _) (show ((0 + 0) : Int32) = 0 by decide)) ?_
            refine mm_callv (rest := []) hx hb hml hown hts hK hl.1 hR (m_X4_gains l D ca n B X Y kp (nI j) 0 hB) (cwV 2 hts (lw_V q1351 q1353 qs47 q82 q1354) rfl rfl rfl cd_X4_gains ⟨Nat.le_of_ble_eq_true rfl, Nat.le_of_ble_eq_true rfl⟩) rfl rfl (Nat.le_of_ble_eq_true rfl) dX4_show_112 ⟨Nat.le_refl _, Nat.le_refl _⟩ (fun H locs hR => ?_)
            exact hQ _ _ _ _ (RW.eq hR (by obtain rfl : o = n := (by omega); simp [sShow, shV, ← hany, ← hnear, c_2, c_3])) dX4_show_115
          · skip
            refine lv_iconst (v := 1) hx hb dX4_show_106 (by decide) ?_
            refine lv_goto (tgt := 111) hx hb dX4_show_107 (by decide) ?_
            refine lv_iadd hx hb dX4_show_111 ?_
            refine W.eqs (st2 := [.int 1, .int (nI j), .ref (ad 0)]) (congrArg (fun z : Int32 => Value.int z :: _) (show ((0 + 1) : Int32) = 1 by decide)) ?_
            refine mm_callv (rest := []) hx hb hml hown hts hK hl.1 hR (m_X4_gains l D ca n B X Y kp (nI j) 1 hB) (cwV 2 hts (lw_V q1351 q1353 qs47 q82 q1354) rfl rfl rfl cd_X4_gains ⟨Nat.le_of_ble_eq_true rfl, Nat.le_of_ble_eq_true rfl⟩) rfl rfl (Nat.le_of_ble_eq_true rfl) dX4_show_112 ⟨Nat.le_refl _, Nat.le_refl _⟩ (fun H locs hR => ?_)
            exact hQ _ _ _ _ (RW.eq hR (by obtain rfl : o = n := (by omega); exact absurd (near_any B j _ (hnear ▸ c_3)) (by rw [← hany, c_2]; decide))) dX4_show_115
        · skip
          refine lv_iconst (v := 1) hx hb dX4_show_97 (by decide) ?_
          refine lv_goto (tgt := 102) hx hb dX4_show_98 (by decide) ?_
          refine lv_iload_n hx hb dX4_show_102 rfl (lv_at hl 3 rfl) ?_
          refine lb_eq (tgt := 110) hx hb dX4_show_103 (by decide) (fun c_4 => ?_) (fun c_4 => ?_)
          · skip
            refine lv_iconst (v := 0) hx hb dX4_show_110 (by decide) ?_
            refine lv_iadd hx hb dX4_show_111 ?_
            refine W.eqs (st2 := [.int 1, .int (nI j), .ref (ad 0)]) (congrArg (fun z : Int32 => Value.int z :: _) (show ((1 + 0) : Int32) = 1 by decide)) ?_
            refine mm_callv (rest := []) hx hb hml hown hts hK hl.1 hR (m_X4_gains l D ca n B X Y kp (nI j) 1 hB) (cwV 2 hts (lw_V q1351 q1353 qs47 q82 q1354) rfl rfl rfl cd_X4_gains ⟨Nat.le_of_ble_eq_true rfl, Nat.le_of_ble_eq_true rfl⟩) rfl rfl (Nat.le_of_ble_eq_true rfl) dX4_show_112 ⟨Nat.le_refl _, Nat.le_refl _⟩ (fun H locs hR => ?_)
            exact hQ _ _ _ _ (RW.eq hR (by obtain rfl : o = n := (by omega); simp [sShow, shV, ← hany, ← hnear, c_2, c_4])) dX4_show_115
          · skip
            refine lv_iconst (v := 1) hx hb dX4_show_106 (by decide) ?_
            refine lv_goto (tgt := 111) hx hb dX4_show_107 (by decide) ?_
            refine lv_iadd hx hb dX4_show_111 ?_
            refine W.eqs (st2 := [.int 2, .int (nI j), .ref (ad 0)]) (congrArg (fun z : Int32 => Value.int z :: _) (show ((1 + 1) : Int32) = 2 by decide)) ?_
            refine mm_callv (rest := []) hx hb hml hown hts hK hl.1 hR (m_X4_gains l D ca n B X Y kp (nI j) 2 hB) (cwV 2 hts (lw_V q1351 q1353 qs47 q82 q1354) rfl rfl rfl cd_X4_gains ⟨Nat.le_of_ble_eq_true rfl, Nat.le_of_ble_eq_true rfl⟩) rfl rfl (Nat.le_of_ble_eq_true rfl) dX4_show_112 ⟨Nat.le_refl _, Nat.le_refl _⟩ (fun H locs hR => ?_)
            exact hQ _ _ _ _ (RW.eq hR (by obtain rfl : o = n := (by omega); simp [sShow, shV, ← hany, ← hnear, c_2, c_4])) dX4_show_115
      · skip
        refine lv_aload_n hx hb dX4_show_16 rfl (lv_at hl 0 rfl) ?_
        refine rw_get (v := .ref (ad 4)) hx hb hts in_X4 hown hK hR 0 (by decide) rfl rfl 4 (by decide) q1166 rfl rfl dX4_show_17 ?_
        refine lv_iload hx hb dX4_show_20 (lv_at hl 4 rfl) ?_
        refine rw_ialdN (n := 6) hx hb hK hR 4 (by decide) rfl o rfl (by omega) (by decide) dX4_show_22 ?_
        refine lv_aload_n hx hb dX4_show_23 rfl (lv_at hl 0 rfl) ?_
        refine rw_get (v := .ref (ad 4)) hx hb hts in_X4 hown hK hR 0 (by decide) rfl rfl 4 (by decide) q1166 rfl rfl dX4_show_24 ?_
        refine lv_iload_n hx hb dX4_show_27 rfl (lv_at hl 1 rfl) ?_
        refine rw_ialdN (n := 6) hx hb hK hR 4 (by decide) rfl j rfl (by omega) (by decide) dX4_show_28 ?_
        refine lj_le (tgt := 36) hx hb dX4_show_29 (by decide) (fun c_5 => ?_) (fun c_5 => ?_)
        · skip
          refine lv_iconst (v := 0) hx hb dX4_show_36 (by decide) ?_
          refine lv_istore (lv' := [(5, .int 0), (0, .ref (ad 0)), (1, .int (nI j)), (2, .int (bI any)), (3, .int (bI near)), (4, .int (nI o))]) hx hb dX4_show_37 hl (by decide) rfl (fun ls hl => ?_)
          refine lv_iload_n hx hb dX4_show_39 rfl (lv_at hl 3 rfl) ?_
          refine lb_ne (tgt := 48) hx hb dX4_show_40 (by decide) (fun c_6 => ?_) (fun c_6 => ?_)
          · skip
            refine lv_iconst (v := 1) hx hb dX4_show_48 (by decide) ?_
            refine lv_goto (tgt := 53) hx hb dX4_show_49 (by decide) ?_
            refine lv_istore_n (lv' := [(2, .int 1), (5, .int 0), (0, .ref (ad 0)), (1, .int (nI j)), (3, .int (bI near)), (4, .int (nI o))]) hx hb dX4_show_53 rfl hl (by decide) rfl (fun ls hl => ?_)
            refine lv_iload_n hx hb dX4_show_54 rfl (lv_at hl 4 rfl) ?_
            refine lb_ne (tgt := 79) hx hb dX4_show_55 (by decide) (fun c_7 => ?_) (fun c_7 => ?_)
            · skip
              refine lv_iconst (v := 1) hx hb dX4_show_79 (by decide) ?_
              refine lv_goto (tgt := 84) hx hb dX4_show_80 (by decide) ?_
              refine lv_istore_n (lv' := [(3, .int 1), (2, .int 1), (5, .int 0), (0, .ref (ad 0)), (1, .int (nI j)), (4, .int (nI o))]) hx hb dX4_show_84 rfl hl (by decide) rfl (fun ls hl => ?_)
              refine lv_iinc (v := (nI (o + 1))) (lv' := [(4, .int (nI (o + 1))), (3, .int 1), (2, .int 1), (5, .int 0), (0, .ref (ad 0)), (1, .int (nI j))]) hx hb dX4_show_85 hl (k := 5) rfl (nI_1 o) (by decide) rfl (fun ls hl => ?_)
              refine lv_goto (tgt := 7) hx hb dX4_show_88 (by decide) ?_
              exact ih_7 (o + 1) true true (by omega) (by omega) (by rw [anyTo, ← hany]; first | (simp [c_1, c_5, c_6, c_7]; done) | simp_all) (by rw [nearTo, ← hnear]; first | (simp [c_1, c_5, c_6, c_7]; done) | simp_all) _ _ hR ls (lv_sub hl [4, 5, 2, 1, 0] rfl)
            · skip
              refine lv_iload hx hb dX4_show_58 (lv_at hl 1 rfl) ?_
              refine lv_if_eq (tgt := 83) hx hb dX4_show_60 (by decide) (fun _ => ?_) (fun z => absurd z (by decide))
              refine lv_iconst (v := 0) hx hb dX4_show_83 (by decide) ?_
              refine lv_istore_n (lv' := [(3, .int 0), (2, .int 1), (5, .int 0), (0, .ref (ad 0)), (1, .int (nI j)), (4, .int (nI o))]) hx hb dX4_show_84 rfl hl (by decide) rfl (fun ls hl => ?_)
              refine lv_iinc (v := (nI (o + 1))) (lv' := [(4, .int (nI (o + 1))), (3, .int 0), (2, .int 1), (5, .int 0), (0, .ref (ad 0)), (1, .int (nI j))]) hx hb dX4_show_85 hl (k := 5) rfl (nI_1 o) (by decide) rfl (fun ls hl => ?_)
              refine lv_goto (tgt := 7) hx hb dX4_show_88 (by decide) ?_
              exact ih_7 (o + 1) true false (by omega) (by omega) (by rw [anyTo, ← hany]; first | (simp [c_1, c_5, c_6, c_7]; done) | simp_all) (by rw [nearTo, ← hnear]; first | (simp [c_1, c_5, c_6, c_7]; done) | simp_all) _ _ hR ls (lv_sub hl [4, 5, 2, 1, 0] rfl)
          · skip
            refine lv_iload hx hb dX4_show_43 (lv_at hl 0 rfl) ?_
            refine lv_if_eq (tgt := 52) hx hb dX4_show_45 (by decide) (fun _ => ?_) (fun z => absurd z (by decide))
            refine lv_iconst (v := 0) hx hb dX4_show_52 (by decide) ?_
            refine lv_istore_n (lv' := [(2, .int 0), (5, .int 0), (0, .ref (ad 0)), (1, .int (nI j)), (3, .int (bI near)), (4, .int (nI o))]) hx hb dX4_show_53 rfl hl (by decide) rfl (fun ls hl => ?_)
            refine lv_iload_n hx hb dX4_show_54 rfl (lv_at hl 4 rfl) ?_
            refine lb_ne (tgt := 79) hx hb dX4_show_55 (by decide) (fun c_10 => ?_) (fun c_10 => ?_)
            · skip
              refine lv_iconst (v := 1) hx hb dX4_show_79 (by decide) ?_
              refine lv_goto (tgt := 84) hx hb dX4_show_80 (by decide) ?_
              refine lv_istore_n (lv' := [(3, .int 1), (2, .int 0), (5, .int 0), (0, .ref (ad 0)), (1, .int (nI j)), (4, .int (nI o))]) hx hb dX4_show_84 rfl hl (by decide) rfl (fun ls hl => ?_)
              refine lv_iinc (v := (nI (o + 1))) (lv' := [(4, .int (nI (o + 1))), (3, .int 1), (2, .int 0), (5, .int 0), (0, .ref (ad 0)), (1, .int (nI j))]) hx hb dX4_show_85 hl (k := 5) rfl (nI_1 o) (by decide) rfl (fun ls hl => ?_)
              refine lv_goto (tgt := 7) hx hb dX4_show_88 (by decide) ?_
              exact ih_7 (o + 1) false true (by omega) (by omega) (by rw [anyTo, ← hany]; first | (simp [c_1, c_5, c_6, c_10]; done) | simp_all) (by rw [nearTo, ← hnear]; first | (simp [c_1, c_5, c_6, c_10]; done) | simp_all) _ _ hR ls (lv_sub hl [4, 5, 2, 1, 0] rfl)
            · skip
              refine lv_iload hx hb dX4_show_58 (lv_at hl 1 rfl) ?_
              refine lv_if_eq (tgt := 83) hx hb dX4_show_60 (by decide) (fun _ => ?_) (fun z => absurd z (by decide))
              refine lv_iconst (v := 0) hx hb dX4_show_83 (by decide) ?_
              refine lv_istore_n (lv' := [(3, .int 0), (2, .int 0), (5, .int 0), (0, .ref (ad 0)), (1, .int (nI j)), (4, .int (nI o))]) hx hb dX4_show_84 rfl hl (by decide) rfl (fun ls hl => ?_)
              refine lv_iinc (v := (nI (o + 1))) (lv' := [(4, .int (nI (o + 1))), (3, .int 0), (2, .int 0), (5, .int 0), (0, .ref (ad 0)), (1, .int (nI j))]) hx hb dX4_show_85 hl (k := 5) rfl (nI_1 o) (by decide) rfl (fun ls hl => ?_)
              refine lv_goto (tgt := 7) hx hb dX4_show_88 (by decide) ?_
              exact ih_7 (o + 1) false false (by omega) (by omega) (by rw [anyTo, ← hany]; first | (simp [c_1, c_5, c_6, c_10]; done) | simp_all) (by rw [nearTo, ← hnear]; first | (simp [c_1, c_5, c_6, c_10]; done) | simp_all) _ _ hR ls (lv_sub hl [4, 5, 2, 1, 0] rfl)
        · skip
          refine lv_iconst (v := 1) hx hb dX4_show_32 (by decide) ?_
          refine lv_goto (tgt := 37) hx hb dX4_show_33 (by decide) ?_
          refine lv_istore (lv' := [(5, .int 1), (0, .ref (ad 0)), (1, .int (nI j)), (2, .int (bI any)), (3, .int (bI near)), (4, .int (nI o))]) hx hb dX4_show_37 hl (by decide) rfl (fun ls hl => ?_)
          refine lv_iload_n hx hb dX4_show_39 rfl (lv_at hl 3 rfl) ?_
          refine lb_ne (tgt := 48) hx hb dX4_show_40 (by decide) (fun c_12 => ?_) (fun c_12 => ?_)
          · skip
            refine lv_iconst (v := 1) hx hb dX4_show_48 (by decide) ?_
            refine lv_goto (tgt := 53) hx hb dX4_show_49 (by decide) ?_
            refine lv_istore_n (lv' := [(2, .int 1), (5, .int 1), (0, .ref (ad 0)), (1, .int (nI j)), (3, .int (bI near)), (4, .int (nI o))]) hx hb dX4_show_53 rfl hl (by decide) rfl (fun ls hl => ?_)
            refine lv_iload_n hx hb dX4_show_54 rfl (lv_at hl 4 rfl) ?_
            refine lb_ne (tgt := 79) hx hb dX4_show_55 (by decide) (fun c_13 => ?_) (fun c_13 => ?_)
            · skip
              refine lv_iconst (v := 1) hx hb dX4_show_79 (by decide) ?_
              refine lv_goto (tgt := 84) hx hb dX4_show_80 (by decide) ?_
              refine lv_istore_n (lv' := [(3, .int 1), (2, .int 1), (5, .int 1), (0, .ref (ad 0)), (1, .int (nI j)), (4, .int (nI o))]) hx hb dX4_show_84 rfl hl (by decide) rfl (fun ls hl => ?_)
              refine lv_iinc (v := (nI (o + 1))) (lv' := [(4, .int (nI (o + 1))), (3, .int 1), (2, .int 1), (5, .int 1), (0, .ref (ad 0)), (1, .int (nI j))]) hx hb dX4_show_85 hl (k := 5) rfl (nI_1 o) (by decide) rfl (fun ls hl => ?_)
              refine lv_goto (tgt := 7) hx hb dX4_show_88 (by decide) ?_
              exact ih_7 (o + 1) true true (by omega) (by omega) (by rw [anyTo, ← hany]; first | (simp [c_1, c_5, c_12, c_13]; done) | simp_all) (by rw [nearTo, ← hnear]; first | (simp [c_1, c_5, c_12, c_13]; done) | simp_all) _ _ hR ls (lv_sub hl [4, 5, 2, 1, 0] rfl)
            · skip
              refine lv_iload hx hb dX4_show_58 (lv_at hl 1 rfl) ?_
              refine lv_if_eq (tgt := 83) hx hb dX4_show_60 (by decide) (fun z => absurd z (by decide)) (fun _ => ?_)
              refine lv_iload hx hb dX4_show_63 (lv_at hl 5 rfl) ?_
              refine lv_iload_n hx hb dX4_show_65 rfl (lv_at hl 3 rfl) ?_
              refine lv_iconst (v := 1) hx hb dX4_show_66 (by decide) ?_
              refine lv_isub hx hb dX4_show_67 ?_
              refine lv_icmp_eq (tgt := 79) hx hb dX4_show_68 (by decide) (fun c_15 => ?_) (fun c_15 => ?_)
              · skip
                refine lv_iconst (v := 1) hx hb dX4_show_79 (by decide) ?_
                refine lv_goto (tgt := 84) hx hb dX4_show_80 (by decide) ?_
                refine lv_istore_n (lv' := [(3, .int 1), (2, .int 1), (5, .int 1), (0, .ref (ad 0)), (1, .int (nI j)), (4, .int (nI o))]) hx hb dX4_show_84 rfl hl (by decide) rfl (fun ls hl => ?_)
                refine lv_iinc (v := (nI (o + 1))) (lv' := [(4, .int (nI (o + 1))), (3, .int 1), (2, .int 1), (5, .int 1), (0, .ref (ad 0)), (1, .int (nI j))]) hx hb dX4_show_85 hl (k := 5) rfl (nI_1 o) (by decide) rfl (fun ls hl => ?_)
                refine lv_goto (tgt := 7) hx hb dX4_show_88 (by decide) ?_
                exact ih_7 (o + 1) true true (by omega) (by omega) (by rw [anyTo, ← hany]; first | (simp [c_1, c_5, c_12, c_13, c_15]; done) | simp_all) (by rw [nearTo, ← hnear]; first | (simp [c_1, c_5, c_12, c_13, c_15]; done) | simp_all) _ _ hR ls (lv_sub hl [4, 5, 2, 1, 0] rfl)
              · skip
                refine lv_iload hx hb dX4_show_71 (lv_at hl 5 rfl) ?_
                refine lv_iload_n hx hb dX4_show_73 rfl (lv_at hl 3 rfl) ?_
                refine lv_iconst (v := 1) hx hb dX4_show_74 (by decide) ?_
                refine lv_iadd hx hb dX4_show_75 ?_
                refine W.eqs (st2 := [.int (nI (j + 1)), .int (nI o)]) (congrArg (fun z : Int32 => Value.int z :: _) (nI_add j 1)) ?_
                refine ln_ne (tgt := 83) hx hb (o) (j + 1) rfl rfl (by omega) (by omega) dX4_show_76 (by decide) (fun c_16 => ?_) (fun c_16 => ?_)
                · skip
                  refine lv_iconst (v := 0) hx hb dX4_show_83 (by decide) ?_
                  refine lv_istore_n (lv' := [(3, .int 0), (2, .int 1), (5, .int 1), (0, .ref (ad 0)), (1, .int (nI j)), (4, .int (nI o))]) hx hb dX4_show_84 rfl hl (by decide) rfl (fun ls hl => ?_)
                  refine lv_iinc (v := (nI (o + 1))) (lv' := [(4, .int (nI (o + 1))), (3, .int 0), (2, .int 1), (5, .int 1), (0, .ref (ad 0)), (1, .int (nI j))]) hx hb dX4_show_85 hl (k := 5) rfl (nI_1 o) (by decide) rfl (fun ls hl => ?_)
                  refine lv_goto (tgt := 7) hx hb dX4_show_88 (by decide) ?_
                  exact ih_7 (o + 1) true false (by omega) (by omega) (by rw [anyTo, ← hany]; first | (simp [c_1, c_5, c_12, c_13, c_15, c_16]; done) | simp_all) (by rw [nearTo, ← hnear]; first | (simp [c_1, c_5, c_12, c_13, c_15, c_16]; done) | simp_all) _ _ hR ls (lv_sub hl [4, 5, 2, 1, 0] rfl)
                · skip
                  refine lv_iconst (v := 1) hx hb dX4_show_79 (by decide) ?_
                  refine lv_goto (tgt := 84) hx hb dX4_show_80 (by decide) ?_
                  refine lv_istore_n (lv' := [(3, .int 1), (2, .int 1), (5, .int 1), (0, .ref (ad 0)), (1, .int (nI j)), (4, .int (nI o))]) hx hb dX4_show_84 rfl hl (by decide) rfl (fun ls hl => ?_)
                  refine lv_iinc (v := (nI (o + 1))) (lv' := [(4, .int (nI (o + 1))), (3, .int 1), (2, .int 1), (5, .int 1), (0, .ref (ad 0)), (1, .int (nI j))]) hx hb dX4_show_85 hl (k := 5) rfl (nI_1 o) (by decide) rfl (fun ls hl => ?_)
                  refine lv_goto (tgt := 7) hx hb dX4_show_88 (by decide) ?_
                  exact ih_7 (o + 1) true true (by omega) (by omega) (by rw [anyTo, ← hany]; first | (simp [c_1, c_5, c_12, c_13, c_15, c_16]; done) | simp_all) (by rw [nearTo, ← hnear]; first | (simp [c_1, c_5, c_12, c_13, c_15, c_16]; done) | simp_all) _ _ hR ls (lv_sub hl [4, 5, 2, 1, 0] rfl)
          · skip
            refine lv_iload hx hb dX4_show_43 (lv_at hl 0 rfl) ?_
            refine lv_if_eq (tgt := 52) hx hb dX4_show_45 (by decide) (fun z => absurd z (by decide)) (fun _ => ?_)
            refine lv_iconst (v := 1) hx hb dX4_show_48 (by decide) ?_
            refine lv_goto (tgt := 53) hx hb dX4_show_49 (by decide) ?_
            refine lv_istore_n (lv' := [(2, .int 1), (5, .int 1), (0, .ref (ad 0)), (1, .int (nI j)), (3, .int (bI near)), (4, .int (nI o))]) hx hb dX4_show_53 rfl hl (by decide) rfl (fun ls hl => ?_)
            refine lv_iload_n hx hb dX4_show_54 rfl (lv_at hl 4 rfl) ?_
            refine lb_ne (tgt := 79) hx hb dX4_show_55 (by decide) (fun c_18 => ?_) (fun c_18 => ?_)
            · skip
              refine lv_iconst (v := 1) hx hb dX4_show_79 (by decide) ?_
              refine lv_goto (tgt := 84) hx hb dX4_show_80 (by decide) ?_
              refine lv_istore_n (lv' := [(3, .int 1), (2, .int 1), (5, .int 1), (0, .ref (ad 0)), (1, .int (nI j)), (4, .int (nI o))]) hx hb dX4_show_84 rfl hl (by decide) rfl (fun ls hl => ?_)
              refine lv_iinc (v := (nI (o + 1))) (lv' := [(4, .int (nI (o + 1))), (3, .int 1), (2, .int 1), (5, .int 1), (0, .ref (ad 0)), (1, .int (nI j))]) hx hb dX4_show_85 hl (k := 5) rfl (nI_1 o) (by decide) rfl (fun ls hl => ?_)
              refine lv_goto (tgt := 7) hx hb dX4_show_88 (by decide) ?_
              exact ih_7 (o + 1) true true (by omega) (by omega) (by rw [anyTo, ← hany]; first | (simp [c_1, c_5, c_12, c_18]; done) | simp_all) (by rw [nearTo, ← hnear]; first | (simp [c_1, c_5, c_12, c_18]; done) | simp_all) _ _ hR ls (lv_sub hl [4, 5, 2, 1, 0] rfl)
            · skip
              refine lv_iload hx hb dX4_show_58 (lv_at hl 1 rfl) ?_
              refine lv_if_eq (tgt := 83) hx hb dX4_show_60 (by decide) (fun z => absurd z (by decide)) (fun _ => ?_)
              refine lv_iload hx hb dX4_show_63 (lv_at hl 5 rfl) ?_
              refine lv_iload_n hx hb dX4_show_65 rfl (lv_at hl 3 rfl) ?_
              refine lv_iconst (v := 1) hx hb dX4_show_66 (by decide) ?_
              refine lv_isub hx hb dX4_show_67 ?_
              refine lv_icmp_eq (tgt := 79) hx hb dX4_show_68 (by decide) (fun c_20 => ?_) (fun c_20 => ?_)
              · skip
                refine lv_iconst (v := 1) hx hb dX4_show_79 (by decide) ?_
                refine lv_goto (tgt := 84) hx hb dX4_show_80 (by decide) ?_
                refine lv_istore_n (lv' := [(3, .int 1), (2, .int 1), (5, .int 1), (0, .ref (ad 0)), (1, .int (nI j)), (4, .int (nI o))]) hx hb dX4_show_84 rfl hl (by decide) rfl (fun ls hl => ?_)
                refine lv_iinc (v := (nI (o + 1))) (lv' := [(4, .int (nI (o + 1))), (3, .int 1), (2, .int 1), (5, .int 1), (0, .ref (ad 0)), (1, .int (nI j))]) hx hb dX4_show_85 hl (k := 5) rfl (nI_1 o) (by decide) rfl (fun ls hl => ?_)
                refine lv_goto (tgt := 7) hx hb dX4_show_88 (by decide) ?_
                exact ih_7 (o + 1) true true (by omega) (by omega) (by rw [anyTo, ← hany]; first | (simp [c_1, c_5, c_12, c_18, c_20]; done) | simp_all) (by rw [nearTo, ← hnear]; first | (simp [c_1, c_5, c_12, c_18, c_20]; done) | simp_all) _ _ hR ls (lv_sub hl [4, 5, 2, 1, 0] rfl)
              · skip
                refine lv_iload hx hb dX4_show_71 (lv_at hl 5 rfl) ?_
                refine lv_iload_n hx hb dX4_show_73 rfl (lv_at hl 3 rfl) ?_
                refine lv_iconst (v := 1) hx hb dX4_show_74 (by decide) ?_
                refine lv_iadd hx hb dX4_show_75 ?_
                refine W.eqs (st2 := [.int (nI (j + 1)), .int (nI o)]) (congrArg (fun z : Int32 => Value.int z :: _) (nI_add j 1)) ?_
                refine ln_ne (tgt := 83) hx hb (o) (j + 1) rfl rfl (by omega) (by omega) dX4_show_76 (by decide) (fun c_21 => ?_) (fun c_21 => ?_)
                · skip
                  refine lv_iconst (v := 0) hx hb dX4_show_83 (by decide) ?_
                  refine lv_istore_n (lv' := [(3, .int 0), (2, .int 1), (5, .int 1), (0, .ref (ad 0)), (1, .int (nI j)), (4, .int (nI o))]) hx hb dX4_show_84 rfl hl (by decide) rfl (fun ls hl => ?_)
                  refine lv_iinc (v := (nI (o + 1))) (lv' := [(4, .int (nI (o + 1))), (3, .int 0), (2, .int 1), (5, .int 1), (0, .ref (ad 0)), (1, .int (nI j))]) hx hb dX4_show_85 hl (k := 5) rfl (nI_1 o) (by decide) rfl (fun ls hl => ?_)
                  refine lv_goto (tgt := 7) hx hb dX4_show_88 (by decide) ?_
                  exact ih_7 (o + 1) true false (by omega) (by omega) (by rw [anyTo, ← hany]; first | (simp [c_1, c_5, c_12, c_18, c_20, c_21]; done) | simp_all) (by rw [nearTo, ← hnear]; first | (simp [c_1, c_5, c_12, c_18, c_20, c_21]; done) | simp_all) _ _ hR ls (lv_sub hl [4, 5, 2, 1, 0] rfl)
                · skip
                  refine lv_iconst (v := 1) hx hb dX4_show_79 (by decide) ?_
                  refine lv_goto (tgt := 84) hx hb dX4_show_80 (by decide) ?_
                  refine lv_istore_n (lv' := [(3, .int 1), (2, .int 1), (5, .int 1), (0, .ref (ad 0)), (1, .int (nI j)), (4, .int (nI o))]) hx hb dX4_show_84 rfl hl (by decide) rfl (fun ls hl => ?_)
                  refine lv_iinc (v := (nI (o + 1))) (lv' := [(4, .int (nI (o + 1))), (3, .int 1), (2, .int 1), (5, .int 1), (0, .ref (ad 0)), (1, .int (nI j))]) hx hb dX4_show_85 hl (k := 5) rfl (nI_1 o) (by decide) rfl (fun ls hl => ?_)
                  refine lv_goto (tgt := 7) hx hb dX4_show_88 (by decide) ?_
                  exact ih_7 (o + 1) true true (by omega) (by omega) (by rw [anyTo, ← hany]; first | (simp [c_1, c_5, c_12, c_18, c_20, c_21]; done) | simp_all) (by rw [nearTo, ← hnear]; first | (simp [c_1, c_5, c_12, c_18, c_20, c_21]; done) | simp_all) _ _ hR ls (lv_sub hl [4, 5, 2, 1, 0] rfl)
  exact loop_7 _ 0 false false (Nat.lt_succ_self _) (by omega) (by rfl) (by rfl) _ _ hR ls (lv_sub hl [3, 4, 2, 1, 0] rfl)
theorem cd_X4_colder : yX4_colder.cls = RX4 ∧ yX4_colder.cls ≠ "java/lang/invoke/MethodHandle" ∧ yX4_colder.cls ≠ "java/lang/invoke/VarHandle" ∧ (parseMethodDescriptor yX4_colder.desc).map (fun d => d.parameters.length) = some 1 := by decide +kernel
set_option maxHeartbeats 4000000 in
theorem m_X4_colder (l : Launch) (D : va_G) (ca : Nat → ClassId) (n : Nat) (B X : Nat → Nat → Int32) (Y : Nat → Nat → Int64) (kp : Nat) (j : Nat) (hB : wfB n B) (hj : j < n) : MMv l D ca yX4_colder (ws_ yX4_colder cX4_colder 3 none) (rmN 3) (fun ad => [.int (nI j)]) B X Y kp (sColdTo n B j n) X Y kp := by
  refine MMv_start (by decide) (fun _ => Nat.le_of_ble_eq_true rfl) ?_
  intro p e s m args below meth c0 ad A Q ls hx hb hml hown hts hK hR hl hQ
  have hl : lv_has ls 3 [(0, .ref (ad 0)), (1, .int (nI j))] := hl
  have hn6 : n ≤ 6 := hB.1
  refine lv_iconst (v := 0) hx hb dX4_colder_0 (by decide) ?_
  refine lv_istore_n (lv' := [(2, .int 0), (0, .ref (ad 0)), (1, .int (nI j))]) hx hb dX4_colder_1 rfl hl (by decide) rfl (fun ls hl => ?_)
  have loop_2 : ∀ (nn : Nat) (o : Nat), n - o < nn → (o ≤ n) → ∀ (H : Heap) (locs : List Loc), RW D 23 ad (mE ca ad (sColdTo n B j o) X Y kp) A s.heap H locs → ∀ (ls : Array Slot), lv_has ls 3 [(0, .ref (ad 0)), (1, .int (nI j)), (2, .int (nI o))] → W p l e (rmN 3) s m args below meth c0 H locs 0 0 Q (F0 m 2 ls []) := by
    intro nn
    induction nn with
    | zero => intro o hm; exact absurd hm (Nat.not_lt_zero _)
    | succ nn ih_2 =>
      intro o hm_2 ho H locs hR ls hl
      refine lv_iload_n hx hb dX4_colder_2 rfl (lv_at hl 2 rfl) ?_
      refine lv_aload_n hx hb dX4_colder_3 rfl (lv_at hl 0 rfl) ?_
      refine rw_get (v := .int (nI n)) hx hb hts in_X4 hown hK hR 0 (by decide) rfl rfl 0 (by decide) q1162 rfl (mF_ch (wf_coldTo hB j o (by omega))) dX4_colder_4 ?_
      refine ln_ge (tgt := 78) hx hb (o) (n) rfl rfl (by omega) (by omega) dX4_colder_7 (by decide) (fun c_1 => ?_) (fun c_1 => ?_)
      · skip
        exact hQ _ _ _ _ (RW.eq hR (by rw [show o = n by omega])) dX4_colder_78
      · skip
        refine lv_iload_n hx hb dX4_colder_10 rfl (lv_at hl 2 rfl) ?_
        refine lv_iload_n hx hb dX4_colder_11 rfl (lv_at hl 1 rfl) ?_
        refine ln_eq (tgt := 72) hx hb (o) (j) rfl rfl (by omega) (by omega) dX4_colder_12 (by decide) (fun c_2 => ?_) (fun c_2 => ?_)
        · skip
          refine lv_iinc (v := (nI (o + 1))) (lv' := [(2, .int (nI (o + 1))), (0, .ref (ad 0)), (1, .int (nI j))]) hx hb dX4_colder_72 hl (k := 2) rfl (nI_1 o) (by decide) rfl (fun ls hl => ?_)
          refine lv_goto (tgt := 2) hx hb dX4_colder_75 (by decide) ?_
          exact ih_2 (o + 1) (by omega) (by omega) _ _ (RW.eq hR (by simp [sColdTo, sCold1, c_2])) ls (lv_sub hl [1, 2, 0] rfl)
        · skip
          refine lv_aload_n hx hb dX4_colder_15 rfl (lv_at hl 0 rfl) ?_
          refine rw_get (v := .ref (ad 4)) hx hb hts in_X4 hown hK hR 0 (by decide) rfl rfl 4 (by decide) q1166 rfl rfl dX4_colder_16 ?_
          refine lv_iload_n hx hb dX4_colder_19 rfl (lv_at hl 2 rfl) ?_
          refine rw_ialdN (n := 6) hx hb hK hR 4 (by decide) rfl o rfl (by omega) (by decide) dX4_colder_20 ?_
          refine lv_bipush (v := 7) hx hb dX4_colder_21 (by decide) ?_
          refine lj_ge (tgt := 72) hx hb dX4_colder_23 (by decide) (fun c_3 => ?_) (fun c_3 => ?_)
          · skip
            refine lv_iinc (v := (nI (o + 1))) (lv' := [(2, .int (nI (o + 1))), (0, .ref (ad 0)), (1, .int (nI j))]) hx hb dX4_colder_72 hl (k := 2) rfl (nI_1 o) (by decide) rfl (fun ls hl => ?_)
            refine lv_goto (tgt := 2) hx hb dX4_colder_75 (by decide) ?_
            exact ih_2 (o + 1) (by omega) (by omega) _ _ (RW.eq hR (by simp [sColdTo, sCold1, c_2, c_3])) ls (lv_sub hl [1, 2, 0] rfl)
          · skip
            refine lv_aload_n hx hb dX4_colder_26 rfl (lv_at hl 0 rfl) ?_
            refine rw_get (v := .ref (ad 5)) hx hb hts in_X4 hown hK hR 0 (by decide) rfl rfl 5 (by decide) q1167 rfl rfl dX4_colder_27 ?_
            refine lv_iload_n hx hb dX4_colder_30 rfl (lv_at hl 2 rfl) ?_
            refine lv_aload_n hx hb dX4_colder_31 rfl (lv_at hl 0 rfl) ?_
            refine rw_get (v := .ref (ad 5)) hx hb hts in_X4 hown hK hR 0 (by decide) rfl rfl 5 (by decide) q1167 rfl rfl dX4_colder_32 ?_
            refine lv_iload_n hx hb dX4_colder_35 rfl (lv_at hl 2 rfl) ?_
            refine rw_ialdN (n := 6) hx hb hK hR 5 (by decide) rfl o rfl (by omega) (by decide) dX4_colder_36 ?_
            refine lv_iconst (v := 1) hx hb dX4_colder_37 (by decide) ?_
            refine lv_iadd hx hb dX4_colder_38 ?_
            refine lv_bipush (v := 20) hx hb dX4_colder_39 (by decide) ?_
            refine rs_calli (rest := [.int (nI o), .ref (ad 5)]) hx hb hml hown hts hl.1 hR (m_X4_held l (((sColdTo n B j o) 5 o) + 1) 20) (va_cwS 2 hts (lw_S q1355 q1356 q82 q1357) rfl rfl rfl cd_X4_held ⟨Nat.le_of_ble_eq_true rfl, Nat.le_of_ble_eq_true rfl⟩) rfl rfl (Nat.le_of_ble_eq_true rfl) dX4_colder_41 ⟨Nat.le_refl _, Nat.le_refl _⟩ (fun H locs hR => ?_)
            refine rw_iastN (n := 6) hx hb hK hR 5 (by decide) rfl o rfl (by omega) (by decide) dX4_colder_44 (mE_B 5 (by decide)) (fun H locs hR => ?_)
            refine lv_aload_n hx hb dX4_colder_45 rfl (lv_at hl 0 rfl) ?_
            refine rw_get (v := .ref (ad 5)) hx hb hts in_X4 hown hK hR 0 (by decide) rfl rfl 5 (by decide) q1167 rfl rfl dX4_colder_46 ?_
            refine lv_iload_n hx hb dX4_colder_49 rfl (lv_at hl 2 rfl) ?_
            refine rw_ialdN (n := 6) hx hb hK hR 5 (by decide) rfl o rfl (by omega) (by decide) dX4_colder_50 ?_
            refine W.eqs (st2 := [.int (hdI (((sColdTo n B j o) 5 o) + 1) 20)]) (congrArg (fun z => Value.int z :: _) st_at) ?_
            refine lv_aload_n hx hb dX4_colder_51 rfl (lv_at hl 0 rfl) ?_
            refine lv_iload_n hx hb dX4_colder_52 rfl (lv_at hl 2 rfl) ?_
            refine mm_calli (rest := [.int (hdI (((sColdTo n B j o) 5 o) + 1) 20)]) hx hb hml hown hts hK hl.1 hR (m_X4_bearsOf l D ca (st (sColdTo n B j o) 5 o (hdI (((sColdTo n B j o) 5 o) + 1) 20)) X Y kp o (by omega)) (cwV 1 hts (lw_V q1390 q1392 qs56 q82 q1393) rfl rfl rfl cd_X4_bearsOf ⟨Nat.le_of_ble_eq_true rfl, Nat.le_of_ble_eq_true rfl⟩) rfl rfl (Nat.le_of_ble_eq_true rfl) dX4_colder_53 ⟨Nat.le_refl _, Nat.le_refl _⟩ (fun H locs hR => ?_)
            refine W.eqs (st2 := [.int (bearsF ((sColdTo n B j o) 1 o) ((sColdTo n B j o) 2 o)), .int (hdI (((sColdTo n B j o) 5 o) + 1) 20)]) rfl ?_
            refine lj_le (tgt := 72) hx hb dX4_colder_56 (by decide) (fun c_4 => ?_) (fun c_4 => ?_)
            · skip
              refine lv_iinc (v := (nI (o + 1))) (lv' := [(2, .int (nI (o + 1))), (0, .ref (ad 0)), (1, .int (nI j))]) hx hb dX4_colder_72 hl (k := 2) rfl (nI_1 o) (by decide) rfl (fun ls hl => ?_)
              refine lv_goto (tgt := 2) hx hb dX4_colder_75 (by decide) ?_
              exact ih_2 (o + 1) (by omega) (by omega) _ _ (RW.eq hR (by simp [sColdTo, sCold1, c_2, c_3, c_4])) ls (lv_sub hl [1, 2, 0] rfl)
            · skip
              refine lv_aload_n hx hb dX4_colder_59 rfl (lv_at hl 0 rfl) ?_
              refine rw_get (v := .ref (ad 5)) hx hb hts in_X4 hown hK hR 0 (by decide) rfl rfl 5 (by decide) q1167 rfl rfl dX4_colder_60 ?_
              refine lv_iload_n hx hb dX4_colder_63 rfl (lv_at hl 2 rfl) ?_
              refine lv_iconst (v := 0) hx hb dX4_colder_64 (by decide) ?_
              refine rw_iastN (n := 6) hx hb hK hR 5 (by decide) rfl o rfl (by omega) (by decide) dX4_colder_65 (mE_B 5 (by decide)) (fun H locs hR => ?_)
              refine lv_aload_n hx hb dX4_colder_66 rfl (lv_at hl 0 rfl) ?_
              refine lv_iload_n hx hb dX4_colder_67 rfl (lv_at hl 2 rfl) ?_
              refine lv_iconst (v := (-1)) hx hb dX4_colder_68 (by decide) ?_
              refine mm_callv (rest := []) hx hb hml hown hts hK hl.1 hR (m_X4_gains l D ca n (st (st (sColdTo n B j o) 5 o (hdI (((sColdTo n B j o) 5 o) + 1) 20)) 5 o 0) X Y kp (nI o) (-1) (wf_st5 (wf_st5 (wf_coldTo hB j o (by omega)) (by omega) (hdI_rng (by decide) (by decide))) (by omega) (rng_0 (by decide)))) (cwV 2 hts (lw_V q1351 q1353 qs47 q82 q1354) rfl rfl rfl cd_X4_gains ⟨Nat.le_of_ble_eq_true rfl, Nat.le_of_ble_eq_true rfl⟩) rfl rfl (Nat.le_of_ble_eq_true rfl) dX4_colder_69 ⟨Nat.le_refl _, Nat.le_refl _⟩ (fun H locs hR => ?_)
              refine lv_iinc (v := (nI (o + 1))) (lv' := [(2, .int (nI (o + 1))), (0, .ref (ad 0)), (1, .int (nI j))]) hx hb dX4_colder_72 hl (k := 2) rfl (nI_1 o) (by decide) rfl (fun ls hl => ?_)
              refine lv_goto (tgt := 2) hx hb dX4_colder_75 (by decide) ?_
              exact ih_2 (o + 1) (by omega) (by omega) _ _ (RW.eq hR (by simp [sColdTo, sCold1, c_2, c_3, c_4])) ls (lv_sub hl [1, 2, 0] rfl)
  exact loop_2 _ 0 (Nat.lt_succ_self _) (by omega) _ _ (RW.eq hR (by rfl)) ls (lv_sub hl [1, 2, 0] rfl)
theorem cd_X4_goMinute : yX4_goMinute.cls = RX4 ∧ yX4_goMinute.cls ≠ "java/lang/invoke/MethodHandle" ∧ yX4_goMinute.cls ≠ "java/lang/invoke/VarHandle" ∧ (parseMethodDescriptor yX4_goMinute.desc).map (fun d => d.parameters.length) = some 2 := by decide +kernel
set_option maxHeartbeats 4000000 in
theorem m_X4_goMinute (l : Launch) (D : va_G) (ca : Nat → ClassId) (n : Nat) (B X : Nat → Nat → Int32) (Y : Nat → Nat → Int64) (kp : Nat) (j : Nat) (w : Int32) (hB : wfB n B) (hj : j < n) (h7 : (B 4 j).toInt < 7) : MMv l D ca yX4_goMinute (ws_ yX4_goMinute cX4_goMinute 3 none) (rmN 4) (fun ad => [.int (nI j), .int w]) B X Y kp (sMin n B j w) X Y kp := by
  refine MMv_start (by decide) (fun _ => Nat.le_of_ble_eq_true rfl) ?_
  intro p e s m args below meth c0 ad A Q ls hx hb hml hown hts hK hR hl hQ
  have hl : lv_has ls 3 [(0, .ref (ad 0)), (1, .int (nI j)), (2, .int w)] := hl
  have hn6 : n ≤ 6 := hB.1
  refine lv_iload_n hx hb dX4_goMinute_0 rfl (lv_at hl 2 rfl) ?_
  by_cases k_1 : w = 0
  · skip
    refine lv_tableIn (tgt := 28) (off := 27) hx hb dX4_goMinute_1 (by rw [k_1]; decide) (by rw [k_1]; decide) (by rw [k_1]; rfl) (by decide) ?_
    refine lv_aload_n hx hb dX4_goMinute_28 rfl (lv_at hl 0 rfl) ?_
    refine lv_iload_n hx hb dX4_goMinute_29 rfl (lv_at hl 1 rfl) ?_
    refine lv_aload_n hx hb dX4_goMinute_30 rfl (lv_at hl 0 rfl) ?_
    refine lv_iload_n hx hb dX4_goMinute_31 rfl (lv_at hl 1 rfl) ?_
    refine mm_calli (rest := [.int (nI j), .ref (ad 0)]) hx hb hml hown hts hK hl.1 hR (m_X4_holdsOf l D ca B X Y kp j (by omega)) (cwV 1 hts (lw_V q1344 q1346 qs46 q82 q1347) rfl rfl rfl cd_X4_holdsOf ⟨Nat.le_of_ble_eq_true rfl, Nat.le_of_ble_eq_true rfl⟩) rfl rfl (Nat.le_of_ble_eq_true rfl) dX4_goMinute_32 ⟨Nat.le_refl _, Nat.le_refl _⟩ (fun H locs hR => ?_)
    refine mm_callv (rest := []) hx hb hml hown hts hK hl.1 hR (m_X4_gains l D ca n B X Y kp (nI j) (holdsF (B 1 j) (B 2 j)) hB) (cwV 2 hts (lw_V q1351 q1353 qs47 q82 q1354) rfl rfl rfl cd_X4_gains ⟨Nat.le_of_ble_eq_true rfl, Nat.le_of_ble_eq_true rfl⟩) rfl rfl (Nat.le_of_ble_eq_true rfl) dX4_goMinute_35 ⟨Nat.le_refl _, Nat.le_refl _⟩ (fun H locs hR => ?_)
    refine lv_goto (tgt := 101) hx hb dX4_goMinute_38 (by decide) ?_
    refine lv_aload_n hx hb dX4_goMinute_101 rfl (lv_at hl 0 rfl) ?_
    refine lv_iload_n hx hb dX4_goMinute_102 rfl (lv_at hl 1 rfl) ?_
    refine mm_callv (rest := []) hx hb hml hown hts hK hl.1 hR (m_X4_colder l D ca n (sGain n B (nI j) (holdsF (B 1 j) (B 2 j))) X Y kp j (wf_gain hB (nI j) (holdsF (B 1 j) (B 2 j))) (by first | assumption | omega)) (cwV 1 hts (lw_V q1386 q1388 qs55 q82 q1389) rfl rfl rfl cd_X4_colder ⟨Nat.le_of_ble_eq_true rfl, Nat.le_of_ble_eq_true rfl⟩) rfl rfl (Nat.le_of_ble_eq_true rfl) dX4_goMinute_103 ⟨Nat.le_refl _, Nat.le_refl _⟩ (fun H locs hR => ?_)
    refine lv_aload_n hx hb dX4_goMinute_106 rfl (lv_at hl 0 rfl) ?_
    refine lv_dup hx hb dX4_goMinute_107 rfl ?_
    refine rw_get (v := .int ((sColdTo n (sGain n B (nI j) (holdsF (B 1 j) (B 2 j))) j n) 0 1)) hx hb hts in_X4 hown hK hR 0 (by decide) rfl rfl 6 (by decide) q1168 rfl rfl dX4_goMinute_108 ?_
    refine lv_iconst (v := 1) hx hb dX4_goMinute_111 (by decide) ?_
    refine lv_iadd hx hb dX4_goMinute_112 ?_
    refine rw_put hx hb hts in_X4 tyX4 tyX4_ok nmX4 hown hK hR 0 (by decide) rfl rfl 6 (by decide) q1168 rfl rfl rfl rfl (Nat.le_of_ble_eq_true rfl) dX4_goMinute_113 (mE_pB 1 (x := (((sColdTo n (sGain n B (nI j) (holdsF (B 1 j) (B 2 j))) j n) 0 1) + 1)) rfl) (fun H locs hR => ?_)
    exact hQ _ _ _ _ (RW.eq hR (by simp [sMin, sWay, k_1])) dX4_goMinute_116
  by_cases k_2 : w = 1
  · skip
    refine lv_tableIn (tgt := 41) (off := 40) hx hb dX4_goMinute_1 (by rw [k_2]; decide) (by rw [k_2]; decide) (by rw [k_2]; rfl) (by decide) ?_
    refine lv_aload_n hx hb dX4_goMinute_41 rfl (lv_at hl 0 rfl) ?_
    refine lv_iload_n hx hb dX4_goMinute_42 rfl (lv_at hl 1 rfl) ?_
    refine lv_aload_n hx hb dX4_goMinute_43 rfl (lv_at hl 0 rfl) ?_
    refine lv_iload_n hx hb dX4_goMinute_44 rfl (lv_at hl 1 rfl) ?_
    refine mm_calli (rest := [.int (nI j), .ref (ad 0)]) hx hb hml hown hts hK hl.1 hR (m_X4_holdsOf l D ca B X Y kp j (by omega)) (cwV 1 hts (lw_V q1344 q1346 qs46 q82 q1347) rfl rfl rfl cd_X4_holdsOf ⟨Nat.le_of_ble_eq_true rfl, Nat.le_of_ble_eq_true rfl⟩) rfl rfl (Nat.le_of_ble_eq_true rfl) dX4_goMinute_45 ⟨Nat.le_refl _, Nat.le_refl _⟩ (fun H locs hR => ?_)
    refine lv_iconst (v := 2) hx hb dX4_goMinute_48 (by decide) ?_
    refine lv_idiv hx hb dX4_goMinute_49 (by decide) ?_
    refine lv_iconst (v := 1) hx hb dX4_goMinute_50 (by decide) ?_
    refine lv_iadd hx hb dX4_goMinute_51 ?_
    refine mm_callv (rest := []) hx hb hml hown hts hK hl.1 hR (m_X4_gains l D ca n B X Y kp (nI j) (((holdsF (B 1 j) (B 2 j)) / 2) + 1) hB) (cwV 2 hts (lw_V q1351 q1353 qs47 q82 q1354) rfl rfl rfl cd_X4_gains ⟨Nat.le_of_ble_eq_true rfl, Nat.le_of_ble_eq_true rfl⟩) rfl rfl (Nat.le_of_ble_eq_true rfl) dX4_goMinute_52 ⟨Nat.le_refl _, Nat.le_refl _⟩ (fun H locs hR => ?_)
    refine lv_aload_n hx hb dX4_goMinute_55 rfl (lv_at hl 0 rfl) ?_
    refine rw_get (v := .ref (ad 4)) hx hb hts in_X4 hown hK hR 0 (by decide) rfl rfl 4 (by decide) q1166 rfl rfl dX4_goMinute_56 ?_
    refine lv_iload_n hx hb dX4_goMinute_59 rfl (lv_at hl 1 rfl) ?_
    refine lv_dup2_11 hx hb dX4_goMinute_60 rfl rfl ?_
    refine rw_ialdN (n := 6) hx hb hK hR 4 (by decide) rfl j rfl (by omega) (by decide) dX4_goMinute_61 ?_
    refine lv_aload_n hx hb dX4_goMinute_62 rfl (lv_at hl 0 rfl) ?_
    refine rw_get (v := .ref (ad 3)) hx hb hts in_X4 hown hK hR 0 (by decide) rfl rfl 3 (by decide) q1165 rfl rfl dX4_goMinute_63 ?_
    refine lv_iload_n hx hb dX4_goMinute_66 rfl (lv_at hl 1 rfl) ?_
    refine rw_ialdN (n := 6) hx hb hK hR 3 (by decide) rfl j rfl (by omega) (by decide) dX4_goMinute_67 ?_
    refine lv_aload_n hx hb dX4_goMinute_68 rfl (lv_at hl 0 rfl) ?_
    refine lv_iload_n hx hb dX4_goMinute_69 rfl (lv_at hl 1 rfl) ?_
    refine mm_calli (rest := [.int ((sGain n B (nI j) (((holdsF (B 1 j) (B 2 j)) / 2) + 1)) 3 j), .int ((sGain n B (nI j) (((holdsF (B 1 j) (B 2 j)) / 2) + 1)) 4 j), .int (nI j), .ref (ad 4)]) hx hb hml hown hts hK hl.1 hR (m_X4_needsOf l D ca (sGain n B (nI j) (((holdsF (B 1 j) (B 2 j)) / 2) + 1)) X Y kp j (by omega)) (cwV 1 hts (lw_V q1358 q1360 qs48 q82 q1361) rfl rfl rfl cd_X4_needsOf ⟨Nat.le_of_ble_eq_true rfl, Nat.le_of_ble_eq_true rfl⟩) rfl rfl (Nat.le_of_ble_eq_true rfl) dX4_goMinute_70 ⟨Nat.le_refl _, Nat.le_refl _⟩ (fun H locs hR => ?_)
    refine lv_iconst (v := 3) hx hb dX4_goMinute_73 (by decide) ?_
    refine lv_iadd hx hb dX4_goMinute_74 ?_
    refine lj_lt (tgt := 82) hx hb dX4_goMinute_75 (by decide) (fun c_3 => ?_) (fun c_3 => ?_)
    · skip
      refine lv_iconst (v := 0) hx hb dX4_goMinute_82 (by decide) ?_
      refine lv_iadd hx hb dX4_goMinute_83 ?_
      refine rw_iastN (n := 6) hx hb hK hR 4 (by decide) rfl j rfl (by omega) (by decide) dX4_goMinute_84 (mE_B 4 (by decide)) (fun H locs hR => ?_)
      refine lv_goto (tgt := 101) hx hb dX4_goMinute_85 (by decide) ?_
      refine lv_aload_n hx hb dX4_goMinute_101 rfl (lv_at hl 0 rfl) ?_
      refine lv_iload_n hx hb dX4_goMinute_102 rfl (lv_at hl 1 rfl) ?_
      refine mm_callv (rest := []) hx hb hml hown hts hK hl.1 hR (m_X4_colder l D ca n (st (sGain n B (nI j) (((holdsF (B 1 j) (B 2 j)) / 2) + 1)) 4 j (((sGain n B (nI j) (((holdsF (B 1 j) (B 2 j)) / 2) + 1)) 4 j) + 0)) X Y kp j (wf_w1b hB (by omega) h7) (by first | assumption | omega)) (cwV 1 hts (lw_V q1386 q1388 qs55 q82 q1389) rfl rfl rfl cd_X4_colder ⟨Nat.le_of_ble_eq_true rfl, Nat.le_of_ble_eq_true rfl⟩) rfl rfl (Nat.le_of_ble_eq_true rfl) dX4_goMinute_103 ⟨Nat.le_refl _, Nat.le_refl _⟩ (fun H locs hR => ?_)
      refine lv_aload_n hx hb dX4_goMinute_106 rfl (lv_at hl 0 rfl) ?_
      refine lv_dup hx hb dX4_goMinute_107 rfl ?_
      refine rw_get (v := .int ((sColdTo n (st (sGain n B (nI j) (((holdsF (B 1 j) (B 2 j)) / 2) + 1)) 4 j (((sGain n B (nI j) (((holdsF (B 1 j) (B 2 j)) / 2) + 1)) 4 j) + 0)) j n) 0 1)) hx hb hts in_X4 hown hK hR 0 (by decide) rfl rfl 6 (by decide) q1168 rfl rfl dX4_goMinute_108 ?_
      refine lv_iconst (v := 1) hx hb dX4_goMinute_111 (by decide) ?_
      refine lv_iadd hx hb dX4_goMinute_112 ?_
      refine rw_put hx hb hts in_X4 tyX4 tyX4_ok nmX4 hown hK hR 0 (by decide) rfl rfl 6 (by decide) q1168 rfl rfl rfl rfl (Nat.le_of_ble_eq_true rfl) dX4_goMinute_113 (mE_pB 1 (x := (((sColdTo n (st (sGain n B (nI j) (((holdsF (B 1 j) (B 2 j)) / 2) + 1)) 4 j (((sGain n B (nI j) (((holdsF (B 1 j) (B 2 j)) / 2) + 1)) 4 j) + 0)) j n) 0 1) + 1)) rfl) (fun H locs hR => ?_)
      exact hQ _ _ _ _ (RW.eq hR (by simp [sMin, sWay, k_2, c_3])) dX4_goMinute_116
    · skip
      refine lv_iconst (v := 1) hx hb dX4_goMinute_78 (by decide) ?_
      refine lv_goto (tgt := 83) hx hb dX4_goMinute_79 (by decide) ?_
      refine lv_iadd hx hb dX4_goMinute_83 ?_
      refine rw_iastN (n := 6) hx hb hK hR 4 (by decide) rfl j rfl (by omega) (by decide) dX4_goMinute_84 (mE_B 4 (by decide)) (fun H locs hR => ?_)
      refine lv_goto (tgt := 101) hx hb dX4_goMinute_85 (by decide) ?_
      refine lv_aload_n hx hb dX4_goMinute_101 rfl (lv_at hl 0 rfl) ?_
      refine lv_iload_n hx hb dX4_goMinute_102 rfl (lv_at hl 1 rfl) ?_
      refine mm_callv (rest := []) hx hb hml hown hts hK hl.1 hR (m_X4_colder l D ca n (st (sGain n B (nI j) (((holdsF (B 1 j) (B 2 j)) / 2) + 1)) 4 j (((sGain n B (nI j) (((holdsF (B 1 j) (B 2 j)) / 2) + 1)) 4 j) + 1)) X Y kp j (wf_w1a hB (by omega) h7) (by first | assumption | omega)) (cwV 1 hts (lw_V q1386 q1388 qs55 q82 q1389) rfl rfl rfl cd_X4_colder ⟨Nat.le_of_ble_eq_true rfl, Nat.le_of_ble_eq_true rfl⟩) rfl rfl (Nat.le_of_ble_eq_true rfl) dX4_goMinute_103 ⟨Nat.le_refl _, Nat.le_refl _⟩ (fun H locs hR => ?_)
      refine lv_aload_n hx hb dX4_goMinute_106 rfl (lv_at hl 0 rfl) ?_
      refine lv_dup hx hb dX4_goMinute_107 rfl ?_
      refine rw_get (v := .int ((sColdTo n (st (sGain n B (nI j) (((holdsF (B 1 j) (B 2 j)) / 2) + 1)) 4 j (((sGain n B (nI j) (((holdsF (B 1 j) (B 2 j)) / 2) + 1)) 4 j) + 1)) j n) 0 1)) hx hb hts in_X4 hown hK hR 0 (by decide) rfl rfl 6 (by decide) q1168 rfl rfl dX4_goMinute_108 ?_
      refine lv_iconst (v := 1) hx hb dX4_goMinute_111 (by decide) ?_
      refine lv_iadd hx hb dX4_goMinute_112 ?_
      refine rw_put hx hb hts in_X4 tyX4 tyX4_ok nmX4 hown hK hR 0 (by decide) rfl rfl 6 (by decide) q1168 rfl rfl rfl rfl (Nat.le_of_ble_eq_true rfl) dX4_goMinute_113 (mE_pB 1 (x := (((sColdTo n (st (sGain n B (nI j) (((holdsF (B 1 j) (B 2 j)) / 2) + 1)) 4 j (((sGain n B (nI j) (((holdsF (B 1 j) (B 2 j)) / 2) + 1)) 4 j) + 1)) j n) 0 1) + 1)) rfl) (fun H locs hR => ?_)
      exact hQ _ _ _ _ (RW.eq hR (by simp [sMin, sWay, k_2, c_3])) dX4_goMinute_116
  by_cases k_4 : w = 2
  · skip
    refine lv_tableIn (tgt := 88) (off := 87) hx hb dX4_goMinute_1 (by rw [k_4]; decide) (by rw [k_4]; decide) (by rw [k_4]; rfl) (by decide) ?_
    refine lv_aload_n hx hb dX4_goMinute_88 rfl (lv_at hl 0 rfl) ?_
    refine lv_iload_n hx hb dX4_goMinute_89 rfl (lv_at hl 1 rfl) ?_
    refine mm_callv (rest := []) hx hb hml hown hts hK hl.1 hR (m_X4_letGo l D ca n B X Y kp j hB (by first | assumption | omega)) (cwV 1 hts (lw_V q1366 q1368 qs50 q82 q1369) rfl rfl rfl cd_X4_letGo ⟨Nat.le_of_ble_eq_true rfl, Nat.le_of_ble_eq_true rfl⟩) rfl rfl (Nat.le_of_ble_eq_true rfl) dX4_goMinute_90 ⟨Nat.le_refl _, Nat.le_refl _⟩ (fun H locs hR => ?_)
    refine lv_goto (tgt := 101) hx hb dX4_goMinute_93 (by decide) ?_
    refine lv_aload_n hx hb dX4_goMinute_101 rfl (lv_at hl 0 rfl) ?_
    refine lv_iload_n hx hb dX4_goMinute_102 rfl (lv_at hl 1 rfl) ?_
    refine mm_callv (rest := []) hx hb hml hown hts hK hl.1 hR (m_X4_colder l D ca n (sLet n B j) X Y kp j (wf_let hB (by omega)) (by first | assumption | omega)) (cwV 1 hts (lw_V q1386 q1388 qs55 q82 q1389) rfl rfl rfl cd_X4_colder ⟨Nat.le_of_ble_eq_true rfl, Nat.le_of_ble_eq_true rfl⟩) rfl rfl (Nat.le_of_ble_eq_true rfl) dX4_goMinute_103 ⟨Nat.le_refl _, Nat.le_refl _⟩ (fun H locs hR => ?_)
    refine lv_aload_n hx hb dX4_goMinute_106 rfl (lv_at hl 0 rfl) ?_
    refine lv_dup hx hb dX4_goMinute_107 rfl ?_
    refine rw_get (v := .int ((sColdTo n (sLet n B j) j n) 0 1)) hx hb hts in_X4 hown hK hR 0 (by decide) rfl rfl 6 (by decide) q1168 rfl rfl dX4_goMinute_108 ?_
    refine lv_iconst (v := 1) hx hb dX4_goMinute_111 (by decide) ?_
    refine lv_iadd hx hb dX4_goMinute_112 ?_
    refine rw_put hx hb hts in_X4 tyX4 tyX4_ok nmX4 hown hK hR 0 (by decide) rfl rfl 6 (by decide) q1168 rfl rfl rfl rfl (Nat.le_of_ble_eq_true rfl) dX4_goMinute_113 (mE_pB 1 (x := (((sColdTo n (sLet n B j) j n) 0 1) + 1)) rfl) (fun H locs hR => ?_)
    exact hQ _ _ _ _ (RW.eq hR (by simp [sMin, sWay, k_4])) dX4_goMinute_116
  have k_1n : w.toInt ≠ 0 := sw_ne (by decide) k_1
  have k_2n : w.toInt ≠ 1 := sw_ne (by decide) k_2
  have k_4n : w.toInt ≠ 2 := sw_ne (by decide) k_4
  refine lv_tableOut (tgt := 96) hx hb dX4_goMinute_1 (by omega) (by decide) ?_
  refine lv_aload_n hx hb dX4_goMinute_96 rfl (lv_at hl 0 rfl) ?_
  refine lv_iload_n hx hb dX4_goMinute_97 rfl (lv_at hl 1 rfl) ?_
  refine mm_callv (rest := []) hx hb hml hown hts hK hl.1 hR (m_X4_show l D ca n B X Y kp j hB (by first | assumption | omega)) (cwV 1 hts (lw_V q1382 q1384 qs54 q82 q1385) rfl rfl rfl cd_X4_show ⟨Nat.le_of_ble_eq_true rfl, Nat.le_of_ble_eq_true rfl⟩) rfl rfl (Nat.le_of_ble_eq_true rfl) dX4_goMinute_98 ⟨Nat.le_refl _, Nat.le_refl _⟩ (fun H locs hR => ?_)
  refine lv_aload_n hx hb dX4_goMinute_101 rfl (lv_at hl 0 rfl) ?_
  refine lv_iload_n hx hb dX4_goMinute_102 rfl (lv_at hl 1 rfl) ?_
  refine mm_callv (rest := []) hx hb hml hown hts hK hl.1 hR (m_X4_colder l D ca n (sShow n B j) X Y kp j (wf_gain hB _ _) (by first | assumption | omega)) (cwV 1 hts (lw_V q1386 q1388 qs55 q82 q1389) rfl rfl rfl cd_X4_colder ⟨Nat.le_of_ble_eq_true rfl, Nat.le_of_ble_eq_true rfl⟩) rfl rfl (Nat.le_of_ble_eq_true rfl) dX4_goMinute_103 ⟨Nat.le_refl _, Nat.le_refl _⟩ (fun H locs hR => ?_)
  refine lv_aload_n hx hb dX4_goMinute_106 rfl (lv_at hl 0 rfl) ?_
  refine lv_dup hx hb dX4_goMinute_107 rfl ?_
  refine rw_get (v := .int ((sColdTo n (sShow n B j) j n) 0 1)) hx hb hts in_X4 hown hK hR 0 (by decide) rfl rfl 6 (by decide) q1168 rfl rfl dX4_goMinute_108 ?_
  refine lv_iconst (v := 1) hx hb dX4_goMinute_111 (by decide) ?_
  refine lv_iadd hx hb dX4_goMinute_112 ?_
  refine rw_put hx hb hts in_X4 tyX4 tyX4_ok nmX4 hown hK hR 0 (by decide) rfl rfl 6 (by decide) q1168 rfl rfl rfl rfl (Nat.le_of_ble_eq_true rfl) dX4_goMinute_113 (mE_pB 1 (x := (((sColdTo n (sShow n B j) j n) 0 1) + 1)) rfl) (fun H locs hR => ?_)
  exact hQ _ _ _ _ (RW.eq hR (by simp [sMin, sWay, k_1, k_2, k_4])) dX4_goMinute_116
theorem cd_X4_goBreak : yX4_goBreak.cls = RX4 ∧ yX4_goBreak.cls ≠ "java/lang/invoke/MethodHandle" ∧ yX4_goBreak.cls ≠ "java/lang/invoke/VarHandle" ∧ (parseMethodDescriptor yX4_goBreak.desc).map (fun d => d.parameters.length) = some 1 := by decide +kernel
set_option maxHeartbeats 4000000 in
theorem m_X4_goBreak (l : Launch) (D : va_G) (ca : Nat → ClassId) (n : Nat) (B X : Nat → Nat → Int32) (Y : Nat → Nat → Int64) (kp : Nat) (w : Int32) (hB : wfB n B) : MMv l D ca yX4_goBreak (ws_ yX4_goBreak cX4_goBreak 3 none) (rmN 1) (fun ad => [.int w]) B X Y kp (sRestTo w B n) X Y kp := by
  refine MMv_start (by decide) (fun _ => Nat.le_of_ble_eq_true rfl) ?_
  intro p e s m args below meth c0 ad A Q ls hx hb hml hown hts hK hR hl hQ
  have hl : lv_has ls 3 [(0, .ref (ad 0)), (1, .int w)] := hl
  have hn6 : n ≤ 6 := hB.1
  refine lv_iconst (v := 0) hx hb dX4_goBreak_0 (by decide) ?_
  refine lv_istore_n (lv' := [(2, .int 0), (0, .ref (ad 0)), (1, .int w)]) hx hb dX4_goBreak_1 rfl hl (by decide) rfl (fun ls hl => ?_)
  have loop_2 : ∀ (nn : Nat) (i : Nat), n - i < nn → (i ≤ n) → ∀ (H : Heap) (locs : List Loc), RW D 23 ad (mE ca ad (sRestTo w B i) X Y kp) A s.heap H locs → ∀ (ls : Array Slot), lv_has ls 3 [(0, .ref (ad 0)), (1, .int w), (2, .int (nI i))] → W p l e (rmN 1) s m args below meth c0 H locs 0 0 Q (F0 m 2 ls []) := by
    intro nn
    induction nn with
    | zero => intro i hm; exact absurd hm (Nat.not_lt_zero _)
    | succ nn ih_2 =>
      intro i hm_2 hi H locs hR ls hl
      refine lv_iload_n hx hb dX4_goBreak_2 rfl (lv_at hl 2 rfl) ?_
      refine lv_aload_n hx hb dX4_goBreak_3 rfl (lv_at hl 0 rfl) ?_
      refine rw_get (v := .int (nI n)) hx hb hts in_X4 hown hK hR 0 (by decide) rfl rfl 0 (by decide) q1162 rfl (mF_ch (wf_restTo hB i (by omega))) dX4_goBreak_4 ?_
      refine ln_ge (tgt := 79) hx hb (i) (n) rfl rfl (by omega) (by omega) dX4_goBreak_7 (by decide) (fun c_1 => ?_) (fun c_1 => ?_)
      · skip
        exact hQ _ _ _ _ (RW.eq hR (by rw [show i = n by omega])) dX4_goBreak_79
      · skip
        refine lv_aload_n hx hb dX4_goBreak_10 rfl (lv_at hl 0 rfl) ?_
        refine rw_get (v := .ref (ad 4)) hx hb hts in_X4 hown hK hR 0 (by decide) rfl rfl 4 (by decide) q1166 rfl rfl dX4_goBreak_11 ?_
        refine lv_iload_n hx hb dX4_goBreak_14 rfl (lv_at hl 2 rfl) ?_
        refine lv_aload_n hx hb dX4_goBreak_15 rfl (lv_at hl 0 rfl) ?_
        refine rw_get (v := .ref (ad 4)) hx hb hts in_X4 hown hK hR 0 (by decide) rfl rfl 4 (by decide) q1166 rfl rfl dX4_goBreak_16 ?_
        refine lv_iload_n hx hb dX4_goBreak_19 rfl (lv_at hl 2 rfl) ?_
        refine rw_ialdN (n := 6) hx hb hK hR 4 (by decide) rfl i rfl (by omega) (by decide) dX4_goBreak_20 ?_
        refine lv_bipush (v := 7) hx hb dX4_goBreak_21 (by decide) ?_
        refine lv_icmp_ne (tgt := 31) hx hb dX4_goBreak_23 (by decide) (fun c_2 => ?_) (fun c_2 => ?_)
        · skip
          refine lv_aload_n hx hb dX4_goBreak_31 rfl (lv_at hl 0 rfl) ?_
          refine rw_get (v := .ref (ad 4)) hx hb hts in_X4 hown hK hR 0 (by decide) rfl rfl 4 (by decide) q1166 rfl rfl dX4_goBreak_32 ?_
          refine lv_iload_n hx hb dX4_goBreak_35 rfl (lv_at hl 2 rfl) ?_
          refine rw_ialdN (n := 6) hx hb hK hR 4 (by decide) rfl i rfl (by omega) (by decide) dX4_goBreak_36 ?_
          refine lv_iload_n hx hb dX4_goBreak_37 rfl (lv_at hl 1 rfl) ?_
          refine lv_iconst (v := 3) hx hb dX4_goBreak_38 (by decide) ?_
          refine lv_idiv hx hb dX4_goBreak_39 (by decide) ?_
          refine lv_isub hx hb dX4_goBreak_40 ?_
          refine lv_bipush (v := 7) hx hb dX4_goBreak_41 (by decide) ?_
          refine rs_calli (rest := [.int (nI i), .ref (ad 4)]) hx hb hml hown hts hl.1 hR (m_X4_held l (((sRestTo w B i) 4 i) - (w / 3)) 7) (va_cwS 2 hts (lw_S q1355 q1356 q82 q1357) rfl rfl rfl cd_X4_held ⟨Nat.le_of_ble_eq_true rfl, Nat.le_of_ble_eq_true rfl⟩) rfl rfl (Nat.le_of_ble_eq_true rfl) dX4_goBreak_43 ⟨Nat.le_refl _, Nat.le_refl _⟩ (fun H locs hR => ?_)
          refine rw_iastN (n := 6) hx hb hK hR 4 (by decide) rfl i rfl (by omega) (by decide) dX4_goBreak_46 (mE_B 4 (by decide)) (fun H locs hR => ?_)
          refine lv_aload_n hx hb dX4_goBreak_47 rfl (lv_at hl 0 rfl) ?_
          refine rw_get (v := .ref (ad 3)) hx hb hts in_X4 hown hK hR 0 (by decide) rfl rfl 3 (by decide) q1165 rfl rfl dX4_goBreak_48 ?_
          refine lv_iload_n hx hb dX4_goBreak_51 rfl (lv_at hl 2 rfl) ?_
          refine lv_aload_n hx hb dX4_goBreak_52 rfl (lv_at hl 0 rfl) ?_
          refine rw_get (v := .ref (ad 3)) hx hb hts in_X4 hown hK hR 0 (by decide) rfl rfl 3 (by decide) q1165 rfl rfl dX4_goBreak_53 ?_
          refine lv_iload_n hx hb dX4_goBreak_56 rfl (lv_at hl 2 rfl) ?_
          refine rw_ialdN (n := 6) hx hb hK hR 3 (by decide) rfl i rfl (by omega) (by decide) dX4_goBreak_57 ?_
          refine W.eqs (st2 := [.int ((sRestTo w B i) 3 i), .int (nI i), .ref (ad 3)]) rfl ?_
          refine lv_iload_n hx hb dX4_goBreak_58 rfl (lv_at hl 1 rfl) ?_
          refine lv_isub hx hb dX4_goBreak_59 ?_
          refine lv_bipush (v := 20) hx hb dX4_goBreak_60 (by decide) ?_
          refine rs_calli (rest := [.int (nI i), .ref (ad 3)]) hx hb hml hown hts hl.1 hR (m_X4_held l (((sRestTo w B i) 3 i) - w) 20) (va_cwS 2 hts (lw_S q1355 q1356 q82 q1357) rfl rfl rfl cd_X4_held ⟨Nat.le_of_ble_eq_true rfl, Nat.le_of_ble_eq_true rfl⟩) rfl rfl (Nat.le_of_ble_eq_true rfl) dX4_goBreak_62 ⟨Nat.le_refl _, Nat.le_refl _⟩ (fun H locs hR => ?_)
          refine rw_iastN (n := 6) hx hb hK hR 3 (by decide) rfl i rfl (by omega) (by decide) dX4_goBreak_65 (mE_B 3 (by decide)) (fun H locs hR => ?_)
          refine lv_aload_n hx hb dX4_goBreak_66 rfl (lv_at hl 0 rfl) ?_
          refine rw_get (v := .ref (ad 5)) hx hb hts in_X4 hown hK hR 0 (by decide) rfl rfl 5 (by decide) q1167 rfl rfl dX4_goBreak_67 ?_
          refine lv_iload_n hx hb dX4_goBreak_70 rfl (lv_at hl 2 rfl) ?_
          refine lv_iconst (v := 0) hx hb dX4_goBreak_71 (by decide) ?_
          refine rw_iastN (n := 6) hx hb hK hR 5 (by decide) rfl i rfl (by omega) (by decide) dX4_goBreak_72 (mE_B 5 (by decide)) (fun H locs hR => ?_)
          refine lv_iinc (v := (nI (i + 1))) (lv' := [(2, .int (nI (i + 1))), (0, .ref (ad 0)), (1, .int w)]) hx hb dX4_goBreak_73 hl (k := 2) rfl (nI_1 i) (by decide) rfl (fun ls hl => ?_)
          refine lv_goto (tgt := 2) hx hb dX4_goBreak_76 (by decide) ?_
          exact ih_2 (i + 1) (by omega) (by omega) _ _ (RW.eq hR (by simp [sRestTo, sRest1, c_2])) ls (lv_sub hl [1, 2, 0] rfl)
        · skip
          refine lv_bipush (v := 7) hx hb dX4_goBreak_26 (by decide) ?_
          refine lv_goto (tgt := 46) hx hb dX4_goBreak_28 (by decide) ?_
          refine rw_iastN (n := 6) hx hb hK hR 4 (by decide) rfl i rfl (by omega) (by decide) dX4_goBreak_46 (mE_B 4 (by decide)) (fun H locs hR => ?_)
          refine lv_aload_n hx hb dX4_goBreak_47 rfl (lv_at hl 0 rfl) ?_
          refine rw_get (v := .ref (ad 3)) hx hb hts in_X4 hown hK hR 0 (by decide) rfl rfl 3 (by decide) q1165 rfl rfl dX4_goBreak_48 ?_
          refine lv_iload_n hx hb dX4_goBreak_51 rfl (lv_at hl 2 rfl) ?_
          refine lv_aload_n hx hb dX4_goBreak_52 rfl (lv_at hl 0 rfl) ?_
          refine rw_get (v := .ref (ad 3)) hx hb hts in_X4 hown hK hR 0 (by decide) rfl rfl 3 (by decide) q1165 rfl rfl dX4_goBreak_53 ?_
          refine lv_iload_n hx hb dX4_goBreak_56 rfl (lv_at hl 2 rfl) ?_
          refine rw_ialdN (n := 6) hx hb hK hR 3 (by decide) rfl i rfl (by omega) (by decide) dX4_goBreak_57 ?_
          refine W.eqs (st2 := [.int ((sRestTo w B i) 3 i), .int (nI i), .ref (ad 3)]) rfl ?_
          refine lv_iload_n hx hb dX4_goBreak_58 rfl (lv_at hl 1 rfl) ?_
          refine lv_isub hx hb dX4_goBreak_59 ?_
          refine lv_bipush (v := 20) hx hb dX4_goBreak_60 (by decide) ?_
          refine rs_calli (rest := [.int (nI i), .ref (ad 3)]) hx hb hml hown hts hl.1 hR (m_X4_held l (((sRestTo w B i) 3 i) - w) 20) (va_cwS 2 hts (lw_S q1355 q1356 q82 q1357) rfl rfl rfl cd_X4_held ⟨Nat.le_of_ble_eq_true rfl, Nat.le_of_ble_eq_true rfl⟩) rfl rfl (Nat.le_of_ble_eq_true rfl) dX4_goBreak_62 ⟨Nat.le_refl _, Nat.le_refl _⟩ (fun H locs hR => ?_)
          refine rw_iastN (n := 6) hx hb hK hR 3 (by decide) rfl i rfl (by omega) (by decide) dX4_goBreak_65 (mE_B 3 (by decide)) (fun H locs hR => ?_)
          refine lv_aload_n hx hb dX4_goBreak_66 rfl (lv_at hl 0 rfl) ?_
          refine rw_get (v := .ref (ad 5)) hx hb hts in_X4 hown hK hR 0 (by decide) rfl rfl 5 (by decide) q1167 rfl rfl dX4_goBreak_67 ?_
          refine lv_iload_n hx hb dX4_goBreak_70 rfl (lv_at hl 2 rfl) ?_
          refine lv_iconst (v := 0) hx hb dX4_goBreak_71 (by decide) ?_
          refine rw_iastN (n := 6) hx hb hK hR 5 (by decide) rfl i rfl (by omega) (by decide) dX4_goBreak_72 (mE_B 5 (by decide)) (fun H locs hR => ?_)
          refine lv_iinc (v := (nI (i + 1))) (lv' := [(2, .int (nI (i + 1))), (0, .ref (ad 0)), (1, .int w)]) hx hb dX4_goBreak_73 hl (k := 2) rfl (nI_1 i) (by decide) rfl (fun ls hl => ?_)
          refine lv_goto (tgt := 2) hx hb dX4_goBreak_76 (by decide) ?_
          exact ih_2 (i + 1) (by omega) (by omega) _ _ (RW.eq hR (by simp [sRestTo, sRest1, c_2])) ls (lv_sub hl [1, 2, 0] rfl)
  exact loop_2 _ 0 (Nat.lt_succ_self _) (by omega) _ _ (RW.eq hR (by rfl)) ls (lv_sub hl [1, 2, 0] rfl)
theorem cd_X4_allSteps : yX4_allSteps.cls = RX4 ∧ yX4_allSteps.cls ≠ "java/lang/invoke/MethodHandle" ∧ yX4_allSteps.cls ≠ "java/lang/invoke/VarHandle" ∧ (parseMethodDescriptor yX4_allSteps.desc).map (fun d => d.parameters.length) = some 0 := by decide +kernel
set_option maxHeartbeats 4000000 in
theorem m_X4_allSteps (l : Launch) (D : va_G) (ca : Nat → ClassId) (n : Nat) (B X : Nat → Nat → Int32) (Y : Nat → Nat → Int64) (kp : Nat)  (hB : wfB n B) : MMi l D ca yX4_allSteps (ws_ yX4_allSteps cX4_allSteps 3 (some .int)) (rmN 0) (fun ad => []) B X Y kp (sumTo (B 4) n) B X Y kp := by
  refine MMi_start (by decide) (Or.inl rfl) (fun _ => Nat.le_of_ble_eq_true rfl) ?_
  intro p e s m args below meth c0 ad A Q ls hx hb hml hown hts hK hR hl hQ
  have hl : lv_has ls 3 [(0, .ref (ad 0))] := hl
  have hn6 : n ≤ 6 := hB.1
  refine lv_iconst (v := 0) hx hb dX4_allSteps_0 (by decide) ?_
  refine lv_istore_n (lv' := [(1, .int 0), (0, .ref (ad 0))]) hx hb dX4_allSteps_1 rfl hl (by decide) rfl (fun ls hl => ?_)
  refine lv_iconst (v := 0) hx hb dX4_allSteps_2 (by decide) ?_
  refine lv_istore_n (lv' := [(2, .int 0), (1, .int 0), (0, .ref (ad 0))]) hx hb dX4_allSteps_3 rfl hl (by decide) rfl (fun ls hl => ?_)
  have loop_4 : ∀ (nn : Nat) (i : Nat) (v : Int32), n - i < nn → (i ≤ n) → (v = sumTo (B 4) i) → ∀ (H : Heap) (locs : List Loc), RW D 23 ad (mE ca ad B X Y kp) A s.heap H locs → ∀ (ls : Array Slot), lv_has ls 3 [(0, .ref (ad 0)), (1, .int v), (2, .int (nI i))] → W p l e (rmN 0) s m args below meth c0 H locs 0 0 Q (F0 m 4 ls []) := by
    intro nn
    induction nn with
    | zero => intro i v hm; exact absurd hm (Nat.not_lt_zero _)
    | succ nn ih_4 =>
      intro i v hm_4 hi hv H locs hR ls hl
      refine lv_iload_n hx hb dX4_allSteps_4 rfl (lv_at hl 2 rfl) ?_
      refine lv_aload_n hx hb dX4_allSteps_5 rfl (lv_at hl 0 rfl) ?_
      refine rw_get (v := .int (nI n)) hx hb hts in_X4 hown hK hR 0 (by decide) rfl rfl 0 (by decide) q1162 rfl (mF_ch hB) dX4_allSteps_6 ?_
      refine ln_ge (tgt := 27) hx hb (i) (n) rfl rfl (by omega) (by omega) dX4_allSteps_9 (by decide) (fun c_1 => ?_) (fun c_1 => ?_)
      · skip
        refine lv_iload_n hx hb dX4_allSteps_27 rfl (lv_at hl 1 rfl) ?_
        exact hQ _ _ _ _ _ (by rw [hv, show i = n by omega]) hR dX4_allSteps_28
      · skip
        refine lv_iload_n hx hb dX4_allSteps_12 rfl (lv_at hl 1 rfl) ?_
        refine lv_aload_n hx hb dX4_allSteps_13 rfl (lv_at hl 0 rfl) ?_
        refine rw_get (v := .ref (ad 4)) hx hb hts in_X4 hown hK hR 0 (by decide) rfl rfl 4 (by decide) q1166 rfl rfl dX4_allSteps_14 ?_
        refine lv_iload_n hx hb dX4_allSteps_17 rfl (lv_at hl 2 rfl) ?_
        refine rw_ialdN (n := 6) hx hb hK hR 4 (by decide) rfl i rfl (by omega) (by decide) dX4_allSteps_18 ?_
        refine lv_iadd hx hb dX4_allSteps_19 ?_
        refine lv_istore_n (lv' := [(1, .int (v + (B 4 i))), (0, .ref (ad 0)), (2, .int (nI i))]) hx hb dX4_allSteps_20 rfl hl (by decide) rfl (fun ls hl => ?_)
        refine lv_iinc (v := (nI (i + 1))) (lv' := [(2, .int (nI (i + 1))), (1, .int (v + (B 4 i))), (0, .ref (ad 0))]) hx hb dX4_allSteps_21 hl (k := 2) rfl (nI_1 i) (by decide) rfl (fun ls hl => ?_)
        refine lv_goto (tgt := 4) hx hb dX4_allSteps_24 (by decide) ?_
        exact ih_4 (i + 1) (v + (B 4 i)) (by omega) (by omega) (by rw [hv]; rfl) _ _ hR ls (lv_sub hl [2, 1, 0] rfl)
  exact loop_4 _ 0 0 (Nat.lt_succ_self _) (by omega) (by rfl) _ _ hR ls (lv_sub hl [2, 1, 0] rfl)
theorem cd_X4_swimBits : yX4_swimBits.cls = RX4 ∧ yX4_swimBits.cls ≠ "java/lang/invoke/MethodHandle" ∧ yX4_swimBits.cls ≠ "java/lang/invoke/VarHandle" ∧ (parseMethodDescriptor yX4_swimBits.desc).map (fun d => d.parameters.length) = some 0 := by decide +kernel
set_option maxHeartbeats 4000000 in
theorem m_X4_swimBits (l : Launch) (D : va_G) (ca : Nat → ClassId) (n : Nat) (B X : Nat → Nat → Int32) (Y : Nat → Nat → Int64) (kp : Nat)  (hB : wfB n B) : MMi l D ca yX4_swimBits (ws_ yX4_swimBits cX4_swimBits 3 (some .int)) (rmN 0) (fun ad => []) B X Y kp (orTo (swB B) n) B X Y kp := by
  refine MMi_start (by decide) (Or.inl rfl) (fun _ => Nat.le_of_ble_eq_true rfl) ?_
  intro p e s m args below meth c0 ad A Q ls hx hb hml hown hts hK hR hl hQ
  have hl : lv_has ls 3 [(0, .ref (ad 0))] := hl
  have hn6 : n ≤ 6 := hB.1
  refine lv_iconst (v := 0) hx hb dX4_swimBits_0 (by decide) ?_
  refine lv_istore_n (lv' := [(1, .int 0), (0, .ref (ad 0))]) hx hb dX4_swimBits_1 rfl hl (by decide) rfl (fun ls hl => ?_)
  refine lv_iconst (v := 0) hx hb dX4_swimBits_2 (by decide) ?_
  refine lv_istore_n (lv' := [(2, .int 0), (1, .int 0), (0, .ref (ad 0))]) hx hb dX4_swimBits_3 rfl hl (by decide) rfl (fun ls hl => ?_)
  have loop_4 : ∀ (nn : Nat) (i : Nat) (v : Int32), n - i < nn → (i ≤ n) → (v = orTo (swB B) i) → ∀ (H : Heap) (locs : List Loc), RW D 23 ad (mE ca ad B X Y kp) A s.heap H locs → ∀ (ls : Array Slot), lv_has ls 3 [(0, .ref (ad 0)), (1, .int v), (2, .int (nI i))] → W p l e (rmN 0) s m args below meth c0 H locs 0 0 Q (F0 m 4 ls []) := by
    intro nn
    induction nn with
    | zero => intro i v hm; exact absurd hm (Nat.not_lt_zero _)
    | succ nn ih_4 =>
      intro i v hm_4 hi hv H locs hR ls hl
      refine lv_iload_n hx hb dX4_swimBits_4 rfl (lv_at hl 2 rfl) ?_
      refine lv_aload_n hx hb dX4_swimBits_5 rfl (lv_at hl 0 rfl) ?_
      refine rw_get (v := .int (nI n)) hx hb hts in_X4 hown hK hR 0 (by decide) rfl rfl 0 (by decide) q1162 rfl (mF_ch hB) dX4_swimBits_6 ?_
      refine ln_ge (tgt := 39) hx hb (i) (n) rfl rfl (by omega) (by omega) dX4_swimBits_9 (by decide) (fun c_1 => ?_) (fun c_1 => ?_)
      · skip
        refine lv_iload_n hx hb dX4_swimBits_39 rfl (lv_at hl 1 rfl) ?_
        exact hQ _ _ _ _ _ (by rw [hv, show i = n by omega]) hR dX4_swimBits_40
      · skip
        refine lv_iload_n hx hb dX4_swimBits_12 rfl (lv_at hl 1 rfl) ?_
        refine lv_aload_n hx hb dX4_swimBits_13 rfl (lv_at hl 0 rfl) ?_
        refine rw_get (v := .ref (ad 4)) hx hb hts in_X4 hown hK hR 0 (by decide) rfl rfl 4 (by decide) q1166 rfl rfl dX4_swimBits_14 ?_
        refine lv_iload_n hx hb dX4_swimBits_17 rfl (lv_at hl 2 rfl) ?_
        refine rw_ialdN (n := 6) hx hb hK hR 4 (by decide) rfl i rfl (by omega) (by decide) dX4_swimBits_18 ?_
        refine lv_bipush (v := 7) hx hb dX4_swimBits_19 (by decide) ?_
        refine lv_icmp_ne (tgt := 30) hx hb dX4_swimBits_21 (by decide) (fun c_2 => ?_) (fun c_2 => ?_)
        · skip
          refine lv_iconst (v := 0) hx hb dX4_swimBits_30 (by decide) ?_
          refine lv_ior hx hb dX4_swimBits_31 ?_
          refine lv_istore_n (lv' := [(1, .int (v ||| 0)), (0, .ref (ad 0)), (2, .int (nI i))]) hx hb dX4_swimBits_32 rfl hl (by decide) rfl (fun ls hl => ?_)
          refine lv_iinc (v := (nI (i + 1))) (lv' := [(2, .int (nI (i + 1))), (1, .int (v ||| 0)), (0, .ref (ad 0))]) hx hb dX4_swimBits_33 hl (k := 2) rfl (nI_1 i) (by decide) rfl (fun ls hl => ?_)
          refine lv_goto (tgt := 4) hx hb dX4_swimBits_36 (by decide) ?_
          exact ih_4 (i + 1) (v ||| 0) (by omega) (by omega) (by simp [orTo, ← hv, swB, c_2]) _ _ hR ls (lv_sub hl [2, 1, 0] rfl)
        · skip
          refine lv_iconst (v := 1) hx hb dX4_swimBits_24 (by decide) ?_
          refine lv_iload_n hx hb dX4_swimBits_25 rfl (lv_at hl 2 rfl) ?_
          refine lv_ishl hx hb dX4_swimBits_26 ?_
          refine lv_goto (tgt := 31) hx hb dX4_swimBits_27 (by decide) ?_
          refine lv_ior hx hb dX4_swimBits_31 ?_
          refine lv_istore_n (lv' := [(1, .int (v ||| (1 <<< ((nI i) &&& 31)))), (0, .ref (ad 0)), (2, .int (nI i))]) hx hb dX4_swimBits_32 rfl hl (by decide) rfl (fun ls hl => ?_)
          refine lv_iinc (v := (nI (i + 1))) (lv' := [(2, .int (nI (i + 1))), (1, .int (v ||| (1 <<< ((nI i) &&& 31)))), (0, .ref (ad 0))]) hx hb dX4_swimBits_33 hl (k := 2) rfl (nI_1 i) (by decide) rfl (fun ls hl => ?_)
          refine lv_goto (tgt := 4) hx hb dX4_swimBits_36 (by decide) ?_
          exact ih_4 (i + 1) (v ||| (1 <<< ((nI i) &&& 31))) (by omega) (by omega) (by simp [orTo, ← hv, swB, c_2]) _ _ hR ls (lv_sub hl [2, 1, 0] rfl)
  exact loop_4 _ 0 0 (Nat.lt_succ_self _) (by omega) (by rfl) _ _ hR ls (lv_sub hl [2, 1, 0] rfl)
theorem cd_X4_readyBits : yX4_readyBits.cls = RX4 ∧ yX4_readyBits.cls ≠ "java/lang/invoke/MethodHandle" ∧ yX4_readyBits.cls ≠ "java/lang/invoke/VarHandle" ∧ (parseMethodDescriptor yX4_readyBits.desc).map (fun d => d.parameters.length) = some 0 := by decide +kernel
set_option maxHeartbeats 4000000 in
theorem m_X4_readyBits (l : Launch) (D : va_G) (ca : Nat → ClassId) (n : Nat) (B X : Nat → Nat → Int32) (Y : Nat → Nat → Int64) (kp : Nat)  (hB : wfB n B) : MMi l D ca yX4_readyBits (ws_ yX4_readyBits cX4_readyBits 3 (some .int)) (rmN 3) (fun ad => []) B X Y kp (orTo (rdy B) n) B X Y kp := by
  refine MMi_start (by decide) (Or.inl rfl) (fun _ => Nat.le_of_ble_eq_true rfl) ?_
  intro p e s m args below meth c0 ad A Q ls hx hb hml hown hts hK hR hl hQ
  have hl : lv_has ls 3 [(0, .ref (ad 0))] := hl
  have hn6 : n ≤ 6 := hB.1
  refine lv_iconst (v := 0) hx hb dX4_readyBits_0 (by decide) ?_
  refine lv_istore_n (lv' := [(1, .int 0), (0, .ref (ad 0))]) hx hb dX4_readyBits_1 rfl hl (by decide) rfl (fun ls hl => ?_)
  refine lv_iconst (v := 0) hx hb dX4_readyBits_2 (by decide) ?_
  refine lv_istore_n (lv' := [(2, .int 0), (1, .int 0), (0, .ref (ad 0))]) hx hb dX4_readyBits_3 rfl hl (by decide) rfl (fun ls hl => ?_)
  have loop_4 : ∀ (nn : Nat) (i : Nat) (v : Int32), n - i < nn → (i ≤ n) → (v = orTo (rdy B) i) → ∀ (H : Heap) (locs : List Loc), RW D 23 ad (mE ca ad B X Y kp) A s.heap H locs → ∀ (ls : Array Slot), lv_has ls 3 [(0, .ref (ad 0)), (1, .int v), (2, .int (nI i))] → W p l e (rmN 3) s m args below meth c0 H locs 0 0 Q (F0 m 4 ls []) := by
    intro nn
    induction nn with
    | zero => intro i v hm; exact absurd hm (Nat.not_lt_zero _)
    | succ nn ih_4 =>
      intro i v hm_4 hi hv H locs hR ls hl
      refine lv_iload_n hx hb dX4_readyBits_4 rfl (lv_at hl 2 rfl) ?_
      refine lv_aload_n hx hb dX4_readyBits_5 rfl (lv_at hl 0 rfl) ?_
      refine rw_get (v := .int (nI n)) hx hb hts in_X4 hown hK hR 0 (by decide) rfl rfl 0 (by decide) q1162 rfl (mF_ch hB) dX4_readyBits_6 ?_
      refine ln_ge (tgt := 36) hx hb (i) (n) rfl rfl (by omega) (by omega) dX4_readyBits_9 (by decide) (fun c_1 => ?_) (fun c_1 => ?_)
      · skip
        refine lv_iload_n hx hb dX4_readyBits_36 rfl (lv_at hl 1 rfl) ?_
        exact hQ _ _ _ _ _ (by rw [hv, show i = n by omega]) hR dX4_readyBits_37
      · skip
        refine lv_iload_n hx hb dX4_readyBits_12 rfl (lv_at hl 1 rfl) ?_
        refine lv_aload_n hx hb dX4_readyBits_13 rfl (lv_at hl 0 rfl) ?_
        refine lv_iload_n hx hb dX4_readyBits_14 rfl (lv_at hl 2 rfl) ?_
        refine mm_calli (rest := [.int v]) hx hb hml hown hts hK hl.1 hR (m_X4_isReady l D ca B X Y kp i (by omega)) (cwV 1 hts (lw_V q1374 q1376 qs52 q82 q1377) rfl rfl rfl cd_X4_isReady ⟨Nat.le_of_ble_eq_true rfl, Nat.le_of_ble_eq_true rfl⟩) rfl rfl (Nat.le_of_ble_eq_true rfl) dX4_readyBits_15 ⟨Nat.le_refl _, Nat.le_refl _⟩ (fun H locs hR => ?_)
        refine lb_eq (tgt := 27) hx hb dX4_readyBits_18 (by decide) (fun c_2 => ?_) (fun c_2 => ?_)
        · skip
          refine lv_iconst (v := 0) hx hb dX4_readyBits_27 (by decide) ?_
          refine lv_ior hx hb dX4_readyBits_28 ?_
          refine lv_istore_n (lv' := [(1, .int (v ||| 0)), (0, .ref (ad 0)), (2, .int (nI i))]) hx hb dX4_readyBits_29 rfl hl (by decide) rfl (fun ls hl => ?_)
          refine lv_iinc (v := (nI (i + 1))) (lv' := [(2, .int (nI (i + 1))), (1, .int (v ||| 0)), (0, .ref (ad 0))]) hx hb dX4_readyBits_30 hl (k := 2) rfl (nI_1 i) (by decide) rfl (fun ls hl => ?_)
          refine lv_goto (tgt := 4) hx hb dX4_readyBits_33 (by decide) ?_
          exact ih_4 (i + 1) (v ||| 0) (by omega) (by omega) (by simp [orTo, ← hv, c_2]) _ _ hR ls (lv_sub hl [2, 1, 0] rfl)
        · skip
          refine lv_iconst (v := 1) hx hb dX4_readyBits_21 (by decide) ?_
          refine lv_iload_n hx hb dX4_readyBits_22 rfl (lv_at hl 2 rfl) ?_
          refine lv_ishl hx hb dX4_readyBits_23 ?_
          refine lv_goto (tgt := 28) hx hb dX4_readyBits_24 (by decide) ?_
          refine lv_ior hx hb dX4_readyBits_28 ?_
          refine lv_istore_n (lv' := [(1, .int (v ||| (1 <<< ((nI i) &&& 31)))), (0, .ref (ad 0)), (2, .int (nI i))]) hx hb dX4_readyBits_29 rfl hl (by decide) rfl (fun ls hl => ?_)
          refine lv_iinc (v := (nI (i + 1))) (lv' := [(2, .int (nI (i + 1))), (1, .int (v ||| (1 <<< ((nI i) &&& 31)))), (0, .ref (ad 0))]) hx hb dX4_readyBits_30 hl (k := 2) rfl (nI_1 i) (by decide) rfl (fun ls hl => ?_)
          refine lv_goto (tgt := 4) hx hb dX4_readyBits_33 (by decide) ?_
          exact ih_4 (i + 1) (v ||| (1 <<< ((nI i) &&& 31))) (by omega) (by omega) (by simp [orTo, ← hv, c_2]) _ _ hR ls (lv_sub hl [2, 1, 0] rfl)
  exact loop_4 _ 0 0 (Nat.lt_succ_self _) (by omega) (by rfl) _ _ hR ls (lv_sub hl [2, 1, 0] rfl)
theorem cd_X4_onesOf : yX4_onesOf.cls ≠ "java/lang/invoke/MethodHandle" ∧ yX4_onesOf.cls ≠ "java/lang/invoke/VarHandle" ∧ (parseMethodDescriptor yX4_onesOf.desc).map (fun d => d.parameters.length) = some 1 := by decide +kernel
set_option maxHeartbeats 4000000 in
theorem m_X4_onesOf (l : Launch) (a0 : Nat) (hm : a0 < 256) : SSi l yX4_onesOf (ws_ yX4_onesOf cX4_onesOf 3 (some .int)) (rmN 0) [.int (nI a0)] (nI (pop a0)) := by
  refine SSi_start (by decide) (Or.inl rfl) (Nat.le_of_ble_eq_true rfl) ?_
  intro p e s m args below meth c0 Q ls hx hb hml hown hts hS hl hQ
  have hl : lv_has ls 3 [(0, .int (nI a0))] := hl
  refine lv_iconst (v := 0) hx hb dX4_onesOf_0 (by decide) ?_
  refine lv_istore_n (lv' := [(1, .int 0), (0, .int (nI a0))]) hx hb dX4_onesOf_1 rfl hl (by decide) rfl (fun ls hl => ?_)
  refine lv_iload_n hx hb dX4_onesOf_2 rfl (lv_at hl 1 rfl) ?_
  refine lv_istore_n (lv' := [(2, .int (nI a0)), (1, .int 0), (0, .int (nI a0))]) hx hb dX4_onesOf_3 rfl hl (by decide) rfl (fun ls hl => ?_)
  have loop_4 : ∀ (nn : Nat) (k : Nat) (a : Nat), a < nn → (a < 256) → (k + pop a = pop a0) → ∀ (H : Heap) (locs : List Loc), va_S (fun _ => False) s.heap H locs → ∀ (ls : Array Slot), lv_has ls 3 [(0, .int (nI a0)), (1, .int (nI k)), (2, .int (nI a))] → W p l e (rmN 0) s m args below meth c0 H locs 0 0 Q (F0 m 4 ls []) := by
    intro nn
    induction nn with
    | zero => intro k a hm; exact absurd hm (Nat.not_lt_zero _)
    | succ nn ih_4 =>
      intro k a hm_4 ha hk H locs hS ls hl
      refine lv_iload_n hx hb dX4_onesOf_4 rfl (lv_at hl 2 rfl) ?_
      refine ln0_eq (tgt := 20) hx hb (a) rfl (by omega) dX4_onesOf_5 (by decide) (fun c_1 => ?_) (fun c_1 => ?_)
      · skip
        refine lv_iload_n hx hb dX4_onesOf_20 rfl (lv_at hl 1 rfl) ?_
        exact hQ _ _ _ _ _ (by subst c_1; rw [show k = pop a0 by have : pop 0 = 0 := rfl; omega]) hS dX4_onesOf_21
      · skip
        refine lv_iinc (v := (nI (k + 1))) (lv' := [(1, .int (nI (k + 1))), (0, .int (nI a0)), (2, .int (nI a))]) hx hb dX4_onesOf_8 hl (k := 1) rfl (nI_1 k) (by decide) rfl (fun ls hl => ?_)
        refine lv_iload_n hx hb dX4_onesOf_11 rfl (lv_at hl 2 rfl) ?_
        refine lv_iload_n hx hb dX4_onesOf_12 rfl (lv_at hl 2 rfl) ?_
        refine lv_iconst (v := 1) hx hb dX4_onesOf_13 (by decide) ?_
        refine lv_isub hx hb dX4_onesOf_14 ?_
        refine lv_iand hx hb dX4_onesOf_15 ?_
        refine W.eqs (st2 := [.int (nI (a &&& (a - 1)))]) (by rw [nI_andpred (by assumption)]) ?_
        refine lv_istore_n (lv' := [(2, .int (nI (a &&& (a - 1)))), (1, .int (nI (k + 1))), (0, .int (nI a0))]) hx hb dX4_onesOf_16 rfl hl (by decide) rfl (fun ls hl => ?_)
        refine lv_goto (tgt := 4) hx hb dX4_onesOf_17 (by decide) ?_
        exact ih_4 (k + 1) (a &&& (a - 1)) (by have := (pop_step a ha (by assumption)).2; omega) (by have := (pop_step a ha (by assumption)).2; omega) (by have := (pop_step a ha (by assumption)).1; omega) _ _ hS ls (lv_sub hl [2, 1, 0] rfl)
  exact loop_4 _ 0 a0 (Nat.lt_succ_self _) (by omega) (by omega) _ _ hS ls (lv_sub hl [2, 1, 0] rfl)
