/-! the model: turns, weeks, breaks -/
set_option maxRecDepth 100000
theorem cd_X4_drawBelow : yX4_drawBelow.cls = RX4 ∧ yX4_drawBelow.cls ≠ "java/lang/invoke/MethodHandle" ∧ yX4_drawBelow.cls ≠ "java/lang/invoke/VarHandle" ∧ (parseMethodDescriptor yX4_drawBelow.desc).map (fun d => d.parameters.length) = some 1 := by decide +kernel
set_option maxHeartbeats 4000000 in
theorem m_X4_drawBelow (l : Launch) (D : va_G) (ca : Nat → ClassId) (B X : Nat → Nat → Int32) (Y : Nat → Nat → Int64) (kp : Nat) (m0 : Nat) (hm0 : 0 < m0) (hm1 : m0 < 2 ^ 31) : MMi l D ca yX4_drawBelow (ws_ yX4_drawBelow cX4_drawBelow 2 (some .int)) (rmN 0) (fun ad => [.int (nI m0)]) B X Y kp (nI (drN (X 0 11) m0)) B (st X 0 11 (lcg (X 0 11))) Y kp := by
  refine MMi_start (by decide) (Or.inl rfl) (fun _ => Nat.le_of_ble_eq_true rfl) ?_
  intro p e s m args below meth c0 ad A Q ls hx hb hml hown hts hK hR hl hQ
  have hl : lv_has ls 2 [(0, .ref (ad 0)), (1, .int (nI m0))] := hl
  refine lv_aload_n hx hb dX4_drawBelow_0 rfl (lv_at hl 0 rfl) ?_
  refine lv_aload_n hx hb dX4_drawBelow_1 rfl (lv_at hl 0 rfl) ?_
  refine rw_get (v := .int (X 0 11)) hx hb hts in_X4 hown hK hR 0 (by decide) rfl rfl 35 (by decide) q1197 rfl rfl dX4_drawBelow_2 ?_
  refine lv_ldcw hx hb hown (hts _ q1622) dX4_drawBelow_5 ?_
  refine lv_imul hx hb dX4_drawBelow_8 ?_
  refine lv_sipush (v := 12345) hx hb dX4_drawBelow_9 (by decide) ?_
  refine lv_iadd hx hb dX4_drawBelow_12 ?_
  refine rw_put hx hb hts in_X4 tyX4 tyX4_ok nmX4 hown hK hR 0 (by decide) rfl rfl 35 (by decide) q1197 rfl rfl rfl rfl (Nat.le_of_ble_eq_true rfl) dX4_drawBelow_13 (mE_pX 11 (x := (((X 0 11) * 1103515245) + 12345)) rfl) (fun H locs hR => ?_)
  refine lv_aload_n hx hb dX4_drawBelow_16 rfl (lv_at hl 0 rfl) ?_
  refine rw_get (v := .int (((X 0 11) * 1103515245) + 12345)) hx hb hts in_X4 hown hK hR 0 (by decide) rfl rfl 35 (by decide) q1197 rfl rfl dX4_drawBelow_17 ?_
  refine lv_ldcw hx hb hown (hts _ q1623) dX4_drawBelow_20 ?_
  refine lv_iand hx hb dX4_drawBelow_23 ?_
  refine lv_ldcw hx hb hown (hts _ q1624) dX4_drawBelow_24 ?_
  refine lv_idiv hx hb dX4_drawBelow_27 (by decide) ?_
  refine lv_iload_n hx hb dX4_drawBelow_28 rfl (lv_at hl 1 rfl) ?_
  refine lv_irem hx hb dX4_drawBelow_29 (nI_ne0 hm0 hm1) ?_
  refine W.eqs (st2 := [.int (nI (drN (X 0 11) m0))]) (by first | rw [dr_eq _ hm0 hm1] | exact congrArg (fun z : Int32 => [Value.int z]) (dr_eq _ hm0 hm1)) ?_
  exact hQ _ _ _ _ _ (rfl) (RW.eq hR (rfl)) dX4_drawBelow_30
theorem cd_X4_nextTurn : yX4_nextTurn.cls = RX4 ∧ yX4_nextTurn.cls ≠ "java/lang/invoke/MethodHandle" ∧ yX4_nextTurn.cls ≠ "java/lang/invoke/VarHandle" ∧ (parseMethodDescriptor yX4_nextTurn.desc).map (fun d => d.parameters.length) = some 0 := by decide +kernel
set_option maxHeartbeats 4000000 in
theorem m_X4_nextTurn (l : Launch) (D : va_G) (ca : Nat → ClassId) (n : Nat) (B X : Nat → Nat → Int32) (Y : Nat → Nat → Int64) (kp : Nat) (t : Nat) (hB : wfB n B) (ht : t ≤ n) (hx10 : X 0 10 = nI t) : MMi l D ca yX4_nextTurn (ws_ yX4_nextTurn cX4_nextTurn 4 (some .int)) (rmN 5) (fun ad => []) B X Y kp (sTurnH n B t) (sTurnB n B t) (st X 0 10 (nI (sTurnT n B t))) Y kp := by
  refine MMi_start (by decide) (Or.inl rfl) (fun _ => Nat.le_of_ble_eq_true rfl) ?_
  intro p e s m args below meth c0 ad A Q ls hx hb hml hown hts hK hR hl hQ
  have hl : lv_has ls 4 [(0, .ref (ad 0))] := hl
  have hn6 : n ≤ 6 := hB.1
  refine lv_iconst (v := 0) hx hb dX4_nextTurn_0 (by decide) ?_
  refine lv_istore_n (lv' := [(1, .int 0), (0, .ref (ad 0))]) hx hb dX4_nextTurn_1 rfl hl (by decide) rfl (fun ls hl => ?_)
  have loop_2 : ∀ (nn : Nat) (k : Nat), n - k < nn → (k ≤ n) → (trC n B t = trTo n B t (n - k)) → ∀ (H : Heap) (locs : List Loc), RW D 23 ad (mE ca ad B X Y kp) A s.heap H locs → ∀ (ls : Array Slot), lv_has ls 4 [(0, .ref (ad 0)), (1, .int (nI k))] → W p l e (rmN 5) s m args below meth c0 H locs 0 0 Q (F0 m 2 ls []) := by
    intro nn
    induction nn with
    | zero => intro k hm; exact absurd hm (Nat.not_lt_zero _)
    | succ nn ih_2 =>
      intro k hm_2 hk hk0 H locs hR ls hl
      refine lv_iload_n hx hb dX4_nextTurn_2 rfl (lv_at hl 1 rfl) ?_
      refine lv_aload_n hx hb dX4_nextTurn_3 rfl (lv_at hl 0 rfl) ?_
      refine rw_get (v := .int (nI n)) hx hb hts in_X4 hown hK hR 0 (by decide) rfl rfl 0 (by decide) q1162 rfl (mF_ch hB) dX4_nextTurn_4 ?_
      refine ln_ge (tgt := 76) hx hb (k) (n) rfl rfl (by omega) (by omega) dX4_nextTurn_7 (by decide) (fun c_1 => ?_) (fun c_1 => ?_)
      · skip
        refine lv_bipush (v := (-4)) hx hb dX4_nextTurn_76 (by decide) ?_
        exact hQ _ _ _ _ _ (by rw [show k = n by omega, Nat.sub_self] at hk0; simp [sTurnH, hk0, trTo]) (RW.eq hR (by rw [show k = n by omega, Nat.sub_self] at hk0; simp [sTurnB, sTurnT, hk0, trTo, ← hx10, st_same])) dX4_nextTurn_78
      · skip
        refine lv_aload_n hx hb dX4_nextTurn_10 rfl (lv_at hl 0 rfl) ?_
        refine rw_get (v := .int (nI t)) hx hb hts in_X4 hown hK hR 0 (by decide) rfl rfl 33 (by decide) q1195 rfl (by show some (Value.int (X 0 10)) = _; rw [hx10]) dX4_nextTurn_11 ?_
        refine lv_iload_n hx hb dX4_nextTurn_14 rfl (lv_at hl 1 rfl) ?_
        refine lv_iadd hx hb dX4_nextTurn_15 ?_
        refine W.eqs (st2 := [.int (nI (t + k))]) (congrArg (fun z : Int32 => Value.int z :: _) (nI_add t k)) ?_
        refine lv_aload_n hx hb dX4_nextTurn_16 rfl (lv_at hl 0 rfl) ?_
        refine rw_get (v := .int (nI n)) hx hb hts in_X4 hown hK hR 0 (by decide) rfl rfl 0 (by decide) q1162 rfl (mF_ch hB) dX4_nextTurn_17 ?_
        refine lv_irem hx hb dX4_nextTurn_20 (nI_ne0 (by omega) (by omega)) ?_
        obtain ⟨cc, hcc⟩ : ∃ cc, cc = (t + k) % n := ⟨_, rfl⟩
        have hcn : cc < n := by rw [hcc]; exact Nat.mod_lt _ (by omega)
        refine W.eqs (st2 := [.int (nI cc)]) (by rw [pk_rem (by omega) (by omega) (by omega), hcc]) ?_
        refine lv_istore_n (lv' := [(2, .int (nI cc)), (0, .ref (ad 0)), (1, .int (nI k))]) hx hb dX4_nextTurn_21 rfl hl (by decide) rfl (fun ls hl => ?_)
        refine lv_aload_n hx hb dX4_nextTurn_22 rfl (lv_at hl 1 rfl) ?_
        refine rw_get (v := .ref (ad 4)) hx hb hts in_X4 hown hK hR 0 (by decide) rfl rfl 4 (by decide) q1166 rfl rfl dX4_nextTurn_23 ?_
        refine lv_iload_n hx hb dX4_nextTurn_26 rfl (lv_at hl 0 rfl) ?_
        refine rw_ialdN (n := 6) hx hb hK hR 4 (by decide) rfl cc rfl (by omega) (by decide) dX4_nextTurn_27 ?_
        refine lv_bipush (v := 7) hx hb dX4_nextTurn_28 (by decide) ?_
        refine lj_ge (tgt := 70) hx hb dX4_nextTurn_30 (by decide) (fun c_2 => ?_) (fun c_2 => ?_)
        · skip
          refine lv_iinc (v := (nI (k + 1))) (lv' := [(1, .int (nI (k + 1))), (2, .int (nI cc)), (0, .ref (ad 0))]) hx hb dX4_nextTurn_70 hl (k := 2) rfl (nI_1 k) (by decide) rfl (fun ls hl => ?_)
          refine lv_goto (tgt := 2) hx hb dX4_nextTurn_73 (by decide) ?_
          exact ih_2 (k + 1) (by omega) (by omega) (by rw [hk0, show n - k = (n - (k + 1)) + 1 by omega, trTo, show n - (n - (k + 1) + 1) = k by omega, ← hcc, if_neg c_2]) _ _ hR ls (lv_sub hl [2, 0] rfl)
        · skip
          refine lv_aload_n hx hb dX4_nextTurn_33 rfl (lv_at hl 1 rfl) ?_
          refine lv_iload_n hx hb dX4_nextTurn_34 rfl (lv_at hl 0 rfl) ?_
          refine mm_calli (rest := []) hx hb hml hown hts hK hl.1 hR (m_X4_isReady l D ca B X Y kp cc (by omega)) (cwV 1 hts (lw_V q1374 q1376 qs52 q82 q1377) rfl rfl rfl cd_X4_isReady ⟨Nat.le_of_ble_eq_true rfl, Nat.le_of_ble_eq_true rfl⟩) rfl rfl (Nat.le_of_ble_eq_true rfl) dX4_nextTurn_35 ⟨Nat.le_refl _, Nat.le_refl _⟩ (fun H locs hR => ?_)
          refine lv_istore_n (lv' := [(3, .int (bI (rdy B cc))), (2, .int (nI cc)), (0, .ref (ad 0)), (1, .int (nI k))]) hx hb dX4_nextTurn_38 rfl hl (by decide) rfl (fun ls hl => ?_)
          refine lv_aload_n hx hb dX4_nextTurn_39 rfl (lv_at hl 2 rfl) ?_
          refine lv_iload_n hx hb dX4_nextTurn_40 rfl (lv_at hl 1 rfl) ?_
          refine lv_iload_n hx hb dX4_nextTurn_41 rfl (lv_at hl 0 rfl) ?_
          refine lb_eq (tgt := 49) hx hb dX4_nextTurn_42 (by decide) (fun c_3 => ?_) (fun c_3 => ?_)
          · skip
            refine lv_iconst (v := 0) hx hb dX4_nextTurn_49 (by decide) ?_
            refine mm_callv (rest := []) hx hb hml hown hts hK hl.1 hR (m_X4_goMinute l D ca n B X Y kp cc 0 hB (by first | assumption | omega | exact Int32.lt_iff_toInt_lt.mp (by assumption)) (by first | assumption | omega | exact Int32.lt_iff_toInt_lt.mp (by assumption))) (cwV 2 hts (lw_V q1340 q1342 qs45 q82 q1343) rfl rfl rfl cd_X4_goMinute ⟨Nat.le_of_ble_eq_true rfl, Nat.le_of_ble_eq_true rfl⟩) rfl rfl (Nat.le_of_ble_eq_true rfl) dX4_nextTurn_50 ⟨Nat.le_refl _, Nat.le_refl _⟩ (fun H locs hR => ?_)
            refine lv_aload_n hx hb dX4_nextTurn_53 rfl (lv_at hl 2 rfl) ?_
            refine lv_iload_n hx hb dX4_nextTurn_54 rfl (lv_at hl 1 rfl) ?_
            refine lv_iconst (v := 1) hx hb dX4_nextTurn_55 (by decide) ?_
            refine lv_iadd hx hb dX4_nextTurn_56 ?_
            refine W.eqs (st2 := [.int (nI (cc + 1)), .ref (ad 0)]) (congrArg (fun z : Int32 => Value.int z :: _) (nI_add cc 1)) ?_
            refine rw_put hx hb hts in_X4 tyX4 tyX4_ok nmX4 hown hK hR 0 (by decide) rfl rfl 33 (by decide) q1195 rfl rfl rfl rfl (Nat.le_of_ble_eq_true rfl) dX4_nextTurn_57 (mE_pX 10 (x := (nI (cc + 1))) rfl) (fun H locs hR => ?_)
            refine lv_iload_n hx hb dX4_nextTurn_60 rfl (lv_at hl 0 rfl) ?_
            refine lb_eq (tgt := 68) hx hb dX4_nextTurn_61 (by decide) (fun _ => ?_) (fun z => absurd (z.symm.trans c_3) (by decide))
            refine lv_iconst (v := 1) hx hb dX4_nextTurn_68 (by decide) ?_
            exact hQ _ _ _ _ _ (by have e : trC n B t = cc := (by rw [hk0, show n - k = (n - (k + 1)) + 1 by omega, trTo, show n - (n - (k + 1) + 1) = k by omega, ← hcc, if_pos c_2]); simp [sTurnH, e, hcn, c_3]) (RW.eq hR (by have e : trC n B t = cc := (by rw [hk0, show n - k = (n - (k + 1)) + 1 by omega, trTo, show n - (n - (k + 1) + 1) = k by omega, ← hcc, if_pos c_2]); simp [sTurnB, sTurnT, e, hcn, c_3])) dX4_nextTurn_69
          · skip
            refine lv_iconst (v := 2) hx hb dX4_nextTurn_45 (by decide) ?_
            refine lv_goto (tgt := 50) hx hb dX4_nextTurn_46 (by decide) ?_
            refine mm_callv (rest := []) hx hb hml hown hts hK hl.1 hR (m_X4_goMinute l D ca n B X Y kp cc 2 hB (by first | assumption | omega | exact Int32.lt_iff_toInt_lt.mp (by assumption)) (by first | assumption | omega | exact Int32.lt_iff_toInt_lt.mp (by assumption))) (cwV 2 hts (lw_V q1340 q1342 qs45 q82 q1343) rfl rfl rfl cd_X4_goMinute ⟨Nat.le_of_ble_eq_true rfl, Nat.le_of_ble_eq_true rfl⟩) rfl rfl (Nat.le_of_ble_eq_true rfl) dX4_nextTurn_50 ⟨Nat.le_refl _, Nat.le_refl _⟩ (fun H locs hR => ?_)
            refine lv_aload_n hx hb dX4_nextTurn_53 rfl (lv_at hl 2 rfl) ?_
            refine lv_iload_n hx hb dX4_nextTurn_54 rfl (lv_at hl 1 rfl) ?_
            refine lv_iconst (v := 1) hx hb dX4_nextTurn_55 (by decide) ?_
            refine lv_iadd hx hb dX4_nextTurn_56 ?_
            refine W.eqs (st2 := [.int (nI (cc + 1)), .ref (ad 0)]) (congrArg (fun z : Int32 => Value.int z :: _) (nI_add cc 1)) ?_
            refine rw_put hx hb hts in_X4 tyX4 tyX4_ok nmX4 hown hK hR 0 (by decide) rfl rfl 33 (by decide) q1195 rfl rfl rfl rfl (Nat.le_of_ble_eq_true rfl) dX4_nextTurn_57 (mE_pX 10 (x := (nI (cc + 1))) rfl) (fun H locs hR => ?_)
            refine lv_iload_n hx hb dX4_nextTurn_60 rfl (lv_at hl 0 rfl) ?_
            refine lb_eq (tgt := 68) hx hb dX4_nextTurn_61 (by decide) (fun z => absurd (z.symm.trans c_3) (by decide)) (fun _ => ?_)
            refine lv_iconst (v := 0) hx hb dX4_nextTurn_64 (by decide) ?_
            refine lv_goto (tgt := 69) hx hb dX4_nextTurn_65 (by decide) ?_
            exact hQ _ _ _ _ _ (by have e : trC n B t = cc := (by rw [hk0, show n - k = (n - (k + 1)) + 1 by omega, trTo, show n - (n - (k + 1) + 1) = k by omega, ← hcc, if_pos c_2]); simp [sTurnH, e, hcn, c_3]) (RW.eq hR (by have e : trC n B t = cc := (by rw [hk0, show n - k = (n - (k + 1)) + 1 by omega, trTo, show n - (n - (k + 1) + 1) = k by omega, ← hcc, if_pos c_2]); simp [sTurnB, sTurnT, e, hcn, c_3])) dX4_nextTurn_69
  exact loop_2 _ 0 (Nat.lt_succ_self _) (by omega) (by rfl) _ _ hR ls (lv_sub hl [1, 0] rfl)
theorem cd_X4_byTurns : yX4_byTurns.cls = RX4 ∧ yX4_byTurns.cls ≠ "java/lang/invoke/MethodHandle" ∧ yX4_byTurns.cls ≠ "java/lang/invoke/VarHandle" ∧ (parseMethodDescriptor yX4_byTurns.desc).map (fun d => d.parameters.length) = some 2 := by decide +kernel
set_option maxHeartbeats 4000000 in
theorem m_X4_byTurns (l : Launch) (D : va_G) (ca : Nat → ClassId) (n : Nat) (B X : Nat → Nat → Int32) (Y : Nat → Nat → Int64) (kp : Nat) (z : Int32) (w : Int32) (hB : wfB n B) : MMgi l D ca yX4_byTurns (ws_ yX4_byTurns cX4_byTurns 5 (some .int)) (rmN 6) (fun ad => [.int z, .int w]) B X Y kp (oByTurns n B z w) B Y (fun X1 kp1 => kpX X X1) := by
  refine MMgi_start (by decide) (Or.inl rfl) (fun _ => Nat.le_of_ble_eq_true rfl) ?_
  intro p e s m args below meth c0 ad A Q ls hx hb hml hown hts hK hR hl hQ
  have hl : lv_has ls 5 [(0, .ref (ad 0)), (1, .int z), (2, .int w)] := hl
  have hn6 : n ≤ 6 := hB.1
  refine lv_aload_n hx hb dX4_byTurns_0 rfl (lv_at hl 0 rfl) ?_
  refine lv_iconst (v := 0) hx hb dX4_byTurns_1 (by decide) ?_
  refine rw_put hx hb hts in_X4 tyX4 tyX4_ok nmX4 hown hK hR 0 (by decide) rfl rfl 13 (by decide) q1175 rfl rfl rfl rfl (Nat.le_of_ble_eq_true rfl) dX4_byTurns_2 (mE_pX 0 (x := 0) rfl) (fun H locs hR => ?_)
  refine lv_iload_n hx hb dX4_byTurns_5 rfl (lv_at hl 1 rfl) ?_
  refine lv_i2l (v := (z.toInt64)) hx hb dX4_byTurns_6 rfl ?_
  refine lv_lconst (v := 0) hx hb dX4_byTurns_7 (by decide) ?_
  refine lv_ldc2 hx hb hown (hts _ q1509) dX4_byTurns_8 ?_
  refine rs_calli (rest := []) hx hb hml hown hts hl.1 hR (m_X4_in l (z.toInt64) 0 99) (va_cwS 3 hts (lw_S q1288 q1289 q82 q1290) rfl rfl rfl cd_X4_in ⟨Nat.le_of_ble_eq_true rfl, Nat.le_of_ble_eq_true rfl⟩) rfl rfl (Nat.le_of_ble_eq_true rfl) dX4_byTurns_11 ⟨Nat.le_refl _, Nat.le_refl _⟩ (fun H locs hR => ?_)
  refine W.eqs (st2 := [.int (bI (inI z 0 99))]) (congrArg (fun b => Value.int (bI b) :: _) (inL_I (v := z) (lo := 0) (hi := 99) (by decide) (by decide))) ?_
  refine lb_eq (tgt := 27) hx hb dX4_byTurns_14 (by decide) (fun c_1 => ?_) (fun c_1 => ?_)
  · skip
    refine lv_iconst (v := (-1)) hx hb dX4_byTurns_27 (by decide) ?_
    exact hQ _ _ _ _ _ (st X 0 0 0) kp (by first | (simp [oByTurns, turnsOk, c_1]; done) | simp_all [oByTurns, turnsOk]) (by first | exact kpX_0 (by decide) | assumption | exact kpX_tr (by assumption) (kpX_fr (Or.inl rfl) (by assumption)) | exact kpX_tr (by assumption) (kpX_fr (Or.inl rfl) (And.left (by assumption)))) hR dX4_byTurns_28
  · skip
    obtain ⟨jz, hjz, rfl⟩ := inI_nat (k := 99) (by decide) (by decide) c_1
    refine lv_iload_n hx hb dX4_byTurns_17 rfl (lv_at hl 2 rfl) ?_
    refine lv_i2l (v := (w.toInt64)) hx hb dX4_byTurns_18 rfl ?_
    refine lv_lconst (v := 0) hx hb dX4_byTurns_19 (by decide) ?_
    refine lv_lconst (v := 1) hx hb dX4_byTurns_20 (by decide) ?_
    refine rs_calli (rest := []) hx hb hml hown hts hl.1 hR (m_X4_in l (w.toInt64) 0 1) (va_cwS 3 hts (lw_S q1288 q1289 q82 q1290) rfl rfl rfl cd_X4_in ⟨Nat.le_of_ble_eq_true rfl, Nat.le_of_ble_eq_true rfl⟩) rfl rfl (Nat.le_of_ble_eq_true rfl) dX4_byTurns_21 ⟨Nat.le_refl _, Nat.le_refl _⟩ (fun H locs hR => ?_)
    refine W.eqs (st2 := [.int (bI (inI w 0 1))]) (congrArg (fun b => Value.int (bI b) :: _) (inL_I (v := w) (lo := 0) (hi := 1) (by decide) (by decide))) ?_
    refine lb_ne (tgt := 29) hx hb dX4_byTurns_24 (by decide) (fun c_2 => ?_) (fun c_2 => ?_)
    · skip
      refine lv_iconst (v := 0) hx hb dX4_byTurns_29 (by decide) ?_
      refine lv_istore_n (lv' := [(3, .int 0), (0, .ref (ad 0)), (1, .int (nI jz)), (2, .int w)]) hx hb dX4_byTurns_30 rfl hl (by decide) rfl (fun ls hl => ?_)
      refine lv_aload_n hx hb dX4_byTurns_31 rfl (lv_at hl 1 rfl) ?_
      refine lv_iconst (v := 0) hx hb dX4_byTurns_32 (by decide) ?_
      refine rw_put hx hb hts in_X4 tyX4 tyX4_ok nmX4 hown hK hR 0 (by decide) rfl rfl 33 (by decide) q1195 rfl rfl rfl rfl (Nat.le_of_ble_eq_true rfl) dX4_byTurns_33 (mE_pX 10 (x := 0) rfl) (fun H locs hR => ?_)
      refine lv_aload_n hx hb dX4_byTurns_36 rfl (lv_at hl 1 rfl) ?_
      refine mg_callv (rest := []) hx hb hml hown hts hK hl.1 hR (m_X4_open l D ca n B (st (st X 0 0 0) 0 10 0) Y kp hB) (cwV 0 hts (lw_V q1312 q1314 qs38 q82 q1315) rfl rfl rfl cd_X4_open ⟨Nat.le_of_ble_eq_true rfl, Nat.le_of_ble_eq_true rfl⟩) rfl rfl (Nat.le_of_ble_eq_true rfl) dX4_byTurns_37 ⟨Nat.le_refl _, Nat.le_refl _⟩ (fun X_g_3 kp_g_3 hX_g_3 H locs hR => ?_)
      refine lv_iconst (v := 0) hx hb dX4_byTurns_40 (by decide) ?_
      refine lv_istore (lv' := [(4, .int 0), (3, .int 0), (0, .ref (ad 0)), (1, .int (nI jz)), (2, .int w)]) hx hb dX4_byTurns_41 hl (by decide) rfl (fun ls hl => ?_)
      have loop_43 : ∀ (nn : Nat) (B1 : Nat → Nat → Int32) (X1 : Nat → Nat → Int32) (kq1 : Nat) (k : Nat) (h1 : Int32) (t1 : Nat), jz - k < nn → (wfB n B1) → (kpX X X1) → (∀ q, q < 32 → X1 15 q = pk B q) → (k ≤ jz) → (trn n B k = (B1, t1, h1)) → (X1 0 10 = nI t1) → (t1 ≤ n) → ∀ (H : Heap) (locs : List Loc), RW D 23 ad (mE ca ad B1 X1 Y kq1) A s.heap H locs → ∀ (ls : Array Slot), lv_has ls 5 [(0, .ref (ad 0)), (1, .int (nI jz)), (2, .int w), (3, .int h1), (4, .int (nI k))] → W p l e (rmN 6) s m args below meth c0 H locs 0 0 Q (F0 m 43 ls []) := by
        intro nn
        induction nn with
        | zero => intro B1 X1 kq1 k h1 t1 hm; exact absurd hm (Nat.not_lt_zero _)
        | succ nn ih_43 =>
          intro B1 X1 kq1 k h1 t1 hm_43 hB1 hkp hkept hk htr hx1 ht1 H locs hR ls hl
          refine lv_iload hx hb dX4_byTurns_43 (lv_at hl 4 rfl) ?_
          refine lv_iload_n hx hb dX4_byTurns_45 rfl (lv_at hl 1 rfl) ?_
          refine ln_ge (tgt := 71) hx hb (k) (jz) rfl rfl (by omega) (by omega) dX4_byTurns_46 (by decide) (fun c_4 => ?_) (fun c_4 => ?_)
          · skip
            refine lv_aload_n hx hb dX4_byTurns_71 rfl (lv_at hl 0 rfl) ?_
            refine mm_calli (rest := []) hx hb hml hown hts hK hl.1 hR (m_X4_swimBits l D ca n B1 X1 Y kq1 hB1) (cwV 0 hts (lw_V q1514 q1516 qs73 q82 q1517) rfl rfl rfl cd_X4_swimBits ⟨Nat.le_of_ble_eq_true rfl, Nat.le_of_ble_eq_true rfl⟩) rfl rfl (Nat.le_of_ble_eq_true rfl) dX4_byTurns_72 ⟨Nat.le_refl _, Nat.le_refl _⟩ (fun H locs hR => ?_)
            refine W.eqs (st2 := [.int (nI (orN (swB B1) n))]) (by exact congrArg (fun z : Int32 => [Value.int z]) (orTo_nat _ n (by omega))) ?_
            refine rs_calli (rest := []) hx hb hml hown hts hl.1 hR (m_X4_onesOf l (orN (swB B1) n) (by exact orN_256 _ (by omega))) (va_cwS 1 hts (lw_S q1518 q1519 q82 q1520) rfl rfl rfl cd_X4_onesOf ⟨Nat.le_of_ble_eq_true rfl, Nat.le_of_ble_eq_true rfl⟩) rfl rfl (Nat.le_of_ble_eq_true rfl) dX4_byTurns_75 ⟨Nat.le_refl _, Nat.le_refl _⟩ (fun H locs hR => ?_)
            refine lv_istore (lv' := [(4, .int (nI (pop (orN (swB B1) n)))), (0, .ref (ad 0)), (1, .int (nI jz)), (2, .int w), (3, .int h1)]) hx hb dX4_byTurns_78 hl (by decide) rfl (fun ls hl => ?_)
            refine lv_aload_n hx hb dX4_byTurns_80 rfl (lv_at hl 1 rfl) ?_
            refine mg_callv (rest := []) hx hb hml hown hts hK hl.1 hR (m_X4_close l D ca n B1 X1 Y kq1 n B hB1 hB (by assumption)) (cwV 0 hts (lw_V q1406 q1408 qs60 q82 q1409) rfl rfl rfl cd_X4_close ⟨Nat.le_of_ble_eq_true rfl, Nat.le_of_ble_eq_true rfl⟩) rfl rfl (Nat.le_of_ble_eq_true rfl) dX4_byTurns_81 ⟨Nat.le_refl _, Nat.le_refl _⟩ (fun X_g_5 kp_g_5 hX_g_5 H locs hR => ?_)
            refine lv_iload_n hx hb dX4_byTurns_84 rfl (lv_at hl 3 rfl) ?_
            refine lv_if_ne (tgt := 93) hx hb dX4_byTurns_85 (by decide) (fun c_6 => ?_) (fun c_6 => ?_)
            · skip
              refine lv_iload_n hx hb dX4_byTurns_93 rfl (lv_at hl 4 rfl) ?_
              exact hQ _ _ _ _ _ X_g_5 kp_g_5 (by rw [oByTurns, if_pos (by simp [turnsOk, c_1, c_2]), nI_clamp (by omega), show jz = k by omega, htr]; simp [c_6]) (by first | exact kpX_0 (by decide) | assumption | exact kpX_tr (by assumption) (kpX_fr (Or.inl rfl) (by assumption)) | exact kpX_tr (by assumption) (kpX_fr (Or.inl rfl) (And.left (by assumption)))) hR dX4_byTurns_94
            · skip
              refine lv_iload hx hb dX4_byTurns_88 (lv_at hl 0 rfl) ?_
              refine lv_goto (tgt := 94) hx hb dX4_byTurns_90 (by decide) ?_
              exact hQ _ _ _ _ _ X_g_5 kp_g_5 (by rw [oByTurns, if_pos (by simp [turnsOk, c_1, c_2]), nI_clamp (by omega), show jz = k by omega, htr]; simp [c_6]) (by first | exact kpX_0 (by decide) | assumption | exact kpX_tr (by assumption) (kpX_fr (Or.inl rfl) (by assumption)) | exact kpX_tr (by assumption) (kpX_fr (Or.inl rfl) (And.left (by assumption)))) hR dX4_byTurns_94
          · skip
            refine lv_iload_n hx hb dX4_byTurns_49 rfl (lv_at hl 3 rfl) ?_
            refine lv_aload_n hx hb dX4_byTurns_50 rfl (lv_at hl 0 rfl) ?_
            refine mm_calli (rest := [.int h1]) hx hb hml hown hts hK hl.1 hR (m_X4_nextTurn l D ca n B1 X1 Y kq1 t1 hB1 (by assumption) (by assumption)) (cwV 0 hts (lw_V q1510 q1512 qs72 q82 q1513) rfl rfl rfl cd_X4_nextTurn ⟨Nat.le_of_ble_eq_true rfl, Nat.le_of_ble_eq_true rfl⟩) rfl rfl (Nat.le_of_ble_eq_true rfl) dX4_byTurns_51 ⟨Nat.le_refl _, Nat.le_refl _⟩ (fun H locs hR => ?_)
            refine lv_iconst (v := 1) hx hb dX4_byTurns_54 (by decide) ?_
            refine lv_icmp_ne (tgt := 62) hx hb dX4_byTurns_55 (by decide) (fun c_7 => ?_) (fun c_7 => ?_)
            · skip
              refine lv_iconst (v := 0) hx hb dX4_byTurns_62 (by decide) ?_
              refine lv_iadd hx hb dX4_byTurns_63 ?_
              refine lv_istore_n (lv' := [(3, .int (h1 + 0)), (0, .ref (ad 0)), (1, .int (nI jz)), (2, .int w), (4, .int (nI k))]) hx hb dX4_byTurns_64 rfl hl (by decide) rfl (fun ls hl => ?_)
              refine lv_iinc (v := (nI (k + 1))) (lv' := [(4, .int (nI (k + 1))), (3, .int (h1 + 0)), (0, .ref (ad 0)), (1, .int (nI jz)), (2, .int w)]) hx hb dX4_byTurns_65 hl (k := 4) rfl (nI_1 k) (by decide) rfl (fun ls hl => ?_)
              refine lv_goto (tgt := 43) hx hb dX4_byTurns_68 (by decide) ?_
              exact ih_43 (sTurnB n B1 t1) (st X1 0 10 (nI (sTurnT n B1 t1))) kq1 (k + 1) (h1 + 0) (sTurnT n B1 t1) (by omega) (by exact wf_turn hB1 _) (by exact kpX_tr hkp (kpX_0 (by decide))) (by intro q hq; exact hkept q hq) (by omega) (by rw [trn, htr]; simp [c_7]) (by rfl) (by exact turnT_le ht1) _ _ hR ls (lv_sub hl [2, 3, 4, 1, 0] rfl)
            · skip
              refine lv_iconst (v := 1) hx hb dX4_byTurns_58 (by decide) ?_
              refine lv_goto (tgt := 63) hx hb dX4_byTurns_59 (by decide) ?_
              refine lv_iadd hx hb dX4_byTurns_63 ?_
              refine lv_istore_n (lv' := [(3, .int (h1 + 1)), (0, .ref (ad 0)), (1, .int (nI jz)), (2, .int w), (4, .int (nI k))]) hx hb dX4_byTurns_64 rfl hl (by decide) rfl (fun ls hl => ?_)
              refine lv_iinc (v := (nI (k + 1))) (lv' := [(4, .int (nI (k + 1))), (3, .int (h1 + 1)), (0, .ref (ad 0)), (1, .int (nI jz)), (2, .int w)]) hx hb dX4_byTurns_65 hl (k := 4) rfl (nI_1 k) (by decide) rfl (fun ls hl => ?_)
              refine lv_goto (tgt := 43) hx hb dX4_byTurns_68 (by decide) ?_
              exact ih_43 (sTurnB n B1 t1) (st X1 0 10 (nI (sTurnT n B1 t1))) kq1 (k + 1) (h1 + 1) (sTurnT n B1 t1) (by omega) (by exact wf_turn hB1 _) (by exact kpX_tr hkp (kpX_0 (by decide))) (by intro q hq; exact hkept q hq) (by omega) (by rw [trn, htr]; simp [c_7]) (by rfl) (by exact turnT_le ht1) _ _ hR ls (lv_sub hl [2, 3, 4, 1, 0] rfl)
      exact loop_43 _ B X_g_3 kp_g_3 0 0 0 (Nat.lt_succ_self _) (by exact hB) (by exact kpX_tr (kpX_tr (kpX_0 (by decide)) (kpX_0 (by decide))) (kpX_fr (Or.inl rfl) (And.left hX_g_3))) (by exact hX_g_3.2) (by omega) (by rfl) (by exact fr_st10 hX_g_3.1) (by omega) _ _ hR ls (lv_sub hl [2, 3, 4, 1, 0] rfl)
    · skip
      refine lv_iconst (v := (-1)) hx hb dX4_byTurns_27 (by decide) ?_
      exact hQ _ _ _ _ _ (st X 0 0 0) kp (by first | (simp [oByTurns, turnsOk, c_1, c_2, nI_clamp (show jz < 2 ^ 31 by omega)]; done) | simp_all [oByTurns, turnsOk, nI_clamp (show jz < 2 ^ 31 by omega)]) (by first | exact kpX_0 (by decide) | assumption | exact kpX_tr (by assumption) (kpX_fr (Or.inl rfl) (by assumption)) | exact kpX_tr (by assumption) (kpX_fr (Or.inl rfl) (And.left (by assumption)))) hR dX4_byTurns_28
theorem cd_X4_allSwim : yX4_allSwim.cls = RX4 ∧ yX4_allSwim.cls ≠ "java/lang/invoke/MethodHandle" ∧ yX4_allSwim.cls ≠ "java/lang/invoke/VarHandle" ∧ (parseMethodDescriptor yX4_allSwim.desc).map (fun d => d.parameters.length) = some 0 := by decide +kernel
set_option maxHeartbeats 4000000 in
theorem m_X4_allSwim (l : Launch) (D : va_G) (ca : Nat → ClassId) (n : Nat) (B X : Nat → Nat → Int32) (Y : Nat → Nat → Int64) (kp : Nat)  (hB : wfB n B) : MMgi l D ca yX4_allSwim (ws_ yX4_allSwim cX4_allSwim 3 (some .int)) (rmN 6) (fun ad => []) B X Y kp (oAllSwim n B) B Y (fun X1 kp1 => kpX X X1) := by
  refine MMgi_start (by decide) (Or.inl rfl) (fun _ => Nat.le_of_ble_eq_true rfl) ?_
  intro p e s m args below meth c0 ad A Q ls hx hb hml hown hts hK hR hl hQ
  have hl : lv_has ls 3 [(0, .ref (ad 0))] := hl
  have hn6 : n ≤ 6 := hB.1
  refine lv_aload_n hx hb dX4_allSwim_0 rfl (lv_at hl 0 rfl) ?_
  refine lv_iconst (v := 0) hx hb dX4_allSwim_1 (by decide) ?_
  refine rw_put hx hb hts in_X4 tyX4 tyX4_ok nmX4 hown hK hR 0 (by decide) rfl rfl 13 (by decide) q1175 rfl rfl rfl rfl (Nat.le_of_ble_eq_true rfl) dX4_allSwim_2 (mE_pX 0 (x := 0) rfl) (fun H locs hR => ?_)
  refine lv_bipush (v := (-4)) hx hb dX4_allSwim_5 (by decide) ?_
  refine lv_istore_n (lv' := [(1, .int (-4)), (0, .ref (ad 0))]) hx hb dX4_allSwim_7 rfl hl (by decide) rfl (fun ls hl => ?_)
  refine lv_aload_n hx hb dX4_allSwim_8 rfl (lv_at hl 1 rfl) ?_
  refine lv_iconst (v := 0) hx hb dX4_allSwim_9 (by decide) ?_
  refine rw_put hx hb hts in_X4 tyX4 tyX4_ok nmX4 hown hK hR 0 (by decide) rfl rfl 33 (by decide) q1195 rfl rfl rfl rfl (Nat.le_of_ble_eq_true rfl) dX4_allSwim_10 (mE_pX 10 (x := 0) rfl) (fun H locs hR => ?_)
  refine lv_aload_n hx hb dX4_allSwim_13 rfl (lv_at hl 1 rfl) ?_
  refine mg_callv (rest := []) hx hb hml hown hts hK hl.1 hR (m_X4_open l D ca n B (st (st X 0 0 0) 0 10 0) Y kp hB) (cwV 0 hts (lw_V q1312 q1314 qs38 q82 q1315) rfl rfl rfl cd_X4_open ⟨Nat.le_of_ble_eq_true rfl, Nat.le_of_ble_eq_true rfl⟩) rfl rfl (Nat.le_of_ble_eq_true rfl) dX4_allSwim_14 ⟨Nat.le_refl _, Nat.le_refl _⟩ (fun X_g_1 kp_g_1 hX_g_1 H locs hR => ?_)
  refine lv_iconst (v := 0) hx hb dX4_allSwim_17 (by decide) ?_
  refine lv_istore_n (lv' := [(2, .int 0), (1, .int (-4)), (0, .ref (ad 0))]) hx hb dX4_allSwim_18 rfl hl (by decide) rfl (fun ls hl => ?_)
  have loop_19 : ∀ (nn : Nat) (B1 : Nat → Nat → Int32) (X1 : Nat → Nat → Int32) (kq1 : Nat) (k : Nat) (v : Int32) (h1 : Int32) (t1 : Nat), 101 - k < nn → (wfB n B1) → (kpX X X1) → (∀ q, q < 32 → X1 15 q = pk B q) → (k ≤ 100) → (trn n B k = (B1, t1, h1)) → (X1 0 10 = nI t1) → (t1 ≤ n) → (oAllSwim n B = if v < 0 then fstTo (fun k => swA n (trn n B k).1) k (100 - k) else v) → (v < 0 → v = -4) → ∀ (H : Heap) (locs : List Loc), RW D 23 ad (mE ca ad B1 X1 Y kq1) A s.heap H locs → ∀ (ls : Array Slot), lv_has ls 3 [(0, .ref (ad 0)), (1, .int v), (2, .int (nI k))] → W p l e (rmN 6) s m args below meth c0 H locs 0 0 Q (F0 m 19 ls []) := by
    intro nn
    induction nn with
    | zero => intro B1 X1 kq1 k v h1 t1 hm; exact absurd hm (Nat.not_lt_zero _)
    | succ nn ih_19 =>
      intro B1 X1 kq1 k v h1 t1 hm_19 hB1 hkp hkept hk htr hx1 ht1 hv hv4 H locs hR ls hl
      refine lv_iload_n hx hb dX4_allSwim_19 rfl (lv_at hl 2 rfl) ?_
      refine lv_bipush (v := 99) hx hb dX4_allSwim_20 (by decide) ?_
      refine ln_gt (tgt := 62) hx hb (k) (99) rfl (by decide) (by omega) (by decide) dX4_allSwim_22 (by decide) (fun c_2 => ?_) (fun c_2 => ?_)
      · skip
        refine lv_aload_n hx hb dX4_allSwim_62 rfl (lv_at hl 0 rfl) ?_
        refine mg_callv (rest := []) hx hb hml hown hts hK hl.1 hR (m_X4_close l D ca n B1 X1 Y kq1 n B hB1 hB (by assumption)) (cwV 0 hts (lw_V q1406 q1408 qs60 q82 q1409) rfl rfl rfl cd_X4_close ⟨Nat.le_of_ble_eq_true rfl, Nat.le_of_ble_eq_true rfl⟩) rfl rfl (Nat.le_of_ble_eq_true rfl) dX4_allSwim_63 ⟨Nat.le_refl _, Nat.le_refl _⟩ (fun X_g_3 kp_g_3 hX_g_3 H locs hR => ?_)
        refine lv_iload_n hx hb dX4_allSwim_66 rfl (lv_at hl 1 rfl) ?_
        exact hQ _ _ _ _ _ X_g_3 kp_g_3 (by rw [hv]; by_cases hz : v < 0; (rw [if_pos hz, show 100 - k = 0 by omega, fstTo]; exact hv4 hz); rw [if_neg hz]) (by first | exact kpX_0 (by decide) | assumption | exact kpX_tr (by assumption) (kpX_fr (Or.inl rfl) (by assumption)) | exact kpX_tr (by assumption) (kpX_fr (Or.inl rfl) (And.left (by assumption)))) hR dX4_allSwim_67
      · skip
        refine lv_iload_n hx hb dX4_allSwim_25 rfl (lv_at hl 1 rfl) ?_
        refine lz_ge (tgt := 62) hx hb dX4_allSwim_26 (by decide) (fun c_4 => ?_) (fun c_4 => ?_)
        · skip
          refine lv_aload_n hx hb dX4_allSwim_62 rfl (lv_at hl 0 rfl) ?_
          refine mg_callv (rest := []) hx hb hml hown hts hK hl.1 hR (m_X4_close l D ca n B1 X1 Y kq1 n B hB1 hB (by assumption)) (cwV 0 hts (lw_V q1406 q1408 qs60 q82 q1409) rfl rfl rfl cd_X4_close ⟨Nat.le_of_ble_eq_true rfl, Nat.le_of_ble_eq_true rfl⟩) rfl rfl (Nat.le_of_ble_eq_true rfl) dX4_allSwim_63 ⟨Nat.le_refl _, Nat.le_refl _⟩ (fun X_g_5 kp_g_5 hX_g_5 H locs hR => ?_)
          refine lv_iload_n hx hb dX4_allSwim_66 rfl (lv_at hl 1 rfl) ?_
          exact hQ _ _ _ _ _ X_g_5 kp_g_5 (by rw [hv, if_neg c_4]) (by first | exact kpX_0 (by decide) | assumption | exact kpX_tr (by assumption) (kpX_fr (Or.inl rfl) (by assumption)) | exact kpX_tr (by assumption) (kpX_fr (Or.inl rfl) (And.left (by assumption)))) hR dX4_allSwim_67
        · skip
          refine lv_aload_n hx hb dX4_allSwim_29 rfl (lv_at hl 0 rfl) ?_
          refine mm_calli (rest := []) hx hb hml hown hts hK hl.1 hR (m_X4_swimBits l D ca n B1 X1 Y kq1 hB1) (cwV 0 hts (lw_V q1514 q1516 qs73 q82 q1517) rfl rfl rfl cd_X4_swimBits ⟨Nat.le_of_ble_eq_true rfl, Nat.le_of_ble_eq_true rfl⟩) rfl rfl (Nat.le_of_ble_eq_true rfl) dX4_allSwim_30 ⟨Nat.le_refl _, Nat.le_refl _⟩ (fun H locs hR => ?_)
          refine lv_iconst (v := 1) hx hb dX4_allSwim_33 (by decide) ?_
          refine lv_aload_n hx hb dX4_allSwim_34 rfl (lv_at hl 0 rfl) ?_
          refine rw_get (v := .int (nI n)) hx hb hts in_X4 hown hK hR 0 (by decide) rfl rfl 0 (by decide) q1162 rfl (mF_ch hB1) dX4_allSwim_35 ?_
          refine lv_ishl hx hb dX4_allSwim_38 ?_
          refine W.eqs (st2 := [.int (nI (2 ^ n)), .int (orTo (swB B1) n)]) (by rw [shl1 n (by omega)]) ?_
          refine lv_iconst (v := 1) hx hb dX4_allSwim_39 (by decide) ?_
          refine lv_isub hx hb dX4_allSwim_40 ?_
          refine W.eqs (st2 := [.int (nI (2 ^ n) - 1), .int (orTo (swB B1) n)]) (by rfl) ?_
          refine lv_icmp_ne (tgt := 48) hx hb dX4_allSwim_41 (by decide) (fun c_6 => ?_) (fun c_6 => ?_)
          · skip
            refine lv_bipush (v := (-4)) hx hb dX4_allSwim_48 (by decide) ?_
            refine lv_istore_n (lv' := [(1, .int (-4)), (0, .ref (ad 0)), (2, .int (nI k))]) hx hb dX4_allSwim_50 rfl hl (by decide) rfl (fun ls hl => ?_)
            refine lv_aload_n hx hb dX4_allSwim_51 rfl (lv_at hl 1 rfl) ?_
            refine mm_calli (rest := []) hx hb hml hown hts hK hl.1 hR (m_X4_nextTurn l D ca n B1 X1 Y kq1 t1 hB1 (by assumption) (by assumption)) (cwV 0 hts (lw_V q1510 q1512 qs72 q82 q1513) rfl rfl rfl cd_X4_nextTurn ⟨Nat.le_of_ble_eq_true rfl, Nat.le_of_ble_eq_true rfl⟩) rfl rfl (Nat.le_of_ble_eq_true rfl) dX4_allSwim_52 ⟨Nat.le_refl _, Nat.le_refl _⟩ (fun H locs hR => ?_)
            refine lv_pop hx hb dX4_allSwim_55 rfl ?_
            refine lv_iinc (v := (nI (k + 1))) (lv' := [(2, .int (nI (k + 1))), (1, .int (-4)), (0, .ref (ad 0))]) hx hb dX4_allSwim_56 hl (k := 2) rfl (nI_1 k) (by decide) rfl (fun ls hl => ?_)
            refine lv_goto (tgt := 19) hx hb dX4_allSwim_59 (by decide) ?_
            exact ih_19 (sTurnB n B1 t1) (st X1 0 10 (nI (sTurnT n B1 t1))) kq1 (k + 1) (-4) _ (sTurnT n B1 t1) (by omega) (by exact wf_turn hB1 _) (by exact kpX_tr hkp (kpX_0 (by decide))) (by intro q hq; exact hkept q hq) (by omega) (by rw [trn, htr]) (by rfl) (by exact turnT_le ht1) (by rw [hv, if_pos c_4, show 100 - k = (100 - (k + 1)) + 1 by omega, fstTo]; simp [htr, swA, c_6, nI_pos (show k < 2 ^ 31 by omega)]) (by first | (intro _; rfl) | (intro z; exact absurd z (nI_pos (by omega)))) _ _ hR ls (lv_sub hl [2, 1, 0] rfl)
          · skip
            refine lv_iload_n hx hb dX4_allSwim_44 rfl (lv_at hl 2 rfl) ?_
            refine lv_goto (tgt := 50) hx hb dX4_allSwim_45 (by decide) ?_
            refine lv_istore_n (lv' := [(1, .int (nI k)), (0, .ref (ad 0)), (2, .int (nI k))]) hx hb dX4_allSwim_50 rfl hl (by decide) rfl (fun ls hl => ?_)
            refine lv_aload_n hx hb dX4_allSwim_51 rfl (lv_at hl 1 rfl) ?_
            refine mm_calli (rest := []) hx hb hml hown hts hK hl.1 hR (m_X4_nextTurn l D ca n B1 X1 Y kq1 t1 hB1 (by assumption) (by assumption)) (cwV 0 hts (lw_V q1510 q1512 qs72 q82 q1513) rfl rfl rfl cd_X4_nextTurn ⟨Nat.le_of_ble_eq_true rfl, Nat.le_of_ble_eq_true rfl⟩) rfl rfl (Nat.le_of_ble_eq_true rfl) dX4_allSwim_52 ⟨Nat.le_refl _, Nat.le_refl _⟩ (fun H locs hR => ?_)
            refine lv_pop hx hb dX4_allSwim_55 rfl ?_
            refine lv_iinc (v := (nI (k + 1))) (lv' := [(2, .int (nI (k + 1))), (1, .int (nI k)), (0, .ref (ad 0))]) hx hb dX4_allSwim_56 hl (k := 2) rfl (nI_1 k) (by decide) rfl (fun ls hl => ?_)
            refine lv_goto (tgt := 19) hx hb dX4_allSwim_59 (by decide) ?_
            exact ih_19 (sTurnB n B1 t1) (st X1 0 10 (nI (sTurnT n B1 t1))) kq1 (k + 1) (nI k) _ (sTurnT n B1 t1) (by omega) (by exact wf_turn hB1 _) (by exact kpX_tr hkp (kpX_0 (by decide))) (by intro q hq; exact hkept q hq) (by omega) (by rw [trn, htr]) (by rfl) (by exact turnT_le ht1) (by rw [hv, if_pos c_4, show 100 - k = (100 - (k + 1)) + 1 by omega, fstTo]; simp [htr, swA, c_6, nI_pos (show k < 2 ^ 31 by omega)]) (by first | (intro _; rfl) | (intro z; exact absurd z (nI_pos (by omega)))) _ _ hR ls (lv_sub hl [2, 1, 0] rfl)
  exact loop_19 _ B X_g_1 kp_g_1 0 (-4) 0 0 (Nat.lt_succ_self _) (by exact hB) (by exact kpX_tr (kpX_tr (kpX_0 (by decide)) (kpX_0 (by decide))) (kpX_fr (Or.inl rfl) (And.left hX_g_1))) (by exact hX_g_1.2) (by omega) (by rfl) (by exact fr_st10 hX_g_1.1) (by omega) (by rfl) (by intro _; rfl) _ _ hR ls (lv_sub hl [2, 1, 0] rfl)
theorem cd_X4_forget : yX4_forget.cls = RX4 ∧ yX4_forget.cls ≠ "java/lang/invoke/MethodHandle" ∧ yX4_forget.cls ≠ "java/lang/invoke/VarHandle" ∧ (parseMethodDescriptor yX4_forget.desc).map (fun d => d.parameters.length) = some 0 := by decide +kernel
set_option maxHeartbeats 4000000 in
theorem m_X4_forget (l : Launch) (D : va_G) (ca : Nat → ClassId) (n : Nat) (B X : Nat → Nat → Int32) (Y : Nat → Nat → Int64) (kp : Nat)  (hB : wfB n B) : MMgi l D ca yX4_forget (ws_ yX4_forget cX4_forget 3 (some .int)) (rmN 4) (fun ad => []) B X Y kp (oForget n B) B Y (fun X1 kp1 => kpX X X1) := by
  refine MMgi_start (by decide) (Or.inl rfl) (fun _ => Nat.le_of_ble_eq_true rfl) ?_
  intro p e s m args below meth c0 ad A Q ls hx hb hml hown hts hK hR hl hQ
  have hl : lv_has ls 3 [(0, .ref (ad 0))] := hl
  have hn6 : n ≤ 6 := hB.1
  refine lv_aload_n hx hb dX4_forget_0 rfl (lv_at hl 0 rfl) ?_
  refine lv_iconst (v := 0) hx hb dX4_forget_1 (by decide) ?_
  refine rw_put hx hb hts in_X4 tyX4 tyX4_ok nmX4 hown hK hR 0 (by decide) rfl rfl 13 (by decide) q1175 rfl rfl rfl rfl (Nat.le_of_ble_eq_true rfl) dX4_forget_2 (mE_pX 0 (x := 0) rfl) (fun H locs hR => ?_)
  refine lv_bipush (v := (-4)) hx hb dX4_forget_5 (by decide) ?_
  refine lv_istore_n (lv' := [(1, .int (-4)), (0, .ref (ad 0))]) hx hb dX4_forget_7 rfl hl (by decide) rfl (fun ls hl => ?_)
  refine lv_bipush (v := 9) hx hb dX4_forget_8 (by decide) ?_
  refine lv_istore_n (lv' := [(2, .int 9), (1, .int (-4)), (0, .ref (ad 0))]) hx hb dX4_forget_10 rfl hl (by decide) rfl (fun ls hl => ?_)
  have loop_11 : ∀ (nn : Nat) (X1 : Nat → Nat → Int32) (kq1 : Nat) (i : Nat) (v : Int32), i < nn → (i ≤ 10) → (kpX X X1) → (v = fstTo (fun m => decide (orTo (rdy (sRestTo (nI m) B n)) n = 0)) i (10 - i)) → ∀ (H : Heap) (locs : List Loc), RW D 23 ad (mE ca ad B X1 Y kq1) A s.heap H locs → ∀ (ls : Array Slot), lv_has ls 3 [(0, .ref (ad 0)), (1, .int v), (2, .int ((nI i) + (-1)))] → W p l e (rmN 4) s m args below meth c0 H locs 0 0 Q (F0 m 11 ls []) := by
    intro nn
    induction nn with
    | zero => intro X1 kq1 i v hm; exact absurd hm (Nat.not_lt_zero _)
    | succ nn ih_11 =>
      intro X1 kq1 i v hm_11 hi hkp hv H locs hR ls hl
      refine lv_iload_n hx hb dX4_forget_11 rfl (lv_at hl 2 rfl) ?_
      refine lz_lt (tgt := 47) hx hb dX4_forget_12 (by decide) (fun c_1 => ?_) (fun c_1 => ?_)
      · skip
        refine lv_iload_n hx hb dX4_forget_47 rfl (lv_at hl 1 rfl) ?_
        exact hQ _ _ _ _ _ X1 kq1 (by have h0 : i = 0 := (by rcases i with _ | i; rfl; exact absurd c_1 (by rw [pk_m1]; exact nI_pos (by omega))); subst h0; exact hv) (by first | exact kpX_0 (by decide) | assumption | exact kpX_tr (by assumption) (kpX_fr (Or.inl rfl) (by assumption)) | exact kpX_tr (by assumption) (kpX_fr (Or.inl rfl) (And.left (by assumption)))) hR dX4_forget_48
      · skip
        obtain ⟨i0, rfl⟩ : ∃ i0, i = i0 + 1 := ⟨i - 1, by rcases i with _ | i; exact absurd (by decide) c_1; rfl⟩
        rw [pk_m1] at hl
        refine lv_aload_n hx hb dX4_forget_15 rfl (lv_at hl 0 rfl) ?_
        refine mg_callv (rest := []) hx hb hml hown hts hK hl.1 hR (m_X4_open l D ca n B X1 Y kq1 hB) (cwV 0 hts (lw_V q1312 q1314 qs38 q82 q1315) rfl rfl rfl cd_X4_open ⟨Nat.le_of_ble_eq_true rfl, Nat.le_of_ble_eq_true rfl⟩) rfl rfl (Nat.le_of_ble_eq_true rfl) dX4_forget_16 ⟨Nat.le_refl _, Nat.le_refl _⟩ (fun X_g_2 kp_g_2 hX_g_2 H locs hR => ?_)
        refine lv_aload_n hx hb dX4_forget_19 rfl (lv_at hl 0 rfl) ?_
        refine lv_iload_n hx hb dX4_forget_20 rfl (lv_at hl 2 rfl) ?_
        refine mm_callv (rest := []) hx hb hml hown hts hK hl.1 hR (m_X4_goBreak l D ca n B X_g_2 Y kp_g_2 (nI i0) hB) (cwV 1 hts (lw_V q1394 q1396 qs57 q82 q1397) rfl rfl rfl cd_X4_goBreak ⟨Nat.le_of_ble_eq_true rfl, Nat.le_of_ble_eq_true rfl⟩) rfl rfl (Nat.le_of_ble_eq_true rfl) dX4_forget_21 ⟨Nat.le_refl _, Nat.le_refl _⟩ (fun H locs hR => ?_)
        refine lv_aload_n hx hb dX4_forget_24 rfl (lv_at hl 0 rfl) ?_
        refine mm_calli (rest := []) hx hb hml hown hts hK hl.1 hR (m_X4_readyBits l D ca n (sRestTo (nI i0) B n) X_g_2 Y kp_g_2 (wf_restTo hB n (Nat.le_refl _))) (cwV 0 hts (lw_V q1457 q1459 qs63 q82 q1460) rfl rfl rfl cd_X4_readyBits ⟨Nat.le_of_ble_eq_true rfl, Nat.le_of_ble_eq_true rfl⟩) rfl rfl (Nat.le_of_ble_eq_true rfl) dX4_forget_25 ⟨Nat.le_refl _, Nat.le_refl _⟩ (fun H locs hR => ?_)
        refine lv_if_ne (tgt := 35) hx hb dX4_forget_28 (by decide) (fun c_3 => ?_) (fun c_3 => ?_)
        · skip
          refine lv_iload_n hx hb dX4_forget_35 rfl (lv_at hl 1 rfl) ?_
          refine lv_istore_n (lv' := [(1, .int v), (0, .ref (ad 0)), (2, .int (nI i0))]) hx hb dX4_forget_36 rfl hl (by decide) rfl (fun ls hl => ?_)
          refine lv_aload_n hx hb dX4_forget_37 rfl (lv_at hl 1 rfl) ?_
          refine mg_callv (rest := []) hx hb hml hown hts hK hl.1 hR (m_X4_close l D ca n (sRestTo (nI i0) B n) X_g_2 Y kp_g_2 n B (wf_restTo hB n (Nat.le_refl _)) hB (by first | assumption | exact And.right (by assumption))) (cwV 0 hts (lw_V q1406 q1408 qs60 q82 q1409) rfl rfl rfl cd_X4_close ⟨Nat.le_of_ble_eq_true rfl, Nat.le_of_ble_eq_true rfl⟩) rfl rfl (Nat.le_of_ble_eq_true rfl) dX4_forget_38 ⟨Nat.le_refl _, Nat.le_refl _⟩ (fun X_g_4 kp_g_4 hX_g_4 H locs hR => ?_)
          refine lv_iinc (v := ((nI i0) + (-1))) (lv' := [(2, .int ((nI i0) + (-1))), (1, .int v), (0, .ref (ad 0))]) hx hb dX4_forget_41 hl (k := 2) rfl rfl (by decide) rfl (fun ls hl => ?_)
          refine lv_goto (tgt := 11) hx hb dX4_forget_44 (by decide) ?_
          exact ih_11 X_g_4 kp_g_4 i0 v (by omega) (by omega) (by exact kpX_tr (kpX_tr hkp (kpX_fr (Or.inl rfl) hX_g_2.1)) (kpX_fr (Or.inl rfl) hX_g_4.1)) (by rw [show 10 - i0 = (10 - (i0 + 1)) + 1 by omega, fstTo, ← hv]; simp [c_3]) _ _ hR ls (lv_sub hl [2, 1, 0] rfl)
        · skip
          refine lv_iload_n hx hb dX4_forget_31 rfl (lv_at hl 2 rfl) ?_
          refine lv_goto (tgt := 36) hx hb dX4_forget_32 (by decide) ?_
          refine lv_istore_n (lv' := [(1, .int (nI i0)), (0, .ref (ad 0)), (2, .int (nI i0))]) hx hb dX4_forget_36 rfl hl (by decide) rfl (fun ls hl => ?_)
          refine lv_aload_n hx hb dX4_forget_37 rfl (lv_at hl 1 rfl) ?_
          refine mg_callv (rest := []) hx hb hml hown hts hK hl.1 hR (m_X4_close l D ca n (sRestTo (nI i0) B n) X_g_2 Y kp_g_2 n B (wf_restTo hB n (Nat.le_refl _)) hB (by first | assumption | exact And.right (by assumption))) (cwV 0 hts (lw_V q1406 q1408 qs60 q82 q1409) rfl rfl rfl cd_X4_close ⟨Nat.le_of_ble_eq_true rfl, Nat.le_of_ble_eq_true rfl⟩) rfl rfl (Nat.le_of_ble_eq_true rfl) dX4_forget_38 ⟨Nat.le_refl _, Nat.le_refl _⟩ (fun X_g_5 kp_g_5 hX_g_5 H locs hR => ?_)
          refine lv_iinc (v := ((nI i0) + (-1))) (lv' := [(2, .int ((nI i0) + (-1))), (1, .int (nI i0)), (0, .ref (ad 0))]) hx hb dX4_forget_41 hl (k := 2) rfl rfl (by decide) rfl (fun ls hl => ?_)
          refine lv_goto (tgt := 11) hx hb dX4_forget_44 (by decide) ?_
          exact ih_11 X_g_5 kp_g_5 i0 (nI i0) (by omega) (by omega) (by exact kpX_tr (kpX_tr hkp (kpX_fr (Or.inl rfl) hX_g_2.1)) (kpX_fr (Or.inl rfl) hX_g_5.1)) (by rw [show 10 - i0 = (10 - (i0 + 1)) + 1 by omega, fstTo, ← hv]; simp [c_3]) _ _ hR ls (lv_sub hl [2, 1, 0] rfl)
  exact loop_11 _ (st X 0 0 0) kp 10 (-4) (Nat.lt_succ_self _) (by omega) (by exact kpX_0 (by decide)) (by rfl) _ _ hR ls (lv_sub hl [2, 1, 0] rfl)
theorem cd_X4_skipped : yX4_skipped.cls = RX4 ∧ yX4_skipped.cls ≠ "java/lang/invoke/MethodHandle" ∧ yX4_skipped.cls ≠ "java/lang/invoke/VarHandle" ∧ (parseMethodDescriptor yX4_skipped.desc).map (fun d => d.parameters.length) = some 1 := by decide +kernel
set_option maxHeartbeats 4000000 in
theorem m_X4_skipped (l : Launch) (D : va_G) (ca : Nat → ClassId) (B X : Nat → Nat → Int32) (Y : Nat → Nat → Int64) (kp : Nat) (j : Nat) (hj8 : j < 8) : MMl l D ca yX4_skipped (ws_ yX4_skipped cX4_skipped 2 (some .long)) (rmN 0) (fun ad => [.int (nI j)]) B X Y kp (skipL (X 9 j)) B X Y kp := by
  refine MMl_start (by decide) (fun _ => Nat.le_of_ble_eq_true rfl) ?_
  intro p e s m args below meth c0 ad A Q ls hx hb hml hown hts hK hR hl hQ
  have hl : lv_has ls 2 [(0, .ref (ad 0)), (1, .int (nI j))] := hl
  refine lv_aload_n hx hb dX4_skipped_0 rfl (lv_at hl 0 rfl) ?_
  refine rw_get (v := .ref (ad 9)) hx hb hts in_X4 hown hK hR 0 (by decide) rfl rfl 10 (by decide) q1172 rfl rfl dX4_skipped_1 ?_
  refine lv_iload_n hx hb dX4_skipped_4 rfl (lv_at hl 1 rfl) ?_
  refine rw_ialdN (n := 8) hx hb hK hR 9 (by decide) rfl j rfl (by omega) (by decide) dX4_skipped_5 ?_
  refine lv_if_ne (tgt := 15) hx hb dX4_skipped_6 (by decide) (fun c_1 => ?_) (fun c_1 => ?_)
  · skip
    refine lv_aload_n hx hb dX4_skipped_15 rfl (lv_at hl 0 rfl) ?_
    refine rw_get (v := .ref (ad 9)) hx hb hts in_X4 hown hK hR 0 (by decide) rfl rfl 10 (by decide) q1172 rfl rfl dX4_skipped_16 ?_
    refine lv_iload_n hx hb dX4_skipped_19 rfl (lv_at hl 1 rfl) ?_
    refine rw_ialdN (n := 8) hx hb hK hR 9 (by decide) rfl j rfl (by omega) (by decide) dX4_skipped_20 ?_
    refine lv_iconst (v := 1) hx hb dX4_skipped_21 (by decide) ?_
    refine lv_icmp_ne (tgt := 31) hx hb dX4_skipped_22 (by decide) (fun c_2 => ?_) (fun c_2 => ?_)
    · skip
      refine lv_ldc2 hx hb hown (hts _ q1613) dX4_skipped_31 ?_
      exact hQ _ _ _ _ _ (by first | (simp [skipL, c_1, c_2]; done) | simp_all [skipL]) hR dX4_skipped_34
    · skip
      refine lv_ldc2 hx hb hown (hts _ q1612) dX4_skipped_25 ?_
      refine lv_goto (tgt := 34) hx hb dX4_skipped_28 (by decide) ?_
      exact hQ _ _ _ _ _ (by first | (simp [skipL, c_1, c_2]; done) | simp_all [skipL]) hR dX4_skipped_34
  · skip
    refine lv_ldc2 hx hb hown (hts _ q1611) dX4_skipped_9 ?_
    refine lv_goto (tgt := 34) hx hb dX4_skipped_12 (by decide) ?_
    exact hQ _ _ _ _ _ (by first | (simp [skipL, c_1]; done) | simp_all [skipL]) hR dX4_skipped_34
theorem cd_X4_weeks : yX4_weeks.cls = RX4 ∧ yX4_weeks.cls ≠ "java/lang/invoke/MethodHandle" ∧ yX4_weeks.cls ≠ "java/lang/invoke/VarHandle" ∧ (parseMethodDescriptor yX4_weeks.desc).map (fun d => d.parameters.length) = some 3 := by decide +kernel
set_option maxHeartbeats 4000000 in
theorem m_X4_weeks (l : Launch) (D : va_G) (ca : Nat → ClassId) (n : Nat) (B X : Nat → Nat → Int32) (Y : Nat → Nat → Int64) (kp : Nat) (x : Int32) (z : Int32) (w : Int32) (hB : wfB n B) : MMgi l D ca yX4_weeks (ws_ yX4_weeks cX4_weeks 11 (some .int)) (rmN 5) (fun ad => [.int x, .int z, .int w]) B X Y kp (oWeeks n B x z w) B Y (fun X1 kp1 => kpX X X1) := by
  refine MMgi_start (by decide) (Or.inl rfl) (fun _ => Nat.le_of_ble_eq_true rfl) ?_
  intro p e s m args below meth c0 ad A Q ls hx hb hml hown hts hK hR hl hQ
  have hl : lv_has ls 11 [(0, .ref (ad 0)), (1, .int x), (2, .int z), (3, .int w)] := hl
  have hn6 : n ≤ 6 := hB.1
  refine lv_aload_n hx hb dX4_weeks_0 rfl (lv_at hl 0 rfl) ?_
  refine lv_iconst (v := 0) hx hb dX4_weeks_1 (by decide) ?_
  refine rw_put hx hb hts in_X4 tyX4 tyX4_ok nmX4 hown hK hR 0 (by decide) rfl rfl 13 (by decide) q1175 rfl rfl rfl rfl (Nat.le_of_ble_eq_true rfl) dX4_weeks_2 (mE_pX 0 (x := 0) rfl) (fun H locs hR => ?_)
  refine lv_iload_n hx hb dX4_weeks_5 rfl (lv_at hl 1 rfl) ?_
  refine lv_i2l (v := (x.toInt64)) hx hb dX4_weeks_6 rfl ?_
  refine lv_lconst (v := 1) hx hb dX4_weeks_7 (by decide) ?_
  refine lv_ldc2 hx hb hown (hts _ q1426) dX4_weeks_8 ?_
  refine rs_calli (rest := []) hx hb hml hown hts hl.1 hR (m_X4_in l (x.toInt64) 1 20) (va_cwS 3 hts (lw_S q1288 q1289 q82 q1290) rfl rfl rfl cd_X4_in ⟨Nat.le_of_ble_eq_true rfl, Nat.le_of_ble_eq_true rfl⟩) rfl rfl (Nat.le_of_ble_eq_true rfl) dX4_weeks_11 ⟨Nat.le_refl _, Nat.le_refl _⟩ (fun H locs hR => ?_)
  refine W.eqs (st2 := [.int (bI (inI x 1 20))]) (congrArg (fun b => Value.int (bI b) :: _) (inL_I (v := x) (lo := 1) (hi := 20) (by decide) (by decide))) ?_
  refine lb_eq (tgt := 27) hx hb dX4_weeks_14 (by decide) (fun c_1 => ?_) (fun c_1 => ?_)
  · skip
    refine lv_iconst (v := (-1)) hx hb dX4_weeks_27 (by decide) ?_
    exact hQ _ _ _ _ _ (st X 0 0 0) kp (by first | (simp [oWeeks, weeksOk, c_1]; done) | simp_all [oWeeks, weeksOk]) (by first | exact kpX_0 (by decide) | assumption | exact kpX_tr (by assumption) (kpX_fr (Or.inl rfl) (by assumption)) | exact kpX_tr (by assumption) (kpX_fr (Or.inl rfl) (And.left (by assumption)))) hR dX4_weeks_28
  · skip
    obtain ⟨jx, hjx1, hjx, rfl⟩ := inI_1 (k := 20) (by decide) (by decide) c_1
    refine lv_iload_n hx hb dX4_weeks_17 rfl (lv_at hl 3 rfl) ?_
    refine lv_i2l (v := (w.toInt64)) hx hb dX4_weeks_18 rfl ?_
    refine lv_lconst (v := 0) hx hb dX4_weeks_19 (by decide) ?_
    refine lv_lconst (v := 1) hx hb dX4_weeks_20 (by decide) ?_
    refine rs_calli (rest := []) hx hb hml hown hts hl.1 hR (m_X4_in l (w.toInt64) 0 1) (va_cwS 3 hts (lw_S q1288 q1289 q82 q1290) rfl rfl rfl cd_X4_in ⟨Nat.le_of_ble_eq_true rfl, Nat.le_of_ble_eq_true rfl⟩) rfl rfl (Nat.le_of_ble_eq_true rfl) dX4_weeks_21 ⟨Nat.le_refl _, Nat.le_refl _⟩ (fun H locs hR => ?_)
    refine W.eqs (st2 := [.int (bI (inI w 0 1))]) (congrArg (fun b => Value.int (bI b) :: _) (inL_I (v := w) (lo := 0) (hi := 1) (by decide) (by decide))) ?_
    refine lb_ne (tgt := 29) hx hb dX4_weeks_24 (by decide) (fun c_2 => ?_) (fun c_2 => ?_)
    · skip
      refine lv_aload_n hx hb dX4_weeks_29 rfl (lv_at hl 0 rfl) ?_
      refine rw_get (v := .int (nI n)) hx hb hts in_X4 hown hK hR 0 (by decide) rfl rfl 0 (by decide) q1162 rfl (mF_ch hB) dX4_weeks_30 ?_
      refine ln0_ne (tgt := 39) hx hb (n) rfl (by omega) dX4_weeks_33 (by decide) (fun c_3 => ?_) (fun c_3 => ?_)
      · skip
        refine lv_aload_n hx hb dX4_weeks_39 rfl (lv_at hl 0 rfl) ?_
        refine lv_iload_n hx hb dX4_weeks_40 rfl (lv_at hl 2 rfl) ?_
        refine rw_put hx hb hts in_X4 tyX4 tyX4_ok nmX4 hown hK hR 0 (by decide) rfl rfl 35 (by decide) q1197 rfl rfl rfl rfl (Nat.le_of_ble_eq_true rfl) dX4_weeks_41 (mE_pX 11 (x := z) rfl) (fun H locs hR => ?_)
        refine lv_iconst (v := 0) hx hb dX4_weeks_44 (by decide) ?_
        refine lv_istore (lv' := [(4, .int 0), (0, .ref (ad 0)), (1, .int (nI jx)), (2, .int z), (3, .int w)]) hx hb dX4_weeks_45 hl (by decide) rfl (fun ls hl => ?_)
        refine lv_iconst (v := 0) hx hb dX4_weeks_47 (by decide) ?_
        refine lv_istore (lv' := [(5, .int 0), (4, .int 0), (0, .ref (ad 0)), (1, .int (nI jx)), (2, .int z), (3, .int w)]) hx hb dX4_weeks_48 hl (by decide) rfl (fun ls hl => ?_)
        refine lv_aload_n hx hb dX4_weeks_50 rfl (lv_at hl 2 rfl) ?_
        refine mm_calli (rest := []) hx hb hml hown hts hK hl.1 hR (m_X4_allSteps l D ca n B (st (st X 0 0 0) 0 11 z) Y kp hB) (cwV 0 hts (lw_V q1449 q1451 qs62 q82 q1452) rfl rfl rfl cd_X4_allSteps ⟨Nat.le_of_ble_eq_true rfl, Nat.le_of_ble_eq_true rfl⟩) rfl rfl (Nat.le_of_ble_eq_true rfl) dX4_weeks_51 ⟨Nat.le_refl _, Nat.le_refl _⟩ (fun H locs hR => ?_)
        refine lv_istore (lv' := [(6, .int (sumTo (B 4) n)), (5, .int 0), (4, .int 0), (0, .ref (ad 0)), (1, .int (nI jx)), (2, .int z), (3, .int w)]) hx hb dX4_weeks_54 hl (by decide) rfl (fun ls hl => ?_)
        refine lv_aload_n hx hb dX4_weeks_56 rfl (lv_at hl 3 rfl) ?_
        refine mg_callv (rest := []) hx hb hml hown hts hK hl.1 hR (m_X4_open l D ca n B (st (st X 0 0 0) 0 11 z) Y kp hB) (cwV 0 hts (lw_V q1312 q1314 qs38 q82 q1315) rfl rfl rfl cd_X4_open ⟨Nat.le_of_ble_eq_true rfl, Nat.le_of_ble_eq_true rfl⟩) rfl rfl (Nat.le_of_ble_eq_true rfl) dX4_weeks_57 ⟨Nat.le_refl _, Nat.le_refl _⟩ (fun X_g_4 kp_g_4 hX_g_4 H locs hR => ?_)
        refine lv_iconst (v := 0) hx hb dX4_weeks_60 (by decide) ?_
        refine lv_istore (lv' := [(7, .int 0), (6, .int (sumTo (B 4) n)), (5, .int 0), (4, .int 0), (0, .ref (ad 0)), (1, .int (nI jx)), (2, .int z), (3, .int w)]) hx hb dX4_weeks_61 hl (by decide) rfl (fun ls hl => ?_)
        have loop_63 : ∀ (nn : Nat) (X1 : Nat → Nat → Int32) (kq1 : Nat) (k : Nat) (g1 : Int32) (sw : Int32) (sd : Int32), jx - k < nn → (k ≤ jx) → (kpX X X1) → (∀ q, q < 32 → X1 15 q = pk B q) → (wkO n B z k = (sd, g1, sw)) → (X1 0 11 = sd) → ∀ (H : Heap) (locs : List Loc), RW D 23 ad (mE ca ad B X1 Y kq1) A s.heap H locs → ∀ (ls : Array Slot), lv_has ls 11 [(0, .ref (ad 0)), (1, .int (nI jx)), (2, .int z), (3, .int w), (4, .int g1), (5, .int sw), (6, .int (sumTo (B 4) n)), (7, .int (nI k))] → W p l e (rmN 5) s m args below meth c0 H locs 0 0 Q (F0 m 63 ls []) := by
          intro nn
          induction nn with
          | zero => intro X1 kq1 k g1 sw sd hm; exact absurd hm (Nat.not_lt_zero _)
          | succ nn ih_63 =>
            intro X1 kq1 k g1 sw sd hm_63 hk hkp hkept hw hx1 H locs hR ls hl
            refine lv_iload hx hb dX4_weeks_63 (lv_at hl 7 rfl) ?_
            refine lv_iload_n hx hb dX4_weeks_65 rfl (lv_at hl 1 rfl) ?_
            refine ln_ge (tgt := 169) hx hb (k) (jx) rfl rfl (by omega) (by omega) dX4_weeks_66 (by decide) (fun c_5 => ?_) (fun c_5 => ?_)
            · skip
              refine lv_iload_n hx hb dX4_weeks_169 rfl (lv_at hl 3 rfl) ?_
              refine lv_if_ne (tgt := 178) hx hb dX4_weeks_170 (by decide) (fun c_6 => ?_) (fun c_6 => ?_)
              · skip
                refine lv_iload hx hb dX4_weeks_178 (lv_at hl 5 rfl) ?_
                exact hQ _ _ _ _ _ X1 kq1 (by rw [oWeeks, if_pos (by simp [weeksOk, c_1, c_2]), if_neg (by omega), nI_clamp (by omega), show jx = k by omega, hw]; simp [c_6]) (by first | exact kpX_0 (by decide) | assumption | exact kpX_tr (by assumption) (kpX_fr (Or.inl rfl) (by assumption)) | exact kpX_tr (by assumption) (kpX_fr (Or.inl rfl) (And.left (by assumption)))) hR dX4_weeks_180
              · skip
                refine lv_iload hx hb dX4_weeks_173 (lv_at hl 4 rfl) ?_
                refine lv_goto (tgt := 180) hx hb dX4_weeks_175 (by decide) ?_
                exact hQ _ _ _ _ _ X1 kq1 (by rw [oWeeks, if_pos (by simp [weeksOk, c_1, c_2]), if_neg (by omega), nI_clamp (by omega), show jx = k by omega, hw]; simp [c_6]) (by first | exact kpX_0 (by decide) | assumption | exact kpX_tr (by assumption) (kpX_fr (Or.inl rfl) (by assumption)) | exact kpX_tr (by assumption) (kpX_fr (Or.inl rfl) (And.left (by assumption)))) hR dX4_weeks_180
            · skip
              refine lv_iconst (v := 0) hx hb dX4_weeks_69 (by decide) ?_
              refine lv_istore (lv' := [(8, .int 0), (0, .ref (ad 0)), (1, .int (nI jx)), (2, .int z), (3, .int w), (4, .int g1), (5, .int sw), (6, .int (sumTo (B 4) n)), (7, .int (nI k))]) hx hb dX4_weeks_70 hl (by decide) rfl (fun ls hl => ?_)
              have loop_72 : ∀ (nn : Nat) (B2 : Nat → Nat → Int32) (X2 : Nat → Nat → Int32) (i : Nat) (sw1 : Int32) (sd1 : Int32), 10 - i < nn → (i ≤ 10) → (wfB n B2) → (kpX X X2) → (∀ q, q < 32 → X2 15 q = pk B q) → (wkI n (B, sd, sw) i = (B2, sd1, sw1)) → (X2 0 11 = sd1) → ∀ (H : Heap) (locs : List Loc), RW D 23 ad (mE ca ad B2 X2 Y kq1) A s.heap H locs → ∀ (ls : Array Slot), lv_has ls 11 [(0, .ref (ad 0)), (1, .int (nI jx)), (2, .int z), (3, .int w), (4, .int g1), (5, .int sw1), (6, .int (sumTo (B 4) n)), (7, .int (nI k)), (8, .int (nI i))] → W p l e (rmN 5) s m args below meth c0 H locs 0 0 Q (F0 m 72 ls []) := by
                intro nn
                induction nn with
                | zero => intro B2 X2 i sw1 sd1 hm; exact absurd hm (Nat.not_lt_zero _)
                | succ nn ih_72 =>
                  intro B2 X2 i sw1 sd1 hm_72 hi hB2 hkp2 hkept2 hwi hx11 H locs hR ls hl
                  refine lv_iload hx hb dX4_weeks_72 (lv_at hl 8 rfl) ?_
                  refine lv_bipush (v := 10) hx hb dX4_weeks_74 (by decide) ?_
                  refine ln_ge (tgt := 147) hx hb (i) (10) rfl (by decide) (by omega) (by decide) dX4_weeks_76 (by decide) (fun c_7 => ?_) (fun c_7 => ?_)
                  · skip
                    refine lv_iload hx hb dX4_weeks_147 (lv_at hl 4 rfl) ?_
                    refine lv_aload_n hx hb dX4_weeks_149 rfl (lv_at hl 0 rfl) ?_
                    refine mm_calli (rest := [.int g1]) hx hb hml hown hts hK hl.1 hR (m_X4_allSteps l D ca n B2 X2 Y kq1 hB2) (cwV 0 hts (lw_V q1449 q1451 qs62 q82 q1452) rfl rfl rfl cd_X4_allSteps ⟨Nat.le_of_ble_eq_true rfl, Nat.le_of_ble_eq_true rfl⟩) rfl rfl (Nat.le_of_ble_eq_true rfl) dX4_weeks_150 ⟨Nat.le_refl _, Nat.le_refl _⟩ (fun H locs hR => ?_)
                    refine lv_iload hx hb dX4_weeks_153 (lv_at hl 6 rfl) ?_
                    refine lv_isub hx hb dX4_weeks_155 ?_
                    refine lv_iadd hx hb dX4_weeks_156 ?_
                    refine lv_istore (lv' := [(4, .int (g1 + ((sumTo (B2 4) n) - (sumTo (B 4) n)))), (0, .ref (ad 0)), (1, .int (nI jx)), (2, .int z), (3, .int w), (5, .int sw1), (6, .int (sumTo (B 4) n)), (7, .int (nI k)), (8, .int (nI i))]) hx hb dX4_weeks_157 hl (by decide) rfl (fun ls hl => ?_)
                    refine lv_aload_n hx hb dX4_weeks_159 rfl (lv_at hl 1 rfl) ?_
                    refine mg_callv (rest := []) hx hb hml hown hts hK hl.1 hR (m_X4_close l D ca n B2 X2 Y kq1 n B hB2 hB (by assumption)) (cwV 0 hts (lw_V q1406 q1408 qs60 q82 q1409) rfl rfl rfl cd_X4_close ⟨Nat.le_of_ble_eq_true rfl, Nat.le_of_ble_eq_true rfl⟩) rfl rfl (Nat.le_of_ble_eq_true rfl) dX4_weeks_160 ⟨Nat.le_refl _, Nat.le_refl _⟩ (fun X_g_8 kp_g_8 hX_g_8 H locs hR => ?_)
                    refine lv_iinc (v := (nI (k + 1))) (lv' := [(7, .int (nI (k + 1))), (4, .int (g1 + ((sumTo (B2 4) n) - (sumTo (B 4) n)))), (0, .ref (ad 0)), (1, .int (nI jx)), (2, .int z), (3, .int w), (5, .int sw1), (6, .int (sumTo (B 4) n)), (8, .int (nI i))]) hx hb dX4_weeks_163 hl (k := 7) rfl (nI_1 k) (by decide) rfl (fun ls hl => ?_)
                    refine lv_goto (tgt := 63) hx hb dX4_weeks_166 (by decide) ?_
                    exact ih_63 X_g_8 kp_g_8 (k + 1) (g1 + ((sumTo (B2 4) n) - (sumTo (B 4) n))) sw1 sd1 (by omega) (by omega) (by exact kpX_tr hkp2 (kpX_fr (Or.inl rfl) hX_g_8.1)) (by intro q hq; rw [hX_g_8.2]; exact hkept2 q hq) (by obtain rfl : i = wkTen := (by unfold wkTen; omega); exact wkO_step hw hwi) (by rw [hX_g_8.1.2 11 (by decide) (by decide)]; exact hx11) _ _ hR ls (lv_sub hl [2, 3, 4, 5, 1, 6, 7, 0] rfl)
                  · skip
                    refine lv_aload_n hx hb dX4_weeks_79 rfl (lv_at hl 0 rfl) ?_
                    refine lv_aload_n hx hb dX4_weeks_80 rfl (lv_at hl 0 rfl) ?_
                    refine rw_get (v := .int (nI n)) hx hb hts in_X4 hown hK hR 0 (by decide) rfl rfl 0 (by decide) q1162 rfl (mF_ch hB2) dX4_weeks_81 ?_
                    refine mm_calli (rest := []) hx hb hml hown hts hK hl.1 hR (m_X4_drawBelow l D ca B2 X2 Y kq1 n (by omega) (by omega)) (cwV 1 hts (lw_V q1618 q1620 qs77 q82 q1621) rfl rfl rfl cd_X4_drawBelow ⟨Nat.le_of_ble_eq_true rfl, Nat.le_of_ble_eq_true rfl⟩) rfl rfl (Nat.le_of_ble_eq_true rfl) dX4_weeks_84 ⟨Nat.le_refl _, Nat.le_refl _⟩ (fun H locs hR => ?_)
                    obtain ⟨cc, hcc⟩ : ∃ cc, cc = drN sd1 n := ⟨_, rfl⟩
                    have hcn : cc < n := by rw [hcc]; exact Nat.mod_lt _ (by omega)
                    refine W.eqs (st2 := [.int (nI cc)]) (by rw [hcc, hx11]) ?_
                    refine lv_istore (lv' := [(9, .int (nI cc)), (0, .ref (ad 0)), (1, .int (nI jx)), (2, .int z), (3, .int w), (4, .int g1), (5, .int sw1), (6, .int (sumTo (B 4) n)), (7, .int (nI k)), (8, .int (nI i))]) hx hb dX4_weeks_87 hl (by decide) rfl (fun ls hl => ?_)
                    refine lv_aload_n hx hb dX4_weeks_89 rfl (lv_at hl 1 rfl) ?_
                    refine lv_iconst (v := 4) hx hb dX4_weeks_90 (by decide) ?_
                    refine mm_calli (rest := []) hx hb hml hown hts hK hl.1 hR (m_X4_drawBelow l D ca B2 (st X2 0 11 (lcg (X2 0 11))) Y kq1 4 (by omega) (by omega)) (cwV 1 hts (lw_V q1618 q1620 qs77 q82 q1621) rfl rfl rfl cd_X4_drawBelow ⟨Nat.le_of_ble_eq_true rfl, Nat.le_of_ble_eq_true rfl⟩) rfl rfl (Nat.le_of_ble_eq_true rfl) dX4_weeks_91 ⟨Nat.le_refl _, Nat.le_refl _⟩ (fun H locs hR => ?_)
                    refine W.eqs (st2 := [.int (nI (drN (lcg (X2 0 11)) 4))]) rfl ?_
                    obtain ⟨wv, hwv⟩ : ∃ wv, wv = drN (lcg sd1) 4 := ⟨_, rfl⟩
                    have hw4 : wv < 4 := by rw [hwv]; exact Nat.mod_lt _ (by omega)
                    refine W.eqs (st2 := [.int (nI wv)]) (by rw [hwv, ← hx11]) ?_
                    refine lv_istore (lv' := [(10, .int (nI wv)), (9, .int (nI cc)), (0, .ref (ad 0)), (1, .int (nI jx)), (2, .int z), (3, .int w), (4, .int g1), (5, .int sw1), (6, .int (sumTo (B 4) n)), (7, .int (nI k)), (8, .int (nI i))]) hx hb dX4_weeks_94 hl (by decide) rfl (fun ls hl => ?_)
                    refine lv_aload_n hx hb dX4_weeks_96 rfl (lv_at hl 2 rfl) ?_
                    refine rw_get (v := .ref (ad 4)) hx hb hts in_X4 hown hK hR 0 (by decide) rfl rfl 4 (by decide) q1166 rfl rfl dX4_weeks_97 ?_
                    refine lv_iload hx hb dX4_weeks_100 (lv_at hl 1 rfl) ?_
                    refine rw_ialdN (n := 6) hx hb hK hR 4 (by decide) rfl cc rfl (by omega) (by decide) dX4_weeks_102 ?_
                    refine lv_bipush (v := 7) hx hb dX4_weeks_103 (by decide) ?_
                    refine lj_ge (tgt := 141) hx hb dX4_weeks_105 (by decide) (fun c_9 => ?_) (fun c_9 => ?_)
                    · skip
                      refine lv_iinc (v := (nI (i + 1))) (lv' := [(8, .int (nI (i + 1))), (10, .int (nI wv)), (9, .int (nI cc)), (0, .ref (ad 0)), (1, .int (nI jx)), (2, .int z), (3, .int w), (4, .int g1), (5, .int sw1), (6, .int (sumTo (B 4) n)), (7, .int (nI k))]) hx hb dX4_weeks_141 hl (k := 10) rfl (nI_1 i) (by decide) rfl (fun ls hl => ?_)
                      refine lv_goto (tgt := 72) hx hb dX4_weeks_144 (by decide) ?_
                      exact ih_72 B2 (st (st X2 0 11 (lcg (X2 0 11))) 0 11 (lcg (lcg (X2 0 11)))) (i + 1) sw1 (lcg (lcg sd1)) (by omega) (by omega) (by exact hB2) (by exact kpX_tr (kpX_tr hkp2 (kpX_0 (i := 11) (by decide))) (kpX_0 (by decide))) (by intro q hq; exact hkept2 q hq) (by rw [wkI, hwi, wk1]; simp only [← hcc, ← hwv]; simp [c_7, c_9]) (by show lcg (lcg (X2 0 11)) = _; rw [hx11]) _ _ hR ls (lv_sub hl [3, 4, 5, 6, 7, 8, 9, 10, 0] rfl)
                    · skip
                      refine lv_iload hx hb dX4_weeks_108 (lv_at hl 7 rfl) ?_
                      refine lv_iload hx hb dX4_weeks_110 (lv_at hl 0 rfl) ?_
                      refine lv_iconst (v := 2) hx hb dX4_weeks_112 (by decide) ?_
                      refine ln_ne (tgt := 129) hx hb (wv) (2) rfl (by decide) (by omega) (by decide) dX4_weeks_113 (by decide) (fun c_10 => ?_) (fun c_10 => ?_)
                      · skip
                        refine lv_iconst (v := 0) hx hb dX4_weeks_129 (by decide) ?_
                        refine lv_iadd hx hb dX4_weeks_130 ?_
                        refine lv_istore (lv' := [(5, .int (sw1 + 0)), (10, .int (nI wv)), (9, .int (nI cc)), (0, .ref (ad 0)), (1, .int (nI jx)), (2, .int z), (3, .int w), (4, .int g1), (6, .int (sumTo (B 4) n)), (7, .int (nI k)), (8, .int (nI i))]) hx hb dX4_weeks_131 hl (by decide) rfl (fun ls hl => ?_)
                        refine lv_aload_n hx hb dX4_weeks_133 rfl (lv_at hl 3 rfl) ?_
                        refine lv_iload hx hb dX4_weeks_134 (lv_at hl 2 rfl) ?_
                        refine lv_iload hx hb dX4_weeks_136 (lv_at hl 1 rfl) ?_
                        refine mm_callv (rest := []) hx hb hml hown hts hK hl.1 hR (m_X4_goMinute l D ca n B2 (st (st X2 0 11 (lcg (X2 0 11))) 0 11 (lcg (lcg (X2 0 11)))) Y kq1 cc (nI wv) hB2 (by first | assumption | exact Int32.lt_iff_toInt_lt.mp (by assumption)) (by first | assumption | exact Int32.lt_iff_toInt_lt.mp (by assumption))) (cwV 2 hts (lw_V q1340 q1342 qs45 q82 q1343) rfl rfl rfl cd_X4_goMinute ⟨Nat.le_of_ble_eq_true rfl, Nat.le_of_ble_eq_true rfl⟩) rfl rfl (Nat.le_of_ble_eq_true rfl) dX4_weeks_138 ⟨Nat.le_refl _, Nat.le_refl _⟩ (fun H locs hR => ?_)
                        refine lv_iinc (v := (nI (i + 1))) (lv' := [(8, .int (nI (i + 1))), (5, .int (sw1 + 0)), (10, .int (nI wv)), (9, .int (nI cc)), (0, .ref (ad 0)), (1, .int (nI jx)), (2, .int z), (3, .int w), (4, .int g1), (6, .int (sumTo (B 4) n)), (7, .int (nI k))]) hx hb dX4_weeks_141 hl (k := 10) rfl (nI_1 i) (by decide) rfl (fun ls hl => ?_)
                        refine lv_goto (tgt := 72) hx hb dX4_weeks_144 (by decide) ?_
                        exact ih_72 (sMin n B2 cc (nI wv)) (st (st X2 0 11 (lcg (X2 0 11))) 0 11 (lcg (lcg (X2 0 11)))) (i + 1) (sw1 + 0) (lcg (lcg sd1)) (by omega) (by omega) (by exact wf_min hB2 hcn _ (Int32.lt_iff_toInt_lt.mp (by assumption))) (by exact kpX_tr (kpX_tr hkp2 (kpX_0 (i := 11) (by decide))) (kpX_0 (by decide))) (by intro q hq; exact hkept2 q hq) (by rw [wkI, hwi, wk1]; simp only [← hcc, ← hwv]; simp [c_7, c_9, c_10]) (by show lcg (lcg (X2 0 11)) = _; rw [hx11]) _ _ hR ls (lv_sub hl [4, 5, 6, 7, 8, 1, 9, 10, 0] rfl)
                      · skip
                        refine lv_aload_n hx hb dX4_weeks_116 rfl (lv_at hl 2 rfl) ?_
                        refine lv_iload hx hb dX4_weeks_117 (lv_at hl 1 rfl) ?_
                        refine mm_calli (rest := [.int sw1]) hx hb hml hown hts hK hl.1 hR (m_X4_isReady l D ca B2 (st (st X2 0 11 (lcg (X2 0 11))) 0 11 (lcg (lcg (X2 0 11)))) Y kq1 cc (by omega)) (cwV 1 hts (lw_V q1374 q1376 qs52 q82 q1377) rfl rfl rfl cd_X4_isReady ⟨Nat.le_of_ble_eq_true rfl, Nat.le_of_ble_eq_true rfl⟩) rfl rfl (Nat.le_of_ble_eq_true rfl) dX4_weeks_119 ⟨Nat.le_refl _, Nat.le_refl _⟩ (fun H locs hR => ?_)
                        refine lb_ne (tgt := 129) hx hb dX4_weeks_122 (by decide) (fun c_11 => ?_) (fun c_11 => ?_)
                        · skip
                          refine lv_iconst (v := 0) hx hb dX4_weeks_129 (by decide) ?_
                          refine lv_iadd hx hb dX4_weeks_130 ?_
                          refine lv_istore (lv' := [(5, .int (sw1 + 0)), (10, .int (nI wv)), (9, .int (nI cc)), (0, .ref (ad 0)), (1, .int (nI jx)), (2, .int z), (3, .int w), (4, .int g1), (6, .int (sumTo (B 4) n)), (7, .int (nI k)), (8, .int (nI i))]) hx hb dX4_weeks_131 hl (by decide) rfl (fun ls hl => ?_)
                          refine lv_aload_n hx hb dX4_weeks_133 rfl (lv_at hl 3 rfl) ?_
                          refine lv_iload hx hb dX4_weeks_134 (lv_at hl 2 rfl) ?_
                          refine lv_iload hx hb dX4_weeks_136 (lv_at hl 1 rfl) ?_
                          refine mm_callv (rest := []) hx hb hml hown hts hK hl.1 hR (m_X4_goMinute l D ca n B2 (st (st X2 0 11 (lcg (X2 0 11))) 0 11 (lcg (lcg (X2 0 11)))) Y kq1 cc (nI wv) hB2 (by first | assumption | exact Int32.lt_iff_toInt_lt.mp (by assumption)) (by first | assumption | exact Int32.lt_iff_toInt_lt.mp (by assumption))) (cwV 2 hts (lw_V q1340 q1342 qs45 q82 q1343) rfl rfl rfl cd_X4_goMinute ⟨Nat.le_of_ble_eq_true rfl, Nat.le_of_ble_eq_true rfl⟩) rfl rfl (Nat.le_of_ble_eq_true rfl) dX4_weeks_138 ⟨Nat.le_refl _, Nat.le_refl _⟩ (fun H locs hR => ?_)
                          refine lv_iinc (v := (nI (i + 1))) (lv' := [(8, .int (nI (i + 1))), (5, .int (sw1 + 0)), (10, .int (nI wv)), (9, .int (nI cc)), (0, .ref (ad 0)), (1, .int (nI jx)), (2, .int z), (3, .int w), (4, .int g1), (6, .int (sumTo (B 4) n)), (7, .int (nI k))]) hx hb dX4_weeks_141 hl (k := 10) rfl (nI_1 i) (by decide) rfl (fun ls hl => ?_)
                          refine lv_goto (tgt := 72) hx hb dX4_weeks_144 (by decide) ?_
                          exact ih_72 (sMin n B2 cc (nI wv)) (st (st X2 0 11 (lcg (X2 0 11))) 0 11 (lcg (lcg (X2 0 11)))) (i + 1) (sw1 + 0) (lcg (lcg sd1)) (by omega) (by omega) (by exact wf_min hB2 hcn _ (Int32.lt_iff_toInt_lt.mp (by assumption))) (by exact kpX_tr (kpX_tr hkp2 (kpX_0 (i := 11) (by decide))) (kpX_0 (by decide))) (by intro q hq; exact hkept2 q hq) (by rw [wkI, hwi, wk1]; simp only [← hcc, ← hwv]; simp [c_7, c_9, c_10, c_11]) (by show lcg (lcg (X2 0 11)) = _; rw [hx11]) _ _ hR ls (lv_sub hl [4, 5, 6, 7, 8, 1, 9, 10, 0] rfl)
                        · skip
                          refine lv_iconst (v := 1) hx hb dX4_weeks_125 (by decide) ?_
                          refine lv_goto (tgt := 130) hx hb dX4_weeks_126 (by decide) ?_
                          refine lv_iadd hx hb dX4_weeks_130 ?_
                          refine lv_istore (lv' := [(5, .int (sw1 + 1)), (10, .int (nI wv)), (9, .int (nI cc)), (0, .ref (ad 0)), (1, .int (nI jx)), (2, .int z), (3, .int w), (4, .int g1), (6, .int (sumTo (B 4) n)), (7, .int (nI k)), (8, .int (nI i))]) hx hb dX4_weeks_131 hl (by decide) rfl (fun ls hl => ?_)
                          refine lv_aload_n hx hb dX4_weeks_133 rfl (lv_at hl 3 rfl) ?_
                          refine lv_iload hx hb dX4_weeks_134 (lv_at hl 2 rfl) ?_
                          refine lv_iload hx hb dX4_weeks_136 (lv_at hl 1 rfl) ?_
                          refine mm_callv (rest := []) hx hb hml hown hts hK hl.1 hR (m_X4_goMinute l D ca n B2 (st (st X2 0 11 (lcg (X2 0 11))) 0 11 (lcg (lcg (X2 0 11)))) Y kq1 cc (nI wv) hB2 (by first | assumption | exact Int32.lt_iff_toInt_lt.mp (by assumption)) (by first | assumption | exact Int32.lt_iff_toInt_lt.mp (by assumption))) (cwV 2 hts (lw_V q1340 q1342 qs45 q82 q1343) rfl rfl rfl cd_X4_goMinute ⟨Nat.le_of_ble_eq_true rfl, Nat.le_of_ble_eq_true rfl⟩) rfl rfl (Nat.le_of_ble_eq_true rfl) dX4_weeks_138 ⟨Nat.le_refl _, Nat.le_refl _⟩ (fun H locs hR => ?_)
                          refine lv_iinc (v := (nI (i + 1))) (lv' := [(8, .int (nI (i + 1))), (5, .int (sw1 + 1)), (10, .int (nI wv)), (9, .int (nI cc)), (0, .ref (ad 0)), (1, .int (nI jx)), (2, .int z), (3, .int w), (4, .int g1), (6, .int (sumTo (B 4) n)), (7, .int (nI k))]) hx hb dX4_weeks_141 hl (k := 10) rfl (nI_1 i) (by decide) rfl (fun ls hl => ?_)
                          refine lv_goto (tgt := 72) hx hb dX4_weeks_144 (by decide) ?_
                          exact ih_72 (sMin n B2 cc (nI wv)) (st (st X2 0 11 (lcg (X2 0 11))) 0 11 (lcg (lcg (X2 0 11)))) (i + 1) (sw1 + 1) (lcg (lcg sd1)) (by omega) (by omega) (by exact wf_min hB2 hcn _ (Int32.lt_iff_toInt_lt.mp (by assumption))) (by exact kpX_tr (kpX_tr hkp2 (kpX_0 (i := 11) (by decide))) (kpX_0 (by decide))) (by intro q hq; exact hkept2 q hq) (by rw [wkI, hwi, wk1]; simp only [← hcc, ← hwv]; simp [c_7, c_9, c_10, c_11]) (by show lcg (lcg (X2 0 11)) = _; rw [hx11]) _ _ hR ls (lv_sub hl [4, 5, 6, 7, 8, 1, 9, 10, 0] rfl)
              exact loop_72 _ B X1 0 sw sd (Nat.lt_succ_self _) (by omega) (by exact hB) (by exact hkp) (by exact hkept) (by rfl) (by exact hx1) _ _ hR ls (lv_sub hl [1, 2, 3, 4, 5, 6, 7, 8, 0] rfl)
        exact loop_63 _ X_g_4 kp_g_4 0 0 0 z (Nat.lt_succ_self _) (by omega) (by exact kpX_tr (kpX_tr (kpX_0 (by decide)) (kpX_0 (by decide))) (kpX_fr (Or.inl rfl) hX_g_4.1)) (by exact hX_g_4.2) (by rfl) (by exact hX_g_4.1.2 11 (by decide) (by decide)) _ _ hR ls (lv_sub hl [4, 5, 6, 7, 3, 2, 1, 0] rfl)
      · skip
        refine lv_bipush (v := (-3)) hx hb dX4_weeks_36 (by decide) ?_
        exact hQ _ _ _ _ _ (st X 0 0 0) kp (by first | (simp [oWeeks, weeksOk, c_1, c_2, c_3, nI_clamp (show jx < 2 ^ 31 by omega)]; done) | simp_all [oWeeks, weeksOk, nI_clamp (show jx < 2 ^ 31 by omega)]) (by first | exact kpX_0 (by decide) | assumption | exact kpX_tr (by assumption) (kpX_fr (Or.inl rfl) (by assumption)) | exact kpX_tr (by assumption) (kpX_fr (Or.inl rfl) (And.left (by assumption)))) hR dX4_weeks_38
    · skip
      refine lv_iconst (v := (-1)) hx hb dX4_weeks_27 (by decide) ?_
      exact hQ _ _ _ _ _ (st X 0 0 0) kp (by first | (simp [oWeeks, weeksOk, c_1, c_2, nI_clamp (show jx < 2 ^ 31 by omega)]; done) | simp_all [oWeeks, weeksOk, nI_clamp (show jx < 2 ^ 31 by omega)]) (by first | exact kpX_0 (by decide) | assumption | exact kpX_tr (by assumption) (kpX_fr (Or.inl rfl) (by assumption)) | exact kpX_tr (by assumption) (kpX_fr (Or.inl rfl) (And.left (by assumption)))) hR dX4_weeks_28
