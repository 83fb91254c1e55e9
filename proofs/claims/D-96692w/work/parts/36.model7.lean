/-! the model: told minutes, judging -/
set_option maxRecDepth 100000
theorem cd_X4_forged : yX4_forged.cls = RX4 ∧ yX4_forged.cls ≠ "java/lang/invoke/MethodHandle" ∧ yX4_forged.cls ≠ "java/lang/invoke/VarHandle" ∧ (parseMethodDescriptor yX4_forged.desc).map (fun d => d.parameters.length) = some 1 := by decide +kernel
set_option maxHeartbeats 4000000 in
theorem m_X4_forged (l : Launch) (D : va_G) (ca : Nat → ClassId) (n : Nat) (B X : Nat → Nat → Int32) (Y : Nat → Nat → Int64) (kp : Nat) (d : Int32) (hB : wfB n B) (hX : wfX X) : MMgi l D ca yX4_forged (ws_ yX4_forged cX4_forged 10 (some .int)) (rmN 5) (fun ad => [.int d]) B X Y kp (oForged n B X Y d) B Y (fun X1 kp1 => kpX X X1) := by
  refine MMgi_start (by decide) (Or.inl rfl) (fun _ => Nat.le_of_ble_eq_true rfl) ?_
  intro p e s m args below meth c0 ad A Q ls hx hb hml hown hts hK hR hl hQ
  have hl : lv_has ls 10 [(0, .ref (ad 0)), (1, .int d)] := hl
  have hn6 : n ≤ 6 := hB.1
  refine lv_aload_n hx hb dX4_forged_0 rfl (lv_at hl 0 rfl) ?_
  refine lv_iconst (v := 0) hx hb dX4_forged_1 (by decide) ?_
  refine rw_put hx hb hts in_X4 tyX4 tyX4_ok nmX4 hown hK hR 0 (by decide) rfl rfl 13 (by decide) q1175 rfl rfl rfl rfl (Nat.le_of_ble_eq_true rfl) dX4_forged_2 (mE_pX 0 (x := 0) rfl) (fun H locs hR => ?_)
  refine lv_aload_n hx hb dX4_forged_5 rfl (lv_at hl 0 rfl) ?_
  refine lv_iload_n hx hb dX4_forged_6 rfl (lv_at hl 1 rfl) ?_
  refine mm_calli (rest := []) hx hb hml hown hts hK hl.1 hR (m_X4_wrongRow l D ca B (st X 0 0 0) Y kp d) (cwV 1 hts (lw_V q1283 q1285 qs33 q82 q1286) rfl rfl rfl cd_X4_wrongRow ⟨Nat.le_of_ble_eq_true rfl, Nat.le_of_ble_eq_true rfl⟩) rfl rfl (Nat.le_of_ble_eq_true rfl) dX4_forged_7 ⟨Nat.le_refl _, Nat.le_refl _⟩ (fun H locs hR => ?_)
  refine W.eqs (st2 := [.int (wrR (X 6) d)]) rfl ?_
  refine lv_istore_n (lv' := [(2, .int (wrR (X 6) d)), (0, .ref (ad 0)), (1, .int d)]) hx hb dX4_forged_10 rfl hl (by decide) rfl (fun ls hl => ?_)
  refine lv_iload_n hx hb dX4_forged_11 rfl (lv_at hl 0 rfl) ?_
  refine lv_if_ne (tgt := 32) hx hb dX4_forged_12 (by decide) (fun c_1 => ?_) (fun c_1 => ?_)
  · skip
    refine lv_iload_n hx hb dX4_forged_32 rfl (lv_at hl 0 rfl) ?_
    refine lv_istore_n (lv' := [(2, .int (wrR (X 6) d)), (0, .ref (ad 0)), (1, .int d)]) hx hb dX4_forged_33 rfl hl (by decide) rfl (fun ls hl => ?_)
    refine lv_iload_n hx hb dX4_forged_34 rfl (lv_at hl 0 rfl) ?_
    refine lz_ge (tgt := 40) hx hb dX4_forged_35 (by decide) (fun z => absurd (wrR_neg c_1) z) (fun _ => ?_)
    refine lv_iload_n hx hb dX4_forged_38 rfl (lv_at hl 0 rfl) ?_
    exact hQ _ _ _ _ _ (st X 0 0 0) kp (by first | (simp [oForged, frgN, c_1, wrR_neg c_1]; done) | simp_all [oForged, frgN]) (by first | exact kpX_0 (by decide) | assumption | exact kpX_tr (by assumption) (kpX_fr (Or.inl rfl) (by assumption)) | exact kpX_tr (by assumption) (kpX_fr (Or.inl rfl) (And.left (by assumption)))) hR dX4_forged_39
  · skip
    obtain ⟨jd, hjd, rfl, hWd⟩ := wrR_0 (by rw [c_1]; decide)
    refine lv_aload_n hx hb dX4_forged_15 rfl (lv_at hl 1 rfl) ?_
    refine rw_get (v := .ref (ad 10)) hx hb hts in_X4 hown hK hR 0 (by decide) rfl rfl 11 (by decide) q1173 rfl rfl dX4_forged_16 ?_
    refine lv_iload_n hx hb dX4_forged_19 rfl (lv_at hl 2 rfl) ?_
    refine rw_ialdN (n := 8) hx hb hK hR 10 (by decide) rfl jd rfl (by omega) (by decide) dX4_forged_20 ?_
    refine W.eqs (st2 := [.int (X 10 jd)]) rfl ?_
    have hmany : (X 10 jd).toNatClampNeg ≤ 100 := many_le (m := 100) (hX.2.2.2.2 jd)
    refine W.eqs (st2 := [.int (nI ((X 10 jd).toNatClampNeg))]) (congrArg (fun z => Value.int z :: _) (many_nI (m := 100) (hX.2.2.2.2 jd))) ?_
    refine lv_iconst (v := 2) hx hb dX4_forged_21 (by decide) ?_
    refine lv_irem hx hb dX4_forged_22 (by decide) ?_
    refine W.eqs (st2 := [.int (nI ((X 10 jd).toNatClampNeg % 2))]) (by rw [rem2 (by omega)]) ?_
    refine lv_iconst (v := 1) hx hb dX4_forged_23 (by decide) ?_
    refine ln_ne (tgt := 32) hx hb ((X 10 jd).toNatClampNeg % 2) (1) rfl (by decide) (by omega) (by decide) dX4_forged_24 (by decide) (fun c_2 => ?_) (fun c_2 => ?_)
    · skip
      refine lv_iload_n hx hb dX4_forged_32 rfl (lv_at hl 0 rfl) ?_
      refine lv_istore_n (lv' := [(2, .int (wrR (X 6) (nI jd))), (0, .ref (ad 0)), (1, .int (nI jd))]) hx hb dX4_forged_33 rfl hl (by decide) rfl (fun ls hl => ?_)
      refine lv_iload_n hx hb dX4_forged_34 rfl (lv_at hl 0 rfl) ?_
      refine lz_ge (tgt := 40) hx hb dX4_forged_35 (by decide) (fun _ => ?_) (fun z => absurd z (by rw [c_1]; decide))
      refine lv_bipush (v := (-4)) hx hb dX4_forged_40 (by decide) ?_
      refine lv_istore_n (lv' := [(3, .int (-4)), (2, .int (wrR (X 6) (nI jd))), (0, .ref (ad 0)), (1, .int (nI jd))]) hx hb dX4_forged_42 rfl hl (by decide) rfl (fun ls hl => ?_)
      refine lv_aload_n hx hb dX4_forged_43 rfl (lv_at hl 2 rfl) ?_
      refine mg_callv (rest := []) hx hb hml hown hts hK hl.1 hR (m_X4_open l D ca n B (st X 0 0 0) Y kp hB) (cwV 0 hts (lw_V q1312 q1314 qs38 q82 q1315) rfl rfl rfl cd_X4_open ⟨Nat.le_of_ble_eq_true rfl, Nat.le_of_ble_eq_true rfl⟩) rfl rfl (Nat.le_of_ble_eq_true rfl) dX4_forged_44 ⟨Nat.le_refl _, Nat.le_refl _⟩ (fun X_g_3 kp_g_3 hX_g_3 H locs hR => ?_)
      refine lv_iconst (v := 0) hx hb dX4_forged_47 (by decide) ?_
      refine lv_istore (lv' := [(4, .int 0), (3, .int (-4)), (2, .int (wrR (X 6) (nI jd))), (0, .ref (ad 0)), (1, .int (nI jd))]) hx hb dX4_forged_48 hl (by decide) rfl (fun ls hl => ?_)
      have loop_50 : ∀ (nn : Nat) (B1 : Nat → Nat → Int32) (X1 : Nat → Nat → Int32) (kq1 : Nat) (i : Nat) (v : Int32), 51 - i < nn → (wfB n B1) → (kpX X X1) → (∀ q, q < 32 → X1 15 q = pk B q) → (i ≤ 50) → (fgB n B (rowY Y jd) i = B1) → (fstTo (frgQ n B (rowY Y jd)) 0 ((X 10 jd).toNatClampNeg / 2) = if v < 0 then fstTo (frgQ n B (rowY Y jd)) i ((X 10 jd).toNatClampNeg / 2 - i) else v) → (v < 0 → v = -4) → ∀ (H : Heap) (locs : List Loc), RW D 23 ad (mE ca ad B1 X1 Y kq1) A s.heap H locs → ∀ (ls : Array Slot), lv_has ls 10 [(0, .ref (ad 0)), (1, .int (nI jd)), (3, .int v), (4, .int (nI i))] → W p l e (rmN 5) s m args below meth c0 H locs 0 0 Q (F0 m 50 ls []) := by
        intro nn
        induction nn with
        | zero => intro B1 X1 kq1 i v hm; exact absurd hm (Nat.not_lt_zero _)
        | succ nn ih_50 =>
          intro B1 X1 kq1 i v hm_50 hB1 hkp hkept hi hfg hv hv4 H locs hR ls hl
          refine lv_iload hx hb dX4_forged_50 (lv_at hl 3 rfl) ?_
          refine lv_aload_n hx hb dX4_forged_52 rfl (lv_at hl 0 rfl) ?_
          refine rw_get (v := .ref (ad 10)) hx hb hts in_X4 hown hK hR 0 (by decide) rfl rfl 11 (by decide) q1173 rfl rfl dX4_forged_53 ?_
          refine lv_iload_n hx hb dX4_forged_56 rfl (lv_at hl 1 rfl) ?_
          refine rw_ialdN (n := 8) hx hb hK hR 10 (by decide) rfl jd rfl (by omega) (by decide) dX4_forged_57 ?_
          have hmany : (X 10 jd).toNatClampNeg ≤ 100 := many_le (m := 100) (hX.2.2.2.2 jd)
          refine W.eqs (st2 := [.int (nI ((X 10 jd).toNatClampNeg)), .int (nI i)]) (congrArg (fun z => Value.int z :: _) ((congrFun (hkp.1 10 (Or.inl ⟨by decide, by decide⟩)) jd).trans (many_nI (m := 100) (hX.2.2.2.2 jd)))) ?_
          refine lv_iconst (v := 2) hx hb dX4_forged_58 (by decide) ?_
          refine lv_idiv hx hb dX4_forged_59 (by decide) ?_
          refine W.eqs (st2 := [.int (nI ((X 10 jd).toNatClampNeg / 2)), .int (nI i)]) (by rw [div2 (by omega)]) ?_
          refine ln_ge (tgt := 183) hx hb (i) ((X 10 jd).toNatClampNeg / 2) rfl rfl (by omega) (by omega) dX4_forged_60 (by decide) (fun c_4 => ?_) (fun c_4 => ?_)
          · skip
            refine lv_aload_n hx hb dX4_forged_183 rfl (lv_at hl 0 rfl) ?_
            refine mg_callv (rest := []) hx hb hml hown hts hK hl.1 hR (m_X4_close l D ca n B1 X1 Y kq1 n B hB1 hB (by assumption)) (cwV 0 hts (lw_V q1406 q1408 qs60 q82 q1409) rfl rfl rfl cd_X4_close ⟨Nat.le_of_ble_eq_true rfl, Nat.le_of_ble_eq_true rfl⟩) rfl rfl (Nat.le_of_ble_eq_true rfl) dX4_forged_184 ⟨Nat.le_refl _, Nat.le_refl _⟩ (fun X_g_5 kp_g_5 hX_g_5 H locs hR => ?_)
            refine lv_iload_n hx hb dX4_forged_187 rfl (lv_at hl 2 rfl) ?_
            exact hQ _ _ _ _ _ X_g_5 kp_g_5 (by rw [oForged, if_neg (by rw [wrR_at hjd hWd]; decide), nI_clamp (by omega), frgN, if_neg (by omega), hv]; by_cases hz : v < 0; (rw [if_pos hz, show (X 10 jd).toNatClampNeg / 2 - i = 0 by omega, fstTo]; exact hv4 hz); rw [if_neg hz]) (by first | exact kpX_0 (by decide) | assumption | exact kpX_tr (by assumption) (kpX_fr (Or.inl rfl) (by assumption)) | exact kpX_tr (by assumption) (kpX_fr (Or.inl rfl) (And.left (by assumption)))) hR dX4_forged_188
          · skip
            refine lv_iload_n hx hb dX4_forged_63 rfl (lv_at hl 2 rfl) ?_
            refine lz_ge (tgt := 183) hx hb dX4_forged_64 (by decide) (fun c_6 => ?_) (fun c_6 => ?_)
            · skip
              refine lv_aload_n hx hb dX4_forged_183 rfl (lv_at hl 0 rfl) ?_
              refine mg_callv (rest := []) hx hb hml hown hts hK hl.1 hR (m_X4_close l D ca n B1 X1 Y kq1 n B hB1 hB (by assumption)) (cwV 0 hts (lw_V q1406 q1408 qs60 q82 q1409) rfl rfl rfl cd_X4_close ⟨Nat.le_of_ble_eq_true rfl, Nat.le_of_ble_eq_true rfl⟩) rfl rfl (Nat.le_of_ble_eq_true rfl) dX4_forged_184 ⟨Nat.le_refl _, Nat.le_refl _⟩ (fun X_g_7 kp_g_7 hX_g_7 H locs hR => ?_)
              refine lv_iload_n hx hb dX4_forged_187 rfl (lv_at hl 2 rfl) ?_
              exact hQ _ _ _ _ _ X_g_7 kp_g_7 (by rw [oForged, if_neg (by rw [wrR_at hjd hWd]; decide), nI_clamp (by omega), frgN, if_neg (by omega), hv]; rw [if_neg c_6]) (by first | exact kpX_0 (by decide) | assumption | exact kpX_tr (by assumption) (kpX_fr (Or.inl rfl) (by assumption)) | exact kpX_tr (by assumption) (kpX_fr (Or.inl rfl) (And.left (by assumption)))) hR dX4_forged_188
            · skip
              refine lv_aload_n hx hb dX4_forged_67 rfl (lv_at hl 0 rfl) ?_
              refine rw_get (v := .ref (ad 11)) hx hb hts in_X4 hown hK hR 0 (by decide) rfl rfl 12 (by decide) q1174 rfl rfl dX4_forged_68 ?_
              refine lv_bipush (v := 100) hx hb dX4_forged_71 (by decide) ?_
              refine lv_iload_n hx hb dX4_forged_73 rfl (lv_at hl 1 rfl) ?_
              refine lv_imul hx hb dX4_forged_74 ?_
              refine W.eqs (st2 := [.int (nI (100 * jd)), .ref (ad 11)]) (congrArg (fun z : Int32 => Value.int z :: _) (pk_mul 100 jd)) ?_
              refine lv_iconst (v := 2) hx hb dX4_forged_75 (by decide) ?_
              refine lv_iload hx hb dX4_forged_76 (lv_at hl 3 rfl) ?_
              refine lv_imul hx hb dX4_forged_78 ?_
              refine W.eqs (st2 := [.int (nI (2 * i)), .int (nI (100 * jd)), .ref (ad 11)]) (congrArg (fun z : Int32 => Value.int z :: _) (pk_mul 2 i)) ?_
              refine lv_iadd hx hb dX4_forged_79 ?_
              refine W.eqs (st2 := [.int (nI (100 * jd + 2 * i)), .ref (ad 11)]) (congrArg (fun z : Int32 => Value.int z :: _) (nI_add (100 * jd) (2 * i))) ?_
              refine rw_laldN (n := 800) hx hb hK hR 11 (by decide) rfl (100 * jd + 2 * i) rfl (by omega) (by decide) dX4_forged_80 ?_
              refine lv_lstore (lv' := [(5, .long (Y 11 (100 * jd + 2 * i))), (0, .ref (ad 0)), (1, .int (nI jd)), (3, .int v), (4, .int (nI i))]) hx hb dX4_forged_81 hl (by decide) rfl (fun ls hl => ?_)
              refine lv_aload_n hx hb dX4_forged_83 rfl (lv_at hl 1 rfl) ?_
              refine rw_get (v := .ref (ad 11)) hx hb hts in_X4 hown hK hR 0 (by decide) rfl rfl 12 (by decide) q1174 rfl rfl dX4_forged_84 ?_
              refine lv_bipush (v := 100) hx hb dX4_forged_87 (by decide) ?_
              refine lv_iload_n hx hb dX4_forged_89 rfl (lv_at hl 2 rfl) ?_
              refine lv_imul hx hb dX4_forged_90 ?_
              refine W.eqs (st2 := [.int (nI (100 * jd)), .ref (ad 11)]) (congrArg (fun z : Int32 => Value.int z :: _) (pk_mul 100 jd)) ?_
              refine lv_iconst (v := 2) hx hb dX4_forged_91 (by decide) ?_
              refine lv_iload hx hb dX4_forged_92 (lv_at hl 4 rfl) ?_
              refine lv_imul hx hb dX4_forged_94 ?_
              refine W.eqs (st2 := [.int (nI (2 * i)), .int (nI (100 * jd)), .ref (ad 11)]) (congrArg (fun z : Int32 => Value.int z :: _) (pk_mul 2 i)) ?_
              refine lv_iadd hx hb dX4_forged_95 ?_
              refine W.eqs (st2 := [.int (nI (100 * jd + 2 * i)), .ref (ad 11)]) (congrArg (fun z : Int32 => Value.int z :: _) (nI_add (100 * jd) (2 * i))) ?_
              refine lv_iconst (v := 1) hx hb dX4_forged_96 (by decide) ?_
              refine lv_iadd hx hb dX4_forged_97 ?_
              refine W.eqs (st2 := [.int (nI (100 * jd + 2 * i + 1)), .ref (ad 11)]) (congrArg (fun z : Int32 => Value.int z :: _) (nI_add (100 * jd + 2 * i) 1)) ?_
              refine rw_laldN (n := 800) hx hb hK hR 11 (by decide) rfl (100 * jd + 2 * i + 1) rfl (by omega) (by decide) dX4_forged_98 ?_
              refine lv_lstore (lv' := [(7, .long (Y 11 (100 * jd + 2 * i + 1))), (5, .long (Y 11 (100 * jd + 2 * i))), (0, .ref (ad 0)), (1, .int (nI jd)), (3, .int v), (4, .int (nI i))]) hx hb dX4_forged_99 hl (by decide) rfl (fun ls hl => ?_)
              refine lv_lload hx hb dX4_forged_101 (lv_at hl 1 rfl) ?_
              refine lv_lconst (v := 0) hx hb dX4_forged_103 (by decide) ?_
              refine lv_aload_n hx hb dX4_forged_104 rfl (lv_at hl 2 rfl) ?_
              refine rw_get (v := .int (nI n)) hx hb hts in_X4 hown hK hR 0 (by decide) rfl rfl 0 (by decide) q1162 rfl (mF_ch hB1) dX4_forged_105 ?_
              refine lv_iconst (v := 1) hx hb dX4_forged_108 (by decide) ?_
              refine lv_isub hx hb dX4_forged_109 ?_
              refine lv_i2l (v := (((nI n) - 1).toInt64)) hx hb dX4_forged_110 rfl ?_
              refine rs_calli (rest := []) hx hb hml hown hts hl.1 hR (m_X4_in l (Y 11 (100 * jd + 2 * i)) 0 (((nI n) - 1).toInt64)) (va_cwS 3 hts (lw_S q1288 q1289 q82 q1290) rfl rfl rfl cd_X4_in ⟨Nat.le_of_ble_eq_true rfl, Nat.le_of_ble_eq_true rfl⟩) rfl rfl (Nat.le_of_ble_eq_true rfl) dX4_forged_111 ⟨Nat.le_refl _, Nat.le_refl _⟩ (fun H locs hR => ?_)
              refine lb_eq (tgt := 146) hx hb dX4_forged_114 (by decide) (fun c_8 => ?_) (fun c_8 => ?_)
              · skip
                refine lv_iconst (v := 0) hx hb dX4_forged_146 (by decide) ?_
                refine lv_istore (lv' := [(9, .int 0), (7, .long (Y 11 (100 * jd + 2 * i + 1))), (5, .long (Y 11 (100 * jd + 2 * i))), (0, .ref (ad 0)), (1, .int (nI jd)), (3, .int v), (4, .int (nI i))]) hx hb dX4_forged_147 hl (by decide) rfl (fun ls hl => ?_)
                refine lv_iload hx hb dX4_forged_149 (lv_at hl 0 rfl) ?_
                refine lv_if_eq (tgt := 164) hx hb dX4_forged_151 (by decide) (fun _ => ?_) (fun z => absurd z (by decide))
                refine lv_iload hx hb dX4_forged_164 (lv_at hl 0 rfl) ?_
                refine lv_if_eq (tgt := 174) hx hb dX4_forged_166 (by decide) (fun _ => ?_) (fun z => absurd z (by decide))
                refine lv_iload hx hb dX4_forged_174 (lv_at hl 6 rfl) ?_
                refine lv_istore_n (lv' := [(3, .int (nI i)), (9, .int 0), (7, .long (Y 11 (100 * jd + 2 * i + 1))), (5, .long (Y 11 (100 * jd + 2 * i))), (0, .ref (ad 0)), (1, .int (nI jd)), (4, .int (nI i))]) hx hb dX4_forged_176 rfl hl (by decide) rfl (fun ls hl => ?_)
                refine lv_iinc (v := (nI (i + 1))) (lv' := [(4, .int (nI (i + 1))), (3, .int (nI i)), (9, .int 0), (7, .long (Y 11 (100 * jd + 2 * i + 1))), (5, .long (Y 11 (100 * jd + 2 * i))), (0, .ref (ad 0)), (1, .int (nI jd))]) hx hb dX4_forged_177 hl (k := 6) rfl (nI_1 i) (by decide) rfl (fun ls hl => ?_)
                refine lv_goto (tgt := 50) hx hb dX4_forged_180 (by decide) ?_
                have hg : fgGood n B1 (rowY Y jd (2 * i)) (rowY Y jd (2 * i + 1)) = false := by simp [fgGood, rowY, ← Nat.add_assoc, c_8]
                exact ih_50 B1 X1 kq1 (i + 1) (nI i) (by omega) (by exact hB1) (by exact hkp) (by exact hkept) (by omega) (by rw [fgB, hfg, if_neg (by rw [hg]; decide)]) (by rw [hv, if_pos (by assumption), show (X 10 jd).toNatClampNeg / 2 - i = ((X 10 jd).toNatClampNeg / 2 - (i + 1)) + 1 by omega, fstTo]; simp [frgQ, hfg, hg, nI_pos (show i < 2 ^ 31 by omega)]) (by first | (intro _; rfl) | (intro z; exact absurd z (nI_pos (by omega)))) _ _ hR ls (lv_sub hl [5, 6, 1, 0] rfl)
              · skip
                obtain ⟨j1, hj1, e1⟩ := inL_nat (k := n) (by rw [Int32.toInt_toInt64, nI_m1_toInt hn6]) (by omega) c_8
                refine lv_lload hx hb dX4_forged_117 (lv_at hl 0 rfl) ?_
                refine lv_lconst (v := 0) hx hb dX4_forged_119 (by decide) ?_
                refine lv_ldc2 hx hb hown (hts _ q1439) dX4_forged_120 ?_
                refine rs_calli (rest := []) hx hb hml hown hts hl.1 hR (m_X4_in l (Y 11 (100 * jd + 2 * i + 1)) 0 3) (va_cwS 3 hts (lw_S q1288 q1289 q82 q1290) rfl rfl rfl cd_X4_in ⟨Nat.le_of_ble_eq_true rfl, Nat.le_of_ble_eq_true rfl⟩) rfl rfl (Nat.le_of_ble_eq_true rfl) dX4_forged_123 ⟨Nat.le_refl _, Nat.le_refl _⟩ (fun H locs hR => ?_)
                refine lb_eq (tgt := 146) hx hb dX4_forged_126 (by decide) (fun c_11 => ?_) (fun c_11 => ?_)
                · skip
                  refine lv_iconst (v := 0) hx hb dX4_forged_146 (by decide) ?_
                  refine lv_istore (lv' := [(9, .int 0), (7, .long (Y 11 (100 * jd + 2 * i + 1))), (5, .long (Y 11 (100 * jd + 2 * i))), (0, .ref (ad 0)), (1, .int (nI jd)), (3, .int v), (4, .int (nI i))]) hx hb dX4_forged_147 hl (by decide) rfl (fun ls hl => ?_)
                  refine lv_iload hx hb dX4_forged_149 (lv_at hl 0 rfl) ?_
                  refine lv_if_eq (tgt := 164) hx hb dX4_forged_151 (by decide) (fun _ => ?_) (fun z => absurd z (by decide))
                  refine lv_iload hx hb dX4_forged_164 (lv_at hl 0 rfl) ?_
                  refine lv_if_eq (tgt := 174) hx hb dX4_forged_166 (by decide) (fun _ => ?_) (fun z => absurd z (by decide))
                  refine lv_iload hx hb dX4_forged_174 (lv_at hl 6 rfl) ?_
                  refine lv_istore_n (lv' := [(3, .int (nI i)), (9, .int 0), (7, .long (Y 11 (100 * jd + 2 * i + 1))), (5, .long (Y 11 (100 * jd + 2 * i))), (0, .ref (ad 0)), (1, .int (nI jd)), (4, .int (nI i))]) hx hb dX4_forged_176 rfl hl (by decide) rfl (fun ls hl => ?_)
                  refine lv_iinc (v := (nI (i + 1))) (lv' := [(4, .int (nI (i + 1))), (3, .int (nI i)), (9, .int 0), (7, .long (Y 11 (100 * jd + 2 * i + 1))), (5, .long (Y 11 (100 * jd + 2 * i))), (0, .ref (ad 0)), (1, .int (nI jd))]) hx hb dX4_forged_177 hl (k := 6) rfl (nI_1 i) (by decide) rfl (fun ls hl => ?_)
                  refine lv_goto (tgt := 50) hx hb dX4_forged_180 (by decide) ?_
                  have hg : fgGood n B1 (rowY Y jd (2 * i)) (rowY Y jd (2 * i + 1)) = false := by simp [fgGood, rowY, ← Nat.add_assoc, c_11]
                  exact ih_50 B1 X1 kq1 (i + 1) (nI i) (by omega) (by exact hB1) (by exact hkp) (by exact hkept) (by omega) (by rw [fgB, hfg, if_neg (by rw [hg]; decide)]) (by rw [hv, if_pos (by assumption), show (X 10 jd).toNatClampNeg / 2 - i = ((X 10 jd).toNatClampNeg / 2 - (i + 1)) + 1 by omega, fstTo]; simp [frgQ, hfg, hg, nI_pos (show i < 2 ^ 31 by omega)]) (by first | (intro _; rfl) | (intro z; exact absurd z (nI_pos (by omega)))) _ _ hR ls (lv_sub hl [5, 6, 1, 0] rfl)
                · skip
                  obtain ⟨v1, hv1, e2⟩ := inL_nat (k := 4) (by decide) (by decide) c_11
                  refine lv_aload_n hx hb dX4_forged_129 rfl (lv_at hl 2 rfl) ?_
                  refine rw_get (v := .ref (ad 4)) hx hb hts in_X4 hown hK hR 0 (by decide) rfl rfl 4 (by decide) q1166 rfl rfl dX4_forged_130 ?_
                  refine lv_lload hx hb dX4_forged_133 (lv_at hl 1 rfl) ?_
                  refine lv_l2i (v := ((Y 11 (100 * jd + 2 * i)).toInt32)) hx hb dX4_forged_135 rfl ?_
                  refine rw_iald (n := 6) hx hb hK hR 4 (by decide) rfl (by rw [e1, lN_i]; exact vp_in_nI (by omega) (by decide)) dX4_forged_136 ?_
                  refine lv_bipush (v := 7) hx hb dX4_forged_137 (by decide) ?_
                  refine lj_ge (tgt := 146) hx hb dX4_forged_139 (by decide) (fun c_14 => ?_) (fun c_14 => ?_)
                  · skip
                    refine lv_iconst (v := 0) hx hb dX4_forged_146 (by decide) ?_
                    refine lv_istore (lv' := [(9, .int 0), (7, .long (Y 11 (100 * jd + 2 * i + 1))), (5, .long (Y 11 (100 * jd + 2 * i))), (0, .ref (ad 0)), (1, .int (nI jd)), (3, .int v), (4, .int (nI i))]) hx hb dX4_forged_147 hl (by decide) rfl (fun ls hl => ?_)
                    refine lv_iload hx hb dX4_forged_149 (lv_at hl 0 rfl) ?_
                    refine lv_if_eq (tgt := 164) hx hb dX4_forged_151 (by decide) (fun _ => ?_) (fun z => absurd z (by decide))
                    refine lv_iload hx hb dX4_forged_164 (lv_at hl 0 rfl) ?_
                    refine lv_if_eq (tgt := 174) hx hb dX4_forged_166 (by decide) (fun _ => ?_) (fun z => absurd z (by decide))
                    refine lv_iload hx hb dX4_forged_174 (lv_at hl 6 rfl) ?_
                    refine lv_istore_n (lv' := [(3, .int (nI i)), (9, .int 0), (7, .long (Y 11 (100 * jd + 2 * i + 1))), (5, .long (Y 11 (100 * jd + 2 * i))), (0, .ref (ad 0)), (1, .int (nI jd)), (4, .int (nI i))]) hx hb dX4_forged_176 rfl hl (by decide) rfl (fun ls hl => ?_)
                    refine lv_iinc (v := (nI (i + 1))) (lv' := [(4, .int (nI (i + 1))), (3, .int (nI i)), (9, .int 0), (7, .long (Y 11 (100 * jd + 2 * i + 1))), (5, .long (Y 11 (100 * jd + 2 * i))), (0, .ref (ad 0)), (1, .int (nI jd))]) hx hb dX4_forged_177 hl (k := 6) rfl (nI_1 i) (by decide) rfl (fun ls hl => ?_)
                    refine lv_goto (tgt := 50) hx hb dX4_forged_180 (by decide) ?_
                    have hg : fgGood n B1 (rowY Y jd (2 * i)) (rowY Y jd (2 * i + 1)) = false := by simp [fgGood, rowY, ← Nat.add_assoc, c_14]
                    exact ih_50 B1 X1 kq1 (i + 1) (nI i) (by omega) (by exact hB1) (by exact hkp) (by exact hkept) (by omega) (by rw [fgB, hfg, if_neg (by rw [hg]; decide)]) (by rw [hv, if_pos (by assumption), show (X 10 jd).toNatClampNeg / 2 - i = ((X 10 jd).toNatClampNeg / 2 - (i + 1)) + 1 by omega, fstTo]; simp [frgQ, hfg, hg, nI_pos (show i < 2 ^ 31 by omega)]) (by first | (intro _; rfl) | (intro z; exact absurd z (nI_pos (by omega)))) _ _ hR ls (lv_sub hl [5, 6, 1, 0] rfl)
                  · skip
                    have h7 : (B1 4 j1).toInt < 7 := by have h8 := c_14; rw [e1, lN_i, nI_clamp (by omega)] at h8; exact Int32.lt_iff_toInt_lt.mp h8
                    refine lv_iconst (v := 1) hx hb dX4_forged_142 (by decide) ?_
                    refine lv_goto (tgt := 147) hx hb dX4_forged_143 (by decide) ?_
                    refine lv_istore (lv' := [(9, .int 1), (7, .long (Y 11 (100 * jd + 2 * i + 1))), (5, .long (Y 11 (100 * jd + 2 * i))), (0, .ref (ad 0)), (1, .int (nI jd)), (3, .int v), (4, .int (nI i))]) hx hb dX4_forged_147 hl (by decide) rfl (fun ls hl => ?_)
                    refine lv_iload hx hb dX4_forged_149 (lv_at hl 0 rfl) ?_
                    refine lv_if_eq (tgt := 164) hx hb dX4_forged_151 (by decide) (fun z => absurd z (by decide)) (fun _ => ?_)
                    refine lv_aload_n hx hb dX4_forged_154 rfl (lv_at hl 3 rfl) ?_
                    refine lv_lload hx hb dX4_forged_155 (lv_at hl 2 rfl) ?_
                    refine lv_l2i (v := ((Y 11 (100 * jd + 2 * i)).toInt32)) hx hb dX4_forged_157 rfl ?_
                    refine lv_lload hx hb dX4_forged_158 (lv_at hl 1 rfl) ?_
                    refine lv_l2i (v := ((Y 11 (100 * jd + 2 * i + 1)).toInt32)) hx hb dX4_forged_160 rfl ?_
                    refine W.eqs (st2 := [.int (nI v1), .int (nI j1), .ref (ad 0)]) (by rw [e1, e2, lN_i, lN_i]) ?_
                    refine mm_callv (rest := []) hx hb hml hown hts hK hl.1 hR (m_X4_goMinute l D ca n B1 X1 Y kq1 j1 (nI v1) hB1 (by first | assumption | omega) (by first | assumption | omega)) (cwV 2 hts (lw_V q1340 q1342 qs45 q82 q1343) rfl rfl rfl cd_X4_goMinute ⟨Nat.le_of_ble_eq_true rfl, Nat.le_of_ble_eq_true rfl⟩) rfl rfl (Nat.le_of_ble_eq_true rfl) dX4_forged_161 ⟨Nat.le_refl _, Nat.le_refl _⟩ (fun H locs hR => ?_)
                    refine lv_iload hx hb dX4_forged_164 (lv_at hl 0 rfl) ?_
                    refine lv_if_eq (tgt := 174) hx hb dX4_forged_166 (by decide) (fun z => absurd z (by decide)) (fun _ => ?_)
                    refine lv_bipush (v := (-4)) hx hb dX4_forged_169 (by decide) ?_
                    refine lv_goto (tgt := 176) hx hb dX4_forged_171 (by decide) ?_
                    refine lv_istore_n (lv' := [(3, .int (-4)), (9, .int 1), (7, .long (Y 11 (100 * jd + 2 * i + 1))), (5, .long (Y 11 (100 * jd + 2 * i))), (0, .ref (ad 0)), (1, .int (nI jd)), (4, .int (nI i))]) hx hb dX4_forged_176 rfl hl (by decide) rfl (fun ls hl => ?_)
                    refine lv_iinc (v := (nI (i + 1))) (lv' := [(4, .int (nI (i + 1))), (3, .int (-4)), (9, .int 1), (7, .long (Y 11 (100 * jd + 2 * i + 1))), (5, .long (Y 11 (100 * jd + 2 * i))), (0, .ref (ad 0)), (1, .int (nI jd))]) hx hb dX4_forged_177 hl (k := 6) rfl (nI_1 i) (by decide) rfl (fun ls hl => ?_)
                    refine lv_goto (tgt := 50) hx hb dX4_forged_180 (by decide) ?_
                    have hg : fgGood n B1 (rowY Y jd (2 * i)) (rowY Y jd (2 * i + 1)) = true := by simp [fgGood, rowY, ← Nat.add_assoc, c_8, c_11, c_14]
                    exact ih_50 (sMin n B1 j1 (nI v1)) X1 kq1 (i + 1) (-4) (by omega) (by exact wf_min hB1 (by omega) _ h7) (by exact hkp) (by exact hkept) (by omega) (by rw [fgB, hfg, if_pos hg]; unfold rowY; rw [e1, show 100 * jd + (2 * i + 1) = 100 * jd + 2 * i + 1 from rfl, e2, lN_i, lN_i, nI_clamp (by omega)]) (by rw [hv, if_pos (by assumption), show (X 10 jd).toNatClampNeg / 2 - i = ((X 10 jd).toNatClampNeg / 2 - (i + 1)) + 1 by omega, fstTo]; simp [frgQ, hfg, hg, nI_pos (show i < 2 ^ 31 by omega)]) (by first | (intro _; rfl) | (intro z; exact absurd z (nI_pos (by omega)))) _ _ hR ls (lv_sub hl [5, 6, 1, 0] rfl)
      exact loop_50 _ B X_g_3 kp_g_3 0 (-4) (Nat.lt_succ_self _) (by exact hB) (by exact kpX_tr (kpX_0 (by decide)) (kpX_fr (Or.inl rfl) hX_g_3.1)) (by exact hX_g_3.2) (by omega) (by rfl) (by rfl) (by intro _; rfl) _ _ hR ls (lv_sub hl [3, 4, 1, 0] rfl)
    · skip
      refine lv_bipush (v := (-13)) hx hb dX4_forged_27 (by decide) ?_
      refine lv_goto (tgt := 33) hx hb dX4_forged_29 (by decide) ?_
      refine lv_istore_n (lv' := [(2, .int (-13)), (0, .ref (ad 0)), (1, .int (nI jd))]) hx hb dX4_forged_33 rfl hl (by decide) rfl (fun ls hl => ?_)
      refine lv_iload_n hx hb dX4_forged_34 rfl (lv_at hl 0 rfl) ?_
      refine lv_if_ge (tgt := 40) hx hb dX4_forged_35 (by decide) (fun z => absurd z (by decide)) (fun _ => ?_)
      refine lv_iload_n hx hb dX4_forged_38 rfl (lv_at hl 0 rfl) ?_
      exact hQ _ _ _ _ _ (st X 0 0 0) kp (by first | (simp [oForged, frgN, c_1, c_2, wrR_at hjd hWd, hWd, nI_clamp (show jd < 2 ^ 31 by omega)]; done) | simp_all [oForged, frgN, nI_clamp (show jd < 2 ^ 31 by omega)]) (by first | exact kpX_0 (by decide) | assumption | exact kpX_tr (by assumption) (kpX_fr (Or.inl rfl) (by assumption)) | exact kpX_tr (by assumption) (kpX_fr (Or.inl rfl) (And.left (by assumption)))) hR dX4_forged_39
theorem cd_X4_judge : yX4_judge.cls = RX4 ∧ yX4_judge.cls ≠ "java/lang/invoke/MethodHandle" ∧ yX4_judge.cls ≠ "java/lang/invoke/VarHandle" ∧ (parseMethodDescriptor yX4_judge.desc).map (fun d => d.parameters.length) = some 2 := by decide +kernel
set_option maxHeartbeats 4000000 in
theorem m_X4_judge (l : Launch) (D : va_G) (ca : Nat → ClassId) (n : Nat) (B X : Nat → Nat → Int32) (Y : Nat → Nat → Int64) (kp : Nat) (d : Int32) (c : Int32) (hB : wfB n B) (hX : wfX X) : MMgi l D ca yX4_judge (ws_ yX4_judge cX4_judge 8 (some .int)) (rmN 6) (fun ad => [.int d, .int c]) B X Y kp (oJudge n B X Y d c) B Y (fun X1 kp1 => kpX X X1) := by
  refine MMgi_start (by decide) (Or.inl rfl) (fun _ => Nat.le_of_ble_eq_true rfl) ?_
  intro p e s m args below meth c0 ad A Q ls hx hb hml hown hts hK hR hl hQ
  have hl : lv_has ls 8 [(0, .ref (ad 0)), (1, .int d), (2, .int c)] := hl
  have hn6 : n ≤ 6 := hB.1
  refine lv_aload_n hx hb dX4_judge_0 rfl (lv_at hl 0 rfl) ?_
  refine lv_iconst (v := 0) hx hb dX4_judge_1 (by decide) ?_
  refine rw_put hx hb hts in_X4 tyX4 tyX4_ok nmX4 hown hK hR 0 (by decide) rfl rfl 13 (by decide) q1175 rfl rfl rfl rfl (Nat.le_of_ble_eq_true rfl) dX4_judge_2 (mE_pX 0 (x := 0) rfl) (fun H locs hR => ?_)
  refine lv_aload_n hx hb dX4_judge_5 rfl (lv_at hl 0 rfl) ?_
  refine lv_iload_n hx hb dX4_judge_6 rfl (lv_at hl 2 rfl) ?_
  refine mm_calli (rest := []) hx hb hml hown hts hK hl.1 hR (m_X4_isChild l D ca n B (st X 0 0 0) Y kp c hB) (cwV 1 hts (lw_V q1336 q1338 qs44 q82 q1339) rfl rfl rfl cd_X4_isChild ⟨Nat.le_of_ble_eq_true rfl, Nat.le_of_ble_eq_true rfl⟩) rfl rfl (Nat.le_of_ble_eq_true rfl) dX4_judge_7 ⟨Nat.le_refl _, Nat.le_refl _⟩ (fun H locs hR => ?_)
  refine lb_eq (tgt := 21) hx hb dX4_judge_10 (by decide) (fun c_1 => ?_) (fun c_1 => ?_)
  · skip
    refine lv_iconst (v := (-1)) hx hb dX4_judge_21 (by decide) ?_
    refine lv_istore_n (lv' := [(3, .int (-1)), (0, .ref (ad 0)), (1, .int d), (2, .int c)]) hx hb dX4_judge_22 rfl hl (by decide) rfl (fun ls hl => ?_)
    refine lv_iload_n hx hb dX4_judge_23 rfl (lv_at hl 0 rfl) ?_
    refine lv_if_ge (tgt := 29) hx hb dX4_judge_24 (by decide) (fun z => absurd z (by decide)) (fun _ => ?_)
    refine lv_iload_n hx hb dX4_judge_27 rfl (lv_at hl 0 rfl) ?_
    exact hQ _ _ _ _ _ (st X 0 0 0) kp (by first | (simp [oJudge, c_1]; done) | simp_all [oJudge]) (by first | exact kpX_0 (by decide) | assumption | exact kpX_tr (by assumption) (kpX_fr (Or.inl rfl) (by assumption)) | exact kpX_tr (by assumption) (kpX_fr (Or.inl rfl) (And.left (by assumption)))) hR dX4_judge_28
  · skip
    obtain ⟨jc, hjc, rfl⟩ := isC_nat hn6 c_1
    refine lv_aload_n hx hb dX4_judge_13 rfl (lv_at hl 0 rfl) ?_
    refine lv_iload_n hx hb dX4_judge_14 rfl (lv_at hl 1 rfl) ?_
    refine mm_calli (rest := []) hx hb hml hown hts hK hl.1 hR (m_X4_wrongRow l D ca B (st X 0 0 0) Y kp d) (cwV 1 hts (lw_V q1283 q1285 qs33 q82 q1286) rfl rfl rfl cd_X4_wrongRow ⟨Nat.le_of_ble_eq_true rfl, Nat.le_of_ble_eq_true rfl⟩) rfl rfl (Nat.le_of_ble_eq_true rfl) dX4_judge_15 ⟨Nat.le_refl _, Nat.le_refl _⟩ (fun H locs hR => ?_)
    refine W.eqs (st2 := [.int (wrR (X 6) d)]) rfl ?_
    refine lv_goto (tgt := 22) hx hb dX4_judge_18 (by decide) ?_
    refine lv_istore_n (lv' := [(3, .int (wrR (X 6) d)), (0, .ref (ad 0)), (1, .int d), (2, .int (nI jc))]) hx hb dX4_judge_22 rfl hl (by decide) rfl (fun ls hl => ?_)
    refine lv_iload_n hx hb dX4_judge_23 rfl (lv_at hl 0 rfl) ?_
    refine lz_ge (tgt := 29) hx hb dX4_judge_24 (by decide) (fun c_3 => ?_) (fun c_3 => ?_)
    · skip
      obtain ⟨jd, hjd, rfl, hWd⟩ := wrR_0 c_3
      refine lv_bipush (v := (-4)) hx hb dX4_judge_29 (by decide) ?_
      refine lv_istore (lv' := [(4, .int (-4)), (3, .int (wrR (X 6) (nI jd))), (0, .ref (ad 0)), (1, .int (nI jd)), (2, .int (nI jc))]) hx hb dX4_judge_31 hl (by decide) rfl (fun ls hl => ?_)
      refine lv_aload_n hx hb dX4_judge_33 rfl (lv_at hl 2 rfl) ?_
      refine lv_iconst (v := 0) hx hb dX4_judge_34 (by decide) ?_
      refine rw_put hx hb hts in_X4 tyX4 tyX4_ok nmX4 hown hK hR 0 (by decide) rfl rfl 33 (by decide) q1195 rfl rfl rfl rfl (Nat.le_of_ble_eq_true rfl) dX4_judge_35 (mE_pX 10 (x := 0) rfl) (fun H locs hR => ?_)
      refine lv_aload_n hx hb dX4_judge_38 rfl (lv_at hl 2 rfl) ?_
      refine mg_callv (rest := []) hx hb hml hown hts hK hl.1 hR (m_X4_open l D ca n B (st (st X 0 0 0) 0 10 0) Y kp hB) (cwV 0 hts (lw_V q1312 q1314 qs38 q82 q1315) rfl rfl rfl cd_X4_open ⟨Nat.le_of_ble_eq_true rfl, Nat.le_of_ble_eq_true rfl⟩) rfl rfl (Nat.le_of_ble_eq_true rfl) dX4_judge_39 ⟨Nat.le_refl _, Nat.le_refl _⟩ (fun X_g_4 kp_g_4 hX_g_4 H locs hR => ?_)
      refine lv_iconst (v := 0) hx hb dX4_judge_42 (by decide) ?_
      refine lv_istore (lv' := [(5, .int 0), (4, .int (-4)), (3, .int (wrR (X 6) (nI jd))), (0, .ref (ad 0)), (1, .int (nI jd)), (2, .int (nI jc))]) hx hb dX4_judge_43 hl (by decide) rfl (fun ls hl => ?_)
      have loop_45 : ∀ (nn : Nat) (B1 : Nat → Nat → Int32) (X1 : Nat → Nat → Int32) (kq1 : Nat) (k : Nat) (v : Int32) (h1 : Int32) (t1 : Nat), 101 - k < nn → (wfB n B1) → (kpX X X1) → (∀ q, q < 32 → X1 15 q = pk B q) → (k ≤ 100) → (trn n B (k - 1) = (B1, t1, h1)) → (X1 0 10 = nI t1) → (t1 ≤ n) → (fstTo (jgBad n B (X 9 jd) (rowY Y jd) jc) 0 (X 10 jd).toNatClampNeg = if v < 0 then fstTo (jgBad n B (X 9 jd) (rowY Y jd) jc) k ((X 10 jd).toNatClampNeg - k) else v) → (v < 0 → v = -4) → ∀ (H : Heap) (locs : List Loc), RW D 23 ad (mE ca ad B1 X1 Y kq1) A s.heap H locs → ∀ (ls : Array Slot), lv_has ls 8 [(0, .ref (ad 0)), (1, .int (nI jd)), (2, .int (nI jc)), (4, .int v), (5, .int (nI k))] → W p l e (rmN 6) s m args below meth c0 H locs 0 0 Q (F0 m 45 ls []) := by
        intro nn
        induction nn with
        | zero => intro B1 X1 kq1 k v h1 t1 hm; exact absurd hm (Nat.not_lt_zero _)
        | succ nn ih_45 =>
          intro B1 X1 kq1 k v h1 t1 hm_45 hB1 hkp hkept hk htr hx1 ht1 hv hv4 H locs hR ls hl
          refine lv_iload hx hb dX4_judge_45 (lv_at hl 4 rfl) ?_
          refine lv_aload_n hx hb dX4_judge_47 rfl (lv_at hl 0 rfl) ?_
          refine rw_get (v := .ref (ad 10)) hx hb hts in_X4 hown hK hR 0 (by decide) rfl rfl 11 (by decide) q1173 rfl rfl dX4_judge_48 ?_
          refine lv_iload_n hx hb dX4_judge_51 rfl (lv_at hl 1 rfl) ?_
          refine rw_ialdN (n := 8) hx hb hK hR 10 (by decide) rfl jd rfl (by omega) (by decide) dX4_judge_52 ?_
          have hmany : (X 10 jd).toNatClampNeg ≤ 100 := many_le (m := 100) (hX.2.2.2.2 jd)
          refine W.eqs (st2 := [.int (nI ((X 10 jd).toNatClampNeg)), .int (nI k)]) (congrArg (fun z => Value.int z :: _) ((congrFun (hkp.1 10 (Or.inl ⟨by decide, by decide⟩)) jd).trans (many_nI (m := 100) (hX.2.2.2.2 jd)))) ?_
          refine ln_ge (tgt := 124) hx hb (k) (((X 10 jd).toNatClampNeg)) rfl rfl (by omega) (by omega) dX4_judge_53 (by decide) (fun c_5 => ?_) (fun c_5 => ?_)
          · skip
            refine lv_aload_n hx hb dX4_judge_124 rfl (lv_at hl 0 rfl) ?_
            refine mg_callv (rest := []) hx hb hml hown hts hK hl.1 hR (m_X4_close l D ca n B1 X1 Y kq1 n B hB1 hB (by intro q hq; first | exact hkept q hq | (simp only [st_ne (show (15 : Nat) ≠ 0 by decide)]; exact hkept q hq))) (cwV 0 hts (lw_V q1406 q1408 qs60 q82 q1409) rfl rfl rfl cd_X4_close ⟨Nat.le_of_ble_eq_true rfl, Nat.le_of_ble_eq_true rfl⟩) rfl rfl (Nat.le_of_ble_eq_true rfl) dX4_judge_125 ⟨Nat.le_refl _, Nat.le_refl _⟩ (fun X_g_6 kp_g_6 hX_g_6 H locs hR => ?_)
            refine lv_iload hx hb dX4_judge_128 (lv_at hl 3 rfl) ?_
            exact hQ _ _ _ _ _ X_g_6 kp_g_6 (by rw [oJudge, if_pos c_1, if_neg (by rw [wrR_at hjd hWd]; decide), nI_clamp (show jd < 2 ^ 31 by omega), nI_clamp (show jc < 2 ^ 31 by omega), hv]; by_cases hz : v < 0; (rw [if_pos hz, show (X 10 jd).toNatClampNeg - k = 0 by omega, fstTo]; exact hv4 hz); rw [if_neg hz]) (by first | exact kpX_0 (by decide) | assumption | exact kpX_tr (by assumption) (kpX_fr (Or.inl rfl) (by assumption)) | exact kpX_tr (by assumption) (kpX_fr (Or.inl rfl) (And.left (by assumption)))) hR dX4_judge_130
          · skip
            refine lv_iload hx hb dX4_judge_56 (lv_at hl 3 rfl) ?_
            refine lz_ge (tgt := 124) hx hb dX4_judge_58 (by decide) (fun c_7 => ?_) (fun c_7 => ?_)
            · skip
              refine lv_aload_n hx hb dX4_judge_124 rfl (lv_at hl 0 rfl) ?_
              refine mg_callv (rest := []) hx hb hml hown hts hK hl.1 hR (m_X4_close l D ca n B1 X1 Y kq1 n B hB1 hB (by intro q hq; first | exact hkept q hq | (simp only [st_ne (show (15 : Nat) ≠ 0 by decide)]; exact hkept q hq))) (cwV 0 hts (lw_V q1406 q1408 qs60 q82 q1409) rfl rfl rfl cd_X4_close ⟨Nat.le_of_ble_eq_true rfl, Nat.le_of_ble_eq_true rfl⟩) rfl rfl (Nat.le_of_ble_eq_true rfl) dX4_judge_125 ⟨Nat.le_refl _, Nat.le_refl _⟩ (fun X_g_8 kp_g_8 hX_g_8 H locs hR => ?_)
              refine lv_iload hx hb dX4_judge_128 (lv_at hl 3 rfl) ?_
              exact hQ _ _ _ _ _ X_g_8 kp_g_8 (by rw [oJudge, if_pos c_1, if_neg (by rw [wrR_at hjd hWd]; decide), nI_clamp (show jd < 2 ^ 31 by omega), nI_clamp (show jc < 2 ^ 31 by omega), hv]; rw [if_neg c_7]) (by first | exact kpX_0 (by decide) | assumption | exact kpX_tr (by assumption) (kpX_fr (Or.inl rfl) (by assumption)) | exact kpX_tr (by assumption) (kpX_fr (Or.inl rfl) (And.left (by assumption)))) hR dX4_judge_130
            · skip
              refine lv_iload hx hb dX4_judge_61 (lv_at hl 4 rfl) ?_
              refine ln0_le (tgt := 71) hx hb (k) rfl (by omega) dX4_judge_63 (by decide) (fun c_9 => ?_) (fun c_9 => ?_)
              · skip
                refine lv_aload_n hx hb dX4_judge_71 rfl (lv_at hl 0 rfl) ?_
                refine rw_get (v := .ref (ad 11)) hx hb hts in_X4 hown hK hR 0 (by decide) rfl rfl 12 (by decide) q1174 rfl rfl dX4_judge_72 ?_
                refine lv_bipush (v := 100) hx hb dX4_judge_75 (by decide) ?_
                refine lv_iload_n hx hb dX4_judge_77 rfl (lv_at hl 1 rfl) ?_
                refine lv_imul hx hb dX4_judge_78 ?_
                refine W.eqs (st2 := [.int (nI (100 * jd)), .ref (ad 11)]) (congrArg (fun z : Int32 => Value.int z :: _) (pk_mul 100 jd)) ?_
                refine lv_iload hx hb dX4_judge_79 (lv_at hl 4 rfl) ?_
                refine lv_iadd hx hb dX4_judge_81 ?_
                refine W.eqs (st2 := [.int (nI (100 * jd + k)), .ref (ad 11)]) (congrArg (fun z : Int32 => Value.int z :: _) (nI_add (100 * jd) k)) ?_
                refine rw_laldN (n := 800) hx hb hK hR 11 (by decide) rfl (100 * jd + k) rfl (by omega) (by decide) dX4_judge_82 ?_
                refine lv_lstore (lv' := [(6, .long (Y 11 (100 * jd + k))), (0, .ref (ad 0)), (1, .int (nI jd)), (2, .int (nI jc)), (4, .int v), (5, .int (nI k))]) hx hb dX4_judge_83 hl (by decide) rfl (fun ls hl => ?_)
                refine lv_lload hx hb dX4_judge_85 (lv_at hl 0 rfl) ?_
                refine lv_aload_n hx hb dX4_judge_87 rfl (lv_at hl 1 rfl) ?_
                refine lv_iload_n hx hb dX4_judge_88 rfl (lv_at hl 2 rfl) ?_
                refine mm_calll (rest := [.long (Y 11 (100 * jd + k))]) hx hb hml hown hts hK hl.1 hR (m_X4_skipped l D ca B1 X1 Y kq1 jd (by omega)) (cwV 1 hts (lw_V q1607 q1609 qs76 q82 q1610) rfl rfl rfl cd_X4_skipped ⟨Nat.le_of_ble_eq_true rfl, Nat.le_of_ble_eq_true rfl⟩) rfl rfl (Nat.le_of_ble_eq_true rfl) dX4_judge_89 ⟨Nat.le_refl _, Nat.le_refl _⟩ (fun H locs hR => ?_)
                refine lc_eq (tgt := 109) hx hb dX4_judge_92 dX4_judge_93 (by decide) (fun c_10 => ?_) (fun c_10 => ?_)
                · skip
                  refine lv_bipush (v := (-4)) hx hb dX4_judge_109 (by decide) ?_
                  refine lv_goto (tgt := 116) hx hb dX4_judge_111 (by decide) ?_
                  refine lv_istore (lv' := [(4, .int (-4)), (6, .long (Y 11 (100 * jd + k))), (0, .ref (ad 0)), (1, .int (nI jd)), (2, .int (nI jc)), (5, .int (nI k))]) hx hb dX4_judge_116 hl (by decide) rfl (fun ls hl => ?_)
                  refine lv_iinc (v := (nI (k + 1))) (lv' := [(5, .int (nI (k + 1))), (4, .int (-4)), (6, .long (Y 11 (100 * jd + k))), (0, .ref (ad 0)), (1, .int (nI jd)), (2, .int (nI jc))]) hx hb dX4_judge_118 hl (k := 5) rfl (nI_1 k) (by decide) rfl (fun ls hl => ?_)
                  refine lv_goto (tgt := 45) hx hb dX4_judge_121 (by decide) ?_
                  have htk : (trn n B k).1 = B1 := by rw [show k = 0 by omega] at htr ⊢; rw [htr]
                  have hq : jgBad n B (X 9 jd) (rowY Y jd) jc k = false := by unfold jgBad rowY; rw [htk, ← show X1 9 = X 9 from hkp.1 9 (Or.inl ⟨by decide, by decide⟩)]; simp [c_10]
                  exact ih_45 B1 X1 kq1 (k + 1) (-4) h1 t1 (by omega) (by exact hB1) (by exact hkp) (by intro q hq; exact hkept q hq) (by omega) (by rw [Nat.add_sub_cancel]; rw [show k - 1 = k by omega] at htr; exact htr) (by exact hx1) (by exact ht1) (by rw [hv, if_pos (by assumption), show (X 10 jd).toNatClampNeg - k = ((X 10 jd).toNatClampNeg - (k + 1)) + 1 by omega, fstTo, hq]; simp [nI_pos (show k < 2 ^ 31 by omega)]) (by first | (intro _; rfl) | (intro z; exact absurd z (nI_pos (by omega)))) _ _ hR ls (lv_sub hl [3, 4, 5, 1, 0] rfl)
                · skip
                  refine lv_lload hx hb dX4_judge_96 (lv_at hl 0 rfl) ?_
                  refine lv_aload_n hx hb dX4_judge_98 rfl (lv_at hl 1 rfl) ?_
                  refine rw_get (v := .ref (ad 3)) hx hb hts in_X4 hown hK hR 0 (by decide) rfl rfl 3 (by decide) q1165 rfl rfl dX4_judge_99 ?_
                  refine lv_iload_n hx hb dX4_judge_102 rfl (lv_at hl 3 rfl) ?_
                  refine rw_ialdN (n := 6) hx hb hK hR 3 (by decide) rfl jc rfl (by omega) (by decide) dX4_judge_103 ?_
                  refine lv_i2l (v := ((B1 3 jc).toInt64)) hx hb dX4_judge_104 rfl ?_
                  refine lc_ne (tgt := 114) hx hb dX4_judge_105 dX4_judge_106 (by decide) (fun c_11 => ?_) (fun c_11 => ?_)
                  · skip
                    refine lv_iload hx hb dX4_judge_114 (lv_at hl 5 rfl) ?_
                    refine lv_istore (lv' := [(4, .int (nI k)), (6, .long (Y 11 (100 * jd + k))), (0, .ref (ad 0)), (1, .int (nI jd)), (2, .int (nI jc)), (5, .int (nI k))]) hx hb dX4_judge_116 hl (by decide) rfl (fun ls hl => ?_)
                    refine lv_iinc (v := (nI (k + 1))) (lv' := [(5, .int (nI (k + 1))), (4, .int (nI k)), (6, .long (Y 11 (100 * jd + k))), (0, .ref (ad 0)), (1, .int (nI jd)), (2, .int (nI jc))]) hx hb dX4_judge_118 hl (k := 5) rfl (nI_1 k) (by decide) rfl (fun ls hl => ?_)
                    refine lv_goto (tgt := 45) hx hb dX4_judge_121 (by decide) ?_
                    have htk : (trn n B k).1 = B1 := by rw [show k = 0 by omega] at htr ⊢; rw [htr]
                    have hq : jgBad n B (X 9 jd) (rowY Y jd) jc k = true := by unfold jgBad rowY; rw [htk, ← show X1 9 = X 9 from hkp.1 9 (Or.inl ⟨by decide, by decide⟩)]; simp [c_10, c_11]
                    exact ih_45 B1 X1 kq1 (k + 1) (nI k) h1 t1 (by omega) (by exact hB1) (by exact hkp) (by intro q hq; exact hkept q hq) (by omega) (by rw [Nat.add_sub_cancel]; rw [show k - 1 = k by omega] at htr; exact htr) (by exact hx1) (by exact ht1) (by rw [hv, if_pos (by assumption), show (X 10 jd).toNatClampNeg - k = ((X 10 jd).toNatClampNeg - (k + 1)) + 1 by omega, fstTo, hq]; simp [nI_pos (show k < 2 ^ 31 by omega)]) (by first | (intro _; rfl) | (intro z; exact absurd z (nI_pos (by omega)))) _ _ hR ls (lv_sub hl [3, 4, 5, 1, 0] rfl)
                  · skip
                    refine lv_bipush (v := (-4)) hx hb dX4_judge_109 (by decide) ?_
                    refine lv_goto (tgt := 116) hx hb dX4_judge_111 (by decide) ?_
                    refine lv_istore (lv' := [(4, .int (-4)), (6, .long (Y 11 (100 * jd + k))), (0, .ref (ad 0)), (1, .int (nI jd)), (2, .int (nI jc)), (5, .int (nI k))]) hx hb dX4_judge_116 hl (by decide) rfl (fun ls hl => ?_)
                    refine lv_iinc (v := (nI (k + 1))) (lv' := [(5, .int (nI (k + 1))), (4, .int (-4)), (6, .long (Y 11 (100 * jd + k))), (0, .ref (ad 0)), (1, .int (nI jd)), (2, .int (nI jc))]) hx hb dX4_judge_118 hl (k := 5) rfl (nI_1 k) (by decide) rfl (fun ls hl => ?_)
                    refine lv_goto (tgt := 45) hx hb dX4_judge_121 (by decide) ?_
                    have htk : (trn n B k).1 = B1 := by rw [show k = 0 by omega] at htr ⊢; rw [htr]
                    have hq : jgBad n B (X 9 jd) (rowY Y jd) jc k = false := by unfold jgBad rowY; rw [htk, ← show X1 9 = X 9 from hkp.1 9 (Or.inl ⟨by decide, by decide⟩)]; simp [c_10, c_11]
                    exact ih_45 B1 X1 kq1 (k + 1) (-4) h1 t1 (by omega) (by exact hB1) (by exact hkp) (by intro q hq; exact hkept q hq) (by omega) (by rw [Nat.add_sub_cancel]; rw [show k - 1 = k by omega] at htr; exact htr) (by exact hx1) (by exact ht1) (by rw [hv, if_pos (by assumption), show (X 10 jd).toNatClampNeg - k = ((X 10 jd).toNatClampNeg - (k + 1)) + 1 by omega, fstTo, hq]; simp [nI_pos (show k < 2 ^ 31 by omega)]) (by first | (intro _; rfl) | (intro z; exact absurd z (nI_pos (by omega)))) _ _ hR ls (lv_sub hl [3, 4, 5, 1, 0] rfl)
              · skip
                refine lv_aload_n hx hb dX4_judge_66 rfl (lv_at hl 0 rfl) ?_
                refine mm_calli (rest := []) hx hb hml hown hts hK hl.1 hR (m_X4_nextTurn l D ca n B1 X1 Y kq1 t1 hB1 (by assumption) (by assumption)) (cwV 0 hts (lw_V q1510 q1512 qs72 q82 q1513) rfl rfl rfl cd_X4_nextTurn ⟨Nat.le_of_ble_eq_true rfl, Nat.le_of_ble_eq_true rfl⟩) rfl rfl (Nat.le_of_ble_eq_true rfl) dX4_judge_67 ⟨Nat.le_refl _, Nat.le_refl _⟩ (fun H locs hR => ?_)
                refine lv_pop hx hb dX4_judge_70 rfl ?_
                refine lv_aload_n hx hb dX4_judge_71 rfl (lv_at hl 0 rfl) ?_
                refine rw_get (v := .ref (ad 11)) hx hb hts in_X4 hown hK hR 0 (by decide) rfl rfl 12 (by decide) q1174 rfl rfl dX4_judge_72 ?_
                refine lv_bipush (v := 100) hx hb dX4_judge_75 (by decide) ?_
                refine lv_iload_n hx hb dX4_judge_77 rfl (lv_at hl 1 rfl) ?_
                refine lv_imul hx hb dX4_judge_78 ?_
                refine W.eqs (st2 := [.int (nI (100 * jd)), .ref (ad 11)]) (congrArg (fun z : Int32 => Value.int z :: _) (pk_mul 100 jd)) ?_
                refine lv_iload hx hb dX4_judge_79 (lv_at hl 4 rfl) ?_
                refine lv_iadd hx hb dX4_judge_81 ?_
                refine W.eqs (st2 := [.int (nI (100 * jd + k)), .ref (ad 11)]) (congrArg (fun z : Int32 => Value.int z :: _) (nI_add (100 * jd) k)) ?_
                refine rw_laldN (n := 800) hx hb hK hR 11 (by decide) rfl (100 * jd + k) rfl (by omega) (by decide) dX4_judge_82 ?_
                refine lv_lstore (lv' := [(6, .long (Y 11 (100 * jd + k))), (0, .ref (ad 0)), (1, .int (nI jd)), (2, .int (nI jc)), (4, .int v), (5, .int (nI k))]) hx hb dX4_judge_83 hl (by decide) rfl (fun ls hl => ?_)
                refine lv_lload hx hb dX4_judge_85 (lv_at hl 0 rfl) ?_
                refine lv_aload_n hx hb dX4_judge_87 rfl (lv_at hl 1 rfl) ?_
                refine lv_iload_n hx hb dX4_judge_88 rfl (lv_at hl 2 rfl) ?_
                refine mm_calll (rest := [.long (Y 11 (100 * jd + k))]) hx hb hml hown hts hK hl.1 hR (m_X4_skipped l D ca (sTurnB n B1 t1) (st X1 0 10 (nI (sTurnT n B1 t1))) Y kq1 jd (by omega)) (cwV 1 hts (lw_V q1607 q1609 qs76 q82 q1610) rfl rfl rfl cd_X4_skipped ⟨Nat.le_of_ble_eq_true rfl, Nat.le_of_ble_eq_true rfl⟩) rfl rfl (Nat.le_of_ble_eq_true rfl) dX4_judge_89 ⟨Nat.le_refl _, Nat.le_refl _⟩ (fun H locs hR => ?_)
                refine W.eqs (st2 := [.long (skipL (X1 9 jd)), .long (Y 11 (100 * jd + k))]) rfl ?_
                refine lc_eq (tgt := 109) hx hb dX4_judge_92 dX4_judge_93 (by decide) (fun c_12 => ?_) (fun c_12 => ?_)
                · skip
                  refine lv_bipush (v := (-4)) hx hb dX4_judge_109 (by decide) ?_
                  refine lv_goto (tgt := 116) hx hb dX4_judge_111 (by decide) ?_
                  refine lv_istore (lv' := [(4, .int (-4)), (6, .long (Y 11 (100 * jd + k))), (0, .ref (ad 0)), (1, .int (nI jd)), (2, .int (nI jc)), (5, .int (nI k))]) hx hb dX4_judge_116 hl (by decide) rfl (fun ls hl => ?_)
                  refine lv_iinc (v := (nI (k + 1))) (lv' := [(5, .int (nI (k + 1))), (4, .int (-4)), (6, .long (Y 11 (100 * jd + k))), (0, .ref (ad 0)), (1, .int (nI jd)), (2, .int (nI jc))]) hx hb dX4_judge_118 hl (k := 5) rfl (nI_1 k) (by decide) rfl (fun ls hl => ?_)
                  refine lv_goto (tgt := 45) hx hb dX4_judge_121 (by decide) ?_
                  have htk : (trn n B k).1 = sTurnB n B1 t1 := by obtain ⟨k0, rfl⟩ : ∃ k0, k = k0 + 1 := ⟨k - 1, by omega⟩; rw [trn]; rw [Nat.add_sub_cancel] at htr; rw [htr]
                  have hq : jgBad n B (X 9 jd) (rowY Y jd) jc k = false := by unfold jgBad rowY; rw [htk, ← show X1 9 = X 9 from hkp.1 9 (Or.inl ⟨by decide, by decide⟩)]; simp [c_12]
                  exact ih_45 (sTurnB n B1 t1) (st X1 0 10 (nI (sTurnT n B1 t1))) kq1 (k + 1) (-4) _ (sTurnT n B1 t1) (by omega) (by exact wf_turn hB1 _) (by exact kpX_tr hkp (kpX_0 (by decide))) (by intro q hq; exact hkept q hq) (by omega) (by rw [Nat.add_sub_cancel]; obtain ⟨k0, rfl⟩ : ∃ k0, k = k0 + 1 := ⟨k - 1, by omega⟩; rw [Nat.add_sub_cancel] at htr; rw [trn, htr]) (by rfl) (by exact turnT_le ht1) (by rw [hv, if_pos (by assumption), show (X 10 jd).toNatClampNeg - k = ((X 10 jd).toNatClampNeg - (k + 1)) + 1 by omega, fstTo, hq]; simp [nI_pos (show k < 2 ^ 31 by omega)]) (by first | (intro _; rfl) | (intro z; exact absurd z (nI_pos (by omega)))) _ _ hR ls (lv_sub hl [3, 4, 5, 1, 0] rfl)
                · skip
                  refine lv_lload hx hb dX4_judge_96 (lv_at hl 0 rfl) ?_
                  refine lv_aload_n hx hb dX4_judge_98 rfl (lv_at hl 1 rfl) ?_
                  refine rw_get (v := .ref (ad 3)) hx hb hts in_X4 hown hK hR 0 (by decide) rfl rfl 3 (by decide) q1165 rfl rfl dX4_judge_99 ?_
                  refine lv_iload_n hx hb dX4_judge_102 rfl (lv_at hl 3 rfl) ?_
                  refine rw_ialdN (n := 6) hx hb hK hR 3 (by decide) rfl jc rfl (by omega) (by decide) dX4_judge_103 ?_
                  refine lv_i2l (v := (((sTurnB n B1 t1) 3 jc).toInt64)) hx hb dX4_judge_104 rfl ?_
                  refine lc_ne (tgt := 114) hx hb dX4_judge_105 dX4_judge_106 (by decide) (fun c_13 => ?_) (fun c_13 => ?_)
                  · skip
                    refine lv_iload hx hb dX4_judge_114 (lv_at hl 5 rfl) ?_
                    refine lv_istore (lv' := [(4, .int (nI k)), (6, .long (Y 11 (100 * jd + k))), (0, .ref (ad 0)), (1, .int (nI jd)), (2, .int (nI jc)), (5, .int (nI k))]) hx hb dX4_judge_116 hl (by decide) rfl (fun ls hl => ?_)
                    refine lv_iinc (v := (nI (k + 1))) (lv' := [(5, .int (nI (k + 1))), (4, .int (nI k)), (6, .long (Y 11 (100 * jd + k))), (0, .ref (ad 0)), (1, .int (nI jd)), (2, .int (nI jc))]) hx hb dX4_judge_118 hl (k := 5) rfl (nI_1 k) (by decide) rfl (fun ls hl => ?_)
                    refine lv_goto (tgt := 45) hx hb dX4_judge_121 (by decide) ?_
                    have htk : (trn n B k).1 = sTurnB n B1 t1 := by obtain ⟨k0, rfl⟩ : ∃ k0, k = k0 + 1 := ⟨k - 1, by omega⟩; rw [trn]; rw [Nat.add_sub_cancel] at htr; rw [htr]
                    have hq : jgBad n B (X 9 jd) (rowY Y jd) jc k = true := by unfold jgBad rowY; rw [htk, ← show X1 9 = X 9 from hkp.1 9 (Or.inl ⟨by decide, by decide⟩)]; simp [c_12, c_13]
                    exact ih_45 (sTurnB n B1 t1) (st X1 0 10 (nI (sTurnT n B1 t1))) kq1 (k + 1) (nI k) _ (sTurnT n B1 t1) (by omega) (by exact wf_turn hB1 _) (by exact kpX_tr hkp (kpX_0 (by decide))) (by intro q hq; exact hkept q hq) (by omega) (by rw [Nat.add_sub_cancel]; obtain ⟨k0, rfl⟩ : ∃ k0, k = k0 + 1 := ⟨k - 1, by omega⟩; rw [Nat.add_sub_cancel] at htr; rw [trn, htr]) (by rfl) (by exact turnT_le ht1) (by rw [hv, if_pos (by assumption), show (X 10 jd).toNatClampNeg - k = ((X 10 jd).toNatClampNeg - (k + 1)) + 1 by omega, fstTo, hq]; simp [nI_pos (show k < 2 ^ 31 by omega)]) (by first | (intro _; rfl) | (intro z; exact absurd z (nI_pos (by omega)))) _ _ hR ls (lv_sub hl [3, 4, 5, 1, 0] rfl)
                  · skip
                    refine lv_bipush (v := (-4)) hx hb dX4_judge_109 (by decide) ?_
                    refine lv_goto (tgt := 116) hx hb dX4_judge_111 (by decide) ?_
                    refine lv_istore (lv' := [(4, .int (-4)), (6, .long (Y 11 (100 * jd + k))), (0, .ref (ad 0)), (1, .int (nI jd)), (2, .int (nI jc)), (5, .int (nI k))]) hx hb dX4_judge_116 hl (by decide) rfl (fun ls hl => ?_)
                    refine lv_iinc (v := (nI (k + 1))) (lv' := [(5, .int (nI (k + 1))), (4, .int (-4)), (6, .long (Y 11 (100 * jd + k))), (0, .ref (ad 0)), (1, .int (nI jd)), (2, .int (nI jc))]) hx hb dX4_judge_118 hl (k := 5) rfl (nI_1 k) (by decide) rfl (fun ls hl => ?_)
                    refine lv_goto (tgt := 45) hx hb dX4_judge_121 (by decide) ?_
                    have htk : (trn n B k).1 = sTurnB n B1 t1 := by obtain ⟨k0, rfl⟩ : ∃ k0, k = k0 + 1 := ⟨k - 1, by omega⟩; rw [trn]; rw [Nat.add_sub_cancel] at htr; rw [htr]
                    have hq : jgBad n B (X 9 jd) (rowY Y jd) jc k = false := by unfold jgBad rowY; rw [htk, ← show X1 9 = X 9 from hkp.1 9 (Or.inl ⟨by decide, by decide⟩)]; simp [c_12, c_13]
                    exact ih_45 (sTurnB n B1 t1) (st X1 0 10 (nI (sTurnT n B1 t1))) kq1 (k + 1) (-4) _ (sTurnT n B1 t1) (by omega) (by exact wf_turn hB1 _) (by exact kpX_tr hkp (kpX_0 (by decide))) (by intro q hq; exact hkept q hq) (by omega) (by rw [Nat.add_sub_cancel]; obtain ⟨k0, rfl⟩ : ∃ k0, k = k0 + 1 := ⟨k - 1, by omega⟩; rw [Nat.add_sub_cancel] at htr; rw [trn, htr]) (by rfl) (by exact turnT_le ht1) (by rw [hv, if_pos (by assumption), show (X 10 jd).toNatClampNeg - k = ((X 10 jd).toNatClampNeg - (k + 1)) + 1 by omega, fstTo, hq]; simp [nI_pos (show k < 2 ^ 31 by omega)]) (by first | (intro _; rfl) | (intro z; exact absurd z (nI_pos (by omega)))) _ _ hR ls (lv_sub hl [3, 4, 5, 1, 0] rfl)
      exact loop_45 _ B X_g_4 kp_g_4 0 (-4) 0 0 (Nat.lt_succ_self _) (by exact hB) (by exact kpX_tr (kpX_tr (kpX_0 (by decide)) (kpX_0 (by decide))) (kpX_fr (Or.inl rfl) (And.left hX_g_4))) (by exact hX_g_4.2) (by omega) (by rfl) (by exact fr_st10 hX_g_4.1) (by omega) (by rfl) (by intro _; rfl) _ _ hR ls (lv_sub hl [3, 4, 5, 1, 0] rfl)
    · skip
      refine lv_iload_n hx hb dX4_judge_27 rfl (lv_at hl 0 rfl) ?_
      exact hQ _ _ _ _ _ (st X 0 0 0) kp (by first | (simp [oJudge, c_1, c_3, nI_clamp (show jc < 2 ^ 31 by omega)]; done) | simp_all [oJudge, nI_clamp (show jc < 2 ^ 31 by omega)]) (by first | exact kpX_0 (by decide) | assumption | exact kpX_tr (by assumption) (kpX_fr (Or.inl rfl) (by assumption)) | exact kpX_tr (by assumption) (kpX_fr (Or.inl rfl) (And.left (by assumption)))) hR dX4_judge_28
