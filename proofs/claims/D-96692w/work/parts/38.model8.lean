/-! the model: copies, rows, sets, bands -/
set_option maxRecDepth 100000
theorem cd_X4_copy : yX4_copy.cls = RX4 ∧ yX4_copy.cls ≠ "java/lang/invoke/MethodHandle" ∧ yX4_copy.cls ≠ "java/lang/invoke/VarHandle" ∧ (parseMethodDescriptor yX4_copy.desc).map (fun d => d.parameters.length) = some 5 := by decide +kernel
set_option maxHeartbeats 4000000 in
theorem m_X4_copy (l : Launch) (D : va_G) (ca : Nat → ClassId) (n : Nat) (B X : Nat → Nat → Int32) (Y : Nat → Nat → Int64) (kp : Nat) (d : Int32) (i : Int32) (ee : Int32) (j : Int32) (x : Int32) (hB : wfB n B) (hX : wfX X) : MMi l D ca yX4_copy (ws_ yX4_copy cX4_copy 7 (some .int)) (rmN 1) (fun ad => [.int d, .int i, .int ee, .int j, .int x]) B X Y kp (oCopy X d i ee j x) B (st X 0 0 0) (oCopyY X Y d i ee j x) kp := by
  refine MMi_start (by decide) (Or.inl rfl) (fun _ => Nat.le_of_ble_eq_true rfl) ?_
  intro p e s m args below meth c0 ad A Q ls hx hb hml hown hts hK hR hl hQ
  have hl : lv_has ls 7 [(0, .ref (ad 0)), (1, .int d), (2, .int i), (3, .int ee), (4, .int j), (5, .int x)] := hl
  have hn6 : n ≤ 6 := hB.1
  refine lv_aload_n hx hb dX4_copy_0 rfl (lv_at hl 0 rfl) ?_
  refine lv_iconst (v := 0) hx hb dX4_copy_1 (by decide) ?_
  refine rw_put hx hb hts in_X4 tyX4 tyX4_ok nmX4 hown hK hR 0 (by decide) rfl rfl 13 (by decide) q1175 rfl rfl rfl rfl (Nat.le_of_ble_eq_true rfl) dX4_copy_2 (mE_pX 0 (x := 0) rfl) (fun H locs hR => ?_)
  refine lv_iload_n hx hb dX4_copy_5 rfl (lv_at hl 1 rfl) ?_
  refine lv_i2l (v := (d.toInt64)) hx hb dX4_copy_6 rfl ?_
  refine lv_lconst (v := 0) hx hb dX4_copy_7 (by decide) ?_
  refine lv_ldc2 hx hb hown (hts _ q1287) dX4_copy_8 ?_
  refine rs_calli (rest := []) hx hb hml hown hts hl.1 hR (m_X4_in l (d.toInt64) 0 7) (va_cwS 3 hts (lw_S q1288 q1289 q82 q1290) rfl rfl rfl cd_X4_in ⟨Nat.le_of_ble_eq_true rfl, Nat.le_of_ble_eq_true rfl⟩) rfl rfl (Nat.le_of_ble_eq_true rfl) dX4_copy_11 ⟨Nat.le_refl _, Nat.le_refl _⟩ (fun H locs hR => ?_)
  refine W.eqs (st2 := [.int (bI (inI d 0 7))]) (congrArg (fun b => Value.int (bI b) :: _) (inL_I (v := d) (lo := 0) (hi := 7) (by decide) (by decide))) ?_
  refine lb_eq (tgt := 29) hx hb dX4_copy_14 (by decide) (fun c_1 => ?_) (fun c_1 => ?_)
  · skip
    refine lv_iconst (v := (-1)) hx hb dX4_copy_29 (by decide) ?_
    exact hQ _ _ _ _ _ (by first | (simp [oCopy, cpW, c_1]; done) | simp_all [oCopy, cpW]) (RW.eq hR (by first | (simp [oCopyY, cpW, c_1]; done) | simp_all [oCopyY, cpW])) dX4_copy_30
  · skip
    obtain ⟨jd, hjd, rfl⟩ := inI_nat (k := 7) (by decide) (by decide) c_1
    refine lv_iload_n hx hb dX4_copy_17 rfl (lv_at hl 3 rfl) ?_
    refine lv_i2l (v := (ee.toInt64)) hx hb dX4_copy_18 rfl ?_
    refine lv_lconst (v := 0) hx hb dX4_copy_19 (by decide) ?_
    refine lv_ldc2 hx hb hown (hts _ q1287) dX4_copy_20 ?_
    refine rs_calli (rest := []) hx hb hml hown hts hl.1 hR (m_X4_in l (ee.toInt64) 0 7) (va_cwS 3 hts (lw_S q1288 q1289 q82 q1290) rfl rfl rfl cd_X4_in ⟨Nat.le_of_ble_eq_true rfl, Nat.le_of_ble_eq_true rfl⟩) rfl rfl (Nat.le_of_ble_eq_true rfl) dX4_copy_23 ⟨Nat.le_refl _, Nat.le_refl _⟩ (fun H locs hR => ?_)
    refine W.eqs (st2 := [.int (bI (inI ee 0 7))]) (congrArg (fun b => Value.int (bI b) :: _) (inL_I (v := ee) (lo := 0) (hi := 7) (by decide) (by decide))) ?_
    refine lb_ne (tgt := 31) hx hb dX4_copy_26 (by decide) (fun c_2 => ?_) (fun c_2 => ?_)
    · skip
      obtain ⟨jee, hjee, rfl⟩ := inI_nat (k := 7) (by decide) (by decide) c_2
      refine lv_aload_n hx hb dX4_copy_31 rfl (lv_at hl 0 rfl) ?_
      refine rw_get (v := .ref (ad 6)) hx hb hts in_X4 hown hK hR 0 (by decide) rfl rfl 7 (by decide) q1169 rfl rfl dX4_copy_32 ?_
      refine lv_iload_n hx hb dX4_copy_35 rfl (lv_at hl 1 rfl) ?_
      refine rw_ialdN (n := 8) hx hb hK hR 6 (by decide) rfl jd rfl (by omega) (by decide) dX4_copy_36 ?_
      refine W.eqs (st2 := [.int (X 6 jd)]) rfl ?_
      refine lv_if_eq (tgt := 49) hx hb dX4_copy_37 (by decide) (fun c_3 => ?_) (fun c_3 => ?_)
      · skip
        refine lv_bipush (v := (-11)) hx hb dX4_copy_49 (by decide) ?_
        exact hQ _ _ _ _ _ (by first | (simp [oCopy, cpW, c_1, c_2, c_3, nI_clamp (show jd < 2 ^ 31 by omega), nI_clamp (show jee < 2 ^ 31 by omega)]; done) | simp_all [oCopy, cpW, nI_clamp (show jd < 2 ^ 31 by omega), nI_clamp (show jee < 2 ^ 31 by omega)]) (RW.eq hR (by first | (simp [oCopyY, cpW, c_1, c_2, c_3, nI_clamp (show jd < 2 ^ 31 by omega), nI_clamp (show jee < 2 ^ 31 by omega)]; done) | simp_all [oCopyY, cpW, nI_clamp (show jd < 2 ^ 31 by omega), nI_clamp (show jee < 2 ^ 31 by omega)])) dX4_copy_51
      · skip
        refine lv_aload_n hx hb dX4_copy_40 rfl (lv_at hl 0 rfl) ?_
        refine rw_get (v := .ref (ad 6)) hx hb hts in_X4 hown hK hR 0 (by decide) rfl rfl 7 (by decide) q1169 rfl rfl dX4_copy_41 ?_
        refine lv_iload_n hx hb dX4_copy_44 rfl (lv_at hl 3 rfl) ?_
        refine rw_ialdN (n := 8) hx hb hK hR 6 (by decide) rfl jee rfl (by omega) (by decide) dX4_copy_45 ?_
        refine W.eqs (st2 := [.int (X 6 jee)]) rfl ?_
        refine lv_if_ne (tgt := 52) hx hb dX4_copy_46 (by decide) (fun c_4 => ?_) (fun c_4 => ?_)
        · skip
          refine lv_aload_n hx hb dX4_copy_52 rfl (lv_at hl 0 rfl) ?_
          refine rw_get (v := .ref (ad 6)) hx hb hts in_X4 hown hK hR 0 (by decide) rfl rfl 7 (by decide) q1169 rfl rfl dX4_copy_53 ?_
          refine lv_iload_n hx hb dX4_copy_56 rfl (lv_at hl 1 rfl) ?_
          refine rw_ialdN (n := 8) hx hb hK hR 6 (by decide) rfl jd rfl (by omega) (by decide) dX4_copy_57 ?_
          refine W.eqs (st2 := [.int (X 6 jd)]) rfl ?_
          refine lv_iconst (v := 2) hx hb dX4_copy_58 (by decide) ?_
          refine lv_icmp_ne (tgt := 87) hx hb dX4_copy_59 (by decide) (fun c_5 => ?_) (fun c_5 => ?_)
          · skip
            refine lv_bipush (v := (-12)) hx hb dX4_copy_87 (by decide) ?_
            exact hQ _ _ _ _ _ (by first | (simp [oCopy, cpW, c_1, c_2, c_3, c_4, c_5, nI_clamp (show jd < 2 ^ 31 by omega), nI_clamp (show jee < 2 ^ 31 by omega)]; done) | simp_all [oCopy, cpW, nI_clamp (show jd < 2 ^ 31 by omega), nI_clamp (show jee < 2 ^ 31 by omega)]) (RW.eq hR (by first | (simp [oCopyY, cpW, c_1, c_2, c_3, c_4, c_5, nI_clamp (show jd < 2 ^ 31 by omega), nI_clamp (show jee < 2 ^ 31 by omega)]; done) | simp_all [oCopyY, cpW, nI_clamp (show jd < 2 ^ 31 by omega), nI_clamp (show jee < 2 ^ 31 by omega)])) dX4_copy_89
          · skip
            refine lv_aload_n hx hb dX4_copy_62 rfl (lv_at hl 0 rfl) ?_
            refine rw_get (v := .ref (ad 6)) hx hb hts in_X4 hown hK hR 0 (by decide) rfl rfl 7 (by decide) q1169 rfl rfl dX4_copy_63 ?_
            refine lv_iload_n hx hb dX4_copy_66 rfl (lv_at hl 3 rfl) ?_
            refine rw_ialdN (n := 8) hx hb hK hR 6 (by decide) rfl jee rfl (by omega) (by decide) dX4_copy_67 ?_
            refine W.eqs (st2 := [.int (X 6 jee)]) rfl ?_
            refine lv_iconst (v := 2) hx hb dX4_copy_68 (by decide) ?_
            refine lv_icmp_ne (tgt := 87) hx hb dX4_copy_69 (by decide) (fun c_6 => ?_) (fun c_6 => ?_)
            · skip
              refine lv_bipush (v := (-12)) hx hb dX4_copy_87 (by decide) ?_
              exact hQ _ _ _ _ _ (by first | (simp [oCopy, cpW, c_1, c_2, c_3, c_4, c_5, c_6, nI_clamp (show jd < 2 ^ 31 by omega), nI_clamp (show jee < 2 ^ 31 by omega)]; done) | simp_all [oCopy, cpW, nI_clamp (show jd < 2 ^ 31 by omega), nI_clamp (show jee < 2 ^ 31 by omega)]) (RW.eq hR (by first | (simp [oCopyY, cpW, c_1, c_2, c_3, c_4, c_5, c_6, nI_clamp (show jd < 2 ^ 31 by omega), nI_clamp (show jee < 2 ^ 31 by omega)]; done) | simp_all [oCopyY, cpW, nI_clamp (show jd < 2 ^ 31 by omega), nI_clamp (show jee < 2 ^ 31 by omega)])) dX4_copy_89
            · skip
              refine lv_aload_n hx hb dX4_copy_72 rfl (lv_at hl 0 rfl) ?_
              refine rw_get (v := .ref (ad 9)) hx hb hts in_X4 hown hK hR 0 (by decide) rfl rfl 10 (by decide) q1172 rfl rfl dX4_copy_73 ?_
              refine lv_iload_n hx hb dX4_copy_76 rfl (lv_at hl 1 rfl) ?_
              refine rw_ialdN (n := 8) hx hb hK hR 9 (by decide) rfl jd rfl (by omega) (by decide) dX4_copy_77 ?_
              refine W.eqs (st2 := [.int (X 9 jd)]) rfl ?_
              refine lv_aload_n hx hb dX4_copy_78 rfl (lv_at hl 0 rfl) ?_
              refine rw_get (v := .ref (ad 9)) hx hb hts in_X4 hown hK hR 0 (by decide) rfl rfl 10 (by decide) q1172 rfl rfl dX4_copy_79 ?_
              refine lv_iload_n hx hb dX4_copy_82 rfl (lv_at hl 3 rfl) ?_
              refine rw_ialdN (n := 8) hx hb hK hR 9 (by decide) rfl jee rfl (by omega) (by decide) dX4_copy_83 ?_
              refine W.eqs (st2 := [.int (X 9 jee), .int (X 9 jd)]) rfl ?_
              refine lv_icmp_eq (tgt := 90) hx hb dX4_copy_84 (by decide) (fun c_7 => ?_) (fun c_7 => ?_)
              · skip
                refine lv_iload hx hb dX4_copy_90 (lv_at hl 5 rfl) ?_
                refine lz_lt (tgt := 131) hx hb dX4_copy_92 (by decide) (fun c_8 => ?_) (fun c_8 => ?_)
                · skip
                  refine lv_bipush (v := (-13)) hx hb dX4_copy_131 (by decide) ?_
                  exact hQ _ _ _ _ _ (by first | (simp [oCopy, cpW, c_1, c_2, c_3, c_4, c_5, c_6, c_7, c_8, nI_clamp (show jd < 2 ^ 31 by omega), nI_clamp (show jee < 2 ^ 31 by omega)]; done) | simp_all [oCopy, cpW, nI_clamp (show jd < 2 ^ 31 by omega), nI_clamp (show jee < 2 ^ 31 by omega)]) (RW.eq hR (by first | (simp [oCopyY, cpW, c_1, c_2, c_3, c_4, c_5, c_6, c_7, c_8, nI_clamp (show jd < 2 ^ 31 by omega), nI_clamp (show jee < 2 ^ 31 by omega)]; done) | simp_all [oCopyY, cpW, nI_clamp (show jd < 2 ^ 31 by omega), nI_clamp (show jee < 2 ^ 31 by omega)])) dX4_copy_133
                · skip
                  refine lv_iload_n hx hb dX4_copy_95 rfl (lv_at hl 2 rfl) ?_
                  refine lz_lt (tgt := 131) hx hb dX4_copy_96 (by decide) (fun c_9 => ?_) (fun c_9 => ?_)
                  · skip
                    refine lv_bipush (v := (-13)) hx hb dX4_copy_131 (by decide) ?_
                    exact hQ _ _ _ _ _ (by first | (simp [oCopy, cpW, c_1, c_2, c_3, c_4, c_5, c_6, c_7, c_8, c_9, nI_clamp (show jd < 2 ^ 31 by omega), nI_clamp (show jee < 2 ^ 31 by omega)]; done) | simp_all [oCopy, cpW, nI_clamp (show jd < 2 ^ 31 by omega), nI_clamp (show jee < 2 ^ 31 by omega)]) (RW.eq hR (by first | (simp [oCopyY, cpW, c_1, c_2, c_3, c_4, c_5, c_6, c_7, c_8, c_9, nI_clamp (show jd < 2 ^ 31 by omega), nI_clamp (show jee < 2 ^ 31 by omega)]; done) | simp_all [oCopyY, cpW, nI_clamp (show jd < 2 ^ 31 by omega), nI_clamp (show jee < 2 ^ 31 by omega)])) dX4_copy_133
                  · skip
                    refine lv_iload hx hb dX4_copy_99 (lv_at hl 4 rfl) ?_
                    refine lz_lt (tgt := 131) hx hb dX4_copy_101 (by decide) (fun c_10 => ?_) (fun c_10 => ?_)
                    · skip
                      refine lv_bipush (v := (-13)) hx hb dX4_copy_131 (by decide) ?_
                      exact hQ _ _ _ _ _ (by first | (simp [oCopy, cpW, c_1, c_2, c_3, c_4, c_5, c_6, c_7, c_8, c_9, c_10, nI_clamp (show jd < 2 ^ 31 by omega), nI_clamp (show jee < 2 ^ 31 by omega)]; done) | simp_all [oCopy, cpW, nI_clamp (show jd < 2 ^ 31 by omega), nI_clamp (show jee < 2 ^ 31 by omega)]) (RW.eq hR (by first | (simp [oCopyY, cpW, c_1, c_2, c_3, c_4, c_5, c_6, c_7, c_8, c_9, c_10, nI_clamp (show jd < 2 ^ 31 by omega), nI_clamp (show jee < 2 ^ 31 by omega)]; done) | simp_all [oCopyY, cpW, nI_clamp (show jd < 2 ^ 31 by omega), nI_clamp (show jee < 2 ^ 31 by omega)])) dX4_copy_133
                    · skip
                      refine lv_iload_n hx hb dX4_copy_104 rfl (lv_at hl 2 rfl) ?_
                      refine lv_aload_n hx hb dX4_copy_105 rfl (lv_at hl 0 rfl) ?_
                      refine rw_get (v := .ref (ad 10)) hx hb hts in_X4 hown hK hR 0 (by decide) rfl rfl 11 (by decide) q1173 rfl rfl dX4_copy_106 ?_
                      refine lv_iload_n hx hb dX4_copy_109 rfl (lv_at hl 1 rfl) ?_
                      refine rw_ialdN (n := 8) hx hb hK hR 10 (by decide) rfl jd rfl (by omega) (by decide) dX4_copy_110 ?_
                      refine W.eqs (st2 := [.int (X 10 jd), .int i]) rfl ?_
                      refine lv_iload hx hb dX4_copy_111 (lv_at hl 5 rfl) ?_
                      refine lv_isub hx hb dX4_copy_113 ?_
                      refine lj_gt (tgt := 131) hx hb dX4_copy_114 (by decide) (fun c_11 => ?_) (fun c_11 => ?_)
                      · skip
                        refine lv_bipush (v := (-13)) hx hb dX4_copy_131 (by decide) ?_
                        exact hQ _ _ _ _ _ (by first | (simp [oCopy, cpW, c_1, c_2, c_3, c_4, c_5, c_6, c_7, c_8, c_9, c_10, c_11, nI_clamp (show jd < 2 ^ 31 by omega), nI_clamp (show jee < 2 ^ 31 by omega)]; done) | simp_all [oCopy, cpW, nI_clamp (show jd < 2 ^ 31 by omega), nI_clamp (show jee < 2 ^ 31 by omega)]) (RW.eq hR (by first | (simp [oCopyY, cpW, c_1, c_2, c_3, c_4, c_5, c_6, c_7, c_8, c_9, c_10, c_11, nI_clamp (show jd < 2 ^ 31 by omega), nI_clamp (show jee < 2 ^ 31 by omega)]; done) | simp_all [oCopyY, cpW, nI_clamp (show jd < 2 ^ 31 by omega), nI_clamp (show jee < 2 ^ 31 by omega)])) dX4_copy_133
                      · skip
                        refine lv_iload hx hb dX4_copy_117 (lv_at hl 4 rfl) ?_
                        refine lv_aload_n hx hb dX4_copy_119 rfl (lv_at hl 0 rfl) ?_
                        refine rw_get (v := .ref (ad 10)) hx hb hts in_X4 hown hK hR 0 (by decide) rfl rfl 11 (by decide) q1173 rfl rfl dX4_copy_120 ?_
                        refine lv_iload_n hx hb dX4_copy_123 rfl (lv_at hl 3 rfl) ?_
                        refine rw_ialdN (n := 8) hx hb hK hR 10 (by decide) rfl jee rfl (by omega) (by decide) dX4_copy_124 ?_
                        refine W.eqs (st2 := [.int (X 10 jee), .int j]) rfl ?_
                        refine lv_iload hx hb dX4_copy_125 (lv_at hl 5 rfl) ?_
                        refine lv_isub hx hb dX4_copy_127 ?_
                        refine lj_le (tgt := 134) hx hb dX4_copy_128 (by decide) (fun c_12 => ?_) (fun c_12 => ?_)
                        · skip
                          obtain ⟨a1, b1, rfl, rfl, hab1⟩ := cp_nat (hX.2.2.2.2 jd) c_8 c_9 c_11
                          have hm1 := (hX.2.2.2.2 jd).2
                          have hm2 := (hX.2.2.2.2 jee).2
                          obtain ⟨b2, rfl, hab2⟩ := cp_nat1 (by omega) (hX.2.2.2.2 jee) c_10 c_12
                          refine lv_iconst (v := 0) hx hb dX4_copy_134 (by decide) ?_
                          refine lv_istore (lv' := [(6, .int 0), (0, .ref (ad 0)), (1, .int (nI jd)), (2, .int (nI b1)), (3, .int (nI jee)), (4, .int (nI b2)), (5, .int (nI a1))]) hx hb dX4_copy_135 hl (by decide) rfl (fun ls hl => ?_)
                          have loop_137 : ∀ (nn : Nat) (k : Nat), a1 - k < nn → (k ≤ a1) → ∀ (H : Heap) (locs : List Loc), RW D 23 ad (mE ca ad B (st X 0 0 0) (cpA Y (100 * jd + b1) k) kp) A s.heap H locs → ∀ (ls : Array Slot), lv_has ls 7 [(0, .ref (ad 0)), (1, .int (nI jd)), (2, .int (nI b1)), (3, .int (nI jee)), (4, .int (nI b2)), (5, .int (nI a1)), (6, .int (nI k))] → W p l e (rmN 1) s m args below meth c0 H locs 0 0 Q (F0 m 137 ls []) := by
                            intro nn
                            induction nn with
                            | zero => intro k hm; exact absurd hm (Nat.not_lt_zero _)
                            | succ nn ih_137 =>
                              intro k hm_137 hk H locs hR ls hl
                              refine lv_iload hx hb dX4_copy_137 (lv_at hl 6 rfl) ?_
                              refine lv_iload hx hb dX4_copy_139 (lv_at hl 5 rfl) ?_
                              refine ln_ge (tgt := 171) hx hb (k) (a1) rfl rfl (by omega) (by omega) dX4_copy_141 (by decide) (fun c_13 => ?_) (fun c_13 => ?_)
                              · skip
                                refine lv_iconst (v := 0) hx hb dX4_copy_171 (by decide) ?_
                                refine lv_istore (lv' := [(6, .int 0), (0, .ref (ad 0)), (1, .int (nI jd)), (2, .int (nI b1)), (3, .int (nI jee)), (4, .int (nI b2)), (5, .int (nI a1))]) hx hb dX4_copy_172 hl (by decide) rfl (fun ls hl => ?_)
                                have loop_174 : ∀ (nn : Nat) (k : Nat), a1 - k < nn → (k ≤ a1) → ∀ (H : Heap) (locs : List Loc), RW D 23 ad (mE ca ad B (st X 0 0 0) (cpB (cpA Y (100 * jd + b1) a1) (100 * jee + b2) k) kp) A s.heap H locs → ∀ (ls : Array Slot), lv_has ls 7 [(0, .ref (ad 0)), (1, .int (nI jd)), (2, .int (nI b1)), (3, .int (nI jee)), (4, .int (nI b2)), (5, .int (nI a1)), (6, .int (nI k))] → W p l e (rmN 1) s m args below meth c0 H locs 0 0 Q (F0 m 174 ls []) := by
                                  intro nn
                                  induction nn with
                                  | zero => intro k hm; exact absurd hm (Nat.not_lt_zero _)
                                  | succ nn ih_174 =>
                                    intro k hm_174 hk H locs hR ls hl
                                    refine lv_iload hx hb dX4_copy_174 (lv_at hl 6 rfl) ?_
                                    refine lv_iload hx hb dX4_copy_176 (lv_at hl 5 rfl) ?_
                                    refine ln_ge (tgt := 209) hx hb (k) (a1) rfl rfl (by omega) (by omega) dX4_copy_178 (by decide) (fun c_14 => ?_) (fun c_14 => ?_)
                                    · skip
                                      refine lv_iload hx hb dX4_copy_209 (lv_at hl 5 rfl) ?_
                                      exact hQ _ _ _ _ _ (by first | (simp [oCopy, cpW, c_1, c_2, c_3, c_4, c_5, c_6, c_7, c_8, c_9, c_10, c_11, c_12, c_13, c_14, Nat.not_lt.mpr c_13, Nat.not_lt.mpr c_14, nI_clamp (show jd < 2 ^ 31 by omega), nI_clamp (show jee < 2 ^ 31 by omega), nI_clamp (show a1 < 2 ^ 31 by omega), nI_clamp (show b1 < 2 ^ 31 by omega), nI_clamp (show b2 < 2 ^ 31 by omega)]; done) | simp_all [oCopy, cpW, nI_clamp (show jd < 2 ^ 31 by omega), nI_clamp (show jee < 2 ^ 31 by omega), nI_clamp (show a1 < 2 ^ 31 by omega), nI_clamp (show b1 < 2 ^ 31 by omega), nI_clamp (show b2 < 2 ^ 31 by omega)]) (RW.eq hR (by rw [show k = a1 by omega]; first | (simp [oCopyY, cpW, c_1, c_2, c_3, c_4, c_5, c_6, c_7, c_8, c_9, c_10, c_11, c_12, c_13, c_14, Nat.not_lt.mpr c_13, Nat.not_lt.mpr c_14, nI_clamp (show jd < 2 ^ 31 by omega), nI_clamp (show jee < 2 ^ 31 by omega), nI_clamp (show a1 < 2 ^ 31 by omega), nI_clamp (show b1 < 2 ^ 31 by omega), nI_clamp (show b2 < 2 ^ 31 by omega)]; done) | simp_all [oCopyY, cpW, nI_clamp (show jd < 2 ^ 31 by omega), nI_clamp (show jee < 2 ^ 31 by omega), nI_clamp (show a1 < 2 ^ 31 by omega), nI_clamp (show b1 < 2 ^ 31 by omega), nI_clamp (show b2 < 2 ^ 31 by omega)])) dX4_copy_211
                                    · skip
                                      refine lv_aload_n hx hb dX4_copy_181 rfl (lv_at hl 0 rfl) ?_
                                      refine rw_get (v := .ref (ad 11)) hx hb hts in_X4 hown hK hR 0 (by decide) rfl rfl 12 (by decide) q1174 rfl rfl dX4_copy_182 ?_
                                      refine lv_bipush (v := 100) hx hb dX4_copy_185 (by decide) ?_
                                      refine lv_iload_n hx hb dX4_copy_187 rfl (lv_at hl 3 rfl) ?_
                                      refine lv_imul hx hb dX4_copy_188 ?_
                                      refine W.eqs (st2 := [.int (nI (100 * jee)), .ref (ad 11)]) (congrArg (fun z : Int32 => Value.int z :: _) (pk_mul 100 jee)) ?_
                                      refine lv_iload hx hb dX4_copy_189 (lv_at hl 4 rfl) ?_
                                      refine lv_iadd hx hb dX4_copy_191 ?_
                                      refine W.eqs (st2 := [.int (nI (100 * jee + b2)), .ref (ad 11)]) (congrArg (fun z : Int32 => Value.int z :: _) (nI_add (100 * jee) b2)) ?_
                                      refine lv_iload hx hb dX4_copy_192 (lv_at hl 6 rfl) ?_
                                      refine lv_iadd hx hb dX4_copy_194 ?_
                                      refine W.eqs (st2 := [.int (nI (100 * jee + b2 + k)), .ref (ad 11)]) (congrArg (fun z : Int32 => Value.int z :: _) (nI_add (100 * jee + b2) k)) ?_
                                      refine lv_aload_n hx hb dX4_copy_195 rfl (lv_at hl 0 rfl) ?_
                                      refine rw_get (v := .ref (ad 22)) hx hb hts in_X4 hown hK hR 0 (by decide) rfl rfl 36 (by decide) q1198 rfl rfl dX4_copy_196 ?_
                                      refine lv_iload hx hb dX4_copy_199 (lv_at hl 6 rfl) ?_
                                      refine rw_laldN (n := 100) hx hb hK hR 22 (by decide) rfl k rfl (by omega) (by decide) dX4_copy_201 ?_
                                      refine rw_lastN (n := 800) hx hb hK hR 11 (by decide) rfl (100 * jee + b2 + k) rfl (by omega) (by decide) dX4_copy_202 (mE_Y 11 (by decide)) (fun H locs hR => ?_)
                                      refine lv_iinc (v := (nI (k + 1))) (lv' := [(6, .int (nI (k + 1))), (0, .ref (ad 0)), (1, .int (nI jd)), (2, .int (nI b1)), (3, .int (nI jee)), (4, .int (nI b2)), (5, .int (nI a1))]) hx hb dX4_copy_203 hl (k := 6) rfl (nI_1 k) (by decide) rfl (fun ls hl => ?_)
                                      refine lv_goto (tgt := 174) hx hb dX4_copy_206 (by decide) ?_
                                      exact ih_174 (k + 1) (by omega) (by omega) _ _ (RW.eq hR (by rfl)) ls (lv_sub hl [1, 2, 3, 4, 5, 6, 0] rfl)
                                exact loop_174 _ 0 (Nat.lt_succ_self _) (by omega) _ _ (RW.eq hR (by obtain rfl : k = a1 := (by omega); rfl)) ls (lv_sub hl [1, 2, 3, 4, 5, 6, 0] rfl)
                              · skip
                                refine lv_aload_n hx hb dX4_copy_144 rfl (lv_at hl 0 rfl) ?_
                                refine rw_get (v := .ref (ad 22)) hx hb hts in_X4 hown hK hR 0 (by decide) rfl rfl 36 (by decide) q1198 rfl rfl dX4_copy_145 ?_
                                refine lv_iload hx hb dX4_copy_148 (lv_at hl 6 rfl) ?_
                                refine lv_aload_n hx hb dX4_copy_150 rfl (lv_at hl 0 rfl) ?_
                                refine rw_get (v := .ref (ad 11)) hx hb hts in_X4 hown hK hR 0 (by decide) rfl rfl 12 (by decide) q1174 rfl rfl dX4_copy_151 ?_
                                refine lv_bipush (v := 100) hx hb dX4_copy_154 (by decide) ?_
                                refine lv_iload_n hx hb dX4_copy_156 rfl (lv_at hl 1 rfl) ?_
                                refine lv_imul hx hb dX4_copy_157 ?_
                                refine W.eqs (st2 := [.int (nI (100 * jd)), .ref (ad 11), .int (nI k), .ref (ad 22)]) (congrArg (fun z : Int32 => Value.int z :: _) (pk_mul 100 jd)) ?_
                                refine lv_iload_n hx hb dX4_copy_158 rfl (lv_at hl 2 rfl) ?_
                                refine lv_iadd hx hb dX4_copy_159 ?_
                                refine W.eqs (st2 := [.int (nI (100 * jd + b1)), .ref (ad 11), .int (nI k), .ref (ad 22)]) (congrArg (fun z : Int32 => Value.int z :: _) (nI_add (100 * jd) b1)) ?_
                                refine lv_iload hx hb dX4_copy_160 (lv_at hl 6 rfl) ?_
                                refine lv_iadd hx hb dX4_copy_162 ?_
                                refine W.eqs (st2 := [.int (nI (100 * jd + b1 + k)), .ref (ad 11), .int (nI k), .ref (ad 22)]) (congrArg (fun z : Int32 => Value.int z :: _) (nI_add (100 * jd + b1) k)) ?_
                                refine rw_laldN (n := 800) hx hb hK hR 11 (by decide) rfl (100 * jd + b1 + k) rfl (by omega) (by decide) dX4_copy_163 ?_
                                refine rw_lastN (n := 100) hx hb hK hR 22 (by decide) rfl k rfl (by omega) (by decide) dX4_copy_164 (mE_Y 22 (by decide)) (fun H locs hR => ?_)
                                refine lv_iinc (v := (nI (k + 1))) (lv' := [(6, .int (nI (k + 1))), (0, .ref (ad 0)), (1, .int (nI jd)), (2, .int (nI b1)), (3, .int (nI jee)), (4, .int (nI b2)), (5, .int (nI a1))]) hx hb dX4_copy_165 hl (k := 6) rfl (nI_1 k) (by decide) rfl (fun ls hl => ?_)
                                refine lv_goto (tgt := 137) hx hb dX4_copy_168 (by decide) ?_
                                exact ih_137 (k + 1) (by omega) (by omega) _ _ (RW.eq hR (by rfl)) ls (lv_sub hl [1, 2, 3, 4, 5, 6, 0] rfl)
                          exact loop_137 _ 0 (Nat.lt_succ_self _) (by omega) _ _ (RW.eq hR (by rfl)) ls (lv_sub hl [1, 2, 3, 4, 5, 6, 0] rfl)
                        · skip
                          refine lv_bipush (v := (-13)) hx hb dX4_copy_131 (by decide) ?_
                          exact hQ _ _ _ _ _ (by first | (simp [oCopy, cpW, c_1, c_2, c_3, c_4, c_5, c_6, c_7, c_8, c_9, c_10, c_11, c_12, nI_clamp (show jd < 2 ^ 31 by omega), nI_clamp (show jee < 2 ^ 31 by omega)]; done) | simp_all [oCopy, cpW, nI_clamp (show jd < 2 ^ 31 by omega), nI_clamp (show jee < 2 ^ 31 by omega)]) (RW.eq hR (by first | (simp [oCopyY, cpW, c_1, c_2, c_3, c_4, c_5, c_6, c_7, c_8, c_9, c_10, c_11, c_12, nI_clamp (show jd < 2 ^ 31 by omega), nI_clamp (show jee < 2 ^ 31 by omega)]; done) | simp_all [oCopyY, cpW, nI_clamp (show jd < 2 ^ 31 by omega), nI_clamp (show jee < 2 ^ 31 by omega)])) dX4_copy_133
              · skip
                refine lv_bipush (v := (-12)) hx hb dX4_copy_87 (by decide) ?_
                exact hQ _ _ _ _ _ (by first | (simp [oCopy, cpW, c_1, c_2, c_3, c_4, c_5, c_6, c_7, nI_clamp (show jd < 2 ^ 31 by omega), nI_clamp (show jee < 2 ^ 31 by omega)]; done) | simp_all [oCopy, cpW, nI_clamp (show jd < 2 ^ 31 by omega), nI_clamp (show jee < 2 ^ 31 by omega)]) (RW.eq hR (by first | (simp [oCopyY, cpW, c_1, c_2, c_3, c_4, c_5, c_6, c_7, nI_clamp (show jd < 2 ^ 31 by omega), nI_clamp (show jee < 2 ^ 31 by omega)]; done) | simp_all [oCopyY, cpW, nI_clamp (show jd < 2 ^ 31 by omega), nI_clamp (show jee < 2 ^ 31 by omega)])) dX4_copy_89
        · skip
          refine lv_bipush (v := (-11)) hx hb dX4_copy_49 (by decide) ?_
          exact hQ _ _ _ _ _ (by first | (simp [oCopy, cpW, c_1, c_2, c_3, c_4, nI_clamp (show jd < 2 ^ 31 by omega), nI_clamp (show jee < 2 ^ 31 by omega)]; done) | simp_all [oCopy, cpW, nI_clamp (show jd < 2 ^ 31 by omega), nI_clamp (show jee < 2 ^ 31 by omega)]) (RW.eq hR (by first | (simp [oCopyY, cpW, c_1, c_2, c_3, c_4, nI_clamp (show jd < 2 ^ 31 by omega), nI_clamp (show jee < 2 ^ 31 by omega)]; done) | simp_all [oCopyY, cpW, nI_clamp (show jd < 2 ^ 31 by omega), nI_clamp (show jee < 2 ^ 31 by omega)])) dX4_copy_51
    · skip
      refine lv_iconst (v := (-1)) hx hb dX4_copy_29 (by decide) ?_
      exact hQ _ _ _ _ _ (by first | (simp [oCopy, cpW, c_1, c_2, nI_clamp (show jd < 2 ^ 31 by omega)]; done) | simp_all [oCopy, cpW, nI_clamp (show jd < 2 ^ 31 by omega)]) (RW.eq hR (by first | (simp [oCopyY, cpW, c_1, c_2, nI_clamp (show jd < 2 ^ 31 by omega)]; done) | simp_all [oCopyY, cpW, nI_clamp (show jd < 2 ^ 31 by omega)])) dX4_copy_30
theorem cd_X4_was : yX4_was.cls = RX4 ∧ yX4_was.cls ≠ "java/lang/invoke/MethodHandle" ∧ yX4_was.cls ≠ "java/lang/invoke/VarHandle" ∧ (parseMethodDescriptor yX4_was.desc).map (fun d => d.parameters.length) = some 4 := by decide +kernel
set_option maxHeartbeats 4000000 in
theorem m_X4_was (l : Launch) (D : va_G) (ca : Nat → ClassId) (n : Nat) (B X : Nat → Nat → Int32) (Y : Nat → Nat → Int64) (kp : Nat) (d : Int32) (v : Int32) (f : Int32) (w : Int32) (hB : wfB n B) (hX : wfX X) : MMi l D ca yX4_was (ws_ yX4_was cX4_was 10 (some .int)) (rmN 2) (fun ad => [.int d, .int v, .int f, .int w]) B X Y kp (oWas X Y d v f w) B (st X 0 0 0) Y kp := by
  refine MMi_start (by decide) (Or.inl rfl) (fun _ => Nat.le_of_ble_eq_true rfl) ?_
  intro p e s m args below meth c0 ad A Q ls hx hb hml hown hts hK hR hl hQ
  have hl : lv_has ls 10 [(0, .ref (ad 0)), (1, .int d), (2, .int v), (3, .int f), (4, .int w)] := hl
  have hn6 : n ≤ 6 := hB.1
  refine lv_aload_n hx hb dX4_was_0 rfl (lv_at hl 0 rfl) ?_
  refine lv_iconst (v := 0) hx hb dX4_was_1 (by decide) ?_
  refine rw_put hx hb hts in_X4 tyX4 tyX4_ok nmX4 hown hK hR 0 (by decide) rfl rfl 13 (by decide) q1175 rfl rfl rfl rfl (Nat.le_of_ble_eq_true rfl) dX4_was_2 (mE_pX 0 (x := 0) rfl) (fun H locs hR => ?_)
  refine lv_iload_n hx hb dX4_was_5 rfl (lv_at hl 2 rfl) ?_
  refine lv_i2l (v := (v.toInt64)) hx hb dX4_was_6 rfl ?_
  refine lv_lconst (v := 0) hx hb dX4_was_7 (by decide) ?_
  refine lv_ldc2 hx hb hown (hts _ q1426) dX4_was_8 ?_
  refine rs_calli (rest := []) hx hb hml hown hts hl.1 hR (m_X4_in l (v.toInt64) 0 20) (va_cwS 3 hts (lw_S q1288 q1289 q82 q1290) rfl rfl rfl cd_X4_in ⟨Nat.le_of_ble_eq_true rfl, Nat.le_of_ble_eq_true rfl⟩) rfl rfl (Nat.le_of_ble_eq_true rfl) dX4_was_11 ⟨Nat.le_refl _, Nat.le_refl _⟩ (fun H locs hR => ?_)
  refine W.eqs (st2 := [.int (bI (inI v 0 20))]) (congrArg (fun b => Value.int (bI b) :: _) (inL_I (v := v) (lo := 0) (hi := 20) (by decide) (by decide))) ?_
  refine lb_eq (tgt := 48) hx hb dX4_was_14 (by decide) (fun c_1 => ?_) (fun c_1 => ?_)
  · skip
    refine lv_iconst (v := (-1)) hx hb dX4_was_48 (by decide) ?_
    refine lv_istore (lv' := [(5, .int (-1)), (0, .ref (ad 0)), (1, .int d), (2, .int v), (3, .int f), (4, .int w)]) hx hb dX4_was_49 hl (by decide) rfl (fun ls hl => ?_)
    refine lv_iload hx hb dX4_was_51 (lv_at hl 0 rfl) ?_
    refine lv_if_ge (tgt := 59) hx hb dX4_was_53 (by decide) (fun z => absurd z (by decide)) (fun _ => ?_)
    refine lv_iload hx hb dX4_was_56 (lv_at hl 0 rfl) ?_
    exact hQ _ _ _ _ _ (by first | (simp [oWas, wasOk, c_1]; done) | simp_all [oWas, wasOk]) hR dX4_was_58
  · skip
    refine lv_iload_n hx hb dX4_was_17 rfl (lv_at hl 3 rfl) ?_
    refine lv_i2l (v := (f.toInt64)) hx hb dX4_was_18 rfl ?_
    refine lv_lconst (v := 0) hx hb dX4_was_19 (by decide) ?_
    refine lv_ldc2 hx hb hown (hts _ q1448) dX4_was_20 ?_
    refine rs_calli (rest := []) hx hb hml hown hts hl.1 hR (m_X4_in l (f.toInt64) 0 9) (va_cwS 3 hts (lw_S q1288 q1289 q82 q1290) rfl rfl rfl cd_X4_in ⟨Nat.le_of_ble_eq_true rfl, Nat.le_of_ble_eq_true rfl⟩) rfl rfl (Nat.le_of_ble_eq_true rfl) dX4_was_23 ⟨Nat.le_refl _, Nat.le_refl _⟩ (fun H locs hR => ?_)
    refine W.eqs (st2 := [.int (bI (inI f 0 9))]) (congrArg (fun b => Value.int (bI b) :: _) (inL_I (v := f) (lo := 0) (hi := 9) (by decide) (by decide))) ?_
    refine lb_eq (tgt := 48) hx hb dX4_was_26 (by decide) (fun c_3 => ?_) (fun c_3 => ?_)
    · skip
      refine lv_iconst (v := (-1)) hx hb dX4_was_48 (by decide) ?_
      refine lv_istore (lv' := [(5, .int (-1)), (0, .ref (ad 0)), (1, .int d), (2, .int v), (3, .int f), (4, .int w)]) hx hb dX4_was_49 hl (by decide) rfl (fun ls hl => ?_)
      refine lv_iload hx hb dX4_was_51 (lv_at hl 0 rfl) ?_
      refine lv_if_ge (tgt := 59) hx hb dX4_was_53 (by decide) (fun z => absurd z (by decide)) (fun _ => ?_)
      refine lv_iload hx hb dX4_was_56 (lv_at hl 0 rfl) ?_
      exact hQ _ _ _ _ _ (by first | (simp [oWas, wasOk, c_1, c_3]; done) | simp_all [oWas, wasOk]) hR dX4_was_58
    · skip
      refine lv_iload hx hb dX4_was_29 (lv_at hl 4 rfl) ?_
      refine lv_i2l (v := (w.toInt64)) hx hb dX4_was_31 rfl ?_
      refine lv_lconst (v := 0) hx hb dX4_was_32 (by decide) ?_
      refine lv_lconst (v := 1) hx hb dX4_was_33 (by decide) ?_
      refine rs_calli (rest := []) hx hb hml hown hts hl.1 hR (m_X4_in l (w.toInt64) 0 1) (va_cwS 3 hts (lw_S q1288 q1289 q82 q1290) rfl rfl rfl cd_X4_in ⟨Nat.le_of_ble_eq_true rfl, Nat.le_of_ble_eq_true rfl⟩) rfl rfl (Nat.le_of_ble_eq_true rfl) dX4_was_34 ⟨Nat.le_refl _, Nat.le_refl _⟩ (fun H locs hR => ?_)
      refine W.eqs (st2 := [.int (bI (inI w 0 1))]) (congrArg (fun b => Value.int (bI b) :: _) (inL_I (v := w) (lo := 0) (hi := 1) (by decide) (by decide))) ?_
      refine lb_eq (tgt := 48) hx hb dX4_was_37 (by decide) (fun c_5 => ?_) (fun c_5 => ?_)
      · skip
        refine lv_iconst (v := (-1)) hx hb dX4_was_48 (by decide) ?_
        refine lv_istore (lv' := [(5, .int (-1)), (0, .ref (ad 0)), (1, .int d), (2, .int v), (3, .int f), (4, .int w)]) hx hb dX4_was_49 hl (by decide) rfl (fun ls hl => ?_)
        refine lv_iload hx hb dX4_was_51 (lv_at hl 0 rfl) ?_
        refine lv_if_ge (tgt := 59) hx hb dX4_was_53 (by decide) (fun z => absurd z (by decide)) (fun _ => ?_)
        refine lv_iload hx hb dX4_was_56 (lv_at hl 0 rfl) ?_
        exact hQ _ _ _ _ _ (by first | (simp [oWas, wasOk, c_1, c_3, c_5]; done) | simp_all [oWas, wasOk]) hR dX4_was_58
      · skip
        refine lv_aload_n hx hb dX4_was_40 rfl (lv_at hl 0 rfl) ?_
        refine lv_iload_n hx hb dX4_was_41 rfl (lv_at hl 1 rfl) ?_
        refine mm_calli (rest := []) hx hb hml hown hts hK hl.1 hR (m_X4_wrongRow l D ca B (st X 0 0 0) Y kp d) (cwV 1 hts (lw_V q1283 q1285 qs33 q82 q1286) rfl rfl rfl cd_X4_wrongRow ⟨Nat.le_of_ble_eq_true rfl, Nat.le_of_ble_eq_true rfl⟩) rfl rfl (Nat.le_of_ble_eq_true rfl) dX4_was_42 ⟨Nat.le_refl _, Nat.le_refl _⟩ (fun H locs hR => ?_)
        refine W.eqs (st2 := [.int (wrR (X 6) d)]) rfl ?_
        refine lv_goto (tgt := 49) hx hb dX4_was_45 (by decide) ?_
        refine lv_istore (lv' := [(5, .int (wrR (X 6) d)), (0, .ref (ad 0)), (1, .int d), (2, .int v), (3, .int f), (4, .int w)]) hx hb dX4_was_49 hl (by decide) rfl (fun ls hl => ?_)
        refine lv_iload hx hb dX4_was_51 (lv_at hl 0 rfl) ?_
        refine lz_ge (tgt := 59) hx hb dX4_was_53 (by decide) (fun c_7 => ?_) (fun c_7 => ?_)
        · skip
          obtain ⟨jd, hjd, rfl, hWd⟩ := wrR_0 c_7
          refine lv_iconst (v := 0) hx hb dX4_was_59 (by decide) ?_
          refine lv_istore (lv' := [(6, .int 0), (5, .int (wrR (X 6) (nI jd))), (0, .ref (ad 0)), (1, .int (nI jd)), (2, .int v), (3, .int f), (4, .int w)]) hx hb dX4_was_60 hl (by decide) rfl (fun ls hl => ?_)
          refine lv_iconst (v := 0) hx hb dX4_was_62 (by decide) ?_
          refine lv_istore (lv' := [(7, .int 0), (6, .int 0), (5, .int (wrR (X 6) (nI jd))), (0, .ref (ad 0)), (1, .int (nI jd)), (2, .int v), (3, .int f), (4, .int w)]) hx hb dX4_was_63 hl (by decide) rfl (fun ls hl => ?_)
          have loop_65 : ∀ (nn : Nat) (k : Nat) (bt : Int32), 8 - k < nn → (k ≤ 8) → (bt = orTo (wasQ (rowY Y jd) v f (X 10 jd).toNatClampNeg) k) → ∀ (H : Heap) (locs : List Loc), RW D 23 ad (mE ca ad B (st X 0 0 0) Y kp) A s.heap H locs → ∀ (ls : Array Slot), lv_has ls 10 [(0, .ref (ad 0)), (1, .int (nI jd)), (2, .int v), (3, .int f), (4, .int w), (6, .int bt), (7, .int (nI k))] → W p l e (rmN 2) s m args below meth c0 H locs 0 0 Q (F0 m 65 ls []) := by
            intro nn
            induction nn with
            | zero => intro k bt hm; exact absurd hm (Nat.not_lt_zero _)
            | succ nn ih_65 =>
              intro k bt hm_65 hk hbt H locs hR ls hl
              refine lv_iload hx hb dX4_was_65 (lv_at hl 6 rfl) ?_
              refine lv_bipush (v := 8) hx hb dX4_was_67 (by decide) ?_
              refine ln_ge (tgt := 164) hx hb (k) (8) rfl (by decide) (by omega) (by decide) dX4_was_69 (by decide) (fun c_8 => ?_) (fun c_8 => ?_)
              · skip
                refine lv_iload hx hb dX4_was_164 (lv_at hl 4 rfl) ?_
                refine lv_if_ne (tgt := 174) hx hb dX4_was_166 (by decide) (fun c_9 => ?_) (fun c_9 => ?_)
                · skip
                  refine lv_iload hx hb dX4_was_174 (lv_at hl 5 rfl) ?_
                  refine W.eqs (st2 := [.int (nI (orN (wasQ (rowY Y jd) v f (X 10 jd).toNatClampNeg) 8))]) (by rw [hbt, show k = 8 by omega]; exact congrArg (fun z : Int32 => [Value.int z]) (orTo_nat _ 8 (by decide))) ?_
                  refine rs_calli (rest := []) hx hb hml hown hts hl.1 hR (m_X4_onesOf l (orN (wasQ (rowY Y jd) v f (X 10 jd).toNatClampNeg) 8) (by exact orN_256 _ (by decide))) (va_cwS 1 hts (lw_S q1518 q1519 q82 q1520) rfl rfl rfl cd_X4_onesOf ⟨Nat.le_of_ble_eq_true rfl, Nat.le_of_ble_eq_true rfl⟩) rfl rfl (Nat.le_of_ble_eq_true rfl) dX4_was_176 ⟨Nat.le_refl _, Nat.le_refl _⟩ (fun H locs hR => ?_)
                  exact hQ _ _ _ _ _ (by rw [oWas, if_pos (by simp [wasOk, c_1, c_3, c_5]), if_neg (by rw [wrR_at hjd hWd]; decide), nI_clamp (show jd < 2 ^ 31 by omega)]; simp [c_9, c_9]) hR dX4_was_179
                · skip
                  refine lv_iload hx hb dX4_was_169 (lv_at hl 5 rfl) ?_
                  refine lv_goto (tgt := 179) hx hb dX4_was_171 (by decide) ?_
                  exact hQ _ _ _ _ _ (by rw [oWas, if_pos (by simp [wasOk, c_1, c_3, c_5]), if_neg (by rw [wrR_at hjd hWd]; decide), nI_clamp (show jd < 2 ^ 31 by omega)]; simp [c_9, hbt, show k = 8 by omega]) hR dX4_was_179
              · skip
                refine lv_iconst (v := 1) hx hb dX4_was_72 (by decide) ?_
                refine lv_istore (lv' := [(8, .int 1), (0, .ref (ad 0)), (1, .int (nI jd)), (2, .int v), (3, .int f), (4, .int w), (6, .int bt), (7, .int (nI k))]) hx hb dX4_was_73 hl (by decide) rfl (fun ls hl => ?_)
                refine lv_iconst (v := 0) hx hb dX4_was_75 (by decide) ?_
                refine lv_istore (lv' := [(9, .int 0), (8, .int 1), (0, .ref (ad 0)), (1, .int (nI jd)), (2, .int v), (3, .int f), (4, .int w), (6, .int bt), (7, .int (nI k))]) hx hb dX4_was_76 hl (by decide) rfl (fun ls hl => ?_)
                have loop_78 : ∀ (nn : Nat) (i : Nat) (is : Bool), 101 - i < nn → (i ≤ (X 10 jd).toNatClampNeg) → (is = rowGo (rowY Y jd) v (holdsF (nI k) f) i) → ∀ (H : Heap) (locs : List Loc), RW D 23 ad (mE ca ad B (st X 0 0 0) Y kp) A s.heap H locs → ∀ (ls : Array Slot), lv_has ls 10 [(0, .ref (ad 0)), (1, .int (nI jd)), (2, .int v), (3, .int f), (4, .int w), (6, .int bt), (7, .int (nI k)), (8, .int (bI is)), (9, .int (nI i))] → W p l e (rmN 2) s m args below meth c0 H locs 0 0 Q (F0 m 78 ls []) := by
                  intro nn
                  induction nn with
                  | zero => intro i is hm; exact absurd hm (Nat.not_lt_zero _)
                  | succ nn ih_78 =>
                    intro i is hm_78 hi his H locs hR ls hl
                    refine lv_iload hx hb dX4_was_78 (lv_at hl 8 rfl) ?_
                    refine lv_aload_n hx hb dX4_was_80 rfl (lv_at hl 0 rfl) ?_
                    refine rw_get (v := .ref (ad 10)) hx hb hts in_X4 hown hK hR 0 (by decide) rfl rfl 11 (by decide) q1173 rfl rfl dX4_was_81 ?_
                    refine lv_iload_n hx hb dX4_was_84 rfl (lv_at hl 1 rfl) ?_
                    refine rw_ialdN (n := 8) hx hb hK hR 10 (by decide) rfl jd rfl (by omega) (by decide) dX4_was_85 ?_
                    refine W.eqs (st2 := [.int (X 10 jd), .int (nI i)]) rfl ?_
                    have hmany : (X 10 jd).toNatClampNeg ≤ 100 := many_le (m := 100) (hX.2.2.2.2 jd)
                    refine W.eqs (st2 := [.int (nI ((X 10 jd).toNatClampNeg)), .int (nI i)]) (congrArg (fun z => Value.int z :: _) (many_nI (m := 100) (hX.2.2.2.2 jd))) ?_
                    refine ln_ge (tgt := 140) hx hb (i) (((X 10 jd).toNatClampNeg)) rfl rfl (by omega) (by omega) dX4_was_86 (by decide) (fun c_10 => ?_) (fun c_10 => ?_)
                    · skip
                      refine lv_iload hx hb dX4_was_140 (lv_at hl 5 rfl) ?_
                      refine lv_iload hx hb dX4_was_142 (lv_at hl 7 rfl) ?_
                      refine lb_eq (tgt := 154) hx hb dX4_was_144 (by decide) (fun c_11 => ?_) (fun c_11 => ?_)
                      · skip
                        refine lv_iconst (v := 0) hx hb dX4_was_154 (by decide) ?_
                        refine lv_ior hx hb dX4_was_155 ?_
                        refine lv_istore (lv' := [(6, .int (bt ||| 0)), (0, .ref (ad 0)), (1, .int (nI jd)), (2, .int v), (3, .int f), (4, .int w), (7, .int (nI k)), (8, .int (bI is)), (9, .int (nI i))]) hx hb dX4_was_156 hl (by decide) rfl (fun ls hl => ?_)
                        refine lv_iinc (v := (nI (k + 1))) (lv' := [(7, .int (nI (k + 1))), (6, .int (bt ||| 0)), (0, .ref (ad 0)), (1, .int (nI jd)), (2, .int v), (3, .int f), (4, .int w), (8, .int (bI is)), (9, .int (nI i))]) hx hb dX4_was_158 hl (k := 6) rfl (nI_1 k) (by decide) rfl (fun ls hl => ?_)
                        refine lv_goto (tgt := 65) hx hb dX4_was_161 (by decide) ?_
                        exact ih_65 (k + 1) (bt ||| 0) (by omega) (by omega) (by rw [orTo, ← hbt, wasQ, show (X 10 jd).toNatClampNeg = i by omega, ← his]; simp [c_11]) _ _ hR ls (lv_sub hl [2, 3, 4, 5, 6, 1, 0] rfl)
                      · skip
                        refine lv_iconst (v := 1) hx hb dX4_was_147 (by decide) ?_
                        refine lv_iload hx hb dX4_was_148 (lv_at hl 6 rfl) ?_
                        refine lv_ishl hx hb dX4_was_150 ?_
                        refine lv_goto (tgt := 155) hx hb dX4_was_151 (by decide) ?_
                        refine lv_ior hx hb dX4_was_155 ?_
                        refine lv_istore (lv' := [(6, .int (bt ||| (1 <<< ((nI k) &&& 31)))), (0, .ref (ad 0)), (1, .int (nI jd)), (2, .int v), (3, .int f), (4, .int w), (7, .int (nI k)), (8, .int (bI is)), (9, .int (nI i))]) hx hb dX4_was_156 hl (by decide) rfl (fun ls hl => ?_)
                        refine lv_iinc (v := (nI (k + 1))) (lv' := [(7, .int (nI (k + 1))), (6, .int (bt ||| (1 <<< ((nI k) &&& 31)))), (0, .ref (ad 0)), (1, .int (nI jd)), (2, .int v), (3, .int f), (4, .int w), (8, .int (bI is)), (9, .int (nI i))]) hx hb dX4_was_158 hl (k := 6) rfl (nI_1 k) (by decide) rfl (fun ls hl => ?_)
                        refine lv_goto (tgt := 65) hx hb dX4_was_161 (by decide) ?_
                        exact ih_65 (k + 1) (bt ||| (1 <<< ((nI k) &&& 31))) (by omega) (by omega) (by rw [orTo, ← hbt, wasQ, show (X 10 jd).toNatClampNeg = i by omega, ← his]; simp [c_11]) _ _ hR ls (lv_sub hl [2, 3, 4, 5, 6, 1, 0] rfl)
                    · skip
                      refine lv_iload hx hb dX4_was_89 (lv_at hl 7 rfl) ?_
                      refine lb_eq (tgt := 131) hx hb dX4_was_91 (by decide) (fun c_12 => ?_) (fun c_12 => ?_)
                      · skip
                        refine lv_iconst (v := 0) hx hb dX4_was_131 (by decide) ?_
                        refine lv_istore (lv' := [(8, .int 0), (0, .ref (ad 0)), (1, .int (nI jd)), (2, .int v), (3, .int f), (4, .int w), (6, .int bt), (7, .int (nI k)), (9, .int (nI i))]) hx hb dX4_was_132 hl (by decide) rfl (fun ls hl => ?_)
                        refine lv_iinc (v := (nI (i + 1))) (lv' := [(9, .int (nI (i + 1))), (8, .int 0), (0, .ref (ad 0)), (1, .int (nI jd)), (2, .int v), (3, .int f), (4, .int w), (6, .int bt), (7, .int (nI k))]) hx hb dX4_was_134 hl (k := 8) rfl (nI_1 i) (by decide) rfl (fun ls hl => ?_)
                        refine lv_goto (tgt := 78) hx hb dX4_was_137 (by decide) ?_
                        exact ih_78 (i + 1) false (by omega) (by omega) (by rw [rowGo, ← his]; unfold rowY; first | (simp [c_12]; done) | simp_all) _ _ hR ls (lv_sub hl [2, 3, 4, 5, 6, 7, 8, 1, 0] rfl)
                      · skip
                        refine lv_aload_n hx hb dX4_was_94 rfl (lv_at hl 0 rfl) ?_
                        refine rw_get (v := .ref (ad 11)) hx hb hts in_X4 hown hK hR 0 (by decide) rfl rfl 12 (by decide) q1174 rfl rfl dX4_was_95 ?_
                        refine lv_bipush (v := 100) hx hb dX4_was_98 (by decide) ?_
                        refine lv_iload_n hx hb dX4_was_100 rfl (lv_at hl 1 rfl) ?_
                        refine lv_imul hx hb dX4_was_101 ?_
                        refine W.eqs (st2 := [.int (nI (100 * jd)), .ref (ad 11)]) (congrArg (fun z : Int32 => Value.int z :: _) (pk_mul 100 jd)) ?_
                        refine lv_iload hx hb dX4_was_102 (lv_at hl 8 rfl) ?_
                        refine lv_iadd hx hb dX4_was_104 ?_
                        refine W.eqs (st2 := [.int (nI (100 * jd + i)), .ref (ad 11)]) (congrArg (fun z : Int32 => Value.int z :: _) (nI_add (100 * jd) i)) ?_
                        refine rw_laldN (n := 800) hx hb hK hR 11 (by decide) rfl (100 * jd + i) rfl (by omega) (by decide) dX4_was_105 ?_
                        refine lv_iload_n hx hb dX4_was_106 rfl (lv_at hl 2 rfl) ?_
                        refine lv_iload hx hb dX4_was_107 (lv_at hl 8 rfl) ?_
                        refine lv_iload hx hb dX4_was_109 (lv_at hl 6 rfl) ?_
                        refine lv_iload_n hx hb dX4_was_111 rfl (lv_at hl 3 rfl) ?_
                        refine rs_calli (rest := [.int (nI i), .int v, .long (Y 11 (100 * jd + i))]) hx hb hml hown hts hl.1 hR (m_X4_holdsBy l (nI k) f) (va_cwS 2 hts (lw_S q1348 q1349 q82 q1350) rfl rfl rfl cd_X4_holdsBy ⟨Nat.le_of_ble_eq_true rfl, Nat.le_of_ble_eq_true rfl⟩) rfl rfl (Nat.le_of_ble_eq_true rfl) dX4_was_112 ⟨Nat.le_refl _, Nat.le_refl _⟩ (fun H locs hR => ?_)
                        refine lv_imul hx hb dX4_was_115 ?_
                        refine lv_iadd hx hb dX4_was_116 ?_
                        refine lv_bipush (v := 20) hx hb dX4_was_117 (by decide) ?_
                        refine rs_calli (rest := [.long (Y 11 (100 * jd + i))]) hx hb hml hown hts hl.1 hR (m_X4_held l (v + ((nI i) * (holdsF (nI k) f))) 20) (va_cwS 2 hts (lw_S q1355 q1356 q82 q1357) rfl rfl rfl cd_X4_held ⟨Nat.le_of_ble_eq_true rfl, Nat.le_of_ble_eq_true rfl⟩) rfl rfl (Nat.le_of_ble_eq_true rfl) dX4_was_119 ⟨Nat.le_refl _, Nat.le_refl _⟩ (fun H locs hR => ?_)
                        refine lv_i2l (v := ((hdI (v + ((nI i) * (holdsF (nI k) f))) 20).toInt64)) hx hb dX4_was_122 rfl ?_
                        refine lc_ne (tgt := 131) hx hb dX4_was_123 dX4_was_124 (by decide) (fun c_13 => ?_) (fun c_13 => ?_)
                        · skip
                          refine lv_iconst (v := 0) hx hb dX4_was_131 (by decide) ?_
                          refine lv_istore (lv' := [(8, .int 0), (0, .ref (ad 0)), (1, .int (nI jd)), (2, .int v), (3, .int f), (4, .int w), (6, .int bt), (7, .int (nI k)), (9, .int (nI i))]) hx hb dX4_was_132 hl (by decide) rfl (fun ls hl => ?_)
                          refine lv_iinc (v := (nI (i + 1))) (lv' := [(9, .int (nI (i + 1))), (8, .int 0), (0, .ref (ad 0)), (1, .int (nI jd)), (2, .int v), (3, .int f), (4, .int w), (6, .int bt), (7, .int (nI k))]) hx hb dX4_was_134 hl (k := 8) rfl (nI_1 i) (by decide) rfl (fun ls hl => ?_)
                          refine lv_goto (tgt := 78) hx hb dX4_was_137 (by decide) ?_
                          exact ih_78 (i + 1) false (by omega) (by omega) (by rw [rowGo, ← his]; unfold rowY; first | (simp [c_12, c_13]; done) | simp_all) _ _ hR ls (lv_sub hl [2, 3, 4, 5, 6, 7, 8, 1, 0] rfl)
                        · skip
                          refine lv_iconst (v := 1) hx hb dX4_was_127 (by decide) ?_
                          refine lv_goto (tgt := 132) hx hb dX4_was_128 (by decide) ?_
                          refine lv_istore (lv' := [(8, .int 1), (0, .ref (ad 0)), (1, .int (nI jd)), (2, .int v), (3, .int f), (4, .int w), (6, .int bt), (7, .int (nI k)), (9, .int (nI i))]) hx hb dX4_was_132 hl (by decide) rfl (fun ls hl => ?_)
                          refine lv_iinc (v := (nI (i + 1))) (lv' := [(9, .int (nI (i + 1))), (8, .int 1), (0, .ref (ad 0)), (1, .int (nI jd)), (2, .int v), (3, .int f), (4, .int w), (6, .int bt), (7, .int (nI k))]) hx hb dX4_was_134 hl (k := 8) rfl (nI_1 i) (by decide) rfl (fun ls hl => ?_)
                          refine lv_goto (tgt := 78) hx hb dX4_was_137 (by decide) ?_
                          exact ih_78 (i + 1) true (by omega) (by omega) (by rw [rowGo, ← his]; unfold rowY; first | (simp [c_12, c_13]; done) | simp_all) _ _ hR ls (lv_sub hl [2, 3, 4, 5, 6, 7, 8, 1, 0] rfl)
                exact loop_78 _ 0 true (Nat.lt_succ_self _) (by omega) (by rfl) _ _ hR ls (lv_sub hl [2, 3, 4, 5, 6, 7, 8, 1, 0] rfl)
          exact loop_65 _ 0 0 (Nat.lt_succ_self _) (by omega) (by rfl) _ _ hR ls (lv_sub hl [3, 4, 5, 6, 7, 1, 0] rfl)
        · skip
          refine lv_iload hx hb dX4_was_56 (lv_at hl 0 rfl) ?_
          exact hQ _ _ _ _ _ (by first | (simp [oWas, wasOk, c_1, c_3, c_5, c_7]; done) | simp_all [oWas, wasOk]) hR dX4_was_58
theorem cd_X4_group : yX4_group.cls = RX4 ∧ yX4_group.cls ≠ "java/lang/invoke/MethodHandle" ∧ yX4_group.cls ≠ "java/lang/invoke/VarHandle" ∧ (parseMethodDescriptor yX4_group.desc).map (fun d => d.parameters.length) = some 2 := by decide +kernel
set_option maxHeartbeats 4000000 in
theorem m_X4_group (l : Launch) (D : va_G) (ca : Nat → ClassId) (n : Nat) (B X : Nat → Nat → Int32) (Y : Nat → Nat → Int64) (kp : Nat) (hh : Int32) (w : Int32) (hB : wfB n B) : MMi l D ca yX4_group (ws_ yX4_group cX4_group 7 (some .int)) (rmN 2) (fun ad => [.int hh, .int w]) B X Y kp (oGroup n B hh w) B (st X 0 0 0) Y kp := by
  refine MMi_start (by decide) (Or.inl rfl) (fun _ => Nat.le_of_ble_eq_true rfl) ?_
  intro p e s m args below meth c0 ad A Q ls hx hb hml hown hts hK hR hl hQ
  have hl : lv_has ls 7 [(0, .ref (ad 0)), (1, .int hh), (2, .int w)] := hl
  have hn6 : n ≤ 6 := hB.1
  have h64 := pow_64 hn6
  refine lv_aload_n hx hb dX4_group_0 rfl (lv_at hl 0 rfl) ?_
  refine lv_iconst (v := 0) hx hb dX4_group_1 (by decide) ?_
  refine rw_put hx hb hts in_X4 tyX4 tyX4_ok nmX4 hown hK hR 0 (by decide) rfl rfl 13 (by decide) q1175 rfl rfl rfl rfl (Nat.le_of_ble_eq_true rfl) dX4_group_2 (mE_pX 0 (x := 0) rfl) (fun H locs hR => ?_)
  refine lv_iload_n hx hb dX4_group_5 rfl (lv_at hl 1 rfl) ?_
  refine lv_i2l (v := (hh.toInt64)) hx hb dX4_group_6 rfl ?_
  refine lv_lconst (v := 0) hx hb dX4_group_7 (by decide) ?_
  refine lv_ldc2 hx hb hown (hts _ q1581) dX4_group_8 ?_
  refine rs_calli (rest := []) hx hb hml hown hts hl.1 hR (m_X4_in l (hh.toInt64) 0 30) (va_cwS 3 hts (lw_S q1288 q1289 q82 q1290) rfl rfl rfl cd_X4_in ⟨Nat.le_of_ble_eq_true rfl, Nat.le_of_ble_eq_true rfl⟩) rfl rfl (Nat.le_of_ble_eq_true rfl) dX4_group_11 ⟨Nat.le_refl _, Nat.le_refl _⟩ (fun H locs hR => ?_)
  refine W.eqs (st2 := [.int (bI (inI hh 0 30))]) (congrArg (fun b => Value.int (bI b) :: _) (inL_I (v := hh) (lo := 0) (hi := 30) (by decide) (by decide))) ?_
  refine lb_eq (tgt := 27) hx hb dX4_group_14 (by decide) (fun c_1 => ?_) (fun c_1 => ?_)
  · skip
    refine lv_iconst (v := (-1)) hx hb dX4_group_27 (by decide) ?_
    exact hQ _ _ _ _ _ (by first | (simp [oGroup, groupOk, c_1]; done) | simp_all [oGroup, groupOk]) hR dX4_group_28
  · skip
    refine lv_iload_n hx hb dX4_group_17 rfl (lv_at hl 2 rfl) ?_
    refine lv_i2l (v := (w.toInt64)) hx hb dX4_group_18 rfl ?_
    refine lv_lconst (v := 0) hx hb dX4_group_19 (by decide) ?_
    refine lv_lconst (v := 1) hx hb dX4_group_20 (by decide) ?_
    refine rs_calli (rest := []) hx hb hml hown hts hl.1 hR (m_X4_in l (w.toInt64) 0 1) (va_cwS 3 hts (lw_S q1288 q1289 q82 q1290) rfl rfl rfl cd_X4_in ⟨Nat.le_of_ble_eq_true rfl, Nat.le_of_ble_eq_true rfl⟩) rfl rfl (Nat.le_of_ble_eq_true rfl) dX4_group_21 ⟨Nat.le_refl _, Nat.le_refl _⟩ (fun H locs hR => ?_)
    refine W.eqs (st2 := [.int (bI (inI w 0 1))]) (congrArg (fun b => Value.int (bI b) :: _) (inL_I (v := w) (lo := 0) (hi := 1) (by decide) (by decide))) ?_
    refine lb_ne (tgt := 29) hx hb dX4_group_24 (by decide) (fun c_2 => ?_) (fun c_2 => ?_)
    · skip
      refine lv_iconst (v := 0) hx hb dX4_group_29 (by decide) ?_
      refine lv_istore_n (lv' := [(3, .int 0), (0, .ref (ad 0)), (1, .int hh), (2, .int w)]) hx hb dX4_group_30 rfl hl (by decide) rfl (fun ls hl => ?_)
      refine lv_iconst (v := 1) hx hb dX4_group_31 (by decide) ?_
      refine lv_istore (lv' := [(4, .int 1), (3, .int 0), (0, .ref (ad 0)), (1, .int hh), (2, .int w)]) hx hb dX4_group_32 hl (by decide) rfl (fun ls hl => ?_)
      have loop_34 : ∀ (nn : Nat) (k : Nat) (b : Nat), 64 - k < nn → (k + 1 ≤ 2 ^ n) → (b = grp n B hh k) → (b ≤ k) → ∀ (H : Heap) (locs : List Loc), RW D 23 ad (mE ca ad B (st X 0 0 0) Y kp) A s.heap H locs → ∀ (ls : Array Slot), lv_has ls 7 [(0, .ref (ad 0)), (1, .int hh), (2, .int w), (3, .int (nI b)), (4, .int (nI (k + 1)))] → W p l e (rmN 2) s m args below meth c0 H locs 0 0 Q (F0 m 34 ls []) := by
        intro nn
        induction nn with
        | zero => intro k b hm; exact absurd hm (Nat.not_lt_zero _)
        | succ nn ih_34 =>
          intro k b hm_34 hk hb1 hbk H locs hR ls hl
          refine lv_iload hx hb dX4_group_34 (lv_at hl 4 rfl) ?_
          refine lv_iconst (v := 1) hx hb dX4_group_36 (by decide) ?_
          refine lv_aload_n hx hb dX4_group_37 rfl (lv_at hl 0 rfl) ?_
          refine rw_get (v := .int (nI n)) hx hb hts in_X4 hown hK hR 0 (by decide) rfl rfl 0 (by decide) q1162 rfl (mF_ch hB) dX4_group_38 ?_
          refine lv_ishl hx hb dX4_group_41 ?_
          refine W.eqs (st2 := [.int (nI (2 ^ n)), .int (nI (k + 1))]) (by rw [shl1 n (by omega)]) ?_
          refine ln_ge (tgt := 122) hx hb (k + 1) (2 ^ n) rfl rfl (by first | omega | exact Nat.lt_of_le_of_lt (pop_lt _) (by decide)) (by first | omega | exact Nat.lt_of_le_of_lt (pop_lt _) (by decide)) dX4_group_42 (by decide) (fun c_3 => ?_) (fun c_3 => ?_)
          · skip
            refine lv_iload_n hx hb dX4_group_122 rfl (lv_at hl 2 rfl) ?_
            refine lv_if_ne (tgt := 130) hx hb dX4_group_123 (by decide) (fun c_4 => ?_) (fun c_4 => ?_)
            · skip
              refine lv_iload_n hx hb dX4_group_130 rfl (lv_at hl 3 rfl) ?_
              refine rs_calli (rest := []) hx hb hml hown hts hl.1 hR (m_X4_onesOf l b (by omega)) (va_cwS 1 hts (lw_S q1518 q1519 q82 q1520) rfl rfl rfl cd_X4_onesOf ⟨Nat.le_of_ble_eq_true rfl, Nat.le_of_ble_eq_true rfl⟩) rfl rfl (Nat.le_of_ble_eq_true rfl) dX4_group_131 ⟨Nat.le_refl _, Nat.le_refl _⟩ (fun H locs hR => ?_)
              exact hQ _ _ _ _ _ (by rw [oGroup, if_pos (by simp [groupOk, c_1, c_2]), show 2 ^ n - 1 = k by omega, ← hb1]; simp [c_4]) hR dX4_group_134
            · skip
              refine lv_iload_n hx hb dX4_group_126 rfl (lv_at hl 3 rfl) ?_
              refine lv_goto (tgt := 134) hx hb dX4_group_127 (by decide) ?_
              exact hQ _ _ _ _ _ (by rw [oGroup, if_pos (by simp [groupOk, c_1, c_2]), show 2 ^ n - 1 = k by omega, ← hb1]; simp [c_4]) hR dX4_group_134
          · skip
            refine lv_iconst (v := 0) hx hb dX4_group_45 (by decide) ?_
            refine lv_istore (lv' := [(5, .int 0), (0, .ref (ad 0)), (1, .int hh), (2, .int w), (3, .int (nI b)), (4, .int (nI (k + 1)))]) hx hb dX4_group_46 hl (by decide) rfl (fun ls hl => ?_)
            refine lv_iconst (v := 0) hx hb dX4_group_48 (by decide) ?_
            refine lv_istore (lv' := [(6, .int 0), (5, .int 0), (0, .ref (ad 0)), (1, .int hh), (2, .int w), (3, .int (nI b)), (4, .int (nI (k + 1)))]) hx hb dX4_group_49 hl (by decide) rfl (fun ls hl => ?_)
            have loop_51 : ∀ (nn : Nat) (c : Nat) (v : Int32), n - c < nn → (c ≤ n) → (v = hsTo B (k + 1) c) → ∀ (H : Heap) (locs : List Loc), RW D 23 ad (mE ca ad B (st X 0 0 0) Y kp) A s.heap H locs → ∀ (ls : Array Slot), lv_has ls 7 [(0, .ref (ad 0)), (1, .int hh), (2, .int w), (3, .int (nI b)), (4, .int (nI (k + 1))), (5, .int v), (6, .int (nI c))] → W p l e (rmN 2) s m args below meth c0 H locs 0 0 Q (F0 m 51 ls []) := by
              intro nn
              induction nn with
              | zero => intro c v hm; exact absurd hm (Nat.not_lt_zero _)
              | succ nn ih_51 =>
                intro c v hm_51 hc hv H locs hR ls hl
                refine lv_iload hx hb dX4_group_51 (lv_at hl 6 rfl) ?_
                refine lv_aload_n hx hb dX4_group_53 rfl (lv_at hl 0 rfl) ?_
                refine rw_get (v := .int (nI n)) hx hb hts in_X4 hown hK hR 0 (by decide) rfl rfl 0 (by decide) q1162 rfl (mF_ch hB) dX4_group_54 ?_
                refine ln_ge (tgt := 91) hx hb (c) (n) rfl rfl (by first | omega | exact Nat.lt_of_le_of_lt (pop_lt _) (by decide)) (by first | omega | exact Nat.lt_of_le_of_lt (pop_lt _) (by decide)) dX4_group_57 (by decide) (fun c_5 => ?_) (fun c_5 => ?_)
                · skip
                  refine lv_iload hx hb dX4_group_91 (lv_at hl 5 rfl) ?_
                  refine lv_iload_n hx hb dX4_group_93 rfl (lv_at hl 1 rfl) ?_
                  refine lj_gt (tgt := 114) hx hb dX4_group_94 (by decide) (fun c_6 => ?_) (fun c_6 => ?_)
                  · skip
                    refine lv_iload_n hx hb dX4_group_114 rfl (lv_at hl 3 rfl) ?_
                    refine lv_istore_n (lv' := [(3, .int (nI b)), (0, .ref (ad 0)), (1, .int hh), (2, .int w), (4, .int (nI (k + 1))), (5, .int v), (6, .int (nI c))]) hx hb dX4_group_115 rfl hl (by decide) rfl (fun ls hl => ?_)
                    refine lv_iinc (v := (nI (k + 1 + 1))) (lv' := [(4, .int (nI (k + 1 + 1))), (3, .int (nI b)), (0, .ref (ad 0)), (1, .int hh), (2, .int w), (5, .int v), (6, .int (nI c))]) hx hb dX4_group_116 hl (k := 4) rfl (nI_1 (k + 1)) (by decide) rfl (fun ls hl => ?_)
                    refine lv_goto (tgt := 34) hx hb dX4_group_119 (by decide) ?_
                    exact ih_34 (k + 1) b (by omega) (by omega) (by rw [grp, ← hb1, ← show v = hsTo B (k + 1) n by rw [hv, show c = n by omega]]; first | (rw [if_pos (by refine ⟨by assumption, by omega⟩)]; done) | (rw [if_neg (by intro z; first | (exact absurd z.1 (by assumption)) | (exact z.1 (by assumption)) | omega)])) (by omega) _ _ hR ls (lv_sub hl [2, 3, 4, 1, 0] rfl)
                  · skip
                    refine lv_iload hx hb dX4_group_97 (lv_at hl 4 rfl) ?_
                    refine rs_calli (rest := []) hx hb hml hown hts hl.1 hR (m_X4_onesOf l (k + 1) (by omega)) (va_cwS 1 hts (lw_S q1518 q1519 q82 q1520) rfl rfl rfl cd_X4_onesOf ⟨Nat.le_of_ble_eq_true rfl, Nat.le_of_ble_eq_true rfl⟩) rfl rfl (Nat.le_of_ble_eq_true rfl) dX4_group_99 ⟨Nat.le_refl _, Nat.le_refl _⟩ (fun H locs hR => ?_)
                    refine lv_iload_n hx hb dX4_group_102 rfl (lv_at hl 3 rfl) ?_
                    refine rs_calli (rest := [.int (nI (pop (k + 1)))]) hx hb hml hown hts hl.1 hR (m_X4_onesOf l b (by omega)) (va_cwS 1 hts (lw_S q1518 q1519 q82 q1520) rfl rfl rfl cd_X4_onesOf ⟨Nat.le_of_ble_eq_true rfl, Nat.le_of_ble_eq_true rfl⟩) rfl rfl (Nat.le_of_ble_eq_true rfl) dX4_group_103 ⟨Nat.le_refl _, Nat.le_refl _⟩ (fun H locs hR => ?_)
                    refine ln_le (tgt := 114) hx hb (pop (k + 1)) (pop b) rfl rfl (by first | omega | exact Nat.lt_of_le_of_lt (pop_lt _) (by decide)) (by first | omega | exact Nat.lt_of_le_of_lt (pop_lt _) (by decide)) dX4_group_106 (by decide) (fun c_7 => ?_) (fun c_7 => ?_)
                    · skip
                      refine lv_iload_n hx hb dX4_group_114 rfl (lv_at hl 3 rfl) ?_
                      refine lv_istore_n (lv' := [(3, .int (nI b)), (0, .ref (ad 0)), (1, .int hh), (2, .int w), (4, .int (nI (k + 1))), (5, .int v), (6, .int (nI c))]) hx hb dX4_group_115 rfl hl (by decide) rfl (fun ls hl => ?_)
                      refine lv_iinc (v := (nI (k + 1 + 1))) (lv' := [(4, .int (nI (k + 1 + 1))), (3, .int (nI b)), (0, .ref (ad 0)), (1, .int hh), (2, .int w), (5, .int v), (6, .int (nI c))]) hx hb dX4_group_116 hl (k := 4) rfl (nI_1 (k + 1)) (by decide) rfl (fun ls hl => ?_)
                      refine lv_goto (tgt := 34) hx hb dX4_group_119 (by decide) ?_
                      exact ih_34 (k + 1) b (by omega) (by omega) (by rw [grp, ← hb1, ← show v = hsTo B (k + 1) n by rw [hv, show c = n by omega]]; first | (rw [if_pos (by refine ⟨by assumption, by omega⟩)]; done) | (rw [if_neg (by intro z; first | (exact absurd z.1 (by assumption)) | (exact z.1 (by assumption)) | omega)])) (by omega) _ _ hR ls (lv_sub hl [2, 3, 4, 1, 0] rfl)
                    · skip
                      refine lv_iload hx hb dX4_group_109 (lv_at hl 4 rfl) ?_
                      refine lv_goto (tgt := 115) hx hb dX4_group_111 (by decide) ?_
                      refine lv_istore_n (lv' := [(3, .int (nI (k + 1))), (0, .ref (ad 0)), (1, .int hh), (2, .int w), (4, .int (nI (k + 1))), (5, .int v), (6, .int (nI c))]) hx hb dX4_group_115 rfl hl (by decide) rfl (fun ls hl => ?_)
                      refine lv_iinc (v := (nI (k + 1 + 1))) (lv' := [(4, .int (nI (k + 1 + 1))), (3, .int (nI (k + 1))), (0, .ref (ad 0)), (1, .int hh), (2, .int w), (5, .int v), (6, .int (nI c))]) hx hb dX4_group_116 hl (k := 4) rfl (nI_1 (k + 1)) (by decide) rfl (fun ls hl => ?_)
                      refine lv_goto (tgt := 34) hx hb dX4_group_119 (by decide) ?_
                      exact ih_34 (k + 1) (k + 1) (by omega) (by omega) (by rw [grp, ← hb1, ← show v = hsTo B (k + 1) n by rw [hv, show c = n by omega]]; first | (rw [if_pos (by refine ⟨by assumption, by omega⟩)]; done) | (rw [if_neg (by intro z; first | (exact absurd z.1 (by assumption)) | (exact z.1 (by assumption)) | omega)])) (by omega) _ _ hR ls (lv_sub hl [2, 3, 4, 1, 0] rfl)
                · skip
                  refine lv_iload hx hb dX4_group_60 (lv_at hl 5 rfl) ?_
                  refine lv_iload hx hb dX4_group_62 (lv_at hl 4 rfl) ?_
                  refine lv_iload hx hb dX4_group_64 (lv_at hl 6 rfl) ?_
                  refine rs_calli (rest := [.int v]) hx hb hml hown hts hl.1 hR (m_X4_hasBit l (nI (k + 1)) (nI c)) (va_cwS 2 hts (lw_S q1537 q1538 q82 q1539) rfl rfl rfl cd_X4_hasBit ⟨Nat.le_of_ble_eq_true rfl, Nat.le_of_ble_eq_true rfl⟩) rfl rfl (Nat.le_of_ble_eq_true rfl) dX4_group_66 ⟨Nat.le_refl _, Nat.le_refl _⟩ (fun H locs hR => ?_)
                  refine lb_eq (tgt := 81) hx hb dX4_group_69 (by decide) (fun c_8 => ?_) (fun c_8 => ?_)
                  · skip
                    refine lv_iconst (v := 0) hx hb dX4_group_81 (by decide) ?_
                    refine lv_iadd hx hb dX4_group_82 ?_
                    refine lv_istore (lv' := [(5, .int (v + 0)), (0, .ref (ad 0)), (1, .int hh), (2, .int w), (3, .int (nI b)), (4, .int (nI (k + 1))), (6, .int (nI c))]) hx hb dX4_group_83 hl (by decide) rfl (fun ls hl => ?_)
                    refine lv_iinc (v := (nI (c + 1))) (lv' := [(6, .int (nI (c + 1))), (5, .int (v + 0)), (0, .ref (ad 0)), (1, .int hh), (2, .int w), (3, .int (nI b)), (4, .int (nI (k + 1)))]) hx hb dX4_group_85 hl (k := 6) rfl (nI_1 c) (by decide) rfl (fun ls hl => ?_)
                    refine lv_goto (tgt := 51) hx hb dX4_group_88 (by decide) ?_
                    exact ih_51 (c + 1) (v + 0) (by omega) (by omega) (by rw [hsTo, ← hv]; simp [c_8]) _ _ hR ls (lv_sub hl [2, 3, 4, 5, 6, 1, 0] rfl)
                  · skip
                    refine lv_aload_n hx hb dX4_group_72 rfl (lv_at hl 0 rfl) ?_
                    refine lv_iload hx hb dX4_group_73 (lv_at hl 6 rfl) ?_
                    refine mm_calli (rest := [.int v]) hx hb hml hown hts hK hl.1 hR (m_X4_holdsOf l D ca B (st X 0 0 0) Y kp c (by omega)) (cwV 1 hts (lw_V q1344 q1346 qs46 q82 q1347) rfl rfl rfl cd_X4_holdsOf ⟨Nat.le_of_ble_eq_true rfl, Nat.le_of_ble_eq_true rfl⟩) rfl rfl (Nat.le_of_ble_eq_true rfl) dX4_group_75 ⟨Nat.le_refl _, Nat.le_refl _⟩ (fun H locs hR => ?_)
                    refine lv_goto (tgt := 82) hx hb dX4_group_78 (by decide) ?_
                    refine lv_iadd hx hb dX4_group_82 ?_
                    refine lv_istore (lv' := [(5, .int (v + (holdsF (B 1 c) (B 2 c)))), (0, .ref (ad 0)), (1, .int hh), (2, .int w), (3, .int (nI b)), (4, .int (nI (k + 1))), (6, .int (nI c))]) hx hb dX4_group_83 hl (by decide) rfl (fun ls hl => ?_)
                    refine lv_iinc (v := (nI (c + 1))) (lv' := [(6, .int (nI (c + 1))), (5, .int (v + (holdsF (B 1 c) (B 2 c)))), (0, .ref (ad 0)), (1, .int hh), (2, .int w), (3, .int (nI b)), (4, .int (nI (k + 1)))]) hx hb dX4_group_85 hl (k := 6) rfl (nI_1 c) (by decide) rfl (fun ls hl => ?_)
                    refine lv_goto (tgt := 51) hx hb dX4_group_88 (by decide) ?_
                    exact ih_51 (c + 1) (v + (holdsF (B 1 c) (B 2 c))) (by omega) (by omega) (by rw [hsTo, ← hv]; simp [c_8]) _ _ hR ls (lv_sub hl [2, 3, 4, 5, 6, 1, 0] rfl)
            exact loop_51 _ 0 0 (Nat.lt_succ_self _) (by omega) (by rfl) _ _ hR ls (lv_sub hl [2, 3, 4, 5, 6, 1, 0] rfl)
      exact loop_34 _ 0 0 (Nat.lt_succ_self _) (by have := Nat.one_le_two_pow (n := n); omega) (by rfl) (by omega) _ _ hR ls (lv_sub hl [2, 3, 4, 1, 0] rfl)
    · skip
      refine lv_iconst (v := (-1)) hx hb dX4_group_27 (by decide) ?_
      exact hQ _ _ _ _ _ (by first | (simp [oGroup, groupOk, c_1, c_2]; done) | simp_all [oGroup, groupOk]) hR dX4_group_28
theorem cd_X4_bands : yX4_bands.cls = RX4 ∧ yX4_bands.cls ≠ "java/lang/invoke/MethodHandle" ∧ yX4_bands.cls ≠ "java/lang/invoke/VarHandle" ∧ (parseMethodDescriptor yX4_bands.desc).map (fun d => d.parameters.length) = some 3 := by decide +kernel
set_option maxHeartbeats 4000000 in
theorem m_X4_bands (l : Launch) (D : va_G) (ca : Nat → ClassId) (n : Nat) (B X : Nat → Nat → Int32) (Y : Nat → Nat → Int64) (kp : Nat) (c : Int32) (a : Int32) (v : Int32) (hB : wfB n B) : MMi l D ca yX4_bands (ws_ yX4_bands cX4_bands 6 (some .int)) (rmN 2) (fun ad => [.int c, .int a, .int v]) B X Y kp (oBands n B c a v) B (st X 0 0 0) Y kp := by
  refine MMi_start (by decide) (Or.inl rfl) (fun _ => Nat.le_of_ble_eq_true rfl) ?_
  intro p e s m args below meth c0 ad A Q ls hx hb hml hown hts hK hR hl hQ
  have hl : lv_has ls 6 [(0, .ref (ad 0)), (1, .int c), (2, .int a), (3, .int v)] := hl
  have hn6 : n ≤ 6 := hB.1
  refine lv_aload_n hx hb dX4_bands_0 rfl (lv_at hl 0 rfl) ?_
  refine lv_iconst (v := 0) hx hb dX4_bands_1 (by decide) ?_
  refine rw_put hx hb hts in_X4 tyX4 tyX4_ok nmX4 hown hK hR 0 (by decide) rfl rfl 13 (by decide) q1175 rfl rfl rfl rfl (Nat.le_of_ble_eq_true rfl) dX4_bands_2 (mE_pX 0 (x := 0) rfl) (fun H locs hR => ?_)
  refine lv_aload_n hx hb dX4_bands_5 rfl (lv_at hl 0 rfl) ?_
  refine lv_iload_n hx hb dX4_bands_6 rfl (lv_at hl 1 rfl) ?_
  refine mm_calli (rest := []) hx hb hml hown hts hK hl.1 hR (m_X4_isChild l D ca n B (st X 0 0 0) Y kp c hB) (cwV 1 hts (lw_V q1336 q1338 qs44 q82 q1339) rfl rfl rfl cd_X4_isChild ⟨Nat.le_of_ble_eq_true rfl, Nat.le_of_ble_eq_true rfl⟩) rfl rfl (Nat.le_of_ble_eq_true rfl) dX4_bands_7 ⟨Nat.le_refl _, Nat.le_refl _⟩ (fun H locs hR => ?_)
  refine lb_eq (tgt := 37) hx hb dX4_bands_10 (by decide) (fun c_1 => ?_) (fun c_1 => ?_)
  · skip
    refine lv_iconst (v := (-1)) hx hb dX4_bands_37 (by decide) ?_
    exact hQ _ _ _ _ _ (by first | (simp [oBands, bandsOk, c_1]; done) | simp_all [oBands, bandsOk]) hR dX4_bands_38
  · skip
    obtain ⟨jc, hjc, rfl⟩ := isC_nat hn6 c_1
    refine lv_iload_n hx hb dX4_bands_13 rfl (lv_at hl 2 rfl) ?_
    refine lv_i2l (v := (a.toInt64)) hx hb dX4_bands_14 rfl ?_
    refine lv_lconst (v := 0) hx hb dX4_bands_15 (by decide) ?_
    refine lv_ldc2 hx hb hown (hts _ q1448) dX4_bands_16 ?_
    refine rs_calli (rest := []) hx hb hml hown hts hl.1 hR (m_X4_in l (a.toInt64) 0 9) (va_cwS 3 hts (lw_S q1288 q1289 q82 q1290) rfl rfl rfl cd_X4_in ⟨Nat.le_of_ble_eq_true rfl, Nat.le_of_ble_eq_true rfl⟩) rfl rfl (Nat.le_of_ble_eq_true rfl) dX4_bands_19 ⟨Nat.le_refl _, Nat.le_refl _⟩ (fun H locs hR => ?_)
    refine W.eqs (st2 := [.int (bI (inI a 0 9))]) (congrArg (fun b => Value.int (bI b) :: _) (inL_I (v := a) (lo := 0) (hi := 9) (by decide) (by decide))) ?_
    refine lb_eq (tgt := 37) hx hb dX4_bands_22 (by decide) (fun c_2 => ?_) (fun c_2 => ?_)
    · skip
      refine lv_iconst (v := (-1)) hx hb dX4_bands_37 (by decide) ?_
      exact hQ _ _ _ _ _ (by first | (simp [oBands, bandsOk, c_1, c_2, nI_clamp (show jc < 2 ^ 31 by omega)]; done) | simp_all [oBands, bandsOk, nI_clamp (show jc < 2 ^ 31 by omega)]) hR dX4_bands_38
    · skip
      obtain ⟨ja, hja, rfl⟩ := inI_nat (k := 9) (by decide) (by decide) c_2
      refine lv_iload_n hx hb dX4_bands_25 rfl (lv_at hl 3 rfl) ?_
      refine lv_i2l (v := (v.toInt64)) hx hb dX4_bands_26 rfl ?_
      refine lv_lconst (v := 1) hx hb dX4_bands_27 (by decide) ?_
      refine lv_ldc2 hx hb hown (hts _ q1448) dX4_bands_28 ?_
      refine rs_calli (rest := []) hx hb hml hown hts hl.1 hR (m_X4_in l (v.toInt64) 1 9) (va_cwS 3 hts (lw_S q1288 q1289 q82 q1290) rfl rfl rfl cd_X4_in ⟨Nat.le_of_ble_eq_true rfl, Nat.le_of_ble_eq_true rfl⟩) rfl rfl (Nat.le_of_ble_eq_true rfl) dX4_bands_31 ⟨Nat.le_refl _, Nat.le_refl _⟩ (fun H locs hR => ?_)
      refine W.eqs (st2 := [.int (bI (inI v 1 9))]) (congrArg (fun b => Value.int (bI b) :: _) (inL_I (v := v) (lo := 1) (hi := 9) (by decide) (by decide))) ?_
      refine lb_ne (tgt := 39) hx hb dX4_bands_34 (by decide) (fun c_3 => ?_) (fun c_3 => ?_)
      · skip
        obtain ⟨jv, hjv1, hjv, rfl⟩ := inI_1 (k := 9) (by decide) (by decide) c_3
        refine lv_aload_n hx hb dX4_bands_39 rfl (lv_at hl 0 rfl) ?_
        refine rw_get (v := .ref (ad 4)) hx hb hts in_X4 hown hK hR 0 (by decide) rfl rfl 4 (by decide) q1166 rfl rfl dX4_bands_40 ?_
        refine lv_iload_n hx hb dX4_bands_43 rfl (lv_at hl 1 rfl) ?_
        refine rw_ialdN (n := 6) hx hb hK hR 4 (by decide) rfl jc rfl (by omega) (by decide) dX4_bands_44 ?_
        refine lv_bipush (v := 7) hx hb dX4_bands_45 (by decide) ?_
        refine lv_icmp_ne (tgt := 53) hx hb dX4_bands_47 (by decide) (fun c_4 => ?_) (fun c_4 => ?_)
        · skip
          refine lv_iload_n hx hb dX4_bands_53 rfl (lv_at hl 2 rfl) ?_
          refine lv_istore (lv' := [(4, .int (nI ja)), (0, .ref (ad 0)), (1, .int (nI jc)), (2, .int (nI ja)), (3, .int (nI jv))]) hx hb dX4_bands_54 hl (by decide) rfl (fun ls hl => ?_)
          refine lv_iconst (v := 0) hx hb dX4_bands_56 (by decide) ?_
          refine lv_istore (lv' := [(5, .int 0), (4, .int (nI ja)), (0, .ref (ad 0)), (1, .int (nI jc)), (2, .int (nI ja)), (3, .int (nI jv))]) hx hb dX4_bands_57 hl (by decide) rfl (fun ls hl => ?_)
          have loop_59 : ∀ (nn : Nat) (k : Nat) (r : Nat), 12 - k < nn → (k ≤ 12) → (r < 10) → (bndF B jc jv 12 0 ja = bndF B jc jv (12 - k) k r) → ∀ (H : Heap) (locs : List Loc), RW D 23 ad (mE ca ad B (st X 0 0 0) Y kp) A s.heap H locs → ∀ (ls : Array Slot), lv_has ls 6 [(0, .ref (ad 0)), (1, .int (nI jc)), (2, .int (nI ja)), (3, .int (nI jv)), (4, .int (nI r)), (5, .int (nI k))] → W p l e (rmN 2) s m args below meth c0 H locs 0 0 Q (F0 m 59 ls []) := by
            intro nn
            induction nn with
            | zero => intro k r hm; exact absurd hm (Nat.not_lt_zero _)
            | succ nn ih_59 =>
              intro k r hm_59 hk hr hbn H locs hR ls hl
              refine lv_iload hx hb dX4_bands_59 (lv_at hl 5 rfl) ?_
              refine lv_bipush (v := 12) hx hb dX4_bands_61 (by decide) ?_
              refine ln_ge (tgt := 124) hx hb (k) (12) rfl (by decide) (by omega) (by decide) dX4_bands_63 (by decide) (fun c_5 => ?_) (fun c_5 => ?_)
              · skip
                refine lv_bipush (v := (-4)) hx hb dX4_bands_124 (by decide) ?_
                exact hQ _ _ _ _ _ (by rw [oBands, if_pos (by simp [bandsOk, c_1, c_2, c_3]), nI_clamp (show jc < 2 ^ 31 by omega), nI_clamp (show ja < 2 ^ 31 by omega), nI_clamp (show jv < 2 ^ 31 by omega), if_neg (by assumption), hbn]; rw [show 12 - k = 0 by omega, bndF]) hR dX4_bands_126
              · skip
                refine lv_aload_n hx hb dX4_bands_66 rfl (lv_at hl 0 rfl) ?_
                refine rw_get (v := .ref (ad 3)) hx hb hts in_X4 hown hK hR 0 (by decide) rfl rfl 3 (by decide) q1165 rfl rfl dX4_bands_67 ?_
                refine lv_iload_n hx hb dX4_bands_70 rfl (lv_at hl 1 rfl) ?_
                refine rw_ialdN (n := 6) hx hb hK hR 3 (by decide) rfl jc rfl (by omega) (by decide) dX4_bands_71 ?_
                refine lv_iload hx hb dX4_bands_72 (lv_at hl 5 rfl) ?_
                refine lv_iadd hx hb dX4_bands_74 ?_
                refine lv_bipush (v := 20) hx hb dX4_bands_75 (by decide) ?_
                refine rs_calli (rest := []) hx hb hml hown hts hl.1 hR (m_X4_held l ((B 3 jc) + (nI k)) 20) (va_cwS 2 hts (lw_S q1355 q1356 q82 q1357) rfl rfl rfl cd_X4_held ⟨Nat.le_of_ble_eq_true rfl, Nat.le_of_ble_eq_true rfl⟩) rfl rfl (Nat.le_of_ble_eq_true rfl) dX4_bands_77 ⟨Nat.le_refl _, Nat.le_refl _⟩ (fun H locs hR => ?_)
                refine lv_aload_n hx hb dX4_bands_80 rfl (lv_at hl 0 rfl) ?_
                refine lv_iload_n hx hb dX4_bands_81 rfl (lv_at hl 1 rfl) ?_
                refine mm_calli (rest := [.int (hdI ((B 3 jc) + (nI k)) 20)]) hx hb hml hown hts hK hl.1 hR (m_X4_needsOf l D ca B (st X 0 0 0) Y kp jc (by omega)) (cwV 1 hts (lw_V q1358 q1360 qs48 q82 q1361) rfl rfl rfl cd_X4_needsOf ⟨Nat.le_of_ble_eq_true rfl, Nat.le_of_ble_eq_true rfl⟩) rfl rfl (Nat.le_of_ble_eq_true rfl) dX4_bands_82 ⟨Nat.le_refl _, Nat.le_refl _⟩ (fun H locs hR => ?_)
                refine lv_iload hx hb dX4_bands_85 (lv_at hl 4 rfl) ?_
                refine lv_isub hx hb dX4_bands_87 ?_
                refine lv_bipush (v := 99) hx hb dX4_bands_88 (by decide) ?_
                refine rs_calli (rest := [.int (hdI ((B 3 jc) + (nI k)) 20)]) hx hb hml hown hts hl.1 hR (m_X4_held l ((needsF (B 1 jc) (B 2 jc) (B 4 jc)) - (nI r)) 99) (va_cwS 2 hts (lw_S q1355 q1356 q82 q1357) rfl rfl rfl cd_X4_held ⟨Nat.le_of_ble_eq_true rfl, Nat.le_of_ble_eq_true rfl⟩) rfl rfl (Nat.le_of_ble_eq_true rfl) dX4_bands_90 ⟨Nat.le_refl _, Nat.le_refl _⟩ (fun H locs hR => ?_)
                refine lj_ge (tgt := 99) hx hb dX4_bands_93 (by decide) (fun c_6 => ?_) (fun c_6 => ?_)
                · skip
                  refine lv_iload hx hb dX4_bands_99 (lv_at hl 4 rfl) ?_
                  refine ln0_ne (tgt := 107) hx hb (r) rfl (by omega) dX4_bands_101 (by decide) (fun c_7 => ?_) (fun c_7 => ?_)
                  · skip
                    refine lv_iload hx hb dX4_bands_107 (lv_at hl 4 rfl) ?_
                    refine lv_iload_n hx hb dX4_bands_109 rfl (lv_at hl 3 rfl) ?_
                    refine lv_isub hx hb dX4_bands_110 ?_
                    refine lv_bipush (v := 9) hx hb dX4_bands_111 (by decide) ?_
                    refine rs_calli (rest := []) hx hb hml hown hts hl.1 hR (m_X4_held l ((nI r) - (nI jv)) 9) (va_cwS 2 hts (lw_S q1355 q1356 q82 q1357) rfl rfl rfl cd_X4_held ⟨Nat.le_of_ble_eq_true rfl, Nat.le_of_ble_eq_true rfl⟩) rfl rfl (Nat.le_of_ble_eq_true rfl) dX4_bands_113 ⟨Nat.le_refl _, Nat.le_refl _⟩ (fun H locs hR => ?_)
                    refine W.eqs (st2 := [.int (nI (r - jv))]) (by rw [hd_sub _ (by omega) _ (by omega)]) ?_
                    refine lv_istore (lv' := [(4, .int (nI (r - jv))), (0, .ref (ad 0)), (1, .int (nI jc)), (2, .int (nI ja)), (3, .int (nI jv)), (5, .int (nI k))]) hx hb dX4_bands_116 hl (by decide) rfl (fun ls hl => ?_)
                    refine lv_iinc (v := (nI (k + 1))) (lv' := [(5, .int (nI (k + 1))), (4, .int (nI (r - jv))), (0, .ref (ad 0)), (1, .int (nI jc)), (2, .int (nI ja)), (3, .int (nI jv))]) hx hb dX4_bands_118 hl (k := 5) rfl (nI_1 k) (by decide) rfl (fun ls hl => ?_)
                    refine lv_goto (tgt := 59) hx hb dX4_bands_121 (by decide) ?_
                    exact ih_59 (k + 1) (r - jv) (by omega) (by omega) (by omega) (by rw [hbn, show 12 - k = (12 - (k + 1)) + 1 by omega, bndF, if_neg (by assumption), if_neg (by assumption)]) _ _ hR ls (lv_sub hl [2, 3, 4, 5, 1, 0] rfl)
                  · skip
                    refine lv_bipush (v := (-4)) hx hb dX4_bands_104 (by decide) ?_
                    exact hQ _ _ _ _ _ (by rw [oBands, if_pos (by simp [bandsOk, c_1, c_2, c_3]), nI_clamp (show jc < 2 ^ 31 by omega), nI_clamp (show ja < 2 ^ 31 by omega), nI_clamp (show jv < 2 ^ 31 by omega), if_neg (by assumption), hbn]; rw [show 12 - k = (12 - (k + 1)) + 1 by omega, bndF, if_neg (by assumption), if_pos (by assumption)]) hR dX4_bands_106
                · skip
                  refine lv_iload hx hb dX4_bands_96 (lv_at hl 5 rfl) ?_
                  exact hQ _ _ _ _ _ (by rw [oBands, if_pos (by simp [bandsOk, c_1, c_2, c_3]), nI_clamp (show jc < 2 ^ 31 by omega), nI_clamp (show ja < 2 ^ 31 by omega), nI_clamp (show jv < 2 ^ 31 by omega), if_neg (by assumption), hbn]; rw [show 12 - k = (12 - (k + 1)) + 1 by omega, bndF, if_pos (by assumption)]) hR dX4_bands_98
          exact loop_59 _ 0 ja (Nat.lt_succ_self _) (by omega) (by omega) (by rfl) _ _ hR ls (lv_sub hl [2, 3, 4, 5, 1, 0] rfl)
        · skip
          refine lv_bipush (v := (-3)) hx hb dX4_bands_50 (by decide) ?_
          exact hQ _ _ _ _ _ (by first | (simp [oBands, bandsOk, c_1, c_2, c_3, c_4, nI_clamp (show jc < 2 ^ 31 by omega), nI_clamp (show ja < 2 ^ 31 by omega), nI_clamp (show jv < 2 ^ 31 by omega)]; done) | simp_all [oBands, bandsOk, nI_clamp (show jc < 2 ^ 31 by omega), nI_clamp (show ja < 2 ^ 31 by omega), nI_clamp (show jv < 2 ^ 31 by omega)]) hR dX4_bands_52
      · skip
        refine lv_iconst (v := (-1)) hx hb dX4_bands_37 (by decide) ?_
        exact hQ _ _ _ _ _ (by first | (simp [oBands, bandsOk, c_1, c_2, c_3, nI_clamp (show jc < 2 ^ 31 by omega), nI_clamp (show ja < 2 ^ 31 by omega)]; done) | simp_all [oBands, bandsOk, nI_clamp (show jc < 2 ^ 31 by omega), nI_clamp (show ja < 2 ^ 31 by omega)]) hR dX4_bands_38
