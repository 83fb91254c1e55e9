/-! the model: saving, loading -/
set_option maxRecDepth 100000
theorem cd_X4_carry : yX4_carry.cls = RX4 ∧ yX4_carry.cls ≠ "java/lang/invoke/MethodHandle" ∧ yX4_carry.cls ≠ "java/lang/invoke/VarHandle" ∧ (parseMethodDescriptor yX4_carry.desc).map (fun d => d.parameters.length) = some 1 := by decide +kernel
set_option maxHeartbeats 4000000 in
theorem m_X4_carry (l : Launch) (D : va_G) (ca : Nat → ClassId) (B : Nat → Nat → Int32) (Y : Nat → Nat → Int64) (X0 : Nat → Nat → Int32) (tk : Bool) (row : Nat → Int32) (kq : Nat) (q : Nat) (v : Int32) (hk : okq kq) (hq : q < 32) : MMi l D ca yX4_carry (ws_ yX4_carry cX4_carry 2 (some .int)) (rmN 0) (fun ad => [.int v]) B (cX X0 kq tk row q) Y kq (if tk = true then v else row q) B (cX X0 kq tk (if tk = true then upd row q v else row) (q + 1)) Y kq := by
  refine MMi_start (by decide) (Or.inl rfl) (fun _ => Nat.le_of_ble_eq_true rfl) ?_
  intro p e s m args below meth c0 ad A Q ls hx hb hml hown hts hK hR hl hQ
  have hl : lv_has ls 2 [(0, .ref (ad 0)), (1, .int v)] := hl
  refine lv_aload_n hx hb dX4_carry_0 rfl (lv_at hl 0 rfl) ?_
  refine rw_get (v := .int (bI tk)) hx hb hts in_X4 hown hK hR 0 (by decide) rfl rfl 25 (by decide) q1187 rfl rfl dX4_carry_1 ?_
  refine lb_eq (tgt := 17) hx hb dX4_carry_4 (by decide) (fun c_1 => ?_) (fun c_1 => ?_)
  · skip
    refine lv_aload_n hx hb dX4_carry_17 rfl (lv_at hl 0 rfl) ?_
    refine lv_dup hx hb dX4_carry_18 rfl ?_
    refine rw_get (v := .int (nI q)) hx hb hts in_X4 hown hK hR 0 (by decide) rfl rfl 24 (by decide) q1186 rfl rfl dX4_carry_19 ?_
    refine lv_iconst (v := 1) hx hb dX4_carry_22 (by decide) ?_
    refine lv_iadd hx hb dX4_carry_23 ?_
    refine W.eqs (st2 := [.int (nI (q + 1)), .ref (ad 0)]) (congrArg (fun z : Int32 => Value.int z :: _) (nI_add q 1)) ?_
    refine rw_put hx hb hts in_X4 tyX4 tyX4_ok nmX4 hown hK hR 0 (by decide) rfl rfl 24 (by decide) q1186 rfl rfl rfl rfl (Nat.le_of_ble_eq_true rfl) dX4_carry_24 (mE_cX_p (q' := q + 1) rfl) (fun H locs hR => ?_)
    refine lv_aload_n hx hb dX4_carry_27 rfl (lv_at hl 0 rfl) ?_
    refine rw_get (v := .ref (ad kq)) hx hb hts in_X4 hown hK hR 0 (by decide) rfl rfl 26 (by decide) q1188 rfl (mF_kq hk) dX4_carry_28 ?_
    refine lv_aload_n hx hb dX4_carry_31 rfl (lv_at hl 0 rfl) ?_
    refine rw_get (v := .int (nI (q + 1))) hx hb hts in_X4 hown hK hR 0 (by decide) rfl rfl 24 (by decide) q1186 rfl rfl dX4_carry_32 ?_
    refine lv_iconst (v := 1) hx hb dX4_carry_35 (by decide) ?_
    refine lv_isub hx hb dX4_carry_36 ?_
    refine W.eqs (st2 := [.int (nI q), .ref (ad kq)]) (by rw [nI_pred]) ?_
    refine rw_ialdN (n := 32) hx hb hK hR kq (by omega) (mE_cX_he hk) q rfl (by omega) (by decide) dX4_carry_37 ?_
    exact hQ _ _ _ _ _ (by simp [upd, c_1]) (RW.eq hR (by simp [c_1])) dX4_carry_38
  · skip
    refine lv_aload_n hx hb dX4_carry_7 rfl (lv_at hl 0 rfl) ?_
    refine rw_get (v := .ref (ad kq)) hx hb hts in_X4 hown hK hR 0 (by decide) rfl rfl 26 (by decide) q1188 rfl (mF_kq hk) dX4_carry_8 ?_
    refine lv_aload_n hx hb dX4_carry_11 rfl (lv_at hl 0 rfl) ?_
    refine rw_get (v := .int (nI q)) hx hb hts in_X4 hown hK hR 0 (by decide) rfl rfl 24 (by decide) q1186 rfl rfl dX4_carry_12 ?_
    refine lv_iload_n hx hb dX4_carry_15 rfl (lv_at hl 1 rfl) ?_
    refine rw_iastN (n := 32) hx hb hK hR kq (by omega) (mE_cX_he hk) q rfl (by omega) (by decide) dX4_carry_16 (mE_cX_st hk) (fun H locs hR => ?_)
    refine lv_aload_n hx hb dX4_carry_17 rfl (lv_at hl 0 rfl) ?_
    refine lv_dup hx hb dX4_carry_18 rfl ?_
    refine rw_get (v := .int (nI q)) hx hb hts in_X4 hown hK hR 0 (by decide) rfl rfl 24 (by decide) q1186 rfl rfl dX4_carry_19 ?_
    refine lv_iconst (v := 1) hx hb dX4_carry_22 (by decide) ?_
    refine lv_iadd hx hb dX4_carry_23 ?_
    refine W.eqs (st2 := [.int (nI (q + 1)), .ref (ad 0)]) (congrArg (fun z : Int32 => Value.int z :: _) (nI_add q 1)) ?_
    refine rw_put hx hb hts in_X4 tyX4 tyX4_ok nmX4 hown hK hR 0 (by decide) rfl rfl 24 (by decide) q1186 rfl rfl rfl rfl (Nat.le_of_ble_eq_true rfl) dX4_carry_24 (mE_cX_p (q' := q + 1) rfl) (fun H locs hR => ?_)
    refine lv_aload_n hx hb dX4_carry_27 rfl (lv_at hl 0 rfl) ?_
    refine rw_get (v := .ref (ad kq)) hx hb hts in_X4 hown hK hR 0 (by decide) rfl rfl 26 (by decide) q1188 rfl (mF_kq hk) dX4_carry_28 ?_
    refine lv_aload_n hx hb dX4_carry_31 rfl (lv_at hl 0 rfl) ?_
    refine rw_get (v := .int (nI (q + 1))) hx hb hts in_X4 hown hK hR 0 (by decide) rfl rfl 24 (by decide) q1186 rfl rfl dX4_carry_32 ?_
    refine lv_iconst (v := 1) hx hb dX4_carry_35 (by decide) ?_
    refine lv_isub hx hb dX4_carry_36 ?_
    refine W.eqs (st2 := [.int (nI q), .ref (ad kq)]) (by rw [nI_pred]) ?_
    refine rw_ialdN (n := 32) hx hb hK hR kq (by omega) (mE_cX_he hk) q rfl (by omega) (by decide) dX4_carry_37 ?_
    exact hQ _ _ _ _ _ (by simp [upd, c_1]) (RW.eq hR (by simp [c_1])) dX4_carry_38
theorem cd_X4_carryAll : yX4_carryAll.cls = RX4 ∧ yX4_carryAll.cls ≠ "java/lang/invoke/MethodHandle" ∧ yX4_carryAll.cls ≠ "java/lang/invoke/VarHandle" ∧ (parseMethodDescriptor yX4_carryAll.desc).map (fun d => d.parameters.length) = some 2 := by decide +kernel
set_option maxHeartbeats 4000000 in
theorem m_X4_carryAll_T (l : Launch) (D : va_G) (ca : Nat → ClassId) (B X : Nat → Nat → Int32) (Y : Nat → Nat → Int64) (kp : Nat) (kq : Nat) (hk : okq kq) : MMv l D ca yX4_carryAll (ws_ yX4_carryAll cX4_carryAll 4 none) (rmN 1) (fun ad => [.ref (ad kq), .int 1]) B X Y kp B (cX X kq true (savTo B (X kq) 32) 32) Y kq := by
  refine MMv_start (by decide) (fun _ => Nat.le_of_ble_eq_true rfl) ?_
  intro p e s m args below meth c0 ad A Q ls hx hb hml hown hts hK hR hl hQ
  have hl : lv_has ls 4 [(0, .ref (ad 0)), (1, .ref (ad kq)), (2, .int 1)] := hl
  refine lv_aload_n hx hb dX4_carryAll_0 rfl (lv_at hl 0 rfl) ?_
  refine lv_aload_n hx hb dX4_carryAll_1 rfl (lv_at hl 1 rfl) ?_
  refine rw_put hx hb hts in_X4 tyX4 tyX4_ok nmX4 hown hK hR 0 (by decide) rfl rfl 26 (by decide) q1188 rfl rfl rfl rfl (Nat.le_of_ble_eq_true rfl) dX4_carryAll_2 (mE_pK (kp' := kq) (mF_kset hk)) (fun H locs hR => ?_)
  refine lv_aload_n hx hb dX4_carryAll_5 rfl (lv_at hl 0 rfl) ?_
  refine lv_iload_n hx hb dX4_carryAll_6 rfl (lv_at hl 2 rfl) ?_
  refine rw_put hx hb hts in_X4 tyX4 tyX4_ok nmX4 hown hK hR 0 (by decide) rfl rfl 25 (by decide) q1187 rfl rfl rfl rfl (Nat.le_of_ble_eq_true rfl) dX4_carryAll_7 (mE_pX 7 (x := 1) rfl) (fun H locs hR => ?_)
  refine lv_aload_n hx hb dX4_carryAll_10 rfl (lv_at hl 0 rfl) ?_
  refine lv_iconst (v := 0) hx hb dX4_carryAll_11 (by decide) ?_
  refine rw_put hx hb hts in_X4 tyX4 tyX4_ok nmX4 hown hK hR 0 (by decide) rfl rfl 24 (by decide) q1186 rfl rfl rfl rfl (Nat.le_of_ble_eq_true rfl) dX4_carryAll_12 (mE_pX 6 (x := 0) rfl) (fun H locs hR => ?_)
  replace hR : RW D 23 ad (mE ca ad B (cX X kq true (savTo B (X kq) 0) 0) Y kq) A s.heap _ _ := RW.eq hR (congrArg (fun x => mE ca ad B x Y kq) (cX_init (tk := true) hk))
  refine lv_aload_n hx hb dX4_carryAll_15 rfl (lv_at hl 0 rfl) ?_
  refine lv_aload_n hx hb dX4_carryAll_16 rfl (lv_at hl 0 rfl) ?_
  refine lv_aload_n hx hb dX4_carryAll_17 rfl (lv_at hl 0 rfl) ?_
  refine rw_get (v := .int (B 0 0)) hx hb hts in_X4 hown hK hR 0 (by decide) rfl rfl 0 (by decide) q1162 rfl rfl dX4_carryAll_18 ?_
  refine mm_calli (rest := [.ref (ad 0)]) hx hb hml hown hts hK hl.1 hR (m_X4_carry l D ca B Y X true (savTo B (X kq) 0) kq 0 (B 0 0) (by first | assumption | decide) (by omega)) (cwV 1 hts (lw_V q1320 q1322 qs40 q82 q1323) rfl rfl rfl cd_X4_carry ⟨Nat.le_of_ble_eq_true rfl, Nat.le_of_ble_eq_true rfl⟩) rfl rfl (Nat.le_of_ble_eq_true rfl) dX4_carryAll_21 ⟨Nat.le_refl _, Nat.le_refl _⟩ (fun H locs hR => ?_)
  refine rw_put hx hb hts in_X4 tyX4 tyX4_ok nmX4 hown hK hR 0 (by decide) rfl rfl 0 (by decide) q1162 rfl rfl rfl rfl (Nat.le_of_ble_eq_true rfl) dX4_carryAll_24 (mE_pB 0 (x := (if true = true then (B 0 0) else (savTo B (X kq) 0) 0)) rfl) (fun H locs hR => ?_)
  replace hR : RW D 23 ad (mE ca ad B (cX X kq true (savTo B (X kq) (0 + 1)) (0 + 1)) Y kq) A s.heap _ _ := RW.eq hR (by exact carT (q := 0) (r := 0) (i := 0) (z := 0) (w := fun _ => 0) rfl rfl)
  refine lv_aload_n hx hb dX4_carryAll_27 rfl (lv_at hl 0 rfl) ?_
  refine lv_aload_n hx hb dX4_carryAll_28 rfl (lv_at hl 0 rfl) ?_
  refine lv_aload_n hx hb dX4_carryAll_29 rfl (lv_at hl 0 rfl) ?_
  refine rw_get (v := .int (B 0 1)) hx hb hts in_X4 hown hK hR 0 (by decide) rfl rfl 6 (by decide) q1168 rfl rfl dX4_carryAll_30 ?_
  refine mm_calli (rest := [.ref (ad 0)]) hx hb hml hown hts hK hl.1 hR (m_X4_carry l D ca B Y X true (savTo B (X kq) (0 + 1)) kq (0 + 1) (B 0 1) (by first | assumption | decide) (by omega)) (cwV 1 hts (lw_V q1320 q1322 qs40 q82 q1323) rfl rfl rfl cd_X4_carry ⟨Nat.le_of_ble_eq_true rfl, Nat.le_of_ble_eq_true rfl⟩) rfl rfl (Nat.le_of_ble_eq_true rfl) dX4_carryAll_33 ⟨Nat.le_refl _, Nat.le_refl _⟩ (fun H locs hR => ?_)
  refine rw_put hx hb hts in_X4 tyX4 tyX4_ok nmX4 hown hK hR 0 (by decide) rfl rfl 6 (by decide) q1168 rfl rfl rfl rfl (Nat.le_of_ble_eq_true rfl) dX4_carryAll_36 (mE_pB 1 (x := (if true = true then (B 0 1) else (savTo B (X kq) (0 + 1)) (0 + 1))) rfl) (fun H locs hR => ?_)
  replace hR : RW D 23 ad (mE ca ad B (cX X kq true (savTo B (X kq) (1 + 1)) (1 + 1)) Y kq) A s.heap _ _ := RW.eq hR (by exact carT (q := 1) (r := 0) (i := 1) (z := 0) (w := fun _ => 0) rfl rfl)
  refine lv_iconst (v := 0) hx hb dX4_carryAll_39 (by decide) ?_
  refine lv_istore_n (lv' := [(3, .int 0), (0, .ref (ad 0)), (1, .ref (ad kq)), (2, .int 1)]) hx hb dX4_carryAll_40 rfl hl (by decide) rfl (fun ls hl => ?_)
  have loop_41 : ∀ (nn : Nat) (c : Nat), 6 - c < nn → (c ≤ 6) → ∀ (H : Heap) (locs : List Loc), RW D 23 ad (mE ca ad B (cX X kq true (savTo B (X kq) (2 + 5 * c)) (2 + 5 * c)) Y kq) A s.heap H locs → ∀ (ls : Array Slot), lv_has ls 4 [(0, .ref (ad 0)), (1, .ref (ad kq)), (2, .int 1), (3, .int (nI c))] → W p l e (rmN 1) s m args below meth c0 H locs 0 0 Q (F0 m 41 ls []) := by
    intro nn
    induction nn with
    | zero => intro c hm; exact absurd hm (Nat.not_lt_zero _)
    | succ nn ih_41 =>
      intro c hm_41 hc H locs hR ls hl
      refine lv_iload_n hx hb dX4_carryAll_41 rfl (lv_at hl 3 rfl) ?_
      refine lv_bipush (v := 6) hx hb dX4_carryAll_42 (by decide) ?_
      refine ln_ge (tgt := 133) hx hb (c) (6) rfl (by decide) (by omega) (by decide) dX4_carryAll_44 (by decide) (fun c_1 => ?_) (fun c_1 => ?_)
      · skip
        exact hQ _ _ _ _ (RW.eq hR (by rw [show c = 6 by omega])) dX4_carryAll_133
      · skip
        refine lv_aload_n hx hb dX4_carryAll_47 rfl (lv_at hl 0 rfl) ?_
        refine rw_get (v := .ref (ad 1)) hx hb hts in_X4 hown hK hR 0 (by decide) rfl rfl 1 (by decide) q1163 rfl rfl dX4_carryAll_48 ?_
        refine lv_iload_n hx hb dX4_carryAll_51 rfl (lv_at hl 3 rfl) ?_
        refine lv_aload_n hx hb dX4_carryAll_52 rfl (lv_at hl 0 rfl) ?_
        refine lv_aload_n hx hb dX4_carryAll_53 rfl (lv_at hl 0 rfl) ?_
        refine rw_get (v := .ref (ad 1)) hx hb hts in_X4 hown hK hR 0 (by decide) rfl rfl 1 (by decide) q1163 rfl rfl dX4_carryAll_54 ?_
        refine lv_iload_n hx hb dX4_carryAll_57 rfl (lv_at hl 3 rfl) ?_
        refine rw_ialdN (n := 6) hx hb hK hR 1 (by decide) rfl c rfl (by omega) (by decide) dX4_carryAll_58 ?_
        refine mm_calli (rest := [.int (nI c), .ref (ad 1)]) hx hb hml hown hts hK hl.1 hR (m_X4_carry l D ca B Y X true (savTo B (X kq) (2 + 5 * c)) kq (2 + 5 * c) (B 1 c) (by first | assumption | decide) (by omega)) (cwV 1 hts (lw_V q1320 q1322 qs40 q82 q1323) rfl rfl rfl cd_X4_carry ⟨Nat.le_of_ble_eq_true rfl, Nat.le_of_ble_eq_true rfl⟩) rfl rfl (Nat.le_of_ble_eq_true rfl) dX4_carryAll_59 ⟨Nat.le_refl _, Nat.le_refl _⟩ (fun H locs hR => ?_)
        refine rw_iastN (n := 6) hx hb hK hR 1 (by decide) rfl c rfl (by omega) (by decide) dX4_carryAll_62 (mE_B 1 (by decide)) (fun H locs hR => ?_)
        replace hR : RW D 23 ad (mE ca ad B (cX X kq true (savTo B (X kq) (2 + 5 * c + 1)) (2 + 5 * c + 1)) Y kq) A s.heap _ _ := RW.eq hR (by exact carT (q := 2 + 5 * c + 0) (r := 1) (i := c) (z := 0) (w := fun _ => 0) (rowOf_c (c := c) (k := 0) (by decide)) (idxOf_c (c := c) (k := 0) (by decide)))
        refine lv_aload_n hx hb dX4_carryAll_63 rfl (lv_at hl 0 rfl) ?_
        refine rw_get (v := .ref (ad 2)) hx hb hts in_X4 hown hK hR 0 (by decide) rfl rfl 2 (by decide) q1164 rfl rfl dX4_carryAll_64 ?_
        refine lv_iload_n hx hb dX4_carryAll_67 rfl (lv_at hl 3 rfl) ?_
        refine lv_aload_n hx hb dX4_carryAll_68 rfl (lv_at hl 0 rfl) ?_
        refine lv_aload_n hx hb dX4_carryAll_69 rfl (lv_at hl 0 rfl) ?_
        refine rw_get (v := .ref (ad 2)) hx hb hts in_X4 hown hK hR 0 (by decide) rfl rfl 2 (by decide) q1164 rfl rfl dX4_carryAll_70 ?_
        refine lv_iload_n hx hb dX4_carryAll_73 rfl (lv_at hl 3 rfl) ?_
        refine rw_ialdN (n := 6) hx hb hK hR 2 (by decide) rfl c rfl (by omega) (by decide) dX4_carryAll_74 ?_
        refine mm_calli (rest := [.int (nI c), .ref (ad 2)]) hx hb hml hown hts hK hl.1 hR (m_X4_carry l D ca B Y X true (savTo B (X kq) (2 + 5 * c + 1)) kq (2 + 5 * c + 1) (B 2 c) (by first | assumption | decide) (by omega)) (cwV 1 hts (lw_V q1320 q1322 qs40 q82 q1323) rfl rfl rfl cd_X4_carry ⟨Nat.le_of_ble_eq_true rfl, Nat.le_of_ble_eq_true rfl⟩) rfl rfl (Nat.le_of_ble_eq_true rfl) dX4_carryAll_75 ⟨Nat.le_refl _, Nat.le_refl _⟩ (fun H locs hR => ?_)
        refine rw_iastN (n := 6) hx hb hK hR 2 (by decide) rfl c rfl (by omega) (by decide) dX4_carryAll_78 (mE_B 2 (by decide)) (fun H locs hR => ?_)
        replace hR : RW D 23 ad (mE ca ad B (cX X kq true (savTo B (X kq) (2 + 5 * c + 1 + 1)) (2 + 5 * c + 1 + 1)) Y kq) A s.heap _ _ := RW.eq hR (by exact carT (q := 2 + 5 * c + 1) (r := 2) (i := c) (z := 0) (w := fun _ => 0) (rowOf_c (c := c) (k := 1) (by decide)) (idxOf_c (c := c) (k := 1) (by decide)))
        refine lv_aload_n hx hb dX4_carryAll_79 rfl (lv_at hl 0 rfl) ?_
        refine rw_get (v := .ref (ad 3)) hx hb hts in_X4 hown hK hR 0 (by decide) rfl rfl 3 (by decide) q1165 rfl rfl dX4_carryAll_80 ?_
        refine lv_iload_n hx hb dX4_carryAll_83 rfl (lv_at hl 3 rfl) ?_
        refine lv_aload_n hx hb dX4_carryAll_84 rfl (lv_at hl 0 rfl) ?_
        refine lv_aload_n hx hb dX4_carryAll_85 rfl (lv_at hl 0 rfl) ?_
        refine rw_get (v := .ref (ad 3)) hx hb hts in_X4 hown hK hR 0 (by decide) rfl rfl 3 (by decide) q1165 rfl rfl dX4_carryAll_86 ?_
        refine lv_iload_n hx hb dX4_carryAll_89 rfl (lv_at hl 3 rfl) ?_
        refine rw_ialdN (n := 6) hx hb hK hR 3 (by decide) rfl c rfl (by omega) (by decide) dX4_carryAll_90 ?_
        refine mm_calli (rest := [.int (nI c), .ref (ad 3)]) hx hb hml hown hts hK hl.1 hR (m_X4_carry l D ca B Y X true (savTo B (X kq) (2 + 5 * c + 1 + 1)) kq (2 + 5 * c + 1 + 1) (B 3 c) (by first | assumption | decide) (by omega)) (cwV 1 hts (lw_V q1320 q1322 qs40 q82 q1323) rfl rfl rfl cd_X4_carry ⟨Nat.le_of_ble_eq_true rfl, Nat.le_of_ble_eq_true rfl⟩) rfl rfl (Nat.le_of_ble_eq_true rfl) dX4_carryAll_91 ⟨Nat.le_refl _, Nat.le_refl _⟩ (fun H locs hR => ?_)
        refine rw_iastN (n := 6) hx hb hK hR 3 (by decide) rfl c rfl (by omega) (by decide) dX4_carryAll_94 (mE_B 3 (by decide)) (fun H locs hR => ?_)
        replace hR : RW D 23 ad (mE ca ad B (cX X kq true (savTo B (X kq) (2 + 5 * c + 2 + 1)) (2 + 5 * c + 2 + 1)) Y kq) A s.heap _ _ := RW.eq hR (by exact carT (q := 2 + 5 * c + 2) (r := 3) (i := c) (z := 0) (w := fun _ => 0) (rowOf_c (c := c) (k := 2) (by decide)) (idxOf_c (c := c) (k := 2) (by decide)))
        refine lv_aload_n hx hb dX4_carryAll_95 rfl (lv_at hl 0 rfl) ?_
        refine rw_get (v := .ref (ad 4)) hx hb hts in_X4 hown hK hR 0 (by decide) rfl rfl 4 (by decide) q1166 rfl rfl dX4_carryAll_96 ?_
        refine lv_iload_n hx hb dX4_carryAll_99 rfl (lv_at hl 3 rfl) ?_
        refine lv_aload_n hx hb dX4_carryAll_100 rfl (lv_at hl 0 rfl) ?_
        refine lv_aload_n hx hb dX4_carryAll_101 rfl (lv_at hl 0 rfl) ?_
        refine rw_get (v := .ref (ad 4)) hx hb hts in_X4 hown hK hR 0 (by decide) rfl rfl 4 (by decide) q1166 rfl rfl dX4_carryAll_102 ?_
        refine lv_iload_n hx hb dX4_carryAll_105 rfl (lv_at hl 3 rfl) ?_
        refine rw_ialdN (n := 6) hx hb hK hR 4 (by decide) rfl c rfl (by omega) (by decide) dX4_carryAll_106 ?_
        refine mm_calli (rest := [.int (nI c), .ref (ad 4)]) hx hb hml hown hts hK hl.1 hR (m_X4_carry l D ca B Y X true (savTo B (X kq) (2 + 5 * c + 2 + 1)) kq (2 + 5 * c + 2 + 1) (B 4 c) (by first | assumption | decide) (by omega)) (cwV 1 hts (lw_V q1320 q1322 qs40 q82 q1323) rfl rfl rfl cd_X4_carry ⟨Nat.le_of_ble_eq_true rfl, Nat.le_of_ble_eq_true rfl⟩) rfl rfl (Nat.le_of_ble_eq_true rfl) dX4_carryAll_107 ⟨Nat.le_refl _, Nat.le_refl _⟩ (fun H locs hR => ?_)
        refine rw_iastN (n := 6) hx hb hK hR 4 (by decide) rfl c rfl (by omega) (by decide) dX4_carryAll_110 (mE_B 4 (by decide)) (fun H locs hR => ?_)
        replace hR : RW D 23 ad (mE ca ad B (cX X kq true (savTo B (X kq) (2 + 5 * c + 3 + 1)) (2 + 5 * c + 3 + 1)) Y kq) A s.heap _ _ := RW.eq hR (by exact carT (q := 2 + 5 * c + 3) (r := 4) (i := c) (z := 0) (w := fun _ => 0) (rowOf_c (c := c) (k := 3) (by decide)) (idxOf_c (c := c) (k := 3) (by decide)))
        refine lv_aload_n hx hb dX4_carryAll_111 rfl (lv_at hl 0 rfl) ?_
        refine rw_get (v := .ref (ad 5)) hx hb hts in_X4 hown hK hR 0 (by decide) rfl rfl 5 (by decide) q1167 rfl rfl dX4_carryAll_112 ?_
        refine lv_iload_n hx hb dX4_carryAll_115 rfl (lv_at hl 3 rfl) ?_
        refine lv_aload_n hx hb dX4_carryAll_116 rfl (lv_at hl 0 rfl) ?_
        refine lv_aload_n hx hb dX4_carryAll_117 rfl (lv_at hl 0 rfl) ?_
        refine rw_get (v := .ref (ad 5)) hx hb hts in_X4 hown hK hR 0 (by decide) rfl rfl 5 (by decide) q1167 rfl rfl dX4_carryAll_118 ?_
        refine lv_iload_n hx hb dX4_carryAll_121 rfl (lv_at hl 3 rfl) ?_
        refine rw_ialdN (n := 6) hx hb hK hR 5 (by decide) rfl c rfl (by omega) (by decide) dX4_carryAll_122 ?_
        refine mm_calli (rest := [.int (nI c), .ref (ad 5)]) hx hb hml hown hts hK hl.1 hR (m_X4_carry l D ca B Y X true (savTo B (X kq) (2 + 5 * c + 3 + 1)) kq (2 + 5 * c + 3 + 1) (B 5 c) (by first | assumption | decide) (by omega)) (cwV 1 hts (lw_V q1320 q1322 qs40 q82 q1323) rfl rfl rfl cd_X4_carry ⟨Nat.le_of_ble_eq_true rfl, Nat.le_of_ble_eq_true rfl⟩) rfl rfl (Nat.le_of_ble_eq_true rfl) dX4_carryAll_123 ⟨Nat.le_refl _, Nat.le_refl _⟩ (fun H locs hR => ?_)
        refine rw_iastN (n := 6) hx hb hK hR 5 (by decide) rfl c rfl (by omega) (by decide) dX4_carryAll_126 (mE_B 5 (by decide)) (fun H locs hR => ?_)
        replace hR : RW D 23 ad (mE ca ad B (cX X kq true (savTo B (X kq) (2 + 5 * c + 4 + 1)) (2 + 5 * c + 4 + 1)) Y kq) A s.heap _ _ := RW.eq hR (by exact carT (q := 2 + 5 * c + 4) (r := 5) (i := c) (z := 0) (w := fun _ => 0) (rowOf_c (c := c) (k := 4) (by decide)) (idxOf_c (c := c) (k := 4) (by decide)))
        refine lv_iinc (v := (nI (c + 1))) (lv' := [(3, .int (nI (c + 1))), (0, .ref (ad 0)), (1, .ref (ad kq)), (2, .int 1)]) hx hb dX4_carryAll_127 hl (k := 3) rfl (nI_1 c) (by decide) rfl (fun ls hl => ?_)
        refine lv_goto (tgt := 41) hx hb dX4_carryAll_130 (by decide) ?_
        exact ih_41 (c + 1) (by omega) (by omega) _ _ (RW.eq hR (by rfl)) ls (lv_sub hl [1, 2, 3, 0] rfl)
  exact loop_41 _ 0 (Nat.lt_succ_self _) (by omega) _ _ (RW.eq hR (by rfl)) ls (lv_sub hl [1, 2, 3, 0] rfl)
set_option maxHeartbeats 4000000 in
theorem m_X4_carryAll_F (l : Launch) (D : va_G) (ca : Nat → ClassId) (B X : Nat → Nat → Int32) (Y : Nat → Nat → Int64) (kp : Nat) (kq : Nat) (hk : okq kq) : MMv l D ca yX4_carryAll (ws_ yX4_carryAll cX4_carryAll 4 none) (rmN 1) (fun ad => [.ref (ad kq), .int 0]) B X Y kp (ldTo B (X kq) 32) (cX X kq false (X kq) 32) Y kq := by
  refine MMv_start (by decide) (fun _ => Nat.le_of_ble_eq_true rfl) ?_
  intro p e s m args below meth c0 ad A Q ls hx hb hml hown hts hK hR hl hQ
  have hl : lv_has ls 4 [(0, .ref (ad 0)), (1, .ref (ad kq)), (2, .int 0)] := hl
  refine lv_aload_n hx hb dX4_carryAll_0 rfl (lv_at hl 0 rfl) ?_
  refine lv_aload_n hx hb dX4_carryAll_1 rfl (lv_at hl 1 rfl) ?_
  refine rw_put hx hb hts in_X4 tyX4 tyX4_ok nmX4 hown hK hR 0 (by decide) rfl rfl 26 (by decide) q1188 rfl rfl rfl rfl (Nat.le_of_ble_eq_true rfl) dX4_carryAll_2 (mE_pK (kp' := kq) (mF_kset hk)) (fun H locs hR => ?_)
  refine lv_aload_n hx hb dX4_carryAll_5 rfl (lv_at hl 0 rfl) ?_
  refine lv_iload_n hx hb dX4_carryAll_6 rfl (lv_at hl 2 rfl) ?_
  refine rw_put hx hb hts in_X4 tyX4 tyX4_ok nmX4 hown hK hR 0 (by decide) rfl rfl 25 (by decide) q1187 rfl rfl rfl rfl (Nat.le_of_ble_eq_true rfl) dX4_carryAll_7 (mE_pX 7 (x := 0) rfl) (fun H locs hR => ?_)
  refine lv_aload_n hx hb dX4_carryAll_10 rfl (lv_at hl 0 rfl) ?_
  refine lv_iconst (v := 0) hx hb dX4_carryAll_11 (by decide) ?_
  refine rw_put hx hb hts in_X4 tyX4 tyX4_ok nmX4 hown hK hR 0 (by decide) rfl rfl 24 (by decide) q1186 rfl rfl rfl rfl (Nat.le_of_ble_eq_true rfl) dX4_carryAll_12 (mE_pX 6 (x := 0) rfl) (fun H locs hR => ?_)
  replace hR : RW D 23 ad (mE ca ad (ldTo B (X kq) 0) (cX X kq false (X kq) 0) Y kq) A s.heap _ _ := RW.eq hR (congrArg (fun x => mE ca ad B x Y kq) (cX_init (tk := false) hk))
  refine lv_aload_n hx hb dX4_carryAll_15 rfl (lv_at hl 0 rfl) ?_
  refine lv_aload_n hx hb dX4_carryAll_16 rfl (lv_at hl 0 rfl) ?_
  refine lv_aload_n hx hb dX4_carryAll_17 rfl (lv_at hl 0 rfl) ?_
  refine rw_get (v := .int ((ldTo B (X kq) 0) 0 0)) hx hb hts in_X4 hown hK hR 0 (by decide) rfl rfl 0 (by decide) q1162 rfl rfl dX4_carryAll_18 ?_
  refine mm_calli (rest := [.ref (ad 0)]) hx hb hml hown hts hK hl.1 hR (m_X4_carry l D ca (ldTo B (X kq) 0) Y X false (X kq) kq 0 ((ldTo B (X kq) 0) 0 0) (by first | assumption | decide) (by omega)) (cwV 1 hts (lw_V q1320 q1322 qs40 q82 q1323) rfl rfl rfl cd_X4_carry ⟨Nat.le_of_ble_eq_true rfl, Nat.le_of_ble_eq_true rfl⟩) rfl rfl (Nat.le_of_ble_eq_true rfl) dX4_carryAll_21 ⟨Nat.le_refl _, Nat.le_refl _⟩ (fun H locs hR => ?_)
  refine rw_put hx hb hts in_X4 tyX4 tyX4_ok nmX4 hown hK hR 0 (by decide) rfl rfl 0 (by decide) q1162 rfl rfl rfl rfl (Nat.le_of_ble_eq_true rfl) dX4_carryAll_24 (mE_pB 0 (x := (if false = true then ((ldTo B (X kq) 0) 0 0) else (X kq) 0)) rfl) (fun H locs hR => ?_)
  replace hR : RW D 23 ad (mE ca ad (ldTo B (X kq) (0 + 1)) (cX X kq false (X kq) (0 + 1)) Y kq) A s.heap _ _ := RW.eq hR (by exact carF (q := 0) (r := 0) (i := 0) (z := 0) (w := fun _ => 0) rfl rfl)
  refine lv_aload_n hx hb dX4_carryAll_27 rfl (lv_at hl 0 rfl) ?_
  refine lv_aload_n hx hb dX4_carryAll_28 rfl (lv_at hl 0 rfl) ?_
  refine lv_aload_n hx hb dX4_carryAll_29 rfl (lv_at hl 0 rfl) ?_
  refine rw_get (v := .int ((ldTo B (X kq) (0 + 1)) 0 1)) hx hb hts in_X4 hown hK hR 0 (by decide) rfl rfl 6 (by decide) q1168 rfl rfl dX4_carryAll_30 ?_
  refine mm_calli (rest := [.ref (ad 0)]) hx hb hml hown hts hK hl.1 hR (m_X4_carry l D ca (ldTo B (X kq) (0 + 1)) Y X false (X kq) kq (0 + 1) ((ldTo B (X kq) (0 + 1)) 0 1) (by first | assumption | decide) (by omega)) (cwV 1 hts (lw_V q1320 q1322 qs40 q82 q1323) rfl rfl rfl cd_X4_carry ⟨Nat.le_of_ble_eq_true rfl, Nat.le_of_ble_eq_true rfl⟩) rfl rfl (Nat.le_of_ble_eq_true rfl) dX4_carryAll_33 ⟨Nat.le_refl _, Nat.le_refl _⟩ (fun H locs hR => ?_)
  refine rw_put hx hb hts in_X4 tyX4 tyX4_ok nmX4 hown hK hR 0 (by decide) rfl rfl 6 (by decide) q1168 rfl rfl rfl rfl (Nat.le_of_ble_eq_true rfl) dX4_carryAll_36 (mE_pB 1 (x := (if false = true then ((ldTo B (X kq) (0 + 1)) 0 1) else (X kq) (0 + 1))) rfl) (fun H locs hR => ?_)
  replace hR : RW D 23 ad (mE ca ad (ldTo B (X kq) (1 + 1)) (cX X kq false (X kq) (1 + 1)) Y kq) A s.heap _ _ := RW.eq hR (by exact carF (q := 1) (r := 0) (i := 1) (z := 0) (w := fun _ => 0) rfl rfl)
  refine lv_iconst (v := 0) hx hb dX4_carryAll_39 (by decide) ?_
  refine lv_istore_n (lv' := [(3, .int 0), (0, .ref (ad 0)), (1, .ref (ad kq)), (2, .int 0)]) hx hb dX4_carryAll_40 rfl hl (by decide) rfl (fun ls hl => ?_)
  have loop_41 : ∀ (nn : Nat) (c : Nat), 6 - c < nn → (c ≤ 6) → ∀ (H : Heap) (locs : List Loc), RW D 23 ad (mE ca ad (ldTo B (X kq) (2 + 5 * c)) (cX X kq false (X kq) (2 + 5 * c)) Y kq) A s.heap H locs → ∀ (ls : Array Slot), lv_has ls 4 [(0, .ref (ad 0)), (1, .ref (ad kq)), (2, .int 0), (3, .int (nI c))] → W p l e (rmN 1) s m args below meth c0 H locs 0 0 Q (F0 m 41 ls []) := by
    intro nn
    induction nn with
    | zero => intro c hm; exact absurd hm (Nat.not_lt_zero _)
    | succ nn ih_41 =>
      intro c hm_41 hc H locs hR ls hl
      refine lv_iload_n hx hb dX4_carryAll_41 rfl (lv_at hl 3 rfl) ?_
      refine lv_bipush (v := 6) hx hb dX4_carryAll_42 (by decide) ?_
      refine ln_ge (tgt := 133) hx hb (c) (6) rfl (by decide) (by omega) (by decide) dX4_carryAll_44 (by decide) (fun c_1 => ?_) (fun c_1 => ?_)
      · skip
        exact hQ _ _ _ _ (RW.eq hR (by rw [show c = 6 by omega])) dX4_carryAll_133
      · skip
        refine lv_aload_n hx hb dX4_carryAll_47 rfl (lv_at hl 0 rfl) ?_
        refine rw_get (v := .ref (ad 1)) hx hb hts in_X4 hown hK hR 0 (by decide) rfl rfl 1 (by decide) q1163 rfl rfl dX4_carryAll_48 ?_
        refine lv_iload_n hx hb dX4_carryAll_51 rfl (lv_at hl 3 rfl) ?_
        refine lv_aload_n hx hb dX4_carryAll_52 rfl (lv_at hl 0 rfl) ?_
        refine lv_aload_n hx hb dX4_carryAll_53 rfl (lv_at hl 0 rfl) ?_
        refine rw_get (v := .ref (ad 1)) hx hb hts in_X4 hown hK hR 0 (by decide) rfl rfl 1 (by decide) q1163 rfl rfl dX4_carryAll_54 ?_
        refine lv_iload_n hx hb dX4_carryAll_57 rfl (lv_at hl 3 rfl) ?_
        refine rw_ialdN (n := 6) hx hb hK hR 1 (by decide) rfl c rfl (by omega) (by decide) dX4_carryAll_58 ?_
        refine mm_calli (rest := [.int (nI c), .ref (ad 1)]) hx hb hml hown hts hK hl.1 hR (m_X4_carry l D ca (ldTo B (X kq) (2 + 5 * c)) Y X false (X kq) kq (2 + 5 * c) ((ldTo B (X kq) (2 + 5 * c)) 1 c) (by first | assumption | decide) (by omega)) (cwV 1 hts (lw_V q1320 q1322 qs40 q82 q1323) rfl rfl rfl cd_X4_carry ⟨Nat.le_of_ble_eq_true rfl, Nat.le_of_ble_eq_true rfl⟩) rfl rfl (Nat.le_of_ble_eq_true rfl) dX4_carryAll_59 ⟨Nat.le_refl _, Nat.le_refl _⟩ (fun H locs hR => ?_)
        refine rw_iastN (n := 6) hx hb hK hR 1 (by decide) rfl c rfl (by omega) (by decide) dX4_carryAll_62 (mE_B 1 (by decide)) (fun H locs hR => ?_)
        replace hR : RW D 23 ad (mE ca ad (ldTo B (X kq) (2 + 5 * c + 1)) (cX X kq false (X kq) (2 + 5 * c + 1)) Y kq) A s.heap _ _ := RW.eq hR (by exact carF (q := 2 + 5 * c + 0) (r := 1) (i := c) (z := 0) (w := fun _ => 0) (rowOf_c (c := c) (k := 0) (by decide)) (idxOf_c (c := c) (k := 0) (by decide)))
        refine lv_aload_n hx hb dX4_carryAll_63 rfl (lv_at hl 0 rfl) ?_
        refine rw_get (v := .ref (ad 2)) hx hb hts in_X4 hown hK hR 0 (by decide) rfl rfl 2 (by decide) q1164 rfl rfl dX4_carryAll_64 ?_
        refine lv_iload_n hx hb dX4_carryAll_67 rfl (lv_at hl 3 rfl) ?_
        refine lv_aload_n hx hb dX4_carryAll_68 rfl (lv_at hl 0 rfl) ?_
        refine lv_aload_n hx hb dX4_carryAll_69 rfl (lv_at hl 0 rfl) ?_
        refine rw_get (v := .ref (ad 2)) hx hb hts in_X4 hown hK hR 0 (by decide) rfl rfl 2 (by decide) q1164 rfl rfl dX4_carryAll_70 ?_
        refine lv_iload_n hx hb dX4_carryAll_73 rfl (lv_at hl 3 rfl) ?_
        refine rw_ialdN (n := 6) hx hb hK hR 2 (by decide) rfl c rfl (by omega) (by decide) dX4_carryAll_74 ?_
        refine mm_calli (rest := [.int (nI c), .ref (ad 2)]) hx hb hml hown hts hK hl.1 hR (m_X4_carry l D ca (ldTo B (X kq) (2 + 5 * c + 1)) Y X false (X kq) kq (2 + 5 * c + 1) ((ldTo B (X kq) (2 + 5 * c + 1)) 2 c) (by first | assumption | decide) (by omega)) (cwV 1 hts (lw_V q1320 q1322 qs40 q82 q1323) rfl rfl rfl cd_X4_carry ⟨Nat.le_of_ble_eq_true rfl, Nat.le_of_ble_eq_true rfl⟩) rfl rfl (Nat.le_of_ble_eq_true rfl) dX4_carryAll_75 ⟨Nat.le_refl _, Nat.le_refl _⟩ (fun H locs hR => ?_)
        refine rw_iastN (n := 6) hx hb hK hR 2 (by decide) rfl c rfl (by omega) (by decide) dX4_carryAll_78 (mE_B 2 (by decide)) (fun H locs hR => ?_)
        replace hR : RW D 23 ad (mE ca ad (ldTo B (X kq) (2 + 5 * c + 1 + 1)) (cX X kq false (X kq) (2 + 5 * c + 1 + 1)) Y kq) A s.heap _ _ := RW.eq hR (by exact carF (q := 2 + 5 * c + 1) (r := 2) (i := c) (z := 0) (w := fun _ => 0) (rowOf_c (c := c) (k := 1) (by decide)) (idxOf_c (c := c) (k := 1) (by decide)))
        refine lv_aload_n hx hb dX4_carryAll_79 rfl (lv_at hl 0 rfl) ?_
        refine rw_get (v := .ref (ad 3)) hx hb hts in_X4 hown hK hR 0 (by decide) rfl rfl 3 (by decide) q1165 rfl rfl dX4_carryAll_80 ?_
        refine lv_iload_n hx hb dX4_carryAll_83 rfl (lv_at hl 3 rfl) ?_
        refine lv_aload_n hx hb dX4_carryAll_84 rfl (lv_at hl 0 rfl) ?_
        refine lv_aload_n hx hb dX4_carryAll_85 rfl (lv_at hl 0 rfl) ?_
        refine rw_get (v := .ref (ad 3)) hx hb hts in_X4 hown hK hR 0 (by decide) rfl rfl 3 (by decide) q1165 rfl rfl dX4_carryAll_86 ?_
        refine lv_iload_n hx hb dX4_carryAll_89 rfl (lv_at hl 3 rfl) ?_
        refine rw_ialdN (n := 6) hx hb hK hR 3 (by decide) rfl c rfl (by omega) (by decide) dX4_carryAll_90 ?_
        refine mm_calli (rest := [.int (nI c), .ref (ad 3)]) hx hb hml hown hts hK hl.1 hR (m_X4_carry l D ca (ldTo B (X kq) (2 + 5 * c + 1 + 1)) Y X false (X kq) kq (2 + 5 * c + 1 + 1) ((ldTo B (X kq) (2 + 5 * c + 1 + 1)) 3 c) (by first | assumption | decide) (by omega)) (cwV 1 hts (lw_V q1320 q1322 qs40 q82 q1323) rfl rfl rfl cd_X4_carry ⟨Nat.le_of_ble_eq_true rfl, Nat.le_of_ble_eq_true rfl⟩) rfl rfl (Nat.le_of_ble_eq_true rfl) dX4_carryAll_91 ⟨Nat.le_refl _, Nat.le_refl _⟩ (fun H locs hR => ?_)
        refine rw_iastN (n := 6) hx hb hK hR 3 (by decide) rfl c rfl (by omega) (by decide) dX4_carryAll_94 (mE_B 3 (by decide)) (fun H locs hR => ?_)
        replace hR : RW D 23 ad (mE ca ad (ldTo B (X kq) (2 + 5 * c + 2 + 1)) (cX X kq false (X kq) (2 + 5 * c + 2 + 1)) Y kq) A s.heap _ _ := RW.eq hR (by exact carF (q := 2 + 5 * c + 2) (r := 3) (i := c) (z := 0) (w := fun _ => 0) (rowOf_c (c := c) (k := 2) (by decide)) (idxOf_c (c := c) (k := 2) (by decide)))
        refine lv_aload_n hx hb dX4_carryAll_95 rfl (lv_at hl 0 rfl) ?_
        refine rw_get (v := .ref (ad 4)) hx hb hts in_X4 hown hK hR 0 (by decide) rfl rfl 4 (by decide) q1166 rfl rfl dX4_carryAll_96 ?_
        refine lv_iload_n hx hb dX4_carryAll_99 rfl (lv_at hl 3 rfl) ?_
        refine lv_aload_n hx hb dX4_carryAll_100 rfl (lv_at hl 0 rfl) ?_
        refine lv_aload_n hx hb dX4_carryAll_101 rfl (lv_at hl 0 rfl) ?_
        refine rw_get (v := .ref (ad 4)) hx hb hts in_X4 hown hK hR 0 (by decide) rfl rfl 4 (by decide) q1166 rfl rfl dX4_carryAll_102 ?_
        refine lv_iload_n hx hb dX4_carryAll_105 rfl (lv_at hl 3 rfl) ?_
        refine rw_ialdN (n := 6) hx hb hK hR 4 (by decide) rfl c rfl (by omega) (by decide) dX4_carryAll_106 ?_
        refine mm_calli (rest := [.int (nI c), .ref (ad 4)]) hx hb hml hown hts hK hl.1 hR (m_X4_carry l D ca (ldTo B (X kq) (2 + 5 * c + 2 + 1)) Y X false (X kq) kq (2 + 5 * c + 2 + 1) ((ldTo B (X kq) (2 + 5 * c + 2 + 1)) 4 c) (by first | assumption | decide) (by omega)) (cwV 1 hts (lw_V q1320 q1322 qs40 q82 q1323) rfl rfl rfl cd_X4_carry ⟨Nat.le_of_ble_eq_true rfl, Nat.le_of_ble_eq_true rfl⟩) rfl rfl (Nat.le_of_ble_eq_true rfl) dX4_carryAll_107 ⟨Nat.le_refl _, Nat.le_refl _⟩ (fun H locs hR => ?_)
        refine rw_iastN (n := 6) hx hb hK hR 4 (by decide) rfl c rfl (by omega) (by decide) dX4_carryAll_110 (mE_B 4 (by decide)) (fun H locs hR => ?_)
        replace hR : RW D 23 ad (mE ca ad (ldTo B (X kq) (2 + 5 * c + 3 + 1)) (cX X kq false (X kq) (2 + 5 * c + 3 + 1)) Y kq) A s.heap _ _ := RW.eq hR (by exact carF (q := 2 + 5 * c + 3) (r := 4) (i := c) (z := 0) (w := fun _ => 0) (rowOf_c (c := c) (k := 3) (by decide)) (idxOf_c (c := c) (k := 3) (by decide)))
        refine lv_aload_n hx hb dX4_carryAll_111 rfl (lv_at hl 0 rfl) ?_
        refine rw_get (v := .ref (ad 5)) hx hb hts in_X4 hown hK hR 0 (by decide) rfl rfl 5 (by decide) q1167 rfl rfl dX4_carryAll_112 ?_
        refine lv_iload_n hx hb dX4_carryAll_115 rfl (lv_at hl 3 rfl) ?_
        refine lv_aload_n hx hb dX4_carryAll_116 rfl (lv_at hl 0 rfl) ?_
        refine lv_aload_n hx hb dX4_carryAll_117 rfl (lv_at hl 0 rfl) ?_
        refine rw_get (v := .ref (ad 5)) hx hb hts in_X4 hown hK hR 0 (by decide) rfl rfl 5 (by decide) q1167 rfl rfl dX4_carryAll_118 ?_
        refine lv_iload_n hx hb dX4_carryAll_121 rfl (lv_at hl 3 rfl) ?_
        refine rw_ialdN (n := 6) hx hb hK hR 5 (by decide) rfl c rfl (by omega) (by decide) dX4_carryAll_122 ?_
        refine mm_calli (rest := [.int (nI c), .ref (ad 5)]) hx hb hml hown hts hK hl.1 hR (m_X4_carry l D ca (ldTo B (X kq) (2 + 5 * c + 3 + 1)) Y X false (X kq) kq (2 + 5 * c + 3 + 1) ((ldTo B (X kq) (2 + 5 * c + 3 + 1)) 5 c) (by first | assumption | decide) (by omega)) (cwV 1 hts (lw_V q1320 q1322 qs40 q82 q1323) rfl rfl rfl cd_X4_carry ⟨Nat.le_of_ble_eq_true rfl, Nat.le_of_ble_eq_true rfl⟩) rfl rfl (Nat.le_of_ble_eq_true rfl) dX4_carryAll_123 ⟨Nat.le_refl _, Nat.le_refl _⟩ (fun H locs hR => ?_)
        refine rw_iastN (n := 6) hx hb hK hR 5 (by decide) rfl c rfl (by omega) (by decide) dX4_carryAll_126 (mE_B 5 (by decide)) (fun H locs hR => ?_)
        replace hR : RW D 23 ad (mE ca ad (ldTo B (X kq) (2 + 5 * c + 4 + 1)) (cX X kq false (X kq) (2 + 5 * c + 4 + 1)) Y kq) A s.heap _ _ := RW.eq hR (by exact carF (q := 2 + 5 * c + 4) (r := 5) (i := c) (z := 0) (w := fun _ => 0) (rowOf_c (c := c) (k := 4) (by decide)) (idxOf_c (c := c) (k := 4) (by decide)))
        refine lv_iinc (v := (nI (c + 1))) (lv' := [(3, .int (nI (c + 1))), (0, .ref (ad 0)), (1, .ref (ad kq)), (2, .int 0)]) hx hb dX4_carryAll_127 hl (k := 3) rfl (nI_1 c) (by decide) rfl (fun ls hl => ?_)
        refine lv_goto (tgt := 41) hx hb dX4_carryAll_130 (by decide) ?_
        exact ih_41 (c + 1) (by omega) (by omega) _ _ (RW.eq hR (by rfl)) ls (lv_sub hl [1, 2, 3, 0] rfl)
  exact loop_41 _ 0 (Nat.lt_succ_self _) (by omega) _ _ (RW.eq hR (by rfl)) ls (lv_sub hl [1, 2, 3, 0] rfl)
