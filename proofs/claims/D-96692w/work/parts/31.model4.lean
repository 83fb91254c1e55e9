/-! the model: its first calls -/
set_option maxRecDepth 100000
theorem cd_X4_open : yX4_open.cls = RX4 ∧ yX4_open.cls ≠ "java/lang/invoke/MethodHandle" ∧ yX4_open.cls ≠ "java/lang/invoke/VarHandle" ∧ (parseMethodDescriptor yX4_open.desc).map (fun d => d.parameters.length) = some 0 := by decide +kernel
set_option maxHeartbeats 4000000 in
theorem m_X4_open (l : Launch) (D : va_G) (ca : Nat → ClassId) (n : Nat) (B X : Nat → Nat → Int32) (Y : Nat → Nat → Int64) (kp : Nat)  (hB : wfB n B) : MMgv l D ca yX4_open (ws_ yX4_open cX4_open 1 none) (rmN 2) (fun ad => []) B X Y kp B Y (fun X1 kp1 => frX X X1 15 ∧ (∀ q, q < 32 → X1 15 q = pk B q)) := by
  refine MMgv_start (by decide) (fun _ => Nat.le_of_ble_eq_true rfl) ?_
  intro p e s m args below meth c0 ad A Q ls hx hb hml hown hts hK hR hl hQ
  have hl : lv_has ls 1 [(0, .ref (ad 0))] := hl
  have hn6 : n ≤ 6 := hB.1
  refine lv_aload_n hx hb dX4_open_0 rfl (lv_at hl 0 rfl) ?_
  refine lv_aload_n hx hb dX4_open_1 rfl (lv_at hl 0 rfl) ?_
  refine rw_get (v := .ref (ad 15)) hx hb hts in_X4 hown hK hR 0 (by decide) rfl rfl 21 (by decide) q1183 rfl rfl dX4_open_2 ?_
  refine lv_iconst (v := 1) hx hb dX4_open_5 (by decide) ?_
  refine mm_callv (rest := []) hx hb hml hown hts hK hl.1 hR (m_X4_carryAll_T l D ca B X Y kp 15 (by first | assumption | decide)) (cwV 2 hts (lw_V q1316 q1318 qs39 q82 q1319) rfl rfl rfl cd_X4_carryAll ⟨Nat.le_of_ble_eq_true rfl, Nat.le_of_ble_eq_true rfl⟩) rfl rfl (Nat.le_of_ble_eq_true rfl) dX4_open_6 ⟨Nat.le_refl _, Nat.le_refl _⟩ (fun H locs hR => ?_)
  exact hQ _ _ _ _ (cX X 15 true (savTo B (X 15) 32) 32) 15 (by exact ⟨frX_cX (by decide), fun q h => sav_get 32 q h⟩) hR dX4_open_9
theorem cd_X4_close : yX4_close.cls = RX4 ∧ yX4_close.cls ≠ "java/lang/invoke/MethodHandle" ∧ yX4_close.cls ≠ "java/lang/invoke/VarHandle" ∧ (parseMethodDescriptor yX4_close.desc).map (fun d => d.parameters.length) = some 0 := by decide +kernel
set_option maxHeartbeats 4000000 in
theorem m_X4_close (l : Launch) (D : va_G) (ca : Nat → ClassId) (n : Nat) (B X : Nat → Nat → Int32) (Y : Nat → Nat → Int64) (kp : Nat) (n0 : Nat) (B0 : Nat → Nat → Int32) (hB : wfB n B) (h0 : wfB n0 B0) (hkept : ∀ q, q < 32 → X 15 q = pk B0 q) : MMgv l D ca yX4_close (ws_ yX4_close cX4_close 1 none) (rmN 2) (fun ad => []) B X Y kp B0 Y (fun X1 kp1 => frX X X1 15 ∧ X1 15 = X 15) := by
  refine MMgv_start (by decide) (fun _ => Nat.le_of_ble_eq_true rfl) ?_
  intro p e s m args below meth c0 ad A Q ls hx hb hml hown hts hK hR hl hQ
  have hl : lv_has ls 1 [(0, .ref (ad 0))] := hl
  have hn6 : n ≤ 6 := hB.1
  refine lv_aload_n hx hb dX4_close_0 rfl (lv_at hl 0 rfl) ?_
  refine lv_aload_n hx hb dX4_close_1 rfl (lv_at hl 0 rfl) ?_
  refine rw_get (v := .ref (ad 15)) hx hb hts in_X4 hown hK hR 0 (by decide) rfl rfl 21 (by decide) q1183 rfl rfl dX4_close_2 ?_
  refine lv_iconst (v := 0) hx hb dX4_close_5 (by decide) ?_
  refine mm_callv (rest := []) hx hb hml hown hts hK hl.1 hR (m_X4_carryAll_F l D ca B X Y kp 15 (by first | assumption | decide)) (cwV 2 hts (lw_V q1316 q1318 qs39 q82 q1319) rfl rfl rfl cd_X4_carryAll ⟨Nat.le_of_ble_eq_true rfl, Nat.le_of_ble_eq_true rfl⟩) rfl rfl (Nat.le_of_ble_eq_true rfl) dX4_close_6 ⟨Nat.le_refl _, Nat.le_refl _⟩ (fun H locs hR => ?_)
  exact hQ _ _ _ _ (cX X 15 false (X 15) 32) 15 (by exact ⟨frX_cX (by decide), rfl⟩) (RW.eq hR (by rw [ld_sav hkept hB.2.2.2.2.2.2.2 h0.2.2.2.2.2.2.2])) dX4_close_9
theorem cd_X4_image : yX4_image.cls = RX4 ∧ yX4_image.cls ≠ "java/lang/invoke/MethodHandle" ∧ yX4_image.cls ≠ "java/lang/invoke/VarHandle" ∧ (parseMethodDescriptor yX4_image.desc).map (fun d => d.parameters.length) = some 0 := by decide +kernel
set_option maxHeartbeats 4000000 in
theorem m_X4_image (l : Launch) (D : va_G) (ca : Nat → ClassId) (n : Nat) (B X : Nat → Nat → Int32) (Y : Nat → Nat → Int64) (kp : Nat)  (hB : wfB n B) : MMgi l D ca yX4_image (ws_ yX4_image cX4_image 1 (some .int)) (rmN 2) (fun ad => []) B X Y kp (B 0 1) B Y (fun X1 kp1 => (∀ r, r ≠ 0 → r ≠ 16 → X1 r = X r) ∧ (∀ q, q < 32 → X1 16 q = pk B q) ∧ X1 0 5 = 1) := by
  refine MMgi_start (by decide) (Or.inl rfl) (fun _ => Nat.le_of_ble_eq_true rfl) ?_
  intro p e s m args below meth c0 ad A Q ls hx hb hml hown hts hK hR hl hQ
  have hl : lv_has ls 1 [(0, .ref (ad 0))] := hl
  have hn6 : n ≤ 6 := hB.1
  refine lv_aload_n hx hb dX4_image_0 rfl (lv_at hl 0 rfl) ?_
  refine lv_iconst (v := 0) hx hb dX4_image_1 (by decide) ?_
  refine rw_put hx hb hts in_X4 tyX4 tyX4_ok nmX4 hown hK hR 0 (by decide) rfl rfl 13 (by decide) q1175 rfl rfl rfl rfl (Nat.le_of_ble_eq_true rfl) dX4_image_2 (mE_pX 0 (x := 0) rfl) (fun H locs hR => ?_)
  refine lv_aload_n hx hb dX4_image_5 rfl (lv_at hl 0 rfl) ?_
  refine lv_iconst (v := 1) hx hb dX4_image_6 (by decide) ?_
  refine rw_put hx hb hts in_X4 tyX4 tyX4_ok nmX4 hown hK hR 0 (by decide) rfl rfl 23 (by decide) q1185 rfl rfl rfl rfl (Nat.le_of_ble_eq_true rfl) dX4_image_7 (mE_pX 5 (x := 1) rfl) (fun H locs hR => ?_)
  refine lv_aload_n hx hb dX4_image_10 rfl (lv_at hl 0 rfl) ?_
  refine lv_aload_n hx hb dX4_image_11 rfl (lv_at hl 0 rfl) ?_
  refine rw_get (v := .ref (ad 16)) hx hb hts in_X4 hown hK hR 0 (by decide) rfl rfl 22 (by decide) q1184 rfl rfl dX4_image_12 ?_
  refine lv_iconst (v := 1) hx hb dX4_image_15 (by decide) ?_
  refine mm_callv (rest := []) hx hb hml hown hts hK hl.1 hR (m_X4_carryAll_T l D ca B (st (st X 0 0 0) 0 5 1) Y kp 16 (by first | assumption | decide)) (cwV 2 hts (lw_V q1316 q1318 qs39 q82 q1319) rfl rfl rfl cd_X4_carryAll ⟨Nat.le_of_ble_eq_true rfl, Nat.le_of_ble_eq_true rfl⟩) rfl rfl (Nat.le_of_ble_eq_true rfl) dX4_image_16 ⟨Nat.le_refl _, Nat.le_refl _⟩ (fun H locs hR => ?_)
  refine lv_aload_n hx hb dX4_image_19 rfl (lv_at hl 0 rfl) ?_
  refine rw_get (v := .int (B 0 1)) hx hb hts in_X4 hown hK hR 0 (by decide) rfl rfl 6 (by decide) q1168 rfl rfl dX4_image_20 ?_
  exact hQ _ _ _ _ _ (cX (st (st X 0 0 0) 0 5 1) 16 true (savTo B ((st (st X 0 0 0) 0 5 1) 16) 32) 32) 16 (rfl) (by exact ⟨fun r h0 h1 => ((frX_cX (by decide)).1 r h0 h1).trans (by rw [st_ne h0, st_ne h0]), fun q h => sav_get 32 q h, rfl⟩) hR dX4_image_23
theorem cd_X4_restore : yX4_restore.cls = RX4 ∧ yX4_restore.cls ≠ "java/lang/invoke/MethodHandle" ∧ yX4_restore.cls ≠ "java/lang/invoke/VarHandle" ∧ (parseMethodDescriptor yX4_restore.desc).map (fun d => d.parameters.length) = some 0 := by decide +kernel
set_option maxHeartbeats 4000000 in
theorem m_X4_restore (l : Launch) (D : va_G) (ca : Nat → ClassId) (n : Nat) (B X : Nat → Nat → Int32) (Y : Nat → Nat → Int64) (kp : Nat) (ni : Nat) (Bi : Nat → Nat → Int32) (im : Bool) (hB : wfB n B) (him : X 0 5 = bI im) (hni : im = true → wfB ni Bi) (hki : im = true → ∀ q, q < 32 → X 16 q = pk Bi q) : MMgi l D ca yX4_restore (ws_ yX4_restore cX4_restore 1 (some .int)) (rmN 2) (fun ad => []) B X Y kp (if im = true then Bi 0 1 else -3) (if im = true then Bi else B) Y (fun X1 kp1 => kpX X X1) := by
  refine MMgi_start (by decide) (Or.inl rfl) (fun _ => Nat.le_of_ble_eq_true rfl) ?_
  intro p e s m args below meth c0 ad A Q ls hx hb hml hown hts hK hR hl hQ
  have hl : lv_has ls 1 [(0, .ref (ad 0))] := hl
  have hn6 : n ≤ 6 := hB.1
  refine lv_aload_n hx hb dX4_restore_0 rfl (lv_at hl 0 rfl) ?_
  refine lv_iconst (v := 0) hx hb dX4_restore_1 (by decide) ?_
  refine rw_put hx hb hts in_X4 tyX4 tyX4_ok nmX4 hown hK hR 0 (by decide) rfl rfl 13 (by decide) q1175 rfl rfl rfl rfl (Nat.le_of_ble_eq_true rfl) dX4_restore_2 (mE_pX 0 (x := 0) rfl) (fun H locs hR => ?_)
  refine lv_aload_n hx hb dX4_restore_5 rfl (lv_at hl 0 rfl) ?_
  refine rw_get (v := .int (bI im)) hx hb hts in_X4 hown hK hR 0 (by decide) rfl rfl 23 (by decide) q1185 rfl (by show some (Value.int (X 0 5)) = _; rw [him]) dX4_restore_6 ?_
  refine lb_ne (tgt := 15) hx hb dX4_restore_9 (by decide) (fun c_1 => ?_) (fun c_1 => ?_)
  · skip
    refine lv_aload_n hx hb dX4_restore_15 rfl (lv_at hl 0 rfl) ?_
    refine lv_aload_n hx hb dX4_restore_16 rfl (lv_at hl 0 rfl) ?_
    refine rw_get (v := .ref (ad 16)) hx hb hts in_X4 hown hK hR 0 (by decide) rfl rfl 22 (by decide) q1184 rfl rfl dX4_restore_17 ?_
    refine lv_iconst (v := 0) hx hb dX4_restore_20 (by decide) ?_
    refine mm_callv (rest := []) hx hb hml hown hts hK hl.1 hR (m_X4_carryAll_F l D ca B (st X 0 0 0) Y kp 16 (by first | assumption | decide)) (cwV 2 hts (lw_V q1316 q1318 qs39 q82 q1319) rfl rfl rfl cd_X4_carryAll ⟨Nat.le_of_ble_eq_true rfl, Nat.le_of_ble_eq_true rfl⟩) rfl rfl (Nat.le_of_ble_eq_true rfl) dX4_restore_21 ⟨Nat.le_refl _, Nat.le_refl _⟩ (fun H locs hR => ?_)
    replace hR : RW D 23 ad (mE ca ad Bi (cX (st X 0 0 0) 16 false ((st X 0 0 0) 16) 32) Y 16) A s.heap _ _ := RW.eq hR (by rw [show (st X 0 0 0) 16 = X 16 from rfl, ld_sav (hki c_1) hB.2.2.2.2.2.2.2 (hni c_1).2.2.2.2.2.2.2])
    refine lv_aload_n hx hb dX4_restore_24 rfl (lv_at hl 0 rfl) ?_
    refine rw_get (v := .int (Bi 0 1)) hx hb hts in_X4 hown hK hR 0 (by decide) rfl rfl 6 (by decide) q1168 rfl rfl dX4_restore_25 ?_
    exact hQ _ _ _ _ _ (cX (st X 0 0 0) 16 false ((st X 0 0 0) 16) 32) 16 (by simp [c_1]) (by exact ⟨fun r h => if h16 : r = 16 then (by subst h16; rfl) else ((frX_cX (by decide)).1 r (by omega) h16).trans (st_ne (by omega)), rfl⟩) (RW.eq hR (by simp [c_1])) dX4_restore_28
  · skip
    refine lv_bipush (v := (-3)) hx hb dX4_restore_12 (by decide) ?_
    exact hQ _ _ _ _ _ (st X 0 0 0) kp (by simp [c_1]) (by exact ⟨fun r h => st_ne (by omega), rfl⟩) (RW.eq hR (by simp [c_1])) dX4_restore_14
theorem cd_X4_swapNumbers : yX4_swapNumbers.cls = RX4 ∧ yX4_swapNumbers.cls ≠ "java/lang/invoke/MethodHandle" ∧ yX4_swapNumbers.cls ≠ "java/lang/invoke/VarHandle" ∧ (parseMethodDescriptor yX4_swapNumbers.desc).map (fun d => d.parameters.length) = some 3 := by decide +kernel
set_option maxHeartbeats 4000000 in
theorem m_X4_swapNumbers (l : Launch) (D : va_G) (ca : Nat → ClassId) (B X : Nat → Nat → Int32) (Y : Nat → Nat → Int64) (kp : Nat) (k : Nat) (a : Nat) (b : Nat) (hk : 0 < k ∧ k < 6) (ha : a < 6) (hb6 : b < 6) : MMv l D ca yX4_swapNumbers (ws_ yX4_swapNumbers cX4_swapNumbers 5 none) (rmN 0) (fun ad => [.ref (ad k), .int (nI a), .int (nI b)]) B X Y kp (sSw1 B k a b) X Y kp := by
  refine MMv_start (by decide) (fun _ => Nat.le_of_ble_eq_true rfl) ?_
  intro p e s m args below meth c0 ad A Q ls hx hb hml hown hts hK hR hl hQ
  have hl : lv_has ls 5 [(0, .ref (ad 0)), (1, .ref (ad k)), (2, .int (nI a)), (3, .int (nI b))] := hl
  refine lv_aload_n hx hb dX4_swapNumbers_0 rfl (lv_at hl 1 rfl) ?_
  refine lv_iload_n hx hb dX4_swapNumbers_1 rfl (lv_at hl 2 rfl) ?_
  refine rw_ialdN (n := 6) hx hb hK hR k (by omega) (mE_Bhe hk) a rfl (by omega) (by decide) dX4_swapNumbers_2 ?_
  refine lv_istore (lv' := [(4, .int (B k a)), (0, .ref (ad 0)), (1, .ref (ad k)), (2, .int (nI a)), (3, .int (nI b))]) hx hb dX4_swapNumbers_3 hl (by decide) rfl (fun ls hl => ?_)
  refine lv_aload_n hx hb dX4_swapNumbers_5 rfl (lv_at hl 2 rfl) ?_
  refine lv_iload_n hx hb dX4_swapNumbers_6 rfl (lv_at hl 3 rfl) ?_
  refine lv_aload_n hx hb dX4_swapNumbers_7 rfl (lv_at hl 2 rfl) ?_
  refine lv_iload_n hx hb dX4_swapNumbers_8 rfl (lv_at hl 4 rfl) ?_
  refine rw_ialdN (n := 6) hx hb hK hR k (by omega) (mE_Bhe hk) b rfl (by omega) (by decide) dX4_swapNumbers_9 ?_
  refine rw_iastN (n := 6) hx hb hK hR k (by omega) (mE_Bhe hk) a rfl (by omega) (by decide) dX4_swapNumbers_10 (mE_B k hk) (fun H locs hR => ?_)
  refine lv_aload_n hx hb dX4_swapNumbers_11 rfl (lv_at hl 2 rfl) ?_
  refine lv_iload_n hx hb dX4_swapNumbers_12 rfl (lv_at hl 4 rfl) ?_
  refine lv_iload hx hb dX4_swapNumbers_13 (lv_at hl 0 rfl) ?_
  refine rw_iastN (n := 6) hx hb hK hR k (by omega) (mE_Bhe hk) b rfl (by omega) (by decide) dX4_swapNumbers_15 (mE_B k hk) (fun H locs hR => ?_)
  exact hQ _ _ _ _ (RW.eq hR (rfl)) dX4_swapNumbers_16
theorem cd_X4_swapAll : yX4_swapAll.cls = RX4 ∧ yX4_swapAll.cls ≠ "java/lang/invoke/MethodHandle" ∧ yX4_swapAll.cls ≠ "java/lang/invoke/VarHandle" ∧ (parseMethodDescriptor yX4_swapAll.desc).map (fun d => d.parameters.length) = some 2 := by decide +kernel
set_option maxHeartbeats 4000000 in
theorem m_X4_swapAll (l : Launch) (D : va_G) (ca : Nat → ClassId) (n : Nat) (B X : Nat → Nat → Int32) (Y : Nat → Nat → Int64) (kp : Nat) (a : Nat) (b : Nat) (hB : wfB n B) (ha : a < 6) (hb6 : b < 6) : MMv l D ca yX4_swapAll (ws_ yX4_swapAll cX4_swapAll 3 none) (rmN 1) (fun ad => [.int (nI a), .int (nI b)]) B X Y kp (sSwap B a b) X Y kp := by
  refine MMv_start (by decide) (fun _ => Nat.le_of_ble_eq_true rfl) ?_
  intro p e s m args below meth c0 ad A Q ls hx hb hml hown hts hK hR hl hQ
  have hl : lv_has ls 3 [(0, .ref (ad 0)), (1, .int (nI a)), (2, .int (nI b))] := hl
  have hn6 : n ≤ 6 := hB.1
  refine lv_aload_n hx hb dX4_swapAll_0 rfl (lv_at hl 0 rfl) ?_
  refine lv_aload_n hx hb dX4_swapAll_1 rfl (lv_at hl 0 rfl) ?_
  refine rw_get (v := .ref (ad 1)) hx hb hts in_X4 hown hK hR 0 (by decide) rfl rfl 1 (by decide) q1163 rfl rfl dX4_swapAll_2 ?_
  refine lv_iload_n hx hb dX4_swapAll_5 rfl (lv_at hl 1 rfl) ?_
  refine lv_iload_n hx hb dX4_swapAll_6 rfl (lv_at hl 2 rfl) ?_
  refine mm_callv (rest := []) hx hb hml hown hts hK hl.1 hR (m_X4_swapNumbers l D ca B X Y kp 1 a b (by decide) (by omega) (by omega)) (cwV 3 hts (lw_V q1402 q1404 qs59 q82 q1405) rfl rfl rfl cd_X4_swapNumbers ⟨Nat.le_of_ble_eq_true rfl, Nat.le_of_ble_eq_true rfl⟩) rfl rfl (Nat.le_of_ble_eq_true rfl) dX4_swapAll_7 ⟨Nat.le_refl _, Nat.le_refl _⟩ (fun H locs hR => ?_)
  refine lv_aload_n hx hb dX4_swapAll_10 rfl (lv_at hl 0 rfl) ?_
  refine lv_aload_n hx hb dX4_swapAll_11 rfl (lv_at hl 0 rfl) ?_
  refine rw_get (v := .ref (ad 2)) hx hb hts in_X4 hown hK hR 0 (by decide) rfl rfl 2 (by decide) q1164 rfl rfl dX4_swapAll_12 ?_
  refine lv_iload_n hx hb dX4_swapAll_15 rfl (lv_at hl 1 rfl) ?_
  refine lv_iload_n hx hb dX4_swapAll_16 rfl (lv_at hl 2 rfl) ?_
  refine mm_callv (rest := []) hx hb hml hown hts hK hl.1 hR (m_X4_swapNumbers l D ca (sSw1 B 1 a b) X Y kp 2 a b (by decide) (by omega) (by omega)) (cwV 3 hts (lw_V q1402 q1404 qs59 q82 q1405) rfl rfl rfl cd_X4_swapNumbers ⟨Nat.le_of_ble_eq_true rfl, Nat.le_of_ble_eq_true rfl⟩) rfl rfl (Nat.le_of_ble_eq_true rfl) dX4_swapAll_17 ⟨Nat.le_refl _, Nat.le_refl _⟩ (fun H locs hR => ?_)
  refine lv_aload_n hx hb dX4_swapAll_20 rfl (lv_at hl 0 rfl) ?_
  refine lv_aload_n hx hb dX4_swapAll_21 rfl (lv_at hl 0 rfl) ?_
  refine rw_get (v := .ref (ad 3)) hx hb hts in_X4 hown hK hR 0 (by decide) rfl rfl 3 (by decide) q1165 rfl rfl dX4_swapAll_22 ?_
  refine lv_iload_n hx hb dX4_swapAll_25 rfl (lv_at hl 1 rfl) ?_
  refine lv_iload_n hx hb dX4_swapAll_26 rfl (lv_at hl 2 rfl) ?_
  refine mm_callv (rest := []) hx hb hml hown hts hK hl.1 hR (m_X4_swapNumbers l D ca (sSw1 (sSw1 B 1 a b) 2 a b) X Y kp 3 a b (by decide) (by omega) (by omega)) (cwV 3 hts (lw_V q1402 q1404 qs59 q82 q1405) rfl rfl rfl cd_X4_swapNumbers ⟨Nat.le_of_ble_eq_true rfl, Nat.le_of_ble_eq_true rfl⟩) rfl rfl (Nat.le_of_ble_eq_true rfl) dX4_swapAll_27 ⟨Nat.le_refl _, Nat.le_refl _⟩ (fun H locs hR => ?_)
  refine lv_aload_n hx hb dX4_swapAll_30 rfl (lv_at hl 0 rfl) ?_
  refine lv_aload_n hx hb dX4_swapAll_31 rfl (lv_at hl 0 rfl) ?_
  refine rw_get (v := .ref (ad 4)) hx hb hts in_X4 hown hK hR 0 (by decide) rfl rfl 4 (by decide) q1166 rfl rfl dX4_swapAll_32 ?_
  refine lv_iload_n hx hb dX4_swapAll_35 rfl (lv_at hl 1 rfl) ?_
  refine lv_iload_n hx hb dX4_swapAll_36 rfl (lv_at hl 2 rfl) ?_
  refine mm_callv (rest := []) hx hb hml hown hts hK hl.1 hR (m_X4_swapNumbers l D ca (sSw1 (sSw1 (sSw1 B 1 a b) 2 a b) 3 a b) X Y kp 4 a b (by decide) (by omega) (by omega)) (cwV 3 hts (lw_V q1402 q1404 qs59 q82 q1405) rfl rfl rfl cd_X4_swapNumbers ⟨Nat.le_of_ble_eq_true rfl, Nat.le_of_ble_eq_true rfl⟩) rfl rfl (Nat.le_of_ble_eq_true rfl) dX4_swapAll_37 ⟨Nat.le_refl _, Nat.le_refl _⟩ (fun H locs hR => ?_)
  refine lv_aload_n hx hb dX4_swapAll_40 rfl (lv_at hl 0 rfl) ?_
  refine lv_aload_n hx hb dX4_swapAll_41 rfl (lv_at hl 0 rfl) ?_
  refine rw_get (v := .ref (ad 5)) hx hb hts in_X4 hown hK hR 0 (by decide) rfl rfl 5 (by decide) q1167 rfl rfl dX4_swapAll_42 ?_
  refine lv_iload_n hx hb dX4_swapAll_45 rfl (lv_at hl 1 rfl) ?_
  refine lv_iload_n hx hb dX4_swapAll_46 rfl (lv_at hl 2 rfl) ?_
  refine mm_callv (rest := []) hx hb hml hown hts hK hl.1 hR (m_X4_swapNumbers l D ca (sSw1 (sSw1 (sSw1 (sSw1 B 1 a b) 2 a b) 3 a b) 4 a b) X Y kp 5 a b (by decide) (by omega) (by omega)) (cwV 3 hts (lw_V q1402 q1404 qs59 q82 q1405) rfl rfl rfl cd_X4_swapNumbers ⟨Nat.le_of_ble_eq_true rfl, Nat.le_of_ble_eq_true rfl⟩) rfl rfl (Nat.le_of_ble_eq_true rfl) dX4_swapAll_47 ⟨Nat.le_refl _, Nat.le_refl _⟩ (fun H locs hR => ?_)
  exact hQ _ _ _ _ (RW.eq hR (rfl)) dX4_swapAll_50
theorem cd_X4_childComes : yX4_childComes.cls = RX4 ∧ yX4_childComes.cls ≠ "java/lang/invoke/MethodHandle" ∧ yX4_childComes.cls ≠ "java/lang/invoke/VarHandle" ∧ (parseMethodDescriptor yX4_childComes.desc).map (fun d => d.parameters.length) = some 3 := by decide +kernel
set_option maxHeartbeats 4000000 in
theorem m_X4_childComes (l : Launch) (D : va_G) (ca : Nat → ClassId) (n : Nat) (B X : Nat → Nat → Int32) (Y : Nat → Nat → Int64) (kp : Nat) (k : Int32) (f : Int32) (t : Int32) (hB : wfB n B) (hk0 : 0 ≤ k.toInt) (hf : rng f 9) (ht0 : 0 ≤ t.toInt) : MMi l D ca yX4_childComes (ws_ yX4_childComes cX4_childComes 5 (some .boolean)) (rmN 0) (fun ad => [.int k, .int f, .int t]) B X Y kp (bI (cameB n k t)) (sCome n B k f t) X Y kp := by
  refine MMi_start (by decide) (Or.inr ⟨rfl, bI_nar _⟩) (fun _ => Nat.le_of_ble_eq_true rfl) ?_
  intro p e s m args below meth c0 ad A Q ls hx hb hml hown hts hK hR hl hQ
  have hl : lv_has ls 5 [(0, .ref (ad 0)), (1, .int k), (2, .int f), (3, .int t)] := hl
  have hn6 : n ≤ 6 := hB.1
  refine lv_iload_n hx hb dX4_childComes_0 rfl (lv_at hl 1 rfl) ?_
  refine lv_bipush (v := 8) hx hb dX4_childComes_1 (by decide) ?_
  refine lj_ge (tgt := 25) hx hb dX4_childComes_3 (by decide) (fun c_1 => ?_) (fun c_1 => ?_)
  · skip
    refine lv_iconst (v := 0) hx hb dX4_childComes_25 (by decide) ?_
    refine lv_istore (lv' := [(4, .int 0), (0, .ref (ad 0)), (1, .int k), (2, .int f), (3, .int t)]) hx hb dX4_childComes_26 hl (by decide) rfl (fun ls hl => ?_)
    refine lv_iload hx hb dX4_childComes_28 (lv_at hl 0 rfl) ?_
    refine lv_if_eq (tgt := 93) hx hb dX4_childComes_30 (by decide) (fun _ => ?_) (fun z => absurd z (by decide))
    refine lv_iload hx hb dX4_childComes_93 (lv_at hl 0 rfl) ?_
    exact hQ _ _ _ _ _ (by first | (simp [cameB, bI, c_1]; done) | simp_all [cameB, bI]) (RW.eq hR (by first | (simp [sCome, cameB, c_1]; done) | simp_all [sCome, cameB])) dX4_childComes_95
  · skip
    refine lv_iload_n hx hb dX4_childComes_6 rfl (lv_at hl 3 rfl) ?_
    refine lv_bipush (v := 20) hx hb dX4_childComes_7 (by decide) ?_
    refine lj_gt (tgt := 25) hx hb dX4_childComes_9 (by decide) (fun c_3 => ?_) (fun c_3 => ?_)
    · skip
      refine lv_iconst (v := 0) hx hb dX4_childComes_25 (by decide) ?_
      refine lv_istore (lv' := [(4, .int 0), (0, .ref (ad 0)), (1, .int k), (2, .int f), (3, .int t)]) hx hb dX4_childComes_26 hl (by decide) rfl (fun ls hl => ?_)
      refine lv_iload hx hb dX4_childComes_28 (lv_at hl 0 rfl) ?_
      refine lv_if_eq (tgt := 93) hx hb dX4_childComes_30 (by decide) (fun _ => ?_) (fun z => absurd z (by decide))
      refine lv_iload hx hb dX4_childComes_93 (lv_at hl 0 rfl) ?_
      exact hQ _ _ _ _ _ (by first | (simp [cameB, bI, c_1, c_3]; done) | simp_all [cameB, bI]) (RW.eq hR (by first | (simp [sCome, cameB, c_1, c_3]; done) | simp_all [sCome, cameB])) dX4_childComes_95
    · skip
      refine lv_aload_n hx hb dX4_childComes_12 rfl (lv_at hl 0 rfl) ?_
      refine rw_get (v := .int (nI n)) hx hb hts in_X4 hown hK hR 0 (by decide) rfl rfl 0 (by decide) q1162 rfl (mF_c0 hB.2.1) dX4_childComes_13 ?_
      refine lv_bipush (v := 6) hx hb dX4_childComes_16 (by decide) ?_
      refine ln_ge (tgt := 25) hx hb (n) (6) rfl (by decide) (by omega) (by decide) dX4_childComes_18 (by decide) (fun c_5 => ?_) (fun c_5 => ?_)
      · skip
        refine lv_iconst (v := 0) hx hb dX4_childComes_25 (by decide) ?_
        refine lv_istore (lv' := [(4, .int 0), (0, .ref (ad 0)), (1, .int k), (2, .int f), (3, .int t)]) hx hb dX4_childComes_26 hl (by decide) rfl (fun ls hl => ?_)
        refine lv_iload hx hb dX4_childComes_28 (lv_at hl 0 rfl) ?_
        refine lv_if_eq (tgt := 93) hx hb dX4_childComes_30 (by decide) (fun _ => ?_) (fun z => absurd z (by decide))
        refine lv_iload hx hb dX4_childComes_93 (lv_at hl 0 rfl) ?_
        exact hQ _ _ _ _ _ (by first | (simp [cameB, bI, c_1, c_3, c_5, Nat.not_lt.mpr c_5]; done) | simp_all [cameB, bI]) (RW.eq hR (by first | (simp [sCome, cameB, c_1, c_3, c_5, Nat.not_lt.mpr c_5]; done) | simp_all [sCome, cameB])) dX4_childComes_95
      · skip
        refine lv_iconst (v := 1) hx hb dX4_childComes_21 (by decide) ?_
        refine lv_goto (tgt := 26) hx hb dX4_childComes_22 (by decide) ?_
        refine lv_istore (lv' := [(4, .int 1), (0, .ref (ad 0)), (1, .int k), (2, .int f), (3, .int t)]) hx hb dX4_childComes_26 hl (by decide) rfl (fun ls hl => ?_)
        refine lv_iload hx hb dX4_childComes_28 (lv_at hl 0 rfl) ?_
        refine lv_if_eq (tgt := 93) hx hb dX4_childComes_30 (by decide) (fun z => absurd z (by decide)) (fun _ => ?_)
        refine lv_aload_n hx hb dX4_childComes_33 rfl (lv_at hl 1 rfl) ?_
        refine rw_get (v := .ref (ad 1)) hx hb hts in_X4 hown hK hR 0 (by decide) rfl rfl 1 (by decide) q1163 rfl rfl dX4_childComes_34 ?_
        refine lv_aload_n hx hb dX4_childComes_37 rfl (lv_at hl 1 rfl) ?_
        refine rw_get (v := .int (nI n)) hx hb hts in_X4 hown hK hR 0 (by decide) rfl rfl 0 (by decide) q1162 rfl (mF_c0 hB.2.1) dX4_childComes_38 ?_
        refine lv_iload_n hx hb dX4_childComes_41 rfl (lv_at hl 2 rfl) ?_
        refine rw_iastN (n := 6) hx hb hK hR 1 (by decide) rfl n rfl (by omega) (by decide) dX4_childComes_42 (mE_B 1 (by decide)) (fun H locs hR => ?_)
        refine lv_aload_n hx hb dX4_childComes_43 rfl (lv_at hl 1 rfl) ?_
        refine rw_get (v := .ref (ad 2)) hx hb hts in_X4 hown hK hR 0 (by decide) rfl rfl 2 (by decide) q1164 rfl rfl dX4_childComes_44 ?_
        refine lv_aload_n hx hb dX4_childComes_47 rfl (lv_at hl 1 rfl) ?_
        refine rw_get (v := .int (nI n)) hx hb hts in_X4 hown hK hR 0 (by decide) rfl rfl 0 (by decide) q1162 rfl (mF_c0 hB.2.1) dX4_childComes_48 ?_
        refine lv_iload_n hx hb dX4_childComes_51 rfl (lv_at hl 3 rfl) ?_
        refine rw_iastN (n := 6) hx hb hK hR 2 (by decide) rfl n rfl (by omega) (by decide) dX4_childComes_52 (mE_B 2 (by decide)) (fun H locs hR => ?_)
        refine lv_aload_n hx hb dX4_childComes_53 rfl (lv_at hl 1 rfl) ?_
        refine rw_get (v := .ref (ad 3)) hx hb hts in_X4 hown hK hR 0 (by decide) rfl rfl 3 (by decide) q1165 rfl rfl dX4_childComes_54 ?_
        refine lv_aload_n hx hb dX4_childComes_57 rfl (lv_at hl 1 rfl) ?_
        refine rw_get (v := .int (nI n)) hx hb hts in_X4 hown hK hR 0 (by decide) rfl rfl 0 (by decide) q1162 rfl (mF_c0 hB.2.1) dX4_childComes_58 ?_
        refine lv_iload_n hx hb dX4_childComes_61 rfl (lv_at hl 4 rfl) ?_
        refine rw_iastN (n := 6) hx hb hK hR 3 (by decide) rfl n rfl (by omega) (by decide) dX4_childComes_62 (mE_B 3 (by decide)) (fun H locs hR => ?_)
        refine lv_aload_n hx hb dX4_childComes_63 rfl (lv_at hl 1 rfl) ?_
        refine rw_get (v := .ref (ad 4)) hx hb hts in_X4 hown hK hR 0 (by decide) rfl rfl 4 (by decide) q1166 rfl rfl dX4_childComes_64 ?_
        refine lv_aload_n hx hb dX4_childComes_67 rfl (lv_at hl 1 rfl) ?_
        refine rw_get (v := .int (nI n)) hx hb hts in_X4 hown hK hR 0 (by decide) rfl rfl 0 (by decide) q1162 rfl (mF_c0 hB.2.1) dX4_childComes_68 ?_
        refine lv_iconst (v := 0) hx hb dX4_childComes_71 (by decide) ?_
        refine rw_iastN (n := 6) hx hb hK hR 4 (by decide) rfl n rfl (by omega) (by decide) dX4_childComes_72 (mE_B 4 (by decide)) (fun H locs hR => ?_)
        refine lv_aload_n hx hb dX4_childComes_73 rfl (lv_at hl 1 rfl) ?_
        refine rw_get (v := .ref (ad 5)) hx hb hts in_X4 hown hK hR 0 (by decide) rfl rfl 5 (by decide) q1167 rfl rfl dX4_childComes_74 ?_
        refine lv_aload_n hx hb dX4_childComes_77 rfl (lv_at hl 1 rfl) ?_
        refine rw_get (v := .int (nI n)) hx hb hts in_X4 hown hK hR 0 (by decide) rfl rfl 0 (by decide) q1162 rfl (mF_c0 hB.2.1) dX4_childComes_78 ?_
        refine lv_iconst (v := 0) hx hb dX4_childComes_81 (by decide) ?_
        refine rw_iastN (n := 6) hx hb hK hR 5 (by decide) rfl n rfl (by omega) (by decide) dX4_childComes_82 (mE_B 5 (by decide)) (fun H locs hR => ?_)
        refine lv_aload_n hx hb dX4_childComes_83 rfl (lv_at hl 1 rfl) ?_
        refine lv_dup hx hb dX4_childComes_84 rfl ?_
        refine rw_get (v := .int (nI n)) hx hb hts in_X4 hown hK hR 0 (by decide) rfl rfl 0 (by decide) q1162 rfl (mF_c0 hB.2.1) dX4_childComes_85 ?_
        refine lv_iconst (v := 1) hx hb dX4_childComes_88 (by decide) ?_
        refine lv_iadd hx hb dX4_childComes_89 ?_
        refine W.eqs (st2 := [.int (nI (n + 1)), .ref (ad 0)]) (congrArg (fun z : Int32 => Value.int z :: _) (nI_add n 1)) ?_
        refine rw_put hx hb hts in_X4 tyX4 tyX4_ok nmX4 hown hK hR 0 (by decide) rfl rfl 0 (by decide) q1162 rfl rfl rfl rfl (Nat.le_of_ble_eq_true rfl) dX4_childComes_90 (mE_pB 0 (x := (nI (n + 1))) rfl) (fun H locs hR => ?_)
        refine lv_iload hx hb dX4_childComes_93 (lv_at hl 0 rfl) ?_
        exact hQ _ _ _ _ _ (by first | (simp [cameB, bI, c_1, c_3, c_5]; done) | simp_all [cameB, bI]) (RW.eq hR (by first | (simp [sCome, cameB, c_1, c_3, c_5]; done) | simp_all [sCome, cameB])) dX4_childComes_95
theorem cd_X4_minuteComes : yX4_minuteComes.cls = RX4 ∧ yX4_minuteComes.cls ≠ "java/lang/invoke/MethodHandle" ∧ yX4_minuteComes.cls ≠ "java/lang/invoke/VarHandle" ∧ (parseMethodDescriptor yX4_minuteComes.desc).map (fun d => d.parameters.length) = some 2 := by decide +kernel
set_option maxHeartbeats 4000000 in
theorem m_X4_minuteComes (l : Launch) (D : va_G) (ca : Nat → ClassId) (n : Nat) (B X : Nat → Nat → Int32) (Y : Nat → Nat → Int64) (kp : Nat) (c : Int32) (w : Int32) (hB : wfB n B) : MMi l D ca yX4_minuteComes (ws_ yX4_minuteComes cX4_minuteComes 4 (some .boolean)) (rmN 5) (fun ad => [.int c, .int w]) B X Y kp (bI (canM n B c w)) (sMinC n B c w) X Y kp := by
  refine MMi_start (by decide) (Or.inr ⟨rfl, bI_nar _⟩) (fun _ => Nat.le_of_ble_eq_true rfl) ?_
  intro p e s m args below meth c0 ad A Q ls hx hb hml hown hts hK hR hl hQ
  have hl : lv_has ls 4 [(0, .ref (ad 0)), (1, .int c), (2, .int w)] := hl
  have hn6 : n ≤ 6 := hB.1
  refine lv_aload_n hx hb dX4_minuteComes_0 rfl (lv_at hl 0 rfl) ?_
  refine lv_iload_n hx hb dX4_minuteComes_1 rfl (lv_at hl 1 rfl) ?_
  refine mm_calli (rest := []) hx hb hml hown hts hK hl.1 hR (m_X4_isChild l D ca n B X Y kp c hB) (cwV 1 hts (lw_V q1336 q1338 qs44 q82 q1339) rfl rfl rfl cd_X4_isChild ⟨Nat.le_of_ble_eq_true rfl, Nat.le_of_ble_eq_true rfl⟩) rfl rfl (Nat.le_of_ble_eq_true rfl) dX4_minuteComes_2 ⟨Nat.le_refl _, Nat.le_refl _⟩ (fun H locs hR => ?_)
  refine lb_eq (tgt := 38) hx hb dX4_minuteComes_5 (by decide) (fun c_1 => ?_) (fun c_1 => ?_)
  · skip
    refine lv_iconst (v := 0) hx hb dX4_minuteComes_38 (by decide) ?_
    refine lv_istore_n (lv' := [(3, .int 0), (0, .ref (ad 0)), (1, .int c), (2, .int w)]) hx hb dX4_minuteComes_39 rfl hl (by decide) rfl (fun ls hl => ?_)
    refine lv_iload_n hx hb dX4_minuteComes_40 rfl (lv_at hl 0 rfl) ?_
    refine lv_if_eq (tgt := 50) hx hb dX4_minuteComes_41 (by decide) (fun _ => ?_) (fun z => absurd z (by decide))
    refine lv_iload_n hx hb dX4_minuteComes_50 rfl (lv_at hl 0 rfl) ?_
    exact hQ _ _ _ _ _ (by first | (simp [canM, bI, c_1]; done) | simp_all [canM, bI]) (RW.eq hR (by first | (simp [sMinC, canM, c_1]; done) | simp_all [sMinC, canM])) dX4_minuteComes_51
  · skip
    obtain ⟨jc, hjc, rfl⟩ := isC_nat hn6 c_1
    refine lv_iload_n hx hb dX4_minuteComes_8 rfl (lv_at hl 2 rfl) ?_
    refine lv_iconst (v := 4) hx hb dX4_minuteComes_9 (by decide) ?_
    refine lj_ge (tgt := 38) hx hb dX4_minuteComes_10 (by decide) (fun c_3 => ?_) (fun c_3 => ?_)
    · skip
      refine lv_iconst (v := 0) hx hb dX4_minuteComes_38 (by decide) ?_
      refine lv_istore_n (lv' := [(3, .int 0), (0, .ref (ad 0)), (1, .int (nI jc)), (2, .int w)]) hx hb dX4_minuteComes_39 rfl hl (by decide) rfl (fun ls hl => ?_)
      refine lv_iload_n hx hb dX4_minuteComes_40 rfl (lv_at hl 0 rfl) ?_
      refine lv_if_eq (tgt := 50) hx hb dX4_minuteComes_41 (by decide) (fun _ => ?_) (fun z => absurd z (by decide))
      refine lv_iload_n hx hb dX4_minuteComes_50 rfl (lv_at hl 0 rfl) ?_
      exact hQ _ _ _ _ _ (by first | (simp [canM, bI, c_1, c_3, nI_clamp (show jc < 2 ^ 31 by omega)]; done) | simp_all [canM, bI, nI_clamp (show jc < 2 ^ 31 by omega)]) (RW.eq hR (by first | (simp [sMinC, canM, c_1, c_3, nI_clamp (show jc < 2 ^ 31 by omega)]; done) | simp_all [sMinC, canM, nI_clamp (show jc < 2 ^ 31 by omega)])) dX4_minuteComes_51
    · skip
      refine lv_aload_n hx hb dX4_minuteComes_13 rfl (lv_at hl 0 rfl) ?_
      refine rw_get (v := .ref (ad 4)) hx hb hts in_X4 hown hK hR 0 (by decide) rfl rfl 4 (by decide) q1166 rfl rfl dX4_minuteComes_14 ?_
      refine lv_iload_n hx hb dX4_minuteComes_17 rfl (lv_at hl 1 rfl) ?_
      refine rw_ialdN (n := 6) hx hb hK hR 4 (by decide) rfl jc rfl (by omega) (by decide) dX4_minuteComes_18 ?_
      refine lv_bipush (v := 7) hx hb dX4_minuteComes_19 (by decide) ?_
      refine lj_ge (tgt := 38) hx hb dX4_minuteComes_21 (by decide) (fun c_5 => ?_) (fun c_5 => ?_)
      · skip
        refine lv_iconst (v := 0) hx hb dX4_minuteComes_38 (by decide) ?_
        refine lv_istore_n (lv' := [(3, .int 0), (0, .ref (ad 0)), (1, .int (nI jc)), (2, .int w)]) hx hb dX4_minuteComes_39 rfl hl (by decide) rfl (fun ls hl => ?_)
        refine lv_iload_n hx hb dX4_minuteComes_40 rfl (lv_at hl 0 rfl) ?_
        refine lv_if_eq (tgt := 50) hx hb dX4_minuteComes_41 (by decide) (fun _ => ?_) (fun z => absurd z (by decide))
        refine lv_iload_n hx hb dX4_minuteComes_50 rfl (lv_at hl 0 rfl) ?_
        exact hQ _ _ _ _ _ (by first | (simp [canM, bI, c_1, c_3, c_5, nI_clamp (show jc < 2 ^ 31 by omega)]; done) | simp_all [canM, bI, nI_clamp (show jc < 2 ^ 31 by omega)]) (RW.eq hR (by first | (simp [sMinC, canM, c_1, c_3, c_5, nI_clamp (show jc < 2 ^ 31 by omega)]; done) | simp_all [sMinC, canM, nI_clamp (show jc < 2 ^ 31 by omega)])) dX4_minuteComes_51
      · skip
        refine lv_aload_n hx hb dX4_minuteComes_24 rfl (lv_at hl 0 rfl) ?_
        refine rw_get (v := .int (B 0 1)) hx hb hts in_X4 hown hK hR 0 (by decide) rfl rfl 6 (by decide) q1168 rfl rfl dX4_minuteComes_25 ?_
        refine lv_sipush (v := 999) hx hb dX4_minuteComes_28 (by decide) ?_
        refine lj_ge (tgt := 38) hx hb dX4_minuteComes_31 (by decide) (fun c_7 => ?_) (fun c_7 => ?_)
        · skip
          refine lv_iconst (v := 0) hx hb dX4_minuteComes_38 (by decide) ?_
          refine lv_istore_n (lv' := [(3, .int 0), (0, .ref (ad 0)), (1, .int (nI jc)), (2, .int w)]) hx hb dX4_minuteComes_39 rfl hl (by decide) rfl (fun ls hl => ?_)
          refine lv_iload_n hx hb dX4_minuteComes_40 rfl (lv_at hl 0 rfl) ?_
          refine lv_if_eq (tgt := 50) hx hb dX4_minuteComes_41 (by decide) (fun _ => ?_) (fun z => absurd z (by decide))
          refine lv_iload_n hx hb dX4_minuteComes_50 rfl (lv_at hl 0 rfl) ?_
          exact hQ _ _ _ _ _ (by first | (simp [canM, bI, c_1, c_3, c_5, c_7, nI_clamp (show jc < 2 ^ 31 by omega)]; done) | simp_all [canM, bI, nI_clamp (show jc < 2 ^ 31 by omega)]) (RW.eq hR (by first | (simp [sMinC, canM, c_1, c_3, c_5, c_7, nI_clamp (show jc < 2 ^ 31 by omega)]; done) | simp_all [sMinC, canM, nI_clamp (show jc < 2 ^ 31 by omega)])) dX4_minuteComes_51
        · skip
          refine lv_iconst (v := 1) hx hb dX4_minuteComes_34 (by decide) ?_
          refine lv_goto (tgt := 39) hx hb dX4_minuteComes_35 (by decide) ?_
          refine lv_istore_n (lv' := [(3, .int 1), (0, .ref (ad 0)), (1, .int (nI jc)), (2, .int w)]) hx hb dX4_minuteComes_39 rfl hl (by decide) rfl (fun ls hl => ?_)
          refine lv_iload_n hx hb dX4_minuteComes_40 rfl (lv_at hl 0 rfl) ?_
          refine lv_if_eq (tgt := 50) hx hb dX4_minuteComes_41 (by decide) (fun z => absurd z (by decide)) (fun _ => ?_)
          have h7 : (B 4 jc).toInt < 7 := Int32.lt_iff_toInt_lt.mp c_5
          refine lv_aload_n hx hb dX4_minuteComes_44 rfl (lv_at hl 1 rfl) ?_
          refine lv_iload_n hx hb dX4_minuteComes_45 rfl (lv_at hl 2 rfl) ?_
          refine lv_iload_n hx hb dX4_minuteComes_46 rfl (lv_at hl 3 rfl) ?_
          refine mm_callv (rest := []) hx hb hml hown hts hK hl.1 hR (m_X4_goMinute l D ca n B X Y kp jc w hB (by first | assumption | omega) (by first | assumption | omega)) (cwV 2 hts (lw_V q1340 q1342 qs45 q82 q1343) rfl rfl rfl cd_X4_goMinute ⟨Nat.le_of_ble_eq_true rfl, Nat.le_of_ble_eq_true rfl⟩) rfl rfl (Nat.le_of_ble_eq_true rfl) dX4_minuteComes_47 ⟨Nat.le_refl _, Nat.le_refl _⟩ (fun H locs hR => ?_)
          refine lv_iload_n hx hb dX4_minuteComes_50 rfl (lv_at hl 0 rfl) ?_
          exact hQ _ _ _ _ _ (by first | (simp [canM, bI, c_1, c_3, c_5, c_7, nI_clamp (show jc < 2 ^ 31 by omega)]; done) | simp_all [canM, bI, nI_clamp (show jc < 2 ^ 31 by omega)]) (RW.eq hR (by first | (simp [sMinC, canM, c_1, c_3, c_5, c_7, nI_clamp (show jc < 2 ^ 31 by omega)]; done) | simp_all [sMinC, canM, nI_clamp (show jc < 2 ^ 31 by omega)])) dX4_minuteComes_51
theorem cd_X4_wrongRow : yX4_wrongRow.cls = RX4 ∧ yX4_wrongRow.cls ≠ "java/lang/invoke/MethodHandle" ∧ yX4_wrongRow.cls ≠ "java/lang/invoke/VarHandle" ∧ (parseMethodDescriptor yX4_wrongRow.desc).map (fun d => d.parameters.length) = some 1 := by decide +kernel
set_option maxHeartbeats 4000000 in
theorem m_X4_wrongRow (l : Launch) (D : va_G) (ca : Nat → ClassId) (B X : Nat → Nat → Int32) (Y : Nat → Nat → Int64) (kp : Nat) (d : Int32)  : MMi l D ca yX4_wrongRow (ws_ yX4_wrongRow cX4_wrongRow 2 (some .int)) (rmN 1) (fun ad => [.int d]) B X Y kp (wrR (X 6) d) B X Y kp := by
  refine MMi_start (by decide) (Or.inl rfl) (fun _ => Nat.le_of_ble_eq_true rfl) ?_
  intro p e s m args below meth c0 ad A Q ls hx hb hml hown hts hK hR hl hQ
  have hl : lv_has ls 2 [(0, .ref (ad 0)), (1, .int d)] := hl
  refine lv_iload_n hx hb dX4_wrongRow_0 rfl (lv_at hl 1 rfl) ?_
  refine lv_i2l (v := (d.toInt64)) hx hb dX4_wrongRow_1 rfl ?_
  refine lv_lconst (v := 0) hx hb dX4_wrongRow_2 (by decide) ?_
  refine lv_ldc2 hx hb hown (hts _ q1287) dX4_wrongRow_3 ?_
  refine rs_calli (rest := []) hx hb hml hown hts hl.1 hR (m_X4_in l (d.toInt64) 0 7) (va_cwS 3 hts (lw_S q1288 q1289 q82 q1290) rfl rfl rfl cd_X4_in ⟨Nat.le_of_ble_eq_true rfl, Nat.le_of_ble_eq_true rfl⟩) rfl rfl (Nat.le_of_ble_eq_true rfl) dX4_wrongRow_6 ⟨Nat.le_refl _, Nat.le_refl _⟩ (fun H locs hR => ?_)
  refine W.eqs (st2 := [.int (bI (inI d 0 7))]) (congrArg (fun b => Value.int (bI b) :: _) (inL_I (v := d) (lo := 0) (hi := 7) (by decide) (by decide))) ?_
  refine lb_ne (tgt := 16) hx hb dX4_wrongRow_9 (by decide) (fun c_1 => ?_) (fun c_1 => ?_)
  · skip
    obtain ⟨jd, hjd, rfl⟩ := inI_nat (k := 7) (by decide) (by decide) c_1
    refine lv_aload_n hx hb dX4_wrongRow_16 rfl (lv_at hl 0 rfl) ?_
    refine rw_get (v := .ref (ad 6)) hx hb hts in_X4 hown hK hR 0 (by decide) rfl rfl 7 (by decide) q1169 rfl rfl dX4_wrongRow_17 ?_
    refine lv_iload_n hx hb dX4_wrongRow_20 rfl (lv_at hl 1 rfl) ?_
    refine rw_ialdN (n := 8) hx hb hK hR 6 (by decide) rfl jd rfl (by omega) (by decide) dX4_wrongRow_21 ?_
    refine lv_if_ne (tgt := 30) hx hb dX4_wrongRow_22 (by decide) (fun c_2 => ?_) (fun c_2 => ?_)
    · skip
      refine lv_aload_n hx hb dX4_wrongRow_30 rfl (lv_at hl 0 rfl) ?_
      refine rw_get (v := .ref (ad 6)) hx hb hts in_X4 hown hK hR 0 (by decide) rfl rfl 7 (by decide) q1169 rfl rfl dX4_wrongRow_31 ?_
      refine lv_iload_n hx hb dX4_wrongRow_34 rfl (lv_at hl 1 rfl) ?_
      refine rw_ialdN (n := 8) hx hb hK hR 6 (by decide) rfl jd rfl (by omega) (by decide) dX4_wrongRow_35 ?_
      refine lv_iconst (v := 2) hx hb dX4_wrongRow_36 (by decide) ?_
      refine lv_icmp_eq (tgt := 45) hx hb dX4_wrongRow_37 (by decide) (fun c_3 => ?_) (fun c_3 => ?_)
      · skip
        refine lv_iconst (v := 0) hx hb dX4_wrongRow_45 (by decide) ?_
        exact hQ _ _ _ _ _ (by first | (simp [wrR, c_1, c_2, c_3, nI_clamp (show jd < 2 ^ 31 by omega)]; done) | simp_all [wrR, nI_clamp (show jd < 2 ^ 31 by omega)]) hR dX4_wrongRow_46
      · skip
        refine lv_bipush (v := (-12)) hx hb dX4_wrongRow_40 (by decide) ?_
        refine lv_goto (tgt := 46) hx hb dX4_wrongRow_42 (by decide) ?_
        exact hQ _ _ _ _ _ (by first | (simp [wrR, c_1, c_2, c_3, nI_clamp (show jd < 2 ^ 31 by omega)]; done) | simp_all [wrR, nI_clamp (show jd < 2 ^ 31 by omega)]) hR dX4_wrongRow_46
    · skip
      refine lv_bipush (v := (-11)) hx hb dX4_wrongRow_25 (by decide) ?_
      refine lv_goto (tgt := 46) hx hb dX4_wrongRow_27 (by decide) ?_
      exact hQ _ _ _ _ _ (by first | (simp [wrR, c_1, c_2, nI_clamp (show jd < 2 ^ 31 by omega)]; done) | simp_all [wrR, nI_clamp (show jd < 2 ^ 31 by omega)]) hR dX4_wrongRow_46
  · skip
    refine lv_iconst (v := (-1)) hx hb dX4_wrongRow_12 (by decide) ?_
    refine lv_goto (tgt := 46) hx hb dX4_wrongRow_13 (by decide) ?_
    exact hQ _ _ _ _ _ (by first | (simp [wrR, c_1]; done) | simp_all [wrR]) hR dX4_wrongRow_46
theorem cd_X4_wrongKept : yX4_wrongKept.cls = RX4 ∧ yX4_wrongKept.cls ≠ "java/lang/invoke/MethodHandle" ∧ yX4_wrongKept.cls ≠ "java/lang/invoke/VarHandle" ∧ (parseMethodDescriptor yX4_wrongKept.desc).map (fun d => d.parameters.length) = some 1 := by decide +kernel
set_option maxHeartbeats 4000000 in
theorem m_X4_wrongKept (l : Launch) (D : va_G) (ca : Nat → ClassId) (B X : Nat → Nat → Int32) (Y : Nat → Nat → Int64) (kp : Nat) (d : Int32)  : MMi l D ca yX4_wrongKept (ws_ yX4_wrongKept cX4_wrongKept 2 (some .int)) (rmN 1) (fun ad => [.int d]) B X Y kp (wrK (X 6) d) B X Y kp := by
  refine MMi_start (by decide) (Or.inl rfl) (fun _ => Nat.le_of_ble_eq_true rfl) ?_
  intro p e s m args below meth c0 ad A Q ls hx hb hml hown hts hK hR hl hQ
  have hl : lv_has ls 2 [(0, .ref (ad 0)), (1, .int d)] := hl
  refine lv_iload_n hx hb dX4_wrongKept_0 rfl (lv_at hl 1 rfl) ?_
  refine lv_i2l (v := (d.toInt64)) hx hb dX4_wrongKept_1 rfl ?_
  refine lv_lconst (v := 0) hx hb dX4_wrongKept_2 (by decide) ?_
  refine lv_ldc2 hx hb hown (hts _ q1287) dX4_wrongKept_3 ?_
  refine rs_calli (rest := []) hx hb hml hown hts hl.1 hR (m_X4_in l (d.toInt64) 0 7) (va_cwS 3 hts (lw_S q1288 q1289 q82 q1290) rfl rfl rfl cd_X4_in ⟨Nat.le_of_ble_eq_true rfl, Nat.le_of_ble_eq_true rfl⟩) rfl rfl (Nat.le_of_ble_eq_true rfl) dX4_wrongKept_6 ⟨Nat.le_refl _, Nat.le_refl _⟩ (fun H locs hR => ?_)
  refine W.eqs (st2 := [.int (bI (inI d 0 7))]) (congrArg (fun b => Value.int (bI b) :: _) (inL_I (v := d) (lo := 0) (hi := 7) (by decide) (by decide))) ?_
  refine lb_ne (tgt := 16) hx hb dX4_wrongKept_9 (by decide) (fun c_1 => ?_) (fun c_1 => ?_)
  · skip
    obtain ⟨jd, hjd, rfl⟩ := inI_nat (k := 7) (by decide) (by decide) c_1
    refine lv_aload_n hx hb dX4_wrongKept_16 rfl (lv_at hl 0 rfl) ?_
    refine rw_get (v := .ref (ad 6)) hx hb hts in_X4 hown hK hR 0 (by decide) rfl rfl 7 (by decide) q1169 rfl rfl dX4_wrongKept_17 ?_
    refine lv_iload_n hx hb dX4_wrongKept_20 rfl (lv_at hl 1 rfl) ?_
    refine rw_ialdN (n := 8) hx hb hK hR 6 (by decide) rfl jd rfl (by omega) (by decide) dX4_wrongKept_21 ?_
    refine lv_if_ne (tgt := 30) hx hb dX4_wrongKept_22 (by decide) (fun c_2 => ?_) (fun c_2 => ?_)
    · skip
      refine lv_aload_n hx hb dX4_wrongKept_30 rfl (lv_at hl 0 rfl) ?_
      refine rw_get (v := .ref (ad 6)) hx hb hts in_X4 hown hK hR 0 (by decide) rfl rfl 7 (by decide) q1169 rfl rfl dX4_wrongKept_31 ?_
      refine lv_iload_n hx hb dX4_wrongKept_34 rfl (lv_at hl 1 rfl) ?_
      refine rw_ialdN (n := 8) hx hb hK hR 6 (by decide) rfl jd rfl (by omega) (by decide) dX4_wrongKept_35 ?_
      refine lv_iconst (v := 1) hx hb dX4_wrongKept_36 (by decide) ?_
      refine lv_icmp_eq (tgt := 45) hx hb dX4_wrongKept_37 (by decide) (fun c_3 => ?_) (fun c_3 => ?_)
      · skip
        refine lv_iconst (v := 0) hx hb dX4_wrongKept_45 (by decide) ?_
        exact hQ _ _ _ _ _ (by first | (simp [wrK, c_1, c_2, c_3, nI_clamp (show jd < 2 ^ 31 by omega)]; done) | simp_all [wrK, nI_clamp (show jd < 2 ^ 31 by omega)]) hR dX4_wrongKept_46
      · skip
        refine lv_bipush (v := (-12)) hx hb dX4_wrongKept_40 (by decide) ?_
        refine lv_goto (tgt := 46) hx hb dX4_wrongKept_42 (by decide) ?_
        exact hQ _ _ _ _ _ (by first | (simp [wrK, c_1, c_2, c_3, nI_clamp (show jd < 2 ^ 31 by omega)]; done) | simp_all [wrK, nI_clamp (show jd < 2 ^ 31 by omega)]) hR dX4_wrongKept_46
    · skip
      refine lv_bipush (v := (-11)) hx hb dX4_wrongKept_25 (by decide) ?_
      refine lv_goto (tgt := 46) hx hb dX4_wrongKept_27 (by decide) ?_
      exact hQ _ _ _ _ _ (by first | (simp [wrK, c_1, c_2, nI_clamp (show jd < 2 ^ 31 by omega)]; done) | simp_all [wrK, nI_clamp (show jd < 2 ^ 31 by omega)]) hR dX4_wrongKept_46
  · skip
    refine lv_iconst (v := (-1)) hx hb dX4_wrongKept_12 (by decide) ?_
    refine lv_goto (tgt := 46) hx hb dX4_wrongKept_13 (by decide) ?_
    exact hQ _ _ _ _ _ (by first | (simp [wrK, c_1]; done) | simp_all [wrK]) hR dX4_wrongKept_46
theorem cd_X4_child : yX4_child.cls = RX4 ∧ yX4_child.cls ≠ "java/lang/invoke/MethodHandle" ∧ yX4_child.cls ≠ "java/lang/invoke/VarHandle" ∧ (parseMethodDescriptor yX4_child.desc).map (fun d => d.parameters.length) = some 2 := by decide +kernel
set_option maxHeartbeats 4000000 in
theorem m_X4_child (l : Launch) (D : va_G) (ca : Nat → ClassId) (n : Nat) (B X : Nat → Nat → Int32) (Y : Nat → Nat → Int64) (kp : Nat) (c : Int32) (w : Int32) (hB : wfB n B) : MMi l D ca yX4_child (ws_ yX4_child cX4_child 3 (some .int)) (rmN 2) (fun ad => [.int c, .int w]) B X Y kp (oChild n B c w) B (st X 0 0 0) Y kp := by
  refine MMi_start (by decide) (Or.inl rfl) (fun _ => Nat.le_of_ble_eq_true rfl) ?_
  intro p e s m args below meth c0 ad A Q ls hx hb hml hown hts hK hR hl hQ
  have hl : lv_has ls 3 [(0, .ref (ad 0)), (1, .int c), (2, .int w)] := hl
  have hn6 : n ≤ 6 := hB.1
  refine lv_aload_n hx hb dX4_child_0 rfl (lv_at hl 0 rfl) ?_
  refine lv_iconst (v := 0) hx hb dX4_child_1 (by decide) ?_
  refine rw_put hx hb hts in_X4 tyX4 tyX4_ok nmX4 hown hK hR 0 (by decide) rfl rfl 13 (by decide) q1175 rfl rfl rfl rfl (Nat.le_of_ble_eq_true rfl) dX4_child_2 (mE_pX 0 (x := 0) rfl) (fun H locs hR => ?_)
  refine lv_aload_n hx hb dX4_child_5 rfl (lv_at hl 0 rfl) ?_
  refine lv_iload_n hx hb dX4_child_6 rfl (lv_at hl 1 rfl) ?_
  refine mm_calli (rest := []) hx hb hml hown hts hK hl.1 hR (m_X4_isChild l D ca n B (st X 0 0 0) Y kp c hB) (cwV 1 hts (lw_V q1336 q1338 qs44 q82 q1339) rfl rfl rfl cd_X4_isChild ⟨Nat.le_of_ble_eq_true rfl, Nat.le_of_ble_eq_true rfl⟩) rfl rfl (Nat.le_of_ble_eq_true rfl) dX4_child_7 ⟨Nat.le_refl _, Nat.le_refl _⟩ (fun H locs hR => ?_)
  refine lb_ne (tgt := 15) hx hb dX4_child_10 (by decide) (fun c_1 => ?_) (fun c_1 => ?_)
  · skip
    obtain ⟨jc, hjc, rfl⟩ := isC_nat hn6 c_1
    refine lv_iload_n hx hb dX4_child_15 rfl (lv_at hl 2 rfl) ?_
    by_cases k_2 : w = 0
    · skip
      refine lv_tableIn (tgt := 72) (off := 56) hx hb dX4_child_16 (by rw [k_2]; decide) (by rw [k_2]; decide) (by rw [k_2]; rfl) (by decide) ?_
      refine lv_aload_n hx hb dX4_child_72 rfl (lv_at hl 0 rfl) ?_
      refine rw_get (v := .ref (ad 1)) hx hb hts in_X4 hown hK hR 0 (by decide) rfl rfl 1 (by decide) q1163 rfl rfl dX4_child_73 ?_
      refine lv_iload_n hx hb dX4_child_76 rfl (lv_at hl 1 rfl) ?_
      refine rw_ialdN (n := 6) hx hb hK hR 1 (by decide) rfl jc rfl (by omega) (by decide) dX4_child_77 ?_
      exact hQ _ _ _ _ _ (by first | (simp [oChild, c_1, k_2, nI_clamp (show jc < 2 ^ 31 by omega)]; done) | simp_all [oChild, nI_clamp (show jc < 2 ^ 31 by omega)]) hR dX4_child_78
    by_cases k_3 : w = 1
    · skip
      refine lv_tableIn (tgt := 79) (off := 63) hx hb dX4_child_16 (by rw [k_3]; decide) (by rw [k_3]; decide) (by rw [k_3]; rfl) (by decide) ?_
      refine lv_aload_n hx hb dX4_child_79 rfl (lv_at hl 0 rfl) ?_
      refine rw_get (v := .ref (ad 2)) hx hb hts in_X4 hown hK hR 0 (by decide) rfl rfl 2 (by decide) q1164 rfl rfl dX4_child_80 ?_
      refine lv_iload_n hx hb dX4_child_83 rfl (lv_at hl 1 rfl) ?_
      refine rw_ialdN (n := 6) hx hb hK hR 2 (by decide) rfl jc rfl (by omega) (by decide) dX4_child_84 ?_
      exact hQ _ _ _ _ _ (by first | (simp [oChild, c_1, k_3, nI_clamp (show jc < 2 ^ 31 by omega)]; done) | simp_all [oChild, nI_clamp (show jc < 2 ^ 31 by omega)]) hR dX4_child_85
    by_cases k_4 : w = 2
    · skip
      refine lv_tableIn (tgt := 86) (off := 70) hx hb dX4_child_16 (by rw [k_4]; decide) (by rw [k_4]; decide) (by rw [k_4]; rfl) (by decide) ?_
      refine lv_aload_n hx hb dX4_child_86 rfl (lv_at hl 0 rfl) ?_
      refine rw_get (v := .ref (ad 3)) hx hb hts in_X4 hown hK hR 0 (by decide) rfl rfl 3 (by decide) q1165 rfl rfl dX4_child_87 ?_
      refine lv_iload_n hx hb dX4_child_90 rfl (lv_at hl 1 rfl) ?_
      refine rw_ialdN (n := 6) hx hb hK hR 3 (by decide) rfl jc rfl (by omega) (by decide) dX4_child_91 ?_
      exact hQ _ _ _ _ _ (by first | (simp [oChild, c_1, k_4, nI_clamp (show jc < 2 ^ 31 by omega)]; done) | simp_all [oChild, nI_clamp (show jc < 2 ^ 31 by omega)]) hR dX4_child_92
    by_cases k_5 : w = 3
    · skip
      refine lv_tableIn (tgt := 93) (off := 77) hx hb dX4_child_16 (by rw [k_5]; decide) (by rw [k_5]; decide) (by rw [k_5]; rfl) (by decide) ?_
      refine lv_aload_n hx hb dX4_child_93 rfl (lv_at hl 0 rfl) ?_
      refine rw_get (v := .ref (ad 4)) hx hb hts in_X4 hown hK hR 0 (by decide) rfl rfl 4 (by decide) q1166 rfl rfl dX4_child_94 ?_
      refine lv_iload_n hx hb dX4_child_97 rfl (lv_at hl 1 rfl) ?_
      refine rw_ialdN (n := 6) hx hb hK hR 4 (by decide) rfl jc rfl (by omega) (by decide) dX4_child_98 ?_
      exact hQ _ _ _ _ _ (by first | (simp [oChild, c_1, k_5, nI_clamp (show jc < 2 ^ 31 by omega)]; done) | simp_all [oChild, nI_clamp (show jc < 2 ^ 31 by omega)]) hR dX4_child_99
    by_cases k_6 : w = 4
    · skip
      refine lv_tableIn (tgt := 100) (off := 84) hx hb dX4_child_16 (by rw [k_6]; decide) (by rw [k_6]; decide) (by rw [k_6]; rfl) (by decide) ?_
      refine lv_aload_n hx hb dX4_child_100 rfl (lv_at hl 0 rfl) ?_
      refine rw_get (v := .ref (ad 5)) hx hb hts in_X4 hown hK hR 0 (by decide) rfl rfl 5 (by decide) q1167 rfl rfl dX4_child_101 ?_
      refine lv_iload_n hx hb dX4_child_104 rfl (lv_at hl 1 rfl) ?_
      refine rw_ialdN (n := 6) hx hb hK hR 5 (by decide) rfl jc rfl (by omega) (by decide) dX4_child_105 ?_
      exact hQ _ _ _ _ _ (by first | (simp [oChild, c_1, k_6, nI_clamp (show jc < 2 ^ 31 by omega)]; done) | simp_all [oChild, nI_clamp (show jc < 2 ^ 31 by omega)]) hR dX4_child_106
    by_cases k_7 : w = 5
    · skip
      refine lv_tableIn (tgt := 107) (off := 91) hx hb dX4_child_16 (by rw [k_7]; decide) (by rw [k_7]; decide) (by rw [k_7]; rfl) (by decide) ?_
      refine lv_aload_n hx hb dX4_child_107 rfl (lv_at hl 0 rfl) ?_
      refine lv_iload_n hx hb dX4_child_108 rfl (lv_at hl 1 rfl) ?_
      refine mm_calli (rest := []) hx hb hml hown hts hK hl.1 hR (m_X4_holdsOf l D ca B (st X 0 0 0) Y kp jc (by omega)) (cwV 1 hts (lw_V q1344 q1346 qs46 q82 q1347) rfl rfl rfl cd_X4_holdsOf ⟨Nat.le_of_ble_eq_true rfl, Nat.le_of_ble_eq_true rfl⟩) rfl rfl (Nat.le_of_ble_eq_true rfl) dX4_child_109 ⟨Nat.le_refl _, Nat.le_refl _⟩ (fun H locs hR => ?_)
      exact hQ _ _ _ _ _ (by first | (simp [oChild, c_1, k_7, nI_clamp (show jc < 2 ^ 31 by omega)]; done) | simp_all [oChild, nI_clamp (show jc < 2 ^ 31 by omega)]) hR dX4_child_112
    by_cases k_8 : w = 6
    · skip
      refine lv_tableIn (tgt := 113) (off := 97) hx hb dX4_child_16 (by rw [k_8]; decide) (by rw [k_8]; decide) (by rw [k_8]; rfl) (by decide) ?_
      refine lv_aload_n hx hb dX4_child_113 rfl (lv_at hl 0 rfl) ?_
      refine rw_get (v := .ref (ad 4)) hx hb hts in_X4 hown hK hR 0 (by decide) rfl rfl 4 (by decide) q1166 rfl rfl dX4_child_114 ?_
      refine lv_iload_n hx hb dX4_child_117 rfl (lv_at hl 1 rfl) ?_
      refine rw_ialdN (n := 6) hx hb hK hR 4 (by decide) rfl jc rfl (by omega) (by decide) dX4_child_118 ?_
      refine lv_bipush (v := 7) hx hb dX4_child_119 (by decide) ?_
      refine lv_icmp_ne (tgt := 128) hx hb dX4_child_121 (by decide) (fun c_9 => ?_) (fun c_9 => ?_)
      · skip
        refine lv_aload_n hx hb dX4_child_128 rfl (lv_at hl 0 rfl) ?_
        refine lv_iload_n hx hb dX4_child_129 rfl (lv_at hl 1 rfl) ?_
        refine mm_calli (rest := []) hx hb hml hown hts hK hl.1 hR (m_X4_needsOf l D ca B (st X 0 0 0) Y kp jc (by omega)) (cwV 1 hts (lw_V q1358 q1360 qs48 q82 q1361) rfl rfl rfl cd_X4_needsOf ⟨Nat.le_of_ble_eq_true rfl, Nat.le_of_ble_eq_true rfl⟩) rfl rfl (Nat.le_of_ble_eq_true rfl) dX4_child_130 ⟨Nat.le_refl _, Nat.le_refl _⟩ (fun H locs hR => ?_)
        exact hQ _ _ _ _ _ (by first | (simp [oChild, c_1, k_8, c_9, nI_clamp (show jc < 2 ^ 31 by omega)]; done) | simp_all [oChild, nI_clamp (show jc < 2 ^ 31 by omega)]) hR dX4_child_133
      · skip
        refine lv_iconst (v := 0) hx hb dX4_child_124 (by decide) ?_
        refine lv_goto (tgt := 133) hx hb dX4_child_125 (by decide) ?_
        exact hQ _ _ _ _ _ (by first | (simp [oChild, c_1, k_8, c_9, nI_clamp (show jc < 2 ^ 31 by omega)]; done) | simp_all [oChild, nI_clamp (show jc < 2 ^ 31 by omega)]) hR dX4_child_133
    by_cases k_10 : w = 7
    · skip
      refine lv_tableIn (tgt := 134) (off := 118) hx hb dX4_child_16 (by rw [k_10]; decide) (by rw [k_10]; decide) (by rw [k_10]; rfl) (by decide) ?_
      refine lv_aload_n hx hb dX4_child_134 rfl (lv_at hl 0 rfl) ?_
      refine lv_iload_n hx hb dX4_child_135 rfl (lv_at hl 1 rfl) ?_
      refine mm_calli (rest := []) hx hb hml hown hts hK hl.1 hR (m_X4_frightOf l D ca B (st X 0 0 0) Y kp jc (by omega)) (cwV 1 hts (lw_V q1378 q1380 qs53 q82 q1381) rfl rfl rfl cd_X4_frightOf ⟨Nat.le_of_ble_eq_true rfl, Nat.le_of_ble_eq_true rfl⟩) rfl rfl (Nat.le_of_ble_eq_true rfl) dX4_child_136 ⟨Nat.le_refl _, Nat.le_refl _⟩ (fun H locs hR => ?_)
      exact hQ _ _ _ _ _ (by first | (simp [oChild, c_1, k_10, nI_clamp (show jc < 2 ^ 31 by omega)]; done) | simp_all [oChild, nI_clamp (show jc < 2 ^ 31 by omega)]) hR dX4_child_139
    by_cases k_11 : w = 8
    · skip
      refine lv_tableIn (tgt := 140) (off := 124) hx hb dX4_child_16 (by rw [k_11]; decide) (by rw [k_11]; decide) (by rw [k_11]; rfl) (by decide) ?_
      refine lv_aload_n hx hb dX4_child_140 rfl (lv_at hl 0 rfl) ?_
      refine lv_iload_n hx hb dX4_child_141 rfl (lv_at hl 1 rfl) ?_
      refine mm_calli (rest := []) hx hb hml hown hts hK hl.1 hR (m_X4_bearsOf l D ca B (st X 0 0 0) Y kp jc (by omega)) (cwV 1 hts (lw_V q1390 q1392 qs56 q82 q1393) rfl rfl rfl cd_X4_bearsOf ⟨Nat.le_of_ble_eq_true rfl, Nat.le_of_ble_eq_true rfl⟩) rfl rfl (Nat.le_of_ble_eq_true rfl) dX4_child_142 ⟨Nat.le_refl _, Nat.le_refl _⟩ (fun H locs hR => ?_)
      exact hQ _ _ _ _ _ (by first | (simp [oChild, c_1, k_11, nI_clamp (show jc < 2 ^ 31 by omega)]; done) | simp_all [oChild, nI_clamp (show jc < 2 ^ 31 by omega)]) hR dX4_child_145
    by_cases k_12 : w = 9
    · skip
      refine lv_tableIn (tgt := 146) (off := 130) hx hb dX4_child_16 (by rw [k_12]; decide) (by rw [k_12]; decide) (by rw [k_12]; rfl) (by decide) ?_
      refine lv_aload_n hx hb dX4_child_146 rfl (lv_at hl 0 rfl) ?_
      refine lv_iload_n hx hb dX4_child_147 rfl (lv_at hl 1 rfl) ?_
      refine mm_calli (rest := []) hx hb hml hown hts hK hl.1 hR (m_X4_passesOf l D ca B (st X 0 0 0) Y kp jc (by omega)) (cwV 1 hts (lw_V q1370 q1372 qs51 q82 q1373) rfl rfl rfl cd_X4_passesOf ⟨Nat.le_of_ble_eq_true rfl, Nat.le_of_ble_eq_true rfl⟩) rfl rfl (Nat.le_of_ble_eq_true rfl) dX4_child_148 ⟨Nat.le_refl _, Nat.le_refl _⟩ (fun H locs hR => ?_)
      exact hQ _ _ _ _ _ (by first | (simp [oChild, c_1, k_12, nI_clamp (show jc < 2 ^ 31 by omega)]; done) | simp_all [oChild, nI_clamp (show jc < 2 ^ 31 by omega)]) hR dX4_child_151
    have k_2n : w.toInt ≠ 0 := sw_ne (by decide) k_2
    have k_3n : w.toInt ≠ 1 := sw_ne (by decide) k_3
    have k_4n : w.toInt ≠ 2 := sw_ne (by decide) k_4
    have k_5n : w.toInt ≠ 3 := sw_ne (by decide) k_5
    have k_6n : w.toInt ≠ 4 := sw_ne (by decide) k_6
    have k_7n : w.toInt ≠ 5 := sw_ne (by decide) k_7
    have k_8n : w.toInt ≠ 6 := sw_ne (by decide) k_8
    have k_10n : w.toInt ≠ 7 := sw_ne (by decide) k_10
    have k_11n : w.toInt ≠ 8 := sw_ne (by decide) k_11
    have k_12n : w.toInt ≠ 9 := sw_ne (by decide) k_12
    refine lv_tableOut (tgt := 152) hx hb dX4_child_16 (by omega) (by decide) ?_
    refine lv_iconst (v := (-1)) hx hb dX4_child_152 (by decide) ?_
    exact hQ _ _ _ _ _ (by first | (simp [oChild, c_1, k_2, k_3, k_4, k_5, k_6, k_7, k_8, k_10, k_11, k_12, nI_clamp (show jc < 2 ^ 31 by omega)]; done) | simp_all [oChild, nI_clamp (show jc < 2 ^ 31 by omega)]) hR dX4_child_153
  · skip
    refine lv_iconst (v := (-1)) hx hb dX4_child_13 (by decide) ?_
    exact hQ _ _ _ _ _ (by first | (simp [oChild, c_1]; done) | simp_all [oChild]) hR dX4_child_14
theorem cd_X4_feels : yX4_feels.cls = RX4 ∧ yX4_feels.cls ≠ "java/lang/invoke/MethodHandle" ∧ yX4_feels.cls ≠ "java/lang/invoke/VarHandle" ∧ (parseMethodDescriptor yX4_feels.desc).map (fun d => d.parameters.length) = some 3 := by decide +kernel
set_option maxHeartbeats 4000000 in
theorem m_X4_feels (l : Launch) (D : va_G) (ca : Nat → ClassId) (n : Nat) (B X : Nat → Nat → Int32) (Y : Nat → Nat → Int64) (kp : Nat) (c : Int32) (w : Int32) (v : Int32) (hB : wfB n B) : MMi l D ca yX4_feels (ws_ yX4_feels cX4_feels 5 (some .int)) (rmN 2) (fun ad => [.int c, .int w, .int v]) B X Y kp (oFeels n B c w v) (oFeelsB n B c w v) (st X 0 0 0) Y kp := by
  refine MMi_start (by decide) (Or.inl rfl) (fun _ => Nat.le_of_ble_eq_true rfl) ?_
  intro p e s m args below meth c0 ad A Q ls hx hb hml hown hts hK hR hl hQ
  have hl : lv_has ls 5 [(0, .ref (ad 0)), (1, .int c), (2, .int w), (3, .int v)] := hl
  have hn6 : n ≤ 6 := hB.1
  refine lv_aload_n hx hb dX4_feels_0 rfl (lv_at hl 0 rfl) ?_
  refine lv_iconst (v := 0) hx hb dX4_feels_1 (by decide) ?_
  refine rw_put hx hb hts in_X4 tyX4 tyX4_ok nmX4 hown hK hR 0 (by decide) rfl rfl 13 (by decide) q1175 rfl rfl rfl rfl (Nat.le_of_ble_eq_true rfl) dX4_feels_2 (mE_pX 0 (x := 0) rfl) (fun H locs hR => ?_)
  refine lv_aload_n hx hb dX4_feels_5 rfl (lv_at hl 0 rfl) ?_
  refine lv_iload_n hx hb dX4_feels_6 rfl (lv_at hl 1 rfl) ?_
  refine mm_calli (rest := []) hx hb hml hown hts hK hl.1 hR (m_X4_isChild l D ca n B (st X 0 0 0) Y kp c hB) (cwV 1 hts (lw_V q1336 q1338 qs44 q82 q1339) rfl rfl rfl cd_X4_isChild ⟨Nat.le_of_ble_eq_true rfl, Nat.le_of_ble_eq_true rfl⟩) rfl rfl (Nat.le_of_ble_eq_true rfl) dX4_feels_7 ⟨Nat.le_refl _, Nat.le_refl _⟩ (fun H locs hR => ?_)
  refine lb_eq (tgt := 45) hx hb dX4_feels_10 (by decide) (fun c_1 => ?_) (fun c_1 => ?_)
  · skip
    refine lv_iconst (v := (-1)) hx hb dX4_feels_45 (by decide) ?_
    exact hQ _ _ _ _ _ (by first | (simp [oFeels, feelsOk, c_1]; done) | simp_all [oFeels, feelsOk]) (RW.eq hR (by first | (simp [oFeelsB, feelsOk, c_1]; done) | simp_all [oFeelsB, feelsOk])) dX4_feels_46
  · skip
    obtain ⟨jc, hjc, rfl⟩ := isC_nat hn6 c_1
    refine lv_iload_n hx hb dX4_feels_13 rfl (lv_at hl 2 rfl) ?_
    refine lv_i2l (v := (w.toInt64)) hx hb dX4_feels_14 rfl ?_
    refine lv_lconst (v := 0) hx hb dX4_feels_15 (by decide) ?_
    refine lv_lconst (v := 1) hx hb dX4_feels_16 (by decide) ?_
    refine rs_calli (rest := []) hx hb hml hown hts hl.1 hR (m_X4_in l (w.toInt64) 0 1) (va_cwS 3 hts (lw_S q1288 q1289 q82 q1290) rfl rfl rfl cd_X4_in ⟨Nat.le_of_ble_eq_true rfl, Nat.le_of_ble_eq_true rfl⟩) rfl rfl (Nat.le_of_ble_eq_true rfl) dX4_feels_17 ⟨Nat.le_refl _, Nat.le_refl _⟩ (fun H locs hR => ?_)
    refine W.eqs (st2 := [.int (bI (inI w 0 1))]) (congrArg (fun b => Value.int (bI b) :: _) (inL_I (v := w) (lo := 0) (hi := 1) (by decide) (by decide))) ?_
    refine lb_eq (tgt := 45) hx hb dX4_feels_20 (by decide) (fun c_2 => ?_) (fun c_2 => ?_)
    · skip
      refine lv_iconst (v := (-1)) hx hb dX4_feels_45 (by decide) ?_
      exact hQ _ _ _ _ _ (by first | (simp [oFeels, feelsOk, c_1, c_2, nI_clamp (show jc < 2 ^ 31 by omega)]; done) | simp_all [oFeels, feelsOk, nI_clamp (show jc < 2 ^ 31 by omega)]) (RW.eq hR (by first | (simp [oFeelsB, feelsOk, c_1, c_2, nI_clamp (show jc < 2 ^ 31 by omega)]; done) | simp_all [oFeelsB, feelsOk, nI_clamp (show jc < 2 ^ 31 by omega)])) dX4_feels_46
    · skip
      refine lv_iload_n hx hb dX4_feels_23 rfl (lv_at hl 3 rfl) ?_
      refine lv_i2l (v := (v.toInt64)) hx hb dX4_feels_24 rfl ?_
      refine lv_lconst (v := 0) hx hb dX4_feels_25 (by decide) ?_
      refine lv_iload_n hx hb dX4_feels_26 rfl (lv_at hl 2 rfl) ?_
      refine lv_if_ne (tgt := 36) hx hb dX4_feels_27 (by decide) (fun c_3 => ?_) (fun c_3 => ?_)
      · skip
        refine lv_ldc2 hx hb hown (hts _ q1287) dX4_feels_36 ?_
        refine rs_calli (rest := []) hx hb hml hown hts hl.1 hR (m_X4_in l (v.toInt64) 0 7) (va_cwS 3 hts (lw_S q1288 q1289 q82 q1290) rfl rfl rfl cd_X4_in ⟨Nat.le_of_ble_eq_true rfl, Nat.le_of_ble_eq_true rfl⟩) rfl rfl (Nat.le_of_ble_eq_true rfl) dX4_feels_39 ⟨Nat.le_refl _, Nat.le_refl _⟩ (fun H locs hR => ?_)
        refine W.eqs (st2 := [.int (bI (inI v 0 7))]) (congrArg (fun b => Value.int (bI b) :: _) (inL_I (v := v) (lo := 0) (hi := 7) (by decide) (by decide))) ?_
        refine lb_ne (tgt := 47) hx hb dX4_feels_42 (by decide) (fun c_4 => ?_) (fun c_4 => ?_)
        · skip
          refine lv_iload_n hx hb dX4_feels_47 rfl (lv_at hl 2 rfl) ?_
          refine lv_if_ne (tgt := 60) hx hb dX4_feels_48 (by decide) (fun _ => ?_) (fun z => absurd z c_3)
          refine lv_aload_n hx hb dX4_feels_60 rfl (lv_at hl 0 rfl) ?_
          refine rw_get (v := .ref (ad 4)) hx hb hts in_X4 hown hK hR 0 (by decide) rfl rfl 4 (by decide) q1166 rfl rfl dX4_feels_61 ?_
          refine lv_iload_n hx hb dX4_feels_64 rfl (lv_at hl 1 rfl) ?_
          refine rw_ialdN (n := 6) hx hb hK hR 4 (by decide) rfl jc rfl (by omega) (by decide) dX4_feels_65 ?_
          refine lv_istore (lv' := [(4, .int (B 4 jc)), (0, .ref (ad 0)), (1, .int (nI jc)), (2, .int w), (3, .int v)]) hx hb dX4_feels_66 hl (by decide) rfl (fun ls hl => ?_)
          refine lv_iload_n hx hb dX4_feels_68 rfl (lv_at hl 3 rfl) ?_
          refine lv_if_ne (tgt := 82) hx hb dX4_feels_69 (by decide) (fun _ => ?_) (fun z => absurd z c_3)
          refine lv_aload_n hx hb dX4_feels_82 rfl (lv_at hl 1 rfl) ?_
          refine rw_get (v := .ref (ad 4)) hx hb hts in_X4 hown hK hR 0 (by decide) rfl rfl 4 (by decide) q1166 rfl rfl dX4_feels_83 ?_
          refine lv_iload_n hx hb dX4_feels_86 rfl (lv_at hl 2 rfl) ?_
          refine lv_iload_n hx hb dX4_feels_87 rfl (lv_at hl 4 rfl) ?_
          refine rw_iastN (n := 6) hx hb hK hR 4 (by decide) rfl jc rfl (by omega) (by decide) dX4_feels_88 (mE_B 4 (by decide)) (fun H locs hR => ?_)
          refine lv_iload hx hb dX4_feels_89 (lv_at hl 0 rfl) ?_
          exact hQ _ _ _ _ _ (by first | (simp [oFeels, feelsOk, c_1, c_2, c_3, c_4, nI_clamp (show jc < 2 ^ 31 by omega)]; done) | simp_all [oFeels, feelsOk, nI_clamp (show jc < 2 ^ 31 by omega)]) (RW.eq hR (by first | (simp [oFeelsB, feelsOk, c_1, c_2, c_3, c_4, nI_clamp (show jc < 2 ^ 31 by omega)]; done) | simp_all [oFeelsB, feelsOk, nI_clamp (show jc < 2 ^ 31 by omega)])) dX4_feels_91
        · skip
          refine lv_iconst (v := (-1)) hx hb dX4_feels_45 (by decide) ?_
          exact hQ _ _ _ _ _ (by first | (simp [oFeels, feelsOk, c_1, c_2, c_3, c_4, nI_clamp (show jc < 2 ^ 31 by omega)]; done) | simp_all [oFeels, feelsOk, nI_clamp (show jc < 2 ^ 31 by omega)]) (RW.eq hR (by first | (simp [oFeelsB, feelsOk, c_1, c_2, c_3, c_4, nI_clamp (show jc < 2 ^ 31 by omega)]; done) | simp_all [oFeelsB, feelsOk, nI_clamp (show jc < 2 ^ 31 by omega)])) dX4_feels_46
      · skip
        refine lv_ldc2 hx hb hown (hts _ q1426) dX4_feels_30 ?_
        refine lv_goto (tgt := 39) hx hb dX4_feels_33 (by decide) ?_
        refine rs_calli (rest := []) hx hb hml hown hts hl.1 hR (m_X4_in l (v.toInt64) 0 20) (va_cwS 3 hts (lw_S q1288 q1289 q82 q1290) rfl rfl rfl cd_X4_in ⟨Nat.le_of_ble_eq_true rfl, Nat.le_of_ble_eq_true rfl⟩) rfl rfl (Nat.le_of_ble_eq_true rfl) dX4_feels_39 ⟨Nat.le_refl _, Nat.le_refl _⟩ (fun H locs hR => ?_)
        refine W.eqs (st2 := [.int (bI (inI v 0 20))]) (congrArg (fun b => Value.int (bI b) :: _) (inL_I (v := v) (lo := 0) (hi := 20) (by decide) (by decide))) ?_
        refine lb_ne (tgt := 47) hx hb dX4_feels_42 (by decide) (fun c_5 => ?_) (fun c_5 => ?_)
        · skip
          refine lv_iload_n hx hb dX4_feels_47 rfl (lv_at hl 2 rfl) ?_
          refine lv_if_ne (tgt := 60) hx hb dX4_feels_48 (by decide) (fun z => absurd c_3 z) (fun _ => ?_)
          refine lv_aload_n hx hb dX4_feels_51 rfl (lv_at hl 0 rfl) ?_
          refine rw_get (v := .ref (ad 3)) hx hb hts in_X4 hown hK hR 0 (by decide) rfl rfl 3 (by decide) q1165 rfl rfl dX4_feels_52 ?_
          refine lv_iload_n hx hb dX4_feels_55 rfl (lv_at hl 1 rfl) ?_
          refine rw_ialdN (n := 6) hx hb hK hR 3 (by decide) rfl jc rfl (by omega) (by decide) dX4_feels_56 ?_
          refine lv_goto (tgt := 66) hx hb dX4_feels_57 (by decide) ?_
          refine lv_istore (lv' := [(4, .int (B 3 jc)), (0, .ref (ad 0)), (1, .int (nI jc)), (2, .int w), (3, .int v)]) hx hb dX4_feels_66 hl (by decide) rfl (fun ls hl => ?_)
          refine lv_iload_n hx hb dX4_feels_68 rfl (lv_at hl 3 rfl) ?_
          refine lv_if_ne (tgt := 82) hx hb dX4_feels_69 (by decide) (fun z => absurd c_3 z) (fun _ => ?_)
          refine lv_aload_n hx hb dX4_feels_72 rfl (lv_at hl 1 rfl) ?_
          refine rw_get (v := .ref (ad 3)) hx hb hts in_X4 hown hK hR 0 (by decide) rfl rfl 3 (by decide) q1165 rfl rfl dX4_feels_73 ?_
          refine lv_iload_n hx hb dX4_feels_76 rfl (lv_at hl 2 rfl) ?_
          refine lv_iload_n hx hb dX4_feels_77 rfl (lv_at hl 4 rfl) ?_
          refine rw_iastN (n := 6) hx hb hK hR 3 (by decide) rfl jc rfl (by omega) (by decide) dX4_feels_78 (mE_B 3 (by decide)) (fun H locs hR => ?_)
          refine lv_goto (tgt := 89) hx hb dX4_feels_79 (by decide) ?_
          refine lv_iload hx hb dX4_feels_89 (lv_at hl 0 rfl) ?_
          exact hQ _ _ _ _ _ (by first | (simp [oFeels, feelsOk, c_1, c_2, c_3, c_5, nI_clamp (show jc < 2 ^ 31 by omega)]; done) | simp_all [oFeels, feelsOk, nI_clamp (show jc < 2 ^ 31 by omega)]) (RW.eq hR (by first | (simp [oFeelsB, feelsOk, c_1, c_2, c_3, c_5, nI_clamp (show jc < 2 ^ 31 by omega)]; done) | simp_all [oFeelsB, feelsOk, nI_clamp (show jc < 2 ^ 31 by omega)])) dX4_feels_91
        · skip
          refine lv_iconst (v := (-1)) hx hb dX4_feels_45 (by decide) ?_
          exact hQ _ _ _ _ _ (by first | (simp [oFeels, feelsOk, c_1, c_2, c_3, c_5, nI_clamp (show jc < 2 ^ 31 by omega)]; done) | simp_all [oFeels, feelsOk, nI_clamp (show jc < 2 ^ 31 by omega)]) (RW.eq hR (by first | (simp [oFeelsB, feelsOk, c_1, c_2, c_3, c_5, nI_clamp (show jc < 2 ^ 31 by omega)]; done) | simp_all [oFeelsB, feelsOk, nI_clamp (show jc < 2 ^ 31 by omega)])) dX4_feels_46
theorem cd_X4_minute : yX4_minute.cls = RX4 ∧ yX4_minute.cls ≠ "java/lang/invoke/MethodHandle" ∧ yX4_minute.cls ≠ "java/lang/invoke/VarHandle" ∧ (parseMethodDescriptor yX4_minute.desc).map (fun d => d.parameters.length) = some 2 := by decide +kernel
set_option maxHeartbeats 4000000 in
theorem m_X4_minute (l : Launch) (D : va_G) (ca : Nat → ClassId) (n : Nat) (B X : Nat → Nat → Int32) (Y : Nat → Nat → Int64) (kp : Nat) (c : Int32) (w : Int32) (hB : wfB n B) : MMi l D ca yX4_minute (ws_ yX4_minute cX4_minute 3 (some .int)) (rmN 6) (fun ad => [.int c, .int w]) B X Y kp (oMinute n B c w) (oMinuteB n B c w) (st X 0 0 0) Y kp := by
  refine MMi_start (by decide) (Or.inl rfl) (fun _ => Nat.le_of_ble_eq_true rfl) ?_
  intro p e s m args below meth c0 ad A Q ls hx hb hml hown hts hK hR hl hQ
  have hl : lv_has ls 3 [(0, .ref (ad 0)), (1, .int c), (2, .int w)] := hl
  have hn6 : n ≤ 6 := hB.1
  refine lv_aload_n hx hb dX4_minute_0 rfl (lv_at hl 0 rfl) ?_
  refine lv_iconst (v := 0) hx hb dX4_minute_1 (by decide) ?_
  refine rw_put hx hb hts in_X4 tyX4 tyX4_ok nmX4 hown hK hR 0 (by decide) rfl rfl 13 (by decide) q1175 rfl rfl rfl rfl (Nat.le_of_ble_eq_true rfl) dX4_minute_2 (mE_pX 0 (x := 0) rfl) (fun H locs hR => ?_)
  refine lv_aload_n hx hb dX4_minute_5 rfl (lv_at hl 0 rfl) ?_
  refine lv_iload_n hx hb dX4_minute_6 rfl (lv_at hl 1 rfl) ?_
  refine mm_calli (rest := []) hx hb hml hown hts hK hl.1 hR (m_X4_isChild l D ca n B (st X 0 0 0) Y kp c hB) (cwV 1 hts (lw_V q1336 q1338 qs44 q82 q1339) rfl rfl rfl cd_X4_isChild ⟨Nat.le_of_ble_eq_true rfl, Nat.le_of_ble_eq_true rfl⟩) rfl rfl (Nat.le_of_ble_eq_true rfl) dX4_minute_7 ⟨Nat.le_refl _, Nat.le_refl _⟩ (fun H locs hR => ?_)
  refine lb_eq (tgt := 25) hx hb dX4_minute_10 (by decide) (fun c_1 => ?_) (fun c_1 => ?_)
  · skip
    refine lv_iconst (v := (-1)) hx hb dX4_minute_25 (by decide) ?_
    exact hQ _ _ _ _ _ (by first | (simp [oMinute, c_1]; done) | simp_all [oMinute]) (RW.eq hR (by simp [oMinuteB, sMinC, c_1])) dX4_minute_26
  · skip
    obtain ⟨jc, hjc, rfl⟩ := isC_nat hn6 c_1
    refine lv_iload_n hx hb dX4_minute_13 rfl (lv_at hl 2 rfl) ?_
    refine lv_i2l (v := (w.toInt64)) hx hb dX4_minute_14 rfl ?_
    refine lv_lconst (v := 0) hx hb dX4_minute_15 (by decide) ?_
    refine lv_ldc2 hx hb hown (hts _ q1439) dX4_minute_16 ?_
    refine rs_calli (rest := []) hx hb hml hown hts hl.1 hR (m_X4_in l (w.toInt64) 0 3) (va_cwS 3 hts (lw_S q1288 q1289 q82 q1290) rfl rfl rfl cd_X4_in ⟨Nat.le_of_ble_eq_true rfl, Nat.le_of_ble_eq_true rfl⟩) rfl rfl (Nat.le_of_ble_eq_true rfl) dX4_minute_19 ⟨Nat.le_refl _, Nat.le_refl _⟩ (fun H locs hR => ?_)
    refine W.eqs (st2 := [.int (bI (inI w 0 3))]) (congrArg (fun b => Value.int (bI b) :: _) (inL_I (v := w) (lo := 0) (hi := 3) (by decide) (by decide))) ?_
    refine lb_ne (tgt := 27) hx hb dX4_minute_22 (by decide) (fun c_2 => ?_) (fun c_2 => ?_)
    · skip
      refine lv_aload_n hx hb dX4_minute_27 rfl (lv_at hl 0 rfl) ?_
      refine lv_iload_n hx hb dX4_minute_28 rfl (lv_at hl 1 rfl) ?_
      refine lv_iload_n hx hb dX4_minute_29 rfl (lv_at hl 2 rfl) ?_
      refine mm_calli (rest := []) hx hb hml hown hts hK hl.1 hR (m_X4_minuteComes l D ca n B (st X 0 0 0) Y kp (nI jc) w hB) (cwV 2 hts (lw_V q1332 q1334 qs43 q82 q1335) rfl rfl rfl cd_X4_minuteComes ⟨Nat.le_of_ble_eq_true rfl, Nat.le_of_ble_eq_true rfl⟩) rfl rfl (Nat.le_of_ble_eq_true rfl) dX4_minute_30 ⟨Nat.le_refl _, Nat.le_refl _⟩ (fun H locs hR => ?_)
      refine lb_eq (tgt := 45) hx hb dX4_minute_33 (by decide) (fun c_3 => ?_) (fun c_3 => ?_)
      · skip
        refine lv_bipush (v := (-3)) hx hb dX4_minute_45 (by decide) ?_
        exact hQ _ _ _ _ _ (by first | (simp [oMinute, c_1, c_2, c_3, nI_clamp (show jc < 2 ^ 31 by omega)]; done) | simp_all [oMinute, nI_clamp (show jc < 2 ^ 31 by omega)]) (RW.eq hR (by simp [oMinuteB, sMinC, c_1, c_2, c_3])) dX4_minute_47
      · skip
        refine lv_aload_n hx hb dX4_minute_36 rfl (lv_at hl 0 rfl) ?_
        refine rw_get (v := .ref (ad 3)) hx hb hts in_X4 hown hK hR 0 (by decide) rfl rfl 3 (by decide) q1165 rfl rfl dX4_minute_37 ?_
        refine lv_iload_n hx hb dX4_minute_40 rfl (lv_at hl 1 rfl) ?_
        refine rw_ialdN (n := 6) hx hb hK hR 3 (by decide) rfl jc rfl (by omega) (by decide) dX4_minute_41 ?_
        refine lv_goto (tgt := 47) hx hb dX4_minute_42 (by decide) ?_
        exact hQ _ _ _ _ _ (by first | (simp [oMinute, c_1, c_2, c_3, nI_clamp (show jc < 2 ^ 31 by omega)]; done) | simp_all [oMinute, nI_clamp (show jc < 2 ^ 31 by omega)]) (RW.eq hR (by simp [oMinuteB, sMinC, c_1, c_2, c_3])) dX4_minute_47
    · skip
      refine lv_iconst (v := (-1)) hx hb dX4_minute_25 (by decide) ?_
      exact hQ _ _ _ _ _ (by first | (simp [oMinute, c_1, c_2, nI_clamp (show jc < 2 ^ 31 by omega)]; done) | simp_all [oMinute, nI_clamp (show jc < 2 ^ 31 by omega)]) (RW.eq hR (by simp [oMinuteB, sMinC, c_1, c_2])) dX4_minute_26
theorem cd_X4_change : yX4_change.cls = RX4 ∧ yX4_change.cls ≠ "java/lang/invoke/MethodHandle" ∧ yX4_change.cls ≠ "java/lang/invoke/VarHandle" ∧ (parseMethodDescriptor yX4_change.desc).map (fun d => d.parameters.length) = some 2 := by decide +kernel
set_option maxHeartbeats 4000000 in
theorem m_X4_change (l : Launch) (D : va_G) (ca : Nat → ClassId) (n : Nat) (B X : Nat → Nat → Int32) (Y : Nat → Nat → Int64) (kp : Nat) (a : Int32) (b : Int32) (hB : wfB n B) : MMi l D ca yX4_change (ws_ yX4_change cX4_change 3 (some .int)) (rmN 2) (fun ad => [.int a, .int b]) B X Y kp (oChange n a b) (oChangeB n B a b) (st X 0 0 0) Y kp := by
  refine MMi_start (by decide) (Or.inl rfl) (fun _ => Nat.le_of_ble_eq_true rfl) ?_
  intro p e s m args below meth c0 ad A Q ls hx hb hml hown hts hK hR hl hQ
  have hl : lv_has ls 3 [(0, .ref (ad 0)), (1, .int a), (2, .int b)] := hl
  have hn6 : n ≤ 6 := hB.1
  refine lv_aload_n hx hb dX4_change_0 rfl (lv_at hl 0 rfl) ?_
  refine lv_iconst (v := 0) hx hb dX4_change_1 (by decide) ?_
  refine rw_put hx hb hts in_X4 tyX4 tyX4_ok nmX4 hown hK hR 0 (by decide) rfl rfl 13 (by decide) q1175 rfl rfl rfl rfl (Nat.le_of_ble_eq_true rfl) dX4_change_2 (mE_pX 0 (x := 0) rfl) (fun H locs hR => ?_)
  refine lv_aload_n hx hb dX4_change_5 rfl (lv_at hl 0 rfl) ?_
  refine lv_iload_n hx hb dX4_change_6 rfl (lv_at hl 1 rfl) ?_
  refine mm_calli (rest := []) hx hb hml hown hts hK hl.1 hR (m_X4_isChild l D ca n B (st X 0 0 0) Y kp a hB) (cwV 1 hts (lw_V q1336 q1338 qs44 q82 q1339) rfl rfl rfl cd_X4_isChild ⟨Nat.le_of_ble_eq_true rfl, Nat.le_of_ble_eq_true rfl⟩) rfl rfl (Nat.le_of_ble_eq_true rfl) dX4_change_7 ⟨Nat.le_refl _, Nat.le_refl _⟩ (fun H locs hR => ?_)
  refine lb_eq (tgt := 26) hx hb dX4_change_10 (by decide) (fun c_1 => ?_) (fun c_1 => ?_)
  · skip
    refine lv_iconst (v := (-1)) hx hb dX4_change_26 (by decide) ?_
    exact hQ _ _ _ _ _ (by first | (simp [oChange, twoOk, c_1]; done) | simp_all [oChange, twoOk]) (RW.eq hR (by first | (simp [oChangeB, twoOk, c_1]; done) | simp_all [oChangeB, twoOk])) dX4_change_27
  · skip
    obtain ⟨ja, hja, rfl⟩ := isC_nat hn6 c_1
    refine lv_aload_n hx hb dX4_change_13 rfl (lv_at hl 0 rfl) ?_
    refine lv_iload_n hx hb dX4_change_14 rfl (lv_at hl 2 rfl) ?_
    refine mm_calli (rest := []) hx hb hml hown hts hK hl.1 hR (m_X4_isChild l D ca n B (st X 0 0 0) Y kp b hB) (cwV 1 hts (lw_V q1336 q1338 qs44 q82 q1339) rfl rfl rfl cd_X4_isChild ⟨Nat.le_of_ble_eq_true rfl, Nat.le_of_ble_eq_true rfl⟩) rfl rfl (Nat.le_of_ble_eq_true rfl) dX4_change_15 ⟨Nat.le_refl _, Nat.le_refl _⟩ (fun H locs hR => ?_)
    refine lb_eq (tgt := 26) hx hb dX4_change_18 (by decide) (fun c_2 => ?_) (fun c_2 => ?_)
    · skip
      refine lv_iconst (v := (-1)) hx hb dX4_change_26 (by decide) ?_
      exact hQ _ _ _ _ _ (by first | (simp [oChange, twoOk, c_1, c_2, nI_clamp (show ja < 2 ^ 31 by omega)]; done) | simp_all [oChange, twoOk, nI_clamp (show ja < 2 ^ 31 by omega)]) (RW.eq hR (by first | (simp [oChangeB, twoOk, c_1, c_2, nI_clamp (show ja < 2 ^ 31 by omega)]; done) | simp_all [oChangeB, twoOk, nI_clamp (show ja < 2 ^ 31 by omega)])) dX4_change_27
    · skip
      obtain ⟨jb, hjb, rfl⟩ := isC_nat hn6 c_2
      refine lv_iload_n hx hb dX4_change_21 rfl (lv_at hl 1 rfl) ?_
      refine lv_iload_n hx hb dX4_change_22 rfl (lv_at hl 2 rfl) ?_
      refine ln_ne (tgt := 28) hx hb (ja) (jb) rfl rfl (by omega) (by omega) dX4_change_23 (by decide) (fun c_3 => ?_) (fun c_3 => ?_)
      · skip
        refine lv_aload_n hx hb dX4_change_28 rfl (lv_at hl 0 rfl) ?_
        refine lv_iload_n hx hb dX4_change_29 rfl (lv_at hl 1 rfl) ?_
        refine lv_iload_n hx hb dX4_change_30 rfl (lv_at hl 2 rfl) ?_
        refine mm_callv (rest := []) hx hb hml hown hts hK hl.1 hR (m_X4_swapAll l D ca n B (st X 0 0 0) Y kp ja jb hB (by omega) (by omega)) (cwV 2 hts (lw_V q1398 q1400 qs58 q82 q1401) rfl rfl rfl cd_X4_swapAll ⟨Nat.le_of_ble_eq_true rfl, Nat.le_of_ble_eq_true rfl⟩) rfl rfl (Nat.le_of_ble_eq_true rfl) dX4_change_31 ⟨Nat.le_refl _, Nat.le_refl _⟩ (fun H locs hR => ?_)
        refine lv_iconst (v := 1) hx hb dX4_change_34 (by decide) ?_
        exact hQ _ _ _ _ _ (by first | (simp [oChange, twoOk, c_1, c_2, c_3, nI_clamp (show ja < 2 ^ 31 by omega), nI_clamp (show jb < 2 ^ 31 by omega)]; done) | simp_all [oChange, twoOk, nI_clamp (show ja < 2 ^ 31 by omega), nI_clamp (show jb < 2 ^ 31 by omega)]) (RW.eq hR (by first | (simp [oChangeB, twoOk, c_1, c_2, c_3, nI_clamp (show ja < 2 ^ 31 by omega), nI_clamp (show jb < 2 ^ 31 by omega)]; done) | simp_all [oChangeB, twoOk, nI_clamp (show ja < 2 ^ 31 by omega), nI_clamp (show jb < 2 ^ 31 by omega)])) dX4_change_35
      · skip
        refine lv_iconst (v := (-1)) hx hb dX4_change_26 (by decide) ?_
        exact hQ _ _ _ _ _ (by first | (simp [oChange, twoOk, c_1, c_2, c_3, nI_clamp (show ja < 2 ^ 31 by omega), nI_clamp (show jb < 2 ^ 31 by omega)]; done) | simp_all [oChange, twoOk, nI_clamp (show ja < 2 ^ 31 by omega), nI_clamp (show jb < 2 ^ 31 by omega)]) (RW.eq hR (by first | (simp [oChangeB, twoOk, c_1, c_2, c_3, nI_clamp (show ja < 2 ^ 31 by omega), nI_clamp (show jb < 2 ^ 31 by omega)]; done) | simp_all [oChangeB, twoOk, nI_clamp (show ja < 2 ^ 31 by omega), nI_clamp (show jb < 2 ^ 31 by omega)])) dX4_change_27
theorem cd_X4_rest : yX4_rest.cls = RX4 ∧ yX4_rest.cls ≠ "java/lang/invoke/MethodHandle" ∧ yX4_rest.cls ≠ "java/lang/invoke/VarHandle" ∧ (parseMethodDescriptor yX4_rest.desc).map (fun d => d.parameters.length) = some 1 := by decide +kernel
set_option maxHeartbeats 4000000 in
theorem m_X4_rest (l : Launch) (D : va_G) (ca : Nat → ClassId) (n : Nat) (B X : Nat → Nat → Int32) (Y : Nat → Nat → Int64) (kp : Nat) (w : Int32) (hB : wfB n B) : MMi l D ca yX4_rest (ws_ yX4_rest cX4_rest 2 (some .int)) (rmN 2) (fun ad => [.int w]) B X Y kp (oRest n B w) (oRestB n B w) (st X 0 0 0) Y kp := by
  refine MMi_start (by decide) (Or.inl rfl) (fun _ => Nat.le_of_ble_eq_true rfl) ?_
  intro p e s m args below meth c0 ad A Q ls hx hb hml hown hts hK hR hl hQ
  have hl : lv_has ls 2 [(0, .ref (ad 0)), (1, .int w)] := hl
  have hn6 : n ≤ 6 := hB.1
  refine lv_aload_n hx hb dX4_rest_0 rfl (lv_at hl 0 rfl) ?_
  refine lv_iconst (v := 0) hx hb dX4_rest_1 (by decide) ?_
  refine rw_put hx hb hts in_X4 tyX4 tyX4_ok nmX4 hown hK hR 0 (by decide) rfl rfl 13 (by decide) q1175 rfl rfl rfl rfl (Nat.le_of_ble_eq_true rfl) dX4_rest_2 (mE_pX 0 (x := 0) rfl) (fun H locs hR => ?_)
  refine lv_iload_n hx hb dX4_rest_5 rfl (lv_at hl 1 rfl) ?_
  refine lv_i2l (v := (w.toInt64)) hx hb dX4_rest_6 rfl ?_
  refine lv_lconst (v := 0) hx hb dX4_rest_7 (by decide) ?_
  refine lv_ldc2 hx hb hown (hts _ q1448) dX4_rest_8 ?_
  refine rs_calli (rest := []) hx hb hml hown hts hl.1 hR (m_X4_in l (w.toInt64) 0 9) (va_cwS 3 hts (lw_S q1288 q1289 q82 q1290) rfl rfl rfl cd_X4_in ⟨Nat.le_of_ble_eq_true rfl, Nat.le_of_ble_eq_true rfl⟩) rfl rfl (Nat.le_of_ble_eq_true rfl) dX4_rest_11 ⟨Nat.le_refl _, Nat.le_refl _⟩ (fun H locs hR => ?_)
  refine W.eqs (st2 := [.int (bI (inI w 0 9))]) (congrArg (fun b => Value.int (bI b) :: _) (inL_I (v := w) (lo := 0) (hi := 9) (by decide) (by decide))) ?_
  refine lb_ne (tgt := 19) hx hb dX4_rest_14 (by decide) (fun c_1 => ?_) (fun c_1 => ?_)
  · skip
    refine lv_aload_n hx hb dX4_rest_19 rfl (lv_at hl 0 rfl) ?_
    refine lv_iload_n hx hb dX4_rest_20 rfl (lv_at hl 1 rfl) ?_
    refine mm_callv (rest := []) hx hb hml hown hts hK hl.1 hR (m_X4_goBreak l D ca n B (st X 0 0 0) Y kp w hB) (cwV 1 hts (lw_V q1394 q1396 qs57 q82 q1397) rfl rfl rfl cd_X4_goBreak ⟨Nat.le_of_ble_eq_true rfl, Nat.le_of_ble_eq_true rfl⟩) rfl rfl (Nat.le_of_ble_eq_true rfl) dX4_rest_21 ⟨Nat.le_refl _, Nat.le_refl _⟩ (fun H locs hR => ?_)
    refine lv_aload_n hx hb dX4_rest_24 rfl (lv_at hl 0 rfl) ?_
    refine mm_calli (rest := []) hx hb hml hown hts hK hl.1 hR (m_X4_allSteps l D ca n (sRestTo w B n) (st X 0 0 0) Y kp (wf_restTo hB n (Nat.le_refl _))) (cwV 0 hts (lw_V q1449 q1451 qs62 q82 q1452) rfl rfl rfl cd_X4_allSteps ⟨Nat.le_of_ble_eq_true rfl, Nat.le_of_ble_eq_true rfl⟩) rfl rfl (Nat.le_of_ble_eq_true rfl) dX4_rest_25 ⟨Nat.le_refl _, Nat.le_refl _⟩ (fun H locs hR => ?_)
    exact hQ _ _ _ _ _ (by first | (simp [oRest, c_1]; done) | simp_all [oRest]) (RW.eq hR (by first | (simp [oRestB, c_1]; done) | simp_all [oRestB])) dX4_rest_28
  · skip
    refine lv_iconst (v := (-1)) hx hb dX4_rest_17 (by decide) ?_
    exact hQ _ _ _ _ _ (by first | (simp [oRest, c_1]; done) | simp_all [oRest]) (RW.eq hR (by first | (simp [oRestB, c_1]; done) | simp_all [oRestB])) dX4_rest_18
theorem cd_X4_ready : yX4_ready.cls = RX4 ∧ yX4_ready.cls ≠ "java/lang/invoke/MethodHandle" ∧ yX4_ready.cls ≠ "java/lang/invoke/VarHandle" ∧ (parseMethodDescriptor yX4_ready.desc).map (fun d => d.parameters.length) = some 0 := by decide +kernel
set_option maxHeartbeats 4000000 in
theorem m_X4_ready (l : Launch) (D : va_G) (ca : Nat → ClassId) (n : Nat) (B X : Nat → Nat → Int32) (Y : Nat → Nat → Int64) (kp : Nat)  (hB : wfB n B) : MMi l D ca yX4_ready (ws_ yX4_ready cX4_ready 1 (some .int)) (rmN 4) (fun ad => []) B X Y kp (orTo (rdy B) n) B (st X 0 0 0) Y kp := by
  refine MMi_start (by decide) (Or.inl rfl) (fun _ => Nat.le_of_ble_eq_true rfl) ?_
  intro p e s m args below meth c0 ad A Q ls hx hb hml hown hts hK hR hl hQ
  have hl : lv_has ls 1 [(0, .ref (ad 0))] := hl
  have hn6 : n ≤ 6 := hB.1
  refine lv_aload_n hx hb dX4_ready_0 rfl (lv_at hl 0 rfl) ?_
  refine lv_iconst (v := 0) hx hb dX4_ready_1 (by decide) ?_
  refine rw_put hx hb hts in_X4 tyX4 tyX4_ok nmX4 hown hK hR 0 (by decide) rfl rfl 13 (by decide) q1175 rfl rfl rfl rfl (Nat.le_of_ble_eq_true rfl) dX4_ready_2 (mE_pX 0 (x := 0) rfl) (fun H locs hR => ?_)
  refine lv_aload_n hx hb dX4_ready_5 rfl (lv_at hl 0 rfl) ?_
  refine mm_calli (rest := []) hx hb hml hown hts hK hl.1 hR (m_X4_readyBits l D ca n B (st X 0 0 0) Y kp hB) (cwV 0 hts (lw_V q1457 q1459 qs63 q82 q1460) rfl rfl rfl cd_X4_readyBits ⟨Nat.le_of_ble_eq_true rfl, Nat.le_of_ble_eq_true rfl⟩) rfl rfl (Nat.le_of_ble_eq_true rfl) dX4_ready_6 ⟨Nat.le_refl _, Nat.le_refl _⟩ (fun H locs hR => ?_)
  exact hQ _ _ _ _ _ (rfl) hR dX4_ready_9
