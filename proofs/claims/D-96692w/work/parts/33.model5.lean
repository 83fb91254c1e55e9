/-! the model: sums over the children, shelves -/
set_option maxRecDepth 100000
theorem cd_X4_helps : yX4_helps.cls = RX4 ∧ yX4_helps.cls ≠ "java/lang/invoke/MethodHandle" ∧ yX4_helps.cls ≠ "java/lang/invoke/VarHandle" ∧ (parseMethodDescriptor yX4_helps.desc).map (fun d => d.parameters.length) = some 0 := by decide +kernel
set_option maxHeartbeats 4000000 in
theorem m_X4_helps (l : Launch) (D : va_G) (ca : Nat → ClassId) (n : Nat) (B X : Nat → Nat → Int32) (Y : Nat → Nat → Int64) (kp : Nat)  (hB : wfB n B) : MMi l D ca yX4_helps (ws_ yX4_helps cX4_helps 6 (some .int)) (rmN 3) (fun ad => []) B X Y kp ((hlpTo n B n).1) B (st X 0 0 0) Y kp := by
  refine MMi_start (by decide) (Or.inl rfl) (fun _ => Nat.le_of_ble_eq_true rfl) ?_
  intro p e s m args below meth c0 ad A Q ls hx hb hml hown hts hK hR hl hQ
  have hl : lv_has ls 6 [(0, .ref (ad 0))] := hl
  have hn6 : n ≤ 6 := hB.1
  refine lv_aload_n hx hb dX4_helps_0 rfl (lv_at hl 0 rfl) ?_
  refine lv_iconst (v := 0) hx hb dX4_helps_1 (by decide) ?_
  refine rw_put hx hb hts in_X4 tyX4 tyX4_ok nmX4 hown hK hR 0 (by decide) rfl rfl 13 (by decide) q1175 rfl rfl rfl rfl (Nat.le_of_ble_eq_true rfl) dX4_helps_2 (mE_pX 0 (x := 0) rfl) (fun H locs hR => ?_)
  refine lv_bipush (v := (-4)) hx hb dX4_helps_5 (by decide) ?_
  refine lv_istore_n (lv' := [(1, .int (-4)), (0, .ref (ad 0))]) hx hb dX4_helps_7 rfl hl (by decide) rfl (fun ls hl => ?_)
  refine lv_iconst (v := (-1)) hx hb dX4_helps_8 (by decide) ?_
  refine lv_istore_n (lv' := [(2, .int (-1)), (1, .int (-4)), (0, .ref (ad 0))]) hx hb dX4_helps_9 rfl hl (by decide) rfl (fun ls hl => ?_)
  refine lv_iconst (v := 0) hx hb dX4_helps_10 (by decide) ?_
  refine lv_istore_n (lv' := [(3, .int 0), (2, .int (-1)), (1, .int (-4)), (0, .ref (ad 0))]) hx hb dX4_helps_11 rfl hl (by decide) rfl (fun ls hl => ?_)
  have loop_12 : ∀ (nn : Nat) (i : Nat) (u : Int32) (v : Int32), n - i < nn → (i ≤ n) → (hlpTo n B i = (u, v)) → ∀ (H : Heap) (locs : List Loc), RW D 23 ad (mE ca ad B (st X 0 0 0) Y kp) A s.heap H locs → ∀ (ls : Array Slot), lv_has ls 6 [(0, .ref (ad 0)), (1, .int u), (2, .int v), (3, .int (nI i))] → W p l e (rmN 3) s m args below meth c0 H locs 0 0 Q (F0 m 12 ls []) := by
    intro nn
    induction nn with
    | zero => intro i u v hm; exact absurd hm (Nat.not_lt_zero _)
    | succ nn ih_12 =>
      intro i u v hm_12 hi huv H locs hR ls hl
      refine lv_iload_n hx hb dX4_helps_12 rfl (lv_at hl 3 rfl) ?_
      refine lv_aload_n hx hb dX4_helps_13 rfl (lv_at hl 0 rfl) ?_
      refine rw_get (v := .int (nI n)) hx hb hts in_X4 hown hK hR 0 (by decide) rfl rfl 0 (by decide) q1162 rfl (mF_ch hB) dX4_helps_14 ?_
      refine ln_ge (tgt := 109) hx hb (i) (n) rfl rfl (by omega) (by omega) dX4_helps_17 (by decide) (fun c_1 => ?_) (fun c_1 => ?_)
      · skip
        refine lv_iload_n hx hb dX4_helps_109 rfl (lv_at hl 1 rfl) ?_
        exact hQ _ _ _ _ _ (by rw [show i = n by omega] at huv; rw [huv]) hR dX4_helps_110
      · skip
        refine lv_iload_n hx hb dX4_helps_20 rfl (lv_at hl 3 rfl) ?_
        refine ln0_le (tgt := 28) hx hb (i) rfl (by omega) dX4_helps_21 (by decide) (fun c_2 => ?_) (fun c_2 => ?_)
        · skip
          refine lv_iconst (v := 0) hx hb dX4_helps_28 (by decide) ?_
          refine lv_iload_n hx hb dX4_helps_29 rfl (lv_at hl 3 rfl) ?_
          refine lv_iconst (v := 1) hx hb dX4_helps_30 (by decide) ?_
          refine lv_iadd hx hb dX4_helps_31 ?_
          refine W.eqs (st2 := [.int (nI (i + 1)), .int 0]) (congrArg (fun z : Int32 => Value.int z :: _) (nI_add i 1)) ?_
          refine lv_aload_n hx hb dX4_helps_32 rfl (lv_at hl 0 rfl) ?_
          refine rw_get (v := .int (nI n)) hx hb hts in_X4 hown hK hR 0 (by decide) rfl rfl 0 (by decide) q1162 rfl (mF_ch hB) dX4_helps_33 ?_
          refine ln_ge (tgt := 43) hx hb (i + 1) (n) rfl rfl (by omega) (by omega) dX4_helps_36 (by decide) (fun c_3 => ?_) (fun c_3 => ?_)
          · skip
            refine lv_iconst (v := 0) hx hb dX4_helps_43 (by decide) ?_
            refine lv_iadd hx hb dX4_helps_44 ?_
            refine W.eqs (st2 := [.int 0]) (congrArg (fun z : Int32 => Value.int z :: _) (show ((0 + 0) : Int32) = 0 by decide)) ?_
            refine lv_istore (lv' := [(4, .int 0), (0, .ref (ad 0)), (1, .int u), (2, .int v), (3, .int (nI i))]) hx hb dX4_helps_45 hl (by decide) rfl (fun ls hl => ?_)
            refine lv_aload_n hx hb dX4_helps_47 rfl (lv_at hl 1 rfl) ?_
            refine lv_iload_n hx hb dX4_helps_48 rfl (lv_at hl 4 rfl) ?_
            refine mm_calli (rest := []) hx hb hml hown hts hK hl.1 hR (m_X4_isReady l D ca B (st X 0 0 0) Y kp i (by omega)) (cwV 1 hts (lw_V q1374 q1376 qs52 q82 q1377) rfl rfl rfl cd_X4_isReady ⟨Nat.le_of_ble_eq_true rfl, Nat.le_of_ble_eq_true rfl⟩) rfl rfl (Nat.le_of_ble_eq_true rfl) dX4_helps_49 ⟨Nat.le_refl _, Nat.le_refl _⟩ (fun H locs hR => ?_)
            refine lb_eq (tgt := 71) hx hb dX4_helps_52 (by decide) (fun c_4 => ?_) (fun c_4 => ?_)
            · skip
              refine lv_iconst (v := 0) hx hb dX4_helps_71 (by decide) ?_
              refine lv_istore (lv' := [(5, .int 0), (4, .int 0), (0, .ref (ad 0)), (1, .int u), (2, .int v), (3, .int (nI i))]) hx hb dX4_helps_72 hl (by decide) rfl (fun ls hl => ?_)
              refine lv_iload hx hb dX4_helps_74 (lv_at hl 0 rfl) ?_
              refine lv_if_eq (tgt := 83) hx hb dX4_helps_76 (by decide) (fun _ => ?_) (fun z => absurd z (by decide))
              refine lv_iload_n hx hb dX4_helps_83 rfl (lv_at hl 3 rfl) ?_
              refine lv_istore_n (lv' := [(1, .int u), (5, .int 0), (4, .int 0), (0, .ref (ad 0)), (2, .int v), (3, .int (nI i))]) hx hb dX4_helps_84 rfl hl (by decide) rfl (fun ls hl => ?_)
              refine lv_iload hx hb dX4_helps_85 (lv_at hl 1 rfl) ?_
              refine lv_if_eq (tgt := 101) hx hb dX4_helps_87 (by decide) (fun _ => ?_) (fun z => absurd z (by decide))
              refine lv_iload_n hx hb dX4_helps_101 rfl (lv_at hl 4 rfl) ?_
              refine lv_istore_n (lv' := [(2, .int v), (1, .int u), (5, .int 0), (4, .int 0), (0, .ref (ad 0)), (3, .int (nI i))]) hx hb dX4_helps_102 rfl hl (by decide) rfl (fun ls hl => ?_)
              refine lv_iinc (v := (nI (i + 1))) (lv' := [(3, .int (nI (i + 1))), (2, .int v), (1, .int u), (5, .int 0), (4, .int 0), (0, .ref (ad 0))]) hx hb dX4_helps_103 hl (k := 5) rfl (nI_1 i) (by decide) rfl (fun ls hl => ?_)
              refine lv_goto (tgt := 12) hx hb dX4_helps_106 (by decide) ?_
              exact ih_12 (i + 1) u v (by omega) (by omega) (by rw [hlpTo, huv]; (rw [show besF n i = 0 from (by unfold besF; (repeat' split) <;> first | omega | rfl)]; simp [c_4]; done)) _ _ hR ls (lv_sub hl [5, 2, 1, 0] rfl)
            · skip
              refine lv_aload_n hx hb dX4_helps_55 rfl (lv_at hl 1 rfl) ?_
              refine lv_iload_n hx hb dX4_helps_56 rfl (lv_at hl 4 rfl) ?_
              refine mm_calli (rest := []) hx hb hml hown hts hK hl.1 hR (m_X4_passesOf l D ca B (st X 0 0 0) Y kp i (by omega)) (cwV 1 hts (lw_V q1370 q1372 qs51 q82 q1373) rfl rfl rfl cd_X4_passesOf ⟨Nat.le_of_ble_eq_true rfl, Nat.le_of_ble_eq_true rfl⟩) rfl rfl (Nat.le_of_ble_eq_true rfl) dX4_helps_57 ⟨Nat.le_refl _, Nat.le_refl _⟩ (fun H locs hR => ?_)
              refine lv_iload hx hb dX4_helps_60 (lv_at hl 0 rfl) ?_
              refine lv_imul hx hb dX4_helps_62 ?_
              refine lv_iload_n hx hb dX4_helps_63 rfl (lv_at hl 3 rfl) ?_
              refine lj_le (tgt := 71) hx hb dX4_helps_64 (by decide) (fun c_7 => ?_) (fun c_7 => ?_)
              · skip
                refine lv_iconst (v := 0) hx hb dX4_helps_71 (by decide) ?_
                refine lv_istore (lv' := [(5, .int 0), (4, .int 0), (0, .ref (ad 0)), (1, .int u), (2, .int v), (3, .int (nI i))]) hx hb dX4_helps_72 hl (by decide) rfl (fun ls hl => ?_)
                refine lv_iload hx hb dX4_helps_74 (lv_at hl 0 rfl) ?_
                refine lv_if_eq (tgt := 83) hx hb dX4_helps_76 (by decide) (fun _ => ?_) (fun z => absurd z (by decide))
                refine lv_iload_n hx hb dX4_helps_83 rfl (lv_at hl 3 rfl) ?_
                refine lv_istore_n (lv' := [(1, .int u), (5, .int 0), (4, .int 0), (0, .ref (ad 0)), (2, .int v), (3, .int (nI i))]) hx hb dX4_helps_84 rfl hl (by decide) rfl (fun ls hl => ?_)
                refine lv_iload hx hb dX4_helps_85 (lv_at hl 1 rfl) ?_
                refine lv_if_eq (tgt := 101) hx hb dX4_helps_87 (by decide) (fun _ => ?_) (fun z => absurd z (by decide))
                refine lv_iload_n hx hb dX4_helps_101 rfl (lv_at hl 4 rfl) ?_
                refine lv_istore_n (lv' := [(2, .int v), (1, .int u), (5, .int 0), (4, .int 0), (0, .ref (ad 0)), (3, .int (nI i))]) hx hb dX4_helps_102 rfl hl (by decide) rfl (fun ls hl => ?_)
                refine lv_iinc (v := (nI (i + 1))) (lv' := [(3, .int (nI (i + 1))), (2, .int v), (1, .int u), (5, .int 0), (4, .int 0), (0, .ref (ad 0))]) hx hb dX4_helps_103 hl (k := 5) rfl (nI_1 i) (by decide) rfl (fun ls hl => ?_)
                refine lv_goto (tgt := 12) hx hb dX4_helps_106 (by decide) ?_
                exact ih_12 (i + 1) u v (by omega) (by omega) (by rw [hlpTo, huv]; (rw [show besF n i = 0 from (by unfold besF; (repeat' split) <;> first | omega | rfl)]; first | exact if_pos ⟨c_4, c_7⟩ | exact if_neg (fun z => c_7 z.2))) _ _ hR ls (lv_sub hl [5, 2, 1, 0] rfl)
              · skip
                refine lv_iconst (v := 1) hx hb dX4_helps_67 (by decide) ?_
                refine lv_goto (tgt := 72) hx hb dX4_helps_68 (by decide) ?_
                refine lv_istore (lv' := [(5, .int 1), (4, .int 0), (0, .ref (ad 0)), (1, .int u), (2, .int v), (3, .int (nI i))]) hx hb dX4_helps_72 hl (by decide) rfl (fun ls hl => ?_)
                refine lv_iload hx hb dX4_helps_74 (lv_at hl 0 rfl) ?_
                refine lv_if_eq (tgt := 83) hx hb dX4_helps_76 (by decide) (fun z => absurd z (by decide)) (fun _ => ?_)
                refine lv_iload_n hx hb dX4_helps_79 rfl (lv_at hl 5 rfl) ?_
                refine lv_goto (tgt := 84) hx hb dX4_helps_80 (by decide) ?_
                refine lv_istore_n (lv' := [(1, .int (nI i)), (5, .int 1), (4, .int 0), (0, .ref (ad 0)), (2, .int v), (3, .int (nI i))]) hx hb dX4_helps_84 rfl hl (by decide) rfl (fun ls hl => ?_)
                refine lv_iload hx hb dX4_helps_85 (lv_at hl 1 rfl) ?_
                refine lv_if_eq (tgt := 101) hx hb dX4_helps_87 (by decide) (fun z => absurd z (by decide)) (fun _ => ?_)
                refine lv_aload_n hx hb dX4_helps_90 rfl (lv_at hl 3 rfl) ?_
                refine lv_iload_n hx hb dX4_helps_91 rfl (lv_at hl 5 rfl) ?_
                refine mm_calli (rest := []) hx hb hml hown hts hK hl.1 hR (m_X4_passesOf l D ca B (st X 0 0 0) Y kp i (by omega)) (cwV 1 hts (lw_V q1370 q1372 qs51 q82 q1373) rfl rfl rfl cd_X4_passesOf ⟨Nat.le_of_ble_eq_true rfl, Nat.le_of_ble_eq_true rfl⟩) rfl rfl (Nat.le_of_ble_eq_true rfl) dX4_helps_92 ⟨Nat.le_refl _, Nat.le_refl _⟩ (fun H locs hR => ?_)
                refine lv_iload hx hb dX4_helps_95 (lv_at hl 2 rfl) ?_
                refine lv_imul hx hb dX4_helps_97 ?_
                refine lv_goto (tgt := 102) hx hb dX4_helps_98 (by decide) ?_
                refine lv_istore_n (lv' := [(2, .int ((passesF (B 1 i)) * 0)), (1, .int (nI i)), (5, .int 1), (4, .int 0), (0, .ref (ad 0)), (3, .int (nI i))]) hx hb dX4_helps_102 rfl hl (by decide) rfl (fun ls hl => ?_)
                refine lv_iinc (v := (nI (i + 1))) (lv' := [(3, .int (nI (i + 1))), (2, .int ((passesF (B 1 i)) * 0)), (1, .int (nI i)), (5, .int 1), (4, .int 0), (0, .ref (ad 0))]) hx hb dX4_helps_103 hl (k := 5) rfl (nI_1 i) (by decide) rfl (fun ls hl => ?_)
                refine lv_goto (tgt := 12) hx hb dX4_helps_106 (by decide) ?_
                exact ih_12 (i + 1) (nI i) ((passesF (B 1 i)) * 0) (by omega) (by omega) (by rw [hlpTo, huv]; (rw [show besF n i = 0 from (by unfold besF; (repeat' split) <;> first | omega | rfl)]; first | exact if_pos ⟨c_4, c_7⟩ | exact if_neg (fun z => c_7 z.2))) _ _ hR ls (lv_sub hl [5, 2, 1, 0] rfl)
          · skip
            refine lv_iconst (v := 1) hx hb dX4_helps_39 (by decide) ?_
            refine lv_goto (tgt := 44) hx hb dX4_helps_40 (by decide) ?_
            refine lv_iadd hx hb dX4_helps_44 ?_
            refine W.eqs (st2 := [.int 1]) (congrArg (fun z : Int32 => Value.int z :: _) (show ((0 + 1) : Int32) = 1 by decide)) ?_
            refine lv_istore (lv' := [(4, .int 1), (0, .ref (ad 0)), (1, .int u), (2, .int v), (3, .int (nI i))]) hx hb dX4_helps_45 hl (by decide) rfl (fun ls hl => ?_)
            refine lv_aload_n hx hb dX4_helps_47 rfl (lv_at hl 1 rfl) ?_
            refine lv_iload_n hx hb dX4_helps_48 rfl (lv_at hl 4 rfl) ?_
            refine mm_calli (rest := []) hx hb hml hown hts hK hl.1 hR (m_X4_isReady l D ca B (st X 0 0 0) Y kp i (by omega)) (cwV 1 hts (lw_V q1374 q1376 qs52 q82 q1377) rfl rfl rfl cd_X4_isReady ⟨Nat.le_of_ble_eq_true rfl, Nat.le_of_ble_eq_true rfl⟩) rfl rfl (Nat.le_of_ble_eq_true rfl) dX4_helps_49 ⟨Nat.le_refl _, Nat.le_refl _⟩ (fun H locs hR => ?_)
            refine lb_eq (tgt := 71) hx hb dX4_helps_52 (by decide) (fun c_12 => ?_) (fun c_12 => ?_)
            · skip
              refine lv_iconst (v := 0) hx hb dX4_helps_71 (by decide) ?_
              refine lv_istore (lv' := [(5, .int 0), (4, .int 1), (0, .ref (ad 0)), (1, .int u), (2, .int v), (3, .int (nI i))]) hx hb dX4_helps_72 hl (by decide) rfl (fun ls hl => ?_)
              refine lv_iload hx hb dX4_helps_74 (lv_at hl 0 rfl) ?_
              refine lv_if_eq (tgt := 83) hx hb dX4_helps_76 (by decide) (fun _ => ?_) (fun z => absurd z (by decide))
              refine lv_iload_n hx hb dX4_helps_83 rfl (lv_at hl 3 rfl) ?_
              refine lv_istore_n (lv' := [(1, .int u), (5, .int 0), (4, .int 1), (0, .ref (ad 0)), (2, .int v), (3, .int (nI i))]) hx hb dX4_helps_84 rfl hl (by decide) rfl (fun ls hl => ?_)
              refine lv_iload hx hb dX4_helps_85 (lv_at hl 1 rfl) ?_
              refine lv_if_eq (tgt := 101) hx hb dX4_helps_87 (by decide) (fun _ => ?_) (fun z => absurd z (by decide))
              refine lv_iload_n hx hb dX4_helps_101 rfl (lv_at hl 4 rfl) ?_
              refine lv_istore_n (lv' := [(2, .int v), (1, .int u), (5, .int 0), (4, .int 1), (0, .ref (ad 0)), (3, .int (nI i))]) hx hb dX4_helps_102 rfl hl (by decide) rfl (fun ls hl => ?_)
              refine lv_iinc (v := (nI (i + 1))) (lv' := [(3, .int (nI (i + 1))), (2, .int v), (1, .int u), (5, .int 0), (4, .int 1), (0, .ref (ad 0))]) hx hb dX4_helps_103 hl (k := 5) rfl (nI_1 i) (by decide) rfl (fun ls hl => ?_)
              refine lv_goto (tgt := 12) hx hb dX4_helps_106 (by decide) ?_
              exact ih_12 (i + 1) u v (by omega) (by omega) (by rw [hlpTo, huv]; (rw [show besF n i = 1 from (by unfold besF; (repeat' split) <;> first | omega | rfl)]; simp [c_12]; done)) _ _ hR ls (lv_sub hl [5, 2, 1, 0] rfl)
            · skip
              refine lv_aload_n hx hb dX4_helps_55 rfl (lv_at hl 1 rfl) ?_
              refine lv_iload_n hx hb dX4_helps_56 rfl (lv_at hl 4 rfl) ?_
              refine mm_calli (rest := []) hx hb hml hown hts hK hl.1 hR (m_X4_passesOf l D ca B (st X 0 0 0) Y kp i (by omega)) (cwV 1 hts (lw_V q1370 q1372 qs51 q82 q1373) rfl rfl rfl cd_X4_passesOf ⟨Nat.le_of_ble_eq_true rfl, Nat.le_of_ble_eq_true rfl⟩) rfl rfl (Nat.le_of_ble_eq_true rfl) dX4_helps_57 ⟨Nat.le_refl _, Nat.le_refl _⟩ (fun H locs hR => ?_)
              refine lv_iload hx hb dX4_helps_60 (lv_at hl 0 rfl) ?_
              refine lv_imul hx hb dX4_helps_62 ?_
              refine lv_iload_n hx hb dX4_helps_63 rfl (lv_at hl 3 rfl) ?_
              refine lj_le (tgt := 71) hx hb dX4_helps_64 (by decide) (fun c_15 => ?_) (fun c_15 => ?_)
              · skip
                refine lv_iconst (v := 0) hx hb dX4_helps_71 (by decide) ?_
                refine lv_istore (lv' := [(5, .int 0), (4, .int 1), (0, .ref (ad 0)), (1, .int u), (2, .int v), (3, .int (nI i))]) hx hb dX4_helps_72 hl (by decide) rfl (fun ls hl => ?_)
                refine lv_iload hx hb dX4_helps_74 (lv_at hl 0 rfl) ?_
                refine lv_if_eq (tgt := 83) hx hb dX4_helps_76 (by decide) (fun _ => ?_) (fun z => absurd z (by decide))
                refine lv_iload_n hx hb dX4_helps_83 rfl (lv_at hl 3 rfl) ?_
                refine lv_istore_n (lv' := [(1, .int u), (5, .int 0), (4, .int 1), (0, .ref (ad 0)), (2, .int v), (3, .int (nI i))]) hx hb dX4_helps_84 rfl hl (by decide) rfl (fun ls hl => ?_)
                refine lv_iload hx hb dX4_helps_85 (lv_at hl 1 rfl) ?_
                refine lv_if_eq (tgt := 101) hx hb dX4_helps_87 (by decide) (fun _ => ?_) (fun z => absurd z (by decide))
                refine lv_iload_n hx hb dX4_helps_101 rfl (lv_at hl 4 rfl) ?_
                refine lv_istore_n (lv' := [(2, .int v), (1, .int u), (5, .int 0), (4, .int 1), (0, .ref (ad 0)), (3, .int (nI i))]) hx hb dX4_helps_102 rfl hl (by decide) rfl (fun ls hl => ?_)
                refine lv_iinc (v := (nI (i + 1))) (lv' := [(3, .int (nI (i + 1))), (2, .int v), (1, .int u), (5, .int 0), (4, .int 1), (0, .ref (ad 0))]) hx hb dX4_helps_103 hl (k := 5) rfl (nI_1 i) (by decide) rfl (fun ls hl => ?_)
                refine lv_goto (tgt := 12) hx hb dX4_helps_106 (by decide) ?_
                exact ih_12 (i + 1) u v (by omega) (by omega) (by rw [hlpTo, huv]; (rw [show besF n i = 1 from (by unfold besF; (repeat' split) <;> first | omega | rfl)]; first | exact if_pos ⟨c_12, c_15⟩ | exact if_neg (fun z => c_15 z.2))) _ _ hR ls (lv_sub hl [5, 2, 1, 0] rfl)
              · skip
                refine lv_iconst (v := 1) hx hb dX4_helps_67 (by decide) ?_
                refine lv_goto (tgt := 72) hx hb dX4_helps_68 (by decide) ?_
                refine lv_istore (lv' := [(5, .int 1), (4, .int 1), (0, .ref (ad 0)), (1, .int u), (2, .int v), (3, .int (nI i))]) hx hb dX4_helps_72 hl (by decide) rfl (fun ls hl => ?_)
                refine lv_iload hx hb dX4_helps_74 (lv_at hl 0 rfl) ?_
                refine lv_if_eq (tgt := 83) hx hb dX4_helps_76 (by decide) (fun z => absurd z (by decide)) (fun _ => ?_)
                refine lv_iload_n hx hb dX4_helps_79 rfl (lv_at hl 5 rfl) ?_
                refine lv_goto (tgt := 84) hx hb dX4_helps_80 (by decide) ?_
                refine lv_istore_n (lv' := [(1, .int (nI i)), (5, .int 1), (4, .int 1), (0, .ref (ad 0)), (2, .int v), (3, .int (nI i))]) hx hb dX4_helps_84 rfl hl (by decide) rfl (fun ls hl => ?_)
                refine lv_iload hx hb dX4_helps_85 (lv_at hl 1 rfl) ?_
                refine lv_if_eq (tgt := 101) hx hb dX4_helps_87 (by decide) (fun z => absurd z (by decide)) (fun _ => ?_)
                refine lv_aload_n hx hb dX4_helps_90 rfl (lv_at hl 3 rfl) ?_
                refine lv_iload_n hx hb dX4_helps_91 rfl (lv_at hl 5 rfl) ?_
                refine mm_calli (rest := []) hx hb hml hown hts hK hl.1 hR (m_X4_passesOf l D ca B (st X 0 0 0) Y kp i (by omega)) (cwV 1 hts (lw_V q1370 q1372 qs51 q82 q1373) rfl rfl rfl cd_X4_passesOf ⟨Nat.le_of_ble_eq_true rfl, Nat.le_of_ble_eq_true rfl⟩) rfl rfl (Nat.le_of_ble_eq_true rfl) dX4_helps_92 ⟨Nat.le_refl _, Nat.le_refl _⟩ (fun H locs hR => ?_)
                refine lv_iload hx hb dX4_helps_95 (lv_at hl 2 rfl) ?_
                refine lv_imul hx hb dX4_helps_97 ?_
                refine lv_goto (tgt := 102) hx hb dX4_helps_98 (by decide) ?_
                refine lv_istore_n (lv' := [(2, .int ((passesF (B 1 i)) * 1)), (1, .int (nI i)), (5, .int 1), (4, .int 1), (0, .ref (ad 0)), (3, .int (nI i))]) hx hb dX4_helps_102 rfl hl (by decide) rfl (fun ls hl => ?_)
                refine lv_iinc (v := (nI (i + 1))) (lv' := [(3, .int (nI (i + 1))), (2, .int ((passesF (B 1 i)) * 1)), (1, .int (nI i)), (5, .int 1), (4, .int 1), (0, .ref (ad 0))]) hx hb dX4_helps_103 hl (k := 5) rfl (nI_1 i) (by decide) rfl (fun ls hl => ?_)
                refine lv_goto (tgt := 12) hx hb dX4_helps_106 (by decide) ?_
                exact ih_12 (i + 1) (nI i) ((passesF (B 1 i)) * 1) (by omega) (by omega) (by rw [hlpTo, huv]; (rw [show besF n i = 1 from (by unfold besF; (repeat' split) <;> first | omega | rfl)]; first | exact if_pos ⟨c_12, c_15⟩ | exact if_neg (fun z => c_15 z.2))) _ _ hR ls (lv_sub hl [5, 2, 1, 0] rfl)
        · skip
          refine lv_iconst (v := 1) hx hb dX4_helps_24 (by decide) ?_
          refine lv_goto (tgt := 29) hx hb dX4_helps_25 (by decide) ?_
          refine lv_iload_n hx hb dX4_helps_29 rfl (lv_at hl 3 rfl) ?_
          refine lv_iconst (v := 1) hx hb dX4_helps_30 (by decide) ?_
          refine lv_iadd hx hb dX4_helps_31 ?_
          refine W.eqs (st2 := [.int (nI (i + 1)), .int 1]) (congrArg (fun z : Int32 => Value.int z :: _) (nI_add i 1)) ?_
          refine lv_aload_n hx hb dX4_helps_32 rfl (lv_at hl 0 rfl) ?_
          refine rw_get (v := .int (nI n)) hx hb hts in_X4 hown hK hR 0 (by decide) rfl rfl 0 (by decide) q1162 rfl (mF_ch hB) dX4_helps_33 ?_
          refine ln_ge (tgt := 43) hx hb (i + 1) (n) rfl rfl (by omega) (by omega) dX4_helps_36 (by decide) (fun c_20 => ?_) (fun c_20 => ?_)
          · skip
            refine lv_iconst (v := 0) hx hb dX4_helps_43 (by decide) ?_
            refine lv_iadd hx hb dX4_helps_44 ?_
            refine W.eqs (st2 := [.int 1]) (congrArg (fun z : Int32 => Value.int z :: _) (show ((1 + 0) : Int32) = 1 by decide)) ?_
            refine lv_istore (lv' := [(4, .int 1), (0, .ref (ad 0)), (1, .int u), (2, .int v), (3, .int (nI i))]) hx hb dX4_helps_45 hl (by decide) rfl (fun ls hl => ?_)
            refine lv_aload_n hx hb dX4_helps_47 rfl (lv_at hl 1 rfl) ?_
            refine lv_iload_n hx hb dX4_helps_48 rfl (lv_at hl 4 rfl) ?_
            refine mm_calli (rest := []) hx hb hml hown hts hK hl.1 hR (m_X4_isReady l D ca B (st X 0 0 0) Y kp i (by omega)) (cwV 1 hts (lw_V q1374 q1376 qs52 q82 q1377) rfl rfl rfl cd_X4_isReady ⟨Nat.le_of_ble_eq_true rfl, Nat.le_of_ble_eq_true rfl⟩) rfl rfl (Nat.le_of_ble_eq_true rfl) dX4_helps_49 ⟨Nat.le_refl _, Nat.le_refl _⟩ (fun H locs hR => ?_)
            refine lb_eq (tgt := 71) hx hb dX4_helps_52 (by decide) (fun c_21 => ?_) (fun c_21 => ?_)
            · skip
              refine lv_iconst (v := 0) hx hb dX4_helps_71 (by decide) ?_
              refine lv_istore (lv' := [(5, .int 0), (4, .int 1), (0, .ref (ad 0)), (1, .int u), (2, .int v), (3, .int (nI i))]) hx hb dX4_helps_72 hl (by decide) rfl (fun ls hl => ?_)
              refine lv_iload hx hb dX4_helps_74 (lv_at hl 0 rfl) ?_
              refine lv_if_eq (tgt := 83) hx hb dX4_helps_76 (by decide) (fun _ => ?_) (fun z => absurd z (by decide))
              refine lv_iload_n hx hb dX4_helps_83 rfl (lv_at hl 3 rfl) ?_
              refine lv_istore_n (lv' := [(1, .int u), (5, .int 0), (4, .int 1), (0, .ref (ad 0)), (2, .int v), (3, .int (nI i))]) hx hb dX4_helps_84 rfl hl (by decide) rfl (fun ls hl => ?_)
              refine lv_iload hx hb dX4_helps_85 (lv_at hl 1 rfl) ?_
              refine lv_if_eq (tgt := 101) hx hb dX4_helps_87 (by decide) (fun _ => ?_) (fun z => absurd z (by decide))
              refine lv_iload_n hx hb dX4_helps_101 rfl (lv_at hl 4 rfl) ?_
              refine lv_istore_n (lv' := [(2, .int v), (1, .int u), (5, .int 0), (4, .int 1), (0, .ref (ad 0)), (3, .int (nI i))]) hx hb dX4_helps_102 rfl hl (by decide) rfl (fun ls hl => ?_)
              refine lv_iinc (v := (nI (i + 1))) (lv' := [(3, .int (nI (i + 1))), (2, .int v), (1, .int u), (5, .int 0), (4, .int 1), (0, .ref (ad 0))]) hx hb dX4_helps_103 hl (k := 5) rfl (nI_1 i) (by decide) rfl (fun ls hl => ?_)
              refine lv_goto (tgt := 12) hx hb dX4_helps_106 (by decide) ?_
              exact ih_12 (i + 1) u v (by omega) (by omega) (by rw [hlpTo, huv]; (rw [show besF n i = 1 from (by unfold besF; (repeat' split) <;> first | omega | rfl)]; simp [c_21]; done)) _ _ hR ls (lv_sub hl [5, 2, 1, 0] rfl)
            · skip
              refine lv_aload_n hx hb dX4_helps_55 rfl (lv_at hl 1 rfl) ?_
              refine lv_iload_n hx hb dX4_helps_56 rfl (lv_at hl 4 rfl) ?_
              refine mm_calli (rest := []) hx hb hml hown hts hK hl.1 hR (m_X4_passesOf l D ca B (st X 0 0 0) Y kp i (by omega)) (cwV 1 hts (lw_V q1370 q1372 qs51 q82 q1373) rfl rfl rfl cd_X4_passesOf ⟨Nat.le_of_ble_eq_true rfl, Nat.le_of_ble_eq_true rfl⟩) rfl rfl (Nat.le_of_ble_eq_true rfl) dX4_helps_57 ⟨Nat.le_refl _, Nat.le_refl _⟩ (fun H locs hR => ?_)
              refine lv_iload hx hb dX4_helps_60 (lv_at hl 0 rfl) ?_
              refine lv_imul hx hb dX4_helps_62 ?_
              refine lv_iload_n hx hb dX4_helps_63 rfl (lv_at hl 3 rfl) ?_
              refine lj_le (tgt := 71) hx hb dX4_helps_64 (by decide) (fun c_24 => ?_) (fun c_24 => ?_)
              · skip
                refine lv_iconst (v := 0) hx hb dX4_helps_71 (by decide) ?_
                refine lv_istore (lv' := [(5, .int 0), (4, .int 1), (0, .ref (ad 0)), (1, .int u), (2, .int v), (3, .int (nI i))]) hx hb dX4_helps_72 hl (by decide) rfl (fun ls hl => ?_)
                refine lv_iload hx hb dX4_helps_74 (lv_at hl 0 rfl) ?_
                refine lv_if_eq (tgt := 83) hx hb dX4_helps_76 (by decide) (fun _ => ?_) (fun z => absurd z (by decide))
                refine lv_iload_n hx hb dX4_helps_83 rfl (lv_at hl 3 rfl) ?_
                refine lv_istore_n (lv' := [(1, .int u), (5, .int 0), (4, .int 1), (0, .ref (ad 0)), (2, .int v), (3, .int (nI i))]) hx hb dX4_helps_84 rfl hl (by decide) rfl (fun ls hl => ?_)
                refine lv_iload hx hb dX4_helps_85 (lv_at hl 1 rfl) ?_
                refine lv_if_eq (tgt := 101) hx hb dX4_helps_87 (by decide) (fun _ => ?_) (fun z => absurd z (by decide))
                refine lv_iload_n hx hb dX4_helps_101 rfl (lv_at hl 4 rfl) ?_
                refine lv_istore_n (lv' := [(2, .int v), (1, .int u), (5, .int 0), (4, .int 1), (0, .ref (ad 0)), (3, .int (nI i))]) hx hb dX4_helps_102 rfl hl (by decide) rfl (fun ls hl => ?_)
                refine lv_iinc (v := (nI (i + 1))) (lv' := [(3, .int (nI (i + 1))), (2, .int v), (1, .int u), (5, .int 0), (4, .int 1), (0, .ref (ad 0))]) hx hb dX4_helps_103 hl (k := 5) rfl (nI_1 i) (by decide) rfl (fun ls hl => ?_)
                refine lv_goto (tgt := 12) hx hb dX4_helps_106 (by decide) ?_
                exact ih_12 (i + 1) u v (by omega) (by omega) (by rw [hlpTo, huv]; (rw [show besF n i = 1 from (by unfold besF; (repeat' split) <;> first | omega | rfl)]; first | exact if_pos ⟨c_21, c_24⟩ | exact if_neg (fun z => c_24 z.2))) _ _ hR ls (lv_sub hl [5, 2, 1, 0] rfl)
              · skip
                refine lv_iconst (v := 1) hx hb dX4_helps_67 (by decide) ?_
                refine lv_goto (tgt := 72) hx hb dX4_helps_68 (by decide) ?_
                refine lv_istore (lv' := [(5, .int 1), (4, .int 1), (0, .ref (ad 0)), (1, .int u), (2, .int v), (3, .int (nI i))]) hx hb dX4_helps_72 hl (by decide) rfl (fun ls hl => ?_)
                refine lv_iload hx hb dX4_helps_74 (lv_at hl 0 rfl) ?_
                refine lv_if_eq (tgt := 83) hx hb dX4_helps_76 (by decide) (fun z => absurd z (by decide)) (fun _ => ?_)
                refine lv_iload_n hx hb dX4_helps_79 rfl (lv_at hl 5 rfl) ?_
                refine lv_goto (tgt := 84) hx hb dX4_helps_80 (by decide) ?_
                refine lv_istore_n (lv' := [(1, .int (nI i)), (5, .int 1), (4, .int 1), (0, .ref (ad 0)), (2, .int v), (3, .int (nI i))]) hx hb dX4_helps_84 rfl hl (by decide) rfl (fun ls hl => ?_)
                refine lv_iload hx hb dX4_helps_85 (lv_at hl 1 rfl) ?_
                refine lv_if_eq (tgt := 101) hx hb dX4_helps_87 (by decide) (fun z => absurd z (by decide)) (fun _ => ?_)
                refine lv_aload_n hx hb dX4_helps_90 rfl (lv_at hl 3 rfl) ?_
                refine lv_iload_n hx hb dX4_helps_91 rfl (lv_at hl 5 rfl) ?_
                refine mm_calli (rest := []) hx hb hml hown hts hK hl.1 hR (m_X4_passesOf l D ca B (st X 0 0 0) Y kp i (by omega)) (cwV 1 hts (lw_V q1370 q1372 qs51 q82 q1373) rfl rfl rfl cd_X4_passesOf ⟨Nat.le_of_ble_eq_true rfl, Nat.le_of_ble_eq_true rfl⟩) rfl rfl (Nat.le_of_ble_eq_true rfl) dX4_helps_92 ⟨Nat.le_refl _, Nat.le_refl _⟩ (fun H locs hR => ?_)
                refine lv_iload hx hb dX4_helps_95 (lv_at hl 2 rfl) ?_
                refine lv_imul hx hb dX4_helps_97 ?_
                refine lv_goto (tgt := 102) hx hb dX4_helps_98 (by decide) ?_
                refine lv_istore_n (lv' := [(2, .int ((passesF (B 1 i)) * 1)), (1, .int (nI i)), (5, .int 1), (4, .int 1), (0, .ref (ad 0)), (3, .int (nI i))]) hx hb dX4_helps_102 rfl hl (by decide) rfl (fun ls hl => ?_)
                refine lv_iinc (v := (nI (i + 1))) (lv' := [(3, .int (nI (i + 1))), (2, .int ((passesF (B 1 i)) * 1)), (1, .int (nI i)), (5, .int 1), (4, .int 1), (0, .ref (ad 0))]) hx hb dX4_helps_103 hl (k := 5) rfl (nI_1 i) (by decide) rfl (fun ls hl => ?_)
                refine lv_goto (tgt := 12) hx hb dX4_helps_106 (by decide) ?_
                exact ih_12 (i + 1) (nI i) ((passesF (B 1 i)) * 1) (by omega) (by omega) (by rw [hlpTo, huv]; (rw [show besF n i = 1 from (by unfold besF; (repeat' split) <;> first | omega | rfl)]; first | exact if_pos ⟨c_21, c_24⟩ | exact if_neg (fun z => c_24 z.2))) _ _ hR ls (lv_sub hl [5, 2, 1, 0] rfl)
          · skip
            refine lv_iconst (v := 1) hx hb dX4_helps_39 (by decide) ?_
            refine lv_goto (tgt := 44) hx hb dX4_helps_40 (by decide) ?_
            refine lv_iadd hx hb dX4_helps_44 ?_
            refine W.eqs (st2 := [.int 2]) (congrArg (fun z : Int32 => Value.int z :: _) (show ((1 + 1) : Int32) = 2 by decide)) ?_
            refine lv_istore (lv' := [(4, .int 2), (0, .ref (ad 0)), (1, .int u), (2, .int v), (3, .int (nI i))]) hx hb dX4_helps_45 hl (by decide) rfl (fun ls hl => ?_)
            refine lv_aload_n hx hb dX4_helps_47 rfl (lv_at hl 1 rfl) ?_
            refine lv_iload_n hx hb dX4_helps_48 rfl (lv_at hl 4 rfl) ?_
            refine mm_calli (rest := []) hx hb hml hown hts hK hl.1 hR (m_X4_isReady l D ca B (st X 0 0 0) Y kp i (by omega)) (cwV 1 hts (lw_V q1374 q1376 qs52 q82 q1377) rfl rfl rfl cd_X4_isReady ⟨Nat.le_of_ble_eq_true rfl, Nat.le_of_ble_eq_true rfl⟩) rfl rfl (Nat.le_of_ble_eq_true rfl) dX4_helps_49 ⟨Nat.le_refl _, Nat.le_refl _⟩ (fun H locs hR => ?_)
            refine lb_eq (tgt := 71) hx hb dX4_helps_52 (by decide) (fun c_29 => ?_) (fun c_29 => ?_)
            · skip
              refine lv_iconst (v := 0) hx hb dX4_helps_71 (by decide) ?_
              refine lv_istore (lv' := [(5, .int 0), (4, .int 2), (0, .ref (ad 0)), (1, .int u), (2, .int v), (3, .int (nI i))]) hx hb dX4_helps_72 hl (by decide) rfl (fun ls hl => ?_)
              refine lv_iload hx hb dX4_helps_74 (lv_at hl 0 rfl) ?_
              refine lv_if_eq (tgt := 83) hx hb dX4_helps_76 (by decide) (fun _ => ?_) (fun z => absurd z (by decide))
              refine lv_iload_n hx hb dX4_helps_83 rfl (lv_at hl 3 rfl) ?_
              refine lv_istore_n (lv' := [(1, .int u), (5, .int 0), (4, .int 2), (0, .ref (ad 0)), (2, .int v), (3, .int (nI i))]) hx hb dX4_helps_84 rfl hl (by decide) rfl (fun ls hl => ?_)
              refine lv_iload hx hb dX4_helps_85 (lv_at hl 1 rfl) ?_
              refine lv_if_eq (tgt := 101) hx hb dX4_helps_87 (by decide) (fun _ => ?_) (fun z => absurd z (by decide))
              refine lv_iload_n hx hb dX4_helps_101 rfl (lv_at hl 4 rfl) ?_
              refine lv_istore_n (lv' := [(2, .int v), (1, .int u), (5, .int 0), (4, .int 2), (0, .ref (ad 0)), (3, .int (nI i))]) hx hb dX4_helps_102 rfl hl (by decide) rfl (fun ls hl => ?_)
              refine lv_iinc (v := (nI (i + 1))) (lv' := [(3, .int (nI (i + 1))), (2, .int v), (1, .int u), (5, .int 0), (4, .int 2), (0, .ref (ad 0))]) hx hb dX4_helps_103 hl (k := 5) rfl (nI_1 i) (by decide) rfl (fun ls hl => ?_)
              refine lv_goto (tgt := 12) hx hb dX4_helps_106 (by decide) ?_
              exact ih_12 (i + 1) u v (by omega) (by omega) (by rw [hlpTo, huv]; (rw [show besF n i = 2 from (by unfold besF; (repeat' split) <;> first | omega | rfl)]; simp [c_29]; done)) _ _ hR ls (lv_sub hl [5, 2, 1, 0] rfl)
            · skip
              refine lv_aload_n hx hb dX4_helps_55 rfl (lv_at hl 1 rfl) ?_
              refine lv_iload_n hx hb dX4_helps_56 rfl (lv_at hl 4 rfl) ?_
              refine mm_calli (rest := []) hx hb hml hown hts hK hl.1 hR (m_X4_passesOf l D ca B (st X 0 0 0) Y kp i (by omega)) (cwV 1 hts (lw_V q1370 q1372 qs51 q82 q1373) rfl rfl rfl cd_X4_passesOf ⟨Nat.le_of_ble_eq_true rfl, Nat.le_of_ble_eq_true rfl⟩) rfl rfl (Nat.le_of_ble_eq_true rfl) dX4_helps_57 ⟨Nat.le_refl _, Nat.le_refl _⟩ (fun H locs hR => ?_)
              refine lv_iload hx hb dX4_helps_60 (lv_at hl 0 rfl) ?_
              refine lv_imul hx hb dX4_helps_62 ?_
              refine lv_iload_n hx hb dX4_helps_63 rfl (lv_at hl 3 rfl) ?_
              refine lj_le (tgt := 71) hx hb dX4_helps_64 (by decide) (fun c_32 => ?_) (fun c_32 => ?_)
              · skip
                refine lv_iconst (v := 0) hx hb dX4_helps_71 (by decide) ?_
                refine lv_istore (lv' := [(5, .int 0), (4, .int 2), (0, .ref (ad 0)), (1, .int u), (2, .int v), (3, .int (nI i))]) hx hb dX4_helps_72 hl (by decide) rfl (fun ls hl => ?_)
                refine lv_iload hx hb dX4_helps_74 (lv_at hl 0 rfl) ?_
                refine lv_if_eq (tgt := 83) hx hb dX4_helps_76 (by decide) (fun _ => ?_) (fun z => absurd z (by decide))
                refine lv_iload_n hx hb dX4_helps_83 rfl (lv_at hl 3 rfl) ?_
                refine lv_istore_n (lv' := [(1, .int u), (5, .int 0), (4, .int 2), (0, .ref (ad 0)), (2, .int v), (3, .int (nI i))]) hx hb dX4_helps_84 rfl hl (by decide) rfl (fun ls hl => ?_)
                refine lv_iload hx hb dX4_helps_85 (lv_at hl 1 rfl) ?_
                refine lv_if_eq (tgt := 101) hx hb dX4_helps_87 (by decide) (fun _ => ?_) (fun z => absurd z (by decide))
                refine lv_iload_n hx hb dX4_helps_101 rfl (lv_at hl 4 rfl) ?_
                refine lv_istore_n (lv' := [(2, .int v), (1, .int u), (5, .int 0), (4, .int 2), (0, .ref (ad 0)), (3, .int (nI i))]) hx hb dX4_helps_102 rfl hl (by decide) rfl (fun ls hl => ?_)
                refine lv_iinc (v := (nI (i + 1))) (lv' := [(3, .int (nI (i + 1))), (2, .int v), (1, .int u), (5, .int 0), (4, .int 2), (0, .ref (ad 0))]) hx hb dX4_helps_103 hl (k := 5) rfl (nI_1 i) (by decide) rfl (fun ls hl => ?_)
                refine lv_goto (tgt := 12) hx hb dX4_helps_106 (by decide) ?_
                exact ih_12 (i + 1) u v (by omega) (by omega) (by rw [hlpTo, huv]; (rw [show besF n i = 2 from (by unfold besF; (repeat' split) <;> first | omega | rfl)]; first | exact if_pos ⟨c_29, c_32⟩ | exact if_neg (fun z => c_32 z.2))) _ _ hR ls (lv_sub hl [5, 2, 1, 0] rfl)
              · skip
                refine lv_iconst (v := 1) hx hb dX4_helps_67 (by decide) ?_
                refine lv_goto (tgt := 72) hx hb dX4_helps_68 (by decide) ?_
                refine lv_istore (lv' := [(5, .int 1), (4, .int 2), (0, .ref (ad 0)), (1, .int u), (2, .int v), (3, .int (nI i))]) hx hb dX4_helps_72 hl (by decide) rfl (fun ls hl => ?_)
                refine lv_iload hx hb dX4_helps_74 (lv_at hl 0 rfl) ?_
                refine lv_if_eq (tgt := 83) hx hb dX4_helps_76 (by decide) (fun z => absurd z (by decide)) (fun _ => ?_)
                refine lv_iload_n hx hb dX4_helps_79 rfl (lv_at hl 5 rfl) ?_
                refine lv_goto (tgt := 84) hx hb dX4_helps_80 (by decide) ?_
                refine lv_istore_n (lv' := [(1, .int (nI i)), (5, .int 1), (4, .int 2), (0, .ref (ad 0)), (2, .int v), (3, .int (nI i))]) hx hb dX4_helps_84 rfl hl (by decide) rfl (fun ls hl => ?_)
                refine lv_iload hx hb dX4_helps_85 (lv_at hl 1 rfl) ?_
                refine lv_if_eq (tgt := 101) hx hb dX4_helps_87 (by decide) (fun z => absurd z (by decide)) (fun _ => ?_)
                refine lv_aload_n hx hb dX4_helps_90 rfl (lv_at hl 3 rfl) ?_
                refine lv_iload_n hx hb dX4_helps_91 rfl (lv_at hl 5 rfl) ?_
                refine mm_calli (rest := []) hx hb hml hown hts hK hl.1 hR (m_X4_passesOf l D ca B (st X 0 0 0) Y kp i (by omega)) (cwV 1 hts (lw_V q1370 q1372 qs51 q82 q1373) rfl rfl rfl cd_X4_passesOf ⟨Nat.le_of_ble_eq_true rfl, Nat.le_of_ble_eq_true rfl⟩) rfl rfl (Nat.le_of_ble_eq_true rfl) dX4_helps_92 ⟨Nat.le_refl _, Nat.le_refl _⟩ (fun H locs hR => ?_)
                refine lv_iload hx hb dX4_helps_95 (lv_at hl 2 rfl) ?_
                refine lv_imul hx hb dX4_helps_97 ?_
                refine lv_goto (tgt := 102) hx hb dX4_helps_98 (by decide) ?_
                refine lv_istore_n (lv' := [(2, .int ((passesF (B 1 i)) * 2)), (1, .int (nI i)), (5, .int 1), (4, .int 2), (0, .ref (ad 0)), (3, .int (nI i))]) hx hb dX4_helps_102 rfl hl (by decide) rfl (fun ls hl => ?_)
                refine lv_iinc (v := (nI (i + 1))) (lv' := [(3, .int (nI (i + 1))), (2, .int ((passesF (B 1 i)) * 2)), (1, .int (nI i)), (5, .int 1), (4, .int 2), (0, .ref (ad 0))]) hx hb dX4_helps_103 hl (k := 5) rfl (nI_1 i) (by decide) rfl (fun ls hl => ?_)
                refine lv_goto (tgt := 12) hx hb dX4_helps_106 (by decide) ?_
                exact ih_12 (i + 1) (nI i) ((passesF (B 1 i)) * 2) (by omega) (by omega) (by rw [hlpTo, huv]; (rw [show besF n i = 2 from (by unfold besF; (repeat' split) <;> first | omega | rfl)]; first | exact if_pos ⟨c_29, c_32⟩ | exact if_neg (fun z => c_32 z.2))) _ _ hR ls (lv_sub hl [5, 2, 1, 0] rfl)
  exact loop_12 _ 0 (-4) (-1) (Nat.lt_succ_self _) (by omega) (by rfl) _ _ hR ls (lv_sub hl [3, 2, 1, 0] rfl)
theorem cd_X4_coldest : yX4_coldest.cls = RX4 ∧ yX4_coldest.cls ≠ "java/lang/invoke/MethodHandle" ∧ yX4_coldest.cls ≠ "java/lang/invoke/VarHandle" ∧ (parseMethodDescriptor yX4_coldest.desc).map (fun d => d.parameters.length) = some 2 := by decide +kernel
set_option maxHeartbeats 4000000 in
theorem m_X4_coldest (l : Launch) (D : va_G) (ca : Nat → ClassId) (n : Nat) (B X : Nat → Nat → Int32) (Y : Nat → Nat → Int64) (kp : Nat) (c : Int32) (z : Int32) (hB : wfB n B) : MMi l D ca yX4_coldest (ws_ yX4_coldest cX4_coldest 5 (some .int)) (rmN 2) (fun ad => [.int c, .int z]) B X Y kp (oColdest n B c z) B (st X 0 0 0) Y kp := by
  refine MMi_start (by decide) (Or.inl rfl) (fun _ => Nat.le_of_ble_eq_true rfl) ?_
  intro p e s m args below meth c0 ad A Q ls hx hb hml hown hts hK hR hl hQ
  have hl : lv_has ls 5 [(0, .ref (ad 0)), (1, .int c), (2, .int z)] := hl
  have hn6 : n ≤ 6 := hB.1
  refine lv_aload_n hx hb dX4_coldest_0 rfl (lv_at hl 0 rfl) ?_
  refine lv_iconst (v := 0) hx hb dX4_coldest_1 (by decide) ?_
  refine rw_put hx hb hts in_X4 tyX4 tyX4_ok nmX4 hown hK hR 0 (by decide) rfl rfl 13 (by decide) q1175 rfl rfl rfl rfl (Nat.le_of_ble_eq_true rfl) dX4_coldest_2 (mE_pX 0 (x := 0) rfl) (fun H locs hR => ?_)
  refine lv_aload_n hx hb dX4_coldest_5 rfl (lv_at hl 0 rfl) ?_
  refine lv_iload_n hx hb dX4_coldest_6 rfl (lv_at hl 1 rfl) ?_
  refine mm_calli (rest := []) hx hb hml hown hts hK hl.1 hR (m_X4_isChild l D ca n B (st X 0 0 0) Y kp c hB) (cwV 1 hts (lw_V q1336 q1338 qs44 q82 q1339) rfl rfl rfl cd_X4_isChild ⟨Nat.le_of_ble_eq_true rfl, Nat.le_of_ble_eq_true rfl⟩) rfl rfl (Nat.le_of_ble_eq_true rfl) dX4_coldest_7 ⟨Nat.le_refl _, Nat.le_refl _⟩ (fun H locs hR => ?_)
  refine lb_eq (tgt := 25) hx hb dX4_coldest_10 (by decide) (fun c_1 => ?_) (fun c_1 => ?_)
  · skip
    refine lv_iconst (v := (-1)) hx hb dX4_coldest_25 (by decide) ?_
    exact hQ _ _ _ _ _ (by first | (simp [oColdest, c_1]; done) | simp_all [oColdest]) hR dX4_coldest_26
  · skip
    obtain ⟨jc, hjc, rfl⟩ := isC_nat hn6 c_1
    refine lv_iload_n hx hb dX4_coldest_13 rfl (lv_at hl 2 rfl) ?_
    refine lv_i2l (v := (z.toInt64)) hx hb dX4_coldest_14 rfl ?_
    refine lv_lconst (v := 0) hx hb dX4_coldest_15 (by decide) ?_
    refine lv_ldc2 hx hb hown (hts _ q1590) dX4_coldest_16 ?_
    refine rs_calli (rest := []) hx hb hml hown hts hl.1 hR (m_X4_in l (z.toInt64) 0 60) (va_cwS 3 hts (lw_S q1288 q1289 q82 q1290) rfl rfl rfl cd_X4_in ⟨Nat.le_of_ble_eq_true rfl, Nat.le_of_ble_eq_true rfl⟩) rfl rfl (Nat.le_of_ble_eq_true rfl) dX4_coldest_19 ⟨Nat.le_refl _, Nat.le_refl _⟩ (fun H locs hR => ?_)
    refine W.eqs (st2 := [.int (bI (inI z 0 60))]) (congrArg (fun b => Value.int (bI b) :: _) (inL_I (v := z) (lo := 0) (hi := 60) (by decide) (by decide))) ?_
    refine lb_ne (tgt := 27) hx hb dX4_coldest_22 (by decide) (fun c_2 => ?_) (fun c_2 => ?_)
    · skip
      refine lv_iconst (v := 0) hx hb dX4_coldest_27 (by decide) ?_
      refine lv_istore_n (lv' := [(3, .int 0), (0, .ref (ad 0)), (1, .int (nI jc)), (2, .int z)]) hx hb dX4_coldest_28 rfl hl (by decide) rfl (fun ls hl => ?_)
      refine lv_iconst (v := 0) hx hb dX4_coldest_29 (by decide) ?_
      refine lv_istore (lv' := [(4, .int 0), (3, .int 0), (0, .ref (ad 0)), (1, .int (nI jc)), (2, .int z)]) hx hb dX4_coldest_30 hl (by decide) rfl (fun ls hl => ?_)
      have loop_32 : ∀ (nn : Nat) (o : Nat) (v : Int32), n - o < nn → (o ≤ n) → (v = cldTo B jc z o) → ∀ (H : Heap) (locs : List Loc), RW D 23 ad (mE ca ad B (st X 0 0 0) Y kp) A s.heap H locs → ∀ (ls : Array Slot), lv_has ls 5 [(0, .ref (ad 0)), (1, .int (nI jc)), (2, .int z), (3, .int v), (4, .int (nI o))] → W p l e (rmN 2) s m args below meth c0 H locs 0 0 Q (F0 m 32 ls []) := by
        intro nn
        induction nn with
        | zero => intro o v hm; exact absurd hm (Nat.not_lt_zero _)
        | succ nn ih_32 =>
          intro o v hm_32 ho hv H locs hR ls hl
          refine lv_iload hx hb dX4_coldest_32 (lv_at hl 4 rfl) ?_
          refine lv_aload_n hx hb dX4_coldest_34 rfl (lv_at hl 0 rfl) ?_
          refine rw_get (v := .int (nI n)) hx hb hts in_X4 hown hK hR 0 (by decide) rfl rfl 0 (by decide) q1162 rfl (mF_ch hB) dX4_coldest_35 ?_
          refine ln_ge (tgt := 96) hx hb (o) (n) rfl rfl (by omega) (by omega) dX4_coldest_38 (by decide) (fun c_3 => ?_) (fun c_3 => ?_)
          · skip
            refine lv_iload_n hx hb dX4_coldest_96 rfl (lv_at hl 3 rfl) ?_
            exact hQ _ _ _ _ _ (by rw [show v = _ from hv, show o = n by omega]; simp [oColdest, c_1, c_2, nI_clamp (show jc < 2 ^ 31 by omega)]) hR dX4_coldest_97
          · skip
            refine lv_iload_n hx hb dX4_coldest_41 rfl (lv_at hl 3 rfl) ?_
            refine lv_iload hx hb dX4_coldest_42 (lv_at hl 4 rfl) ?_
            refine lv_iload_n hx hb dX4_coldest_44 rfl (lv_at hl 1 rfl) ?_
            refine ln_eq (tgt := 87) hx hb (o) (jc) rfl rfl (by omega) (by omega) dX4_coldest_45 (by decide) (fun c_4 => ?_) (fun c_4 => ?_)
            · skip
              refine lv_iconst (v := 0) hx hb dX4_coldest_87 (by decide) ?_
              refine lv_iadd hx hb dX4_coldest_88 ?_
              refine lv_istore_n (lv' := [(3, .int (v + 0)), (0, .ref (ad 0)), (1, .int (nI jc)), (2, .int z), (4, .int (nI o))]) hx hb dX4_coldest_89 rfl hl (by decide) rfl (fun ls hl => ?_)
              refine lv_iinc (v := (nI (o + 1))) (lv' := [(4, .int (nI (o + 1))), (3, .int (v + 0)), (0, .ref (ad 0)), (1, .int (nI jc)), (2, .int z)]) hx hb dX4_coldest_90 hl (k := 4) rfl (nI_1 o) (by decide) rfl (fun ls hl => ?_)
              refine lv_goto (tgt := 32) hx hb dX4_coldest_93 (by decide) ?_
              exact ih_32 (o + 1) (v + 0) (by omega) (by omega) (by rw [cldTo, ← hv]; simp [c_3, c_4]) _ _ hR ls (lv_sub hl [2, 3, 4, 1, 0] rfl)
            · skip
              refine lv_aload_n hx hb dX4_coldest_48 rfl (lv_at hl 0 rfl) ?_
              refine rw_get (v := .ref (ad 4)) hx hb hts in_X4 hown hK hR 0 (by decide) rfl rfl 4 (by decide) q1166 rfl rfl dX4_coldest_49 ?_
              refine lv_iload hx hb dX4_coldest_52 (lv_at hl 4 rfl) ?_
              refine rw_ialdN (n := 6) hx hb hK hR 4 (by decide) rfl o rfl (by omega) (by decide) dX4_coldest_54 ?_
              refine lv_bipush (v := 7) hx hb dX4_coldest_55 (by decide) ?_
              refine lj_ge (tgt := 87) hx hb dX4_coldest_57 (by decide) (fun c_5 => ?_) (fun c_5 => ?_)
              · skip
                refine lv_iconst (v := 0) hx hb dX4_coldest_87 (by decide) ?_
                refine lv_iadd hx hb dX4_coldest_88 ?_
                refine lv_istore_n (lv' := [(3, .int (v + 0)), (0, .ref (ad 0)), (1, .int (nI jc)), (2, .int z), (4, .int (nI o))]) hx hb dX4_coldest_89 rfl hl (by decide) rfl (fun ls hl => ?_)
                refine lv_iinc (v := (nI (o + 1))) (lv' := [(4, .int (nI (o + 1))), (3, .int (v + 0)), (0, .ref (ad 0)), (1, .int (nI jc)), (2, .int z)]) hx hb dX4_coldest_90 hl (k := 4) rfl (nI_1 o) (by decide) rfl (fun ls hl => ?_)
                refine lv_goto (tgt := 32) hx hb dX4_coldest_93 (by decide) ?_
                exact ih_32 (o + 1) (v + 0) (by omega) (by omega) (by rw [cldTo, ← hv]; simp [c_3, c_4, c_5]) _ _ hR ls (lv_sub hl [2, 3, 4, 1, 0] rfl)
              · skip
                refine lv_aload_n hx hb dX4_coldest_60 rfl (lv_at hl 0 rfl) ?_
                refine rw_get (v := .ref (ad 5)) hx hb hts in_X4 hown hK hR 0 (by decide) rfl rfl 5 (by decide) q1167 rfl rfl dX4_coldest_61 ?_
                refine lv_iload hx hb dX4_coldest_64 (lv_at hl 4 rfl) ?_
                refine rw_ialdN (n := 6) hx hb hK hR 5 (by decide) rfl o rfl (by omega) (by decide) dX4_coldest_66 ?_
                refine lv_iload_n hx hb dX4_coldest_67 rfl (lv_at hl 2 rfl) ?_
                refine lv_iadd hx hb dX4_coldest_68 ?_
                refine lv_bipush (v := 20) hx hb dX4_coldest_69 (by decide) ?_
                refine rs_calli (rest := [.int v]) hx hb hml hown hts hl.1 hR (m_X4_held l ((B 5 o) + z) 20) (va_cwS 2 hts (lw_S q1355 q1356 q82 q1357) rfl rfl rfl cd_X4_held ⟨Nat.le_of_ble_eq_true rfl, Nat.le_of_ble_eq_true rfl⟩) rfl rfl (Nat.le_of_ble_eq_true rfl) dX4_coldest_71 ⟨Nat.le_refl _, Nat.le_refl _⟩ (fun H locs hR => ?_)
                refine lv_aload_n hx hb dX4_coldest_74 rfl (lv_at hl 0 rfl) ?_
                refine lv_iload hx hb dX4_coldest_75 (lv_at hl 4 rfl) ?_
                refine mm_calli (rest := [.int (hdI ((B 5 o) + z) 20), .int v]) hx hb hml hown hts hK hl.1 hR (m_X4_bearsOf l D ca B (st X 0 0 0) Y kp o (by omega)) (cwV 1 hts (lw_V q1390 q1392 qs56 q82 q1393) rfl rfl rfl cd_X4_bearsOf ⟨Nat.le_of_ble_eq_true rfl, Nat.le_of_ble_eq_true rfl⟩) rfl rfl (Nat.le_of_ble_eq_true rfl) dX4_coldest_77 ⟨Nat.le_refl _, Nat.le_refl _⟩ (fun H locs hR => ?_)
                refine lj_le (tgt := 87) hx hb dX4_coldest_80 (by decide) (fun c_6 => ?_) (fun c_6 => ?_)
                · skip
                  refine lv_iconst (v := 0) hx hb dX4_coldest_87 (by decide) ?_
                  refine lv_iadd hx hb dX4_coldest_88 ?_
                  refine lv_istore_n (lv' := [(3, .int (v + 0)), (0, .ref (ad 0)), (1, .int (nI jc)), (2, .int z), (4, .int (nI o))]) hx hb dX4_coldest_89 rfl hl (by decide) rfl (fun ls hl => ?_)
                  refine lv_iinc (v := (nI (o + 1))) (lv' := [(4, .int (nI (o + 1))), (3, .int (v + 0)), (0, .ref (ad 0)), (1, .int (nI jc)), (2, .int z)]) hx hb dX4_coldest_90 hl (k := 4) rfl (nI_1 o) (by decide) rfl (fun ls hl => ?_)
                  refine lv_goto (tgt := 32) hx hb dX4_coldest_93 (by decide) ?_
                  exact ih_32 (o + 1) (v + 0) (by omega) (by omega) (by rw [cldTo, ← hv]; simp [c_3, c_4, c_5, c_6]) _ _ hR ls (lv_sub hl [2, 3, 4, 1, 0] rfl)
                · skip
                  refine lv_iconst (v := 1) hx hb dX4_coldest_83 (by decide) ?_
                  refine lv_goto (tgt := 88) hx hb dX4_coldest_84 (by decide) ?_
                  refine lv_iadd hx hb dX4_coldest_88 ?_
                  refine lv_istore_n (lv' := [(3, .int (v + 1)), (0, .ref (ad 0)), (1, .int (nI jc)), (2, .int z), (4, .int (nI o))]) hx hb dX4_coldest_89 rfl hl (by decide) rfl (fun ls hl => ?_)
                  refine lv_iinc (v := (nI (o + 1))) (lv' := [(4, .int (nI (o + 1))), (3, .int (v + 1)), (0, .ref (ad 0)), (1, .int (nI jc)), (2, .int z)]) hx hb dX4_coldest_90 hl (k := 4) rfl (nI_1 o) (by decide) rfl (fun ls hl => ?_)
                  refine lv_goto (tgt := 32) hx hb dX4_coldest_93 (by decide) ?_
                  exact ih_32 (o + 1) (v + 1) (by omega) (by omega) (by rw [cldTo, ← hv]; simp [c_3, c_4, c_5, c_6]) _ _ hR ls (lv_sub hl [2, 3, 4, 1, 0] rfl)
      exact loop_32 _ 0 0 (Nat.lt_succ_self _) (by omega) (by rfl) _ _ hR ls (lv_sub hl [2, 3, 4, 1, 0] rfl)
    · skip
      refine lv_iconst (v := (-1)) hx hb dX4_coldest_25 (by decide) ?_
      exact hQ _ _ _ _ _ (by first | (simp [oColdest, c_1, c_2, nI_clamp (show jc < 2 ^ 31 by omega)]; done) | simp_all [oColdest, nI_clamp (show jc < 2 ^ 31 by omega)]) hR dX4_coldest_26
theorem cd_X4_last : yX4_last.cls = RX4 ∧ yX4_last.cls ≠ "java/lang/invoke/MethodHandle" ∧ yX4_last.cls ≠ "java/lang/invoke/VarHandle" ∧ (parseMethodDescriptor yX4_last.desc).map (fun d => d.parameters.length) = some 0 := by decide +kernel
set_option maxHeartbeats 4000000 in
theorem m_X4_last (l : Launch) (D : va_G) (ca : Nat → ClassId) (n : Nat) (B X : Nat → Nat → Int32) (Y : Nat → Nat → Int64) (kp : Nat)  (hB : wfB n B) : MMi l D ca yX4_last (ws_ yX4_last cX4_last 4 (some .int)) (rmN 0) (fun ad => []) B X Y kp (lstTo B n) B (st X 0 0 0) Y kp := by
  refine MMi_start (by decide) (Or.inl rfl) (fun _ => Nat.le_of_ble_eq_true rfl) ?_
  intro p e s m args below meth c0 ad A Q ls hx hb hml hown hts hK hR hl hQ
  have hl : lv_has ls 4 [(0, .ref (ad 0))] := hl
  have hn6 : n ≤ 6 := hB.1
  refine lv_aload_n hx hb dX4_last_0 rfl (lv_at hl 0 rfl) ?_
  refine lv_iconst (v := 0) hx hb dX4_last_1 (by decide) ?_
  refine rw_put hx hb hts in_X4 tyX4 tyX4_ok nmX4 hown hK hR 0 (by decide) rfl rfl 13 (by decide) q1175 rfl rfl rfl rfl (Nat.le_of_ble_eq_true rfl) dX4_last_2 (mE_pX 0 (x := 0) rfl) (fun H locs hR => ?_)
  refine lv_bipush (v := (-4)) hx hb dX4_last_5 (by decide) ?_
  refine lv_istore_n (lv' := [(1, .int (-4)), (0, .ref (ad 0))]) hx hb dX4_last_7 rfl hl (by decide) rfl (fun ls hl => ?_)
  refine lv_iconst (v := 0) hx hb dX4_last_8 (by decide) ?_
  refine lv_istore_n (lv' := [(2, .int 0), (1, .int (-4)), (0, .ref (ad 0))]) hx hb dX4_last_9 rfl hl (by decide) rfl (fun ls hl => ?_)
  have loop_10 : ∀ (nn : Nat) (i : Nat) (v : Int32), n - i < nn → (i ≤ n) → (v = lstTo B i) → ∀ (H : Heap) (locs : List Loc), RW D 23 ad (mE ca ad B (st X 0 0 0) Y kp) A s.heap H locs → ∀ (ls : Array Slot), lv_has ls 4 [(0, .ref (ad 0)), (1, .int v), (2, .int (nI i))] → W p l e (rmN 0) s m args below meth c0 H locs 0 0 Q (F0 m 10 ls []) := by
    intro nn
    induction nn with
    | zero => intro i v hm; exact absurd hm (Nat.not_lt_zero _)
    | succ nn ih_10 =>
      intro i v hm_10 hi hv H locs hR ls hl
      refine lv_iload_n hx hb dX4_last_10 rfl (lv_at hl 2 rfl) ?_
      refine lv_aload_n hx hb dX4_last_11 rfl (lv_at hl 0 rfl) ?_
      refine rw_get (v := .int (nI n)) hx hb hts in_X4 hown hK hR 0 (by decide) rfl rfl 0 (by decide) q1162 rfl (mF_ch hB) dX4_last_12 ?_
      refine ln_ge (tgt := 89) hx hb (i) (n) rfl rfl (by omega) (by omega) dX4_last_15 (by decide) (fun c_1 => ?_) (fun c_1 => ?_)
      · skip
        refine lv_iload_n hx hb dX4_last_89 rfl (lv_at hl 1 rfl) ?_
        exact hQ _ _ _ _ _ (by rw [hv, show i = n by omega]) hR dX4_last_90
      · skip
        refine lv_iload_n hx hb dX4_last_18 rfl (lv_at hl 1 rfl) ?_
        refine lz_lt (tgt := 37) hx hb dX4_last_19 (by decide) (fun c_2 => ?_) (fun c_2 => ?_)
        · skip
          refine lv_iconst (v := 1) hx hb dX4_last_37 (by decide) ?_
          refine lv_goto (tgt := 42) hx hb dX4_last_38 (by decide) ?_
          refine lv_istore_n (lv' := [(3, .int 1), (0, .ref (ad 0)), (1, .int v), (2, .int (nI i))]) hx hb dX4_last_42 rfl hl (by decide) rfl (fun ls hl => ?_)
          refine lv_iload_n hx hb dX4_last_43 rfl (lv_at hl 0 rfl) ?_
          refine lv_if_ne (tgt := 77) hx hb dX4_last_44 (by decide) (fun _ => ?_) (fun z => absurd z (by decide))
          refine lv_iload_n hx hb dX4_last_77 rfl (lv_at hl 3 rfl) ?_
          refine lv_goto (tgt := 82) hx hb dX4_last_78 (by decide) ?_
          refine lv_istore_n (lv' := [(1, .int (nI i)), (3, .int 1), (0, .ref (ad 0)), (2, .int (nI i))]) hx hb dX4_last_82 rfl hl (by decide) rfl (fun ls hl => ?_)
          refine lv_iinc (v := (nI (i + 1))) (lv' := [(2, .int (nI (i + 1))), (1, .int (nI i)), (3, .int 1), (0, .ref (ad 0))]) hx hb dX4_last_83 hl (k := 3) rfl (nI_1 i) (by decide) rfl (fun ls hl => ?_)
          refine lv_goto (tgt := 10) hx hb dX4_last_86 (by decide) ?_
          exact ih_10 (i + 1) (nI i) (by omega) (by omega) (by rw [lstTo, ← hv]; first | (simp [c_2]; done) | simp_all) _ _ hR ls (lv_sub hl [3, 1, 0] rfl)
        · skip
          refine lv_aload_n hx hb dX4_last_22 rfl (lv_at hl 0 rfl) ?_
          refine rw_get (v := .ref (ad 4)) hx hb hts in_X4 hown hK hR 0 (by decide) rfl rfl 4 (by decide) q1166 rfl rfl dX4_last_23 ?_
          refine lv_iload_n hx hb dX4_last_26 rfl (lv_at hl 2 rfl) ?_
          refine rw_ialdN (n := 6) hx hb hK hR 4 (by decide) rfl i rfl (by omega) (by decide) dX4_last_27 ?_
          refine lv_aload_n hx hb dX4_last_28 rfl (lv_at hl 0 rfl) ?_
          refine rw_get (v := .ref (ad 4)) hx hb hts in_X4 hown hK hR 0 (by decide) rfl rfl 4 (by decide) q1166 rfl rfl dX4_last_29 ?_
          refine lv_iload_n hx hb dX4_last_32 rfl (lv_at hl 1 rfl) ?_
          refine rw_iald (n := 6) hx hb hK hR 4 (by decide) rfl (by subst hv; exact lst_vp (by omega) (by assumption)) dX4_last_33 ?_
          refine lj_ge (tgt := 41) hx hb dX4_last_34 (by decide) (fun c_4 => ?_) (fun c_4 => ?_)
          · skip
            refine lv_iconst (v := 0) hx hb dX4_last_41 (by decide) ?_
            refine lv_istore_n (lv' := [(3, .int 0), (0, .ref (ad 0)), (1, .int v), (2, .int (nI i))]) hx hb dX4_last_42 rfl hl (by decide) rfl (fun ls hl => ?_)
            refine lv_iload_n hx hb dX4_last_43 rfl (lv_at hl 0 rfl) ?_
            refine lv_if_ne (tgt := 77) hx hb dX4_last_44 (by decide) (fun z => absurd z (by decide)) (fun _ => ?_)
            refine lv_aload_n hx hb dX4_last_47 rfl (lv_at hl 1 rfl) ?_
            refine rw_get (v := .ref (ad 4)) hx hb hts in_X4 hown hK hR 0 (by decide) rfl rfl 4 (by decide) q1166 rfl rfl dX4_last_48 ?_
            refine lv_iload_n hx hb dX4_last_51 rfl (lv_at hl 3 rfl) ?_
            refine rw_ialdN (n := 6) hx hb hK hR 4 (by decide) rfl i rfl (by omega) (by decide) dX4_last_52 ?_
            refine lv_aload_n hx hb dX4_last_53 rfl (lv_at hl 1 rfl) ?_
            refine rw_get (v := .ref (ad 4)) hx hb hts in_X4 hown hK hR 0 (by decide) rfl rfl 4 (by decide) q1166 rfl rfl dX4_last_54 ?_
            refine lv_iload_n hx hb dX4_last_57 rfl (lv_at hl 2 rfl) ?_
            refine rw_iald (n := 6) hx hb hK hR 4 (by decide) rfl (by subst hv; exact lst_vp (by omega) (by assumption)) dX4_last_58 ?_
            refine lv_icmp_ne (tgt := 81) hx hb dX4_last_59 (by decide) (fun c_6 => ?_) (fun c_6 => ?_)
            · skip
              refine lv_iload_n hx hb dX4_last_81 rfl (lv_at hl 2 rfl) ?_
              refine lv_istore_n (lv' := [(1, .int v), (3, .int 0), (0, .ref (ad 0)), (2, .int (nI i))]) hx hb dX4_last_82 rfl hl (by decide) rfl (fun ls hl => ?_)
              refine lv_iinc (v := (nI (i + 1))) (lv' := [(2, .int (nI (i + 1))), (1, .int v), (3, .int 0), (0, .ref (ad 0))]) hx hb dX4_last_83 hl (k := 3) rfl (nI_1 i) (by decide) rfl (fun ls hl => ?_)
              refine lv_goto (tgt := 10) hx hb dX4_last_86 (by decide) ?_
              exact ih_10 (i + 1) v (by omega) (by omega) (by rw [lstTo, ← hv]; first | (simp [c_2, c_4, c_6]; done) | simp_all) _ _ hR ls (lv_sub hl [3, 1, 0] rfl)
            · skip
              refine lv_aload_n hx hb dX4_last_62 rfl (lv_at hl 1 rfl) ?_
              refine rw_get (v := .ref (ad 3)) hx hb hts in_X4 hown hK hR 0 (by decide) rfl rfl 3 (by decide) q1165 rfl rfl dX4_last_63 ?_
              refine lv_iload_n hx hb dX4_last_66 rfl (lv_at hl 3 rfl) ?_
              refine rw_ialdN (n := 6) hx hb hK hR 3 (by decide) rfl i rfl (by omega) (by decide) dX4_last_67 ?_
              refine lv_aload_n hx hb dX4_last_68 rfl (lv_at hl 1 rfl) ?_
              refine rw_get (v := .ref (ad 3)) hx hb hts in_X4 hown hK hR 0 (by decide) rfl rfl 3 (by decide) q1165 rfl rfl dX4_last_69 ?_
              refine lv_iload_n hx hb dX4_last_72 rfl (lv_at hl 2 rfl) ?_
              refine rw_iald (n := 6) hx hb hK hR 3 (by decide) rfl (by subst hv; exact lst_vp (by omega) (by assumption)) dX4_last_73 ?_
              refine lj_ge (tgt := 81) hx hb dX4_last_74 (by decide) (fun c_7 => ?_) (fun c_7 => ?_)
              · skip
                refine lv_iload_n hx hb dX4_last_81 rfl (lv_at hl 2 rfl) ?_
                refine lv_istore_n (lv' := [(1, .int v), (3, .int 0), (0, .ref (ad 0)), (2, .int (nI i))]) hx hb dX4_last_82 rfl hl (by decide) rfl (fun ls hl => ?_)
                refine lv_iinc (v := (nI (i + 1))) (lv' := [(2, .int (nI (i + 1))), (1, .int v), (3, .int 0), (0, .ref (ad 0))]) hx hb dX4_last_83 hl (k := 3) rfl (nI_1 i) (by decide) rfl (fun ls hl => ?_)
                refine lv_goto (tgt := 10) hx hb dX4_last_86 (by decide) ?_
                exact ih_10 (i + 1) v (by omega) (by omega) (by rw [lstTo, ← hv]; first | (simp [c_2, c_4, c_6, c_7]; done) | simp_all) _ _ hR ls (lv_sub hl [3, 1, 0] rfl)
              · skip
                refine lv_iload_n hx hb dX4_last_77 rfl (lv_at hl 3 rfl) ?_
                refine lv_goto (tgt := 82) hx hb dX4_last_78 (by decide) ?_
                refine lv_istore_n (lv' := [(1, .int (nI i)), (3, .int 0), (0, .ref (ad 0)), (2, .int (nI i))]) hx hb dX4_last_82 rfl hl (by decide) rfl (fun ls hl => ?_)
                refine lv_iinc (v := (nI (i + 1))) (lv' := [(2, .int (nI (i + 1))), (1, .int (nI i)), (3, .int 0), (0, .ref (ad 0))]) hx hb dX4_last_83 hl (k := 3) rfl (nI_1 i) (by decide) rfl (fun ls hl => ?_)
                refine lv_goto (tgt := 10) hx hb dX4_last_86 (by decide) ?_
                exact ih_10 (i + 1) (nI i) (by omega) (by omega) (by rw [lstTo, ← hv]; first | (simp [c_2, c_4, c_6, c_7]; done) | simp_all) _ _ hR ls (lv_sub hl [3, 1, 0] rfl)
          · skip
            refine lv_iconst (v := 1) hx hb dX4_last_37 (by decide) ?_
            refine lv_goto (tgt := 42) hx hb dX4_last_38 (by decide) ?_
            refine lv_istore_n (lv' := [(3, .int 1), (0, .ref (ad 0)), (1, .int v), (2, .int (nI i))]) hx hb dX4_last_42 rfl hl (by decide) rfl (fun ls hl => ?_)
            refine lv_iload_n hx hb dX4_last_43 rfl (lv_at hl 0 rfl) ?_
            refine lv_if_ne (tgt := 77) hx hb dX4_last_44 (by decide) (fun _ => ?_) (fun z => absurd z (by decide))
            refine lv_iload_n hx hb dX4_last_77 rfl (lv_at hl 3 rfl) ?_
            refine lv_goto (tgt := 82) hx hb dX4_last_78 (by decide) ?_
            refine lv_istore_n (lv' := [(1, .int (nI i)), (3, .int 1), (0, .ref (ad 0)), (2, .int (nI i))]) hx hb dX4_last_82 rfl hl (by decide) rfl (fun ls hl => ?_)
            refine lv_iinc (v := (nI (i + 1))) (lv' := [(2, .int (nI (i + 1))), (1, .int (nI i)), (3, .int 1), (0, .ref (ad 0))]) hx hb dX4_last_83 hl (k := 3) rfl (nI_1 i) (by decide) rfl (fun ls hl => ?_)
            refine lv_goto (tgt := 10) hx hb dX4_last_86 (by decide) ?_
            exact ih_10 (i + 1) (nI i) (by omega) (by omega) (by rw [lstTo, ← hv]; first | (simp [c_2, c_4]; done) | simp_all) _ _ hR ls (lv_sub hl [3, 1, 0] rfl)
  exact loop_10 _ 0 (-4) (Nat.lt_succ_self _) (by omega) (by rfl) _ _ hR ls (lv_sub hl [2, 1, 0] rfl)
theorem cd_X4_count : yX4_count.cls = RX4 ∧ yX4_count.cls ≠ "java/lang/invoke/MethodHandle" ∧ yX4_count.cls ≠ "java/lang/invoke/VarHandle" ∧ (parseMethodDescriptor yX4_count.desc).map (fun d => d.parameters.length) = some 1 := by decide +kernel
set_option maxHeartbeats 4000000 in
theorem m_X4_count (l : Launch) (D : va_G) (ca : Nat → ClassId) (n : Nat) (B X : Nat → Nat → Int32) (Y : Nat → Nat → Int64) (kp : Nat) (w : Int32) (hB : wfB n B) : MMi l D ca yX4_count (ws_ yX4_count cX4_count 4 (some .int)) (rmN 1) (fun ad => [.int w]) B X Y kp (oCount n B w) B (st X 0 0 0) Y kp := by
  refine MMi_start (by decide) (Or.inl rfl) (fun _ => Nat.le_of_ble_eq_true rfl) ?_
  intro p e s m args below meth c0 ad A Q ls hx hb hml hown hts hK hR hl hQ
  have hl : lv_has ls 4 [(0, .ref (ad 0)), (1, .int w)] := hl
  have hn6 : n ≤ 6 := hB.1
  refine lv_aload_n hx hb dX4_count_0 rfl (lv_at hl 0 rfl) ?_
  refine lv_iconst (v := 0) hx hb dX4_count_1 (by decide) ?_
  refine rw_put hx hb hts in_X4 tyX4 tyX4_ok nmX4 hown hK hR 0 (by decide) rfl rfl 13 (by decide) q1175 rfl rfl rfl rfl (Nat.le_of_ble_eq_true rfl) dX4_count_2 (mE_pX 0 (x := 0) rfl) (fun H locs hR => ?_)
  refine lv_iconst (v := 0) hx hb dX4_count_5 (by decide) ?_
  refine lv_istore_n (lv' := [(2, .int 0), (0, .ref (ad 0)), (1, .int w)]) hx hb dX4_count_6 rfl hl (by decide) rfl (fun ls hl => ?_)
  refine lv_iload_n hx hb dX4_count_7 rfl (lv_at hl 2 rfl) ?_
  by_cases k_1 : w = 0
  · skip
    refine lv_tableIn (tgt := 48) (off := 40) hx hb dX4_count_8 (by rw [k_1]; decide) (by rw [k_1]; decide) (by rw [k_1]; rfl) (by decide) ?_
    refine lv_aload_n hx hb dX4_count_48 rfl (lv_at hl 1 rfl) ?_
    refine rw_get (v := .int (nI n)) hx hb hts in_X4 hown hK hR 0 (by decide) rfl rfl 0 (by decide) q1162 rfl (mF_ch hB) dX4_count_49 ?_
    exact hQ _ _ _ _ _ (by first | (simp [oCount, k_1]; done) | simp_all [oCount]) hR dX4_count_52
  by_cases k_2 : w = 1
  · skip
    refine lv_tableIn (tgt := 53) (off := 45) hx hb dX4_count_8 (by rw [k_2]; decide) (by rw [k_2]; decide) (by rw [k_2]; rfl) (by decide) ?_
    refine lv_aload_n hx hb dX4_count_53 rfl (lv_at hl 1 rfl) ?_
    refine rw_get (v := .int (B 0 1)) hx hb hts in_X4 hown hK hR 0 (by decide) rfl rfl 6 (by decide) q1168 rfl rfl dX4_count_54 ?_
    exact hQ _ _ _ _ _ (by first | (simp [oCount, k_2]; done) | simp_all [oCount]) hR dX4_count_57
  by_cases k_3 : w = 2
  · skip
    refine lv_tableIn (tgt := 58) (off := 50) hx hb dX4_count_8 (by rw [k_3]; decide) (by rw [k_3]; decide) (by rw [k_3]; rfl) (by decide) ?_
    refine lv_iconst (v := 0) hx hb dX4_count_58 (by decide) ?_
    refine lv_istore_n (lv' := [(3, .int 0), (2, .int 0), (0, .ref (ad 0)), (1, .int w)]) hx hb dX4_count_59 rfl hl (by decide) rfl (fun ls hl => ?_)
    have loop_60 : ∀ (nn : Nat) (i : Nat) (v : Int32), n - i < nn → (i ≤ n) → (v = sumTo (B 3) i) → ∀ (H : Heap) (locs : List Loc), RW D 23 ad (mE ca ad B (st X 0 0 0) Y kp) A s.heap H locs → ∀ (ls : Array Slot), lv_has ls 4 [(0, .ref (ad 0)), (1, .int w), (2, .int v), (3, .int (nI i))] → W p l e (rmN 1) s m args below meth c0 H locs 0 0 Q (F0 m 60 ls []) := by
      intro nn
      induction nn with
      | zero => intro i v hm; exact absurd hm (Nat.not_lt_zero _)
      | succ nn ih_60 =>
        intro i v hm_60 hi hv H locs hR ls hl
        refine lv_iload_n hx hb dX4_count_60 rfl (lv_at hl 3 rfl) ?_
        refine lv_aload_n hx hb dX4_count_61 rfl (lv_at hl 0 rfl) ?_
        refine rw_get (v := .int (nI n)) hx hb hts in_X4 hown hK hR 0 (by decide) rfl rfl 0 (by decide) q1162 rfl (mF_ch hB) dX4_count_62 ?_
        refine ln_ge (tgt := 83) hx hb (i) (n) rfl rfl (by omega) (by omega) dX4_count_65 (by decide) (fun c_4 => ?_) (fun c_4 => ?_)
        · skip
          refine lv_iload_n hx hb dX4_count_83 rfl (lv_at hl 2 rfl) ?_
          exact hQ _ _ _ _ _ (by rw [hv, show i = n by omega]; simp [oCount, k_3]) hR dX4_count_84
        · skip
          refine lv_iload_n hx hb dX4_count_68 rfl (lv_at hl 2 rfl) ?_
          refine lv_aload_n hx hb dX4_count_69 rfl (lv_at hl 0 rfl) ?_
          refine rw_get (v := .ref (ad 3)) hx hb hts in_X4 hown hK hR 0 (by decide) rfl rfl 3 (by decide) q1165 rfl rfl dX4_count_70 ?_
          refine lv_iload_n hx hb dX4_count_73 rfl (lv_at hl 3 rfl) ?_
          refine rw_ialdN (n := 6) hx hb hK hR 3 (by decide) rfl i rfl (by omega) (by decide) dX4_count_74 ?_
          refine lv_iadd hx hb dX4_count_75 ?_
          refine lv_istore_n (lv' := [(2, .int (v + (B 3 i))), (0, .ref (ad 0)), (1, .int w), (3, .int (nI i))]) hx hb dX4_count_76 rfl hl (by decide) rfl (fun ls hl => ?_)
          refine lv_iinc (v := (nI (i + 1))) (lv' := [(3, .int (nI (i + 1))), (2, .int (v + (B 3 i))), (0, .ref (ad 0)), (1, .int w)]) hx hb dX4_count_77 hl (k := 3) rfl (nI_1 i) (by decide) rfl (fun ls hl => ?_)
          refine lv_goto (tgt := 60) hx hb dX4_count_80 (by decide) ?_
          exact ih_60 (i + 1) (v + (B 3 i)) (by omega) (by omega) (by rw [hv]; rfl) _ _ hR ls (lv_sub hl [2, 3, 1, 0] rfl)
    exact loop_60 _ 0 0 (Nat.lt_succ_self _) (by omega) (by rfl) _ _ hR ls (lv_sub hl [2, 3, 1, 0] rfl)
  by_cases k_5 : w = 3
  · skip
    refine lv_tableIn (tgt := 85) (off := 77) hx hb dX4_count_8 (by rw [k_5]; decide) (by rw [k_5]; decide) (by rw [k_5]; rfl) (by decide) ?_
    refine lv_aload_n hx hb dX4_count_85 rfl (lv_at hl 1 rfl) ?_
    refine mm_calli (rest := []) hx hb hml hown hts hK hl.1 hR (m_X4_allSteps l D ca n B (st X 0 0 0) Y kp hB) (cwV 0 hts (lw_V q1449 q1451 qs62 q82 q1452) rfl rfl rfl cd_X4_allSteps ⟨Nat.le_of_ble_eq_true rfl, Nat.le_of_ble_eq_true rfl⟩) rfl rfl (Nat.le_of_ble_eq_true rfl) dX4_count_86 ⟨Nat.le_refl _, Nat.le_refl _⟩ (fun H locs hR => ?_)
    exact hQ _ _ _ _ _ (by first | (simp [oCount, k_5]; done) | simp_all [oCount]) hR dX4_count_89
  by_cases k_6 : w = 4
  · skip
    refine lv_tableIn (tgt := 90) (off := 82) hx hb dX4_count_8 (by rw [k_6]; decide) (by rw [k_6]; decide) (by rw [k_6]; rfl) (by decide) ?_
    refine lv_iconst (v := 0) hx hb dX4_count_90 (by decide) ?_
    refine lv_istore_n (lv' := [(3, .int 0), (2, .int 0), (0, .ref (ad 0)), (1, .int w)]) hx hb dX4_count_91 rfl hl (by decide) rfl (fun ls hl => ?_)
    have loop_92 : ∀ (nn : Nat) (i : Nat) (v : Int32), n - i < nn → (i ≤ n) → (v = sumTo (B 5) i) → ∀ (H : Heap) (locs : List Loc), RW D 23 ad (mE ca ad B (st X 0 0 0) Y kp) A s.heap H locs → ∀ (ls : Array Slot), lv_has ls 4 [(0, .ref (ad 0)), (1, .int w), (2, .int v), (3, .int (nI i))] → W p l e (rmN 1) s m args below meth c0 H locs 0 0 Q (F0 m 92 ls []) := by
      intro nn
      induction nn with
      | zero => intro i v hm; exact absurd hm (Nat.not_lt_zero _)
      | succ nn ih_92 =>
        intro i v hm_92 hi hv H locs hR ls hl
        refine lv_iload_n hx hb dX4_count_92 rfl (lv_at hl 3 rfl) ?_
        refine lv_aload_n hx hb dX4_count_93 rfl (lv_at hl 0 rfl) ?_
        refine rw_get (v := .int (nI n)) hx hb hts in_X4 hown hK hR 0 (by decide) rfl rfl 0 (by decide) q1162 rfl (mF_ch hB) dX4_count_94 ?_
        refine ln_ge (tgt := 115) hx hb (i) (n) rfl rfl (by omega) (by omega) dX4_count_97 (by decide) (fun c_7 => ?_) (fun c_7 => ?_)
        · skip
          refine lv_iload_n hx hb dX4_count_115 rfl (lv_at hl 2 rfl) ?_
          exact hQ _ _ _ _ _ (by rw [hv, show i = n by omega]; simp [oCount, k_6]) hR dX4_count_116
        · skip
          refine lv_iload_n hx hb dX4_count_100 rfl (lv_at hl 2 rfl) ?_
          refine lv_aload_n hx hb dX4_count_101 rfl (lv_at hl 0 rfl) ?_
          refine rw_get (v := .ref (ad 5)) hx hb hts in_X4 hown hK hR 0 (by decide) rfl rfl 5 (by decide) q1167 rfl rfl dX4_count_102 ?_
          refine lv_iload_n hx hb dX4_count_105 rfl (lv_at hl 3 rfl) ?_
          refine rw_ialdN (n := 6) hx hb hK hR 5 (by decide) rfl i rfl (by omega) (by decide) dX4_count_106 ?_
          refine lv_iadd hx hb dX4_count_107 ?_
          refine lv_istore_n (lv' := [(2, .int (v + (B 5 i))), (0, .ref (ad 0)), (1, .int w), (3, .int (nI i))]) hx hb dX4_count_108 rfl hl (by decide) rfl (fun ls hl => ?_)
          refine lv_iinc (v := (nI (i + 1))) (lv' := [(3, .int (nI (i + 1))), (2, .int (v + (B 5 i))), (0, .ref (ad 0)), (1, .int w)]) hx hb dX4_count_109 hl (k := 3) rfl (nI_1 i) (by decide) rfl (fun ls hl => ?_)
          refine lv_goto (tgt := 92) hx hb dX4_count_112 (by decide) ?_
          exact ih_92 (i + 1) (v + (B 5 i)) (by omega) (by omega) (by rw [hv]; rfl) _ _ hR ls (lv_sub hl [2, 3, 1, 0] rfl)
    exact loop_92 _ 0 0 (Nat.lt_succ_self _) (by omega) (by rfl) _ _ hR ls (lv_sub hl [2, 3, 1, 0] rfl)
  by_cases k_8 : w = 5
  · skip
    refine lv_tableIn (tgt := 117) (off := 109) hx hb dX4_count_8 (by rw [k_8]; decide) (by rw [k_8]; decide) (by rw [k_8]; rfl) (by decide) ?_
    refine lv_aload_n hx hb dX4_count_117 rfl (lv_at hl 1 rfl) ?_
    refine mm_calli (rest := []) hx hb hml hown hts hK hl.1 hR (m_X4_swimBits l D ca n B (st X 0 0 0) Y kp hB) (cwV 0 hts (lw_V q1514 q1516 qs73 q82 q1517) rfl rfl rfl cd_X4_swimBits ⟨Nat.le_of_ble_eq_true rfl, Nat.le_of_ble_eq_true rfl⟩) rfl rfl (Nat.le_of_ble_eq_true rfl) dX4_count_118 ⟨Nat.le_refl _, Nat.le_refl _⟩ (fun H locs hR => ?_)
    exact hQ _ _ _ _ _ (by first | (simp [oCount, k_8]; done) | simp_all [oCount]) hR dX4_count_121
  have k_1n : w.toInt ≠ 0 := sw_ne (by decide) k_1
  have k_2n : w.toInt ≠ 1 := sw_ne (by decide) k_2
  have k_3n : w.toInt ≠ 2 := sw_ne (by decide) k_3
  have k_5n : w.toInt ≠ 3 := sw_ne (by decide) k_5
  have k_6n : w.toInt ≠ 4 := sw_ne (by decide) k_6
  have k_8n : w.toInt ≠ 5 := sw_ne (by decide) k_8
  refine lv_tableOut (tgt := 122) hx hb dX4_count_8 (by omega) (by decide) ?_
  refine lv_iconst (v := (-1)) hx hb dX4_count_122 (by decide) ?_
  exact hQ _ _ _ _ _ (by first | (simp [oCount, k_1, k_2, k_3, k_5, k_6, k_8]; done) | simp_all [oCount]) hR dX4_count_123
theorem cd_X4_daresOf : yX4_daresOf.cls = RX4 ∧ yX4_daresOf.cls ≠ "java/lang/invoke/MethodHandle" ∧ yX4_daresOf.cls ≠ "java/lang/invoke/VarHandle" ∧ (parseMethodDescriptor yX4_daresOf.desc).map (fun d => d.parameters.length) = some 3 := by decide +kernel
set_option maxHeartbeats 4000000 in
theorem m_X4_daresOf (l : Launch) (D : va_G) (ca : Nat → ClassId) (B X : Nat → Nat → Int32) (Y : Nat → Nat → Int64) (kp : Nat) (j : Nat) (u : Int32) (v : Int32) (hj : j < 6) : MMi l D ca yX4_daresOf (ws_ yX4_daresOf cX4_daresOf 5 (some .int)) (rmN 3) (fun ad => [.int (nI j), .int u, .int v]) B X Y kp (getsF B j u v) B X Y kp := by
  refine MMi_start (by decide) (Or.inl rfl) (fun _ => Nat.le_of_ble_eq_true rfl) ?_
  intro p e s m args below meth c0 ad A Q ls hx hb hml hown hts hK hR hl hQ
  have hl : lv_has ls 5 [(0, .ref (ad 0)), (1, .int (nI j)), (2, .int u), (3, .int v)] := hl
  refine lv_iload_n hx hb dX4_daresOf_0 rfl (lv_at hl 2 rfl) ?_
  refine lv_if_ne (tgt := 15) hx hb dX4_daresOf_1 (by decide) (fun c_1 => ?_) (fun c_1 => ?_)
  · skip
    refine lv_aload_n hx hb dX4_daresOf_15 rfl (lv_at hl 0 rfl) ?_
    refine rw_get (v := .ref (ad 4)) hx hb hts in_X4 hown hK hR 0 (by decide) rfl rfl 4 (by decide) q1166 rfl rfl dX4_daresOf_16 ?_
    refine lv_iload_n hx hb dX4_daresOf_19 rfl (lv_at hl 1 rfl) ?_
    refine rw_ialdN (n := 6) hx hb hK hR 4 (by decide) rfl j rfl (by omega) (by decide) dX4_daresOf_20 ?_
    refine lv_bipush (v := 7) hx hb dX4_daresOf_21 (by decide) ?_
    refine lv_icmp_eq (tgt := 34) hx hb dX4_daresOf_23 (by decide) (fun c_2 => ?_) (fun c_2 => ?_)
    · skip
      refine lv_iconst (v := 1) hx hb dX4_daresOf_34 (by decide) ?_
      refine lv_goto (tgt := 39) hx hb dX4_daresOf_35 (by decide) ?_
      refine lv_istore (lv' := [(4, .int 1), (0, .ref (ad 0)), (1, .int (nI j)), (2, .int u), (3, .int v)]) hx hb dX4_daresOf_39 hl (by decide) rfl (fun ls hl => ?_)
      refine lv_iload_n hx hb dX4_daresOf_41 rfl (lv_at hl 4 rfl) ?_
      refine lv_iconst (v := 1) hx hb dX4_daresOf_42 (by decide) ?_
      refine lv_icmp_ne (tgt := 50) hx hb dX4_daresOf_43 (by decide) (fun c_3 => ?_) (fun c_3 => ?_)
      · skip
        refine lv_iconst (v := 1) hx hb dX4_daresOf_50 (by decide) ?_
        refine lv_iload hx hb dX4_daresOf_51 (lv_at hl 0 rfl) ?_
        refine lv_if_eq (tgt := 60) hx hb dX4_daresOf_53 (by decide) (fun z => absurd z (by decide)) (fun _ => ?_)
        refine lv_iconst (v := 0) hx hb dX4_daresOf_56 (by decide) ?_
        refine lv_goto (tgt := 65) hx hb dX4_daresOf_57 (by decide) ?_
        refine lv_isub hx hb dX4_daresOf_65 ?_
        refine W.eqs (st2 := [.int 1]) (congrArg (fun z : Int32 => Value.int z :: _) (show ((1 - 0) : Int32) = 1 by decide)) ?_
        exact hQ _ _ _ _ _ (by first | (simp [getsF, c_1, c_2, c_3]; done) | simp_all [getsF]) hR dX4_daresOf_66
      · skip
        refine lv_iconst (v := 2) hx hb dX4_daresOf_46 (by decide) ?_
        refine lv_goto (tgt := 51) hx hb dX4_daresOf_47 (by decide) ?_
        refine lv_iload hx hb dX4_daresOf_51 (lv_at hl 0 rfl) ?_
        refine lv_if_eq (tgt := 60) hx hb dX4_daresOf_53 (by decide) (fun z => absurd z (by decide)) (fun _ => ?_)
        refine lv_iconst (v := 0) hx hb dX4_daresOf_56 (by decide) ?_
        refine lv_goto (tgt := 65) hx hb dX4_daresOf_57 (by decide) ?_
        refine lv_isub hx hb dX4_daresOf_65 ?_
        refine W.eqs (st2 := [.int 2]) (congrArg (fun z : Int32 => Value.int z :: _) (show ((2 - 0) : Int32) = 2 by decide)) ?_
        exact hQ _ _ _ _ _ (by first | (simp [getsF, c_1, c_2, c_3]; done) | simp_all [getsF]) hR dX4_daresOf_66
    · skip
      refine lv_aload_n hx hb dX4_daresOf_26 rfl (lv_at hl 0 rfl) ?_
      refine lv_iload_n hx hb dX4_daresOf_27 rfl (lv_at hl 1 rfl) ?_
      refine mm_calli (rest := []) hx hb hml hown hts hK hl.1 hR (m_X4_isReady l D ca B X Y kp j (by omega)) (cwV 1 hts (lw_V q1374 q1376 qs52 q82 q1377) rfl rfl rfl cd_X4_isReady ⟨Nat.le_of_ble_eq_true rfl, Nat.le_of_ble_eq_true rfl⟩) rfl rfl (Nat.le_of_ble_eq_true rfl) dX4_daresOf_28 ⟨Nat.le_refl _, Nat.le_refl _⟩ (fun H locs hR => ?_)
      refine lb_eq (tgt := 38) hx hb dX4_daresOf_31 (by decide) (fun c_6 => ?_) (fun c_6 => ?_)
      · skip
        refine lv_iconst (v := 0) hx hb dX4_daresOf_38 (by decide) ?_
        refine lv_istore (lv' := [(4, .int 0), (0, .ref (ad 0)), (1, .int (nI j)), (2, .int u), (3, .int v)]) hx hb dX4_daresOf_39 hl (by decide) rfl (fun ls hl => ?_)
        refine lv_iload_n hx hb dX4_daresOf_41 rfl (lv_at hl 4 rfl) ?_
        refine lv_iconst (v := 1) hx hb dX4_daresOf_42 (by decide) ?_
        refine lv_icmp_ne (tgt := 50) hx hb dX4_daresOf_43 (by decide) (fun c_7 => ?_) (fun c_7 => ?_)
        · skip
          refine lv_iconst (v := 1) hx hb dX4_daresOf_50 (by decide) ?_
          refine lv_iload hx hb dX4_daresOf_51 (lv_at hl 0 rfl) ?_
          refine lv_if_eq (tgt := 60) hx hb dX4_daresOf_53 (by decide) (fun _ => ?_) (fun z => absurd z (by decide))
          refine lv_aload_n hx hb dX4_daresOf_60 rfl (lv_at hl 1 rfl) ?_
          refine lv_iload_n hx hb dX4_daresOf_61 rfl (lv_at hl 2 rfl) ?_
          refine mm_calli (rest := [.int 1]) hx hb hml hown hts hK hl.1 hR (m_X4_frightOf l D ca B X Y kp j (by omega)) (cwV 1 hts (lw_V q1378 q1380 qs53 q82 q1381) rfl rfl rfl cd_X4_frightOf ⟨Nat.le_of_ble_eq_true rfl, Nat.le_of_ble_eq_true rfl⟩) rfl rfl (Nat.le_of_ble_eq_true rfl) dX4_daresOf_62 ⟨Nat.le_refl _, Nat.le_refl _⟩ (fun H locs hR => ?_)
          refine lv_isub hx hb dX4_daresOf_65 ?_
          exact hQ _ _ _ _ _ (by first | (simp [getsF, c_1, c_2, c_6, c_7]; done) | simp_all [getsF]) hR dX4_daresOf_66
        · skip
          refine lv_iconst (v := 2) hx hb dX4_daresOf_46 (by decide) ?_
          refine lv_goto (tgt := 51) hx hb dX4_daresOf_47 (by decide) ?_
          refine lv_iload hx hb dX4_daresOf_51 (lv_at hl 0 rfl) ?_
          refine lv_if_eq (tgt := 60) hx hb dX4_daresOf_53 (by decide) (fun _ => ?_) (fun z => absurd z (by decide))
          refine lv_aload_n hx hb dX4_daresOf_60 rfl (lv_at hl 1 rfl) ?_
          refine lv_iload_n hx hb dX4_daresOf_61 rfl (lv_at hl 2 rfl) ?_
          refine mm_calli (rest := [.int 2]) hx hb hml hown hts hK hl.1 hR (m_X4_frightOf l D ca B X Y kp j (by omega)) (cwV 1 hts (lw_V q1378 q1380 qs53 q82 q1381) rfl rfl rfl cd_X4_frightOf ⟨Nat.le_of_ble_eq_true rfl, Nat.le_of_ble_eq_true rfl⟩) rfl rfl (Nat.le_of_ble_eq_true rfl) dX4_daresOf_62 ⟨Nat.le_refl _, Nat.le_refl _⟩ (fun H locs hR => ?_)
          refine lv_isub hx hb dX4_daresOf_65 ?_
          exact hQ _ _ _ _ _ (by first | (simp [getsF, c_1, c_2, c_6, c_7]; done) | simp_all [getsF]) hR dX4_daresOf_66
      · skip
        refine lv_iconst (v := 1) hx hb dX4_daresOf_34 (by decide) ?_
        refine lv_goto (tgt := 39) hx hb dX4_daresOf_35 (by decide) ?_
        refine lv_istore (lv' := [(4, .int 1), (0, .ref (ad 0)), (1, .int (nI j)), (2, .int u), (3, .int v)]) hx hb dX4_daresOf_39 hl (by decide) rfl (fun ls hl => ?_)
        refine lv_iload_n hx hb dX4_daresOf_41 rfl (lv_at hl 4 rfl) ?_
        refine lv_iconst (v := 1) hx hb dX4_daresOf_42 (by decide) ?_
        refine lv_icmp_ne (tgt := 50) hx hb dX4_daresOf_43 (by decide) (fun c_10 => ?_) (fun c_10 => ?_)
        · skip
          refine lv_iconst (v := 1) hx hb dX4_daresOf_50 (by decide) ?_
          refine lv_iload hx hb dX4_daresOf_51 (lv_at hl 0 rfl) ?_
          refine lv_if_eq (tgt := 60) hx hb dX4_daresOf_53 (by decide) (fun z => absurd z (by decide)) (fun _ => ?_)
          refine lv_iconst (v := 0) hx hb dX4_daresOf_56 (by decide) ?_
          refine lv_goto (tgt := 65) hx hb dX4_daresOf_57 (by decide) ?_
          refine lv_isub hx hb dX4_daresOf_65 ?_
          refine W.eqs (st2 := [.int 1]) (congrArg (fun z : Int32 => Value.int z :: _) (show ((1 - 0) : Int32) = 1 by decide)) ?_
          exact hQ _ _ _ _ _ (by first | (simp [getsF, c_1, c_2, c_6, c_10]; done) | simp_all [getsF]) hR dX4_daresOf_66
        · skip
          refine lv_iconst (v := 2) hx hb dX4_daresOf_46 (by decide) ?_
          refine lv_goto (tgt := 51) hx hb dX4_daresOf_47 (by decide) ?_
          refine lv_iload hx hb dX4_daresOf_51 (lv_at hl 0 rfl) ?_
          refine lv_if_eq (tgt := 60) hx hb dX4_daresOf_53 (by decide) (fun z => absurd z (by decide)) (fun _ => ?_)
          refine lv_iconst (v := 0) hx hb dX4_daresOf_56 (by decide) ?_
          refine lv_goto (tgt := 65) hx hb dX4_daresOf_57 (by decide) ?_
          refine lv_isub hx hb dX4_daresOf_65 ?_
          refine W.eqs (st2 := [.int 2]) (congrArg (fun z : Int32 => Value.int z :: _) (show ((2 - 0) : Int32) = 2 by decide)) ?_
          exact hQ _ _ _ _ _ (by first | (simp [getsF, c_1, c_2, c_6, c_10]; done) | simp_all [getsF]) hR dX4_daresOf_66
  · skip
    refine lv_iload_n hx hb dX4_daresOf_4 rfl (lv_at hl 3 rfl) ?_
    refine lv_iconst (v := 1) hx hb dX4_daresOf_5 (by decide) ?_
    refine lv_icmp_ne (tgt := 13) hx hb dX4_daresOf_6 (by decide) (fun c_13 => ?_) (fun c_13 => ?_)
    · skip
      refine lv_iconst (v := 0) hx hb dX4_daresOf_13 (by decide) ?_
      exact hQ _ _ _ _ _ (by first | (simp [getsF, c_1, c_13]; done) | simp_all [getsF]) hR dX4_daresOf_14
    · skip
      refine lv_iconst (v := (-1)) hx hb dX4_daresOf_9 (by decide) ?_
      refine lv_goto (tgt := 14) hx hb dX4_daresOf_10 (by decide) ?_
      exact hQ _ _ _ _ _ (by first | (simp [getsF, c_1, c_13]; done) | simp_all [getsF]) hR dX4_daresOf_14
theorem cd_X4_dare : yX4_dare.cls = RX4 ∧ yX4_dare.cls ≠ "java/lang/invoke/MethodHandle" ∧ yX4_dare.cls ≠ "java/lang/invoke/VarHandle" ∧ (parseMethodDescriptor yX4_dare.desc).map (fun d => d.parameters.length) = some 2 := by decide +kernel
set_option maxHeartbeats 4000000 in
theorem m_X4_dare (l : Launch) (D : va_G) (ca : Nat → ClassId) (n : Nat) (B X : Nat → Nat → Int32) (Y : Nat → Nat → Int64) (kp : Nat) (a : Int32) (b : Int32) (hB : wfB n B) : MMi l D ca yX4_dare (ws_ yX4_dare cX4_dare 7 (some .int)) (rmN 4) (fun ad => [.int a, .int b]) B X Y kp (oDare n B a b) B (st X 0 0 0) Y kp := by
  refine MMi_start (by decide) (Or.inl rfl) (fun _ => Nat.le_of_ble_eq_true rfl) ?_
  intro p e s m args below meth c0 ad A Q ls hx hb hml hown hts hK hR hl hQ
  have hl : lv_has ls 7 [(0, .ref (ad 0)), (1, .int a), (2, .int b)] := hl
  have hn6 : n ≤ 6 := hB.1
  refine lv_aload_n hx hb dX4_dare_0 rfl (lv_at hl 0 rfl) ?_
  refine lv_iconst (v := 0) hx hb dX4_dare_1 (by decide) ?_
  refine rw_put hx hb hts in_X4 tyX4 tyX4_ok nmX4 hown hK hR 0 (by decide) rfl rfl 13 (by decide) q1175 rfl rfl rfl rfl (Nat.le_of_ble_eq_true rfl) dX4_dare_2 (mE_pX 0 (x := 0) rfl) (fun H locs hR => ?_)
  refine lv_aload_n hx hb dX4_dare_5 rfl (lv_at hl 0 rfl) ?_
  refine lv_iload_n hx hb dX4_dare_6 rfl (lv_at hl 1 rfl) ?_
  refine mm_calli (rest := []) hx hb hml hown hts hK hl.1 hR (m_X4_isChild l D ca n B (st X 0 0 0) Y kp a hB) (cwV 1 hts (lw_V q1336 q1338 qs44 q82 q1339) rfl rfl rfl cd_X4_isChild ⟨Nat.le_of_ble_eq_true rfl, Nat.le_of_ble_eq_true rfl⟩) rfl rfl (Nat.le_of_ble_eq_true rfl) dX4_dare_7 ⟨Nat.le_refl _, Nat.le_refl _⟩ (fun H locs hR => ?_)
  refine lb_eq (tgt := 26) hx hb dX4_dare_10 (by decide) (fun c_1 => ?_) (fun c_1 => ?_)
  · skip
    refine lv_iconst (v := (-1)) hx hb dX4_dare_26 (by decide) ?_
    exact hQ _ _ _ _ _ (by first | (simp [oDare, twoOk, dareRest, c_1]; done) | simp_all [oDare, twoOk, dareRest]) hR dX4_dare_27
  · skip
    obtain ⟨ja, hja, rfl⟩ := isC_nat hn6 c_1
    refine lv_aload_n hx hb dX4_dare_13 rfl (lv_at hl 0 rfl) ?_
    refine lv_iload_n hx hb dX4_dare_14 rfl (lv_at hl 2 rfl) ?_
    refine mm_calli (rest := []) hx hb hml hown hts hK hl.1 hR (m_X4_isChild l D ca n B (st X 0 0 0) Y kp b hB) (cwV 1 hts (lw_V q1336 q1338 qs44 q82 q1339) rfl rfl rfl cd_X4_isChild ⟨Nat.le_of_ble_eq_true rfl, Nat.le_of_ble_eq_true rfl⟩) rfl rfl (Nat.le_of_ble_eq_true rfl) dX4_dare_15 ⟨Nat.le_refl _, Nat.le_refl _⟩ (fun H locs hR => ?_)
    refine lb_eq (tgt := 26) hx hb dX4_dare_18 (by decide) (fun c_2 => ?_) (fun c_2 => ?_)
    · skip
      refine lv_iconst (v := (-1)) hx hb dX4_dare_26 (by decide) ?_
      exact hQ _ _ _ _ _ (by first | (simp [oDare, twoOk, dareRest, c_1, c_2, nI_clamp (show ja < 2 ^ 31 by omega)]; done) | simp_all [oDare, twoOk, dareRest, nI_clamp (show ja < 2 ^ 31 by omega)]) hR dX4_dare_27
    · skip
      obtain ⟨jb, hjb, rfl⟩ := isC_nat hn6 c_2
      refine lv_iload_n hx hb dX4_dare_21 rfl (lv_at hl 1 rfl) ?_
      refine lv_iload_n hx hb dX4_dare_22 rfl (lv_at hl 2 rfl) ?_
      refine ln_ne (tgt := 28) hx hb (ja) (jb) rfl rfl (by omega) (by omega) dX4_dare_23 (by decide) (fun c_3 => ?_) (fun c_3 => ?_)
      · skip
        refine lv_iconst (v := 0) hx hb dX4_dare_28 (by decide) ?_
        refine lv_istore_n (lv' := [(3, .int 0), (0, .ref (ad 0)), (1, .int (nI ja)), (2, .int (nI jb))]) hx hb dX4_dare_29 rfl hl (by decide) rfl (fun ls hl => ?_)
        refine lv_iload_n hx hb dX4_dare_30 rfl (lv_at hl 0 rfl) ?_
        refine lv_iconst (v := 4) hx hb dX4_dare_31 (by decide) ?_
        refine lv_icmp_ge (tgt := 118) hx hb dX4_dare_32 (by decide) (fun z => absurd z (by decide)) (fun _ => ?_)
        refine lv_iload_n hx hb dX4_dare_35 rfl (lv_at hl 0 rfl) ?_
        refine lv_iconst (v := 2) hx hb dX4_dare_36 (by decide) ?_
        refine lv_idiv hx hb dX4_dare_37 (by decide) ?_
        refine W.eqs (st2 := [.int 0]) (congrArg (fun z : Int32 => Value.int z :: _) (show ((0 / 2) : Int32) = 0 by decide)) ?_
        refine lv_istore (lv' := [(4, .int 0), (3, .int 0), (0, .ref (ad 0)), (1, .int (nI ja)), (2, .int (nI jb))]) hx hb dX4_dare_38 hl (by decide) rfl (fun ls hl => ?_)
        refine lv_iload_n hx hb dX4_dare_40 rfl (lv_at hl 1 rfl) ?_
        refine lv_iconst (v := 2) hx hb dX4_dare_41 (by decide) ?_
        refine lv_irem hx hb dX4_dare_42 (by decide) ?_
        refine W.eqs (st2 := [.int 0]) (congrArg (fun z : Int32 => Value.int z :: _) (show ((0 - 0 / 2 * 2) : Int32) = 0 by decide)) ?_
        refine lv_istore (lv' := [(5, .int 0), (4, .int 0), (3, .int 0), (0, .ref (ad 0)), (1, .int (nI ja)), (2, .int (nI jb))]) hx hb dX4_dare_43 hl (by decide) rfl (fun ls hl => ?_)
        refine lv_aload_n hx hb dX4_dare_45 rfl (lv_at hl 3 rfl) ?_
        refine lv_iload_n hx hb dX4_dare_46 rfl (lv_at hl 4 rfl) ?_
        refine lv_iconst (v := 1) hx hb dX4_dare_47 (by decide) ?_
        refine lv_iload hx hb dX4_dare_48 (lv_at hl 1 rfl) ?_
        refine lv_isub hx hb dX4_dare_50 ?_
        refine W.eqs (st2 := [.int 1, .int (nI ja), .ref (ad 0)]) (congrArg (fun z : Int32 => Value.int z :: _) (show ((1 - 0) : Int32) = 1 by decide)) ?_
        refine lv_iload hx hb dX4_dare_51 (lv_at hl 0 rfl) ?_
        refine mm_calli (rest := []) hx hb hml hown hts hK hl.1 hR (m_X4_daresOf l D ca B (st X 0 0 0) Y kp ja 1 0 (by omega)) (cwV 3 hts (lw_V q1573 q1575 qs75 q82 q1576) rfl rfl rfl cd_X4_daresOf ⟨Nat.le_of_ble_eq_true rfl, Nat.le_of_ble_eq_true rfl⟩) rfl rfl (Nat.le_of_ble_eq_true rfl) dX4_dare_53 ⟨Nat.le_refl _, Nat.le_refl _⟩ (fun H locs hR => ?_)
        refine lv_aload_n hx hb dX4_dare_56 rfl (lv_at hl 3 rfl) ?_
        refine lv_iload_n hx hb dX4_dare_57 rfl (lv_at hl 4 rfl) ?_
        refine lv_iload hx hb dX4_dare_58 (lv_at hl 1 rfl) ?_
        refine lv_iload hx hb dX4_dare_60 (lv_at hl 0 rfl) ?_
        refine mm_calli (rest := [.int (getsF B ja 1 0)]) hx hb hml hown hts hK hl.1 hR (m_X4_daresOf l D ca B (st X 0 0 0) Y kp ja 0 0 (by omega)) (cwV 3 hts (lw_V q1573 q1575 qs75 q82 q1576) rfl rfl rfl cd_X4_daresOf ⟨Nat.le_of_ble_eq_true rfl, Nat.le_of_ble_eq_true rfl⟩) rfl rfl (Nat.le_of_ble_eq_true rfl) dX4_dare_62 ⟨Nat.le_refl _, Nat.le_refl _⟩ (fun H locs hR => ?_)
        refine lj_gt (tgt := 95) hx hb dX4_dare_65 (by decide) (fun c_4 => ?_) (fun c_4 => ?_)
        · skip
          refine lv_iconst (v := 0) hx hb dX4_dare_95 (by decide) ?_
          refine lv_istore (lv' := [(6, .int 0), (5, .int 0), (4, .int 0), (3, .int 0), (0, .ref (ad 0)), (1, .int (nI ja)), (2, .int (nI jb))]) hx hb dX4_dare_96 hl (by decide) rfl (fun ls hl => ?_)
          refine lv_iload hx hb dX4_dare_98 (lv_at hl 0 rfl) ?_
          refine lv_if_eq (tgt := 112) hx hb dX4_dare_100 (by decide) (fun _ => ?_) (fun z => absurd z (by decide))
          refine lv_iinc (v := 1) (lv' := [(3, .int 1), (6, .int 0), (5, .int 0), (4, .int 0), (0, .ref (ad 0)), (1, .int (nI ja)), (2, .int (nI jb))]) hx hb dX4_dare_112 hl (k := 3) rfl (by decide) (by decide) rfl (fun ls hl => ?_)
          refine lv_goto (tgt := 30) hx hb dX4_dare_115 (by decide) ?_
          refine lv_iload_n hx hb dX4_dare_30 rfl (lv_at hl 0 rfl) ?_
          refine lv_iconst (v := 4) hx hb dX4_dare_31 (by decide) ?_
          refine lv_icmp_ge (tgt := 118) hx hb dX4_dare_32 (by decide) (fun z => absurd z (by decide)) (fun _ => ?_)
          refine lv_iload_n hx hb dX4_dare_35 rfl (lv_at hl 0 rfl) ?_
          refine lv_iconst (v := 2) hx hb dX4_dare_36 (by decide) ?_
          refine lv_idiv hx hb dX4_dare_37 (by decide) ?_
          refine W.eqs (st2 := [.int 0]) (congrArg (fun z : Int32 => Value.int z :: _) (show ((1 / 2) : Int32) = 0 by decide)) ?_
          refine lv_istore (lv' := [(4, .int 0), (3, .int 1), (6, .int 0), (5, .int 0), (0, .ref (ad 0)), (1, .int (nI ja)), (2, .int (nI jb))]) hx hb dX4_dare_38 hl (by decide) rfl (fun ls hl => ?_)
          refine lv_iload_n hx hb dX4_dare_40 rfl (lv_at hl 1 rfl) ?_
          refine lv_iconst (v := 2) hx hb dX4_dare_41 (by decide) ?_
          refine lv_irem hx hb dX4_dare_42 (by decide) ?_
          refine W.eqs (st2 := [.int 1]) (congrArg (fun z : Int32 => Value.int z :: _) (show ((1 - 1 / 2 * 2) : Int32) = 1 by decide)) ?_
          refine lv_istore (lv' := [(5, .int 1), (4, .int 0), (3, .int 1), (6, .int 0), (0, .ref (ad 0)), (1, .int (nI ja)), (2, .int (nI jb))]) hx hb dX4_dare_43 hl (by decide) rfl (fun ls hl => ?_)
          refine lv_aload_n hx hb dX4_dare_45 rfl (lv_at hl 4 rfl) ?_
          refine lv_iload_n hx hb dX4_dare_46 rfl (lv_at hl 5 rfl) ?_
          refine lv_iconst (v := 1) hx hb dX4_dare_47 (by decide) ?_
          refine lv_iload hx hb dX4_dare_48 (lv_at hl 1 rfl) ?_
          refine lv_isub hx hb dX4_dare_50 ?_
          refine W.eqs (st2 := [.int 1, .int (nI ja), .ref (ad 0)]) (congrArg (fun z : Int32 => Value.int z :: _) (show ((1 - 0) : Int32) = 1 by decide)) ?_
          refine lv_iload hx hb dX4_dare_51 (lv_at hl 0 rfl) ?_
          refine mm_calli (rest := []) hx hb hml hown hts hK hl.1 hR (m_X4_daresOf l D ca B (st X 0 0 0) Y kp ja 1 1 (by omega)) (cwV 3 hts (lw_V q1573 q1575 qs75 q82 q1576) rfl rfl rfl cd_X4_daresOf ⟨Nat.le_of_ble_eq_true rfl, Nat.le_of_ble_eq_true rfl⟩) rfl rfl (Nat.le_of_ble_eq_true rfl) dX4_dare_53 ⟨Nat.le_refl _, Nat.le_refl _⟩ (fun H locs hR => ?_)
          refine lv_aload_n hx hb dX4_dare_56 rfl (lv_at hl 4 rfl) ?_
          refine lv_iload_n hx hb dX4_dare_57 rfl (lv_at hl 5 rfl) ?_
          refine lv_iload hx hb dX4_dare_58 (lv_at hl 1 rfl) ?_
          refine lv_iload hx hb dX4_dare_60 (lv_at hl 0 rfl) ?_
          refine mm_calli (rest := [.int (getsF B ja 1 1)]) hx hb hml hown hts hK hl.1 hR (m_X4_daresOf l D ca B (st X 0 0 0) Y kp ja 0 1 (by omega)) (cwV 3 hts (lw_V q1573 q1575 qs75 q82 q1576) rfl rfl rfl cd_X4_daresOf ⟨Nat.le_of_ble_eq_true rfl, Nat.le_of_ble_eq_true rfl⟩) rfl rfl (Nat.le_of_ble_eq_true rfl) dX4_dare_62 ⟨Nat.le_refl _, Nat.le_refl _⟩ (fun H locs hR => ?_)
          refine lj_gt (tgt := 95) hx hb dX4_dare_65 (by decide) (fun c_6 => ?_) (fun c_6 => ?_)
          · skip
            refine lv_iconst (v := 0) hx hb dX4_dare_95 (by decide) ?_
            refine lv_istore (lv' := [(6, .int 0), (5, .int 1), (4, .int 0), (3, .int 1), (0, .ref (ad 0)), (1, .int (nI ja)), (2, .int (nI jb))]) hx hb dX4_dare_96 hl (by decide) rfl (fun ls hl => ?_)
            refine lv_iload hx hb dX4_dare_98 (lv_at hl 0 rfl) ?_
            refine lv_if_eq (tgt := 112) hx hb dX4_dare_100 (by decide) (fun _ => ?_) (fun z => absurd z (by decide))
            refine lv_iinc (v := 2) (lv' := [(3, .int 2), (6, .int 0), (5, .int 1), (4, .int 0), (0, .ref (ad 0)), (1, .int (nI ja)), (2, .int (nI jb))]) hx hb dX4_dare_112 hl (k := 3) rfl (by decide) (by decide) rfl (fun ls hl => ?_)
            refine lv_goto (tgt := 30) hx hb dX4_dare_115 (by decide) ?_
            refine lv_iload_n hx hb dX4_dare_30 rfl (lv_at hl 0 rfl) ?_
            refine lv_iconst (v := 4) hx hb dX4_dare_31 (by decide) ?_
            refine lv_icmp_ge (tgt := 118) hx hb dX4_dare_32 (by decide) (fun z => absurd z (by decide)) (fun _ => ?_)
            refine lv_iload_n hx hb dX4_dare_35 rfl (lv_at hl 0 rfl) ?_
            refine lv_iconst (v := 2) hx hb dX4_dare_36 (by decide) ?_
            refine lv_idiv hx hb dX4_dare_37 (by decide) ?_
            refine W.eqs (st2 := [.int 1]) (congrArg (fun z : Int32 => Value.int z :: _) (show ((2 / 2) : Int32) = 1 by decide)) ?_
            refine lv_istore (lv' := [(4, .int 1), (3, .int 2), (6, .int 0), (5, .int 1), (0, .ref (ad 0)), (1, .int (nI ja)), (2, .int (nI jb))]) hx hb dX4_dare_38 hl (by decide) rfl (fun ls hl => ?_)
            refine lv_iload_n hx hb dX4_dare_40 rfl (lv_at hl 1 rfl) ?_
            refine lv_iconst (v := 2) hx hb dX4_dare_41 (by decide) ?_
            refine lv_irem hx hb dX4_dare_42 (by decide) ?_
            refine W.eqs (st2 := [.int 0]) (congrArg (fun z : Int32 => Value.int z :: _) (show ((2 - 2 / 2 * 2) : Int32) = 0 by decide)) ?_
            refine lv_istore (lv' := [(5, .int 0), (4, .int 1), (3, .int 2), (6, .int 0), (0, .ref (ad 0)), (1, .int (nI ja)), (2, .int (nI jb))]) hx hb dX4_dare_43 hl (by decide) rfl (fun ls hl => ?_)
            refine lv_aload_n hx hb dX4_dare_45 rfl (lv_at hl 4 rfl) ?_
            refine lv_iload_n hx hb dX4_dare_46 rfl (lv_at hl 5 rfl) ?_
            refine lv_iconst (v := 1) hx hb dX4_dare_47 (by decide) ?_
            refine lv_iload hx hb dX4_dare_48 (lv_at hl 1 rfl) ?_
            refine lv_isub hx hb dX4_dare_50 ?_
            refine W.eqs (st2 := [.int 0, .int (nI ja), .ref (ad 0)]) (congrArg (fun z : Int32 => Value.int z :: _) (show ((1 - 1) : Int32) = 0 by decide)) ?_
            refine lv_iload hx hb dX4_dare_51 (lv_at hl 0 rfl) ?_
            refine mm_calli (rest := []) hx hb hml hown hts hK hl.1 hR (m_X4_daresOf l D ca B (st X 0 0 0) Y kp ja 0 0 (by omega)) (cwV 3 hts (lw_V q1573 q1575 qs75 q82 q1576) rfl rfl rfl cd_X4_daresOf ⟨Nat.le_of_ble_eq_true rfl, Nat.le_of_ble_eq_true rfl⟩) rfl rfl (Nat.le_of_ble_eq_true rfl) dX4_dare_53 ⟨Nat.le_refl _, Nat.le_refl _⟩ (fun H locs hR => ?_)
            refine lv_aload_n hx hb dX4_dare_56 rfl (lv_at hl 4 rfl) ?_
            refine lv_iload_n hx hb dX4_dare_57 rfl (lv_at hl 5 rfl) ?_
            refine lv_iload hx hb dX4_dare_58 (lv_at hl 1 rfl) ?_
            refine lv_iload hx hb dX4_dare_60 (lv_at hl 0 rfl) ?_
            refine mm_calli (rest := [.int (getsF B ja 0 0)]) hx hb hml hown hts hK hl.1 hR (m_X4_daresOf l D ca B (st X 0 0 0) Y kp ja 1 0 (by omega)) (cwV 3 hts (lw_V q1573 q1575 qs75 q82 q1576) rfl rfl rfl cd_X4_daresOf ⟨Nat.le_of_ble_eq_true rfl, Nat.le_of_ble_eq_true rfl⟩) rfl rfl (Nat.le_of_ble_eq_true rfl) dX4_dare_62 ⟨Nat.le_refl _, Nat.le_refl _⟩ (fun H locs hR => ?_)
            refine lj_gt (tgt := 95) hx hb dX4_dare_65 (by decide) (fun c_8 => ?_) (fun c_8 => ?_)
            · skip
              refine lv_iconst (v := 0) hx hb dX4_dare_95 (by decide) ?_
              refine lv_istore (lv' := [(6, .int 0), (5, .int 0), (4, .int 1), (3, .int 2), (0, .ref (ad 0)), (1, .int (nI ja)), (2, .int (nI jb))]) hx hb dX4_dare_96 hl (by decide) rfl (fun ls hl => ?_)
              refine lv_iload hx hb dX4_dare_98 (lv_at hl 0 rfl) ?_
              refine lv_if_eq (tgt := 112) hx hb dX4_dare_100 (by decide) (fun _ => ?_) (fun z => absurd z (by decide))
              refine lv_iinc (v := 3) (lv' := [(3, .int 3), (6, .int 0), (5, .int 0), (4, .int 1), (0, .ref (ad 0)), (1, .int (nI ja)), (2, .int (nI jb))]) hx hb dX4_dare_112 hl (k := 3) rfl (by decide) (by decide) rfl (fun ls hl => ?_)
              refine lv_goto (tgt := 30) hx hb dX4_dare_115 (by decide) ?_
              refine lv_iload_n hx hb dX4_dare_30 rfl (lv_at hl 0 rfl) ?_
              refine lv_iconst (v := 4) hx hb dX4_dare_31 (by decide) ?_
              refine lv_icmp_ge (tgt := 118) hx hb dX4_dare_32 (by decide) (fun z => absurd z (by decide)) (fun _ => ?_)
              refine lv_iload_n hx hb dX4_dare_35 rfl (lv_at hl 0 rfl) ?_
              refine lv_iconst (v := 2) hx hb dX4_dare_36 (by decide) ?_
              refine lv_idiv hx hb dX4_dare_37 (by decide) ?_
              refine W.eqs (st2 := [.int 1]) (congrArg (fun z : Int32 => Value.int z :: _) (show ((3 / 2) : Int32) = 1 by decide)) ?_
              refine lv_istore (lv' := [(4, .int 1), (3, .int 3), (6, .int 0), (5, .int 0), (0, .ref (ad 0)), (1, .int (nI ja)), (2, .int (nI jb))]) hx hb dX4_dare_38 hl (by decide) rfl (fun ls hl => ?_)
              refine lv_iload_n hx hb dX4_dare_40 rfl (lv_at hl 1 rfl) ?_
              refine lv_iconst (v := 2) hx hb dX4_dare_41 (by decide) ?_
              refine lv_irem hx hb dX4_dare_42 (by decide) ?_
              refine W.eqs (st2 := [.int 1]) (congrArg (fun z : Int32 => Value.int z :: _) (show ((3 - 3 / 2 * 2) : Int32) = 1 by decide)) ?_
              refine lv_istore (lv' := [(5, .int 1), (4, .int 1), (3, .int 3), (6, .int 0), (0, .ref (ad 0)), (1, .int (nI ja)), (2, .int (nI jb))]) hx hb dX4_dare_43 hl (by decide) rfl (fun ls hl => ?_)
              refine lv_aload_n hx hb dX4_dare_45 rfl (lv_at hl 4 rfl) ?_
              refine lv_iload_n hx hb dX4_dare_46 rfl (lv_at hl 5 rfl) ?_
              refine lv_iconst (v := 1) hx hb dX4_dare_47 (by decide) ?_
              refine lv_iload hx hb dX4_dare_48 (lv_at hl 1 rfl) ?_
              refine lv_isub hx hb dX4_dare_50 ?_
              refine W.eqs (st2 := [.int 0, .int (nI ja), .ref (ad 0)]) (congrArg (fun z : Int32 => Value.int z :: _) (show ((1 - 1) : Int32) = 0 by decide)) ?_
              refine lv_iload hx hb dX4_dare_51 (lv_at hl 0 rfl) ?_
              refine mm_calli (rest := []) hx hb hml hown hts hK hl.1 hR (m_X4_daresOf l D ca B (st X 0 0 0) Y kp ja 0 1 (by omega)) (cwV 3 hts (lw_V q1573 q1575 qs75 q82 q1576) rfl rfl rfl cd_X4_daresOf ⟨Nat.le_of_ble_eq_true rfl, Nat.le_of_ble_eq_true rfl⟩) rfl rfl (Nat.le_of_ble_eq_true rfl) dX4_dare_53 ⟨Nat.le_refl _, Nat.le_refl _⟩ (fun H locs hR => ?_)
              refine lv_aload_n hx hb dX4_dare_56 rfl (lv_at hl 4 rfl) ?_
              refine lv_iload_n hx hb dX4_dare_57 rfl (lv_at hl 5 rfl) ?_
              refine lv_iload hx hb dX4_dare_58 (lv_at hl 1 rfl) ?_
              refine lv_iload hx hb dX4_dare_60 (lv_at hl 0 rfl) ?_
              refine mm_calli (rest := [.int (getsF B ja 0 1)]) hx hb hml hown hts hK hl.1 hR (m_X4_daresOf l D ca B (st X 0 0 0) Y kp ja 1 1 (by omega)) (cwV 3 hts (lw_V q1573 q1575 qs75 q82 q1576) rfl rfl rfl cd_X4_daresOf ⟨Nat.le_of_ble_eq_true rfl, Nat.le_of_ble_eq_true rfl⟩) rfl rfl (Nat.le_of_ble_eq_true rfl) dX4_dare_62 ⟨Nat.le_refl _, Nat.le_refl _⟩ (fun H locs hR => ?_)
              refine lj_gt (tgt := 95) hx hb dX4_dare_65 (by decide) (fun c_10 => ?_) (fun c_10 => ?_)
              · skip
                refine lv_iconst (v := 0) hx hb dX4_dare_95 (by decide) ?_
                refine lv_istore (lv' := [(6, .int 0), (5, .int 1), (4, .int 1), (3, .int 3), (0, .ref (ad 0)), (1, .int (nI ja)), (2, .int (nI jb))]) hx hb dX4_dare_96 hl (by decide) rfl (fun ls hl => ?_)
                refine lv_iload hx hb dX4_dare_98 (lv_at hl 0 rfl) ?_
                refine lv_if_eq (tgt := 112) hx hb dX4_dare_100 (by decide) (fun _ => ?_) (fun z => absurd z (by decide))
                refine lv_iinc (v := 4) (lv' := [(3, .int 4), (6, .int 0), (5, .int 1), (4, .int 1), (0, .ref (ad 0)), (1, .int (nI ja)), (2, .int (nI jb))]) hx hb dX4_dare_112 hl (k := 3) rfl (by decide) (by decide) rfl (fun ls hl => ?_)
                refine lv_goto (tgt := 30) hx hb dX4_dare_115 (by decide) ?_
                refine lv_iload_n hx hb dX4_dare_30 rfl (lv_at hl 0 rfl) ?_
                refine lv_iconst (v := 4) hx hb dX4_dare_31 (by decide) ?_
                refine lv_icmp_ge (tgt := 118) hx hb dX4_dare_32 (by decide) (fun _ => ?_) (fun z => absurd z (by decide))
                refine lv_bipush (v := (-4)) hx hb dX4_dare_118 (by decide) ?_
                exact hQ _ _ _ _ _ (by first | (simp [oDare, twoOk, dareRest, c_1, c_2, c_3, c_4, c_6, c_8, c_10, nI_clamp (show ja < 2 ^ 31 by omega), nI_clamp (show jb < 2 ^ 31 by omega)]; done) | simp_all [oDare, twoOk, dareRest, nI_clamp (show ja < 2 ^ 31 by omega), nI_clamp (show jb < 2 ^ 31 by omega)]) hR dX4_dare_120
              · skip
                refine lv_aload_n hx hb dX4_dare_68 rfl (lv_at hl 4 rfl) ?_
                refine lv_iload_n hx hb dX4_dare_69 rfl (lv_at hl 6 rfl) ?_
                refine lv_iconst (v := 1) hx hb dX4_dare_70 (by decide) ?_
                refine lv_iload hx hb dX4_dare_71 (lv_at hl 0 rfl) ?_
                refine lv_isub hx hb dX4_dare_73 ?_
                refine W.eqs (st2 := [.int 0, .int (nI jb), .ref (ad 0)]) (congrArg (fun z : Int32 => Value.int z :: _) (show ((1 - 1) : Int32) = 0 by decide)) ?_
                refine lv_iload hx hb dX4_dare_74 (lv_at hl 1 rfl) ?_
                refine mm_calli (rest := []) hx hb hml hown hts hK hl.1 hR (m_X4_daresOf l D ca B (st X 0 0 0) Y kp jb 0 1 (by omega)) (cwV 3 hts (lw_V q1573 q1575 qs75 q82 q1576) rfl rfl rfl cd_X4_daresOf ⟨Nat.le_of_ble_eq_true rfl, Nat.le_of_ble_eq_true rfl⟩) rfl rfl (Nat.le_of_ble_eq_true rfl) dX4_dare_76 ⟨Nat.le_refl _, Nat.le_refl _⟩ (fun H locs hR => ?_)
                refine lv_aload_n hx hb dX4_dare_79 rfl (lv_at hl 4 rfl) ?_
                refine lv_iload_n hx hb dX4_dare_80 rfl (lv_at hl 6 rfl) ?_
                refine lv_iload hx hb dX4_dare_81 (lv_at hl 0 rfl) ?_
                refine lv_iload hx hb dX4_dare_83 (lv_at hl 1 rfl) ?_
                refine mm_calli (rest := [.int (getsF B jb 0 1)]) hx hb hml hown hts hK hl.1 hR (m_X4_daresOf l D ca B (st X 0 0 0) Y kp jb 1 1 (by omega)) (cwV 3 hts (lw_V q1573 q1575 qs75 q82 q1576) rfl rfl rfl cd_X4_daresOf ⟨Nat.le_of_ble_eq_true rfl, Nat.le_of_ble_eq_true rfl⟩) rfl rfl (Nat.le_of_ble_eq_true rfl) dX4_dare_85 ⟨Nat.le_refl _, Nat.le_refl _⟩ (fun H locs hR => ?_)
                refine lj_gt (tgt := 95) hx hb dX4_dare_88 (by decide) (fun c_12 => ?_) (fun c_12 => ?_)
                · skip
                  refine lv_iconst (v := 0) hx hb dX4_dare_95 (by decide) ?_
                  refine lv_istore (lv' := [(6, .int 0), (5, .int 1), (4, .int 1), (3, .int 3), (0, .ref (ad 0)), (1, .int (nI ja)), (2, .int (nI jb))]) hx hb dX4_dare_96 hl (by decide) rfl (fun ls hl => ?_)
                  refine lv_iload hx hb dX4_dare_98 (lv_at hl 0 rfl) ?_
                  refine lv_if_eq (tgt := 112) hx hb dX4_dare_100 (by decide) (fun _ => ?_) (fun z => absurd z (by decide))
                  refine lv_iinc (v := 4) (lv' := [(3, .int 4), (6, .int 0), (5, .int 1), (4, .int 1), (0, .ref (ad 0)), (1, .int (nI ja)), (2, .int (nI jb))]) hx hb dX4_dare_112 hl (k := 3) rfl (by decide) (by decide) rfl (fun ls hl => ?_)
                  refine lv_goto (tgt := 30) hx hb dX4_dare_115 (by decide) ?_
                  refine lv_iload_n hx hb dX4_dare_30 rfl (lv_at hl 0 rfl) ?_
                  refine lv_iconst (v := 4) hx hb dX4_dare_31 (by decide) ?_
                  refine lv_icmp_ge (tgt := 118) hx hb dX4_dare_32 (by decide) (fun _ => ?_) (fun z => absurd z (by decide))
                  refine lv_bipush (v := (-4)) hx hb dX4_dare_118 (by decide) ?_
                  exact hQ _ _ _ _ _ (by first | (simp [oDare, twoOk, dareRest, c_1, c_2, c_3, c_4, c_6, c_8, c_10, c_12, nI_clamp (show ja < 2 ^ 31 by omega), nI_clamp (show jb < 2 ^ 31 by omega)]; done) | simp_all [oDare, twoOk, dareRest, nI_clamp (show ja < 2 ^ 31 by omega), nI_clamp (show jb < 2 ^ 31 by omega)]) hR dX4_dare_120
                · skip
                  refine lv_iconst (v := 1) hx hb dX4_dare_91 (by decide) ?_
                  refine lv_goto (tgt := 96) hx hb dX4_dare_92 (by decide) ?_
                  refine lv_istore (lv' := [(6, .int 1), (5, .int 1), (4, .int 1), (3, .int 3), (0, .ref (ad 0)), (1, .int (nI ja)), (2, .int (nI jb))]) hx hb dX4_dare_96 hl (by decide) rfl (fun ls hl => ?_)
                  refine lv_iload hx hb dX4_dare_98 (lv_at hl 0 rfl) ?_
                  refine lv_if_eq (tgt := 112) hx hb dX4_dare_100 (by decide) (fun z => absurd z (by decide)) (fun _ => ?_)
                  refine lv_bipush (v := 10) hx hb dX4_dare_103 (by decide) ?_
                  refine lv_iload hx hb dX4_dare_105 (lv_at hl 2 rfl) ?_
                  refine lv_imul hx hb dX4_dare_107 ?_
                  refine W.eqs (st2 := [.int 10]) (congrArg (fun z : Int32 => Value.int z :: _) (show ((10 * 1) : Int32) = 10 by decide)) ?_
                  refine lv_iload hx hb dX4_dare_108 (lv_at hl 1 rfl) ?_
                  refine lv_iadd hx hb dX4_dare_110 ?_
                  refine W.eqs (st2 := [.int 11]) (congrArg (fun z : Int32 => Value.int z :: _) (show ((10 + 1) : Int32) = 11 by decide)) ?_
                  exact hQ _ _ _ _ _ (by first | (simp [oDare, twoOk, dareRest, c_1, c_2, c_3, c_4, c_6, c_8, c_10, c_12, nI_clamp (show ja < 2 ^ 31 by omega), nI_clamp (show jb < 2 ^ 31 by omega)]; done) | simp_all [oDare, twoOk, dareRest, nI_clamp (show ja < 2 ^ 31 by omega), nI_clamp (show jb < 2 ^ 31 by omega)]) hR dX4_dare_111
            · skip
              refine lv_aload_n hx hb dX4_dare_68 rfl (lv_at hl 4 rfl) ?_
              refine lv_iload_n hx hb dX4_dare_69 rfl (lv_at hl 6 rfl) ?_
              refine lv_iconst (v := 1) hx hb dX4_dare_70 (by decide) ?_
              refine lv_iload hx hb dX4_dare_71 (lv_at hl 0 rfl) ?_
              refine lv_isub hx hb dX4_dare_73 ?_
              refine W.eqs (st2 := [.int 1, .int (nI jb), .ref (ad 0)]) (congrArg (fun z : Int32 => Value.int z :: _) (show ((1 - 0) : Int32) = 1 by decide)) ?_
              refine lv_iload hx hb dX4_dare_74 (lv_at hl 1 rfl) ?_
              refine mm_calli (rest := []) hx hb hml hown hts hK hl.1 hR (m_X4_daresOf l D ca B (st X 0 0 0) Y kp jb 1 1 (by omega)) (cwV 3 hts (lw_V q1573 q1575 qs75 q82 q1576) rfl rfl rfl cd_X4_daresOf ⟨Nat.le_of_ble_eq_true rfl, Nat.le_of_ble_eq_true rfl⟩) rfl rfl (Nat.le_of_ble_eq_true rfl) dX4_dare_76 ⟨Nat.le_refl _, Nat.le_refl _⟩ (fun H locs hR => ?_)
              refine lv_aload_n hx hb dX4_dare_79 rfl (lv_at hl 4 rfl) ?_
              refine lv_iload_n hx hb dX4_dare_80 rfl (lv_at hl 6 rfl) ?_
              refine lv_iload hx hb dX4_dare_81 (lv_at hl 0 rfl) ?_
              refine lv_iload hx hb dX4_dare_83 (lv_at hl 1 rfl) ?_
              refine mm_calli (rest := [.int (getsF B jb 1 1)]) hx hb hml hown hts hK hl.1 hR (m_X4_daresOf l D ca B (st X 0 0 0) Y kp jb 0 1 (by omega)) (cwV 3 hts (lw_V q1573 q1575 qs75 q82 q1576) rfl rfl rfl cd_X4_daresOf ⟨Nat.le_of_ble_eq_true rfl, Nat.le_of_ble_eq_true rfl⟩) rfl rfl (Nat.le_of_ble_eq_true rfl) dX4_dare_85 ⟨Nat.le_refl _, Nat.le_refl _⟩ (fun H locs hR => ?_)
              refine lj_gt (tgt := 95) hx hb dX4_dare_88 (by decide) (fun c_15 => ?_) (fun c_15 => ?_)
              · skip
                refine lv_iconst (v := 0) hx hb dX4_dare_95 (by decide) ?_
                refine lv_istore (lv' := [(6, .int 0), (5, .int 0), (4, .int 1), (3, .int 2), (0, .ref (ad 0)), (1, .int (nI ja)), (2, .int (nI jb))]) hx hb dX4_dare_96 hl (by decide) rfl (fun ls hl => ?_)
                refine lv_iload hx hb dX4_dare_98 (lv_at hl 0 rfl) ?_
                refine lv_if_eq (tgt := 112) hx hb dX4_dare_100 (by decide) (fun _ => ?_) (fun z => absurd z (by decide))
                refine lv_iinc (v := 3) (lv' := [(3, .int 3), (6, .int 0), (5, .int 0), (4, .int 1), (0, .ref (ad 0)), (1, .int (nI ja)), (2, .int (nI jb))]) hx hb dX4_dare_112 hl (k := 3) rfl (by decide) (by decide) rfl (fun ls hl => ?_)
                refine lv_goto (tgt := 30) hx hb dX4_dare_115 (by decide) ?_
                refine lv_iload_n hx hb dX4_dare_30 rfl (lv_at hl 0 rfl) ?_
                refine lv_iconst (v := 4) hx hb dX4_dare_31 (by decide) ?_
                refine lv_icmp_ge (tgt := 118) hx hb dX4_dare_32 (by decide) (fun z => absurd z (by decide)) (fun _ => ?_)
                refine lv_iload_n hx hb dX4_dare_35 rfl (lv_at hl 0 rfl) ?_
                refine lv_iconst (v := 2) hx hb dX4_dare_36 (by decide) ?_
                refine lv_idiv hx hb dX4_dare_37 (by decide) ?_
                refine W.eqs (st2 := [.int 1]) (congrArg (fun z : Int32 => Value.int z :: _) (show ((3 / 2) : Int32) = 1 by decide)) ?_
                refine lv_istore (lv' := [(4, .int 1), (3, .int 3), (6, .int 0), (5, .int 0), (0, .ref (ad 0)), (1, .int (nI ja)), (2, .int (nI jb))]) hx hb dX4_dare_38 hl (by decide) rfl (fun ls hl => ?_)
                refine lv_iload_n hx hb dX4_dare_40 rfl (lv_at hl 1 rfl) ?_
                refine lv_iconst (v := 2) hx hb dX4_dare_41 (by decide) ?_
                refine lv_irem hx hb dX4_dare_42 (by decide) ?_
                refine W.eqs (st2 := [.int 1]) (congrArg (fun z : Int32 => Value.int z :: _) (show ((3 - 3 / 2 * 2) : Int32) = 1 by decide)) ?_
                refine lv_istore (lv' := [(5, .int 1), (4, .int 1), (3, .int 3), (6, .int 0), (0, .ref (ad 0)), (1, .int (nI ja)), (2, .int (nI jb))]) hx hb dX4_dare_43 hl (by decide) rfl (fun ls hl => ?_)
                refine lv_aload_n hx hb dX4_dare_45 rfl (lv_at hl 4 rfl) ?_
                refine lv_iload_n hx hb dX4_dare_46 rfl (lv_at hl 5 rfl) ?_
                refine lv_iconst (v := 1) hx hb dX4_dare_47 (by decide) ?_
                refine lv_iload hx hb dX4_dare_48 (lv_at hl 1 rfl) ?_
                refine lv_isub hx hb dX4_dare_50 ?_
                refine W.eqs (st2 := [.int 0, .int (nI ja), .ref (ad 0)]) (congrArg (fun z : Int32 => Value.int z :: _) (show ((1 - 1) : Int32) = 0 by decide)) ?_
                refine lv_iload hx hb dX4_dare_51 (lv_at hl 0 rfl) ?_
                refine mm_calli (rest := []) hx hb hml hown hts hK hl.1 hR (m_X4_daresOf l D ca B (st X 0 0 0) Y kp ja 0 1 (by omega)) (cwV 3 hts (lw_V q1573 q1575 qs75 q82 q1576) rfl rfl rfl cd_X4_daresOf ⟨Nat.le_of_ble_eq_true rfl, Nat.le_of_ble_eq_true rfl⟩) rfl rfl (Nat.le_of_ble_eq_true rfl) dX4_dare_53 ⟨Nat.le_refl _, Nat.le_refl _⟩ (fun H locs hR => ?_)
                refine lv_aload_n hx hb dX4_dare_56 rfl (lv_at hl 4 rfl) ?_
                refine lv_iload_n hx hb dX4_dare_57 rfl (lv_at hl 5 rfl) ?_
                refine lv_iload hx hb dX4_dare_58 (lv_at hl 1 rfl) ?_
                refine lv_iload hx hb dX4_dare_60 (lv_at hl 0 rfl) ?_
                refine mm_calli (rest := [.int (getsF B ja 0 1)]) hx hb hml hown hts hK hl.1 hR (m_X4_daresOf l D ca B (st X 0 0 0) Y kp ja 1 1 (by omega)) (cwV 3 hts (lw_V q1573 q1575 qs75 q82 q1576) rfl rfl rfl cd_X4_daresOf ⟨Nat.le_of_ble_eq_true rfl, Nat.le_of_ble_eq_true rfl⟩) rfl rfl (Nat.le_of_ble_eq_true rfl) dX4_dare_62 ⟨Nat.le_refl _, Nat.le_refl _⟩ (fun H locs hR => ?_)
                refine lj_gt (tgt := 95) hx hb dX4_dare_65 (by decide) (fun c_17 => ?_) (fun c_17 => ?_)
                · skip
                  refine lv_iconst (v := 0) hx hb dX4_dare_95 (by decide) ?_
                  refine lv_istore (lv' := [(6, .int 0), (5, .int 1), (4, .int 1), (3, .int 3), (0, .ref (ad 0)), (1, .int (nI ja)), (2, .int (nI jb))]) hx hb dX4_dare_96 hl (by decide) rfl (fun ls hl => ?_)
                  refine lv_iload hx hb dX4_dare_98 (lv_at hl 0 rfl) ?_
                  refine lv_if_eq (tgt := 112) hx hb dX4_dare_100 (by decide) (fun _ => ?_) (fun z => absurd z (by decide))
                  refine lv_iinc (v := 4) (lv' := [(3, .int 4), (6, .int 0), (5, .int 1), (4, .int 1), (0, .ref (ad 0)), (1, .int (nI ja)), (2, .int (nI jb))]) hx hb dX4_dare_112 hl (k := 3) rfl (by decide) (by decide) rfl (fun ls hl => ?_)
                  refine lv_goto (tgt := 30) hx hb dX4_dare_115 (by decide) ?_
                  refine lv_iload_n hx hb dX4_dare_30 rfl (lv_at hl 0 rfl) ?_
                  refine lv_iconst (v := 4) hx hb dX4_dare_31 (by decide) ?_
                  refine lv_icmp_ge (tgt := 118) hx hb dX4_dare_32 (by decide) (fun _ => ?_) (fun z => absurd z (by decide))
                  refine lv_bipush (v := (-4)) hx hb dX4_dare_118 (by decide) ?_
                  exact hQ _ _ _ _ _ (by first | (simp [oDare, twoOk, dareRest, c_1, c_2, c_3, c_4, c_6, c_8, c_15, c_17, nI_clamp (show ja < 2 ^ 31 by omega), nI_clamp (show jb < 2 ^ 31 by omega)]; done) | simp_all [oDare, twoOk, dareRest, nI_clamp (show ja < 2 ^ 31 by omega), nI_clamp (show jb < 2 ^ 31 by omega)]) hR dX4_dare_120
                · skip
                  refine lv_aload_n hx hb dX4_dare_68 rfl (lv_at hl 4 rfl) ?_
                  refine lv_iload_n hx hb dX4_dare_69 rfl (lv_at hl 6 rfl) ?_
                  refine lv_iconst (v := 1) hx hb dX4_dare_70 (by decide) ?_
                  refine lv_iload hx hb dX4_dare_71 (lv_at hl 0 rfl) ?_
                  refine lv_isub hx hb dX4_dare_73 ?_
                  refine W.eqs (st2 := [.int 0, .int (nI jb), .ref (ad 0)]) (congrArg (fun z : Int32 => Value.int z :: _) (show ((1 - 1) : Int32) = 0 by decide)) ?_
                  refine lv_iload hx hb dX4_dare_74 (lv_at hl 1 rfl) ?_
                  refine mm_calli (rest := []) hx hb hml hown hts hK hl.1 hR (m_X4_daresOf l D ca B (st X 0 0 0) Y kp jb 0 1 (by omega)) (cwV 3 hts (lw_V q1573 q1575 qs75 q82 q1576) rfl rfl rfl cd_X4_daresOf ⟨Nat.le_of_ble_eq_true rfl, Nat.le_of_ble_eq_true rfl⟩) rfl rfl (Nat.le_of_ble_eq_true rfl) dX4_dare_76 ⟨Nat.le_refl _, Nat.le_refl _⟩ (fun H locs hR => ?_)
                  refine lv_aload_n hx hb dX4_dare_79 rfl (lv_at hl 4 rfl) ?_
                  refine lv_iload_n hx hb dX4_dare_80 rfl (lv_at hl 6 rfl) ?_
                  refine lv_iload hx hb dX4_dare_81 (lv_at hl 0 rfl) ?_
                  refine lv_iload hx hb dX4_dare_83 (lv_at hl 1 rfl) ?_
                  refine mm_calli (rest := [.int (getsF B jb 0 1)]) hx hb hml hown hts hK hl.1 hR (m_X4_daresOf l D ca B (st X 0 0 0) Y kp jb 1 1 (by omega)) (cwV 3 hts (lw_V q1573 q1575 qs75 q82 q1576) rfl rfl rfl cd_X4_daresOf ⟨Nat.le_of_ble_eq_true rfl, Nat.le_of_ble_eq_true rfl⟩) rfl rfl (Nat.le_of_ble_eq_true rfl) dX4_dare_85 ⟨Nat.le_refl _, Nat.le_refl _⟩ (fun H locs hR => ?_)
                  refine lj_gt (tgt := 95) hx hb dX4_dare_88 (by decide) (fun c_19 => ?_) (fun c_19 => ?_)
                  · skip
                    refine lv_iconst (v := 0) hx hb dX4_dare_95 (by decide) ?_
                    refine lv_istore (lv' := [(6, .int 0), (5, .int 1), (4, .int 1), (3, .int 3), (0, .ref (ad 0)), (1, .int (nI ja)), (2, .int (nI jb))]) hx hb dX4_dare_96 hl (by decide) rfl (fun ls hl => ?_)
                    refine lv_iload hx hb dX4_dare_98 (lv_at hl 0 rfl) ?_
                    refine lv_if_eq (tgt := 112) hx hb dX4_dare_100 (by decide) (fun _ => ?_) (fun z => absurd z (by decide))
                    refine lv_iinc (v := 4) (lv' := [(3, .int 4), (6, .int 0), (5, .int 1), (4, .int 1), (0, .ref (ad 0)), (1, .int (nI ja)), (2, .int (nI jb))]) hx hb dX4_dare_112 hl (k := 3) rfl (by decide) (by decide) rfl (fun ls hl => ?_)
                    refine lv_goto (tgt := 30) hx hb dX4_dare_115 (by decide) ?_
                    refine lv_iload_n hx hb dX4_dare_30 rfl (lv_at hl 0 rfl) ?_
                    refine lv_iconst (v := 4) hx hb dX4_dare_31 (by decide) ?_
                    refine lv_icmp_ge (tgt := 118) hx hb dX4_dare_32 (by decide) (fun _ => ?_) (fun z => absurd z (by decide))
                    refine lv_bipush (v := (-4)) hx hb dX4_dare_118 (by decide) ?_
                    exact hQ _ _ _ _ _ (by first | (simp [oDare, twoOk, dareRest, c_1, c_2, c_3, c_4, c_6, c_8, c_15, c_17, c_19, nI_clamp (show ja < 2 ^ 31 by omega), nI_clamp (show jb < 2 ^ 31 by omega)]; done) | simp_all [oDare, twoOk, dareRest, nI_clamp (show ja < 2 ^ 31 by omega), nI_clamp (show jb < 2 ^ 31 by omega)]) hR dX4_dare_120
                  · skip
                    refine lv_iconst (v := 1) hx hb dX4_dare_91 (by decide) ?_
                    refine lv_goto (tgt := 96) hx hb dX4_dare_92 (by decide) ?_
                    refine lv_istore (lv' := [(6, .int 1), (5, .int 1), (4, .int 1), (3, .int 3), (0, .ref (ad 0)), (1, .int (nI ja)), (2, .int (nI jb))]) hx hb dX4_dare_96 hl (by decide) rfl (fun ls hl => ?_)
                    refine lv_iload hx hb dX4_dare_98 (lv_at hl 0 rfl) ?_
                    refine lv_if_eq (tgt := 112) hx hb dX4_dare_100 (by decide) (fun z => absurd z (by decide)) (fun _ => ?_)
                    refine lv_bipush (v := 10) hx hb dX4_dare_103 (by decide) ?_
                    refine lv_iload hx hb dX4_dare_105 (lv_at hl 2 rfl) ?_
                    refine lv_imul hx hb dX4_dare_107 ?_
                    refine W.eqs (st2 := [.int 10]) (congrArg (fun z : Int32 => Value.int z :: _) (show ((10 * 1) : Int32) = 10 by decide)) ?_
                    refine lv_iload hx hb dX4_dare_108 (lv_at hl 1 rfl) ?_
                    refine lv_iadd hx hb dX4_dare_110 ?_
                    refine W.eqs (st2 := [.int 11]) (congrArg (fun z : Int32 => Value.int z :: _) (show ((10 + 1) : Int32) = 11 by decide)) ?_
                    exact hQ _ _ _ _ _ (by first | (simp [oDare, twoOk, dareRest, c_1, c_2, c_3, c_4, c_6, c_8, c_15, c_17, c_19, nI_clamp (show ja < 2 ^ 31 by omega), nI_clamp (show jb < 2 ^ 31 by omega)]; done) | simp_all [oDare, twoOk, dareRest, nI_clamp (show ja < 2 ^ 31 by omega), nI_clamp (show jb < 2 ^ 31 by omega)]) hR dX4_dare_111
              · skip
                refine lv_iconst (v := 1) hx hb dX4_dare_91 (by decide) ?_
                refine lv_goto (tgt := 96) hx hb dX4_dare_92 (by decide) ?_
                refine lv_istore (lv' := [(6, .int 1), (5, .int 0), (4, .int 1), (3, .int 2), (0, .ref (ad 0)), (1, .int (nI ja)), (2, .int (nI jb))]) hx hb dX4_dare_96 hl (by decide) rfl (fun ls hl => ?_)
                refine lv_iload hx hb dX4_dare_98 (lv_at hl 0 rfl) ?_
                refine lv_if_eq (tgt := 112) hx hb dX4_dare_100 (by decide) (fun z => absurd z (by decide)) (fun _ => ?_)
                refine lv_bipush (v := 10) hx hb dX4_dare_103 (by decide) ?_
                refine lv_iload hx hb dX4_dare_105 (lv_at hl 2 rfl) ?_
                refine lv_imul hx hb dX4_dare_107 ?_
                refine W.eqs (st2 := [.int 10]) (congrArg (fun z : Int32 => Value.int z :: _) (show ((10 * 1) : Int32) = 10 by decide)) ?_
                refine lv_iload hx hb dX4_dare_108 (lv_at hl 1 rfl) ?_
                refine lv_iadd hx hb dX4_dare_110 ?_
                refine W.eqs (st2 := [.int 10]) (congrArg (fun z : Int32 => Value.int z :: _) (show ((10 + 0) : Int32) = 10 by decide)) ?_
                exact hQ _ _ _ _ _ (by first | (simp [oDare, twoOk, dareRest, c_1, c_2, c_3, c_4, c_6, c_8, c_15, nI_clamp (show ja < 2 ^ 31 by omega), nI_clamp (show jb < 2 ^ 31 by omega)]; done) | simp_all [oDare, twoOk, dareRest, nI_clamp (show ja < 2 ^ 31 by omega), nI_clamp (show jb < 2 ^ 31 by omega)]) hR dX4_dare_111
          · skip
            refine lv_aload_n hx hb dX4_dare_68 rfl (lv_at hl 4 rfl) ?_
            refine lv_iload_n hx hb dX4_dare_69 rfl (lv_at hl 6 rfl) ?_
            refine lv_iconst (v := 1) hx hb dX4_dare_70 (by decide) ?_
            refine lv_iload hx hb dX4_dare_71 (lv_at hl 0 rfl) ?_
            refine lv_isub hx hb dX4_dare_73 ?_
            refine W.eqs (st2 := [.int 0, .int (nI jb), .ref (ad 0)]) (congrArg (fun z : Int32 => Value.int z :: _) (show ((1 - 1) : Int32) = 0 by decide)) ?_
            refine lv_iload hx hb dX4_dare_74 (lv_at hl 1 rfl) ?_
            refine mm_calli (rest := []) hx hb hml hown hts hK hl.1 hR (m_X4_daresOf l D ca B (st X 0 0 0) Y kp jb 0 0 (by omega)) (cwV 3 hts (lw_V q1573 q1575 qs75 q82 q1576) rfl rfl rfl cd_X4_daresOf ⟨Nat.le_of_ble_eq_true rfl, Nat.le_of_ble_eq_true rfl⟩) rfl rfl (Nat.le_of_ble_eq_true rfl) dX4_dare_76 ⟨Nat.le_refl _, Nat.le_refl _⟩ (fun H locs hR => ?_)
            refine lv_aload_n hx hb dX4_dare_79 rfl (lv_at hl 4 rfl) ?_
            refine lv_iload_n hx hb dX4_dare_80 rfl (lv_at hl 6 rfl) ?_
            refine lv_iload hx hb dX4_dare_81 (lv_at hl 0 rfl) ?_
            refine lv_iload hx hb dX4_dare_83 (lv_at hl 1 rfl) ?_
            refine mm_calli (rest := [.int (getsF B jb 0 0)]) hx hb hml hown hts hK hl.1 hR (m_X4_daresOf l D ca B (st X 0 0 0) Y kp jb 1 0 (by omega)) (cwV 3 hts (lw_V q1573 q1575 qs75 q82 q1576) rfl rfl rfl cd_X4_daresOf ⟨Nat.le_of_ble_eq_true rfl, Nat.le_of_ble_eq_true rfl⟩) rfl rfl (Nat.le_of_ble_eq_true rfl) dX4_dare_85 ⟨Nat.le_refl _, Nat.le_refl _⟩ (fun H locs hR => ?_)
            refine lj_gt (tgt := 95) hx hb dX4_dare_88 (by decide) (fun c_23 => ?_) (fun c_23 => ?_)
            · skip
              refine lv_iconst (v := 0) hx hb dX4_dare_95 (by decide) ?_
              refine lv_istore (lv' := [(6, .int 0), (5, .int 1), (4, .int 0), (3, .int 1), (0, .ref (ad 0)), (1, .int (nI ja)), (2, .int (nI jb))]) hx hb dX4_dare_96 hl (by decide) rfl (fun ls hl => ?_)
              refine lv_iload hx hb dX4_dare_98 (lv_at hl 0 rfl) ?_
              refine lv_if_eq (tgt := 112) hx hb dX4_dare_100 (by decide) (fun _ => ?_) (fun z => absurd z (by decide))
              refine lv_iinc (v := 2) (lv' := [(3, .int 2), (6, .int 0), (5, .int 1), (4, .int 0), (0, .ref (ad 0)), (1, .int (nI ja)), (2, .int (nI jb))]) hx hb dX4_dare_112 hl (k := 3) rfl (by decide) (by decide) rfl (fun ls hl => ?_)
              refine lv_goto (tgt := 30) hx hb dX4_dare_115 (by decide) ?_
              refine lv_iload_n hx hb dX4_dare_30 rfl (lv_at hl 0 rfl) ?_
              refine lv_iconst (v := 4) hx hb dX4_dare_31 (by decide) ?_
              refine lv_icmp_ge (tgt := 118) hx hb dX4_dare_32 (by decide) (fun z => absurd z (by decide)) (fun _ => ?_)
              refine lv_iload_n hx hb dX4_dare_35 rfl (lv_at hl 0 rfl) ?_
              refine lv_iconst (v := 2) hx hb dX4_dare_36 (by decide) ?_
              refine lv_idiv hx hb dX4_dare_37 (by decide) ?_
              refine W.eqs (st2 := [.int 1]) (congrArg (fun z : Int32 => Value.int z :: _) (show ((2 / 2) : Int32) = 1 by decide)) ?_
              refine lv_istore (lv' := [(4, .int 1), (3, .int 2), (6, .int 0), (5, .int 1), (0, .ref (ad 0)), (1, .int (nI ja)), (2, .int (nI jb))]) hx hb dX4_dare_38 hl (by decide) rfl (fun ls hl => ?_)
              refine lv_iload_n hx hb dX4_dare_40 rfl (lv_at hl 1 rfl) ?_
              refine lv_iconst (v := 2) hx hb dX4_dare_41 (by decide) ?_
              refine lv_irem hx hb dX4_dare_42 (by decide) ?_
              refine W.eqs (st2 := [.int 0]) (congrArg (fun z : Int32 => Value.int z :: _) (show ((2 - 2 / 2 * 2) : Int32) = 0 by decide)) ?_
              refine lv_istore (lv' := [(5, .int 0), (4, .int 1), (3, .int 2), (6, .int 0), (0, .ref (ad 0)), (1, .int (nI ja)), (2, .int (nI jb))]) hx hb dX4_dare_43 hl (by decide) rfl (fun ls hl => ?_)
              refine lv_aload_n hx hb dX4_dare_45 rfl (lv_at hl 4 rfl) ?_
              refine lv_iload_n hx hb dX4_dare_46 rfl (lv_at hl 5 rfl) ?_
              refine lv_iconst (v := 1) hx hb dX4_dare_47 (by decide) ?_
              refine lv_iload hx hb dX4_dare_48 (lv_at hl 1 rfl) ?_
              refine lv_isub hx hb dX4_dare_50 ?_
              refine W.eqs (st2 := [.int 0, .int (nI ja), .ref (ad 0)]) (congrArg (fun z : Int32 => Value.int z :: _) (show ((1 - 1) : Int32) = 0 by decide)) ?_
              refine lv_iload hx hb dX4_dare_51 (lv_at hl 0 rfl) ?_
              refine mm_calli (rest := []) hx hb hml hown hts hK hl.1 hR (m_X4_daresOf l D ca B (st X 0 0 0) Y kp ja 0 0 (by omega)) (cwV 3 hts (lw_V q1573 q1575 qs75 q82 q1576) rfl rfl rfl cd_X4_daresOf ⟨Nat.le_of_ble_eq_true rfl, Nat.le_of_ble_eq_true rfl⟩) rfl rfl (Nat.le_of_ble_eq_true rfl) dX4_dare_53 ⟨Nat.le_refl _, Nat.le_refl _⟩ (fun H locs hR => ?_)
              refine lv_aload_n hx hb dX4_dare_56 rfl (lv_at hl 4 rfl) ?_
              refine lv_iload_n hx hb dX4_dare_57 rfl (lv_at hl 5 rfl) ?_
              refine lv_iload hx hb dX4_dare_58 (lv_at hl 1 rfl) ?_
              refine lv_iload hx hb dX4_dare_60 (lv_at hl 0 rfl) ?_
              refine mm_calli (rest := [.int (getsF B ja 0 0)]) hx hb hml hown hts hK hl.1 hR (m_X4_daresOf l D ca B (st X 0 0 0) Y kp ja 1 0 (by omega)) (cwV 3 hts (lw_V q1573 q1575 qs75 q82 q1576) rfl rfl rfl cd_X4_daresOf ⟨Nat.le_of_ble_eq_true rfl, Nat.le_of_ble_eq_true rfl⟩) rfl rfl (Nat.le_of_ble_eq_true rfl) dX4_dare_62 ⟨Nat.le_refl _, Nat.le_refl _⟩ (fun H locs hR => ?_)
              refine lj_gt (tgt := 95) hx hb dX4_dare_65 (by decide) (fun c_25 => ?_) (fun c_25 => ?_)
              · skip
                refine lv_iconst (v := 0) hx hb dX4_dare_95 (by decide) ?_
                refine lv_istore (lv' := [(6, .int 0), (5, .int 0), (4, .int 1), (3, .int 2), (0, .ref (ad 0)), (1, .int (nI ja)), (2, .int (nI jb))]) hx hb dX4_dare_96 hl (by decide) rfl (fun ls hl => ?_)
                refine lv_iload hx hb dX4_dare_98 (lv_at hl 0 rfl) ?_
                refine lv_if_eq (tgt := 112) hx hb dX4_dare_100 (by decide) (fun _ => ?_) (fun z => absurd z (by decide))
                refine lv_iinc (v := 3) (lv' := [(3, .int 3), (6, .int 0), (5, .int 0), (4, .int 1), (0, .ref (ad 0)), (1, .int (nI ja)), (2, .int (nI jb))]) hx hb dX4_dare_112 hl (k := 3) rfl (by decide) (by decide) rfl (fun ls hl => ?_)
                refine lv_goto (tgt := 30) hx hb dX4_dare_115 (by decide) ?_
                refine lv_iload_n hx hb dX4_dare_30 rfl (lv_at hl 0 rfl) ?_
                refine lv_iconst (v := 4) hx hb dX4_dare_31 (by decide) ?_
                refine lv_icmp_ge (tgt := 118) hx hb dX4_dare_32 (by decide) (fun z => absurd z (by decide)) (fun _ => ?_)
                refine lv_iload_n hx hb dX4_dare_35 rfl (lv_at hl 0 rfl) ?_
                refine lv_iconst (v := 2) hx hb dX4_dare_36 (by decide) ?_
                refine lv_idiv hx hb dX4_dare_37 (by decide) ?_
                refine W.eqs (st2 := [.int 1]) (congrArg (fun z : Int32 => Value.int z :: _) (show ((3 / 2) : Int32) = 1 by decide)) ?_
                refine lv_istore (lv' := [(4, .int 1), (3, .int 3), (6, .int 0), (5, .int 0), (0, .ref (ad 0)), (1, .int (nI ja)), (2, .int (nI jb))]) hx hb dX4_dare_38 hl (by decide) rfl (fun ls hl => ?_)
                refine lv_iload_n hx hb dX4_dare_40 rfl (lv_at hl 1 rfl) ?_
                refine lv_iconst (v := 2) hx hb dX4_dare_41 (by decide) ?_
                refine lv_irem hx hb dX4_dare_42 (by decide) ?_
                refine W.eqs (st2 := [.int 1]) (congrArg (fun z : Int32 => Value.int z :: _) (show ((3 - 3 / 2 * 2) : Int32) = 1 by decide)) ?_
                refine lv_istore (lv' := [(5, .int 1), (4, .int 1), (3, .int 3), (6, .int 0), (0, .ref (ad 0)), (1, .int (nI ja)), (2, .int (nI jb))]) hx hb dX4_dare_43 hl (by decide) rfl (fun ls hl => ?_)
                refine lv_aload_n hx hb dX4_dare_45 rfl (lv_at hl 4 rfl) ?_
                refine lv_iload_n hx hb dX4_dare_46 rfl (lv_at hl 5 rfl) ?_
                refine lv_iconst (v := 1) hx hb dX4_dare_47 (by decide) ?_
                refine lv_iload hx hb dX4_dare_48 (lv_at hl 1 rfl) ?_
                refine lv_isub hx hb dX4_dare_50 ?_
                refine W.eqs (st2 := [.int 0, .int (nI ja), .ref (ad 0)]) (congrArg (fun z : Int32 => Value.int z :: _) (show ((1 - 1) : Int32) = 0 by decide)) ?_
                refine lv_iload hx hb dX4_dare_51 (lv_at hl 0 rfl) ?_
                refine mm_calli (rest := []) hx hb hml hown hts hK hl.1 hR (m_X4_daresOf l D ca B (st X 0 0 0) Y kp ja 0 1 (by omega)) (cwV 3 hts (lw_V q1573 q1575 qs75 q82 q1576) rfl rfl rfl cd_X4_daresOf ⟨Nat.le_of_ble_eq_true rfl, Nat.le_of_ble_eq_true rfl⟩) rfl rfl (Nat.le_of_ble_eq_true rfl) dX4_dare_53 ⟨Nat.le_refl _, Nat.le_refl _⟩ (fun H locs hR => ?_)
                refine lv_aload_n hx hb dX4_dare_56 rfl (lv_at hl 4 rfl) ?_
                refine lv_iload_n hx hb dX4_dare_57 rfl (lv_at hl 5 rfl) ?_
                refine lv_iload hx hb dX4_dare_58 (lv_at hl 1 rfl) ?_
                refine lv_iload hx hb dX4_dare_60 (lv_at hl 0 rfl) ?_
                refine mm_calli (rest := [.int (getsF B ja 0 1)]) hx hb hml hown hts hK hl.1 hR (m_X4_daresOf l D ca B (st X 0 0 0) Y kp ja 1 1 (by omega)) (cwV 3 hts (lw_V q1573 q1575 qs75 q82 q1576) rfl rfl rfl cd_X4_daresOf ⟨Nat.le_of_ble_eq_true rfl, Nat.le_of_ble_eq_true rfl⟩) rfl rfl (Nat.le_of_ble_eq_true rfl) dX4_dare_62 ⟨Nat.le_refl _, Nat.le_refl _⟩ (fun H locs hR => ?_)
                refine lj_gt (tgt := 95) hx hb dX4_dare_65 (by decide) (fun c_27 => ?_) (fun c_27 => ?_)
                · skip
                  refine lv_iconst (v := 0) hx hb dX4_dare_95 (by decide) ?_
                  refine lv_istore (lv' := [(6, .int 0), (5, .int 1), (4, .int 1), (3, .int 3), (0, .ref (ad 0)), (1, .int (nI ja)), (2, .int (nI jb))]) hx hb dX4_dare_96 hl (by decide) rfl (fun ls hl => ?_)
                  refine lv_iload hx hb dX4_dare_98 (lv_at hl 0 rfl) ?_
                  refine lv_if_eq (tgt := 112) hx hb dX4_dare_100 (by decide) (fun _ => ?_) (fun z => absurd z (by decide))
                  refine lv_iinc (v := 4) (lv' := [(3, .int 4), (6, .int 0), (5, .int 1), (4, .int 1), (0, .ref (ad 0)), (1, .int (nI ja)), (2, .int (nI jb))]) hx hb dX4_dare_112 hl (k := 3) rfl (by decide) (by decide) rfl (fun ls hl => ?_)
                  refine lv_goto (tgt := 30) hx hb dX4_dare_115 (by decide) ?_
                  refine lv_iload_n hx hb dX4_dare_30 rfl (lv_at hl 0 rfl) ?_
                  refine lv_iconst (v := 4) hx hb dX4_dare_31 (by decide) ?_
                  refine lv_icmp_ge (tgt := 118) hx hb dX4_dare_32 (by decide) (fun _ => ?_) (fun z => absurd z (by decide))
                  refine lv_bipush (v := (-4)) hx hb dX4_dare_118 (by decide) ?_
                  exact hQ _ _ _ _ _ (by first | (simp [oDare, twoOk, dareRest, c_1, c_2, c_3, c_4, c_6, c_23, c_25, c_27, nI_clamp (show ja < 2 ^ 31 by omega), nI_clamp (show jb < 2 ^ 31 by omega)]; done) | simp_all [oDare, twoOk, dareRest, nI_clamp (show ja < 2 ^ 31 by omega), nI_clamp (show jb < 2 ^ 31 by omega)]) hR dX4_dare_120
                · skip
                  refine lv_aload_n hx hb dX4_dare_68 rfl (lv_at hl 4 rfl) ?_
                  refine lv_iload_n hx hb dX4_dare_69 rfl (lv_at hl 6 rfl) ?_
                  refine lv_iconst (v := 1) hx hb dX4_dare_70 (by decide) ?_
                  refine lv_iload hx hb dX4_dare_71 (lv_at hl 0 rfl) ?_
                  refine lv_isub hx hb dX4_dare_73 ?_
                  refine W.eqs (st2 := [.int 0, .int (nI jb), .ref (ad 0)]) (congrArg (fun z : Int32 => Value.int z :: _) (show ((1 - 1) : Int32) = 0 by decide)) ?_
                  refine lv_iload hx hb dX4_dare_74 (lv_at hl 1 rfl) ?_
                  refine mm_calli (rest := []) hx hb hml hown hts hK hl.1 hR (m_X4_daresOf l D ca B (st X 0 0 0) Y kp jb 0 1 (by omega)) (cwV 3 hts (lw_V q1573 q1575 qs75 q82 q1576) rfl rfl rfl cd_X4_daresOf ⟨Nat.le_of_ble_eq_true rfl, Nat.le_of_ble_eq_true rfl⟩) rfl rfl (Nat.le_of_ble_eq_true rfl) dX4_dare_76 ⟨Nat.le_refl _, Nat.le_refl _⟩ (fun H locs hR => ?_)
                  refine lv_aload_n hx hb dX4_dare_79 rfl (lv_at hl 4 rfl) ?_
                  refine lv_iload_n hx hb dX4_dare_80 rfl (lv_at hl 6 rfl) ?_
                  refine lv_iload hx hb dX4_dare_81 (lv_at hl 0 rfl) ?_
                  refine lv_iload hx hb dX4_dare_83 (lv_at hl 1 rfl) ?_
                  refine mm_calli (rest := [.int (getsF B jb 0 1)]) hx hb hml hown hts hK hl.1 hR (m_X4_daresOf l D ca B (st X 0 0 0) Y kp jb 1 1 (by omega)) (cwV 3 hts (lw_V q1573 q1575 qs75 q82 q1576) rfl rfl rfl cd_X4_daresOf ⟨Nat.le_of_ble_eq_true rfl, Nat.le_of_ble_eq_true rfl⟩) rfl rfl (Nat.le_of_ble_eq_true rfl) dX4_dare_85 ⟨Nat.le_refl _, Nat.le_refl _⟩ (fun H locs hR => ?_)
                  refine lj_gt (tgt := 95) hx hb dX4_dare_88 (by decide) (fun c_29 => ?_) (fun c_29 => ?_)
                  · skip
                    refine lv_iconst (v := 0) hx hb dX4_dare_95 (by decide) ?_
                    refine lv_istore (lv' := [(6, .int 0), (5, .int 1), (4, .int 1), (3, .int 3), (0, .ref (ad 0)), (1, .int (nI ja)), (2, .int (nI jb))]) hx hb dX4_dare_96 hl (by decide) rfl (fun ls hl => ?_)
                    refine lv_iload hx hb dX4_dare_98 (lv_at hl 0 rfl) ?_
                    refine lv_if_eq (tgt := 112) hx hb dX4_dare_100 (by decide) (fun _ => ?_) (fun z => absurd z (by decide))
                    refine lv_iinc (v := 4) (lv' := [(3, .int 4), (6, .int 0), (5, .int 1), (4, .int 1), (0, .ref (ad 0)), (1, .int (nI ja)), (2, .int (nI jb))]) hx hb dX4_dare_112 hl (k := 3) rfl (by decide) (by decide) rfl (fun ls hl => ?_)
                    refine lv_goto (tgt := 30) hx hb dX4_dare_115 (by decide) ?_
                    refine lv_iload_n hx hb dX4_dare_30 rfl (lv_at hl 0 rfl) ?_
                    refine lv_iconst (v := 4) hx hb dX4_dare_31 (by decide) ?_
                    refine lv_icmp_ge (tgt := 118) hx hb dX4_dare_32 (by decide) (fun _ => ?_) (fun z => absurd z (by decide))
                    refine lv_bipush (v := (-4)) hx hb dX4_dare_118 (by decide) ?_
                    exact hQ _ _ _ _ _ (by first | (simp [oDare, twoOk, dareRest, c_1, c_2, c_3, c_4, c_6, c_23, c_25, c_27, c_29, nI_clamp (show ja < 2 ^ 31 by omega), nI_clamp (show jb < 2 ^ 31 by omega)]; done) | simp_all [oDare, twoOk, dareRest, nI_clamp (show ja < 2 ^ 31 by omega), nI_clamp (show jb < 2 ^ 31 by omega)]) hR dX4_dare_120
                  · skip
                    refine lv_iconst (v := 1) hx hb dX4_dare_91 (by decide) ?_
                    refine lv_goto (tgt := 96) hx hb dX4_dare_92 (by decide) ?_
                    refine lv_istore (lv' := [(6, .int 1), (5, .int 1), (4, .int 1), (3, .int 3), (0, .ref (ad 0)), (1, .int (nI ja)), (2, .int (nI jb))]) hx hb dX4_dare_96 hl (by decide) rfl (fun ls hl => ?_)
                    refine lv_iload hx hb dX4_dare_98 (lv_at hl 0 rfl) ?_
                    refine lv_if_eq (tgt := 112) hx hb dX4_dare_100 (by decide) (fun z => absurd z (by decide)) (fun _ => ?_)
                    refine lv_bipush (v := 10) hx hb dX4_dare_103 (by decide) ?_
                    refine lv_iload hx hb dX4_dare_105 (lv_at hl 2 rfl) ?_
                    refine lv_imul hx hb dX4_dare_107 ?_
                    refine W.eqs (st2 := [.int 10]) (congrArg (fun z : Int32 => Value.int z :: _) (show ((10 * 1) : Int32) = 10 by decide)) ?_
                    refine lv_iload hx hb dX4_dare_108 (lv_at hl 1 rfl) ?_
                    refine lv_iadd hx hb dX4_dare_110 ?_
                    refine W.eqs (st2 := [.int 11]) (congrArg (fun z : Int32 => Value.int z :: _) (show ((10 + 1) : Int32) = 11 by decide)) ?_
                    exact hQ _ _ _ _ _ (by first | (simp [oDare, twoOk, dareRest, c_1, c_2, c_3, c_4, c_6, c_23, c_25, c_27, c_29, nI_clamp (show ja < 2 ^ 31 by omega), nI_clamp (show jb < 2 ^ 31 by omega)]; done) | simp_all [oDare, twoOk, dareRest, nI_clamp (show ja < 2 ^ 31 by omega), nI_clamp (show jb < 2 ^ 31 by omega)]) hR dX4_dare_111
              · skip
                refine lv_aload_n hx hb dX4_dare_68 rfl (lv_at hl 4 rfl) ?_
                refine lv_iload_n hx hb dX4_dare_69 rfl (lv_at hl 6 rfl) ?_
                refine lv_iconst (v := 1) hx hb dX4_dare_70 (by decide) ?_
                refine lv_iload hx hb dX4_dare_71 (lv_at hl 0 rfl) ?_
                refine lv_isub hx hb dX4_dare_73 ?_
                refine W.eqs (st2 := [.int 1, .int (nI jb), .ref (ad 0)]) (congrArg (fun z : Int32 => Value.int z :: _) (show ((1 - 0) : Int32) = 1 by decide)) ?_
                refine lv_iload hx hb dX4_dare_74 (lv_at hl 1 rfl) ?_
                refine mm_calli (rest := []) hx hb hml hown hts hK hl.1 hR (m_X4_daresOf l D ca B (st X 0 0 0) Y kp jb 1 1 (by omega)) (cwV 3 hts (lw_V q1573 q1575 qs75 q82 q1576) rfl rfl rfl cd_X4_daresOf ⟨Nat.le_of_ble_eq_true rfl, Nat.le_of_ble_eq_true rfl⟩) rfl rfl (Nat.le_of_ble_eq_true rfl) dX4_dare_76 ⟨Nat.le_refl _, Nat.le_refl _⟩ (fun H locs hR => ?_)
                refine lv_aload_n hx hb dX4_dare_79 rfl (lv_at hl 4 rfl) ?_
                refine lv_iload_n hx hb dX4_dare_80 rfl (lv_at hl 6 rfl) ?_
                refine lv_iload hx hb dX4_dare_81 (lv_at hl 0 rfl) ?_
                refine lv_iload hx hb dX4_dare_83 (lv_at hl 1 rfl) ?_
                refine mm_calli (rest := [.int (getsF B jb 1 1)]) hx hb hml hown hts hK hl.1 hR (m_X4_daresOf l D ca B (st X 0 0 0) Y kp jb 0 1 (by omega)) (cwV 3 hts (lw_V q1573 q1575 qs75 q82 q1576) rfl rfl rfl cd_X4_daresOf ⟨Nat.le_of_ble_eq_true rfl, Nat.le_of_ble_eq_true rfl⟩) rfl rfl (Nat.le_of_ble_eq_true rfl) dX4_dare_85 ⟨Nat.le_refl _, Nat.le_refl _⟩ (fun H locs hR => ?_)
                refine lj_gt (tgt := 95) hx hb dX4_dare_88 (by decide) (fun c_32 => ?_) (fun c_32 => ?_)
                · skip
                  refine lv_iconst (v := 0) hx hb dX4_dare_95 (by decide) ?_
                  refine lv_istore (lv' := [(6, .int 0), (5, .int 0), (4, .int 1), (3, .int 2), (0, .ref (ad 0)), (1, .int (nI ja)), (2, .int (nI jb))]) hx hb dX4_dare_96 hl (by decide) rfl (fun ls hl => ?_)
                  refine lv_iload hx hb dX4_dare_98 (lv_at hl 0 rfl) ?_
                  refine lv_if_eq (tgt := 112) hx hb dX4_dare_100 (by decide) (fun _ => ?_) (fun z => absurd z (by decide))
                  refine lv_iinc (v := 3) (lv' := [(3, .int 3), (6, .int 0), (5, .int 0), (4, .int 1), (0, .ref (ad 0)), (1, .int (nI ja)), (2, .int (nI jb))]) hx hb dX4_dare_112 hl (k := 3) rfl (by decide) (by decide) rfl (fun ls hl => ?_)
                  refine lv_goto (tgt := 30) hx hb dX4_dare_115 (by decide) ?_
                  refine lv_iload_n hx hb dX4_dare_30 rfl (lv_at hl 0 rfl) ?_
                  refine lv_iconst (v := 4) hx hb dX4_dare_31 (by decide) ?_
                  refine lv_icmp_ge (tgt := 118) hx hb dX4_dare_32 (by decide) (fun z => absurd z (by decide)) (fun _ => ?_)
                  refine lv_iload_n hx hb dX4_dare_35 rfl (lv_at hl 0 rfl) ?_
                  refine lv_iconst (v := 2) hx hb dX4_dare_36 (by decide) ?_
                  refine lv_idiv hx hb dX4_dare_37 (by decide) ?_
                  refine W.eqs (st2 := [.int 1]) (congrArg (fun z : Int32 => Value.int z :: _) (show ((3 / 2) : Int32) = 1 by decide)) ?_
                  refine lv_istore (lv' := [(4, .int 1), (3, .int 3), (6, .int 0), (5, .int 0), (0, .ref (ad 0)), (1, .int (nI ja)), (2, .int (nI jb))]) hx hb dX4_dare_38 hl (by decide) rfl (fun ls hl => ?_)
                  refine lv_iload_n hx hb dX4_dare_40 rfl (lv_at hl 1 rfl) ?_
                  refine lv_iconst (v := 2) hx hb dX4_dare_41 (by decide) ?_
                  refine lv_irem hx hb dX4_dare_42 (by decide) ?_
                  refine W.eqs (st2 := [.int 1]) (congrArg (fun z : Int32 => Value.int z :: _) (show ((3 - 3 / 2 * 2) : Int32) = 1 by decide)) ?_
                  refine lv_istore (lv' := [(5, .int 1), (4, .int 1), (3, .int 3), (6, .int 0), (0, .ref (ad 0)), (1, .int (nI ja)), (2, .int (nI jb))]) hx hb dX4_dare_43 hl (by decide) rfl (fun ls hl => ?_)
                  refine lv_aload_n hx hb dX4_dare_45 rfl (lv_at hl 4 rfl) ?_
                  refine lv_iload_n hx hb dX4_dare_46 rfl (lv_at hl 5 rfl) ?_
                  refine lv_iconst (v := 1) hx hb dX4_dare_47 (by decide) ?_
                  refine lv_iload hx hb dX4_dare_48 (lv_at hl 1 rfl) ?_
                  refine lv_isub hx hb dX4_dare_50 ?_
                  refine W.eqs (st2 := [.int 0, .int (nI ja), .ref (ad 0)]) (congrArg (fun z : Int32 => Value.int z :: _) (show ((1 - 1) : Int32) = 0 by decide)) ?_
                  refine lv_iload hx hb dX4_dare_51 (lv_at hl 0 rfl) ?_
                  refine mm_calli (rest := []) hx hb hml hown hts hK hl.1 hR (m_X4_daresOf l D ca B (st X 0 0 0) Y kp ja 0 1 (by omega)) (cwV 3 hts (lw_V q1573 q1575 qs75 q82 q1576) rfl rfl rfl cd_X4_daresOf ⟨Nat.le_of_ble_eq_true rfl, Nat.le_of_ble_eq_true rfl⟩) rfl rfl (Nat.le_of_ble_eq_true rfl) dX4_dare_53 ⟨Nat.le_refl _, Nat.le_refl _⟩ (fun H locs hR => ?_)
                  refine lv_aload_n hx hb dX4_dare_56 rfl (lv_at hl 4 rfl) ?_
                  refine lv_iload_n hx hb dX4_dare_57 rfl (lv_at hl 5 rfl) ?_
                  refine lv_iload hx hb dX4_dare_58 (lv_at hl 1 rfl) ?_
                  refine lv_iload hx hb dX4_dare_60 (lv_at hl 0 rfl) ?_
                  refine mm_calli (rest := [.int (getsF B ja 0 1)]) hx hb hml hown hts hK hl.1 hR (m_X4_daresOf l D ca B (st X 0 0 0) Y kp ja 1 1 (by omega)) (cwV 3 hts (lw_V q1573 q1575 qs75 q82 q1576) rfl rfl rfl cd_X4_daresOf ⟨Nat.le_of_ble_eq_true rfl, Nat.le_of_ble_eq_true rfl⟩) rfl rfl (Nat.le_of_ble_eq_true rfl) dX4_dare_62 ⟨Nat.le_refl _, Nat.le_refl _⟩ (fun H locs hR => ?_)
                  refine lj_gt (tgt := 95) hx hb dX4_dare_65 (by decide) (fun c_34 => ?_) (fun c_34 => ?_)
                  · skip
                    refine lv_iconst (v := 0) hx hb dX4_dare_95 (by decide) ?_
                    refine lv_istore (lv' := [(6, .int 0), (5, .int 1), (4, .int 1), (3, .int 3), (0, .ref (ad 0)), (1, .int (nI ja)), (2, .int (nI jb))]) hx hb dX4_dare_96 hl (by decide) rfl (fun ls hl => ?_)
                    refine lv_iload hx hb dX4_dare_98 (lv_at hl 0 rfl) ?_
                    refine lv_if_eq (tgt := 112) hx hb dX4_dare_100 (by decide) (fun _ => ?_) (fun z => absurd z (by decide))
                    refine lv_iinc (v := 4) (lv' := [(3, .int 4), (6, .int 0), (5, .int 1), (4, .int 1), (0, .ref (ad 0)), (1, .int (nI ja)), (2, .int (nI jb))]) hx hb dX4_dare_112 hl (k := 3) rfl (by decide) (by decide) rfl (fun ls hl => ?_)
                    refine lv_goto (tgt := 30) hx hb dX4_dare_115 (by decide) ?_
                    refine lv_iload_n hx hb dX4_dare_30 rfl (lv_at hl 0 rfl) ?_
                    refine lv_iconst (v := 4) hx hb dX4_dare_31 (by decide) ?_
                    refine lv_icmp_ge (tgt := 118) hx hb dX4_dare_32 (by decide) (fun _ => ?_) (fun z => absurd z (by decide))
                    refine lv_bipush (v := (-4)) hx hb dX4_dare_118 (by decide) ?_
                    exact hQ _ _ _ _ _ (by first | (simp [oDare, twoOk, dareRest, c_1, c_2, c_3, c_4, c_6, c_23, c_25, c_32, c_34, nI_clamp (show ja < 2 ^ 31 by omega), nI_clamp (show jb < 2 ^ 31 by omega)]; done) | simp_all [oDare, twoOk, dareRest, nI_clamp (show ja < 2 ^ 31 by omega), nI_clamp (show jb < 2 ^ 31 by omega)]) hR dX4_dare_120
                  · skip
                    refine lv_aload_n hx hb dX4_dare_68 rfl (lv_at hl 4 rfl) ?_
                    refine lv_iload_n hx hb dX4_dare_69 rfl (lv_at hl 6 rfl) ?_
                    refine lv_iconst (v := 1) hx hb dX4_dare_70 (by decide) ?_
                    refine lv_iload hx hb dX4_dare_71 (lv_at hl 0 rfl) ?_
                    refine lv_isub hx hb dX4_dare_73 ?_
                    refine W.eqs (st2 := [.int 0, .int (nI jb), .ref (ad 0)]) (congrArg (fun z : Int32 => Value.int z :: _) (show ((1 - 1) : Int32) = 0 by decide)) ?_
                    refine lv_iload hx hb dX4_dare_74 (lv_at hl 1 rfl) ?_
                    refine mm_calli (rest := []) hx hb hml hown hts hK hl.1 hR (m_X4_daresOf l D ca B (st X 0 0 0) Y kp jb 0 1 (by omega)) (cwV 3 hts (lw_V q1573 q1575 qs75 q82 q1576) rfl rfl rfl cd_X4_daresOf ⟨Nat.le_of_ble_eq_true rfl, Nat.le_of_ble_eq_true rfl⟩) rfl rfl (Nat.le_of_ble_eq_true rfl) dX4_dare_76 ⟨Nat.le_refl _, Nat.le_refl _⟩ (fun H locs hR => ?_)
                    refine lv_aload_n hx hb dX4_dare_79 rfl (lv_at hl 4 rfl) ?_
                    refine lv_iload_n hx hb dX4_dare_80 rfl (lv_at hl 6 rfl) ?_
                    refine lv_iload hx hb dX4_dare_81 (lv_at hl 0 rfl) ?_
                    refine lv_iload hx hb dX4_dare_83 (lv_at hl 1 rfl) ?_
                    refine mm_calli (rest := [.int (getsF B jb 0 1)]) hx hb hml hown hts hK hl.1 hR (m_X4_daresOf l D ca B (st X 0 0 0) Y kp jb 1 1 (by omega)) (cwV 3 hts (lw_V q1573 q1575 qs75 q82 q1576) rfl rfl rfl cd_X4_daresOf ⟨Nat.le_of_ble_eq_true rfl, Nat.le_of_ble_eq_true rfl⟩) rfl rfl (Nat.le_of_ble_eq_true rfl) dX4_dare_85 ⟨Nat.le_refl _, Nat.le_refl _⟩ (fun H locs hR => ?_)
                    refine lj_gt (tgt := 95) hx hb dX4_dare_88 (by decide) (fun c_36 => ?_) (fun c_36 => ?_)
                    · skip
                      refine lv_iconst (v := 0) hx hb dX4_dare_95 (by decide) ?_
                      refine lv_istore (lv' := [(6, .int 0), (5, .int 1), (4, .int 1), (3, .int 3), (0, .ref (ad 0)), (1, .int (nI ja)), (2, .int (nI jb))]) hx hb dX4_dare_96 hl (by decide) rfl (fun ls hl => ?_)
                      refine lv_iload hx hb dX4_dare_98 (lv_at hl 0 rfl) ?_
                      refine lv_if_eq (tgt := 112) hx hb dX4_dare_100 (by decide) (fun _ => ?_) (fun z => absurd z (by decide))
                      refine lv_iinc (v := 4) (lv' := [(3, .int 4), (6, .int 0), (5, .int 1), (4, .int 1), (0, .ref (ad 0)), (1, .int (nI ja)), (2, .int (nI jb))]) hx hb dX4_dare_112 hl (k := 3) rfl (by decide) (by decide) rfl (fun ls hl => ?_)
                      refine lv_goto (tgt := 30) hx hb dX4_dare_115 (by decide) ?_
                      refine lv_iload_n hx hb dX4_dare_30 rfl (lv_at hl 0 rfl) ?_
                      refine lv_iconst (v := 4) hx hb dX4_dare_31 (by decide) ?_
                      refine lv_icmp_ge (tgt := 118) hx hb dX4_dare_32 (by decide) (fun _ => ?_) (fun z => absurd z (by decide))
                      refine lv_bipush (v := (-4)) hx hb dX4_dare_118 (by decide) ?_
                      exact hQ _ _ _ _ _ (by first | (simp [oDare, twoOk, dareRest, c_1, c_2, c_3, c_4, c_6, c_23, c_25, c_32, c_34, c_36, nI_clamp (show ja < 2 ^ 31 by omega), nI_clamp (show jb < 2 ^ 31 by omega)]; done) | simp_all [oDare, twoOk, dareRest, nI_clamp (show ja < 2 ^ 31 by omega), nI_clamp (show jb < 2 ^ 31 by omega)]) hR dX4_dare_120
                    · skip
                      refine lv_iconst (v := 1) hx hb dX4_dare_91 (by decide) ?_
                      refine lv_goto (tgt := 96) hx hb dX4_dare_92 (by decide) ?_
                      refine lv_istore (lv' := [(6, .int 1), (5, .int 1), (4, .int 1), (3, .int 3), (0, .ref (ad 0)), (1, .int (nI ja)), (2, .int (nI jb))]) hx hb dX4_dare_96 hl (by decide) rfl (fun ls hl => ?_)
                      refine lv_iload hx hb dX4_dare_98 (lv_at hl 0 rfl) ?_
                      refine lv_if_eq (tgt := 112) hx hb dX4_dare_100 (by decide) (fun z => absurd z (by decide)) (fun _ => ?_)
                      refine lv_bipush (v := 10) hx hb dX4_dare_103 (by decide) ?_
                      refine lv_iload hx hb dX4_dare_105 (lv_at hl 2 rfl) ?_
                      refine lv_imul hx hb dX4_dare_107 ?_
                      refine W.eqs (st2 := [.int 10]) (congrArg (fun z : Int32 => Value.int z :: _) (show ((10 * 1) : Int32) = 10 by decide)) ?_
                      refine lv_iload hx hb dX4_dare_108 (lv_at hl 1 rfl) ?_
                      refine lv_iadd hx hb dX4_dare_110 ?_
                      refine W.eqs (st2 := [.int 11]) (congrArg (fun z : Int32 => Value.int z :: _) (show ((10 + 1) : Int32) = 11 by decide)) ?_
                      exact hQ _ _ _ _ _ (by first | (simp [oDare, twoOk, dareRest, c_1, c_2, c_3, c_4, c_6, c_23, c_25, c_32, c_34, c_36, nI_clamp (show ja < 2 ^ 31 by omega), nI_clamp (show jb < 2 ^ 31 by omega)]; done) | simp_all [oDare, twoOk, dareRest, nI_clamp (show ja < 2 ^ 31 by omega), nI_clamp (show jb < 2 ^ 31 by omega)]) hR dX4_dare_111
                · skip
                  refine lv_iconst (v := 1) hx hb dX4_dare_91 (by decide) ?_
                  refine lv_goto (tgt := 96) hx hb dX4_dare_92 (by decide) ?_
                  refine lv_istore (lv' := [(6, .int 1), (5, .int 0), (4, .int 1), (3, .int 2), (0, .ref (ad 0)), (1, .int (nI ja)), (2, .int (nI jb))]) hx hb dX4_dare_96 hl (by decide) rfl (fun ls hl => ?_)
                  refine lv_iload hx hb dX4_dare_98 (lv_at hl 0 rfl) ?_
                  refine lv_if_eq (tgt := 112) hx hb dX4_dare_100 (by decide) (fun z => absurd z (by decide)) (fun _ => ?_)
                  refine lv_bipush (v := 10) hx hb dX4_dare_103 (by decide) ?_
                  refine lv_iload hx hb dX4_dare_105 (lv_at hl 2 rfl) ?_
                  refine lv_imul hx hb dX4_dare_107 ?_
                  refine W.eqs (st2 := [.int 10]) (congrArg (fun z : Int32 => Value.int z :: _) (show ((10 * 1) : Int32) = 10 by decide)) ?_
                  refine lv_iload hx hb dX4_dare_108 (lv_at hl 1 rfl) ?_
                  refine lv_iadd hx hb dX4_dare_110 ?_
                  refine W.eqs (st2 := [.int 10]) (congrArg (fun z : Int32 => Value.int z :: _) (show ((10 + 0) : Int32) = 10 by decide)) ?_
                  exact hQ _ _ _ _ _ (by first | (simp [oDare, twoOk, dareRest, c_1, c_2, c_3, c_4, c_6, c_23, c_25, c_32, nI_clamp (show ja < 2 ^ 31 by omega), nI_clamp (show jb < 2 ^ 31 by omega)]; done) | simp_all [oDare, twoOk, dareRest, nI_clamp (show ja < 2 ^ 31 by omega), nI_clamp (show jb < 2 ^ 31 by omega)]) hR dX4_dare_111
            · skip
              refine lv_iconst (v := 1) hx hb dX4_dare_91 (by decide) ?_
              refine lv_goto (tgt := 96) hx hb dX4_dare_92 (by decide) ?_
              refine lv_istore (lv' := [(6, .int 1), (5, .int 1), (4, .int 0), (3, .int 1), (0, .ref (ad 0)), (1, .int (nI ja)), (2, .int (nI jb))]) hx hb dX4_dare_96 hl (by decide) rfl (fun ls hl => ?_)
              refine lv_iload hx hb dX4_dare_98 (lv_at hl 0 rfl) ?_
              refine lv_if_eq (tgt := 112) hx hb dX4_dare_100 (by decide) (fun z => absurd z (by decide)) (fun _ => ?_)
              refine lv_bipush (v := 10) hx hb dX4_dare_103 (by decide) ?_
              refine lv_iload hx hb dX4_dare_105 (lv_at hl 2 rfl) ?_
              refine lv_imul hx hb dX4_dare_107 ?_
              refine W.eqs (st2 := [.int 0]) (congrArg (fun z : Int32 => Value.int z :: _) (show ((10 * 0) : Int32) = 0 by decide)) ?_
              refine lv_iload hx hb dX4_dare_108 (lv_at hl 1 rfl) ?_
              refine lv_iadd hx hb dX4_dare_110 ?_
              refine W.eqs (st2 := [.int 1]) (congrArg (fun z : Int32 => Value.int z :: _) (show ((0 + 1) : Int32) = 1 by decide)) ?_
              exact hQ _ _ _ _ _ (by first | (simp [oDare, twoOk, dareRest, c_1, c_2, c_3, c_4, c_6, c_23, nI_clamp (show ja < 2 ^ 31 by omega), nI_clamp (show jb < 2 ^ 31 by omega)]; done) | simp_all [oDare, twoOk, dareRest, nI_clamp (show ja < 2 ^ 31 by omega), nI_clamp (show jb < 2 ^ 31 by omega)]) hR dX4_dare_111
        · skip
          refine lv_aload_n hx hb dX4_dare_68 rfl (lv_at hl 3 rfl) ?_
          refine lv_iload_n hx hb dX4_dare_69 rfl (lv_at hl 5 rfl) ?_
          refine lv_iconst (v := 1) hx hb dX4_dare_70 (by decide) ?_
          refine lv_iload hx hb dX4_dare_71 (lv_at hl 0 rfl) ?_
          refine lv_isub hx hb dX4_dare_73 ?_
          refine W.eqs (st2 := [.int 1, .int (nI jb), .ref (ad 0)]) (congrArg (fun z : Int32 => Value.int z :: _) (show ((1 - 0) : Int32) = 1 by decide)) ?_
          refine lv_iload hx hb dX4_dare_74 (lv_at hl 1 rfl) ?_
          refine mm_calli (rest := []) hx hb hml hown hts hK hl.1 hR (m_X4_daresOf l D ca B (st X 0 0 0) Y kp jb 1 0 (by omega)) (cwV 3 hts (lw_V q1573 q1575 qs75 q82 q1576) rfl rfl rfl cd_X4_daresOf ⟨Nat.le_of_ble_eq_true rfl, Nat.le_of_ble_eq_true rfl⟩) rfl rfl (Nat.le_of_ble_eq_true rfl) dX4_dare_76 ⟨Nat.le_refl _, Nat.le_refl _⟩ (fun H locs hR => ?_)
          refine lv_aload_n hx hb dX4_dare_79 rfl (lv_at hl 3 rfl) ?_
          refine lv_iload_n hx hb dX4_dare_80 rfl (lv_at hl 5 rfl) ?_
          refine lv_iload hx hb dX4_dare_81 (lv_at hl 0 rfl) ?_
          refine lv_iload hx hb dX4_dare_83 (lv_at hl 1 rfl) ?_
          refine mm_calli (rest := [.int (getsF B jb 1 0)]) hx hb hml hown hts hK hl.1 hR (m_X4_daresOf l D ca B (st X 0 0 0) Y kp jb 0 0 (by omega)) (cwV 3 hts (lw_V q1573 q1575 qs75 q82 q1576) rfl rfl rfl cd_X4_daresOf ⟨Nat.le_of_ble_eq_true rfl, Nat.le_of_ble_eq_true rfl⟩) rfl rfl (Nat.le_of_ble_eq_true rfl) dX4_dare_85 ⟨Nat.le_refl _, Nat.le_refl _⟩ (fun H locs hR => ?_)
          refine lj_gt (tgt := 95) hx hb dX4_dare_88 (by decide) (fun c_41 => ?_) (fun c_41 => ?_)
          · skip
            refine lv_iconst (v := 0) hx hb dX4_dare_95 (by decide) ?_
            refine lv_istore (lv' := [(6, .int 0), (5, .int 0), (4, .int 0), (3, .int 0), (0, .ref (ad 0)), (1, .int (nI ja)), (2, .int (nI jb))]) hx hb dX4_dare_96 hl (by decide) rfl (fun ls hl => ?_)
            refine lv_iload hx hb dX4_dare_98 (lv_at hl 0 rfl) ?_
            refine lv_if_eq (tgt := 112) hx hb dX4_dare_100 (by decide) (fun _ => ?_) (fun z => absurd z (by decide))
            refine lv_iinc (v := 1) (lv' := [(3, .int 1), (6, .int 0), (5, .int 0), (4, .int 0), (0, .ref (ad 0)), (1, .int (nI ja)), (2, .int (nI jb))]) hx hb dX4_dare_112 hl (k := 3) rfl (by decide) (by decide) rfl (fun ls hl => ?_)
            refine lv_goto (tgt := 30) hx hb dX4_dare_115 (by decide) ?_
            refine lv_iload_n hx hb dX4_dare_30 rfl (lv_at hl 0 rfl) ?_
            refine lv_iconst (v := 4) hx hb dX4_dare_31 (by decide) ?_
            refine lv_icmp_ge (tgt := 118) hx hb dX4_dare_32 (by decide) (fun z => absurd z (by decide)) (fun _ => ?_)
            refine lv_iload_n hx hb dX4_dare_35 rfl (lv_at hl 0 rfl) ?_
            refine lv_iconst (v := 2) hx hb dX4_dare_36 (by decide) ?_
            refine lv_idiv hx hb dX4_dare_37 (by decide) ?_
            refine W.eqs (st2 := [.int 0]) (congrArg (fun z : Int32 => Value.int z :: _) (show ((1 / 2) : Int32) = 0 by decide)) ?_
            refine lv_istore (lv' := [(4, .int 0), (3, .int 1), (6, .int 0), (5, .int 0), (0, .ref (ad 0)), (1, .int (nI ja)), (2, .int (nI jb))]) hx hb dX4_dare_38 hl (by decide) rfl (fun ls hl => ?_)
            refine lv_iload_n hx hb dX4_dare_40 rfl (lv_at hl 1 rfl) ?_
            refine lv_iconst (v := 2) hx hb dX4_dare_41 (by decide) ?_
            refine lv_irem hx hb dX4_dare_42 (by decide) ?_
            refine W.eqs (st2 := [.int 1]) (congrArg (fun z : Int32 => Value.int z :: _) (show ((1 - 1 / 2 * 2) : Int32) = 1 by decide)) ?_
            refine lv_istore (lv' := [(5, .int 1), (4, .int 0), (3, .int 1), (6, .int 0), (0, .ref (ad 0)), (1, .int (nI ja)), (2, .int (nI jb))]) hx hb dX4_dare_43 hl (by decide) rfl (fun ls hl => ?_)
            refine lv_aload_n hx hb dX4_dare_45 rfl (lv_at hl 4 rfl) ?_
            refine lv_iload_n hx hb dX4_dare_46 rfl (lv_at hl 5 rfl) ?_
            refine lv_iconst (v := 1) hx hb dX4_dare_47 (by decide) ?_
            refine lv_iload hx hb dX4_dare_48 (lv_at hl 1 rfl) ?_
            refine lv_isub hx hb dX4_dare_50 ?_
            refine W.eqs (st2 := [.int 1, .int (nI ja), .ref (ad 0)]) (congrArg (fun z : Int32 => Value.int z :: _) (show ((1 - 0) : Int32) = 1 by decide)) ?_
            refine lv_iload hx hb dX4_dare_51 (lv_at hl 0 rfl) ?_
            refine mm_calli (rest := []) hx hb hml hown hts hK hl.1 hR (m_X4_daresOf l D ca B (st X 0 0 0) Y kp ja 1 1 (by omega)) (cwV 3 hts (lw_V q1573 q1575 qs75 q82 q1576) rfl rfl rfl cd_X4_daresOf ⟨Nat.le_of_ble_eq_true rfl, Nat.le_of_ble_eq_true rfl⟩) rfl rfl (Nat.le_of_ble_eq_true rfl) dX4_dare_53 ⟨Nat.le_refl _, Nat.le_refl _⟩ (fun H locs hR => ?_)
            refine lv_aload_n hx hb dX4_dare_56 rfl (lv_at hl 4 rfl) ?_
            refine lv_iload_n hx hb dX4_dare_57 rfl (lv_at hl 5 rfl) ?_
            refine lv_iload hx hb dX4_dare_58 (lv_at hl 1 rfl) ?_
            refine lv_iload hx hb dX4_dare_60 (lv_at hl 0 rfl) ?_
            refine mm_calli (rest := [.int (getsF B ja 1 1)]) hx hb hml hown hts hK hl.1 hR (m_X4_daresOf l D ca B (st X 0 0 0) Y kp ja 0 1 (by omega)) (cwV 3 hts (lw_V q1573 q1575 qs75 q82 q1576) rfl rfl rfl cd_X4_daresOf ⟨Nat.le_of_ble_eq_true rfl, Nat.le_of_ble_eq_true rfl⟩) rfl rfl (Nat.le_of_ble_eq_true rfl) dX4_dare_62 ⟨Nat.le_refl _, Nat.le_refl _⟩ (fun H locs hR => ?_)
            refine lj_gt (tgt := 95) hx hb dX4_dare_65 (by decide) (fun c_43 => ?_) (fun c_43 => ?_)
            · skip
              refine lv_iconst (v := 0) hx hb dX4_dare_95 (by decide) ?_
              refine lv_istore (lv' := [(6, .int 0), (5, .int 1), (4, .int 0), (3, .int 1), (0, .ref (ad 0)), (1, .int (nI ja)), (2, .int (nI jb))]) hx hb dX4_dare_96 hl (by decide) rfl (fun ls hl => ?_)
              refine lv_iload hx hb dX4_dare_98 (lv_at hl 0 rfl) ?_
              refine lv_if_eq (tgt := 112) hx hb dX4_dare_100 (by decide) (fun _ => ?_) (fun z => absurd z (by decide))
              refine lv_iinc (v := 2) (lv' := [(3, .int 2), (6, .int 0), (5, .int 1), (4, .int 0), (0, .ref (ad 0)), (1, .int (nI ja)), (2, .int (nI jb))]) hx hb dX4_dare_112 hl (k := 3) rfl (by decide) (by decide) rfl (fun ls hl => ?_)
              refine lv_goto (tgt := 30) hx hb dX4_dare_115 (by decide) ?_
              refine lv_iload_n hx hb dX4_dare_30 rfl (lv_at hl 0 rfl) ?_
              refine lv_iconst (v := 4) hx hb dX4_dare_31 (by decide) ?_
              refine lv_icmp_ge (tgt := 118) hx hb dX4_dare_32 (by decide) (fun z => absurd z (by decide)) (fun _ => ?_)
              refine lv_iload_n hx hb dX4_dare_35 rfl (lv_at hl 0 rfl) ?_
              refine lv_iconst (v := 2) hx hb dX4_dare_36 (by decide) ?_
              refine lv_idiv hx hb dX4_dare_37 (by decide) ?_
              refine W.eqs (st2 := [.int 1]) (congrArg (fun z : Int32 => Value.int z :: _) (show ((2 / 2) : Int32) = 1 by decide)) ?_
              refine lv_istore (lv' := [(4, .int 1), (3, .int 2), (6, .int 0), (5, .int 1), (0, .ref (ad 0)), (1, .int (nI ja)), (2, .int (nI jb))]) hx hb dX4_dare_38 hl (by decide) rfl (fun ls hl => ?_)
              refine lv_iload_n hx hb dX4_dare_40 rfl (lv_at hl 1 rfl) ?_
              refine lv_iconst (v := 2) hx hb dX4_dare_41 (by decide) ?_
              refine lv_irem hx hb dX4_dare_42 (by decide) ?_
              refine W.eqs (st2 := [.int 0]) (congrArg (fun z : Int32 => Value.int z :: _) (show ((2 - 2 / 2 * 2) : Int32) = 0 by decide)) ?_
              refine lv_istore (lv' := [(5, .int 0), (4, .int 1), (3, .int 2), (6, .int 0), (0, .ref (ad 0)), (1, .int (nI ja)), (2, .int (nI jb))]) hx hb dX4_dare_43 hl (by decide) rfl (fun ls hl => ?_)
              refine lv_aload_n hx hb dX4_dare_45 rfl (lv_at hl 4 rfl) ?_
              refine lv_iload_n hx hb dX4_dare_46 rfl (lv_at hl 5 rfl) ?_
              refine lv_iconst (v := 1) hx hb dX4_dare_47 (by decide) ?_
              refine lv_iload hx hb dX4_dare_48 (lv_at hl 1 rfl) ?_
              refine lv_isub hx hb dX4_dare_50 ?_
              refine W.eqs (st2 := [.int 0, .int (nI ja), .ref (ad 0)]) (congrArg (fun z : Int32 => Value.int z :: _) (show ((1 - 1) : Int32) = 0 by decide)) ?_
              refine lv_iload hx hb dX4_dare_51 (lv_at hl 0 rfl) ?_
              refine mm_calli (rest := []) hx hb hml hown hts hK hl.1 hR (m_X4_daresOf l D ca B (st X 0 0 0) Y kp ja 0 0 (by omega)) (cwV 3 hts (lw_V q1573 q1575 qs75 q82 q1576) rfl rfl rfl cd_X4_daresOf ⟨Nat.le_of_ble_eq_true rfl, Nat.le_of_ble_eq_true rfl⟩) rfl rfl (Nat.le_of_ble_eq_true rfl) dX4_dare_53 ⟨Nat.le_refl _, Nat.le_refl _⟩ (fun H locs hR => ?_)
              refine lv_aload_n hx hb dX4_dare_56 rfl (lv_at hl 4 rfl) ?_
              refine lv_iload_n hx hb dX4_dare_57 rfl (lv_at hl 5 rfl) ?_
              refine lv_iload hx hb dX4_dare_58 (lv_at hl 1 rfl) ?_
              refine lv_iload hx hb dX4_dare_60 (lv_at hl 0 rfl) ?_
              refine mm_calli (rest := [.int (getsF B ja 0 0)]) hx hb hml hown hts hK hl.1 hR (m_X4_daresOf l D ca B (st X 0 0 0) Y kp ja 1 0 (by omega)) (cwV 3 hts (lw_V q1573 q1575 qs75 q82 q1576) rfl rfl rfl cd_X4_daresOf ⟨Nat.le_of_ble_eq_true rfl, Nat.le_of_ble_eq_true rfl⟩) rfl rfl (Nat.le_of_ble_eq_true rfl) dX4_dare_62 ⟨Nat.le_refl _, Nat.le_refl _⟩ (fun H locs hR => ?_)
              refine lj_gt (tgt := 95) hx hb dX4_dare_65 (by decide) (fun c_45 => ?_) (fun c_45 => ?_)
              · skip
                refine lv_iconst (v := 0) hx hb dX4_dare_95 (by decide) ?_
                refine lv_istore (lv' := [(6, .int 0), (5, .int 0), (4, .int 1), (3, .int 2), (0, .ref (ad 0)), (1, .int (nI ja)), (2, .int (nI jb))]) hx hb dX4_dare_96 hl (by decide) rfl (fun ls hl => ?_)
                refine lv_iload hx hb dX4_dare_98 (lv_at hl 0 rfl) ?_
                refine lv_if_eq (tgt := 112) hx hb dX4_dare_100 (by decide) (fun _ => ?_) (fun z => absurd z (by decide))
                refine lv_iinc (v := 3) (lv' := [(3, .int 3), (6, .int 0), (5, .int 0), (4, .int 1), (0, .ref (ad 0)), (1, .int (nI ja)), (2, .int (nI jb))]) hx hb dX4_dare_112 hl (k := 3) rfl (by decide) (by decide) rfl (fun ls hl => ?_)
                refine lv_goto (tgt := 30) hx hb dX4_dare_115 (by decide) ?_
                refine lv_iload_n hx hb dX4_dare_30 rfl (lv_at hl 0 rfl) ?_
                refine lv_iconst (v := 4) hx hb dX4_dare_31 (by decide) ?_
                refine lv_icmp_ge (tgt := 118) hx hb dX4_dare_32 (by decide) (fun z => absurd z (by decide)) (fun _ => ?_)
                refine lv_iload_n hx hb dX4_dare_35 rfl (lv_at hl 0 rfl) ?_
                refine lv_iconst (v := 2) hx hb dX4_dare_36 (by decide) ?_
                refine lv_idiv hx hb dX4_dare_37 (by decide) ?_
                refine W.eqs (st2 := [.int 1]) (congrArg (fun z : Int32 => Value.int z :: _) (show ((3 / 2) : Int32) = 1 by decide)) ?_
                refine lv_istore (lv' := [(4, .int 1), (3, .int 3), (6, .int 0), (5, .int 0), (0, .ref (ad 0)), (1, .int (nI ja)), (2, .int (nI jb))]) hx hb dX4_dare_38 hl (by decide) rfl (fun ls hl => ?_)
                refine lv_iload_n hx hb dX4_dare_40 rfl (lv_at hl 1 rfl) ?_
                refine lv_iconst (v := 2) hx hb dX4_dare_41 (by decide) ?_
                refine lv_irem hx hb dX4_dare_42 (by decide) ?_
                refine W.eqs (st2 := [.int 1]) (congrArg (fun z : Int32 => Value.int z :: _) (show ((3 - 3 / 2 * 2) : Int32) = 1 by decide)) ?_
                refine lv_istore (lv' := [(5, .int 1), (4, .int 1), (3, .int 3), (6, .int 0), (0, .ref (ad 0)), (1, .int (nI ja)), (2, .int (nI jb))]) hx hb dX4_dare_43 hl (by decide) rfl (fun ls hl => ?_)
                refine lv_aload_n hx hb dX4_dare_45 rfl (lv_at hl 4 rfl) ?_
                refine lv_iload_n hx hb dX4_dare_46 rfl (lv_at hl 5 rfl) ?_
                refine lv_iconst (v := 1) hx hb dX4_dare_47 (by decide) ?_
                refine lv_iload hx hb dX4_dare_48 (lv_at hl 1 rfl) ?_
                refine lv_isub hx hb dX4_dare_50 ?_
                refine W.eqs (st2 := [.int 0, .int (nI ja), .ref (ad 0)]) (congrArg (fun z : Int32 => Value.int z :: _) (show ((1 - 1) : Int32) = 0 by decide)) ?_
                refine lv_iload hx hb dX4_dare_51 (lv_at hl 0 rfl) ?_
                refine mm_calli (rest := []) hx hb hml hown hts hK hl.1 hR (m_X4_daresOf l D ca B (st X 0 0 0) Y kp ja 0 1 (by omega)) (cwV 3 hts (lw_V q1573 q1575 qs75 q82 q1576) rfl rfl rfl cd_X4_daresOf ⟨Nat.le_of_ble_eq_true rfl, Nat.le_of_ble_eq_true rfl⟩) rfl rfl (Nat.le_of_ble_eq_true rfl) dX4_dare_53 ⟨Nat.le_refl _, Nat.le_refl _⟩ (fun H locs hR => ?_)
                refine lv_aload_n hx hb dX4_dare_56 rfl (lv_at hl 4 rfl) ?_
                refine lv_iload_n hx hb dX4_dare_57 rfl (lv_at hl 5 rfl) ?_
                refine lv_iload hx hb dX4_dare_58 (lv_at hl 1 rfl) ?_
                refine lv_iload hx hb dX4_dare_60 (lv_at hl 0 rfl) ?_
                refine mm_calli (rest := [.int (getsF B ja 0 1)]) hx hb hml hown hts hK hl.1 hR (m_X4_daresOf l D ca B (st X 0 0 0) Y kp ja 1 1 (by omega)) (cwV 3 hts (lw_V q1573 q1575 qs75 q82 q1576) rfl rfl rfl cd_X4_daresOf ⟨Nat.le_of_ble_eq_true rfl, Nat.le_of_ble_eq_true rfl⟩) rfl rfl (Nat.le_of_ble_eq_true rfl) dX4_dare_62 ⟨Nat.le_refl _, Nat.le_refl _⟩ (fun H locs hR => ?_)
                refine lj_gt (tgt := 95) hx hb dX4_dare_65 (by decide) (fun c_47 => ?_) (fun c_47 => ?_)
                · skip
                  refine lv_iconst (v := 0) hx hb dX4_dare_95 (by decide) ?_
                  refine lv_istore (lv' := [(6, .int 0), (5, .int 1), (4, .int 1), (3, .int 3), (0, .ref (ad 0)), (1, .int (nI ja)), (2, .int (nI jb))]) hx hb dX4_dare_96 hl (by decide) rfl (fun ls hl => ?_)
                  refine lv_iload hx hb dX4_dare_98 (lv_at hl 0 rfl) ?_
                  refine lv_if_eq (tgt := 112) hx hb dX4_dare_100 (by decide) (fun _ => ?_) (fun z => absurd z (by decide))
                  refine lv_iinc (v := 4) (lv' := [(3, .int 4), (6, .int 0), (5, .int 1), (4, .int 1), (0, .ref (ad 0)), (1, .int (nI ja)), (2, .int (nI jb))]) hx hb dX4_dare_112 hl (k := 3) rfl (by decide) (by decide) rfl (fun ls hl => ?_)
                  refine lv_goto (tgt := 30) hx hb dX4_dare_115 (by decide) ?_
                  refine lv_iload_n hx hb dX4_dare_30 rfl (lv_at hl 0 rfl) ?_
                  refine lv_iconst (v := 4) hx hb dX4_dare_31 (by decide) ?_
                  refine lv_icmp_ge (tgt := 118) hx hb dX4_dare_32 (by decide) (fun _ => ?_) (fun z => absurd z (by decide))
                  refine lv_bipush (v := (-4)) hx hb dX4_dare_118 (by decide) ?_
                  exact hQ _ _ _ _ _ (by first | (simp [oDare, twoOk, dareRest, c_1, c_2, c_3, c_4, c_41, c_43, c_45, c_47, nI_clamp (show ja < 2 ^ 31 by omega), nI_clamp (show jb < 2 ^ 31 by omega)]; done) | simp_all [oDare, twoOk, dareRest, nI_clamp (show ja < 2 ^ 31 by omega), nI_clamp (show jb < 2 ^ 31 by omega)]) hR dX4_dare_120
                · skip
                  refine lv_aload_n hx hb dX4_dare_68 rfl (lv_at hl 4 rfl) ?_
                  refine lv_iload_n hx hb dX4_dare_69 rfl (lv_at hl 6 rfl) ?_
                  refine lv_iconst (v := 1) hx hb dX4_dare_70 (by decide) ?_
                  refine lv_iload hx hb dX4_dare_71 (lv_at hl 0 rfl) ?_
                  refine lv_isub hx hb dX4_dare_73 ?_
                  refine W.eqs (st2 := [.int 0, .int (nI jb), .ref (ad 0)]) (congrArg (fun z : Int32 => Value.int z :: _) (show ((1 - 1) : Int32) = 0 by decide)) ?_
                  refine lv_iload hx hb dX4_dare_74 (lv_at hl 1 rfl) ?_
                  refine mm_calli (rest := []) hx hb hml hown hts hK hl.1 hR (m_X4_daresOf l D ca B (st X 0 0 0) Y kp jb 0 1 (by omega)) (cwV 3 hts (lw_V q1573 q1575 qs75 q82 q1576) rfl rfl rfl cd_X4_daresOf ⟨Nat.le_of_ble_eq_true rfl, Nat.le_of_ble_eq_true rfl⟩) rfl rfl (Nat.le_of_ble_eq_true rfl) dX4_dare_76 ⟨Nat.le_refl _, Nat.le_refl _⟩ (fun H locs hR => ?_)
                  refine lv_aload_n hx hb dX4_dare_79 rfl (lv_at hl 4 rfl) ?_
                  refine lv_iload_n hx hb dX4_dare_80 rfl (lv_at hl 6 rfl) ?_
                  refine lv_iload hx hb dX4_dare_81 (lv_at hl 0 rfl) ?_
                  refine lv_iload hx hb dX4_dare_83 (lv_at hl 1 rfl) ?_
                  refine mm_calli (rest := [.int (getsF B jb 0 1)]) hx hb hml hown hts hK hl.1 hR (m_X4_daresOf l D ca B (st X 0 0 0) Y kp jb 1 1 (by omega)) (cwV 3 hts (lw_V q1573 q1575 qs75 q82 q1576) rfl rfl rfl cd_X4_daresOf ⟨Nat.le_of_ble_eq_true rfl, Nat.le_of_ble_eq_true rfl⟩) rfl rfl (Nat.le_of_ble_eq_true rfl) dX4_dare_85 ⟨Nat.le_refl _, Nat.le_refl _⟩ (fun H locs hR => ?_)
                  refine lj_gt (tgt := 95) hx hb dX4_dare_88 (by decide) (fun c_49 => ?_) (fun c_49 => ?_)
                  · skip
                    refine lv_iconst (v := 0) hx hb dX4_dare_95 (by decide) ?_
                    refine lv_istore (lv' := [(6, .int 0), (5, .int 1), (4, .int 1), (3, .int 3), (0, .ref (ad 0)), (1, .int (nI ja)), (2, .int (nI jb))]) hx hb dX4_dare_96 hl (by decide) rfl (fun ls hl => ?_)
                    refine lv_iload hx hb dX4_dare_98 (lv_at hl 0 rfl) ?_
                    refine lv_if_eq (tgt := 112) hx hb dX4_dare_100 (by decide) (fun _ => ?_) (fun z => absurd z (by decide))
                    refine lv_iinc (v := 4) (lv' := [(3, .int 4), (6, .int 0), (5, .int 1), (4, .int 1), (0, .ref (ad 0)), (1, .int (nI ja)), (2, .int (nI jb))]) hx hb dX4_dare_112 hl (k := 3) rfl (by decide) (by decide) rfl (fun ls hl => ?_)
                    refine lv_goto (tgt := 30) hx hb dX4_dare_115 (by decide) ?_
                    refine lv_iload_n hx hb dX4_dare_30 rfl (lv_at hl 0 rfl) ?_
                    refine lv_iconst (v := 4) hx hb dX4_dare_31 (by decide) ?_
                    refine lv_icmp_ge (tgt := 118) hx hb dX4_dare_32 (by decide) (fun _ => ?_) (fun z => absurd z (by decide))
                    refine lv_bipush (v := (-4)) hx hb dX4_dare_118 (by decide) ?_
                    exact hQ _ _ _ _ _ (by first | (simp [oDare, twoOk, dareRest, c_1, c_2, c_3, c_4, c_41, c_43, c_45, c_47, c_49, nI_clamp (show ja < 2 ^ 31 by omega), nI_clamp (show jb < 2 ^ 31 by omega)]; done) | simp_all [oDare, twoOk, dareRest, nI_clamp (show ja < 2 ^ 31 by omega), nI_clamp (show jb < 2 ^ 31 by omega)]) hR dX4_dare_120
                  · skip
                    refine lv_iconst (v := 1) hx hb dX4_dare_91 (by decide) ?_
                    refine lv_goto (tgt := 96) hx hb dX4_dare_92 (by decide) ?_
                    refine lv_istore (lv' := [(6, .int 1), (5, .int 1), (4, .int 1), (3, .int 3), (0, .ref (ad 0)), (1, .int (nI ja)), (2, .int (nI jb))]) hx hb dX4_dare_96 hl (by decide) rfl (fun ls hl => ?_)
                    refine lv_iload hx hb dX4_dare_98 (lv_at hl 0 rfl) ?_
                    refine lv_if_eq (tgt := 112) hx hb dX4_dare_100 (by decide) (fun z => absurd z (by decide)) (fun _ => ?_)
                    refine lv_bipush (v := 10) hx hb dX4_dare_103 (by decide) ?_
                    refine lv_iload hx hb dX4_dare_105 (lv_at hl 2 rfl) ?_
                    refine lv_imul hx hb dX4_dare_107 ?_
                    refine W.eqs (st2 := [.int 10]) (congrArg (fun z : Int32 => Value.int z :: _) (show ((10 * 1) : Int32) = 10 by decide)) ?_
                    refine lv_iload hx hb dX4_dare_108 (lv_at hl 1 rfl) ?_
                    refine lv_iadd hx hb dX4_dare_110 ?_
                    refine W.eqs (st2 := [.int 11]) (congrArg (fun z : Int32 => Value.int z :: _) (show ((10 + 1) : Int32) = 11 by decide)) ?_
                    exact hQ _ _ _ _ _ (by first | (simp [oDare, twoOk, dareRest, c_1, c_2, c_3, c_4, c_41, c_43, c_45, c_47, c_49, nI_clamp (show ja < 2 ^ 31 by omega), nI_clamp (show jb < 2 ^ 31 by omega)]; done) | simp_all [oDare, twoOk, dareRest, nI_clamp (show ja < 2 ^ 31 by omega), nI_clamp (show jb < 2 ^ 31 by omega)]) hR dX4_dare_111
              · skip
                refine lv_aload_n hx hb dX4_dare_68 rfl (lv_at hl 4 rfl) ?_
                refine lv_iload_n hx hb dX4_dare_69 rfl (lv_at hl 6 rfl) ?_
                refine lv_iconst (v := 1) hx hb dX4_dare_70 (by decide) ?_
                refine lv_iload hx hb dX4_dare_71 (lv_at hl 0 rfl) ?_
                refine lv_isub hx hb dX4_dare_73 ?_
                refine W.eqs (st2 := [.int 1, .int (nI jb), .ref (ad 0)]) (congrArg (fun z : Int32 => Value.int z :: _) (show ((1 - 0) : Int32) = 1 by decide)) ?_
                refine lv_iload hx hb dX4_dare_74 (lv_at hl 1 rfl) ?_
                refine mm_calli (rest := []) hx hb hml hown hts hK hl.1 hR (m_X4_daresOf l D ca B (st X 0 0 0) Y kp jb 1 1 (by omega)) (cwV 3 hts (lw_V q1573 q1575 qs75 q82 q1576) rfl rfl rfl cd_X4_daresOf ⟨Nat.le_of_ble_eq_true rfl, Nat.le_of_ble_eq_true rfl⟩) rfl rfl (Nat.le_of_ble_eq_true rfl) dX4_dare_76 ⟨Nat.le_refl _, Nat.le_refl _⟩ (fun H locs hR => ?_)
                refine lv_aload_n hx hb dX4_dare_79 rfl (lv_at hl 4 rfl) ?_
                refine lv_iload_n hx hb dX4_dare_80 rfl (lv_at hl 6 rfl) ?_
                refine lv_iload hx hb dX4_dare_81 (lv_at hl 0 rfl) ?_
                refine lv_iload hx hb dX4_dare_83 (lv_at hl 1 rfl) ?_
                refine mm_calli (rest := [.int (getsF B jb 1 1)]) hx hb hml hown hts hK hl.1 hR (m_X4_daresOf l D ca B (st X 0 0 0) Y kp jb 0 1 (by omega)) (cwV 3 hts (lw_V q1573 q1575 qs75 q82 q1576) rfl rfl rfl cd_X4_daresOf ⟨Nat.le_of_ble_eq_true rfl, Nat.le_of_ble_eq_true rfl⟩) rfl rfl (Nat.le_of_ble_eq_true rfl) dX4_dare_85 ⟨Nat.le_refl _, Nat.le_refl _⟩ (fun H locs hR => ?_)
                refine lj_gt (tgt := 95) hx hb dX4_dare_88 (by decide) (fun c_52 => ?_) (fun c_52 => ?_)
                · skip
                  refine lv_iconst (v := 0) hx hb dX4_dare_95 (by decide) ?_
                  refine lv_istore (lv' := [(6, .int 0), (5, .int 0), (4, .int 1), (3, .int 2), (0, .ref (ad 0)), (1, .int (nI ja)), (2, .int (nI jb))]) hx hb dX4_dare_96 hl (by decide) rfl (fun ls hl => ?_)
                  refine lv_iload hx hb dX4_dare_98 (lv_at hl 0 rfl) ?_
                  refine lv_if_eq (tgt := 112) hx hb dX4_dare_100 (by decide) (fun _ => ?_) (fun z => absurd z (by decide))
                  refine lv_iinc (v := 3) (lv' := [(3, .int 3), (6, .int 0), (5, .int 0), (4, .int 1), (0, .ref (ad 0)), (1, .int (nI ja)), (2, .int (nI jb))]) hx hb dX4_dare_112 hl (k := 3) rfl (by decide) (by decide) rfl (fun ls hl => ?_)
                  refine lv_goto (tgt := 30) hx hb dX4_dare_115 (by decide) ?_
                  refine lv_iload_n hx hb dX4_dare_30 rfl (lv_at hl 0 rfl) ?_
                  refine lv_iconst (v := 4) hx hb dX4_dare_31 (by decide) ?_
                  refine lv_icmp_ge (tgt := 118) hx hb dX4_dare_32 (by decide) (fun z => absurd z (by decide)) (fun _ => ?_)
                  refine lv_iload_n hx hb dX4_dare_35 rfl (lv_at hl 0 rfl) ?_
                  refine lv_iconst (v := 2) hx hb dX4_dare_36 (by decide) ?_
                  refine lv_idiv hx hb dX4_dare_37 (by decide) ?_
                  refine W.eqs (st2 := [.int 1]) (congrArg (fun z : Int32 => Value.int z :: _) (show ((3 / 2) : Int32) = 1 by decide)) ?_
                  refine lv_istore (lv' := [(4, .int 1), (3, .int 3), (6, .int 0), (5, .int 0), (0, .ref (ad 0)), (1, .int (nI ja)), (2, .int (nI jb))]) hx hb dX4_dare_38 hl (by decide) rfl (fun ls hl => ?_)
                  refine lv_iload_n hx hb dX4_dare_40 rfl (lv_at hl 1 rfl) ?_
                  refine lv_iconst (v := 2) hx hb dX4_dare_41 (by decide) ?_
                  refine lv_irem hx hb dX4_dare_42 (by decide) ?_
                  refine W.eqs (st2 := [.int 1]) (congrArg (fun z : Int32 => Value.int z :: _) (show ((3 - 3 / 2 * 2) : Int32) = 1 by decide)) ?_
                  refine lv_istore (lv' := [(5, .int 1), (4, .int 1), (3, .int 3), (6, .int 0), (0, .ref (ad 0)), (1, .int (nI ja)), (2, .int (nI jb))]) hx hb dX4_dare_43 hl (by decide) rfl (fun ls hl => ?_)
                  refine lv_aload_n hx hb dX4_dare_45 rfl (lv_at hl 4 rfl) ?_
                  refine lv_iload_n hx hb dX4_dare_46 rfl (lv_at hl 5 rfl) ?_
                  refine lv_iconst (v := 1) hx hb dX4_dare_47 (by decide) ?_
                  refine lv_iload hx hb dX4_dare_48 (lv_at hl 1 rfl) ?_
                  refine lv_isub hx hb dX4_dare_50 ?_
                  refine W.eqs (st2 := [.int 0, .int (nI ja), .ref (ad 0)]) (congrArg (fun z : Int32 => Value.int z :: _) (show ((1 - 1) : Int32) = 0 by decide)) ?_
                  refine lv_iload hx hb dX4_dare_51 (lv_at hl 0 rfl) ?_
                  refine mm_calli (rest := []) hx hb hml hown hts hK hl.1 hR (m_X4_daresOf l D ca B (st X 0 0 0) Y kp ja 0 1 (by omega)) (cwV 3 hts (lw_V q1573 q1575 qs75 q82 q1576) rfl rfl rfl cd_X4_daresOf ⟨Nat.le_of_ble_eq_true rfl, Nat.le_of_ble_eq_true rfl⟩) rfl rfl (Nat.le_of_ble_eq_true rfl) dX4_dare_53 ⟨Nat.le_refl _, Nat.le_refl _⟩ (fun H locs hR => ?_)
                  refine lv_aload_n hx hb dX4_dare_56 rfl (lv_at hl 4 rfl) ?_
                  refine lv_iload_n hx hb dX4_dare_57 rfl (lv_at hl 5 rfl) ?_
                  refine lv_iload hx hb dX4_dare_58 (lv_at hl 1 rfl) ?_
                  refine lv_iload hx hb dX4_dare_60 (lv_at hl 0 rfl) ?_
                  refine mm_calli (rest := [.int (getsF B ja 0 1)]) hx hb hml hown hts hK hl.1 hR (m_X4_daresOf l D ca B (st X 0 0 0) Y kp ja 1 1 (by omega)) (cwV 3 hts (lw_V q1573 q1575 qs75 q82 q1576) rfl rfl rfl cd_X4_daresOf ⟨Nat.le_of_ble_eq_true rfl, Nat.le_of_ble_eq_true rfl⟩) rfl rfl (Nat.le_of_ble_eq_true rfl) dX4_dare_62 ⟨Nat.le_refl _, Nat.le_refl _⟩ (fun H locs hR => ?_)
                  refine lj_gt (tgt := 95) hx hb dX4_dare_65 (by decide) (fun c_54 => ?_) (fun c_54 => ?_)
                  · skip
                    refine lv_iconst (v := 0) hx hb dX4_dare_95 (by decide) ?_
                    refine lv_istore (lv' := [(6, .int 0), (5, .int 1), (4, .int 1), (3, .int 3), (0, .ref (ad 0)), (1, .int (nI ja)), (2, .int (nI jb))]) hx hb dX4_dare_96 hl (by decide) rfl (fun ls hl => ?_)
                    refine lv_iload hx hb dX4_dare_98 (lv_at hl 0 rfl) ?_
                    refine lv_if_eq (tgt := 112) hx hb dX4_dare_100 (by decide) (fun _ => ?_) (fun z => absurd z (by decide))
                    refine lv_iinc (v := 4) (lv' := [(3, .int 4), (6, .int 0), (5, .int 1), (4, .int 1), (0, .ref (ad 0)), (1, .int (nI ja)), (2, .int (nI jb))]) hx hb dX4_dare_112 hl (k := 3) rfl (by decide) (by decide) rfl (fun ls hl => ?_)
                    refine lv_goto (tgt := 30) hx hb dX4_dare_115 (by decide) ?_
                    refine lv_iload_n hx hb dX4_dare_30 rfl (lv_at hl 0 rfl) ?_
                    refine lv_iconst (v := 4) hx hb dX4_dare_31 (by decide) ?_
                    refine lv_icmp_ge (tgt := 118) hx hb dX4_dare_32 (by decide) (fun _ => ?_) (fun z => absurd z (by decide))
                    refine lv_bipush (v := (-4)) hx hb dX4_dare_118 (by decide) ?_
                    exact hQ _ _ _ _ _ (by first | (simp [oDare, twoOk, dareRest, c_1, c_2, c_3, c_4, c_41, c_43, c_45, c_52, c_54, nI_clamp (show ja < 2 ^ 31 by omega), nI_clamp (show jb < 2 ^ 31 by omega)]; done) | simp_all [oDare, twoOk, dareRest, nI_clamp (show ja < 2 ^ 31 by omega), nI_clamp (show jb < 2 ^ 31 by omega)]) hR dX4_dare_120
                  · skip
                    refine lv_aload_n hx hb dX4_dare_68 rfl (lv_at hl 4 rfl) ?_
                    refine lv_iload_n hx hb dX4_dare_69 rfl (lv_at hl 6 rfl) ?_
                    refine lv_iconst (v := 1) hx hb dX4_dare_70 (by decide) ?_
                    refine lv_iload hx hb dX4_dare_71 (lv_at hl 0 rfl) ?_
                    refine lv_isub hx hb dX4_dare_73 ?_
                    refine W.eqs (st2 := [.int 0, .int (nI jb), .ref (ad 0)]) (congrArg (fun z : Int32 => Value.int z :: _) (show ((1 - 1) : Int32) = 0 by decide)) ?_
                    refine lv_iload hx hb dX4_dare_74 (lv_at hl 1 rfl) ?_
                    refine mm_calli (rest := []) hx hb hml hown hts hK hl.1 hR (m_X4_daresOf l D ca B (st X 0 0 0) Y kp jb 0 1 (by omega)) (cwV 3 hts (lw_V q1573 q1575 qs75 q82 q1576) rfl rfl rfl cd_X4_daresOf ⟨Nat.le_of_ble_eq_true rfl, Nat.le_of_ble_eq_true rfl⟩) rfl rfl (Nat.le_of_ble_eq_true rfl) dX4_dare_76 ⟨Nat.le_refl _, Nat.le_refl _⟩ (fun H locs hR => ?_)
                    refine lv_aload_n hx hb dX4_dare_79 rfl (lv_at hl 4 rfl) ?_
                    refine lv_iload_n hx hb dX4_dare_80 rfl (lv_at hl 6 rfl) ?_
                    refine lv_iload hx hb dX4_dare_81 (lv_at hl 0 rfl) ?_
                    refine lv_iload hx hb dX4_dare_83 (lv_at hl 1 rfl) ?_
                    refine mm_calli (rest := [.int (getsF B jb 0 1)]) hx hb hml hown hts hK hl.1 hR (m_X4_daresOf l D ca B (st X 0 0 0) Y kp jb 1 1 (by omega)) (cwV 3 hts (lw_V q1573 q1575 qs75 q82 q1576) rfl rfl rfl cd_X4_daresOf ⟨Nat.le_of_ble_eq_true rfl, Nat.le_of_ble_eq_true rfl⟩) rfl rfl (Nat.le_of_ble_eq_true rfl) dX4_dare_85 ⟨Nat.le_refl _, Nat.le_refl _⟩ (fun H locs hR => ?_)
                    refine lj_gt (tgt := 95) hx hb dX4_dare_88 (by decide) (fun c_56 => ?_) (fun c_56 => ?_)
                    · skip
                      refine lv_iconst (v := 0) hx hb dX4_dare_95 (by decide) ?_
                      refine lv_istore (lv' := [(6, .int 0), (5, .int 1), (4, .int 1), (3, .int 3), (0, .ref (ad 0)), (1, .int (nI ja)), (2, .int (nI jb))]) hx hb dX4_dare_96 hl (by decide) rfl (fun ls hl => ?_)
                      refine lv_iload hx hb dX4_dare_98 (lv_at hl 0 rfl) ?_
                      refine lv_if_eq (tgt := 112) hx hb dX4_dare_100 (by decide) (fun _ => ?_) (fun z => absurd z (by decide))
                      refine lv_iinc (v := 4) (lv' := [(3, .int 4), (6, .int 0), (5, .int 1), (4, .int 1), (0, .ref (ad 0)), (1, .int (nI ja)), (2, .int (nI jb))]) hx hb dX4_dare_112 hl (k := 3) rfl (by decide) (by decide) rfl (fun ls hl => ?_)
                      refine lv_goto (tgt := 30) hx hb dX4_dare_115 (by decide) ?_
                      refine lv_iload_n hx hb dX4_dare_30 rfl (lv_at hl 0 rfl) ?_
                      refine lv_iconst (v := 4) hx hb dX4_dare_31 (by decide) ?_
                      refine lv_icmp_ge (tgt := 118) hx hb dX4_dare_32 (by decide) (fun _ => ?_) (fun z => absurd z (by decide))
                      refine lv_bipush (v := (-4)) hx hb dX4_dare_118 (by decide) ?_
                      exact hQ _ _ _ _ _ (by first | (simp [oDare, twoOk, dareRest, c_1, c_2, c_3, c_4, c_41, c_43, c_45, c_52, c_54, c_56, nI_clamp (show ja < 2 ^ 31 by omega), nI_clamp (show jb < 2 ^ 31 by omega)]; done) | simp_all [oDare, twoOk, dareRest, nI_clamp (show ja < 2 ^ 31 by omega), nI_clamp (show jb < 2 ^ 31 by omega)]) hR dX4_dare_120
                    · skip
                      refine lv_iconst (v := 1) hx hb dX4_dare_91 (by decide) ?_
                      refine lv_goto (tgt := 96) hx hb dX4_dare_92 (by decide) ?_
                      refine lv_istore (lv' := [(6, .int 1), (5, .int 1), (4, .int 1), (3, .int 3), (0, .ref (ad 0)), (1, .int (nI ja)), (2, .int (nI jb))]) hx hb dX4_dare_96 hl (by decide) rfl (fun ls hl => ?_)
                      refine lv_iload hx hb dX4_dare_98 (lv_at hl 0 rfl) ?_
                      refine lv_if_eq (tgt := 112) hx hb dX4_dare_100 (by decide) (fun z => absurd z (by decide)) (fun _ => ?_)
                      refine lv_bipush (v := 10) hx hb dX4_dare_103 (by decide) ?_
                      refine lv_iload hx hb dX4_dare_105 (lv_at hl 2 rfl) ?_
                      refine lv_imul hx hb dX4_dare_107 ?_
                      refine W.eqs (st2 := [.int 10]) (congrArg (fun z : Int32 => Value.int z :: _) (show ((10 * 1) : Int32) = 10 by decide)) ?_
                      refine lv_iload hx hb dX4_dare_108 (lv_at hl 1 rfl) ?_
                      refine lv_iadd hx hb dX4_dare_110 ?_
                      refine W.eqs (st2 := [.int 11]) (congrArg (fun z : Int32 => Value.int z :: _) (show ((10 + 1) : Int32) = 11 by decide)) ?_
                      exact hQ _ _ _ _ _ (by first | (simp [oDare, twoOk, dareRest, c_1, c_2, c_3, c_4, c_41, c_43, c_45, c_52, c_54, c_56, nI_clamp (show ja < 2 ^ 31 by omega), nI_clamp (show jb < 2 ^ 31 by omega)]; done) | simp_all [oDare, twoOk, dareRest, nI_clamp (show ja < 2 ^ 31 by omega), nI_clamp (show jb < 2 ^ 31 by omega)]) hR dX4_dare_111
                · skip
                  refine lv_iconst (v := 1) hx hb dX4_dare_91 (by decide) ?_
                  refine lv_goto (tgt := 96) hx hb dX4_dare_92 (by decide) ?_
                  refine lv_istore (lv' := [(6, .int 1), (5, .int 0), (4, .int 1), (3, .int 2), (0, .ref (ad 0)), (1, .int (nI ja)), (2, .int (nI jb))]) hx hb dX4_dare_96 hl (by decide) rfl (fun ls hl => ?_)
                  refine lv_iload hx hb dX4_dare_98 (lv_at hl 0 rfl) ?_
                  refine lv_if_eq (tgt := 112) hx hb dX4_dare_100 (by decide) (fun z => absurd z (by decide)) (fun _ => ?_)
                  refine lv_bipush (v := 10) hx hb dX4_dare_103 (by decide) ?_
                  refine lv_iload hx hb dX4_dare_105 (lv_at hl 2 rfl) ?_
                  refine lv_imul hx hb dX4_dare_107 ?_
                  refine W.eqs (st2 := [.int 10]) (congrArg (fun z : Int32 => Value.int z :: _) (show ((10 * 1) : Int32) = 10 by decide)) ?_
                  refine lv_iload hx hb dX4_dare_108 (lv_at hl 1 rfl) ?_
                  refine lv_iadd hx hb dX4_dare_110 ?_
                  refine W.eqs (st2 := [.int 10]) (congrArg (fun z : Int32 => Value.int z :: _) (show ((10 + 0) : Int32) = 10 by decide)) ?_
                  exact hQ _ _ _ _ _ (by first | (simp [oDare, twoOk, dareRest, c_1, c_2, c_3, c_4, c_41, c_43, c_45, c_52, nI_clamp (show ja < 2 ^ 31 by omega), nI_clamp (show jb < 2 ^ 31 by omega)]; done) | simp_all [oDare, twoOk, dareRest, nI_clamp (show ja < 2 ^ 31 by omega), nI_clamp (show jb < 2 ^ 31 by omega)]) hR dX4_dare_111
            · skip
              refine lv_aload_n hx hb dX4_dare_68 rfl (lv_at hl 4 rfl) ?_
              refine lv_iload_n hx hb dX4_dare_69 rfl (lv_at hl 6 rfl) ?_
              refine lv_iconst (v := 1) hx hb dX4_dare_70 (by decide) ?_
              refine lv_iload hx hb dX4_dare_71 (lv_at hl 0 rfl) ?_
              refine lv_isub hx hb dX4_dare_73 ?_
              refine W.eqs (st2 := [.int 0, .int (nI jb), .ref (ad 0)]) (congrArg (fun z : Int32 => Value.int z :: _) (show ((1 - 1) : Int32) = 0 by decide)) ?_
              refine lv_iload hx hb dX4_dare_74 (lv_at hl 1 rfl) ?_
              refine mm_calli (rest := []) hx hb hml hown hts hK hl.1 hR (m_X4_daresOf l D ca B (st X 0 0 0) Y kp jb 0 0 (by omega)) (cwV 3 hts (lw_V q1573 q1575 qs75 q82 q1576) rfl rfl rfl cd_X4_daresOf ⟨Nat.le_of_ble_eq_true rfl, Nat.le_of_ble_eq_true rfl⟩) rfl rfl (Nat.le_of_ble_eq_true rfl) dX4_dare_76 ⟨Nat.le_refl _, Nat.le_refl _⟩ (fun H locs hR => ?_)
              refine lv_aload_n hx hb dX4_dare_79 rfl (lv_at hl 4 rfl) ?_
              refine lv_iload_n hx hb dX4_dare_80 rfl (lv_at hl 6 rfl) ?_
              refine lv_iload hx hb dX4_dare_81 (lv_at hl 0 rfl) ?_
              refine lv_iload hx hb dX4_dare_83 (lv_at hl 1 rfl) ?_
              refine mm_calli (rest := [.int (getsF B jb 0 0)]) hx hb hml hown hts hK hl.1 hR (m_X4_daresOf l D ca B (st X 0 0 0) Y kp jb 1 0 (by omega)) (cwV 3 hts (lw_V q1573 q1575 qs75 q82 q1576) rfl rfl rfl cd_X4_daresOf ⟨Nat.le_of_ble_eq_true rfl, Nat.le_of_ble_eq_true rfl⟩) rfl rfl (Nat.le_of_ble_eq_true rfl) dX4_dare_85 ⟨Nat.le_refl _, Nat.le_refl _⟩ (fun H locs hR => ?_)
              refine lj_gt (tgt := 95) hx hb dX4_dare_88 (by decide) (fun c_60 => ?_) (fun c_60 => ?_)
              · skip
                refine lv_iconst (v := 0) hx hb dX4_dare_95 (by decide) ?_
                refine lv_istore (lv' := [(6, .int 0), (5, .int 1), (4, .int 0), (3, .int 1), (0, .ref (ad 0)), (1, .int (nI ja)), (2, .int (nI jb))]) hx hb dX4_dare_96 hl (by decide) rfl (fun ls hl => ?_)
                refine lv_iload hx hb dX4_dare_98 (lv_at hl 0 rfl) ?_
                refine lv_if_eq (tgt := 112) hx hb dX4_dare_100 (by decide) (fun _ => ?_) (fun z => absurd z (by decide))
                refine lv_iinc (v := 2) (lv' := [(3, .int 2), (6, .int 0), (5, .int 1), (4, .int 0), (0, .ref (ad 0)), (1, .int (nI ja)), (2, .int (nI jb))]) hx hb dX4_dare_112 hl (k := 3) rfl (by decide) (by decide) rfl (fun ls hl => ?_)
                refine lv_goto (tgt := 30) hx hb dX4_dare_115 (by decide) ?_
                refine lv_iload_n hx hb dX4_dare_30 rfl (lv_at hl 0 rfl) ?_
                refine lv_iconst (v := 4) hx hb dX4_dare_31 (by decide) ?_
                refine lv_icmp_ge (tgt := 118) hx hb dX4_dare_32 (by decide) (fun z => absurd z (by decide)) (fun _ => ?_)
                refine lv_iload_n hx hb dX4_dare_35 rfl (lv_at hl 0 rfl) ?_
                refine lv_iconst (v := 2) hx hb dX4_dare_36 (by decide) ?_
                refine lv_idiv hx hb dX4_dare_37 (by decide) ?_
                refine W.eqs (st2 := [.int 1]) (congrArg (fun z : Int32 => Value.int z :: _) (show ((2 / 2) : Int32) = 1 by decide)) ?_
                refine lv_istore (lv' := [(4, .int 1), (3, .int 2), (6, .int 0), (5, .int 1), (0, .ref (ad 0)), (1, .int (nI ja)), (2, .int (nI jb))]) hx hb dX4_dare_38 hl (by decide) rfl (fun ls hl => ?_)
                refine lv_iload_n hx hb dX4_dare_40 rfl (lv_at hl 1 rfl) ?_
                refine lv_iconst (v := 2) hx hb dX4_dare_41 (by decide) ?_
                refine lv_irem hx hb dX4_dare_42 (by decide) ?_
                refine W.eqs (st2 := [.int 0]) (congrArg (fun z : Int32 => Value.int z :: _) (show ((2 - 2 / 2 * 2) : Int32) = 0 by decide)) ?_
                refine lv_istore (lv' := [(5, .int 0), (4, .int 1), (3, .int 2), (6, .int 0), (0, .ref (ad 0)), (1, .int (nI ja)), (2, .int (nI jb))]) hx hb dX4_dare_43 hl (by decide) rfl (fun ls hl => ?_)
                refine lv_aload_n hx hb dX4_dare_45 rfl (lv_at hl 4 rfl) ?_
                refine lv_iload_n hx hb dX4_dare_46 rfl (lv_at hl 5 rfl) ?_
                refine lv_iconst (v := 1) hx hb dX4_dare_47 (by decide) ?_
                refine lv_iload hx hb dX4_dare_48 (lv_at hl 1 rfl) ?_
                refine lv_isub hx hb dX4_dare_50 ?_
                refine W.eqs (st2 := [.int 0, .int (nI ja), .ref (ad 0)]) (congrArg (fun z : Int32 => Value.int z :: _) (show ((1 - 1) : Int32) = 0 by decide)) ?_
                refine lv_iload hx hb dX4_dare_51 (lv_at hl 0 rfl) ?_
                refine mm_calli (rest := []) hx hb hml hown hts hK hl.1 hR (m_X4_daresOf l D ca B (st X 0 0 0) Y kp ja 0 0 (by omega)) (cwV 3 hts (lw_V q1573 q1575 qs75 q82 q1576) rfl rfl rfl cd_X4_daresOf ⟨Nat.le_of_ble_eq_true rfl, Nat.le_of_ble_eq_true rfl⟩) rfl rfl (Nat.le_of_ble_eq_true rfl) dX4_dare_53 ⟨Nat.le_refl _, Nat.le_refl _⟩ (fun H locs hR => ?_)
                refine lv_aload_n hx hb dX4_dare_56 rfl (lv_at hl 4 rfl) ?_
                refine lv_iload_n hx hb dX4_dare_57 rfl (lv_at hl 5 rfl) ?_
                refine lv_iload hx hb dX4_dare_58 (lv_at hl 1 rfl) ?_
                refine lv_iload hx hb dX4_dare_60 (lv_at hl 0 rfl) ?_
                refine mm_calli (rest := [.int (getsF B ja 0 0)]) hx hb hml hown hts hK hl.1 hR (m_X4_daresOf l D ca B (st X 0 0 0) Y kp ja 1 0 (by omega)) (cwV 3 hts (lw_V q1573 q1575 qs75 q82 q1576) rfl rfl rfl cd_X4_daresOf ⟨Nat.le_of_ble_eq_true rfl, Nat.le_of_ble_eq_true rfl⟩) rfl rfl (Nat.le_of_ble_eq_true rfl) dX4_dare_62 ⟨Nat.le_refl _, Nat.le_refl _⟩ (fun H locs hR => ?_)
                refine lj_gt (tgt := 95) hx hb dX4_dare_65 (by decide) (fun c_62 => ?_) (fun c_62 => ?_)
                · skip
                  refine lv_iconst (v := 0) hx hb dX4_dare_95 (by decide) ?_
                  refine lv_istore (lv' := [(6, .int 0), (5, .int 0), (4, .int 1), (3, .int 2), (0, .ref (ad 0)), (1, .int (nI ja)), (2, .int (nI jb))]) hx hb dX4_dare_96 hl (by decide) rfl (fun ls hl => ?_)
                  refine lv_iload hx hb dX4_dare_98 (lv_at hl 0 rfl) ?_
                  refine lv_if_eq (tgt := 112) hx hb dX4_dare_100 (by decide) (fun _ => ?_) (fun z => absurd z (by decide))
                  refine lv_iinc (v := 3) (lv' := [(3, .int 3), (6, .int 0), (5, .int 0), (4, .int 1), (0, .ref (ad 0)), (1, .int (nI ja)), (2, .int (nI jb))]) hx hb dX4_dare_112 hl (k := 3) rfl (by decide) (by decide) rfl (fun ls hl => ?_)
                  refine lv_goto (tgt := 30) hx hb dX4_dare_115 (by decide) ?_
                  refine lv_iload_n hx hb dX4_dare_30 rfl (lv_at hl 0 rfl) ?_
                  refine lv_iconst (v := 4) hx hb dX4_dare_31 (by decide) ?_
                  refine lv_icmp_ge (tgt := 118) hx hb dX4_dare_32 (by decide) (fun z => absurd z (by decide)) (fun _ => ?_)
                  refine lv_iload_n hx hb dX4_dare_35 rfl (lv_at hl 0 rfl) ?_
                  refine lv_iconst (v := 2) hx hb dX4_dare_36 (by decide) ?_
                  refine lv_idiv hx hb dX4_dare_37 (by decide) ?_
                  refine W.eqs (st2 := [.int 1]) (congrArg (fun z : Int32 => Value.int z :: _) (show ((3 / 2) : Int32) = 1 by decide)) ?_
                  refine lv_istore (lv' := [(4, .int 1), (3, .int 3), (6, .int 0), (5, .int 0), (0, .ref (ad 0)), (1, .int (nI ja)), (2, .int (nI jb))]) hx hb dX4_dare_38 hl (by decide) rfl (fun ls hl => ?_)
                  refine lv_iload_n hx hb dX4_dare_40 rfl (lv_at hl 1 rfl) ?_
                  refine lv_iconst (v := 2) hx hb dX4_dare_41 (by decide) ?_
                  refine lv_irem hx hb dX4_dare_42 (by decide) ?_
                  refine W.eqs (st2 := [.int 1]) (congrArg (fun z : Int32 => Value.int z :: _) (show ((3 - 3 / 2 * 2) : Int32) = 1 by decide)) ?_
                  refine lv_istore (lv' := [(5, .int 1), (4, .int 1), (3, .int 3), (6, .int 0), (0, .ref (ad 0)), (1, .int (nI ja)), (2, .int (nI jb))]) hx hb dX4_dare_43 hl (by decide) rfl (fun ls hl => ?_)
                  refine lv_aload_n hx hb dX4_dare_45 rfl (lv_at hl 4 rfl) ?_
                  refine lv_iload_n hx hb dX4_dare_46 rfl (lv_at hl 5 rfl) ?_
                  refine lv_iconst (v := 1) hx hb dX4_dare_47 (by decide) ?_
                  refine lv_iload hx hb dX4_dare_48 (lv_at hl 1 rfl) ?_
                  refine lv_isub hx hb dX4_dare_50 ?_
                  refine W.eqs (st2 := [.int 0, .int (nI ja), .ref (ad 0)]) (congrArg (fun z : Int32 => Value.int z :: _) (show ((1 - 1) : Int32) = 0 by decide)) ?_
                  refine lv_iload hx hb dX4_dare_51 (lv_at hl 0 rfl) ?_
                  refine mm_calli (rest := []) hx hb hml hown hts hK hl.1 hR (m_X4_daresOf l D ca B (st X 0 0 0) Y kp ja 0 1 (by omega)) (cwV 3 hts (lw_V q1573 q1575 qs75 q82 q1576) rfl rfl rfl cd_X4_daresOf ⟨Nat.le_of_ble_eq_true rfl, Nat.le_of_ble_eq_true rfl⟩) rfl rfl (Nat.le_of_ble_eq_true rfl) dX4_dare_53 ⟨Nat.le_refl _, Nat.le_refl _⟩ (fun H locs hR => ?_)
                  refine lv_aload_n hx hb dX4_dare_56 rfl (lv_at hl 4 rfl) ?_
                  refine lv_iload_n hx hb dX4_dare_57 rfl (lv_at hl 5 rfl) ?_
                  refine lv_iload hx hb dX4_dare_58 (lv_at hl 1 rfl) ?_
                  refine lv_iload hx hb dX4_dare_60 (lv_at hl 0 rfl) ?_
                  refine mm_calli (rest := [.int (getsF B ja 0 1)]) hx hb hml hown hts hK hl.1 hR (m_X4_daresOf l D ca B (st X 0 0 0) Y kp ja 1 1 (by omega)) (cwV 3 hts (lw_V q1573 q1575 qs75 q82 q1576) rfl rfl rfl cd_X4_daresOf ⟨Nat.le_of_ble_eq_true rfl, Nat.le_of_ble_eq_true rfl⟩) rfl rfl (Nat.le_of_ble_eq_true rfl) dX4_dare_62 ⟨Nat.le_refl _, Nat.le_refl _⟩ (fun H locs hR => ?_)
                  refine lj_gt (tgt := 95) hx hb dX4_dare_65 (by decide) (fun c_64 => ?_) (fun c_64 => ?_)
                  · skip
                    refine lv_iconst (v := 0) hx hb dX4_dare_95 (by decide) ?_
                    refine lv_istore (lv' := [(6, .int 0), (5, .int 1), (4, .int 1), (3, .int 3), (0, .ref (ad 0)), (1, .int (nI ja)), (2, .int (nI jb))]) hx hb dX4_dare_96 hl (by decide) rfl (fun ls hl => ?_)
                    refine lv_iload hx hb dX4_dare_98 (lv_at hl 0 rfl) ?_
                    refine lv_if_eq (tgt := 112) hx hb dX4_dare_100 (by decide) (fun _ => ?_) (fun z => absurd z (by decide))
                    refine lv_iinc (v := 4) (lv' := [(3, .int 4), (6, .int 0), (5, .int 1), (4, .int 1), (0, .ref (ad 0)), (1, .int (nI ja)), (2, .int (nI jb))]) hx hb dX4_dare_112 hl (k := 3) rfl (by decide) (by decide) rfl (fun ls hl => ?_)
                    refine lv_goto (tgt := 30) hx hb dX4_dare_115 (by decide) ?_
                    refine lv_iload_n hx hb dX4_dare_30 rfl (lv_at hl 0 rfl) ?_
                    refine lv_iconst (v := 4) hx hb dX4_dare_31 (by decide) ?_
                    refine lv_icmp_ge (tgt := 118) hx hb dX4_dare_32 (by decide) (fun _ => ?_) (fun z => absurd z (by decide))
                    refine lv_bipush (v := (-4)) hx hb dX4_dare_118 (by decide) ?_
                    exact hQ _ _ _ _ _ (by first | (simp [oDare, twoOk, dareRest, c_1, c_2, c_3, c_4, c_41, c_43, c_60, c_62, c_64, nI_clamp (show ja < 2 ^ 31 by omega), nI_clamp (show jb < 2 ^ 31 by omega)]; done) | simp_all [oDare, twoOk, dareRest, nI_clamp (show ja < 2 ^ 31 by omega), nI_clamp (show jb < 2 ^ 31 by omega)]) hR dX4_dare_120
                  · skip
                    refine lv_aload_n hx hb dX4_dare_68 rfl (lv_at hl 4 rfl) ?_
                    refine lv_iload_n hx hb dX4_dare_69 rfl (lv_at hl 6 rfl) ?_
                    refine lv_iconst (v := 1) hx hb dX4_dare_70 (by decide) ?_
                    refine lv_iload hx hb dX4_dare_71 (lv_at hl 0 rfl) ?_
                    refine lv_isub hx hb dX4_dare_73 ?_
                    refine W.eqs (st2 := [.int 0, .int (nI jb), .ref (ad 0)]) (congrArg (fun z : Int32 => Value.int z :: _) (show ((1 - 1) : Int32) = 0 by decide)) ?_
                    refine lv_iload hx hb dX4_dare_74 (lv_at hl 1 rfl) ?_
                    refine mm_calli (rest := []) hx hb hml hown hts hK hl.1 hR (m_X4_daresOf l D ca B (st X 0 0 0) Y kp jb 0 1 (by omega)) (cwV 3 hts (lw_V q1573 q1575 qs75 q82 q1576) rfl rfl rfl cd_X4_daresOf ⟨Nat.le_of_ble_eq_true rfl, Nat.le_of_ble_eq_true rfl⟩) rfl rfl (Nat.le_of_ble_eq_true rfl) dX4_dare_76 ⟨Nat.le_refl _, Nat.le_refl _⟩ (fun H locs hR => ?_)
                    refine lv_aload_n hx hb dX4_dare_79 rfl (lv_at hl 4 rfl) ?_
                    refine lv_iload_n hx hb dX4_dare_80 rfl (lv_at hl 6 rfl) ?_
                    refine lv_iload hx hb dX4_dare_81 (lv_at hl 0 rfl) ?_
                    refine lv_iload hx hb dX4_dare_83 (lv_at hl 1 rfl) ?_
                    refine mm_calli (rest := [.int (getsF B jb 0 1)]) hx hb hml hown hts hK hl.1 hR (m_X4_daresOf l D ca B (st X 0 0 0) Y kp jb 1 1 (by omega)) (cwV 3 hts (lw_V q1573 q1575 qs75 q82 q1576) rfl rfl rfl cd_X4_daresOf ⟨Nat.le_of_ble_eq_true rfl, Nat.le_of_ble_eq_true rfl⟩) rfl rfl (Nat.le_of_ble_eq_true rfl) dX4_dare_85 ⟨Nat.le_refl _, Nat.le_refl _⟩ (fun H locs hR => ?_)
                    refine lj_gt (tgt := 95) hx hb dX4_dare_88 (by decide) (fun c_66 => ?_) (fun c_66 => ?_)
                    · skip
                      refine lv_iconst (v := 0) hx hb dX4_dare_95 (by decide) ?_
                      refine lv_istore (lv' := [(6, .int 0), (5, .int 1), (4, .int 1), (3, .int 3), (0, .ref (ad 0)), (1, .int (nI ja)), (2, .int (nI jb))]) hx hb dX4_dare_96 hl (by decide) rfl (fun ls hl => ?_)
                      refine lv_iload hx hb dX4_dare_98 (lv_at hl 0 rfl) ?_
                      refine lv_if_eq (tgt := 112) hx hb dX4_dare_100 (by decide) (fun _ => ?_) (fun z => absurd z (by decide))
                      refine lv_iinc (v := 4) (lv' := [(3, .int 4), (6, .int 0), (5, .int 1), (4, .int 1), (0, .ref (ad 0)), (1, .int (nI ja)), (2, .int (nI jb))]) hx hb dX4_dare_112 hl (k := 3) rfl (by decide) (by decide) rfl (fun ls hl => ?_)
                      refine lv_goto (tgt := 30) hx hb dX4_dare_115 (by decide) ?_
                      refine lv_iload_n hx hb dX4_dare_30 rfl (lv_at hl 0 rfl) ?_
                      refine lv_iconst (v := 4) hx hb dX4_dare_31 (by decide) ?_
                      refine lv_icmp_ge (tgt := 118) hx hb dX4_dare_32 (by decide) (fun _ => ?_) (fun z => absurd z (by decide))
                      refine lv_bipush (v := (-4)) hx hb dX4_dare_118 (by decide) ?_
                      exact hQ _ _ _ _ _ (by first | (simp [oDare, twoOk, dareRest, c_1, c_2, c_3, c_4, c_41, c_43, c_60, c_62, c_64, c_66, nI_clamp (show ja < 2 ^ 31 by omega), nI_clamp (show jb < 2 ^ 31 by omega)]; done) | simp_all [oDare, twoOk, dareRest, nI_clamp (show ja < 2 ^ 31 by omega), nI_clamp (show jb < 2 ^ 31 by omega)]) hR dX4_dare_120
                    · skip
                      refine lv_iconst (v := 1) hx hb dX4_dare_91 (by decide) ?_
                      refine lv_goto (tgt := 96) hx hb dX4_dare_92 (by decide) ?_
                      refine lv_istore (lv' := [(6, .int 1), (5, .int 1), (4, .int 1), (3, .int 3), (0, .ref (ad 0)), (1, .int (nI ja)), (2, .int (nI jb))]) hx hb dX4_dare_96 hl (by decide) rfl (fun ls hl => ?_)
                      refine lv_iload hx hb dX4_dare_98 (lv_at hl 0 rfl) ?_
                      refine lv_if_eq (tgt := 112) hx hb dX4_dare_100 (by decide) (fun z => absurd z (by decide)) (fun _ => ?_)
                      refine lv_bipush (v := 10) hx hb dX4_dare_103 (by decide) ?_
                      refine lv_iload hx hb dX4_dare_105 (lv_at hl 2 rfl) ?_
                      refine lv_imul hx hb dX4_dare_107 ?_
                      refine W.eqs (st2 := [.int 10]) (congrArg (fun z : Int32 => Value.int z :: _) (show ((10 * 1) : Int32) = 10 by decide)) ?_
                      refine lv_iload hx hb dX4_dare_108 (lv_at hl 1 rfl) ?_
                      refine lv_iadd hx hb dX4_dare_110 ?_
                      refine W.eqs (st2 := [.int 11]) (congrArg (fun z : Int32 => Value.int z :: _) (show ((10 + 1) : Int32) = 11 by decide)) ?_
                      exact hQ _ _ _ _ _ (by first | (simp [oDare, twoOk, dareRest, c_1, c_2, c_3, c_4, c_41, c_43, c_60, c_62, c_64, c_66, nI_clamp (show ja < 2 ^ 31 by omega), nI_clamp (show jb < 2 ^ 31 by omega)]; done) | simp_all [oDare, twoOk, dareRest, nI_clamp (show ja < 2 ^ 31 by omega), nI_clamp (show jb < 2 ^ 31 by omega)]) hR dX4_dare_111
                · skip
                  refine lv_aload_n hx hb dX4_dare_68 rfl (lv_at hl 4 rfl) ?_
                  refine lv_iload_n hx hb dX4_dare_69 rfl (lv_at hl 6 rfl) ?_
                  refine lv_iconst (v := 1) hx hb dX4_dare_70 (by decide) ?_
                  refine lv_iload hx hb dX4_dare_71 (lv_at hl 0 rfl) ?_
                  refine lv_isub hx hb dX4_dare_73 ?_
                  refine W.eqs (st2 := [.int 1, .int (nI jb), .ref (ad 0)]) (congrArg (fun z : Int32 => Value.int z :: _) (show ((1 - 0) : Int32) = 1 by decide)) ?_
                  refine lv_iload hx hb dX4_dare_74 (lv_at hl 1 rfl) ?_
                  refine mm_calli (rest := []) hx hb hml hown hts hK hl.1 hR (m_X4_daresOf l D ca B (st X 0 0 0) Y kp jb 1 1 (by omega)) (cwV 3 hts (lw_V q1573 q1575 qs75 q82 q1576) rfl rfl rfl cd_X4_daresOf ⟨Nat.le_of_ble_eq_true rfl, Nat.le_of_ble_eq_true rfl⟩) rfl rfl (Nat.le_of_ble_eq_true rfl) dX4_dare_76 ⟨Nat.le_refl _, Nat.le_refl _⟩ (fun H locs hR => ?_)
                  refine lv_aload_n hx hb dX4_dare_79 rfl (lv_at hl 4 rfl) ?_
                  refine lv_iload_n hx hb dX4_dare_80 rfl (lv_at hl 6 rfl) ?_
                  refine lv_iload hx hb dX4_dare_81 (lv_at hl 0 rfl) ?_
                  refine lv_iload hx hb dX4_dare_83 (lv_at hl 1 rfl) ?_
                  refine mm_calli (rest := [.int (getsF B jb 1 1)]) hx hb hml hown hts hK hl.1 hR (m_X4_daresOf l D ca B (st X 0 0 0) Y kp jb 0 1 (by omega)) (cwV 3 hts (lw_V q1573 q1575 qs75 q82 q1576) rfl rfl rfl cd_X4_daresOf ⟨Nat.le_of_ble_eq_true rfl, Nat.le_of_ble_eq_true rfl⟩) rfl rfl (Nat.le_of_ble_eq_true rfl) dX4_dare_85 ⟨Nat.le_refl _, Nat.le_refl _⟩ (fun H locs hR => ?_)
                  refine lj_gt (tgt := 95) hx hb dX4_dare_88 (by decide) (fun c_69 => ?_) (fun c_69 => ?_)
                  · skip
                    refine lv_iconst (v := 0) hx hb dX4_dare_95 (by decide) ?_
                    refine lv_istore (lv' := [(6, .int 0), (5, .int 0), (4, .int 1), (3, .int 2), (0, .ref (ad 0)), (1, .int (nI ja)), (2, .int (nI jb))]) hx hb dX4_dare_96 hl (by decide) rfl (fun ls hl => ?_)
                    refine lv_iload hx hb dX4_dare_98 (lv_at hl 0 rfl) ?_
                    refine lv_if_eq (tgt := 112) hx hb dX4_dare_100 (by decide) (fun _ => ?_) (fun z => absurd z (by decide))
                    refine lv_iinc (v := 3) (lv' := [(3, .int 3), (6, .int 0), (5, .int 0), (4, .int 1), (0, .ref (ad 0)), (1, .int (nI ja)), (2, .int (nI jb))]) hx hb dX4_dare_112 hl (k := 3) rfl (by decide) (by decide) rfl (fun ls hl => ?_)
                    refine lv_goto (tgt := 30) hx hb dX4_dare_115 (by decide) ?_
                    refine lv_iload_n hx hb dX4_dare_30 rfl (lv_at hl 0 rfl) ?_
                    refine lv_iconst (v := 4) hx hb dX4_dare_31 (by decide) ?_
                    refine lv_icmp_ge (tgt := 118) hx hb dX4_dare_32 (by decide) (fun z => absurd z (by decide)) (fun _ => ?_)
                    refine lv_iload_n hx hb dX4_dare_35 rfl (lv_at hl 0 rfl) ?_
                    refine lv_iconst (v := 2) hx hb dX4_dare_36 (by decide) ?_
                    refine lv_idiv hx hb dX4_dare_37 (by decide) ?_
                    refine W.eqs (st2 := [.int 1]) (congrArg (fun z : Int32 => Value.int z :: _) (show ((3 / 2) : Int32) = 1 by decide)) ?_
                    refine lv_istore (lv' := [(4, .int 1), (3, .int 3), (6, .int 0), (5, .int 0), (0, .ref (ad 0)), (1, .int (nI ja)), (2, .int (nI jb))]) hx hb dX4_dare_38 hl (by decide) rfl (fun ls hl => ?_)
                    refine lv_iload_n hx hb dX4_dare_40 rfl (lv_at hl 1 rfl) ?_
                    refine lv_iconst (v := 2) hx hb dX4_dare_41 (by decide) ?_
                    refine lv_irem hx hb dX4_dare_42 (by decide) ?_
                    refine W.eqs (st2 := [.int 1]) (congrArg (fun z : Int32 => Value.int z :: _) (show ((3 - 3 / 2 * 2) : Int32) = 1 by decide)) ?_
                    refine lv_istore (lv' := [(5, .int 1), (4, .int 1), (3, .int 3), (6, .int 0), (0, .ref (ad 0)), (1, .int (nI ja)), (2, .int (nI jb))]) hx hb dX4_dare_43 hl (by decide) rfl (fun ls hl => ?_)
                    refine lv_aload_n hx hb dX4_dare_45 rfl (lv_at hl 4 rfl) ?_
                    refine lv_iload_n hx hb dX4_dare_46 rfl (lv_at hl 5 rfl) ?_
                    refine lv_iconst (v := 1) hx hb dX4_dare_47 (by decide) ?_
                    refine lv_iload hx hb dX4_dare_48 (lv_at hl 1 rfl) ?_
                    refine lv_isub hx hb dX4_dare_50 ?_
                    refine W.eqs (st2 := [.int 0, .int (nI ja), .ref (ad 0)]) (congrArg (fun z : Int32 => Value.int z :: _) (show ((1 - 1) : Int32) = 0 by decide)) ?_
                    refine lv_iload hx hb dX4_dare_51 (lv_at hl 0 rfl) ?_
                    refine mm_calli (rest := []) hx hb hml hown hts hK hl.1 hR (m_X4_daresOf l D ca B (st X 0 0 0) Y kp ja 0 1 (by omega)) (cwV 3 hts (lw_V q1573 q1575 qs75 q82 q1576) rfl rfl rfl cd_X4_daresOf ⟨Nat.le_of_ble_eq_true rfl, Nat.le_of_ble_eq_true rfl⟩) rfl rfl (Nat.le_of_ble_eq_true rfl) dX4_dare_53 ⟨Nat.le_refl _, Nat.le_refl _⟩ (fun H locs hR => ?_)
                    refine lv_aload_n hx hb dX4_dare_56 rfl (lv_at hl 4 rfl) ?_
                    refine lv_iload_n hx hb dX4_dare_57 rfl (lv_at hl 5 rfl) ?_
                    refine lv_iload hx hb dX4_dare_58 (lv_at hl 1 rfl) ?_
                    refine lv_iload hx hb dX4_dare_60 (lv_at hl 0 rfl) ?_
                    refine mm_calli (rest := [.int (getsF B ja 0 1)]) hx hb hml hown hts hK hl.1 hR (m_X4_daresOf l D ca B (st X 0 0 0) Y kp ja 1 1 (by omega)) (cwV 3 hts (lw_V q1573 q1575 qs75 q82 q1576) rfl rfl rfl cd_X4_daresOf ⟨Nat.le_of_ble_eq_true rfl, Nat.le_of_ble_eq_true rfl⟩) rfl rfl (Nat.le_of_ble_eq_true rfl) dX4_dare_62 ⟨Nat.le_refl _, Nat.le_refl _⟩ (fun H locs hR => ?_)
                    refine lj_gt (tgt := 95) hx hb dX4_dare_65 (by decide) (fun c_71 => ?_) (fun c_71 => ?_)
                    · skip
                      refine lv_iconst (v := 0) hx hb dX4_dare_95 (by decide) ?_
                      refine lv_istore (lv' := [(6, .int 0), (5, .int 1), (4, .int 1), (3, .int 3), (0, .ref (ad 0)), (1, .int (nI ja)), (2, .int (nI jb))]) hx hb dX4_dare_96 hl (by decide) rfl (fun ls hl => ?_)
                      refine lv_iload hx hb dX4_dare_98 (lv_at hl 0 rfl) ?_
                      refine lv_if_eq (tgt := 112) hx hb dX4_dare_100 (by decide) (fun _ => ?_) (fun z => absurd z (by decide))
                      refine lv_iinc (v := 4) (lv' := [(3, .int 4), (6, .int 0), (5, .int 1), (4, .int 1), (0, .ref (ad 0)), (1, .int (nI ja)), (2, .int (nI jb))]) hx hb dX4_dare_112 hl (k := 3) rfl (by decide) (by decide) rfl (fun ls hl => ?_)
                      refine lv_goto (tgt := 30) hx hb dX4_dare_115 (by decide) ?_
                      refine lv_iload_n hx hb dX4_dare_30 rfl (lv_at hl 0 rfl) ?_
                      refine lv_iconst (v := 4) hx hb dX4_dare_31 (by decide) ?_
                      refine lv_icmp_ge (tgt := 118) hx hb dX4_dare_32 (by decide) (fun _ => ?_) (fun z => absurd z (by decide))
                      refine lv_bipush (v := (-4)) hx hb dX4_dare_118 (by decide) ?_
                      exact hQ _ _ _ _ _ (by first | (simp [oDare, twoOk, dareRest, c_1, c_2, c_3, c_4, c_41, c_43, c_60, c_62, c_69, c_71, nI_clamp (show ja < 2 ^ 31 by omega), nI_clamp (show jb < 2 ^ 31 by omega)]; done) | simp_all [oDare, twoOk, dareRest, nI_clamp (show ja < 2 ^ 31 by omega), nI_clamp (show jb < 2 ^ 31 by omega)]) hR dX4_dare_120
                    · skip
                      refine lv_aload_n hx hb dX4_dare_68 rfl (lv_at hl 4 rfl) ?_
                      refine lv_iload_n hx hb dX4_dare_69 rfl (lv_at hl 6 rfl) ?_
                      refine lv_iconst (v := 1) hx hb dX4_dare_70 (by decide) ?_
                      refine lv_iload hx hb dX4_dare_71 (lv_at hl 0 rfl) ?_
                      refine lv_isub hx hb dX4_dare_73 ?_
                      refine W.eqs (st2 := [.int 0, .int (nI jb), .ref (ad 0)]) (congrArg (fun z : Int32 => Value.int z :: _) (show ((1 - 1) : Int32) = 0 by decide)) ?_
                      refine lv_iload hx hb dX4_dare_74 (lv_at hl 1 rfl) ?_
                      refine mm_calli (rest := []) hx hb hml hown hts hK hl.1 hR (m_X4_daresOf l D ca B (st X 0 0 0) Y kp jb 0 1 (by omega)) (cwV 3 hts (lw_V q1573 q1575 qs75 q82 q1576) rfl rfl rfl cd_X4_daresOf ⟨Nat.le_of_ble_eq_true rfl, Nat.le_of_ble_eq_true rfl⟩) rfl rfl (Nat.le_of_ble_eq_true rfl) dX4_dare_76 ⟨Nat.le_refl _, Nat.le_refl _⟩ (fun H locs hR => ?_)
                      refine lv_aload_n hx hb dX4_dare_79 rfl (lv_at hl 4 rfl) ?_
                      refine lv_iload_n hx hb dX4_dare_80 rfl (lv_at hl 6 rfl) ?_
                      refine lv_iload hx hb dX4_dare_81 (lv_at hl 0 rfl) ?_
                      refine lv_iload hx hb dX4_dare_83 (lv_at hl 1 rfl) ?_
                      refine mm_calli (rest := [.int (getsF B jb 0 1)]) hx hb hml hown hts hK hl.1 hR (m_X4_daresOf l D ca B (st X 0 0 0) Y kp jb 1 1 (by omega)) (cwV 3 hts (lw_V q1573 q1575 qs75 q82 q1576) rfl rfl rfl cd_X4_daresOf ⟨Nat.le_of_ble_eq_true rfl, Nat.le_of_ble_eq_true rfl⟩) rfl rfl (Nat.le_of_ble_eq_true rfl) dX4_dare_85 ⟨Nat.le_refl _, Nat.le_refl _⟩ (fun H locs hR => ?_)
                      refine lj_gt (tgt := 95) hx hb dX4_dare_88 (by decide) (fun c_73 => ?_) (fun c_73 => ?_)
                      · skip
                        refine lv_iconst (v := 0) hx hb dX4_dare_95 (by decide) ?_
                        refine lv_istore (lv' := [(6, .int 0), (5, .int 1), (4, .int 1), (3, .int 3), (0, .ref (ad 0)), (1, .int (nI ja)), (2, .int (nI jb))]) hx hb dX4_dare_96 hl (by decide) rfl (fun ls hl => ?_)
                        refine lv_iload hx hb dX4_dare_98 (lv_at hl 0 rfl) ?_
                        refine lv_if_eq (tgt := 112) hx hb dX4_dare_100 (by decide) (fun _ => ?_) (fun z => absurd z (by decide))
                        refine lv_iinc (v := 4) (lv' := [(3, .int 4), (6, .int 0), (5, .int 1), (4, .int 1), (0, .ref (ad 0)), (1, .int (nI ja)), (2, .int (nI jb))]) hx hb dX4_dare_112 hl (k := 3) rfl (by decide) (by decide) rfl (fun ls hl => ?_)
                        refine lv_goto (tgt := 30) hx hb dX4_dare_115 (by decide) ?_
                        refine lv_iload_n hx hb dX4_dare_30 rfl (lv_at hl 0 rfl) ?_
                        refine lv_iconst (v := 4) hx hb dX4_dare_31 (by decide) ?_
                        refine lv_icmp_ge (tgt := 118) hx hb dX4_dare_32 (by decide) (fun _ => ?_) (fun z => absurd z (by decide))
                        refine lv_bipush (v := (-4)) hx hb dX4_dare_118 (by decide) ?_
                        exact hQ _ _ _ _ _ (by first | (simp [oDare, twoOk, dareRest, c_1, c_2, c_3, c_4, c_41, c_43, c_60, c_62, c_69, c_71, c_73, nI_clamp (show ja < 2 ^ 31 by omega), nI_clamp (show jb < 2 ^ 31 by omega)]; done) | simp_all [oDare, twoOk, dareRest, nI_clamp (show ja < 2 ^ 31 by omega), nI_clamp (show jb < 2 ^ 31 by omega)]) hR dX4_dare_120
                      · skip
                        refine lv_iconst (v := 1) hx hb dX4_dare_91 (by decide) ?_
                        refine lv_goto (tgt := 96) hx hb dX4_dare_92 (by decide) ?_
                        refine lv_istore (lv' := [(6, .int 1), (5, .int 1), (4, .int 1), (3, .int 3), (0, .ref (ad 0)), (1, .int (nI ja)), (2, .int (nI jb))]) hx hb dX4_dare_96 hl (by decide) rfl (fun ls hl => ?_)
                        refine lv_iload hx hb dX4_dare_98 (lv_at hl 0 rfl) ?_
                        refine lv_if_eq (tgt := 112) hx hb dX4_dare_100 (by decide) (fun z => absurd z (by decide)) (fun _ => ?_)
                        refine lv_bipush (v := 10) hx hb dX4_dare_103 (by decide) ?_
                        refine lv_iload hx hb dX4_dare_105 (lv_at hl 2 rfl) ?_
                        refine lv_imul hx hb dX4_dare_107 ?_
                        refine W.eqs (st2 := [.int 10]) (congrArg (fun z : Int32 => Value.int z :: _) (show ((10 * 1) : Int32) = 10 by decide)) ?_
                        refine lv_iload hx hb dX4_dare_108 (lv_at hl 1 rfl) ?_
                        refine lv_iadd hx hb dX4_dare_110 ?_
                        refine W.eqs (st2 := [.int 11]) (congrArg (fun z : Int32 => Value.int z :: _) (show ((10 + 1) : Int32) = 11 by decide)) ?_
                        exact hQ _ _ _ _ _ (by first | (simp [oDare, twoOk, dareRest, c_1, c_2, c_3, c_4, c_41, c_43, c_60, c_62, c_69, c_71, c_73, nI_clamp (show ja < 2 ^ 31 by omega), nI_clamp (show jb < 2 ^ 31 by omega)]; done) | simp_all [oDare, twoOk, dareRest, nI_clamp (show ja < 2 ^ 31 by omega), nI_clamp (show jb < 2 ^ 31 by omega)]) hR dX4_dare_111
                  · skip
                    refine lv_iconst (v := 1) hx hb dX4_dare_91 (by decide) ?_
                    refine lv_goto (tgt := 96) hx hb dX4_dare_92 (by decide) ?_
                    refine lv_istore (lv' := [(6, .int 1), (5, .int 0), (4, .int 1), (3, .int 2), (0, .ref (ad 0)), (1, .int (nI ja)), (2, .int (nI jb))]) hx hb dX4_dare_96 hl (by decide) rfl (fun ls hl => ?_)
                    refine lv_iload hx hb dX4_dare_98 (lv_at hl 0 rfl) ?_
                    refine lv_if_eq (tgt := 112) hx hb dX4_dare_100 (by decide) (fun z => absurd z (by decide)) (fun _ => ?_)
                    refine lv_bipush (v := 10) hx hb dX4_dare_103 (by decide) ?_
                    refine lv_iload hx hb dX4_dare_105 (lv_at hl 2 rfl) ?_
                    refine lv_imul hx hb dX4_dare_107 ?_
                    refine W.eqs (st2 := [.int 10]) (congrArg (fun z : Int32 => Value.int z :: _) (show ((10 * 1) : Int32) = 10 by decide)) ?_
                    refine lv_iload hx hb dX4_dare_108 (lv_at hl 1 rfl) ?_
                    refine lv_iadd hx hb dX4_dare_110 ?_
                    refine W.eqs (st2 := [.int 10]) (congrArg (fun z : Int32 => Value.int z :: _) (show ((10 + 0) : Int32) = 10 by decide)) ?_
                    exact hQ _ _ _ _ _ (by first | (simp [oDare, twoOk, dareRest, c_1, c_2, c_3, c_4, c_41, c_43, c_60, c_62, c_69, nI_clamp (show ja < 2 ^ 31 by omega), nI_clamp (show jb < 2 ^ 31 by omega)]; done) | simp_all [oDare, twoOk, dareRest, nI_clamp (show ja < 2 ^ 31 by omega), nI_clamp (show jb < 2 ^ 31 by omega)]) hR dX4_dare_111
              · skip
                refine lv_iconst (v := 1) hx hb dX4_dare_91 (by decide) ?_
                refine lv_goto (tgt := 96) hx hb dX4_dare_92 (by decide) ?_
                refine lv_istore (lv' := [(6, .int 1), (5, .int 1), (4, .int 0), (3, .int 1), (0, .ref (ad 0)), (1, .int (nI ja)), (2, .int (nI jb))]) hx hb dX4_dare_96 hl (by decide) rfl (fun ls hl => ?_)
                refine lv_iload hx hb dX4_dare_98 (lv_at hl 0 rfl) ?_
                refine lv_if_eq (tgt := 112) hx hb dX4_dare_100 (by decide) (fun z => absurd z (by decide)) (fun _ => ?_)
                refine lv_bipush (v := 10) hx hb dX4_dare_103 (by decide) ?_
                refine lv_iload hx hb dX4_dare_105 (lv_at hl 2 rfl) ?_
                refine lv_imul hx hb dX4_dare_107 ?_
                refine W.eqs (st2 := [.int 0]) (congrArg (fun z : Int32 => Value.int z :: _) (show ((10 * 0) : Int32) = 0 by decide)) ?_
                refine lv_iload hx hb dX4_dare_108 (lv_at hl 1 rfl) ?_
                refine lv_iadd hx hb dX4_dare_110 ?_
                refine W.eqs (st2 := [.int 1]) (congrArg (fun z : Int32 => Value.int z :: _) (show ((0 + 1) : Int32) = 1 by decide)) ?_
                exact hQ _ _ _ _ _ (by first | (simp [oDare, twoOk, dareRest, c_1, c_2, c_3, c_4, c_41, c_43, c_60, nI_clamp (show ja < 2 ^ 31 by omega), nI_clamp (show jb < 2 ^ 31 by omega)]; done) | simp_all [oDare, twoOk, dareRest, nI_clamp (show ja < 2 ^ 31 by omega), nI_clamp (show jb < 2 ^ 31 by omega)]) hR dX4_dare_111
          · skip
            refine lv_iconst (v := 1) hx hb dX4_dare_91 (by decide) ?_
            refine lv_goto (tgt := 96) hx hb dX4_dare_92 (by decide) ?_
            refine lv_istore (lv' := [(6, .int 1), (5, .int 0), (4, .int 0), (3, .int 0), (0, .ref (ad 0)), (1, .int (nI ja)), (2, .int (nI jb))]) hx hb dX4_dare_96 hl (by decide) rfl (fun ls hl => ?_)
            refine lv_iload hx hb dX4_dare_98 (lv_at hl 0 rfl) ?_
            refine lv_if_eq (tgt := 112) hx hb dX4_dare_100 (by decide) (fun z => absurd z (by decide)) (fun _ => ?_)
            refine lv_bipush (v := 10) hx hb dX4_dare_103 (by decide) ?_
            refine lv_iload hx hb dX4_dare_105 (lv_at hl 2 rfl) ?_
            refine lv_imul hx hb dX4_dare_107 ?_
            refine W.eqs (st2 := [.int 0]) (congrArg (fun z : Int32 => Value.int z :: _) (show ((10 * 0) : Int32) = 0 by decide)) ?_
            refine lv_iload hx hb dX4_dare_108 (lv_at hl 1 rfl) ?_
            refine lv_iadd hx hb dX4_dare_110 ?_
            refine W.eqs (st2 := [.int 0]) (congrArg (fun z : Int32 => Value.int z :: _) (show ((0 + 0) : Int32) = 0 by decide)) ?_
            exact hQ _ _ _ _ _ (by first | (simp [oDare, twoOk, dareRest, c_1, c_2, c_3, c_4, c_41, nI_clamp (show ja < 2 ^ 31 by omega), nI_clamp (show jb < 2 ^ 31 by omega)]; done) | simp_all [oDare, twoOk, dareRest, nI_clamp (show ja < 2 ^ 31 by omega), nI_clamp (show jb < 2 ^ 31 by omega)]) hR dX4_dare_111
      · skip
        refine lv_iconst (v := (-1)) hx hb dX4_dare_26 (by decide) ?_
        exact hQ _ _ _ _ _ (by first | (simp [oDare, twoOk, dareRest, c_1, c_2, c_3, nI_clamp (show ja < 2 ^ 31 by omega), nI_clamp (show jb < 2 ^ 31 by omega)]; done) | simp_all [oDare, twoOk, dareRest, nI_clamp (show ja < 2 ^ 31 by omega), nI_clamp (show jb < 2 ^ 31 by omega)]) hR dX4_dare_27
theorem cd_X4_put : yX4_put.cls = RX4 ∧ yX4_put.cls ≠ "java/lang/invoke/MethodHandle" ∧ yX4_put.cls ≠ "java/lang/invoke/VarHandle" ∧ (parseMethodDescriptor yX4_put.desc).map (fun d => d.parameters.length) = some 3 := by decide +kernel
set_option maxHeartbeats 4000000 in
theorem m_X4_put (l : Launch) (D : va_G) (ca : Nat → ClassId) (n : Nat) (B X : Nat → Nat → Int32) (Y : Nat → Nat → Int64) (kp : Nat) (d : Int32) (i : Int32) (v : Int32) (hB : wfB n B) (hX : wfX X) : MMi l D ca yX4_put (ws_ yX4_put cX4_put 5 (some .int)) (rmN 2) (fun ad => [.int d, .int i, .int v]) B X Y kp (oPut X d i) B (st X 0 0 0) (oPutY X Y d i v) kp := by
  refine MMi_start (by decide) (Or.inl rfl) (fun _ => Nat.le_of_ble_eq_true rfl) ?_
  intro p e s m args below meth c0 ad A Q ls hx hb hml hown hts hK hR hl hQ
  have hl : lv_has ls 5 [(0, .ref (ad 0)), (1, .int d), (2, .int i), (3, .int v)] := hl
  have hn6 : n ≤ 6 := hB.1
  refine lv_aload_n hx hb dX4_put_0 rfl (lv_at hl 0 rfl) ?_
  refine lv_iconst (v := 0) hx hb dX4_put_1 (by decide) ?_
  refine rw_put hx hb hts in_X4 tyX4 tyX4_ok nmX4 hown hK hR 0 (by decide) rfl rfl 13 (by decide) q1175 rfl rfl rfl rfl (Nat.le_of_ble_eq_true rfl) dX4_put_2 (mE_pX 0 (x := 0) rfl) (fun H locs hR => ?_)
  refine lv_aload_n hx hb dX4_put_5 rfl (lv_at hl 0 rfl) ?_
  refine lv_iload_n hx hb dX4_put_6 rfl (lv_at hl 1 rfl) ?_
  refine mm_calli (rest := []) hx hb hml hown hts hK hl.1 hR (m_X4_wrongRow l D ca B (st X 0 0 0) Y kp d) (cwV 1 hts (lw_V q1283 q1285 qs33 q82 q1286) rfl rfl rfl cd_X4_wrongRow ⟨Nat.le_of_ble_eq_true rfl, Nat.le_of_ble_eq_true rfl⟩) rfl rfl (Nat.le_of_ble_eq_true rfl) dX4_put_7 ⟨Nat.le_refl _, Nat.le_refl _⟩ (fun H locs hR => ?_)
  refine W.eqs (st2 := [.int (wrR (X 6) d)]) rfl ?_
  refine lv_istore (lv' := [(4, .int (wrR (X 6) d)), (0, .ref (ad 0)), (1, .int d), (2, .int i), (3, .int v)]) hx hb dX4_put_10 hl (by decide) rfl (fun ls hl => ?_)
  refine lv_iload hx hb dX4_put_12 (lv_at hl 0 rfl) ?_
  refine lz_ge (tgt := 20) hx hb dX4_put_14 (by decide) (fun c_1 => ?_) (fun c_1 => ?_)
  · skip
    obtain ⟨jd, hjd, rfl, hWd⟩ := wrR_0 c_1
    refine lv_iload_n hx hb dX4_put_20 rfl (lv_at hl 3 rfl) ?_
    refine lv_i2l (v := (i.toInt64)) hx hb dX4_put_21 rfl ?_
    refine lv_lconst (v := 0) hx hb dX4_put_22 (by decide) ?_
    refine lv_aload_n hx hb dX4_put_23 rfl (lv_at hl 1 rfl) ?_
    refine rw_get (v := .ref (ad 10)) hx hb hts in_X4 hown hK hR 0 (by decide) rfl rfl 11 (by decide) q1173 rfl rfl dX4_put_24 ?_
    refine lv_iload_n hx hb dX4_put_27 rfl (lv_at hl 2 rfl) ?_
    refine rw_ialdN (n := 8) hx hb hK hR 10 (by decide) rfl jd rfl (by omega) (by decide) dX4_put_28 ?_
    refine W.eqs (st2 := [.int (X 10 jd), .long 0, .long (i.toInt64)]) rfl ?_
    refine lv_iconst (v := 1) hx hb dX4_put_29 (by decide) ?_
    refine lv_isub hx hb dX4_put_30 ?_
    refine lv_i2l (v := (((X 10 jd) - 1).toInt64)) hx hb dX4_put_31 rfl ?_
    refine rs_calli (rest := []) hx hb hml hown hts hl.1 hR (m_X4_in l (i.toInt64) 0 (((X 10 jd) - 1).toInt64)) (va_cwS 3 hts (lw_S q1288 q1289 q82 q1290) rfl rfl rfl cd_X4_in ⟨Nat.le_of_ble_eq_true rfl, Nat.le_of_ble_eq_true rfl⟩) rfl rfl (Nat.le_of_ble_eq_true rfl) dX4_put_32 ⟨Nat.le_refl _, Nat.le_refl _⟩ (fun H locs hR => ?_)
    refine W.eqs (st2 := [.int (bI (inI i 0 ((X 10 jd) - 1)))]) (congrArg (fun b => Value.int (bI b) :: _) (inL_I (v := i) (lo := 0) (hi := ((X 10 jd) - 1)) (by decide) rfl)) ?_
    refine lb_ne (tgt := 41) hx hb dX4_put_35 (by decide) (fun c_2 => ?_) (fun c_2 => ?_)
    · skip
      obtain ⟨ji, hjim, hji, rfl⟩ := inI_many (hX.2.2.2.2 _) c_2
      refine lv_aload_n hx hb dX4_put_41 rfl (lv_at hl 1 rfl) ?_
      refine rw_get (v := .ref (ad 11)) hx hb hts in_X4 hown hK hR 0 (by decide) rfl rfl 12 (by decide) q1174 rfl rfl dX4_put_42 ?_
      refine lv_bipush (v := 100) hx hb dX4_put_45 (by decide) ?_
      refine lv_iload_n hx hb dX4_put_47 rfl (lv_at hl 2 rfl) ?_
      refine lv_imul hx hb dX4_put_48 ?_
      refine W.eqs (st2 := [.int (nI (100 * jd)), .ref (ad 11)]) (congrArg (fun z : Int32 => Value.int z :: _) (pk_mul 100 jd)) ?_
      refine lv_iload_n hx hb dX4_put_49 rfl (lv_at hl 3 rfl) ?_
      refine lv_iadd hx hb dX4_put_50 ?_
      refine W.eqs (st2 := [.int (nI (100 * jd + ji)), .ref (ad 11)]) (congrArg (fun z : Int32 => Value.int z :: _) (nI_add (100 * jd) ji)) ?_
      refine lv_iload_n hx hb dX4_put_51 rfl (lv_at hl 4 rfl) ?_
      refine lv_aload_n hx hb dX4_put_52 rfl (lv_at hl 1 rfl) ?_
      refine rw_get (v := .ref (ad 9)) hx hb hts in_X4 hown hK hR 0 (by decide) rfl rfl 10 (by decide) q1172 rfl rfl dX4_put_53 ?_
      refine lv_iload_n hx hb dX4_put_56 rfl (lv_at hl 2 rfl) ?_
      refine rw_ialdN (n := 8) hx hb hK hR 9 (by decide) rfl jd rfl (by omega) (by decide) dX4_put_57 ?_
      refine W.eqs (st2 := [.int (X 9 jd), .int v, .int (nI (100 * jd + ji)), .ref (ad 11)]) rfl ?_
      refine rs_calll (rest := [.int (nI (100 * jd + ji)), .ref (ad 11)]) hx hb hml hown hts hl.1 hR (m_X4_narrowed l v (X 9 jd)) (va_cwS 2 hts (lw_S q1641 q1642 q82 q1643) rfl rfl rfl cd_X4_narrowed ⟨Nat.le_of_ble_eq_true rfl, Nat.le_of_ble_eq_true rfl⟩) rfl rfl (Nat.le_of_ble_eq_true rfl) dX4_put_58 ⟨Nat.le_refl _, Nat.le_refl _⟩ (fun H locs hR => ?_)
      refine rw_lastN (n := 800) hx hb hK hR 11 (by decide) rfl (100 * jd + ji) rfl (by omega) (by decide) dX4_put_61 (mE_Y 11 (by decide)) (fun H locs hR => ?_)
      refine lv_iconst (v := 0) hx hb dX4_put_62 (by decide) ?_
      exact hQ _ _ _ _ _ (by first | (simp [oPut, putOk, c_1, c_2, wrR_at hjd hWd, hWd, nI_clamp (show jd < 2 ^ 31 by omega), nI_clamp (show ji < 2 ^ 31 by omega)]; done) | simp_all [oPut, putOk, nI_clamp (show jd < 2 ^ 31 by omega), nI_clamp (show ji < 2 ^ 31 by omega)]) (RW.eq hR (by first | (simp [oPutY, putOk, c_1, c_2, wrR_at hjd hWd, hWd, nI_clamp (show jd < 2 ^ 31 by omega), nI_clamp (show ji < 2 ^ 31 by omega)]; done) | simp_all [oPutY, putOk, nI_clamp (show jd < 2 ^ 31 by omega), nI_clamp (show ji < 2 ^ 31 by omega)])) dX4_put_63
    · skip
      refine lv_bipush (v := (-13)) hx hb dX4_put_38 (by decide) ?_
      exact hQ _ _ _ _ _ (by first | (simp [oPut, putOk, c_1, c_2, wrR_at hjd hWd, hWd, nI_clamp (show jd < 2 ^ 31 by omega)]; done) | simp_all [oPut, putOk, nI_clamp (show jd < 2 ^ 31 by omega)]) (RW.eq hR (by first | (simp [oPutY, putOk, c_1, c_2, wrR_at hjd hWd, hWd, nI_clamp (show jd < 2 ^ 31 by omega)]; done) | simp_all [oPutY, putOk, nI_clamp (show jd < 2 ^ 31 by omega)])) dX4_put_40
  · skip
    refine lv_iload hx hb dX4_put_17 (lv_at hl 0 rfl) ?_
    exact hQ _ _ _ _ _ (by first | (simp [oPut, putOk, c_1]; done) | simp_all [oPut, putOk]) (RW.eq hR (by first | (simp [oPutY, putOk, c_1]; done) | simp_all [oPutY, putOk])) dX4_put_19
theorem cd_X4_element : yX4_element.cls = RX4 ∧ yX4_element.cls ≠ "java/lang/invoke/MethodHandle" ∧ yX4_element.cls ≠ "java/lang/invoke/VarHandle" ∧ (parseMethodDescriptor yX4_element.desc).map (fun d => d.parameters.length) = some 2 := by decide +kernel
set_option maxHeartbeats 4000000 in
theorem m_X4_element (l : Launch) (D : va_G) (ca : Nat → ClassId) (n : Nat) (B X : Nat → Nat → Int32) (Y : Nat → Nat → Int64) (kp : Nat) (d : Int32) (i : Int32) (hB : wfB n B) (hX : wfX X) : MMl l D ca yX4_element (ws_ yX4_element cX4_element 4 (some .long)) (rmN 2) (fun ad => [.int d, .int i]) B X Y kp (eltV X Y d i) B (st X 0 0 (eltT X d i)) Y kp := by
  refine MMl_start (by decide) (fun _ => Nat.le_of_ble_eq_true rfl) ?_
  intro p e s m args below meth c0 ad A Q ls hx hb hml hown hts hK hR hl hQ
  have hl : lv_has ls 4 [(0, .ref (ad 0)), (1, .int d), (2, .int i)] := hl
  have hn6 : n ≤ 6 := hB.1
  refine lv_aload_n hx hb dX4_element_0 rfl (lv_at hl 0 rfl) ?_
  refine lv_iload_n hx hb dX4_element_1 rfl (lv_at hl 1 rfl) ?_
  refine mm_calli (rest := []) hx hb hml hown hts hK hl.1 hR (m_X4_wrongRow l D ca B X Y kp d) (cwV 1 hts (lw_V q1283 q1285 qs33 q82 q1286) rfl rfl rfl cd_X4_wrongRow ⟨Nat.le_of_ble_eq_true rfl, Nat.le_of_ble_eq_true rfl⟩) rfl rfl (Nat.le_of_ble_eq_true rfl) dX4_element_2 ⟨Nat.le_refl _, Nat.le_refl _⟩ (fun H locs hR => ?_)
  refine lv_istore_n (lv' := [(3, .int (wrR (X 6) d)), (0, .ref (ad 0)), (1, .int d), (2, .int i)]) hx hb dX4_element_5 rfl hl (by decide) rfl (fun ls hl => ?_)
  refine lv_aload_n hx hb dX4_element_6 rfl (lv_at hl 1 rfl) ?_
  refine lv_iload_n hx hb dX4_element_7 rfl (lv_at hl 0 rfl) ?_
  refine lv_iconst (v := (-1)) hx hb dX4_element_8 (by decide) ?_
  refine lv_icmp_ne (tgt := 16) hx hb dX4_element_9 (by decide) (fun c_1 => ?_) (fun c_1 => ?_)
  · skip
    refine lv_iload_n hx hb dX4_element_16 rfl (lv_at hl 0 rfl) ?_
    refine lz_lt (tgt := 38) hx hb dX4_element_17 (by decide) (fun c_2 => ?_) (fun c_2 => ?_)
    · skip
      refine lv_iconst (v := 2) hx hb dX4_element_38 (by decide) ?_
      refine lv_goto (tgt := 43) hx hb dX4_element_39 (by decide) ?_
      refine rw_put hx hb hts in_X4 tyX4 tyX4_ok nmX4 hown hK hR 0 (by decide) rfl rfl 13 (by decide) q1175 rfl rfl rfl rfl (Nat.le_of_ble_eq_true rfl) dX4_element_43 (mE_pX 0 (x := 2) rfl) (fun H locs hR => ?_)
      refine lv_aload_n hx hb dX4_element_46 rfl (lv_at hl 1 rfl) ?_
      refine rw_get (v := .int 2) hx hb hts in_X4 hown hK hR 0 (by decide) rfl rfl 13 (by decide) q1175 rfl rfl dX4_element_47 ?_
      refine lv_if_le (tgt := 57) hx hb dX4_element_50 (by decide) (fun z => absurd z (by decide)) (fun _ => ?_)
      refine lv_lconst (v := 0) hx hb dX4_element_53 (by decide) ?_
      refine lv_goto (tgt := 68) hx hb dX4_element_54 (by decide) ?_
      exact hQ _ _ _ _ _ (by first | (simp [eltV, eltT, putOk, c_1, c_2]; done) | simp_all [eltV, eltT, putOk]) (RW.eq hR (by first | (simp [eltT, putOk, c_1, c_2]; done) | simp_all [eltT, putOk])) dX4_element_68
    · skip
      obtain ⟨jd, hjd, rfl, hWd⟩ := wrR_0 c_2
      refine lv_iload_n hx hb dX4_element_20 rfl (lv_at hl 3 rfl) ?_
      refine lv_i2l (v := (i.toInt64)) hx hb dX4_element_21 rfl ?_
      refine lv_lconst (v := 0) hx hb dX4_element_22 (by decide) ?_
      refine lv_aload_n hx hb dX4_element_23 rfl (lv_at hl 1 rfl) ?_
      refine rw_get (v := .ref (ad 10)) hx hb hts in_X4 hown hK hR 0 (by decide) rfl rfl 11 (by decide) q1173 rfl rfl dX4_element_24 ?_
      refine lv_iload_n hx hb dX4_element_27 rfl (lv_at hl 2 rfl) ?_
      refine rw_ialdN (n := 8) hx hb hK hR 10 (by decide) rfl jd rfl (by omega) (by decide) dX4_element_28 ?_
      refine lv_iconst (v := 1) hx hb dX4_element_29 (by decide) ?_
      refine lv_isub hx hb dX4_element_30 ?_
      refine lv_i2l (v := (((X 10 jd) - 1).toInt64)) hx hb dX4_element_31 rfl ?_
      refine rs_calli (rest := [.ref (ad 0)]) hx hb hml hown hts hl.1 hR (m_X4_in l (i.toInt64) 0 (((X 10 jd) - 1).toInt64)) (va_cwS 3 hts (lw_S q1288 q1289 q82 q1290) rfl rfl rfl cd_X4_in ⟨Nat.le_of_ble_eq_true rfl, Nat.le_of_ble_eq_true rfl⟩) rfl rfl (Nat.le_of_ble_eq_true rfl) dX4_element_32 ⟨Nat.le_refl _, Nat.le_refl _⟩ (fun H locs hR => ?_)
      refine W.eqs (st2 := [.int (bI (inI i 0 ((X 10 jd) - 1))), .ref (ad 0)]) (congrArg (fun b => Value.int (bI b) :: _) (inL_I (v := i) (lo := 0) (hi := ((X 10 jd) - 1)) (by decide) rfl)) ?_
      refine lb_ne (tgt := 42) hx hb dX4_element_35 (by decide) (fun c_4 => ?_) (fun c_4 => ?_)
      · skip
        obtain ⟨ji, hjim, hji, rfl⟩ := inI_many (hX.2.2.2.2 _) c_4
        refine lv_iconst (v := 0) hx hb dX4_element_42 (by decide) ?_
        refine rw_put hx hb hts in_X4 tyX4 tyX4_ok nmX4 hown hK hR 0 (by decide) rfl rfl 13 (by decide) q1175 rfl rfl rfl rfl (Nat.le_of_ble_eq_true rfl) dX4_element_43 (mE_pX 0 (x := 0) rfl) (fun H locs hR => ?_)
        refine lv_aload_n hx hb dX4_element_46 rfl (lv_at hl 1 rfl) ?_
        refine rw_get (v := .int 0) hx hb hts in_X4 hown hK hR 0 (by decide) rfl rfl 13 (by decide) q1175 rfl rfl dX4_element_47 ?_
        refine lv_if_le (tgt := 57) hx hb dX4_element_50 (by decide) (fun _ => ?_) (fun z => absurd z (by decide))
        refine lv_aload_n hx hb dX4_element_57 rfl (lv_at hl 1 rfl) ?_
        refine rw_get (v := .ref (ad 11)) hx hb hts in_X4 hown hK hR 0 (by decide) rfl rfl 12 (by decide) q1174 rfl rfl dX4_element_58 ?_
        refine lv_bipush (v := 100) hx hb dX4_element_61 (by decide) ?_
        refine lv_iload_n hx hb dX4_element_63 rfl (lv_at hl 2 rfl) ?_
        refine lv_imul hx hb dX4_element_64 ?_
        refine W.eqs (st2 := [.int (nI (100 * jd)), .ref (ad 11)]) (congrArg (fun z : Int32 => Value.int z :: _) (pk_mul 100 jd)) ?_
        refine lv_iload_n hx hb dX4_element_65 rfl (lv_at hl 3 rfl) ?_
        refine lv_iadd hx hb dX4_element_66 ?_
        refine W.eqs (st2 := [.int (nI (100 * jd + ji)), .ref (ad 11)]) (congrArg (fun z : Int32 => Value.int z :: _) (nI_add (100 * jd) ji)) ?_
        refine rw_laldN (n := 800) hx hb hK hR 11 (by decide) rfl (100 * jd + ji) rfl (by omega) (by decide) dX4_element_67 ?_
        exact hQ _ _ _ _ _ (by first | (simp [eltV, eltT, putOk, c_1, c_2, c_4, wrR_at hjd hWd, hWd, nI_clamp (show jd < 2 ^ 31 by omega), nI_clamp (show ji < 2 ^ 31 by omega)]; done) | simp_all [eltV, eltT, putOk, nI_clamp (show jd < 2 ^ 31 by omega), nI_clamp (show ji < 2 ^ 31 by omega)]) (RW.eq hR (by first | (simp [eltT, putOk, c_1, c_2, c_4, wrR_at hjd hWd, hWd, nI_clamp (show jd < 2 ^ 31 by omega), nI_clamp (show ji < 2 ^ 31 by omega)]; done) | simp_all [eltT, putOk, nI_clamp (show jd < 2 ^ 31 by omega), nI_clamp (show ji < 2 ^ 31 by omega)])) dX4_element_68
      · skip
        refine lv_iconst (v := 2) hx hb dX4_element_38 (by decide) ?_
        refine lv_goto (tgt := 43) hx hb dX4_element_39 (by decide) ?_
        refine rw_put hx hb hts in_X4 tyX4 tyX4_ok nmX4 hown hK hR 0 (by decide) rfl rfl 13 (by decide) q1175 rfl rfl rfl rfl (Nat.le_of_ble_eq_true rfl) dX4_element_43 (mE_pX 0 (x := 2) rfl) (fun H locs hR => ?_)
        refine lv_aload_n hx hb dX4_element_46 rfl (lv_at hl 1 rfl) ?_
        refine rw_get (v := .int 2) hx hb hts in_X4 hown hK hR 0 (by decide) rfl rfl 13 (by decide) q1175 rfl rfl dX4_element_47 ?_
        refine lv_if_le (tgt := 57) hx hb dX4_element_50 (by decide) (fun z => absurd z (by decide)) (fun _ => ?_)
        refine lv_lconst (v := 0) hx hb dX4_element_53 (by decide) ?_
        refine lv_goto (tgt := 68) hx hb dX4_element_54 (by decide) ?_
        exact hQ _ _ _ _ _ (by first | (simp [eltV, eltT, putOk, c_1, c_2, c_4, wrR_at hjd hWd, hWd, nI_clamp (show jd < 2 ^ 31 by omega)]; done) | simp_all [eltV, eltT, putOk, nI_clamp (show jd < 2 ^ 31 by omega)]) (RW.eq hR (by first | (simp [eltT, putOk, c_1, c_2, c_4, wrR_at hjd hWd, hWd, nI_clamp (show jd < 2 ^ 31 by omega)]; done) | simp_all [eltT, putOk, nI_clamp (show jd < 2 ^ 31 by omega)])) dX4_element_68
  · skip
    refine lv_iconst (v := 1) hx hb dX4_element_12 (by decide) ?_
    refine lv_goto (tgt := 43) hx hb dX4_element_13 (by decide) ?_
    refine rw_put hx hb hts in_X4 tyX4 tyX4_ok nmX4 hown hK hR 0 (by decide) rfl rfl 13 (by decide) q1175 rfl rfl rfl rfl (Nat.le_of_ble_eq_true rfl) dX4_element_43 (mE_pX 0 (x := 1) rfl) (fun H locs hR => ?_)
    refine lv_aload_n hx hb dX4_element_46 rfl (lv_at hl 1 rfl) ?_
    refine rw_get (v := .int 1) hx hb hts in_X4 hown hK hR 0 (by decide) rfl rfl 13 (by decide) q1175 rfl rfl dX4_element_47 ?_
    refine lv_if_le (tgt := 57) hx hb dX4_element_50 (by decide) (fun z => absurd z (by decide)) (fun _ => ?_)
    refine lv_lconst (v := 0) hx hb dX4_element_53 (by decide) ?_
    refine lv_goto (tgt := 68) hx hb dX4_element_54 (by decide) ?_
    exact hQ _ _ _ _ _ (by first | (simp [eltV, eltT, putOk, c_1]; done) | simp_all [eltV, eltT, putOk]) (RW.eq hR (by first | (simp [eltT, putOk, c_1]; done) | simp_all [eltT, putOk])) dX4_element_68
theorem cd_X4_keep : yX4_keep.cls = RX4 ∧ yX4_keep.cls ≠ "java/lang/invoke/MethodHandle" ∧ yX4_keep.cls ≠ "java/lang/invoke/VarHandle" ∧ (parseMethodDescriptor yX4_keep.desc).map (fun d => d.parameters.length) = some 4 := by decide +kernel
set_option maxHeartbeats 4000000 in
theorem m_X4_keep (l : Launch) (D : va_G) (ca : Nat → ClassId) (n : Nat) (B X : Nat → Nat → Int32) (Y : Nat → Nat → Int64) (kp : Nat) (d : Int32) (w : Int32) (k : Int32) (f : Int32) (hB : wfB n B) : MMi l D ca yX4_keep (ws_ yX4_keep cX4_keep 5 (some .int)) (rmN 1) (fun ad => [.int d, .int w, .int k, .int f]) B X Y kp (if keepOk d w k f = true then 0 else -1) B (oKeepX (st X 0 0 0) d w k f) Y kp := by
  refine MMi_start (by decide) (Or.inl rfl) (fun _ => Nat.le_of_ble_eq_true rfl) ?_
  intro p e s m args below meth c0 ad A Q ls hx hb hml hown hts hK hR hl hQ
  have hl : lv_has ls 5 [(0, .ref (ad 0)), (1, .int d), (2, .int w), (3, .int k), (4, .int f)] := hl
  have hn6 : n ≤ 6 := hB.1
  refine lv_aload_n hx hb dX4_keep_0 rfl (lv_at hl 0 rfl) ?_
  refine lv_iconst (v := 0) hx hb dX4_keep_1 (by decide) ?_
  refine rw_put hx hb hts in_X4 tyX4 tyX4_ok nmX4 hown hK hR 0 (by decide) rfl rfl 13 (by decide) q1175 rfl rfl rfl rfl (Nat.le_of_ble_eq_true rfl) dX4_keep_2 (mE_pX 0 (x := 0) rfl) (fun H locs hR => ?_)
  refine lv_iload_n hx hb dX4_keep_5 rfl (lv_at hl 1 rfl) ?_
  refine lv_i2l (v := (d.toInt64)) hx hb dX4_keep_6 rfl ?_
  refine lv_lconst (v := 0) hx hb dX4_keep_7 (by decide) ?_
  refine lv_ldc2 hx hb hown (hts _ q1287) dX4_keep_8 ?_
  refine rs_calli (rest := []) hx hb hml hown hts hl.1 hR (m_X4_in l (d.toInt64) 0 7) (va_cwS 3 hts (lw_S q1288 q1289 q82 q1290) rfl rfl rfl cd_X4_in ⟨Nat.le_of_ble_eq_true rfl, Nat.le_of_ble_eq_true rfl⟩) rfl rfl (Nat.le_of_ble_eq_true rfl) dX4_keep_11 ⟨Nat.le_refl _, Nat.le_refl _⟩ (fun H locs hR => ?_)
  refine W.eqs (st2 := [.int (bI (inI d 0 7))]) (congrArg (fun b => Value.int (bI b) :: _) (inL_I (v := d) (lo := 0) (hi := 7) (by decide) (by decide))) ?_
  refine lb_eq (tgt := 57) hx hb dX4_keep_14 (by decide) (fun c_1 => ?_) (fun c_1 => ?_)
  · skip
    refine lv_iconst (v := (-1)) hx hb dX4_keep_57 (by decide) ?_
    exact hQ _ _ _ _ _ (by first | (simp [keepOk, c_1]; done) | simp_all [keepOk]) (RW.eq hR (by first | (simp [oKeepX, keepOk, c_1]; done) | simp_all [oKeepX, keepOk])) dX4_keep_58
  · skip
    obtain ⟨jd, hjd, rfl⟩ := inI_nat (k := 7) (by decide) (by decide) c_1
    refine lv_iload_n hx hb dX4_keep_17 rfl (lv_at hl 2 rfl) ?_
    refine lv_i2l (v := (w.toInt64)) hx hb dX4_keep_18 rfl ?_
    refine lv_lconst (v := 0) hx hb dX4_keep_19 (by decide) ?_
    refine lv_lconst (v := 1) hx hb dX4_keep_20 (by decide) ?_
    refine rs_calli (rest := []) hx hb hml hown hts hl.1 hR (m_X4_in l (w.toInt64) 0 1) (va_cwS 3 hts (lw_S q1288 q1289 q82 q1290) rfl rfl rfl cd_X4_in ⟨Nat.le_of_ble_eq_true rfl, Nat.le_of_ble_eq_true rfl⟩) rfl rfl (Nat.le_of_ble_eq_true rfl) dX4_keep_21 ⟨Nat.le_refl _, Nat.le_refl _⟩ (fun H locs hR => ?_)
    refine W.eqs (st2 := [.int (bI (inI w 0 1))]) (congrArg (fun b => Value.int (bI b) :: _) (inL_I (v := w) (lo := 0) (hi := 1) (by decide) (by decide))) ?_
    refine lb_eq (tgt := 57) hx hb dX4_keep_24 (by decide) (fun c_2 => ?_) (fun c_2 => ?_)
    · skip
      refine lv_iconst (v := (-1)) hx hb dX4_keep_57 (by decide) ?_
      exact hQ _ _ _ _ _ (by first | (simp [keepOk, c_1, c_2, nI_clamp (show jd < 2 ^ 31 by omega)]; done) | simp_all [keepOk, nI_clamp (show jd < 2 ^ 31 by omega)]) (RW.eq hR (by first | (simp [oKeepX, keepOk, c_1, c_2, nI_clamp (show jd < 2 ^ 31 by omega)]; done) | simp_all [oKeepX, keepOk, nI_clamp (show jd < 2 ^ 31 by omega)])) dX4_keep_58
    · skip
      refine lv_iload_n hx hb dX4_keep_27 rfl (lv_at hl 2 rfl) ?_
      refine lv_iconst (v := 1) hx hb dX4_keep_28 (by decide) ?_
      refine lv_icmp_ne (tgt := 59) hx hb dX4_keep_29 (by decide) (fun c_3 => ?_) (fun c_3 => ?_)
      · skip
        refine lv_aload_n hx hb dX4_keep_59 rfl (lv_at hl 0 rfl) ?_
        refine rw_get (v := .ref (ad 6)) hx hb hts in_X4 hown hK hR 0 (by decide) rfl rfl 7 (by decide) q1169 rfl rfl dX4_keep_60 ?_
        refine lv_iload_n hx hb dX4_keep_63 rfl (lv_at hl 1 rfl) ?_
        refine lv_iload_n hx hb dX4_keep_64 rfl (lv_at hl 2 rfl) ?_
        refine rw_iastN (n := 8) hx hb hK hR 6 (by decide) rfl jd rfl (by omega) (by decide) dX4_keep_65 (mE_X 6 (by decide)) (fun H locs hR => ?_)
        refine lv_aload_n hx hb dX4_keep_66 rfl (lv_at hl 0 rfl) ?_
        refine rw_get (v := .ref (ad 7)) hx hb hts in_X4 hown hK hR 0 (by decide) rfl rfl 8 (by decide) q1170 rfl rfl dX4_keep_67 ?_
        refine lv_iload_n hx hb dX4_keep_70 rfl (lv_at hl 1 rfl) ?_
        refine lv_iload_n hx hb dX4_keep_71 rfl (lv_at hl 2 rfl) ?_
        refine lv_iconst (v := 1) hx hb dX4_keep_72 (by decide) ?_
        refine lv_icmp_ne (tgt := 80) hx hb dX4_keep_73 (by decide) (fun c_4 => ?_) (fun c_4 => ?_)
        · skip
          refine lv_iconst (v := 0) hx hb dX4_keep_80 (by decide) ?_
          refine rw_iastN (n := 8) hx hb hK hR 7 (by decide) rfl jd rfl (by omega) (by decide) dX4_keep_81 (mE_X 7 (by decide)) (fun H locs hR => ?_)
          refine lv_aload_n hx hb dX4_keep_82 rfl (lv_at hl 0 rfl) ?_
          refine rw_get (v := .ref (ad 8)) hx hb hts in_X4 hown hK hR 0 (by decide) rfl rfl 9 (by decide) q1171 rfl rfl dX4_keep_83 ?_
          refine lv_iload_n hx hb dX4_keep_86 rfl (lv_at hl 1 rfl) ?_
          refine lv_iload_n hx hb dX4_keep_87 rfl (lv_at hl 2 rfl) ?_
          refine lv_iconst (v := 1) hx hb dX4_keep_88 (by decide) ?_
          refine lv_icmp_ne (tgt := 97) hx hb dX4_keep_89 (by decide) (fun c_5 => ?_) (fun c_5 => ?_)
          · skip
            refine lv_iconst (v := 0) hx hb dX4_keep_97 (by decide) ?_
            refine rw_iastN (n := 8) hx hb hK hR 8 (by decide) rfl jd rfl (by omega) (by decide) dX4_keep_98 (mE_X 8 (by decide)) (fun H locs hR => ?_)
            refine lv_iconst (v := 0) hx hb dX4_keep_99 (by decide) ?_
            exact hQ _ _ _ _ _ (by first | (simp [keepOk, c_1, c_2, c_3, c_4, c_5, nI_clamp (show jd < 2 ^ 31 by omega)]; done) | simp_all [keepOk, nI_clamp (show jd < 2 ^ 31 by omega)]) (RW.eq hR (by first | (simp [oKeepX, keepOk, c_1, c_2, c_3, c_4, c_5, nI_clamp (show jd < 2 ^ 31 by omega)]; done) | simp_all [oKeepX, keepOk, nI_clamp (show jd < 2 ^ 31 by omega)])) dX4_keep_100
          · skip
            refine lv_iload hx hb dX4_keep_92 (lv_at hl 4 rfl) ?_
            refine lv_goto (tgt := 98) hx hb dX4_keep_94 (by decide) ?_
            refine rw_iastN (n := 8) hx hb hK hR 8 (by decide) rfl jd rfl (by omega) (by decide) dX4_keep_98 (mE_X 8 (by decide)) (fun H locs hR => ?_)
            refine lv_iconst (v := 0) hx hb dX4_keep_99 (by decide) ?_
            exact hQ _ _ _ _ _ (by first | (simp [keepOk, c_1, c_2, c_3, c_4, c_5, nI_clamp (show jd < 2 ^ 31 by omega)]; done) | simp_all [keepOk, nI_clamp (show jd < 2 ^ 31 by omega)]) (RW.eq hR (by first | (simp [oKeepX, keepOk, c_1, c_2, c_3, c_4, c_5, nI_clamp (show jd < 2 ^ 31 by omega)]; done) | simp_all [oKeepX, keepOk, nI_clamp (show jd < 2 ^ 31 by omega)])) dX4_keep_100
        · skip
          refine lv_iload_n hx hb dX4_keep_76 rfl (lv_at hl 3 rfl) ?_
          refine lv_goto (tgt := 81) hx hb dX4_keep_77 (by decide) ?_
          refine rw_iastN (n := 8) hx hb hK hR 7 (by decide) rfl jd rfl (by omega) (by decide) dX4_keep_81 (mE_X 7 (by decide)) (fun H locs hR => ?_)
          refine lv_aload_n hx hb dX4_keep_82 rfl (lv_at hl 0 rfl) ?_
          refine rw_get (v := .ref (ad 8)) hx hb hts in_X4 hown hK hR 0 (by decide) rfl rfl 9 (by decide) q1171 rfl rfl dX4_keep_83 ?_
          refine lv_iload_n hx hb dX4_keep_86 rfl (lv_at hl 1 rfl) ?_
          refine lv_iload_n hx hb dX4_keep_87 rfl (lv_at hl 2 rfl) ?_
          refine lv_iconst (v := 1) hx hb dX4_keep_88 (by decide) ?_
          refine lv_icmp_ne (tgt := 97) hx hb dX4_keep_89 (by decide) (fun c_6 => ?_) (fun c_6 => ?_)
          · skip
            refine lv_iconst (v := 0) hx hb dX4_keep_97 (by decide) ?_
            refine rw_iastN (n := 8) hx hb hK hR 8 (by decide) rfl jd rfl (by omega) (by decide) dX4_keep_98 (mE_X 8 (by decide)) (fun H locs hR => ?_)
            refine lv_iconst (v := 0) hx hb dX4_keep_99 (by decide) ?_
            exact hQ _ _ _ _ _ (by first | (simp [keepOk, c_1, c_2, c_3, c_4, c_6, nI_clamp (show jd < 2 ^ 31 by omega)]; done) | simp_all [keepOk, nI_clamp (show jd < 2 ^ 31 by omega)]) (RW.eq hR (by first | (simp [oKeepX, keepOk, c_1, c_2, c_3, c_4, c_6, nI_clamp (show jd < 2 ^ 31 by omega)]; done) | simp_all [oKeepX, keepOk, nI_clamp (show jd < 2 ^ 31 by omega)])) dX4_keep_100
          · skip
            refine lv_iload hx hb dX4_keep_92 (lv_at hl 4 rfl) ?_
            refine lv_goto (tgt := 98) hx hb dX4_keep_94 (by decide) ?_
            refine rw_iastN (n := 8) hx hb hK hR 8 (by decide) rfl jd rfl (by omega) (by decide) dX4_keep_98 (mE_X 8 (by decide)) (fun H locs hR => ?_)
            refine lv_iconst (v := 0) hx hb dX4_keep_99 (by decide) ?_
            exact hQ _ _ _ _ _ (by first | (simp [keepOk, c_1, c_2, c_3, c_4, c_6, nI_clamp (show jd < 2 ^ 31 by omega)]; done) | simp_all [keepOk, nI_clamp (show jd < 2 ^ 31 by omega)]) (RW.eq hR (by first | (simp [oKeepX, keepOk, c_1, c_2, c_3, c_4, c_6, nI_clamp (show jd < 2 ^ 31 by omega)]; done) | simp_all [oKeepX, keepOk, nI_clamp (show jd < 2 ^ 31 by omega)])) dX4_keep_100
      · skip
        refine lv_iload_n hx hb dX4_keep_32 rfl (lv_at hl 3 rfl) ?_
        refine lv_i2l (v := (k.toInt64)) hx hb dX4_keep_33 rfl ?_
        refine lv_lconst (v := 0) hx hb dX4_keep_34 (by decide) ?_
        refine lv_ldc2 hx hb hown (hts _ q1287) dX4_keep_35 ?_
        refine rs_calli (rest := []) hx hb hml hown hts hl.1 hR (m_X4_in l (k.toInt64) 0 7) (va_cwS 3 hts (lw_S q1288 q1289 q82 q1290) rfl rfl rfl cd_X4_in ⟨Nat.le_of_ble_eq_true rfl, Nat.le_of_ble_eq_true rfl⟩) rfl rfl (Nat.le_of_ble_eq_true rfl) dX4_keep_38 ⟨Nat.le_refl _, Nat.le_refl _⟩ (fun H locs hR => ?_)
        refine W.eqs (st2 := [.int (bI (inI k 0 7))]) (congrArg (fun b => Value.int (bI b) :: _) (inL_I (v := k) (lo := 0) (hi := 7) (by decide) (by decide))) ?_
        refine lb_eq (tgt := 57) hx hb dX4_keep_41 (by decide) (fun c_7 => ?_) (fun c_7 => ?_)
        · skip
          refine lv_iconst (v := (-1)) hx hb dX4_keep_57 (by decide) ?_
          exact hQ _ _ _ _ _ (by first | (simp [keepOk, c_1, c_2, c_3, c_7, nI_clamp (show jd < 2 ^ 31 by omega)]; done) | simp_all [keepOk, nI_clamp (show jd < 2 ^ 31 by omega)]) (RW.eq hR (by first | (simp [oKeepX, keepOk, c_1, c_2, c_3, c_7, nI_clamp (show jd < 2 ^ 31 by omega)]; done) | simp_all [oKeepX, keepOk, nI_clamp (show jd < 2 ^ 31 by omega)])) dX4_keep_58
        · skip
          refine lv_iload hx hb dX4_keep_44 (lv_at hl 4 rfl) ?_
          refine lv_i2l (v := (f.toInt64)) hx hb dX4_keep_46 rfl ?_
          refine lv_lconst (v := 0) hx hb dX4_keep_47 (by decide) ?_
          refine lv_ldc2 hx hb hown (hts _ q1448) dX4_keep_48 ?_
          refine rs_calli (rest := []) hx hb hml hown hts hl.1 hR (m_X4_in l (f.toInt64) 0 9) (va_cwS 3 hts (lw_S q1288 q1289 q82 q1290) rfl rfl rfl cd_X4_in ⟨Nat.le_of_ble_eq_true rfl, Nat.le_of_ble_eq_true rfl⟩) rfl rfl (Nat.le_of_ble_eq_true rfl) dX4_keep_51 ⟨Nat.le_refl _, Nat.le_refl _⟩ (fun H locs hR => ?_)
          refine W.eqs (st2 := [.int (bI (inI f 0 9))]) (congrArg (fun b => Value.int (bI b) :: _) (inL_I (v := f) (lo := 0) (hi := 9) (by decide) (by decide))) ?_
          refine lb_ne (tgt := 59) hx hb dX4_keep_54 (by decide) (fun c_8 => ?_) (fun c_8 => ?_)
          · skip
            refine lv_aload_n hx hb dX4_keep_59 rfl (lv_at hl 0 rfl) ?_
            refine rw_get (v := .ref (ad 6)) hx hb hts in_X4 hown hK hR 0 (by decide) rfl rfl 7 (by decide) q1169 rfl rfl dX4_keep_60 ?_
            refine lv_iload_n hx hb dX4_keep_63 rfl (lv_at hl 1 rfl) ?_
            refine lv_iload_n hx hb dX4_keep_64 rfl (lv_at hl 2 rfl) ?_
            refine rw_iastN (n := 8) hx hb hK hR 6 (by decide) rfl jd rfl (by omega) (by decide) dX4_keep_65 (mE_X 6 (by decide)) (fun H locs hR => ?_)
            refine lv_aload_n hx hb dX4_keep_66 rfl (lv_at hl 0 rfl) ?_
            refine rw_get (v := .ref (ad 7)) hx hb hts in_X4 hown hK hR 0 (by decide) rfl rfl 8 (by decide) q1170 rfl rfl dX4_keep_67 ?_
            refine lv_iload_n hx hb dX4_keep_70 rfl (lv_at hl 1 rfl) ?_
            refine lv_iload_n hx hb dX4_keep_71 rfl (lv_at hl 2 rfl) ?_
            refine lv_iconst (v := 1) hx hb dX4_keep_72 (by decide) ?_
            refine lv_icmp_ne (tgt := 80) hx hb dX4_keep_73 (by decide) (fun c_9 => ?_) (fun c_9 => ?_)
            · skip
              refine lv_iconst (v := 0) hx hb dX4_keep_80 (by decide) ?_
              refine rw_iastN (n := 8) hx hb hK hR 7 (by decide) rfl jd rfl (by omega) (by decide) dX4_keep_81 (mE_X 7 (by decide)) (fun H locs hR => ?_)
              refine lv_aload_n hx hb dX4_keep_82 rfl (lv_at hl 0 rfl) ?_
              refine rw_get (v := .ref (ad 8)) hx hb hts in_X4 hown hK hR 0 (by decide) rfl rfl 9 (by decide) q1171 rfl rfl dX4_keep_83 ?_
              refine lv_iload_n hx hb dX4_keep_86 rfl (lv_at hl 1 rfl) ?_
              refine lv_iload_n hx hb dX4_keep_87 rfl (lv_at hl 2 rfl) ?_
              refine lv_iconst (v := 1) hx hb dX4_keep_88 (by decide) ?_
              refine lv_icmp_ne (tgt := 97) hx hb dX4_keep_89 (by decide) (fun c_10 => ?_) (fun c_10 => ?_)
              · skip
                refine lv_iconst (v := 0) hx hb dX4_keep_97 (by decide) ?_
                refine rw_iastN (n := 8) hx hb hK hR 8 (by decide) rfl jd rfl (by omega) (by decide) dX4_keep_98 (mE_X 8 (by decide)) (fun H locs hR => ?_)
                refine lv_iconst (v := 0) hx hb dX4_keep_99 (by decide) ?_
                exact hQ _ _ _ _ _ (by first | (simp [keepOk, c_1, c_2, c_3, c_7, c_8, c_9, c_10, nI_clamp (show jd < 2 ^ 31 by omega)]; done) | simp_all [keepOk, nI_clamp (show jd < 2 ^ 31 by omega)]) (RW.eq hR (by first | (simp [oKeepX, keepOk, c_1, c_2, c_3, c_7, c_8, c_9, c_10, nI_clamp (show jd < 2 ^ 31 by omega)]; done) | simp_all [oKeepX, keepOk, nI_clamp (show jd < 2 ^ 31 by omega)])) dX4_keep_100
              · skip
                refine lv_iload hx hb dX4_keep_92 (lv_at hl 4 rfl) ?_
                refine lv_goto (tgt := 98) hx hb dX4_keep_94 (by decide) ?_
                refine rw_iastN (n := 8) hx hb hK hR 8 (by decide) rfl jd rfl (by omega) (by decide) dX4_keep_98 (mE_X 8 (by decide)) (fun H locs hR => ?_)
                refine lv_iconst (v := 0) hx hb dX4_keep_99 (by decide) ?_
                exact hQ _ _ _ _ _ (by first | (simp [keepOk, c_1, c_2, c_3, c_7, c_8, c_9, c_10, nI_clamp (show jd < 2 ^ 31 by omega)]; done) | simp_all [keepOk, nI_clamp (show jd < 2 ^ 31 by omega)]) (RW.eq hR (by first | (simp [oKeepX, keepOk, c_1, c_2, c_3, c_7, c_8, c_9, c_10, nI_clamp (show jd < 2 ^ 31 by omega)]; done) | simp_all [oKeepX, keepOk, nI_clamp (show jd < 2 ^ 31 by omega)])) dX4_keep_100
            · skip
              refine lv_iload_n hx hb dX4_keep_76 rfl (lv_at hl 3 rfl) ?_
              refine lv_goto (tgt := 81) hx hb dX4_keep_77 (by decide) ?_
              refine rw_iastN (n := 8) hx hb hK hR 7 (by decide) rfl jd rfl (by omega) (by decide) dX4_keep_81 (mE_X 7 (by decide)) (fun H locs hR => ?_)
              refine lv_aload_n hx hb dX4_keep_82 rfl (lv_at hl 0 rfl) ?_
              refine rw_get (v := .ref (ad 8)) hx hb hts in_X4 hown hK hR 0 (by decide) rfl rfl 9 (by decide) q1171 rfl rfl dX4_keep_83 ?_
              refine lv_iload_n hx hb dX4_keep_86 rfl (lv_at hl 1 rfl) ?_
              refine lv_iload_n hx hb dX4_keep_87 rfl (lv_at hl 2 rfl) ?_
              refine lv_iconst (v := 1) hx hb dX4_keep_88 (by decide) ?_
              refine lv_icmp_ne (tgt := 97) hx hb dX4_keep_89 (by decide) (fun c_11 => ?_) (fun c_11 => ?_)
              · skip
                refine lv_iconst (v := 0) hx hb dX4_keep_97 (by decide) ?_
                refine rw_iastN (n := 8) hx hb hK hR 8 (by decide) rfl jd rfl (by omega) (by decide) dX4_keep_98 (mE_X 8 (by decide)) (fun H locs hR => ?_)
                refine lv_iconst (v := 0) hx hb dX4_keep_99 (by decide) ?_
                exact hQ _ _ _ _ _ (by first | (simp [keepOk, c_1, c_2, c_3, c_7, c_8, c_9, c_11, nI_clamp (show jd < 2 ^ 31 by omega)]; done) | simp_all [keepOk, nI_clamp (show jd < 2 ^ 31 by omega)]) (RW.eq hR (by first | (simp [oKeepX, keepOk, c_1, c_2, c_3, c_7, c_8, c_9, c_11, nI_clamp (show jd < 2 ^ 31 by omega)]; done) | simp_all [oKeepX, keepOk, nI_clamp (show jd < 2 ^ 31 by omega)])) dX4_keep_100
              · skip
                refine lv_iload hx hb dX4_keep_92 (lv_at hl 4 rfl) ?_
                refine lv_goto (tgt := 98) hx hb dX4_keep_94 (by decide) ?_
                refine rw_iastN (n := 8) hx hb hK hR 8 (by decide) rfl jd rfl (by omega) (by decide) dX4_keep_98 (mE_X 8 (by decide)) (fun H locs hR => ?_)
                refine lv_iconst (v := 0) hx hb dX4_keep_99 (by decide) ?_
                exact hQ _ _ _ _ _ (by first | (simp [keepOk, c_1, c_2, c_3, c_7, c_8, c_9, c_11, nI_clamp (show jd < 2 ^ 31 by omega)]; done) | simp_all [keepOk, nI_clamp (show jd < 2 ^ 31 by omega)]) (RW.eq hR (by first | (simp [oKeepX, keepOk, c_1, c_2, c_3, c_7, c_8, c_9, c_11, nI_clamp (show jd < 2 ^ 31 by omega)]; done) | simp_all [oKeepX, keepOk, nI_clamp (show jd < 2 ^ 31 by omega)])) dX4_keep_100
          · skip
            refine lv_iconst (v := (-1)) hx hb dX4_keep_57 (by decide) ?_
            exact hQ _ _ _ _ _ (by first | (simp [keepOk, c_1, c_2, c_3, c_7, c_8, nI_clamp (show jd < 2 ^ 31 by omega)]; done) | simp_all [keepOk, nI_clamp (show jd < 2 ^ 31 by omega)]) (RW.eq hR (by first | (simp [oKeepX, keepOk, c_1, c_2, c_3, c_7, c_8, nI_clamp (show jd < 2 ^ 31 by omega)]; done) | simp_all [oKeepX, keepOk, nI_clamp (show jd < 2 ^ 31 by omega)])) dX4_keep_58
theorem cd_X4_row : yX4_row.cls = RX4 ∧ yX4_row.cls ≠ "java/lang/invoke/MethodHandle" ∧ yX4_row.cls ≠ "java/lang/invoke/VarHandle" ∧ (parseMethodDescriptor yX4_row.desc).map (fun d => d.parameters.length) = some 3 := by decide +kernel
set_option maxHeartbeats 4000000 in
theorem m_X4_row (l : Launch) (D : va_G) (ca : Nat → ClassId) (n : Nat) (B X : Nat → Nat → Int32) (Y : Nat → Nat → Int64) (kp : Nat) (d : Int32) (z : Int32) (x : Int32) (hB : wfB n B) : MMi l D ca yX4_row (ws_ yX4_row cX4_row 5 (some .int)) (rmN 1) (fun ad => [.int d, .int z, .int x]) B X Y kp (oRow d z x) B (oRowX (st X 0 0 0) d z x) (oRowY Y d z x) kp := by
  refine MMi_start (by decide) (Or.inl rfl) (fun _ => Nat.le_of_ble_eq_true rfl) ?_
  intro p e s m args below meth c0 ad A Q ls hx hb hml hown hts hK hR hl hQ
  have hl : lv_has ls 5 [(0, .ref (ad 0)), (1, .int d), (2, .int z), (3, .int x)] := hl
  have hn6 : n ≤ 6 := hB.1
  refine lv_aload_n hx hb dX4_row_0 rfl (lv_at hl 0 rfl) ?_
  refine lv_iconst (v := 0) hx hb dX4_row_1 (by decide) ?_
  refine rw_put hx hb hts in_X4 tyX4 tyX4_ok nmX4 hown hK hR 0 (by decide) rfl rfl 13 (by decide) q1175 rfl rfl rfl rfl (Nat.le_of_ble_eq_true rfl) dX4_row_2 (mE_pX 0 (x := 0) rfl) (fun H locs hR => ?_)
  refine lv_iload_n hx hb dX4_row_5 rfl (lv_at hl 1 rfl) ?_
  refine lv_i2l (v := (d.toInt64)) hx hb dX4_row_6 rfl ?_
  refine lv_lconst (v := 0) hx hb dX4_row_7 (by decide) ?_
  refine lv_ldc2 hx hb hown (hts _ q1287) dX4_row_8 ?_
  refine rs_calli (rest := []) hx hb hml hown hts hl.1 hR (m_X4_in l (d.toInt64) 0 7) (va_cwS 3 hts (lw_S q1288 q1289 q82 q1290) rfl rfl rfl cd_X4_in ⟨Nat.le_of_ble_eq_true rfl, Nat.le_of_ble_eq_true rfl⟩) rfl rfl (Nat.le_of_ble_eq_true rfl) dX4_row_11 ⟨Nat.le_refl _, Nat.le_refl _⟩ (fun H locs hR => ?_)
  refine W.eqs (st2 := [.int (bI (inI d 0 7))]) (congrArg (fun b => Value.int (bI b) :: _) (inL_I (v := d) (lo := 0) (hi := 7) (by decide) (by decide))) ?_
  refine lb_eq (tgt := 35) hx hb dX4_row_14 (by decide) (fun c_1 => ?_) (fun c_1 => ?_)
  · skip
    refine lv_iconst (v := (-1)) hx hb dX4_row_35 (by decide) ?_
    exact hQ _ _ _ _ _ (by first | (simp [oRow, rowOk, c_1]; done) | simp_all [oRow, rowOk]) (RW.eq hR (by first | (simp [oRowX, oRowY, rowOk, c_1]; done) | simp_all [oRowX, oRowY, rowOk])) dX4_row_36
  · skip
    obtain ⟨jd, hjd, rfl⟩ := inI_nat (k := 7) (by decide) (by decide) c_1
    refine lv_iload_n hx hb dX4_row_17 rfl (lv_at hl 2 rfl) ?_
    refine lv_i2l (v := (z.toInt64)) hx hb dX4_row_18 rfl ?_
    refine lv_lconst (v := 0) hx hb dX4_row_19 (by decide) ?_
    refine lv_ldc2 hx hb hown (hts _ q1557) dX4_row_20 ?_
    refine rs_calli (rest := []) hx hb hml hown hts hl.1 hR (m_X4_in l (z.toInt64) 0 2) (va_cwS 3 hts (lw_S q1288 q1289 q82 q1290) rfl rfl rfl cd_X4_in ⟨Nat.le_of_ble_eq_true rfl, Nat.le_of_ble_eq_true rfl⟩) rfl rfl (Nat.le_of_ble_eq_true rfl) dX4_row_23 ⟨Nat.le_refl _, Nat.le_refl _⟩ (fun H locs hR => ?_)
    refine W.eqs (st2 := [.int (bI (inI z 0 2))]) (congrArg (fun b => Value.int (bI b) :: _) (inL_I (v := z) (lo := 0) (hi := 2) (by decide) (by decide))) ?_
    refine lb_eq (tgt := 35) hx hb dX4_row_26 (by decide) (fun c_2 => ?_) (fun c_2 => ?_)
    · skip
      refine lv_iconst (v := (-1)) hx hb dX4_row_35 (by decide) ?_
      exact hQ _ _ _ _ _ (by first | (simp [oRow, rowOk, c_1, c_2, nI_clamp (show jd < 2 ^ 31 by omega)]; done) | simp_all [oRow, rowOk, nI_clamp (show jd < 2 ^ 31 by omega)]) (RW.eq hR (by first | (simp [oRowX, oRowY, rowOk, c_1, c_2, nI_clamp (show jd < 2 ^ 31 by omega)]; done) | simp_all [oRowX, oRowY, rowOk, nI_clamp (show jd < 2 ^ 31 by omega)])) dX4_row_36
    · skip
      refine lv_iload_n hx hb dX4_row_29 rfl (lv_at hl 3 rfl) ?_
      refine lv_bipush (v := 100) hx hb dX4_row_30 (by decide) ?_
      refine lj_le (tgt := 37) hx hb dX4_row_32 (by decide) (fun c_3 => ?_) (fun c_3 => ?_)
      · skip
        refine lv_iload_n hx hb dX4_row_37 rfl (lv_at hl 3 rfl) ?_
        refine lz_ge (tgt := 44) hx hb dX4_row_38 (by decide) (fun c_4 => ?_) (fun c_4 => ?_)
        · skip
          refine lv_aload_n hx hb dX4_row_44 rfl (lv_at hl 0 rfl) ?_
          refine rw_get (v := .ref (ad 6)) hx hb hts in_X4 hown hK hR 0 (by decide) rfl rfl 7 (by decide) q1169 rfl rfl dX4_row_45 ?_
          refine lv_iload_n hx hb dX4_row_48 rfl (lv_at hl 1 rfl) ?_
          refine lv_iconst (v := 2) hx hb dX4_row_49 (by decide) ?_
          refine rw_iastN (n := 8) hx hb hK hR 6 (by decide) rfl jd rfl (by omega) (by decide) dX4_row_50 (mE_X 6 (by decide)) (fun H locs hR => ?_)
          refine lv_aload_n hx hb dX4_row_51 rfl (lv_at hl 0 rfl) ?_
          refine rw_get (v := .ref (ad 9)) hx hb hts in_X4 hown hK hR 0 (by decide) rfl rfl 10 (by decide) q1172 rfl rfl dX4_row_52 ?_
          refine lv_iload_n hx hb dX4_row_55 rfl (lv_at hl 1 rfl) ?_
          refine lv_iload_n hx hb dX4_row_56 rfl (lv_at hl 2 rfl) ?_
          refine rw_iastN (n := 8) hx hb hK hR 9 (by decide) rfl jd rfl (by omega) (by decide) dX4_row_57 (mE_X 9 (by decide)) (fun H locs hR => ?_)
          refine lv_aload_n hx hb dX4_row_58 rfl (lv_at hl 0 rfl) ?_
          refine rw_get (v := .ref (ad 10)) hx hb hts in_X4 hown hK hR 0 (by decide) rfl rfl 11 (by decide) q1173 rfl rfl dX4_row_59 ?_
          refine lv_iload_n hx hb dX4_row_62 rfl (lv_at hl 1 rfl) ?_
          refine lv_iload_n hx hb dX4_row_63 rfl (lv_at hl 3 rfl) ?_
          refine rw_iastN (n := 8) hx hb hK hR 10 (by decide) rfl jd rfl (by omega) (by decide) dX4_row_64 (mE_X 10 (by decide)) (fun H locs hR => ?_)
          refine lv_iconst (v := 0) hx hb dX4_row_65 (by decide) ?_
          refine lv_istore (lv' := [(4, .int 0), (0, .ref (ad 0)), (1, .int (nI jd)), (2, .int z), (3, .int x)]) hx hb dX4_row_66 hl (by decide) rfl (fun ls hl => ?_)
          have loop_68 : ∀ (nn : Nat) (i : Nat), 100 - i < nn → (i ≤ 100) → ∀ (H : Heap) (locs : List Loc), RW D 23 ad (mE ca ad B (st (st (st (st X 0 0 0) 6 jd 2) 9 jd z) 10 jd x) (zerTo Y jd i) kp) A s.heap H locs → ∀ (ls : Array Slot), lv_has ls 5 [(0, .ref (ad 0)), (1, .int (nI jd)), (2, .int z), (3, .int x), (4, .int (nI i))] → W p l e (rmN 1) s m args below meth c0 H locs 0 0 Q (F0 m 68 ls []) := by
            intro nn
            induction nn with
            | zero => intro i hm; exact absurd hm (Nat.not_lt_zero _)
            | succ nn ih_68 =>
              intro i hm_68 hi H locs hR ls hl
              refine lv_iload hx hb dX4_row_68 (lv_at hl 4 rfl) ?_
              refine lv_bipush (v := 100) hx hb dX4_row_70 (by decide) ?_
              refine ln_ge (tgt := 94) hx hb (i) (100) rfl (by decide) (by omega) (by decide) dX4_row_72 (by decide) (fun c_5 => ?_) (fun c_5 => ?_)
              · skip
                refine lv_iconst (v := 0) hx hb dX4_row_94 (by decide) ?_
                exact hQ _ _ _ _ _ (by first | (simp [oRow, rowOk, c_1, c_2, c_3, c_4, c_5, Nat.not_lt.mpr c_5, nI_clamp (show jd < 2 ^ 31 by omega)]; done) | simp_all [oRow, rowOk, nI_clamp (show jd < 2 ^ 31 by omega)]) (RW.eq hR (by rw [show i = 100 by omega]; first | (simp [oRowX, oRowY, rowOk, c_1, c_2, c_3, c_4, c_5, Nat.not_lt.mpr c_5, nI_clamp (show jd < 2 ^ 31 by omega)]; done) | simp_all [oRowX, oRowY, rowOk, nI_clamp (show jd < 2 ^ 31 by omega)])) dX4_row_95
              · skip
                refine lv_aload_n hx hb dX4_row_75 rfl (lv_at hl 0 rfl) ?_
                refine rw_get (v := .ref (ad 11)) hx hb hts in_X4 hown hK hR 0 (by decide) rfl rfl 12 (by decide) q1174 rfl rfl dX4_row_76 ?_
                refine lv_bipush (v := 100) hx hb dX4_row_79 (by decide) ?_
                refine lv_iload_n hx hb dX4_row_81 rfl (lv_at hl 1 rfl) ?_
                refine lv_imul hx hb dX4_row_82 ?_
                refine W.eqs (st2 := [.int (nI (100 * jd)), .ref (ad 11)]) (congrArg (fun z : Int32 => Value.int z :: _) (pk_mul 100 jd)) ?_
                refine lv_iload hx hb dX4_row_83 (lv_at hl 4 rfl) ?_
                refine lv_iadd hx hb dX4_row_85 ?_
                refine W.eqs (st2 := [.int (nI (100 * jd + i)), .ref (ad 11)]) (congrArg (fun z : Int32 => Value.int z :: _) (nI_add (100 * jd) i)) ?_
                refine lv_lconst (v := 0) hx hb dX4_row_86 (by decide) ?_
                refine rw_lastN (n := 800) hx hb hK hR 11 (by decide) rfl (100 * jd + i) rfl (by omega) (by decide) dX4_row_87 (mE_Y 11 (by decide)) (fun H locs hR => ?_)
                refine lv_iinc (v := (nI (i + 1))) (lv' := [(4, .int (nI (i + 1))), (0, .ref (ad 0)), (1, .int (nI jd)), (2, .int z), (3, .int x)]) hx hb dX4_row_88 hl (k := 4) rfl (nI_1 i) (by decide) rfl (fun ls hl => ?_)
                refine lv_goto (tgt := 68) hx hb dX4_row_91 (by decide) ?_
                exact ih_68 (i + 1) (by omega) (by omega) _ _ (RW.eq hR (by rfl)) ls (lv_sub hl [1, 2, 3, 4, 0] rfl)
          exact loop_68 _ 0 (Nat.lt_succ_self _) (by omega) _ _ (RW.eq hR (by rfl)) ls (lv_sub hl [1, 2, 3, 4, 0] rfl)
        · skip
          refine lv_bipush (v := (-14)) hx hb dX4_row_41 (by decide) ?_
          exact hQ _ _ _ _ _ (by first | (simp [oRow, rowOk, c_1, c_2, c_3, c_4, nI_clamp (show jd < 2 ^ 31 by omega)]; done) | simp_all [oRow, rowOk, nI_clamp (show jd < 2 ^ 31 by omega)]) (RW.eq hR (by first | (simp [oRowX, oRowY, rowOk, c_1, c_2, c_3, c_4, nI_clamp (show jd < 2 ^ 31 by omega)]; done) | simp_all [oRowX, oRowY, rowOk, nI_clamp (show jd < 2 ^ 31 by omega)])) dX4_row_43
      · skip
        refine lv_iconst (v := (-1)) hx hb dX4_row_35 (by decide) ?_
        exact hQ _ _ _ _ _ (by first | (simp [oRow, rowOk, c_1, c_2, c_3, nI_clamp (show jd < 2 ^ 31 by omega)]; done) | simp_all [oRow, rowOk, nI_clamp (show jd < 2 ^ 31 by omega)]) (RW.eq hR (by first | (simp [oRowX, oRowY, rowOk, c_1, c_2, c_3, nI_clamp (show jd < 2 ^ 31 by omega)]; done) | simp_all [oRowX, oRowY, rowOk, nI_clamp (show jd < 2 ^ 31 by omega)])) dX4_row_36
theorem cd_X4_cost : yX4_cost.cls = RX4 ∧ yX4_cost.cls ≠ "java/lang/invoke/MethodHandle" ∧ yX4_cost.cls ≠ "java/lang/invoke/VarHandle" ∧ (parseMethodDescriptor yX4_cost.desc).map (fun d => d.parameters.length) = some 1 := by decide +kernel
set_option maxHeartbeats 4000000 in
theorem m_X4_cost (l : Launch) (D : va_G) (ca : Nat → ClassId) (n : Nat) (B X : Nat → Nat → Int32) (Y : Nat → Nat → Int64) (kp : Nat) (d : Int32) (hB : wfB n B) : MMi l D ca yX4_cost (ws_ yX4_cost cX4_cost 2 (some .int)) (rmN 2) (fun ad => [.int d]) B X Y kp (oCost X d) B (st X 0 0 0) Y kp := by
  refine MMi_start (by decide) (Or.inl rfl) (fun _ => Nat.le_of_ble_eq_true rfl) ?_
  intro p e s m args below meth c0 ad A Q ls hx hb hml hown hts hK hR hl hQ
  have hl : lv_has ls 2 [(0, .ref (ad 0)), (1, .int d)] := hl
  have hn6 : n ≤ 6 := hB.1
  refine lv_aload_n hx hb dX4_cost_0 rfl (lv_at hl 0 rfl) ?_
  refine lv_iconst (v := 0) hx hb dX4_cost_1 (by decide) ?_
  refine rw_put hx hb hts in_X4 tyX4 tyX4_ok nmX4 hown hK hR 0 (by decide) rfl rfl 13 (by decide) q1175 rfl rfl rfl rfl (Nat.le_of_ble_eq_true rfl) dX4_cost_2 (mE_pX 0 (x := 0) rfl) (fun H locs hR => ?_)
  refine lv_aload_n hx hb dX4_cost_5 rfl (lv_at hl 0 rfl) ?_
  refine lv_iload_n hx hb dX4_cost_6 rfl (lv_at hl 1 rfl) ?_
  refine mm_calli (rest := []) hx hb hml hown hts hK hl.1 hR (m_X4_wrongKept l D ca B (st X 0 0 0) Y kp d) (cwV 1 hts (lw_V q1427 q1429 qs61 q82 q1430) rfl rfl rfl cd_X4_wrongKept ⟨Nat.le_of_ble_eq_true rfl, Nat.le_of_ble_eq_true rfl⟩) rfl rfl (Nat.le_of_ble_eq_true rfl) dX4_cost_7 ⟨Nat.le_refl _, Nat.le_refl _⟩ (fun H locs hR => ?_)
  refine W.eqs (st2 := [.int (wrK (X 6) d)]) rfl ?_
  refine lz_ge (tgt := 21) hx hb dX4_cost_10 (by decide) (fun c_1 => ?_) (fun c_1 => ?_)
  · skip
    obtain ⟨jd, hjd, rfl, hWd⟩ := wrK_0 c_1
    refine lv_aload_n hx hb dX4_cost_21 rfl (lv_at hl 0 rfl) ?_
    refine rw_get (v := .ref (ad 7)) hx hb hts in_X4 hown hK hR 0 (by decide) rfl rfl 8 (by decide) q1170 rfl rfl dX4_cost_22 ?_
    refine lv_iload_n hx hb dX4_cost_25 rfl (lv_at hl 1 rfl) ?_
    refine rw_ialdN (n := 8) hx hb hK hR 7 (by decide) rfl jd rfl (by omega) (by decide) dX4_cost_26 ?_
    refine W.eqs (st2 := [.int (X 7 jd)]) rfl ?_
    refine lv_aload_n hx hb dX4_cost_27 rfl (lv_at hl 0 rfl) ?_
    refine rw_get (v := .ref (ad 8)) hx hb hts in_X4 hown hK hR 0 (by decide) rfl rfl 9 (by decide) q1171 rfl rfl dX4_cost_28 ?_
    refine lv_iload_n hx hb dX4_cost_31 rfl (lv_at hl 1 rfl) ?_
    refine rw_ialdN (n := 8) hx hb hK hR 8 (by decide) rfl jd rfl (by omega) (by decide) dX4_cost_32 ?_
    refine W.eqs (st2 := [.int (X 8 jd), .int (X 7 jd)]) rfl ?_
    refine rs_calli (rest := []) hx hb hml hown hts hl.1 hR (m_X4_costOf l (X 7 jd) (X 8 jd)) (va_cwS 2 hts (lw_S q1656 q1657 q82 q1658) rfl rfl rfl cd_X4_costOf ⟨Nat.le_of_ble_eq_true rfl, Nat.le_of_ble_eq_true rfl⟩) rfl rfl (Nat.le_of_ble_eq_true rfl) dX4_cost_33 ⟨Nat.le_refl _, Nat.le_refl _⟩ (fun H locs hR => ?_)
    exact hQ _ _ _ _ _ (by first | (simp [oCost, c_1, wrK_at hjd hWd, hWd, nI_clamp (show jd < 2 ^ 31 by omega)]; done) | simp_all [oCost, nI_clamp (show jd < 2 ^ 31 by omega)]) hR dX4_cost_36
  · skip
    refine lv_aload_n hx hb dX4_cost_13 rfl (lv_at hl 0 rfl) ?_
    refine lv_iload_n hx hb dX4_cost_14 rfl (lv_at hl 1 rfl) ?_
    refine mm_calli (rest := []) hx hb hml hown hts hK hl.1 hR (m_X4_wrongKept l D ca B (st X 0 0 0) Y kp d) (cwV 1 hts (lw_V q1427 q1429 qs61 q82 q1430) rfl rfl rfl cd_X4_wrongKept ⟨Nat.le_of_ble_eq_true rfl, Nat.le_of_ble_eq_true rfl⟩) rfl rfl (Nat.le_of_ble_eq_true rfl) dX4_cost_15 ⟨Nat.le_refl _, Nat.le_refl _⟩ (fun H locs hR => ?_)
    refine W.eqs (st2 := [.int (wrK (X 6) d)]) rfl ?_
    refine lv_goto (tgt := 36) hx hb dX4_cost_18 (by decide) ?_
    exact hQ _ _ _ _ _ (by first | (simp [oCost, c_1]; done) | simp_all [oCost]) hR dX4_cost_36
theorem cd_X4_toss : yX4_toss.cls = RX4 ∧ yX4_toss.cls ≠ "java/lang/invoke/MethodHandle" ∧ yX4_toss.cls ≠ "java/lang/invoke/VarHandle" ∧ (parseMethodDescriptor yX4_toss.desc).map (fun d => d.parameters.length) = some 1 := by decide +kernel
set_option maxHeartbeats 4000000 in
theorem m_X4_toss (l : Launch) (D : va_G) (ca : Nat → ClassId) (n : Nat) (B X : Nat → Nat → Int32) (Y : Nat → Nat → Int64) (kp : Nat) (d : Int32) (hB : wfB n B) : MMi l D ca yX4_toss (ws_ yX4_toss cX4_toss 4 (some .int)) (rmN 2) (fun ad => [.int d]) B X Y kp (oToss X d) B (st X 0 0 0) Y kp := by
  refine MMi_start (by decide) (Or.inl rfl) (fun _ => Nat.le_of_ble_eq_true rfl) ?_
  intro p e s m args below meth c0 ad A Q ls hx hb hml hown hts hK hR hl hQ
  have hl : lv_has ls 4 [(0, .ref (ad 0)), (1, .int d)] := hl
  have hn6 : n ≤ 6 := hB.1
  refine lv_aload_n hx hb dX4_toss_0 rfl (lv_at hl 0 rfl) ?_
  refine lv_iconst (v := 0) hx hb dX4_toss_1 (by decide) ?_
  refine rw_put hx hb hts in_X4 tyX4 tyX4_ok nmX4 hown hK hR 0 (by decide) rfl rfl 13 (by decide) q1175 rfl rfl rfl rfl (Nat.le_of_ble_eq_true rfl) dX4_toss_2 (mE_pX 0 (x := 0) rfl) (fun H locs hR => ?_)
  refine lv_aload_n hx hb dX4_toss_5 rfl (lv_at hl 0 rfl) ?_
  refine lv_iload_n hx hb dX4_toss_6 rfl (lv_at hl 1 rfl) ?_
  refine mm_calli (rest := []) hx hb hml hown hts hK hl.1 hR (m_X4_wrongKept l D ca B (st X 0 0 0) Y kp d) (cwV 1 hts (lw_V q1427 q1429 qs61 q82 q1430) rfl rfl rfl cd_X4_wrongKept ⟨Nat.le_of_ble_eq_true rfl, Nat.le_of_ble_eq_true rfl⟩) rfl rfl (Nat.le_of_ble_eq_true rfl) dX4_toss_7 ⟨Nat.le_refl _, Nat.le_refl _⟩ (fun H locs hR => ?_)
  refine W.eqs (st2 := [.int (wrK (X 6) d)]) rfl ?_
  refine lz_ge (tgt := 19) hx hb dX4_toss_10 (by decide) (fun c_1 => ?_) (fun c_1 => ?_)
  · skip
    obtain ⟨jd, hjd, rfl, hWd⟩ := wrK_0 c_1
    refine lv_aload_n hx hb dX4_toss_19 rfl (lv_at hl 0 rfl) ?_
    refine rw_get (v := .ref (ad 7)) hx hb hts in_X4 hown hK hR 0 (by decide) rfl rfl 8 (by decide) q1170 rfl rfl dX4_toss_20 ?_
    refine lv_iload_n hx hb dX4_toss_23 rfl (lv_at hl 1 rfl) ?_
    refine rw_ialdN (n := 8) hx hb hK hR 7 (by decide) rfl jd rfl (by omega) (by decide) dX4_toss_24 ?_
    refine W.eqs (st2 := [.int (X 7 jd)]) rfl ?_
    refine lv_istore_n (lv' := [(2, .int (X 7 jd)), (0, .ref (ad 0)), (1, .int (nI jd))]) hx hb dX4_toss_25 rfl hl (by decide) rfl (fun ls hl => ?_)
    refine lv_aload_n hx hb dX4_toss_26 rfl (lv_at hl 1 rfl) ?_
    refine rw_get (v := .ref (ad 8)) hx hb hts in_X4 hown hK hR 0 (by decide) rfl rfl 9 (by decide) q1171 rfl rfl dX4_toss_27 ?_
    refine lv_iload_n hx hb dX4_toss_30 rfl (lv_at hl 2 rfl) ?_
    refine rw_ialdN (n := 8) hx hb hK hR 8 (by decide) rfl jd rfl (by omega) (by decide) dX4_toss_31 ?_
    refine W.eqs (st2 := [.int (X 8 jd)]) rfl ?_
    refine lv_istore_n (lv' := [(3, .int (X 8 jd)), (2, .int (X 7 jd)), (0, .ref (ad 0)), (1, .int (nI jd))]) hx hb dX4_toss_32 rfl hl (by decide) rfl (fun ls hl => ?_)
    refine lv_iload_n hx hb dX4_toss_33 rfl (lv_at hl 1 rfl) ?_
    refine lv_iconst (v := 2) hx hb dX4_toss_34 (by decide) ?_
    refine lv_icmp_eq (tgt := 53) hx hb dX4_toss_35 (by decide) (fun c_2 => ?_) (fun c_2 => ?_)
    · skip
      refine lv_bipush (v := (-15)) hx hb dX4_toss_53 (by decide) ?_
      exact hQ _ _ _ _ _ (by first | (simp [oToss, tossF, c_1, c_2, wrK_at hjd hWd, hWd, nI_clamp (show jd < 2 ^ 31 by omega)]; done) | simp_all [oToss, tossF, nI_clamp (show jd < 2 ^ 31 by omega)]) hR dX4_toss_55
    · skip
      refine lv_iload_n hx hb dX4_toss_38 rfl (lv_at hl 1 rfl) ?_
      refine lv_iconst (v := 3) hx hb dX4_toss_39 (by decide) ?_
      refine lv_icmp_eq (tgt := 53) hx hb dX4_toss_40 (by decide) (fun c_3 => ?_) (fun c_3 => ?_)
      · skip
        refine lv_bipush (v := (-15)) hx hb dX4_toss_53 (by decide) ?_
        exact hQ _ _ _ _ _ (by first | (simp [oToss, tossF, c_1, c_2, c_3, wrK_at hjd hWd, hWd, nI_clamp (show jd < 2 ^ 31 by omega)]; done) | simp_all [oToss, tossF, nI_clamp (show jd < 2 ^ 31 by omega)]) hR dX4_toss_55
      · skip
        refine lv_iload_n hx hb dX4_toss_43 rfl (lv_at hl 1 rfl) ?_
        refine lv_bipush (v := 6) hx hb dX4_toss_44 (by decide) ?_
        refine lv_icmp_eq (tgt := 53) hx hb dX4_toss_46 (by decide) (fun c_4 => ?_) (fun c_4 => ?_)
        · skip
          refine lv_bipush (v := (-15)) hx hb dX4_toss_53 (by decide) ?_
          exact hQ _ _ _ _ _ (by first | (simp [oToss, tossF, c_1, c_2, c_3, c_4, wrK_at hjd hWd, hWd, nI_clamp (show jd < 2 ^ 31 by omega)]; done) | simp_all [oToss, tossF, nI_clamp (show jd < 2 ^ 31 by omega)]) hR dX4_toss_55
        · skip
          refine lv_iload_n hx hb dX4_toss_49 rfl (lv_at hl 0 rfl) ?_
          refine lv_if_ne (tgt := 56) hx hb dX4_toss_50 (by decide) (fun c_5 => ?_) (fun c_5 => ?_)
          · skip
            refine lv_iload_n hx hb dX4_toss_56 rfl (lv_at hl 1 rfl) ?_
            refine lv_if_ne (tgt := 64) hx hb dX4_toss_57 (by decide) (fun c_6 => ?_) (fun c_6 => ?_)
            · skip
              refine lv_iload_n hx hb dX4_toss_64 rfl (lv_at hl 1 rfl) ?_
              refine lv_bipush (v := 7) hx hb dX4_toss_65 (by decide) ?_
              refine lv_icmp_ne (tgt := 82) hx hb dX4_toss_67 (by decide) (fun c_7 => ?_) (fun c_7 => ?_)
              · skip
                refine lv_bipush (v := 100) hx hb dX4_toss_82 (by decide) ?_
                refine lv_iload_n hx hb dX4_toss_84 rfl (lv_at hl 0 rfl) ?_
                refine lv_iadd hx hb dX4_toss_85 ?_
                exact hQ _ _ _ _ _ (by first | (simp [oToss, tossF, c_1, c_2, c_3, c_4, c_5, c_6, c_7, wrK_at hjd hWd, hWd, nI_clamp (show jd < 2 ^ 31 by omega)]; done) | simp_all [oToss, tossF, nI_clamp (show jd < 2 ^ 31 by omega)]) hR dX4_toss_86
              · skip
                refine lv_sipush (v := 200) hx hb dX4_toss_70 (by decide) ?_
                refine lv_iload_n hx hb dX4_toss_73 rfl (lv_at hl 1 rfl) ?_
                refine lv_iload_n hx hb dX4_toss_74 rfl (lv_at hl 0 rfl) ?_
                refine rs_calli (rest := [.int 200]) hx hb hml hown hts hl.1 hR (m_X4_costOf l (X 7 jd) (X 8 jd)) (va_cwS 2 hts (lw_S q1656 q1657 q82 q1658) rfl rfl rfl cd_X4_costOf ⟨Nat.le_of_ble_eq_true rfl, Nat.le_of_ble_eq_true rfl⟩) rfl rfl (Nat.le_of_ble_eq_true rfl) dX4_toss_75 ⟨Nat.le_refl _, Nat.le_refl _⟩ (fun H locs hR => ?_)
                refine lv_iadd hx hb dX4_toss_78 ?_
                refine lv_goto (tgt := 86) hx hb dX4_toss_79 (by decide) ?_
                exact hQ _ _ _ _ _ (by first | (simp [oToss, tossF, c_1, c_2, c_3, c_4, c_5, c_6, c_7, wrK_at hjd hWd, hWd, nI_clamp (show jd < 2 ^ 31 by omega)]; done) | simp_all [oToss, tossF, nI_clamp (show jd < 2 ^ 31 by omega)]) hR dX4_toss_86
            · skip
              refine lv_iload_n hx hb dX4_toss_60 rfl (lv_at hl 0 rfl) ?_
              refine lv_goto (tgt := 86) hx hb dX4_toss_61 (by decide) ?_
              exact hQ _ _ _ _ _ (by first | (simp [oToss, tossF, c_1, c_2, c_3, c_4, c_5, c_6, wrK_at hjd hWd, hWd, nI_clamp (show jd < 2 ^ 31 by omega)]; done) | simp_all [oToss, tossF, nI_clamp (show jd < 2 ^ 31 by omega)]) hR dX4_toss_86
          · skip
            refine lv_bipush (v := (-15)) hx hb dX4_toss_53 (by decide) ?_
            exact hQ _ _ _ _ _ (by first | (simp [oToss, tossF, c_1, c_2, c_3, c_4, c_5, wrK_at hjd hWd, hWd, nI_clamp (show jd < 2 ^ 31 by omega)]; done) | simp_all [oToss, tossF, nI_clamp (show jd < 2 ^ 31 by omega)]) hR dX4_toss_55
  · skip
    refine lv_aload_n hx hb dX4_toss_13 rfl (lv_at hl 0 rfl) ?_
    refine lv_iload_n hx hb dX4_toss_14 rfl (lv_at hl 1 rfl) ?_
    refine mm_calli (rest := []) hx hb hml hown hts hK hl.1 hR (m_X4_wrongKept l D ca B (st X 0 0 0) Y kp d) (cwV 1 hts (lw_V q1427 q1429 qs61 q82 q1430) rfl rfl rfl cd_X4_wrongKept ⟨Nat.le_of_ble_eq_true rfl, Nat.le_of_ble_eq_true rfl⟩) rfl rfl (Nat.le_of_ble_eq_true rfl) dX4_toss_15 ⟨Nat.le_refl _, Nat.le_refl _⟩ (fun H locs hR => ?_)
    refine W.eqs (st2 := [.int (wrK (X 6) d)]) rfl ?_
    exact hQ _ _ _ _ _ (by first | (simp [oToss, tossF, c_1]; done) | simp_all [oToss, tossF]) hR dX4_toss_18
