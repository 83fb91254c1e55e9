/-! the model: its small ones -/
set_option maxRecDepth 100000
theorem cd_X4_in : yX4_in.cls ≠ "java/lang/invoke/MethodHandle" ∧ yX4_in.cls ≠ "java/lang/invoke/VarHandle" ∧ (parseMethodDescriptor yX4_in.desc).map (fun d => d.parameters.length) = some 3 := by decide +kernel
set_option maxHeartbeats 4000000 in
theorem m_X4_in (l : Launch) (v : Int64) (lo : Int64) (hi : Int64)  : SSi l yX4_in (ws_ yX4_in cX4_in 6 (some .boolean)) (rmN 0) [.long v, .long lo, .long hi] (bI (inL v lo hi)) := by
  refine SSi_start (by decide) (Or.inr ⟨rfl, bI_nar _⟩) (Nat.le_of_ble_eq_true rfl) ?_
  intro p e s m args below meth c0 Q ls hx hb hml hown hts hS hl hQ
  have hl : lv_has ls 6 [(0, .long v), (2, .long lo), (4, .long hi)] := hl
  refine lv_lload_n hx hb dX4_in_0 rfl (lv_at hl 0 rfl) ?_
  refine lv_lload_n hx hb dX4_in_1 rfl (lv_at hl 1 rfl) ?_
  refine lc_lt (tgt := 17) hx hb dX4_in_2 dX4_in_3 (by decide) (fun c_1 => ?_) (fun c_1 => ?_)
  · skip
    refine lv_iconst (v := 0) hx hb dX4_in_17 (by decide) ?_
    exact hQ _ _ _ _ _ (by simp [inL, bI, c_1]) hS dX4_in_18
  · skip
    refine lv_lload_n hx hb dX4_in_6 rfl (lv_at hl 0 rfl) ?_
    refine lv_lload hx hb dX4_in_7 (lv_at hl 2 rfl) ?_
    refine lc_gt (tgt := 17) hx hb dX4_in_9 dX4_in_10 (by decide) (fun c_2 => ?_) (fun c_2 => ?_)
    · skip
      refine lv_iconst (v := 0) hx hb dX4_in_17 (by decide) ?_
      exact hQ _ _ _ _ _ (by simp [inL, bI, c_1, c_2]) hS dX4_in_18
    · skip
      refine lv_iconst (v := 1) hx hb dX4_in_13 (by decide) ?_
      refine lv_goto (tgt := 18) hx hb dX4_in_14 (by decide) ?_
      exact hQ _ _ _ _ _ (by simp [inL, bI, c_1, c_2]) hS dX4_in_18
theorem cd_X4_hasBit : yX4_hasBit.cls ≠ "java/lang/invoke/MethodHandle" ∧ yX4_hasBit.cls ≠ "java/lang/invoke/VarHandle" ∧ (parseMethodDescriptor yX4_hasBit.desc).map (fun d => d.parameters.length) = some 2 := by decide +kernel
set_option maxHeartbeats 4000000 in
theorem m_X4_hasBit (l : Launch) (b : Int32) (k : Int32)  : SSi l yX4_hasBit (ws_ yX4_hasBit cX4_hasBit 2 (some .boolean)) (rmN 0) [.int b, .int k] (bI (hasB b k)) := by
  refine SSi_start (by decide) (Or.inr ⟨rfl, bI_nar _⟩) (Nat.le_of_ble_eq_true rfl) ?_
  intro p e s m args below meth c0 Q ls hx hb hml hown hts hS hl hQ
  have hl : lv_has ls 2 [(0, .int b), (1, .int k)] := hl
  refine lv_iload_n hx hb dX4_hasBit_0 rfl (lv_at hl 0 rfl) ?_
  refine lv_iload_n hx hb dX4_hasBit_1 rfl (lv_at hl 1 rfl) ?_
  refine lv_ishr hx hb dX4_hasBit_2 ?_
  refine lv_iconst (v := 1) hx hb dX4_hasBit_3 (by decide) ?_
  refine lv_iand hx hb dX4_hasBit_4 ?_
  refine lv_iconst (v := 1) hx hb dX4_hasBit_5 (by decide) ?_
  refine lv_icmp_ne (tgt := 13) hx hb dX4_hasBit_6 (by decide) (fun c_1 => ?_) (fun c_1 => ?_)
  · skip
    refine lv_iconst (v := 0) hx hb dX4_hasBit_13 (by decide) ?_
    exact hQ _ _ _ _ _ (by first | (simp [hasB, bI, c_1]; done) | simp_all [hasB, bI]) hS dX4_hasBit_14
  · skip
    refine lv_iconst (v := 1) hx hb dX4_hasBit_9 (by decide) ?_
    refine lv_goto (tgt := 14) hx hb dX4_hasBit_10 (by decide) ?_
    exact hQ _ _ _ _ _ (by first | (simp [hasB, bI, c_1]; done) | simp_all [hasB, bI]) hS dX4_hasBit_14
theorem cd_X4_held : yX4_held.cls ≠ "java/lang/invoke/MethodHandle" ∧ yX4_held.cls ≠ "java/lang/invoke/VarHandle" ∧ (parseMethodDescriptor yX4_held.desc).map (fun d => d.parameters.length) = some 2 := by decide +kernel
set_option maxHeartbeats 4000000 in
theorem m_X4_held (l : Launch) (v : Int32) (h : Int32)  : SSi l yX4_held (ws_ yX4_held cX4_held 2 (some .int)) (rmN 0) [.int v, .int h] (hdI v h) := by
  refine SSi_start (by decide) (Or.inl rfl) (Nat.le_of_ble_eq_true rfl) ?_
  intro p e s m args below meth c0 Q ls hx hb hml hown hts hS hl hQ
  have hl : lv_has ls 2 [(0, .int v), (1, .int h)] := hl
  refine lv_iload_n hx hb dX4_held_0 rfl (lv_at hl 0 rfl) ?_
  refine lz_ge (tgt := 8) hx hb dX4_held_1 (by decide) (fun c_1 => ?_) (fun c_1 => ?_)
  · skip
    refine lv_iload_n hx hb dX4_held_8 rfl (lv_at hl 0 rfl) ?_
    refine lv_iload_n hx hb dX4_held_9 rfl (lv_at hl 1 rfl) ?_
    refine lj_le (tgt := 17) hx hb dX4_held_10 (by decide) (fun c_2 => ?_) (fun c_2 => ?_)
    · skip
      refine lv_iload_n hx hb dX4_held_17 rfl (lv_at hl 0 rfl) ?_
      exact hQ _ _ _ _ _ (by first | (simp [hdI, c_1, c_2]; done) | simp_all [hdI]) hS dX4_held_18
    · skip
      refine lv_iload_n hx hb dX4_held_13 rfl (lv_at hl 1 rfl) ?_
      refine lv_goto (tgt := 18) hx hb dX4_held_14 (by decide) ?_
      exact hQ _ _ _ _ _ (by first | (simp [hdI, c_1, c_2]; done) | simp_all [hdI]) hS dX4_held_18
  · skip
    refine lv_iconst (v := 0) hx hb dX4_held_4 (by decide) ?_
    refine lv_goto (tgt := 18) hx hb dX4_held_5 (by decide) ?_
    exact hQ _ _ _ _ _ (by first | (simp [hdI, c_1]; done) | simp_all [hdI]) hS dX4_held_18
theorem cd_X4_holdsBy : yX4_holdsBy.cls ≠ "java/lang/invoke/MethodHandle" ∧ yX4_holdsBy.cls ≠ "java/lang/invoke/VarHandle" ∧ (parseMethodDescriptor yX4_holdsBy.desc).map (fun d => d.parameters.length) = some 2 := by decide +kernel
set_option maxHeartbeats 4000000 in
theorem m_X4_holdsBy (l : Launch) (k : Int32) (f : Int32)  : SSi l yX4_holdsBy (ws_ yX4_holdsBy cX4_holdsBy 2 (some .int)) (rmN 0) [.int k, .int f] (holdsF k f) := by
  refine SSi_start (by decide) (Or.inl rfl) (Nat.le_of_ble_eq_true rfl) ?_
  intro p e s m args below meth c0 Q ls hx hb hml hown hts hS hl hQ
  have hl : lv_has ls 2 [(0, .int k), (1, .int f)] := hl
  refine lv_iload_n hx hb dX4_holdsBy_0 rfl (lv_at hl 0 rfl) ?_
  by_cases k_1 : k = 0
  · skip
    refine lv_tableIn (tgt := 44) (off := 43) hx hb dX4_holdsBy_1 (by rw [k_1]; decide) (by rw [k_1]; decide) (by rw [k_1]; rfl) (by decide) ?_
    refine lv_iconst (v := 2) hx hb dX4_holdsBy_44 (by decide) ?_
    exact hQ _ _ _ _ _ (by first | (simp [holdsF, k_1]; done) | simp_all [holdsF]) hS dX4_holdsBy_45
  by_cases k_2 : k = 1
  · skip
    refine lv_tableIn (tgt := 54) (off := 53) hx hb dX4_holdsBy_1 (by rw [k_2]; decide) (by rw [k_2]; decide) (by rw [k_2]; rfl) (by decide) ?_
    refine lv_iconst (v := 1) hx hb dX4_holdsBy_54 (by decide) ?_
    exact hQ _ _ _ _ _ (by first | (simp [holdsF, k_2]; done) | simp_all [holdsF]) hS dX4_holdsBy_55
  by_cases k_3 : k = 2
  · skip
    refine lv_tableIn (tgt := 46) (off := 45) hx hb dX4_holdsBy_1 (by rw [k_3]; decide) (by rw [k_3]; decide) (by rw [k_3]; rfl) (by decide) ?_
    refine lv_iconst (v := 3) hx hb dX4_holdsBy_46 (by decide) ?_
    exact hQ _ _ _ _ _ (by first | (simp [holdsF, k_3]; done) | simp_all [holdsF]) hS dX4_holdsBy_47
  by_cases k_4 : k = 3
  · skip
    refine lv_tableIn (tgt := 46) (off := 45) hx hb dX4_holdsBy_1 (by rw [k_4]; decide) (by rw [k_4]; decide) (by rw [k_4]; rfl) (by decide) ?_
    refine lv_iconst (v := 3) hx hb dX4_holdsBy_46 (by decide) ?_
    exact hQ _ _ _ _ _ (by first | (simp [holdsF, k_4]; done) | simp_all [holdsF]) hS dX4_holdsBy_47
  by_cases k_5 : k = 4
  · skip
    refine lv_tableIn (tgt := 54) (off := 53) hx hb dX4_holdsBy_1 (by rw [k_5]; decide) (by rw [k_5]; decide) (by rw [k_5]; rfl) (by decide) ?_
    refine lv_iconst (v := 1) hx hb dX4_holdsBy_54 (by decide) ?_
    exact hQ _ _ _ _ _ (by first | (simp [holdsF, k_5]; done) | simp_all [holdsF]) hS dX4_holdsBy_55
  by_cases k_6 : k = 5
  · skip
    refine lv_tableIn (tgt := 54) (off := 53) hx hb dX4_holdsBy_1 (by rw [k_6]; decide) (by rw [k_6]; decide) (by rw [k_6]; rfl) (by decide) ?_
    refine lv_iconst (v := 1) hx hb dX4_holdsBy_54 (by decide) ?_
    exact hQ _ _ _ _ _ (by first | (simp [holdsF, k_6]; done) | simp_all [holdsF]) hS dX4_holdsBy_55
  by_cases k_7 : k = 6
  · skip
    refine lv_tableIn (tgt := 48) (off := 47) hx hb dX4_holdsBy_1 (by rw [k_7]; decide) (by rw [k_7]; decide) (by rw [k_7]; rfl) (by decide) ?_
    refine lv_iconst (v := 3) hx hb dX4_holdsBy_48 (by decide) ?_
    refine lv_iload_n hx hb dX4_holdsBy_49 rfl (lv_at hl 1 rfl) ?_
    refine lv_iconst (v := 3) hx hb dX4_holdsBy_50 (by decide) ?_
    refine lv_idiv hx hb dX4_holdsBy_51 (by decide) ?_
    refine lv_iadd hx hb dX4_holdsBy_52 ?_
    exact hQ _ _ _ _ _ (by first | (simp [holdsF, k_7]; done) | simp_all [holdsF]) hS dX4_holdsBy_53
  have k_1n : k.toInt ≠ 0 := sw_ne (by decide) k_1
  have k_2n : k.toInt ≠ 1 := sw_ne (by decide) k_2
  have k_3n : k.toInt ≠ 2 := sw_ne (by decide) k_3
  have k_4n : k.toInt ≠ 3 := sw_ne (by decide) k_4
  have k_5n : k.toInt ≠ 4 := sw_ne (by decide) k_5
  have k_6n : k.toInt ≠ 5 := sw_ne (by decide) k_6
  have k_7n : k.toInt ≠ 6 := sw_ne (by decide) k_7
  refine lv_tableOut (tgt := 54) hx hb dX4_holdsBy_1 (by omega) (by decide) ?_
  refine lv_iconst (v := 1) hx hb dX4_holdsBy_54 (by decide) ?_
  exact hQ _ _ _ _ _ (by first | (simp [holdsF, k_1, k_2, k_3, k_4, k_5, k_6, k_7]; done) | simp_all [holdsF]) hS dX4_holdsBy_55
theorem cd_X4_isLetter : yX4_isLetter.cls ≠ "java/lang/invoke/MethodHandle" ∧ yX4_isLetter.cls ≠ "java/lang/invoke/VarHandle" ∧ (parseMethodDescriptor yX4_isLetter.desc).map (fun d => d.parameters.length) = some 1 := by decide +kernel
set_option maxHeartbeats 4000000 in
theorem m_X4_isLetter (l : Launch) (c : Int32)  : SSi l yX4_isLetter (ws_ yX4_isLetter cX4_isLetter 1 (some .boolean)) (rmN 0) [.int c] (bI (isLet c)) := by
  refine SSi_start (by decide) (Or.inr ⟨rfl, bI_nar _⟩) (Nat.le_of_ble_eq_true rfl) ?_
  intro p e s m args below meth c0 Q ls hx hb hml hown hts hS hl hQ
  have hl : lv_has ls 1 [(0, .int c)] := hl
  refine lv_iload_n hx hb dX4_isLetter_0 rfl (lv_at hl 0 rfl) ?_
  refine lv_bipush (v := 99) hx hb dX4_isLetter_1 (by decide) ?_
  refine lv_icmp_eq (tgt := 36) hx hb dX4_isLetter_3 (by decide) (fun c_1 => ?_) (fun c_1 => ?_)
  · skip
    refine lv_iconst (v := 1) hx hb dX4_isLetter_36 (by decide) ?_
    refine lv_goto (tgt := 41) hx hb dX4_isLetter_37 (by decide) ?_
    exact hQ _ _ _ _ _ (by first | (simp [isLet, bI, c_1]; done) | simp_all [isLet, bI]) hS dX4_isLetter_41
  · skip
    refine lv_iload_n hx hb dX4_isLetter_6 rfl (lv_at hl 0 rfl) ?_
    refine lv_bipush (v := 109) hx hb dX4_isLetter_7 (by decide) ?_
    refine lv_icmp_eq (tgt := 36) hx hb dX4_isLetter_9 (by decide) (fun c_2 => ?_) (fun c_2 => ?_)
    · skip
      refine lv_iconst (v := 1) hx hb dX4_isLetter_36 (by decide) ?_
      refine lv_goto (tgt := 41) hx hb dX4_isLetter_37 (by decide) ?_
      exact hQ _ _ _ _ _ (by first | (simp [isLet, bI, c_1, c_2]; done) | simp_all [isLet, bI]) hS dX4_isLetter_41
    · skip
      refine lv_iload_n hx hb dX4_isLetter_12 rfl (lv_at hl 0 rfl) ?_
      refine lv_bipush (v := 98) hx hb dX4_isLetter_13 (by decide) ?_
      refine lv_icmp_eq (tgt := 36) hx hb dX4_isLetter_15 (by decide) (fun c_3 => ?_) (fun c_3 => ?_)
      · skip
        refine lv_iconst (v := 1) hx hb dX4_isLetter_36 (by decide) ?_
        refine lv_goto (tgt := 41) hx hb dX4_isLetter_37 (by decide) ?_
        exact hQ _ _ _ _ _ (by first | (simp [isLet, bI, c_1, c_2, c_3]; done) | simp_all [isLet, bI]) hS dX4_isLetter_41
      · skip
        refine lv_iload_n hx hb dX4_isLetter_18 rfl (lv_at hl 0 rfl) ?_
        refine lv_bipush (v := 120) hx hb dX4_isLetter_19 (by decide) ?_
        refine lv_icmp_eq (tgt := 36) hx hb dX4_isLetter_21 (by decide) (fun c_4 => ?_) (fun c_4 => ?_)
        · skip
          refine lv_iconst (v := 1) hx hb dX4_isLetter_36 (by decide) ?_
          refine lv_goto (tgt := 41) hx hb dX4_isLetter_37 (by decide) ?_
          exact hQ _ _ _ _ _ (by first | (simp [isLet, bI, c_1, c_2, c_3, c_4]; done) | simp_all [isLet, bI]) hS dX4_isLetter_41
        · skip
          refine lv_iload_n hx hb dX4_isLetter_24 rfl (lv_at hl 0 rfl) ?_
          refine lv_bipush (v := 116) hx hb dX4_isLetter_25 (by decide) ?_
          refine lv_icmp_eq (tgt := 36) hx hb dX4_isLetter_27 (by decide) (fun c_5 => ?_) (fun c_5 => ?_)
          · skip
            refine lv_iconst (v := 1) hx hb dX4_isLetter_36 (by decide) ?_
            refine lv_goto (tgt := 41) hx hb dX4_isLetter_37 (by decide) ?_
            exact hQ _ _ _ _ _ (by first | (simp [isLet, bI, c_1, c_2, c_3, c_4, c_5]; done) | simp_all [isLet, bI]) hS dX4_isLetter_41
          · skip
            refine lv_iload_n hx hb dX4_isLetter_30 rfl (lv_at hl 0 rfl) ?_
            refine lv_bipush (v := 115) hx hb dX4_isLetter_31 (by decide) ?_
            refine lv_icmp_ne (tgt := 40) hx hb dX4_isLetter_33 (by decide) (fun c_6 => ?_) (fun c_6 => ?_)
            · skip
              refine lv_iconst (v := 0) hx hb dX4_isLetter_40 (by decide) ?_
              exact hQ _ _ _ _ _ (by first | (simp [isLet, bI, c_1, c_2, c_3, c_4, c_5, c_6]; done) | simp_all [isLet, bI]) hS dX4_isLetter_41
            · skip
              refine lv_iconst (v := 1) hx hb dX4_isLetter_36 (by decide) ?_
              refine lv_goto (tgt := 41) hx hb dX4_isLetter_37 (by decide) ?_
              exact hQ _ _ _ _ _ (by first | (simp [isLet, bI, c_1, c_2, c_3, c_4, c_5, c_6]; done) | simp_all [isLet, bI]) hS dX4_isLetter_41
theorem cd_X4_narrowed : yX4_narrowed.cls ≠ "java/lang/invoke/MethodHandle" ∧ yX4_narrowed.cls ≠ "java/lang/invoke/VarHandle" ∧ (parseMethodDescriptor yX4_narrowed.desc).map (fun d => d.parameters.length) = some 2 := by decide +kernel
set_option maxHeartbeats 4000000 in
theorem m_X4_narrowed (l : Launch) (v : Int32) (k : Int32)  : SSl l yX4_narrowed (ws_ yX4_narrowed cX4_narrowed 2 (some .long)) (rmN 0) [.int v, .int k] (narL v k) := by
  refine SSl_start (by decide) (Nat.le_of_ble_eq_true rfl) ?_
  intro p e s m args below meth c0 Q ls hx hb hml hown hts hS hl hQ
  have hl : lv_has ls 2 [(0, .int v), (1, .int k)] := hl
  refine lv_iload_n hx hb dX4_narrowed_0 rfl (lv_at hl 1 rfl) ?_
  refine lv_if_ne (tgt := 10) hx hb dX4_narrowed_1 (by decide) (fun c_1 => ?_) (fun c_1 => ?_)
  · skip
    refine lv_iload_n hx hb dX4_narrowed_10 rfl (lv_at hl 1 rfl) ?_
    refine lv_iconst (v := 1) hx hb dX4_narrowed_11 (by decide) ?_
    refine lv_icmp_ne (tgt := 21) hx hb dX4_narrowed_12 (by decide) (fun c_2 => ?_) (fun c_2 => ?_)
    · skip
      refine lv_iload_n hx hb dX4_narrowed_21 rfl (lv_at hl 0 rfl) ?_
      refine lv_i2l (v := (v.toInt64)) hx hb dX4_narrowed_22 rfl ?_
      exact hQ _ _ _ _ _ (by first | (simp [narL, c_1, c_2]; done) | simp_all [narL]) hS dX4_narrowed_23
    · skip
      refine lv_iload_n hx hb dX4_narrowed_15 rfl (lv_at hl 0 rfl) ?_
      refine lv_i2s (v := (v.toInt16.toInt32)) hx hb dX4_narrowed_16 rfl ?_
      refine lv_i2l (v := ((v.toInt16.toInt32).toInt64)) hx hb dX4_narrowed_17 rfl ?_
      refine lv_goto (tgt := 23) hx hb dX4_narrowed_18 (by decide) ?_
      exact hQ _ _ _ _ _ (by first | (simp [narL, c_1, c_2]; done) | simp_all [narL]) hS dX4_narrowed_23
  · skip
    refine lv_iload_n hx hb dX4_narrowed_4 rfl (lv_at hl 0 rfl) ?_
    refine lv_i2b (v := (v.toInt8.toInt32)) hx hb dX4_narrowed_5 rfl ?_
    refine lv_i2l (v := ((v.toInt8.toInt32).toInt64)) hx hb dX4_narrowed_6 rfl ?_
    refine lv_goto (tgt := 23) hx hb dX4_narrowed_7 (by decide) ?_
    exact hQ _ _ _ _ _ (by first | (simp [narL, c_1]; done) | simp_all [narL]) hS dX4_narrowed_23
theorem cd_X4_costOf : yX4_costOf.cls ≠ "java/lang/invoke/MethodHandle" ∧ yX4_costOf.cls ≠ "java/lang/invoke/VarHandle" ∧ (parseMethodDescriptor yX4_costOf.desc).map (fun d => d.parameters.length) = some 2 := by decide +kernel
set_option maxHeartbeats 4000000 in
theorem m_X4_costOf (l : Launch) (k : Int32) (f : Int32)  : SSi l yX4_costOf (ws_ yX4_costOf cX4_costOf 3 (some .int)) (rmN 0) [.int k, .int f] (costF k f) := by
  refine SSi_start (by decide) (Or.inl rfl) (Nat.le_of_ble_eq_true rfl) ?_
  intro p e s m args below meth c0 Q ls hx hb hml hown hts hS hl hQ
  have hl : lv_has ls 3 [(0, .int k), (1, .int f)] := hl
  refine lv_iconst (v := 5) hx hb dX4_costOf_0 (by decide) ?_
  refine lv_iload_n hx hb dX4_costOf_1 rfl (lv_at hl 1 rfl) ?_
  refine lv_iadd hx hb dX4_costOf_2 ?_
  refine lv_istore_n (lv' := [(2, .int (5 + f)), (0, .int k), (1, .int f)]) hx hb dX4_costOf_3 rfl hl (by decide) rfl (fun ls hl => ?_)
  refine lv_iload_n hx hb dX4_costOf_4 rfl (lv_at hl 1 rfl) ?_
  by_cases k_1 : k = 0
  · skip
    refine lv_tableIn (tgt := 48) (off := 43) hx hb dX4_costOf_5 (by rw [k_1]; decide) (by rw [k_1]; decide) (by rw [k_1]; rfl) (by decide) ?_
    refine lv_iconst (v := 5) hx hb dX4_costOf_48 (by decide) ?_
    exact hQ _ _ _ _ _ (by first | (simp [costF, k_1]; done) | simp_all [costF]) hS dX4_costOf_49
  by_cases k_2 : k = 1
  · skip
    refine lv_tableIn (tgt := 50) (off := 45) hx hb dX4_costOf_5 (by rw [k_2]; decide) (by rw [k_2]; decide) (by rw [k_2]; rfl) (by decide) ?_
    refine lv_iload_n hx hb dX4_costOf_50 rfl (lv_at hl 0 rfl) ?_
    exact hQ _ _ _ _ _ (by first | (simp [costF, k_2]; done) | simp_all [costF]) hS dX4_costOf_51
  by_cases k_3 : k = 2
  · skip
    refine lv_tableIn (tgt := 52) (off := 47) hx hb dX4_costOf_5 (by rw [k_3]; decide) (by rw [k_3]; decide) (by rw [k_3]; rfl) (by decide) ?_
    refine lv_iconst (v := 3) hx hb dX4_costOf_52 (by decide) ?_
    exact hQ _ _ _ _ _ (by first | (simp [costF, k_3]; done) | simp_all [costF]) hS dX4_costOf_53
  by_cases k_4 : k = 3
  · skip
    refine lv_tableIn (tgt := 54) (off := 49) hx hb dX4_costOf_5 (by rw [k_4]; decide) (by rw [k_4]; decide) (by rw [k_4]; rfl) (by decide) ?_
    refine lv_bipush (v := 10) hx hb dX4_costOf_54 (by decide) ?_
    exact hQ _ _ _ _ _ (by first | (simp [costF, k_4]; done) | simp_all [costF]) hS dX4_costOf_56
  by_cases k_5 : k = 4
  · skip
    refine lv_tableIn (tgt := 57) (off := 52) hx hb dX4_costOf_5 (by rw [k_5]; decide) (by rw [k_5]; decide) (by rw [k_5]; rfl) (by decide) ?_
    refine lv_iload_n hx hb dX4_costOf_57 rfl (lv_at hl 0 rfl) ?_
    refine lv_iconst (v := 1) hx hb dX4_costOf_58 (by decide) ?_
    refine lv_isub hx hb dX4_costOf_59 ?_
    exact hQ _ _ _ _ _ (by first | (simp [costF, k_5]; done) | simp_all [costF]) hS dX4_costOf_60
  by_cases k_6 : k = 5
  · skip
    refine lv_tableIn (tgt := 61) (off := 56) hx hb dX4_costOf_5 (by rw [k_6]; decide) (by rw [k_6]; decide) (by rw [k_6]; rfl) (by decide) ?_
    refine lv_iload_n hx hb dX4_costOf_61 rfl (lv_at hl 0 rfl) ?_
    refine lv_iconst (v := 4) hx hb dX4_costOf_62 (by decide) ?_
    refine lv_iadd hx hb dX4_costOf_63 ?_
    exact hQ _ _ _ _ _ (by first | (simp [costF, k_6]; done) | simp_all [costF]) hS dX4_costOf_64
  by_cases k_7 : k = 6
  · skip
    refine lv_tableIn (tgt := 65) (off := 60) hx hb dX4_costOf_5 (by rw [k_7]; decide) (by rw [k_7]; decide) (by rw [k_7]; rfl) (by decide) ?_
    refine lv_iconst (v := 3) hx hb dX4_costOf_65 (by decide) ?_
    refine lv_iload_n hx hb dX4_costOf_66 rfl (lv_at hl 2 rfl) ?_
    refine lv_iadd hx hb dX4_costOf_67 ?_
    exact hQ _ _ _ _ _ (by first | (simp [costF, k_7]; done) | simp_all [costF]) hS dX4_costOf_68
  have k_1n : k.toInt ≠ 0 := sw_ne (by decide) k_1
  have k_2n : k.toInt ≠ 1 := sw_ne (by decide) k_2
  have k_3n : k.toInt ≠ 2 := sw_ne (by decide) k_3
  have k_4n : k.toInt ≠ 3 := sw_ne (by decide) k_4
  have k_5n : k.toInt ≠ 4 := sw_ne (by decide) k_5
  have k_6n : k.toInt ≠ 5 := sw_ne (by decide) k_6
  have k_7n : k.toInt ≠ 6 := sw_ne (by decide) k_7
  refine lv_tableOut (tgt := 69) hx hb dX4_costOf_5 (by omega) (by decide) ?_
  refine lv_iload_n hx hb dX4_costOf_69 rfl (lv_at hl 0 rfl) ?_
  refine lv_iconst (v := 2) hx hb dX4_costOf_70 (by decide) ?_
  refine lv_idiv hx hb dX4_costOf_71 (by decide) ?_
  exact hQ _ _ _ _ _ (by first | (simp [costF, k_1, k_2, k_3, k_4, k_5, k_6, k_7]; done) | simp_all [costF]) hS dX4_costOf_72
theorem cd_X4_isChild : yX4_isChild.cls = RX4 ∧ yX4_isChild.cls ≠ "java/lang/invoke/MethodHandle" ∧ yX4_isChild.cls ≠ "java/lang/invoke/VarHandle" ∧ (parseMethodDescriptor yX4_isChild.desc).map (fun d => d.parameters.length) = some 1 := by decide +kernel
set_option maxHeartbeats 4000000 in
theorem m_X4_isChild (l : Launch) (D : va_G) (ca : Nat → ClassId) (n : Nat) (B X : Nat → Nat → Int32) (Y : Nat → Nat → Int64) (kp : Nat) (c : Int32) (hB : wfB n B) : MMi l D ca yX4_isChild (ws_ yX4_isChild cX4_isChild 2 (some .boolean)) (rmN 1) (fun ad => [.int c]) B X Y kp (bI (isC n c)) B X Y kp := by
  refine MMi_start (by decide) (Or.inr ⟨rfl, bI_nar _⟩) (fun _ => Nat.le_of_ble_eq_true rfl) ?_
  intro p e s m args below meth c0 ad A Q ls hx hb hml hown hts hK hR hl hQ
  have hl : lv_has ls 2 [(0, .ref (ad 0)), (1, .int c)] := hl
  have hn6 : n ≤ 6 := hB.1
  refine lv_iload_n hx hb dX4_isChild_0 rfl (lv_at hl 1 rfl) ?_
  refine lv_i2l (v := (c.toInt64)) hx hb dX4_isChild_1 rfl ?_
  refine lv_lconst (v := 0) hx hb dX4_isChild_2 (by decide) ?_
  refine lv_aload_n hx hb dX4_isChild_3 rfl (lv_at hl 0 rfl) ?_
  refine rw_get (v := .int (nI n)) hx hb hts in_X4 hown hK hR 0 (by decide) rfl rfl 0 (by decide) q1162 rfl (mF_ch hB) dX4_isChild_4 ?_
  refine lv_iconst (v := 1) hx hb dX4_isChild_7 (by decide) ?_
  refine lv_isub hx hb dX4_isChild_8 ?_
  refine lv_i2l (v := (((nI n) - 1).toInt64)) hx hb dX4_isChild_9 rfl ?_
  refine rs_calli (rest := []) hx hb hml hown hts hl.1 hR (m_X4_in l (c.toInt64) 0 (((nI n) - 1).toInt64)) (va_cwS 3 hts (lw_S q1288 q1289 q82 q1290) rfl rfl rfl cd_X4_in ⟨Nat.le_of_ble_eq_true rfl, Nat.le_of_ble_eq_true rfl⟩) rfl rfl (Nat.le_of_ble_eq_true rfl) dX4_isChild_10 ⟨Nat.le_refl _, Nat.le_refl _⟩ (fun H locs hR => ?_)
  refine W.eqs (st2 := [.int (bI (inI c 0 ((nI n) - 1)))]) (congrArg (fun b => Value.int (bI b) :: _) (inL_I (v := c) (lo := 0) (hi := ((nI n) - 1)) (by decide) rfl)) ?_
  exact hQ _ _ _ _ _ (by rw [inI_isC hn6]) hR dX4_isChild_13
theorem cd_X4_holdsOf : yX4_holdsOf.cls = RX4 ∧ yX4_holdsOf.cls ≠ "java/lang/invoke/MethodHandle" ∧ yX4_holdsOf.cls ≠ "java/lang/invoke/VarHandle" ∧ (parseMethodDescriptor yX4_holdsOf.desc).map (fun d => d.parameters.length) = some 1 := by decide +kernel
set_option maxHeartbeats 4000000 in
theorem m_X4_holdsOf (l : Launch) (D : va_G) (ca : Nat → ClassId) (B X : Nat → Nat → Int32) (Y : Nat → Nat → Int64) (kp : Nat) (j : Nat) (hj : j < 6) : MMi l D ca yX4_holdsOf (ws_ yX4_holdsOf cX4_holdsOf 2 (some .int)) (rmN 1) (fun ad => [.int (nI j)]) B X Y kp (holdsF (B 1 j) (B 2 j)) B X Y kp := by
  refine MMi_start (by decide) (Or.inl rfl) (fun _ => Nat.le_of_ble_eq_true rfl) ?_
  intro p e s m args below meth c0 ad A Q ls hx hb hml hown hts hK hR hl hQ
  have hl : lv_has ls 2 [(0, .ref (ad 0)), (1, .int (nI j))] := hl
  refine lv_aload_n hx hb dX4_holdsOf_0 rfl (lv_at hl 0 rfl) ?_
  refine rw_get (v := .ref (ad 1)) hx hb hts in_X4 hown hK hR 0 (by decide) rfl rfl 1 (by decide) q1163 rfl rfl dX4_holdsOf_1 ?_
  refine lv_iload_n hx hb dX4_holdsOf_4 rfl (lv_at hl 1 rfl) ?_
  refine rw_ialdN (n := 6) hx hb hK hR 1 (by decide) rfl j rfl (by omega) (by decide) dX4_holdsOf_5 ?_
  refine lv_aload_n hx hb dX4_holdsOf_6 rfl (lv_at hl 0 rfl) ?_
  refine rw_get (v := .ref (ad 2)) hx hb hts in_X4 hown hK hR 0 (by decide) rfl rfl 2 (by decide) q1164 rfl rfl dX4_holdsOf_7 ?_
  refine lv_iload_n hx hb dX4_holdsOf_10 rfl (lv_at hl 1 rfl) ?_
  refine rw_ialdN (n := 6) hx hb hK hR 2 (by decide) rfl j rfl (by omega) (by decide) dX4_holdsOf_11 ?_
  refine rs_calli (rest := []) hx hb hml hown hts hl.1 hR (m_X4_holdsBy l (B 1 j) (B 2 j)) (va_cwS 2 hts (lw_S q1348 q1349 q82 q1350) rfl rfl rfl cd_X4_holdsBy ⟨Nat.le_of_ble_eq_true rfl, Nat.le_of_ble_eq_true rfl⟩) rfl rfl (Nat.le_of_ble_eq_true rfl) dX4_holdsOf_12 ⟨Nat.le_refl _, Nat.le_refl _⟩ (fun H locs hR => ?_)
  exact hQ _ _ _ _ _ (rfl) hR dX4_holdsOf_15
theorem cd_X4_needsAt : yX4_needsAt.cls = RX4 ∧ yX4_needsAt.cls ≠ "java/lang/invoke/MethodHandle" ∧ yX4_needsAt.cls ≠ "java/lang/invoke/VarHandle" ∧ (parseMethodDescriptor yX4_needsAt.desc).map (fun d => d.parameters.length) = some 2 := by decide +kernel
set_option maxHeartbeats 4000000 in
theorem m_X4_needsAt (l : Launch) (D : va_G) (ca : Nat → ClassId) (B X : Nat → Nat → Int32) (Y : Nat → Nat → Int64) (kp : Nat) (j : Nat) (z : Int32) (hj : j < 6) : MMi l D ca yX4_needsAt (ws_ yX4_needsAt cX4_needsAt 3 (some .int)) (rmN 0) (fun ad => [.int (nI j), .int z]) B X Y kp (needsF (B 1 j) (B 2 j) z) B X Y kp := by
  refine MMi_start (by decide) (Or.inl rfl) (fun _ => Nat.le_of_ble_eq_true rfl) ?_
  intro p e s m args below meth c0 ad A Q ls hx hb hml hown hts hK hR hl hQ
  have hl : lv_has ls 3 [(0, .ref (ad 0)), (1, .int (nI j)), (2, .int z)] := hl
  refine lv_aload_n hx hb dX4_needsAt_0 rfl (lv_at hl 0 rfl) ?_
  refine rw_get (v := .ref (ad 1)) hx hb hts in_X4 hown hK hR 0 (by decide) rfl rfl 1 (by decide) q1163 rfl rfl dX4_needsAt_1 ?_
  refine lv_iload_n hx hb dX4_needsAt_4 rfl (lv_at hl 1 rfl) ?_
  refine rw_ialdN (n := 6) hx hb hK hR 1 (by decide) rfl j rfl (by omega) (by decide) dX4_needsAt_5 ?_
  by_cases k_1 : (B 1 j) = 0
  · skip
    refine lv_tableIn (tgt := 52) (off := 46) hx hb dX4_needsAt_6 (by rw [k_1]; decide) (by rw [k_1]; decide) (by rw [k_1]; rfl) (by decide) ?_
    refine lv_iload_n hx hb dX4_needsAt_52 rfl (lv_at hl 2 rfl) ?_
    refine lv_iconst (v := 4) hx hb dX4_needsAt_53 (by decide) ?_
    refine lv_iadd hx hb dX4_needsAt_54 ?_
    exact hQ _ _ _ _ _ (by first | (simp [needsF, k_1]; done) | simp_all [needsF]) hR dX4_needsAt_55
  by_cases k_2 : (B 1 j) = 1
  · skip
    refine lv_tableIn (tgt := 89) (off := 83) hx hb dX4_needsAt_6 (by rw [k_2]; decide) (by rw [k_2]; decide) (by rw [k_2]; rfl) (by decide) ?_
    refine lv_iload_n hx hb dX4_needsAt_89 rfl (lv_at hl 2 rfl) ?_
    refine lv_iconst (v := 2) hx hb dX4_needsAt_90 (by decide) ?_
    refine lv_iadd hx hb dX4_needsAt_91 ?_
    exact hQ _ _ _ _ _ (by first | (simp [needsF, k_2]; done) | simp_all [needsF]) hR dX4_needsAt_92
  by_cases k_3 : (B 1 j) = 2
  · skip
    refine lv_tableIn (tgt := 56) (off := 50) hx hb dX4_needsAt_6 (by rw [k_3]; decide) (by rw [k_3]; decide) (by rw [k_3]; rfl) (by decide) ?_
    refine lv_iconst (v := 2) hx hb dX4_needsAt_56 (by decide) ?_
    refine lv_iload_n hx hb dX4_needsAt_57 rfl (lv_at hl 2 rfl) ?_
    refine lv_iconst (v := 4) hx hb dX4_needsAt_58 (by decide) ?_
    refine lv_iadd hx hb dX4_needsAt_59 ?_
    refine lv_imul hx hb dX4_needsAt_60 ?_
    exact hQ _ _ _ _ _ (by first | (simp [needsF, k_3]; done) | simp_all [needsF]) hR dX4_needsAt_61
  by_cases k_4 : (B 1 j) = 3
  · skip
    refine lv_tableIn (tgt := 62) (off := 56) hx hb dX4_needsAt_6 (by rw [k_4]; decide) (by rw [k_4]; decide) (by rw [k_4]; rfl) (by decide) ?_
    refine lv_iload_n hx hb dX4_needsAt_62 rfl (lv_at hl 2 rfl) ?_
    refine lv_iconst (v := 4) hx hb dX4_needsAt_63 (by decide) ?_
    refine lv_iadd hx hb dX4_needsAt_64 ?_
    refine lv_aload_n hx hb dX4_needsAt_65 rfl (lv_at hl 0 rfl) ?_
    refine rw_get (v := .ref (ad 2)) hx hb hts in_X4 hown hK hR 0 (by decide) rfl rfl 2 (by decide) q1164 rfl rfl dX4_needsAt_66 ?_
    refine lv_iload_n hx hb dX4_needsAt_69 rfl (lv_at hl 1 rfl) ?_
    refine rw_ialdN (n := 6) hx hb hK hR 2 (by decide) rfl j rfl (by omega) (by decide) dX4_needsAt_70 ?_
    refine lv_iconst (v := 4) hx hb dX4_needsAt_71 (by decide) ?_
    refine lv_idiv hx hb dX4_needsAt_72 (by decide) ?_
    refine lv_iadd hx hb dX4_needsAt_73 ?_
    exact hQ _ _ _ _ _ (by first | (simp [needsF, k_4]; done) | simp_all [needsF]) hR dX4_needsAt_74
  by_cases k_5 : (B 1 j) = 4
  · skip
    refine lv_tableIn (tgt := 89) (off := 83) hx hb dX4_needsAt_6 (by rw [k_5]; decide) (by rw [k_5]; decide) (by rw [k_5]; rfl) (by decide) ?_
    refine lv_iload_n hx hb dX4_needsAt_89 rfl (lv_at hl 2 rfl) ?_
    refine lv_iconst (v := 2) hx hb dX4_needsAt_90 (by decide) ?_
    refine lv_iadd hx hb dX4_needsAt_91 ?_
    exact hQ _ _ _ _ _ (by first | (simp [needsF, k_5]; done) | simp_all [needsF]) hR dX4_needsAt_92
  by_cases k_6 : (B 1 j) = 5
  · skip
    refine lv_tableIn (tgt := 89) (off := 83) hx hb dX4_needsAt_6 (by rw [k_6]; decide) (by rw [k_6]; decide) (by rw [k_6]; rfl) (by decide) ?_
    refine lv_iload_n hx hb dX4_needsAt_89 rfl (lv_at hl 2 rfl) ?_
    refine lv_iconst (v := 2) hx hb dX4_needsAt_90 (by decide) ?_
    refine lv_iadd hx hb dX4_needsAt_91 ?_
    exact hQ _ _ _ _ _ (by first | (simp [needsF, k_6]; done) | simp_all [needsF]) hR dX4_needsAt_92
  by_cases k_7 : (B 1 j) = 6
  · skip
    refine lv_tableIn (tgt := 75) (off := 69) hx hb dX4_needsAt_6 (by rw [k_7]; decide) (by rw [k_7]; decide) (by rw [k_7]; rfl) (by decide) ?_
    refine lv_iconst (v := 2) hx hb dX4_needsAt_75 (by decide) ?_
    refine lv_iload_n hx hb dX4_needsAt_76 rfl (lv_at hl 2 rfl) ?_
    refine lv_iconst (v := 4) hx hb dX4_needsAt_77 (by decide) ?_
    refine lv_iadd hx hb dX4_needsAt_78 ?_
    refine lv_imul hx hb dX4_needsAt_79 ?_
    refine lv_iconst (v := 1) hx hb dX4_needsAt_80 (by decide) ?_
    refine lv_isub hx hb dX4_needsAt_81 ?_
    exact hQ _ _ _ _ _ (by first | (simp [needsF, k_7]; done) | simp_all [needsF]) hR dX4_needsAt_82
  by_cases k_8 : (B 1 j) = 7
  · skip
    refine lv_tableIn (tgt := 83) (off := 77) hx hb dX4_needsAt_6 (by rw [k_8]; decide) (by rw [k_8]; decide) (by rw [k_8]; rfl) (by decide) ?_
    refine lv_iload_n hx hb dX4_needsAt_83 rfl (lv_at hl 2 rfl) ?_
    refine lv_iconst (v := 2) hx hb dX4_needsAt_84 (by decide) ?_
    refine lv_iadd hx hb dX4_needsAt_85 ?_
    refine lv_iconst (v := 2) hx hb dX4_needsAt_86 (by decide) ?_
    refine lv_idiv hx hb dX4_needsAt_87 (by decide) ?_
    exact hQ _ _ _ _ _ (by first | (simp [needsF, k_8]; done) | simp_all [needsF]) hR dX4_needsAt_88
  have k_1n : (B 1 j).toInt ≠ 0 := sw_ne (by decide) k_1
  have k_2n : (B 1 j).toInt ≠ 1 := sw_ne (by decide) k_2
  have k_3n : (B 1 j).toInt ≠ 2 := sw_ne (by decide) k_3
  have k_4n : (B 1 j).toInt ≠ 3 := sw_ne (by decide) k_4
  have k_5n : (B 1 j).toInt ≠ 4 := sw_ne (by decide) k_5
  have k_6n : (B 1 j).toInt ≠ 5 := sw_ne (by decide) k_6
  have k_7n : (B 1 j).toInt ≠ 6 := sw_ne (by decide) k_7
  have k_8n : (B 1 j).toInt ≠ 7 := sw_ne (by decide) k_8
  refine lv_tableOut (tgt := 89) hx hb dX4_needsAt_6 (by omega) (by decide) ?_
  refine lv_iload_n hx hb dX4_needsAt_89 rfl (lv_at hl 2 rfl) ?_
  refine lv_iconst (v := 2) hx hb dX4_needsAt_90 (by decide) ?_
  refine lv_iadd hx hb dX4_needsAt_91 ?_
  exact hQ _ _ _ _ _ (by first | (simp [needsF, k_1, k_2, k_3, k_4, k_5, k_6, k_7, k_8]; done) | simp_all [needsF]) hR dX4_needsAt_92
theorem cd_X4_needsOf : yX4_needsOf.cls = RX4 ∧ yX4_needsOf.cls ≠ "java/lang/invoke/MethodHandle" ∧ yX4_needsOf.cls ≠ "java/lang/invoke/VarHandle" ∧ (parseMethodDescriptor yX4_needsOf.desc).map (fun d => d.parameters.length) = some 1 := by decide +kernel
set_option maxHeartbeats 4000000 in
theorem m_X4_needsOf (l : Launch) (D : va_G) (ca : Nat → ClassId) (B X : Nat → Nat → Int32) (Y : Nat → Nat → Int64) (kp : Nat) (j : Nat) (hj : j < 6) : MMi l D ca yX4_needsOf (ws_ yX4_needsOf cX4_needsOf 2 (some .int)) (rmN 1) (fun ad => [.int (nI j)]) B X Y kp (needsF (B 1 j) (B 2 j) (B 4 j)) B X Y kp := by
  refine MMi_start (by decide) (Or.inl rfl) (fun _ => Nat.le_of_ble_eq_true rfl) ?_
  intro p e s m args below meth c0 ad A Q ls hx hb hml hown hts hK hR hl hQ
  have hl : lv_has ls 2 [(0, .ref (ad 0)), (1, .int (nI j))] := hl
  refine lv_aload_n hx hb dX4_needsOf_0 rfl (lv_at hl 0 rfl) ?_
  refine lv_iload_n hx hb dX4_needsOf_1 rfl (lv_at hl 1 rfl) ?_
  refine lv_aload_n hx hb dX4_needsOf_2 rfl (lv_at hl 0 rfl) ?_
  refine rw_get (v := .ref (ad 4)) hx hb hts in_X4 hown hK hR 0 (by decide) rfl rfl 4 (by decide) q1166 rfl rfl dX4_needsOf_3 ?_
  refine lv_iload_n hx hb dX4_needsOf_6 rfl (lv_at hl 1 rfl) ?_
  refine rw_ialdN (n := 6) hx hb hK hR 4 (by decide) rfl j rfl (by omega) (by decide) dX4_needsOf_7 ?_
  refine mm_calli (rest := []) hx hb hml hown hts hK hl.1 hR (m_X4_needsAt l D ca B X Y kp j (B 4 j) (by omega)) (cwV 2 hts (lw_V q1362 q1364 qs49 q82 q1365) rfl rfl rfl cd_X4_needsAt ⟨Nat.le_of_ble_eq_true rfl, Nat.le_of_ble_eq_true rfl⟩) rfl rfl (Nat.le_of_ble_eq_true rfl) dX4_needsOf_8 ⟨Nat.le_refl _, Nat.le_refl _⟩ (fun H locs hR => ?_)
  exact hQ _ _ _ _ _ (rfl) hR dX4_needsOf_11
theorem cd_X4_frightOf : yX4_frightOf.cls = RX4 ∧ yX4_frightOf.cls ≠ "java/lang/invoke/MethodHandle" ∧ yX4_frightOf.cls ≠ "java/lang/invoke/VarHandle" ∧ (parseMethodDescriptor yX4_frightOf.desc).map (fun d => d.parameters.length) = some 1 := by decide +kernel
set_option maxHeartbeats 4000000 in
theorem m_X4_frightOf (l : Launch) (D : va_G) (ca : Nat → ClassId) (B X : Nat → Nat → Int32) (Y : Nat → Nat → Int64) (kp : Nat) (j : Nat) (hj : j < 6) : MMi l D ca yX4_frightOf (ws_ yX4_frightOf cX4_frightOf 2 (some .int)) (rmN 0) (fun ad => [.int (nI j)]) B X Y kp (frightF (B 1 j) (B 2 j)) B X Y kp := by
  refine MMi_start (by decide) (Or.inl rfl) (fun _ => Nat.le_of_ble_eq_true rfl) ?_
  intro p e s m args below meth c0 ad A Q ls hx hb hml hown hts hK hR hl hQ
  have hl : lv_has ls 2 [(0, .ref (ad 0)), (1, .int (nI j))] := hl
  refine lv_aload_n hx hb dX4_frightOf_0 rfl (lv_at hl 0 rfl) ?_
  refine rw_get (v := .ref (ad 1)) hx hb hts in_X4 hown hK hR 0 (by decide) rfl rfl 1 (by decide) q1163 rfl rfl dX4_frightOf_1 ?_
  refine lv_iload_n hx hb dX4_frightOf_4 rfl (lv_at hl 1 rfl) ?_
  refine rw_ialdN (n := 6) hx hb hK hR 1 (by decide) rfl j rfl (by omega) (by decide) dX4_frightOf_5 ?_
  by_cases k_1 : (B 1 j) = 0
  · skip
    refine lv_tableIn (tgt := 48) (off := 42) hx hb dX4_frightOf_6 (by rw [k_1]; decide) (by rw [k_1]; decide) (by rw [k_1]; rfl) (by decide) ?_
    refine lv_iconst (v := 3) hx hb dX4_frightOf_48 (by decide) ?_
    exact hQ _ _ _ _ _ (by first | (simp [frightF, k_1]; done) | simp_all [frightF]) hR dX4_frightOf_49
  by_cases k_2 : (B 1 j) = 1
  · skip
    refine lv_tableIn (tgt := 76) (off := 70) hx hb dX4_frightOf_6 (by rw [k_2]; decide) (by rw [k_2]; decide) (by rw [k_2]; rfl) (by decide) ?_
    refine lv_iconst (v := 2) hx hb dX4_frightOf_76 (by decide) ?_
    exact hQ _ _ _ _ _ (by first | (simp [frightF, k_2]; done) | simp_all [frightF]) hR dX4_frightOf_77
  by_cases k_3 : (B 1 j) = 2
  · skip
    refine lv_tableIn (tgt := 50) (off := 44) hx hb dX4_frightOf_6 (by rw [k_3]; decide) (by rw [k_3]; decide) (by rw [k_3]; rfl) (by decide) ?_
    refine lv_iconst (v := 3) hx hb dX4_frightOf_50 (by decide) ?_
    refine lv_aload_n hx hb dX4_frightOf_51 rfl (lv_at hl 0 rfl) ?_
    refine rw_get (v := .ref (ad 2)) hx hb hts in_X4 hown hK hR 0 (by decide) rfl rfl 2 (by decide) q1164 rfl rfl dX4_frightOf_52 ?_
    refine lv_iload_n hx hb dX4_frightOf_55 rfl (lv_at hl 1 rfl) ?_
    refine rw_ialdN (n := 6) hx hb hK hR 2 (by decide) rfl j rfl (by omega) (by decide) dX4_frightOf_56 ?_
    refine lv_iconst (v := 2) hx hb dX4_frightOf_57 (by decide) ?_
    refine lv_idiv hx hb dX4_frightOf_58 (by decide) ?_
    refine lv_iadd hx hb dX4_frightOf_59 ?_
    exact hQ _ _ _ _ _ (by first | (simp [frightF, k_3]; done) | simp_all [frightF]) hR dX4_frightOf_60
  by_cases k_4 : (B 1 j) = 3
  · skip
    refine lv_tableIn (tgt := 48) (off := 42) hx hb dX4_frightOf_6 (by rw [k_4]; decide) (by rw [k_4]; decide) (by rw [k_4]; rfl) (by decide) ?_
    refine lv_iconst (v := 3) hx hb dX4_frightOf_48 (by decide) ?_
    exact hQ _ _ _ _ _ (by first | (simp [frightF, k_4]; done) | simp_all [frightF]) hR dX4_frightOf_49
  by_cases k_5 : (B 1 j) = 4
  · skip
    refine lv_tableIn (tgt := 61) (off := 55) hx hb dX4_frightOf_6 (by rw [k_5]; decide) (by rw [k_5]; decide) (by rw [k_5]; rfl) (by decide) ?_
    refine lv_iconst (v := 0) hx hb dX4_frightOf_61 (by decide) ?_
    exact hQ _ _ _ _ _ (by first | (simp [frightF, k_5]; done) | simp_all [frightF]) hR dX4_frightOf_62
  by_cases k_6 : (B 1 j) = 5
  · skip
    refine lv_tableIn (tgt := 76) (off := 70) hx hb dX4_frightOf_6 (by rw [k_6]; decide) (by rw [k_6]; decide) (by rw [k_6]; rfl) (by decide) ?_
    refine lv_iconst (v := 2) hx hb dX4_frightOf_76 (by decide) ?_
    exact hQ _ _ _ _ _ (by first | (simp [frightF, k_6]; done) | simp_all [frightF]) hR dX4_frightOf_77
  by_cases k_7 : (B 1 j) = 6
  · skip
    refine lv_tableIn (tgt := 63) (off := 57) hx hb dX4_frightOf_6 (by rw [k_7]; decide) (by rw [k_7]; decide) (by rw [k_7]; rfl) (by decide) ?_
    refine lv_iconst (v := 2) hx hb dX4_frightOf_63 (by decide) ?_
    refine lv_iconst (v := 3) hx hb dX4_frightOf_64 (by decide) ?_
    refine lv_aload_n hx hb dX4_frightOf_65 rfl (lv_at hl 0 rfl) ?_
    refine rw_get (v := .ref (ad 2)) hx hb hts in_X4 hown hK hR 0 (by decide) rfl rfl 2 (by decide) q1164 rfl rfl dX4_frightOf_66 ?_
    refine lv_iload_n hx hb dX4_frightOf_69 rfl (lv_at hl 1 rfl) ?_
    refine rw_ialdN (n := 6) hx hb hK hR 2 (by decide) rfl j rfl (by omega) (by decide) dX4_frightOf_70 ?_
    refine lv_iconst (v := 2) hx hb dX4_frightOf_71 (by decide) ?_
    refine lv_idiv hx hb dX4_frightOf_72 (by decide) ?_
    refine lv_iadd hx hb dX4_frightOf_73 ?_
    refine lv_imul hx hb dX4_frightOf_74 ?_
    exact hQ _ _ _ _ _ (by first | (simp [frightF, k_7]; done) | simp_all [frightF]) hR dX4_frightOf_75
  have k_1n : (B 1 j).toInt ≠ 0 := sw_ne (by decide) k_1
  have k_2n : (B 1 j).toInt ≠ 1 := sw_ne (by decide) k_2
  have k_3n : (B 1 j).toInt ≠ 2 := sw_ne (by decide) k_3
  have k_4n : (B 1 j).toInt ≠ 3 := sw_ne (by decide) k_4
  have k_5n : (B 1 j).toInt ≠ 4 := sw_ne (by decide) k_5
  have k_6n : (B 1 j).toInt ≠ 5 := sw_ne (by decide) k_6
  have k_7n : (B 1 j).toInt ≠ 6 := sw_ne (by decide) k_7
  refine lv_tableOut (tgt := 76) hx hb dX4_frightOf_6 (by omega) (by decide) ?_
  refine lv_iconst (v := 2) hx hb dX4_frightOf_76 (by decide) ?_
  exact hQ _ _ _ _ _ (by first | (simp [frightF, k_1, k_2, k_3, k_4, k_5, k_6, k_7]; done) | simp_all [frightF]) hR dX4_frightOf_77
theorem cd_X4_bearsOf : yX4_bearsOf.cls = RX4 ∧ yX4_bearsOf.cls ≠ "java/lang/invoke/MethodHandle" ∧ yX4_bearsOf.cls ≠ "java/lang/invoke/VarHandle" ∧ (parseMethodDescriptor yX4_bearsOf.desc).map (fun d => d.parameters.length) = some 1 := by decide +kernel
set_option maxHeartbeats 4000000 in
theorem m_X4_bearsOf (l : Launch) (D : va_G) (ca : Nat → ClassId) (B X : Nat → Nat → Int32) (Y : Nat → Nat → Int64) (kp : Nat) (j : Nat) (hj : j < 6) : MMi l D ca yX4_bearsOf (ws_ yX4_bearsOf cX4_bearsOf 2 (some .int)) (rmN 0) (fun ad => [.int (nI j)]) B X Y kp (bearsF (B 1 j) (B 2 j)) B X Y kp := by
  refine MMi_start (by decide) (Or.inl rfl) (fun _ => Nat.le_of_ble_eq_true rfl) ?_
  intro p e s m args below meth c0 ad A Q ls hx hb hml hown hts hK hR hl hQ
  have hl : lv_has ls 2 [(0, .ref (ad 0)), (1, .int (nI j))] := hl
  refine lv_aload_n hx hb dX4_bearsOf_0 rfl (lv_at hl 0 rfl) ?_
  refine rw_get (v := .ref (ad 1)) hx hb hts in_X4 hown hK hR 0 (by decide) rfl rfl 1 (by decide) q1163 rfl rfl dX4_bearsOf_1 ?_
  refine lv_iload_n hx hb dX4_bearsOf_4 rfl (lv_at hl 1 rfl) ?_
  refine rw_ialdN (n := 6) hx hb hK hR 1 (by decide) rfl j rfl (by omega) (by decide) dX4_bearsOf_5 ?_
  by_cases k_1 : (B 1 j) = 0
  · skip
    refine lv_tableIn (tgt := 52) (off := 46) hx hb dX4_bearsOf_6 (by rw [k_1]; decide) (by rw [k_1]; decide) (by rw [k_1]; rfl) (by decide) ?_
    refine lv_iconst (v := 5) hx hb dX4_bearsOf_52 (by decide) ?_
    exact hQ _ _ _ _ _ (by first | (simp [bearsF, k_1]; done) | simp_all [bearsF]) hR dX4_bearsOf_53
  by_cases k_2 : (B 1 j) = 1
  · skip
    refine lv_tableIn (tgt := 59) (off := 53) hx hb dX4_bearsOf_6 (by rw [k_2]; decide) (by rw [k_2]; decide) (by rw [k_2]; rfl) (by decide) ?_
    refine lv_iconst (v := 5) hx hb dX4_bearsOf_59 (by decide) ?_
    refine lv_aload_n hx hb dX4_bearsOf_60 rfl (lv_at hl 0 rfl) ?_
    refine rw_get (v := .ref (ad 2)) hx hb hts in_X4 hown hK hR 0 (by decide) rfl rfl 2 (by decide) q1164 rfl rfl dX4_bearsOf_61 ?_
    refine lv_iload_n hx hb dX4_bearsOf_64 rfl (lv_at hl 1 rfl) ?_
    refine rw_ialdN (n := 6) hx hb hK hR 2 (by decide) rfl j rfl (by omega) (by decide) dX4_bearsOf_65 ?_
    refine lv_iadd hx hb dX4_bearsOf_66 ?_
    exact hQ _ _ _ _ _ (by first | (simp [bearsF, k_2]; done) | simp_all [bearsF]) hR dX4_bearsOf_67
  by_cases k_3 : (B 1 j) = 2
  · skip
    refine lv_tableIn (tgt := 54) (off := 48) hx hb dX4_bearsOf_6 (by rw [k_3]; decide) (by rw [k_3]; decide) (by rw [k_3]; rfl) (by decide) ?_
    refine lv_iconst (v := 4) hx hb dX4_bearsOf_54 (by decide) ?_
    exact hQ _ _ _ _ _ (by first | (simp [bearsF, k_3]; done) | simp_all [bearsF]) hR dX4_bearsOf_55
  by_cases k_4 : (B 1 j) = 3
  · skip
    refine lv_tableIn (tgt := 52) (off := 46) hx hb dX4_bearsOf_6 (by rw [k_4]; decide) (by rw [k_4]; decide) (by rw [k_4]; rfl) (by decide) ?_
    refine lv_iconst (v := 5) hx hb dX4_bearsOf_52 (by decide) ?_
    exact hQ _ _ _ _ _ (by first | (simp [bearsF, k_4]; done) | simp_all [bearsF]) hR dX4_bearsOf_53
  by_cases k_5 : (B 1 j) = 4
  · skip
    refine lv_tableIn (tgt := 59) (off := 53) hx hb dX4_bearsOf_6 (by rw [k_5]; decide) (by rw [k_5]; decide) (by rw [k_5]; rfl) (by decide) ?_
    refine lv_iconst (v := 5) hx hb dX4_bearsOf_59 (by decide) ?_
    refine lv_aload_n hx hb dX4_bearsOf_60 rfl (lv_at hl 0 rfl) ?_
    refine rw_get (v := .ref (ad 2)) hx hb hts in_X4 hown hK hR 0 (by decide) rfl rfl 2 (by decide) q1164 rfl rfl dX4_bearsOf_61 ?_
    refine lv_iload_n hx hb dX4_bearsOf_64 rfl (lv_at hl 1 rfl) ?_
    refine rw_ialdN (n := 6) hx hb hK hR 2 (by decide) rfl j rfl (by omega) (by decide) dX4_bearsOf_65 ?_
    refine lv_iadd hx hb dX4_bearsOf_66 ?_
    exact hQ _ _ _ _ _ (by first | (simp [bearsF, k_5]; done) | simp_all [bearsF]) hR dX4_bearsOf_67
  by_cases k_6 : (B 1 j) = 5
  · skip
    refine lv_tableIn (tgt := 59) (off := 53) hx hb dX4_bearsOf_6 (by rw [k_6]; decide) (by rw [k_6]; decide) (by rw [k_6]; rfl) (by decide) ?_
    refine lv_iconst (v := 5) hx hb dX4_bearsOf_59 (by decide) ?_
    refine lv_aload_n hx hb dX4_bearsOf_60 rfl (lv_at hl 0 rfl) ?_
    refine rw_get (v := .ref (ad 2)) hx hb hts in_X4 hown hK hR 0 (by decide) rfl rfl 2 (by decide) q1164 rfl rfl dX4_bearsOf_61 ?_
    refine lv_iload_n hx hb dX4_bearsOf_64 rfl (lv_at hl 1 rfl) ?_
    refine rw_ialdN (n := 6) hx hb hK hR 2 (by decide) rfl j rfl (by omega) (by decide) dX4_bearsOf_65 ?_
    refine lv_iadd hx hb dX4_bearsOf_66 ?_
    exact hQ _ _ _ _ _ (by first | (simp [bearsF, k_6]; done) | simp_all [bearsF]) hR dX4_bearsOf_67
  by_cases k_7 : (B 1 j) = 6
  · skip
    refine lv_tableIn (tgt := 54) (off := 48) hx hb dX4_bearsOf_6 (by rw [k_7]; decide) (by rw [k_7]; decide) (by rw [k_7]; rfl) (by decide) ?_
    refine lv_iconst (v := 4) hx hb dX4_bearsOf_54 (by decide) ?_
    exact hQ _ _ _ _ _ (by first | (simp [bearsF, k_7]; done) | simp_all [bearsF]) hR dX4_bearsOf_55
  by_cases k_8 : (B 1 j) = 7
  · skip
    refine lv_tableIn (tgt := 56) (off := 50) hx hb dX4_bearsOf_6 (by rw [k_8]; decide) (by rw [k_8]; decide) (by rw [k_8]; rfl) (by decide) ?_
    refine lv_bipush (v := 20) hx hb dX4_bearsOf_56 (by decide) ?_
    exact hQ _ _ _ _ _ (by first | (simp [bearsF, k_8]; done) | simp_all [bearsF]) hR dX4_bearsOf_58
  have k_1n : (B 1 j).toInt ≠ 0 := sw_ne (by decide) k_1
  have k_2n : (B 1 j).toInt ≠ 1 := sw_ne (by decide) k_2
  have k_3n : (B 1 j).toInt ≠ 2 := sw_ne (by decide) k_3
  have k_4n : (B 1 j).toInt ≠ 3 := sw_ne (by decide) k_4
  have k_5n : (B 1 j).toInt ≠ 4 := sw_ne (by decide) k_5
  have k_6n : (B 1 j).toInt ≠ 5 := sw_ne (by decide) k_6
  have k_7n : (B 1 j).toInt ≠ 6 := sw_ne (by decide) k_7
  have k_8n : (B 1 j).toInt ≠ 7 := sw_ne (by decide) k_8
  refine lv_tableOut (tgt := 59) hx hb dX4_bearsOf_6 (by omega) (by decide) ?_
  refine lv_iconst (v := 5) hx hb dX4_bearsOf_59 (by decide) ?_
  refine lv_aload_n hx hb dX4_bearsOf_60 rfl (lv_at hl 0 rfl) ?_
  refine rw_get (v := .ref (ad 2)) hx hb hts in_X4 hown hK hR 0 (by decide) rfl rfl 2 (by decide) q1164 rfl rfl dX4_bearsOf_61 ?_
  refine lv_iload_n hx hb dX4_bearsOf_64 rfl (lv_at hl 1 rfl) ?_
  refine rw_ialdN (n := 6) hx hb hK hR 2 (by decide) rfl j rfl (by omega) (by decide) dX4_bearsOf_65 ?_
  refine lv_iadd hx hb dX4_bearsOf_66 ?_
  exact hQ _ _ _ _ _ (by first | (simp [bearsF, k_1, k_2, k_3, k_4, k_5, k_6, k_7, k_8]; done) | simp_all [bearsF]) hR dX4_bearsOf_67
theorem cd_X4_passesOf : yX4_passesOf.cls = RX4 ∧ yX4_passesOf.cls ≠ "java/lang/invoke/MethodHandle" ∧ yX4_passesOf.cls ≠ "java/lang/invoke/VarHandle" ∧ (parseMethodDescriptor yX4_passesOf.desc).map (fun d => d.parameters.length) = some 1 := by decide +kernel
set_option maxHeartbeats 4000000 in
theorem m_X4_passesOf (l : Launch) (D : va_G) (ca : Nat → ClassId) (B X : Nat → Nat → Int32) (Y : Nat → Nat → Int64) (kp : Nat) (j : Nat) (hj : j < 6) : MMi l D ca yX4_passesOf (ws_ yX4_passesOf cX4_passesOf 2 (some .int)) (rmN 0) (fun ad => [.int (nI j)]) B X Y kp (passesF (B 1 j)) B X Y kp := by
  refine MMi_start (by decide) (Or.inl rfl) (fun _ => Nat.le_of_ble_eq_true rfl) ?_
  intro p e s m args below meth c0 ad A Q ls hx hb hml hown hts hK hR hl hQ
  have hl : lv_has ls 2 [(0, .ref (ad 0)), (1, .int (nI j))] := hl
  refine lv_aload_n hx hb dX4_passesOf_0 rfl (lv_at hl 0 rfl) ?_
  refine rw_get (v := .ref (ad 1)) hx hb hts in_X4 hown hK hR 0 (by decide) rfl rfl 1 (by decide) q1163 rfl rfl dX4_passesOf_1 ?_
  refine lv_iload_n hx hb dX4_passesOf_4 rfl (lv_at hl 1 rfl) ?_
  refine rw_ialdN (n := 6) hx hb hK hR 1 (by decide) rfl j rfl (by omega) (by decide) dX4_passesOf_5 ?_
  by_cases k_1 : (B 1 j) = 2
  · skip
    refine lv_tableIn (tgt := 40) (off := 34) hx hb dX4_passesOf_6 (by rw [k_1]; decide) (by rw [k_1]; decide) (by rw [k_1]; rfl) (by decide) ?_
    refine lv_iconst (v := 0) hx hb dX4_passesOf_40 (by decide) ?_
    exact hQ _ _ _ _ _ (by first | (simp [passesF, k_1]; done) | simp_all [passesF]) hR dX4_passesOf_41
  by_cases k_2 : (B 1 j) = 3
  · skip
    refine lv_tableIn (tgt := 46) (off := 40) hx hb dX4_passesOf_6 (by rw [k_2]; decide) (by rw [k_2]; decide) (by rw [k_2]; rfl) (by decide) ?_
    refine lv_iconst (v := 1) hx hb dX4_passesOf_46 (by decide) ?_
    exact hQ _ _ _ _ _ (by first | (simp [passesF, k_2]; done) | simp_all [passesF]) hR dX4_passesOf_47
  by_cases k_3 : (B 1 j) = 4
  · skip
    refine lv_tableIn (tgt := 42) (off := 36) hx hb dX4_passesOf_6 (by rw [k_3]; decide) (by rw [k_3]; decide) (by rw [k_3]; rfl) (by decide) ?_
    refine lv_iconst (v := 2) hx hb dX4_passesOf_42 (by decide) ?_
    exact hQ _ _ _ _ _ (by first | (simp [passesF, k_3]; done) | simp_all [passesF]) hR dX4_passesOf_43
  by_cases k_4 : (B 1 j) = 5
  · skip
    refine lv_tableIn (tgt := 44) (off := 38) hx hb dX4_passesOf_6 (by rw [k_4]; decide) (by rw [k_4]; decide) (by rw [k_4]; rfl) (by decide) ?_
    refine lv_iconst (v := 3) hx hb dX4_passesOf_44 (by decide) ?_
    exact hQ _ _ _ _ _ (by first | (simp [passesF, k_4]; done) | simp_all [passesF]) hR dX4_passesOf_45
  by_cases k_5 : (B 1 j) = 6
  · skip
    refine lv_tableIn (tgt := 40) (off := 34) hx hb dX4_passesOf_6 (by rw [k_5]; decide) (by rw [k_5]; decide) (by rw [k_5]; rfl) (by decide) ?_
    refine lv_iconst (v := 0) hx hb dX4_passesOf_40 (by decide) ?_
    exact hQ _ _ _ _ _ (by first | (simp [passesF, k_5]; done) | simp_all [passesF]) hR dX4_passesOf_41
  have k_1n : (B 1 j).toInt ≠ 2 := sw_ne (by decide) k_1
  have k_2n : (B 1 j).toInt ≠ 3 := sw_ne (by decide) k_2
  have k_3n : (B 1 j).toInt ≠ 4 := sw_ne (by decide) k_3
  have k_4n : (B 1 j).toInt ≠ 5 := sw_ne (by decide) k_4
  have k_5n : (B 1 j).toInt ≠ 6 := sw_ne (by decide) k_5
  refine lv_tableOut (tgt := 46) hx hb dX4_passesOf_6 (by omega) (by decide) ?_
  refine lv_iconst (v := 1) hx hb dX4_passesOf_46 (by decide) ?_
  exact hQ _ _ _ _ _ (by first | (simp [passesF, k_1, k_2, k_3, k_4, k_5]; done) | simp_all [passesF]) hR dX4_passesOf_47
theorem cd_X4_isReady : yX4_isReady.cls = RX4 ∧ yX4_isReady.cls ≠ "java/lang/invoke/MethodHandle" ∧ yX4_isReady.cls ≠ "java/lang/invoke/VarHandle" ∧ (parseMethodDescriptor yX4_isReady.desc).map (fun d => d.parameters.length) = some 1 := by decide +kernel
set_option maxHeartbeats 4000000 in
theorem m_X4_isReady (l : Launch) (D : va_G) (ca : Nat → ClassId) (B X : Nat → Nat → Int32) (Y : Nat → Nat → Int64) (kp : Nat) (j : Nat) (hj : j < 6) : MMi l D ca yX4_isReady (ws_ yX4_isReady cX4_isReady 2 (some .boolean)) (rmN 2) (fun ad => [.int (nI j)]) B X Y kp (bI (rdy B j)) B X Y kp := by
  refine MMi_start (by decide) (Or.inr ⟨rfl, bI_nar _⟩) (fun _ => Nat.le_of_ble_eq_true rfl) ?_
  intro p e s m args below meth c0 ad A Q ls hx hb hml hown hts hK hR hl hQ
  have hl : lv_has ls 2 [(0, .ref (ad 0)), (1, .int (nI j))] := hl
  refine lv_aload_n hx hb dX4_isReady_0 rfl (lv_at hl 0 rfl) ?_
  refine rw_get (v := .ref (ad 4)) hx hb hts in_X4 hown hK hR 0 (by decide) rfl rfl 4 (by decide) q1166 rfl rfl dX4_isReady_1 ?_
  refine lv_iload_n hx hb dX4_isReady_4 rfl (lv_at hl 1 rfl) ?_
  refine rw_ialdN (n := 6) hx hb hK hR 4 (by decide) rfl j rfl (by omega) (by decide) dX4_isReady_5 ?_
  refine lv_bipush (v := 7) hx hb dX4_isReady_6 (by decide) ?_
  refine lj_ge (tgt := 29) hx hb dX4_isReady_8 (by decide) (fun c_1 => ?_) (fun c_1 => ?_)
  · skip
    refine lv_iconst (v := 0) hx hb dX4_isReady_29 (by decide) ?_
    exact hQ _ _ _ _ _ (by first | (simp [rdy, bI, c_1]; done) | simp_all [rdy, bI]) hR dX4_isReady_30
  · skip
    refine lv_aload_n hx hb dX4_isReady_11 rfl (lv_at hl 0 rfl) ?_
    refine rw_get (v := .ref (ad 3)) hx hb hts in_X4 hown hK hR 0 (by decide) rfl rfl 3 (by decide) q1165 rfl rfl dX4_isReady_12 ?_
    refine lv_iload_n hx hb dX4_isReady_15 rfl (lv_at hl 1 rfl) ?_
    refine rw_ialdN (n := 6) hx hb hK hR 3 (by decide) rfl j rfl (by omega) (by decide) dX4_isReady_16 ?_
    refine lv_aload_n hx hb dX4_isReady_17 rfl (lv_at hl 0 rfl) ?_
    refine lv_iload_n hx hb dX4_isReady_18 rfl (lv_at hl 1 rfl) ?_
    refine mm_calli (rest := [.int (B 3 j)]) hx hb hml hown hts hK hl.1 hR (m_X4_needsOf l D ca B X Y kp j (by omega)) (cwV 1 hts (lw_V q1358 q1360 qs48 q82 q1361) rfl rfl rfl cd_X4_needsOf ⟨Nat.le_of_ble_eq_true rfl, Nat.le_of_ble_eq_true rfl⟩) rfl rfl (Nat.le_of_ble_eq_true rfl) dX4_isReady_19 ⟨Nat.le_refl _, Nat.le_refl _⟩ (fun H locs hR => ?_)
    refine lj_lt (tgt := 29) hx hb dX4_isReady_22 (by decide) (fun c_2 => ?_) (fun c_2 => ?_)
    · skip
      refine lv_iconst (v := 0) hx hb dX4_isReady_29 (by decide) ?_
      exact hQ _ _ _ _ _ (by first | (simp [rdy, bI, c_1, c_2]; done) | simp_all [rdy, bI]) hR dX4_isReady_30
    · skip
      refine lv_iconst (v := 1) hx hb dX4_isReady_25 (by decide) ?_
      refine lv_goto (tgt := 30) hx hb dX4_isReady_26 (by decide) ?_
      exact hQ _ _ _ _ _ (by first | (simp [rdy, bI, c_1, c_2]; done) | simp_all [rdy, bI]) hR dX4_isReady_30
