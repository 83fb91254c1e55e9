-- ===== PART A: goes FIRST, ahead of the names: the tables' words, and 'selects' of the private methods out of them =====
/-- a private method of a class that the tables say can be made, by its rows of tables_1 -/
def lw_okq (q : MethodName × Nat) : Prop := (q.1.cls ≠ "java/lang/invoke/MethodHandle" ∧ q.1.cls ≠ "java/lang/invoke/VarHandle") ∧ Cond.instantiable q.1.cls q.2 ∈ tables_1 ∧ Cond.privateMethod q.1 ∈ tables_1 ∧ Cond.instanceMethod q.1 ∈ tables_1
set_option maxRecDepth 100000
theorem lw_t1 {w : Cond} (h : w ∈ tables_1_1) : w ∈ tables_1 := List.mem_append_left _ h
theorem lw_t2 {w : Cond} (h : w ∈ tables_1_2) : w ∈ tables_1 := List.mem_append_right _ (List.mem_append_left _ h)
theorem lw_t3 {w : Cond} (h : w ∈ tables_1_3) : w ∈ tables_1 := List.mem_append_right _ (List.mem_append_right _ (List.mem_append_left _ h))
theorem lw_t4 {w : Cond} (h : w ∈ tables_1_4) : w ∈ tables_1 := List.mem_append_right _ (List.mem_append_right _ (List.mem_append_right _ (List.mem_append_left _ h)))
theorem lw_t5 {w : Cond} (h : w ∈ tables_1_5) : w ∈ tables_1 := List.mem_append_right _ (List.mem_append_right _ (List.mem_append_right _ (List.mem_append_right _ (List.mem_append_left _ h))))
theorem lw_t6 {w : Cond} (h : w ∈ tables_1_6) : w ∈ tables_1 := List.mem_append_right _ (List.mem_append_right _ (List.mem_append_right _ (List.mem_append_right _ (List.mem_append_right _ (List.mem_append_left _ h)))))
theorem lw_t7 {w : Cond} (h : w ∈ tables_1_7) : w ∈ tables_1 := List.mem_append_right _ (List.mem_append_right _ (List.mem_append_right _ (List.mem_append_right _ (List.mem_append_right _ (List.mem_append_right _ h)))))
theorem lw_p0 : lw_okq (⟨"java/lang/NullPointerException", "getExtendedNPEMessage", "()Ljava/lang/String;"⟩, 8) := ⟨⟨by decide +kernel, by decide +kernel⟩, lw_t1 (List.mem_of_getElem? (i := 71) rfl), lw_t1 (List.mem_of_getElem? (i := 69) rfl), lw_t1 (List.mem_of_getElem? (i := 70) rfl)⟩
theorem lw_p1 : lw_okq (⟨"java/lang/Throwable", "fillInStackTrace", "(I)Ljava/lang/Throwable;"⟩, 6) := ⟨⟨by decide +kernel, by decide +kernel⟩, lw_t1 (List.mem_of_getElem? (i := 83) rfl), lw_t1 (List.mem_of_getElem? (i := 81) rfl), lw_t1 (List.mem_of_getElem? (i := 82) rfl)⟩
theorem lw_p2 : lw_okq (⟨"HandUnderTheChin", "isShelf", "(I)Z"⟩, 13) := ⟨⟨by decide +kernel, by decide +kernel⟩, lw_t1 (List.mem_of_getElem? (i := 130) rfl), lw_t1 (List.mem_of_getElem? (i := 128) rfl), lw_t1 (List.mem_of_getElem? (i := 129) rfl)⟩
theorem lw_p3 : lw_okq (⟨"HandUnderTheChin", "reads", "([B)I"⟩, 13) := ⟨⟨by decide +kernel, by decide +kernel⟩, lw_t1 (List.mem_of_getElem? (i := 130) rfl), lw_t1 (List.mem_of_getElem? (i := 137) rfl), lw_t1 (List.mem_of_getElem? (i := 138) rfl)⟩
theorem lw_p4 : lw_okq (⟨"HandUnderTheChin$BathReader", "statement", "()LHandUnderTheChin$Told;"⟩, 2) := ⟨⟨by decide +kernel, by decide +kernel⟩, lw_t1 (List.mem_of_getElem? (i := 141) rfl), lw_t1 (List.mem_of_getElem? (i := 158) rfl), lw_t1 (List.mem_of_getElem? (i := 159) rfl)⟩
theorem lw_p5 : lw_okq (⟨"HandUnderTheChin$BathReader", "sign", "()I"⟩, 2) := ⟨⟨by decide +kernel, by decide +kernel⟩, lw_t1 (List.mem_of_getElem? (i := 141) rfl), lw_t1 (List.mem_of_getElem? (i := 164) rfl), lw_t1 (List.mem_of_getElem? (i := 165) rfl)⟩
theorem lw_p6 : lw_okq (⟨"HandUnderTheChin$BathReader", "reads", "(LHandUnderTheChin$Told;)V"⟩, 2) := ⟨⟨by decide +kernel, by decide +kernel⟩, lw_t1 (List.mem_of_getElem? (i := 141) rfl), lw_t1 (List.mem_of_getElem? (i := 190) rfl), lw_t1 (List.mem_of_getElem? (i := 191) rfl)⟩
theorem lw_p7 : lw_okq (⟨"HandUnderTheChin$BathReader", "number", "(I)I"⟩, 2) := ⟨⟨by decide +kernel, by decide +kernel⟩, lw_t1 (List.mem_of_getElem? (i := 141) rfl), lw_t1 (List.mem_of_getElem? (i := 194) rfl), lw_t1 (List.mem_of_getElem? (i := 195) rfl)⟩
theorem lw_p8 : lw_okq (⟨"HandUnderTheChin$BathReader", "broken", "()LHandUnderTheChin$Broken;"⟩, 2) := ⟨⟨by decide +kernel, by decide +kernel⟩, lw_t1 (List.mem_of_getElem? (i := 141) rfl), lw_t1 (List.mem_of_getElem? (i := 199) rfl), lw_t1 (List.mem_of_getElem? (i := 200) rfl)⟩
theorem lw_p9 : lw_okq (⟨"HandUnderTheChin", "comes", "(LHandUnderTheChin$Told;)Z"⟩, 13) := ⟨⟨by decide +kernel, by decide +kernel⟩, lw_t1 (List.mem_of_getElem? (i := 130) rfl), lw_t1 (List.mem_of_getElem? (i := 239) rfl), lw_t2 (List.mem_of_getElem? (i := 0) rfl)⟩
theorem lw_p10 : lw_okq (⟨"HandUnderTheChin", "comesOne", "([I)Z"⟩, 13) := ⟨⟨by decide +kernel, by decide +kernel⟩, lw_t1 (List.mem_of_getElem? (i := 130) rfl), lw_t2 (List.mem_of_getElem? (i := 3) rfl), lw_t2 (List.mem_of_getElem? (i := 4) rfl)⟩
theorem lw_p11 : lw_okq (⟨"HandUnderTheChin$Bath", "gains", "(II)V"⟩, 7) := ⟨⟨by decide +kernel, by decide +kernel⟩, lw_t2 (List.mem_of_getElem? (i := 131) rfl), lw_t2 (List.mem_of_getElem? (i := 129) rfl), lw_t2 (List.mem_of_getElem? (i := 130) rfl)⟩
theorem lw_p12 : lw_okq (⟨"HandUnderTheChin$Bath", "fingers", "(I)V"⟩, 7) := ⟨⟨by decide +kernel, by decide +kernel⟩, lw_t2 (List.mem_of_getElem? (i := 131) rfl), lw_t2 (List.mem_of_getElem? (i := 144) rfl), lw_t2 (List.mem_of_getElem? (i := 145) rfl)⟩
theorem lw_p13 : lw_okq (⟨"HandUnderTheChin$Bath", "letGo", "(I)V"⟩, 7) := ⟨⟨by decide +kernel, by decide +kernel⟩, lw_t2 (List.mem_of_getElem? (i := 131) rfl), lw_t2 (List.mem_of_getElem? (i := 175) rfl), lw_t2 (List.mem_of_getElem? (i := 176) rfl)⟩
theorem lw_p14 : lw_okq (⟨"HandUnderTheChin$Bath", "passes", "(II)V"⟩, 7) := ⟨⟨by decide +kernel, by decide +kernel⟩, lw_t2 (List.mem_of_getElem? (i := 131) rfl), lw_t2 (List.mem_of_getElem? (i := 202) rfl), lw_t2 (List.mem_of_getElem? (i := 203) rfl)⟩
theorem lw_p15 : lw_okq (⟨"HandUnderTheChin$Bath", "isShown", "(I)V"⟩, 7) := ⟨⟨by decide +kernel, by decide +kernel⟩, lw_t2 (List.mem_of_getElem? (i := 131) rfl), lw_t2 (List.mem_of_getElem? (i := 227) rfl), lw_t2 (List.mem_of_getElem? (i := 228) rfl)⟩
def lw_privs_1 : List (MethodName × Nat) := [(⟨"java/lang/NullPointerException", "getExtendedNPEMessage", "()Ljava/lang/String;"⟩, 8), (⟨"java/lang/Throwable", "fillInStackTrace", "(I)Ljava/lang/Throwable;"⟩, 6), (⟨"HandUnderTheChin", "isShelf", "(I)Z"⟩, 13), (⟨"HandUnderTheChin", "reads", "([B)I"⟩, 13), (⟨"HandUnderTheChin$BathReader", "statement", "()LHandUnderTheChin$Told;"⟩, 2), (⟨"HandUnderTheChin$BathReader", "sign", "()I"⟩, 2), (⟨"HandUnderTheChin$BathReader", "reads", "(LHandUnderTheChin$Told;)V"⟩, 2), (⟨"HandUnderTheChin$BathReader", "number", "(I)I"⟩, 2), (⟨"HandUnderTheChin$BathReader", "broken", "()LHandUnderTheChin$Broken;"⟩, 2), (⟨"HandUnderTheChin", "comes", "(LHandUnderTheChin$Told;)Z"⟩, 13), (⟨"HandUnderTheChin", "comesOne", "([I)Z"⟩, 13), (⟨"HandUnderTheChin$Bath", "gains", "(II)V"⟩, 7), (⟨"HandUnderTheChin$Bath", "fingers", "(I)V"⟩, 7), (⟨"HandUnderTheChin$Bath", "letGo", "(I)V"⟩, 7), (⟨"HandUnderTheChin$Bath", "passes", "(II)V"⟩, 7), (⟨"HandUnderTheChin$Bath", "isShown", "(I)V"⟩, 7)]
theorem lw_r1 : ∀ q ∈ lw_privs_1, lw_okq q := List.forall_mem_cons.mpr ⟨lw_p0, List.forall_mem_cons.mpr ⟨lw_p1, List.forall_mem_cons.mpr ⟨lw_p2, List.forall_mem_cons.mpr ⟨lw_p3, List.forall_mem_cons.mpr ⟨lw_p4, List.forall_mem_cons.mpr ⟨lw_p5, List.forall_mem_cons.mpr ⟨lw_p6, List.forall_mem_cons.mpr ⟨lw_p7, List.forall_mem_cons.mpr ⟨lw_p8, List.forall_mem_cons.mpr ⟨lw_p9, List.forall_mem_cons.mpr ⟨lw_p10, List.forall_mem_cons.mpr ⟨lw_p11, List.forall_mem_cons.mpr ⟨lw_p12, List.forall_mem_cons.mpr ⟨lw_p13, List.forall_mem_cons.mpr ⟨lw_p14, List.forall_mem_cons.mpr ⟨lw_p15, fun _ h => absurd h List.not_mem_nil⟩⟩⟩⟩⟩⟩⟩⟩⟩⟩⟩⟩⟩⟩⟩⟩
theorem lw_p16 : lw_okq (⟨"HandUnderTheChin$Bath", "isGreater", "(II)Z"⟩, 7) := ⟨⟨by decide +kernel, by decide +kernel⟩, lw_t2 (List.mem_of_getElem? (i := 131) rfl), lw_t2 (List.mem_of_getElem? (i := 231) rfl), lw_t2 (List.mem_of_getElem? (i := 232) rfl)⟩
theorem lw_p17 : lw_okq (⟨"HandUnderTheChin$Bath", "waits", "(I)V"⟩, 7) := ⟨⟨by decide +kernel, by decide +kernel⟩, lw_t2 (List.mem_of_getElem? (i := 131) rfl), lw_t2 (List.mem_of_getElem? (i := 235) rfl), lw_t2 (List.mem_of_getElem? (i := 236) rfl)⟩
theorem lw_p18 : lw_okq (⟨"HandUnderTheChin", "comesFeeling", "(III)Z"⟩, 13) := ⟨⟨by decide +kernel, by decide +kernel⟩, lw_t1 (List.mem_of_getElem? (i := 130) rfl), lw_t3 (List.mem_of_getElem? (i := 30) rfl), lw_t3 (List.mem_of_getElem? (i := 31) rfl)⟩
theorem lw_p19 : lw_okq (⟨"HandUnderTheChin", "areTwo", "(II)Z"⟩, 13) := ⟨⟨by decide +kernel, by decide +kernel⟩, lw_t1 (List.mem_of_getElem? (i := 130) rfl), lw_t3 (List.mem_of_getElem? (i := 82) rfl), lw_t3 (List.mem_of_getElem? (i := 83) rfl)⟩
theorem lw_p20 : lw_okq (⟨"HandUnderTheChin", "findFewest", "(LHandUnderTheChin$Child;I)V"⟩, 13) := ⟨⟨by decide +kernel, by decide +kernel⟩, lw_t1 (List.mem_of_getElem? (i := 130) rfl), lw_t3 (List.mem_of_getElem? (i := 109) rfl), lw_t3 (List.mem_of_getElem? (i := 110) rfl)⟩
theorem lw_p21 : lw_okq (⟨"HandUnderTheChin", "stateOf", "(II)I"⟩, 13) := ⟨⟨by decide +kernel, by decide +kernel⟩, lw_t1 (List.mem_of_getElem? (i := 130) rfl), lw_t3 (List.mem_of_getElem? (i := 117) rfl), lw_t3 (List.mem_of_getElem? (i := 118) rfl)⟩
theorem lw_p22 : lw_okq (⟨"HandUnderTheChin", "mostFrom", "(II)I"⟩, 13) := ⟨⟨by decide +kernel, by decide +kernel⟩, lw_t1 (List.mem_of_getElem? (i := 130) rfl), lw_t3 (List.mem_of_getElem? (i := 136) rfl), lw_t3 (List.mem_of_getElem? (i := 137) rfl)⟩
theorem lw_p23 : lw_okq (⟨"HandUnderTheChin", "mostBy", "(IIII)I"⟩, 13) := ⟨⟨by decide +kernel, by decide +kernel⟩, lw_t1 (List.mem_of_getElem? (i := 130) rfl), lw_t3 (List.mem_of_getElem? (i := 140) rfl), lw_t3 (List.mem_of_getElem? (i := 141) rfl)⟩
theorem lw_p24 : lw_okq (⟨"HandUnderTheChin", "minds", "()V"⟩, 13) := ⟨⟨by decide +kernel, by decide +kernel⟩, lw_t1 (List.mem_of_getElem? (i := 130) rfl), lw_t3 (List.mem_of_getElem? (i := 148) rfl), lw_t3 (List.mem_of_getElem? (i := 149) rfl)⟩
theorem lw_p25 : lw_okq (⟨"HandUnderTheChin", "goesTurn", "()Z"⟩, 13) := ⟨⟨by decide +kernel, by decide +kernel⟩, lw_t1 (List.mem_of_getElem? (i := 130) rfl), lw_t3 (List.mem_of_getElem? (i := 160) rfl), lw_t3 (List.mem_of_getElem? (i := 161) rfl)⟩
theorem lw_p26 : lw_okq (⟨"HandUnderTheChin", "ordersFrom", "(III)V"⟩, 13) := ⟨⟨by decide +kernel, by decide +kernel⟩, lw_t1 (List.mem_of_getElem? (i := 130) rfl), lw_t3 (List.mem_of_getElem? (i := 179) rfl), lw_t3 (List.mem_of_getElem? (i := 180) rfl)⟩
theorem lw_p27 : lw_okq (⟨"HandUnderTheChin", "manyBeside", "(I)I"⟩, 13) := ⟨⟨by decide +kernel, by decide +kernel⟩, lw_t1 (List.mem_of_getElem? (i := 130) rfl), lw_t3 (List.mem_of_getElem? (i := 191) rfl), lw_t3 (List.mem_of_getElem? (i := 192) rfl)⟩
theorem lw_p28 : lw_okq (⟨"HandUnderTheChin", "gained", "(III)I"⟩, 13) := ⟨⟨by decide +kernel, by decide +kernel⟩, lw_t1 (List.mem_of_getElem? (i := 130) rfl), lw_t3 (List.mem_of_getElem? (i := 204) rfl), lw_t3 (List.mem_of_getElem? (i := 205) rfl)⟩
theorem lw_p29 : lw_okq (⟨"HandUnderTheChin", "notRow", "(I)I"⟩, 13) := ⟨⟨by decide +kernel, by decide +kernel⟩, lw_t1 (List.mem_of_getElem? (i := 130) rfl), lw_t3 (List.mem_of_getElem? (i := 218) rfl), lw_t3 (List.mem_of_getElem? (i := 219) rfl)⟩
theorem lw_p30 : lw_okq (⟨"HandUnderTheChin", "gets", "(III)I"⟩, 13) := ⟨⟨by decide +kernel, by decide +kernel⟩, lw_t1 (List.mem_of_getElem? (i := 130) rfl), lw_t4 (List.mem_of_getElem? (i := 0) rfl), lw_t4 (List.mem_of_getElem? (i := 1) rfl)⟩
theorem lw_p31 : lw_okq (⟨"HandUnderTheChin", "holdsOf", "(I)I"⟩, 13) := ⟨⟨by decide +kernel, by decide +kernel⟩, lw_t1 (List.mem_of_getElem? (i := 130) rfl), lw_t4 (List.mem_of_getElem? (i := 8) rfl), lw_t4 (List.mem_of_getElem? (i := 9) rfl)⟩
def lw_privs_2 : List (MethodName × Nat) := [(⟨"HandUnderTheChin$Bath", "isGreater", "(II)Z"⟩, 7), (⟨"HandUnderTheChin$Bath", "waits", "(I)V"⟩, 7), (⟨"HandUnderTheChin", "comesFeeling", "(III)Z"⟩, 13), (⟨"HandUnderTheChin", "areTwo", "(II)Z"⟩, 13), (⟨"HandUnderTheChin", "findFewest", "(LHandUnderTheChin$Child;I)V"⟩, 13), (⟨"HandUnderTheChin", "stateOf", "(II)I"⟩, 13), (⟨"HandUnderTheChin", "mostFrom", "(II)I"⟩, 13), (⟨"HandUnderTheChin", "mostBy", "(IIII)I"⟩, 13), (⟨"HandUnderTheChin", "minds", "()V"⟩, 13), (⟨"HandUnderTheChin", "goesTurn", "()Z"⟩, 13), (⟨"HandUnderTheChin", "ordersFrom", "(III)V"⟩, 13), (⟨"HandUnderTheChin", "manyBeside", "(I)I"⟩, 13), (⟨"HandUnderTheChin", "gained", "(III)I"⟩, 13), (⟨"HandUnderTheChin", "notRow", "(I)I"⟩, 13), (⟨"HandUnderTheChin", "gets", "(III)I"⟩, 13), (⟨"HandUnderTheChin", "holdsOf", "(I)I"⟩, 13)]
theorem lw_r2 : ∀ q ∈ lw_privs_2, lw_okq q := List.forall_mem_cons.mpr ⟨lw_p16, List.forall_mem_cons.mpr ⟨lw_p17, List.forall_mem_cons.mpr ⟨lw_p18, List.forall_mem_cons.mpr ⟨lw_p19, List.forall_mem_cons.mpr ⟨lw_p20, List.forall_mem_cons.mpr ⟨lw_p21, List.forall_mem_cons.mpr ⟨lw_p22, List.forall_mem_cons.mpr ⟨lw_p23, List.forall_mem_cons.mpr ⟨lw_p24, List.forall_mem_cons.mpr ⟨lw_p25, List.forall_mem_cons.mpr ⟨lw_p26, List.forall_mem_cons.mpr ⟨lw_p27, List.forall_mem_cons.mpr ⟨lw_p28, List.forall_mem_cons.mpr ⟨lw_p29, List.forall_mem_cons.mpr ⟨lw_p30, List.forall_mem_cons.mpr ⟨lw_p31, fun _ h => absurd h List.not_mem_nil⟩⟩⟩⟩⟩⟩⟩⟩⟩⟩⟩⟩⟩⟩⟩⟩
theorem lw_p32 : lw_okq (⟨"HandUnderTheChin", "draw", "(I)I"⟩, 13) := ⟨⟨by decide +kernel, by decide +kernel⟩, lw_t1 (List.mem_of_getElem? (i := 130) rfl), lw_t4 (List.mem_of_getElem? (i := 44) rfl), lw_t4 (List.mem_of_getElem? (i := 45) rfl)⟩
theorem lw_p33 : lw_okq (⟨"HandUnderTheChinModel", "wrongRow", "(I)I"⟩, 37) := ⟨⟨by decide +kernel, by decide +kernel⟩, lw_t5 (List.mem_of_getElem? (i := 119) rfl), lw_t6 (List.mem_of_getElem? (i := 6) rfl), lw_t6 (List.mem_of_getElem? (i := 7) rfl)⟩
theorem lw_p34 : lw_okq (⟨"HandUnderTheChinModel", "readStatement", "()V"⟩, 37) := ⟨⟨by decide +kernel, by decide +kernel⟩, lw_t5 (List.mem_of_getElem? (i := 119) rfl), lw_t6 (List.mem_of_getElem? (i := 14) rfl), lw_t6 (List.mem_of_getElem? (i := 15) rfl)⟩
theorem lw_p35 : lw_okq (⟨"HandUnderTheChinModel", "here", "()I"⟩, 37) := ⟨⟨by decide +kernel, by decide +kernel⟩, lw_t5 (List.mem_of_getElem? (i := 119) rfl), lw_t6 (List.mem_of_getElem? (i := 18) rfl), lw_t6 (List.mem_of_getElem? (i := 19) rfl)⟩
theorem lw_p36 : lw_okq (⟨"HandUnderTheChinModel", "readNumbers", "(II)V"⟩, 37) := ⟨⟨by decide +kernel, by decide +kernel⟩, lw_t5 (List.mem_of_getElem? (i := 119) rfl), lw_t6 (List.mem_of_getElem? (i := 25) rfl), lw_t6 (List.mem_of_getElem? (i := 26) rfl)⟩
theorem lw_p37 : lw_okq (⟨"HandUnderTheChinModel", "readDigits", "(I)I"⟩, 37) := ⟨⟨by decide +kernel, by decide +kernel⟩, lw_t5 (List.mem_of_getElem? (i := 119) rfl), lw_t6 (List.mem_of_getElem? (i := 29) rfl), lw_t6 (List.mem_of_getElem? (i := 30) rfl)⟩
theorem lw_p38 : lw_okq (⟨"HandUnderTheChinModel", "open", "()V"⟩, 37) := ⟨⟨by decide +kernel, by decide +kernel⟩, lw_t5 (List.mem_of_getElem? (i := 119) rfl), lw_t6 (List.mem_of_getElem? (i := 35) rfl), lw_t6 (List.mem_of_getElem? (i := 36) rfl)⟩
theorem lw_p39 : lw_okq (⟨"HandUnderTheChinModel", "carryAll", "([IZ)V"⟩, 37) := ⟨⟨by decide +kernel, by decide +kernel⟩, lw_t5 (List.mem_of_getElem? (i := 119) rfl), lw_t6 (List.mem_of_getElem? (i := 39) rfl), lw_t6 (List.mem_of_getElem? (i := 40) rfl)⟩
theorem lw_p40 : lw_okq (⟨"HandUnderTheChinModel", "carry", "(I)I"⟩, 37) := ⟨⟨by decide +kernel, by decide +kernel⟩, lw_t5 (List.mem_of_getElem? (i := 119) rfl), lw_t6 (List.mem_of_getElem? (i := 43) rfl), lw_t6 (List.mem_of_getElem? (i := 44) rfl)⟩
theorem lw_p41 : lw_okq (⟨"HandUnderTheChinModel", "comesTold", "(I)Z"⟩, 37) := ⟨⟨by decide +kernel, by decide +kernel⟩, lw_t5 (List.mem_of_getElem? (i := 119) rfl), lw_t6 (List.mem_of_getElem? (i := 47) rfl), lw_t6 (List.mem_of_getElem? (i := 48) rfl)⟩
theorem lw_p42 : lw_okq (⟨"HandUnderTheChinModel", "childComes", "(III)Z"⟩, 37) := ⟨⟨by decide +kernel, by decide +kernel⟩, lw_t5 (List.mem_of_getElem? (i := 119) rfl), lw_t6 (List.mem_of_getElem? (i := 51) rfl), lw_t6 (List.mem_of_getElem? (i := 52) rfl)⟩
theorem lw_p43 : lw_okq (⟨"HandUnderTheChinModel", "minuteComes", "(II)Z"⟩, 37) := ⟨⟨by decide +kernel, by decide +kernel⟩, lw_t5 (List.mem_of_getElem? (i := 119) rfl), lw_t6 (List.mem_of_getElem? (i := 55) rfl), lw_t6 (List.mem_of_getElem? (i := 56) rfl)⟩
theorem lw_p44 : lw_okq (⟨"HandUnderTheChinModel", "isChild", "(I)Z"⟩, 37) := ⟨⟨by decide +kernel, by decide +kernel⟩, lw_t5 (List.mem_of_getElem? (i := 119) rfl), lw_t6 (List.mem_of_getElem? (i := 59) rfl), lw_t6 (List.mem_of_getElem? (i := 60) rfl)⟩
theorem lw_p45 : lw_okq (⟨"HandUnderTheChinModel", "goMinute", "(II)V"⟩, 37) := ⟨⟨by decide +kernel, by decide +kernel⟩, lw_t5 (List.mem_of_getElem? (i := 119) rfl), lw_t6 (List.mem_of_getElem? (i := 63) rfl), lw_t6 (List.mem_of_getElem? (i := 64) rfl)⟩
theorem lw_p46 : lw_okq (⟨"HandUnderTheChinModel", "holdsOf", "(I)I"⟩, 37) := ⟨⟨by decide +kernel, by decide +kernel⟩, lw_t5 (List.mem_of_getElem? (i := 119) rfl), lw_t6 (List.mem_of_getElem? (i := 67) rfl), lw_t6 (List.mem_of_getElem? (i := 68) rfl)⟩
theorem lw_p47 : lw_okq (⟨"HandUnderTheChinModel", "gains", "(II)V"⟩, 37) := ⟨⟨by decide +kernel, by decide +kernel⟩, lw_t5 (List.mem_of_getElem? (i := 119) rfl), lw_t6 (List.mem_of_getElem? (i := 74) rfl), lw_t6 (List.mem_of_getElem? (i := 75) rfl)⟩
def lw_privs_3 : List (MethodName × Nat) := [(⟨"HandUnderTheChin", "draw", "(I)I"⟩, 13), (⟨"HandUnderTheChinModel", "wrongRow", "(I)I"⟩, 37), (⟨"HandUnderTheChinModel", "readStatement", "()V"⟩, 37), (⟨"HandUnderTheChinModel", "here", "()I"⟩, 37), (⟨"HandUnderTheChinModel", "readNumbers", "(II)V"⟩, 37), (⟨"HandUnderTheChinModel", "readDigits", "(I)I"⟩, 37), (⟨"HandUnderTheChinModel", "open", "()V"⟩, 37), (⟨"HandUnderTheChinModel", "carryAll", "([IZ)V"⟩, 37), (⟨"HandUnderTheChinModel", "carry", "(I)I"⟩, 37), (⟨"HandUnderTheChinModel", "comesTold", "(I)Z"⟩, 37), (⟨"HandUnderTheChinModel", "childComes", "(III)Z"⟩, 37), (⟨"HandUnderTheChinModel", "minuteComes", "(II)Z"⟩, 37), (⟨"HandUnderTheChinModel", "isChild", "(I)Z"⟩, 37), (⟨"HandUnderTheChinModel", "goMinute", "(II)V"⟩, 37), (⟨"HandUnderTheChinModel", "holdsOf", "(I)I"⟩, 37), (⟨"HandUnderTheChinModel", "gains", "(II)V"⟩, 37)]
theorem lw_r3 : ∀ q ∈ lw_privs_3, lw_okq q := List.forall_mem_cons.mpr ⟨lw_p32, List.forall_mem_cons.mpr ⟨lw_p33, List.forall_mem_cons.mpr ⟨lw_p34, List.forall_mem_cons.mpr ⟨lw_p35, List.forall_mem_cons.mpr ⟨lw_p36, List.forall_mem_cons.mpr ⟨lw_p37, List.forall_mem_cons.mpr ⟨lw_p38, List.forall_mem_cons.mpr ⟨lw_p39, List.forall_mem_cons.mpr ⟨lw_p40, List.forall_mem_cons.mpr ⟨lw_p41, List.forall_mem_cons.mpr ⟨lw_p42, List.forall_mem_cons.mpr ⟨lw_p43, List.forall_mem_cons.mpr ⟨lw_p44, List.forall_mem_cons.mpr ⟨lw_p45, List.forall_mem_cons.mpr ⟨lw_p46, List.forall_mem_cons.mpr ⟨lw_p47, fun _ h => absurd h List.not_mem_nil⟩⟩⟩⟩⟩⟩⟩⟩⟩⟩⟩⟩⟩⟩⟩⟩
theorem lw_p48 : lw_okq (⟨"HandUnderTheChinModel", "needsOf", "(I)I"⟩, 37) := ⟨⟨by decide +kernel, by decide +kernel⟩, lw_t5 (List.mem_of_getElem? (i := 119) rfl), lw_t6 (List.mem_of_getElem? (i := 81) rfl), lw_t6 (List.mem_of_getElem? (i := 82) rfl)⟩
theorem lw_p49 : lw_okq (⟨"HandUnderTheChinModel", "needsAt", "(II)I"⟩, 37) := ⟨⟨by decide +kernel, by decide +kernel⟩, lw_t5 (List.mem_of_getElem? (i := 119) rfl), lw_t6 (List.mem_of_getElem? (i := 85) rfl), lw_t6 (List.mem_of_getElem? (i := 86) rfl)⟩
theorem lw_p50 : lw_okq (⟨"HandUnderTheChinModel", "letGo", "(I)V"⟩, 37) := ⟨⟨by decide +kernel, by decide +kernel⟩, lw_t5 (List.mem_of_getElem? (i := 119) rfl), lw_t6 (List.mem_of_getElem? (i := 89) rfl), lw_t6 (List.mem_of_getElem? (i := 90) rfl)⟩
theorem lw_p51 : lw_okq (⟨"HandUnderTheChinModel", "passesOf", "(I)I"⟩, 37) := ⟨⟨by decide +kernel, by decide +kernel⟩, lw_t5 (List.mem_of_getElem? (i := 119) rfl), lw_t6 (List.mem_of_getElem? (i := 93) rfl), lw_t6 (List.mem_of_getElem? (i := 94) rfl)⟩
theorem lw_p52 : lw_okq (⟨"HandUnderTheChinModel", "isReady", "(I)Z"⟩, 37) := ⟨⟨by decide +kernel, by decide +kernel⟩, lw_t5 (List.mem_of_getElem? (i := 119) rfl), lw_t6 (List.mem_of_getElem? (i := 97) rfl), lw_t6 (List.mem_of_getElem? (i := 98) rfl)⟩
theorem lw_p53 : lw_okq (⟨"HandUnderTheChinModel", "frightOf", "(I)I"⟩, 37) := ⟨⟨by decide +kernel, by decide +kernel⟩, lw_t5 (List.mem_of_getElem? (i := 119) rfl), lw_t6 (List.mem_of_getElem? (i := 101) rfl), lw_t6 (List.mem_of_getElem? (i := 102) rfl)⟩
theorem lw_p54 : lw_okq (⟨"HandUnderTheChinModel", "show", "(I)V"⟩, 37) := ⟨⟨by decide +kernel, by decide +kernel⟩, lw_t5 (List.mem_of_getElem? (i := 119) rfl), lw_t6 (List.mem_of_getElem? (i := 105) rfl), lw_t6 (List.mem_of_getElem? (i := 106) rfl)⟩
theorem lw_p55 : lw_okq (⟨"HandUnderTheChinModel", "colder", "(I)V"⟩, 37) := ⟨⟨by decide +kernel, by decide +kernel⟩, lw_t5 (List.mem_of_getElem? (i := 119) rfl), lw_t6 (List.mem_of_getElem? (i := 109) rfl), lw_t6 (List.mem_of_getElem? (i := 110) rfl)⟩
theorem lw_p56 : lw_okq (⟨"HandUnderTheChinModel", "bearsOf", "(I)I"⟩, 37) := ⟨⟨by decide +kernel, by decide +kernel⟩, lw_t5 (List.mem_of_getElem? (i := 119) rfl), lw_t6 (List.mem_of_getElem? (i := 113) rfl), lw_t6 (List.mem_of_getElem? (i := 114) rfl)⟩
theorem lw_p57 : lw_okq (⟨"HandUnderTheChinModel", "goBreak", "(I)V"⟩, 37) := ⟨⟨by decide +kernel, by decide +kernel⟩, lw_t5 (List.mem_of_getElem? (i := 119) rfl), lw_t6 (List.mem_of_getElem? (i := 117) rfl), lw_t6 (List.mem_of_getElem? (i := 118) rfl)⟩
theorem lw_p58 : lw_okq (⟨"HandUnderTheChinModel", "swapAll", "(II)V"⟩, 37) := ⟨⟨by decide +kernel, by decide +kernel⟩, lw_t5 (List.mem_of_getElem? (i := 119) rfl), lw_t6 (List.mem_of_getElem? (i := 121) rfl), lw_t6 (List.mem_of_getElem? (i := 122) rfl)⟩
theorem lw_p59 : lw_okq (⟨"HandUnderTheChinModel", "swapNumbers", "([III)V"⟩, 37) := ⟨⟨by decide +kernel, by decide +kernel⟩, lw_t5 (List.mem_of_getElem? (i := 119) rfl), lw_t6 (List.mem_of_getElem? (i := 125) rfl), lw_t6 (List.mem_of_getElem? (i := 126) rfl)⟩
theorem lw_p60 : lw_okq (⟨"HandUnderTheChinModel", "close", "()V"⟩, 37) := ⟨⟨by decide +kernel, by decide +kernel⟩, lw_t5 (List.mem_of_getElem? (i := 119) rfl), lw_t6 (List.mem_of_getElem? (i := 129) rfl), lw_t6 (List.mem_of_getElem? (i := 130) rfl)⟩
theorem lw_p61 : lw_okq (⟨"HandUnderTheChinModel", "wrongKept", "(I)I"⟩, 37) := ⟨⟨by decide +kernel, by decide +kernel⟩, lw_t5 (List.mem_of_getElem? (i := 119) rfl), lw_t6 (List.mem_of_getElem? (i := 150) rfl), lw_t6 (List.mem_of_getElem? (i := 151) rfl)⟩
theorem lw_p62 : lw_okq (⟨"HandUnderTheChinModel", "allSteps", "()I"⟩, 37) := ⟨⟨by decide +kernel, by decide +kernel⟩, lw_t5 (List.mem_of_getElem? (i := 119) rfl), lw_t6 (List.mem_of_getElem? (i := 172) rfl), lw_t6 (List.mem_of_getElem? (i := 173) rfl)⟩
theorem lw_p63 : lw_okq (⟨"HandUnderTheChinModel", "readyBits", "()I"⟩, 37) := ⟨⟨by decide +kernel, by decide +kernel⟩, lw_t5 (List.mem_of_getElem? (i := 119) rfl), lw_t6 (List.mem_of_getElem? (i := 180) rfl), lw_t6 (List.mem_of_getElem? (i := 181) rfl)⟩
def lw_privs_4 : List (MethodName × Nat) := [(⟨"HandUnderTheChinModel", "needsOf", "(I)I"⟩, 37), (⟨"HandUnderTheChinModel", "needsAt", "(II)I"⟩, 37), (⟨"HandUnderTheChinModel", "letGo", "(I)V"⟩, 37), (⟨"HandUnderTheChinModel", "passesOf", "(I)I"⟩, 37), (⟨"HandUnderTheChinModel", "isReady", "(I)Z"⟩, 37), (⟨"HandUnderTheChinModel", "frightOf", "(I)I"⟩, 37), (⟨"HandUnderTheChinModel", "show", "(I)V"⟩, 37), (⟨"HandUnderTheChinModel", "colder", "(I)V"⟩, 37), (⟨"HandUnderTheChinModel", "bearsOf", "(I)I"⟩, 37), (⟨"HandUnderTheChinModel", "goBreak", "(I)V"⟩, 37), (⟨"HandUnderTheChinModel", "swapAll", "(II)V"⟩, 37), (⟨"HandUnderTheChinModel", "swapNumbers", "([III)V"⟩, 37), (⟨"HandUnderTheChinModel", "close", "()V"⟩, 37), (⟨"HandUnderTheChinModel", "wrongKept", "(I)I"⟩, 37), (⟨"HandUnderTheChinModel", "allSteps", "()I"⟩, 37), (⟨"HandUnderTheChinModel", "readyBits", "()I"⟩, 37)]
theorem lw_r4 : ∀ q ∈ lw_privs_4, lw_okq q := List.forall_mem_cons.mpr ⟨lw_p48, List.forall_mem_cons.mpr ⟨lw_p49, List.forall_mem_cons.mpr ⟨lw_p50, List.forall_mem_cons.mpr ⟨lw_p51, List.forall_mem_cons.mpr ⟨lw_p52, List.forall_mem_cons.mpr ⟨lw_p53, List.forall_mem_cons.mpr ⟨lw_p54, List.forall_mem_cons.mpr ⟨lw_p55, List.forall_mem_cons.mpr ⟨lw_p56, List.forall_mem_cons.mpr ⟨lw_p57, List.forall_mem_cons.mpr ⟨lw_p58, List.forall_mem_cons.mpr ⟨lw_p59, List.forall_mem_cons.mpr ⟨lw_p60, List.forall_mem_cons.mpr ⟨lw_p61, List.forall_mem_cons.mpr ⟨lw_p62, List.forall_mem_cons.mpr ⟨lw_p63, fun _ h => absurd h List.not_mem_nil⟩⟩⟩⟩⟩⟩⟩⟩⟩⟩⟩⟩⟩⟩⟩⟩
theorem lw_p64 : lw_okq (⟨"HandUnderTheChinModel", "layFewest", "(II)V"⟩, 37) := ⟨⟨by decide +kernel, by decide +kernel⟩, lw_t5 (List.mem_of_getElem? (i := 119) rfl), lw_t6 (List.mem_of_getElem? (i := 188) rfl), lw_t6 (List.mem_of_getElem? (i := 189) rfl)⟩
theorem lw_p65 : lw_okq (⟨"HandUnderTheChinModel", "behindWay", "(III)I"⟩, 37) := ⟨⟨by decide +kernel, by decide +kernel⟩, lw_t5 (List.mem_of_getElem? (i := 119) rfl), lw_t6 (List.mem_of_getElem? (i := 192) rfl), lw_t6 (List.mem_of_getElem? (i := 193) rfl)⟩
theorem lw_p66 : lw_okq (⟨"HandUnderTheChinModel", "aloneFrom", "(II)I"⟩, 37) := ⟨⟨by decide +kernel, by decide +kernel⟩, lw_t5 (List.mem_of_getElem? (i := 119) rfl), lw_t6 (List.mem_of_getElem? (i := 196) rfl), lw_t6 (List.mem_of_getElem? (i := 197) rfl)⟩
theorem lw_p67 : lw_okq (⟨"HandUnderTheChinModel", "stateOf", "(I)I"⟩, 37) := ⟨⟨by decide +kernel, by decide +kernel⟩, lw_t5 (List.mem_of_getElem? (i := 119) rfl), lw_t6 (List.mem_of_getElem? (i := 200) rfl), lw_t6 (List.mem_of_getElem? (i := 201) rfl)⟩
theorem lw_p68 : lw_okq (⟨"HandUnderTheChinModel", "layMost", "(I)V"⟩, 37) := ⟨⟨by decide +kernel, by decide +kernel⟩, lw_t5 (List.mem_of_getElem? (i := 119) rfl), lw_t6 (List.mem_of_getElem? (i := 212) rfl), lw_t6 (List.mem_of_getElem? (i := 213) rfl)⟩
theorem lw_p69 : lw_okq (⟨"HandUnderTheChinModel", "keepStage", "(I)V"⟩, 37) := ⟨⟨by decide +kernel, by decide +kernel⟩, lw_t5 (List.mem_of_getElem? (i := 119) rfl), lw_t6 (List.mem_of_getElem? (i := 216) rfl), lw_t6 (List.mem_of_getElem? (i := 217) rfl)⟩
theorem lw_p70 : lw_okq (⟨"HandUnderTheChinModel", "nextChoice", "(I)I"⟩, 37) := ⟨⟨by decide +kernel, by decide +kernel⟩, lw_t5 (List.mem_of_getElem? (i := 119) rfl), lw_t6 (List.mem_of_getElem? (i := 220) rfl), lw_t6 (List.mem_of_getElem? (i := 221) rfl)⟩
theorem lw_p71 : lw_okq (⟨"HandUnderTheChinModel", "toStage", "(I)V"⟩, 37) := ⟨⟨by decide +kernel, by decide +kernel⟩, lw_t5 (List.mem_of_getElem? (i := 119) rfl), lw_t6 (List.mem_of_getElem? (i := 224) rfl), lw_t6 (List.mem_of_getElem? (i := 225) rfl)⟩
theorem lw_p72 : lw_okq (⟨"HandUnderTheChinModel", "nextTurn", "()I"⟩, 37) := ⟨⟨by decide +kernel, by decide +kernel⟩, lw_t5 (List.mem_of_getElem? (i := 119) rfl), lw_t6 (List.mem_of_getElem? (i := 233) rfl), lw_t6 (List.mem_of_getElem? (i := 234) rfl)⟩
theorem lw_p73 : lw_okq (⟨"HandUnderTheChinModel", "swimBits", "()I"⟩, 37) := ⟨⟨by decide +kernel, by decide +kernel⟩, lw_t5 (List.mem_of_getElem? (i := 119) rfl), lw_t6 (List.mem_of_getElem? (i := 237) rfl), lw_t6 (List.mem_of_getElem? (i := 238) rfl)⟩
theorem lw_p74 : lw_okq (⟨"HandUnderTheChinModel", "layOrder", "(II)V"⟩, 37) := ⟨⟨by decide +kernel, by decide +kernel⟩, lw_t5 (List.mem_of_getElem? (i := 119) rfl), lw_t7 (List.mem_of_getElem? (i := 16) rfl), lw_t7 (List.mem_of_getElem? (i := 17) rfl)⟩
theorem lw_p75 : lw_okq (⟨"HandUnderTheChinModel", "daresOf", "(III)I"⟩, 37) := ⟨⟨by decide +kernel, by decide +kernel⟩, lw_t5 (List.mem_of_getElem? (i := 119) rfl), lw_t7 (List.mem_of_getElem? (i := 56) rfl), lw_t7 (List.mem_of_getElem? (i := 57) rfl)⟩
theorem lw_p76 : lw_okq (⟨"HandUnderTheChinModel", "skipped", "(I)J"⟩, 37) := ⟨⟨by decide +kernel, by decide +kernel⟩, lw_t5 (List.mem_of_getElem? (i := 119) rfl), lw_t7 (List.mem_of_getElem? (i := 90) rfl), lw_t7 (List.mem_of_getElem? (i := 91) rfl)⟩
theorem lw_p77 : lw_okq (⟨"HandUnderTheChinModel", "drawBelow", "(I)I"⟩, 37) := ⟨⟨by decide +kernel, by decide +kernel⟩, lw_t5 (List.mem_of_getElem? (i := 119) rfl), lw_t7 (List.mem_of_getElem? (i := 101) rfl), lw_t7 (List.mem_of_getElem? (i := 102) rfl)⟩
def lw_privs_5 : List (MethodName × Nat) := [(⟨"HandUnderTheChinModel", "layFewest", "(II)V"⟩, 37), (⟨"HandUnderTheChinModel", "behindWay", "(III)I"⟩, 37), (⟨"HandUnderTheChinModel", "aloneFrom", "(II)I"⟩, 37), (⟨"HandUnderTheChinModel", "stateOf", "(I)I"⟩, 37), (⟨"HandUnderTheChinModel", "layMost", "(I)V"⟩, 37), (⟨"HandUnderTheChinModel", "keepStage", "(I)V"⟩, 37), (⟨"HandUnderTheChinModel", "nextChoice", "(I)I"⟩, 37), (⟨"HandUnderTheChinModel", "toStage", "(I)V"⟩, 37), (⟨"HandUnderTheChinModel", "nextTurn", "()I"⟩, 37), (⟨"HandUnderTheChinModel", "swimBits", "()I"⟩, 37), (⟨"HandUnderTheChinModel", "layOrder", "(II)V"⟩, 37), (⟨"HandUnderTheChinModel", "daresOf", "(III)I"⟩, 37), (⟨"HandUnderTheChinModel", "skipped", "(I)J"⟩, 37), (⟨"HandUnderTheChinModel", "drawBelow", "(I)I"⟩, 37)]
theorem lw_r5 : ∀ q ∈ lw_privs_5, lw_okq q := List.forall_mem_cons.mpr ⟨lw_p64, List.forall_mem_cons.mpr ⟨lw_p65, List.forall_mem_cons.mpr ⟨lw_p66, List.forall_mem_cons.mpr ⟨lw_p67, List.forall_mem_cons.mpr ⟨lw_p68, List.forall_mem_cons.mpr ⟨lw_p69, List.forall_mem_cons.mpr ⟨lw_p70, List.forall_mem_cons.mpr ⟨lw_p71, List.forall_mem_cons.mpr ⟨lw_p72, List.forall_mem_cons.mpr ⟨lw_p73, List.forall_mem_cons.mpr ⟨lw_p74, List.forall_mem_cons.mpr ⟨lw_p75, List.forall_mem_cons.mpr ⟨lw_p76, List.forall_mem_cons.mpr ⟨lw_p77, fun _ h => absurd h List.not_mem_nil⟩⟩⟩⟩⟩⟩⟩⟩⟩⟩⟩⟩⟩⟩
def lw_privs : List (MethodName × Nat) := lw_privs_1 ++ (lw_privs_2 ++ (lw_privs_3 ++ (lw_privs_4 ++ (lw_privs_5))))
def lw_tbl : List Cond := k2_sels lw_privs ++ tables_1
theorem lw_privs_ok : ∀ q ∈ lw_privs, lw_okq q := by
  show ∀ q ∈ lw_privs_1 ++ (lw_privs_2 ++ (lw_privs_3 ++ (lw_privs_4 ++ (lw_privs_5)))), lw_okq q
  exact List.forall_mem_append.mpr ⟨lw_r1, List.forall_mem_append.mpr ⟨lw_r2, List.forall_mem_append.mpr ⟨lw_r3, List.forall_mem_append.mpr ⟨lw_r4, lw_r5⟩⟩⟩⟩
-- ===== ONE list of words for every method: the tables' words that hold all through a run =====
def lw_all : List Cond := lw_tbl.filter goodWord
/-- a word of the tables by its place: claim/WORDS.tsv -/
theorem lw_w {w : Cond} (i : Nat) (h : lw_tbl[i]? = some w) (g : goodWord w = true) : w ∈ lw_all := List.mem_filter.mpr ⟨List.mem_of_getElem? h, g⟩
theorem lw_all_tbl {w : Cond} (h : w ∈ lw_all) : w ∈ lw_tbl := (List.mem_filter.mp h).1
theorem lw_self : GoodIn lw_all lw_all := fun w h => ⟨h, good_of_word (List.mem_filter.mp h).2⟩
/-- a class's field words, by their places -/
theorem lw_in (ws : List Cond) (ps : List Nat) (hp : ws = ps.filterMap (fun i => lw_tbl[i]?)) (hg : ws.all goodWord = true) : ∀ w ∈ ws, w ∈ lw_all := by
  intro w h
  have h1 := List.all_eq_true.mp hg w h
  rw [hp] at h
  obtain ⟨i, -, hi⟩ := List.mem_filterMap.mp h
  exact lw_w i hi h1
/-- the words of a contract for the method y with code b, L locals, answer r -/
abbrev ws_ (y : MethodName) (b : ByteArray) (L : Nat) (r : Option FieldType) : List Cond := Cond.code y b L r :: lw_all
theorem lw_meth {y : MethodName} {b : ByteArray} {L : Nat} {r : Option FieldType} (h : Cond.code y b L r ∈ lw_all) : GoodIn lw_all (ws_ y b L r) := by
  intro w hw
  rcases List.mem_cons.mp hw with e | e
  · rw [e]
    exact lw_self _ h
  · exact lw_self _ e
theorem lw_app {a c : List Cond} (ha : ∀ w ∈ a, w ∈ lw_all) (hc : GoodIn lw_all c) : GoodIn lw_all (a ++ c) := by
  intro w hw
  rcases List.mem_append.mp hw with e | e
  · exact lw_self w (ha w e)
  · exact hc w e
/-- what a call through an object asks: cwV n hts (lw_V ..) -/
theorem lw_V {own : String} {idx : Nat} {C : String} {y : MethodName} {b : ByteArray} {L : Nat} {r : Option FieldType} (h1 : Cond.methodLink own idx y ∈ lw_all) (h2 : Cond.instanceMethod y ∈ lw_all) (h3 : Cond.selects C y y ∈ lw_all) (h4 : Cond.initialized C ∈ lw_all) (h5 : Cond.code y b L r ∈ lw_all) : GoodIn lw_all (wsV own idx C y (ws_ y b L r)) := by
  refine lw_app ?_ (lw_meth h5)
  intro w hw
  simp only [List.mem_cons, List.not_mem_nil, or_false] at hw
  rcases hw with e | e | e | e
  · rw [e]; exact h1
  · rw [e]; exact h2
  · rw [e]; exact h3
  · rw [e]; exact h4
/-- what a static call asks: va_cwS n hts (lw_S ..) -/
theorem lw_S {own : String} {idx : Nat} {y : MethodName} {b : ByteArray} {L : Nat} {r : Option FieldType} (h1 : Cond.methodLink own idx y ∈ lw_all) (h2 : Cond.static y ∈ lw_all) (h3 : Cond.initialized y.cls ∈ lw_all) (h4 : Cond.code y b L r ∈ lw_all) : GoodIn lw_all (va_wsS own idx y (ws_ y b L r)) := by
  refine lw_app ?_ (lw_meth h4)
  intro w hw
  simp only [List.mem_cons, List.not_mem_nil, or_false] at hw
  rcases hw with e | e | e
  · rw [e]; exact h1
  · rw [e]; exact h2
  · rw [e]; exact h3
/-- the words of a contract for a method WITH HANDLERS (hh: its table) -/
abbrev wsW_ (y : MethodName) (b : ByteArray) (L : Nat) (r : Option FieldType) (hh : List (Nat × Nat × Nat × Nat)) : List Cond := Cond.codeWith y b L r hh :: lw_all
theorem lw_methW {y : MethodName} {b : ByteArray} {L : Nat} {r : Option FieldType} {hh : List (Nat × Nat × Nat × Nat)} (h : Cond.codeWith y b L r hh ∈ lw_all) : GoodIn lw_all (wsW_ y b L r hh) := by
  intro w hw
  rcases List.mem_cons.mp hw with e | e
  · rw [e]
    exact lw_self _ h
  · exact lw_self _ e
/-- any list of words by their places (lw_in), good -/
theorem lw_good {ws : List Cond} (h : ∀ w ∈ ws, w ∈ lw_all) : GoodIn lw_all ws := fun w hw => lw_self w (h w hw)
/-- what a call of a method with handlers asks: vx_cwVW n hts (lw_VW ..), vx_cwSW n hts (lw_SW ..) -/
theorem lw_VW {own : String} {idx : Nat} {C : String} {y : MethodName} {b : ByteArray} {L : Nat} {r : Option FieldType} {hh : List (Nat × Nat × Nat × Nat)} (h1 : Cond.methodLink own idx y ∈ lw_all) (h2 : Cond.instanceMethod y ∈ lw_all) (h3 : Cond.selects C y y ∈ lw_all) (h4 : Cond.initialized C ∈ lw_all) (h5 : Cond.codeWith y b L r hh ∈ lw_all) : GoodIn lw_all (wsV own idx C y (wsW_ y b L r hh)) := by
  refine lw_app ?_ (lw_methW h5)
  intro w hw
  simp only [List.mem_cons, List.not_mem_nil, or_false] at hw
  rcases hw with e | e | e | e
  · rw [e]; exact h1
  · rw [e]; exact h2
  · rw [e]; exact h3
  · rw [e]; exact h4
theorem lw_SW {own : String} {idx : Nat} {y : MethodName} {b : ByteArray} {L : Nat} {r : Option FieldType} {hh : List (Nat × Nat × Nat × Nat)} (h1 : Cond.methodLink own idx y ∈ lw_all) (h2 : Cond.static y ∈ lw_all) (h3 : Cond.initialized y.cls ∈ lw_all) (h4 : Cond.codeWith y b L r hh ∈ lw_all) : GoodIn lw_all (va_wsS own idx y (wsW_ y b L r hh)) := by
  refine lw_app ?_ (lw_methW h4)
  intro w hw
  simp only [List.mem_cons, List.not_mem_nil, or_false] at hw
  rcases hw with e | e | e
  · rw [e]; exact h1
  · rw [e]; exact h2
  · rw [e]; exact h3
/-- a word by its place in its run of the tables -/
theorem lw_at {r : List Cond} (hr : ∀ w ∈ r, w ∈ lw_tbl) {w : Cond} (i : Nat) (h : r[i]? = some w) : w ∈ lw_tbl := hr w (List.mem_of_getElem? h)
theorem lw_g {w : Cond} (h : w ∈ lw_tbl) (g : goodWord w = true) : w ∈ lw_all := List.mem_filter.mpr ⟨h, g⟩
theorem lw_ms : ∀ w ∈ k2_sels lw_privs, w ∈ lw_tbl := fun w h => show w ∈ k2_sels lw_privs ++ tables_1 from List.mem_append_left _ h
theorem lw_m1 : ∀ w ∈ tables_1_1, w ∈ lw_tbl := fun w h => show w ∈ k2_sels lw_privs ++ tables_1 from List.mem_append_right (k2_sels lw_privs) (show w ∈ tables_1 from List.mem_append_left _ h)
theorem lw_m2 : ∀ w ∈ tables_1_2, w ∈ lw_tbl := fun w h => show w ∈ k2_sels lw_privs ++ tables_1 from List.mem_append_right (k2_sels lw_privs) (show w ∈ tables_1 from List.mem_append_right _ (List.mem_append_left _ h))
theorem lw_m3 : ∀ w ∈ tables_1_3, w ∈ lw_tbl := fun w h => show w ∈ k2_sels lw_privs ++ tables_1 from List.mem_append_right (k2_sels lw_privs) (show w ∈ tables_1 from List.mem_append_right _ (List.mem_append_right _ (List.mem_append_left _ h)))
theorem lw_m4 : ∀ w ∈ tables_1_4, w ∈ lw_tbl := fun w h => show w ∈ k2_sels lw_privs ++ tables_1 from List.mem_append_right (k2_sels lw_privs) (show w ∈ tables_1 from List.mem_append_right _ (List.mem_append_right _ (List.mem_append_right _ (List.mem_append_left _ h))))
theorem lw_m5 : ∀ w ∈ tables_1_5, w ∈ lw_tbl := fun w h => show w ∈ k2_sels lw_privs ++ tables_1 from List.mem_append_right (k2_sels lw_privs) (show w ∈ tables_1 from List.mem_append_right _ (List.mem_append_right _ (List.mem_append_right _ (List.mem_append_right _ (List.mem_append_left _ h)))))
theorem lw_m6 : ∀ w ∈ tables_1_6, w ∈ lw_tbl := fun w h => show w ∈ k2_sels lw_privs ++ tables_1 from List.mem_append_right (k2_sels lw_privs) (show w ∈ tables_1 from List.mem_append_right _ (List.mem_append_right _ (List.mem_append_right _ (List.mem_append_right _ (List.mem_append_right _ (List.mem_append_left _ h))))))
theorem lw_m7 : ∀ w ∈ tables_1_7, w ∈ lw_tbl := fun w h => show w ∈ k2_sels lw_privs ++ tables_1 from List.mem_append_right (k2_sels lw_privs) (show w ∈ tables_1 from List.mem_append_right _ (List.mem_append_right _ (List.mem_append_right _ (List.mem_append_right _ (List.mem_append_right _ (List.mem_append_right _ h))))))
theorem qs0 : (Cond.selects "java/lang/NullPointerException" ⟨"java/lang/NullPointerException", "getExtendedNPEMessage", "()Ljava/lang/String;"⟩ ⟨"java/lang/NullPointerException", "getExtendedNPEMessage", "()Ljava/lang/String;"⟩) ∈ lw_all := lw_g (lw_at lw_ms 0 rfl) rfl
theorem qs1 : (Cond.selects "java/lang/Throwable" ⟨"java/lang/Throwable", "fillInStackTrace", "(I)Ljava/lang/Throwable;"⟩ ⟨"java/lang/Throwable", "fillInStackTrace", "(I)Ljava/lang/Throwable;"⟩) ∈ lw_all := lw_g (lw_at lw_ms 1 rfl) rfl
theorem qs2 : (Cond.selects "HandUnderTheChin" ⟨"HandUnderTheChin", "isShelf", "(I)Z"⟩ ⟨"HandUnderTheChin", "isShelf", "(I)Z"⟩) ∈ lw_all := lw_g (lw_at lw_ms 2 rfl) rfl
theorem qs3 : (Cond.selects "HandUnderTheChin" ⟨"HandUnderTheChin", "reads", "([B)I"⟩ ⟨"HandUnderTheChin", "reads", "([B)I"⟩) ∈ lw_all := lw_g (lw_at lw_ms 3 rfl) rfl
theorem qs4 : (Cond.selects "HandUnderTheChin$BathReader" ⟨"HandUnderTheChin$BathReader", "statement", "()LHandUnderTheChin$Told;"⟩ ⟨"HandUnderTheChin$BathReader", "statement", "()LHandUnderTheChin$Told;"⟩) ∈ lw_all := lw_g (lw_at lw_ms 4 rfl) rfl
theorem qs5 : (Cond.selects "HandUnderTheChin$BathReader" ⟨"HandUnderTheChin$BathReader", "sign", "()I"⟩ ⟨"HandUnderTheChin$BathReader", "sign", "()I"⟩) ∈ lw_all := lw_g (lw_at lw_ms 5 rfl) rfl
theorem qs6 : (Cond.selects "HandUnderTheChin$BathReader" ⟨"HandUnderTheChin$BathReader", "reads", "(LHandUnderTheChin$Told;)V"⟩ ⟨"HandUnderTheChin$BathReader", "reads", "(LHandUnderTheChin$Told;)V"⟩) ∈ lw_all := lw_g (lw_at lw_ms 6 rfl) rfl
theorem qs7 : (Cond.selects "HandUnderTheChin$BathReader" ⟨"HandUnderTheChin$BathReader", "number", "(I)I"⟩ ⟨"HandUnderTheChin$BathReader", "number", "(I)I"⟩) ∈ lw_all := lw_g (lw_at lw_ms 7 rfl) rfl
theorem qs8 : (Cond.selects "HandUnderTheChin$BathReader" ⟨"HandUnderTheChin$BathReader", "broken", "()LHandUnderTheChin$Broken;"⟩ ⟨"HandUnderTheChin$BathReader", "broken", "()LHandUnderTheChin$Broken;"⟩) ∈ lw_all := lw_g (lw_at lw_ms 8 rfl) rfl
theorem qs9 : (Cond.selects "HandUnderTheChin" ⟨"HandUnderTheChin", "comes", "(LHandUnderTheChin$Told;)Z"⟩ ⟨"HandUnderTheChin", "comes", "(LHandUnderTheChin$Told;)Z"⟩) ∈ lw_all := lw_g (lw_at lw_ms 9 rfl) rfl
theorem qs10 : (Cond.selects "HandUnderTheChin" ⟨"HandUnderTheChin", "comesOne", "([I)Z"⟩ ⟨"HandUnderTheChin", "comesOne", "([I)Z"⟩) ∈ lw_all := lw_g (lw_at lw_ms 10 rfl) rfl
theorem qs11 : (Cond.selects "HandUnderTheChin$Bath" ⟨"HandUnderTheChin$Bath", "gains", "(II)V"⟩ ⟨"HandUnderTheChin$Bath", "gains", "(II)V"⟩) ∈ lw_all := lw_g (lw_at lw_ms 11 rfl) rfl
theorem qs12 : (Cond.selects "HandUnderTheChin$Bath" ⟨"HandUnderTheChin$Bath", "fingers", "(I)V"⟩ ⟨"HandUnderTheChin$Bath", "fingers", "(I)V"⟩) ∈ lw_all := lw_g (lw_at lw_ms 12 rfl) rfl
theorem qs13 : (Cond.selects "HandUnderTheChin$Bath" ⟨"HandUnderTheChin$Bath", "letGo", "(I)V"⟩ ⟨"HandUnderTheChin$Bath", "letGo", "(I)V"⟩) ∈ lw_all := lw_g (lw_at lw_ms 13 rfl) rfl
theorem qs14 : (Cond.selects "HandUnderTheChin$Bath" ⟨"HandUnderTheChin$Bath", "passes", "(II)V"⟩ ⟨"HandUnderTheChin$Bath", "passes", "(II)V"⟩) ∈ lw_all := lw_g (lw_at lw_ms 14 rfl) rfl
theorem qs15 : (Cond.selects "HandUnderTheChin$Bath" ⟨"HandUnderTheChin$Bath", "isShown", "(I)V"⟩ ⟨"HandUnderTheChin$Bath", "isShown", "(I)V"⟩) ∈ lw_all := lw_g (lw_at lw_ms 15 rfl) rfl
theorem qs16 : (Cond.selects "HandUnderTheChin$Bath" ⟨"HandUnderTheChin$Bath", "isGreater", "(II)Z"⟩ ⟨"HandUnderTheChin$Bath", "isGreater", "(II)Z"⟩) ∈ lw_all := lw_g (lw_at lw_ms 16 rfl) rfl
theorem qs17 : (Cond.selects "HandUnderTheChin$Bath" ⟨"HandUnderTheChin$Bath", "waits", "(I)V"⟩ ⟨"HandUnderTheChin$Bath", "waits", "(I)V"⟩) ∈ lw_all := lw_g (lw_at lw_ms 17 rfl) rfl
theorem qs18 : (Cond.selects "HandUnderTheChin" ⟨"HandUnderTheChin", "comesFeeling", "(III)Z"⟩ ⟨"HandUnderTheChin", "comesFeeling", "(III)Z"⟩) ∈ lw_all := lw_g (lw_at lw_ms 18 rfl) rfl
theorem qs19 : (Cond.selects "HandUnderTheChin" ⟨"HandUnderTheChin", "areTwo", "(II)Z"⟩ ⟨"HandUnderTheChin", "areTwo", "(II)Z"⟩) ∈ lw_all := lw_g (lw_at lw_ms 19 rfl) rfl
theorem qs20 : (Cond.selects "HandUnderTheChin" ⟨"HandUnderTheChin", "findFewest", "(LHandUnderTheChin$Child;I)V"⟩ ⟨"HandUnderTheChin", "findFewest", "(LHandUnderTheChin$Child;I)V"⟩) ∈ lw_all := lw_g (lw_at lw_ms 20 rfl) rfl
theorem qs21 : (Cond.selects "HandUnderTheChin" ⟨"HandUnderTheChin", "stateOf", "(II)I"⟩ ⟨"HandUnderTheChin", "stateOf", "(II)I"⟩) ∈ lw_all := lw_g (lw_at lw_ms 21 rfl) rfl
theorem qs22 : (Cond.selects "HandUnderTheChin" ⟨"HandUnderTheChin", "mostFrom", "(II)I"⟩ ⟨"HandUnderTheChin", "mostFrom", "(II)I"⟩) ∈ lw_all := lw_g (lw_at lw_ms 22 rfl) rfl
theorem qs23 : (Cond.selects "HandUnderTheChin" ⟨"HandUnderTheChin", "mostBy", "(IIII)I"⟩ ⟨"HandUnderTheChin", "mostBy", "(IIII)I"⟩) ∈ lw_all := lw_g (lw_at lw_ms 23 rfl) rfl
theorem qs24 : (Cond.selects "HandUnderTheChin" ⟨"HandUnderTheChin", "minds", "()V"⟩ ⟨"HandUnderTheChin", "minds", "()V"⟩) ∈ lw_all := lw_g (lw_at lw_ms 24 rfl) rfl
theorem qs25 : (Cond.selects "HandUnderTheChin" ⟨"HandUnderTheChin", "goesTurn", "()Z"⟩ ⟨"HandUnderTheChin", "goesTurn", "()Z"⟩) ∈ lw_all := lw_g (lw_at lw_ms 25 rfl) rfl
theorem qs26 : (Cond.selects "HandUnderTheChin" ⟨"HandUnderTheChin", "ordersFrom", "(III)V"⟩ ⟨"HandUnderTheChin", "ordersFrom", "(III)V"⟩) ∈ lw_all := lw_g (lw_at lw_ms 26 rfl) rfl
theorem qs27 : (Cond.selects "HandUnderTheChin" ⟨"HandUnderTheChin", "manyBeside", "(I)I"⟩ ⟨"HandUnderTheChin", "manyBeside", "(I)I"⟩) ∈ lw_all := lw_g (lw_at lw_ms 27 rfl) rfl
theorem qs28 : (Cond.selects "HandUnderTheChin" ⟨"HandUnderTheChin", "gained", "(III)I"⟩ ⟨"HandUnderTheChin", "gained", "(III)I"⟩) ∈ lw_all := lw_g (lw_at lw_ms 28 rfl) rfl
theorem qs29 : (Cond.selects "HandUnderTheChin" ⟨"HandUnderTheChin", "notRow", "(I)I"⟩ ⟨"HandUnderTheChin", "notRow", "(I)I"⟩) ∈ lw_all := lw_g (lw_at lw_ms 29 rfl) rfl
theorem qs30 : (Cond.selects "HandUnderTheChin" ⟨"HandUnderTheChin", "gets", "(III)I"⟩ ⟨"HandUnderTheChin", "gets", "(III)I"⟩) ∈ lw_all := lw_g (lw_at lw_ms 30 rfl) rfl
theorem qs31 : (Cond.selects "HandUnderTheChin" ⟨"HandUnderTheChin", "holdsOf", "(I)I"⟩ ⟨"HandUnderTheChin", "holdsOf", "(I)I"⟩) ∈ lw_all := lw_g (lw_at lw_ms 31 rfl) rfl
theorem qs32 : (Cond.selects "HandUnderTheChin" ⟨"HandUnderTheChin", "draw", "(I)I"⟩ ⟨"HandUnderTheChin", "draw", "(I)I"⟩) ∈ lw_all := lw_g (lw_at lw_ms 32 rfl) rfl
theorem qs33 : (Cond.selects "HandUnderTheChinModel" ⟨"HandUnderTheChinModel", "wrongRow", "(I)I"⟩ ⟨"HandUnderTheChinModel", "wrongRow", "(I)I"⟩) ∈ lw_all := lw_g (lw_at lw_ms 33 rfl) rfl
theorem qs34 : (Cond.selects "HandUnderTheChinModel" ⟨"HandUnderTheChinModel", "readStatement", "()V"⟩ ⟨"HandUnderTheChinModel", "readStatement", "()V"⟩) ∈ lw_all := lw_g (lw_at lw_ms 34 rfl) rfl
theorem qs35 : (Cond.selects "HandUnderTheChinModel" ⟨"HandUnderTheChinModel", "here", "()I"⟩ ⟨"HandUnderTheChinModel", "here", "()I"⟩) ∈ lw_all := lw_g (lw_at lw_ms 35 rfl) rfl
theorem qs36 : (Cond.selects "HandUnderTheChinModel" ⟨"HandUnderTheChinModel", "readNumbers", "(II)V"⟩ ⟨"HandUnderTheChinModel", "readNumbers", "(II)V"⟩) ∈ lw_all := lw_g (lw_at lw_ms 36 rfl) rfl
theorem qs37 : (Cond.selects "HandUnderTheChinModel" ⟨"HandUnderTheChinModel", "readDigits", "(I)I"⟩ ⟨"HandUnderTheChinModel", "readDigits", "(I)I"⟩) ∈ lw_all := lw_g (lw_at lw_ms 37 rfl) rfl
theorem qs38 : (Cond.selects "HandUnderTheChinModel" ⟨"HandUnderTheChinModel", "open", "()V"⟩ ⟨"HandUnderTheChinModel", "open", "()V"⟩) ∈ lw_all := lw_g (lw_at lw_ms 38 rfl) rfl
theorem qs39 : (Cond.selects "HandUnderTheChinModel" ⟨"HandUnderTheChinModel", "carryAll", "([IZ)V"⟩ ⟨"HandUnderTheChinModel", "carryAll", "([IZ)V"⟩) ∈ lw_all := lw_g (lw_at lw_ms 39 rfl) rfl
theorem qs40 : (Cond.selects "HandUnderTheChinModel" ⟨"HandUnderTheChinModel", "carry", "(I)I"⟩ ⟨"HandUnderTheChinModel", "carry", "(I)I"⟩) ∈ lw_all := lw_g (lw_at lw_ms 40 rfl) rfl
theorem qs41 : (Cond.selects "HandUnderTheChinModel" ⟨"HandUnderTheChinModel", "comesTold", "(I)Z"⟩ ⟨"HandUnderTheChinModel", "comesTold", "(I)Z"⟩) ∈ lw_all := lw_g (lw_at lw_ms 41 rfl) rfl
theorem qs42 : (Cond.selects "HandUnderTheChinModel" ⟨"HandUnderTheChinModel", "childComes", "(III)Z"⟩ ⟨"HandUnderTheChinModel", "childComes", "(III)Z"⟩) ∈ lw_all := lw_g (lw_at lw_ms 42 rfl) rfl
theorem qs43 : (Cond.selects "HandUnderTheChinModel" ⟨"HandUnderTheChinModel", "minuteComes", "(II)Z"⟩ ⟨"HandUnderTheChinModel", "minuteComes", "(II)Z"⟩) ∈ lw_all := lw_g (lw_at lw_ms 43 rfl) rfl
theorem qs44 : (Cond.selects "HandUnderTheChinModel" ⟨"HandUnderTheChinModel", "isChild", "(I)Z"⟩ ⟨"HandUnderTheChinModel", "isChild", "(I)Z"⟩) ∈ lw_all := lw_g (lw_at lw_ms 44 rfl) rfl
theorem qs45 : (Cond.selects "HandUnderTheChinModel" ⟨"HandUnderTheChinModel", "goMinute", "(II)V"⟩ ⟨"HandUnderTheChinModel", "goMinute", "(II)V"⟩) ∈ lw_all := lw_g (lw_at lw_ms 45 rfl) rfl
theorem qs46 : (Cond.selects "HandUnderTheChinModel" ⟨"HandUnderTheChinModel", "holdsOf", "(I)I"⟩ ⟨"HandUnderTheChinModel", "holdsOf", "(I)I"⟩) ∈ lw_all := lw_g (lw_at lw_ms 46 rfl) rfl
theorem qs47 : (Cond.selects "HandUnderTheChinModel" ⟨"HandUnderTheChinModel", "gains", "(II)V"⟩ ⟨"HandUnderTheChinModel", "gains", "(II)V"⟩) ∈ lw_all := lw_g (lw_at lw_ms 47 rfl) rfl
theorem qs48 : (Cond.selects "HandUnderTheChinModel" ⟨"HandUnderTheChinModel", "needsOf", "(I)I"⟩ ⟨"HandUnderTheChinModel", "needsOf", "(I)I"⟩) ∈ lw_all := lw_g (lw_at lw_ms 48 rfl) rfl
theorem qs49 : (Cond.selects "HandUnderTheChinModel" ⟨"HandUnderTheChinModel", "needsAt", "(II)I"⟩ ⟨"HandUnderTheChinModel", "needsAt", "(II)I"⟩) ∈ lw_all := lw_g (lw_at lw_ms 49 rfl) rfl
theorem qs50 : (Cond.selects "HandUnderTheChinModel" ⟨"HandUnderTheChinModel", "letGo", "(I)V"⟩ ⟨"HandUnderTheChinModel", "letGo", "(I)V"⟩) ∈ lw_all := lw_g (lw_at lw_ms 50 rfl) rfl
theorem qs51 : (Cond.selects "HandUnderTheChinModel" ⟨"HandUnderTheChinModel", "passesOf", "(I)I"⟩ ⟨"HandUnderTheChinModel", "passesOf", "(I)I"⟩) ∈ lw_all := lw_g (lw_at lw_ms 51 rfl) rfl
theorem qs52 : (Cond.selects "HandUnderTheChinModel" ⟨"HandUnderTheChinModel", "isReady", "(I)Z"⟩ ⟨"HandUnderTheChinModel", "isReady", "(I)Z"⟩) ∈ lw_all := lw_g (lw_at lw_ms 52 rfl) rfl
theorem qs53 : (Cond.selects "HandUnderTheChinModel" ⟨"HandUnderTheChinModel", "frightOf", "(I)I"⟩ ⟨"HandUnderTheChinModel", "frightOf", "(I)I"⟩) ∈ lw_all := lw_g (lw_at lw_ms 53 rfl) rfl
theorem qs54 : (Cond.selects "HandUnderTheChinModel" ⟨"HandUnderTheChinModel", "show", "(I)V"⟩ ⟨"HandUnderTheChinModel", "show", "(I)V"⟩) ∈ lw_all := lw_g (lw_at lw_ms 54 rfl) rfl
theorem qs55 : (Cond.selects "HandUnderTheChinModel" ⟨"HandUnderTheChinModel", "colder", "(I)V"⟩ ⟨"HandUnderTheChinModel", "colder", "(I)V"⟩) ∈ lw_all := lw_g (lw_at lw_ms 55 rfl) rfl
theorem qs56 : (Cond.selects "HandUnderTheChinModel" ⟨"HandUnderTheChinModel", "bearsOf", "(I)I"⟩ ⟨"HandUnderTheChinModel", "bearsOf", "(I)I"⟩) ∈ lw_all := lw_g (lw_at lw_ms 56 rfl) rfl
theorem qs57 : (Cond.selects "HandUnderTheChinModel" ⟨"HandUnderTheChinModel", "goBreak", "(I)V"⟩ ⟨"HandUnderTheChinModel", "goBreak", "(I)V"⟩) ∈ lw_all := lw_g (lw_at lw_ms 57 rfl) rfl
theorem qs58 : (Cond.selects "HandUnderTheChinModel" ⟨"HandUnderTheChinModel", "swapAll", "(II)V"⟩ ⟨"HandUnderTheChinModel", "swapAll", "(II)V"⟩) ∈ lw_all := lw_g (lw_at lw_ms 58 rfl) rfl
theorem qs59 : (Cond.selects "HandUnderTheChinModel" ⟨"HandUnderTheChinModel", "swapNumbers", "([III)V"⟩ ⟨"HandUnderTheChinModel", "swapNumbers", "([III)V"⟩) ∈ lw_all := lw_g (lw_at lw_ms 59 rfl) rfl
theorem qs60 : (Cond.selects "HandUnderTheChinModel" ⟨"HandUnderTheChinModel", "close", "()V"⟩ ⟨"HandUnderTheChinModel", "close", "()V"⟩) ∈ lw_all := lw_g (lw_at lw_ms 60 rfl) rfl
theorem qs61 : (Cond.selects "HandUnderTheChinModel" ⟨"HandUnderTheChinModel", "wrongKept", "(I)I"⟩ ⟨"HandUnderTheChinModel", "wrongKept", "(I)I"⟩) ∈ lw_all := lw_g (lw_at lw_ms 61 rfl) rfl
theorem qs62 : (Cond.selects "HandUnderTheChinModel" ⟨"HandUnderTheChinModel", "allSteps", "()I"⟩ ⟨"HandUnderTheChinModel", "allSteps", "()I"⟩) ∈ lw_all := lw_g (lw_at lw_ms 62 rfl) rfl
theorem qs63 : (Cond.selects "HandUnderTheChinModel" ⟨"HandUnderTheChinModel", "readyBits", "()I"⟩ ⟨"HandUnderTheChinModel", "readyBits", "()I"⟩) ∈ lw_all := lw_g (lw_at lw_ms 63 rfl) rfl
theorem qs64 : (Cond.selects "HandUnderTheChinModel" ⟨"HandUnderTheChinModel", "layFewest", "(II)V"⟩ ⟨"HandUnderTheChinModel", "layFewest", "(II)V"⟩) ∈ lw_all := lw_g (lw_at lw_ms 64 rfl) rfl
theorem qs65 : (Cond.selects "HandUnderTheChinModel" ⟨"HandUnderTheChinModel", "behindWay", "(III)I"⟩ ⟨"HandUnderTheChinModel", "behindWay", "(III)I"⟩) ∈ lw_all := lw_g (lw_at lw_ms 65 rfl) rfl
theorem qs66 : (Cond.selects "HandUnderTheChinModel" ⟨"HandUnderTheChinModel", "aloneFrom", "(II)I"⟩ ⟨"HandUnderTheChinModel", "aloneFrom", "(II)I"⟩) ∈ lw_all := lw_g (lw_at lw_ms 66 rfl) rfl
theorem qs67 : (Cond.selects "HandUnderTheChinModel" ⟨"HandUnderTheChinModel", "stateOf", "(I)I"⟩ ⟨"HandUnderTheChinModel", "stateOf", "(I)I"⟩) ∈ lw_all := lw_g (lw_at lw_ms 67 rfl) rfl
theorem qs68 : (Cond.selects "HandUnderTheChinModel" ⟨"HandUnderTheChinModel", "layMost", "(I)V"⟩ ⟨"HandUnderTheChinModel", "layMost", "(I)V"⟩) ∈ lw_all := lw_g (lw_at lw_ms 68 rfl) rfl
theorem qs69 : (Cond.selects "HandUnderTheChinModel" ⟨"HandUnderTheChinModel", "keepStage", "(I)V"⟩ ⟨"HandUnderTheChinModel", "keepStage", "(I)V"⟩) ∈ lw_all := lw_g (lw_at lw_ms 69 rfl) rfl
theorem qs70 : (Cond.selects "HandUnderTheChinModel" ⟨"HandUnderTheChinModel", "nextChoice", "(I)I"⟩ ⟨"HandUnderTheChinModel", "nextChoice", "(I)I"⟩) ∈ lw_all := lw_g (lw_at lw_ms 70 rfl) rfl
theorem qs71 : (Cond.selects "HandUnderTheChinModel" ⟨"HandUnderTheChinModel", "toStage", "(I)V"⟩ ⟨"HandUnderTheChinModel", "toStage", "(I)V"⟩) ∈ lw_all := lw_g (lw_at lw_ms 71 rfl) rfl
theorem qs72 : (Cond.selects "HandUnderTheChinModel" ⟨"HandUnderTheChinModel", "nextTurn", "()I"⟩ ⟨"HandUnderTheChinModel", "nextTurn", "()I"⟩) ∈ lw_all := lw_g (lw_at lw_ms 72 rfl) rfl
theorem qs73 : (Cond.selects "HandUnderTheChinModel" ⟨"HandUnderTheChinModel", "swimBits", "()I"⟩ ⟨"HandUnderTheChinModel", "swimBits", "()I"⟩) ∈ lw_all := lw_g (lw_at lw_ms 73 rfl) rfl
theorem qs74 : (Cond.selects "HandUnderTheChinModel" ⟨"HandUnderTheChinModel", "layOrder", "(II)V"⟩ ⟨"HandUnderTheChinModel", "layOrder", "(II)V"⟩) ∈ lw_all := lw_g (lw_at lw_ms 74 rfl) rfl
theorem qs75 : (Cond.selects "HandUnderTheChinModel" ⟨"HandUnderTheChinModel", "daresOf", "(III)I"⟩ ⟨"HandUnderTheChinModel", "daresOf", "(III)I"⟩) ∈ lw_all := lw_g (lw_at lw_ms 75 rfl) rfl
theorem qs76 : (Cond.selects "HandUnderTheChinModel" ⟨"HandUnderTheChinModel", "skipped", "(I)J"⟩ ⟨"HandUnderTheChinModel", "skipped", "(I)J"⟩) ∈ lw_all := lw_g (lw_at lw_ms 76 rfl) rfl
theorem qs77 : (Cond.selects "HandUnderTheChinModel" ⟨"HandUnderTheChinModel", "drawBelow", "(I)I"⟩ ⟨"HandUnderTheChinModel", "drawBelow", "(I)I"⟩) ∈ lw_all := lw_g (lw_at lw_ms 77 rfl) rfl
