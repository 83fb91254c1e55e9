/-! HandUnderTheChin -/
set_option maxRecDepth 100000
def RX1 : String := "HandUnderTheChin"
def TX1 : u_T := fun k => match k with
  | 0 => ("HandUnderTheChin", "now", "LHandUnderTheChin$Bath;", true)
  | 1 => ("HandUnderTheChin", "kept", "LHandUnderTheChin$Bath;", true)
  | 2 => ("HandUnderTheChin", "mind", "LHandUnderTheChin$Bath;", true)
  | 3 => ("HandUnderTheChin", "hasImage", "Z", false)
  | 4 => ("HandUnderTheChin", "told", "[LHandUnderTheChin$Told;", true)
  | 5 => ("HandUnderTheChin", "fewest", "[I", true)
  | 6 => ("HandUnderTheChin", "levels", "[LHandUnderTheChin$Bath;", true)
  | 7 => ("HandUnderTheChin", "turn", "I", false)
  | 8 => ("HandUnderTheChin", "order", "[I", true)
  | 9 => ("HandUnderTheChin", "bestOrder", "[I", true)
  | 10 => ("HandUnderTheChin", "bestSum", "I", false)
  | 11 => ("HandUnderTheChin", "lots", "I", false)
  | _ => ("HandUnderTheChin", "shelves", "[LHandUnderTheChin$Shelf;", true)
def tyX1 : Nat → FieldType := fun k => match k with
  | 0 => .object "HandUnderTheChin$Bath"
  | 1 => .object "HandUnderTheChin$Bath"
  | 2 => .object "HandUnderTheChin$Bath"
  | 3 => .boolean
  | 4 => .array (.object "HandUnderTheChin$Told")
  | 5 => .array .int
  | 6 => .array (.object "HandUnderTheChin$Bath")
  | 7 => .int
  | 8 => .array .int
  | 9 => .array .int
  | 10 => .int
  | 11 => .int
  | _ => .array (.object "HandUnderTheChin$Shelf")
abbrev wsX10 : List Cond := u_ws RX1 TX1 13
set_option maxRecDepth 100000 in
theorem nmX1 : ∀ a, a < 13 → ∀ b, b < 13 → a ≠ b → (TX1 a).2.1 ≠ (TX1 b).2.1 := by decide +kernel
set_option maxRecDepth 100000 in
theorem tyX1_ok : ∀ k, k < 13 → parseFieldDescriptor (TX1 k).2.2.1 = some (tyX1 k) := by decide +kernel
abbrev cX1_bath : ByteArray := prog_1_method_14_code
def yX1_bath : MethodName := ⟨RX1, "bath", "(I)I"⟩
def dkwX1_bath_1 : List UInt8 := [199, 0, 8, 16, 245, 167, 0, 8, 42, 44, 182, 0, 153, 172, 77, 16, 244, 172, 77, 44, 180, 0, 159, 172]
abbrev dktX1_bath_1 : List UInt8 := dkwX1_bath_1 ++ []
def dkwX1_bath_0 : List UInt8 := [42, 27, 182, 0, 138, 154, 0, 5, 2, 172, 42, 180, 0, 141, 27, 50, 180, 0, 145, 192, 0, 151, 77, 44]
abbrev dktX1_bath_0 : List UInt8 := dkwX1_bath_0 ++ dktX1_bath_1
theorem dksX1_bath_0 : cX1_bath.data.toList.drop 0 = dktX1_bath_0 := by decide +kernel
theorem dksX1_bath_1 : cX1_bath.data.toList.drop 24 = dktX1_bath_1 := dk_seg dksX1_bath_0 24 rfl rfl
theorem dX1_bath_0 : decode cX1_bath 0 = .ok (.aload_n 0, 1) := dk_42 (dk_at dksX1_bath_0 0 rfl rfl)
theorem dX1_bath_1 : decode cX1_bath 1 = .ok (.iload_n 1, 1) := dk_27 (dk_at dksX1_bath_0 1 rfl rfl)
theorem dX1_bath_2 : decode cX1_bath 2 = .ok (.invokevirtual 138, 3) := dk_182 0 138 (dk_at dksX1_bath_0 2 rfl rfl)
theorem dX1_bath_5 : decode cX1_bath 5 = .ok (.ifCond .ne 5, 3) := dk_154 0 5 (dk_at dksX1_bath_0 5 rfl rfl)
theorem dX1_bath_8 : decode cX1_bath 8 = .ok (.iconst (-1), 1) := dk_2 (dk_at dksX1_bath_0 8 rfl rfl)
theorem dX1_bath_9 : decode cX1_bath 9 = .ok (.ireturn, 1) := dk_172 (dk_at dksX1_bath_0 9 rfl rfl)
theorem dX1_bath_10 : decode cX1_bath 10 = .ok (.aload_n 0, 1) := dk_42 (dk_at dksX1_bath_0 10 rfl rfl)
theorem dX1_bath_11 : decode cX1_bath 11 = .ok (.getfield 141, 3) := dk_180 0 141 (dk_at dksX1_bath_0 11 rfl rfl)
theorem dX1_bath_14 : decode cX1_bath 14 = .ok (.iload_n 1, 1) := dk_27 (dk_at dksX1_bath_0 14 rfl rfl)
theorem dX1_bath_15 : decode cX1_bath 15 = .ok (.aaload, 1) := dk_50 (dk_at dksX1_bath_0 15 rfl rfl)
theorem dX1_bath_16 : decode cX1_bath 16 = .ok (.getfield 145, 3) := dk_180 0 145 (dk_at dksX1_bath_0 16 rfl rfl)
theorem dX1_bath_19 : decode cX1_bath 19 = .ok (.checkcast 151, 3) := dk_192 0 151 (dk_at dksX1_bath_0 19 rfl rfl)
theorem dX1_bath_22 : decode cX1_bath 22 = .ok (.astore_n 2, 1) := dk_77 (dk_at dksX1_bath_0 22 rfl rfl)
theorem dX1_bath_23 : decode cX1_bath 23 = .ok (.aload_n 2, 1) := dk_44 (dk_at dksX1_bath_0 23 rfl rfl)
theorem dX1_bath_24 : decode cX1_bath 24 = .ok (.ifnonnull 8, 3) := dk_199 0 8 (dk_at dksX1_bath_1 0 rfl rfl)
theorem dX1_bath_27 : decode cX1_bath 27 = .ok (.bipush (-11), 2) := dk_16 245 (dk_at dksX1_bath_1 3 rfl rfl)
theorem dX1_bath_29 : decode cX1_bath 29 = .ok (.goto 8, 3) := dk_167 0 8 (dk_at dksX1_bath_1 5 rfl rfl)
theorem dX1_bath_32 : decode cX1_bath 32 = .ok (.aload_n 0, 1) := dk_42 (dk_at dksX1_bath_1 8 rfl rfl)
theorem dX1_bath_33 : decode cX1_bath 33 = .ok (.aload_n 2, 1) := dk_44 (dk_at dksX1_bath_1 9 rfl rfl)
theorem dX1_bath_34 : decode cX1_bath 34 = .ok (.invokevirtual 153, 3) := dk_182 0 153 (dk_at dksX1_bath_1 10 rfl rfl)
theorem dX1_bath_37 : decode cX1_bath 37 = .ok (.ireturn, 1) := dk_172 (dk_at dksX1_bath_1 13 rfl rfl)
theorem dX1_bath_38 : decode cX1_bath 38 = .ok (.astore_n 2, 1) := dk_77 (dk_at dksX1_bath_1 14 rfl rfl)
theorem dX1_bath_39 : decode cX1_bath 39 = .ok (.bipush (-12), 2) := dk_16 244 (dk_at dksX1_bath_1 15 rfl rfl)
theorem dX1_bath_41 : decode cX1_bath 41 = .ok (.ireturn, 1) := dk_172 (dk_at dksX1_bath_1 17 rfl rfl)
theorem dX1_bath_42 : decode cX1_bath 42 = .ok (.astore_n 2, 1) := dk_77 (dk_at dksX1_bath_1 18 rfl rfl)
theorem dX1_bath_43 : decode cX1_bath 43 = .ok (.aload_n 2, 1) := dk_44 (dk_at dksX1_bath_1 19 rfl rfl)
theorem dX1_bath_44 : decode cX1_bath 44 = .ok (.getfield 159, 3) := dk_180 0 159 (dk_at dksX1_bath_1 20 rfl rfl)
theorem dX1_bath_47 : decode cX1_bath 47 = .ok (.ireturn, 1) := dk_172 (dk_at dksX1_bath_1 23 rfl rfl)
abbrev cX1_isShelf : ByteArray := prog_1_method_5_code
def yX1_isShelf : MethodName := ⟨RX1, "isShelf", "(I)Z"⟩
def dkwX1_isShelf_0 : List UInt8 := [27, 3, 16, 7, 184, 0, 39, 172]
abbrev dktX1_isShelf_0 : List UInt8 := dkwX1_isShelf_0 ++ []
theorem dksX1_isShelf_0 : cX1_isShelf.data.toList.drop 0 = dktX1_isShelf_0 := by decide +kernel
theorem dX1_isShelf_0 : decode cX1_isShelf 0 = .ok (.iload_n 1, 1) := dk_27 (dk_at dksX1_isShelf_0 0 rfl rfl)
theorem dX1_isShelf_1 : decode cX1_isShelf 1 = .ok (.iconst 0, 1) := dk_3 (dk_at dksX1_isShelf_0 1 rfl rfl)
theorem dX1_isShelf_2 : decode cX1_isShelf 2 = .ok (.bipush 7, 2) := dk_16 7 (dk_at dksX1_isShelf_0 2 rfl rfl)
theorem dX1_isShelf_4 : decode cX1_isShelf 4 = .ok (.invokestatic 39, 3) := dk_184 0 39 (dk_at dksX1_isShelf_0 4 rfl rfl)
theorem dX1_isShelf_7 : decode cX1_isShelf 7 = .ok (.ireturn, 1) := dk_172 (dk_at dksX1_isShelf_0 7 rfl rfl)
abbrev cX1_isIn : ByteArray := prog_1_method_1_code
def yX1_isIn : MethodName := ⟨RX1, "isIn", "(III)Z"⟩
def dkwX1_isIn_0 : List UInt8 := [26, 27, 161, 0, 12, 26, 28, 163, 0, 7, 4, 167, 0, 4, 3, 172]
abbrev dktX1_isIn_0 : List UInt8 := dkwX1_isIn_0 ++ []
theorem dksX1_isIn_0 : cX1_isIn.data.toList.drop 0 = dktX1_isIn_0 := by decide +kernel
theorem dX1_isIn_0 : decode cX1_isIn 0 = .ok (.iload_n 0, 1) := dk_26 (dk_at dksX1_isIn_0 0 rfl rfl)
theorem dX1_isIn_1 : decode cX1_isIn 1 = .ok (.iload_n 1, 1) := dk_27 (dk_at dksX1_isIn_0 1 rfl rfl)
theorem dX1_isIn_2 : decode cX1_isIn 2 = .ok (.if_icmp .lt 12, 3) := dk_161 0 12 (dk_at dksX1_isIn_0 2 rfl rfl)
theorem dX1_isIn_5 : decode cX1_isIn 5 = .ok (.iload_n 0, 1) := dk_26 (dk_at dksX1_isIn_0 5 rfl rfl)
theorem dX1_isIn_6 : decode cX1_isIn 6 = .ok (.iload_n 2, 1) := dk_28 (dk_at dksX1_isIn_0 6 rfl rfl)
theorem dX1_isIn_7 : decode cX1_isIn 7 = .ok (.if_icmp .gt 7, 3) := dk_163 0 7 (dk_at dksX1_isIn_0 7 rfl rfl)
theorem dX1_isIn_10 : decode cX1_isIn 10 = .ok (.iconst 1, 1) := dk_4 (dk_at dksX1_isIn_0 10 rfl rfl)
theorem dX1_isIn_11 : decode cX1_isIn 11 = .ok (.goto 4, 3) := dk_167 0 4 (dk_at dksX1_isIn_0 11 rfl rfl)
theorem dX1_isIn_14 : decode cX1_isIn 14 = .ok (.iconst 0, 1) := dk_3 (dk_at dksX1_isIn_0 14 rfl rfl)
theorem dX1_isIn_15 : decode cX1_isIn 15 = .ok (.ireturn, 1) := dk_172 (dk_at dksX1_isIn_0 15 rfl rfl)
abbrev cX1_reads : ByteArray := prog_1_method_13_code
def yX1_reads : MethodName := ⟨RX1, "reads", "([B)I"⟩
def dkwX1_reads_3 : List UInt8 := [167, 255, 214, 42, 180, 0, 43, 42, 180, 0, 63, 182, 0, 125, 28, 172]
abbrev dktX1_reads_3 : List UInt8 := dkwX1_reads_3 ++ []
def dkwX1_reads_2 : List UInt8 := [187, 0, 132, 89, 17, 248, 48, 42, 180, 0, 117, 29, 50, 180, 0, 134, 100, 183, 0, 137, 191, 132, 3, 1]
abbrev dktX1_reads_2 : List UInt8 := dkwX1_reads_2 ++ dktX1_reads_3
def dkwX1_reads_1 : List UInt8 := [182, 0, 125, 3, 62, 29, 28, 162, 0, 43, 42, 42, 180, 0, 117, 29, 50, 182, 0, 129, 154, 0, 24]
abbrev dktX1_reads_1 : List UInt8 := dkwX1_reads_1 ++ dktX1_reads_2
def dkwX1_reads_0 : List UInt8 := [187, 0, 112, 89, 43, 183, 0, 114, 42, 180, 0, 117, 182, 0, 121, 61, 42, 180, 0, 63, 42, 180, 0, 43]
abbrev dktX1_reads_0 : List UInt8 := dkwX1_reads_0 ++ dktX1_reads_1
theorem dksX1_reads_0 : cX1_reads.data.toList.drop 0 = dktX1_reads_0 := by decide +kernel
theorem dksX1_reads_1 : cX1_reads.data.toList.drop 24 = dktX1_reads_1 := dk_seg dksX1_reads_0 24 rfl rfl
theorem dksX1_reads_2 : cX1_reads.data.toList.drop 47 = dktX1_reads_2 := dk_seg dksX1_reads_1 23 rfl rfl
theorem dksX1_reads_3 : cX1_reads.data.toList.drop 71 = dktX1_reads_3 := dk_seg dksX1_reads_2 24 rfl rfl
theorem dX1_reads_0 : decode cX1_reads 0 = .ok (.new 112, 3) := dk_187 0 112 (dk_at dksX1_reads_0 0 rfl rfl)
theorem dX1_reads_3 : decode cX1_reads 3 = .ok (.dup, 1) := dk_89 (dk_at dksX1_reads_0 3 rfl rfl)
theorem dX1_reads_4 : decode cX1_reads 4 = .ok (.aload_n 1, 1) := dk_43 (dk_at dksX1_reads_0 4 rfl rfl)
theorem dX1_reads_5 : decode cX1_reads 5 = .ok (.invokespecial 114, 3) := dk_183 0 114 (dk_at dksX1_reads_0 5 rfl rfl)
theorem dX1_reads_8 : decode cX1_reads 8 = .ok (.aload_n 0, 1) := dk_42 (dk_at dksX1_reads_0 8 rfl rfl)
theorem dX1_reads_9 : decode cX1_reads 9 = .ok (.getfield 117, 3) := dk_180 0 117 (dk_at dksX1_reads_0 9 rfl rfl)
theorem dX1_reads_12 : decode cX1_reads 12 = .ok (.invokevirtual 121, 3) := dk_182 0 121 (dk_at dksX1_reads_0 12 rfl rfl)
theorem dX1_reads_15 : decode cX1_reads 15 = .ok (.istore_n 2, 1) := dk_61 (dk_at dksX1_reads_0 15 rfl rfl)
theorem dX1_reads_16 : decode cX1_reads 16 = .ok (.aload_n 0, 1) := dk_42 (dk_at dksX1_reads_0 16 rfl rfl)
theorem dX1_reads_17 : decode cX1_reads 17 = .ok (.getfield 63, 3) := dk_180 0 63 (dk_at dksX1_reads_0 17 rfl rfl)
theorem dX1_reads_20 : decode cX1_reads 20 = .ok (.aload_n 0, 1) := dk_42 (dk_at dksX1_reads_0 20 rfl rfl)
theorem dX1_reads_21 : decode cX1_reads 21 = .ok (.getfield 43, 3) := dk_180 0 43 (dk_at dksX1_reads_0 21 rfl rfl)
theorem dX1_reads_24 : decode cX1_reads 24 = .ok (.invokevirtual 125, 3) := dk_182 0 125 (dk_at dksX1_reads_1 0 rfl rfl)
theorem dX1_reads_27 : decode cX1_reads 27 = .ok (.iconst 0, 1) := dk_3 (dk_at dksX1_reads_1 3 rfl rfl)
theorem dX1_reads_28 : decode cX1_reads 28 = .ok (.istore_n 3, 1) := dk_62 (dk_at dksX1_reads_1 4 rfl rfl)
theorem dX1_reads_29 : decode cX1_reads 29 = .ok (.iload_n 3, 1) := dk_29 (dk_at dksX1_reads_1 5 rfl rfl)
theorem dX1_reads_30 : decode cX1_reads 30 = .ok (.iload_n 2, 1) := dk_28 (dk_at dksX1_reads_1 6 rfl rfl)
theorem dX1_reads_31 : decode cX1_reads 31 = .ok (.if_icmp .ge 43, 3) := dk_162 0 43 (dk_at dksX1_reads_1 7 rfl rfl)
theorem dX1_reads_34 : decode cX1_reads 34 = .ok (.aload_n 0, 1) := dk_42 (dk_at dksX1_reads_1 10 rfl rfl)
theorem dX1_reads_35 : decode cX1_reads 35 = .ok (.aload_n 0, 1) := dk_42 (dk_at dksX1_reads_1 11 rfl rfl)
theorem dX1_reads_36 : decode cX1_reads 36 = .ok (.getfield 117, 3) := dk_180 0 117 (dk_at dksX1_reads_1 12 rfl rfl)
theorem dX1_reads_39 : decode cX1_reads 39 = .ok (.iload_n 3, 1) := dk_29 (dk_at dksX1_reads_1 15 rfl rfl)
theorem dX1_reads_40 : decode cX1_reads 40 = .ok (.aaload, 1) := dk_50 (dk_at dksX1_reads_1 16 rfl rfl)
theorem dX1_reads_41 : decode cX1_reads 41 = .ok (.invokevirtual 129, 3) := dk_182 0 129 (dk_at dksX1_reads_1 17 rfl rfl)
theorem dX1_reads_44 : decode cX1_reads 44 = .ok (.ifCond .ne 24, 3) := dk_154 0 24 (dk_at dksX1_reads_1 20 rfl rfl)
theorem dX1_reads_47 : decode cX1_reads 47 = .ok (.new 132, 3) := dk_187 0 132 (dk_at dksX1_reads_2 0 rfl rfl)
theorem dX1_reads_50 : decode cX1_reads 50 = .ok (.dup, 1) := dk_89 (dk_at dksX1_reads_2 3 rfl rfl)
theorem dX1_reads_51 : decode cX1_reads 51 = .ok (.sipush (-2000), 3) := dk_17 248 48 (dk_at dksX1_reads_2 4 rfl rfl)
theorem dX1_reads_54 : decode cX1_reads 54 = .ok (.aload_n 0, 1) := dk_42 (dk_at dksX1_reads_2 7 rfl rfl)
theorem dX1_reads_55 : decode cX1_reads 55 = .ok (.getfield 117, 3) := dk_180 0 117 (dk_at dksX1_reads_2 8 rfl rfl)
theorem dX1_reads_58 : decode cX1_reads 58 = .ok (.iload_n 3, 1) := dk_29 (dk_at dksX1_reads_2 11 rfl rfl)
theorem dX1_reads_59 : decode cX1_reads 59 = .ok (.aaload, 1) := dk_50 (dk_at dksX1_reads_2 12 rfl rfl)
theorem dX1_reads_60 : decode cX1_reads 60 = .ok (.getfield 134, 3) := dk_180 0 134 (dk_at dksX1_reads_2 13 rfl rfl)
theorem dX1_reads_63 : decode cX1_reads 63 = .ok (.isub, 1) := dk_100 (dk_at dksX1_reads_2 16 rfl rfl)
theorem dX1_reads_64 : decode cX1_reads 64 = .ok (.invokespecial 137, 3) := dk_183 0 137 (dk_at dksX1_reads_2 17 rfl rfl)
theorem dX1_reads_67 : decode cX1_reads 67 = .ok (.athrow, 1) := dk_191 (dk_at dksX1_reads_2 20 rfl rfl)
theorem dX1_reads_68 : decode cX1_reads 68 = .ok (.iinc 3 1, 3) := dk_132 3 1 (dk_at dksX1_reads_2 21 rfl rfl)
theorem dX1_reads_71 : decode cX1_reads 71 = .ok (.goto (-42), 3) := dk_167 255 214 (dk_at dksX1_reads_3 0 rfl rfl)
theorem dX1_reads_74 : decode cX1_reads 74 = .ok (.aload_n 0, 1) := dk_42 (dk_at dksX1_reads_3 3 rfl rfl)
theorem dX1_reads_75 : decode cX1_reads 75 = .ok (.getfield 43, 3) := dk_180 0 43 (dk_at dksX1_reads_3 4 rfl rfl)
theorem dX1_reads_78 : decode cX1_reads 78 = .ok (.aload_n 0, 1) := dk_42 (dk_at dksX1_reads_3 7 rfl rfl)
theorem dX1_reads_79 : decode cX1_reads 79 = .ok (.getfield 63, 3) := dk_180 0 63 (dk_at dksX1_reads_3 8 rfl rfl)
theorem dX1_reads_82 : decode cX1_reads 82 = .ok (.invokevirtual 125, 3) := dk_182 0 125 (dk_at dksX1_reads_3 11 rfl rfl)
theorem dX1_reads_85 : decode cX1_reads 85 = .ok (.iload_n 2, 1) := dk_28 (dk_at dksX1_reads_3 14 rfl rfl)
theorem dX1_reads_86 : decode cX1_reads 86 = .ok (.ireturn, 1) := dk_172 (dk_at dksX1_reads_3 15 rfl rfl)
abbrev cX1_comes : ByteArray := prog_1_method_12_code
def yX1_comes : MethodName := ⟨RX1, "comes", "(LHandUnderTheChin$Told;)Z"⟩
def dkwX1_comes_6 : List UInt8 := [46, 44, 4, 46, 182, 0, 105, 4, 172, 42, 43, 180, 0, 89, 44, 3, 46, 44, 4, 46, 182, 0, 109, 172]
abbrev dktX1_comes_6 : List UInt8 := dkwX1_comes_6 ++ []
def dkwX1_comes_5 : List UInt8 := [46, 182, 0, 47, 153, 0, 12, 44, 3, 46, 44, 4, 46, 160, 0, 5, 3, 172, 42, 180, 0, 63, 44, 3]
abbrev dktX1_comes_5 : List UInt8 := dkwX1_comes_5 ++ dktX1_comes_6
def dkwX1_comes_4 : List UInt8 := [182, 0, 102, 4, 172, 42, 180, 0, 63, 44, 3, 46, 182, 0, 47, 153, 0, 25, 42, 180, 0, 63, 44, 4]
abbrev dktX1_comes_4 : List UInt8 := dkwX1_comes_4 ++ dktX1_comes_5
def dkwX1_comes_3 : List UInt8 := [42, 180, 0, 63, 44, 3, 46, 44, 4, 46, 182, 0, 100, 87, 4, 172, 42, 180, 0, 63, 44, 3, 46]
abbrev dktX1_comes_3 : List UInt8 := dkwX1_comes_3 ++ dktX1_comes_4
def dkwX1_comes_2 : List UInt8 := [42, 44, 182, 0, 92, 172, 42, 180, 0, 63, 44, 3, 46, 44, 4, 46, 184, 0, 96, 154, 0, 5, 3, 172]
abbrev dktX1_comes_2 : List UInt8 := dkwX1_comes_2 ++ dktX1_comes_3
def dkwX1_comes_1 : List UInt8 := [171, 0, 0, 0, 0, 0, 147, 0, 0, 0, 4, 0, 0, 0, 98, 0, 0, 0, 83, 0, 0, 0, 99, 0, 0, 0, 43, 0, 0, 0, 109, 0, 0, 0, 49, 0, 0, 0, 120, 0, 0, 0, 95]
abbrev dktX1_comes_1 : List UInt8 := dkwX1_comes_1 ++ dktX1_comes_2
def dkwX1_comes_0 : List UInt8 := [43, 180, 0, 84, 77, 43, 180, 0, 89]
abbrev dktX1_comes_0 : List UInt8 := dkwX1_comes_0 ++ dktX1_comes_1
theorem dksX1_comes_0 : cX1_comes.data.toList.drop 0 = dktX1_comes_0 := by decide +kernel
theorem dksX1_comes_1 : cX1_comes.data.toList.drop 9 = dktX1_comes_1 := dk_seg dksX1_comes_0 9 rfl rfl
theorem dksX1_comes_2 : cX1_comes.data.toList.drop 52 = dktX1_comes_2 := dk_seg dksX1_comes_1 43 rfl rfl
theorem dksX1_comes_3 : cX1_comes.data.toList.drop 76 = dktX1_comes_3 := dk_seg dksX1_comes_2 24 rfl rfl
theorem dksX1_comes_4 : cX1_comes.data.toList.drop 99 = dktX1_comes_4 := dk_seg dksX1_comes_3 23 rfl rfl
theorem dksX1_comes_5 : cX1_comes.data.toList.drop 123 = dktX1_comes_5 := dk_seg dksX1_comes_4 24 rfl rfl
theorem dksX1_comes_6 : cX1_comes.data.toList.drop 147 = dktX1_comes_6 := dk_seg dksX1_comes_5 24 rfl rfl
theorem dX1_comes_0 : decode cX1_comes 0 = .ok (.aload_n 1, 1) := dk_43 (dk_at dksX1_comes_0 0 rfl rfl)
theorem dX1_comes_1 : decode cX1_comes 1 = .ok (.getfield 84, 3) := dk_180 0 84 (dk_at dksX1_comes_0 1 rfl rfl)
theorem dX1_comes_4 : decode cX1_comes 4 = .ok (.astore_n 2, 1) := dk_77 (dk_at dksX1_comes_0 4 rfl rfl)
theorem dX1_comes_5 : decode cX1_comes 5 = .ok (.aload_n 1, 1) := dk_43 (dk_at dksX1_comes_0 5 rfl rfl)
theorem dX1_comes_6 : decode cX1_comes 6 = .ok (.getfield 89, 3) := dk_180 0 89 (dk_at dksX1_comes_0 6 rfl rfl)
theorem dX1_comes_9 : decode cX1_comes 9 = .ok (.lookupswitch 147 #[(98, 83), (99, 43), (109, 49), (120, 95)], 43) := by decide +kernel
theorem dX1_comes_52 : decode cX1_comes 52 = .ok (.aload_n 0, 1) := dk_42 (dk_at dksX1_comes_2 0 rfl rfl)
theorem dX1_comes_53 : decode cX1_comes 53 = .ok (.aload_n 2, 1) := dk_44 (dk_at dksX1_comes_2 1 rfl rfl)
theorem dX1_comes_54 : decode cX1_comes 54 = .ok (.invokevirtual 92, 3) := dk_182 0 92 (dk_at dksX1_comes_2 2 rfl rfl)
theorem dX1_comes_57 : decode cX1_comes 57 = .ok (.ireturn, 1) := dk_172 (dk_at dksX1_comes_2 5 rfl rfl)
theorem dX1_comes_58 : decode cX1_comes 58 = .ok (.aload_n 0, 1) := dk_42 (dk_at dksX1_comes_2 6 rfl rfl)
theorem dX1_comes_59 : decode cX1_comes 59 = .ok (.getfield 63, 3) := dk_180 0 63 (dk_at dksX1_comes_2 7 rfl rfl)
theorem dX1_comes_62 : decode cX1_comes 62 = .ok (.aload_n 2, 1) := dk_44 (dk_at dksX1_comes_2 10 rfl rfl)
theorem dX1_comes_63 : decode cX1_comes 63 = .ok (.iconst 0, 1) := dk_3 (dk_at dksX1_comes_2 11 rfl rfl)
theorem dX1_comes_64 : decode cX1_comes 64 = .ok (.iaload, 1) := dk_46 (dk_at dksX1_comes_2 12 rfl rfl)
theorem dX1_comes_65 : decode cX1_comes 65 = .ok (.aload_n 2, 1) := dk_44 (dk_at dksX1_comes_2 13 rfl rfl)
theorem dX1_comes_66 : decode cX1_comes 66 = .ok (.iconst 1, 1) := dk_4 (dk_at dksX1_comes_2 14 rfl rfl)
theorem dX1_comes_67 : decode cX1_comes 67 = .ok (.iaload, 1) := dk_46 (dk_at dksX1_comes_2 15 rfl rfl)
theorem dX1_comes_68 : decode cX1_comes 68 = .ok (.invokestatic 96, 3) := dk_184 0 96 (dk_at dksX1_comes_2 16 rfl rfl)
theorem dX1_comes_71 : decode cX1_comes 71 = .ok (.ifCond .ne 5, 3) := dk_154 0 5 (dk_at dksX1_comes_2 19 rfl rfl)
theorem dX1_comes_74 : decode cX1_comes 74 = .ok (.iconst 0, 1) := dk_3 (dk_at dksX1_comes_2 22 rfl rfl)
theorem dX1_comes_75 : decode cX1_comes 75 = .ok (.ireturn, 1) := dk_172 (dk_at dksX1_comes_2 23 rfl rfl)
theorem dX1_comes_76 : decode cX1_comes 76 = .ok (.aload_n 0, 1) := dk_42 (dk_at dksX1_comes_3 0 rfl rfl)
theorem dX1_comes_77 : decode cX1_comes 77 = .ok (.getfield 63, 3) := dk_180 0 63 (dk_at dksX1_comes_3 1 rfl rfl)
theorem dX1_comes_80 : decode cX1_comes 80 = .ok (.aload_n 2, 1) := dk_44 (dk_at dksX1_comes_3 4 rfl rfl)
theorem dX1_comes_81 : decode cX1_comes 81 = .ok (.iconst 0, 1) := dk_3 (dk_at dksX1_comes_3 5 rfl rfl)
theorem dX1_comes_82 : decode cX1_comes 82 = .ok (.iaload, 1) := dk_46 (dk_at dksX1_comes_3 6 rfl rfl)
theorem dX1_comes_83 : decode cX1_comes 83 = .ok (.aload_n 2, 1) := dk_44 (dk_at dksX1_comes_3 7 rfl rfl)
theorem dX1_comes_84 : decode cX1_comes 84 = .ok (.iconst 1, 1) := dk_4 (dk_at dksX1_comes_3 8 rfl rfl)
theorem dX1_comes_85 : decode cX1_comes 85 = .ok (.iaload, 1) := dk_46 (dk_at dksX1_comes_3 9 rfl rfl)
theorem dX1_comes_86 : decode cX1_comes 86 = .ok (.invokevirtual 100, 3) := dk_182 0 100 (dk_at dksX1_comes_3 10 rfl rfl)
theorem dX1_comes_89 : decode cX1_comes 89 = .ok (.pop, 1) := dk_87 (dk_at dksX1_comes_3 13 rfl rfl)
theorem dX1_comes_90 : decode cX1_comes 90 = .ok (.iconst 1, 1) := dk_4 (dk_at dksX1_comes_3 14 rfl rfl)
theorem dX1_comes_91 : decode cX1_comes 91 = .ok (.ireturn, 1) := dk_172 (dk_at dksX1_comes_3 15 rfl rfl)
theorem dX1_comes_92 : decode cX1_comes 92 = .ok (.aload_n 0, 1) := dk_42 (dk_at dksX1_comes_3 16 rfl rfl)
theorem dX1_comes_93 : decode cX1_comes 93 = .ok (.getfield 63, 3) := dk_180 0 63 (dk_at dksX1_comes_3 17 rfl rfl)
theorem dX1_comes_96 : decode cX1_comes 96 = .ok (.aload_n 2, 1) := dk_44 (dk_at dksX1_comes_3 20 rfl rfl)
theorem dX1_comes_97 : decode cX1_comes 97 = .ok (.iconst 0, 1) := dk_3 (dk_at dksX1_comes_3 21 rfl rfl)
theorem dX1_comes_98 : decode cX1_comes 98 = .ok (.iaload, 1) := dk_46 (dk_at dksX1_comes_3 22 rfl rfl)
theorem dX1_comes_99 : decode cX1_comes 99 = .ok (.invokevirtual 102, 3) := dk_182 0 102 (dk_at dksX1_comes_4 0 rfl rfl)
theorem dX1_comes_102 : decode cX1_comes 102 = .ok (.iconst 1, 1) := dk_4 (dk_at dksX1_comes_4 3 rfl rfl)
theorem dX1_comes_103 : decode cX1_comes 103 = .ok (.ireturn, 1) := dk_172 (dk_at dksX1_comes_4 4 rfl rfl)
theorem dX1_comes_104 : decode cX1_comes 104 = .ok (.aload_n 0, 1) := dk_42 (dk_at dksX1_comes_4 5 rfl rfl)
theorem dX1_comes_105 : decode cX1_comes 105 = .ok (.getfield 63, 3) := dk_180 0 63 (dk_at dksX1_comes_4 6 rfl rfl)
theorem dX1_comes_108 : decode cX1_comes 108 = .ok (.aload_n 2, 1) := dk_44 (dk_at dksX1_comes_4 9 rfl rfl)
theorem dX1_comes_109 : decode cX1_comes 109 = .ok (.iconst 0, 1) := dk_3 (dk_at dksX1_comes_4 10 rfl rfl)
theorem dX1_comes_110 : decode cX1_comes 110 = .ok (.iaload, 1) := dk_46 (dk_at dksX1_comes_4 11 rfl rfl)
theorem dX1_comes_111 : decode cX1_comes 111 = .ok (.invokevirtual 47, 3) := dk_182 0 47 (dk_at dksX1_comes_4 12 rfl rfl)
theorem dX1_comes_114 : decode cX1_comes 114 = .ok (.ifCond .eq 25, 3) := dk_153 0 25 (dk_at dksX1_comes_4 15 rfl rfl)
theorem dX1_comes_117 : decode cX1_comes 117 = .ok (.aload_n 0, 1) := dk_42 (dk_at dksX1_comes_4 18 rfl rfl)
theorem dX1_comes_118 : decode cX1_comes 118 = .ok (.getfield 63, 3) := dk_180 0 63 (dk_at dksX1_comes_4 19 rfl rfl)
theorem dX1_comes_121 : decode cX1_comes 121 = .ok (.aload_n 2, 1) := dk_44 (dk_at dksX1_comes_4 22 rfl rfl)
theorem dX1_comes_122 : decode cX1_comes 122 = .ok (.iconst 1, 1) := dk_4 (dk_at dksX1_comes_4 23 rfl rfl)
theorem dX1_comes_123 : decode cX1_comes 123 = .ok (.iaload, 1) := dk_46 (dk_at dksX1_comes_5 0 rfl rfl)
theorem dX1_comes_124 : decode cX1_comes 124 = .ok (.invokevirtual 47, 3) := dk_182 0 47 (dk_at dksX1_comes_5 1 rfl rfl)
theorem dX1_comes_127 : decode cX1_comes 127 = .ok (.ifCond .eq 12, 3) := dk_153 0 12 (dk_at dksX1_comes_5 4 rfl rfl)
theorem dX1_comes_130 : decode cX1_comes 130 = .ok (.aload_n 2, 1) := dk_44 (dk_at dksX1_comes_5 7 rfl rfl)
theorem dX1_comes_131 : decode cX1_comes 131 = .ok (.iconst 0, 1) := dk_3 (dk_at dksX1_comes_5 8 rfl rfl)
theorem dX1_comes_132 : decode cX1_comes 132 = .ok (.iaload, 1) := dk_46 (dk_at dksX1_comes_5 9 rfl rfl)
theorem dX1_comes_133 : decode cX1_comes 133 = .ok (.aload_n 2, 1) := dk_44 (dk_at dksX1_comes_5 10 rfl rfl)
theorem dX1_comes_134 : decode cX1_comes 134 = .ok (.iconst 1, 1) := dk_4 (dk_at dksX1_comes_5 11 rfl rfl)
theorem dX1_comes_135 : decode cX1_comes 135 = .ok (.iaload, 1) := dk_46 (dk_at dksX1_comes_5 12 rfl rfl)
theorem dX1_comes_136 : decode cX1_comes 136 = .ok (.if_icmp .ne 5, 3) := dk_160 0 5 (dk_at dksX1_comes_5 13 rfl rfl)
theorem dX1_comes_139 : decode cX1_comes 139 = .ok (.iconst 0, 1) := dk_3 (dk_at dksX1_comes_5 16 rfl rfl)
theorem dX1_comes_140 : decode cX1_comes 140 = .ok (.ireturn, 1) := dk_172 (dk_at dksX1_comes_5 17 rfl rfl)
theorem dX1_comes_141 : decode cX1_comes 141 = .ok (.aload_n 0, 1) := dk_42 (dk_at dksX1_comes_5 18 rfl rfl)
theorem dX1_comes_142 : decode cX1_comes 142 = .ok (.getfield 63, 3) := dk_180 0 63 (dk_at dksX1_comes_5 19 rfl rfl)
theorem dX1_comes_145 : decode cX1_comes 145 = .ok (.aload_n 2, 1) := dk_44 (dk_at dksX1_comes_5 22 rfl rfl)
theorem dX1_comes_146 : decode cX1_comes 146 = .ok (.iconst 0, 1) := dk_3 (dk_at dksX1_comes_5 23 rfl rfl)
theorem dX1_comes_147 : decode cX1_comes 147 = .ok (.iaload, 1) := dk_46 (dk_at dksX1_comes_6 0 rfl rfl)
theorem dX1_comes_148 : decode cX1_comes 148 = .ok (.aload_n 2, 1) := dk_44 (dk_at dksX1_comes_6 1 rfl rfl)
theorem dX1_comes_149 : decode cX1_comes 149 = .ok (.iconst 1, 1) := dk_4 (dk_at dksX1_comes_6 2 rfl rfl)
theorem dX1_comes_150 : decode cX1_comes 150 = .ok (.iaload, 1) := dk_46 (dk_at dksX1_comes_6 3 rfl rfl)
theorem dX1_comes_151 : decode cX1_comes 151 = .ok (.invokevirtual 105, 3) := dk_182 0 105 (dk_at dksX1_comes_6 4 rfl rfl)
theorem dX1_comes_154 : decode cX1_comes 154 = .ok (.iconst 1, 1) := dk_4 (dk_at dksX1_comes_6 7 rfl rfl)
theorem dX1_comes_155 : decode cX1_comes 155 = .ok (.ireturn, 1) := dk_172 (dk_at dksX1_comes_6 8 rfl rfl)
theorem dX1_comes_156 : decode cX1_comes 156 = .ok (.aload_n 0, 1) := dk_42 (dk_at dksX1_comes_6 9 rfl rfl)
theorem dX1_comes_157 : decode cX1_comes 157 = .ok (.aload_n 1, 1) := dk_43 (dk_at dksX1_comes_6 10 rfl rfl)
theorem dX1_comes_158 : decode cX1_comes 158 = .ok (.getfield 89, 3) := dk_180 0 89 (dk_at dksX1_comes_6 11 rfl rfl)
theorem dX1_comes_161 : decode cX1_comes 161 = .ok (.aload_n 2, 1) := dk_44 (dk_at dksX1_comes_6 14 rfl rfl)
theorem dX1_comes_162 : decode cX1_comes 162 = .ok (.iconst 0, 1) := dk_3 (dk_at dksX1_comes_6 15 rfl rfl)
theorem dX1_comes_163 : decode cX1_comes 163 = .ok (.iaload, 1) := dk_46 (dk_at dksX1_comes_6 16 rfl rfl)
theorem dX1_comes_164 : decode cX1_comes 164 = .ok (.aload_n 2, 1) := dk_44 (dk_at dksX1_comes_6 17 rfl rfl)
theorem dX1_comes_165 : decode cX1_comes 165 = .ok (.iconst 1, 1) := dk_4 (dk_at dksX1_comes_6 18 rfl rfl)
theorem dX1_comes_166 : decode cX1_comes 166 = .ok (.iaload, 1) := dk_46 (dk_at dksX1_comes_6 19 rfl rfl)
theorem dX1_comes_167 : decode cX1_comes 167 = .ok (.invokevirtual 109, 3) := dk_182 0 109 (dk_at dksX1_comes_6 20 rfl rfl)
theorem dX1_comes_170 : decode cX1_comes 170 = .ok (.ireturn, 1) := dk_172 (dk_at dksX1_comes_6 23 rfl rfl)
abbrev cX1_comesOne : ByteArray := prog_1_method_10_code
def yX1_comesOne : MethodName := ⟨RX1, "comesOne", "([I)Z"⟩
def dkwX1_comesOne_2 : List UInt8 := [182, 0, 73, 87, 4, 172]
abbrev dktX1_comesOne_2 : List UInt8 := dkwX1_comesOne_2 ++ []
def dkwX1_comesOne_1 : List UInt8 := [16, 6, 160, 0, 5, 3, 172, 42, 180, 0, 63, 43, 3, 46, 43, 4, 46, 184, 0, 69, 43, 5, 46]
abbrev dktX1_comesOne_1 : List UInt8 := dkwX1_comesOne_1 ++ dktX1_comesOne_2
def dkwX1_comesOne_0 : List UInt8 := [43, 3, 46, 16, 8, 162, 0, 24, 43, 5, 46, 184, 0, 60, 153, 0, 15, 42, 180, 0, 63, 180, 0, 66]
abbrev dktX1_comesOne_0 : List UInt8 := dkwX1_comesOne_0 ++ dktX1_comesOne_1
theorem dksX1_comesOne_0 : cX1_comesOne.data.toList.drop 0 = dktX1_comesOne_0 := by decide +kernel
theorem dksX1_comesOne_1 : cX1_comesOne.data.toList.drop 24 = dktX1_comesOne_1 := dk_seg dksX1_comesOne_0 24 rfl rfl
theorem dksX1_comesOne_2 : cX1_comesOne.data.toList.drop 47 = dktX1_comesOne_2 := dk_seg dksX1_comesOne_1 23 rfl rfl
theorem dX1_comesOne_0 : decode cX1_comesOne 0 = .ok (.aload_n 1, 1) := dk_43 (dk_at dksX1_comesOne_0 0 rfl rfl)
theorem dX1_comesOne_1 : decode cX1_comesOne 1 = .ok (.iconst 0, 1) := dk_3 (dk_at dksX1_comesOne_0 1 rfl rfl)
theorem dX1_comesOne_2 : decode cX1_comesOne 2 = .ok (.iaload, 1) := dk_46 (dk_at dksX1_comesOne_0 2 rfl rfl)
theorem dX1_comesOne_3 : decode cX1_comesOne 3 = .ok (.bipush 8, 2) := dk_16 8 (dk_at dksX1_comesOne_0 3 rfl rfl)
theorem dX1_comesOne_5 : decode cX1_comesOne 5 = .ok (.if_icmp .ge 24, 3) := dk_162 0 24 (dk_at dksX1_comesOne_0 5 rfl rfl)
theorem dX1_comesOne_8 : decode cX1_comesOne 8 = .ok (.aload_n 1, 1) := dk_43 (dk_at dksX1_comesOne_0 8 rfl rfl)
theorem dX1_comesOne_9 : decode cX1_comesOne 9 = .ok (.iconst 2, 1) := dk_5 (dk_at dksX1_comesOne_0 9 rfl rfl)
theorem dX1_comesOne_10 : decode cX1_comesOne 10 = .ok (.iaload, 1) := dk_46 (dk_at dksX1_comesOne_0 10 rfl rfl)
theorem dX1_comesOne_11 : decode cX1_comesOne 11 = .ok (.invokestatic 60, 3) := dk_184 0 60 (dk_at dksX1_comesOne_0 11 rfl rfl)
theorem dX1_comesOne_14 : decode cX1_comesOne 14 = .ok (.ifCond .eq 15, 3) := dk_153 0 15 (dk_at dksX1_comesOne_0 14 rfl rfl)
theorem dX1_comesOne_17 : decode cX1_comesOne 17 = .ok (.aload_n 0, 1) := dk_42 (dk_at dksX1_comesOne_0 17 rfl rfl)
theorem dX1_comesOne_18 : decode cX1_comesOne 18 = .ok (.getfield 63, 3) := dk_180 0 63 (dk_at dksX1_comesOne_0 18 rfl rfl)
theorem dX1_comesOne_21 : decode cX1_comesOne 21 = .ok (.getfield 66, 3) := dk_180 0 66 (dk_at dksX1_comesOne_0 21 rfl rfl)
theorem dX1_comesOne_24 : decode cX1_comesOne 24 = .ok (.bipush 6, 2) := dk_16 6 (dk_at dksX1_comesOne_1 0 rfl rfl)
theorem dX1_comesOne_26 : decode cX1_comesOne 26 = .ok (.if_icmp .ne 5, 3) := dk_160 0 5 (dk_at dksX1_comesOne_1 2 rfl rfl)
theorem dX1_comesOne_29 : decode cX1_comesOne 29 = .ok (.iconst 0, 1) := dk_3 (dk_at dksX1_comesOne_1 5 rfl rfl)
theorem dX1_comesOne_30 : decode cX1_comesOne 30 = .ok (.ireturn, 1) := dk_172 (dk_at dksX1_comesOne_1 6 rfl rfl)
theorem dX1_comesOne_31 : decode cX1_comesOne 31 = .ok (.aload_n 0, 1) := dk_42 (dk_at dksX1_comesOne_1 7 rfl rfl)
theorem dX1_comesOne_32 : decode cX1_comesOne 32 = .ok (.getfield 63, 3) := dk_180 0 63 (dk_at dksX1_comesOne_1 8 rfl rfl)
theorem dX1_comesOne_35 : decode cX1_comesOne 35 = .ok (.aload_n 1, 1) := dk_43 (dk_at dksX1_comesOne_1 11 rfl rfl)
theorem dX1_comesOne_36 : decode cX1_comesOne 36 = .ok (.iconst 0, 1) := dk_3 (dk_at dksX1_comesOne_1 12 rfl rfl)
theorem dX1_comesOne_37 : decode cX1_comesOne 37 = .ok (.iaload, 1) := dk_46 (dk_at dksX1_comesOne_1 13 rfl rfl)
theorem dX1_comesOne_38 : decode cX1_comesOne 38 = .ok (.aload_n 1, 1) := dk_43 (dk_at dksX1_comesOne_1 14 rfl rfl)
theorem dX1_comesOne_39 : decode cX1_comesOne 39 = .ok (.iconst 1, 1) := dk_4 (dk_at dksX1_comesOne_1 15 rfl rfl)
theorem dX1_comesOne_40 : decode cX1_comesOne 40 = .ok (.iaload, 1) := dk_46 (dk_at dksX1_comesOne_1 16 rfl rfl)
theorem dX1_comesOne_41 : decode cX1_comesOne 41 = .ok (.invokestatic 69, 3) := dk_184 0 69 (dk_at dksX1_comesOne_1 17 rfl rfl)
theorem dX1_comesOne_44 : decode cX1_comesOne 44 = .ok (.aload_n 1, 1) := dk_43 (dk_at dksX1_comesOne_1 20 rfl rfl)
theorem dX1_comesOne_45 : decode cX1_comesOne 45 = .ok (.iconst 2, 1) := dk_5 (dk_at dksX1_comesOne_1 21 rfl rfl)
theorem dX1_comesOne_46 : decode cX1_comesOne 46 = .ok (.iaload, 1) := dk_46 (dk_at dksX1_comesOne_1 22 rfl rfl)
theorem dX1_comesOne_47 : decode cX1_comesOne 47 = .ok (.invokevirtual 73, 3) := dk_182 0 73 (dk_at dksX1_comesOne_2 0 rfl rfl)
theorem dX1_comesOne_50 : decode cX1_comesOne 50 = .ok (.pop, 1) := dk_87 (dk_at dksX1_comesOne_2 3 rfl rfl)
theorem dX1_comesOne_51 : decode cX1_comesOne 51 = .ok (.iconst 1, 1) := dk_4 (dk_at dksX1_comesOne_2 4 rfl rfl)
theorem dX1_comesOne_52 : decode cX1_comesOne 52 = .ok (.ireturn, 1) := dk_172 (dk_at dksX1_comesOne_2 5 rfl rfl)
abbrev cX1_isTrust : ByteArray := prog_1_method_7_code
def yX1_isTrust : MethodName := ⟨RX1, "isTrust", "(I)Z"⟩
def dkwX1_isTrust_0 : List UInt8 := [26, 3, 16, 20, 184, 0, 39, 172]
abbrev dktX1_isTrust_0 : List UInt8 := dkwX1_isTrust_0 ++ []
theorem dksX1_isTrust_0 : cX1_isTrust.data.toList.drop 0 = dktX1_isTrust_0 := by decide +kernel
theorem dX1_isTrust_0 : decode cX1_isTrust 0 = .ok (.iload_n 0, 1) := dk_26 (dk_at dksX1_isTrust_0 0 rfl rfl)
theorem dX1_isTrust_1 : decode cX1_isTrust 1 = .ok (.iconst 0, 1) := dk_3 (dk_at dksX1_isTrust_0 1 rfl rfl)
theorem dX1_isTrust_2 : decode cX1_isTrust 2 = .ok (.bipush 20, 2) := dk_16 20 (dk_at dksX1_isTrust_0 2 rfl rfl)
theorem dX1_isTrust_4 : decode cX1_isTrust 4 = .ok (.invokestatic 39, 3) := dk_184 0 39 (dk_at dksX1_isTrust_0 4 rfl rfl)
theorem dX1_isTrust_7 : decode cX1_isTrust 7 = .ok (.ireturn, 1) := dk_172 (dk_at dksX1_isTrust_0 7 rfl rfl)
abbrev cX1_childOf : ByteArray := prog_1_method_4_code
def yX1_childOf : MethodName := ⟨RX1, "childOf", "(II)LHandUnderTheChin$Child;"⟩
def dkwX1_childOf_5 : List UInt8 := [183, 0, 38, 176]
abbrev dktX1_childOf_5 : List UInt8 := dkwX1_childOf_5 ++ []
def dkwX1_childOf_4 : List UInt8 := [187, 0, 30, 89, 27, 183, 0, 32, 176, 187, 0, 33, 89, 27, 183, 0, 35, 176, 187, 0, 36, 89, 27]
abbrev dktX1_childOf_4 : List UInt8 := dkwX1_childOf_4 ++ dktX1_childOf_5
def dkwX1_childOf_3 : List UInt8 := [183, 0, 23, 176, 187, 0, 24, 89, 27, 183, 0, 26, 176, 187, 0, 27, 89, 27, 183, 0, 29, 176]
abbrev dktX1_childOf_3 : List UInt8 := dkwX1_childOf_3 ++ dktX1_childOf_4
def dkwX1_childOf_2 : List UInt8 := [187, 0, 12, 89, 27, 183, 0, 14, 176, 187, 0, 18, 89, 27, 183, 0, 20, 176, 187, 0, 21, 89, 27]
abbrev dktX1_childOf_2 : List UInt8 := dkwX1_childOf_2 ++ dktX1_childOf_3
def dkwX1_childOf_1 : List UInt8 := [170, 0, 0, 0, 0, 0, 106, 0, 0, 0, 0, 0, 0, 0, 6, 0, 0, 0, 43, 0, 0, 0, 52, 0, 0, 0, 61, 0, 0, 0, 70, 0, 0, 0, 79, 0, 0, 0, 88, 0, 0, 0, 97]
abbrev dktX1_childOf_1 : List UInt8 := dkwX1_childOf_1 ++ dktX1_childOf_2
def dkwX1_childOf_0 : List UInt8 := [26]
abbrev dktX1_childOf_0 : List UInt8 := dkwX1_childOf_0 ++ dktX1_childOf_1
theorem dksX1_childOf_0 : cX1_childOf.data.toList.drop 0 = dktX1_childOf_0 := by decide +kernel
theorem dksX1_childOf_1 : cX1_childOf.data.toList.drop 1 = dktX1_childOf_1 := dk_seg dksX1_childOf_0 1 rfl rfl
theorem dksX1_childOf_2 : cX1_childOf.data.toList.drop 44 = dktX1_childOf_2 := dk_seg dksX1_childOf_1 43 rfl rfl
theorem dksX1_childOf_3 : cX1_childOf.data.toList.drop 67 = dktX1_childOf_3 := dk_seg dksX1_childOf_2 23 rfl rfl
theorem dksX1_childOf_4 : cX1_childOf.data.toList.drop 89 = dktX1_childOf_4 := dk_seg dksX1_childOf_3 22 rfl rfl
theorem dksX1_childOf_5 : cX1_childOf.data.toList.drop 112 = dktX1_childOf_5 := dk_seg dksX1_childOf_4 23 rfl rfl
theorem dX1_childOf_0 : decode cX1_childOf 0 = .ok (.iload_n 0, 1) := dk_26 (dk_at dksX1_childOf_0 0 rfl rfl)
theorem dX1_childOf_1 : decode cX1_childOf 1 = .ok (.tableswitch 106 0 6 #[43, 52, 61, 70, 79, 88, 97], 43) := by decide +kernel
theorem dX1_childOf_44 : decode cX1_childOf 44 = .ok (.new 12, 3) := dk_187 0 12 (dk_at dksX1_childOf_2 0 rfl rfl)
theorem dX1_childOf_47 : decode cX1_childOf 47 = .ok (.dup, 1) := dk_89 (dk_at dksX1_childOf_2 3 rfl rfl)
theorem dX1_childOf_48 : decode cX1_childOf 48 = .ok (.iload_n 1, 1) := dk_27 (dk_at dksX1_childOf_2 4 rfl rfl)
theorem dX1_childOf_49 : decode cX1_childOf 49 = .ok (.invokespecial 14, 3) := dk_183 0 14 (dk_at dksX1_childOf_2 5 rfl rfl)
theorem dX1_childOf_52 : decode cX1_childOf 52 = .ok (.areturn, 1) := dk_176 (dk_at dksX1_childOf_2 8 rfl rfl)
theorem dX1_childOf_53 : decode cX1_childOf 53 = .ok (.new 18, 3) := dk_187 0 18 (dk_at dksX1_childOf_2 9 rfl rfl)
theorem dX1_childOf_56 : decode cX1_childOf 56 = .ok (.dup, 1) := dk_89 (dk_at dksX1_childOf_2 12 rfl rfl)
theorem dX1_childOf_57 : decode cX1_childOf 57 = .ok (.iload_n 1, 1) := dk_27 (dk_at dksX1_childOf_2 13 rfl rfl)
theorem dX1_childOf_58 : decode cX1_childOf 58 = .ok (.invokespecial 20, 3) := dk_183 0 20 (dk_at dksX1_childOf_2 14 rfl rfl)
theorem dX1_childOf_61 : decode cX1_childOf 61 = .ok (.areturn, 1) := dk_176 (dk_at dksX1_childOf_2 17 rfl rfl)
theorem dX1_childOf_62 : decode cX1_childOf 62 = .ok (.new 21, 3) := dk_187 0 21 (dk_at dksX1_childOf_2 18 rfl rfl)
theorem dX1_childOf_65 : decode cX1_childOf 65 = .ok (.dup, 1) := dk_89 (dk_at dksX1_childOf_2 21 rfl rfl)
theorem dX1_childOf_66 : decode cX1_childOf 66 = .ok (.iload_n 1, 1) := dk_27 (dk_at dksX1_childOf_2 22 rfl rfl)
theorem dX1_childOf_67 : decode cX1_childOf 67 = .ok (.invokespecial 23, 3) := dk_183 0 23 (dk_at dksX1_childOf_3 0 rfl rfl)
theorem dX1_childOf_70 : decode cX1_childOf 70 = .ok (.areturn, 1) := dk_176 (dk_at dksX1_childOf_3 3 rfl rfl)
theorem dX1_childOf_71 : decode cX1_childOf 71 = .ok (.new 24, 3) := dk_187 0 24 (dk_at dksX1_childOf_3 4 rfl rfl)
theorem dX1_childOf_74 : decode cX1_childOf 74 = .ok (.dup, 1) := dk_89 (dk_at dksX1_childOf_3 7 rfl rfl)
theorem dX1_childOf_75 : decode cX1_childOf 75 = .ok (.iload_n 1, 1) := dk_27 (dk_at dksX1_childOf_3 8 rfl rfl)
theorem dX1_childOf_76 : decode cX1_childOf 76 = .ok (.invokespecial 26, 3) := dk_183 0 26 (dk_at dksX1_childOf_3 9 rfl rfl)
theorem dX1_childOf_79 : decode cX1_childOf 79 = .ok (.areturn, 1) := dk_176 (dk_at dksX1_childOf_3 12 rfl rfl)
theorem dX1_childOf_80 : decode cX1_childOf 80 = .ok (.new 27, 3) := dk_187 0 27 (dk_at dksX1_childOf_3 13 rfl rfl)
theorem dX1_childOf_83 : decode cX1_childOf 83 = .ok (.dup, 1) := dk_89 (dk_at dksX1_childOf_3 16 rfl rfl)
theorem dX1_childOf_84 : decode cX1_childOf 84 = .ok (.iload_n 1, 1) := dk_27 (dk_at dksX1_childOf_3 17 rfl rfl)
theorem dX1_childOf_85 : decode cX1_childOf 85 = .ok (.invokespecial 29, 3) := dk_183 0 29 (dk_at dksX1_childOf_3 18 rfl rfl)
theorem dX1_childOf_88 : decode cX1_childOf 88 = .ok (.areturn, 1) := dk_176 (dk_at dksX1_childOf_3 21 rfl rfl)
theorem dX1_childOf_89 : decode cX1_childOf 89 = .ok (.new 30, 3) := dk_187 0 30 (dk_at dksX1_childOf_4 0 rfl rfl)
theorem dX1_childOf_92 : decode cX1_childOf 92 = .ok (.dup, 1) := dk_89 (dk_at dksX1_childOf_4 3 rfl rfl)
theorem dX1_childOf_93 : decode cX1_childOf 93 = .ok (.iload_n 1, 1) := dk_27 (dk_at dksX1_childOf_4 4 rfl rfl)
theorem dX1_childOf_94 : decode cX1_childOf 94 = .ok (.invokespecial 32, 3) := dk_183 0 32 (dk_at dksX1_childOf_4 5 rfl rfl)
theorem dX1_childOf_97 : decode cX1_childOf 97 = .ok (.areturn, 1) := dk_176 (dk_at dksX1_childOf_4 8 rfl rfl)
theorem dX1_childOf_98 : decode cX1_childOf 98 = .ok (.new 33, 3) := dk_187 0 33 (dk_at dksX1_childOf_4 9 rfl rfl)
theorem dX1_childOf_101 : decode cX1_childOf 101 = .ok (.dup, 1) := dk_89 (dk_at dksX1_childOf_4 12 rfl rfl)
theorem dX1_childOf_102 : decode cX1_childOf 102 = .ok (.iload_n 1, 1) := dk_27 (dk_at dksX1_childOf_4 13 rfl rfl)
theorem dX1_childOf_103 : decode cX1_childOf 103 = .ok (.invokespecial 35, 3) := dk_183 0 35 (dk_at dksX1_childOf_4 14 rfl rfl)
theorem dX1_childOf_106 : decode cX1_childOf 106 = .ok (.areturn, 1) := dk_176 (dk_at dksX1_childOf_4 17 rfl rfl)
theorem dX1_childOf_107 : decode cX1_childOf 107 = .ok (.new 36, 3) := dk_187 0 36 (dk_at dksX1_childOf_4 18 rfl rfl)
theorem dX1_childOf_110 : decode cX1_childOf 110 = .ok (.dup, 1) := dk_89 (dk_at dksX1_childOf_4 21 rfl rfl)
theorem dX1_childOf_111 : decode cX1_childOf 111 = .ok (.iload_n 1, 1) := dk_27 (dk_at dksX1_childOf_4 22 rfl rfl)
theorem dX1_childOf_112 : decode cX1_childOf 112 = .ok (.invokespecial 38, 3) := dk_183 0 38 (dk_at dksX1_childOf_5 0 rfl rfl)
theorem dX1_childOf_115 : decode cX1_childOf 115 = .ok (.areturn, 1) := dk_176 (dk_at dksX1_childOf_5 3 rfl rfl)
abbrev cX1_canMinute : ByteArray := prog_1_method_9_code
def yX1_canMinute : MethodName := ⟨RX1, "canMinute", "(LHandUnderTheChin$Bath;II)Z"⟩
def dkwX1_canMinute_1 : List UInt8 := [154, 0, 17, 42, 180, 0, 56, 17, 3, 231, 162, 0, 7, 4, 167, 0, 4, 3, 172]
abbrev dktX1_canMinute_1 : List UInt8 := dkwX1_canMinute_1 ++ []
def dkwX1_canMinute_0 : List UInt8 := [42, 27, 182, 0, 47, 153, 0, 34, 28, 3, 6, 184, 0, 39, 153, 0, 25, 42, 27, 182, 0, 53]
abbrev dktX1_canMinute_0 : List UInt8 := dkwX1_canMinute_0 ++ dktX1_canMinute_1
theorem dksX1_canMinute_0 : cX1_canMinute.data.toList.drop 0 = dktX1_canMinute_0 := by decide +kernel
theorem dksX1_canMinute_1 : cX1_canMinute.data.toList.drop 22 = dktX1_canMinute_1 := dk_seg dksX1_canMinute_0 22 rfl rfl
theorem dX1_canMinute_0 : decode cX1_canMinute 0 = .ok (.aload_n 0, 1) := dk_42 (dk_at dksX1_canMinute_0 0 rfl rfl)
theorem dX1_canMinute_1 : decode cX1_canMinute 1 = .ok (.iload_n 1, 1) := dk_27 (dk_at dksX1_canMinute_0 1 rfl rfl)
theorem dX1_canMinute_2 : decode cX1_canMinute 2 = .ok (.invokevirtual 47, 3) := dk_182 0 47 (dk_at dksX1_canMinute_0 2 rfl rfl)
theorem dX1_canMinute_5 : decode cX1_canMinute 5 = .ok (.ifCond .eq 34, 3) := dk_153 0 34 (dk_at dksX1_canMinute_0 5 rfl rfl)
theorem dX1_canMinute_8 : decode cX1_canMinute 8 = .ok (.iload_n 2, 1) := dk_28 (dk_at dksX1_canMinute_0 8 rfl rfl)
theorem dX1_canMinute_9 : decode cX1_canMinute 9 = .ok (.iconst 0, 1) := dk_3 (dk_at dksX1_canMinute_0 9 rfl rfl)
theorem dX1_canMinute_10 : decode cX1_canMinute 10 = .ok (.iconst 3, 1) := dk_6 (dk_at dksX1_canMinute_0 10 rfl rfl)
theorem dX1_canMinute_11 : decode cX1_canMinute 11 = .ok (.invokestatic 39, 3) := dk_184 0 39 (dk_at dksX1_canMinute_0 11 rfl rfl)
theorem dX1_canMinute_14 : decode cX1_canMinute 14 = .ok (.ifCond .eq 25, 3) := dk_153 0 25 (dk_at dksX1_canMinute_0 14 rfl rfl)
theorem dX1_canMinute_17 : decode cX1_canMinute 17 = .ok (.aload_n 0, 1) := dk_42 (dk_at dksX1_canMinute_0 17 rfl rfl)
theorem dX1_canMinute_18 : decode cX1_canMinute 18 = .ok (.iload_n 1, 1) := dk_27 (dk_at dksX1_canMinute_0 18 rfl rfl)
theorem dX1_canMinute_19 : decode cX1_canMinute 19 = .ok (.invokevirtual 53, 3) := dk_182 0 53 (dk_at dksX1_canMinute_0 19 rfl rfl)
theorem dX1_canMinute_22 : decode cX1_canMinute 22 = .ok (.ifCond .ne 17, 3) := dk_154 0 17 (dk_at dksX1_canMinute_1 0 rfl rfl)
theorem dX1_canMinute_25 : decode cX1_canMinute 25 = .ok (.aload_n 0, 1) := dk_42 (dk_at dksX1_canMinute_1 3 rfl rfl)
theorem dX1_canMinute_26 : decode cX1_canMinute 26 = .ok (.getfield 56, 3) := dk_180 0 56 (dk_at dksX1_canMinute_1 4 rfl rfl)
theorem dX1_canMinute_29 : decode cX1_canMinute 29 = .ok (.sipush 999, 3) := dk_17 3 231 (dk_at dksX1_canMinute_1 7 rfl rfl)
theorem dX1_canMinute_32 : decode cX1_canMinute 32 = .ok (.if_icmp .ge 7, 3) := dk_162 0 7 (dk_at dksX1_canMinute_1 10 rfl rfl)
theorem dX1_canMinute_35 : decode cX1_canMinute 35 = .ok (.iconst 1, 1) := dk_4 (dk_at dksX1_canMinute_1 13 rfl rfl)
theorem dX1_canMinute_36 : decode cX1_canMinute 36 = .ok (.goto 4, 3) := dk_167 0 4 (dk_at dksX1_canMinute_1 14 rfl rfl)
theorem dX1_canMinute_39 : decode cX1_canMinute 39 = .ok (.iconst 0, 1) := dk_3 (dk_at dksX1_canMinute_1 17 rfl rfl)
theorem dX1_canMinute_40 : decode cX1_canMinute 40 = .ok (.ireturn, 1) := dk_172 (dk_at dksX1_canMinute_1 18 rfl rfl)
abbrev cX1_held : ByteArray := prog_1_method_3_code
def yX1_held : MethodName := ⟨RX1, "held", "(I)I"⟩
def dkwX1_held_0 : List UInt8 := [3, 16, 20, 26, 184, 0, 3, 184, 0, 9, 172]
abbrev dktX1_held_0 : List UInt8 := dkwX1_held_0 ++ []
theorem dksX1_held_0 : cX1_held.data.toList.drop 0 = dktX1_held_0 := by decide +kernel
theorem dX1_held_0 : decode cX1_held 0 = .ok (.iconst 0, 1) := dk_3 (dk_at dksX1_held_0 0 rfl rfl)
theorem dX1_held_1 : decode cX1_held 1 = .ok (.bipush 20, 2) := dk_16 20 (dk_at dksX1_held_0 1 rfl rfl)
theorem dX1_held_3 : decode cX1_held 3 = .ok (.iload_n 0, 1) := dk_26 (dk_at dksX1_held_0 3 rfl rfl)
theorem dX1_held_4 : decode cX1_held 4 = .ok (.invokestatic 3, 3) := dk_184 0 3 (dk_at dksX1_held_0 4 rfl rfl)
theorem dX1_held_7 : decode cX1_held 7 = .ok (.invokestatic 9, 3) := dk_184 0 9 (dk_at dksX1_held_0 7 rfl rfl)
theorem dX1_held_10 : decode cX1_held 10 = .ok (.ireturn, 1) := dk_172 (dk_at dksX1_held_0 10 rfl rfl)
abbrev cX1_comesFeeling : ByteArray := prog_1_method_11_code
def yX1_comesFeeling : MethodName := ⟨RX1, "comesFeeling", "(III)Z"⟩
def dkwX1_comesFeeling_2 : List UInt8 := [167, 0, 13, 42, 180, 0, 63, 180, 0, 81, 28, 29, 79, 4, 172]
abbrev dktX1_comesFeeling_2 : List UInt8 := dkwX1_comesFeeling_2 ++ []
def dkwX1_comesFeeling_1 : List UInt8 := [16, 7, 164, 0, 5, 3, 172, 27, 16, 116, 160, 0, 16, 42, 180, 0, 63, 180, 0, 77, 28, 29, 79]
abbrev dktX1_comesFeeling_1 : List UInt8 := dkwX1_comesFeeling_1 ++ dktX1_comesFeeling_2
def dkwX1_comesFeeling_0 : List UInt8 := [42, 180, 0, 63, 28, 182, 0, 47, 153, 0, 20, 29, 27, 16, 116, 160, 0, 8, 16, 20, 167, 0, 5]
abbrev dktX1_comesFeeling_0 : List UInt8 := dkwX1_comesFeeling_0 ++ dktX1_comesFeeling_1
theorem dksX1_comesFeeling_0 : cX1_comesFeeling.data.toList.drop 0 = dktX1_comesFeeling_0 := by decide +kernel
theorem dksX1_comesFeeling_1 : cX1_comesFeeling.data.toList.drop 23 = dktX1_comesFeeling_1 := dk_seg dksX1_comesFeeling_0 23 rfl rfl
theorem dksX1_comesFeeling_2 : cX1_comesFeeling.data.toList.drop 46 = dktX1_comesFeeling_2 := dk_seg dksX1_comesFeeling_1 23 rfl rfl
theorem dX1_comesFeeling_0 : decode cX1_comesFeeling 0 = .ok (.aload_n 0, 1) := dk_42 (dk_at dksX1_comesFeeling_0 0 rfl rfl)
theorem dX1_comesFeeling_1 : decode cX1_comesFeeling 1 = .ok (.getfield 63, 3) := dk_180 0 63 (dk_at dksX1_comesFeeling_0 1 rfl rfl)
theorem dX1_comesFeeling_4 : decode cX1_comesFeeling 4 = .ok (.iload_n 2, 1) := dk_28 (dk_at dksX1_comesFeeling_0 4 rfl rfl)
theorem dX1_comesFeeling_5 : decode cX1_comesFeeling 5 = .ok (.invokevirtual 47, 3) := dk_182 0 47 (dk_at dksX1_comesFeeling_0 5 rfl rfl)
theorem dX1_comesFeeling_8 : decode cX1_comesFeeling 8 = .ok (.ifCond .eq 20, 3) := dk_153 0 20 (dk_at dksX1_comesFeeling_0 8 rfl rfl)
theorem dX1_comesFeeling_11 : decode cX1_comesFeeling 11 = .ok (.iload_n 3, 1) := dk_29 (dk_at dksX1_comesFeeling_0 11 rfl rfl)
theorem dX1_comesFeeling_12 : decode cX1_comesFeeling 12 = .ok (.iload_n 1, 1) := dk_27 (dk_at dksX1_comesFeeling_0 12 rfl rfl)
theorem dX1_comesFeeling_13 : decode cX1_comesFeeling 13 = .ok (.bipush 116, 2) := dk_16 116 (dk_at dksX1_comesFeeling_0 13 rfl rfl)
theorem dX1_comesFeeling_15 : decode cX1_comesFeeling 15 = .ok (.if_icmp .ne 8, 3) := dk_160 0 8 (dk_at dksX1_comesFeeling_0 15 rfl rfl)
theorem dX1_comesFeeling_18 : decode cX1_comesFeeling 18 = .ok (.bipush 20, 2) := dk_16 20 (dk_at dksX1_comesFeeling_0 18 rfl rfl)
theorem dX1_comesFeeling_20 : decode cX1_comesFeeling 20 = .ok (.goto 5, 3) := dk_167 0 5 (dk_at dksX1_comesFeeling_0 20 rfl rfl)
theorem dX1_comesFeeling_23 : decode cX1_comesFeeling 23 = .ok (.bipush 7, 2) := dk_16 7 (dk_at dksX1_comesFeeling_1 0 rfl rfl)
theorem dX1_comesFeeling_25 : decode cX1_comesFeeling 25 = .ok (.if_icmp .le 5, 3) := dk_164 0 5 (dk_at dksX1_comesFeeling_1 2 rfl rfl)
theorem dX1_comesFeeling_28 : decode cX1_comesFeeling 28 = .ok (.iconst 0, 1) := dk_3 (dk_at dksX1_comesFeeling_1 5 rfl rfl)
theorem dX1_comesFeeling_29 : decode cX1_comesFeeling 29 = .ok (.ireturn, 1) := dk_172 (dk_at dksX1_comesFeeling_1 6 rfl rfl)
theorem dX1_comesFeeling_30 : decode cX1_comesFeeling 30 = .ok (.iload_n 1, 1) := dk_27 (dk_at dksX1_comesFeeling_1 7 rfl rfl)
theorem dX1_comesFeeling_31 : decode cX1_comesFeeling 31 = .ok (.bipush 116, 2) := dk_16 116 (dk_at dksX1_comesFeeling_1 8 rfl rfl)
theorem dX1_comesFeeling_33 : decode cX1_comesFeeling 33 = .ok (.if_icmp .ne 16, 3) := dk_160 0 16 (dk_at dksX1_comesFeeling_1 10 rfl rfl)
theorem dX1_comesFeeling_36 : decode cX1_comesFeeling 36 = .ok (.aload_n 0, 1) := dk_42 (dk_at dksX1_comesFeeling_1 13 rfl rfl)
theorem dX1_comesFeeling_37 : decode cX1_comesFeeling 37 = .ok (.getfield 63, 3) := dk_180 0 63 (dk_at dksX1_comesFeeling_1 14 rfl rfl)
theorem dX1_comesFeeling_40 : decode cX1_comesFeeling 40 = .ok (.getfield 77, 3) := dk_180 0 77 (dk_at dksX1_comesFeeling_1 17 rfl rfl)
theorem dX1_comesFeeling_43 : decode cX1_comesFeeling 43 = .ok (.iload_n 2, 1) := dk_28 (dk_at dksX1_comesFeeling_1 20 rfl rfl)
theorem dX1_comesFeeling_44 : decode cX1_comesFeeling 44 = .ok (.iload_n 3, 1) := dk_29 (dk_at dksX1_comesFeeling_1 21 rfl rfl)
theorem dX1_comesFeeling_45 : decode cX1_comesFeeling 45 = .ok (.iastore, 1) := dk_79 (dk_at dksX1_comesFeeling_1 22 rfl rfl)
theorem dX1_comesFeeling_46 : decode cX1_comesFeeling 46 = .ok (.goto 13, 3) := dk_167 0 13 (dk_at dksX1_comesFeeling_2 0 rfl rfl)
theorem dX1_comesFeeling_49 : decode cX1_comesFeeling 49 = .ok (.aload_n 0, 1) := dk_42 (dk_at dksX1_comesFeeling_2 3 rfl rfl)
theorem dX1_comesFeeling_50 : decode cX1_comesFeeling 50 = .ok (.getfield 63, 3) := dk_180 0 63 (dk_at dksX1_comesFeeling_2 4 rfl rfl)
theorem dX1_comesFeeling_53 : decode cX1_comesFeeling 53 = .ok (.getfield 81, 3) := dk_180 0 81 (dk_at dksX1_comesFeeling_2 7 rfl rfl)
theorem dX1_comesFeeling_56 : decode cX1_comesFeeling 56 = .ok (.iload_n 2, 1) := dk_28 (dk_at dksX1_comesFeeling_2 10 rfl rfl)
theorem dX1_comesFeeling_57 : decode cX1_comesFeeling 57 = .ok (.iload_n 3, 1) := dk_29 (dk_at dksX1_comesFeeling_2 11 rfl rfl)
theorem dX1_comesFeeling_58 : decode cX1_comesFeeling 58 = .ok (.iastore, 1) := dk_79 (dk_at dksX1_comesFeeling_2 12 rfl rfl)
theorem dX1_comesFeeling_59 : decode cX1_comesFeeling 59 = .ok (.iconst 1, 1) := dk_4 (dk_at dksX1_comesFeeling_2 13 rfl rfl)
theorem dX1_comesFeeling_60 : decode cX1_comesFeeling 60 = .ok (.ireturn, 1) := dk_172 (dk_at dksX1_comesFeeling_2 14 rfl rfl)
abbrev cX1_child : ByteArray := prog_1_method_15_code
def yX1_child : MethodName := ⟨RX1, "child", "(II)I"⟩
def dkwX1_child_5 : List UInt8 := [182, 0, 179, 172, 45, 182, 0, 183, 172, 45, 182, 0, 186, 172, 45, 182, 0, 189, 172, 2, 172]
abbrev dktX1_child_5 : List UInt8 := dkwX1_child_5 ++ []
def dkwX1_child_4 : List UInt8 := [180, 0, 43, 27, 182, 0, 53, 153, 0, 7, 3, 167, 0, 16, 45, 42, 180, 0, 43, 180, 0, 81, 27, 46]
abbrev dktX1_child_4 : List UInt8 := dkwX1_child_4 ++ dktX1_child_5
def dkwX1_child_3 : List UInt8 := [180, 0, 81, 27, 46, 172, 42, 180, 0, 43, 180, 0, 173, 27, 46, 172, 45, 182, 0, 176, 172, 42]
abbrev dktX1_child_3 : List UInt8 := dkwX1_child_3 ++ dktX1_child_4
def dkwX1_child_2 : List UInt8 := [45, 182, 0, 166, 172, 45, 180, 0, 170, 172, 42, 180, 0, 43, 180, 0, 77, 27, 46, 172, 42, 180, 0, 43]
abbrev dktX1_child_2 : List UInt8 := dkwX1_child_2 ++ dktX1_child_3
def dkwX1_child_1 : List UInt8 := [170, 0, 0, 0, 0, 0, 0, 145, 0, 0, 0, 0, 0, 0, 0, 9, 0, 0, 0, 56, 0, 0, 0, 61, 0, 0, 0, 66, 0, 0, 0, 76, 0, 0, 0, 86, 0, 0, 0, 96, 0, 0, 0, 101, 0, 0, 0, 130, 0, 0, 0, 135, 0, 0, 0, 140]
abbrev dktX1_child_1 : List UInt8 := dkwX1_child_1 ++ dktX1_child_2
def dkwX1_child_0 : List UInt8 := [42, 180, 0, 43, 27, 182, 0, 47, 154, 0, 5, 2, 172, 42, 180, 0, 43, 180, 0, 162, 27, 50, 78, 28]
abbrev dktX1_child_0 : List UInt8 := dkwX1_child_0 ++ dktX1_child_1
theorem dksX1_child_0 : cX1_child.data.toList.drop 0 = dktX1_child_0 := by decide +kernel
theorem dksX1_child_1 : cX1_child.data.toList.drop 24 = dktX1_child_1 := dk_seg dksX1_child_0 24 rfl rfl
theorem dksX1_child_2 : cX1_child.data.toList.drop 80 = dktX1_child_2 := dk_seg dksX1_child_1 56 rfl rfl
theorem dksX1_child_3 : cX1_child.data.toList.drop 104 = dktX1_child_3 := dk_seg dksX1_child_2 24 rfl rfl
theorem dksX1_child_4 : cX1_child.data.toList.drop 126 = dktX1_child_4 := dk_seg dksX1_child_3 22 rfl rfl
theorem dksX1_child_5 : cX1_child.data.toList.drop 150 = dktX1_child_5 := dk_seg dksX1_child_4 24 rfl rfl
theorem dX1_child_0 : decode cX1_child 0 = .ok (.aload_n 0, 1) := dk_42 (dk_at dksX1_child_0 0 rfl rfl)
theorem dX1_child_1 : decode cX1_child 1 = .ok (.getfield 43, 3) := dk_180 0 43 (dk_at dksX1_child_0 1 rfl rfl)
theorem dX1_child_4 : decode cX1_child 4 = .ok (.iload_n 1, 1) := dk_27 (dk_at dksX1_child_0 4 rfl rfl)
theorem dX1_child_5 : decode cX1_child 5 = .ok (.invokevirtual 47, 3) := dk_182 0 47 (dk_at dksX1_child_0 5 rfl rfl)
theorem dX1_child_8 : decode cX1_child 8 = .ok (.ifCond .ne 5, 3) := dk_154 0 5 (dk_at dksX1_child_0 8 rfl rfl)
theorem dX1_child_11 : decode cX1_child 11 = .ok (.iconst (-1), 1) := dk_2 (dk_at dksX1_child_0 11 rfl rfl)
theorem dX1_child_12 : decode cX1_child 12 = .ok (.ireturn, 1) := dk_172 (dk_at dksX1_child_0 12 rfl rfl)
theorem dX1_child_13 : decode cX1_child 13 = .ok (.aload_n 0, 1) := dk_42 (dk_at dksX1_child_0 13 rfl rfl)
theorem dX1_child_14 : decode cX1_child 14 = .ok (.getfield 43, 3) := dk_180 0 43 (dk_at dksX1_child_0 14 rfl rfl)
theorem dX1_child_17 : decode cX1_child 17 = .ok (.getfield 162, 3) := dk_180 0 162 (dk_at dksX1_child_0 17 rfl rfl)
theorem dX1_child_20 : decode cX1_child 20 = .ok (.iload_n 1, 1) := dk_27 (dk_at dksX1_child_0 20 rfl rfl)
theorem dX1_child_21 : decode cX1_child 21 = .ok (.aaload, 1) := dk_50 (dk_at dksX1_child_0 21 rfl rfl)
theorem dX1_child_22 : decode cX1_child 22 = .ok (.astore_n 3, 1) := dk_78 (dk_at dksX1_child_0 22 rfl rfl)
theorem dX1_child_23 : decode cX1_child 23 = .ok (.iload_n 2, 1) := dk_28 (dk_at dksX1_child_0 23 rfl rfl)
theorem dX1_child_24 : decode cX1_child 24 = .ok (.tableswitch 145 0 9 #[56, 61, 66, 76, 86, 96, 101, 130, 135, 140], 56) := by decide +kernel
theorem dX1_child_80 : decode cX1_child 80 = .ok (.aload_n 3, 1) := dk_45 (dk_at dksX1_child_2 0 rfl rfl)
theorem dX1_child_81 : decode cX1_child 81 = .ok (.invokevirtual 166, 3) := dk_182 0 166 (dk_at dksX1_child_2 1 rfl rfl)
theorem dX1_child_84 : decode cX1_child 84 = .ok (.ireturn, 1) := dk_172 (dk_at dksX1_child_2 4 rfl rfl)
theorem dX1_child_85 : decode cX1_child 85 = .ok (.aload_n 3, 1) := dk_45 (dk_at dksX1_child_2 5 rfl rfl)
theorem dX1_child_86 : decode cX1_child 86 = .ok (.getfield 170, 3) := dk_180 0 170 (dk_at dksX1_child_2 6 rfl rfl)
theorem dX1_child_89 : decode cX1_child 89 = .ok (.ireturn, 1) := dk_172 (dk_at dksX1_child_2 9 rfl rfl)
theorem dX1_child_90 : decode cX1_child 90 = .ok (.aload_n 0, 1) := dk_42 (dk_at dksX1_child_2 10 rfl rfl)
theorem dX1_child_91 : decode cX1_child 91 = .ok (.getfield 43, 3) := dk_180 0 43 (dk_at dksX1_child_2 11 rfl rfl)
theorem dX1_child_94 : decode cX1_child 94 = .ok (.getfield 77, 3) := dk_180 0 77 (dk_at dksX1_child_2 14 rfl rfl)
theorem dX1_child_97 : decode cX1_child 97 = .ok (.iload_n 1, 1) := dk_27 (dk_at dksX1_child_2 17 rfl rfl)
theorem dX1_child_98 : decode cX1_child 98 = .ok (.iaload, 1) := dk_46 (dk_at dksX1_child_2 18 rfl rfl)
theorem dX1_child_99 : decode cX1_child 99 = .ok (.ireturn, 1) := dk_172 (dk_at dksX1_child_2 19 rfl rfl)
theorem dX1_child_100 : decode cX1_child 100 = .ok (.aload_n 0, 1) := dk_42 (dk_at dksX1_child_2 20 rfl rfl)
theorem dX1_child_101 : decode cX1_child 101 = .ok (.getfield 43, 3) := dk_180 0 43 (dk_at dksX1_child_2 21 rfl rfl)
theorem dX1_child_104 : decode cX1_child 104 = .ok (.getfield 81, 3) := dk_180 0 81 (dk_at dksX1_child_3 0 rfl rfl)
theorem dX1_child_107 : decode cX1_child 107 = .ok (.iload_n 1, 1) := dk_27 (dk_at dksX1_child_3 3 rfl rfl)
theorem dX1_child_108 : decode cX1_child 108 = .ok (.iaload, 1) := dk_46 (dk_at dksX1_child_3 4 rfl rfl)
theorem dX1_child_109 : decode cX1_child 109 = .ok (.ireturn, 1) := dk_172 (dk_at dksX1_child_3 5 rfl rfl)
theorem dX1_child_110 : decode cX1_child 110 = .ok (.aload_n 0, 1) := dk_42 (dk_at dksX1_child_3 6 rfl rfl)
theorem dX1_child_111 : decode cX1_child 111 = .ok (.getfield 43, 3) := dk_180 0 43 (dk_at dksX1_child_3 7 rfl rfl)
theorem dX1_child_114 : decode cX1_child 114 = .ok (.getfield 173, 3) := dk_180 0 173 (dk_at dksX1_child_3 10 rfl rfl)
theorem dX1_child_117 : decode cX1_child 117 = .ok (.iload_n 1, 1) := dk_27 (dk_at dksX1_child_3 13 rfl rfl)
theorem dX1_child_118 : decode cX1_child 118 = .ok (.iaload, 1) := dk_46 (dk_at dksX1_child_3 14 rfl rfl)
theorem dX1_child_119 : decode cX1_child 119 = .ok (.ireturn, 1) := dk_172 (dk_at dksX1_child_3 15 rfl rfl)
theorem dX1_child_120 : decode cX1_child 120 = .ok (.aload_n 3, 1) := dk_45 (dk_at dksX1_child_3 16 rfl rfl)
theorem dX1_child_121 : decode cX1_child 121 = .ok (.invokevirtual 176, 3) := dk_182 0 176 (dk_at dksX1_child_3 17 rfl rfl)
theorem dX1_child_124 : decode cX1_child 124 = .ok (.ireturn, 1) := dk_172 (dk_at dksX1_child_3 20 rfl rfl)
theorem dX1_child_125 : decode cX1_child 125 = .ok (.aload_n 0, 1) := dk_42 (dk_at dksX1_child_3 21 rfl rfl)
theorem dX1_child_126 : decode cX1_child 126 = .ok (.getfield 43, 3) := dk_180 0 43 (dk_at dksX1_child_4 0 rfl rfl)
theorem dX1_child_129 : decode cX1_child 129 = .ok (.iload_n 1, 1) := dk_27 (dk_at dksX1_child_4 3 rfl rfl)
theorem dX1_child_130 : decode cX1_child 130 = .ok (.invokevirtual 53, 3) := dk_182 0 53 (dk_at dksX1_child_4 4 rfl rfl)
theorem dX1_child_133 : decode cX1_child 133 = .ok (.ifCond .eq 7, 3) := dk_153 0 7 (dk_at dksX1_child_4 7 rfl rfl)
theorem dX1_child_136 : decode cX1_child 136 = .ok (.iconst 0, 1) := dk_3 (dk_at dksX1_child_4 10 rfl rfl)
theorem dX1_child_137 : decode cX1_child 137 = .ok (.goto 16, 3) := dk_167 0 16 (dk_at dksX1_child_4 11 rfl rfl)
theorem dX1_child_140 : decode cX1_child 140 = .ok (.aload_n 3, 1) := dk_45 (dk_at dksX1_child_4 14 rfl rfl)
theorem dX1_child_141 : decode cX1_child 141 = .ok (.aload_n 0, 1) := dk_42 (dk_at dksX1_child_4 15 rfl rfl)
theorem dX1_child_142 : decode cX1_child 142 = .ok (.getfield 43, 3) := dk_180 0 43 (dk_at dksX1_child_4 16 rfl rfl)
theorem dX1_child_145 : decode cX1_child 145 = .ok (.getfield 81, 3) := dk_180 0 81 (dk_at dksX1_child_4 19 rfl rfl)
theorem dX1_child_148 : decode cX1_child 148 = .ok (.iload_n 1, 1) := dk_27 (dk_at dksX1_child_4 22 rfl rfl)
theorem dX1_child_149 : decode cX1_child 149 = .ok (.iaload, 1) := dk_46 (dk_at dksX1_child_4 23 rfl rfl)
theorem dX1_child_150 : decode cX1_child 150 = .ok (.invokevirtual 179, 3) := dk_182 0 179 (dk_at dksX1_child_5 0 rfl rfl)
theorem dX1_child_153 : decode cX1_child 153 = .ok (.ireturn, 1) := dk_172 (dk_at dksX1_child_5 3 rfl rfl)
theorem dX1_child_154 : decode cX1_child 154 = .ok (.aload_n 3, 1) := dk_45 (dk_at dksX1_child_5 4 rfl rfl)
theorem dX1_child_155 : decode cX1_child 155 = .ok (.invokevirtual 183, 3) := dk_182 0 183 (dk_at dksX1_child_5 5 rfl rfl)
theorem dX1_child_158 : decode cX1_child 158 = .ok (.ireturn, 1) := dk_172 (dk_at dksX1_child_5 8 rfl rfl)
theorem dX1_child_159 : decode cX1_child 159 = .ok (.aload_n 3, 1) := dk_45 (dk_at dksX1_child_5 9 rfl rfl)
theorem dX1_child_160 : decode cX1_child 160 = .ok (.invokevirtual 186, 3) := dk_182 0 186 (dk_at dksX1_child_5 10 rfl rfl)
theorem dX1_child_163 : decode cX1_child 163 = .ok (.ireturn, 1) := dk_172 (dk_at dksX1_child_5 13 rfl rfl)
theorem dX1_child_164 : decode cX1_child 164 = .ok (.aload_n 3, 1) := dk_45 (dk_at dksX1_child_5 14 rfl rfl)
theorem dX1_child_165 : decode cX1_child 165 = .ok (.invokevirtual 189, 3) := dk_182 0 189 (dk_at dksX1_child_5 15 rfl rfl)
theorem dX1_child_168 : decode cX1_child 168 = .ok (.ireturn, 1) := dk_172 (dk_at dksX1_child_5 18 rfl rfl)
theorem dX1_child_169 : decode cX1_child 169 = .ok (.iconst (-1), 1) := dk_2 (dk_at dksX1_child_5 19 rfl rfl)
theorem dX1_child_170 : decode cX1_child 170 = .ok (.ireturn, 1) := dk_172 (dk_at dksX1_child_5 20 rfl rfl)
abbrev cX1_comes_2 : ByteArray := prog_1_method_16_code
def yX1_comes_2 : MethodName := ⟨RX1, "comes", "(II)I"⟩
def dkwX1_comes_2_2 : List UInt8 := [160, 0, 8, 16, 254, 167, 0, 12, 42, 180, 0, 43, 45, 28, 182, 0, 73, 172, 78, 16, 244, 172]
abbrev dktX1_comes_2_2 : List UInt8 := dkwX1_comes_2_2 ++ []
def dkwX1_comes_2_1 : List UInt8 := [180, 0, 145, 192, 0, 12, 78, 45, 199, 0, 6, 16, 245, 172, 42, 180, 0, 43, 180, 0, 66, 16, 6]
abbrev dktX1_comes_2_1 : List UInt8 := dkwX1_comes_2_1 ++ dktX1_comes_2_2
def dkwX1_comes_2_0 : List UInt8 := [42, 27, 182, 0, 138, 153, 0, 10, 28, 184, 0, 60, 154, 0, 5, 2, 172, 42, 180, 0, 141, 27, 50]
abbrev dktX1_comes_2_0 : List UInt8 := dkwX1_comes_2_0 ++ dktX1_comes_2_1
theorem dksX1_comes_2_0 : cX1_comes_2.data.toList.drop 0 = dktX1_comes_2_0 := by decide +kernel
theorem dksX1_comes_2_1 : cX1_comes_2.data.toList.drop 23 = dktX1_comes_2_1 := dk_seg dksX1_comes_2_0 23 rfl rfl
theorem dksX1_comes_2_2 : cX1_comes_2.data.toList.drop 46 = dktX1_comes_2_2 := dk_seg dksX1_comes_2_1 23 rfl rfl
theorem dX1_comes_2_0 : decode cX1_comes_2 0 = .ok (.aload_n 0, 1) := dk_42 (dk_at dksX1_comes_2_0 0 rfl rfl)
theorem dX1_comes_2_1 : decode cX1_comes_2 1 = .ok (.iload_n 1, 1) := dk_27 (dk_at dksX1_comes_2_0 1 rfl rfl)
theorem dX1_comes_2_2 : decode cX1_comes_2 2 = .ok (.invokevirtual 138, 3) := dk_182 0 138 (dk_at dksX1_comes_2_0 2 rfl rfl)
theorem dX1_comes_2_5 : decode cX1_comes_2 5 = .ok (.ifCond .eq 10, 3) := dk_153 0 10 (dk_at dksX1_comes_2_0 5 rfl rfl)
theorem dX1_comes_2_8 : decode cX1_comes_2 8 = .ok (.iload_n 2, 1) := dk_28 (dk_at dksX1_comes_2_0 8 rfl rfl)
theorem dX1_comes_2_9 : decode cX1_comes_2 9 = .ok (.invokestatic 60, 3) := dk_184 0 60 (dk_at dksX1_comes_2_0 9 rfl rfl)
theorem dX1_comes_2_12 : decode cX1_comes_2 12 = .ok (.ifCond .ne 5, 3) := dk_154 0 5 (dk_at dksX1_comes_2_0 12 rfl rfl)
theorem dX1_comes_2_15 : decode cX1_comes_2 15 = .ok (.iconst (-1), 1) := dk_2 (dk_at dksX1_comes_2_0 15 rfl rfl)
theorem dX1_comes_2_16 : decode cX1_comes_2 16 = .ok (.ireturn, 1) := dk_172 (dk_at dksX1_comes_2_0 16 rfl rfl)
theorem dX1_comes_2_17 : decode cX1_comes_2 17 = .ok (.aload_n 0, 1) := dk_42 (dk_at dksX1_comes_2_0 17 rfl rfl)
theorem dX1_comes_2_18 : decode cX1_comes_2 18 = .ok (.getfield 141, 3) := dk_180 0 141 (dk_at dksX1_comes_2_0 18 rfl rfl)
theorem dX1_comes_2_21 : decode cX1_comes_2 21 = .ok (.iload_n 1, 1) := dk_27 (dk_at dksX1_comes_2_0 21 rfl rfl)
theorem dX1_comes_2_22 : decode cX1_comes_2 22 = .ok (.aaload, 1) := dk_50 (dk_at dksX1_comes_2_0 22 rfl rfl)
theorem dX1_comes_2_23 : decode cX1_comes_2 23 = .ok (.getfield 145, 3) := dk_180 0 145 (dk_at dksX1_comes_2_1 0 rfl rfl)
theorem dX1_comes_2_26 : decode cX1_comes_2 26 = .ok (.checkcast 12, 3) := dk_192 0 12 (dk_at dksX1_comes_2_1 3 rfl rfl)
theorem dX1_comes_2_29 : decode cX1_comes_2 29 = .ok (.astore_n 3, 1) := dk_78 (dk_at dksX1_comes_2_1 6 rfl rfl)
theorem dX1_comes_2_30 : decode cX1_comes_2 30 = .ok (.aload_n 3, 1) := dk_45 (dk_at dksX1_comes_2_1 7 rfl rfl)
theorem dX1_comes_2_31 : decode cX1_comes_2 31 = .ok (.ifnonnull 6, 3) := dk_199 0 6 (dk_at dksX1_comes_2_1 8 rfl rfl)
theorem dX1_comes_2_34 : decode cX1_comes_2 34 = .ok (.bipush (-11), 2) := dk_16 245 (dk_at dksX1_comes_2_1 11 rfl rfl)
theorem dX1_comes_2_36 : decode cX1_comes_2 36 = .ok (.ireturn, 1) := dk_172 (dk_at dksX1_comes_2_1 13 rfl rfl)
theorem dX1_comes_2_37 : decode cX1_comes_2 37 = .ok (.aload_n 0, 1) := dk_42 (dk_at dksX1_comes_2_1 14 rfl rfl)
theorem dX1_comes_2_38 : decode cX1_comes_2 38 = .ok (.getfield 43, 3) := dk_180 0 43 (dk_at dksX1_comes_2_1 15 rfl rfl)
theorem dX1_comes_2_41 : decode cX1_comes_2 41 = .ok (.getfield 66, 3) := dk_180 0 66 (dk_at dksX1_comes_2_1 18 rfl rfl)
theorem dX1_comes_2_44 : decode cX1_comes_2 44 = .ok (.bipush 6, 2) := dk_16 6 (dk_at dksX1_comes_2_1 21 rfl rfl)
theorem dX1_comes_2_46 : decode cX1_comes_2 46 = .ok (.if_icmp .ne 8, 3) := dk_160 0 8 (dk_at dksX1_comes_2_2 0 rfl rfl)
theorem dX1_comes_2_49 : decode cX1_comes_2 49 = .ok (.bipush (-2), 2) := dk_16 254 (dk_at dksX1_comes_2_2 3 rfl rfl)
theorem dX1_comes_2_51 : decode cX1_comes_2 51 = .ok (.goto 12, 3) := dk_167 0 12 (dk_at dksX1_comes_2_2 5 rfl rfl)
theorem dX1_comes_2_54 : decode cX1_comes_2 54 = .ok (.aload_n 0, 1) := dk_42 (dk_at dksX1_comes_2_2 8 rfl rfl)
theorem dX1_comes_2_55 : decode cX1_comes_2 55 = .ok (.getfield 43, 3) := dk_180 0 43 (dk_at dksX1_comes_2_2 9 rfl rfl)
theorem dX1_comes_2_58 : decode cX1_comes_2 58 = .ok (.aload_n 3, 1) := dk_45 (dk_at dksX1_comes_2_2 12 rfl rfl)
theorem dX1_comes_2_59 : decode cX1_comes_2 59 = .ok (.iload_n 2, 1) := dk_28 (dk_at dksX1_comes_2_2 13 rfl rfl)
theorem dX1_comes_2_60 : decode cX1_comes_2 60 = .ok (.invokevirtual 73, 3) := dk_182 0 73 (dk_at dksX1_comes_2_2 14 rfl rfl)
theorem dX1_comes_2_63 : decode cX1_comes_2 63 = .ok (.ireturn, 1) := dk_172 (dk_at dksX1_comes_2_2 17 rfl rfl)
theorem dX1_comes_2_64 : decode cX1_comes_2 64 = .ok (.astore_n 3, 1) := dk_78 (dk_at dksX1_comes_2_2 18 rfl rfl)
theorem dX1_comes_2_65 : decode cX1_comes_2 65 = .ok (.bipush (-12), 2) := dk_16 244 (dk_at dksX1_comes_2_2 19 rfl rfl)
theorem dX1_comes_2_67 : decode cX1_comes_2 67 = .ok (.ireturn, 1) := dk_172 (dk_at dksX1_comes_2_2 21 rfl rfl)
abbrev cX1_feels : ByteArray := prog_1_method_17_code
def yX1_feels : MethodName := ⟨RX1, "feels", "(III)I"⟩
def dkwX1_feels_3 : List UInt8 := [25, 4, 27, 29, 79, 21, 5, 172]
abbrev dktX1_feels_3 : List UInt8 := dkwX1_feels_3 ++ []
def dkwX1_feels_2 : List UInt8 := [180, 0, 43, 180, 0, 77, 167, 0, 10, 42, 180, 0, 43, 180, 0, 81, 58, 4, 25, 4, 27, 46, 54, 5]
abbrev dktX1_feels_2 : List UInt8 := dkwX1_feels_2 ++ dktX1_feels_3
def dkwX1_feels_1 : List UInt8 := [154, 0, 8, 16, 20, 167, 0, 5, 16, 7, 184, 0, 39, 154, 0, 5, 2, 172, 28, 154, 0, 13, 42]
abbrev dktX1_feels_1 : List UInt8 := dkwX1_feels_1 ++ dktX1_feels_2
def dkwX1_feels_0 : List UInt8 := [42, 180, 0, 43, 27, 182, 0, 47, 153, 0, 31, 28, 3, 4, 184, 0, 39, 153, 0, 22, 29, 3, 28]
abbrev dktX1_feels_0 : List UInt8 := dkwX1_feels_0 ++ dktX1_feels_1
theorem dksX1_feels_0 : cX1_feels.data.toList.drop 0 = dktX1_feels_0 := by decide +kernel
theorem dksX1_feels_1 : cX1_feels.data.toList.drop 23 = dktX1_feels_1 := dk_seg dksX1_feels_0 23 rfl rfl
theorem dksX1_feels_2 : cX1_feels.data.toList.drop 46 = dktX1_feels_2 := dk_seg dksX1_feels_1 23 rfl rfl
theorem dksX1_feels_3 : cX1_feels.data.toList.drop 70 = dktX1_feels_3 := dk_seg dksX1_feels_2 24 rfl rfl
theorem dX1_feels_0 : decode cX1_feels 0 = .ok (.aload_n 0, 1) := dk_42 (dk_at dksX1_feels_0 0 rfl rfl)
theorem dX1_feels_1 : decode cX1_feels 1 = .ok (.getfield 43, 3) := dk_180 0 43 (dk_at dksX1_feels_0 1 rfl rfl)
theorem dX1_feels_4 : decode cX1_feels 4 = .ok (.iload_n 1, 1) := dk_27 (dk_at dksX1_feels_0 4 rfl rfl)
theorem dX1_feels_5 : decode cX1_feels 5 = .ok (.invokevirtual 47, 3) := dk_182 0 47 (dk_at dksX1_feels_0 5 rfl rfl)
theorem dX1_feels_8 : decode cX1_feels 8 = .ok (.ifCond .eq 31, 3) := dk_153 0 31 (dk_at dksX1_feels_0 8 rfl rfl)
theorem dX1_feels_11 : decode cX1_feels 11 = .ok (.iload_n 2, 1) := dk_28 (dk_at dksX1_feels_0 11 rfl rfl)
theorem dX1_feels_12 : decode cX1_feels 12 = .ok (.iconst 0, 1) := dk_3 (dk_at dksX1_feels_0 12 rfl rfl)
theorem dX1_feels_13 : decode cX1_feels 13 = .ok (.iconst 1, 1) := dk_4 (dk_at dksX1_feels_0 13 rfl rfl)
theorem dX1_feels_14 : decode cX1_feels 14 = .ok (.invokestatic 39, 3) := dk_184 0 39 (dk_at dksX1_feels_0 14 rfl rfl)
theorem dX1_feels_17 : decode cX1_feels 17 = .ok (.ifCond .eq 22, 3) := dk_153 0 22 (dk_at dksX1_feels_0 17 rfl rfl)
theorem dX1_feels_20 : decode cX1_feels 20 = .ok (.iload_n 3, 1) := dk_29 (dk_at dksX1_feels_0 20 rfl rfl)
theorem dX1_feels_21 : decode cX1_feels 21 = .ok (.iconst 0, 1) := dk_3 (dk_at dksX1_feels_0 21 rfl rfl)
theorem dX1_feels_22 : decode cX1_feels 22 = .ok (.iload_n 2, 1) := dk_28 (dk_at dksX1_feels_0 22 rfl rfl)
theorem dX1_feels_23 : decode cX1_feels 23 = .ok (.ifCond .ne 8, 3) := dk_154 0 8 (dk_at dksX1_feels_1 0 rfl rfl)
theorem dX1_feels_26 : decode cX1_feels 26 = .ok (.bipush 20, 2) := dk_16 20 (dk_at dksX1_feels_1 3 rfl rfl)
theorem dX1_feels_28 : decode cX1_feels 28 = .ok (.goto 5, 3) := dk_167 0 5 (dk_at dksX1_feels_1 5 rfl rfl)
theorem dX1_feels_31 : decode cX1_feels 31 = .ok (.bipush 7, 2) := dk_16 7 (dk_at dksX1_feels_1 8 rfl rfl)
theorem dX1_feels_33 : decode cX1_feels 33 = .ok (.invokestatic 39, 3) := dk_184 0 39 (dk_at dksX1_feels_1 10 rfl rfl)
theorem dX1_feels_36 : decode cX1_feels 36 = .ok (.ifCond .ne 5, 3) := dk_154 0 5 (dk_at dksX1_feels_1 13 rfl rfl)
theorem dX1_feels_39 : decode cX1_feels 39 = .ok (.iconst (-1), 1) := dk_2 (dk_at dksX1_feels_1 16 rfl rfl)
theorem dX1_feels_40 : decode cX1_feels 40 = .ok (.ireturn, 1) := dk_172 (dk_at dksX1_feels_1 17 rfl rfl)
theorem dX1_feels_41 : decode cX1_feels 41 = .ok (.iload_n 2, 1) := dk_28 (dk_at dksX1_feels_1 18 rfl rfl)
theorem dX1_feels_42 : decode cX1_feels 42 = .ok (.ifCond .ne 13, 3) := dk_154 0 13 (dk_at dksX1_feels_1 19 rfl rfl)
theorem dX1_feels_45 : decode cX1_feels 45 = .ok (.aload_n 0, 1) := dk_42 (dk_at dksX1_feels_1 22 rfl rfl)
theorem dX1_feels_46 : decode cX1_feels 46 = .ok (.getfield 43, 3) := dk_180 0 43 (dk_at dksX1_feels_2 0 rfl rfl)
theorem dX1_feels_49 : decode cX1_feels 49 = .ok (.getfield 77, 3) := dk_180 0 77 (dk_at dksX1_feels_2 3 rfl rfl)
theorem dX1_feels_52 : decode cX1_feels 52 = .ok (.goto 10, 3) := dk_167 0 10 (dk_at dksX1_feels_2 6 rfl rfl)
theorem dX1_feels_55 : decode cX1_feels 55 = .ok (.aload_n 0, 1) := dk_42 (dk_at dksX1_feels_2 9 rfl rfl)
theorem dX1_feels_56 : decode cX1_feels 56 = .ok (.getfield 43, 3) := dk_180 0 43 (dk_at dksX1_feels_2 10 rfl rfl)
theorem dX1_feels_59 : decode cX1_feels 59 = .ok (.getfield 81, 3) := dk_180 0 81 (dk_at dksX1_feels_2 13 rfl rfl)
theorem dX1_feels_62 : decode cX1_feels 62 = .ok (.astore 4, 2) := dk_58 4 (dk_at dksX1_feels_2 16 rfl rfl)
theorem dX1_feels_64 : decode cX1_feels 64 = .ok (.aload 4, 2) := dk_25 4 (dk_at dksX1_feels_2 18 rfl rfl)
theorem dX1_feels_66 : decode cX1_feels 66 = .ok (.iload_n 1, 1) := dk_27 (dk_at dksX1_feels_2 20 rfl rfl)
theorem dX1_feels_67 : decode cX1_feels 67 = .ok (.iaload, 1) := dk_46 (dk_at dksX1_feels_2 21 rfl rfl)
theorem dX1_feels_68 : decode cX1_feels 68 = .ok (.istore 5, 2) := dk_54 5 (dk_at dksX1_feels_2 22 rfl rfl)
theorem dX1_feels_70 : decode cX1_feels 70 = .ok (.aload 4, 2) := dk_25 4 (dk_at dksX1_feels_3 0 rfl rfl)
theorem dX1_feels_72 : decode cX1_feels 72 = .ok (.iload_n 1, 1) := dk_27 (dk_at dksX1_feels_3 2 rfl rfl)
theorem dX1_feels_73 : decode cX1_feels 73 = .ok (.iload_n 3, 1) := dk_29 (dk_at dksX1_feels_3 3 rfl rfl)
theorem dX1_feels_74 : decode cX1_feels 74 = .ok (.iastore, 1) := dk_79 (dk_at dksX1_feels_3 4 rfl rfl)
theorem dX1_feels_75 : decode cX1_feels 75 = .ok (.iload 5, 2) := dk_21 5 (dk_at dksX1_feels_3 5 rfl rfl)
theorem dX1_feels_77 : decode cX1_feels 77 = .ok (.ireturn, 1) := dk_172 (dk_at dksX1_feels_3 7 rfl rfl)
abbrev cX1_minute : ByteArray := prog_1_method_18_code
def yX1_minute : MethodName := ⟨RX1, "minute", "(II)I"⟩
def dkwX1_minute_2 : List UInt8 := [16, 253, 172]
abbrev dktX1_minute_2 : List UInt8 := dkwX1_minute_2 ++ []
def dkwX1_minute_1 : List UInt8 := [180, 0, 43, 27, 28, 184, 0, 96, 153, 0, 15, 42, 180, 0, 43, 27, 28, 182, 0, 100, 167, 0, 5]
abbrev dktX1_minute_1 : List UInt8 := dkwX1_minute_1 ++ dktX1_minute_2
def dkwX1_minute_0 : List UInt8 := [42, 180, 0, 43, 27, 182, 0, 47, 153, 0, 12, 28, 3, 6, 184, 0, 39, 154, 0, 5, 2, 172, 42]
abbrev dktX1_minute_0 : List UInt8 := dkwX1_minute_0 ++ dktX1_minute_1
theorem dksX1_minute_0 : cX1_minute.data.toList.drop 0 = dktX1_minute_0 := by decide +kernel
theorem dksX1_minute_1 : cX1_minute.data.toList.drop 23 = dktX1_minute_1 := dk_seg dksX1_minute_0 23 rfl rfl
theorem dksX1_minute_2 : cX1_minute.data.toList.drop 46 = dktX1_minute_2 := dk_seg dksX1_minute_1 23 rfl rfl
theorem dX1_minute_0 : decode cX1_minute 0 = .ok (.aload_n 0, 1) := dk_42 (dk_at dksX1_minute_0 0 rfl rfl)
theorem dX1_minute_1 : decode cX1_minute 1 = .ok (.getfield 43, 3) := dk_180 0 43 (dk_at dksX1_minute_0 1 rfl rfl)
theorem dX1_minute_4 : decode cX1_minute 4 = .ok (.iload_n 1, 1) := dk_27 (dk_at dksX1_minute_0 4 rfl rfl)
theorem dX1_minute_5 : decode cX1_minute 5 = .ok (.invokevirtual 47, 3) := dk_182 0 47 (dk_at dksX1_minute_0 5 rfl rfl)
theorem dX1_minute_8 : decode cX1_minute 8 = .ok (.ifCond .eq 12, 3) := dk_153 0 12 (dk_at dksX1_minute_0 8 rfl rfl)
theorem dX1_minute_11 : decode cX1_minute 11 = .ok (.iload_n 2, 1) := dk_28 (dk_at dksX1_minute_0 11 rfl rfl)
theorem dX1_minute_12 : decode cX1_minute 12 = .ok (.iconst 0, 1) := dk_3 (dk_at dksX1_minute_0 12 rfl rfl)
theorem dX1_minute_13 : decode cX1_minute 13 = .ok (.iconst 3, 1) := dk_6 (dk_at dksX1_minute_0 13 rfl rfl)
theorem dX1_minute_14 : decode cX1_minute 14 = .ok (.invokestatic 39, 3) := dk_184 0 39 (dk_at dksX1_minute_0 14 rfl rfl)
theorem dX1_minute_17 : decode cX1_minute 17 = .ok (.ifCond .ne 5, 3) := dk_154 0 5 (dk_at dksX1_minute_0 17 rfl rfl)
theorem dX1_minute_20 : decode cX1_minute 20 = .ok (.iconst (-1), 1) := dk_2 (dk_at dksX1_minute_0 20 rfl rfl)
theorem dX1_minute_21 : decode cX1_minute 21 = .ok (.ireturn, 1) := dk_172 (dk_at dksX1_minute_0 21 rfl rfl)
theorem dX1_minute_22 : decode cX1_minute 22 = .ok (.aload_n 0, 1) := dk_42 (dk_at dksX1_minute_0 22 rfl rfl)
theorem dX1_minute_23 : decode cX1_minute 23 = .ok (.getfield 43, 3) := dk_180 0 43 (dk_at dksX1_minute_1 0 rfl rfl)
theorem dX1_minute_26 : decode cX1_minute 26 = .ok (.iload_n 1, 1) := dk_27 (dk_at dksX1_minute_1 3 rfl rfl)
theorem dX1_minute_27 : decode cX1_minute 27 = .ok (.iload_n 2, 1) := dk_28 (dk_at dksX1_minute_1 4 rfl rfl)
theorem dX1_minute_28 : decode cX1_minute 28 = .ok (.invokestatic 96, 3) := dk_184 0 96 (dk_at dksX1_minute_1 5 rfl rfl)
theorem dX1_minute_31 : decode cX1_minute 31 = .ok (.ifCond .eq 15, 3) := dk_153 0 15 (dk_at dksX1_minute_1 8 rfl rfl)
theorem dX1_minute_34 : decode cX1_minute 34 = .ok (.aload_n 0, 1) := dk_42 (dk_at dksX1_minute_1 11 rfl rfl)
theorem dX1_minute_35 : decode cX1_minute 35 = .ok (.getfield 43, 3) := dk_180 0 43 (dk_at dksX1_minute_1 12 rfl rfl)
theorem dX1_minute_38 : decode cX1_minute 38 = .ok (.iload_n 1, 1) := dk_27 (dk_at dksX1_minute_1 15 rfl rfl)
theorem dX1_minute_39 : decode cX1_minute 39 = .ok (.iload_n 2, 1) := dk_28 (dk_at dksX1_minute_1 16 rfl rfl)
theorem dX1_minute_40 : decode cX1_minute 40 = .ok (.invokevirtual 100, 3) := dk_182 0 100 (dk_at dksX1_minute_1 17 rfl rfl)
theorem dX1_minute_43 : decode cX1_minute 43 = .ok (.goto 5, 3) := dk_167 0 5 (dk_at dksX1_minute_1 20 rfl rfl)
theorem dX1_minute_46 : decode cX1_minute 46 = .ok (.bipush (-3), 2) := dk_16 253 (dk_at dksX1_minute_2 0 rfl rfl)
theorem dX1_minute_48 : decode cX1_minute 48 = .ok (.ireturn, 1) := dk_172 (dk_at dksX1_minute_2 2 rfl rfl)
abbrev cX1_change : ByteArray := prog_1_method_19_code
def yX1_change : MethodName := ⟨RX1, "change", "(II)I"⟩
def dkwX1_change_0 : List UInt8 := [42, 27, 28, 182, 0, 192, 154, 0, 5, 2, 172, 42, 180, 0, 43, 27, 28, 182, 0, 105, 4, 172]
abbrev dktX1_change_0 : List UInt8 := dkwX1_change_0 ++ []
theorem dksX1_change_0 : cX1_change.data.toList.drop 0 = dktX1_change_0 := by decide +kernel
theorem dX1_change_0 : decode cX1_change 0 = .ok (.aload_n 0, 1) := dk_42 (dk_at dksX1_change_0 0 rfl rfl)
theorem dX1_change_1 : decode cX1_change 1 = .ok (.iload_n 1, 1) := dk_27 (dk_at dksX1_change_0 1 rfl rfl)
theorem dX1_change_2 : decode cX1_change 2 = .ok (.iload_n 2, 1) := dk_28 (dk_at dksX1_change_0 2 rfl rfl)
theorem dX1_change_3 : decode cX1_change 3 = .ok (.invokevirtual 192, 3) := dk_182 0 192 (dk_at dksX1_change_0 3 rfl rfl)
theorem dX1_change_6 : decode cX1_change 6 = .ok (.ifCond .ne 5, 3) := dk_154 0 5 (dk_at dksX1_change_0 6 rfl rfl)
theorem dX1_change_9 : decode cX1_change 9 = .ok (.iconst (-1), 1) := dk_2 (dk_at dksX1_change_0 9 rfl rfl)
theorem dX1_change_10 : decode cX1_change 10 = .ok (.ireturn, 1) := dk_172 (dk_at dksX1_change_0 10 rfl rfl)
theorem dX1_change_11 : decode cX1_change 11 = .ok (.aload_n 0, 1) := dk_42 (dk_at dksX1_change_0 11 rfl rfl)
theorem dX1_change_12 : decode cX1_change 12 = .ok (.getfield 43, 3) := dk_180 0 43 (dk_at dksX1_change_0 12 rfl rfl)
theorem dX1_change_15 : decode cX1_change 15 = .ok (.iload_n 1, 1) := dk_27 (dk_at dksX1_change_0 15 rfl rfl)
theorem dX1_change_16 : decode cX1_change 16 = .ok (.iload_n 2, 1) := dk_28 (dk_at dksX1_change_0 16 rfl rfl)
theorem dX1_change_17 : decode cX1_change 17 = .ok (.invokevirtual 105, 3) := dk_182 0 105 (dk_at dksX1_change_0 17 rfl rfl)
theorem dX1_change_20 : decode cX1_change 20 = .ok (.iconst 1, 1) := dk_4 (dk_at dksX1_change_0 20 rfl rfl)
theorem dX1_change_21 : decode cX1_change 21 = .ok (.ireturn, 1) := dk_172 (dk_at dksX1_change_0 21 rfl rfl)
abbrev cX1_areTwo : ByteArray := prog_1_method_8_code
def yX1_areTwo : MethodName := ⟨RX1, "areTwo", "(II)Z"⟩
def dkwX1_areTwo_1 : List UInt8 := [159, 0, 7, 4, 167, 0, 4, 3, 172]
abbrev dktX1_areTwo_1 : List UInt8 := dkwX1_areTwo_1 ++ []
def dkwX1_areTwo_0 : List UInt8 := [42, 180, 0, 43, 27, 182, 0, 47, 153, 0, 23, 42, 180, 0, 43, 28, 182, 0, 47, 153, 0, 12, 27, 28]
abbrev dktX1_areTwo_0 : List UInt8 := dkwX1_areTwo_0 ++ dktX1_areTwo_1
theorem dksX1_areTwo_0 : cX1_areTwo.data.toList.drop 0 = dktX1_areTwo_0 := by decide +kernel
theorem dksX1_areTwo_1 : cX1_areTwo.data.toList.drop 24 = dktX1_areTwo_1 := dk_seg dksX1_areTwo_0 24 rfl rfl
theorem dX1_areTwo_0 : decode cX1_areTwo 0 = .ok (.aload_n 0, 1) := dk_42 (dk_at dksX1_areTwo_0 0 rfl rfl)
theorem dX1_areTwo_1 : decode cX1_areTwo 1 = .ok (.getfield 43, 3) := dk_180 0 43 (dk_at dksX1_areTwo_0 1 rfl rfl)
theorem dX1_areTwo_4 : decode cX1_areTwo 4 = .ok (.iload_n 1, 1) := dk_27 (dk_at dksX1_areTwo_0 4 rfl rfl)
theorem dX1_areTwo_5 : decode cX1_areTwo 5 = .ok (.invokevirtual 47, 3) := dk_182 0 47 (dk_at dksX1_areTwo_0 5 rfl rfl)
theorem dX1_areTwo_8 : decode cX1_areTwo 8 = .ok (.ifCond .eq 23, 3) := dk_153 0 23 (dk_at dksX1_areTwo_0 8 rfl rfl)
theorem dX1_areTwo_11 : decode cX1_areTwo 11 = .ok (.aload_n 0, 1) := dk_42 (dk_at dksX1_areTwo_0 11 rfl rfl)
theorem dX1_areTwo_12 : decode cX1_areTwo 12 = .ok (.getfield 43, 3) := dk_180 0 43 (dk_at dksX1_areTwo_0 12 rfl rfl)
theorem dX1_areTwo_15 : decode cX1_areTwo 15 = .ok (.iload_n 2, 1) := dk_28 (dk_at dksX1_areTwo_0 15 rfl rfl)
theorem dX1_areTwo_16 : decode cX1_areTwo 16 = .ok (.invokevirtual 47, 3) := dk_182 0 47 (dk_at dksX1_areTwo_0 16 rfl rfl)
theorem dX1_areTwo_19 : decode cX1_areTwo 19 = .ok (.ifCond .eq 12, 3) := dk_153 0 12 (dk_at dksX1_areTwo_0 19 rfl rfl)
theorem dX1_areTwo_22 : decode cX1_areTwo 22 = .ok (.iload_n 1, 1) := dk_27 (dk_at dksX1_areTwo_0 22 rfl rfl)
theorem dX1_areTwo_23 : decode cX1_areTwo 23 = .ok (.iload_n 2, 1) := dk_28 (dk_at dksX1_areTwo_0 23 rfl rfl)
theorem dX1_areTwo_24 : decode cX1_areTwo 24 = .ok (.if_icmp .eq 7, 3) := dk_159 0 7 (dk_at dksX1_areTwo_1 0 rfl rfl)
theorem dX1_areTwo_27 : decode cX1_areTwo 27 = .ok (.iconst 1, 1) := dk_4 (dk_at dksX1_areTwo_1 3 rfl rfl)
theorem dX1_areTwo_28 : decode cX1_areTwo 28 = .ok (.goto 4, 3) := dk_167 0 4 (dk_at dksX1_areTwo_1 4 rfl rfl)
theorem dX1_areTwo_31 : decode cX1_areTwo 31 = .ok (.iconst 0, 1) := dk_3 (dk_at dksX1_areTwo_1 7 rfl rfl)
theorem dX1_areTwo_32 : decode cX1_areTwo 32 = .ok (.ireturn, 1) := dk_172 (dk_at dksX1_areTwo_1 8 rfl rfl)
abbrev cX1_rest : ByteArray := prog_1_method_20_code
def yX1_rest : MethodName := ⟨RX1, "rest", "(I)I"⟩
def dkwX1_rest_1 : List UInt8 := [172]
abbrev dktX1_rest_1 : List UInt8 := dkwX1_rest_1 ++ []
def dkwX1_rest_0 : List UInt8 := [27, 184, 0, 196, 154, 0, 5, 2, 172, 42, 180, 0, 43, 27, 182, 0, 102, 42, 180, 0, 43, 182, 0, 199]
abbrev dktX1_rest_0 : List UInt8 := dkwX1_rest_0 ++ dktX1_rest_1
theorem dksX1_rest_0 : cX1_rest.data.toList.drop 0 = dktX1_rest_0 := by decide +kernel
theorem dksX1_rest_1 : cX1_rest.data.toList.drop 24 = dktX1_rest_1 := dk_seg dksX1_rest_0 24 rfl rfl
theorem dX1_rest_0 : decode cX1_rest 0 = .ok (.iload_n 1, 1) := dk_27 (dk_at dksX1_rest_0 0 rfl rfl)
theorem dX1_rest_1 : decode cX1_rest 1 = .ok (.invokestatic 196, 3) := dk_184 0 196 (dk_at dksX1_rest_0 1 rfl rfl)
theorem dX1_rest_4 : decode cX1_rest 4 = .ok (.ifCond .ne 5, 3) := dk_154 0 5 (dk_at dksX1_rest_0 4 rfl rfl)
theorem dX1_rest_7 : decode cX1_rest 7 = .ok (.iconst (-1), 1) := dk_2 (dk_at dksX1_rest_0 7 rfl rfl)
theorem dX1_rest_8 : decode cX1_rest 8 = .ok (.ireturn, 1) := dk_172 (dk_at dksX1_rest_0 8 rfl rfl)
theorem dX1_rest_9 : decode cX1_rest 9 = .ok (.aload_n 0, 1) := dk_42 (dk_at dksX1_rest_0 9 rfl rfl)
theorem dX1_rest_10 : decode cX1_rest 10 = .ok (.getfield 43, 3) := dk_180 0 43 (dk_at dksX1_rest_0 10 rfl rfl)
theorem dX1_rest_13 : decode cX1_rest 13 = .ok (.iload_n 1, 1) := dk_27 (dk_at dksX1_rest_0 13 rfl rfl)
theorem dX1_rest_14 : decode cX1_rest 14 = .ok (.invokevirtual 102, 3) := dk_182 0 102 (dk_at dksX1_rest_0 14 rfl rfl)
theorem dX1_rest_17 : decode cX1_rest 17 = .ok (.aload_n 0, 1) := dk_42 (dk_at dksX1_rest_0 17 rfl rfl)
theorem dX1_rest_18 : decode cX1_rest 18 = .ok (.getfield 43, 3) := dk_180 0 43 (dk_at dksX1_rest_0 18 rfl rfl)
theorem dX1_rest_21 : decode cX1_rest 21 = .ok (.invokevirtual 199, 3) := dk_182 0 199 (dk_at dksX1_rest_0 21 rfl rfl)
theorem dX1_rest_24 : decode cX1_rest 24 = .ok (.ireturn, 1) := dk_172 (dk_at dksX1_rest_1 0 rfl rfl)
abbrev cX1_isNine : ByteArray := prog_1_method_6_code
def yX1_isNine : MethodName := ⟨RX1, "isNine", "(I)Z"⟩
def dkwX1_isNine_0 : List UInt8 := [26, 3, 16, 9, 184, 0, 39, 172]
abbrev dktX1_isNine_0 : List UInt8 := dkwX1_isNine_0 ++ []
theorem dksX1_isNine_0 : cX1_isNine.data.toList.drop 0 = dktX1_isNine_0 := by decide +kernel
theorem dX1_isNine_0 : decode cX1_isNine 0 = .ok (.iload_n 0, 1) := dk_26 (dk_at dksX1_isNine_0 0 rfl rfl)
theorem dX1_isNine_1 : decode cX1_isNine 1 = .ok (.iconst 0, 1) := dk_3 (dk_at dksX1_isNine_0 1 rfl rfl)
theorem dX1_isNine_2 : decode cX1_isNine 2 = .ok (.bipush 9, 2) := dk_16 9 (dk_at dksX1_isNine_0 2 rfl rfl)
theorem dX1_isNine_4 : decode cX1_isNine 4 = .ok (.invokestatic 39, 3) := dk_184 0 39 (dk_at dksX1_isNine_0 4 rfl rfl)
theorem dX1_isNine_7 : decode cX1_isNine 7 = .ok (.ireturn, 1) := dk_172 (dk_at dksX1_isNine_0 7 rfl rfl)
abbrev cX1_ready : ByteArray := prog_1_method_22_code
def yX1_ready : MethodName := ⟨RX1, "ready", "()I"⟩
def dkwX1_ready_0 : List UInt8 := [42, 180, 0, 43, 184, 0, 205, 172]
abbrev dktX1_ready_0 : List UInt8 := dkwX1_ready_0 ++ []
theorem dksX1_ready_0 : cX1_ready.data.toList.drop 0 = dktX1_ready_0 := by decide +kernel
theorem dX1_ready_0 : decode cX1_ready 0 = .ok (.aload_n 0, 1) := dk_42 (dk_at dksX1_ready_0 0 rfl rfl)
theorem dX1_ready_1 : decode cX1_ready 1 = .ok (.getfield 43, 3) := dk_180 0 43 (dk_at dksX1_ready_0 1 rfl rfl)
theorem dX1_ready_4 : decode cX1_ready 4 = .ok (.invokestatic 205, 3) := dk_184 0 205 (dk_at dksX1_ready_0 4 rfl rfl)
theorem dX1_ready_7 : decode cX1_ready 7 = .ok (.ireturn, 1) := dk_172 (dk_at dksX1_ready_0 7 rfl rfl)
abbrev cX1_readyOf : ByteArray := prog_1_method_21_code
def yX1_readyOf : MethodName := ⟨RX1, "readyOf", "(LHandUnderTheChin$Bath;)I"⟩
def dkwX1_readyOf_1 : List UInt8 := [167, 0, 4, 3, 128, 60, 132, 2, 1, 167, 255, 227, 27, 172]
abbrev dktX1_readyOf_1 : List UInt8 := dkwX1_readyOf_1 ++ []
def dkwX1_readyOf_0 : List UInt8 := [3, 60, 3, 61, 28, 42, 180, 0, 66, 162, 0, 27, 27, 42, 28, 182, 0, 202, 153, 0, 9, 4, 28, 120]
abbrev dktX1_readyOf_0 : List UInt8 := dkwX1_readyOf_0 ++ dktX1_readyOf_1
theorem dksX1_readyOf_0 : cX1_readyOf.data.toList.drop 0 = dktX1_readyOf_0 := by decide +kernel
theorem dksX1_readyOf_1 : cX1_readyOf.data.toList.drop 24 = dktX1_readyOf_1 := dk_seg dksX1_readyOf_0 24 rfl rfl
theorem dX1_readyOf_0 : decode cX1_readyOf 0 = .ok (.iconst 0, 1) := dk_3 (dk_at dksX1_readyOf_0 0 rfl rfl)
theorem dX1_readyOf_1 : decode cX1_readyOf 1 = .ok (.istore_n 1, 1) := dk_60 (dk_at dksX1_readyOf_0 1 rfl rfl)
theorem dX1_readyOf_2 : decode cX1_readyOf 2 = .ok (.iconst 0, 1) := dk_3 (dk_at dksX1_readyOf_0 2 rfl rfl)
theorem dX1_readyOf_3 : decode cX1_readyOf 3 = .ok (.istore_n 2, 1) := dk_61 (dk_at dksX1_readyOf_0 3 rfl rfl)
theorem dX1_readyOf_4 : decode cX1_readyOf 4 = .ok (.iload_n 2, 1) := dk_28 (dk_at dksX1_readyOf_0 4 rfl rfl)
theorem dX1_readyOf_5 : decode cX1_readyOf 5 = .ok (.aload_n 0, 1) := dk_42 (dk_at dksX1_readyOf_0 5 rfl rfl)
theorem dX1_readyOf_6 : decode cX1_readyOf 6 = .ok (.getfield 66, 3) := dk_180 0 66 (dk_at dksX1_readyOf_0 6 rfl rfl)
theorem dX1_readyOf_9 : decode cX1_readyOf 9 = .ok (.if_icmp .ge 27, 3) := dk_162 0 27 (dk_at dksX1_readyOf_0 9 rfl rfl)
theorem dX1_readyOf_12 : decode cX1_readyOf 12 = .ok (.iload_n 1, 1) := dk_27 (dk_at dksX1_readyOf_0 12 rfl rfl)
theorem dX1_readyOf_13 : decode cX1_readyOf 13 = .ok (.aload_n 0, 1) := dk_42 (dk_at dksX1_readyOf_0 13 rfl rfl)
theorem dX1_readyOf_14 : decode cX1_readyOf 14 = .ok (.iload_n 2, 1) := dk_28 (dk_at dksX1_readyOf_0 14 rfl rfl)
theorem dX1_readyOf_15 : decode cX1_readyOf 15 = .ok (.invokevirtual 202, 3) := dk_182 0 202 (dk_at dksX1_readyOf_0 15 rfl rfl)
theorem dX1_readyOf_18 : decode cX1_readyOf 18 = .ok (.ifCond .eq 9, 3) := dk_153 0 9 (dk_at dksX1_readyOf_0 18 rfl rfl)
theorem dX1_readyOf_21 : decode cX1_readyOf 21 = .ok (.iconst 1, 1) := dk_4 (dk_at dksX1_readyOf_0 21 rfl rfl)
theorem dX1_readyOf_22 : decode cX1_readyOf 22 = .ok (.iload_n 2, 1) := dk_28 (dk_at dksX1_readyOf_0 22 rfl rfl)
theorem dX1_readyOf_23 : decode cX1_readyOf 23 = .ok (.ishl, 1) := dk_120 (dk_at dksX1_readyOf_0 23 rfl rfl)
theorem dX1_readyOf_24 : decode cX1_readyOf 24 = .ok (.goto 4, 3) := dk_167 0 4 (dk_at dksX1_readyOf_1 0 rfl rfl)
theorem dX1_readyOf_27 : decode cX1_readyOf 27 = .ok (.iconst 0, 1) := dk_3 (dk_at dksX1_readyOf_1 3 rfl rfl)
theorem dX1_readyOf_28 : decode cX1_readyOf 28 = .ok (.ior, 1) := dk_128 (dk_at dksX1_readyOf_1 4 rfl rfl)
theorem dX1_readyOf_29 : decode cX1_readyOf 29 = .ok (.istore_n 1, 1) := dk_60 (dk_at dksX1_readyOf_1 5 rfl rfl)
theorem dX1_readyOf_30 : decode cX1_readyOf 30 = .ok (.iinc 2 1, 3) := dk_132 2 1 (dk_at dksX1_readyOf_1 6 rfl rfl)
theorem dX1_readyOf_33 : decode cX1_readyOf 33 = .ok (.goto (-29), 3) := dk_167 255 227 (dk_at dksX1_readyOf_1 9 rfl rfl)
theorem dX1_readyOf_36 : decode cX1_readyOf 36 = .ok (.iload_n 1, 1) := dk_27 (dk_at dksX1_readyOf_1 12 rfl rfl)
theorem dX1_readyOf_37 : decode cX1_readyOf 37 = .ok (.ireturn, 1) := dk_172 (dk_at dksX1_readyOf_1 13 rfl rfl)
abbrev cX1_alone : ByteArray := prog_1_method_27_code
def yX1_alone : MethodName := ⟨RX1, "alone", "(II)I"⟩
def dkwX1_alone_5 : List UInt8 := [21, 5, 172]
abbrev dktX1_alone_5 : List UInt8 := dkwX1_alone_5 ++ []
def dkwX1_alone_4 : List UInt8 := [180, 0, 162, 27, 50, 29, 21, 5, 184, 0, 214, 46, 96, 21, 4, 159, 0, 9, 132, 5, 1, 167, 255, 226]
abbrev dktX1_alone_4 : List UInt8 := dkwX1_alone_4 ++ dktX1_alone_5
def dkwX1_alone_3 : List UInt8 := [28, 154, 0, 8, 21, 4, 167, 0, 5, 16, 252, 172, 3, 54, 5, 4, 42, 180, 0, 211, 42, 180, 0, 43]
abbrev dktX1_alone_3 : List UInt8 := dkwX1_alone_3 ++ dktX1_alone_4
def dkwX1_alone_2 : List UInt8 := [182, 0, 222, 62, 42, 180, 0, 211, 29, 46, 184, 0, 225, 54, 4, 28, 153, 0, 8, 21, 4, 157, 0, 15]
abbrev dktX1_alone_2 : List UInt8 := dkwX1_alone_2 ++ dktX1_alone_3
def dkwX1_alone_1 : List UInt8 := [180, 0, 43, 180, 0, 162, 27, 50, 3, 182, 0, 218, 42, 27, 42, 180, 0, 43, 180, 0, 77, 27, 46]
abbrev dktX1_alone_1 : List UInt8 := dkwX1_alone_1 ++ dktX1_alone_2
def dkwX1_alone_0 : List UInt8 := [42, 180, 0, 43, 27, 182, 0, 47, 153, 0, 12, 28, 3, 4, 184, 0, 39, 154, 0, 5, 2, 172, 42, 42]
abbrev dktX1_alone_0 : List UInt8 := dkwX1_alone_0 ++ dktX1_alone_1
theorem dksX1_alone_0 : cX1_alone.data.toList.drop 0 = dktX1_alone_0 := by decide +kernel
theorem dksX1_alone_1 : cX1_alone.data.toList.drop 24 = dktX1_alone_1 := dk_seg dksX1_alone_0 24 rfl rfl
theorem dksX1_alone_2 : cX1_alone.data.toList.drop 47 = dktX1_alone_2 := dk_seg dksX1_alone_1 23 rfl rfl
theorem dksX1_alone_3 : cX1_alone.data.toList.drop 71 = dktX1_alone_3 := dk_seg dksX1_alone_2 24 rfl rfl
theorem dksX1_alone_4 : cX1_alone.data.toList.drop 95 = dktX1_alone_4 := dk_seg dksX1_alone_3 24 rfl rfl
theorem dksX1_alone_5 : cX1_alone.data.toList.drop 119 = dktX1_alone_5 := dk_seg dksX1_alone_4 24 rfl rfl
theorem dX1_alone_0 : decode cX1_alone 0 = .ok (.aload_n 0, 1) := dk_42 (dk_at dksX1_alone_0 0 rfl rfl)
theorem dX1_alone_1 : decode cX1_alone 1 = .ok (.getfield 43, 3) := dk_180 0 43 (dk_at dksX1_alone_0 1 rfl rfl)
theorem dX1_alone_4 : decode cX1_alone 4 = .ok (.iload_n 1, 1) := dk_27 (dk_at dksX1_alone_0 4 rfl rfl)
theorem dX1_alone_5 : decode cX1_alone 5 = .ok (.invokevirtual 47, 3) := dk_182 0 47 (dk_at dksX1_alone_0 5 rfl rfl)
theorem dX1_alone_8 : decode cX1_alone 8 = .ok (.ifCond .eq 12, 3) := dk_153 0 12 (dk_at dksX1_alone_0 8 rfl rfl)
theorem dX1_alone_11 : decode cX1_alone 11 = .ok (.iload_n 2, 1) := dk_28 (dk_at dksX1_alone_0 11 rfl rfl)
theorem dX1_alone_12 : decode cX1_alone 12 = .ok (.iconst 0, 1) := dk_3 (dk_at dksX1_alone_0 12 rfl rfl)
theorem dX1_alone_13 : decode cX1_alone 13 = .ok (.iconst 1, 1) := dk_4 (dk_at dksX1_alone_0 13 rfl rfl)
theorem dX1_alone_14 : decode cX1_alone 14 = .ok (.invokestatic 39, 3) := dk_184 0 39 (dk_at dksX1_alone_0 14 rfl rfl)
theorem dX1_alone_17 : decode cX1_alone 17 = .ok (.ifCond .ne 5, 3) := dk_154 0 5 (dk_at dksX1_alone_0 17 rfl rfl)
theorem dX1_alone_20 : decode cX1_alone 20 = .ok (.iconst (-1), 1) := dk_2 (dk_at dksX1_alone_0 20 rfl rfl)
theorem dX1_alone_21 : decode cX1_alone 21 = .ok (.ireturn, 1) := dk_172 (dk_at dksX1_alone_0 21 rfl rfl)
theorem dX1_alone_22 : decode cX1_alone 22 = .ok (.aload_n 0, 1) := dk_42 (dk_at dksX1_alone_0 22 rfl rfl)
theorem dX1_alone_23 : decode cX1_alone 23 = .ok (.aload_n 0, 1) := dk_42 (dk_at dksX1_alone_0 23 rfl rfl)
theorem dX1_alone_24 : decode cX1_alone 24 = .ok (.getfield 43, 3) := dk_180 0 43 (dk_at dksX1_alone_1 0 rfl rfl)
theorem dX1_alone_27 : decode cX1_alone 27 = .ok (.getfield 162, 3) := dk_180 0 162 (dk_at dksX1_alone_1 3 rfl rfl)
theorem dX1_alone_30 : decode cX1_alone 30 = .ok (.iload_n 1, 1) := dk_27 (dk_at dksX1_alone_1 6 rfl rfl)
theorem dX1_alone_31 : decode cX1_alone 31 = .ok (.aaload, 1) := dk_50 (dk_at dksX1_alone_1 7 rfl rfl)
theorem dX1_alone_32 : decode cX1_alone 32 = .ok (.iconst 0, 1) := dk_3 (dk_at dksX1_alone_1 8 rfl rfl)
theorem dX1_alone_33 : decode cX1_alone 33 = .ok (.invokevirtual 218, 3) := dk_182 0 218 (dk_at dksX1_alone_1 9 rfl rfl)
theorem dX1_alone_36 : decode cX1_alone 36 = .ok (.aload_n 0, 1) := dk_42 (dk_at dksX1_alone_1 12 rfl rfl)
theorem dX1_alone_37 : decode cX1_alone 37 = .ok (.iload_n 1, 1) := dk_27 (dk_at dksX1_alone_1 13 rfl rfl)
theorem dX1_alone_38 : decode cX1_alone 38 = .ok (.aload_n 0, 1) := dk_42 (dk_at dksX1_alone_1 14 rfl rfl)
theorem dX1_alone_39 : decode cX1_alone 39 = .ok (.getfield 43, 3) := dk_180 0 43 (dk_at dksX1_alone_1 15 rfl rfl)
theorem dX1_alone_42 : decode cX1_alone 42 = .ok (.getfield 77, 3) := dk_180 0 77 (dk_at dksX1_alone_1 18 rfl rfl)
theorem dX1_alone_45 : decode cX1_alone 45 = .ok (.iload_n 1, 1) := dk_27 (dk_at dksX1_alone_1 21 rfl rfl)
theorem dX1_alone_46 : decode cX1_alone 46 = .ok (.iaload, 1) := dk_46 (dk_at dksX1_alone_1 22 rfl rfl)
theorem dX1_alone_47 : decode cX1_alone 47 = .ok (.invokevirtual 222, 3) := dk_182 0 222 (dk_at dksX1_alone_2 0 rfl rfl)
theorem dX1_alone_50 : decode cX1_alone 50 = .ok (.istore_n 3, 1) := dk_62 (dk_at dksX1_alone_2 3 rfl rfl)
theorem dX1_alone_51 : decode cX1_alone 51 = .ok (.aload_n 0, 1) := dk_42 (dk_at dksX1_alone_2 4 rfl rfl)
theorem dX1_alone_52 : decode cX1_alone 52 = .ok (.getfield 211, 3) := dk_180 0 211 (dk_at dksX1_alone_2 5 rfl rfl)
theorem dX1_alone_55 : decode cX1_alone 55 = .ok (.iload_n 3, 1) := dk_29 (dk_at dksX1_alone_2 8 rfl rfl)
theorem dX1_alone_56 : decode cX1_alone 56 = .ok (.iaload, 1) := dk_46 (dk_at dksX1_alone_2 9 rfl rfl)
theorem dX1_alone_57 : decode cX1_alone 57 = .ok (.invokestatic 225, 3) := dk_184 0 225 (dk_at dksX1_alone_2 10 rfl rfl)
theorem dX1_alone_60 : decode cX1_alone 60 = .ok (.istore 4, 2) := dk_54 4 (dk_at dksX1_alone_2 13 rfl rfl)
theorem dX1_alone_62 : decode cX1_alone 62 = .ok (.iload_n 2, 1) := dk_28 (dk_at dksX1_alone_2 15 rfl rfl)
theorem dX1_alone_63 : decode cX1_alone 63 = .ok (.ifCond .eq 8, 3) := dk_153 0 8 (dk_at dksX1_alone_2 16 rfl rfl)
theorem dX1_alone_66 : decode cX1_alone 66 = .ok (.iload 4, 2) := dk_21 4 (dk_at dksX1_alone_2 19 rfl rfl)
theorem dX1_alone_68 : decode cX1_alone 68 = .ok (.ifCond .gt 15, 3) := dk_157 0 15 (dk_at dksX1_alone_2 21 rfl rfl)
theorem dX1_alone_71 : decode cX1_alone 71 = .ok (.iload_n 2, 1) := dk_28 (dk_at dksX1_alone_3 0 rfl rfl)
theorem dX1_alone_72 : decode cX1_alone 72 = .ok (.ifCond .ne 8, 3) := dk_154 0 8 (dk_at dksX1_alone_3 1 rfl rfl)
theorem dX1_alone_75 : decode cX1_alone 75 = .ok (.iload 4, 2) := dk_21 4 (dk_at dksX1_alone_3 4 rfl rfl)
theorem dX1_alone_77 : decode cX1_alone 77 = .ok (.goto 5, 3) := dk_167 0 5 (dk_at dksX1_alone_3 6 rfl rfl)
theorem dX1_alone_80 : decode cX1_alone 80 = .ok (.bipush (-4), 2) := dk_16 252 (dk_at dksX1_alone_3 9 rfl rfl)
theorem dX1_alone_82 : decode cX1_alone 82 = .ok (.ireturn, 1) := dk_172 (dk_at dksX1_alone_3 11 rfl rfl)
theorem dX1_alone_83 : decode cX1_alone 83 = .ok (.iconst 0, 1) := dk_3 (dk_at dksX1_alone_3 12 rfl rfl)
theorem dX1_alone_84 : decode cX1_alone 84 = .ok (.istore 5, 2) := dk_54 5 (dk_at dksX1_alone_3 13 rfl rfl)
theorem dX1_alone_86 : decode cX1_alone 86 = .ok (.iconst 1, 1) := dk_4 (dk_at dksX1_alone_3 15 rfl rfl)
theorem dX1_alone_87 : decode cX1_alone 87 = .ok (.aload_n 0, 1) := dk_42 (dk_at dksX1_alone_3 16 rfl rfl)
theorem dX1_alone_88 : decode cX1_alone 88 = .ok (.getfield 211, 3) := dk_180 0 211 (dk_at dksX1_alone_3 17 rfl rfl)
theorem dX1_alone_91 : decode cX1_alone 91 = .ok (.aload_n 0, 1) := dk_42 (dk_at dksX1_alone_3 20 rfl rfl)
theorem dX1_alone_92 : decode cX1_alone 92 = .ok (.getfield 43, 3) := dk_180 0 43 (dk_at dksX1_alone_3 21 rfl rfl)
theorem dX1_alone_95 : decode cX1_alone 95 = .ok (.getfield 162, 3) := dk_180 0 162 (dk_at dksX1_alone_4 0 rfl rfl)
theorem dX1_alone_98 : decode cX1_alone 98 = .ok (.iload_n 1, 1) := dk_27 (dk_at dksX1_alone_4 3 rfl rfl)
theorem dX1_alone_99 : decode cX1_alone 99 = .ok (.aaload, 1) := dk_50 (dk_at dksX1_alone_4 4 rfl rfl)
theorem dX1_alone_100 : decode cX1_alone 100 = .ok (.iload_n 3, 1) := dk_29 (dk_at dksX1_alone_4 5 rfl rfl)
theorem dX1_alone_101 : decode cX1_alone 101 = .ok (.iload 5, 2) := dk_21 5 (dk_at dksX1_alone_4 6 rfl rfl)
theorem dX1_alone_103 : decode cX1_alone 103 = .ok (.invokestatic 214, 3) := dk_184 0 214 (dk_at dksX1_alone_4 8 rfl rfl)
theorem dX1_alone_106 : decode cX1_alone 106 = .ok (.iaload, 1) := dk_46 (dk_at dksX1_alone_4 11 rfl rfl)
theorem dX1_alone_107 : decode cX1_alone 107 = .ok (.iadd, 1) := dk_96 (dk_at dksX1_alone_4 12 rfl rfl)
theorem dX1_alone_108 : decode cX1_alone 108 = .ok (.iload 4, 2) := dk_21 4 (dk_at dksX1_alone_4 13 rfl rfl)
theorem dX1_alone_110 : decode cX1_alone 110 = .ok (.if_icmp .eq 9, 3) := dk_159 0 9 (dk_at dksX1_alone_4 15 rfl rfl)
theorem dX1_alone_113 : decode cX1_alone 113 = .ok (.iinc 5 1, 3) := dk_132 5 1 (dk_at dksX1_alone_4 18 rfl rfl)
theorem dX1_alone_116 : decode cX1_alone 116 = .ok (.goto (-30), 3) := dk_167 255 226 (dk_at dksX1_alone_4 21 rfl rfl)
theorem dX1_alone_119 : decode cX1_alone 119 = .ok (.iload 5, 2) := dk_21 5 (dk_at dksX1_alone_5 0 rfl rfl)
theorem dX1_alone_121 : decode cX1_alone 121 = .ok (.ireturn, 1) := dk_172 (dk_at dksX1_alone_5 2 rfl rfl)
abbrev cX1_findFewest : ByteArray := prog_1_method_24_code
def yX1_findFewest : MethodName := ⟨RX1, "findFewest", "(LHandUnderTheChin$Child;I)V"⟩
def dkwX1_findFewest_5 : List UInt8 := [132, 5, 1, 167, 255, 194, 132, 4, 1, 167, 255, 177, 167, 255, 165, 177]
abbrev dktX1_findFewest_5 : List UInt8 := dkwX1_findFewest_5 ++ []
def dkwX1_findFewest_4 : List UInt8 := [180, 0, 211, 21, 4, 46, 161, 0, 6, 167, 0, 14, 42, 180, 0, 211, 21, 4, 21, 6, 79, 4, 62]
abbrev dktX1_findFewest_4 : List UInt8 := dkwX1_findFewest_4 ++ dktX1_findFewest_5
def dkwX1_findFewest_3 : List UInt8 := [162, 0, 52, 4, 42, 180, 0, 211, 43, 21, 4, 21, 5, 184, 0, 214, 46, 96, 54, 6, 21, 6, 42]
abbrev dktX1_findFewest_3 : List UInt8 := dkwX1_findFewest_3 ++ dktX1_findFewest_4
def dkwX1_findFewest_2 : List UInt8 := [21, 4, 17, 0, 168, 162, 0, 77, 28, 54, 5, 21, 5, 6, 162, 0, 62, 21, 4, 16, 8, 112, 16, 7]
abbrev dktX1_findFewest_2 : List UInt8 := dkwX1_findFewest_2 ++ dktX1_findFewest_3
def dkwX1_findFewest_1 : List UInt8 := [167, 0, 6, 17, 0, 168, 79, 132, 3, 1, 167, 255, 224, 4, 62, 29, 153, 0, 93, 3, 62, 3, 54, 4]
abbrev dktX1_findFewest_1 : List UInt8 := dkwX1_findFewest_1 ++ dktX1_findFewest_2
def dkwX1_findFewest_0 : List UInt8 := [3, 62, 29, 17, 0, 168, 162, 0, 31, 42, 180, 0, 211, 29, 29, 16, 8, 112, 16, 7, 160, 0, 7, 3]
abbrev dktX1_findFewest_0 : List UInt8 := dkwX1_findFewest_0 ++ dktX1_findFewest_1
theorem dksX1_findFewest_0 : cX1_findFewest.data.toList.drop 0 = dktX1_findFewest_0 := by decide +kernel
theorem dksX1_findFewest_1 : cX1_findFewest.data.toList.drop 24 = dktX1_findFewest_1 := dk_seg dksX1_findFewest_0 24 rfl rfl
theorem dksX1_findFewest_2 : cX1_findFewest.data.toList.drop 48 = dktX1_findFewest_2 := dk_seg dksX1_findFewest_1 24 rfl rfl
theorem dksX1_findFewest_3 : cX1_findFewest.data.toList.drop 72 = dktX1_findFewest_3 := dk_seg dksX1_findFewest_2 24 rfl rfl
theorem dksX1_findFewest_4 : cX1_findFewest.data.toList.drop 95 = dktX1_findFewest_4 := dk_seg dksX1_findFewest_3 23 rfl rfl
theorem dksX1_findFewest_5 : cX1_findFewest.data.toList.drop 118 = dktX1_findFewest_5 := dk_seg dksX1_findFewest_4 23 rfl rfl
theorem dX1_findFewest_0 : decode cX1_findFewest 0 = .ok (.iconst 0, 1) := dk_3 (dk_at dksX1_findFewest_0 0 rfl rfl)
theorem dX1_findFewest_1 : decode cX1_findFewest 1 = .ok (.istore_n 3, 1) := dk_62 (dk_at dksX1_findFewest_0 1 rfl rfl)
theorem dX1_findFewest_2 : decode cX1_findFewest 2 = .ok (.iload_n 3, 1) := dk_29 (dk_at dksX1_findFewest_0 2 rfl rfl)
theorem dX1_findFewest_3 : decode cX1_findFewest 3 = .ok (.sipush 168, 3) := dk_17 0 168 (dk_at dksX1_findFewest_0 3 rfl rfl)
theorem dX1_findFewest_6 : decode cX1_findFewest 6 = .ok (.if_icmp .ge 31, 3) := dk_162 0 31 (dk_at dksX1_findFewest_0 6 rfl rfl)
theorem dX1_findFewest_9 : decode cX1_findFewest 9 = .ok (.aload_n 0, 1) := dk_42 (dk_at dksX1_findFewest_0 9 rfl rfl)
theorem dX1_findFewest_10 : decode cX1_findFewest 10 = .ok (.getfield 211, 3) := dk_180 0 211 (dk_at dksX1_findFewest_0 10 rfl rfl)
theorem dX1_findFewest_13 : decode cX1_findFewest 13 = .ok (.iload_n 3, 1) := dk_29 (dk_at dksX1_findFewest_0 13 rfl rfl)
theorem dX1_findFewest_14 : decode cX1_findFewest 14 = .ok (.iload_n 3, 1) := dk_29 (dk_at dksX1_findFewest_0 14 rfl rfl)
theorem dX1_findFewest_15 : decode cX1_findFewest 15 = .ok (.bipush 8, 2) := dk_16 8 (dk_at dksX1_findFewest_0 15 rfl rfl)
theorem dX1_findFewest_17 : decode cX1_findFewest 17 = .ok (.irem, 1) := dk_112 (dk_at dksX1_findFewest_0 17 rfl rfl)
theorem dX1_findFewest_18 : decode cX1_findFewest 18 = .ok (.bipush 7, 2) := dk_16 7 (dk_at dksX1_findFewest_0 18 rfl rfl)
theorem dX1_findFewest_20 : decode cX1_findFewest 20 = .ok (.if_icmp .ne 7, 3) := dk_160 0 7 (dk_at dksX1_findFewest_0 20 rfl rfl)
theorem dX1_findFewest_23 : decode cX1_findFewest 23 = .ok (.iconst 0, 1) := dk_3 (dk_at dksX1_findFewest_0 23 rfl rfl)
theorem dX1_findFewest_24 : decode cX1_findFewest 24 = .ok (.goto 6, 3) := dk_167 0 6 (dk_at dksX1_findFewest_1 0 rfl rfl)
theorem dX1_findFewest_27 : decode cX1_findFewest 27 = .ok (.sipush 168, 3) := dk_17 0 168 (dk_at dksX1_findFewest_1 3 rfl rfl)
theorem dX1_findFewest_30 : decode cX1_findFewest 30 = .ok (.iastore, 1) := dk_79 (dk_at dksX1_findFewest_1 6 rfl rfl)
theorem dX1_findFewest_31 : decode cX1_findFewest 31 = .ok (.iinc 3 1, 3) := dk_132 3 1 (dk_at dksX1_findFewest_1 7 rfl rfl)
theorem dX1_findFewest_34 : decode cX1_findFewest 34 = .ok (.goto (-32), 3) := dk_167 255 224 (dk_at dksX1_findFewest_1 10 rfl rfl)
theorem dX1_findFewest_37 : decode cX1_findFewest 37 = .ok (.iconst 1, 1) := dk_4 (dk_at dksX1_findFewest_1 13 rfl rfl)
theorem dX1_findFewest_38 : decode cX1_findFewest 38 = .ok (.istore_n 3, 1) := dk_62 (dk_at dksX1_findFewest_1 14 rfl rfl)
theorem dX1_findFewest_39 : decode cX1_findFewest 39 = .ok (.iload_n 3, 1) := dk_29 (dk_at dksX1_findFewest_1 15 rfl rfl)
theorem dX1_findFewest_40 : decode cX1_findFewest 40 = .ok (.ifCond .eq 93, 3) := dk_153 0 93 (dk_at dksX1_findFewest_1 16 rfl rfl)
theorem dX1_findFewest_43 : decode cX1_findFewest 43 = .ok (.iconst 0, 1) := dk_3 (dk_at dksX1_findFewest_1 19 rfl rfl)
theorem dX1_findFewest_44 : decode cX1_findFewest 44 = .ok (.istore_n 3, 1) := dk_62 (dk_at dksX1_findFewest_1 20 rfl rfl)
theorem dX1_findFewest_45 : decode cX1_findFewest 45 = .ok (.iconst 0, 1) := dk_3 (dk_at dksX1_findFewest_1 21 rfl rfl)
theorem dX1_findFewest_46 : decode cX1_findFewest 46 = .ok (.istore 4, 2) := dk_54 4 (dk_at dksX1_findFewest_1 22 rfl rfl)
theorem dX1_findFewest_48 : decode cX1_findFewest 48 = .ok (.iload 4, 2) := dk_21 4 (dk_at dksX1_findFewest_2 0 rfl rfl)
theorem dX1_findFewest_50 : decode cX1_findFewest 50 = .ok (.sipush 168, 3) := dk_17 0 168 (dk_at dksX1_findFewest_2 2 rfl rfl)
theorem dX1_findFewest_53 : decode cX1_findFewest 53 = .ok (.if_icmp .ge 77, 3) := dk_162 0 77 (dk_at dksX1_findFewest_2 5 rfl rfl)
theorem dX1_findFewest_56 : decode cX1_findFewest 56 = .ok (.iload_n 2, 1) := dk_28 (dk_at dksX1_findFewest_2 8 rfl rfl)
theorem dX1_findFewest_57 : decode cX1_findFewest 57 = .ok (.istore 5, 2) := dk_54 5 (dk_at dksX1_findFewest_2 9 rfl rfl)
theorem dX1_findFewest_59 : decode cX1_findFewest 59 = .ok (.iload 5, 2) := dk_21 5 (dk_at dksX1_findFewest_2 11 rfl rfl)
theorem dX1_findFewest_61 : decode cX1_findFewest 61 = .ok (.iconst 3, 1) := dk_6 (dk_at dksX1_findFewest_2 13 rfl rfl)
theorem dX1_findFewest_62 : decode cX1_findFewest 62 = .ok (.if_icmp .ge 62, 3) := dk_162 0 62 (dk_at dksX1_findFewest_2 14 rfl rfl)
theorem dX1_findFewest_65 : decode cX1_findFewest 65 = .ok (.iload 4, 2) := dk_21 4 (dk_at dksX1_findFewest_2 17 rfl rfl)
theorem dX1_findFewest_67 : decode cX1_findFewest 67 = .ok (.bipush 8, 2) := dk_16 8 (dk_at dksX1_findFewest_2 19 rfl rfl)
theorem dX1_findFewest_69 : decode cX1_findFewest 69 = .ok (.irem, 1) := dk_112 (dk_at dksX1_findFewest_2 21 rfl rfl)
theorem dX1_findFewest_70 : decode cX1_findFewest 70 = .ok (.bipush 7, 2) := dk_16 7 (dk_at dksX1_findFewest_2 22 rfl rfl)
theorem dX1_findFewest_72 : decode cX1_findFewest 72 = .ok (.if_icmp .ge 52, 3) := dk_162 0 52 (dk_at dksX1_findFewest_3 0 rfl rfl)
theorem dX1_findFewest_75 : decode cX1_findFewest 75 = .ok (.iconst 1, 1) := dk_4 (dk_at dksX1_findFewest_3 3 rfl rfl)
theorem dX1_findFewest_76 : decode cX1_findFewest 76 = .ok (.aload_n 0, 1) := dk_42 (dk_at dksX1_findFewest_3 4 rfl rfl)
theorem dX1_findFewest_77 : decode cX1_findFewest 77 = .ok (.getfield 211, 3) := dk_180 0 211 (dk_at dksX1_findFewest_3 5 rfl rfl)
theorem dX1_findFewest_80 : decode cX1_findFewest 80 = .ok (.aload_n 1, 1) := dk_43 (dk_at dksX1_findFewest_3 8 rfl rfl)
theorem dX1_findFewest_81 : decode cX1_findFewest 81 = .ok (.iload 4, 2) := dk_21 4 (dk_at dksX1_findFewest_3 9 rfl rfl)
theorem dX1_findFewest_83 : decode cX1_findFewest 83 = .ok (.iload 5, 2) := dk_21 5 (dk_at dksX1_findFewest_3 11 rfl rfl)
theorem dX1_findFewest_85 : decode cX1_findFewest 85 = .ok (.invokestatic 214, 3) := dk_184 0 214 (dk_at dksX1_findFewest_3 13 rfl rfl)
theorem dX1_findFewest_88 : decode cX1_findFewest 88 = .ok (.iaload, 1) := dk_46 (dk_at dksX1_findFewest_3 16 rfl rfl)
theorem dX1_findFewest_89 : decode cX1_findFewest 89 = .ok (.iadd, 1) := dk_96 (dk_at dksX1_findFewest_3 17 rfl rfl)
theorem dX1_findFewest_90 : decode cX1_findFewest 90 = .ok (.istore 6, 2) := dk_54 6 (dk_at dksX1_findFewest_3 18 rfl rfl)
theorem dX1_findFewest_92 : decode cX1_findFewest 92 = .ok (.iload 6, 2) := dk_21 6 (dk_at dksX1_findFewest_3 20 rfl rfl)
theorem dX1_findFewest_94 : decode cX1_findFewest 94 = .ok (.aload_n 0, 1) := dk_42 (dk_at dksX1_findFewest_3 22 rfl rfl)
theorem dX1_findFewest_95 : decode cX1_findFewest 95 = .ok (.getfield 211, 3) := dk_180 0 211 (dk_at dksX1_findFewest_4 0 rfl rfl)
theorem dX1_findFewest_98 : decode cX1_findFewest 98 = .ok (.iload 4, 2) := dk_21 4 (dk_at dksX1_findFewest_4 3 rfl rfl)
theorem dX1_findFewest_100 : decode cX1_findFewest 100 = .ok (.iaload, 1) := dk_46 (dk_at dksX1_findFewest_4 5 rfl rfl)
theorem dX1_findFewest_101 : decode cX1_findFewest 101 = .ok (.if_icmp .lt 6, 3) := dk_161 0 6 (dk_at dksX1_findFewest_4 6 rfl rfl)
theorem dX1_findFewest_104 : decode cX1_findFewest 104 = .ok (.goto 14, 3) := dk_167 0 14 (dk_at dksX1_findFewest_4 9 rfl rfl)
theorem dX1_findFewest_107 : decode cX1_findFewest 107 = .ok (.aload_n 0, 1) := dk_42 (dk_at dksX1_findFewest_4 12 rfl rfl)
theorem dX1_findFewest_108 : decode cX1_findFewest 108 = .ok (.getfield 211, 3) := dk_180 0 211 (dk_at dksX1_findFewest_4 13 rfl rfl)
theorem dX1_findFewest_111 : decode cX1_findFewest 111 = .ok (.iload 4, 2) := dk_21 4 (dk_at dksX1_findFewest_4 16 rfl rfl)
theorem dX1_findFewest_113 : decode cX1_findFewest 113 = .ok (.iload 6, 2) := dk_21 6 (dk_at dksX1_findFewest_4 18 rfl rfl)
theorem dX1_findFewest_115 : decode cX1_findFewest 115 = .ok (.iastore, 1) := dk_79 (dk_at dksX1_findFewest_4 20 rfl rfl)
theorem dX1_findFewest_116 : decode cX1_findFewest 116 = .ok (.iconst 1, 1) := dk_4 (dk_at dksX1_findFewest_4 21 rfl rfl)
theorem dX1_findFewest_117 : decode cX1_findFewest 117 = .ok (.istore_n 3, 1) := dk_62 (dk_at dksX1_findFewest_4 22 rfl rfl)
theorem dX1_findFewest_118 : decode cX1_findFewest 118 = .ok (.iinc 5 1, 3) := dk_132 5 1 (dk_at dksX1_findFewest_5 0 rfl rfl)
theorem dX1_findFewest_121 : decode cX1_findFewest 121 = .ok (.goto (-62), 3) := dk_167 255 194 (dk_at dksX1_findFewest_5 3 rfl rfl)
theorem dX1_findFewest_124 : decode cX1_findFewest 124 = .ok (.iinc 4 1, 3) := dk_132 4 1 (dk_at dksX1_findFewest_5 6 rfl rfl)
theorem dX1_findFewest_127 : decode cX1_findFewest 127 = .ok (.goto (-79), 3) := dk_167 255 177 (dk_at dksX1_findFewest_5 9 rfl rfl)
theorem dX1_findFewest_130 : decode cX1_findFewest 130 = .ok (.goto (-91), 3) := dk_167 255 165 (dk_at dksX1_findFewest_5 12 rfl rfl)
theorem dX1_findFewest_133 : decode cX1_findFewest 133 = .ok (.return_, 1) := dk_177 (dk_at dksX1_findFewest_5 15 rfl rfl)
abbrev cX1_alone_2 : ByteArray := prog_1_method_23_code
def yX1_alone_2 : MethodName := ⟨RX1, "alone", "(LHandUnderTheChin$Child;II)I"⟩
def dkwX1_alone_2_4 : List UInt8 := [167, 0, 18, 16, 8, 29, 42, 182, 0, 183, 100, 184, 0, 209, 104, 21, 4, 96, 172]
abbrev dktX1_alone_2_4 : List UInt8 := dkwX1_alone_2_4 ++ []
def dkwX1_alone_2_3 : List UInt8 := [21, 4, 4, 96, 167, 0, 5, 21, 4, 96, 172, 29, 42, 21, 4, 182, 0, 179, 161, 0, 9, 27, 4, 96]
abbrev dktX1_alone_2_3 : List UInt8 := dkwX1_alone_2_3 ++ dktX1_alone_2_4
def dkwX1_alone_2_2 : List UInt8 := [184, 0, 209, 54, 5, 16, 8, 21, 5, 104, 21, 5, 42, 21, 4, 182, 0, 179, 6, 96, 161, 0, 10]
abbrev dktX1_alone_2_2 : List UInt8 := dkwX1_alone_2_2 ++ dktX1_alone_2_3
def dkwX1_alone_2_1 : List UInt8 := [184, 0, 209, 104, 21, 4, 96, 172, 28, 4, 160, 0, 47, 29, 42, 182, 0, 176, 5, 108, 96, 4, 96]
abbrev dktX1_alone_2_1 : List UInt8 := dkwX1_alone_2_1 ++ dktX1_alone_2_2
def dkwX1_alone_2_0 : List UInt8 := [27, 16, 8, 108, 62, 27, 16, 8, 112, 54, 4, 28, 154, 0, 19, 16, 8, 29, 42, 182, 0, 176, 96]
abbrev dktX1_alone_2_0 : List UInt8 := dkwX1_alone_2_0 ++ dktX1_alone_2_1
theorem dksX1_alone_2_0 : cX1_alone_2.data.toList.drop 0 = dktX1_alone_2_0 := by decide +kernel
theorem dksX1_alone_2_1 : cX1_alone_2.data.toList.drop 23 = dktX1_alone_2_1 := dk_seg dksX1_alone_2_0 23 rfl rfl
theorem dksX1_alone_2_2 : cX1_alone_2.data.toList.drop 46 = dktX1_alone_2_2 := dk_seg dksX1_alone_2_1 23 rfl rfl
theorem dksX1_alone_2_3 : cX1_alone_2.data.toList.drop 69 = dktX1_alone_2_3 := dk_seg dksX1_alone_2_2 23 rfl rfl
theorem dksX1_alone_2_4 : cX1_alone_2.data.toList.drop 93 = dktX1_alone_2_4 := dk_seg dksX1_alone_2_3 24 rfl rfl
theorem dX1_alone_2_0 : decode cX1_alone_2 0 = .ok (.iload_n 1, 1) := dk_27 (dk_at dksX1_alone_2_0 0 rfl rfl)
theorem dX1_alone_2_1 : decode cX1_alone_2 1 = .ok (.bipush 8, 2) := dk_16 8 (dk_at dksX1_alone_2_0 1 rfl rfl)
theorem dX1_alone_2_3 : decode cX1_alone_2 3 = .ok (.idiv, 1) := dk_108 (dk_at dksX1_alone_2_0 3 rfl rfl)
theorem dX1_alone_2_4 : decode cX1_alone_2 4 = .ok (.istore_n 3, 1) := dk_62 (dk_at dksX1_alone_2_0 4 rfl rfl)
theorem dX1_alone_2_5 : decode cX1_alone_2 5 = .ok (.iload_n 1, 1) := dk_27 (dk_at dksX1_alone_2_0 5 rfl rfl)
theorem dX1_alone_2_6 : decode cX1_alone_2 6 = .ok (.bipush 8, 2) := dk_16 8 (dk_at dksX1_alone_2_0 6 rfl rfl)
theorem dX1_alone_2_8 : decode cX1_alone_2 8 = .ok (.irem, 1) := dk_112 (dk_at dksX1_alone_2_0 8 rfl rfl)
theorem dX1_alone_2_9 : decode cX1_alone_2 9 = .ok (.istore 4, 2) := dk_54 4 (dk_at dksX1_alone_2_0 9 rfl rfl)
theorem dX1_alone_2_11 : decode cX1_alone_2 11 = .ok (.iload_n 2, 1) := dk_28 (dk_at dksX1_alone_2_0 11 rfl rfl)
theorem dX1_alone_2_12 : decode cX1_alone_2 12 = .ok (.ifCond .ne 19, 3) := dk_154 0 19 (dk_at dksX1_alone_2_0 12 rfl rfl)
theorem dX1_alone_2_15 : decode cX1_alone_2 15 = .ok (.bipush 8, 2) := dk_16 8 (dk_at dksX1_alone_2_0 15 rfl rfl)
theorem dX1_alone_2_17 : decode cX1_alone_2 17 = .ok (.iload_n 3, 1) := dk_29 (dk_at dksX1_alone_2_0 17 rfl rfl)
theorem dX1_alone_2_18 : decode cX1_alone_2 18 = .ok (.aload_n 0, 1) := dk_42 (dk_at dksX1_alone_2_0 18 rfl rfl)
theorem dX1_alone_2_19 : decode cX1_alone_2 19 = .ok (.invokevirtual 176, 3) := dk_182 0 176 (dk_at dksX1_alone_2_0 19 rfl rfl)
theorem dX1_alone_2_22 : decode cX1_alone_2 22 = .ok (.iadd, 1) := dk_96 (dk_at dksX1_alone_2_0 22 rfl rfl)
theorem dX1_alone_2_23 : decode cX1_alone_2 23 = .ok (.invokestatic 209, 3) := dk_184 0 209 (dk_at dksX1_alone_2_1 0 rfl rfl)
theorem dX1_alone_2_26 : decode cX1_alone_2 26 = .ok (.imul, 1) := dk_104 (dk_at dksX1_alone_2_1 3 rfl rfl)
theorem dX1_alone_2_27 : decode cX1_alone_2 27 = .ok (.iload 4, 2) := dk_21 4 (dk_at dksX1_alone_2_1 4 rfl rfl)
theorem dX1_alone_2_29 : decode cX1_alone_2 29 = .ok (.iadd, 1) := dk_96 (dk_at dksX1_alone_2_1 6 rfl rfl)
theorem dX1_alone_2_30 : decode cX1_alone_2 30 = .ok (.ireturn, 1) := dk_172 (dk_at dksX1_alone_2_1 7 rfl rfl)
theorem dX1_alone_2_31 : decode cX1_alone_2 31 = .ok (.iload_n 2, 1) := dk_28 (dk_at dksX1_alone_2_1 8 rfl rfl)
theorem dX1_alone_2_32 : decode cX1_alone_2 32 = .ok (.iconst 1, 1) := dk_4 (dk_at dksX1_alone_2_1 9 rfl rfl)
theorem dX1_alone_2_33 : decode cX1_alone_2 33 = .ok (.if_icmp .ne 47, 3) := dk_160 0 47 (dk_at dksX1_alone_2_1 10 rfl rfl)
theorem dX1_alone_2_36 : decode cX1_alone_2 36 = .ok (.iload_n 3, 1) := dk_29 (dk_at dksX1_alone_2_1 13 rfl rfl)
theorem dX1_alone_2_37 : decode cX1_alone_2 37 = .ok (.aload_n 0, 1) := dk_42 (dk_at dksX1_alone_2_1 14 rfl rfl)
theorem dX1_alone_2_38 : decode cX1_alone_2 38 = .ok (.invokevirtual 176, 3) := dk_182 0 176 (dk_at dksX1_alone_2_1 15 rfl rfl)
theorem dX1_alone_2_41 : decode cX1_alone_2 41 = .ok (.iconst 2, 1) := dk_5 (dk_at dksX1_alone_2_1 18 rfl rfl)
theorem dX1_alone_2_42 : decode cX1_alone_2 42 = .ok (.idiv, 1) := dk_108 (dk_at dksX1_alone_2_1 19 rfl rfl)
theorem dX1_alone_2_43 : decode cX1_alone_2 43 = .ok (.iadd, 1) := dk_96 (dk_at dksX1_alone_2_1 20 rfl rfl)
theorem dX1_alone_2_44 : decode cX1_alone_2 44 = .ok (.iconst 1, 1) := dk_4 (dk_at dksX1_alone_2_1 21 rfl rfl)
theorem dX1_alone_2_45 : decode cX1_alone_2 45 = .ok (.iadd, 1) := dk_96 (dk_at dksX1_alone_2_1 22 rfl rfl)
theorem dX1_alone_2_46 : decode cX1_alone_2 46 = .ok (.invokestatic 209, 3) := dk_184 0 209 (dk_at dksX1_alone_2_2 0 rfl rfl)
theorem dX1_alone_2_49 : decode cX1_alone_2 49 = .ok (.istore 5, 2) := dk_54 5 (dk_at dksX1_alone_2_2 3 rfl rfl)
theorem dX1_alone_2_51 : decode cX1_alone_2 51 = .ok (.bipush 8, 2) := dk_16 8 (dk_at dksX1_alone_2_2 5 rfl rfl)
theorem dX1_alone_2_53 : decode cX1_alone_2 53 = .ok (.iload 5, 2) := dk_21 5 (dk_at dksX1_alone_2_2 7 rfl rfl)
theorem dX1_alone_2_55 : decode cX1_alone_2 55 = .ok (.imul, 1) := dk_104 (dk_at dksX1_alone_2_2 9 rfl rfl)
theorem dX1_alone_2_56 : decode cX1_alone_2 56 = .ok (.iload 5, 2) := dk_21 5 (dk_at dksX1_alone_2_2 10 rfl rfl)
theorem dX1_alone_2_58 : decode cX1_alone_2 58 = .ok (.aload_n 0, 1) := dk_42 (dk_at dksX1_alone_2_2 12 rfl rfl)
theorem dX1_alone_2_59 : decode cX1_alone_2 59 = .ok (.iload 4, 2) := dk_21 4 (dk_at dksX1_alone_2_2 13 rfl rfl)
theorem dX1_alone_2_61 : decode cX1_alone_2 61 = .ok (.invokevirtual 179, 3) := dk_182 0 179 (dk_at dksX1_alone_2_2 15 rfl rfl)
theorem dX1_alone_2_64 : decode cX1_alone_2 64 = .ok (.iconst 3, 1) := dk_6 (dk_at dksX1_alone_2_2 18 rfl rfl)
theorem dX1_alone_2_65 : decode cX1_alone_2 65 = .ok (.iadd, 1) := dk_96 (dk_at dksX1_alone_2_2 19 rfl rfl)
theorem dX1_alone_2_66 : decode cX1_alone_2 66 = .ok (.if_icmp .lt 10, 3) := dk_161 0 10 (dk_at dksX1_alone_2_2 20 rfl rfl)
theorem dX1_alone_2_69 : decode cX1_alone_2 69 = .ok (.iload 4, 2) := dk_21 4 (dk_at dksX1_alone_2_3 0 rfl rfl)
theorem dX1_alone_2_71 : decode cX1_alone_2 71 = .ok (.iconst 1, 1) := dk_4 (dk_at dksX1_alone_2_3 2 rfl rfl)
theorem dX1_alone_2_72 : decode cX1_alone_2 72 = .ok (.iadd, 1) := dk_96 (dk_at dksX1_alone_2_3 3 rfl rfl)
theorem dX1_alone_2_73 : decode cX1_alone_2 73 = .ok (.goto 5, 3) := dk_167 0 5 (dk_at dksX1_alone_2_3 4 rfl rfl)
theorem dX1_alone_2_76 : decode cX1_alone_2 76 = .ok (.iload 4, 2) := dk_21 4 (dk_at dksX1_alone_2_3 7 rfl rfl)
theorem dX1_alone_2_78 : decode cX1_alone_2 78 = .ok (.iadd, 1) := dk_96 (dk_at dksX1_alone_2_3 9 rfl rfl)
theorem dX1_alone_2_79 : decode cX1_alone_2 79 = .ok (.ireturn, 1) := dk_172 (dk_at dksX1_alone_2_3 10 rfl rfl)
theorem dX1_alone_2_80 : decode cX1_alone_2 80 = .ok (.iload_n 3, 1) := dk_29 (dk_at dksX1_alone_2_3 11 rfl rfl)
theorem dX1_alone_2_81 : decode cX1_alone_2 81 = .ok (.aload_n 0, 1) := dk_42 (dk_at dksX1_alone_2_3 12 rfl rfl)
theorem dX1_alone_2_82 : decode cX1_alone_2 82 = .ok (.iload 4, 2) := dk_21 4 (dk_at dksX1_alone_2_3 13 rfl rfl)
theorem dX1_alone_2_84 : decode cX1_alone_2 84 = .ok (.invokevirtual 179, 3) := dk_182 0 179 (dk_at dksX1_alone_2_3 15 rfl rfl)
theorem dX1_alone_2_87 : decode cX1_alone_2 87 = .ok (.if_icmp .lt 9, 3) := dk_161 0 9 (dk_at dksX1_alone_2_3 18 rfl rfl)
theorem dX1_alone_2_90 : decode cX1_alone_2 90 = .ok (.iload_n 1, 1) := dk_27 (dk_at dksX1_alone_2_3 21 rfl rfl)
theorem dX1_alone_2_91 : decode cX1_alone_2 91 = .ok (.iconst 1, 1) := dk_4 (dk_at dksX1_alone_2_3 22 rfl rfl)
theorem dX1_alone_2_92 : decode cX1_alone_2 92 = .ok (.iadd, 1) := dk_96 (dk_at dksX1_alone_2_3 23 rfl rfl)
theorem dX1_alone_2_93 : decode cX1_alone_2 93 = .ok (.goto 18, 3) := dk_167 0 18 (dk_at dksX1_alone_2_4 0 rfl rfl)
theorem dX1_alone_2_96 : decode cX1_alone_2 96 = .ok (.bipush 8, 2) := dk_16 8 (dk_at dksX1_alone_2_4 3 rfl rfl)
theorem dX1_alone_2_98 : decode cX1_alone_2 98 = .ok (.iload_n 3, 1) := dk_29 (dk_at dksX1_alone_2_4 5 rfl rfl)
theorem dX1_alone_2_99 : decode cX1_alone_2 99 = .ok (.aload_n 0, 1) := dk_42 (dk_at dksX1_alone_2_4 6 rfl rfl)
theorem dX1_alone_2_100 : decode cX1_alone_2 100 = .ok (.invokevirtual 183, 3) := dk_182 0 183 (dk_at dksX1_alone_2_4 7 rfl rfl)
theorem dX1_alone_2_103 : decode cX1_alone_2 103 = .ok (.isub, 1) := dk_100 (dk_at dksX1_alone_2_4 10 rfl rfl)
theorem dX1_alone_2_104 : decode cX1_alone_2 104 = .ok (.invokestatic 209, 3) := dk_184 0 209 (dk_at dksX1_alone_2_4 11 rfl rfl)
theorem dX1_alone_2_107 : decode cX1_alone_2 107 = .ok (.imul, 1) := dk_104 (dk_at dksX1_alone_2_4 14 rfl rfl)
theorem dX1_alone_2_108 : decode cX1_alone_2 108 = .ok (.iload 4, 2) := dk_21 4 (dk_at dksX1_alone_2_4 15 rfl rfl)
theorem dX1_alone_2_110 : decode cX1_alone_2 110 = .ok (.iadd, 1) := dk_96 (dk_at dksX1_alone_2_4 17 rfl rfl)
theorem dX1_alone_2_111 : decode cX1_alone_2 111 = .ok (.ireturn, 1) := dk_172 (dk_at dksX1_alone_2_4 18 rfl rfl)
abbrev cX1_stateOf : ByteArray := prog_1_method_25_code
def yX1_stateOf : MethodName := ⟨RX1, "stateOf", "(II)I"⟩
def dkwX1_stateOf_0 : List UInt8 := [16, 8, 28, 104, 42, 180, 0, 43, 180, 0, 81, 27, 46, 96, 172]
abbrev dktX1_stateOf_0 : List UInt8 := dkwX1_stateOf_0 ++ []
theorem dksX1_stateOf_0 : cX1_stateOf.data.toList.drop 0 = dktX1_stateOf_0 := by decide +kernel
theorem dX1_stateOf_0 : decode cX1_stateOf 0 = .ok (.bipush 8, 2) := dk_16 8 (dk_at dksX1_stateOf_0 0 rfl rfl)
theorem dX1_stateOf_2 : decode cX1_stateOf 2 = .ok (.iload_n 2, 1) := dk_28 (dk_at dksX1_stateOf_0 2 rfl rfl)
theorem dX1_stateOf_3 : decode cX1_stateOf 3 = .ok (.imul, 1) := dk_104 (dk_at dksX1_stateOf_0 3 rfl rfl)
theorem dX1_stateOf_4 : decode cX1_stateOf 4 = .ok (.aload_n 0, 1) := dk_42 (dk_at dksX1_stateOf_0 4 rfl rfl)
theorem dX1_stateOf_5 : decode cX1_stateOf 5 = .ok (.getfield 43, 3) := dk_180 0 43 (dk_at dksX1_stateOf_0 5 rfl rfl)
theorem dX1_stateOf_8 : decode cX1_stateOf 8 = .ok (.getfield 81, 3) := dk_180 0 81 (dk_at dksX1_stateOf_0 8 rfl rfl)
theorem dX1_stateOf_11 : decode cX1_stateOf 11 = .ok (.iload_n 1, 1) := dk_27 (dk_at dksX1_stateOf_0 11 rfl rfl)
theorem dX1_stateOf_12 : decode cX1_stateOf 12 = .ok (.iaload, 1) := dk_46 (dk_at dksX1_stateOf_0 12 rfl rfl)
theorem dX1_stateOf_13 : decode cX1_stateOf 13 = .ok (.iadd, 1) := dk_96 (dk_at dksX1_stateOf_0 13 rfl rfl)
theorem dX1_stateOf_14 : decode cX1_stateOf 14 = .ok (.ireturn, 1) := dk_172 (dk_at dksX1_stateOf_0 14 rfl rfl)
abbrev cX1_orNone : ByteArray := prog_1_method_26_code
def yX1_orNone : MethodName := ⟨RX1, "orNone", "(I)I"⟩
def dkwX1_orNone_0 : List UInt8 := [26, 16, 60, 164, 0, 8, 16, 252, 167, 0, 4, 26, 172]
abbrev dktX1_orNone_0 : List UInt8 := dkwX1_orNone_0 ++ []
theorem dksX1_orNone_0 : cX1_orNone.data.toList.drop 0 = dktX1_orNone_0 := by decide +kernel
theorem dX1_orNone_0 : decode cX1_orNone 0 = .ok (.iload_n 0, 1) := dk_26 (dk_at dksX1_orNone_0 0 rfl rfl)
theorem dX1_orNone_1 : decode cX1_orNone 1 = .ok (.bipush 60, 2) := dk_16 60 (dk_at dksX1_orNone_0 1 rfl rfl)
theorem dX1_orNone_3 : decode cX1_orNone 3 = .ok (.if_icmp .le 8, 3) := dk_164 0 8 (dk_at dksX1_orNone_0 3 rfl rfl)
theorem dX1_orNone_6 : decode cX1_orNone 6 = .ok (.bipush (-4), 2) := dk_16 252 (dk_at dksX1_orNone_0 6 rfl rfl)
theorem dX1_orNone_8 : decode cX1_orNone 8 = .ok (.goto 4, 3) := dk_167 0 4 (dk_at dksX1_orNone_0 8 rfl rfl)
theorem dX1_orNone_11 : decode cX1_orNone 11 = .ok (.iload_n 0, 1) := dk_26 (dk_at dksX1_orNone_0 11 rfl rfl)
theorem dX1_orNone_12 : decode cX1_orNone 12 = .ok (.ireturn, 1) := dk_172 (dk_at dksX1_orNone_0 12 rfl rfl)
abbrev cX1_neverHeld : ByteArray := prog_1_method_28_code
def yX1_neverHeld : MethodName := ⟨RX1, "neverHeld", "(I)I"⟩
def dkwX1_neverHeld_2 : List UInt8 := [184, 0, 225, 172]
abbrev dktX1_neverHeld_2 : List UInt8 := dkwX1_neverHeld_2 ++ []
def dkwX1_neverHeld_1 : List UInt8 := [182, 0, 218, 42, 180, 0, 211, 42, 27, 42, 180, 0, 43, 180, 0, 77, 27, 46, 182, 0, 222, 46]
abbrev dktX1_neverHeld_1 : List UInt8 := dkwX1_neverHeld_1 ++ dktX1_neverHeld_2
def dkwX1_neverHeld_0 : List UInt8 := [42, 180, 0, 43, 27, 182, 0, 47, 154, 0, 5, 2, 172, 42, 42, 180, 0, 43, 180, 0, 162, 27, 50, 4]
abbrev dktX1_neverHeld_0 : List UInt8 := dkwX1_neverHeld_0 ++ dktX1_neverHeld_1
theorem dksX1_neverHeld_0 : cX1_neverHeld.data.toList.drop 0 = dktX1_neverHeld_0 := by decide +kernel
theorem dksX1_neverHeld_1 : cX1_neverHeld.data.toList.drop 24 = dktX1_neverHeld_1 := dk_seg dksX1_neverHeld_0 24 rfl rfl
theorem dksX1_neverHeld_2 : cX1_neverHeld.data.toList.drop 46 = dktX1_neverHeld_2 := dk_seg dksX1_neverHeld_1 22 rfl rfl
theorem dX1_neverHeld_0 : decode cX1_neverHeld 0 = .ok (.aload_n 0, 1) := dk_42 (dk_at dksX1_neverHeld_0 0 rfl rfl)
theorem dX1_neverHeld_1 : decode cX1_neverHeld 1 = .ok (.getfield 43, 3) := dk_180 0 43 (dk_at dksX1_neverHeld_0 1 rfl rfl)
theorem dX1_neverHeld_4 : decode cX1_neverHeld 4 = .ok (.iload_n 1, 1) := dk_27 (dk_at dksX1_neverHeld_0 4 rfl rfl)
theorem dX1_neverHeld_5 : decode cX1_neverHeld 5 = .ok (.invokevirtual 47, 3) := dk_182 0 47 (dk_at dksX1_neverHeld_0 5 rfl rfl)
theorem dX1_neverHeld_8 : decode cX1_neverHeld 8 = .ok (.ifCond .ne 5, 3) := dk_154 0 5 (dk_at dksX1_neverHeld_0 8 rfl rfl)
theorem dX1_neverHeld_11 : decode cX1_neverHeld 11 = .ok (.iconst (-1), 1) := dk_2 (dk_at dksX1_neverHeld_0 11 rfl rfl)
theorem dX1_neverHeld_12 : decode cX1_neverHeld 12 = .ok (.ireturn, 1) := dk_172 (dk_at dksX1_neverHeld_0 12 rfl rfl)
theorem dX1_neverHeld_13 : decode cX1_neverHeld 13 = .ok (.aload_n 0, 1) := dk_42 (dk_at dksX1_neverHeld_0 13 rfl rfl)
theorem dX1_neverHeld_14 : decode cX1_neverHeld 14 = .ok (.aload_n 0, 1) := dk_42 (dk_at dksX1_neverHeld_0 14 rfl rfl)
theorem dX1_neverHeld_15 : decode cX1_neverHeld 15 = .ok (.getfield 43, 3) := dk_180 0 43 (dk_at dksX1_neverHeld_0 15 rfl rfl)
theorem dX1_neverHeld_18 : decode cX1_neverHeld 18 = .ok (.getfield 162, 3) := dk_180 0 162 (dk_at dksX1_neverHeld_0 18 rfl rfl)
theorem dX1_neverHeld_21 : decode cX1_neverHeld 21 = .ok (.iload_n 1, 1) := dk_27 (dk_at dksX1_neverHeld_0 21 rfl rfl)
theorem dX1_neverHeld_22 : decode cX1_neverHeld 22 = .ok (.aaload, 1) := dk_50 (dk_at dksX1_neverHeld_0 22 rfl rfl)
theorem dX1_neverHeld_23 : decode cX1_neverHeld 23 = .ok (.iconst 1, 1) := dk_4 (dk_at dksX1_neverHeld_0 23 rfl rfl)
theorem dX1_neverHeld_24 : decode cX1_neverHeld 24 = .ok (.invokevirtual 218, 3) := dk_182 0 218 (dk_at dksX1_neverHeld_1 0 rfl rfl)
theorem dX1_neverHeld_27 : decode cX1_neverHeld 27 = .ok (.aload_n 0, 1) := dk_42 (dk_at dksX1_neverHeld_1 3 rfl rfl)
theorem dX1_neverHeld_28 : decode cX1_neverHeld 28 = .ok (.getfield 211, 3) := dk_180 0 211 (dk_at dksX1_neverHeld_1 4 rfl rfl)
theorem dX1_neverHeld_31 : decode cX1_neverHeld 31 = .ok (.aload_n 0, 1) := dk_42 (dk_at dksX1_neverHeld_1 7 rfl rfl)
theorem dX1_neverHeld_32 : decode cX1_neverHeld 32 = .ok (.iload_n 1, 1) := dk_27 (dk_at dksX1_neverHeld_1 8 rfl rfl)
theorem dX1_neverHeld_33 : decode cX1_neverHeld 33 = .ok (.aload_n 0, 1) := dk_42 (dk_at dksX1_neverHeld_1 9 rfl rfl)
theorem dX1_neverHeld_34 : decode cX1_neverHeld 34 = .ok (.getfield 43, 3) := dk_180 0 43 (dk_at dksX1_neverHeld_1 10 rfl rfl)
theorem dX1_neverHeld_37 : decode cX1_neverHeld 37 = .ok (.getfield 77, 3) := dk_180 0 77 (dk_at dksX1_neverHeld_1 13 rfl rfl)
theorem dX1_neverHeld_40 : decode cX1_neverHeld 40 = .ok (.iload_n 1, 1) := dk_27 (dk_at dksX1_neverHeld_1 16 rfl rfl)
theorem dX1_neverHeld_41 : decode cX1_neverHeld 41 = .ok (.iaload, 1) := dk_46 (dk_at dksX1_neverHeld_1 17 rfl rfl)
theorem dX1_neverHeld_42 : decode cX1_neverHeld 42 = .ok (.invokevirtual 222, 3) := dk_182 0 222 (dk_at dksX1_neverHeld_1 18 rfl rfl)
theorem dX1_neverHeld_45 : decode cX1_neverHeld 45 = .ok (.iaload, 1) := dk_46 (dk_at dksX1_neverHeld_1 21 rfl rfl)
theorem dX1_neverHeld_46 : decode cX1_neverHeld 46 = .ok (.invokestatic 225, 3) := dk_184 0 225 (dk_at dksX1_neverHeld_2 0 rfl rfl)
theorem dX1_neverHeld_49 : decode cX1_neverHeld 49 = .ok (.ireturn, 1) := dk_172 (dk_at dksX1_neverHeld_2 3 rfl rfl)
abbrev cX1_costs : ByteArray := prog_1_method_29_code
def yX1_costs : MethodName := ⟨RX1, "costs", "(I)I"⟩
def dkwX1_costs_4 : List UInt8 := [16, 60, 29, 184, 0, 3, 28, 100, 172]
abbrev dktX1_costs_4 : List UInt8 := dkwX1_costs_4 ++ []
def dkwX1_costs_3 : List UInt8 := [182, 0, 183, 100, 184, 0, 209, 182, 0, 222, 46, 62, 28, 16, 60, 164, 0, 8, 16, 252, 167, 0, 11]
abbrev dktX1_costs_3 : List UInt8 := dkwX1_costs_3 ++ dktX1_costs_4
def dkwX1_costs_2 : List UInt8 := [180, 0, 211, 42, 27, 42, 180, 0, 43, 180, 0, 77, 27, 46, 42, 180, 0, 43, 180, 0, 162, 27, 50]
abbrev dktX1_costs_2 : List UInt8 := dkwX1_costs_2 ++ dktX1_costs_3
def dkwX1_costs_1 : List UInt8 := [182, 0, 218, 42, 180, 0, 211, 42, 27, 42, 180, 0, 43, 180, 0, 77, 27, 46, 182, 0, 222, 46, 61, 42]
abbrev dktX1_costs_1 : List UInt8 := dkwX1_costs_1 ++ dktX1_costs_2
def dkwX1_costs_0 : List UInt8 := [42, 180, 0, 43, 27, 182, 0, 47, 154, 0, 5, 2, 172, 42, 42, 180, 0, 43, 180, 0, 162, 27, 50, 3]
abbrev dktX1_costs_0 : List UInt8 := dkwX1_costs_0 ++ dktX1_costs_1
theorem dksX1_costs_0 : cX1_costs.data.toList.drop 0 = dktX1_costs_0 := by decide +kernel
theorem dksX1_costs_1 : cX1_costs.data.toList.drop 24 = dktX1_costs_1 := dk_seg dksX1_costs_0 24 rfl rfl
theorem dksX1_costs_2 : cX1_costs.data.toList.drop 48 = dktX1_costs_2 := dk_seg dksX1_costs_1 24 rfl rfl
theorem dksX1_costs_3 : cX1_costs.data.toList.drop 71 = dktX1_costs_3 := dk_seg dksX1_costs_2 23 rfl rfl
theorem dksX1_costs_4 : cX1_costs.data.toList.drop 94 = dktX1_costs_4 := dk_seg dksX1_costs_3 23 rfl rfl
theorem dX1_costs_0 : decode cX1_costs 0 = .ok (.aload_n 0, 1) := dk_42 (dk_at dksX1_costs_0 0 rfl rfl)
theorem dX1_costs_1 : decode cX1_costs 1 = .ok (.getfield 43, 3) := dk_180 0 43 (dk_at dksX1_costs_0 1 rfl rfl)
theorem dX1_costs_4 : decode cX1_costs 4 = .ok (.iload_n 1, 1) := dk_27 (dk_at dksX1_costs_0 4 rfl rfl)
theorem dX1_costs_5 : decode cX1_costs 5 = .ok (.invokevirtual 47, 3) := dk_182 0 47 (dk_at dksX1_costs_0 5 rfl rfl)
theorem dX1_costs_8 : decode cX1_costs 8 = .ok (.ifCond .ne 5, 3) := dk_154 0 5 (dk_at dksX1_costs_0 8 rfl rfl)
theorem dX1_costs_11 : decode cX1_costs 11 = .ok (.iconst (-1), 1) := dk_2 (dk_at dksX1_costs_0 11 rfl rfl)
theorem dX1_costs_12 : decode cX1_costs 12 = .ok (.ireturn, 1) := dk_172 (dk_at dksX1_costs_0 12 rfl rfl)
theorem dX1_costs_13 : decode cX1_costs 13 = .ok (.aload_n 0, 1) := dk_42 (dk_at dksX1_costs_0 13 rfl rfl)
theorem dX1_costs_14 : decode cX1_costs 14 = .ok (.aload_n 0, 1) := dk_42 (dk_at dksX1_costs_0 14 rfl rfl)
theorem dX1_costs_15 : decode cX1_costs 15 = .ok (.getfield 43, 3) := dk_180 0 43 (dk_at dksX1_costs_0 15 rfl rfl)
theorem dX1_costs_18 : decode cX1_costs 18 = .ok (.getfield 162, 3) := dk_180 0 162 (dk_at dksX1_costs_0 18 rfl rfl)
theorem dX1_costs_21 : decode cX1_costs 21 = .ok (.iload_n 1, 1) := dk_27 (dk_at dksX1_costs_0 21 rfl rfl)
theorem dX1_costs_22 : decode cX1_costs 22 = .ok (.aaload, 1) := dk_50 (dk_at dksX1_costs_0 22 rfl rfl)
theorem dX1_costs_23 : decode cX1_costs 23 = .ok (.iconst 0, 1) := dk_3 (dk_at dksX1_costs_0 23 rfl rfl)
theorem dX1_costs_24 : decode cX1_costs 24 = .ok (.invokevirtual 218, 3) := dk_182 0 218 (dk_at dksX1_costs_1 0 rfl rfl)
theorem dX1_costs_27 : decode cX1_costs 27 = .ok (.aload_n 0, 1) := dk_42 (dk_at dksX1_costs_1 3 rfl rfl)
theorem dX1_costs_28 : decode cX1_costs 28 = .ok (.getfield 211, 3) := dk_180 0 211 (dk_at dksX1_costs_1 4 rfl rfl)
theorem dX1_costs_31 : decode cX1_costs 31 = .ok (.aload_n 0, 1) := dk_42 (dk_at dksX1_costs_1 7 rfl rfl)
theorem dX1_costs_32 : decode cX1_costs 32 = .ok (.iload_n 1, 1) := dk_27 (dk_at dksX1_costs_1 8 rfl rfl)
theorem dX1_costs_33 : decode cX1_costs 33 = .ok (.aload_n 0, 1) := dk_42 (dk_at dksX1_costs_1 9 rfl rfl)
theorem dX1_costs_34 : decode cX1_costs 34 = .ok (.getfield 43, 3) := dk_180 0 43 (dk_at dksX1_costs_1 10 rfl rfl)
theorem dX1_costs_37 : decode cX1_costs 37 = .ok (.getfield 77, 3) := dk_180 0 77 (dk_at dksX1_costs_1 13 rfl rfl)
theorem dX1_costs_40 : decode cX1_costs 40 = .ok (.iload_n 1, 1) := dk_27 (dk_at dksX1_costs_1 16 rfl rfl)
theorem dX1_costs_41 : decode cX1_costs 41 = .ok (.iaload, 1) := dk_46 (dk_at dksX1_costs_1 17 rfl rfl)
theorem dX1_costs_42 : decode cX1_costs 42 = .ok (.invokevirtual 222, 3) := dk_182 0 222 (dk_at dksX1_costs_1 18 rfl rfl)
theorem dX1_costs_45 : decode cX1_costs 45 = .ok (.iaload, 1) := dk_46 (dk_at dksX1_costs_1 21 rfl rfl)
theorem dX1_costs_46 : decode cX1_costs 46 = .ok (.istore_n 2, 1) := dk_61 (dk_at dksX1_costs_1 22 rfl rfl)
theorem dX1_costs_47 : decode cX1_costs 47 = .ok (.aload_n 0, 1) := dk_42 (dk_at dksX1_costs_1 23 rfl rfl)
theorem dX1_costs_48 : decode cX1_costs 48 = .ok (.getfield 211, 3) := dk_180 0 211 (dk_at dksX1_costs_2 0 rfl rfl)
theorem dX1_costs_51 : decode cX1_costs 51 = .ok (.aload_n 0, 1) := dk_42 (dk_at dksX1_costs_2 3 rfl rfl)
theorem dX1_costs_52 : decode cX1_costs 52 = .ok (.iload_n 1, 1) := dk_27 (dk_at dksX1_costs_2 4 rfl rfl)
theorem dX1_costs_53 : decode cX1_costs 53 = .ok (.aload_n 0, 1) := dk_42 (dk_at dksX1_costs_2 5 rfl rfl)
theorem dX1_costs_54 : decode cX1_costs 54 = .ok (.getfield 43, 3) := dk_180 0 43 (dk_at dksX1_costs_2 6 rfl rfl)
theorem dX1_costs_57 : decode cX1_costs 57 = .ok (.getfield 77, 3) := dk_180 0 77 (dk_at dksX1_costs_2 9 rfl rfl)
theorem dX1_costs_60 : decode cX1_costs 60 = .ok (.iload_n 1, 1) := dk_27 (dk_at dksX1_costs_2 12 rfl rfl)
theorem dX1_costs_61 : decode cX1_costs 61 = .ok (.iaload, 1) := dk_46 (dk_at dksX1_costs_2 13 rfl rfl)
theorem dX1_costs_62 : decode cX1_costs 62 = .ok (.aload_n 0, 1) := dk_42 (dk_at dksX1_costs_2 14 rfl rfl)
theorem dX1_costs_63 : decode cX1_costs 63 = .ok (.getfield 43, 3) := dk_180 0 43 (dk_at dksX1_costs_2 15 rfl rfl)
theorem dX1_costs_66 : decode cX1_costs 66 = .ok (.getfield 162, 3) := dk_180 0 162 (dk_at dksX1_costs_2 18 rfl rfl)
theorem dX1_costs_69 : decode cX1_costs 69 = .ok (.iload_n 1, 1) := dk_27 (dk_at dksX1_costs_2 21 rfl rfl)
theorem dX1_costs_70 : decode cX1_costs 70 = .ok (.aaload, 1) := dk_50 (dk_at dksX1_costs_2 22 rfl rfl)
theorem dX1_costs_71 : decode cX1_costs 71 = .ok (.invokevirtual 183, 3) := dk_182 0 183 (dk_at dksX1_costs_3 0 rfl rfl)
theorem dX1_costs_74 : decode cX1_costs 74 = .ok (.isub, 1) := dk_100 (dk_at dksX1_costs_3 3 rfl rfl)
theorem dX1_costs_75 : decode cX1_costs 75 = .ok (.invokestatic 209, 3) := dk_184 0 209 (dk_at dksX1_costs_3 4 rfl rfl)
theorem dX1_costs_78 : decode cX1_costs 78 = .ok (.invokevirtual 222, 3) := dk_182 0 222 (dk_at dksX1_costs_3 7 rfl rfl)
theorem dX1_costs_81 : decode cX1_costs 81 = .ok (.iaload, 1) := dk_46 (dk_at dksX1_costs_3 10 rfl rfl)
theorem dX1_costs_82 : decode cX1_costs 82 = .ok (.istore_n 3, 1) := dk_62 (dk_at dksX1_costs_3 11 rfl rfl)
theorem dX1_costs_83 : decode cX1_costs 83 = .ok (.iload_n 2, 1) := dk_28 (dk_at dksX1_costs_3 12 rfl rfl)
theorem dX1_costs_84 : decode cX1_costs 84 = .ok (.bipush 60, 2) := dk_16 60 (dk_at dksX1_costs_3 13 rfl rfl)
theorem dX1_costs_86 : decode cX1_costs 86 = .ok (.if_icmp .le 8, 3) := dk_164 0 8 (dk_at dksX1_costs_3 15 rfl rfl)
theorem dX1_costs_89 : decode cX1_costs 89 = .ok (.bipush (-4), 2) := dk_16 252 (dk_at dksX1_costs_3 18 rfl rfl)
theorem dX1_costs_91 : decode cX1_costs 91 = .ok (.goto 11, 3) := dk_167 0 11 (dk_at dksX1_costs_3 20 rfl rfl)
theorem dX1_costs_94 : decode cX1_costs 94 = .ok (.bipush 60, 2) := dk_16 60 (dk_at dksX1_costs_4 0 rfl rfl)
theorem dX1_costs_96 : decode cX1_costs 96 = .ok (.iload_n 3, 1) := dk_29 (dk_at dksX1_costs_4 2 rfl rfl)
theorem dX1_costs_97 : decode cX1_costs 97 = .ok (.invokestatic 3, 3) := dk_184 0 3 (dk_at dksX1_costs_4 3 rfl rfl)
theorem dX1_costs_100 : decode cX1_costs 100 = .ok (.iload_n 2, 1) := dk_28 (dk_at dksX1_costs_4 6 rfl rfl)
theorem dX1_costs_101 : decode cX1_costs 101 = .ok (.isub, 1) := dk_100 (dk_at dksX1_costs_4 7 rfl rfl)
theorem dX1_costs_102 : decode cX1_costs 102 = .ok (.ireturn, 1) := dk_172 (dk_at dksX1_costs_4 8 rfl rfl)
abbrev cX1_mostSteps : ByteArray := prog_1_method_32_code
def yX1_mostSteps : MethodName := ⟨RX1, "mostSteps", "(II)I"⟩
def dkwX1_mostSteps_5 : List UInt8 := [167, 255, 187, 16, 252, 172]
abbrev dktX1_mostSteps_5 : List UInt8 := dkwX1_mostSteps_5 ++ []
def dkwX1_mostSteps_4 : List UInt8 := [27, 21, 4, 16, 10, 108, 21, 4, 16, 10, 112, 182, 0, 232, 29, 160, 0, 6, 21, 4, 172, 132, 4, 1]
abbrev dktX1_mostSteps_4 : List UInt8 := dkwX1_mostSteps_4 ++ dktX1_mostSteps_5
def dkwX1_mostSteps_3 : List UInt8 := [16, 10, 112, 6, 162, 0, 41, 42, 180, 0, 43, 21, 4, 16, 10, 108, 182, 0, 53, 154, 0, 26, 42, 3]
abbrev dktX1_mostSteps_3 : List UInt8 := dkwX1_mostSteps_3 ++ dktX1_mostSteps_4
def dkwX1_mostSteps_2 : List UInt8 := [54, 4, 21, 4, 16, 10, 42, 180, 0, 43, 180, 0, 66, 104, 162, 0, 60, 27, 158, 0, 56, 21, 4]
abbrev dktX1_mostSteps_2 : List UInt8 := dkwX1_mostSteps_2 ++ dktX1_mostSteps_3
def dkwX1_mostSteps_1 : List UInt8 := [3, 50, 42, 180, 0, 43, 182, 0, 125, 42, 3, 27, 182, 0, 236, 62, 28, 154, 0, 5, 29, 172, 3]
abbrev dktX1_mostSteps_1 : List UInt8 := dkwX1_mostSteps_1 ++ dktX1_mostSteps_2
def dkwX1_mostSteps_0 : List UInt8 := [27, 3, 6, 184, 0, 39, 153, 0, 12, 28, 3, 4, 184, 0, 39, 154, 0, 5, 2, 172, 42, 180, 0, 228]
abbrev dktX1_mostSteps_0 : List UInt8 := dkwX1_mostSteps_0 ++ dktX1_mostSteps_1
theorem dksX1_mostSteps_0 : cX1_mostSteps.data.toList.drop 0 = dktX1_mostSteps_0 := by decide +kernel
theorem dksX1_mostSteps_1 : cX1_mostSteps.data.toList.drop 24 = dktX1_mostSteps_1 := dk_seg dksX1_mostSteps_0 24 rfl rfl
theorem dksX1_mostSteps_2 : cX1_mostSteps.data.toList.drop 47 = dktX1_mostSteps_2 := dk_seg dksX1_mostSteps_1 23 rfl rfl
theorem dksX1_mostSteps_3 : cX1_mostSteps.data.toList.drop 70 = dktX1_mostSteps_3 := dk_seg dksX1_mostSteps_2 23 rfl rfl
theorem dksX1_mostSteps_4 : cX1_mostSteps.data.toList.drop 94 = dktX1_mostSteps_4 := dk_seg dksX1_mostSteps_3 24 rfl rfl
theorem dksX1_mostSteps_5 : cX1_mostSteps.data.toList.drop 118 = dktX1_mostSteps_5 := dk_seg dksX1_mostSteps_4 24 rfl rfl
theorem dX1_mostSteps_0 : decode cX1_mostSteps 0 = .ok (.iload_n 1, 1) := dk_27 (dk_at dksX1_mostSteps_0 0 rfl rfl)
theorem dX1_mostSteps_1 : decode cX1_mostSteps 1 = .ok (.iconst 0, 1) := dk_3 (dk_at dksX1_mostSteps_0 1 rfl rfl)
theorem dX1_mostSteps_2 : decode cX1_mostSteps 2 = .ok (.iconst 3, 1) := dk_6 (dk_at dksX1_mostSteps_0 2 rfl rfl)
theorem dX1_mostSteps_3 : decode cX1_mostSteps 3 = .ok (.invokestatic 39, 3) := dk_184 0 39 (dk_at dksX1_mostSteps_0 3 rfl rfl)
theorem dX1_mostSteps_6 : decode cX1_mostSteps 6 = .ok (.ifCond .eq 12, 3) := dk_153 0 12 (dk_at dksX1_mostSteps_0 6 rfl rfl)
theorem dX1_mostSteps_9 : decode cX1_mostSteps 9 = .ok (.iload_n 2, 1) := dk_28 (dk_at dksX1_mostSteps_0 9 rfl rfl)
theorem dX1_mostSteps_10 : decode cX1_mostSteps 10 = .ok (.iconst 0, 1) := dk_3 (dk_at dksX1_mostSteps_0 10 rfl rfl)
theorem dX1_mostSteps_11 : decode cX1_mostSteps 11 = .ok (.iconst 1, 1) := dk_4 (dk_at dksX1_mostSteps_0 11 rfl rfl)
theorem dX1_mostSteps_12 : decode cX1_mostSteps 12 = .ok (.invokestatic 39, 3) := dk_184 0 39 (dk_at dksX1_mostSteps_0 12 rfl rfl)
theorem dX1_mostSteps_15 : decode cX1_mostSteps 15 = .ok (.ifCond .ne 5, 3) := dk_154 0 5 (dk_at dksX1_mostSteps_0 15 rfl rfl)
theorem dX1_mostSteps_18 : decode cX1_mostSteps 18 = .ok (.iconst (-1), 1) := dk_2 (dk_at dksX1_mostSteps_0 18 rfl rfl)
theorem dX1_mostSteps_19 : decode cX1_mostSteps 19 = .ok (.ireturn, 1) := dk_172 (dk_at dksX1_mostSteps_0 19 rfl rfl)
theorem dX1_mostSteps_20 : decode cX1_mostSteps 20 = .ok (.aload_n 0, 1) := dk_42 (dk_at dksX1_mostSteps_0 20 rfl rfl)
theorem dX1_mostSteps_21 : decode cX1_mostSteps 21 = .ok (.getfield 228, 3) := dk_180 0 228 (dk_at dksX1_mostSteps_0 21 rfl rfl)
theorem dX1_mostSteps_24 : decode cX1_mostSteps 24 = .ok (.iconst 0, 1) := dk_3 (dk_at dksX1_mostSteps_1 0 rfl rfl)
theorem dX1_mostSteps_25 : decode cX1_mostSteps 25 = .ok (.aaload, 1) := dk_50 (dk_at dksX1_mostSteps_1 1 rfl rfl)
theorem dX1_mostSteps_26 : decode cX1_mostSteps 26 = .ok (.aload_n 0, 1) := dk_42 (dk_at dksX1_mostSteps_1 2 rfl rfl)
theorem dX1_mostSteps_27 : decode cX1_mostSteps 27 = .ok (.getfield 43, 3) := dk_180 0 43 (dk_at dksX1_mostSteps_1 3 rfl rfl)
theorem dX1_mostSteps_30 : decode cX1_mostSteps 30 = .ok (.invokevirtual 125, 3) := dk_182 0 125 (dk_at dksX1_mostSteps_1 6 rfl rfl)
theorem dX1_mostSteps_33 : decode cX1_mostSteps 33 = .ok (.aload_n 0, 1) := dk_42 (dk_at dksX1_mostSteps_1 9 rfl rfl)
theorem dX1_mostSteps_34 : decode cX1_mostSteps 34 = .ok (.iconst 0, 1) := dk_3 (dk_at dksX1_mostSteps_1 10 rfl rfl)
theorem dX1_mostSteps_35 : decode cX1_mostSteps 35 = .ok (.iload_n 1, 1) := dk_27 (dk_at dksX1_mostSteps_1 11 rfl rfl)
theorem dX1_mostSteps_36 : decode cX1_mostSteps 36 = .ok (.invokevirtual 236, 3) := dk_182 0 236 (dk_at dksX1_mostSteps_1 12 rfl rfl)
theorem dX1_mostSteps_39 : decode cX1_mostSteps 39 = .ok (.istore_n 3, 1) := dk_62 (dk_at dksX1_mostSteps_1 15 rfl rfl)
theorem dX1_mostSteps_40 : decode cX1_mostSteps 40 = .ok (.iload_n 2, 1) := dk_28 (dk_at dksX1_mostSteps_1 16 rfl rfl)
theorem dX1_mostSteps_41 : decode cX1_mostSteps 41 = .ok (.ifCond .ne 5, 3) := dk_154 0 5 (dk_at dksX1_mostSteps_1 17 rfl rfl)
theorem dX1_mostSteps_44 : decode cX1_mostSteps 44 = .ok (.iload_n 3, 1) := dk_29 (dk_at dksX1_mostSteps_1 20 rfl rfl)
theorem dX1_mostSteps_45 : decode cX1_mostSteps 45 = .ok (.ireturn, 1) := dk_172 (dk_at dksX1_mostSteps_1 21 rfl rfl)
theorem dX1_mostSteps_46 : decode cX1_mostSteps 46 = .ok (.iconst 0, 1) := dk_3 (dk_at dksX1_mostSteps_1 22 rfl rfl)
theorem dX1_mostSteps_47 : decode cX1_mostSteps 47 = .ok (.istore 4, 2) := dk_54 4 (dk_at dksX1_mostSteps_2 0 rfl rfl)
theorem dX1_mostSteps_49 : decode cX1_mostSteps 49 = .ok (.iload 4, 2) := dk_21 4 (dk_at dksX1_mostSteps_2 2 rfl rfl)
theorem dX1_mostSteps_51 : decode cX1_mostSteps 51 = .ok (.bipush 10, 2) := dk_16 10 (dk_at dksX1_mostSteps_2 4 rfl rfl)
theorem dX1_mostSteps_53 : decode cX1_mostSteps 53 = .ok (.aload_n 0, 1) := dk_42 (dk_at dksX1_mostSteps_2 6 rfl rfl)
theorem dX1_mostSteps_54 : decode cX1_mostSteps 54 = .ok (.getfield 43, 3) := dk_180 0 43 (dk_at dksX1_mostSteps_2 7 rfl rfl)
theorem dX1_mostSteps_57 : decode cX1_mostSteps 57 = .ok (.getfield 66, 3) := dk_180 0 66 (dk_at dksX1_mostSteps_2 10 rfl rfl)
theorem dX1_mostSteps_60 : decode cX1_mostSteps 60 = .ok (.imul, 1) := dk_104 (dk_at dksX1_mostSteps_2 13 rfl rfl)
theorem dX1_mostSteps_61 : decode cX1_mostSteps 61 = .ok (.if_icmp .ge 60, 3) := dk_162 0 60 (dk_at dksX1_mostSteps_2 14 rfl rfl)
theorem dX1_mostSteps_64 : decode cX1_mostSteps 64 = .ok (.iload_n 1, 1) := dk_27 (dk_at dksX1_mostSteps_2 17 rfl rfl)
theorem dX1_mostSteps_65 : decode cX1_mostSteps 65 = .ok (.ifCond .le 56, 3) := dk_158 0 56 (dk_at dksX1_mostSteps_2 18 rfl rfl)
theorem dX1_mostSteps_68 : decode cX1_mostSteps 68 = .ok (.iload 4, 2) := dk_21 4 (dk_at dksX1_mostSteps_2 21 rfl rfl)
theorem dX1_mostSteps_70 : decode cX1_mostSteps 70 = .ok (.bipush 10, 2) := dk_16 10 (dk_at dksX1_mostSteps_3 0 rfl rfl)
theorem dX1_mostSteps_72 : decode cX1_mostSteps 72 = .ok (.irem, 1) := dk_112 (dk_at dksX1_mostSteps_3 2 rfl rfl)
theorem dX1_mostSteps_73 : decode cX1_mostSteps 73 = .ok (.iconst 3, 1) := dk_6 (dk_at dksX1_mostSteps_3 3 rfl rfl)
theorem dX1_mostSteps_74 : decode cX1_mostSteps 74 = .ok (.if_icmp .ge 41, 3) := dk_162 0 41 (dk_at dksX1_mostSteps_3 4 rfl rfl)
theorem dX1_mostSteps_77 : decode cX1_mostSteps 77 = .ok (.aload_n 0, 1) := dk_42 (dk_at dksX1_mostSteps_3 7 rfl rfl)
theorem dX1_mostSteps_78 : decode cX1_mostSteps 78 = .ok (.getfield 43, 3) := dk_180 0 43 (dk_at dksX1_mostSteps_3 8 rfl rfl)
theorem dX1_mostSteps_81 : decode cX1_mostSteps 81 = .ok (.iload 4, 2) := dk_21 4 (dk_at dksX1_mostSteps_3 11 rfl rfl)
theorem dX1_mostSteps_83 : decode cX1_mostSteps 83 = .ok (.bipush 10, 2) := dk_16 10 (dk_at dksX1_mostSteps_3 13 rfl rfl)
theorem dX1_mostSteps_85 : decode cX1_mostSteps 85 = .ok (.idiv, 1) := dk_108 (dk_at dksX1_mostSteps_3 15 rfl rfl)
theorem dX1_mostSteps_86 : decode cX1_mostSteps 86 = .ok (.invokevirtual 53, 3) := dk_182 0 53 (dk_at dksX1_mostSteps_3 16 rfl rfl)
theorem dX1_mostSteps_89 : decode cX1_mostSteps 89 = .ok (.ifCond .ne 26, 3) := dk_154 0 26 (dk_at dksX1_mostSteps_3 19 rfl rfl)
theorem dX1_mostSteps_92 : decode cX1_mostSteps 92 = .ok (.aload_n 0, 1) := dk_42 (dk_at dksX1_mostSteps_3 22 rfl rfl)
theorem dX1_mostSteps_93 : decode cX1_mostSteps 93 = .ok (.iconst 0, 1) := dk_3 (dk_at dksX1_mostSteps_3 23 rfl rfl)
theorem dX1_mostSteps_94 : decode cX1_mostSteps 94 = .ok (.iload_n 1, 1) := dk_27 (dk_at dksX1_mostSteps_4 0 rfl rfl)
theorem dX1_mostSteps_95 : decode cX1_mostSteps 95 = .ok (.iload 4, 2) := dk_21 4 (dk_at dksX1_mostSteps_4 1 rfl rfl)
theorem dX1_mostSteps_97 : decode cX1_mostSteps 97 = .ok (.bipush 10, 2) := dk_16 10 (dk_at dksX1_mostSteps_4 3 rfl rfl)
theorem dX1_mostSteps_99 : decode cX1_mostSteps 99 = .ok (.idiv, 1) := dk_108 (dk_at dksX1_mostSteps_4 5 rfl rfl)
theorem dX1_mostSteps_100 : decode cX1_mostSteps 100 = .ok (.iload 4, 2) := dk_21 4 (dk_at dksX1_mostSteps_4 6 rfl rfl)
theorem dX1_mostSteps_102 : decode cX1_mostSteps 102 = .ok (.bipush 10, 2) := dk_16 10 (dk_at dksX1_mostSteps_4 8 rfl rfl)
theorem dX1_mostSteps_104 : decode cX1_mostSteps 104 = .ok (.irem, 1) := dk_112 (dk_at dksX1_mostSteps_4 10 rfl rfl)
theorem dX1_mostSteps_105 : decode cX1_mostSteps 105 = .ok (.invokevirtual 232, 3) := dk_182 0 232 (dk_at dksX1_mostSteps_4 11 rfl rfl)
theorem dX1_mostSteps_108 : decode cX1_mostSteps 108 = .ok (.iload_n 3, 1) := dk_29 (dk_at dksX1_mostSteps_4 14 rfl rfl)
theorem dX1_mostSteps_109 : decode cX1_mostSteps 109 = .ok (.if_icmp .ne 6, 3) := dk_160 0 6 (dk_at dksX1_mostSteps_4 15 rfl rfl)
theorem dX1_mostSteps_112 : decode cX1_mostSteps 112 = .ok (.iload 4, 2) := dk_21 4 (dk_at dksX1_mostSteps_4 18 rfl rfl)
theorem dX1_mostSteps_114 : decode cX1_mostSteps 114 = .ok (.ireturn, 1) := dk_172 (dk_at dksX1_mostSteps_4 20 rfl rfl)
theorem dX1_mostSteps_115 : decode cX1_mostSteps 115 = .ok (.iinc 4 1, 3) := dk_132 4 1 (dk_at dksX1_mostSteps_4 21 rfl rfl)
theorem dX1_mostSteps_118 : decode cX1_mostSteps 118 = .ok (.goto (-69), 3) := dk_167 255 187 (dk_at dksX1_mostSteps_5 0 rfl rfl)
theorem dX1_mostSteps_121 : decode cX1_mostSteps 121 = .ok (.bipush (-4), 2) := dk_16 252 (dk_at dksX1_mostSteps_5 3 rfl rfl)
theorem dX1_mostSteps_123 : decode cX1_mostSteps 123 = .ok (.ireturn, 1) := dk_172 (dk_at dksX1_mostSteps_5 5 rfl rfl)
abbrev cX1_mostFrom : ByteArray := prog_1_method_30_code
def yX1_mostFrom : MethodName := ⟨RX1, "mostFrom", "(II)I"⟩
def dkwX1_mostFrom_3 : List UInt8 := [132, 6, 1, 167, 255, 221, 132, 5, 1, 167, 255, 203, 21, 4, 172]
abbrev dktX1_mostFrom_3 : List UInt8 := dkwX1_mostFrom_3 ++ []
def dkwX1_mostFrom_2 : List UInt8 := [182, 0, 53, 154, 0, 26, 21, 4, 42, 27, 28, 21, 5, 21, 6, 182, 0, 232, 184, 0, 9, 54, 4]
abbrev dktX1_mostFrom_2 : List UInt8 := dkwX1_mostFrom_2 ++ dktX1_mostFrom_3
def dkwX1_mostFrom_1 : List UInt8 := [54, 5, 21, 5, 45, 180, 0, 66, 162, 0, 50, 3, 54, 6, 21, 6, 6, 162, 0, 35, 45, 21, 5]
abbrev dktX1_mostFrom_1 : List UInt8 := dkwX1_mostFrom_1 ++ dktX1_mostFrom_2
def dkwX1_mostFrom_0 : List UInt8 := [42, 180, 0, 228, 27, 50, 78, 28, 154, 0, 8, 45, 182, 0, 199, 172, 45, 182, 0, 199, 54, 4, 3]
abbrev dktX1_mostFrom_0 : List UInt8 := dkwX1_mostFrom_0 ++ dktX1_mostFrom_1
theorem dksX1_mostFrom_0 : cX1_mostFrom.data.toList.drop 0 = dktX1_mostFrom_0 := by decide +kernel
theorem dksX1_mostFrom_1 : cX1_mostFrom.data.toList.drop 23 = dktX1_mostFrom_1 := dk_seg dksX1_mostFrom_0 23 rfl rfl
theorem dksX1_mostFrom_2 : cX1_mostFrom.data.toList.drop 46 = dktX1_mostFrom_2 := dk_seg dksX1_mostFrom_1 23 rfl rfl
theorem dksX1_mostFrom_3 : cX1_mostFrom.data.toList.drop 69 = dktX1_mostFrom_3 := dk_seg dksX1_mostFrom_2 23 rfl rfl
theorem dX1_mostFrom_0 : decode cX1_mostFrom 0 = .ok (.aload_n 0, 1) := dk_42 (dk_at dksX1_mostFrom_0 0 rfl rfl)
theorem dX1_mostFrom_1 : decode cX1_mostFrom 1 = .ok (.getfield 228, 3) := dk_180 0 228 (dk_at dksX1_mostFrom_0 1 rfl rfl)
theorem dX1_mostFrom_4 : decode cX1_mostFrom 4 = .ok (.iload_n 1, 1) := dk_27 (dk_at dksX1_mostFrom_0 4 rfl rfl)
theorem dX1_mostFrom_5 : decode cX1_mostFrom 5 = .ok (.aaload, 1) := dk_50 (dk_at dksX1_mostFrom_0 5 rfl rfl)
theorem dX1_mostFrom_6 : decode cX1_mostFrom 6 = .ok (.astore_n 3, 1) := dk_78 (dk_at dksX1_mostFrom_0 6 rfl rfl)
theorem dX1_mostFrom_7 : decode cX1_mostFrom 7 = .ok (.iload_n 2, 1) := dk_28 (dk_at dksX1_mostFrom_0 7 rfl rfl)
theorem dX1_mostFrom_8 : decode cX1_mostFrom 8 = .ok (.ifCond .ne 8, 3) := dk_154 0 8 (dk_at dksX1_mostFrom_0 8 rfl rfl)
theorem dX1_mostFrom_11 : decode cX1_mostFrom 11 = .ok (.aload_n 3, 1) := dk_45 (dk_at dksX1_mostFrom_0 11 rfl rfl)
theorem dX1_mostFrom_12 : decode cX1_mostFrom 12 = .ok (.invokevirtual 199, 3) := dk_182 0 199 (dk_at dksX1_mostFrom_0 12 rfl rfl)
theorem dX1_mostFrom_15 : decode cX1_mostFrom 15 = .ok (.ireturn, 1) := dk_172 (dk_at dksX1_mostFrom_0 15 rfl rfl)
theorem dX1_mostFrom_16 : decode cX1_mostFrom 16 = .ok (.aload_n 3, 1) := dk_45 (dk_at dksX1_mostFrom_0 16 rfl rfl)
theorem dX1_mostFrom_17 : decode cX1_mostFrom 17 = .ok (.invokevirtual 199, 3) := dk_182 0 199 (dk_at dksX1_mostFrom_0 17 rfl rfl)
theorem dX1_mostFrom_20 : decode cX1_mostFrom 20 = .ok (.istore 4, 2) := dk_54 4 (dk_at dksX1_mostFrom_0 20 rfl rfl)
theorem dX1_mostFrom_22 : decode cX1_mostFrom 22 = .ok (.iconst 0, 1) := dk_3 (dk_at dksX1_mostFrom_0 22 rfl rfl)
theorem dX1_mostFrom_23 : decode cX1_mostFrom 23 = .ok (.istore 5, 2) := dk_54 5 (dk_at dksX1_mostFrom_1 0 rfl rfl)
theorem dX1_mostFrom_25 : decode cX1_mostFrom 25 = .ok (.iload 5, 2) := dk_21 5 (dk_at dksX1_mostFrom_1 2 rfl rfl)
theorem dX1_mostFrom_27 : decode cX1_mostFrom 27 = .ok (.aload_n 3, 1) := dk_45 (dk_at dksX1_mostFrom_1 4 rfl rfl)
theorem dX1_mostFrom_28 : decode cX1_mostFrom 28 = .ok (.getfield 66, 3) := dk_180 0 66 (dk_at dksX1_mostFrom_1 5 rfl rfl)
theorem dX1_mostFrom_31 : decode cX1_mostFrom 31 = .ok (.if_icmp .ge 50, 3) := dk_162 0 50 (dk_at dksX1_mostFrom_1 8 rfl rfl)
theorem dX1_mostFrom_34 : decode cX1_mostFrom 34 = .ok (.iconst 0, 1) := dk_3 (dk_at dksX1_mostFrom_1 11 rfl rfl)
theorem dX1_mostFrom_35 : decode cX1_mostFrom 35 = .ok (.istore 6, 2) := dk_54 6 (dk_at dksX1_mostFrom_1 12 rfl rfl)
theorem dX1_mostFrom_37 : decode cX1_mostFrom 37 = .ok (.iload 6, 2) := dk_21 6 (dk_at dksX1_mostFrom_1 14 rfl rfl)
theorem dX1_mostFrom_39 : decode cX1_mostFrom 39 = .ok (.iconst 3, 1) := dk_6 (dk_at dksX1_mostFrom_1 16 rfl rfl)
theorem dX1_mostFrom_40 : decode cX1_mostFrom 40 = .ok (.if_icmp .ge 35, 3) := dk_162 0 35 (dk_at dksX1_mostFrom_1 17 rfl rfl)
theorem dX1_mostFrom_43 : decode cX1_mostFrom 43 = .ok (.aload_n 3, 1) := dk_45 (dk_at dksX1_mostFrom_1 20 rfl rfl)
theorem dX1_mostFrom_44 : decode cX1_mostFrom 44 = .ok (.iload 5, 2) := dk_21 5 (dk_at dksX1_mostFrom_1 21 rfl rfl)
theorem dX1_mostFrom_46 : decode cX1_mostFrom 46 = .ok (.invokevirtual 53, 3) := dk_182 0 53 (dk_at dksX1_mostFrom_2 0 rfl rfl)
theorem dX1_mostFrom_49 : decode cX1_mostFrom 49 = .ok (.ifCond .ne 26, 3) := dk_154 0 26 (dk_at dksX1_mostFrom_2 3 rfl rfl)
theorem dX1_mostFrom_52 : decode cX1_mostFrom 52 = .ok (.iload 4, 2) := dk_21 4 (dk_at dksX1_mostFrom_2 6 rfl rfl)
theorem dX1_mostFrom_54 : decode cX1_mostFrom 54 = .ok (.aload_n 0, 1) := dk_42 (dk_at dksX1_mostFrom_2 8 rfl rfl)
theorem dX1_mostFrom_55 : decode cX1_mostFrom 55 = .ok (.iload_n 1, 1) := dk_27 (dk_at dksX1_mostFrom_2 9 rfl rfl)
theorem dX1_mostFrom_56 : decode cX1_mostFrom 56 = .ok (.iload_n 2, 1) := dk_28 (dk_at dksX1_mostFrom_2 10 rfl rfl)
theorem dX1_mostFrom_57 : decode cX1_mostFrom 57 = .ok (.iload 5, 2) := dk_21 5 (dk_at dksX1_mostFrom_2 11 rfl rfl)
theorem dX1_mostFrom_59 : decode cX1_mostFrom 59 = .ok (.iload 6, 2) := dk_21 6 (dk_at dksX1_mostFrom_2 13 rfl rfl)
theorem dX1_mostFrom_61 : decode cX1_mostFrom 61 = .ok (.invokevirtual 232, 3) := dk_182 0 232 (dk_at dksX1_mostFrom_2 15 rfl rfl)
theorem dX1_mostFrom_64 : decode cX1_mostFrom 64 = .ok (.invokestatic 9, 3) := dk_184 0 9 (dk_at dksX1_mostFrom_2 18 rfl rfl)
theorem dX1_mostFrom_67 : decode cX1_mostFrom 67 = .ok (.istore 4, 2) := dk_54 4 (dk_at dksX1_mostFrom_2 21 rfl rfl)
theorem dX1_mostFrom_69 : decode cX1_mostFrom 69 = .ok (.iinc 6 1, 3) := dk_132 6 1 (dk_at dksX1_mostFrom_3 0 rfl rfl)
theorem dX1_mostFrom_72 : decode cX1_mostFrom 72 = .ok (.goto (-35), 3) := dk_167 255 221 (dk_at dksX1_mostFrom_3 3 rfl rfl)
theorem dX1_mostFrom_75 : decode cX1_mostFrom 75 = .ok (.iinc 5 1, 3) := dk_132 5 1 (dk_at dksX1_mostFrom_3 6 rfl rfl)
theorem dX1_mostFrom_78 : decode cX1_mostFrom 78 = .ok (.goto (-53), 3) := dk_167 255 203 (dk_at dksX1_mostFrom_3 9 rfl rfl)
theorem dX1_mostFrom_81 : decode cX1_mostFrom 81 = .ok (.iload 4, 2) := dk_21 4 (dk_at dksX1_mostFrom_3 12 rfl rfl)
theorem dX1_mostFrom_83 : decode cX1_mostFrom 83 = .ok (.ireturn, 1) := dk_172 (dk_at dksX1_mostFrom_3 14 rfl rfl)
abbrev cX1_mostBy : ByteArray := prog_1_method_31_code
def yX1_mostBy : MethodName := ⟨RX1, "mostBy", "(IIII)I"⟩
def dkwX1_mostBy_1 : List UInt8 := [50, 29, 21, 4, 182, 0, 100, 87, 42, 27, 4, 96, 28, 4, 100, 182, 0, 236, 172]
abbrev dktX1_mostBy_1 : List UInt8 := dkwX1_mostBy_1 ++ []
def dkwX1_mostBy_0 : List UInt8 := [42, 180, 0, 228, 27, 4, 96, 50, 42, 180, 0, 228, 27, 50, 182, 0, 125, 42, 180, 0, 228, 27, 4, 96]
abbrev dktX1_mostBy_0 : List UInt8 := dkwX1_mostBy_0 ++ dktX1_mostBy_1
theorem dksX1_mostBy_0 : cX1_mostBy.data.toList.drop 0 = dktX1_mostBy_0 := by decide +kernel
theorem dksX1_mostBy_1 : cX1_mostBy.data.toList.drop 24 = dktX1_mostBy_1 := dk_seg dksX1_mostBy_0 24 rfl rfl
theorem dX1_mostBy_0 : decode cX1_mostBy 0 = .ok (.aload_n 0, 1) := dk_42 (dk_at dksX1_mostBy_0 0 rfl rfl)
theorem dX1_mostBy_1 : decode cX1_mostBy 1 = .ok (.getfield 228, 3) := dk_180 0 228 (dk_at dksX1_mostBy_0 1 rfl rfl)
theorem dX1_mostBy_4 : decode cX1_mostBy 4 = .ok (.iload_n 1, 1) := dk_27 (dk_at dksX1_mostBy_0 4 rfl rfl)
theorem dX1_mostBy_5 : decode cX1_mostBy 5 = .ok (.iconst 1, 1) := dk_4 (dk_at dksX1_mostBy_0 5 rfl rfl)
theorem dX1_mostBy_6 : decode cX1_mostBy 6 = .ok (.iadd, 1) := dk_96 (dk_at dksX1_mostBy_0 6 rfl rfl)
theorem dX1_mostBy_7 : decode cX1_mostBy 7 = .ok (.aaload, 1) := dk_50 (dk_at dksX1_mostBy_0 7 rfl rfl)
theorem dX1_mostBy_8 : decode cX1_mostBy 8 = .ok (.aload_n 0, 1) := dk_42 (dk_at dksX1_mostBy_0 8 rfl rfl)
theorem dX1_mostBy_9 : decode cX1_mostBy 9 = .ok (.getfield 228, 3) := dk_180 0 228 (dk_at dksX1_mostBy_0 9 rfl rfl)
theorem dX1_mostBy_12 : decode cX1_mostBy 12 = .ok (.iload_n 1, 1) := dk_27 (dk_at dksX1_mostBy_0 12 rfl rfl)
theorem dX1_mostBy_13 : decode cX1_mostBy 13 = .ok (.aaload, 1) := dk_50 (dk_at dksX1_mostBy_0 13 rfl rfl)
theorem dX1_mostBy_14 : decode cX1_mostBy 14 = .ok (.invokevirtual 125, 3) := dk_182 0 125 (dk_at dksX1_mostBy_0 14 rfl rfl)
theorem dX1_mostBy_17 : decode cX1_mostBy 17 = .ok (.aload_n 0, 1) := dk_42 (dk_at dksX1_mostBy_0 17 rfl rfl)
theorem dX1_mostBy_18 : decode cX1_mostBy 18 = .ok (.getfield 228, 3) := dk_180 0 228 (dk_at dksX1_mostBy_0 18 rfl rfl)
theorem dX1_mostBy_21 : decode cX1_mostBy 21 = .ok (.iload_n 1, 1) := dk_27 (dk_at dksX1_mostBy_0 21 rfl rfl)
theorem dX1_mostBy_22 : decode cX1_mostBy 22 = .ok (.iconst 1, 1) := dk_4 (dk_at dksX1_mostBy_0 22 rfl rfl)
theorem dX1_mostBy_23 : decode cX1_mostBy 23 = .ok (.iadd, 1) := dk_96 (dk_at dksX1_mostBy_0 23 rfl rfl)
theorem dX1_mostBy_24 : decode cX1_mostBy 24 = .ok (.aaload, 1) := dk_50 (dk_at dksX1_mostBy_1 0 rfl rfl)
theorem dX1_mostBy_25 : decode cX1_mostBy 25 = .ok (.iload_n 3, 1) := dk_29 (dk_at dksX1_mostBy_1 1 rfl rfl)
theorem dX1_mostBy_26 : decode cX1_mostBy 26 = .ok (.iload 4, 2) := dk_21 4 (dk_at dksX1_mostBy_1 2 rfl rfl)
theorem dX1_mostBy_28 : decode cX1_mostBy 28 = .ok (.invokevirtual 100, 3) := dk_182 0 100 (dk_at dksX1_mostBy_1 4 rfl rfl)
theorem dX1_mostBy_31 : decode cX1_mostBy 31 = .ok (.pop, 1) := dk_87 (dk_at dksX1_mostBy_1 7 rfl rfl)
theorem dX1_mostBy_32 : decode cX1_mostBy 32 = .ok (.aload_n 0, 1) := dk_42 (dk_at dksX1_mostBy_1 8 rfl rfl)
theorem dX1_mostBy_33 : decode cX1_mostBy 33 = .ok (.iload_n 1, 1) := dk_27 (dk_at dksX1_mostBy_1 9 rfl rfl)
theorem dX1_mostBy_34 : decode cX1_mostBy 34 = .ok (.iconst 1, 1) := dk_4 (dk_at dksX1_mostBy_1 10 rfl rfl)
theorem dX1_mostBy_35 : decode cX1_mostBy 35 = .ok (.iadd, 1) := dk_96 (dk_at dksX1_mostBy_1 11 rfl rfl)
theorem dX1_mostBy_36 : decode cX1_mostBy 36 = .ok (.iload_n 2, 1) := dk_28 (dk_at dksX1_mostBy_1 12 rfl rfl)
theorem dX1_mostBy_37 : decode cX1_mostBy 37 = .ok (.iconst 1, 1) := dk_4 (dk_at dksX1_mostBy_1 13 rfl rfl)
theorem dX1_mostBy_38 : decode cX1_mostBy 38 = .ok (.isub, 1) := dk_100 (dk_at dksX1_mostBy_1 14 rfl rfl)
theorem dX1_mostBy_39 : decode cX1_mostBy 39 = .ok (.invokevirtual 236, 3) := dk_182 0 236 (dk_at dksX1_mostBy_1 15 rfl rfl)
theorem dX1_mostBy_42 : decode cX1_mostBy 42 = .ok (.ireturn, 1) := dk_172 (dk_at dksX1_mostBy_1 18 rfl rfl)
abbrev cX1_byTurns : ByteArray := prog_1_method_35_code
def yX1_byTurns : MethodName := ⟨RX1, "byTurns", "(II)I"⟩
def dkwX1_byTurns_3 : List UInt8 := [167, 255, 222, 28, 154, 0, 16, 42, 180, 0, 63, 182, 0, 253, 184, 1, 0, 167, 0, 4, 29, 172]
abbrev dktX1_byTurns_3 : List UInt8 := dkwX1_byTurns_3 ++ []
def dkwX1_byTurns_2 : List UInt8 := [182, 0, 246, 154, 0, 24, 29, 42, 182, 0, 250, 153, 0, 7, 4, 167, 0, 4, 3, 96, 62, 132, 4, 1]
abbrev dktX1_byTurns_2 : List UInt8 := dkwX1_byTurns_2 ++ dktX1_byTurns_3
def dkwX1_byTurns_1 : List UInt8 := [182, 0, 242, 42, 3, 181, 0, 239, 3, 62, 3, 54, 4, 21, 4, 27, 162, 0, 34, 42, 180, 0, 63]
abbrev dktX1_byTurns_1 : List UInt8 := dkwX1_byTurns_1 ++ dktX1_byTurns_2
def dkwX1_byTurns_0 : List UInt8 := [27, 3, 16, 99, 184, 0, 39, 153, 0, 12, 28, 3, 4, 184, 0, 39, 154, 0, 5, 2, 172, 42]
abbrev dktX1_byTurns_0 : List UInt8 := dkwX1_byTurns_0 ++ dktX1_byTurns_1
theorem dksX1_byTurns_0 : cX1_byTurns.data.toList.drop 0 = dktX1_byTurns_0 := by decide +kernel
theorem dksX1_byTurns_1 : cX1_byTurns.data.toList.drop 22 = dktX1_byTurns_1 := dk_seg dksX1_byTurns_0 22 rfl rfl
theorem dksX1_byTurns_2 : cX1_byTurns.data.toList.drop 45 = dktX1_byTurns_2 := dk_seg dksX1_byTurns_1 23 rfl rfl
theorem dksX1_byTurns_3 : cX1_byTurns.data.toList.drop 69 = dktX1_byTurns_3 := dk_seg dksX1_byTurns_2 24 rfl rfl
theorem dX1_byTurns_0 : decode cX1_byTurns 0 = .ok (.iload_n 1, 1) := dk_27 (dk_at dksX1_byTurns_0 0 rfl rfl)
theorem dX1_byTurns_1 : decode cX1_byTurns 1 = .ok (.iconst 0, 1) := dk_3 (dk_at dksX1_byTurns_0 1 rfl rfl)
theorem dX1_byTurns_2 : decode cX1_byTurns 2 = .ok (.bipush 99, 2) := dk_16 99 (dk_at dksX1_byTurns_0 2 rfl rfl)
theorem dX1_byTurns_4 : decode cX1_byTurns 4 = .ok (.invokestatic 39, 3) := dk_184 0 39 (dk_at dksX1_byTurns_0 4 rfl rfl)
theorem dX1_byTurns_7 : decode cX1_byTurns 7 = .ok (.ifCond .eq 12, 3) := dk_153 0 12 (dk_at dksX1_byTurns_0 7 rfl rfl)
theorem dX1_byTurns_10 : decode cX1_byTurns 10 = .ok (.iload_n 2, 1) := dk_28 (dk_at dksX1_byTurns_0 10 rfl rfl)
theorem dX1_byTurns_11 : decode cX1_byTurns 11 = .ok (.iconst 0, 1) := dk_3 (dk_at dksX1_byTurns_0 11 rfl rfl)
theorem dX1_byTurns_12 : decode cX1_byTurns 12 = .ok (.iconst 1, 1) := dk_4 (dk_at dksX1_byTurns_0 12 rfl rfl)
theorem dX1_byTurns_13 : decode cX1_byTurns 13 = .ok (.invokestatic 39, 3) := dk_184 0 39 (dk_at dksX1_byTurns_0 13 rfl rfl)
theorem dX1_byTurns_16 : decode cX1_byTurns 16 = .ok (.ifCond .ne 5, 3) := dk_154 0 5 (dk_at dksX1_byTurns_0 16 rfl rfl)
theorem dX1_byTurns_19 : decode cX1_byTurns 19 = .ok (.iconst (-1), 1) := dk_2 (dk_at dksX1_byTurns_0 19 rfl rfl)
theorem dX1_byTurns_20 : decode cX1_byTurns 20 = .ok (.ireturn, 1) := dk_172 (dk_at dksX1_byTurns_0 20 rfl rfl)
theorem dX1_byTurns_21 : decode cX1_byTurns 21 = .ok (.aload_n 0, 1) := dk_42 (dk_at dksX1_byTurns_0 21 rfl rfl)
theorem dX1_byTurns_22 : decode cX1_byTurns 22 = .ok (.invokevirtual 242, 3) := dk_182 0 242 (dk_at dksX1_byTurns_1 0 rfl rfl)
theorem dX1_byTurns_25 : decode cX1_byTurns 25 = .ok (.aload_n 0, 1) := dk_42 (dk_at dksX1_byTurns_1 3 rfl rfl)
theorem dX1_byTurns_26 : decode cX1_byTurns 26 = .ok (.iconst 0, 1) := dk_3 (dk_at dksX1_byTurns_1 4 rfl rfl)
theorem dX1_byTurns_27 : decode cX1_byTurns 27 = .ok (.putfield 239, 3) := dk_181 0 239 (dk_at dksX1_byTurns_1 5 rfl rfl)
theorem dX1_byTurns_30 : decode cX1_byTurns 30 = .ok (.iconst 0, 1) := dk_3 (dk_at dksX1_byTurns_1 8 rfl rfl)
theorem dX1_byTurns_31 : decode cX1_byTurns 31 = .ok (.istore_n 3, 1) := dk_62 (dk_at dksX1_byTurns_1 9 rfl rfl)
theorem dX1_byTurns_32 : decode cX1_byTurns 32 = .ok (.iconst 0, 1) := dk_3 (dk_at dksX1_byTurns_1 10 rfl rfl)
theorem dX1_byTurns_33 : decode cX1_byTurns 33 = .ok (.istore 4, 2) := dk_54 4 (dk_at dksX1_byTurns_1 11 rfl rfl)
theorem dX1_byTurns_35 : decode cX1_byTurns 35 = .ok (.iload 4, 2) := dk_21 4 (dk_at dksX1_byTurns_1 13 rfl rfl)
theorem dX1_byTurns_37 : decode cX1_byTurns 37 = .ok (.iload_n 1, 1) := dk_27 (dk_at dksX1_byTurns_1 15 rfl rfl)
theorem dX1_byTurns_38 : decode cX1_byTurns 38 = .ok (.if_icmp .ge 34, 3) := dk_162 0 34 (dk_at dksX1_byTurns_1 16 rfl rfl)
theorem dX1_byTurns_41 : decode cX1_byTurns 41 = .ok (.aload_n 0, 1) := dk_42 (dk_at dksX1_byTurns_1 19 rfl rfl)
theorem dX1_byTurns_42 : decode cX1_byTurns 42 = .ok (.getfield 63, 3) := dk_180 0 63 (dk_at dksX1_byTurns_1 20 rfl rfl)
theorem dX1_byTurns_45 : decode cX1_byTurns 45 = .ok (.invokevirtual 246, 3) := dk_182 0 246 (dk_at dksX1_byTurns_2 0 rfl rfl)
theorem dX1_byTurns_48 : decode cX1_byTurns 48 = .ok (.ifCond .ne 24, 3) := dk_154 0 24 (dk_at dksX1_byTurns_2 3 rfl rfl)
theorem dX1_byTurns_51 : decode cX1_byTurns 51 = .ok (.iload_n 3, 1) := dk_29 (dk_at dksX1_byTurns_2 6 rfl rfl)
theorem dX1_byTurns_52 : decode cX1_byTurns 52 = .ok (.aload_n 0, 1) := dk_42 (dk_at dksX1_byTurns_2 7 rfl rfl)
theorem dX1_byTurns_53 : decode cX1_byTurns 53 = .ok (.invokevirtual 250, 3) := dk_182 0 250 (dk_at dksX1_byTurns_2 8 rfl rfl)
theorem dX1_byTurns_56 : decode cX1_byTurns 56 = .ok (.ifCond .eq 7, 3) := dk_153 0 7 (dk_at dksX1_byTurns_2 11 rfl rfl)
theorem dX1_byTurns_59 : decode cX1_byTurns 59 = .ok (.iconst 1, 1) := dk_4 (dk_at dksX1_byTurns_2 14 rfl rfl)
theorem dX1_byTurns_60 : decode cX1_byTurns 60 = .ok (.goto 4, 3) := dk_167 0 4 (dk_at dksX1_byTurns_2 15 rfl rfl)
theorem dX1_byTurns_63 : decode cX1_byTurns 63 = .ok (.iconst 0, 1) := dk_3 (dk_at dksX1_byTurns_2 18 rfl rfl)
theorem dX1_byTurns_64 : decode cX1_byTurns 64 = .ok (.iadd, 1) := dk_96 (dk_at dksX1_byTurns_2 19 rfl rfl)
theorem dX1_byTurns_65 : decode cX1_byTurns 65 = .ok (.istore_n 3, 1) := dk_62 (dk_at dksX1_byTurns_2 20 rfl rfl)
theorem dX1_byTurns_66 : decode cX1_byTurns 66 = .ok (.iinc 4 1, 3) := dk_132 4 1 (dk_at dksX1_byTurns_2 21 rfl rfl)
theorem dX1_byTurns_69 : decode cX1_byTurns 69 = .ok (.goto (-34), 3) := dk_167 255 222 (dk_at dksX1_byTurns_3 0 rfl rfl)
theorem dX1_byTurns_72 : decode cX1_byTurns 72 = .ok (.iload_n 2, 1) := dk_28 (dk_at dksX1_byTurns_3 3 rfl rfl)
theorem dX1_byTurns_73 : decode cX1_byTurns 73 = .ok (.ifCond .ne 16, 3) := dk_154 0 16 (dk_at dksX1_byTurns_3 4 rfl rfl)
theorem dX1_byTurns_76 : decode cX1_byTurns 76 = .ok (.aload_n 0, 1) := dk_42 (dk_at dksX1_byTurns_3 7 rfl rfl)
theorem dX1_byTurns_77 : decode cX1_byTurns 77 = .ok (.getfield 63, 3) := dk_180 0 63 (dk_at dksX1_byTurns_3 8 rfl rfl)
theorem dX1_byTurns_80 : decode cX1_byTurns 80 = .ok (.invokevirtual 253, 3) := dk_182 0 253 (dk_at dksX1_byTurns_3 11 rfl rfl)
theorem dX1_byTurns_83 : decode cX1_byTurns 83 = .ok (.invokestatic 256, 3) := dk_184 1 0 (dk_at dksX1_byTurns_3 14 rfl rfl)
theorem dX1_byTurns_86 : decode cX1_byTurns 86 = .ok (.goto 4, 3) := dk_167 0 4 (dk_at dksX1_byTurns_3 17 rfl rfl)
theorem dX1_byTurns_89 : decode cX1_byTurns 89 = .ok (.iload_n 3, 1) := dk_29 (dk_at dksX1_byTurns_3 20 rfl rfl)
theorem dX1_byTurns_90 : decode cX1_byTurns 90 = .ok (.ireturn, 1) := dk_172 (dk_at dksX1_byTurns_3 21 rfl rfl)
abbrev cX1_minds : ByteArray := prog_1_method_34_code
def yX1_minds : MethodName := ⟨RX1, "minds", "()V"⟩
def dkwX1_minds_0 : List UInt8 := [42, 180, 0, 63, 42, 180, 0, 43, 182, 0, 125, 177]
abbrev dktX1_minds_0 : List UInt8 := dkwX1_minds_0 ++ []
theorem dksX1_minds_0 : cX1_minds.data.toList.drop 0 = dktX1_minds_0 := by decide +kernel
theorem dX1_minds_0 : decode cX1_minds 0 = .ok (.aload_n 0, 1) := dk_42 (dk_at dksX1_minds_0 0 rfl rfl)
theorem dX1_minds_1 : decode cX1_minds 1 = .ok (.getfield 63, 3) := dk_180 0 63 (dk_at dksX1_minds_0 1 rfl rfl)
theorem dX1_minds_4 : decode cX1_minds 4 = .ok (.aload_n 0, 1) := dk_42 (dk_at dksX1_minds_0 4 rfl rfl)
theorem dX1_minds_5 : decode cX1_minds 5 = .ok (.getfield 43, 3) := dk_180 0 43 (dk_at dksX1_minds_0 5 rfl rfl)
theorem dX1_minds_8 : decode cX1_minds 8 = .ok (.invokevirtual 125, 3) := dk_182 0 125 (dk_at dksX1_minds_0 8 rfl rfl)
theorem dX1_minds_11 : decode cX1_minds 11 = .ok (.return_, 1) := dk_177 (dk_at dksX1_minds_0 11 rfl rfl)
abbrev cX1_goesTurn : ByteArray := prog_1_method_33_code
def yX1_goesTurn : MethodName := ⟨RX1, "goesTurn", "()Z"⟩
def dkwX1_goesTurn_4 : List UInt8 := [3, 172]
abbrev dktX1_goesTurn_4 : List UInt8 := dkwX1_goesTurn_4 ++ []
def dkwX1_goesTurn_3 : List UInt8 := [180, 0, 239, 4, 96, 42, 180, 0, 63, 180, 0, 66, 112, 181, 0, 239, 27, 154, 0, 7, 4, 167, 0, 4]
abbrev dktX1_goesTurn_3 : List UInt8 := dkwX1_goesTurn_3 ++ dktX1_goesTurn_4
def dkwX1_goesTurn_2 : List UInt8 := [60, 42, 180, 0, 63, 42, 180, 0, 239, 27, 153, 0, 7, 5, 167, 0, 4, 3, 182, 0, 100, 87, 42, 42]
abbrev dktX1_goesTurn_2 : List UInt8 := dkwX1_goesTurn_2 ++ dktX1_goesTurn_3
def dkwX1_goesTurn_1 : List UInt8 := [180, 0, 63, 180, 0, 66, 112, 181, 0, 239, 167, 255, 224, 42, 180, 0, 63, 42, 180, 0, 239, 182, 0, 202]
abbrev dktX1_goesTurn_1 : List UInt8 := dkwX1_goesTurn_1 ++ dktX1_goesTurn_2
def dkwX1_goesTurn_0 : List UInt8 := [42, 180, 0, 63, 42, 180, 0, 239, 182, 0, 53, 153, 0, 24, 42, 42, 180, 0, 239, 4, 96, 42]
abbrev dktX1_goesTurn_0 : List UInt8 := dkwX1_goesTurn_0 ++ dktX1_goesTurn_1
theorem dksX1_goesTurn_0 : cX1_goesTurn.data.toList.drop 0 = dktX1_goesTurn_0 := by decide +kernel
theorem dksX1_goesTurn_1 : cX1_goesTurn.data.toList.drop 22 = dktX1_goesTurn_1 := dk_seg dksX1_goesTurn_0 22 rfl rfl
theorem dksX1_goesTurn_2 : cX1_goesTurn.data.toList.drop 46 = dktX1_goesTurn_2 := dk_seg dksX1_goesTurn_1 24 rfl rfl
theorem dksX1_goesTurn_3 : cX1_goesTurn.data.toList.drop 70 = dktX1_goesTurn_3 := dk_seg dksX1_goesTurn_2 24 rfl rfl
theorem dksX1_goesTurn_4 : cX1_goesTurn.data.toList.drop 94 = dktX1_goesTurn_4 := dk_seg dksX1_goesTurn_3 24 rfl rfl
theorem dX1_goesTurn_0 : decode cX1_goesTurn 0 = .ok (.aload_n 0, 1) := dk_42 (dk_at dksX1_goesTurn_0 0 rfl rfl)
theorem dX1_goesTurn_1 : decode cX1_goesTurn 1 = .ok (.getfield 63, 3) := dk_180 0 63 (dk_at dksX1_goesTurn_0 1 rfl rfl)
theorem dX1_goesTurn_4 : decode cX1_goesTurn 4 = .ok (.aload_n 0, 1) := dk_42 (dk_at dksX1_goesTurn_0 4 rfl rfl)
theorem dX1_goesTurn_5 : decode cX1_goesTurn 5 = .ok (.getfield 239, 3) := dk_180 0 239 (dk_at dksX1_goesTurn_0 5 rfl rfl)
theorem dX1_goesTurn_8 : decode cX1_goesTurn 8 = .ok (.invokevirtual 53, 3) := dk_182 0 53 (dk_at dksX1_goesTurn_0 8 rfl rfl)
theorem dX1_goesTurn_11 : decode cX1_goesTurn 11 = .ok (.ifCond .eq 24, 3) := dk_153 0 24 (dk_at dksX1_goesTurn_0 11 rfl rfl)
theorem dX1_goesTurn_14 : decode cX1_goesTurn 14 = .ok (.aload_n 0, 1) := dk_42 (dk_at dksX1_goesTurn_0 14 rfl rfl)
theorem dX1_goesTurn_15 : decode cX1_goesTurn 15 = .ok (.aload_n 0, 1) := dk_42 (dk_at dksX1_goesTurn_0 15 rfl rfl)
theorem dX1_goesTurn_16 : decode cX1_goesTurn 16 = .ok (.getfield 239, 3) := dk_180 0 239 (dk_at dksX1_goesTurn_0 16 rfl rfl)
theorem dX1_goesTurn_19 : decode cX1_goesTurn 19 = .ok (.iconst 1, 1) := dk_4 (dk_at dksX1_goesTurn_0 19 rfl rfl)
theorem dX1_goesTurn_20 : decode cX1_goesTurn 20 = .ok (.iadd, 1) := dk_96 (dk_at dksX1_goesTurn_0 20 rfl rfl)
theorem dX1_goesTurn_21 : decode cX1_goesTurn 21 = .ok (.aload_n 0, 1) := dk_42 (dk_at dksX1_goesTurn_0 21 rfl rfl)
theorem dX1_goesTurn_22 : decode cX1_goesTurn 22 = .ok (.getfield 63, 3) := dk_180 0 63 (dk_at dksX1_goesTurn_1 0 rfl rfl)
theorem dX1_goesTurn_25 : decode cX1_goesTurn 25 = .ok (.getfield 66, 3) := dk_180 0 66 (dk_at dksX1_goesTurn_1 3 rfl rfl)
theorem dX1_goesTurn_28 : decode cX1_goesTurn 28 = .ok (.irem, 1) := dk_112 (dk_at dksX1_goesTurn_1 6 rfl rfl)
theorem dX1_goesTurn_29 : decode cX1_goesTurn 29 = .ok (.putfield 239, 3) := dk_181 0 239 (dk_at dksX1_goesTurn_1 7 rfl rfl)
theorem dX1_goesTurn_32 : decode cX1_goesTurn 32 = .ok (.goto (-32), 3) := dk_167 255 224 (dk_at dksX1_goesTurn_1 10 rfl rfl)
theorem dX1_goesTurn_35 : decode cX1_goesTurn 35 = .ok (.aload_n 0, 1) := dk_42 (dk_at dksX1_goesTurn_1 13 rfl rfl)
theorem dX1_goesTurn_36 : decode cX1_goesTurn 36 = .ok (.getfield 63, 3) := dk_180 0 63 (dk_at dksX1_goesTurn_1 14 rfl rfl)
theorem dX1_goesTurn_39 : decode cX1_goesTurn 39 = .ok (.aload_n 0, 1) := dk_42 (dk_at dksX1_goesTurn_1 17 rfl rfl)
theorem dX1_goesTurn_40 : decode cX1_goesTurn 40 = .ok (.getfield 239, 3) := dk_180 0 239 (dk_at dksX1_goesTurn_1 18 rfl rfl)
theorem dX1_goesTurn_43 : decode cX1_goesTurn 43 = .ok (.invokevirtual 202, 3) := dk_182 0 202 (dk_at dksX1_goesTurn_1 21 rfl rfl)
theorem dX1_goesTurn_46 : decode cX1_goesTurn 46 = .ok (.istore_n 1, 1) := dk_60 (dk_at dksX1_goesTurn_2 0 rfl rfl)
theorem dX1_goesTurn_47 : decode cX1_goesTurn 47 = .ok (.aload_n 0, 1) := dk_42 (dk_at dksX1_goesTurn_2 1 rfl rfl)
theorem dX1_goesTurn_48 : decode cX1_goesTurn 48 = .ok (.getfield 63, 3) := dk_180 0 63 (dk_at dksX1_goesTurn_2 2 rfl rfl)
theorem dX1_goesTurn_51 : decode cX1_goesTurn 51 = .ok (.aload_n 0, 1) := dk_42 (dk_at dksX1_goesTurn_2 5 rfl rfl)
theorem dX1_goesTurn_52 : decode cX1_goesTurn 52 = .ok (.getfield 239, 3) := dk_180 0 239 (dk_at dksX1_goesTurn_2 6 rfl rfl)
theorem dX1_goesTurn_55 : decode cX1_goesTurn 55 = .ok (.iload_n 1, 1) := dk_27 (dk_at dksX1_goesTurn_2 9 rfl rfl)
theorem dX1_goesTurn_56 : decode cX1_goesTurn 56 = .ok (.ifCond .eq 7, 3) := dk_153 0 7 (dk_at dksX1_goesTurn_2 10 rfl rfl)
theorem dX1_goesTurn_59 : decode cX1_goesTurn 59 = .ok (.iconst 2, 1) := dk_5 (dk_at dksX1_goesTurn_2 13 rfl rfl)
theorem dX1_goesTurn_60 : decode cX1_goesTurn 60 = .ok (.goto 4, 3) := dk_167 0 4 (dk_at dksX1_goesTurn_2 14 rfl rfl)
theorem dX1_goesTurn_63 : decode cX1_goesTurn 63 = .ok (.iconst 0, 1) := dk_3 (dk_at dksX1_goesTurn_2 17 rfl rfl)
theorem dX1_goesTurn_64 : decode cX1_goesTurn 64 = .ok (.invokevirtual 100, 3) := dk_182 0 100 (dk_at dksX1_goesTurn_2 18 rfl rfl)
theorem dX1_goesTurn_67 : decode cX1_goesTurn 67 = .ok (.pop, 1) := dk_87 (dk_at dksX1_goesTurn_2 21 rfl rfl)
theorem dX1_goesTurn_68 : decode cX1_goesTurn 68 = .ok (.aload_n 0, 1) := dk_42 (dk_at dksX1_goesTurn_2 22 rfl rfl)
theorem dX1_goesTurn_69 : decode cX1_goesTurn 69 = .ok (.aload_n 0, 1) := dk_42 (dk_at dksX1_goesTurn_2 23 rfl rfl)
theorem dX1_goesTurn_70 : decode cX1_goesTurn 70 = .ok (.getfield 239, 3) := dk_180 0 239 (dk_at dksX1_goesTurn_3 0 rfl rfl)
theorem dX1_goesTurn_73 : decode cX1_goesTurn 73 = .ok (.iconst 1, 1) := dk_4 (dk_at dksX1_goesTurn_3 3 rfl rfl)
theorem dX1_goesTurn_74 : decode cX1_goesTurn 74 = .ok (.iadd, 1) := dk_96 (dk_at dksX1_goesTurn_3 4 rfl rfl)
theorem dX1_goesTurn_75 : decode cX1_goesTurn 75 = .ok (.aload_n 0, 1) := dk_42 (dk_at dksX1_goesTurn_3 5 rfl rfl)
theorem dX1_goesTurn_76 : decode cX1_goesTurn 76 = .ok (.getfield 63, 3) := dk_180 0 63 (dk_at dksX1_goesTurn_3 6 rfl rfl)
theorem dX1_goesTurn_79 : decode cX1_goesTurn 79 = .ok (.getfield 66, 3) := dk_180 0 66 (dk_at dksX1_goesTurn_3 9 rfl rfl)
theorem dX1_goesTurn_82 : decode cX1_goesTurn 82 = .ok (.irem, 1) := dk_112 (dk_at dksX1_goesTurn_3 12 rfl rfl)
theorem dX1_goesTurn_83 : decode cX1_goesTurn 83 = .ok (.putfield 239, 3) := dk_181 0 239 (dk_at dksX1_goesTurn_3 13 rfl rfl)
theorem dX1_goesTurn_86 : decode cX1_goesTurn 86 = .ok (.iload_n 1, 1) := dk_27 (dk_at dksX1_goesTurn_3 16 rfl rfl)
theorem dX1_goesTurn_87 : decode cX1_goesTurn 87 = .ok (.ifCond .ne 7, 3) := dk_154 0 7 (dk_at dksX1_goesTurn_3 17 rfl rfl)
theorem dX1_goesTurn_90 : decode cX1_goesTurn 90 = .ok (.iconst 1, 1) := dk_4 (dk_at dksX1_goesTurn_3 20 rfl rfl)
theorem dX1_goesTurn_91 : decode cX1_goesTurn 91 = .ok (.goto 4, 3) := dk_167 0 4 (dk_at dksX1_goesTurn_3 21 rfl rfl)
theorem dX1_goesTurn_94 : decode cX1_goesTurn 94 = .ok (.iconst 0, 1) := dk_3 (dk_at dksX1_goesTurn_4 0 rfl rfl)
theorem dX1_goesTurn_95 : decode cX1_goesTurn 95 = .ok (.ireturn, 1) := dk_172 (dk_at dksX1_goesTurn_4 1 rfl rfl)
abbrev cX1_allSwim : ByteArray := prog_1_method_36_code
def yX1_allSwim : MethodName := ⟨RX1, "allSwim", "()I"⟩
def dkwX1_allSwim_1 : List UInt8 := [153, 0, 5, 27, 172, 42, 182, 0, 250, 87, 132, 1, 1, 167, 255, 230, 16, 252, 172]
abbrev dktX1_allSwim_1 : List UInt8 := dkwX1_allSwim_1 ++ []
def dkwX1_allSwim_0 : List UInt8 := [42, 182, 0, 242, 42, 3, 181, 0, 239, 3, 60, 27, 16, 99, 163, 0, 26, 42, 180, 0, 63, 182, 0, 246]
abbrev dktX1_allSwim_0 : List UInt8 := dkwX1_allSwim_0 ++ dktX1_allSwim_1
theorem dksX1_allSwim_0 : cX1_allSwim.data.toList.drop 0 = dktX1_allSwim_0 := by decide +kernel
theorem dksX1_allSwim_1 : cX1_allSwim.data.toList.drop 24 = dktX1_allSwim_1 := dk_seg dksX1_allSwim_0 24 rfl rfl
theorem dX1_allSwim_0 : decode cX1_allSwim 0 = .ok (.aload_n 0, 1) := dk_42 (dk_at dksX1_allSwim_0 0 rfl rfl)
theorem dX1_allSwim_1 : decode cX1_allSwim 1 = .ok (.invokevirtual 242, 3) := dk_182 0 242 (dk_at dksX1_allSwim_0 1 rfl rfl)
theorem dX1_allSwim_4 : decode cX1_allSwim 4 = .ok (.aload_n 0, 1) := dk_42 (dk_at dksX1_allSwim_0 4 rfl rfl)
theorem dX1_allSwim_5 : decode cX1_allSwim 5 = .ok (.iconst 0, 1) := dk_3 (dk_at dksX1_allSwim_0 5 rfl rfl)
theorem dX1_allSwim_6 : decode cX1_allSwim 6 = .ok (.putfield 239, 3) := dk_181 0 239 (dk_at dksX1_allSwim_0 6 rfl rfl)
theorem dX1_allSwim_9 : decode cX1_allSwim 9 = .ok (.iconst 0, 1) := dk_3 (dk_at dksX1_allSwim_0 9 rfl rfl)
theorem dX1_allSwim_10 : decode cX1_allSwim 10 = .ok (.istore_n 1, 1) := dk_60 (dk_at dksX1_allSwim_0 10 rfl rfl)
theorem dX1_allSwim_11 : decode cX1_allSwim 11 = .ok (.iload_n 1, 1) := dk_27 (dk_at dksX1_allSwim_0 11 rfl rfl)
theorem dX1_allSwim_12 : decode cX1_allSwim 12 = .ok (.bipush 99, 2) := dk_16 99 (dk_at dksX1_allSwim_0 12 rfl rfl)
theorem dX1_allSwim_14 : decode cX1_allSwim 14 = .ok (.if_icmp .gt 26, 3) := dk_163 0 26 (dk_at dksX1_allSwim_0 14 rfl rfl)
theorem dX1_allSwim_17 : decode cX1_allSwim 17 = .ok (.aload_n 0, 1) := dk_42 (dk_at dksX1_allSwim_0 17 rfl rfl)
theorem dX1_allSwim_18 : decode cX1_allSwim 18 = .ok (.getfield 63, 3) := dk_180 0 63 (dk_at dksX1_allSwim_0 18 rfl rfl)
theorem dX1_allSwim_21 : decode cX1_allSwim 21 = .ok (.invokevirtual 246, 3) := dk_182 0 246 (dk_at dksX1_allSwim_0 21 rfl rfl)
theorem dX1_allSwim_24 : decode cX1_allSwim 24 = .ok (.ifCond .eq 5, 3) := dk_153 0 5 (dk_at dksX1_allSwim_1 0 rfl rfl)
theorem dX1_allSwim_27 : decode cX1_allSwim 27 = .ok (.iload_n 1, 1) := dk_27 (dk_at dksX1_allSwim_1 3 rfl rfl)
theorem dX1_allSwim_28 : decode cX1_allSwim 28 = .ok (.ireturn, 1) := dk_172 (dk_at dksX1_allSwim_1 4 rfl rfl)
theorem dX1_allSwim_29 : decode cX1_allSwim 29 = .ok (.aload_n 0, 1) := dk_42 (dk_at dksX1_allSwim_1 5 rfl rfl)
theorem dX1_allSwim_30 : decode cX1_allSwim 30 = .ok (.invokevirtual 250, 3) := dk_182 0 250 (dk_at dksX1_allSwim_1 6 rfl rfl)
theorem dX1_allSwim_33 : decode cX1_allSwim 33 = .ok (.pop, 1) := dk_87 (dk_at dksX1_allSwim_1 9 rfl rfl)
theorem dX1_allSwim_34 : decode cX1_allSwim 34 = .ok (.iinc 1 1, 3) := dk_132 1 1 (dk_at dksX1_allSwim_1 10 rfl rfl)
theorem dX1_allSwim_37 : decode cX1_allSwim 37 = .ok (.goto (-26), 3) := dk_167 255 230 (dk_at dksX1_allSwim_1 13 rfl rfl)
theorem dX1_allSwim_40 : decode cX1_allSwim 40 = .ok (.bipush (-4), 2) := dk_16 252 (dk_at dksX1_allSwim_1 16 rfl rfl)
theorem dX1_allSwim_42 : decode cX1_allSwim 42 = .ok (.ireturn, 1) := dk_172 (dk_at dksX1_allSwim_1 18 rfl rfl)
abbrev cX1_beside : ByteArray := prog_1_method_38_code
def yX1_beside : MethodName := ⟨RX1, "beside", "(I)I"⟩
def dkwX1_beside_2 : List UInt8 := [167, 0, 9, 42, 180, 1, 11, 27, 46, 172]
abbrev dktX1_beside_2 : List UInt8 := dkwX1_beside_2 ++ []
def dkwX1_beside_1 : List UInt8 := [3, 4, 42, 180, 0, 43, 180, 0, 66, 120, 4, 100, 3, 182, 1, 23, 27, 156, 0, 10, 42, 180, 1, 5]
abbrev dktX1_beside_1 : List UInt8 := dkwX1_beside_1 ++ dktX1_beside_2
def dkwX1_beside_0 : List UInt8 := [27, 2, 161, 0, 14, 27, 42, 180, 0, 43, 180, 0, 66, 161, 0, 5, 2, 172, 42, 2, 181, 1, 5, 42]
abbrev dktX1_beside_0 : List UInt8 := dkwX1_beside_0 ++ dktX1_beside_1
theorem dksX1_beside_0 : cX1_beside.data.toList.drop 0 = dktX1_beside_0 := by decide +kernel
theorem dksX1_beside_1 : cX1_beside.data.toList.drop 24 = dktX1_beside_1 := dk_seg dksX1_beside_0 24 rfl rfl
theorem dksX1_beside_2 : cX1_beside.data.toList.drop 48 = dktX1_beside_2 := dk_seg dksX1_beside_1 24 rfl rfl
theorem dX1_beside_0 : decode cX1_beside 0 = .ok (.iload_n 1, 1) := dk_27 (dk_at dksX1_beside_0 0 rfl rfl)
theorem dX1_beside_1 : decode cX1_beside 1 = .ok (.iconst (-1), 1) := dk_2 (dk_at dksX1_beside_0 1 rfl rfl)
theorem dX1_beside_2 : decode cX1_beside 2 = .ok (.if_icmp .lt 14, 3) := dk_161 0 14 (dk_at dksX1_beside_0 2 rfl rfl)
theorem dX1_beside_5 : decode cX1_beside 5 = .ok (.iload_n 1, 1) := dk_27 (dk_at dksX1_beside_0 5 rfl rfl)
theorem dX1_beside_6 : decode cX1_beside 6 = .ok (.aload_n 0, 1) := dk_42 (dk_at dksX1_beside_0 6 rfl rfl)
theorem dX1_beside_7 : decode cX1_beside 7 = .ok (.getfield 43, 3) := dk_180 0 43 (dk_at dksX1_beside_0 7 rfl rfl)
theorem dX1_beside_10 : decode cX1_beside 10 = .ok (.getfield 66, 3) := dk_180 0 66 (dk_at dksX1_beside_0 10 rfl rfl)
theorem dX1_beside_13 : decode cX1_beside 13 = .ok (.if_icmp .lt 5, 3) := dk_161 0 5 (dk_at dksX1_beside_0 13 rfl rfl)
theorem dX1_beside_16 : decode cX1_beside 16 = .ok (.iconst (-1), 1) := dk_2 (dk_at dksX1_beside_0 16 rfl rfl)
theorem dX1_beside_17 : decode cX1_beside 17 = .ok (.ireturn, 1) := dk_172 (dk_at dksX1_beside_0 17 rfl rfl)
theorem dX1_beside_18 : decode cX1_beside 18 = .ok (.aload_n 0, 1) := dk_42 (dk_at dksX1_beside_0 18 rfl rfl)
theorem dX1_beside_19 : decode cX1_beside 19 = .ok (.iconst (-1), 1) := dk_2 (dk_at dksX1_beside_0 19 rfl rfl)
theorem dX1_beside_20 : decode cX1_beside 20 = .ok (.putfield 261, 3) := dk_181 1 5 (dk_at dksX1_beside_0 20 rfl rfl)
theorem dX1_beside_23 : decode cX1_beside 23 = .ok (.aload_n 0, 1) := dk_42 (dk_at dksX1_beside_0 23 rfl rfl)
theorem dX1_beside_24 : decode cX1_beside 24 = .ok (.iconst 0, 1) := dk_3 (dk_at dksX1_beside_1 0 rfl rfl)
theorem dX1_beside_25 : decode cX1_beside 25 = .ok (.iconst 1, 1) := dk_4 (dk_at dksX1_beside_1 1 rfl rfl)
theorem dX1_beside_26 : decode cX1_beside 26 = .ok (.aload_n 0, 1) := dk_42 (dk_at dksX1_beside_1 2 rfl rfl)
theorem dX1_beside_27 : decode cX1_beside 27 = .ok (.getfield 43, 3) := dk_180 0 43 (dk_at dksX1_beside_1 3 rfl rfl)
theorem dX1_beside_30 : decode cX1_beside 30 = .ok (.getfield 66, 3) := dk_180 0 66 (dk_at dksX1_beside_1 6 rfl rfl)
theorem dX1_beside_33 : decode cX1_beside 33 = .ok (.ishl, 1) := dk_120 (dk_at dksX1_beside_1 9 rfl rfl)
theorem dX1_beside_34 : decode cX1_beside 34 = .ok (.iconst 1, 1) := dk_4 (dk_at dksX1_beside_1 10 rfl rfl)
theorem dX1_beside_35 : decode cX1_beside 35 = .ok (.isub, 1) := dk_100 (dk_at dksX1_beside_1 11 rfl rfl)
theorem dX1_beside_36 : decode cX1_beside 36 = .ok (.iconst 0, 1) := dk_3 (dk_at dksX1_beside_1 12 rfl rfl)
theorem dX1_beside_37 : decode cX1_beside 37 = .ok (.invokevirtual 279, 3) := dk_182 1 23 (dk_at dksX1_beside_1 13 rfl rfl)
theorem dX1_beside_40 : decode cX1_beside 40 = .ok (.iload_n 1, 1) := dk_27 (dk_at dksX1_beside_1 16 rfl rfl)
theorem dX1_beside_41 : decode cX1_beside 41 = .ok (.ifCond .ge 10, 3) := dk_156 0 10 (dk_at dksX1_beside_1 17 rfl rfl)
theorem dX1_beside_44 : decode cX1_beside 44 = .ok (.aload_n 0, 1) := dk_42 (dk_at dksX1_beside_1 20 rfl rfl)
theorem dX1_beside_45 : decode cX1_beside 45 = .ok (.getfield 261, 3) := dk_180 1 5 (dk_at dksX1_beside_1 21 rfl rfl)
theorem dX1_beside_48 : decode cX1_beside 48 = .ok (.goto 9, 3) := dk_167 0 9 (dk_at dksX1_beside_2 0 rfl rfl)
theorem dX1_beside_51 : decode cX1_beside 51 = .ok (.aload_n 0, 1) := dk_42 (dk_at dksX1_beside_2 3 rfl rfl)
theorem dX1_beside_52 : decode cX1_beside 52 = .ok (.getfield 267, 3) := dk_180 1 11 (dk_at dksX1_beside_2 4 rfl rfl)
theorem dX1_beside_55 : decode cX1_beside 55 = .ok (.iload_n 1, 1) := dk_27 (dk_at dksX1_beside_2 7 rfl rfl)
theorem dX1_beside_56 : decode cX1_beside 56 = .ok (.iaload, 1) := dk_46 (dk_at dksX1_beside_2 8 rfl rfl)
theorem dX1_beside_57 : decode cX1_beside 57 = .ok (.ireturn, 1) := dk_172 (dk_at dksX1_beside_2 9 rfl rfl)
abbrev cX1_ordersFrom : ByteArray := prog_1_method_37_code
def yX1_ordersFrom : MethodName := ⟨RX1, "ordersFrom", "(III)V"⟩
def dkwX1_ordersFrom_5 : List UInt8 := [2, 130, 126, 29, 21, 5, 96, 182, 1, 23, 132, 4, 1, 167, 255, 159, 177]
abbrev dktX1_ordersFrom_5 : List UInt8 := dkwX1_ordersFrom_5 ++ []
def dkwX1_ordersFrom_4 : List UInt8 := [42, 180, 1, 8, 27, 4, 100, 46, 50, 182, 0, 189, 104, 54, 5, 42, 27, 4, 96, 28, 4, 21, 4, 120]
abbrev dktX1_ordersFrom_4 : List UInt8 := dkwX1_ordersFrom_4 ++ dktX1_ordersFrom_5
def dkwX1_ordersFrom_3 : List UInt8 := [3, 167, 0, 36, 42, 180, 0, 43, 180, 0, 162, 21, 4, 50, 182, 0, 189, 42, 180, 0, 43, 180, 0, 162]
abbrev dktX1_ordersFrom_3 : List UInt8 := dkwX1_ordersFrom_3 ++ dktX1_ordersFrom_4
def dkwX1_ordersFrom_2 : List UInt8 := [28, 21, 4, 184, 1, 20, 154, 0, 6, 167, 0, 73, 42, 180, 1, 8, 27, 21, 4, 79, 27, 154, 0, 7]
abbrev dktX1_ordersFrom_2 : List UInt8 := dkwX1_ordersFrom_2 ++ dktX1_ordersFrom_3
def dkwX1_ordersFrom_1 : List UInt8 := [180, 1, 11, 3, 16, 6, 184, 1, 14, 3, 54, 4, 21, 4, 42, 180, 0, 43, 180, 0, 66, 162, 0, 91]
abbrev dktX1_ordersFrom_1 : List UInt8 := dkwX1_ordersFrom_1 ++ dktX1_ordersFrom_2
def dkwX1_ordersFrom_0 : List UInt8 := [28, 154, 0, 31, 29, 42, 180, 1, 5, 164, 0, 23, 42, 29, 181, 1, 5, 42, 180, 1, 8, 3, 42]
abbrev dktX1_ordersFrom_0 : List UInt8 := dkwX1_ordersFrom_0 ++ dktX1_ordersFrom_1
theorem dksX1_ordersFrom_0 : cX1_ordersFrom.data.toList.drop 0 = dktX1_ordersFrom_0 := by decide +kernel
theorem dksX1_ordersFrom_1 : cX1_ordersFrom.data.toList.drop 23 = dktX1_ordersFrom_1 := dk_seg dksX1_ordersFrom_0 23 rfl rfl
theorem dksX1_ordersFrom_2 : cX1_ordersFrom.data.toList.drop 47 = dktX1_ordersFrom_2 := dk_seg dksX1_ordersFrom_1 24 rfl rfl
theorem dksX1_ordersFrom_3 : cX1_ordersFrom.data.toList.drop 71 = dktX1_ordersFrom_3 := dk_seg dksX1_ordersFrom_2 24 rfl rfl
theorem dksX1_ordersFrom_4 : cX1_ordersFrom.data.toList.drop 95 = dktX1_ordersFrom_4 := dk_seg dksX1_ordersFrom_3 24 rfl rfl
theorem dksX1_ordersFrom_5 : cX1_ordersFrom.data.toList.drop 119 = dktX1_ordersFrom_5 := dk_seg dksX1_ordersFrom_4 24 rfl rfl
theorem dX1_ordersFrom_0 : decode cX1_ordersFrom 0 = .ok (.iload_n 2, 1) := dk_28 (dk_at dksX1_ordersFrom_0 0 rfl rfl)
theorem dX1_ordersFrom_1 : decode cX1_ordersFrom 1 = .ok (.ifCond .ne 31, 3) := dk_154 0 31 (dk_at dksX1_ordersFrom_0 1 rfl rfl)
theorem dX1_ordersFrom_4 : decode cX1_ordersFrom 4 = .ok (.iload_n 3, 1) := dk_29 (dk_at dksX1_ordersFrom_0 4 rfl rfl)
theorem dX1_ordersFrom_5 : decode cX1_ordersFrom 5 = .ok (.aload_n 0, 1) := dk_42 (dk_at dksX1_ordersFrom_0 5 rfl rfl)
theorem dX1_ordersFrom_6 : decode cX1_ordersFrom 6 = .ok (.getfield 261, 3) := dk_180 1 5 (dk_at dksX1_ordersFrom_0 6 rfl rfl)
theorem dX1_ordersFrom_9 : decode cX1_ordersFrom 9 = .ok (.if_icmp .le 23, 3) := dk_164 0 23 (dk_at dksX1_ordersFrom_0 9 rfl rfl)
theorem dX1_ordersFrom_12 : decode cX1_ordersFrom 12 = .ok (.aload_n 0, 1) := dk_42 (dk_at dksX1_ordersFrom_0 12 rfl rfl)
theorem dX1_ordersFrom_13 : decode cX1_ordersFrom 13 = .ok (.iload_n 3, 1) := dk_29 (dk_at dksX1_ordersFrom_0 13 rfl rfl)
theorem dX1_ordersFrom_14 : decode cX1_ordersFrom 14 = .ok (.putfield 261, 3) := dk_181 1 5 (dk_at dksX1_ordersFrom_0 14 rfl rfl)
theorem dX1_ordersFrom_17 : decode cX1_ordersFrom 17 = .ok (.aload_n 0, 1) := dk_42 (dk_at dksX1_ordersFrom_0 17 rfl rfl)
theorem dX1_ordersFrom_18 : decode cX1_ordersFrom 18 = .ok (.getfield 264, 3) := dk_180 1 8 (dk_at dksX1_ordersFrom_0 18 rfl rfl)
theorem dX1_ordersFrom_21 : decode cX1_ordersFrom 21 = .ok (.iconst 0, 1) := dk_3 (dk_at dksX1_ordersFrom_0 21 rfl rfl)
theorem dX1_ordersFrom_22 : decode cX1_ordersFrom 22 = .ok (.aload_n 0, 1) := dk_42 (dk_at dksX1_ordersFrom_0 22 rfl rfl)
theorem dX1_ordersFrom_23 : decode cX1_ordersFrom 23 = .ok (.getfield 267, 3) := dk_180 1 11 (dk_at dksX1_ordersFrom_1 0 rfl rfl)
theorem dX1_ordersFrom_26 : decode cX1_ordersFrom 26 = .ok (.iconst 0, 1) := dk_3 (dk_at dksX1_ordersFrom_1 3 rfl rfl)
theorem dX1_ordersFrom_27 : decode cX1_ordersFrom 27 = .ok (.bipush 6, 2) := dk_16 6 (dk_at dksX1_ordersFrom_1 4 rfl rfl)
theorem dX1_ordersFrom_29 : decode cX1_ordersFrom 29 = .ok (.invokestatic 270, 3) := dk_184 1 14 (dk_at dksX1_ordersFrom_1 6 rfl rfl)
theorem dX1_ordersFrom_32 : decode cX1_ordersFrom 32 = .ok (.iconst 0, 1) := dk_3 (dk_at dksX1_ordersFrom_1 9 rfl rfl)
theorem dX1_ordersFrom_33 : decode cX1_ordersFrom 33 = .ok (.istore 4, 2) := dk_54 4 (dk_at dksX1_ordersFrom_1 10 rfl rfl)
theorem dX1_ordersFrom_35 : decode cX1_ordersFrom 35 = .ok (.iload 4, 2) := dk_21 4 (dk_at dksX1_ordersFrom_1 12 rfl rfl)
theorem dX1_ordersFrom_37 : decode cX1_ordersFrom 37 = .ok (.aload_n 0, 1) := dk_42 (dk_at dksX1_ordersFrom_1 14 rfl rfl)
theorem dX1_ordersFrom_38 : decode cX1_ordersFrom 38 = .ok (.getfield 43, 3) := dk_180 0 43 (dk_at dksX1_ordersFrom_1 15 rfl rfl)
theorem dX1_ordersFrom_41 : decode cX1_ordersFrom 41 = .ok (.getfield 66, 3) := dk_180 0 66 (dk_at dksX1_ordersFrom_1 18 rfl rfl)
theorem dX1_ordersFrom_44 : decode cX1_ordersFrom 44 = .ok (.if_icmp .ge 91, 3) := dk_162 0 91 (dk_at dksX1_ordersFrom_1 21 rfl rfl)
theorem dX1_ordersFrom_47 : decode cX1_ordersFrom 47 = .ok (.iload_n 2, 1) := dk_28 (dk_at dksX1_ordersFrom_2 0 rfl rfl)
theorem dX1_ordersFrom_48 : decode cX1_ordersFrom 48 = .ok (.iload 4, 2) := dk_21 4 (dk_at dksX1_ordersFrom_2 1 rfl rfl)
theorem dX1_ordersFrom_50 : decode cX1_ordersFrom 50 = .ok (.invokestatic 276, 3) := dk_184 1 20 (dk_at dksX1_ordersFrom_2 3 rfl rfl)
theorem dX1_ordersFrom_53 : decode cX1_ordersFrom 53 = .ok (.ifCond .ne 6, 3) := dk_154 0 6 (dk_at dksX1_ordersFrom_2 6 rfl rfl)
theorem dX1_ordersFrom_56 : decode cX1_ordersFrom 56 = .ok (.goto 73, 3) := dk_167 0 73 (dk_at dksX1_ordersFrom_2 9 rfl rfl)
theorem dX1_ordersFrom_59 : decode cX1_ordersFrom 59 = .ok (.aload_n 0, 1) := dk_42 (dk_at dksX1_ordersFrom_2 12 rfl rfl)
theorem dX1_ordersFrom_60 : decode cX1_ordersFrom 60 = .ok (.getfield 264, 3) := dk_180 1 8 (dk_at dksX1_ordersFrom_2 13 rfl rfl)
theorem dX1_ordersFrom_63 : decode cX1_ordersFrom 63 = .ok (.iload_n 1, 1) := dk_27 (dk_at dksX1_ordersFrom_2 16 rfl rfl)
theorem dX1_ordersFrom_64 : decode cX1_ordersFrom 64 = .ok (.iload 4, 2) := dk_21 4 (dk_at dksX1_ordersFrom_2 17 rfl rfl)
theorem dX1_ordersFrom_66 : decode cX1_ordersFrom 66 = .ok (.iastore, 1) := dk_79 (dk_at dksX1_ordersFrom_2 19 rfl rfl)
theorem dX1_ordersFrom_67 : decode cX1_ordersFrom 67 = .ok (.iload_n 1, 1) := dk_27 (dk_at dksX1_ordersFrom_2 20 rfl rfl)
theorem dX1_ordersFrom_68 : decode cX1_ordersFrom 68 = .ok (.ifCond .ne 7, 3) := dk_154 0 7 (dk_at dksX1_ordersFrom_2 21 rfl rfl)
theorem dX1_ordersFrom_71 : decode cX1_ordersFrom 71 = .ok (.iconst 0, 1) := dk_3 (dk_at dksX1_ordersFrom_3 0 rfl rfl)
theorem dX1_ordersFrom_72 : decode cX1_ordersFrom 72 = .ok (.goto 36, 3) := dk_167 0 36 (dk_at dksX1_ordersFrom_3 1 rfl rfl)
theorem dX1_ordersFrom_75 : decode cX1_ordersFrom 75 = .ok (.aload_n 0, 1) := dk_42 (dk_at dksX1_ordersFrom_3 4 rfl rfl)
theorem dX1_ordersFrom_76 : decode cX1_ordersFrom 76 = .ok (.getfield 43, 3) := dk_180 0 43 (dk_at dksX1_ordersFrom_3 5 rfl rfl)
theorem dX1_ordersFrom_79 : decode cX1_ordersFrom 79 = .ok (.getfield 162, 3) := dk_180 0 162 (dk_at dksX1_ordersFrom_3 8 rfl rfl)
theorem dX1_ordersFrom_82 : decode cX1_ordersFrom 82 = .ok (.iload 4, 2) := dk_21 4 (dk_at dksX1_ordersFrom_3 11 rfl rfl)
theorem dX1_ordersFrom_84 : decode cX1_ordersFrom 84 = .ok (.aaload, 1) := dk_50 (dk_at dksX1_ordersFrom_3 13 rfl rfl)
theorem dX1_ordersFrom_85 : decode cX1_ordersFrom 85 = .ok (.invokevirtual 189, 3) := dk_182 0 189 (dk_at dksX1_ordersFrom_3 14 rfl rfl)
theorem dX1_ordersFrom_88 : decode cX1_ordersFrom 88 = .ok (.aload_n 0, 1) := dk_42 (dk_at dksX1_ordersFrom_3 17 rfl rfl)
theorem dX1_ordersFrom_89 : decode cX1_ordersFrom 89 = .ok (.getfield 43, 3) := dk_180 0 43 (dk_at dksX1_ordersFrom_3 18 rfl rfl)
theorem dX1_ordersFrom_92 : decode cX1_ordersFrom 92 = .ok (.getfield 162, 3) := dk_180 0 162 (dk_at dksX1_ordersFrom_3 21 rfl rfl)
theorem dX1_ordersFrom_95 : decode cX1_ordersFrom 95 = .ok (.aload_n 0, 1) := dk_42 (dk_at dksX1_ordersFrom_4 0 rfl rfl)
theorem dX1_ordersFrom_96 : decode cX1_ordersFrom 96 = .ok (.getfield 264, 3) := dk_180 1 8 (dk_at dksX1_ordersFrom_4 1 rfl rfl)
theorem dX1_ordersFrom_99 : decode cX1_ordersFrom 99 = .ok (.iload_n 1, 1) := dk_27 (dk_at dksX1_ordersFrom_4 4 rfl rfl)
theorem dX1_ordersFrom_100 : decode cX1_ordersFrom 100 = .ok (.iconst 1, 1) := dk_4 (dk_at dksX1_ordersFrom_4 5 rfl rfl)
theorem dX1_ordersFrom_101 : decode cX1_ordersFrom 101 = .ok (.isub, 1) := dk_100 (dk_at dksX1_ordersFrom_4 6 rfl rfl)
theorem dX1_ordersFrom_102 : decode cX1_ordersFrom 102 = .ok (.iaload, 1) := dk_46 (dk_at dksX1_ordersFrom_4 7 rfl rfl)
theorem dX1_ordersFrom_103 : decode cX1_ordersFrom 103 = .ok (.aaload, 1) := dk_50 (dk_at dksX1_ordersFrom_4 8 rfl rfl)
theorem dX1_ordersFrom_104 : decode cX1_ordersFrom 104 = .ok (.invokevirtual 189, 3) := dk_182 0 189 (dk_at dksX1_ordersFrom_4 9 rfl rfl)
theorem dX1_ordersFrom_107 : decode cX1_ordersFrom 107 = .ok (.imul, 1) := dk_104 (dk_at dksX1_ordersFrom_4 12 rfl rfl)
theorem dX1_ordersFrom_108 : decode cX1_ordersFrom 108 = .ok (.istore 5, 2) := dk_54 5 (dk_at dksX1_ordersFrom_4 13 rfl rfl)
theorem dX1_ordersFrom_110 : decode cX1_ordersFrom 110 = .ok (.aload_n 0, 1) := dk_42 (dk_at dksX1_ordersFrom_4 15 rfl rfl)
theorem dX1_ordersFrom_111 : decode cX1_ordersFrom 111 = .ok (.iload_n 1, 1) := dk_27 (dk_at dksX1_ordersFrom_4 16 rfl rfl)
theorem dX1_ordersFrom_112 : decode cX1_ordersFrom 112 = .ok (.iconst 1, 1) := dk_4 (dk_at dksX1_ordersFrom_4 17 rfl rfl)
theorem dX1_ordersFrom_113 : decode cX1_ordersFrom 113 = .ok (.iadd, 1) := dk_96 (dk_at dksX1_ordersFrom_4 18 rfl rfl)
theorem dX1_ordersFrom_114 : decode cX1_ordersFrom 114 = .ok (.iload_n 2, 1) := dk_28 (dk_at dksX1_ordersFrom_4 19 rfl rfl)
theorem dX1_ordersFrom_115 : decode cX1_ordersFrom 115 = .ok (.iconst 1, 1) := dk_4 (dk_at dksX1_ordersFrom_4 20 rfl rfl)
theorem dX1_ordersFrom_116 : decode cX1_ordersFrom 116 = .ok (.iload 4, 2) := dk_21 4 (dk_at dksX1_ordersFrom_4 21 rfl rfl)
theorem dX1_ordersFrom_118 : decode cX1_ordersFrom 118 = .ok (.ishl, 1) := dk_120 (dk_at dksX1_ordersFrom_4 23 rfl rfl)
theorem dX1_ordersFrom_119 : decode cX1_ordersFrom 119 = .ok (.iconst (-1), 1) := dk_2 (dk_at dksX1_ordersFrom_5 0 rfl rfl)
theorem dX1_ordersFrom_120 : decode cX1_ordersFrom 120 = .ok (.ixor, 1) := dk_130 (dk_at dksX1_ordersFrom_5 1 rfl rfl)
theorem dX1_ordersFrom_121 : decode cX1_ordersFrom 121 = .ok (.iand, 1) := dk_126 (dk_at dksX1_ordersFrom_5 2 rfl rfl)
theorem dX1_ordersFrom_122 : decode cX1_ordersFrom 122 = .ok (.iload_n 3, 1) := dk_29 (dk_at dksX1_ordersFrom_5 3 rfl rfl)
theorem dX1_ordersFrom_123 : decode cX1_ordersFrom 123 = .ok (.iload 5, 2) := dk_21 5 (dk_at dksX1_ordersFrom_5 4 rfl rfl)
theorem dX1_ordersFrom_125 : decode cX1_ordersFrom 125 = .ok (.iadd, 1) := dk_96 (dk_at dksX1_ordersFrom_5 6 rfl rfl)
theorem dX1_ordersFrom_126 : decode cX1_ordersFrom 126 = .ok (.invokevirtual 279, 3) := dk_182 1 23 (dk_at dksX1_ordersFrom_5 7 rfl rfl)
theorem dX1_ordersFrom_129 : decode cX1_ordersFrom 129 = .ok (.iinc 4 1, 3) := dk_132 4 1 (dk_at dksX1_ordersFrom_5 10 rfl rfl)
theorem dX1_ordersFrom_132 : decode cX1_ordersFrom 132 = .ok (.goto (-97), 3) := dk_167 255 159 (dk_at dksX1_ordersFrom_5 13 rfl rfl)
theorem dX1_ordersFrom_135 : decode cX1_ordersFrom 135 = .ok (.return_, 1) := dk_177 (dk_at dksX1_ordersFrom_5 16 rfl rfl)
abbrev cX1_has : ByteArray := prog_1_method_2_code
def yX1_has : MethodName := ⟨RX1, "has", "(II)Z"⟩
def dkwX1_has_0 : List UInt8 := [26, 27, 122, 4, 126, 4, 160, 0, 7, 4, 167, 0, 4, 3, 172]
abbrev dktX1_has_0 : List UInt8 := dkwX1_has_0 ++ []
theorem dksX1_has_0 : cX1_has.data.toList.drop 0 = dktX1_has_0 := by decide +kernel
theorem dX1_has_0 : decode cX1_has 0 = .ok (.iload_n 0, 1) := dk_26 (dk_at dksX1_has_0 0 rfl rfl)
theorem dX1_has_1 : decode cX1_has 1 = .ok (.iload_n 1, 1) := dk_27 (dk_at dksX1_has_0 1 rfl rfl)
theorem dX1_has_2 : decode cX1_has 2 = .ok (.ishr, 1) := dk_122 (dk_at dksX1_has_0 2 rfl rfl)
theorem dX1_has_3 : decode cX1_has 3 = .ok (.iconst 1, 1) := dk_4 (dk_at dksX1_has_0 3 rfl rfl)
theorem dX1_has_4 : decode cX1_has 4 = .ok (.iand, 1) := dk_126 (dk_at dksX1_has_0 4 rfl rfl)
theorem dX1_has_5 : decode cX1_has 5 = .ok (.iconst 1, 1) := dk_4 (dk_at dksX1_has_0 5 rfl rfl)
theorem dX1_has_6 : decode cX1_has 6 = .ok (.if_icmp .ne 7, 3) := dk_160 0 7 (dk_at dksX1_has_0 6 rfl rfl)
theorem dX1_has_9 : decode cX1_has 9 = .ok (.iconst 1, 1) := dk_4 (dk_at dksX1_has_0 9 rfl rfl)
theorem dX1_has_10 : decode cX1_has 10 = .ok (.goto 4, 3) := dk_167 0 4 (dk_at dksX1_has_0 10 rfl rfl)
theorem dX1_has_13 : decode cX1_has 13 = .ok (.iconst 0, 1) := dk_3 (dk_at dksX1_has_0 13 rfl rfl)
theorem dX1_has_14 : decode cX1_has 14 = .ok (.ireturn, 1) := dk_172 (dk_at dksX1_has_0 14 rfl rfl)
abbrev cX1_helps : ByteArray := prog_1_method_40_code
def yX1_helps : MethodName := ⟨RX1, "helps", "()I"⟩
def dkwX1_helps_3 : List UInt8 := [172]
abbrev dktX1_helps_3 : List UInt8 := dkwX1_helps_3 ++ []
def dkwX1_helps_2 : List UInt8 := [153, 0, 17, 21, 4, 28, 163, 0, 6, 167, 0, 8, 29, 60, 21, 4, 61, 132, 3, 1, 167, 255, 197, 27]
abbrev dktX1_helps_2 : List UInt8 := dkwX1_helps_2 ++ dktX1_helps_3
def dkwX1_helps_1 : List UInt8 := [180, 0, 162, 29, 50, 182, 0, 189, 42, 29, 182, 1, 27, 104, 54, 4, 42, 180, 0, 43, 29, 182, 0, 202]
abbrev dktX1_helps_1 : List UInt8 := dkwX1_helps_1 ++ dktX1_helps_2
def dkwX1_helps_0 : List UInt8 := [16, 252, 60, 2, 61, 3, 62, 29, 42, 180, 0, 43, 180, 0, 66, 162, 0, 54, 42, 180, 0, 43]
abbrev dktX1_helps_0 : List UInt8 := dkwX1_helps_0 ++ dktX1_helps_1
theorem dksX1_helps_0 : cX1_helps.data.toList.drop 0 = dktX1_helps_0 := by decide +kernel
theorem dksX1_helps_1 : cX1_helps.data.toList.drop 22 = dktX1_helps_1 := dk_seg dksX1_helps_0 22 rfl rfl
theorem dksX1_helps_2 : cX1_helps.data.toList.drop 46 = dktX1_helps_2 := dk_seg dksX1_helps_1 24 rfl rfl
theorem dksX1_helps_3 : cX1_helps.data.toList.drop 70 = dktX1_helps_3 := dk_seg dksX1_helps_2 24 rfl rfl
theorem dX1_helps_0 : decode cX1_helps 0 = .ok (.bipush (-4), 2) := dk_16 252 (dk_at dksX1_helps_0 0 rfl rfl)
theorem dX1_helps_2 : decode cX1_helps 2 = .ok (.istore_n 1, 1) := dk_60 (dk_at dksX1_helps_0 2 rfl rfl)
theorem dX1_helps_3 : decode cX1_helps 3 = .ok (.iconst (-1), 1) := dk_2 (dk_at dksX1_helps_0 3 rfl rfl)
theorem dX1_helps_4 : decode cX1_helps 4 = .ok (.istore_n 2, 1) := dk_61 (dk_at dksX1_helps_0 4 rfl rfl)
theorem dX1_helps_5 : decode cX1_helps 5 = .ok (.iconst 0, 1) := dk_3 (dk_at dksX1_helps_0 5 rfl rfl)
theorem dX1_helps_6 : decode cX1_helps 6 = .ok (.istore_n 3, 1) := dk_62 (dk_at dksX1_helps_0 6 rfl rfl)
theorem dX1_helps_7 : decode cX1_helps 7 = .ok (.iload_n 3, 1) := dk_29 (dk_at dksX1_helps_0 7 rfl rfl)
theorem dX1_helps_8 : decode cX1_helps 8 = .ok (.aload_n 0, 1) := dk_42 (dk_at dksX1_helps_0 8 rfl rfl)
theorem dX1_helps_9 : decode cX1_helps 9 = .ok (.getfield 43, 3) := dk_180 0 43 (dk_at dksX1_helps_0 9 rfl rfl)
theorem dX1_helps_12 : decode cX1_helps 12 = .ok (.getfield 66, 3) := dk_180 0 66 (dk_at dksX1_helps_0 12 rfl rfl)
theorem dX1_helps_15 : decode cX1_helps 15 = .ok (.if_icmp .ge 54, 3) := dk_162 0 54 (dk_at dksX1_helps_0 15 rfl rfl)
theorem dX1_helps_18 : decode cX1_helps 18 = .ok (.aload_n 0, 1) := dk_42 (dk_at dksX1_helps_0 18 rfl rfl)
theorem dX1_helps_19 : decode cX1_helps 19 = .ok (.getfield 43, 3) := dk_180 0 43 (dk_at dksX1_helps_0 19 rfl rfl)
theorem dX1_helps_22 : decode cX1_helps 22 = .ok (.getfield 162, 3) := dk_180 0 162 (dk_at dksX1_helps_1 0 rfl rfl)
theorem dX1_helps_25 : decode cX1_helps 25 = .ok (.iload_n 3, 1) := dk_29 (dk_at dksX1_helps_1 3 rfl rfl)
theorem dX1_helps_26 : decode cX1_helps 26 = .ok (.aaload, 1) := dk_50 (dk_at dksX1_helps_1 4 rfl rfl)
theorem dX1_helps_27 : decode cX1_helps 27 = .ok (.invokevirtual 189, 3) := dk_182 0 189 (dk_at dksX1_helps_1 5 rfl rfl)
theorem dX1_helps_30 : decode cX1_helps 30 = .ok (.aload_n 0, 1) := dk_42 (dk_at dksX1_helps_1 8 rfl rfl)
theorem dX1_helps_31 : decode cX1_helps 31 = .ok (.iload_n 3, 1) := dk_29 (dk_at dksX1_helps_1 9 rfl rfl)
theorem dX1_helps_32 : decode cX1_helps 32 = .ok (.invokevirtual 283, 3) := dk_182 1 27 (dk_at dksX1_helps_1 10 rfl rfl)
theorem dX1_helps_35 : decode cX1_helps 35 = .ok (.imul, 1) := dk_104 (dk_at dksX1_helps_1 13 rfl rfl)
theorem dX1_helps_36 : decode cX1_helps 36 = .ok (.istore 4, 2) := dk_54 4 (dk_at dksX1_helps_1 14 rfl rfl)
theorem dX1_helps_38 : decode cX1_helps 38 = .ok (.aload_n 0, 1) := dk_42 (dk_at dksX1_helps_1 16 rfl rfl)
theorem dX1_helps_39 : decode cX1_helps 39 = .ok (.getfield 43, 3) := dk_180 0 43 (dk_at dksX1_helps_1 17 rfl rfl)
theorem dX1_helps_42 : decode cX1_helps 42 = .ok (.iload_n 3, 1) := dk_29 (dk_at dksX1_helps_1 20 rfl rfl)
theorem dX1_helps_43 : decode cX1_helps 43 = .ok (.invokevirtual 202, 3) := dk_182 0 202 (dk_at dksX1_helps_1 21 rfl rfl)
theorem dX1_helps_46 : decode cX1_helps 46 = .ok (.ifCond .eq 17, 3) := dk_153 0 17 (dk_at dksX1_helps_2 0 rfl rfl)
theorem dX1_helps_49 : decode cX1_helps 49 = .ok (.iload 4, 2) := dk_21 4 (dk_at dksX1_helps_2 3 rfl rfl)
theorem dX1_helps_51 : decode cX1_helps 51 = .ok (.iload_n 2, 1) := dk_28 (dk_at dksX1_helps_2 5 rfl rfl)
theorem dX1_helps_52 : decode cX1_helps 52 = .ok (.if_icmp .gt 6, 3) := dk_163 0 6 (dk_at dksX1_helps_2 6 rfl rfl)
theorem dX1_helps_55 : decode cX1_helps 55 = .ok (.goto 8, 3) := dk_167 0 8 (dk_at dksX1_helps_2 9 rfl rfl)
theorem dX1_helps_58 : decode cX1_helps 58 = .ok (.iload_n 3, 1) := dk_29 (dk_at dksX1_helps_2 12 rfl rfl)
theorem dX1_helps_59 : decode cX1_helps 59 = .ok (.istore_n 1, 1) := dk_60 (dk_at dksX1_helps_2 13 rfl rfl)
theorem dX1_helps_60 : decode cX1_helps 60 = .ok (.iload 4, 2) := dk_21 4 (dk_at dksX1_helps_2 14 rfl rfl)
theorem dX1_helps_62 : decode cX1_helps 62 = .ok (.istore_n 2, 1) := dk_61 (dk_at dksX1_helps_2 16 rfl rfl)
theorem dX1_helps_63 : decode cX1_helps 63 = .ok (.iinc 3 1, 3) := dk_132 3 1 (dk_at dksX1_helps_2 17 rfl rfl)
theorem dX1_helps_66 : decode cX1_helps 66 = .ok (.goto (-59), 3) := dk_167 255 197 (dk_at dksX1_helps_2 20 rfl rfl)
theorem dX1_helps_69 : decode cX1_helps 69 = .ok (.iload_n 1, 1) := dk_27 (dk_at dksX1_helps_2 23 rfl rfl)
theorem dX1_helps_70 : decode cX1_helps 70 = .ok (.ireturn, 1) := dk_172 (dk_at dksX1_helps_3 0 rfl rfl)
abbrev cX1_manyBeside : ByteArray := prog_1_method_39_code
def yX1_manyBeside : MethodName := ⟨RX1, "manyBeside", "(I)I"⟩
def dkwX1_manyBeside_1 : List UInt8 := [96, 182, 0, 47, 153, 0, 7, 4, 167, 0, 4, 3, 96, 172]
abbrev dktX1_manyBeside_1 : List UInt8 := dkwX1_manyBeside_1 ++ []
def dkwX1_manyBeside_0 : List UInt8 := [42, 180, 0, 43, 27, 4, 100, 182, 0, 47, 153, 0, 7, 4, 167, 0, 4, 3, 42, 180, 0, 43, 27, 4]
abbrev dktX1_manyBeside_0 : List UInt8 := dkwX1_manyBeside_0 ++ dktX1_manyBeside_1
theorem dksX1_manyBeside_0 : cX1_manyBeside.data.toList.drop 0 = dktX1_manyBeside_0 := by decide +kernel
theorem dksX1_manyBeside_1 : cX1_manyBeside.data.toList.drop 24 = dktX1_manyBeside_1 := dk_seg dksX1_manyBeside_0 24 rfl rfl
theorem dX1_manyBeside_0 : decode cX1_manyBeside 0 = .ok (.aload_n 0, 1) := dk_42 (dk_at dksX1_manyBeside_0 0 rfl rfl)
theorem dX1_manyBeside_1 : decode cX1_manyBeside 1 = .ok (.getfield 43, 3) := dk_180 0 43 (dk_at dksX1_manyBeside_0 1 rfl rfl)
theorem dX1_manyBeside_4 : decode cX1_manyBeside 4 = .ok (.iload_n 1, 1) := dk_27 (dk_at dksX1_manyBeside_0 4 rfl rfl)
theorem dX1_manyBeside_5 : decode cX1_manyBeside 5 = .ok (.iconst 1, 1) := dk_4 (dk_at dksX1_manyBeside_0 5 rfl rfl)
theorem dX1_manyBeside_6 : decode cX1_manyBeside 6 = .ok (.isub, 1) := dk_100 (dk_at dksX1_manyBeside_0 6 rfl rfl)
theorem dX1_manyBeside_7 : decode cX1_manyBeside 7 = .ok (.invokevirtual 47, 3) := dk_182 0 47 (dk_at dksX1_manyBeside_0 7 rfl rfl)
theorem dX1_manyBeside_10 : decode cX1_manyBeside 10 = .ok (.ifCond .eq 7, 3) := dk_153 0 7 (dk_at dksX1_manyBeside_0 10 rfl rfl)
theorem dX1_manyBeside_13 : decode cX1_manyBeside 13 = .ok (.iconst 1, 1) := dk_4 (dk_at dksX1_manyBeside_0 13 rfl rfl)
theorem dX1_manyBeside_14 : decode cX1_manyBeside 14 = .ok (.goto 4, 3) := dk_167 0 4 (dk_at dksX1_manyBeside_0 14 rfl rfl)
theorem dX1_manyBeside_17 : decode cX1_manyBeside 17 = .ok (.iconst 0, 1) := dk_3 (dk_at dksX1_manyBeside_0 17 rfl rfl)
theorem dX1_manyBeside_18 : decode cX1_manyBeside 18 = .ok (.aload_n 0, 1) := dk_42 (dk_at dksX1_manyBeside_0 18 rfl rfl)
theorem dX1_manyBeside_19 : decode cX1_manyBeside 19 = .ok (.getfield 43, 3) := dk_180 0 43 (dk_at dksX1_manyBeside_0 19 rfl rfl)
theorem dX1_manyBeside_22 : decode cX1_manyBeside 22 = .ok (.iload_n 1, 1) := dk_27 (dk_at dksX1_manyBeside_0 22 rfl rfl)
theorem dX1_manyBeside_23 : decode cX1_manyBeside 23 = .ok (.iconst 1, 1) := dk_4 (dk_at dksX1_manyBeside_0 23 rfl rfl)
theorem dX1_manyBeside_24 : decode cX1_manyBeside 24 = .ok (.iadd, 1) := dk_96 (dk_at dksX1_manyBeside_1 0 rfl rfl)
theorem dX1_manyBeside_25 : decode cX1_manyBeside 25 = .ok (.invokevirtual 47, 3) := dk_182 0 47 (dk_at dksX1_manyBeside_1 1 rfl rfl)
theorem dX1_manyBeside_28 : decode cX1_manyBeside 28 = .ok (.ifCond .eq 7, 3) := dk_153 0 7 (dk_at dksX1_manyBeside_1 4 rfl rfl)
theorem dX1_manyBeside_31 : decode cX1_manyBeside 31 = .ok (.iconst 1, 1) := dk_4 (dk_at dksX1_manyBeside_1 7 rfl rfl)
theorem dX1_manyBeside_32 : decode cX1_manyBeside 32 = .ok (.goto 4, 3) := dk_167 0 4 (dk_at dksX1_manyBeside_1 8 rfl rfl)
theorem dX1_manyBeside_35 : decode cX1_manyBeside 35 = .ok (.iconst 0, 1) := dk_3 (dk_at dksX1_manyBeside_1 11 rfl rfl)
theorem dX1_manyBeside_36 : decode cX1_manyBeside 36 = .ok (.iadd, 1) := dk_96 (dk_at dksX1_manyBeside_1 12 rfl rfl)
theorem dX1_manyBeside_37 : decode cX1_manyBeside 37 = .ok (.ireturn, 1) := dk_172 (dk_at dksX1_manyBeside_1 13 rfl rfl)
abbrev cX1_bands : ByteArray := prog_1_method_41_code
def yX1_bands : MethodName := ⟨RX1, "bands", "(III)I"⟩
def dkwX1_bands_5 : List UInt8 := [154, 0, 6, 16, 252, 172, 132, 4, 1, 167, 255, 181, 16, 252, 172]
abbrev dktX1_bands_5 : List UInt8 := dkwX1_bands_5 ++ []
def dkwX1_bands_4 : List UInt8 := [180, 0, 43, 180, 0, 81, 27, 46, 182, 0, 179, 21, 5, 100, 162, 0, 6, 21, 4, 172, 21, 5]
abbrev dktX1_bands_4 : List UInt8 := dkwX1_bands_4 ++ dktX1_bands_5
def dkwX1_bands_3 : List UInt8 := [180, 0, 43, 180, 0, 77, 27, 46, 21, 4, 96, 184, 0, 209, 42, 180, 0, 43, 180, 0, 162, 27, 50, 42]
abbrev dktX1_bands_3 : List UInt8 := dkwX1_bands_3 ++ dktX1_bands_4
def dkwX1_bands_2 : List UInt8 := [54, 4, 21, 4, 16, 9, 163, 0, 74, 3, 28, 29, 21, 4, 104, 100, 184, 0, 9, 54, 5, 42]
abbrev dktX1_bands_2 : List UInt8 := dkwX1_bands_2 ++ dktX1_bands_3
def dkwX1_bands_1 : List UInt8 := [184, 0, 39, 154, 0, 5, 2, 172, 42, 180, 0, 43, 27, 182, 0, 53, 153, 0, 6, 16, 253, 172, 3]
abbrev dktX1_bands_1 : List UInt8 := dkwX1_bands_1 ++ dktX1_bands_2
def dkwX1_bands_0 : List UInt8 := [42, 180, 0, 43, 27, 182, 0, 47, 153, 0, 20, 28, 184, 0, 196, 153, 0, 13, 29, 4, 16, 9]
abbrev dktX1_bands_0 : List UInt8 := dkwX1_bands_0 ++ dktX1_bands_1
theorem dksX1_bands_0 : cX1_bands.data.toList.drop 0 = dktX1_bands_0 := by decide +kernel
theorem dksX1_bands_1 : cX1_bands.data.toList.drop 22 = dktX1_bands_1 := dk_seg dksX1_bands_0 22 rfl rfl
theorem dksX1_bands_2 : cX1_bands.data.toList.drop 45 = dktX1_bands_2 := dk_seg dksX1_bands_1 23 rfl rfl
theorem dksX1_bands_3 : cX1_bands.data.toList.drop 67 = dktX1_bands_3 := dk_seg dksX1_bands_2 22 rfl rfl
theorem dksX1_bands_4 : cX1_bands.data.toList.drop 91 = dktX1_bands_4 := dk_seg dksX1_bands_3 24 rfl rfl
theorem dksX1_bands_5 : cX1_bands.data.toList.drop 113 = dktX1_bands_5 := dk_seg dksX1_bands_4 22 rfl rfl
theorem dX1_bands_0 : decode cX1_bands 0 = .ok (.aload_n 0, 1) := dk_42 (dk_at dksX1_bands_0 0 rfl rfl)
theorem dX1_bands_1 : decode cX1_bands 1 = .ok (.getfield 43, 3) := dk_180 0 43 (dk_at dksX1_bands_0 1 rfl rfl)
theorem dX1_bands_4 : decode cX1_bands 4 = .ok (.iload_n 1, 1) := dk_27 (dk_at dksX1_bands_0 4 rfl rfl)
theorem dX1_bands_5 : decode cX1_bands 5 = .ok (.invokevirtual 47, 3) := dk_182 0 47 (dk_at dksX1_bands_0 5 rfl rfl)
theorem dX1_bands_8 : decode cX1_bands 8 = .ok (.ifCond .eq 20, 3) := dk_153 0 20 (dk_at dksX1_bands_0 8 rfl rfl)
theorem dX1_bands_11 : decode cX1_bands 11 = .ok (.iload_n 2, 1) := dk_28 (dk_at dksX1_bands_0 11 rfl rfl)
theorem dX1_bands_12 : decode cX1_bands 12 = .ok (.invokestatic 196, 3) := dk_184 0 196 (dk_at dksX1_bands_0 12 rfl rfl)
theorem dX1_bands_15 : decode cX1_bands 15 = .ok (.ifCond .eq 13, 3) := dk_153 0 13 (dk_at dksX1_bands_0 15 rfl rfl)
theorem dX1_bands_18 : decode cX1_bands 18 = .ok (.iload_n 3, 1) := dk_29 (dk_at dksX1_bands_0 18 rfl rfl)
theorem dX1_bands_19 : decode cX1_bands 19 = .ok (.iconst 1, 1) := dk_4 (dk_at dksX1_bands_0 19 rfl rfl)
theorem dX1_bands_20 : decode cX1_bands 20 = .ok (.bipush 9, 2) := dk_16 9 (dk_at dksX1_bands_0 20 rfl rfl)
theorem dX1_bands_22 : decode cX1_bands 22 = .ok (.invokestatic 39, 3) := dk_184 0 39 (dk_at dksX1_bands_1 0 rfl rfl)
theorem dX1_bands_25 : decode cX1_bands 25 = .ok (.ifCond .ne 5, 3) := dk_154 0 5 (dk_at dksX1_bands_1 3 rfl rfl)
theorem dX1_bands_28 : decode cX1_bands 28 = .ok (.iconst (-1), 1) := dk_2 (dk_at dksX1_bands_1 6 rfl rfl)
theorem dX1_bands_29 : decode cX1_bands 29 = .ok (.ireturn, 1) := dk_172 (dk_at dksX1_bands_1 7 rfl rfl)
theorem dX1_bands_30 : decode cX1_bands 30 = .ok (.aload_n 0, 1) := dk_42 (dk_at dksX1_bands_1 8 rfl rfl)
theorem dX1_bands_31 : decode cX1_bands 31 = .ok (.getfield 43, 3) := dk_180 0 43 (dk_at dksX1_bands_1 9 rfl rfl)
theorem dX1_bands_34 : decode cX1_bands 34 = .ok (.iload_n 1, 1) := dk_27 (dk_at dksX1_bands_1 12 rfl rfl)
theorem dX1_bands_35 : decode cX1_bands 35 = .ok (.invokevirtual 53, 3) := dk_182 0 53 (dk_at dksX1_bands_1 13 rfl rfl)
theorem dX1_bands_38 : decode cX1_bands 38 = .ok (.ifCond .eq 6, 3) := dk_153 0 6 (dk_at dksX1_bands_1 16 rfl rfl)
theorem dX1_bands_41 : decode cX1_bands 41 = .ok (.bipush (-3), 2) := dk_16 253 (dk_at dksX1_bands_1 19 rfl rfl)
theorem dX1_bands_43 : decode cX1_bands 43 = .ok (.ireturn, 1) := dk_172 (dk_at dksX1_bands_1 21 rfl rfl)
theorem dX1_bands_44 : decode cX1_bands 44 = .ok (.iconst 0, 1) := dk_3 (dk_at dksX1_bands_1 22 rfl rfl)
theorem dX1_bands_45 : decode cX1_bands 45 = .ok (.istore 4, 2) := dk_54 4 (dk_at dksX1_bands_2 0 rfl rfl)
theorem dX1_bands_47 : decode cX1_bands 47 = .ok (.iload 4, 2) := dk_21 4 (dk_at dksX1_bands_2 2 rfl rfl)
theorem dX1_bands_49 : decode cX1_bands 49 = .ok (.bipush 9, 2) := dk_16 9 (dk_at dksX1_bands_2 4 rfl rfl)
theorem dX1_bands_51 : decode cX1_bands 51 = .ok (.if_icmp .gt 74, 3) := dk_163 0 74 (dk_at dksX1_bands_2 6 rfl rfl)
theorem dX1_bands_54 : decode cX1_bands 54 = .ok (.iconst 0, 1) := dk_3 (dk_at dksX1_bands_2 9 rfl rfl)
theorem dX1_bands_55 : decode cX1_bands 55 = .ok (.iload_n 2, 1) := dk_28 (dk_at dksX1_bands_2 10 rfl rfl)
theorem dX1_bands_56 : decode cX1_bands 56 = .ok (.iload_n 3, 1) := dk_29 (dk_at dksX1_bands_2 11 rfl rfl)
theorem dX1_bands_57 : decode cX1_bands 57 = .ok (.iload 4, 2) := dk_21 4 (dk_at dksX1_bands_2 12 rfl rfl)
theorem dX1_bands_59 : decode cX1_bands 59 = .ok (.imul, 1) := dk_104 (dk_at dksX1_bands_2 14 rfl rfl)
theorem dX1_bands_60 : decode cX1_bands 60 = .ok (.isub, 1) := dk_100 (dk_at dksX1_bands_2 15 rfl rfl)
theorem dX1_bands_61 : decode cX1_bands 61 = .ok (.invokestatic 9, 3) := dk_184 0 9 (dk_at dksX1_bands_2 16 rfl rfl)
theorem dX1_bands_64 : decode cX1_bands 64 = .ok (.istore 5, 2) := dk_54 5 (dk_at dksX1_bands_2 19 rfl rfl)
theorem dX1_bands_66 : decode cX1_bands 66 = .ok (.aload_n 0, 1) := dk_42 (dk_at dksX1_bands_2 21 rfl rfl)
theorem dX1_bands_67 : decode cX1_bands 67 = .ok (.getfield 43, 3) := dk_180 0 43 (dk_at dksX1_bands_3 0 rfl rfl)
theorem dX1_bands_70 : decode cX1_bands 70 = .ok (.getfield 77, 3) := dk_180 0 77 (dk_at dksX1_bands_3 3 rfl rfl)
theorem dX1_bands_73 : decode cX1_bands 73 = .ok (.iload_n 1, 1) := dk_27 (dk_at dksX1_bands_3 6 rfl rfl)
theorem dX1_bands_74 : decode cX1_bands 74 = .ok (.iaload, 1) := dk_46 (dk_at dksX1_bands_3 7 rfl rfl)
theorem dX1_bands_75 : decode cX1_bands 75 = .ok (.iload 4, 2) := dk_21 4 (dk_at dksX1_bands_3 8 rfl rfl)
theorem dX1_bands_77 : decode cX1_bands 77 = .ok (.iadd, 1) := dk_96 (dk_at dksX1_bands_3 10 rfl rfl)
theorem dX1_bands_78 : decode cX1_bands 78 = .ok (.invokestatic 209, 3) := dk_184 0 209 (dk_at dksX1_bands_3 11 rfl rfl)
theorem dX1_bands_81 : decode cX1_bands 81 = .ok (.aload_n 0, 1) := dk_42 (dk_at dksX1_bands_3 14 rfl rfl)
theorem dX1_bands_82 : decode cX1_bands 82 = .ok (.getfield 43, 3) := dk_180 0 43 (dk_at dksX1_bands_3 15 rfl rfl)
theorem dX1_bands_85 : decode cX1_bands 85 = .ok (.getfield 162, 3) := dk_180 0 162 (dk_at dksX1_bands_3 18 rfl rfl)
theorem dX1_bands_88 : decode cX1_bands 88 = .ok (.iload_n 1, 1) := dk_27 (dk_at dksX1_bands_3 21 rfl rfl)
theorem dX1_bands_89 : decode cX1_bands 89 = .ok (.aaload, 1) := dk_50 (dk_at dksX1_bands_3 22 rfl rfl)
theorem dX1_bands_90 : decode cX1_bands 90 = .ok (.aload_n 0, 1) := dk_42 (dk_at dksX1_bands_3 23 rfl rfl)
theorem dX1_bands_91 : decode cX1_bands 91 = .ok (.getfield 43, 3) := dk_180 0 43 (dk_at dksX1_bands_4 0 rfl rfl)
theorem dX1_bands_94 : decode cX1_bands 94 = .ok (.getfield 81, 3) := dk_180 0 81 (dk_at dksX1_bands_4 3 rfl rfl)
theorem dX1_bands_97 : decode cX1_bands 97 = .ok (.iload_n 1, 1) := dk_27 (dk_at dksX1_bands_4 6 rfl rfl)
theorem dX1_bands_98 : decode cX1_bands 98 = .ok (.iaload, 1) := dk_46 (dk_at dksX1_bands_4 7 rfl rfl)
theorem dX1_bands_99 : decode cX1_bands 99 = .ok (.invokevirtual 179, 3) := dk_182 0 179 (dk_at dksX1_bands_4 8 rfl rfl)
theorem dX1_bands_102 : decode cX1_bands 102 = .ok (.iload 5, 2) := dk_21 5 (dk_at dksX1_bands_4 11 rfl rfl)
theorem dX1_bands_104 : decode cX1_bands 104 = .ok (.isub, 1) := dk_100 (dk_at dksX1_bands_4 13 rfl rfl)
theorem dX1_bands_105 : decode cX1_bands 105 = .ok (.if_icmp .ge 6, 3) := dk_162 0 6 (dk_at dksX1_bands_4 14 rfl rfl)
theorem dX1_bands_108 : decode cX1_bands 108 = .ok (.iload 4, 2) := dk_21 4 (dk_at dksX1_bands_4 17 rfl rfl)
theorem dX1_bands_110 : decode cX1_bands 110 = .ok (.ireturn, 1) := dk_172 (dk_at dksX1_bands_4 19 rfl rfl)
theorem dX1_bands_111 : decode cX1_bands 111 = .ok (.iload 5, 2) := dk_21 5 (dk_at dksX1_bands_4 20 rfl rfl)
theorem dX1_bands_113 : decode cX1_bands 113 = .ok (.ifCond .ne 6, 3) := dk_154 0 6 (dk_at dksX1_bands_5 0 rfl rfl)
theorem dX1_bands_116 : decode cX1_bands 116 = .ok (.bipush (-4), 2) := dk_16 252 (dk_at dksX1_bands_5 3 rfl rfl)
theorem dX1_bands_118 : decode cX1_bands 118 = .ok (.ireturn, 1) := dk_172 (dk_at dksX1_bands_5 5 rfl rfl)
theorem dX1_bands_119 : decode cX1_bands 119 = .ok (.iinc 4 1, 3) := dk_132 4 1 (dk_at dksX1_bands_5 6 rfl rfl)
theorem dX1_bands_122 : decode cX1_bands 122 = .ok (.goto (-75), 3) := dk_167 255 181 (dk_at dksX1_bands_5 9 rfl rfl)
theorem dX1_bands_125 : decode cX1_bands 125 = .ok (.bipush (-4), 2) := dk_16 252 (dk_at dksX1_bands_5 12 rfl rfl)
theorem dX1_bands_127 : decode cX1_bands 127 = .ok (.ireturn, 1) := dk_172 (dk_at dksX1_bands_5 14 rfl rfl)
abbrev cX1_frights : ByteArray := prog_1_method_45_code
def yX1_frights : MethodName := ⟨RX1, "frights", "(IIIII)J"⟩
def dkwX1_frights_7 : List UInt8 := [132, 10, 1, 167, 255, 180, 22, 6, 22, 8, 21, 5, 184, 1, 40, 173]
abbrev dktX1_frights_7 : List UInt8 := dkwX1_frights_7 ++ []
def dkwX1_frights_6 : List UInt8 := [22, 6, 42, 27, 28, 21, 10, 182, 1, 36, 29, 161, 0, 8, 22, 11, 167, 0, 4, 9, 97, 55, 6]
abbrev dktX1_frights_6 : List UInt8 := dkwX1_frights_6 ++ dktX1_frights_7
def dkwX1_frights_5 : List UInt8 := [184, 1, 20, 153, 0, 7, 10, 167, 0, 8, 21, 4, 4, 100, 133, 105, 55, 11, 132, 13, 1, 167, 255, 223]
abbrev dktX1_frights_5 : List UInt8 := dkwX1_frights_5 ++ dktX1_frights_6
def dkwX1_frights_4 : List UInt8 := [120, 162, 0, 74, 10, 55, 11, 3, 54, 13, 21, 13, 28, 162, 0, 33, 22, 11, 21, 10, 21, 13]
abbrev dktX1_frights_4 : List UInt8 := dkwX1_frights_4 ++ dktX1_frights_5
def dkwX1_frights_3 : List UInt8 := [162, 0, 17, 22, 8, 21, 4, 133, 105, 55, 8, 132, 10, 1, 167, 255, 239, 3, 54, 10, 21, 10, 4, 28]
abbrev dktX1_frights_3 : List UInt8 := dkwX1_frights_3 ++ dktX1_frights_4
def dkwX1_frights_2 : List UInt8 := [184, 0, 39, 154, 0, 7, 20, 1, 34, 173, 9, 55, 6, 10, 55, 8, 3, 54, 10, 21, 10, 28]
abbrev dktX1_frights_2 : List UInt8 := dkwX1_frights_2 ++ dktX1_frights_3
def dkwX1_frights_1 : List UInt8 := [16, 7, 184, 0, 39, 153, 0, 24, 21, 4, 5, 16, 20, 184, 0, 39, 153, 0, 13, 21, 5, 3, 4]
abbrev dktX1_frights_1 : List UInt8 := dkwX1_frights_1 ++ dktX1_frights_2
def dkwX1_frights_0 : List UInt8 := [42, 180, 0, 43, 27, 182, 0, 47, 153, 0, 44, 28, 3, 16, 8, 184, 0, 39, 153, 0, 34, 29, 3]
abbrev dktX1_frights_0 : List UInt8 := dkwX1_frights_0 ++ dktX1_frights_1
theorem dksX1_frights_0 : cX1_frights.data.toList.drop 0 = dktX1_frights_0 := by decide +kernel
theorem dksX1_frights_1 : cX1_frights.data.toList.drop 23 = dktX1_frights_1 := dk_seg dksX1_frights_0 23 rfl rfl
theorem dksX1_frights_2 : cX1_frights.data.toList.drop 46 = dktX1_frights_2 := dk_seg dksX1_frights_1 23 rfl rfl
theorem dksX1_frights_3 : cX1_frights.data.toList.drop 68 = dktX1_frights_3 := dk_seg dksX1_frights_2 22 rfl rfl
theorem dksX1_frights_4 : cX1_frights.data.toList.drop 92 = dktX1_frights_4 := dk_seg dksX1_frights_3 24 rfl rfl
theorem dksX1_frights_5 : cX1_frights.data.toList.drop 114 = dktX1_frights_5 := dk_seg dksX1_frights_4 22 rfl rfl
theorem dksX1_frights_6 : cX1_frights.data.toList.drop 138 = dktX1_frights_6 := dk_seg dksX1_frights_5 24 rfl rfl
theorem dksX1_frights_7 : cX1_frights.data.toList.drop 161 = dktX1_frights_7 := dk_seg dksX1_frights_6 23 rfl rfl
theorem dX1_frights_0 : decode cX1_frights 0 = .ok (.aload_n 0, 1) := dk_42 (dk_at dksX1_frights_0 0 rfl rfl)
theorem dX1_frights_1 : decode cX1_frights 1 = .ok (.getfield 43, 3) := dk_180 0 43 (dk_at dksX1_frights_0 1 rfl rfl)
theorem dX1_frights_4 : decode cX1_frights 4 = .ok (.iload_n 1, 1) := dk_27 (dk_at dksX1_frights_0 4 rfl rfl)
theorem dX1_frights_5 : decode cX1_frights 5 = .ok (.invokevirtual 47, 3) := dk_182 0 47 (dk_at dksX1_frights_0 5 rfl rfl)
theorem dX1_frights_8 : decode cX1_frights 8 = .ok (.ifCond .eq 44, 3) := dk_153 0 44 (dk_at dksX1_frights_0 8 rfl rfl)
theorem dX1_frights_11 : decode cX1_frights 11 = .ok (.iload_n 2, 1) := dk_28 (dk_at dksX1_frights_0 11 rfl rfl)
theorem dX1_frights_12 : decode cX1_frights 12 = .ok (.iconst 0, 1) := dk_3 (dk_at dksX1_frights_0 12 rfl rfl)
theorem dX1_frights_13 : decode cX1_frights 13 = .ok (.bipush 8, 2) := dk_16 8 (dk_at dksX1_frights_0 13 rfl rfl)
theorem dX1_frights_15 : decode cX1_frights 15 = .ok (.invokestatic 39, 3) := dk_184 0 39 (dk_at dksX1_frights_0 15 rfl rfl)
theorem dX1_frights_18 : decode cX1_frights 18 = .ok (.ifCond .eq 34, 3) := dk_153 0 34 (dk_at dksX1_frights_0 18 rfl rfl)
theorem dX1_frights_21 : decode cX1_frights 21 = .ok (.iload_n 3, 1) := dk_29 (dk_at dksX1_frights_0 21 rfl rfl)
theorem dX1_frights_22 : decode cX1_frights 22 = .ok (.iconst 0, 1) := dk_3 (dk_at dksX1_frights_0 22 rfl rfl)
theorem dX1_frights_23 : decode cX1_frights 23 = .ok (.bipush 7, 2) := dk_16 7 (dk_at dksX1_frights_1 0 rfl rfl)
theorem dX1_frights_25 : decode cX1_frights 25 = .ok (.invokestatic 39, 3) := dk_184 0 39 (dk_at dksX1_frights_1 2 rfl rfl)
theorem dX1_frights_28 : decode cX1_frights 28 = .ok (.ifCond .eq 24, 3) := dk_153 0 24 (dk_at dksX1_frights_1 5 rfl rfl)
theorem dX1_frights_31 : decode cX1_frights 31 = .ok (.iload 4, 2) := dk_21 4 (dk_at dksX1_frights_1 8 rfl rfl)
theorem dX1_frights_33 : decode cX1_frights 33 = .ok (.iconst 2, 1) := dk_5 (dk_at dksX1_frights_1 10 rfl rfl)
theorem dX1_frights_34 : decode cX1_frights 34 = .ok (.bipush 20, 2) := dk_16 20 (dk_at dksX1_frights_1 11 rfl rfl)
theorem dX1_frights_36 : decode cX1_frights 36 = .ok (.invokestatic 39, 3) := dk_184 0 39 (dk_at dksX1_frights_1 13 rfl rfl)
theorem dX1_frights_39 : decode cX1_frights 39 = .ok (.ifCond .eq 13, 3) := dk_153 0 13 (dk_at dksX1_frights_1 16 rfl rfl)
theorem dX1_frights_42 : decode cX1_frights 42 = .ok (.iload 5, 2) := dk_21 5 (dk_at dksX1_frights_1 19 rfl rfl)
theorem dX1_frights_44 : decode cX1_frights 44 = .ok (.iconst 0, 1) := dk_3 (dk_at dksX1_frights_1 21 rfl rfl)
theorem dX1_frights_45 : decode cX1_frights 45 = .ok (.iconst 1, 1) := dk_4 (dk_at dksX1_frights_1 22 rfl rfl)
theorem dX1_frights_46 : decode cX1_frights 46 = .ok (.invokestatic 39, 3) := dk_184 0 39 (dk_at dksX1_frights_2 0 rfl rfl)
theorem dX1_frights_49 : decode cX1_frights 49 = .ok (.ifCond .ne 7, 3) := dk_154 0 7 (dk_at dksX1_frights_2 3 rfl rfl)
theorem dX1_frights_52 : decode cX1_frights 52 = .ok (.ldc2_w 290, 3) := dk_20 1 34 (dk_at dksX1_frights_2 6 rfl rfl)
theorem dX1_frights_55 : decode cX1_frights 55 = .ok (.lreturn, 1) := dk_173 (dk_at dksX1_frights_2 9 rfl rfl)
theorem dX1_frights_56 : decode cX1_frights 56 = .ok (.lconst 0, 1) := dk_9 (dk_at dksX1_frights_2 10 rfl rfl)
theorem dX1_frights_57 : decode cX1_frights 57 = .ok (.lstore 6, 2) := dk_55 6 (dk_at dksX1_frights_2 11 rfl rfl)
theorem dX1_frights_59 : decode cX1_frights 59 = .ok (.lconst 1, 1) := dk_10 (dk_at dksX1_frights_2 13 rfl rfl)
theorem dX1_frights_60 : decode cX1_frights 60 = .ok (.lstore 8, 2) := dk_55 8 (dk_at dksX1_frights_2 14 rfl rfl)
theorem dX1_frights_62 : decode cX1_frights 62 = .ok (.iconst 0, 1) := dk_3 (dk_at dksX1_frights_2 16 rfl rfl)
theorem dX1_frights_63 : decode cX1_frights 63 = .ok (.istore 10, 2) := dk_54 10 (dk_at dksX1_frights_2 17 rfl rfl)
theorem dX1_frights_65 : decode cX1_frights 65 = .ok (.iload 10, 2) := dk_21 10 (dk_at dksX1_frights_2 19 rfl rfl)
theorem dX1_frights_67 : decode cX1_frights 67 = .ok (.iload_n 2, 1) := dk_28 (dk_at dksX1_frights_2 21 rfl rfl)
theorem dX1_frights_68 : decode cX1_frights 68 = .ok (.if_icmp .ge 17, 3) := dk_162 0 17 (dk_at dksX1_frights_3 0 rfl rfl)
theorem dX1_frights_71 : decode cX1_frights 71 = .ok (.lload 8, 2) := dk_22 8 (dk_at dksX1_frights_3 3 rfl rfl)
theorem dX1_frights_73 : decode cX1_frights 73 = .ok (.iload 4, 2) := dk_21 4 (dk_at dksX1_frights_3 5 rfl rfl)
theorem dX1_frights_75 : decode cX1_frights 75 = .ok (.i2l, 1) := dk_133 (dk_at dksX1_frights_3 7 rfl rfl)
theorem dX1_frights_76 : decode cX1_frights 76 = .ok (.lmul, 1) := dk_105 (dk_at dksX1_frights_3 8 rfl rfl)
theorem dX1_frights_77 : decode cX1_frights 77 = .ok (.lstore 8, 2) := dk_55 8 (dk_at dksX1_frights_3 9 rfl rfl)
theorem dX1_frights_79 : decode cX1_frights 79 = .ok (.iinc 10 1, 3) := dk_132 10 1 (dk_at dksX1_frights_3 11 rfl rfl)
theorem dX1_frights_82 : decode cX1_frights 82 = .ok (.goto (-17), 3) := dk_167 255 239 (dk_at dksX1_frights_3 14 rfl rfl)
theorem dX1_frights_85 : decode cX1_frights 85 = .ok (.iconst 0, 1) := dk_3 (dk_at dksX1_frights_3 17 rfl rfl)
theorem dX1_frights_86 : decode cX1_frights 86 = .ok (.istore 10, 2) := dk_54 10 (dk_at dksX1_frights_3 18 rfl rfl)
theorem dX1_frights_88 : decode cX1_frights 88 = .ok (.iload 10, 2) := dk_21 10 (dk_at dksX1_frights_3 20 rfl rfl)
theorem dX1_frights_90 : decode cX1_frights 90 = .ok (.iconst 1, 1) := dk_4 (dk_at dksX1_frights_3 22 rfl rfl)
theorem dX1_frights_91 : decode cX1_frights 91 = .ok (.iload_n 2, 1) := dk_28 (dk_at dksX1_frights_3 23 rfl rfl)
theorem dX1_frights_92 : decode cX1_frights 92 = .ok (.ishl, 1) := dk_120 (dk_at dksX1_frights_4 0 rfl rfl)
theorem dX1_frights_93 : decode cX1_frights 93 = .ok (.if_icmp .ge 74, 3) := dk_162 0 74 (dk_at dksX1_frights_4 1 rfl rfl)
theorem dX1_frights_96 : decode cX1_frights 96 = .ok (.lconst 1, 1) := dk_10 (dk_at dksX1_frights_4 4 rfl rfl)
theorem dX1_frights_97 : decode cX1_frights 97 = .ok (.lstore 11, 2) := dk_55 11 (dk_at dksX1_frights_4 5 rfl rfl)
theorem dX1_frights_99 : decode cX1_frights 99 = .ok (.iconst 0, 1) := dk_3 (dk_at dksX1_frights_4 7 rfl rfl)
theorem dX1_frights_100 : decode cX1_frights 100 = .ok (.istore 13, 2) := dk_54 13 (dk_at dksX1_frights_4 8 rfl rfl)
theorem dX1_frights_102 : decode cX1_frights 102 = .ok (.iload 13, 2) := dk_21 13 (dk_at dksX1_frights_4 10 rfl rfl)
theorem dX1_frights_104 : decode cX1_frights 104 = .ok (.iload_n 2, 1) := dk_28 (dk_at dksX1_frights_4 12 rfl rfl)
theorem dX1_frights_105 : decode cX1_frights 105 = .ok (.if_icmp .ge 33, 3) := dk_162 0 33 (dk_at dksX1_frights_4 13 rfl rfl)
theorem dX1_frights_108 : decode cX1_frights 108 = .ok (.lload 11, 2) := dk_22 11 (dk_at dksX1_frights_4 16 rfl rfl)
theorem dX1_frights_110 : decode cX1_frights 110 = .ok (.iload 10, 2) := dk_21 10 (dk_at dksX1_frights_4 18 rfl rfl)
theorem dX1_frights_112 : decode cX1_frights 112 = .ok (.iload 13, 2) := dk_21 13 (dk_at dksX1_frights_4 20 rfl rfl)
theorem dX1_frights_114 : decode cX1_frights 114 = .ok (.invokestatic 276, 3) := dk_184 1 20 (dk_at dksX1_frights_5 0 rfl rfl)
theorem dX1_frights_117 : decode cX1_frights 117 = .ok (.ifCond .eq 7, 3) := dk_153 0 7 (dk_at dksX1_frights_5 3 rfl rfl)
theorem dX1_frights_120 : decode cX1_frights 120 = .ok (.lconst 1, 1) := dk_10 (dk_at dksX1_frights_5 6 rfl rfl)
theorem dX1_frights_121 : decode cX1_frights 121 = .ok (.goto 8, 3) := dk_167 0 8 (dk_at dksX1_frights_5 7 rfl rfl)
theorem dX1_frights_124 : decode cX1_frights 124 = .ok (.iload 4, 2) := dk_21 4 (dk_at dksX1_frights_5 10 rfl rfl)
theorem dX1_frights_126 : decode cX1_frights 126 = .ok (.iconst 1, 1) := dk_4 (dk_at dksX1_frights_5 12 rfl rfl)
theorem dX1_frights_127 : decode cX1_frights 127 = .ok (.isub, 1) := dk_100 (dk_at dksX1_frights_5 13 rfl rfl)
theorem dX1_frights_128 : decode cX1_frights 128 = .ok (.i2l, 1) := dk_133 (dk_at dksX1_frights_5 14 rfl rfl)
theorem dX1_frights_129 : decode cX1_frights 129 = .ok (.lmul, 1) := dk_105 (dk_at dksX1_frights_5 15 rfl rfl)
theorem dX1_frights_130 : decode cX1_frights 130 = .ok (.lstore 11, 2) := dk_55 11 (dk_at dksX1_frights_5 16 rfl rfl)
theorem dX1_frights_132 : decode cX1_frights 132 = .ok (.iinc 13 1, 3) := dk_132 13 1 (dk_at dksX1_frights_5 18 rfl rfl)
theorem dX1_frights_135 : decode cX1_frights 135 = .ok (.goto (-33), 3) := dk_167 255 223 (dk_at dksX1_frights_5 21 rfl rfl)
theorem dX1_frights_138 : decode cX1_frights 138 = .ok (.lload 6, 2) := dk_22 6 (dk_at dksX1_frights_6 0 rfl rfl)
theorem dX1_frights_140 : decode cX1_frights 140 = .ok (.aload_n 0, 1) := dk_42 (dk_at dksX1_frights_6 2 rfl rfl)
theorem dX1_frights_141 : decode cX1_frights 141 = .ok (.iload_n 1, 1) := dk_27 (dk_at dksX1_frights_6 3 rfl rfl)
theorem dX1_frights_142 : decode cX1_frights 142 = .ok (.iload_n 2, 1) := dk_28 (dk_at dksX1_frights_6 4 rfl rfl)
theorem dX1_frights_143 : decode cX1_frights 143 = .ok (.iload 10, 2) := dk_21 10 (dk_at dksX1_frights_6 5 rfl rfl)
theorem dX1_frights_145 : decode cX1_frights 145 = .ok (.invokevirtual 292, 3) := dk_182 1 36 (dk_at dksX1_frights_6 7 rfl rfl)
theorem dX1_frights_148 : decode cX1_frights 148 = .ok (.iload_n 3, 1) := dk_29 (dk_at dksX1_frights_6 10 rfl rfl)
theorem dX1_frights_149 : decode cX1_frights 149 = .ok (.if_icmp .lt 8, 3) := dk_161 0 8 (dk_at dksX1_frights_6 11 rfl rfl)
theorem dX1_frights_152 : decode cX1_frights 152 = .ok (.lload 11, 2) := dk_22 11 (dk_at dksX1_frights_6 14 rfl rfl)
theorem dX1_frights_154 : decode cX1_frights 154 = .ok (.goto 4, 3) := dk_167 0 4 (dk_at dksX1_frights_6 16 rfl rfl)
theorem dX1_frights_157 : decode cX1_frights 157 = .ok (.lconst 0, 1) := dk_9 (dk_at dksX1_frights_6 19 rfl rfl)
theorem dX1_frights_158 : decode cX1_frights 158 = .ok (.ladd, 1) := dk_97 (dk_at dksX1_frights_6 20 rfl rfl)
theorem dX1_frights_159 : decode cX1_frights 159 = .ok (.lstore 6, 2) := dk_55 6 (dk_at dksX1_frights_6 21 rfl rfl)
theorem dX1_frights_161 : decode cX1_frights 161 = .ok (.iinc 10 1, 3) := dk_132 10 1 (dk_at dksX1_frights_7 0 rfl rfl)
theorem dX1_frights_164 : decode cX1_frights 164 = .ok (.goto (-76), 3) := dk_167 255 180 (dk_at dksX1_frights_7 3 rfl rfl)
theorem dX1_frights_167 : decode cX1_frights 167 = .ok (.lload 6, 2) := dk_22 6 (dk_at dksX1_frights_7 6 rfl rfl)
theorem dX1_frights_169 : decode cX1_frights 169 = .ok (.lload 8, 2) := dk_22 8 (dk_at dksX1_frights_7 8 rfl rfl)
theorem dX1_frights_171 : decode cX1_frights 171 = .ok (.iload 5, 2) := dk_21 5 (dk_at dksX1_frights_7 10 rfl rfl)
theorem dX1_frights_173 : decode cX1_frights 173 = .ok (.invokestatic 296, 3) := dk_184 1 40 (dk_at dksX1_frights_7 12 rfl rfl)
theorem dX1_frights_176 : decode cX1_frights 176 = .ok (.lreturn, 1) := dk_173 (dk_at dksX1_frights_7 15 rfl rfl)
abbrev cX1_gained : ByteArray := prog_1_method_44_code
def yX1_gained : MethodName := ⟨RX1, "gained", "(III)I"⟩
def dkwX1_gained_4 : List UInt8 := [132, 6, 1, 167, 255, 186, 21, 5, 42, 180, 0, 43, 180, 0, 81, 27, 46, 100, 172]
abbrev dktX1_gained_4 : List UInt8 := dkwX1_gained_4 ++ []
def dkwX1_gained_3 : List UInt8 := [167, 0, 23, 21, 4, 42, 180, 0, 43, 180, 0, 162, 27, 50, 182, 0, 183, 100, 184, 0, 209, 54, 4]
abbrev dktX1_gained_3 : List UInt8 := dkwX1_gained_3 ++ dktX1_gained_4
def dkwX1_gained_2 : List UInt8 := [27, 50, 21, 5, 182, 0, 179, 161, 0, 18, 29, 21, 6, 184, 1, 20, 154, 0, 9, 132, 5, 1]
abbrev dktX1_gained_2 : List UInt8 := dkwX1_gained_2 ++ dktX1_gained_3
def dkwX1_gained_1 : List UInt8 := [54, 6, 21, 6, 28, 162, 0, 70, 21, 5, 16, 7, 162, 0, 63, 21, 4, 42, 180, 0, 43, 180, 0, 162]
abbrev dktX1_gained_1 : List UInt8 := dkwX1_gained_1 ++ dktX1_gained_2
def dkwX1_gained_0 : List UInt8 := [42, 180, 0, 43, 180, 0, 77, 27, 46, 54, 4, 42, 180, 0, 43, 180, 0, 81, 27, 46, 54, 5, 3]
abbrev dktX1_gained_0 : List UInt8 := dkwX1_gained_0 ++ dktX1_gained_1
theorem dksX1_gained_0 : cX1_gained.data.toList.drop 0 = dktX1_gained_0 := by decide +kernel
theorem dksX1_gained_1 : cX1_gained.data.toList.drop 23 = dktX1_gained_1 := dk_seg dksX1_gained_0 23 rfl rfl
theorem dksX1_gained_2 : cX1_gained.data.toList.drop 47 = dktX1_gained_2 := dk_seg dksX1_gained_1 24 rfl rfl
theorem dksX1_gained_3 : cX1_gained.data.toList.drop 69 = dktX1_gained_3 := dk_seg dksX1_gained_2 22 rfl rfl
theorem dksX1_gained_4 : cX1_gained.data.toList.drop 92 = dktX1_gained_4 := dk_seg dksX1_gained_3 23 rfl rfl
theorem dX1_gained_0 : decode cX1_gained 0 = .ok (.aload_n 0, 1) := dk_42 (dk_at dksX1_gained_0 0 rfl rfl)
theorem dX1_gained_1 : decode cX1_gained 1 = .ok (.getfield 43, 3) := dk_180 0 43 (dk_at dksX1_gained_0 1 rfl rfl)
theorem dX1_gained_4 : decode cX1_gained 4 = .ok (.getfield 77, 3) := dk_180 0 77 (dk_at dksX1_gained_0 4 rfl rfl)
theorem dX1_gained_7 : decode cX1_gained 7 = .ok (.iload_n 1, 1) := dk_27 (dk_at dksX1_gained_0 7 rfl rfl)
theorem dX1_gained_8 : decode cX1_gained 8 = .ok (.iaload, 1) := dk_46 (dk_at dksX1_gained_0 8 rfl rfl)
theorem dX1_gained_9 : decode cX1_gained 9 = .ok (.istore 4, 2) := dk_54 4 (dk_at dksX1_gained_0 9 rfl rfl)
theorem dX1_gained_11 : decode cX1_gained 11 = .ok (.aload_n 0, 1) := dk_42 (dk_at dksX1_gained_0 11 rfl rfl)
theorem dX1_gained_12 : decode cX1_gained 12 = .ok (.getfield 43, 3) := dk_180 0 43 (dk_at dksX1_gained_0 12 rfl rfl)
theorem dX1_gained_15 : decode cX1_gained 15 = .ok (.getfield 81, 3) := dk_180 0 81 (dk_at dksX1_gained_0 15 rfl rfl)
theorem dX1_gained_18 : decode cX1_gained 18 = .ok (.iload_n 1, 1) := dk_27 (dk_at dksX1_gained_0 18 rfl rfl)
theorem dX1_gained_19 : decode cX1_gained 19 = .ok (.iaload, 1) := dk_46 (dk_at dksX1_gained_0 19 rfl rfl)
theorem dX1_gained_20 : decode cX1_gained 20 = .ok (.istore 5, 2) := dk_54 5 (dk_at dksX1_gained_0 20 rfl rfl)
theorem dX1_gained_22 : decode cX1_gained 22 = .ok (.iconst 0, 1) := dk_3 (dk_at dksX1_gained_0 22 rfl rfl)
theorem dX1_gained_23 : decode cX1_gained 23 = .ok (.istore 6, 2) := dk_54 6 (dk_at dksX1_gained_1 0 rfl rfl)
theorem dX1_gained_25 : decode cX1_gained 25 = .ok (.iload 6, 2) := dk_21 6 (dk_at dksX1_gained_1 2 rfl rfl)
theorem dX1_gained_27 : decode cX1_gained 27 = .ok (.iload_n 2, 1) := dk_28 (dk_at dksX1_gained_1 4 rfl rfl)
theorem dX1_gained_28 : decode cX1_gained 28 = .ok (.if_icmp .ge 70, 3) := dk_162 0 70 (dk_at dksX1_gained_1 5 rfl rfl)
theorem dX1_gained_31 : decode cX1_gained 31 = .ok (.iload 5, 2) := dk_21 5 (dk_at dksX1_gained_1 8 rfl rfl)
theorem dX1_gained_33 : decode cX1_gained 33 = .ok (.bipush 7, 2) := dk_16 7 (dk_at dksX1_gained_1 10 rfl rfl)
theorem dX1_gained_35 : decode cX1_gained 35 = .ok (.if_icmp .ge 63, 3) := dk_162 0 63 (dk_at dksX1_gained_1 12 rfl rfl)
theorem dX1_gained_38 : decode cX1_gained 38 = .ok (.iload 4, 2) := dk_21 4 (dk_at dksX1_gained_1 15 rfl rfl)
theorem dX1_gained_40 : decode cX1_gained 40 = .ok (.aload_n 0, 1) := dk_42 (dk_at dksX1_gained_1 17 rfl rfl)
theorem dX1_gained_41 : decode cX1_gained 41 = .ok (.getfield 43, 3) := dk_180 0 43 (dk_at dksX1_gained_1 18 rfl rfl)
theorem dX1_gained_44 : decode cX1_gained 44 = .ok (.getfield 162, 3) := dk_180 0 162 (dk_at dksX1_gained_1 21 rfl rfl)
theorem dX1_gained_47 : decode cX1_gained 47 = .ok (.iload_n 1, 1) := dk_27 (dk_at dksX1_gained_2 0 rfl rfl)
theorem dX1_gained_48 : decode cX1_gained 48 = .ok (.aaload, 1) := dk_50 (dk_at dksX1_gained_2 1 rfl rfl)
theorem dX1_gained_49 : decode cX1_gained 49 = .ok (.iload 5, 2) := dk_21 5 (dk_at dksX1_gained_2 2 rfl rfl)
theorem dX1_gained_51 : decode cX1_gained 51 = .ok (.invokevirtual 179, 3) := dk_182 0 179 (dk_at dksX1_gained_2 4 rfl rfl)
theorem dX1_gained_54 : decode cX1_gained 54 = .ok (.if_icmp .lt 18, 3) := dk_161 0 18 (dk_at dksX1_gained_2 7 rfl rfl)
theorem dX1_gained_57 : decode cX1_gained 57 = .ok (.iload_n 3, 1) := dk_29 (dk_at dksX1_gained_2 10 rfl rfl)
theorem dX1_gained_58 : decode cX1_gained 58 = .ok (.iload 6, 2) := dk_21 6 (dk_at dksX1_gained_2 11 rfl rfl)
theorem dX1_gained_60 : decode cX1_gained 60 = .ok (.invokestatic 276, 3) := dk_184 1 20 (dk_at dksX1_gained_2 13 rfl rfl)
theorem dX1_gained_63 : decode cX1_gained 63 = .ok (.ifCond .ne 9, 3) := dk_154 0 9 (dk_at dksX1_gained_2 16 rfl rfl)
theorem dX1_gained_66 : decode cX1_gained 66 = .ok (.iinc 5 1, 3) := dk_132 5 1 (dk_at dksX1_gained_2 19 rfl rfl)
theorem dX1_gained_69 : decode cX1_gained 69 = .ok (.goto 23, 3) := dk_167 0 23 (dk_at dksX1_gained_3 0 rfl rfl)
theorem dX1_gained_72 : decode cX1_gained 72 = .ok (.iload 4, 2) := dk_21 4 (dk_at dksX1_gained_3 3 rfl rfl)
theorem dX1_gained_74 : decode cX1_gained 74 = .ok (.aload_n 0, 1) := dk_42 (dk_at dksX1_gained_3 5 rfl rfl)
theorem dX1_gained_75 : decode cX1_gained 75 = .ok (.getfield 43, 3) := dk_180 0 43 (dk_at dksX1_gained_3 6 rfl rfl)
theorem dX1_gained_78 : decode cX1_gained 78 = .ok (.getfield 162, 3) := dk_180 0 162 (dk_at dksX1_gained_3 9 rfl rfl)
theorem dX1_gained_81 : decode cX1_gained 81 = .ok (.iload_n 1, 1) := dk_27 (dk_at dksX1_gained_3 12 rfl rfl)
theorem dX1_gained_82 : decode cX1_gained 82 = .ok (.aaload, 1) := dk_50 (dk_at dksX1_gained_3 13 rfl rfl)
theorem dX1_gained_83 : decode cX1_gained 83 = .ok (.invokevirtual 183, 3) := dk_182 0 183 (dk_at dksX1_gained_3 14 rfl rfl)
theorem dX1_gained_86 : decode cX1_gained 86 = .ok (.isub, 1) := dk_100 (dk_at dksX1_gained_3 17 rfl rfl)
theorem dX1_gained_87 : decode cX1_gained 87 = .ok (.invokestatic 209, 3) := dk_184 0 209 (dk_at dksX1_gained_3 18 rfl rfl)
theorem dX1_gained_90 : decode cX1_gained 90 = .ok (.istore 4, 2) := dk_54 4 (dk_at dksX1_gained_3 21 rfl rfl)
theorem dX1_gained_92 : decode cX1_gained 92 = .ok (.iinc 6 1, 3) := dk_132 6 1 (dk_at dksX1_gained_4 0 rfl rfl)
theorem dX1_gained_95 : decode cX1_gained 95 = .ok (.goto (-70), 3) := dk_167 255 186 (dk_at dksX1_gained_4 3 rfl rfl)
theorem dX1_gained_98 : decode cX1_gained 98 = .ok (.iload 5, 2) := dk_21 5 (dk_at dksX1_gained_4 6 rfl rfl)
theorem dX1_gained_100 : decode cX1_gained 100 = .ok (.aload_n 0, 1) := dk_42 (dk_at dksX1_gained_4 8 rfl rfl)
theorem dX1_gained_101 : decode cX1_gained 101 = .ok (.getfield 43, 3) := dk_180 0 43 (dk_at dksX1_gained_4 9 rfl rfl)
theorem dX1_gained_104 : decode cX1_gained 104 = .ok (.getfield 81, 3) := dk_180 0 81 (dk_at dksX1_gained_4 12 rfl rfl)
theorem dX1_gained_107 : decode cX1_gained 107 = .ok (.iload_n 1, 1) := dk_27 (dk_at dksX1_gained_4 15 rfl rfl)
theorem dX1_gained_108 : decode cX1_gained 108 = .ok (.iaload, 1) := dk_46 (dk_at dksX1_gained_4 16 rfl rfl)
theorem dX1_gained_109 : decode cX1_gained 109 = .ok (.isub, 1) := dk_100 (dk_at dksX1_gained_4 17 rfl rfl)
theorem dX1_gained_110 : decode cX1_gained 110 = .ok (.ireturn, 1) := dk_172 (dk_at dksX1_gained_4 18 rfl rfl)
abbrev cX1_partOf : ByteArray := prog_1_method_43_code
def yX1_partOf : MethodName := ⟨RX1, "partOf", "(JJI)J"⟩
def dkwX1_partOf_0 : List UInt8 := [21, 4, 154, 0, 7, 30, 167, 0, 4, 32, 30, 32, 184, 1, 30, 109, 173]
abbrev dktX1_partOf_0 : List UInt8 := dkwX1_partOf_0 ++ []
theorem dksX1_partOf_0 : cX1_partOf.data.toList.drop 0 = dktX1_partOf_0 := by decide +kernel
theorem dX1_partOf_0 : decode cX1_partOf 0 = .ok (.iload 4, 2) := dk_21 4 (dk_at dksX1_partOf_0 0 rfl rfl)
theorem dX1_partOf_2 : decode cX1_partOf 2 = .ok (.ifCond .ne 7, 3) := dk_154 0 7 (dk_at dksX1_partOf_0 2 rfl rfl)
theorem dX1_partOf_5 : decode cX1_partOf 5 = .ok (.lload_n 0, 1) := dk_30 (dk_at dksX1_partOf_0 5 rfl rfl)
theorem dX1_partOf_6 : decode cX1_partOf 6 = .ok (.goto 4, 3) := dk_167 0 4 (dk_at dksX1_partOf_0 6 rfl rfl)
theorem dX1_partOf_9 : decode cX1_partOf 9 = .ok (.lload_n 2, 1) := dk_32 (dk_at dksX1_partOf_0 9 rfl rfl)
theorem dX1_partOf_10 : decode cX1_partOf 10 = .ok (.lload_n 0, 1) := dk_30 (dk_at dksX1_partOf_0 10 rfl rfl)
theorem dX1_partOf_11 : decode cX1_partOf 11 = .ok (.lload_n 2, 1) := dk_32 (dk_at dksX1_partOf_0 11 rfl rfl)
theorem dX1_partOf_12 : decode cX1_partOf 12 = .ok (.invokestatic 286, 3) := dk_184 1 30 (dk_at dksX1_partOf_0 12 rfl rfl)
theorem dX1_partOf_15 : decode cX1_partOf 15 = .ok (.ldiv, 1) := dk_109 (dk_at dksX1_partOf_0 15 rfl rfl)
theorem dX1_partOf_16 : decode cX1_partOf 16 = .ok (.lreturn, 1) := dk_173 (dk_at dksX1_partOf_0 16 rfl rfl)
abbrev cX1_divisor : ByteArray := prog_1_method_42_code
def yX1_divisor : MethodName := ⟨RX1, "divisor", "(JJ)J"⟩
def dkwX1_divisor_0 : List UInt8 := [32, 9, 148, 154, 0, 7, 30, 167, 0, 10, 32, 30, 32, 113, 184, 1, 30, 173]
abbrev dktX1_divisor_0 : List UInt8 := dkwX1_divisor_0 ++ []
theorem dksX1_divisor_0 : cX1_divisor.data.toList.drop 0 = dktX1_divisor_0 := by decide +kernel
theorem dX1_divisor_0 : decode cX1_divisor 0 = .ok (.lload_n 2, 1) := dk_32 (dk_at dksX1_divisor_0 0 rfl rfl)
theorem dX1_divisor_1 : decode cX1_divisor 1 = .ok (.lconst 0, 1) := dk_9 (dk_at dksX1_divisor_0 1 rfl rfl)
theorem dX1_divisor_2 : decode cX1_divisor 2 = .ok (.lcmp, 1) := dk_148 (dk_at dksX1_divisor_0 2 rfl rfl)
theorem dX1_divisor_3 : decode cX1_divisor 3 = .ok (.ifCond .ne 7, 3) := dk_154 0 7 (dk_at dksX1_divisor_0 3 rfl rfl)
theorem dX1_divisor_6 : decode cX1_divisor 6 = .ok (.lload_n 0, 1) := dk_30 (dk_at dksX1_divisor_0 6 rfl rfl)
theorem dX1_divisor_7 : decode cX1_divisor 7 = .ok (.goto 10, 3) := dk_167 0 10 (dk_at dksX1_divisor_0 7 rfl rfl)
theorem dX1_divisor_10 : decode cX1_divisor 10 = .ok (.lload_n 2, 1) := dk_32 (dk_at dksX1_divisor_0 10 rfl rfl)
theorem dX1_divisor_11 : decode cX1_divisor 11 = .ok (.lload_n 0, 1) := dk_30 (dk_at dksX1_divisor_0 11 rfl rfl)
theorem dX1_divisor_12 : decode cX1_divisor 12 = .ok (.lload_n 2, 1) := dk_32 (dk_at dksX1_divisor_0 12 rfl rfl)
theorem dX1_divisor_13 : decode cX1_divisor 13 = .ok (.lrem, 1) := dk_113 (dk_at dksX1_divisor_0 13 rfl rfl)
theorem dX1_divisor_14 : decode cX1_divisor 14 = .ok (.invokestatic 286, 3) := dk_184 1 30 (dk_at dksX1_divisor_0 14 rfl rfl)
theorem dX1_divisor_17 : decode cX1_divisor 17 = .ok (.lreturn, 1) := dk_173 (dk_at dksX1_divisor_0 17 rfl rfl)
abbrev cX1_was : ByteArray := prog_1_method_52_code
def yX1_was : MethodName := ⟨RX1, "was", "(IIII)I"⟩
def dkwX1_was_4 : List UInt8 := [132, 7, 1, 167, 255, 208, 21, 4, 154, 0, 8, 21, 6, 167, 0, 8, 21, 6, 184, 1, 0, 172]
abbrev dktX1_was_4 : List UInt8 := dkwX1_was_4 ++ []
def dkwX1_was_3 : List UInt8 := [184, 0, 69, 182, 0, 176, 184, 1, 66, 153, 0, 10, 4, 21, 7, 120, 167, 0, 4, 3, 128, 54, 6]
abbrev dktX1_was_3 : List UInt8 := dkwX1_was_3 ++ dktX1_was_4
def dkwX1_was_2 : List UInt8 := [21, 7, 16, 8, 162, 0, 47, 21, 6, 42, 180, 0, 141, 27, 50, 180, 0, 145, 28, 21, 7, 29]
abbrev dktX1_was_2 : List UInt8 := dkwX1_was_2 ++ dktX1_was_3
def dkwX1_was_1 : List UInt8 := [2, 172, 42, 27, 182, 1, 63, 54, 5, 21, 5, 153, 0, 6, 21, 5, 172, 3, 54, 6, 3, 54, 7]
abbrev dktX1_was_1 : List UInt8 := dkwX1_was_1 ++ dktX1_was_2
def dkwX1_was_0 : List UInt8 := [28, 184, 0, 60, 153, 0, 20, 29, 184, 0, 196, 153, 0, 13, 21, 4, 3, 4, 184, 0, 39, 154, 0, 5]
abbrev dktX1_was_0 : List UInt8 := dkwX1_was_0 ++ dktX1_was_1
theorem dksX1_was_0 : cX1_was.data.toList.drop 0 = dktX1_was_0 := by decide +kernel
theorem dksX1_was_1 : cX1_was.data.toList.drop 24 = dktX1_was_1 := dk_seg dksX1_was_0 24 rfl rfl
theorem dksX1_was_2 : cX1_was.data.toList.drop 47 = dktX1_was_2 := dk_seg dksX1_was_1 23 rfl rfl
theorem dksX1_was_3 : cX1_was.data.toList.drop 69 = dktX1_was_3 := dk_seg dksX1_was_2 22 rfl rfl
theorem dksX1_was_4 : cX1_was.data.toList.drop 92 = dktX1_was_4 := dk_seg dksX1_was_3 23 rfl rfl
theorem dX1_was_0 : decode cX1_was 0 = .ok (.iload_n 2, 1) := dk_28 (dk_at dksX1_was_0 0 rfl rfl)
theorem dX1_was_1 : decode cX1_was 1 = .ok (.invokestatic 60, 3) := dk_184 0 60 (dk_at dksX1_was_0 1 rfl rfl)
theorem dX1_was_4 : decode cX1_was 4 = .ok (.ifCond .eq 20, 3) := dk_153 0 20 (dk_at dksX1_was_0 4 rfl rfl)
theorem dX1_was_7 : decode cX1_was 7 = .ok (.iload_n 3, 1) := dk_29 (dk_at dksX1_was_0 7 rfl rfl)
theorem dX1_was_8 : decode cX1_was 8 = .ok (.invokestatic 196, 3) := dk_184 0 196 (dk_at dksX1_was_0 8 rfl rfl)
theorem dX1_was_11 : decode cX1_was 11 = .ok (.ifCond .eq 13, 3) := dk_153 0 13 (dk_at dksX1_was_0 11 rfl rfl)
theorem dX1_was_14 : decode cX1_was 14 = .ok (.iload 4, 2) := dk_21 4 (dk_at dksX1_was_0 14 rfl rfl)
theorem dX1_was_16 : decode cX1_was 16 = .ok (.iconst 0, 1) := dk_3 (dk_at dksX1_was_0 16 rfl rfl)
theorem dX1_was_17 : decode cX1_was 17 = .ok (.iconst 1, 1) := dk_4 (dk_at dksX1_was_0 17 rfl rfl)
theorem dX1_was_18 : decode cX1_was 18 = .ok (.invokestatic 39, 3) := dk_184 0 39 (dk_at dksX1_was_0 18 rfl rfl)
theorem dX1_was_21 : decode cX1_was 21 = .ok (.ifCond .ne 5, 3) := dk_154 0 5 (dk_at dksX1_was_0 21 rfl rfl)
theorem dX1_was_24 : decode cX1_was 24 = .ok (.iconst (-1), 1) := dk_2 (dk_at dksX1_was_1 0 rfl rfl)
theorem dX1_was_25 : decode cX1_was 25 = .ok (.ireturn, 1) := dk_172 (dk_at dksX1_was_1 1 rfl rfl)
theorem dX1_was_26 : decode cX1_was 26 = .ok (.aload_n 0, 1) := dk_42 (dk_at dksX1_was_1 2 rfl rfl)
theorem dX1_was_27 : decode cX1_was 27 = .ok (.iload_n 1, 1) := dk_27 (dk_at dksX1_was_1 3 rfl rfl)
theorem dX1_was_28 : decode cX1_was 28 = .ok (.invokevirtual 319, 3) := dk_182 1 63 (dk_at dksX1_was_1 4 rfl rfl)
theorem dX1_was_31 : decode cX1_was 31 = .ok (.istore 5, 2) := dk_54 5 (dk_at dksX1_was_1 7 rfl rfl)
theorem dX1_was_33 : decode cX1_was 33 = .ok (.iload 5, 2) := dk_21 5 (dk_at dksX1_was_1 9 rfl rfl)
theorem dX1_was_35 : decode cX1_was 35 = .ok (.ifCond .eq 6, 3) := dk_153 0 6 (dk_at dksX1_was_1 11 rfl rfl)
theorem dX1_was_38 : decode cX1_was 38 = .ok (.iload 5, 2) := dk_21 5 (dk_at dksX1_was_1 14 rfl rfl)
theorem dX1_was_40 : decode cX1_was 40 = .ok (.ireturn, 1) := dk_172 (dk_at dksX1_was_1 16 rfl rfl)
theorem dX1_was_41 : decode cX1_was 41 = .ok (.iconst 0, 1) := dk_3 (dk_at dksX1_was_1 17 rfl rfl)
theorem dX1_was_42 : decode cX1_was 42 = .ok (.istore 6, 2) := dk_54 6 (dk_at dksX1_was_1 18 rfl rfl)
theorem dX1_was_44 : decode cX1_was 44 = .ok (.iconst 0, 1) := dk_3 (dk_at dksX1_was_1 20 rfl rfl)
theorem dX1_was_45 : decode cX1_was 45 = .ok (.istore 7, 2) := dk_54 7 (dk_at dksX1_was_1 21 rfl rfl)
theorem dX1_was_47 : decode cX1_was 47 = .ok (.iload 7, 2) := dk_21 7 (dk_at dksX1_was_2 0 rfl rfl)
theorem dX1_was_49 : decode cX1_was 49 = .ok (.bipush 8, 2) := dk_16 8 (dk_at dksX1_was_2 2 rfl rfl)
theorem dX1_was_51 : decode cX1_was 51 = .ok (.if_icmp .ge 47, 3) := dk_162 0 47 (dk_at dksX1_was_2 4 rfl rfl)
theorem dX1_was_54 : decode cX1_was 54 = .ok (.iload 6, 2) := dk_21 6 (dk_at dksX1_was_2 7 rfl rfl)
theorem dX1_was_56 : decode cX1_was 56 = .ok (.aload_n 0, 1) := dk_42 (dk_at dksX1_was_2 9 rfl rfl)
theorem dX1_was_57 : decode cX1_was 57 = .ok (.getfield 141, 3) := dk_180 0 141 (dk_at dksX1_was_2 10 rfl rfl)
theorem dX1_was_60 : decode cX1_was 60 = .ok (.iload_n 1, 1) := dk_27 (dk_at dksX1_was_2 13 rfl rfl)
theorem dX1_was_61 : decode cX1_was 61 = .ok (.aaload, 1) := dk_50 (dk_at dksX1_was_2 14 rfl rfl)
theorem dX1_was_62 : decode cX1_was 62 = .ok (.getfield 145, 3) := dk_180 0 145 (dk_at dksX1_was_2 15 rfl rfl)
theorem dX1_was_65 : decode cX1_was 65 = .ok (.iload_n 2, 1) := dk_28 (dk_at dksX1_was_2 18 rfl rfl)
theorem dX1_was_66 : decode cX1_was 66 = .ok (.iload 7, 2) := dk_21 7 (dk_at dksX1_was_2 19 rfl rfl)
theorem dX1_was_68 : decode cX1_was 68 = .ok (.iload_n 3, 1) := dk_29 (dk_at dksX1_was_2 21 rfl rfl)
theorem dX1_was_69 : decode cX1_was 69 = .ok (.invokestatic 69, 3) := dk_184 0 69 (dk_at dksX1_was_3 0 rfl rfl)
theorem dX1_was_72 : decode cX1_was 72 = .ok (.invokevirtual 176, 3) := dk_182 0 176 (dk_at dksX1_was_3 3 rfl rfl)
theorem dX1_was_75 : decode cX1_was 75 = .ok (.invokestatic 322, 3) := dk_184 1 66 (dk_at dksX1_was_3 6 rfl rfl)
theorem dX1_was_78 : decode cX1_was 78 = .ok (.ifCond .eq 10, 3) := dk_153 0 10 (dk_at dksX1_was_3 9 rfl rfl)
theorem dX1_was_81 : decode cX1_was 81 = .ok (.iconst 1, 1) := dk_4 (dk_at dksX1_was_3 12 rfl rfl)
theorem dX1_was_82 : decode cX1_was 82 = .ok (.iload 7, 2) := dk_21 7 (dk_at dksX1_was_3 13 rfl rfl)
theorem dX1_was_84 : decode cX1_was 84 = .ok (.ishl, 1) := dk_120 (dk_at dksX1_was_3 15 rfl rfl)
theorem dX1_was_85 : decode cX1_was 85 = .ok (.goto 4, 3) := dk_167 0 4 (dk_at dksX1_was_3 16 rfl rfl)
theorem dX1_was_88 : decode cX1_was 88 = .ok (.iconst 0, 1) := dk_3 (dk_at dksX1_was_3 19 rfl rfl)
theorem dX1_was_89 : decode cX1_was 89 = .ok (.ior, 1) := dk_128 (dk_at dksX1_was_3 20 rfl rfl)
theorem dX1_was_90 : decode cX1_was 90 = .ok (.istore 6, 2) := dk_54 6 (dk_at dksX1_was_3 21 rfl rfl)
theorem dX1_was_92 : decode cX1_was 92 = .ok (.iinc 7 1, 3) := dk_132 7 1 (dk_at dksX1_was_4 0 rfl rfl)
theorem dX1_was_95 : decode cX1_was 95 = .ok (.goto (-48), 3) := dk_167 255 208 (dk_at dksX1_was_4 3 rfl rfl)
theorem dX1_was_98 : decode cX1_was 98 = .ok (.iload 4, 2) := dk_21 4 (dk_at dksX1_was_4 6 rfl rfl)
theorem dX1_was_100 : decode cX1_was 100 = .ok (.ifCond .ne 8, 3) := dk_154 0 8 (dk_at dksX1_was_4 8 rfl rfl)
theorem dX1_was_103 : decode cX1_was 103 = .ok (.iload 6, 2) := dk_21 6 (dk_at dksX1_was_4 11 rfl rfl)
theorem dX1_was_105 : decode cX1_was 105 = .ok (.goto 8, 3) := dk_167 0 8 (dk_at dksX1_was_4 13 rfl rfl)
theorem dX1_was_108 : decode cX1_was 108 = .ok (.iload 6, 2) := dk_21 6 (dk_at dksX1_was_4 16 rfl rfl)
theorem dX1_was_110 : decode cX1_was 110 = .ok (.invokestatic 256, 3) := dk_184 1 0 (dk_at dksX1_was_4 18 rfl rfl)
theorem dX1_was_113 : decode cX1_was 113 = .ok (.ireturn, 1) := dk_172 (dk_at dksX1_was_4 21 rfl rfl)
abbrev cX1_notRow : ByteArray := prog_1_method_50_code
def yX1_notRow : MethodName := ⟨RX1, "notRow", "(I)I"⟩
def dkwX1_notRow_1 : List UInt8 := [16, 245, 167, 0, 17, 44, 184, 1, 52, 2, 160, 0, 8, 16, 244, 167, 0, 4, 3, 172]
abbrev dktX1_notRow_1 : List UInt8 := dkwX1_notRow_1 ++ []
def dkwX1_notRow_0 : List UInt8 := [42, 27, 182, 0, 138, 154, 0, 5, 2, 172, 42, 180, 0, 141, 27, 50, 180, 0, 145, 77, 44, 199, 0, 8]
abbrev dktX1_notRow_0 : List UInt8 := dkwX1_notRow_0 ++ dktX1_notRow_1
theorem dksX1_notRow_0 : cX1_notRow.data.toList.drop 0 = dktX1_notRow_0 := by decide +kernel
theorem dksX1_notRow_1 : cX1_notRow.data.toList.drop 24 = dktX1_notRow_1 := dk_seg dksX1_notRow_0 24 rfl rfl
theorem dX1_notRow_0 : decode cX1_notRow 0 = .ok (.aload_n 0, 1) := dk_42 (dk_at dksX1_notRow_0 0 rfl rfl)
theorem dX1_notRow_1 : decode cX1_notRow 1 = .ok (.iload_n 1, 1) := dk_27 (dk_at dksX1_notRow_0 1 rfl rfl)
theorem dX1_notRow_2 : decode cX1_notRow 2 = .ok (.invokevirtual 138, 3) := dk_182 0 138 (dk_at dksX1_notRow_0 2 rfl rfl)
theorem dX1_notRow_5 : decode cX1_notRow 5 = .ok (.ifCond .ne 5, 3) := dk_154 0 5 (dk_at dksX1_notRow_0 5 rfl rfl)
theorem dX1_notRow_8 : decode cX1_notRow 8 = .ok (.iconst (-1), 1) := dk_2 (dk_at dksX1_notRow_0 8 rfl rfl)
theorem dX1_notRow_9 : decode cX1_notRow 9 = .ok (.ireturn, 1) := dk_172 (dk_at dksX1_notRow_0 9 rfl rfl)
theorem dX1_notRow_10 : decode cX1_notRow 10 = .ok (.aload_n 0, 1) := dk_42 (dk_at dksX1_notRow_0 10 rfl rfl)
theorem dX1_notRow_11 : decode cX1_notRow 11 = .ok (.getfield 141, 3) := dk_180 0 141 (dk_at dksX1_notRow_0 11 rfl rfl)
theorem dX1_notRow_14 : decode cX1_notRow 14 = .ok (.iload_n 1, 1) := dk_27 (dk_at dksX1_notRow_0 14 rfl rfl)
theorem dX1_notRow_15 : decode cX1_notRow 15 = .ok (.aaload, 1) := dk_50 (dk_at dksX1_notRow_0 15 rfl rfl)
theorem dX1_notRow_16 : decode cX1_notRow 16 = .ok (.getfield 145, 3) := dk_180 0 145 (dk_at dksX1_notRow_0 16 rfl rfl)
theorem dX1_notRow_19 : decode cX1_notRow 19 = .ok (.astore_n 2, 1) := dk_77 (dk_at dksX1_notRow_0 19 rfl rfl)
theorem dX1_notRow_20 : decode cX1_notRow 20 = .ok (.aload_n 2, 1) := dk_44 (dk_at dksX1_notRow_0 20 rfl rfl)
theorem dX1_notRow_21 : decode cX1_notRow 21 = .ok (.ifnonnull 8, 3) := dk_199 0 8 (dk_at dksX1_notRow_0 21 rfl rfl)
theorem dX1_notRow_24 : decode cX1_notRow 24 = .ok (.bipush (-11), 2) := dk_16 245 (dk_at dksX1_notRow_1 0 rfl rfl)
theorem dX1_notRow_26 : decode cX1_notRow 26 = .ok (.goto 17, 3) := dk_167 0 17 (dk_at dksX1_notRow_1 2 rfl rfl)
theorem dX1_notRow_29 : decode cX1_notRow 29 = .ok (.aload_n 2, 1) := dk_44 (dk_at dksX1_notRow_1 5 rfl rfl)
theorem dX1_notRow_30 : decode cX1_notRow 30 = .ok (.invokestatic 308, 3) := dk_184 1 52 (dk_at dksX1_notRow_1 6 rfl rfl)
theorem dX1_notRow_33 : decode cX1_notRow 33 = .ok (.iconst (-1), 1) := dk_2 (dk_at dksX1_notRow_1 9 rfl rfl)
theorem dX1_notRow_34 : decode cX1_notRow 34 = .ok (.if_icmp .ne 8, 3) := dk_160 0 8 (dk_at dksX1_notRow_1 10 rfl rfl)
theorem dX1_notRow_37 : decode cX1_notRow 37 = .ok (.bipush (-12), 2) := dk_16 244 (dk_at dksX1_notRow_1 13 rfl rfl)
theorem dX1_notRow_39 : decode cX1_notRow 39 = .ok (.goto 4, 3) := dk_167 0 4 (dk_at dksX1_notRow_1 15 rfl rfl)
theorem dX1_notRow_42 : decode cX1_notRow 42 = .ok (.iconst 0, 1) := dk_3 (dk_at dksX1_notRow_1 18 rfl rfl)
theorem dX1_notRow_43 : decode cX1_notRow 43 = .ok (.ireturn, 1) := dk_172 (dk_at dksX1_notRow_1 19 rfl rfl)
abbrev cX1_sortOf : ByteArray := prog_1_method_49_code
def yX1_sortOf : MethodName := ⟨RX1, "sortOf", "(Ljava/lang/Object;)I"⟩
def dkwX1_sortOf_1 : List UInt8 := [193, 1, 46, 153, 0, 7, 5, 167, 0, 4, 2, 172]
abbrev dktX1_sortOf_1 : List UInt8 := dkwX1_sortOf_1 ++ []
def dkwX1_sortOf_0 : List UInt8 := [42, 193, 0, 151, 153, 0, 7, 3, 167, 0, 26, 42, 193, 1, 44, 153, 0, 7, 4, 167, 0, 15, 42]
abbrev dktX1_sortOf_0 : List UInt8 := dkwX1_sortOf_0 ++ dktX1_sortOf_1
theorem dksX1_sortOf_0 : cX1_sortOf.data.toList.drop 0 = dktX1_sortOf_0 := by decide +kernel
theorem dksX1_sortOf_1 : cX1_sortOf.data.toList.drop 23 = dktX1_sortOf_1 := dk_seg dksX1_sortOf_0 23 rfl rfl
theorem dX1_sortOf_0 : decode cX1_sortOf 0 = .ok (.aload_n 0, 1) := dk_42 (dk_at dksX1_sortOf_0 0 rfl rfl)
theorem dX1_sortOf_1 : decode cX1_sortOf 1 = .ok (.instanceof 151, 3) := dk_193 0 151 (dk_at dksX1_sortOf_0 1 rfl rfl)
theorem dX1_sortOf_4 : decode cX1_sortOf 4 = .ok (.ifCond .eq 7, 3) := dk_153 0 7 (dk_at dksX1_sortOf_0 4 rfl rfl)
theorem dX1_sortOf_7 : decode cX1_sortOf 7 = .ok (.iconst 0, 1) := dk_3 (dk_at dksX1_sortOf_0 7 rfl rfl)
theorem dX1_sortOf_8 : decode cX1_sortOf 8 = .ok (.goto 26, 3) := dk_167 0 26 (dk_at dksX1_sortOf_0 8 rfl rfl)
theorem dX1_sortOf_11 : decode cX1_sortOf 11 = .ok (.aload_n 0, 1) := dk_42 (dk_at dksX1_sortOf_0 11 rfl rfl)
theorem dX1_sortOf_12 : decode cX1_sortOf 12 = .ok (.instanceof 300, 3) := dk_193 1 44 (dk_at dksX1_sortOf_0 12 rfl rfl)
theorem dX1_sortOf_15 : decode cX1_sortOf 15 = .ok (.ifCond .eq 7, 3) := dk_153 0 7 (dk_at dksX1_sortOf_0 15 rfl rfl)
theorem dX1_sortOf_18 : decode cX1_sortOf 18 = .ok (.iconst 1, 1) := dk_4 (dk_at dksX1_sortOf_0 18 rfl rfl)
theorem dX1_sortOf_19 : decode cX1_sortOf 19 = .ok (.goto 15, 3) := dk_167 0 15 (dk_at dksX1_sortOf_0 19 rfl rfl)
theorem dX1_sortOf_22 : decode cX1_sortOf 22 = .ok (.aload_n 0, 1) := dk_42 (dk_at dksX1_sortOf_0 22 rfl rfl)
theorem dX1_sortOf_23 : decode cX1_sortOf 23 = .ok (.instanceof 302, 3) := dk_193 1 46 (dk_at dksX1_sortOf_1 0 rfl rfl)
theorem dX1_sortOf_26 : decode cX1_sortOf 26 = .ok (.ifCond .eq 7, 3) := dk_153 0 7 (dk_at dksX1_sortOf_1 3 rfl rfl)
theorem dX1_sortOf_29 : decode cX1_sortOf 29 = .ok (.iconst 2, 1) := dk_5 (dk_at dksX1_sortOf_1 6 rfl rfl)
theorem dX1_sortOf_30 : decode cX1_sortOf 30 = .ok (.goto 4, 3) := dk_167 0 4 (dk_at dksX1_sortOf_1 7 rfl rfl)
theorem dX1_sortOf_33 : decode cX1_sortOf 33 = .ok (.iconst (-1), 1) := dk_2 (dk_at dksX1_sortOf_1 10 rfl rfl)
theorem dX1_sortOf_34 : decode cX1_sortOf 34 = .ok (.ireturn, 1) := dk_172 (dk_at dksX1_sortOf_1 11 rfl rfl)
abbrev cX1_wentSo : ByteArray := prog_1_method_51_code
def yX1_wentSo : MethodName := ⟨RX1, "wentSo", "(Ljava/lang/Object;II)Z"⟩
def dkwX1_wentSo_1 : List UInt8 := [159, 0, 5, 3, 172, 132, 3, 1, 167, 255, 227, 4, 172]
abbrev dktX1_wentSo_1 : List UInt8 := dkwX1_wentSo_1 ++ []
def dkwX1_wentSo_0 : List UInt8 := [3, 62, 29, 42, 184, 1, 56, 162, 0, 27, 42, 29, 184, 1, 59, 27, 29, 28, 104, 96, 184, 0, 209]
abbrev dktX1_wentSo_0 : List UInt8 := dkwX1_wentSo_0 ++ dktX1_wentSo_1
theorem dksX1_wentSo_0 : cX1_wentSo.data.toList.drop 0 = dktX1_wentSo_0 := by decide +kernel
theorem dksX1_wentSo_1 : cX1_wentSo.data.toList.drop 23 = dktX1_wentSo_1 := dk_seg dksX1_wentSo_0 23 rfl rfl
theorem dX1_wentSo_0 : decode cX1_wentSo 0 = .ok (.iconst 0, 1) := dk_3 (dk_at dksX1_wentSo_0 0 rfl rfl)
theorem dX1_wentSo_1 : decode cX1_wentSo 1 = .ok (.istore_n 3, 1) := dk_62 (dk_at dksX1_wentSo_0 1 rfl rfl)
theorem dX1_wentSo_2 : decode cX1_wentSo 2 = .ok (.iload_n 3, 1) := dk_29 (dk_at dksX1_wentSo_0 2 rfl rfl)
theorem dX1_wentSo_3 : decode cX1_wentSo 3 = .ok (.aload_n 0, 1) := dk_42 (dk_at dksX1_wentSo_0 3 rfl rfl)
theorem dX1_wentSo_4 : decode cX1_wentSo 4 = .ok (.invokestatic 312, 3) := dk_184 1 56 (dk_at dksX1_wentSo_0 4 rfl rfl)
theorem dX1_wentSo_7 : decode cX1_wentSo 7 = .ok (.if_icmp .ge 27, 3) := dk_162 0 27 (dk_at dksX1_wentSo_0 7 rfl rfl)
theorem dX1_wentSo_10 : decode cX1_wentSo 10 = .ok (.aload_n 0, 1) := dk_42 (dk_at dksX1_wentSo_0 10 rfl rfl)
theorem dX1_wentSo_11 : decode cX1_wentSo 11 = .ok (.iload_n 3, 1) := dk_29 (dk_at dksX1_wentSo_0 11 rfl rfl)
theorem dX1_wentSo_12 : decode cX1_wentSo 12 = .ok (.invokestatic 315, 3) := dk_184 1 59 (dk_at dksX1_wentSo_0 12 rfl rfl)
theorem dX1_wentSo_15 : decode cX1_wentSo 15 = .ok (.iload_n 1, 1) := dk_27 (dk_at dksX1_wentSo_0 15 rfl rfl)
theorem dX1_wentSo_16 : decode cX1_wentSo 16 = .ok (.iload_n 3, 1) := dk_29 (dk_at dksX1_wentSo_0 16 rfl rfl)
theorem dX1_wentSo_17 : decode cX1_wentSo 17 = .ok (.iload_n 2, 1) := dk_28 (dk_at dksX1_wentSo_0 17 rfl rfl)
theorem dX1_wentSo_18 : decode cX1_wentSo 18 = .ok (.imul, 1) := dk_104 (dk_at dksX1_wentSo_0 18 rfl rfl)
theorem dX1_wentSo_19 : decode cX1_wentSo 19 = .ok (.iadd, 1) := dk_96 (dk_at dksX1_wentSo_0 19 rfl rfl)
theorem dX1_wentSo_20 : decode cX1_wentSo 20 = .ok (.invokestatic 209, 3) := dk_184 0 209 (dk_at dksX1_wentSo_0 20 rfl rfl)
theorem dX1_wentSo_23 : decode cX1_wentSo 23 = .ok (.if_icmp .eq 5, 3) := dk_159 0 5 (dk_at dksX1_wentSo_1 0 rfl rfl)
theorem dX1_wentSo_26 : decode cX1_wentSo 26 = .ok (.iconst 0, 1) := dk_3 (dk_at dksX1_wentSo_1 3 rfl rfl)
theorem dX1_wentSo_27 : decode cX1_wentSo 27 = .ok (.ireturn, 1) := dk_172 (dk_at dksX1_wentSo_1 4 rfl rfl)
theorem dX1_wentSo_28 : decode cX1_wentSo 28 = .ok (.iinc 3 1, 3) := dk_132 3 1 (dk_at dksX1_wentSo_1 5 rfl rfl)
theorem dX1_wentSo_31 : decode cX1_wentSo 31 = .ok (.goto (-29), 3) := dk_167 255 227 (dk_at dksX1_wentSo_1 8 rfl rfl)
theorem dX1_wentSo_34 : decode cX1_wentSo 34 = .ok (.iconst 1, 1) := dk_4 (dk_at dksX1_wentSo_1 11 rfl rfl)
theorem dX1_wentSo_35 : decode cX1_wentSo 35 = .ok (.ireturn, 1) := dk_172 (dk_at dksX1_wentSo_1 12 rfl rfl)
abbrev cX1_sizeOf : ByteArray := prog_1_method_46_code
def yX1_sizeOf : MethodName := ⟨RX1, "sizeOf", "(Ljava/lang/Object;)I"⟩
def dkwX1_sizeOf_1 : List UInt8 := [192, 1, 44, 190, 167, 0, 8, 42, 192, 1, 46, 190, 172]
abbrev dktX1_sizeOf_1 : List UInt8 := dkwX1_sizeOf_1 ++ []
def dkwX1_sizeOf_0 : List UInt8 := [42, 193, 0, 151, 153, 0, 11, 42, 192, 0, 151, 190, 167, 0, 23, 42, 193, 1, 44, 153, 0, 11, 42]
abbrev dktX1_sizeOf_0 : List UInt8 := dkwX1_sizeOf_0 ++ dktX1_sizeOf_1
theorem dksX1_sizeOf_0 : cX1_sizeOf.data.toList.drop 0 = dktX1_sizeOf_0 := by decide +kernel
theorem dksX1_sizeOf_1 : cX1_sizeOf.data.toList.drop 23 = dktX1_sizeOf_1 := dk_seg dksX1_sizeOf_0 23 rfl rfl
theorem dX1_sizeOf_0 : decode cX1_sizeOf 0 = .ok (.aload_n 0, 1) := dk_42 (dk_at dksX1_sizeOf_0 0 rfl rfl)
theorem dX1_sizeOf_1 : decode cX1_sizeOf 1 = .ok (.instanceof 151, 3) := dk_193 0 151 (dk_at dksX1_sizeOf_0 1 rfl rfl)
theorem dX1_sizeOf_4 : decode cX1_sizeOf 4 = .ok (.ifCond .eq 11, 3) := dk_153 0 11 (dk_at dksX1_sizeOf_0 4 rfl rfl)
theorem dX1_sizeOf_7 : decode cX1_sizeOf 7 = .ok (.aload_n 0, 1) := dk_42 (dk_at dksX1_sizeOf_0 7 rfl rfl)
theorem dX1_sizeOf_8 : decode cX1_sizeOf 8 = .ok (.checkcast 151, 3) := dk_192 0 151 (dk_at dksX1_sizeOf_0 8 rfl rfl)
theorem dX1_sizeOf_11 : decode cX1_sizeOf 11 = .ok (.arraylength, 1) := dk_190 (dk_at dksX1_sizeOf_0 11 rfl rfl)
theorem dX1_sizeOf_12 : decode cX1_sizeOf 12 = .ok (.goto 23, 3) := dk_167 0 23 (dk_at dksX1_sizeOf_0 12 rfl rfl)
theorem dX1_sizeOf_15 : decode cX1_sizeOf 15 = .ok (.aload_n 0, 1) := dk_42 (dk_at dksX1_sizeOf_0 15 rfl rfl)
theorem dX1_sizeOf_16 : decode cX1_sizeOf 16 = .ok (.instanceof 300, 3) := dk_193 1 44 (dk_at dksX1_sizeOf_0 16 rfl rfl)
theorem dX1_sizeOf_19 : decode cX1_sizeOf 19 = .ok (.ifCond .eq 11, 3) := dk_153 0 11 (dk_at dksX1_sizeOf_0 19 rfl rfl)
theorem dX1_sizeOf_22 : decode cX1_sizeOf 22 = .ok (.aload_n 0, 1) := dk_42 (dk_at dksX1_sizeOf_0 22 rfl rfl)
theorem dX1_sizeOf_23 : decode cX1_sizeOf 23 = .ok (.checkcast 300, 3) := dk_192 1 44 (dk_at dksX1_sizeOf_1 0 rfl rfl)
theorem dX1_sizeOf_26 : decode cX1_sizeOf 26 = .ok (.arraylength, 1) := dk_190 (dk_at dksX1_sizeOf_1 3 rfl rfl)
theorem dX1_sizeOf_27 : decode cX1_sizeOf 27 = .ok (.goto 8, 3) := dk_167 0 8 (dk_at dksX1_sizeOf_1 4 rfl rfl)
theorem dX1_sizeOf_30 : decode cX1_sizeOf 30 = .ok (.aload_n 0, 1) := dk_42 (dk_at dksX1_sizeOf_1 7 rfl rfl)
theorem dX1_sizeOf_31 : decode cX1_sizeOf 31 = .ok (.checkcast 302, 3) := dk_192 1 46 (dk_at dksX1_sizeOf_1 8 rfl rfl)
theorem dX1_sizeOf_34 : decode cX1_sizeOf 34 = .ok (.arraylength, 1) := dk_190 (dk_at dksX1_sizeOf_1 11 rfl rfl)
theorem dX1_sizeOf_35 : decode cX1_sizeOf 35 = .ok (.ireturn, 1) := dk_172 (dk_at dksX1_sizeOf_1 12 rfl rfl)
abbrev cX1_elementOf : ByteArray := prog_1_method_47_code
def yX1_elementOf : MethodName := ⟨RX1, "elementOf", "(Ljava/lang/Object;I)I"⟩
def dkwX1_elementOf_1 : List UInt8 := [192, 1, 44, 27, 53, 167, 0, 9, 42, 192, 1, 46, 27, 46, 172]
abbrev dktX1_elementOf_1 : List UInt8 := dkwX1_elementOf_1 ++ []
def dkwX1_elementOf_0 : List UInt8 := [42, 193, 0, 151, 153, 0, 12, 42, 192, 0, 151, 27, 51, 167, 0, 25, 42, 193, 1, 44, 153, 0, 12, 42]
abbrev dktX1_elementOf_0 : List UInt8 := dkwX1_elementOf_0 ++ dktX1_elementOf_1
theorem dksX1_elementOf_0 : cX1_elementOf.data.toList.drop 0 = dktX1_elementOf_0 := by decide +kernel
theorem dksX1_elementOf_1 : cX1_elementOf.data.toList.drop 24 = dktX1_elementOf_1 := dk_seg dksX1_elementOf_0 24 rfl rfl
theorem dX1_elementOf_0 : decode cX1_elementOf 0 = .ok (.aload_n 0, 1) := dk_42 (dk_at dksX1_elementOf_0 0 rfl rfl)
theorem dX1_elementOf_1 : decode cX1_elementOf 1 = .ok (.instanceof 151, 3) := dk_193 0 151 (dk_at dksX1_elementOf_0 1 rfl rfl)
theorem dX1_elementOf_4 : decode cX1_elementOf 4 = .ok (.ifCond .eq 12, 3) := dk_153 0 12 (dk_at dksX1_elementOf_0 4 rfl rfl)
theorem dX1_elementOf_7 : decode cX1_elementOf 7 = .ok (.aload_n 0, 1) := dk_42 (dk_at dksX1_elementOf_0 7 rfl rfl)
theorem dX1_elementOf_8 : decode cX1_elementOf 8 = .ok (.checkcast 151, 3) := dk_192 0 151 (dk_at dksX1_elementOf_0 8 rfl rfl)
theorem dX1_elementOf_11 : decode cX1_elementOf 11 = .ok (.iload_n 1, 1) := dk_27 (dk_at dksX1_elementOf_0 11 rfl rfl)
theorem dX1_elementOf_12 : decode cX1_elementOf 12 = .ok (.baload, 1) := dk_51 (dk_at dksX1_elementOf_0 12 rfl rfl)
theorem dX1_elementOf_13 : decode cX1_elementOf 13 = .ok (.goto 25, 3) := dk_167 0 25 (dk_at dksX1_elementOf_0 13 rfl rfl)
theorem dX1_elementOf_16 : decode cX1_elementOf 16 = .ok (.aload_n 0, 1) := dk_42 (dk_at dksX1_elementOf_0 16 rfl rfl)
theorem dX1_elementOf_17 : decode cX1_elementOf 17 = .ok (.instanceof 300, 3) := dk_193 1 44 (dk_at dksX1_elementOf_0 17 rfl rfl)
theorem dX1_elementOf_20 : decode cX1_elementOf 20 = .ok (.ifCond .eq 12, 3) := dk_153 0 12 (dk_at dksX1_elementOf_0 20 rfl rfl)
theorem dX1_elementOf_23 : decode cX1_elementOf 23 = .ok (.aload_n 0, 1) := dk_42 (dk_at dksX1_elementOf_0 23 rfl rfl)
theorem dX1_elementOf_24 : decode cX1_elementOf 24 = .ok (.checkcast 300, 3) := dk_192 1 44 (dk_at dksX1_elementOf_1 0 rfl rfl)
theorem dX1_elementOf_27 : decode cX1_elementOf 27 = .ok (.iload_n 1, 1) := dk_27 (dk_at dksX1_elementOf_1 3 rfl rfl)
theorem dX1_elementOf_28 : decode cX1_elementOf 28 = .ok (.saload, 1) := dk_53 (dk_at dksX1_elementOf_1 4 rfl rfl)
theorem dX1_elementOf_29 : decode cX1_elementOf 29 = .ok (.goto 9, 3) := dk_167 0 9 (dk_at dksX1_elementOf_1 5 rfl rfl)
theorem dX1_elementOf_32 : decode cX1_elementOf 32 = .ok (.aload_n 0, 1) := dk_42 (dk_at dksX1_elementOf_1 8 rfl rfl)
theorem dX1_elementOf_33 : decode cX1_elementOf 33 = .ok (.checkcast 302, 3) := dk_192 1 46 (dk_at dksX1_elementOf_1 9 rfl rfl)
theorem dX1_elementOf_36 : decode cX1_elementOf 36 = .ok (.iload_n 1, 1) := dk_27 (dk_at dksX1_elementOf_1 12 rfl rfl)
theorem dX1_elementOf_37 : decode cX1_elementOf 37 = .ok (.iaload, 1) := dk_46 (dk_at dksX1_elementOf_1 13 rfl rfl)
theorem dX1_elementOf_38 : decode cX1_elementOf 38 = .ok (.ireturn, 1) := dk_172 (dk_at dksX1_elementOf_1 14 rfl rfl)
abbrev cX1_dare : ByteArray := prog_1_method_54_code
def yX1_dare : MethodName := ⟨RX1, "dare", "(II)I"⟩
def dkwX1_dare_3 : List UInt8 := [163, 0, 12, 16, 10, 21, 4, 104, 21, 5, 96, 172, 132, 3, 1, 167, 255, 183, 16, 252, 172]
abbrev dktX1_dare_3 : List UInt8 := dkwX1_dare_3 ++ []
def dkwX1_dare_2 : List UInt8 := [163, 0, 35, 42, 28, 4, 21, 5, 100, 21, 4, 182, 1, 70, 42, 28, 21, 5, 21, 4, 182, 1, 70]
abbrev dktX1_dare_2 : List UInt8 := dkwX1_dare_2 ++ dktX1_dare_3
def dkwX1_dare_1 : List UInt8 := [5, 112, 54, 5, 42, 27, 4, 21, 4, 100, 21, 5, 182, 1, 70, 42, 27, 21, 4, 21, 5, 182, 1, 70]
abbrev dktX1_dare_1 : List UInt8 := dkwX1_dare_1 ++ dktX1_dare_2
def dkwX1_dare_0 : List UInt8 := [42, 27, 28, 182, 0, 192, 154, 0, 5, 2, 172, 3, 62, 29, 7, 162, 0, 74, 29, 5, 108, 54, 4, 29]
abbrev dktX1_dare_0 : List UInt8 := dkwX1_dare_0 ++ dktX1_dare_1
theorem dksX1_dare_0 : cX1_dare.data.toList.drop 0 = dktX1_dare_0 := by decide +kernel
theorem dksX1_dare_1 : cX1_dare.data.toList.drop 24 = dktX1_dare_1 := dk_seg dksX1_dare_0 24 rfl rfl
theorem dksX1_dare_2 : cX1_dare.data.toList.drop 48 = dktX1_dare_2 := dk_seg dksX1_dare_1 24 rfl rfl
theorem dksX1_dare_3 : cX1_dare.data.toList.drop 71 = dktX1_dare_3 := dk_seg dksX1_dare_2 23 rfl rfl
theorem dX1_dare_0 : decode cX1_dare 0 = .ok (.aload_n 0, 1) := dk_42 (dk_at dksX1_dare_0 0 rfl rfl)
theorem dX1_dare_1 : decode cX1_dare 1 = .ok (.iload_n 1, 1) := dk_27 (dk_at dksX1_dare_0 1 rfl rfl)
theorem dX1_dare_2 : decode cX1_dare 2 = .ok (.iload_n 2, 1) := dk_28 (dk_at dksX1_dare_0 2 rfl rfl)
theorem dX1_dare_3 : decode cX1_dare 3 = .ok (.invokevirtual 192, 3) := dk_182 0 192 (dk_at dksX1_dare_0 3 rfl rfl)
theorem dX1_dare_6 : decode cX1_dare 6 = .ok (.ifCond .ne 5, 3) := dk_154 0 5 (dk_at dksX1_dare_0 6 rfl rfl)
theorem dX1_dare_9 : decode cX1_dare 9 = .ok (.iconst (-1), 1) := dk_2 (dk_at dksX1_dare_0 9 rfl rfl)
theorem dX1_dare_10 : decode cX1_dare 10 = .ok (.ireturn, 1) := dk_172 (dk_at dksX1_dare_0 10 rfl rfl)
theorem dX1_dare_11 : decode cX1_dare 11 = .ok (.iconst 0, 1) := dk_3 (dk_at dksX1_dare_0 11 rfl rfl)
theorem dX1_dare_12 : decode cX1_dare 12 = .ok (.istore_n 3, 1) := dk_62 (dk_at dksX1_dare_0 12 rfl rfl)
theorem dX1_dare_13 : decode cX1_dare 13 = .ok (.iload_n 3, 1) := dk_29 (dk_at dksX1_dare_0 13 rfl rfl)
theorem dX1_dare_14 : decode cX1_dare 14 = .ok (.iconst 4, 1) := dk_7 (dk_at dksX1_dare_0 14 rfl rfl)
theorem dX1_dare_15 : decode cX1_dare 15 = .ok (.if_icmp .ge 74, 3) := dk_162 0 74 (dk_at dksX1_dare_0 15 rfl rfl)
theorem dX1_dare_18 : decode cX1_dare 18 = .ok (.iload_n 3, 1) := dk_29 (dk_at dksX1_dare_0 18 rfl rfl)
theorem dX1_dare_19 : decode cX1_dare 19 = .ok (.iconst 2, 1) := dk_5 (dk_at dksX1_dare_0 19 rfl rfl)
theorem dX1_dare_20 : decode cX1_dare 20 = .ok (.idiv, 1) := dk_108 (dk_at dksX1_dare_0 20 rfl rfl)
theorem dX1_dare_21 : decode cX1_dare 21 = .ok (.istore 4, 2) := dk_54 4 (dk_at dksX1_dare_0 21 rfl rfl)
theorem dX1_dare_23 : decode cX1_dare 23 = .ok (.iload_n 3, 1) := dk_29 (dk_at dksX1_dare_0 23 rfl rfl)
theorem dX1_dare_24 : decode cX1_dare 24 = .ok (.iconst 2, 1) := dk_5 (dk_at dksX1_dare_1 0 rfl rfl)
theorem dX1_dare_25 : decode cX1_dare 25 = .ok (.irem, 1) := dk_112 (dk_at dksX1_dare_1 1 rfl rfl)
theorem dX1_dare_26 : decode cX1_dare 26 = .ok (.istore 5, 2) := dk_54 5 (dk_at dksX1_dare_1 2 rfl rfl)
theorem dX1_dare_28 : decode cX1_dare 28 = .ok (.aload_n 0, 1) := dk_42 (dk_at dksX1_dare_1 4 rfl rfl)
theorem dX1_dare_29 : decode cX1_dare 29 = .ok (.iload_n 1, 1) := dk_27 (dk_at dksX1_dare_1 5 rfl rfl)
theorem dX1_dare_30 : decode cX1_dare 30 = .ok (.iconst 1, 1) := dk_4 (dk_at dksX1_dare_1 6 rfl rfl)
theorem dX1_dare_31 : decode cX1_dare 31 = .ok (.iload 4, 2) := dk_21 4 (dk_at dksX1_dare_1 7 rfl rfl)
theorem dX1_dare_33 : decode cX1_dare 33 = .ok (.isub, 1) := dk_100 (dk_at dksX1_dare_1 9 rfl rfl)
theorem dX1_dare_34 : decode cX1_dare 34 = .ok (.iload 5, 2) := dk_21 5 (dk_at dksX1_dare_1 10 rfl rfl)
theorem dX1_dare_36 : decode cX1_dare 36 = .ok (.invokevirtual 326, 3) := dk_182 1 70 (dk_at dksX1_dare_1 12 rfl rfl)
theorem dX1_dare_39 : decode cX1_dare 39 = .ok (.aload_n 0, 1) := dk_42 (dk_at dksX1_dare_1 15 rfl rfl)
theorem dX1_dare_40 : decode cX1_dare 40 = .ok (.iload_n 1, 1) := dk_27 (dk_at dksX1_dare_1 16 rfl rfl)
theorem dX1_dare_41 : decode cX1_dare 41 = .ok (.iload 4, 2) := dk_21 4 (dk_at dksX1_dare_1 17 rfl rfl)
theorem dX1_dare_43 : decode cX1_dare 43 = .ok (.iload 5, 2) := dk_21 5 (dk_at dksX1_dare_1 19 rfl rfl)
theorem dX1_dare_45 : decode cX1_dare 45 = .ok (.invokevirtual 326, 3) := dk_182 1 70 (dk_at dksX1_dare_1 21 rfl rfl)
theorem dX1_dare_48 : decode cX1_dare 48 = .ok (.if_icmp .gt 35, 3) := dk_163 0 35 (dk_at dksX1_dare_2 0 rfl rfl)
theorem dX1_dare_51 : decode cX1_dare 51 = .ok (.aload_n 0, 1) := dk_42 (dk_at dksX1_dare_2 3 rfl rfl)
theorem dX1_dare_52 : decode cX1_dare 52 = .ok (.iload_n 2, 1) := dk_28 (dk_at dksX1_dare_2 4 rfl rfl)
theorem dX1_dare_53 : decode cX1_dare 53 = .ok (.iconst 1, 1) := dk_4 (dk_at dksX1_dare_2 5 rfl rfl)
theorem dX1_dare_54 : decode cX1_dare 54 = .ok (.iload 5, 2) := dk_21 5 (dk_at dksX1_dare_2 6 rfl rfl)
theorem dX1_dare_56 : decode cX1_dare 56 = .ok (.isub, 1) := dk_100 (dk_at dksX1_dare_2 8 rfl rfl)
theorem dX1_dare_57 : decode cX1_dare 57 = .ok (.iload 4, 2) := dk_21 4 (dk_at dksX1_dare_2 9 rfl rfl)
theorem dX1_dare_59 : decode cX1_dare 59 = .ok (.invokevirtual 326, 3) := dk_182 1 70 (dk_at dksX1_dare_2 11 rfl rfl)
theorem dX1_dare_62 : decode cX1_dare 62 = .ok (.aload_n 0, 1) := dk_42 (dk_at dksX1_dare_2 14 rfl rfl)
theorem dX1_dare_63 : decode cX1_dare 63 = .ok (.iload_n 2, 1) := dk_28 (dk_at dksX1_dare_2 15 rfl rfl)
theorem dX1_dare_64 : decode cX1_dare 64 = .ok (.iload 5, 2) := dk_21 5 (dk_at dksX1_dare_2 16 rfl rfl)
theorem dX1_dare_66 : decode cX1_dare 66 = .ok (.iload 4, 2) := dk_21 4 (dk_at dksX1_dare_2 18 rfl rfl)
theorem dX1_dare_68 : decode cX1_dare 68 = .ok (.invokevirtual 326, 3) := dk_182 1 70 (dk_at dksX1_dare_2 20 rfl rfl)
theorem dX1_dare_71 : decode cX1_dare 71 = .ok (.if_icmp .gt 12, 3) := dk_163 0 12 (dk_at dksX1_dare_3 0 rfl rfl)
theorem dX1_dare_74 : decode cX1_dare 74 = .ok (.bipush 10, 2) := dk_16 10 (dk_at dksX1_dare_3 3 rfl rfl)
theorem dX1_dare_76 : decode cX1_dare 76 = .ok (.iload 4, 2) := dk_21 4 (dk_at dksX1_dare_3 5 rfl rfl)
theorem dX1_dare_78 : decode cX1_dare 78 = .ok (.imul, 1) := dk_104 (dk_at dksX1_dare_3 7 rfl rfl)
theorem dX1_dare_79 : decode cX1_dare 79 = .ok (.iload 5, 2) := dk_21 5 (dk_at dksX1_dare_3 8 rfl rfl)
theorem dX1_dare_81 : decode cX1_dare 81 = .ok (.iadd, 1) := dk_96 (dk_at dksX1_dare_3 10 rfl rfl)
theorem dX1_dare_82 : decode cX1_dare 82 = .ok (.ireturn, 1) := dk_172 (dk_at dksX1_dare_3 11 rfl rfl)
theorem dX1_dare_83 : decode cX1_dare 83 = .ok (.iinc 3 1, 3) := dk_132 3 1 (dk_at dksX1_dare_3 12 rfl rfl)
theorem dX1_dare_86 : decode cX1_dare 86 = .ok (.goto (-73), 3) := dk_167 255 183 (dk_at dksX1_dare_3 15 rfl rfl)
theorem dX1_dare_89 : decode cX1_dare 89 = .ok (.bipush (-4), 2) := dk_16 252 (dk_at dksX1_dare_3 18 rfl rfl)
theorem dX1_dare_91 : decode cX1_dare 91 = .ok (.ireturn, 1) := dk_172 (dk_at dksX1_dare_3 20 rfl rfl)
abbrev cX1_gets : ByteArray := prog_1_method_53_code
def yX1_gets : MethodName := ⟨RX1, "gets", "(III)I"⟩
def dkwX1_gets_2 : List UInt8 := [182, 0, 183, 100, 172]
abbrev dktX1_gets_2 : List UInt8 := dkwX1_gets_2 ++ []
def dkwX1_gets_1 : List UInt8 := [180, 0, 43, 27, 182, 0, 53, 153, 0, 7, 3, 167, 0, 15, 42, 180, 0, 43, 180, 0, 162, 27, 50]
abbrev dktX1_gets_1 : List UInt8 := dkwX1_gets_1 ++ dktX1_gets_2
def dkwX1_gets_0 : List UInt8 := [28, 154, 0, 6, 29, 116, 172, 4, 29, 96, 42, 180, 0, 43, 27, 182, 0, 202, 154, 0, 14, 42]
abbrev dktX1_gets_0 : List UInt8 := dkwX1_gets_0 ++ dktX1_gets_1
theorem dksX1_gets_0 : cX1_gets.data.toList.drop 0 = dktX1_gets_0 := by decide +kernel
theorem dksX1_gets_1 : cX1_gets.data.toList.drop 22 = dktX1_gets_1 := dk_seg dksX1_gets_0 22 rfl rfl
theorem dksX1_gets_2 : cX1_gets.data.toList.drop 45 = dktX1_gets_2 := dk_seg dksX1_gets_1 23 rfl rfl
theorem dX1_gets_0 : decode cX1_gets 0 = .ok (.iload_n 2, 1) := dk_28 (dk_at dksX1_gets_0 0 rfl rfl)
theorem dX1_gets_1 : decode cX1_gets 1 = .ok (.ifCond .ne 6, 3) := dk_154 0 6 (dk_at dksX1_gets_0 1 rfl rfl)
theorem dX1_gets_4 : decode cX1_gets 4 = .ok (.iload_n 3, 1) := dk_29 (dk_at dksX1_gets_0 4 rfl rfl)
theorem dX1_gets_5 : decode cX1_gets 5 = .ok (.ineg, 1) := dk_116 (dk_at dksX1_gets_0 5 rfl rfl)
theorem dX1_gets_6 : decode cX1_gets 6 = .ok (.ireturn, 1) := dk_172 (dk_at dksX1_gets_0 6 rfl rfl)
theorem dX1_gets_7 : decode cX1_gets 7 = .ok (.iconst 1, 1) := dk_4 (dk_at dksX1_gets_0 7 rfl rfl)
theorem dX1_gets_8 : decode cX1_gets 8 = .ok (.iload_n 3, 1) := dk_29 (dk_at dksX1_gets_0 8 rfl rfl)
theorem dX1_gets_9 : decode cX1_gets 9 = .ok (.iadd, 1) := dk_96 (dk_at dksX1_gets_0 9 rfl rfl)
theorem dX1_gets_10 : decode cX1_gets 10 = .ok (.aload_n 0, 1) := dk_42 (dk_at dksX1_gets_0 10 rfl rfl)
theorem dX1_gets_11 : decode cX1_gets 11 = .ok (.getfield 43, 3) := dk_180 0 43 (dk_at dksX1_gets_0 11 rfl rfl)
theorem dX1_gets_14 : decode cX1_gets 14 = .ok (.iload_n 1, 1) := dk_27 (dk_at dksX1_gets_0 14 rfl rfl)
theorem dX1_gets_15 : decode cX1_gets 15 = .ok (.invokevirtual 202, 3) := dk_182 0 202 (dk_at dksX1_gets_0 15 rfl rfl)
theorem dX1_gets_18 : decode cX1_gets 18 = .ok (.ifCond .ne 14, 3) := dk_154 0 14 (dk_at dksX1_gets_0 18 rfl rfl)
theorem dX1_gets_21 : decode cX1_gets 21 = .ok (.aload_n 0, 1) := dk_42 (dk_at dksX1_gets_0 21 rfl rfl)
theorem dX1_gets_22 : decode cX1_gets 22 = .ok (.getfield 43, 3) := dk_180 0 43 (dk_at dksX1_gets_1 0 rfl rfl)
theorem dX1_gets_25 : decode cX1_gets 25 = .ok (.iload_n 1, 1) := dk_27 (dk_at dksX1_gets_1 3 rfl rfl)
theorem dX1_gets_26 : decode cX1_gets 26 = .ok (.invokevirtual 53, 3) := dk_182 0 53 (dk_at dksX1_gets_1 4 rfl rfl)
theorem dX1_gets_29 : decode cX1_gets 29 = .ok (.ifCond .eq 7, 3) := dk_153 0 7 (dk_at dksX1_gets_1 7 rfl rfl)
theorem dX1_gets_32 : decode cX1_gets 32 = .ok (.iconst 0, 1) := dk_3 (dk_at dksX1_gets_1 10 rfl rfl)
theorem dX1_gets_33 : decode cX1_gets 33 = .ok (.goto 15, 3) := dk_167 0 15 (dk_at dksX1_gets_1 11 rfl rfl)
theorem dX1_gets_36 : decode cX1_gets 36 = .ok (.aload_n 0, 1) := dk_42 (dk_at dksX1_gets_1 14 rfl rfl)
theorem dX1_gets_37 : decode cX1_gets 37 = .ok (.getfield 43, 3) := dk_180 0 43 (dk_at dksX1_gets_1 15 rfl rfl)
theorem dX1_gets_40 : decode cX1_gets 40 = .ok (.getfield 162, 3) := dk_180 0 162 (dk_at dksX1_gets_1 18 rfl rfl)
theorem dX1_gets_43 : decode cX1_gets 43 = .ok (.iload_n 1, 1) := dk_27 (dk_at dksX1_gets_1 21 rfl rfl)
theorem dX1_gets_44 : decode cX1_gets 44 = .ok (.aaload, 1) := dk_50 (dk_at dksX1_gets_1 22 rfl rfl)
theorem dX1_gets_45 : decode cX1_gets 45 = .ok (.invokevirtual 183, 3) := dk_182 0 183 (dk_at dksX1_gets_2 0 rfl rfl)
theorem dX1_gets_48 : decode cX1_gets 48 = .ok (.isub, 1) := dk_100 (dk_at dksX1_gets_2 3 rfl rfl)
theorem dX1_gets_49 : decode cX1_gets 49 = .ok (.ireturn, 1) := dk_172 (dk_at dksX1_gets_2 4 rfl rfl)
abbrev cX1_group : ByteArray := prog_1_method_56_code
def yX1_group : MethodName := ⟨RX1, "group", "(II)I"⟩
def dkwX1_group_3 : List UInt8 := [132, 4, 1, 167, 255, 210, 28, 154, 0, 7, 29, 167, 0, 7, 29, 184, 1, 0, 172]
abbrev dktX1_group_3 : List UInt8 := dkwX1_group_3 ++ []
def dkwX1_group_2 : List UInt8 := [184, 1, 0, 164, 0, 18, 42, 21, 4, 182, 1, 73, 27, 163, 0, 8, 21, 4, 167, 0, 4, 29, 62]
abbrev dktX1_group_2 : List UInt8 := dkwX1_group_2 ++ dktX1_group_3
def dkwX1_group_1 : List UInt8 := [54, 4, 21, 4, 4, 42, 180, 0, 43, 180, 0, 66, 120, 162, 0, 38, 21, 4, 184, 1, 0, 29]
abbrev dktX1_group_1 : List UInt8 := dkwX1_group_1 ++ dktX1_group_2
def dkwX1_group_0 : List UInt8 := [27, 3, 16, 30, 184, 0, 39, 153, 0, 12, 28, 3, 4, 184, 0, 39, 154, 0, 5, 2, 172, 3, 62, 4]
abbrev dktX1_group_0 : List UInt8 := dkwX1_group_0 ++ dktX1_group_1
theorem dksX1_group_0 : cX1_group.data.toList.drop 0 = dktX1_group_0 := by decide +kernel
theorem dksX1_group_1 : cX1_group.data.toList.drop 24 = dktX1_group_1 := dk_seg dksX1_group_0 24 rfl rfl
theorem dksX1_group_2 : cX1_group.data.toList.drop 46 = dktX1_group_2 := dk_seg dksX1_group_1 22 rfl rfl
theorem dksX1_group_3 : cX1_group.data.toList.drop 69 = dktX1_group_3 := dk_seg dksX1_group_2 23 rfl rfl
theorem dX1_group_0 : decode cX1_group 0 = .ok (.iload_n 1, 1) := dk_27 (dk_at dksX1_group_0 0 rfl rfl)
theorem dX1_group_1 : decode cX1_group 1 = .ok (.iconst 0, 1) := dk_3 (dk_at dksX1_group_0 1 rfl rfl)
theorem dX1_group_2 : decode cX1_group 2 = .ok (.bipush 30, 2) := dk_16 30 (dk_at dksX1_group_0 2 rfl rfl)
theorem dX1_group_4 : decode cX1_group 4 = .ok (.invokestatic 39, 3) := dk_184 0 39 (dk_at dksX1_group_0 4 rfl rfl)
theorem dX1_group_7 : decode cX1_group 7 = .ok (.ifCond .eq 12, 3) := dk_153 0 12 (dk_at dksX1_group_0 7 rfl rfl)
theorem dX1_group_10 : decode cX1_group 10 = .ok (.iload_n 2, 1) := dk_28 (dk_at dksX1_group_0 10 rfl rfl)
theorem dX1_group_11 : decode cX1_group 11 = .ok (.iconst 0, 1) := dk_3 (dk_at dksX1_group_0 11 rfl rfl)
theorem dX1_group_12 : decode cX1_group 12 = .ok (.iconst 1, 1) := dk_4 (dk_at dksX1_group_0 12 rfl rfl)
theorem dX1_group_13 : decode cX1_group 13 = .ok (.invokestatic 39, 3) := dk_184 0 39 (dk_at dksX1_group_0 13 rfl rfl)
theorem dX1_group_16 : decode cX1_group 16 = .ok (.ifCond .ne 5, 3) := dk_154 0 5 (dk_at dksX1_group_0 16 rfl rfl)
theorem dX1_group_19 : decode cX1_group 19 = .ok (.iconst (-1), 1) := dk_2 (dk_at dksX1_group_0 19 rfl rfl)
theorem dX1_group_20 : decode cX1_group 20 = .ok (.ireturn, 1) := dk_172 (dk_at dksX1_group_0 20 rfl rfl)
theorem dX1_group_21 : decode cX1_group 21 = .ok (.iconst 0, 1) := dk_3 (dk_at dksX1_group_0 21 rfl rfl)
theorem dX1_group_22 : decode cX1_group 22 = .ok (.istore_n 3, 1) := dk_62 (dk_at dksX1_group_0 22 rfl rfl)
theorem dX1_group_23 : decode cX1_group 23 = .ok (.iconst 1, 1) := dk_4 (dk_at dksX1_group_0 23 rfl rfl)
theorem dX1_group_24 : decode cX1_group 24 = .ok (.istore 4, 2) := dk_54 4 (dk_at dksX1_group_1 0 rfl rfl)
theorem dX1_group_26 : decode cX1_group 26 = .ok (.iload 4, 2) := dk_21 4 (dk_at dksX1_group_1 2 rfl rfl)
theorem dX1_group_28 : decode cX1_group 28 = .ok (.iconst 1, 1) := dk_4 (dk_at dksX1_group_1 4 rfl rfl)
theorem dX1_group_29 : decode cX1_group 29 = .ok (.aload_n 0, 1) := dk_42 (dk_at dksX1_group_1 5 rfl rfl)
theorem dX1_group_30 : decode cX1_group 30 = .ok (.getfield 43, 3) := dk_180 0 43 (dk_at dksX1_group_1 6 rfl rfl)
theorem dX1_group_33 : decode cX1_group 33 = .ok (.getfield 66, 3) := dk_180 0 66 (dk_at dksX1_group_1 9 rfl rfl)
theorem dX1_group_36 : decode cX1_group 36 = .ok (.ishl, 1) := dk_120 (dk_at dksX1_group_1 12 rfl rfl)
theorem dX1_group_37 : decode cX1_group 37 = .ok (.if_icmp .ge 38, 3) := dk_162 0 38 (dk_at dksX1_group_1 13 rfl rfl)
theorem dX1_group_40 : decode cX1_group 40 = .ok (.iload 4, 2) := dk_21 4 (dk_at dksX1_group_1 16 rfl rfl)
theorem dX1_group_42 : decode cX1_group 42 = .ok (.invokestatic 256, 3) := dk_184 1 0 (dk_at dksX1_group_1 18 rfl rfl)
theorem dX1_group_45 : decode cX1_group 45 = .ok (.iload_n 3, 1) := dk_29 (dk_at dksX1_group_1 21 rfl rfl)
theorem dX1_group_46 : decode cX1_group 46 = .ok (.invokestatic 256, 3) := dk_184 1 0 (dk_at dksX1_group_2 0 rfl rfl)
theorem dX1_group_49 : decode cX1_group 49 = .ok (.if_icmp .le 18, 3) := dk_164 0 18 (dk_at dksX1_group_2 3 rfl rfl)
theorem dX1_group_52 : decode cX1_group 52 = .ok (.aload_n 0, 1) := dk_42 (dk_at dksX1_group_2 6 rfl rfl)
theorem dX1_group_53 : decode cX1_group 53 = .ok (.iload 4, 2) := dk_21 4 (dk_at dksX1_group_2 7 rfl rfl)
theorem dX1_group_55 : decode cX1_group 55 = .ok (.invokevirtual 329, 3) := dk_182 1 73 (dk_at dksX1_group_2 9 rfl rfl)
theorem dX1_group_58 : decode cX1_group 58 = .ok (.iload_n 1, 1) := dk_27 (dk_at dksX1_group_2 12 rfl rfl)
theorem dX1_group_59 : decode cX1_group 59 = .ok (.if_icmp .gt 8, 3) := dk_163 0 8 (dk_at dksX1_group_2 13 rfl rfl)
theorem dX1_group_62 : decode cX1_group 62 = .ok (.iload 4, 2) := dk_21 4 (dk_at dksX1_group_2 16 rfl rfl)
theorem dX1_group_64 : decode cX1_group 64 = .ok (.goto 4, 3) := dk_167 0 4 (dk_at dksX1_group_2 18 rfl rfl)
theorem dX1_group_67 : decode cX1_group 67 = .ok (.iload_n 3, 1) := dk_29 (dk_at dksX1_group_2 21 rfl rfl)
theorem dX1_group_68 : decode cX1_group 68 = .ok (.istore_n 3, 1) := dk_62 (dk_at dksX1_group_2 22 rfl rfl)
theorem dX1_group_69 : decode cX1_group 69 = .ok (.iinc 4 1, 3) := dk_132 4 1 (dk_at dksX1_group_3 0 rfl rfl)
theorem dX1_group_72 : decode cX1_group 72 = .ok (.goto (-46), 3) := dk_167 255 210 (dk_at dksX1_group_3 3 rfl rfl)
theorem dX1_group_75 : decode cX1_group 75 = .ok (.iload_n 2, 1) := dk_28 (dk_at dksX1_group_3 6 rfl rfl)
theorem dX1_group_76 : decode cX1_group 76 = .ok (.ifCond .ne 7, 3) := dk_154 0 7 (dk_at dksX1_group_3 7 rfl rfl)
theorem dX1_group_79 : decode cX1_group 79 = .ok (.iload_n 3, 1) := dk_29 (dk_at dksX1_group_3 10 rfl rfl)
theorem dX1_group_80 : decode cX1_group 80 = .ok (.goto 7, 3) := dk_167 0 7 (dk_at dksX1_group_3 11 rfl rfl)
theorem dX1_group_83 : decode cX1_group 83 = .ok (.iload_n 3, 1) := dk_29 (dk_at dksX1_group_3 14 rfl rfl)
theorem dX1_group_84 : decode cX1_group 84 = .ok (.invokestatic 256, 3) := dk_184 1 0 (dk_at dksX1_group_3 15 rfl rfl)
theorem dX1_group_87 : decode cX1_group 87 = .ok (.ireturn, 1) := dk_172 (dk_at dksX1_group_3 18 rfl rfl)
abbrev cX1_holdsOf : ByteArray := prog_1_method_55_code
def yX1_holdsOf : MethodName := ⟨RX1, "holdsOf", "(I)I"⟩
def dkwX1_holdsOf_2 : List UInt8 := [28, 172]
abbrev dktX1_holdsOf_2 : List UInt8 := dkwX1_holdsOf_2 ++ []
def dkwX1_holdsOf_1 : List UInt8 := [42, 180, 0, 43, 180, 0, 162, 29, 50, 182, 0, 176, 167, 0, 4, 3, 96, 61, 132, 3, 1, 167, 255, 215]
abbrev dktX1_holdsOf_1 : List UInt8 := dkwX1_holdsOf_1 ++ dktX1_holdsOf_2
def dkwX1_holdsOf_0 : List UInt8 := [3, 61, 3, 62, 29, 42, 180, 0, 43, 180, 0, 66, 162, 0, 36, 28, 27, 29, 184, 1, 20, 153, 0, 18]
abbrev dktX1_holdsOf_0 : List UInt8 := dkwX1_holdsOf_0 ++ dktX1_holdsOf_1
theorem dksX1_holdsOf_0 : cX1_holdsOf.data.toList.drop 0 = dktX1_holdsOf_0 := by decide +kernel
theorem dksX1_holdsOf_1 : cX1_holdsOf.data.toList.drop 24 = dktX1_holdsOf_1 := dk_seg dksX1_holdsOf_0 24 rfl rfl
theorem dksX1_holdsOf_2 : cX1_holdsOf.data.toList.drop 48 = dktX1_holdsOf_2 := dk_seg dksX1_holdsOf_1 24 rfl rfl
theorem dX1_holdsOf_0 : decode cX1_holdsOf 0 = .ok (.iconst 0, 1) := dk_3 (dk_at dksX1_holdsOf_0 0 rfl rfl)
theorem dX1_holdsOf_1 : decode cX1_holdsOf 1 = .ok (.istore_n 2, 1) := dk_61 (dk_at dksX1_holdsOf_0 1 rfl rfl)
theorem dX1_holdsOf_2 : decode cX1_holdsOf 2 = .ok (.iconst 0, 1) := dk_3 (dk_at dksX1_holdsOf_0 2 rfl rfl)
theorem dX1_holdsOf_3 : decode cX1_holdsOf 3 = .ok (.istore_n 3, 1) := dk_62 (dk_at dksX1_holdsOf_0 3 rfl rfl)
theorem dX1_holdsOf_4 : decode cX1_holdsOf 4 = .ok (.iload_n 3, 1) := dk_29 (dk_at dksX1_holdsOf_0 4 rfl rfl)
theorem dX1_holdsOf_5 : decode cX1_holdsOf 5 = .ok (.aload_n 0, 1) := dk_42 (dk_at dksX1_holdsOf_0 5 rfl rfl)
theorem dX1_holdsOf_6 : decode cX1_holdsOf 6 = .ok (.getfield 43, 3) := dk_180 0 43 (dk_at dksX1_holdsOf_0 6 rfl rfl)
theorem dX1_holdsOf_9 : decode cX1_holdsOf 9 = .ok (.getfield 66, 3) := dk_180 0 66 (dk_at dksX1_holdsOf_0 9 rfl rfl)
theorem dX1_holdsOf_12 : decode cX1_holdsOf 12 = .ok (.if_icmp .ge 36, 3) := dk_162 0 36 (dk_at dksX1_holdsOf_0 12 rfl rfl)
theorem dX1_holdsOf_15 : decode cX1_holdsOf 15 = .ok (.iload_n 2, 1) := dk_28 (dk_at dksX1_holdsOf_0 15 rfl rfl)
theorem dX1_holdsOf_16 : decode cX1_holdsOf 16 = .ok (.iload_n 1, 1) := dk_27 (dk_at dksX1_holdsOf_0 16 rfl rfl)
theorem dX1_holdsOf_17 : decode cX1_holdsOf 17 = .ok (.iload_n 3, 1) := dk_29 (dk_at dksX1_holdsOf_0 17 rfl rfl)
theorem dX1_holdsOf_18 : decode cX1_holdsOf 18 = .ok (.invokestatic 276, 3) := dk_184 1 20 (dk_at dksX1_holdsOf_0 18 rfl rfl)
theorem dX1_holdsOf_21 : decode cX1_holdsOf 21 = .ok (.ifCond .eq 18, 3) := dk_153 0 18 (dk_at dksX1_holdsOf_0 21 rfl rfl)
theorem dX1_holdsOf_24 : decode cX1_holdsOf 24 = .ok (.aload_n 0, 1) := dk_42 (dk_at dksX1_holdsOf_1 0 rfl rfl)
theorem dX1_holdsOf_25 : decode cX1_holdsOf 25 = .ok (.getfield 43, 3) := dk_180 0 43 (dk_at dksX1_holdsOf_1 1 rfl rfl)
theorem dX1_holdsOf_28 : decode cX1_holdsOf 28 = .ok (.getfield 162, 3) := dk_180 0 162 (dk_at dksX1_holdsOf_1 4 rfl rfl)
theorem dX1_holdsOf_31 : decode cX1_holdsOf 31 = .ok (.iload_n 3, 1) := dk_29 (dk_at dksX1_holdsOf_1 7 rfl rfl)
theorem dX1_holdsOf_32 : decode cX1_holdsOf 32 = .ok (.aaload, 1) := dk_50 (dk_at dksX1_holdsOf_1 8 rfl rfl)
theorem dX1_holdsOf_33 : decode cX1_holdsOf 33 = .ok (.invokevirtual 176, 3) := dk_182 0 176 (dk_at dksX1_holdsOf_1 9 rfl rfl)
theorem dX1_holdsOf_36 : decode cX1_holdsOf 36 = .ok (.goto 4, 3) := dk_167 0 4 (dk_at dksX1_holdsOf_1 12 rfl rfl)
theorem dX1_holdsOf_39 : decode cX1_holdsOf 39 = .ok (.iconst 0, 1) := dk_3 (dk_at dksX1_holdsOf_1 15 rfl rfl)
theorem dX1_holdsOf_40 : decode cX1_holdsOf 40 = .ok (.iadd, 1) := dk_96 (dk_at dksX1_holdsOf_1 16 rfl rfl)
theorem dX1_holdsOf_41 : decode cX1_holdsOf 41 = .ok (.istore_n 2, 1) := dk_61 (dk_at dksX1_holdsOf_1 17 rfl rfl)
theorem dX1_holdsOf_42 : decode cX1_holdsOf 42 = .ok (.iinc 3 1, 3) := dk_132 3 1 (dk_at dksX1_holdsOf_1 18 rfl rfl)
theorem dX1_holdsOf_45 : decode cX1_holdsOf 45 = .ok (.goto (-41), 3) := dk_167 255 215 (dk_at dksX1_holdsOf_1 21 rfl rfl)
theorem dX1_holdsOf_48 : decode cX1_holdsOf 48 = .ok (.iload_n 2, 1) := dk_28 (dk_at dksX1_holdsOf_2 0 rfl rfl)
theorem dX1_holdsOf_49 : decode cX1_holdsOf 49 = .ok (.ireturn, 1) := dk_172 (dk_at dksX1_holdsOf_2 1 rfl rfl)
abbrev cX1_forget : ByteArray := prog_1_method_57_code
def yX1_forget : MethodName := ⟨RX1, "forget", "()I"⟩
def dkwX1_forget_1 : List UInt8 := [184, 0, 205, 154, 0, 5, 27, 172, 132, 1, 1, 167, 255, 223, 16, 252, 172]
abbrev dktX1_forget_1 : List UInt8 := dkwX1_forget_1 ++ []
def dkwX1_forget_0 : List UInt8 := [3, 60, 27, 16, 9, 163, 0, 33, 42, 182, 0, 242, 42, 180, 0, 63, 27, 182, 0, 102, 42, 180, 0, 63]
abbrev dktX1_forget_0 : List UInt8 := dkwX1_forget_0 ++ dktX1_forget_1
theorem dksX1_forget_0 : cX1_forget.data.toList.drop 0 = dktX1_forget_0 := by decide +kernel
theorem dksX1_forget_1 : cX1_forget.data.toList.drop 24 = dktX1_forget_1 := dk_seg dksX1_forget_0 24 rfl rfl
theorem dX1_forget_0 : decode cX1_forget 0 = .ok (.iconst 0, 1) := dk_3 (dk_at dksX1_forget_0 0 rfl rfl)
theorem dX1_forget_1 : decode cX1_forget 1 = .ok (.istore_n 1, 1) := dk_60 (dk_at dksX1_forget_0 1 rfl rfl)
theorem dX1_forget_2 : decode cX1_forget 2 = .ok (.iload_n 1, 1) := dk_27 (dk_at dksX1_forget_0 2 rfl rfl)
theorem dX1_forget_3 : decode cX1_forget 3 = .ok (.bipush 9, 2) := dk_16 9 (dk_at dksX1_forget_0 3 rfl rfl)
theorem dX1_forget_5 : decode cX1_forget 5 = .ok (.if_icmp .gt 33, 3) := dk_163 0 33 (dk_at dksX1_forget_0 5 rfl rfl)
theorem dX1_forget_8 : decode cX1_forget 8 = .ok (.aload_n 0, 1) := dk_42 (dk_at dksX1_forget_0 8 rfl rfl)
theorem dX1_forget_9 : decode cX1_forget 9 = .ok (.invokevirtual 242, 3) := dk_182 0 242 (dk_at dksX1_forget_0 9 rfl rfl)
theorem dX1_forget_12 : decode cX1_forget 12 = .ok (.aload_n 0, 1) := dk_42 (dk_at dksX1_forget_0 12 rfl rfl)
theorem dX1_forget_13 : decode cX1_forget 13 = .ok (.getfield 63, 3) := dk_180 0 63 (dk_at dksX1_forget_0 13 rfl rfl)
theorem dX1_forget_16 : decode cX1_forget 16 = .ok (.iload_n 1, 1) := dk_27 (dk_at dksX1_forget_0 16 rfl rfl)
theorem dX1_forget_17 : decode cX1_forget 17 = .ok (.invokevirtual 102, 3) := dk_182 0 102 (dk_at dksX1_forget_0 17 rfl rfl)
theorem dX1_forget_20 : decode cX1_forget 20 = .ok (.aload_n 0, 1) := dk_42 (dk_at dksX1_forget_0 20 rfl rfl)
theorem dX1_forget_21 : decode cX1_forget 21 = .ok (.getfield 63, 3) := dk_180 0 63 (dk_at dksX1_forget_0 21 rfl rfl)
theorem dX1_forget_24 : decode cX1_forget 24 = .ok (.invokestatic 205, 3) := dk_184 0 205 (dk_at dksX1_forget_1 0 rfl rfl)
theorem dX1_forget_27 : decode cX1_forget 27 = .ok (.ifCond .ne 5, 3) := dk_154 0 5 (dk_at dksX1_forget_1 3 rfl rfl)
theorem dX1_forget_30 : decode cX1_forget 30 = .ok (.iload_n 1, 1) := dk_27 (dk_at dksX1_forget_1 6 rfl rfl)
theorem dX1_forget_31 : decode cX1_forget 31 = .ok (.ireturn, 1) := dk_172 (dk_at dksX1_forget_1 7 rfl rfl)
theorem dX1_forget_32 : decode cX1_forget 32 = .ok (.iinc 1 1, 3) := dk_132 1 1 (dk_at dksX1_forget_1 8 rfl rfl)
theorem dX1_forget_35 : decode cX1_forget 35 = .ok (.goto (-33), 3) := dk_167 255 223 (dk_at dksX1_forget_1 11 rfl rfl)
theorem dX1_forget_38 : decode cX1_forget 38 = .ok (.bipush (-4), 2) := dk_16 252 (dk_at dksX1_forget_1 14 rfl rfl)
theorem dX1_forget_40 : decode cX1_forget 40 = .ok (.ireturn, 1) := dk_172 (dk_at dksX1_forget_1 16 rfl rfl)
abbrev cX1_coldest : ByteArray := prog_1_method_58_code
def yX1_coldest : MethodName := ⟨RX1, "coldest", "(II)I"⟩
def dkwX1_coldest_4 : List UInt8 := [3, 96, 62, 132, 4, 1, 167, 255, 182, 29, 172]
abbrev dktX1_coldest_4 : List UInt8 := dkwX1_coldest_4 ++ []
def dkwX1_coldest_3 : List UInt8 := [96, 184, 0, 3, 42, 180, 0, 43, 180, 0, 162, 21, 4, 50, 182, 0, 186, 164, 0, 7, 4, 167, 0, 4]
abbrev dktX1_coldest_3 : List UInt8 := dkwX1_coldest_3 ++ dktX1_coldest_4
def dkwX1_coldest_2 : List UInt8 := [180, 0, 43, 21, 4, 182, 0, 53, 154, 0, 40, 16, 20, 42, 180, 0, 43, 180, 0, 173, 21, 4, 46, 28]
abbrev dktX1_coldest_2 : List UInt8 := dkwX1_coldest_2 ++ dktX1_coldest_3
def dkwX1_coldest_1 : List UInt8 := [62, 3, 54, 4, 21, 4, 42, 180, 0, 43, 180, 0, 66, 162, 0, 68, 29, 21, 4, 27, 159, 0, 52, 42]
abbrev dktX1_coldest_1 : List UInt8 := dkwX1_coldest_1 ++ dktX1_coldest_2
def dkwX1_coldest_0 : List UInt8 := [42, 180, 0, 43, 27, 182, 0, 47, 153, 0, 13, 28, 3, 16, 60, 184, 0, 39, 154, 0, 5, 2, 172, 3]
abbrev dktX1_coldest_0 : List UInt8 := dkwX1_coldest_0 ++ dktX1_coldest_1
theorem dksX1_coldest_0 : cX1_coldest.data.toList.drop 0 = dktX1_coldest_0 := by decide +kernel
theorem dksX1_coldest_1 : cX1_coldest.data.toList.drop 24 = dktX1_coldest_1 := dk_seg dksX1_coldest_0 24 rfl rfl
theorem dksX1_coldest_2 : cX1_coldest.data.toList.drop 48 = dktX1_coldest_2 := dk_seg dksX1_coldest_1 24 rfl rfl
theorem dksX1_coldest_3 : cX1_coldest.data.toList.drop 72 = dktX1_coldest_3 := dk_seg dksX1_coldest_2 24 rfl rfl
theorem dksX1_coldest_4 : cX1_coldest.data.toList.drop 96 = dktX1_coldest_4 := dk_seg dksX1_coldest_3 24 rfl rfl
theorem dX1_coldest_0 : decode cX1_coldest 0 = .ok (.aload_n 0, 1) := dk_42 (dk_at dksX1_coldest_0 0 rfl rfl)
theorem dX1_coldest_1 : decode cX1_coldest 1 = .ok (.getfield 43, 3) := dk_180 0 43 (dk_at dksX1_coldest_0 1 rfl rfl)
theorem dX1_coldest_4 : decode cX1_coldest 4 = .ok (.iload_n 1, 1) := dk_27 (dk_at dksX1_coldest_0 4 rfl rfl)
theorem dX1_coldest_5 : decode cX1_coldest 5 = .ok (.invokevirtual 47, 3) := dk_182 0 47 (dk_at dksX1_coldest_0 5 rfl rfl)
theorem dX1_coldest_8 : decode cX1_coldest 8 = .ok (.ifCond .eq 13, 3) := dk_153 0 13 (dk_at dksX1_coldest_0 8 rfl rfl)
theorem dX1_coldest_11 : decode cX1_coldest 11 = .ok (.iload_n 2, 1) := dk_28 (dk_at dksX1_coldest_0 11 rfl rfl)
theorem dX1_coldest_12 : decode cX1_coldest 12 = .ok (.iconst 0, 1) := dk_3 (dk_at dksX1_coldest_0 12 rfl rfl)
theorem dX1_coldest_13 : decode cX1_coldest 13 = .ok (.bipush 60, 2) := dk_16 60 (dk_at dksX1_coldest_0 13 rfl rfl)
theorem dX1_coldest_15 : decode cX1_coldest 15 = .ok (.invokestatic 39, 3) := dk_184 0 39 (dk_at dksX1_coldest_0 15 rfl rfl)
theorem dX1_coldest_18 : decode cX1_coldest 18 = .ok (.ifCond .ne 5, 3) := dk_154 0 5 (dk_at dksX1_coldest_0 18 rfl rfl)
theorem dX1_coldest_21 : decode cX1_coldest 21 = .ok (.iconst (-1), 1) := dk_2 (dk_at dksX1_coldest_0 21 rfl rfl)
theorem dX1_coldest_22 : decode cX1_coldest 22 = .ok (.ireturn, 1) := dk_172 (dk_at dksX1_coldest_0 22 rfl rfl)
theorem dX1_coldest_23 : decode cX1_coldest 23 = .ok (.iconst 0, 1) := dk_3 (dk_at dksX1_coldest_0 23 rfl rfl)
theorem dX1_coldest_24 : decode cX1_coldest 24 = .ok (.istore_n 3, 1) := dk_62 (dk_at dksX1_coldest_1 0 rfl rfl)
theorem dX1_coldest_25 : decode cX1_coldest 25 = .ok (.iconst 0, 1) := dk_3 (dk_at dksX1_coldest_1 1 rfl rfl)
theorem dX1_coldest_26 : decode cX1_coldest 26 = .ok (.istore 4, 2) := dk_54 4 (dk_at dksX1_coldest_1 2 rfl rfl)
theorem dX1_coldest_28 : decode cX1_coldest 28 = .ok (.iload 4, 2) := dk_21 4 (dk_at dksX1_coldest_1 4 rfl rfl)
theorem dX1_coldest_30 : decode cX1_coldest 30 = .ok (.aload_n 0, 1) := dk_42 (dk_at dksX1_coldest_1 6 rfl rfl)
theorem dX1_coldest_31 : decode cX1_coldest 31 = .ok (.getfield 43, 3) := dk_180 0 43 (dk_at dksX1_coldest_1 7 rfl rfl)
theorem dX1_coldest_34 : decode cX1_coldest 34 = .ok (.getfield 66, 3) := dk_180 0 66 (dk_at dksX1_coldest_1 10 rfl rfl)
theorem dX1_coldest_37 : decode cX1_coldest 37 = .ok (.if_icmp .ge 68, 3) := dk_162 0 68 (dk_at dksX1_coldest_1 13 rfl rfl)
theorem dX1_coldest_40 : decode cX1_coldest 40 = .ok (.iload_n 3, 1) := dk_29 (dk_at dksX1_coldest_1 16 rfl rfl)
theorem dX1_coldest_41 : decode cX1_coldest 41 = .ok (.iload 4, 2) := dk_21 4 (dk_at dksX1_coldest_1 17 rfl rfl)
theorem dX1_coldest_43 : decode cX1_coldest 43 = .ok (.iload_n 1, 1) := dk_27 (dk_at dksX1_coldest_1 19 rfl rfl)
theorem dX1_coldest_44 : decode cX1_coldest 44 = .ok (.if_icmp .eq 52, 3) := dk_159 0 52 (dk_at dksX1_coldest_1 20 rfl rfl)
theorem dX1_coldest_47 : decode cX1_coldest 47 = .ok (.aload_n 0, 1) := dk_42 (dk_at dksX1_coldest_1 23 rfl rfl)
theorem dX1_coldest_48 : decode cX1_coldest 48 = .ok (.getfield 43, 3) := dk_180 0 43 (dk_at dksX1_coldest_2 0 rfl rfl)
theorem dX1_coldest_51 : decode cX1_coldest 51 = .ok (.iload 4, 2) := dk_21 4 (dk_at dksX1_coldest_2 3 rfl rfl)
theorem dX1_coldest_53 : decode cX1_coldest 53 = .ok (.invokevirtual 53, 3) := dk_182 0 53 (dk_at dksX1_coldest_2 5 rfl rfl)
theorem dX1_coldest_56 : decode cX1_coldest 56 = .ok (.ifCond .ne 40, 3) := dk_154 0 40 (dk_at dksX1_coldest_2 8 rfl rfl)
theorem dX1_coldest_59 : decode cX1_coldest 59 = .ok (.bipush 20, 2) := dk_16 20 (dk_at dksX1_coldest_2 11 rfl rfl)
theorem dX1_coldest_61 : decode cX1_coldest 61 = .ok (.aload_n 0, 1) := dk_42 (dk_at dksX1_coldest_2 13 rfl rfl)
theorem dX1_coldest_62 : decode cX1_coldest 62 = .ok (.getfield 43, 3) := dk_180 0 43 (dk_at dksX1_coldest_2 14 rfl rfl)
theorem dX1_coldest_65 : decode cX1_coldest 65 = .ok (.getfield 173, 3) := dk_180 0 173 (dk_at dksX1_coldest_2 17 rfl rfl)
theorem dX1_coldest_68 : decode cX1_coldest 68 = .ok (.iload 4, 2) := dk_21 4 (dk_at dksX1_coldest_2 20 rfl rfl)
theorem dX1_coldest_70 : decode cX1_coldest 70 = .ok (.iaload, 1) := dk_46 (dk_at dksX1_coldest_2 22 rfl rfl)
theorem dX1_coldest_71 : decode cX1_coldest 71 = .ok (.iload_n 2, 1) := dk_28 (dk_at dksX1_coldest_2 23 rfl rfl)
theorem dX1_coldest_72 : decode cX1_coldest 72 = .ok (.iadd, 1) := dk_96 (dk_at dksX1_coldest_3 0 rfl rfl)
theorem dX1_coldest_73 : decode cX1_coldest 73 = .ok (.invokestatic 3, 3) := dk_184 0 3 (dk_at dksX1_coldest_3 1 rfl rfl)
theorem dX1_coldest_76 : decode cX1_coldest 76 = .ok (.aload_n 0, 1) := dk_42 (dk_at dksX1_coldest_3 4 rfl rfl)
theorem dX1_coldest_77 : decode cX1_coldest 77 = .ok (.getfield 43, 3) := dk_180 0 43 (dk_at dksX1_coldest_3 5 rfl rfl)
theorem dX1_coldest_80 : decode cX1_coldest 80 = .ok (.getfield 162, 3) := dk_180 0 162 (dk_at dksX1_coldest_3 8 rfl rfl)
theorem dX1_coldest_83 : decode cX1_coldest 83 = .ok (.iload 4, 2) := dk_21 4 (dk_at dksX1_coldest_3 11 rfl rfl)
theorem dX1_coldest_85 : decode cX1_coldest 85 = .ok (.aaload, 1) := dk_50 (dk_at dksX1_coldest_3 13 rfl rfl)
theorem dX1_coldest_86 : decode cX1_coldest 86 = .ok (.invokevirtual 186, 3) := dk_182 0 186 (dk_at dksX1_coldest_3 14 rfl rfl)
theorem dX1_coldest_89 : decode cX1_coldest 89 = .ok (.if_icmp .le 7, 3) := dk_164 0 7 (dk_at dksX1_coldest_3 17 rfl rfl)
theorem dX1_coldest_92 : decode cX1_coldest 92 = .ok (.iconst 1, 1) := dk_4 (dk_at dksX1_coldest_3 20 rfl rfl)
theorem dX1_coldest_93 : decode cX1_coldest 93 = .ok (.goto 4, 3) := dk_167 0 4 (dk_at dksX1_coldest_3 21 rfl rfl)
theorem dX1_coldest_96 : decode cX1_coldest 96 = .ok (.iconst 0, 1) := dk_3 (dk_at dksX1_coldest_4 0 rfl rfl)
theorem dX1_coldest_97 : decode cX1_coldest 97 = .ok (.iadd, 1) := dk_96 (dk_at dksX1_coldest_4 1 rfl rfl)
theorem dX1_coldest_98 : decode cX1_coldest 98 = .ok (.istore_n 3, 1) := dk_62 (dk_at dksX1_coldest_4 2 rfl rfl)
theorem dX1_coldest_99 : decode cX1_coldest 99 = .ok (.iinc 4 1, 3) := dk_132 4 1 (dk_at dksX1_coldest_4 3 rfl rfl)
theorem dX1_coldest_102 : decode cX1_coldest 102 = .ok (.goto (-74), 3) := dk_167 255 182 (dk_at dksX1_coldest_4 6 rfl rfl)
theorem dX1_coldest_105 : decode cX1_coldest 105 = .ok (.iload_n 3, 1) := dk_29 (dk_at dksX1_coldest_4 9 rfl rfl)
theorem dX1_coldest_106 : decode cX1_coldest 106 = .ok (.ireturn, 1) := dk_172 (dk_at dksX1_coldest_4 10 rfl rfl)
abbrev cX1_last : ByteArray := prog_1_method_59_code
def yX1_last : MethodName := ⟨RX1, "last", "()I"⟩
def dkwX1_last_3 : List UInt8 := [180, 0, 43, 180, 0, 77, 27, 46, 162, 0, 5, 28, 60, 132, 2, 1, 167, 255, 173, 27, 172]
abbrev dktX1_last_3 : List UInt8 := dkwX1_last_3 ++ []
def dkwX1_last_2 : List UInt8 := [28, 46, 42, 180, 0, 43, 180, 0, 81, 27, 46, 160, 0, 26, 42, 180, 0, 43, 180, 0, 77, 28, 46, 42]
abbrev dktX1_last_2 : List UInt8 := dkwX1_last_2 ++ dktX1_last_3
def dkwX1_last_1 : List UInt8 := [180, 0, 81, 28, 46, 42, 180, 0, 43, 180, 0, 81, 27, 46, 161, 0, 45, 42, 180, 0, 43, 180, 0, 81]
abbrev dktX1_last_1 : List UInt8 := dkwX1_last_1 ++ dktX1_last_2
def dkwX1_last_0 : List UInt8 := [16, 252, 60, 3, 61, 28, 42, 180, 0, 43, 180, 0, 66, 162, 0, 78, 27, 155, 0, 66, 42, 180, 0, 43]
abbrev dktX1_last_0 : List UInt8 := dkwX1_last_0 ++ dktX1_last_1
theorem dksX1_last_0 : cX1_last.data.toList.drop 0 = dktX1_last_0 := by decide +kernel
theorem dksX1_last_1 : cX1_last.data.toList.drop 24 = dktX1_last_1 := dk_seg dksX1_last_0 24 rfl rfl
theorem dksX1_last_2 : cX1_last.data.toList.drop 48 = dktX1_last_2 := dk_seg dksX1_last_1 24 rfl rfl
theorem dksX1_last_3 : cX1_last.data.toList.drop 72 = dktX1_last_3 := dk_seg dksX1_last_2 24 rfl rfl
theorem dX1_last_0 : decode cX1_last 0 = .ok (.bipush (-4), 2) := dk_16 252 (dk_at dksX1_last_0 0 rfl rfl)
theorem dX1_last_2 : decode cX1_last 2 = .ok (.istore_n 1, 1) := dk_60 (dk_at dksX1_last_0 2 rfl rfl)
theorem dX1_last_3 : decode cX1_last 3 = .ok (.iconst 0, 1) := dk_3 (dk_at dksX1_last_0 3 rfl rfl)
theorem dX1_last_4 : decode cX1_last 4 = .ok (.istore_n 2, 1) := dk_61 (dk_at dksX1_last_0 4 rfl rfl)
theorem dX1_last_5 : decode cX1_last 5 = .ok (.iload_n 2, 1) := dk_28 (dk_at dksX1_last_0 5 rfl rfl)
theorem dX1_last_6 : decode cX1_last 6 = .ok (.aload_n 0, 1) := dk_42 (dk_at dksX1_last_0 6 rfl rfl)
theorem dX1_last_7 : decode cX1_last 7 = .ok (.getfield 43, 3) := dk_180 0 43 (dk_at dksX1_last_0 7 rfl rfl)
theorem dX1_last_10 : decode cX1_last 10 = .ok (.getfield 66, 3) := dk_180 0 66 (dk_at dksX1_last_0 10 rfl rfl)
theorem dX1_last_13 : decode cX1_last 13 = .ok (.if_icmp .ge 78, 3) := dk_162 0 78 (dk_at dksX1_last_0 13 rfl rfl)
theorem dX1_last_16 : decode cX1_last 16 = .ok (.iload_n 1, 1) := dk_27 (dk_at dksX1_last_0 16 rfl rfl)
theorem dX1_last_17 : decode cX1_last 17 = .ok (.ifCond .lt 66, 3) := dk_155 0 66 (dk_at dksX1_last_0 17 rfl rfl)
theorem dX1_last_20 : decode cX1_last 20 = .ok (.aload_n 0, 1) := dk_42 (dk_at dksX1_last_0 20 rfl rfl)
theorem dX1_last_21 : decode cX1_last 21 = .ok (.getfield 43, 3) := dk_180 0 43 (dk_at dksX1_last_0 21 rfl rfl)
theorem dX1_last_24 : decode cX1_last 24 = .ok (.getfield 81, 3) := dk_180 0 81 (dk_at dksX1_last_1 0 rfl rfl)
theorem dX1_last_27 : decode cX1_last 27 = .ok (.iload_n 2, 1) := dk_28 (dk_at dksX1_last_1 3 rfl rfl)
theorem dX1_last_28 : decode cX1_last 28 = .ok (.iaload, 1) := dk_46 (dk_at dksX1_last_1 4 rfl rfl)
theorem dX1_last_29 : decode cX1_last 29 = .ok (.aload_n 0, 1) := dk_42 (dk_at dksX1_last_1 5 rfl rfl)
theorem dX1_last_30 : decode cX1_last 30 = .ok (.getfield 43, 3) := dk_180 0 43 (dk_at dksX1_last_1 6 rfl rfl)
theorem dX1_last_33 : decode cX1_last 33 = .ok (.getfield 81, 3) := dk_180 0 81 (dk_at dksX1_last_1 9 rfl rfl)
theorem dX1_last_36 : decode cX1_last 36 = .ok (.iload_n 1, 1) := dk_27 (dk_at dksX1_last_1 12 rfl rfl)
theorem dX1_last_37 : decode cX1_last 37 = .ok (.iaload, 1) := dk_46 (dk_at dksX1_last_1 13 rfl rfl)
theorem dX1_last_38 : decode cX1_last 38 = .ok (.if_icmp .lt 45, 3) := dk_161 0 45 (dk_at dksX1_last_1 14 rfl rfl)
theorem dX1_last_41 : decode cX1_last 41 = .ok (.aload_n 0, 1) := dk_42 (dk_at dksX1_last_1 17 rfl rfl)
theorem dX1_last_42 : decode cX1_last 42 = .ok (.getfield 43, 3) := dk_180 0 43 (dk_at dksX1_last_1 18 rfl rfl)
theorem dX1_last_45 : decode cX1_last 45 = .ok (.getfield 81, 3) := dk_180 0 81 (dk_at dksX1_last_1 21 rfl rfl)
theorem dX1_last_48 : decode cX1_last 48 = .ok (.iload_n 2, 1) := dk_28 (dk_at dksX1_last_2 0 rfl rfl)
theorem dX1_last_49 : decode cX1_last 49 = .ok (.iaload, 1) := dk_46 (dk_at dksX1_last_2 1 rfl rfl)
theorem dX1_last_50 : decode cX1_last 50 = .ok (.aload_n 0, 1) := dk_42 (dk_at dksX1_last_2 2 rfl rfl)
theorem dX1_last_51 : decode cX1_last 51 = .ok (.getfield 43, 3) := dk_180 0 43 (dk_at dksX1_last_2 3 rfl rfl)
theorem dX1_last_54 : decode cX1_last 54 = .ok (.getfield 81, 3) := dk_180 0 81 (dk_at dksX1_last_2 6 rfl rfl)
theorem dX1_last_57 : decode cX1_last 57 = .ok (.iload_n 1, 1) := dk_27 (dk_at dksX1_last_2 9 rfl rfl)
theorem dX1_last_58 : decode cX1_last 58 = .ok (.iaload, 1) := dk_46 (dk_at dksX1_last_2 10 rfl rfl)
theorem dX1_last_59 : decode cX1_last 59 = .ok (.if_icmp .ne 26, 3) := dk_160 0 26 (dk_at dksX1_last_2 11 rfl rfl)
theorem dX1_last_62 : decode cX1_last 62 = .ok (.aload_n 0, 1) := dk_42 (dk_at dksX1_last_2 14 rfl rfl)
theorem dX1_last_63 : decode cX1_last 63 = .ok (.getfield 43, 3) := dk_180 0 43 (dk_at dksX1_last_2 15 rfl rfl)
theorem dX1_last_66 : decode cX1_last 66 = .ok (.getfield 77, 3) := dk_180 0 77 (dk_at dksX1_last_2 18 rfl rfl)
theorem dX1_last_69 : decode cX1_last 69 = .ok (.iload_n 2, 1) := dk_28 (dk_at dksX1_last_2 21 rfl rfl)
theorem dX1_last_70 : decode cX1_last 70 = .ok (.iaload, 1) := dk_46 (dk_at dksX1_last_2 22 rfl rfl)
theorem dX1_last_71 : decode cX1_last 71 = .ok (.aload_n 0, 1) := dk_42 (dk_at dksX1_last_2 23 rfl rfl)
theorem dX1_last_72 : decode cX1_last 72 = .ok (.getfield 43, 3) := dk_180 0 43 (dk_at dksX1_last_3 0 rfl rfl)
theorem dX1_last_75 : decode cX1_last 75 = .ok (.getfield 77, 3) := dk_180 0 77 (dk_at dksX1_last_3 3 rfl rfl)
theorem dX1_last_78 : decode cX1_last 78 = .ok (.iload_n 1, 1) := dk_27 (dk_at dksX1_last_3 6 rfl rfl)
theorem dX1_last_79 : decode cX1_last 79 = .ok (.iaload, 1) := dk_46 (dk_at dksX1_last_3 7 rfl rfl)
theorem dX1_last_80 : decode cX1_last 80 = .ok (.if_icmp .ge 5, 3) := dk_162 0 5 (dk_at dksX1_last_3 8 rfl rfl)
theorem dX1_last_83 : decode cX1_last 83 = .ok (.iload_n 2, 1) := dk_28 (dk_at dksX1_last_3 11 rfl rfl)
theorem dX1_last_84 : decode cX1_last 84 = .ok (.istore_n 1, 1) := dk_60 (dk_at dksX1_last_3 12 rfl rfl)
theorem dX1_last_85 : decode cX1_last 85 = .ok (.iinc 2 1, 3) := dk_132 2 1 (dk_at dksX1_last_3 13 rfl rfl)
theorem dX1_last_88 : decode cX1_last 88 = .ok (.goto (-83), 3) := dk_167 255 173 (dk_at dksX1_last_3 16 rfl rfl)
theorem dX1_last_91 : decode cX1_last 91 = .ok (.iload_n 1, 1) := dk_27 (dk_at dksX1_last_3 19 rfl rfl)
theorem dX1_last_92 : decode cX1_last 92 = .ok (.ireturn, 1) := dk_172 (dk_at dksX1_last_3 20 rfl rfl)
abbrev cX1_mean : ByteArray := prog_1_method_60_code
def yX1_mean : MethodName := ⟨RX1, "mean", "(I)J"⟩
def dkwX1_mean_2 : List UInt8 := [173]
abbrev dktX1_mean_2 : List UInt8 := dkwX1_mean_2 ++ []
def dkwX1_mean_1 : List UInt8 := [133, 167, 0, 23, 42, 180, 0, 43, 182, 0, 199, 133, 42, 180, 0, 43, 180, 0, 66, 133, 27, 184, 1, 40]
abbrev dktX1_mean_1 : List UInt8 := dkwX1_mean_1 ++ dktX1_mean_2
def dkwX1_mean_0 : List UInt8 := [27, 3, 4, 184, 0, 39, 154, 0, 7, 20, 1, 34, 173, 42, 180, 0, 43, 180, 0, 66, 154, 0, 8, 27]
abbrev dktX1_mean_0 : List UInt8 := dkwX1_mean_0 ++ dktX1_mean_1
theorem dksX1_mean_0 : cX1_mean.data.toList.drop 0 = dktX1_mean_0 := by decide +kernel
theorem dksX1_mean_1 : cX1_mean.data.toList.drop 24 = dktX1_mean_1 := dk_seg dksX1_mean_0 24 rfl rfl
theorem dksX1_mean_2 : cX1_mean.data.toList.drop 48 = dktX1_mean_2 := dk_seg dksX1_mean_1 24 rfl rfl
theorem dX1_mean_0 : decode cX1_mean 0 = .ok (.iload_n 1, 1) := dk_27 (dk_at dksX1_mean_0 0 rfl rfl)
theorem dX1_mean_1 : decode cX1_mean 1 = .ok (.iconst 0, 1) := dk_3 (dk_at dksX1_mean_0 1 rfl rfl)
theorem dX1_mean_2 : decode cX1_mean 2 = .ok (.iconst 1, 1) := dk_4 (dk_at dksX1_mean_0 2 rfl rfl)
theorem dX1_mean_3 : decode cX1_mean 3 = .ok (.invokestatic 39, 3) := dk_184 0 39 (dk_at dksX1_mean_0 3 rfl rfl)
theorem dX1_mean_6 : decode cX1_mean 6 = .ok (.ifCond .ne 7, 3) := dk_154 0 7 (dk_at dksX1_mean_0 6 rfl rfl)
theorem dX1_mean_9 : decode cX1_mean 9 = .ok (.ldc2_w 290, 3) := dk_20 1 34 (dk_at dksX1_mean_0 9 rfl rfl)
theorem dX1_mean_12 : decode cX1_mean 12 = .ok (.lreturn, 1) := dk_173 (dk_at dksX1_mean_0 12 rfl rfl)
theorem dX1_mean_13 : decode cX1_mean 13 = .ok (.aload_n 0, 1) := dk_42 (dk_at dksX1_mean_0 13 rfl rfl)
theorem dX1_mean_14 : decode cX1_mean 14 = .ok (.getfield 43, 3) := dk_180 0 43 (dk_at dksX1_mean_0 14 rfl rfl)
theorem dX1_mean_17 : decode cX1_mean 17 = .ok (.getfield 66, 3) := dk_180 0 66 (dk_at dksX1_mean_0 17 rfl rfl)
theorem dX1_mean_20 : decode cX1_mean 20 = .ok (.ifCond .ne 8, 3) := dk_154 0 8 (dk_at dksX1_mean_0 20 rfl rfl)
theorem dX1_mean_23 : decode cX1_mean 23 = .ok (.iload_n 1, 1) := dk_27 (dk_at dksX1_mean_0 23 rfl rfl)
theorem dX1_mean_24 : decode cX1_mean 24 = .ok (.i2l, 1) := dk_133 (dk_at dksX1_mean_1 0 rfl rfl)
theorem dX1_mean_25 : decode cX1_mean 25 = .ok (.goto 23, 3) := dk_167 0 23 (dk_at dksX1_mean_1 1 rfl rfl)
theorem dX1_mean_28 : decode cX1_mean 28 = .ok (.aload_n 0, 1) := dk_42 (dk_at dksX1_mean_1 4 rfl rfl)
theorem dX1_mean_29 : decode cX1_mean 29 = .ok (.getfield 43, 3) := dk_180 0 43 (dk_at dksX1_mean_1 5 rfl rfl)
theorem dX1_mean_32 : decode cX1_mean 32 = .ok (.invokevirtual 199, 3) := dk_182 0 199 (dk_at dksX1_mean_1 8 rfl rfl)
theorem dX1_mean_35 : decode cX1_mean 35 = .ok (.i2l, 1) := dk_133 (dk_at dksX1_mean_1 11 rfl rfl)
theorem dX1_mean_36 : decode cX1_mean 36 = .ok (.aload_n 0, 1) := dk_42 (dk_at dksX1_mean_1 12 rfl rfl)
theorem dX1_mean_37 : decode cX1_mean 37 = .ok (.getfield 43, 3) := dk_180 0 43 (dk_at dksX1_mean_1 13 rfl rfl)
theorem dX1_mean_40 : decode cX1_mean 40 = .ok (.getfield 66, 3) := dk_180 0 66 (dk_at dksX1_mean_1 16 rfl rfl)
theorem dX1_mean_43 : decode cX1_mean 43 = .ok (.i2l, 1) := dk_133 (dk_at dksX1_mean_1 19 rfl rfl)
theorem dX1_mean_44 : decode cX1_mean 44 = .ok (.iload_n 1, 1) := dk_27 (dk_at dksX1_mean_1 20 rfl rfl)
theorem dX1_mean_45 : decode cX1_mean 45 = .ok (.invokestatic 296, 3) := dk_184 1 40 (dk_at dksX1_mean_1 21 rfl rfl)
theorem dX1_mean_48 : decode cX1_mean 48 = .ok (.lreturn, 1) := dk_173 (dk_at dksX1_mean_2 0 rfl rfl)
abbrev cX1_forged : ByteArray := prog_1_method_61_code
def yX1_forged : MethodName := ⟨RX1, "forged", "(I)I"⟩
def dkwX1_forged_5 : List UInt8 := [21, 6, 182, 0, 100, 87, 132, 4, 1, 167, 255, 171, 16, 252, 172]
abbrev dktX1_forged_5 : List UInt8 := dkwX1_forged_5 ++ []
def dkwX1_forged_4 : List UInt8 := [153, 0, 15, 42, 180, 0, 63, 21, 5, 182, 0, 53, 153, 0, 6, 21, 4, 172, 42, 180, 0, 63, 21, 5]
abbrev dktX1_forged_4 : List UInt8 := dkwX1_forged_4 ++ dktX1_forged_5
def dkwX1_forged_3 : List UInt8 := [184, 1, 59, 54, 6, 42, 180, 0, 63, 21, 5, 182, 0, 47, 153, 0, 25, 21, 6, 3, 6, 184, 0, 39]
abbrev dktX1_forged_3 : List UInt8 := dkwX1_forged_3 ++ dktX1_forged_4
def dkwX1_forged_2 : List UInt8 := [184, 1, 56, 162, 0, 80, 45, 5, 21, 4, 104, 184, 1, 59, 54, 5, 45, 5, 21, 4, 104, 4, 96]
abbrev dktX1_forged_2 : List UInt8 := dkwX1_forged_2 ++ dktX1_forged_3
def dkwX1_forged_1 : List UInt8 := [184, 1, 56, 5, 112, 4, 160, 0, 6, 16, 243, 172, 42, 182, 0, 242, 3, 54, 4, 5, 21, 4, 104, 45]
abbrev dktX1_forged_1 : List UInt8 := dkwX1_forged_1 ++ dktX1_forged_2
def dkwX1_forged_0 : List UInt8 := [42, 27, 182, 1, 63, 61, 28, 153, 0, 5, 28, 172, 42, 180, 0, 141, 27, 50, 180, 0, 145, 78, 45]
abbrev dktX1_forged_0 : List UInt8 := dkwX1_forged_0 ++ dktX1_forged_1
theorem dksX1_forged_0 : cX1_forged.data.toList.drop 0 = dktX1_forged_0 := by decide +kernel
theorem dksX1_forged_1 : cX1_forged.data.toList.drop 23 = dktX1_forged_1 := dk_seg dksX1_forged_0 23 rfl rfl
theorem dksX1_forged_2 : cX1_forged.data.toList.drop 47 = dktX1_forged_2 := dk_seg dksX1_forged_1 24 rfl rfl
theorem dksX1_forged_3 : cX1_forged.data.toList.drop 70 = dktX1_forged_3 := dk_seg dksX1_forged_2 23 rfl rfl
theorem dksX1_forged_4 : cX1_forged.data.toList.drop 94 = dktX1_forged_4 := dk_seg dksX1_forged_3 24 rfl rfl
theorem dksX1_forged_5 : cX1_forged.data.toList.drop 118 = dktX1_forged_5 := dk_seg dksX1_forged_4 24 rfl rfl
theorem dX1_forged_0 : decode cX1_forged 0 = .ok (.aload_n 0, 1) := dk_42 (dk_at dksX1_forged_0 0 rfl rfl)
theorem dX1_forged_1 : decode cX1_forged 1 = .ok (.iload_n 1, 1) := dk_27 (dk_at dksX1_forged_0 1 rfl rfl)
theorem dX1_forged_2 : decode cX1_forged 2 = .ok (.invokevirtual 319, 3) := dk_182 1 63 (dk_at dksX1_forged_0 2 rfl rfl)
theorem dX1_forged_5 : decode cX1_forged 5 = .ok (.istore_n 2, 1) := dk_61 (dk_at dksX1_forged_0 5 rfl rfl)
theorem dX1_forged_6 : decode cX1_forged 6 = .ok (.iload_n 2, 1) := dk_28 (dk_at dksX1_forged_0 6 rfl rfl)
theorem dX1_forged_7 : decode cX1_forged 7 = .ok (.ifCond .eq 5, 3) := dk_153 0 5 (dk_at dksX1_forged_0 7 rfl rfl)
theorem dX1_forged_10 : decode cX1_forged 10 = .ok (.iload_n 2, 1) := dk_28 (dk_at dksX1_forged_0 10 rfl rfl)
theorem dX1_forged_11 : decode cX1_forged 11 = .ok (.ireturn, 1) := dk_172 (dk_at dksX1_forged_0 11 rfl rfl)
theorem dX1_forged_12 : decode cX1_forged 12 = .ok (.aload_n 0, 1) := dk_42 (dk_at dksX1_forged_0 12 rfl rfl)
theorem dX1_forged_13 : decode cX1_forged 13 = .ok (.getfield 141, 3) := dk_180 0 141 (dk_at dksX1_forged_0 13 rfl rfl)
theorem dX1_forged_16 : decode cX1_forged 16 = .ok (.iload_n 1, 1) := dk_27 (dk_at dksX1_forged_0 16 rfl rfl)
theorem dX1_forged_17 : decode cX1_forged 17 = .ok (.aaload, 1) := dk_50 (dk_at dksX1_forged_0 17 rfl rfl)
theorem dX1_forged_18 : decode cX1_forged 18 = .ok (.getfield 145, 3) := dk_180 0 145 (dk_at dksX1_forged_0 18 rfl rfl)
theorem dX1_forged_21 : decode cX1_forged 21 = .ok (.astore_n 3, 1) := dk_78 (dk_at dksX1_forged_0 21 rfl rfl)
theorem dX1_forged_22 : decode cX1_forged 22 = .ok (.aload_n 3, 1) := dk_45 (dk_at dksX1_forged_0 22 rfl rfl)
theorem dX1_forged_23 : decode cX1_forged 23 = .ok (.invokestatic 312, 3) := dk_184 1 56 (dk_at dksX1_forged_1 0 rfl rfl)
theorem dX1_forged_26 : decode cX1_forged 26 = .ok (.iconst 2, 1) := dk_5 (dk_at dksX1_forged_1 3 rfl rfl)
theorem dX1_forged_27 : decode cX1_forged 27 = .ok (.irem, 1) := dk_112 (dk_at dksX1_forged_1 4 rfl rfl)
theorem dX1_forged_28 : decode cX1_forged 28 = .ok (.iconst 1, 1) := dk_4 (dk_at dksX1_forged_1 5 rfl rfl)
theorem dX1_forged_29 : decode cX1_forged 29 = .ok (.if_icmp .ne 6, 3) := dk_160 0 6 (dk_at dksX1_forged_1 6 rfl rfl)
theorem dX1_forged_32 : decode cX1_forged 32 = .ok (.bipush (-13), 2) := dk_16 243 (dk_at dksX1_forged_1 9 rfl rfl)
theorem dX1_forged_34 : decode cX1_forged 34 = .ok (.ireturn, 1) := dk_172 (dk_at dksX1_forged_1 11 rfl rfl)
theorem dX1_forged_35 : decode cX1_forged 35 = .ok (.aload_n 0, 1) := dk_42 (dk_at dksX1_forged_1 12 rfl rfl)
theorem dX1_forged_36 : decode cX1_forged 36 = .ok (.invokevirtual 242, 3) := dk_182 0 242 (dk_at dksX1_forged_1 13 rfl rfl)
theorem dX1_forged_39 : decode cX1_forged 39 = .ok (.iconst 0, 1) := dk_3 (dk_at dksX1_forged_1 16 rfl rfl)
theorem dX1_forged_40 : decode cX1_forged 40 = .ok (.istore 4, 2) := dk_54 4 (dk_at dksX1_forged_1 17 rfl rfl)
theorem dX1_forged_42 : decode cX1_forged 42 = .ok (.iconst 2, 1) := dk_5 (dk_at dksX1_forged_1 19 rfl rfl)
theorem dX1_forged_43 : decode cX1_forged 43 = .ok (.iload 4, 2) := dk_21 4 (dk_at dksX1_forged_1 20 rfl rfl)
theorem dX1_forged_45 : decode cX1_forged 45 = .ok (.imul, 1) := dk_104 (dk_at dksX1_forged_1 22 rfl rfl)
theorem dX1_forged_46 : decode cX1_forged 46 = .ok (.aload_n 3, 1) := dk_45 (dk_at dksX1_forged_1 23 rfl rfl)
theorem dX1_forged_47 : decode cX1_forged 47 = .ok (.invokestatic 312, 3) := dk_184 1 56 (dk_at dksX1_forged_2 0 rfl rfl)
theorem dX1_forged_50 : decode cX1_forged 50 = .ok (.if_icmp .ge 80, 3) := dk_162 0 80 (dk_at dksX1_forged_2 3 rfl rfl)
theorem dX1_forged_53 : decode cX1_forged 53 = .ok (.aload_n 3, 1) := dk_45 (dk_at dksX1_forged_2 6 rfl rfl)
theorem dX1_forged_54 : decode cX1_forged 54 = .ok (.iconst 2, 1) := dk_5 (dk_at dksX1_forged_2 7 rfl rfl)
theorem dX1_forged_55 : decode cX1_forged 55 = .ok (.iload 4, 2) := dk_21 4 (dk_at dksX1_forged_2 8 rfl rfl)
theorem dX1_forged_57 : decode cX1_forged 57 = .ok (.imul, 1) := dk_104 (dk_at dksX1_forged_2 10 rfl rfl)
theorem dX1_forged_58 : decode cX1_forged 58 = .ok (.invokestatic 315, 3) := dk_184 1 59 (dk_at dksX1_forged_2 11 rfl rfl)
theorem dX1_forged_61 : decode cX1_forged 61 = .ok (.istore 5, 2) := dk_54 5 (dk_at dksX1_forged_2 14 rfl rfl)
theorem dX1_forged_63 : decode cX1_forged 63 = .ok (.aload_n 3, 1) := dk_45 (dk_at dksX1_forged_2 16 rfl rfl)
theorem dX1_forged_64 : decode cX1_forged 64 = .ok (.iconst 2, 1) := dk_5 (dk_at dksX1_forged_2 17 rfl rfl)
theorem dX1_forged_65 : decode cX1_forged 65 = .ok (.iload 4, 2) := dk_21 4 (dk_at dksX1_forged_2 18 rfl rfl)
theorem dX1_forged_67 : decode cX1_forged 67 = .ok (.imul, 1) := dk_104 (dk_at dksX1_forged_2 20 rfl rfl)
theorem dX1_forged_68 : decode cX1_forged 68 = .ok (.iconst 1, 1) := dk_4 (dk_at dksX1_forged_2 21 rfl rfl)
theorem dX1_forged_69 : decode cX1_forged 69 = .ok (.iadd, 1) := dk_96 (dk_at dksX1_forged_2 22 rfl rfl)
theorem dX1_forged_70 : decode cX1_forged 70 = .ok (.invokestatic 315, 3) := dk_184 1 59 (dk_at dksX1_forged_3 0 rfl rfl)
theorem dX1_forged_73 : decode cX1_forged 73 = .ok (.istore 6, 2) := dk_54 6 (dk_at dksX1_forged_3 3 rfl rfl)
theorem dX1_forged_75 : decode cX1_forged 75 = .ok (.aload_n 0, 1) := dk_42 (dk_at dksX1_forged_3 5 rfl rfl)
theorem dX1_forged_76 : decode cX1_forged 76 = .ok (.getfield 63, 3) := dk_180 0 63 (dk_at dksX1_forged_3 6 rfl rfl)
theorem dX1_forged_79 : decode cX1_forged 79 = .ok (.iload 5, 2) := dk_21 5 (dk_at dksX1_forged_3 9 rfl rfl)
theorem dX1_forged_81 : decode cX1_forged 81 = .ok (.invokevirtual 47, 3) := dk_182 0 47 (dk_at dksX1_forged_3 11 rfl rfl)
theorem dX1_forged_84 : decode cX1_forged 84 = .ok (.ifCond .eq 25, 3) := dk_153 0 25 (dk_at dksX1_forged_3 14 rfl rfl)
theorem dX1_forged_87 : decode cX1_forged 87 = .ok (.iload 6, 2) := dk_21 6 (dk_at dksX1_forged_3 17 rfl rfl)
theorem dX1_forged_89 : decode cX1_forged 89 = .ok (.iconst 0, 1) := dk_3 (dk_at dksX1_forged_3 19 rfl rfl)
theorem dX1_forged_90 : decode cX1_forged 90 = .ok (.iconst 3, 1) := dk_6 (dk_at dksX1_forged_3 20 rfl rfl)
theorem dX1_forged_91 : decode cX1_forged 91 = .ok (.invokestatic 39, 3) := dk_184 0 39 (dk_at dksX1_forged_3 21 rfl rfl)
theorem dX1_forged_94 : decode cX1_forged 94 = .ok (.ifCond .eq 15, 3) := dk_153 0 15 (dk_at dksX1_forged_4 0 rfl rfl)
theorem dX1_forged_97 : decode cX1_forged 97 = .ok (.aload_n 0, 1) := dk_42 (dk_at dksX1_forged_4 3 rfl rfl)
theorem dX1_forged_98 : decode cX1_forged 98 = .ok (.getfield 63, 3) := dk_180 0 63 (dk_at dksX1_forged_4 4 rfl rfl)
theorem dX1_forged_101 : decode cX1_forged 101 = .ok (.iload 5, 2) := dk_21 5 (dk_at dksX1_forged_4 7 rfl rfl)
theorem dX1_forged_103 : decode cX1_forged 103 = .ok (.invokevirtual 53, 3) := dk_182 0 53 (dk_at dksX1_forged_4 9 rfl rfl)
theorem dX1_forged_106 : decode cX1_forged 106 = .ok (.ifCond .eq 6, 3) := dk_153 0 6 (dk_at dksX1_forged_4 12 rfl rfl)
theorem dX1_forged_109 : decode cX1_forged 109 = .ok (.iload 4, 2) := dk_21 4 (dk_at dksX1_forged_4 15 rfl rfl)
theorem dX1_forged_111 : decode cX1_forged 111 = .ok (.ireturn, 1) := dk_172 (dk_at dksX1_forged_4 17 rfl rfl)
theorem dX1_forged_112 : decode cX1_forged 112 = .ok (.aload_n 0, 1) := dk_42 (dk_at dksX1_forged_4 18 rfl rfl)
theorem dX1_forged_113 : decode cX1_forged 113 = .ok (.getfield 63, 3) := dk_180 0 63 (dk_at dksX1_forged_4 19 rfl rfl)
theorem dX1_forged_116 : decode cX1_forged 116 = .ok (.iload 5, 2) := dk_21 5 (dk_at dksX1_forged_4 22 rfl rfl)
theorem dX1_forged_118 : decode cX1_forged 118 = .ok (.iload 6, 2) := dk_21 6 (dk_at dksX1_forged_5 0 rfl rfl)
theorem dX1_forged_120 : decode cX1_forged 120 = .ok (.invokevirtual 100, 3) := dk_182 0 100 (dk_at dksX1_forged_5 2 rfl rfl)
theorem dX1_forged_123 : decode cX1_forged 123 = .ok (.pop, 1) := dk_87 (dk_at dksX1_forged_5 5 rfl rfl)
theorem dX1_forged_124 : decode cX1_forged 124 = .ok (.iinc 4 1, 3) := dk_132 4 1 (dk_at dksX1_forged_5 6 rfl rfl)
theorem dX1_forged_127 : decode cX1_forged 127 = .ok (.goto (-85), 3) := dk_167 255 171 (dk_at dksX1_forged_5 9 rfl rfl)
theorem dX1_forged_130 : decode cX1_forged 130 = .ok (.bipush (-4), 2) := dk_16 252 (dk_at dksX1_forged_5 12 rfl rfl)
theorem dX1_forged_132 : decode cX1_forged 132 = .ok (.ireturn, 1) := dk_172 (dk_at dksX1_forged_5 14 rfl rfl)
abbrev cX1_judge : ByteArray := prog_1_method_62_code
def yX1_judge : MethodName := ⟨RX1, "judge", "(II)I"⟩
def dkwX1_judge_5 : List UInt8 := [167, 255, 191, 16, 252, 172]
abbrev dktX1_judge_5 : List UInt8 := dkwX1_judge_5 ++ []
def dkwX1_judge_4 : List UInt8 := [159, 0, 6, 21, 5, 172, 42, 180, 0, 63, 182, 0, 246, 154, 0, 8, 42, 182, 0, 250, 87, 132, 5, 1]
abbrev dktX1_judge_4 : List UInt8 := dkwX1_judge_4 ++ dktX1_judge_5
def dkwX1_judge_3 : List UInt8 := [25, 4, 184, 1, 76, 159, 0, 25, 25, 4, 21, 5, 184, 1, 59, 42, 180, 0, 63, 180, 0, 77, 28, 46]
abbrev dktX1_judge_3 : List UInt8 := dkwX1_judge_3 ++ dktX1_judge_4
def dkwX1_judge_2 : List UInt8 := [181, 0, 239, 3, 54, 5, 21, 5, 25, 4, 184, 1, 56, 162, 0, 61, 25, 4, 21, 5, 184, 1, 59]
abbrev dktX1_judge_2 : List UInt8 := dkwX1_judge_2 ++ dktX1_judge_3
def dkwX1_judge_1 : List UInt8 := [153, 0, 5, 29, 172, 42, 180, 0, 141, 27, 50, 180, 0, 145, 58, 4, 42, 182, 0, 242, 42, 3]
abbrev dktX1_judge_1 : List UInt8 := dkwX1_judge_1 ++ dktX1_judge_2
def dkwX1_judge_0 : List UInt8 := [42, 180, 0, 43, 28, 182, 0, 47, 153, 0, 11, 42, 27, 182, 1, 63, 167, 0, 4, 2, 62, 29]
abbrev dktX1_judge_0 : List UInt8 := dkwX1_judge_0 ++ dktX1_judge_1
theorem dksX1_judge_0 : cX1_judge.data.toList.drop 0 = dktX1_judge_0 := by decide +kernel
theorem dksX1_judge_1 : cX1_judge.data.toList.drop 22 = dktX1_judge_1 := dk_seg dksX1_judge_0 22 rfl rfl
theorem dksX1_judge_2 : cX1_judge.data.toList.drop 44 = dktX1_judge_2 := dk_seg dksX1_judge_1 22 rfl rfl
theorem dksX1_judge_3 : cX1_judge.data.toList.drop 67 = dktX1_judge_3 := dk_seg dksX1_judge_2 23 rfl rfl
theorem dksX1_judge_4 : cX1_judge.data.toList.drop 91 = dktX1_judge_4 := dk_seg dksX1_judge_3 24 rfl rfl
theorem dksX1_judge_5 : cX1_judge.data.toList.drop 115 = dktX1_judge_5 := dk_seg dksX1_judge_4 24 rfl rfl
theorem dX1_judge_0 : decode cX1_judge 0 = .ok (.aload_n 0, 1) := dk_42 (dk_at dksX1_judge_0 0 rfl rfl)
theorem dX1_judge_1 : decode cX1_judge 1 = .ok (.getfield 43, 3) := dk_180 0 43 (dk_at dksX1_judge_0 1 rfl rfl)
theorem dX1_judge_4 : decode cX1_judge 4 = .ok (.iload_n 2, 1) := dk_28 (dk_at dksX1_judge_0 4 rfl rfl)
theorem dX1_judge_5 : decode cX1_judge 5 = .ok (.invokevirtual 47, 3) := dk_182 0 47 (dk_at dksX1_judge_0 5 rfl rfl)
theorem dX1_judge_8 : decode cX1_judge 8 = .ok (.ifCond .eq 11, 3) := dk_153 0 11 (dk_at dksX1_judge_0 8 rfl rfl)
theorem dX1_judge_11 : decode cX1_judge 11 = .ok (.aload_n 0, 1) := dk_42 (dk_at dksX1_judge_0 11 rfl rfl)
theorem dX1_judge_12 : decode cX1_judge 12 = .ok (.iload_n 1, 1) := dk_27 (dk_at dksX1_judge_0 12 rfl rfl)
theorem dX1_judge_13 : decode cX1_judge 13 = .ok (.invokevirtual 319, 3) := dk_182 1 63 (dk_at dksX1_judge_0 13 rfl rfl)
theorem dX1_judge_16 : decode cX1_judge 16 = .ok (.goto 4, 3) := dk_167 0 4 (dk_at dksX1_judge_0 16 rfl rfl)
theorem dX1_judge_19 : decode cX1_judge 19 = .ok (.iconst (-1), 1) := dk_2 (dk_at dksX1_judge_0 19 rfl rfl)
theorem dX1_judge_20 : decode cX1_judge 20 = .ok (.istore_n 3, 1) := dk_62 (dk_at dksX1_judge_0 20 rfl rfl)
theorem dX1_judge_21 : decode cX1_judge 21 = .ok (.iload_n 3, 1) := dk_29 (dk_at dksX1_judge_0 21 rfl rfl)
theorem dX1_judge_22 : decode cX1_judge 22 = .ok (.ifCond .eq 5, 3) := dk_153 0 5 (dk_at dksX1_judge_1 0 rfl rfl)
theorem dX1_judge_25 : decode cX1_judge 25 = .ok (.iload_n 3, 1) := dk_29 (dk_at dksX1_judge_1 3 rfl rfl)
theorem dX1_judge_26 : decode cX1_judge 26 = .ok (.ireturn, 1) := dk_172 (dk_at dksX1_judge_1 4 rfl rfl)
theorem dX1_judge_27 : decode cX1_judge 27 = .ok (.aload_n 0, 1) := dk_42 (dk_at dksX1_judge_1 5 rfl rfl)
theorem dX1_judge_28 : decode cX1_judge 28 = .ok (.getfield 141, 3) := dk_180 0 141 (dk_at dksX1_judge_1 6 rfl rfl)
theorem dX1_judge_31 : decode cX1_judge 31 = .ok (.iload_n 1, 1) := dk_27 (dk_at dksX1_judge_1 9 rfl rfl)
theorem dX1_judge_32 : decode cX1_judge 32 = .ok (.aaload, 1) := dk_50 (dk_at dksX1_judge_1 10 rfl rfl)
theorem dX1_judge_33 : decode cX1_judge 33 = .ok (.getfield 145, 3) := dk_180 0 145 (dk_at dksX1_judge_1 11 rfl rfl)
theorem dX1_judge_36 : decode cX1_judge 36 = .ok (.astore 4, 2) := dk_58 4 (dk_at dksX1_judge_1 14 rfl rfl)
theorem dX1_judge_38 : decode cX1_judge 38 = .ok (.aload_n 0, 1) := dk_42 (dk_at dksX1_judge_1 16 rfl rfl)
theorem dX1_judge_39 : decode cX1_judge 39 = .ok (.invokevirtual 242, 3) := dk_182 0 242 (dk_at dksX1_judge_1 17 rfl rfl)
theorem dX1_judge_42 : decode cX1_judge 42 = .ok (.aload_n 0, 1) := dk_42 (dk_at dksX1_judge_1 20 rfl rfl)
theorem dX1_judge_43 : decode cX1_judge 43 = .ok (.iconst 0, 1) := dk_3 (dk_at dksX1_judge_1 21 rfl rfl)
theorem dX1_judge_44 : decode cX1_judge 44 = .ok (.putfield 239, 3) := dk_181 0 239 (dk_at dksX1_judge_2 0 rfl rfl)
theorem dX1_judge_47 : decode cX1_judge 47 = .ok (.iconst 0, 1) := dk_3 (dk_at dksX1_judge_2 3 rfl rfl)
theorem dX1_judge_48 : decode cX1_judge 48 = .ok (.istore 5, 2) := dk_54 5 (dk_at dksX1_judge_2 4 rfl rfl)
theorem dX1_judge_50 : decode cX1_judge 50 = .ok (.iload 5, 2) := dk_21 5 (dk_at dksX1_judge_2 6 rfl rfl)
theorem dX1_judge_52 : decode cX1_judge 52 = .ok (.aload 4, 2) := dk_25 4 (dk_at dksX1_judge_2 8 rfl rfl)
theorem dX1_judge_54 : decode cX1_judge 54 = .ok (.invokestatic 312, 3) := dk_184 1 56 (dk_at dksX1_judge_2 10 rfl rfl)
theorem dX1_judge_57 : decode cX1_judge 57 = .ok (.if_icmp .ge 61, 3) := dk_162 0 61 (dk_at dksX1_judge_2 13 rfl rfl)
theorem dX1_judge_60 : decode cX1_judge 60 = .ok (.aload 4, 2) := dk_25 4 (dk_at dksX1_judge_2 16 rfl rfl)
theorem dX1_judge_62 : decode cX1_judge 62 = .ok (.iload 5, 2) := dk_21 5 (dk_at dksX1_judge_2 18 rfl rfl)
theorem dX1_judge_64 : decode cX1_judge 64 = .ok (.invokestatic 315, 3) := dk_184 1 59 (dk_at dksX1_judge_2 20 rfl rfl)
theorem dX1_judge_67 : decode cX1_judge 67 = .ok (.aload 4, 2) := dk_25 4 (dk_at dksX1_judge_3 0 rfl rfl)
theorem dX1_judge_69 : decode cX1_judge 69 = .ok (.invokestatic 332, 3) := dk_184 1 76 (dk_at dksX1_judge_3 2 rfl rfl)
theorem dX1_judge_72 : decode cX1_judge 72 = .ok (.if_icmp .eq 25, 3) := dk_159 0 25 (dk_at dksX1_judge_3 5 rfl rfl)
theorem dX1_judge_75 : decode cX1_judge 75 = .ok (.aload 4, 2) := dk_25 4 (dk_at dksX1_judge_3 8 rfl rfl)
theorem dX1_judge_77 : decode cX1_judge 77 = .ok (.iload 5, 2) := dk_21 5 (dk_at dksX1_judge_3 10 rfl rfl)
theorem dX1_judge_79 : decode cX1_judge 79 = .ok (.invokestatic 315, 3) := dk_184 1 59 (dk_at dksX1_judge_3 12 rfl rfl)
theorem dX1_judge_82 : decode cX1_judge 82 = .ok (.aload_n 0, 1) := dk_42 (dk_at dksX1_judge_3 15 rfl rfl)
theorem dX1_judge_83 : decode cX1_judge 83 = .ok (.getfield 63, 3) := dk_180 0 63 (dk_at dksX1_judge_3 16 rfl rfl)
theorem dX1_judge_86 : decode cX1_judge 86 = .ok (.getfield 77, 3) := dk_180 0 77 (dk_at dksX1_judge_3 19 rfl rfl)
theorem dX1_judge_89 : decode cX1_judge 89 = .ok (.iload_n 2, 1) := dk_28 (dk_at dksX1_judge_3 22 rfl rfl)
theorem dX1_judge_90 : decode cX1_judge 90 = .ok (.iaload, 1) := dk_46 (dk_at dksX1_judge_3 23 rfl rfl)
theorem dX1_judge_91 : decode cX1_judge 91 = .ok (.if_icmp .eq 6, 3) := dk_159 0 6 (dk_at dksX1_judge_4 0 rfl rfl)
theorem dX1_judge_94 : decode cX1_judge 94 = .ok (.iload 5, 2) := dk_21 5 (dk_at dksX1_judge_4 3 rfl rfl)
theorem dX1_judge_96 : decode cX1_judge 96 = .ok (.ireturn, 1) := dk_172 (dk_at dksX1_judge_4 5 rfl rfl)
theorem dX1_judge_97 : decode cX1_judge 97 = .ok (.aload_n 0, 1) := dk_42 (dk_at dksX1_judge_4 6 rfl rfl)
theorem dX1_judge_98 : decode cX1_judge 98 = .ok (.getfield 63, 3) := dk_180 0 63 (dk_at dksX1_judge_4 7 rfl rfl)
theorem dX1_judge_101 : decode cX1_judge 101 = .ok (.invokevirtual 246, 3) := dk_182 0 246 (dk_at dksX1_judge_4 10 rfl rfl)
theorem dX1_judge_104 : decode cX1_judge 104 = .ok (.ifCond .ne 8, 3) := dk_154 0 8 (dk_at dksX1_judge_4 13 rfl rfl)
theorem dX1_judge_107 : decode cX1_judge 107 = .ok (.aload_n 0, 1) := dk_42 (dk_at dksX1_judge_4 16 rfl rfl)
theorem dX1_judge_108 : decode cX1_judge 108 = .ok (.invokevirtual 250, 3) := dk_182 0 250 (dk_at dksX1_judge_4 17 rfl rfl)
theorem dX1_judge_111 : decode cX1_judge 111 = .ok (.pop, 1) := dk_87 (dk_at dksX1_judge_4 20 rfl rfl)
theorem dX1_judge_112 : decode cX1_judge 112 = .ok (.iinc 5 1, 3) := dk_132 5 1 (dk_at dksX1_judge_4 21 rfl rfl)
theorem dX1_judge_115 : decode cX1_judge 115 = .ok (.goto (-65), 3) := dk_167 255 191 (dk_at dksX1_judge_5 0 rfl rfl)
theorem dX1_judge_118 : decode cX1_judge 118 = .ok (.bipush (-4), 2) := dk_16 252 (dk_at dksX1_judge_5 3 rfl rfl)
theorem dX1_judge_120 : decode cX1_judge 120 = .ok (.ireturn, 1) := dk_172 (dk_at dksX1_judge_5 5 rfl rfl)
abbrev cX1_leastElement : ByteArray := prog_1_method_48_code
def yX1_leastElement : MethodName := ⟨RX1, "leastElement", "(Ljava/lang/Object;)I"⟩
def dkwX1_leastElement_1 : List UInt8 := [167, 0, 6, 19, 1, 51, 172]
abbrev dktX1_leastElement_1 : List UInt8 := dkwX1_leastElement_1 ++ []
def dkwX1_leastElement_0 : List UInt8 := [42, 193, 0, 151, 153, 0, 8, 16, 128, 167, 0, 19, 42, 193, 1, 44, 153, 0, 9, 17, 128, 0]
abbrev dktX1_leastElement_0 : List UInt8 := dkwX1_leastElement_0 ++ dktX1_leastElement_1
theorem dksX1_leastElement_0 : cX1_leastElement.data.toList.drop 0 = dktX1_leastElement_0 := by decide +kernel
theorem dksX1_leastElement_1 : cX1_leastElement.data.toList.drop 22 = dktX1_leastElement_1 := dk_seg dksX1_leastElement_0 22 rfl rfl
theorem dX1_leastElement_0 : decode cX1_leastElement 0 = .ok (.aload_n 0, 1) := dk_42 (dk_at dksX1_leastElement_0 0 rfl rfl)
theorem dX1_leastElement_1 : decode cX1_leastElement 1 = .ok (.instanceof 151, 3) := dk_193 0 151 (dk_at dksX1_leastElement_0 1 rfl rfl)
theorem dX1_leastElement_4 : decode cX1_leastElement 4 = .ok (.ifCond .eq 8, 3) := dk_153 0 8 (dk_at dksX1_leastElement_0 4 rfl rfl)
theorem dX1_leastElement_7 : decode cX1_leastElement 7 = .ok (.bipush (-128), 2) := dk_16 128 (dk_at dksX1_leastElement_0 7 rfl rfl)
theorem dX1_leastElement_9 : decode cX1_leastElement 9 = .ok (.goto 19, 3) := dk_167 0 19 (dk_at dksX1_leastElement_0 9 rfl rfl)
theorem dX1_leastElement_12 : decode cX1_leastElement 12 = .ok (.aload_n 0, 1) := dk_42 (dk_at dksX1_leastElement_0 12 rfl rfl)
theorem dX1_leastElement_13 : decode cX1_leastElement 13 = .ok (.instanceof 300, 3) := dk_193 1 44 (dk_at dksX1_leastElement_0 13 rfl rfl)
theorem dX1_leastElement_16 : decode cX1_leastElement 16 = .ok (.ifCond .eq 9, 3) := dk_153 0 9 (dk_at dksX1_leastElement_0 16 rfl rfl)
theorem dX1_leastElement_19 : decode cX1_leastElement 19 = .ok (.sipush (-32768), 3) := dk_17 128 0 (dk_at dksX1_leastElement_0 19 rfl rfl)
theorem dX1_leastElement_22 : decode cX1_leastElement 22 = .ok (.goto 6, 3) := dk_167 0 6 (dk_at dksX1_leastElement_1 0 rfl rfl)
theorem dX1_leastElement_25 : decode cX1_leastElement 25 = .ok (.ldc_w 307, 3) := dk_19 1 51 (dk_at dksX1_leastElement_1 3 rfl rfl)
theorem dX1_leastElement_28 : decode cX1_leastElement 28 = .ok (.ireturn, 1) := dk_172 (dk_at dksX1_leastElement_1 6 rfl rfl)
abbrev cX1_weeks : ByteArray := prog_1_method_64_code
def yX1_weeks : MethodName := ⟨RX1, "weeks", "(III)I"⟩
def dkwX1_weeks_7 : List UInt8 := [21, 5, 172]
abbrev dktX1_weeks_7 : List UInt8 := dkwX1_weeks_7 ++ []
def dkwX1_weeks_6 : List UInt8 := [180, 0, 63, 180, 1, 88, 96, 54, 5, 132, 6, 1, 167, 255, 151, 29, 154, 0, 8, 21, 4, 167, 0, 5]
abbrev dktX1_weeks_6 : List UInt8 := dkwX1_weeks_6 ++ dktX1_weeks_7
def dkwX1_weeks_5 : List UInt8 := [21, 4, 42, 180, 0, 63, 182, 0, 199, 42, 180, 0, 43, 182, 0, 199, 100, 96, 54, 4, 21, 5, 42]
abbrev dktX1_weeks_5 : List UInt8 := dkwX1_weeks_5 ++ dktX1_weeks_6
def dkwX1_weeks_4 : List UInt8 := [182, 0, 53, 154, 0, 15, 42, 180, 0, 63, 21, 8, 21, 9, 182, 0, 100, 87, 132, 7, 1, 167, 255, 202]
abbrev dktX1_weeks_4 : List UInt8 := dkwX1_weeks_4 ++ dktX1_weeks_5
def dkwX1_weeks_3 : List UInt8 := [180, 0, 43, 180, 0, 66, 182, 1, 85, 54, 8, 42, 7, 182, 1, 85, 54, 9, 42, 180, 0, 63, 21, 8]
abbrev dktX1_weeks_3 : List UInt8 := dkwX1_weeks_3 ++ dktX1_weeks_4
def dkwX1_weeks_2 : List UInt8 := [54, 6, 21, 6, 27, 162, 0, 105, 42, 182, 0, 242, 3, 54, 7, 21, 7, 16, 10, 162, 0, 53, 42, 42]
abbrev dktX1_weeks_2 : List UInt8 := dkwX1_weeks_2 ++ dktX1_weeks_3
def dkwX1_weeks_1 : List UInt8 := [180, 0, 43, 180, 0, 66, 154, 0, 6, 16, 253, 172, 42, 28, 181, 1, 79, 3, 54, 4, 3, 54, 5, 3]
abbrev dktX1_weeks_1 : List UInt8 := dkwX1_weeks_1 ++ dktX1_weeks_2
def dkwX1_weeks_0 : List UInt8 := [27, 4, 16, 20, 184, 0, 39, 153, 0, 12, 29, 3, 4, 184, 0, 39, 154, 0, 5, 2, 172, 42]
abbrev dktX1_weeks_0 : List UInt8 := dkwX1_weeks_0 ++ dktX1_weeks_1
theorem dksX1_weeks_0 : cX1_weeks.data.toList.drop 0 = dktX1_weeks_0 := by decide +kernel
theorem dksX1_weeks_1 : cX1_weeks.data.toList.drop 22 = dktX1_weeks_1 := dk_seg dksX1_weeks_0 22 rfl rfl
theorem dksX1_weeks_2 : cX1_weeks.data.toList.drop 46 = dktX1_weeks_2 := dk_seg dksX1_weeks_1 24 rfl rfl
theorem dksX1_weeks_3 : cX1_weeks.data.toList.drop 70 = dktX1_weeks_3 := dk_seg dksX1_weeks_2 24 rfl rfl
theorem dksX1_weeks_4 : cX1_weeks.data.toList.drop 94 = dktX1_weeks_4 := dk_seg dksX1_weeks_3 24 rfl rfl
theorem dksX1_weeks_5 : cX1_weeks.data.toList.drop 118 = dktX1_weeks_5 := dk_seg dksX1_weeks_4 24 rfl rfl
theorem dksX1_weeks_6 : cX1_weeks.data.toList.drop 141 = dktX1_weeks_6 := dk_seg dksX1_weeks_5 23 rfl rfl
theorem dksX1_weeks_7 : cX1_weeks.data.toList.drop 165 = dktX1_weeks_7 := dk_seg dksX1_weeks_6 24 rfl rfl
theorem dX1_weeks_0 : decode cX1_weeks 0 = .ok (.iload_n 1, 1) := dk_27 (dk_at dksX1_weeks_0 0 rfl rfl)
theorem dX1_weeks_1 : decode cX1_weeks 1 = .ok (.iconst 1, 1) := dk_4 (dk_at dksX1_weeks_0 1 rfl rfl)
theorem dX1_weeks_2 : decode cX1_weeks 2 = .ok (.bipush 20, 2) := dk_16 20 (dk_at dksX1_weeks_0 2 rfl rfl)
theorem dX1_weeks_4 : decode cX1_weeks 4 = .ok (.invokestatic 39, 3) := dk_184 0 39 (dk_at dksX1_weeks_0 4 rfl rfl)
theorem dX1_weeks_7 : decode cX1_weeks 7 = .ok (.ifCond .eq 12, 3) := dk_153 0 12 (dk_at dksX1_weeks_0 7 rfl rfl)
theorem dX1_weeks_10 : decode cX1_weeks 10 = .ok (.iload_n 3, 1) := dk_29 (dk_at dksX1_weeks_0 10 rfl rfl)
theorem dX1_weeks_11 : decode cX1_weeks 11 = .ok (.iconst 0, 1) := dk_3 (dk_at dksX1_weeks_0 11 rfl rfl)
theorem dX1_weeks_12 : decode cX1_weeks 12 = .ok (.iconst 1, 1) := dk_4 (dk_at dksX1_weeks_0 12 rfl rfl)
theorem dX1_weeks_13 : decode cX1_weeks 13 = .ok (.invokestatic 39, 3) := dk_184 0 39 (dk_at dksX1_weeks_0 13 rfl rfl)
theorem dX1_weeks_16 : decode cX1_weeks 16 = .ok (.ifCond .ne 5, 3) := dk_154 0 5 (dk_at dksX1_weeks_0 16 rfl rfl)
theorem dX1_weeks_19 : decode cX1_weeks 19 = .ok (.iconst (-1), 1) := dk_2 (dk_at dksX1_weeks_0 19 rfl rfl)
theorem dX1_weeks_20 : decode cX1_weeks 20 = .ok (.ireturn, 1) := dk_172 (dk_at dksX1_weeks_0 20 rfl rfl)
theorem dX1_weeks_21 : decode cX1_weeks 21 = .ok (.aload_n 0, 1) := dk_42 (dk_at dksX1_weeks_0 21 rfl rfl)
theorem dX1_weeks_22 : decode cX1_weeks 22 = .ok (.getfield 43, 3) := dk_180 0 43 (dk_at dksX1_weeks_1 0 rfl rfl)
theorem dX1_weeks_25 : decode cX1_weeks 25 = .ok (.getfield 66, 3) := dk_180 0 66 (dk_at dksX1_weeks_1 3 rfl rfl)
theorem dX1_weeks_28 : decode cX1_weeks 28 = .ok (.ifCond .ne 6, 3) := dk_154 0 6 (dk_at dksX1_weeks_1 6 rfl rfl)
theorem dX1_weeks_31 : decode cX1_weeks 31 = .ok (.bipush (-3), 2) := dk_16 253 (dk_at dksX1_weeks_1 9 rfl rfl)
theorem dX1_weeks_33 : decode cX1_weeks 33 = .ok (.ireturn, 1) := dk_172 (dk_at dksX1_weeks_1 11 rfl rfl)
theorem dX1_weeks_34 : decode cX1_weeks 34 = .ok (.aload_n 0, 1) := dk_42 (dk_at dksX1_weeks_1 12 rfl rfl)
theorem dX1_weeks_35 : decode cX1_weeks 35 = .ok (.iload_n 2, 1) := dk_28 (dk_at dksX1_weeks_1 13 rfl rfl)
theorem dX1_weeks_36 : decode cX1_weeks 36 = .ok (.putfield 335, 3) := dk_181 1 79 (dk_at dksX1_weeks_1 14 rfl rfl)
theorem dX1_weeks_39 : decode cX1_weeks 39 = .ok (.iconst 0, 1) := dk_3 (dk_at dksX1_weeks_1 17 rfl rfl)
theorem dX1_weeks_40 : decode cX1_weeks 40 = .ok (.istore 4, 2) := dk_54 4 (dk_at dksX1_weeks_1 18 rfl rfl)
theorem dX1_weeks_42 : decode cX1_weeks 42 = .ok (.iconst 0, 1) := dk_3 (dk_at dksX1_weeks_1 20 rfl rfl)
theorem dX1_weeks_43 : decode cX1_weeks 43 = .ok (.istore 5, 2) := dk_54 5 (dk_at dksX1_weeks_1 21 rfl rfl)
theorem dX1_weeks_45 : decode cX1_weeks 45 = .ok (.iconst 0, 1) := dk_3 (dk_at dksX1_weeks_1 23 rfl rfl)
theorem dX1_weeks_46 : decode cX1_weeks 46 = .ok (.istore 6, 2) := dk_54 6 (dk_at dksX1_weeks_2 0 rfl rfl)
theorem dX1_weeks_48 : decode cX1_weeks 48 = .ok (.iload 6, 2) := dk_21 6 (dk_at dksX1_weeks_2 2 rfl rfl)
theorem dX1_weeks_50 : decode cX1_weeks 50 = .ok (.iload_n 1, 1) := dk_27 (dk_at dksX1_weeks_2 4 rfl rfl)
theorem dX1_weeks_51 : decode cX1_weeks 51 = .ok (.if_icmp .ge 105, 3) := dk_162 0 105 (dk_at dksX1_weeks_2 5 rfl rfl)
theorem dX1_weeks_54 : decode cX1_weeks 54 = .ok (.aload_n 0, 1) := dk_42 (dk_at dksX1_weeks_2 8 rfl rfl)
theorem dX1_weeks_55 : decode cX1_weeks 55 = .ok (.invokevirtual 242, 3) := dk_182 0 242 (dk_at dksX1_weeks_2 9 rfl rfl)
theorem dX1_weeks_58 : decode cX1_weeks 58 = .ok (.iconst 0, 1) := dk_3 (dk_at dksX1_weeks_2 12 rfl rfl)
theorem dX1_weeks_59 : decode cX1_weeks 59 = .ok (.istore 7, 2) := dk_54 7 (dk_at dksX1_weeks_2 13 rfl rfl)
theorem dX1_weeks_61 : decode cX1_weeks 61 = .ok (.iload 7, 2) := dk_21 7 (dk_at dksX1_weeks_2 15 rfl rfl)
theorem dX1_weeks_63 : decode cX1_weeks 63 = .ok (.bipush 10, 2) := dk_16 10 (dk_at dksX1_weeks_2 17 rfl rfl)
theorem dX1_weeks_65 : decode cX1_weeks 65 = .ok (.if_icmp .ge 53, 3) := dk_162 0 53 (dk_at dksX1_weeks_2 19 rfl rfl)
theorem dX1_weeks_68 : decode cX1_weeks 68 = .ok (.aload_n 0, 1) := dk_42 (dk_at dksX1_weeks_2 22 rfl rfl)
theorem dX1_weeks_69 : decode cX1_weeks 69 = .ok (.aload_n 0, 1) := dk_42 (dk_at dksX1_weeks_2 23 rfl rfl)
theorem dX1_weeks_70 : decode cX1_weeks 70 = .ok (.getfield 43, 3) := dk_180 0 43 (dk_at dksX1_weeks_3 0 rfl rfl)
theorem dX1_weeks_73 : decode cX1_weeks 73 = .ok (.getfield 66, 3) := dk_180 0 66 (dk_at dksX1_weeks_3 3 rfl rfl)
theorem dX1_weeks_76 : decode cX1_weeks 76 = .ok (.invokevirtual 341, 3) := dk_182 1 85 (dk_at dksX1_weeks_3 6 rfl rfl)
theorem dX1_weeks_79 : decode cX1_weeks 79 = .ok (.istore 8, 2) := dk_54 8 (dk_at dksX1_weeks_3 9 rfl rfl)
theorem dX1_weeks_81 : decode cX1_weeks 81 = .ok (.aload_n 0, 1) := dk_42 (dk_at dksX1_weeks_3 11 rfl rfl)
theorem dX1_weeks_82 : decode cX1_weeks 82 = .ok (.iconst 4, 1) := dk_7 (dk_at dksX1_weeks_3 12 rfl rfl)
theorem dX1_weeks_83 : decode cX1_weeks 83 = .ok (.invokevirtual 341, 3) := dk_182 1 85 (dk_at dksX1_weeks_3 13 rfl rfl)
theorem dX1_weeks_86 : decode cX1_weeks 86 = .ok (.istore 9, 2) := dk_54 9 (dk_at dksX1_weeks_3 16 rfl rfl)
theorem dX1_weeks_88 : decode cX1_weeks 88 = .ok (.aload_n 0, 1) := dk_42 (dk_at dksX1_weeks_3 18 rfl rfl)
theorem dX1_weeks_89 : decode cX1_weeks 89 = .ok (.getfield 63, 3) := dk_180 0 63 (dk_at dksX1_weeks_3 19 rfl rfl)
theorem dX1_weeks_92 : decode cX1_weeks 92 = .ok (.iload 8, 2) := dk_21 8 (dk_at dksX1_weeks_3 22 rfl rfl)
theorem dX1_weeks_94 : decode cX1_weeks 94 = .ok (.invokevirtual 53, 3) := dk_182 0 53 (dk_at dksX1_weeks_4 0 rfl rfl)
theorem dX1_weeks_97 : decode cX1_weeks 97 = .ok (.ifCond .ne 15, 3) := dk_154 0 15 (dk_at dksX1_weeks_4 3 rfl rfl)
theorem dX1_weeks_100 : decode cX1_weeks 100 = .ok (.aload_n 0, 1) := dk_42 (dk_at dksX1_weeks_4 6 rfl rfl)
theorem dX1_weeks_101 : decode cX1_weeks 101 = .ok (.getfield 63, 3) := dk_180 0 63 (dk_at dksX1_weeks_4 7 rfl rfl)
theorem dX1_weeks_104 : decode cX1_weeks 104 = .ok (.iload 8, 2) := dk_21 8 (dk_at dksX1_weeks_4 10 rfl rfl)
theorem dX1_weeks_106 : decode cX1_weeks 106 = .ok (.iload 9, 2) := dk_21 9 (dk_at dksX1_weeks_4 12 rfl rfl)
theorem dX1_weeks_108 : decode cX1_weeks 108 = .ok (.invokevirtual 100, 3) := dk_182 0 100 (dk_at dksX1_weeks_4 14 rfl rfl)
theorem dX1_weeks_111 : decode cX1_weeks 111 = .ok (.pop, 1) := dk_87 (dk_at dksX1_weeks_4 17 rfl rfl)
theorem dX1_weeks_112 : decode cX1_weeks 112 = .ok (.iinc 7 1, 3) := dk_132 7 1 (dk_at dksX1_weeks_4 18 rfl rfl)
theorem dX1_weeks_115 : decode cX1_weeks 115 = .ok (.goto (-54), 3) := dk_167 255 202 (dk_at dksX1_weeks_4 21 rfl rfl)
theorem dX1_weeks_118 : decode cX1_weeks 118 = .ok (.iload 4, 2) := dk_21 4 (dk_at dksX1_weeks_5 0 rfl rfl)
theorem dX1_weeks_120 : decode cX1_weeks 120 = .ok (.aload_n 0, 1) := dk_42 (dk_at dksX1_weeks_5 2 rfl rfl)
theorem dX1_weeks_121 : decode cX1_weeks 121 = .ok (.getfield 63, 3) := dk_180 0 63 (dk_at dksX1_weeks_5 3 rfl rfl)
theorem dX1_weeks_124 : decode cX1_weeks 124 = .ok (.invokevirtual 199, 3) := dk_182 0 199 (dk_at dksX1_weeks_5 6 rfl rfl)
theorem dX1_weeks_127 : decode cX1_weeks 127 = .ok (.aload_n 0, 1) := dk_42 (dk_at dksX1_weeks_5 9 rfl rfl)
theorem dX1_weeks_128 : decode cX1_weeks 128 = .ok (.getfield 43, 3) := dk_180 0 43 (dk_at dksX1_weeks_5 10 rfl rfl)
theorem dX1_weeks_131 : decode cX1_weeks 131 = .ok (.invokevirtual 199, 3) := dk_182 0 199 (dk_at dksX1_weeks_5 13 rfl rfl)
theorem dX1_weeks_134 : decode cX1_weeks 134 = .ok (.isub, 1) := dk_100 (dk_at dksX1_weeks_5 16 rfl rfl)
theorem dX1_weeks_135 : decode cX1_weeks 135 = .ok (.iadd, 1) := dk_96 (dk_at dksX1_weeks_5 17 rfl rfl)
theorem dX1_weeks_136 : decode cX1_weeks 136 = .ok (.istore 4, 2) := dk_54 4 (dk_at dksX1_weeks_5 18 rfl rfl)
theorem dX1_weeks_138 : decode cX1_weeks 138 = .ok (.iload 5, 2) := dk_21 5 (dk_at dksX1_weeks_5 20 rfl rfl)
theorem dX1_weeks_140 : decode cX1_weeks 140 = .ok (.aload_n 0, 1) := dk_42 (dk_at dksX1_weeks_5 22 rfl rfl)
theorem dX1_weeks_141 : decode cX1_weeks 141 = .ok (.getfield 63, 3) := dk_180 0 63 (dk_at dksX1_weeks_6 0 rfl rfl)
theorem dX1_weeks_144 : decode cX1_weeks 144 = .ok (.getfield 344, 3) := dk_180 1 88 (dk_at dksX1_weeks_6 3 rfl rfl)
theorem dX1_weeks_147 : decode cX1_weeks 147 = .ok (.iadd, 1) := dk_96 (dk_at dksX1_weeks_6 6 rfl rfl)
theorem dX1_weeks_148 : decode cX1_weeks 148 = .ok (.istore 5, 2) := dk_54 5 (dk_at dksX1_weeks_6 7 rfl rfl)
theorem dX1_weeks_150 : decode cX1_weeks 150 = .ok (.iinc 6 1, 3) := dk_132 6 1 (dk_at dksX1_weeks_6 9 rfl rfl)
theorem dX1_weeks_153 : decode cX1_weeks 153 = .ok (.goto (-105), 3) := dk_167 255 151 (dk_at dksX1_weeks_6 12 rfl rfl)
theorem dX1_weeks_156 : decode cX1_weeks 156 = .ok (.iload_n 3, 1) := dk_29 (dk_at dksX1_weeks_6 15 rfl rfl)
theorem dX1_weeks_157 : decode cX1_weeks 157 = .ok (.ifCond .ne 8, 3) := dk_154 0 8 (dk_at dksX1_weeks_6 16 rfl rfl)
theorem dX1_weeks_160 : decode cX1_weeks 160 = .ok (.iload 4, 2) := dk_21 4 (dk_at dksX1_weeks_6 19 rfl rfl)
theorem dX1_weeks_162 : decode cX1_weeks 162 = .ok (.goto 5, 3) := dk_167 0 5 (dk_at dksX1_weeks_6 21 rfl rfl)
theorem dX1_weeks_165 : decode cX1_weeks 165 = .ok (.iload 5, 2) := dk_21 5 (dk_at dksX1_weeks_7 0 rfl rfl)
theorem dX1_weeks_167 : decode cX1_weeks 167 = .ok (.ireturn, 1) := dk_172 (dk_at dksX1_weeks_7 2 rfl rfl)
abbrev cX1_draw : ByteArray := prog_1_method_63_code
def yX1_draw : MethodName := ⟨RX1, "draw", "(I)I"⟩
def dkwX1_draw_1 : List UInt8 := [19, 1, 84, 108, 27, 112, 172]
abbrev dktX1_draw_1 : List UInt8 := dkwX1_draw_1 ++ []
def dkwX1_draw_0 : List UInt8 := [42, 42, 180, 1, 79, 19, 1, 82, 104, 17, 48, 57, 96, 181, 1, 79, 42, 180, 1, 79, 19, 1, 83, 126]
abbrev dktX1_draw_0 : List UInt8 := dkwX1_draw_0 ++ dktX1_draw_1
theorem dksX1_draw_0 : cX1_draw.data.toList.drop 0 = dktX1_draw_0 := by decide +kernel
theorem dksX1_draw_1 : cX1_draw.data.toList.drop 24 = dktX1_draw_1 := dk_seg dksX1_draw_0 24 rfl rfl
theorem dX1_draw_0 : decode cX1_draw 0 = .ok (.aload_n 0, 1) := dk_42 (dk_at dksX1_draw_0 0 rfl rfl)
theorem dX1_draw_1 : decode cX1_draw 1 = .ok (.aload_n 0, 1) := dk_42 (dk_at dksX1_draw_0 1 rfl rfl)
theorem dX1_draw_2 : decode cX1_draw 2 = .ok (.getfield 335, 3) := dk_180 1 79 (dk_at dksX1_draw_0 2 rfl rfl)
theorem dX1_draw_5 : decode cX1_draw 5 = .ok (.ldc_w 338, 3) := dk_19 1 82 (dk_at dksX1_draw_0 5 rfl rfl)
theorem dX1_draw_8 : decode cX1_draw 8 = .ok (.imul, 1) := dk_104 (dk_at dksX1_draw_0 8 rfl rfl)
theorem dX1_draw_9 : decode cX1_draw 9 = .ok (.sipush 12345, 3) := dk_17 48 57 (dk_at dksX1_draw_0 9 rfl rfl)
theorem dX1_draw_12 : decode cX1_draw 12 = .ok (.iadd, 1) := dk_96 (dk_at dksX1_draw_0 12 rfl rfl)
theorem dX1_draw_13 : decode cX1_draw 13 = .ok (.putfield 335, 3) := dk_181 1 79 (dk_at dksX1_draw_0 13 rfl rfl)
theorem dX1_draw_16 : decode cX1_draw 16 = .ok (.aload_n 0, 1) := dk_42 (dk_at dksX1_draw_0 16 rfl rfl)
theorem dX1_draw_17 : decode cX1_draw 17 = .ok (.getfield 335, 3) := dk_180 1 79 (dk_at dksX1_draw_0 17 rfl rfl)
theorem dX1_draw_20 : decode cX1_draw 20 = .ok (.ldc_w 339, 3) := dk_19 1 83 (dk_at dksX1_draw_0 20 rfl rfl)
theorem dX1_draw_23 : decode cX1_draw 23 = .ok (.iand, 1) := dk_126 (dk_at dksX1_draw_0 23 rfl rfl)
theorem dX1_draw_24 : decode cX1_draw 24 = .ok (.ldc_w 340, 3) := dk_19 1 84 (dk_at dksX1_draw_1 0 rfl rfl)
theorem dX1_draw_27 : decode cX1_draw 27 = .ok (.idiv, 1) := dk_108 (dk_at dksX1_draw_1 3 rfl rfl)
theorem dX1_draw_28 : decode cX1_draw 28 = .ok (.iload_n 1, 1) := dk_27 (dk_at dksX1_draw_1 4 rfl rfl)
theorem dX1_draw_29 : decode cX1_draw 29 = .ok (.irem, 1) := dk_112 (dk_at dksX1_draw_1 5 rfl rfl)
theorem dX1_draw_30 : decode cX1_draw 30 = .ok (.ireturn, 1) := dk_172 (dk_at dksX1_draw_1 6 rfl rfl)
abbrev cX1_image : ByteArray := prog_1_method_65_code
def yX1_image : MethodName := ⟨RX1, "image", "()I"⟩
def dkwX1_image_0 : List UInt8 := [42, 180, 1, 91, 42, 180, 0, 43, 182, 0, 125, 42, 4, 181, 1, 94, 42, 180, 0, 43, 180, 0, 56, 172]
abbrev dktX1_image_0 : List UInt8 := dkwX1_image_0 ++ []
theorem dksX1_image_0 : cX1_image.data.toList.drop 0 = dktX1_image_0 := by decide +kernel
theorem dX1_image_0 : decode cX1_image 0 = .ok (.aload_n 0, 1) := dk_42 (dk_at dksX1_image_0 0 rfl rfl)
theorem dX1_image_1 : decode cX1_image 1 = .ok (.getfield 347, 3) := dk_180 1 91 (dk_at dksX1_image_0 1 rfl rfl)
theorem dX1_image_4 : decode cX1_image 4 = .ok (.aload_n 0, 1) := dk_42 (dk_at dksX1_image_0 4 rfl rfl)
theorem dX1_image_5 : decode cX1_image 5 = .ok (.getfield 43, 3) := dk_180 0 43 (dk_at dksX1_image_0 5 rfl rfl)
theorem dX1_image_8 : decode cX1_image 8 = .ok (.invokevirtual 125, 3) := dk_182 0 125 (dk_at dksX1_image_0 8 rfl rfl)
theorem dX1_image_11 : decode cX1_image 11 = .ok (.aload_n 0, 1) := dk_42 (dk_at dksX1_image_0 11 rfl rfl)
theorem dX1_image_12 : decode cX1_image 12 = .ok (.iconst 1, 1) := dk_4 (dk_at dksX1_image_0 12 rfl rfl)
theorem dX1_image_13 : decode cX1_image 13 = .ok (.putfield 350, 3) := dk_181 1 94 (dk_at dksX1_image_0 13 rfl rfl)
theorem dX1_image_16 : decode cX1_image 16 = .ok (.aload_n 0, 1) := dk_42 (dk_at dksX1_image_0 16 rfl rfl)
theorem dX1_image_17 : decode cX1_image 17 = .ok (.getfield 43, 3) := dk_180 0 43 (dk_at dksX1_image_0 17 rfl rfl)
theorem dX1_image_20 : decode cX1_image 20 = .ok (.getfield 56, 3) := dk_180 0 56 (dk_at dksX1_image_0 20 rfl rfl)
theorem dX1_image_23 : decode cX1_image 23 = .ok (.ireturn, 1) := dk_172 (dk_at dksX1_image_0 23 rfl rfl)
abbrev cX1_restore : ByteArray := prog_1_method_66_code
def yX1_restore : MethodName := ⟨RX1, "restore", "()I"⟩
def dkwX1_restore_1 : List UInt8 := [180, 0, 43, 180, 0, 56, 172]
abbrev dktX1_restore_1 : List UInt8 := dkwX1_restore_1 ++ []
def dkwX1_restore_0 : List UInt8 := [42, 180, 1, 94, 154, 0, 6, 16, 253, 172, 42, 180, 0, 43, 42, 180, 1, 91, 182, 0, 125, 42]
abbrev dktX1_restore_0 : List UInt8 := dkwX1_restore_0 ++ dktX1_restore_1
theorem dksX1_restore_0 : cX1_restore.data.toList.drop 0 = dktX1_restore_0 := by decide +kernel
theorem dksX1_restore_1 : cX1_restore.data.toList.drop 22 = dktX1_restore_1 := dk_seg dksX1_restore_0 22 rfl rfl
theorem dX1_restore_0 : decode cX1_restore 0 = .ok (.aload_n 0, 1) := dk_42 (dk_at dksX1_restore_0 0 rfl rfl)
theorem dX1_restore_1 : decode cX1_restore 1 = .ok (.getfield 350, 3) := dk_180 1 94 (dk_at dksX1_restore_0 1 rfl rfl)
theorem dX1_restore_4 : decode cX1_restore 4 = .ok (.ifCond .ne 6, 3) := dk_154 0 6 (dk_at dksX1_restore_0 4 rfl rfl)
theorem dX1_restore_7 : decode cX1_restore 7 = .ok (.bipush (-3), 2) := dk_16 253 (dk_at dksX1_restore_0 7 rfl rfl)
theorem dX1_restore_9 : decode cX1_restore 9 = .ok (.ireturn, 1) := dk_172 (dk_at dksX1_restore_0 9 rfl rfl)
theorem dX1_restore_10 : decode cX1_restore 10 = .ok (.aload_n 0, 1) := dk_42 (dk_at dksX1_restore_0 10 rfl rfl)
theorem dX1_restore_11 : decode cX1_restore 11 = .ok (.getfield 43, 3) := dk_180 0 43 (dk_at dksX1_restore_0 11 rfl rfl)
theorem dX1_restore_14 : decode cX1_restore 14 = .ok (.aload_n 0, 1) := dk_42 (dk_at dksX1_restore_0 14 rfl rfl)
theorem dX1_restore_15 : decode cX1_restore 15 = .ok (.getfield 347, 3) := dk_180 1 91 (dk_at dksX1_restore_0 15 rfl rfl)
theorem dX1_restore_18 : decode cX1_restore 18 = .ok (.invokevirtual 125, 3) := dk_182 0 125 (dk_at dksX1_restore_0 18 rfl rfl)
theorem dX1_restore_21 : decode cX1_restore 21 = .ok (.aload_n 0, 1) := dk_42 (dk_at dksX1_restore_0 21 rfl rfl)
theorem dX1_restore_22 : decode cX1_restore 22 = .ok (.getfield 43, 3) := dk_180 0 43 (dk_at dksX1_restore_1 0 rfl rfl)
theorem dX1_restore_25 : decode cX1_restore 25 = .ok (.getfield 56, 3) := dk_180 0 56 (dk_at dksX1_restore_1 3 rfl rfl)
theorem dX1_restore_28 : decode cX1_restore 28 = .ok (.ireturn, 1) := dk_172 (dk_at dksX1_restore_1 6 rfl rfl)
abbrev cX1_count : ByteArray := prog_1_method_67_code
def yX1_count : MethodName := ⟨RX1, "count", "(I)I"⟩
def dkwX1_count_6 : List UInt8 := [182, 0, 253, 172, 2, 172]
abbrev dktX1_count_6 : List UInt8 := dkwX1_count_6 ++ []
def dkwX1_count_5 : List UInt8 := [42, 180, 0, 43, 180, 0, 173, 29, 46, 96, 61, 132, 3, 1, 167, 255, 230, 28, 172, 42, 180, 0, 43]
abbrev dktX1_count_5 : List UInt8 := dkwX1_count_5 ++ dktX1_count_6
def dkwX1_count_4 : List UInt8 := [28, 172, 42, 180, 0, 43, 182, 0, 199, 172, 3, 62, 29, 42, 180, 0, 43, 180, 0, 66, 162, 0, 21, 28]
abbrev dktX1_count_4 : List UInt8 := dkwX1_count_4 ++ dktX1_count_5
def dkwX1_count_3 : List UInt8 := [180, 0, 66, 162, 0, 21, 28, 42, 180, 0, 43, 180, 0, 77, 29, 46, 96, 61, 132, 3, 1, 167, 255, 230]
abbrev dktX1_count_3 : List UInt8 := dkwX1_count_3 ++ dktX1_count_4
def dkwX1_count_2 : List UInt8 := [42, 180, 0, 43, 180, 0, 66, 172, 42, 180, 0, 43, 180, 0, 56, 172, 3, 62, 29, 42, 180, 0, 43]
abbrev dktX1_count_2 : List UInt8 := dkwX1_count_2 ++ dktX1_count_3
def dkwX1_count_1 : List UInt8 := [170, 0, 0, 0, 135, 0, 0, 0, 0, 0, 0, 0, 5, 0, 0, 0, 37, 0, 0, 0, 45, 0, 0, 0, 53, 0, 0, 0, 86, 0, 0, 0, 94, 0, 0, 0, 127]
abbrev dktX1_count_1 : List UInt8 := dkwX1_count_1 ++ dktX1_count_2
def dkwX1_count_0 : List UInt8 := [3, 61, 27]
abbrev dktX1_count_0 : List UInt8 := dkwX1_count_0 ++ dktX1_count_1
theorem dksX1_count_0 : cX1_count.data.toList.drop 0 = dktX1_count_0 := by decide +kernel
theorem dksX1_count_1 : cX1_count.data.toList.drop 3 = dktX1_count_1 := dk_seg dksX1_count_0 3 rfl rfl
theorem dksX1_count_2 : cX1_count.data.toList.drop 40 = dktX1_count_2 := dk_seg dksX1_count_1 37 rfl rfl
theorem dksX1_count_3 : cX1_count.data.toList.drop 63 = dktX1_count_3 := dk_seg dksX1_count_2 23 rfl rfl
theorem dksX1_count_4 : cX1_count.data.toList.drop 87 = dktX1_count_4 := dk_seg dksX1_count_3 24 rfl rfl
theorem dksX1_count_5 : cX1_count.data.toList.drop 111 = dktX1_count_5 := dk_seg dksX1_count_4 24 rfl rfl
theorem dksX1_count_6 : cX1_count.data.toList.drop 134 = dktX1_count_6 := dk_seg dksX1_count_5 23 rfl rfl
theorem dX1_count_0 : decode cX1_count 0 = .ok (.iconst 0, 1) := dk_3 (dk_at dksX1_count_0 0 rfl rfl)
theorem dX1_count_1 : decode cX1_count 1 = .ok (.istore_n 2, 1) := dk_61 (dk_at dksX1_count_0 1 rfl rfl)
theorem dX1_count_2 : decode cX1_count 2 = .ok (.iload_n 1, 1) := dk_27 (dk_at dksX1_count_0 2 rfl rfl)
theorem dX1_count_3 : decode cX1_count 3 = .ok (.tableswitch 135 0 5 #[37, 45, 53, 86, 94, 127], 37) := by decide +kernel
theorem dX1_count_40 : decode cX1_count 40 = .ok (.aload_n 0, 1) := dk_42 (dk_at dksX1_count_2 0 rfl rfl)
theorem dX1_count_41 : decode cX1_count 41 = .ok (.getfield 43, 3) := dk_180 0 43 (dk_at dksX1_count_2 1 rfl rfl)
theorem dX1_count_44 : decode cX1_count 44 = .ok (.getfield 66, 3) := dk_180 0 66 (dk_at dksX1_count_2 4 rfl rfl)
theorem dX1_count_47 : decode cX1_count 47 = .ok (.ireturn, 1) := dk_172 (dk_at dksX1_count_2 7 rfl rfl)
theorem dX1_count_48 : decode cX1_count 48 = .ok (.aload_n 0, 1) := dk_42 (dk_at dksX1_count_2 8 rfl rfl)
theorem dX1_count_49 : decode cX1_count 49 = .ok (.getfield 43, 3) := dk_180 0 43 (dk_at dksX1_count_2 9 rfl rfl)
theorem dX1_count_52 : decode cX1_count 52 = .ok (.getfield 56, 3) := dk_180 0 56 (dk_at dksX1_count_2 12 rfl rfl)
theorem dX1_count_55 : decode cX1_count 55 = .ok (.ireturn, 1) := dk_172 (dk_at dksX1_count_2 15 rfl rfl)
theorem dX1_count_56 : decode cX1_count 56 = .ok (.iconst 0, 1) := dk_3 (dk_at dksX1_count_2 16 rfl rfl)
theorem dX1_count_57 : decode cX1_count 57 = .ok (.istore_n 3, 1) := dk_62 (dk_at dksX1_count_2 17 rfl rfl)
theorem dX1_count_58 : decode cX1_count 58 = .ok (.iload_n 3, 1) := dk_29 (dk_at dksX1_count_2 18 rfl rfl)
theorem dX1_count_59 : decode cX1_count 59 = .ok (.aload_n 0, 1) := dk_42 (dk_at dksX1_count_2 19 rfl rfl)
theorem dX1_count_60 : decode cX1_count 60 = .ok (.getfield 43, 3) := dk_180 0 43 (dk_at dksX1_count_2 20 rfl rfl)
theorem dX1_count_63 : decode cX1_count 63 = .ok (.getfield 66, 3) := dk_180 0 66 (dk_at dksX1_count_3 0 rfl rfl)
theorem dX1_count_66 : decode cX1_count 66 = .ok (.if_icmp .ge 21, 3) := dk_162 0 21 (dk_at dksX1_count_3 3 rfl rfl)
theorem dX1_count_69 : decode cX1_count 69 = .ok (.iload_n 2, 1) := dk_28 (dk_at dksX1_count_3 6 rfl rfl)
theorem dX1_count_70 : decode cX1_count 70 = .ok (.aload_n 0, 1) := dk_42 (dk_at dksX1_count_3 7 rfl rfl)
theorem dX1_count_71 : decode cX1_count 71 = .ok (.getfield 43, 3) := dk_180 0 43 (dk_at dksX1_count_3 8 rfl rfl)
theorem dX1_count_74 : decode cX1_count 74 = .ok (.getfield 77, 3) := dk_180 0 77 (dk_at dksX1_count_3 11 rfl rfl)
theorem dX1_count_77 : decode cX1_count 77 = .ok (.iload_n 3, 1) := dk_29 (dk_at dksX1_count_3 14 rfl rfl)
theorem dX1_count_78 : decode cX1_count 78 = .ok (.iaload, 1) := dk_46 (dk_at dksX1_count_3 15 rfl rfl)
theorem dX1_count_79 : decode cX1_count 79 = .ok (.iadd, 1) := dk_96 (dk_at dksX1_count_3 16 rfl rfl)
theorem dX1_count_80 : decode cX1_count 80 = .ok (.istore_n 2, 1) := dk_61 (dk_at dksX1_count_3 17 rfl rfl)
theorem dX1_count_81 : decode cX1_count 81 = .ok (.iinc 3 1, 3) := dk_132 3 1 (dk_at dksX1_count_3 18 rfl rfl)
theorem dX1_count_84 : decode cX1_count 84 = .ok (.goto (-26), 3) := dk_167 255 230 (dk_at dksX1_count_3 21 rfl rfl)
theorem dX1_count_87 : decode cX1_count 87 = .ok (.iload_n 2, 1) := dk_28 (dk_at dksX1_count_4 0 rfl rfl)
theorem dX1_count_88 : decode cX1_count 88 = .ok (.ireturn, 1) := dk_172 (dk_at dksX1_count_4 1 rfl rfl)
theorem dX1_count_89 : decode cX1_count 89 = .ok (.aload_n 0, 1) := dk_42 (dk_at dksX1_count_4 2 rfl rfl)
theorem dX1_count_90 : decode cX1_count 90 = .ok (.getfield 43, 3) := dk_180 0 43 (dk_at dksX1_count_4 3 rfl rfl)
theorem dX1_count_93 : decode cX1_count 93 = .ok (.invokevirtual 199, 3) := dk_182 0 199 (dk_at dksX1_count_4 6 rfl rfl)
theorem dX1_count_96 : decode cX1_count 96 = .ok (.ireturn, 1) := dk_172 (dk_at dksX1_count_4 9 rfl rfl)
theorem dX1_count_97 : decode cX1_count 97 = .ok (.iconst 0, 1) := dk_3 (dk_at dksX1_count_4 10 rfl rfl)
theorem dX1_count_98 : decode cX1_count 98 = .ok (.istore_n 3, 1) := dk_62 (dk_at dksX1_count_4 11 rfl rfl)
theorem dX1_count_99 : decode cX1_count 99 = .ok (.iload_n 3, 1) := dk_29 (dk_at dksX1_count_4 12 rfl rfl)
theorem dX1_count_100 : decode cX1_count 100 = .ok (.aload_n 0, 1) := dk_42 (dk_at dksX1_count_4 13 rfl rfl)
theorem dX1_count_101 : decode cX1_count 101 = .ok (.getfield 43, 3) := dk_180 0 43 (dk_at dksX1_count_4 14 rfl rfl)
theorem dX1_count_104 : decode cX1_count 104 = .ok (.getfield 66, 3) := dk_180 0 66 (dk_at dksX1_count_4 17 rfl rfl)
theorem dX1_count_107 : decode cX1_count 107 = .ok (.if_icmp .ge 21, 3) := dk_162 0 21 (dk_at dksX1_count_4 20 rfl rfl)
theorem dX1_count_110 : decode cX1_count 110 = .ok (.iload_n 2, 1) := dk_28 (dk_at dksX1_count_4 23 rfl rfl)
theorem dX1_count_111 : decode cX1_count 111 = .ok (.aload_n 0, 1) := dk_42 (dk_at dksX1_count_5 0 rfl rfl)
theorem dX1_count_112 : decode cX1_count 112 = .ok (.getfield 43, 3) := dk_180 0 43 (dk_at dksX1_count_5 1 rfl rfl)
theorem dX1_count_115 : decode cX1_count 115 = .ok (.getfield 173, 3) := dk_180 0 173 (dk_at dksX1_count_5 4 rfl rfl)
theorem dX1_count_118 : decode cX1_count 118 = .ok (.iload_n 3, 1) := dk_29 (dk_at dksX1_count_5 7 rfl rfl)
theorem dX1_count_119 : decode cX1_count 119 = .ok (.iaload, 1) := dk_46 (dk_at dksX1_count_5 8 rfl rfl)
theorem dX1_count_120 : decode cX1_count 120 = .ok (.iadd, 1) := dk_96 (dk_at dksX1_count_5 9 rfl rfl)
theorem dX1_count_121 : decode cX1_count 121 = .ok (.istore_n 2, 1) := dk_61 (dk_at dksX1_count_5 10 rfl rfl)
theorem dX1_count_122 : decode cX1_count 122 = .ok (.iinc 3 1, 3) := dk_132 3 1 (dk_at dksX1_count_5 11 rfl rfl)
theorem dX1_count_125 : decode cX1_count 125 = .ok (.goto (-26), 3) := dk_167 255 230 (dk_at dksX1_count_5 14 rfl rfl)
theorem dX1_count_128 : decode cX1_count 128 = .ok (.iload_n 2, 1) := dk_28 (dk_at dksX1_count_5 17 rfl rfl)
theorem dX1_count_129 : decode cX1_count 129 = .ok (.ireturn, 1) := dk_172 (dk_at dksX1_count_5 18 rfl rfl)
theorem dX1_count_130 : decode cX1_count 130 = .ok (.aload_n 0, 1) := dk_42 (dk_at dksX1_count_5 19 rfl rfl)
theorem dX1_count_131 : decode cX1_count 131 = .ok (.getfield 43, 3) := dk_180 0 43 (dk_at dksX1_count_5 20 rfl rfl)
theorem dX1_count_134 : decode cX1_count 134 = .ok (.invokevirtual 253, 3) := dk_182 0 253 (dk_at dksX1_count_6 0 rfl rfl)
theorem dX1_count_137 : decode cX1_count 137 = .ok (.ireturn, 1) := dk_172 (dk_at dksX1_count_6 3 rfl rfl)
theorem dX1_count_138 : decode cX1_count 138 = .ok (.iconst (-1), 1) := dk_2 (dk_at dksX1_count_6 4 rfl rfl)
theorem dX1_count_139 : decode cX1_count 139 = .ok (.ireturn, 1) := dk_172 (dk_at dksX1_count_6 5 rfl rfl)
abbrev cX1_init : ByteArray := prog_1_method_68_code
def yX1_init : MethodName := ⟨RX1, "<init>", "()V"⟩
def dkwX1_init_6 : List UInt8 := [177]
abbrev dktX1_init_6 : List UInt8 := dkwX1_init_6 ++ []
def dkwX1_init_5 : List UInt8 := [27, 6, 163, 0, 22, 42, 180, 0, 228, 27, 187, 0, 48, 89, 183, 1, 102, 83, 132, 1, 1, 167, 255, 235]
abbrev dktX1_init_5 : List UInt8 := dkwX1_init_5 ++ dktX1_init_6
def dkwX1_init_4 : List UInt8 := [162, 0, 22, 42, 180, 0, 141, 27, 187, 0, 146, 89, 183, 1, 103, 83, 132, 1, 1, 167, 255, 234, 3, 60]
abbrev dktX1_init_4 : List UInt8 := dkwX1_init_4 ++ dktX1_init_5
def dkwX1_init_3 : List UInt8 := [42, 16, 6, 188, 10, 181, 1, 11, 42, 16, 8, 189, 0, 146, 181, 0, 141, 3, 60, 27, 16, 8]
abbrev dktX1_init_3 : List UInt8 := dkwX1_init_3 ++ dktX1_init_4
def dkwX1_init_2 : List UInt8 := [17, 0, 168, 188, 10, 181, 0, 211, 42, 7, 189, 0, 48, 181, 0, 228, 42, 16, 6, 188, 10, 181, 1, 8]
abbrev dktX1_init_2 : List UInt8 := dkwX1_init_2 ++ dktX1_init_3
def dkwX1_init_1 : List UInt8 := [181, 1, 91, 42, 187, 0, 48, 89, 183, 1, 102, 181, 0, 63, 42, 16, 100, 189, 0, 85, 181, 0, 117, 42]
abbrev dktX1_init_1 : List UInt8 := dkwX1_init_1 ++ dktX1_init_2
def dkwX1_init_0 : List UInt8 := [42, 183, 1, 98, 42, 187, 0, 48, 89, 183, 1, 102, 181, 0, 43, 42, 187, 0, 48, 89, 183, 1, 102]
abbrev dktX1_init_0 : List UInt8 := dkwX1_init_0 ++ dktX1_init_1
theorem dksX1_init_0 : cX1_init.data.toList.drop 0 = dktX1_init_0 := by decide +kernel
theorem dksX1_init_1 : cX1_init.data.toList.drop 23 = dktX1_init_1 := dk_seg dksX1_init_0 23 rfl rfl
theorem dksX1_init_2 : cX1_init.data.toList.drop 47 = dktX1_init_2 := dk_seg dksX1_init_1 24 rfl rfl
theorem dksX1_init_3 : cX1_init.data.toList.drop 71 = dktX1_init_3 := dk_seg dksX1_init_2 24 rfl rfl
theorem dksX1_init_4 : cX1_init.data.toList.drop 93 = dktX1_init_4 := dk_seg dksX1_init_3 22 rfl rfl
theorem dksX1_init_5 : cX1_init.data.toList.drop 117 = dktX1_init_5 := dk_seg dksX1_init_4 24 rfl rfl
theorem dksX1_init_6 : cX1_init.data.toList.drop 141 = dktX1_init_6 := dk_seg dksX1_init_5 24 rfl rfl
theorem dX1_init_0 : decode cX1_init 0 = .ok (.aload_n 0, 1) := dk_42 (dk_at dksX1_init_0 0 rfl rfl)
theorem dX1_init_1 : decode cX1_init 1 = .ok (.invokespecial 354, 3) := dk_183 1 98 (dk_at dksX1_init_0 1 rfl rfl)
theorem dX1_init_4 : decode cX1_init 4 = .ok (.aload_n 0, 1) := dk_42 (dk_at dksX1_init_0 4 rfl rfl)
theorem dX1_init_5 : decode cX1_init 5 = .ok (.new 48, 3) := dk_187 0 48 (dk_at dksX1_init_0 5 rfl rfl)
theorem dX1_init_8 : decode cX1_init 8 = .ok (.dup, 1) := dk_89 (dk_at dksX1_init_0 8 rfl rfl)
theorem dX1_init_9 : decode cX1_init 9 = .ok (.invokespecial 358, 3) := dk_183 1 102 (dk_at dksX1_init_0 9 rfl rfl)
theorem dX1_init_12 : decode cX1_init 12 = .ok (.putfield 43, 3) := dk_181 0 43 (dk_at dksX1_init_0 12 rfl rfl)
theorem dX1_init_15 : decode cX1_init 15 = .ok (.aload_n 0, 1) := dk_42 (dk_at dksX1_init_0 15 rfl rfl)
theorem dX1_init_16 : decode cX1_init 16 = .ok (.new 48, 3) := dk_187 0 48 (dk_at dksX1_init_0 16 rfl rfl)
theorem dX1_init_19 : decode cX1_init 19 = .ok (.dup, 1) := dk_89 (dk_at dksX1_init_0 19 rfl rfl)
theorem dX1_init_20 : decode cX1_init 20 = .ok (.invokespecial 358, 3) := dk_183 1 102 (dk_at dksX1_init_0 20 rfl rfl)
theorem dX1_init_23 : decode cX1_init 23 = .ok (.putfield 347, 3) := dk_181 1 91 (dk_at dksX1_init_1 0 rfl rfl)
theorem dX1_init_26 : decode cX1_init 26 = .ok (.aload_n 0, 1) := dk_42 (dk_at dksX1_init_1 3 rfl rfl)
theorem dX1_init_27 : decode cX1_init 27 = .ok (.new 48, 3) := dk_187 0 48 (dk_at dksX1_init_1 4 rfl rfl)
theorem dX1_init_30 : decode cX1_init 30 = .ok (.dup, 1) := dk_89 (dk_at dksX1_init_1 7 rfl rfl)
theorem dX1_init_31 : decode cX1_init 31 = .ok (.invokespecial 358, 3) := dk_183 1 102 (dk_at dksX1_init_1 8 rfl rfl)
theorem dX1_init_34 : decode cX1_init 34 = .ok (.putfield 63, 3) := dk_181 0 63 (dk_at dksX1_init_1 11 rfl rfl)
theorem dX1_init_37 : decode cX1_init 37 = .ok (.aload_n 0, 1) := dk_42 (dk_at dksX1_init_1 14 rfl rfl)
theorem dX1_init_38 : decode cX1_init 38 = .ok (.bipush 100, 2) := dk_16 100 (dk_at dksX1_init_1 15 rfl rfl)
theorem dX1_init_40 : decode cX1_init 40 = .ok (.anewarray 85, 3) := dk_189 0 85 (dk_at dksX1_init_1 17 rfl rfl)
theorem dX1_init_43 : decode cX1_init 43 = .ok (.putfield 117, 3) := dk_181 0 117 (dk_at dksX1_init_1 20 rfl rfl)
theorem dX1_init_46 : decode cX1_init 46 = .ok (.aload_n 0, 1) := dk_42 (dk_at dksX1_init_1 23 rfl rfl)
theorem dX1_init_47 : decode cX1_init 47 = .ok (.sipush 168, 3) := dk_17 0 168 (dk_at dksX1_init_2 0 rfl rfl)
theorem dX1_init_50 : decode cX1_init 50 = .ok (.newarray .int, 2) := dk_188_10 (dk_at dksX1_init_2 3 rfl rfl)
theorem dX1_init_52 : decode cX1_init 52 = .ok (.putfield 211, 3) := dk_181 0 211 (dk_at dksX1_init_2 5 rfl rfl)
theorem dX1_init_55 : decode cX1_init 55 = .ok (.aload_n 0, 1) := dk_42 (dk_at dksX1_init_2 8 rfl rfl)
theorem dX1_init_56 : decode cX1_init 56 = .ok (.iconst 4, 1) := dk_7 (dk_at dksX1_init_2 9 rfl rfl)
theorem dX1_init_57 : decode cX1_init 57 = .ok (.anewarray 48, 3) := dk_189 0 48 (dk_at dksX1_init_2 10 rfl rfl)
theorem dX1_init_60 : decode cX1_init 60 = .ok (.putfield 228, 3) := dk_181 0 228 (dk_at dksX1_init_2 13 rfl rfl)
theorem dX1_init_63 : decode cX1_init 63 = .ok (.aload_n 0, 1) := dk_42 (dk_at dksX1_init_2 16 rfl rfl)
theorem dX1_init_64 : decode cX1_init 64 = .ok (.bipush 6, 2) := dk_16 6 (dk_at dksX1_init_2 17 rfl rfl)
theorem dX1_init_66 : decode cX1_init 66 = .ok (.newarray .int, 2) := dk_188_10 (dk_at dksX1_init_2 19 rfl rfl)
theorem dX1_init_68 : decode cX1_init 68 = .ok (.putfield 264, 3) := dk_181 1 8 (dk_at dksX1_init_2 21 rfl rfl)
theorem dX1_init_71 : decode cX1_init 71 = .ok (.aload_n 0, 1) := dk_42 (dk_at dksX1_init_3 0 rfl rfl)
theorem dX1_init_72 : decode cX1_init 72 = .ok (.bipush 6, 2) := dk_16 6 (dk_at dksX1_init_3 1 rfl rfl)
theorem dX1_init_74 : decode cX1_init 74 = .ok (.newarray .int, 2) := dk_188_10 (dk_at dksX1_init_3 3 rfl rfl)
theorem dX1_init_76 : decode cX1_init 76 = .ok (.putfield 267, 3) := dk_181 1 11 (dk_at dksX1_init_3 5 rfl rfl)
theorem dX1_init_79 : decode cX1_init 79 = .ok (.aload_n 0, 1) := dk_42 (dk_at dksX1_init_3 8 rfl rfl)
theorem dX1_init_80 : decode cX1_init 80 = .ok (.bipush 8, 2) := dk_16 8 (dk_at dksX1_init_3 9 rfl rfl)
theorem dX1_init_82 : decode cX1_init 82 = .ok (.anewarray 146, 3) := dk_189 0 146 (dk_at dksX1_init_3 11 rfl rfl)
theorem dX1_init_85 : decode cX1_init 85 = .ok (.putfield 141, 3) := dk_181 0 141 (dk_at dksX1_init_3 14 rfl rfl)
theorem dX1_init_88 : decode cX1_init 88 = .ok (.iconst 0, 1) := dk_3 (dk_at dksX1_init_3 17 rfl rfl)
theorem dX1_init_89 : decode cX1_init 89 = .ok (.istore_n 1, 1) := dk_60 (dk_at dksX1_init_3 18 rfl rfl)
theorem dX1_init_90 : decode cX1_init 90 = .ok (.iload_n 1, 1) := dk_27 (dk_at dksX1_init_3 19 rfl rfl)
theorem dX1_init_91 : decode cX1_init 91 = .ok (.bipush 8, 2) := dk_16 8 (dk_at dksX1_init_3 20 rfl rfl)
theorem dX1_init_93 : decode cX1_init 93 = .ok (.if_icmp .ge 22, 3) := dk_162 0 22 (dk_at dksX1_init_4 0 rfl rfl)
theorem dX1_init_96 : decode cX1_init 96 = .ok (.aload_n 0, 1) := dk_42 (dk_at dksX1_init_4 3 rfl rfl)
theorem dX1_init_97 : decode cX1_init 97 = .ok (.getfield 141, 3) := dk_180 0 141 (dk_at dksX1_init_4 4 rfl rfl)
theorem dX1_init_100 : decode cX1_init 100 = .ok (.iload_n 1, 1) := dk_27 (dk_at dksX1_init_4 7 rfl rfl)
theorem dX1_init_101 : decode cX1_init 101 = .ok (.new 146, 3) := dk_187 0 146 (dk_at dksX1_init_4 8 rfl rfl)
theorem dX1_init_104 : decode cX1_init 104 = .ok (.dup, 1) := dk_89 (dk_at dksX1_init_4 11 rfl rfl)
theorem dX1_init_105 : decode cX1_init 105 = .ok (.invokespecial 359, 3) := dk_183 1 103 (dk_at dksX1_init_4 12 rfl rfl)
theorem dX1_init_108 : decode cX1_init 108 = .ok (.aastore, 1) := dk_83 (dk_at dksX1_init_4 15 rfl rfl)
theorem dX1_init_109 : decode cX1_init 109 = .ok (.iinc 1 1, 3) := dk_132 1 1 (dk_at dksX1_init_4 16 rfl rfl)
theorem dX1_init_112 : decode cX1_init 112 = .ok (.goto (-22), 3) := dk_167 255 234 (dk_at dksX1_init_4 19 rfl rfl)
theorem dX1_init_115 : decode cX1_init 115 = .ok (.iconst 0, 1) := dk_3 (dk_at dksX1_init_4 22 rfl rfl)
theorem dX1_init_116 : decode cX1_init 116 = .ok (.istore_n 1, 1) := dk_60 (dk_at dksX1_init_4 23 rfl rfl)
theorem dX1_init_117 : decode cX1_init 117 = .ok (.iload_n 1, 1) := dk_27 (dk_at dksX1_init_5 0 rfl rfl)
theorem dX1_init_118 : decode cX1_init 118 = .ok (.iconst 3, 1) := dk_6 (dk_at dksX1_init_5 1 rfl rfl)
theorem dX1_init_119 : decode cX1_init 119 = .ok (.if_icmp .gt 22, 3) := dk_163 0 22 (dk_at dksX1_init_5 2 rfl rfl)
theorem dX1_init_122 : decode cX1_init 122 = .ok (.aload_n 0, 1) := dk_42 (dk_at dksX1_init_5 5 rfl rfl)
theorem dX1_init_123 : decode cX1_init 123 = .ok (.getfield 228, 3) := dk_180 0 228 (dk_at dksX1_init_5 6 rfl rfl)
theorem dX1_init_126 : decode cX1_init 126 = .ok (.iload_n 1, 1) := dk_27 (dk_at dksX1_init_5 9 rfl rfl)
theorem dX1_init_127 : decode cX1_init 127 = .ok (.new 48, 3) := dk_187 0 48 (dk_at dksX1_init_5 10 rfl rfl)
theorem dX1_init_130 : decode cX1_init 130 = .ok (.dup, 1) := dk_89 (dk_at dksX1_init_5 13 rfl rfl)
theorem dX1_init_131 : decode cX1_init 131 = .ok (.invokespecial 358, 3) := dk_183 1 102 (dk_at dksX1_init_5 14 rfl rfl)
theorem dX1_init_134 : decode cX1_init 134 = .ok (.aastore, 1) := dk_83 (dk_at dksX1_init_5 17 rfl rfl)
theorem dX1_init_135 : decode cX1_init 135 = .ok (.iinc 1 1, 3) := dk_132 1 1 (dk_at dksX1_init_5 18 rfl rfl)
theorem dX1_init_138 : decode cX1_init 138 = .ok (.goto (-21), 3) := dk_167 255 235 (dk_at dksX1_init_5 21 rfl rfl)
theorem dX1_init_141 : decode cX1_init 141 = .ok (.return_, 1) := dk_177 (dk_at dksX1_init_6 0 rfl rfl)
abbrev cX1_keep : ByteArray := prog_1_method_69_code
def yX1_keep : MethodName := ⟨RX1, "keep", "(IIII)I"⟩
def dkwX1_keep_2 : List UInt8 := [28, 154, 0, 7, 1, 167, 0, 9, 29, 21, 4, 184, 0, 69, 181, 0, 145, 3, 172]
abbrev dktX1_keep_2 : List UInt8 := dkwX1_keep_2 ++ []
def dkwX1_keep_1 : List UInt8 := [16, 7, 184, 0, 39, 153, 0, 11, 21, 4, 184, 0, 196, 154, 0, 5, 2, 172, 42, 180, 0, 141, 27, 50]
abbrev dktX1_keep_1 : List UInt8 := dkwX1_keep_1 ++ dktX1_keep_2
def dkwX1_keep_0 : List UInt8 := [42, 27, 182, 0, 138, 153, 0, 35, 28, 3, 4, 184, 0, 39, 153, 0, 26, 28, 4, 160, 0, 23, 29, 3]
abbrev dktX1_keep_0 : List UInt8 := dkwX1_keep_0 ++ dktX1_keep_1
theorem dksX1_keep_0 : cX1_keep.data.toList.drop 0 = dktX1_keep_0 := by decide +kernel
theorem dksX1_keep_1 : cX1_keep.data.toList.drop 24 = dktX1_keep_1 := dk_seg dksX1_keep_0 24 rfl rfl
theorem dksX1_keep_2 : cX1_keep.data.toList.drop 48 = dktX1_keep_2 := dk_seg dksX1_keep_1 24 rfl rfl
theorem dX1_keep_0 : decode cX1_keep 0 = .ok (.aload_n 0, 1) := dk_42 (dk_at dksX1_keep_0 0 rfl rfl)
theorem dX1_keep_1 : decode cX1_keep 1 = .ok (.iload_n 1, 1) := dk_27 (dk_at dksX1_keep_0 1 rfl rfl)
theorem dX1_keep_2 : decode cX1_keep 2 = .ok (.invokevirtual 138, 3) := dk_182 0 138 (dk_at dksX1_keep_0 2 rfl rfl)
theorem dX1_keep_5 : decode cX1_keep 5 = .ok (.ifCond .eq 35, 3) := dk_153 0 35 (dk_at dksX1_keep_0 5 rfl rfl)
theorem dX1_keep_8 : decode cX1_keep 8 = .ok (.iload_n 2, 1) := dk_28 (dk_at dksX1_keep_0 8 rfl rfl)
theorem dX1_keep_9 : decode cX1_keep 9 = .ok (.iconst 0, 1) := dk_3 (dk_at dksX1_keep_0 9 rfl rfl)
theorem dX1_keep_10 : decode cX1_keep 10 = .ok (.iconst 1, 1) := dk_4 (dk_at dksX1_keep_0 10 rfl rfl)
theorem dX1_keep_11 : decode cX1_keep 11 = .ok (.invokestatic 39, 3) := dk_184 0 39 (dk_at dksX1_keep_0 11 rfl rfl)
theorem dX1_keep_14 : decode cX1_keep 14 = .ok (.ifCond .eq 26, 3) := dk_153 0 26 (dk_at dksX1_keep_0 14 rfl rfl)
theorem dX1_keep_17 : decode cX1_keep 17 = .ok (.iload_n 2, 1) := dk_28 (dk_at dksX1_keep_0 17 rfl rfl)
theorem dX1_keep_18 : decode cX1_keep 18 = .ok (.iconst 1, 1) := dk_4 (dk_at dksX1_keep_0 18 rfl rfl)
theorem dX1_keep_19 : decode cX1_keep 19 = .ok (.if_icmp .ne 23, 3) := dk_160 0 23 (dk_at dksX1_keep_0 19 rfl rfl)
theorem dX1_keep_22 : decode cX1_keep 22 = .ok (.iload_n 3, 1) := dk_29 (dk_at dksX1_keep_0 22 rfl rfl)
theorem dX1_keep_23 : decode cX1_keep 23 = .ok (.iconst 0, 1) := dk_3 (dk_at dksX1_keep_0 23 rfl rfl)
theorem dX1_keep_24 : decode cX1_keep 24 = .ok (.bipush 7, 2) := dk_16 7 (dk_at dksX1_keep_1 0 rfl rfl)
theorem dX1_keep_26 : decode cX1_keep 26 = .ok (.invokestatic 39, 3) := dk_184 0 39 (dk_at dksX1_keep_1 2 rfl rfl)
theorem dX1_keep_29 : decode cX1_keep 29 = .ok (.ifCond .eq 11, 3) := dk_153 0 11 (dk_at dksX1_keep_1 5 rfl rfl)
theorem dX1_keep_32 : decode cX1_keep 32 = .ok (.iload 4, 2) := dk_21 4 (dk_at dksX1_keep_1 8 rfl rfl)
theorem dX1_keep_34 : decode cX1_keep 34 = .ok (.invokestatic 196, 3) := dk_184 0 196 (dk_at dksX1_keep_1 10 rfl rfl)
theorem dX1_keep_37 : decode cX1_keep 37 = .ok (.ifCond .ne 5, 3) := dk_154 0 5 (dk_at dksX1_keep_1 13 rfl rfl)
theorem dX1_keep_40 : decode cX1_keep 40 = .ok (.iconst (-1), 1) := dk_2 (dk_at dksX1_keep_1 16 rfl rfl)
theorem dX1_keep_41 : decode cX1_keep 41 = .ok (.ireturn, 1) := dk_172 (dk_at dksX1_keep_1 17 rfl rfl)
theorem dX1_keep_42 : decode cX1_keep 42 = .ok (.aload_n 0, 1) := dk_42 (dk_at dksX1_keep_1 18 rfl rfl)
theorem dX1_keep_43 : decode cX1_keep 43 = .ok (.getfield 141, 3) := dk_180 0 141 (dk_at dksX1_keep_1 19 rfl rfl)
theorem dX1_keep_46 : decode cX1_keep 46 = .ok (.iload_n 1, 1) := dk_27 (dk_at dksX1_keep_1 22 rfl rfl)
theorem dX1_keep_47 : decode cX1_keep 47 = .ok (.aaload, 1) := dk_50 (dk_at dksX1_keep_1 23 rfl rfl)
theorem dX1_keep_48 : decode cX1_keep 48 = .ok (.iload_n 2, 1) := dk_28 (dk_at dksX1_keep_2 0 rfl rfl)
theorem dX1_keep_49 : decode cX1_keep 49 = .ok (.ifCond .ne 7, 3) := dk_154 0 7 (dk_at dksX1_keep_2 1 rfl rfl)
theorem dX1_keep_52 : decode cX1_keep 52 = .ok (.aconst_null, 1) := dk_1 (dk_at dksX1_keep_2 4 rfl rfl)
theorem dX1_keep_53 : decode cX1_keep 53 = .ok (.goto 9, 3) := dk_167 0 9 (dk_at dksX1_keep_2 5 rfl rfl)
theorem dX1_keep_56 : decode cX1_keep 56 = .ok (.iload_n 3, 1) := dk_29 (dk_at dksX1_keep_2 8 rfl rfl)
theorem dX1_keep_57 : decode cX1_keep 57 = .ok (.iload 4, 2) := dk_21 4 (dk_at dksX1_keep_2 9 rfl rfl)
theorem dX1_keep_59 : decode cX1_keep 59 = .ok (.invokestatic 69, 3) := dk_184 0 69 (dk_at dksX1_keep_2 11 rfl rfl)
theorem dX1_keep_62 : decode cX1_keep 62 = .ok (.putfield 145, 3) := dk_181 0 145 (dk_at dksX1_keep_2 14 rfl rfl)
theorem dX1_keep_65 : decode cX1_keep 65 = .ok (.iconst 0, 1) := dk_3 (dk_at dksX1_keep_2 17 rfl rfl)
theorem dX1_keep_66 : decode cX1_keep 66 = .ok (.ireturn, 1) := dk_172 (dk_at dksX1_keep_2 18 rfl rfl)
abbrev cX1_row : ByteArray := prog_1_method_70_code
def yX1_row : MethodName := ⟨RX1, "row", "(III)I"⟩
def dkwX1_row_3 : List UInt8 := [16, 242, 172]
abbrev dktX1_row_3 : List UInt8 := dkwX1_row_3 ++ []
def dkwX1_row_2 : List UInt8 := [167, 0, 8, 29, 188, 10, 58, 4, 42, 180, 0, 141, 27, 50, 25, 4, 181, 0, 145, 3, 172, 58, 4]
abbrev dktX1_row_2 : List UInt8 := dkwX1_row_2 ++ dktX1_row_3
def dkwX1_row_1 : List UInt8 := [172, 28, 154, 0, 11, 29, 188, 8, 58, 4, 167, 0, 21, 28, 4, 160, 0, 11, 29, 188, 9, 58, 4]
abbrev dktX1_row_1 : List UInt8 := dkwX1_row_1 ++ dktX1_row_2
def dkwX1_row_0 : List UInt8 := [42, 27, 182, 0, 138, 153, 0, 18, 28, 3, 5, 184, 0, 39, 153, 0, 9, 29, 16, 100, 164, 0, 5, 2]
abbrev dktX1_row_0 : List UInt8 := dkwX1_row_0 ++ dktX1_row_1
theorem dksX1_row_0 : cX1_row.data.toList.drop 0 = dktX1_row_0 := by decide +kernel
theorem dksX1_row_1 : cX1_row.data.toList.drop 24 = dktX1_row_1 := dk_seg dksX1_row_0 24 rfl rfl
theorem dksX1_row_2 : cX1_row.data.toList.drop 47 = dktX1_row_2 := dk_seg dksX1_row_1 23 rfl rfl
theorem dksX1_row_3 : cX1_row.data.toList.drop 70 = dktX1_row_3 := dk_seg dksX1_row_2 23 rfl rfl
theorem dX1_row_0 : decode cX1_row 0 = .ok (.aload_n 0, 1) := dk_42 (dk_at dksX1_row_0 0 rfl rfl)
theorem dX1_row_1 : decode cX1_row 1 = .ok (.iload_n 1, 1) := dk_27 (dk_at dksX1_row_0 1 rfl rfl)
theorem dX1_row_2 : decode cX1_row 2 = .ok (.invokevirtual 138, 3) := dk_182 0 138 (dk_at dksX1_row_0 2 rfl rfl)
theorem dX1_row_5 : decode cX1_row 5 = .ok (.ifCond .eq 18, 3) := dk_153 0 18 (dk_at dksX1_row_0 5 rfl rfl)
theorem dX1_row_8 : decode cX1_row 8 = .ok (.iload_n 2, 1) := dk_28 (dk_at dksX1_row_0 8 rfl rfl)
theorem dX1_row_9 : decode cX1_row 9 = .ok (.iconst 0, 1) := dk_3 (dk_at dksX1_row_0 9 rfl rfl)
theorem dX1_row_10 : decode cX1_row 10 = .ok (.iconst 2, 1) := dk_5 (dk_at dksX1_row_0 10 rfl rfl)
theorem dX1_row_11 : decode cX1_row 11 = .ok (.invokestatic 39, 3) := dk_184 0 39 (dk_at dksX1_row_0 11 rfl rfl)
theorem dX1_row_14 : decode cX1_row 14 = .ok (.ifCond .eq 9, 3) := dk_153 0 9 (dk_at dksX1_row_0 14 rfl rfl)
theorem dX1_row_17 : decode cX1_row 17 = .ok (.iload_n 3, 1) := dk_29 (dk_at dksX1_row_0 17 rfl rfl)
theorem dX1_row_18 : decode cX1_row 18 = .ok (.bipush 100, 2) := dk_16 100 (dk_at dksX1_row_0 18 rfl rfl)
theorem dX1_row_20 : decode cX1_row 20 = .ok (.if_icmp .le 5, 3) := dk_164 0 5 (dk_at dksX1_row_0 20 rfl rfl)
theorem dX1_row_23 : decode cX1_row 23 = .ok (.iconst (-1), 1) := dk_2 (dk_at dksX1_row_0 23 rfl rfl)
theorem dX1_row_24 : decode cX1_row 24 = .ok (.ireturn, 1) := dk_172 (dk_at dksX1_row_1 0 rfl rfl)
theorem dX1_row_25 : decode cX1_row 25 = .ok (.iload_n 2, 1) := dk_28 (dk_at dksX1_row_1 1 rfl rfl)
theorem dX1_row_26 : decode cX1_row 26 = .ok (.ifCond .ne 11, 3) := dk_154 0 11 (dk_at dksX1_row_1 2 rfl rfl)
theorem dX1_row_29 : decode cX1_row 29 = .ok (.iload_n 3, 1) := dk_29 (dk_at dksX1_row_1 5 rfl rfl)
theorem dX1_row_30 : decode cX1_row 30 = .ok (.newarray .byte, 2) := dk_188_8 (dk_at dksX1_row_1 6 rfl rfl)
theorem dX1_row_32 : decode cX1_row 32 = .ok (.astore 4, 2) := dk_58 4 (dk_at dksX1_row_1 8 rfl rfl)
theorem dX1_row_34 : decode cX1_row 34 = .ok (.goto 21, 3) := dk_167 0 21 (dk_at dksX1_row_1 10 rfl rfl)
theorem dX1_row_37 : decode cX1_row 37 = .ok (.iload_n 2, 1) := dk_28 (dk_at dksX1_row_1 13 rfl rfl)
theorem dX1_row_38 : decode cX1_row 38 = .ok (.iconst 1, 1) := dk_4 (dk_at dksX1_row_1 14 rfl rfl)
theorem dX1_row_39 : decode cX1_row 39 = .ok (.if_icmp .ne 11, 3) := dk_160 0 11 (dk_at dksX1_row_1 15 rfl rfl)
theorem dX1_row_42 : decode cX1_row 42 = .ok (.iload_n 3, 1) := dk_29 (dk_at dksX1_row_1 18 rfl rfl)
theorem dX1_row_43 : decode cX1_row 43 = .ok (.newarray .short, 2) := dk_188_9 (dk_at dksX1_row_1 19 rfl rfl)
theorem dX1_row_45 : decode cX1_row 45 = .ok (.astore 4, 2) := dk_58 4 (dk_at dksX1_row_1 21 rfl rfl)
theorem dX1_row_47 : decode cX1_row 47 = .ok (.goto 8, 3) := dk_167 0 8 (dk_at dksX1_row_2 0 rfl rfl)
theorem dX1_row_50 : decode cX1_row 50 = .ok (.iload_n 3, 1) := dk_29 (dk_at dksX1_row_2 3 rfl rfl)
theorem dX1_row_51 : decode cX1_row 51 = .ok (.newarray .int, 2) := dk_188_10 (dk_at dksX1_row_2 4 rfl rfl)
theorem dX1_row_53 : decode cX1_row 53 = .ok (.astore 4, 2) := dk_58 4 (dk_at dksX1_row_2 6 rfl rfl)
theorem dX1_row_55 : decode cX1_row 55 = .ok (.aload_n 0, 1) := dk_42 (dk_at dksX1_row_2 8 rfl rfl)
theorem dX1_row_56 : decode cX1_row 56 = .ok (.getfield 141, 3) := dk_180 0 141 (dk_at dksX1_row_2 9 rfl rfl)
theorem dX1_row_59 : decode cX1_row 59 = .ok (.iload_n 1, 1) := dk_27 (dk_at dksX1_row_2 12 rfl rfl)
theorem dX1_row_60 : decode cX1_row 60 = .ok (.aaload, 1) := dk_50 (dk_at dksX1_row_2 13 rfl rfl)
theorem dX1_row_61 : decode cX1_row 61 = .ok (.aload 4, 2) := dk_25 4 (dk_at dksX1_row_2 14 rfl rfl)
theorem dX1_row_63 : decode cX1_row 63 = .ok (.putfield 145, 3) := dk_181 0 145 (dk_at dksX1_row_2 16 rfl rfl)
theorem dX1_row_66 : decode cX1_row 66 = .ok (.iconst 0, 1) := dk_3 (dk_at dksX1_row_2 19 rfl rfl)
theorem dX1_row_67 : decode cX1_row 67 = .ok (.ireturn, 1) := dk_172 (dk_at dksX1_row_2 20 rfl rfl)
theorem dX1_row_68 : decode cX1_row 68 = .ok (.astore 4, 2) := dk_58 4 (dk_at dksX1_row_2 21 rfl rfl)
theorem dX1_row_70 : decode cX1_row 70 = .ok (.bipush (-14), 2) := dk_16 242 (dk_at dksX1_row_3 0 rfl rfl)
theorem dX1_row_72 : decode cX1_row 72 = .ok (.ireturn, 1) := dk_172 (dk_at dksX1_row_3 2 rfl rfl)
abbrev cX1_put : ByteArray := prog_1_method_71_code
def yX1_put : MethodName := ⟨RX1, "put", "(III)I"⟩
def dkwX1_put_3 : List UInt8 := [25, 4, 192, 1, 46, 28, 29, 79, 3, 172, 58, 5, 16, 244, 172, 58, 5, 16, 243, 172]
abbrev dktX1_put_3 : List UInt8 := dkwX1_put_3 ++ []
def dkwX1_put_2 : List UInt8 := [167, 0, 31, 25, 4, 193, 1, 44, 153, 0, 15, 25, 4, 192, 1, 44, 28, 29, 147, 86, 167, 0, 11]
abbrev dktX1_put_2 : List UInt8 := dkwX1_put_2 ++ dktX1_put_3
def dkwX1_put_1 : List UInt8 := [199, 0, 6, 16, 245, 172, 25, 4, 193, 0, 151, 153, 0, 15, 25, 4, 192, 0, 151, 28, 29, 145, 84]
abbrev dktX1_put_1 : List UInt8 := dkwX1_put_1 ++ dktX1_put_2
def dkwX1_put_0 : List UInt8 := [42, 27, 182, 0, 138, 154, 0, 5, 2, 172, 42, 180, 0, 141, 27, 50, 180, 0, 145, 58, 4, 25, 4]
abbrev dktX1_put_0 : List UInt8 := dkwX1_put_0 ++ dktX1_put_1
theorem dksX1_put_0 : cX1_put.data.toList.drop 0 = dktX1_put_0 := by decide +kernel
theorem dksX1_put_1 : cX1_put.data.toList.drop 23 = dktX1_put_1 := dk_seg dksX1_put_0 23 rfl rfl
theorem dksX1_put_2 : cX1_put.data.toList.drop 46 = dktX1_put_2 := dk_seg dksX1_put_1 23 rfl rfl
theorem dksX1_put_3 : cX1_put.data.toList.drop 69 = dktX1_put_3 := dk_seg dksX1_put_2 23 rfl rfl
theorem dX1_put_0 : decode cX1_put 0 = .ok (.aload_n 0, 1) := dk_42 (dk_at dksX1_put_0 0 rfl rfl)
theorem dX1_put_1 : decode cX1_put 1 = .ok (.iload_n 1, 1) := dk_27 (dk_at dksX1_put_0 1 rfl rfl)
theorem dX1_put_2 : decode cX1_put 2 = .ok (.invokevirtual 138, 3) := dk_182 0 138 (dk_at dksX1_put_0 2 rfl rfl)
theorem dX1_put_5 : decode cX1_put 5 = .ok (.ifCond .ne 5, 3) := dk_154 0 5 (dk_at dksX1_put_0 5 rfl rfl)
theorem dX1_put_8 : decode cX1_put 8 = .ok (.iconst (-1), 1) := dk_2 (dk_at dksX1_put_0 8 rfl rfl)
theorem dX1_put_9 : decode cX1_put 9 = .ok (.ireturn, 1) := dk_172 (dk_at dksX1_put_0 9 rfl rfl)
theorem dX1_put_10 : decode cX1_put 10 = .ok (.aload_n 0, 1) := dk_42 (dk_at dksX1_put_0 10 rfl rfl)
theorem dX1_put_11 : decode cX1_put 11 = .ok (.getfield 141, 3) := dk_180 0 141 (dk_at dksX1_put_0 11 rfl rfl)
theorem dX1_put_14 : decode cX1_put 14 = .ok (.iload_n 1, 1) := dk_27 (dk_at dksX1_put_0 14 rfl rfl)
theorem dX1_put_15 : decode cX1_put 15 = .ok (.aaload, 1) := dk_50 (dk_at dksX1_put_0 15 rfl rfl)
theorem dX1_put_16 : decode cX1_put 16 = .ok (.getfield 145, 3) := dk_180 0 145 (dk_at dksX1_put_0 16 rfl rfl)
theorem dX1_put_19 : decode cX1_put 19 = .ok (.astore 4, 2) := dk_58 4 (dk_at dksX1_put_0 19 rfl rfl)
theorem dX1_put_21 : decode cX1_put 21 = .ok (.aload 4, 2) := dk_25 4 (dk_at dksX1_put_0 21 rfl rfl)
theorem dX1_put_23 : decode cX1_put 23 = .ok (.ifnonnull 6, 3) := dk_199 0 6 (dk_at dksX1_put_1 0 rfl rfl)
theorem dX1_put_26 : decode cX1_put 26 = .ok (.bipush (-11), 2) := dk_16 245 (dk_at dksX1_put_1 3 rfl rfl)
theorem dX1_put_28 : decode cX1_put 28 = .ok (.ireturn, 1) := dk_172 (dk_at dksX1_put_1 5 rfl rfl)
theorem dX1_put_29 : decode cX1_put 29 = .ok (.aload 4, 2) := dk_25 4 (dk_at dksX1_put_1 6 rfl rfl)
theorem dX1_put_31 : decode cX1_put 31 = .ok (.instanceof 151, 3) := dk_193 0 151 (dk_at dksX1_put_1 8 rfl rfl)
theorem dX1_put_34 : decode cX1_put 34 = .ok (.ifCond .eq 15, 3) := dk_153 0 15 (dk_at dksX1_put_1 11 rfl rfl)
theorem dX1_put_37 : decode cX1_put 37 = .ok (.aload 4, 2) := dk_25 4 (dk_at dksX1_put_1 14 rfl rfl)
theorem dX1_put_39 : decode cX1_put 39 = .ok (.checkcast 151, 3) := dk_192 0 151 (dk_at dksX1_put_1 16 rfl rfl)
theorem dX1_put_42 : decode cX1_put 42 = .ok (.iload_n 2, 1) := dk_28 (dk_at dksX1_put_1 19 rfl rfl)
theorem dX1_put_43 : decode cX1_put 43 = .ok (.iload_n 3, 1) := dk_29 (dk_at dksX1_put_1 20 rfl rfl)
theorem dX1_put_44 : decode cX1_put 44 = .ok (.i2b, 1) := dk_145 (dk_at dksX1_put_1 21 rfl rfl)
theorem dX1_put_45 : decode cX1_put 45 = .ok (.bastore, 1) := dk_84 (dk_at dksX1_put_1 22 rfl rfl)
theorem dX1_put_46 : decode cX1_put 46 = .ok (.goto 31, 3) := dk_167 0 31 (dk_at dksX1_put_2 0 rfl rfl)
theorem dX1_put_49 : decode cX1_put 49 = .ok (.aload 4, 2) := dk_25 4 (dk_at dksX1_put_2 3 rfl rfl)
theorem dX1_put_51 : decode cX1_put 51 = .ok (.instanceof 300, 3) := dk_193 1 44 (dk_at dksX1_put_2 5 rfl rfl)
theorem dX1_put_54 : decode cX1_put 54 = .ok (.ifCond .eq 15, 3) := dk_153 0 15 (dk_at dksX1_put_2 8 rfl rfl)
theorem dX1_put_57 : decode cX1_put 57 = .ok (.aload 4, 2) := dk_25 4 (dk_at dksX1_put_2 11 rfl rfl)
theorem dX1_put_59 : decode cX1_put 59 = .ok (.checkcast 300, 3) := dk_192 1 44 (dk_at dksX1_put_2 13 rfl rfl)
theorem dX1_put_62 : decode cX1_put 62 = .ok (.iload_n 2, 1) := dk_28 (dk_at dksX1_put_2 16 rfl rfl)
theorem dX1_put_63 : decode cX1_put 63 = .ok (.iload_n 3, 1) := dk_29 (dk_at dksX1_put_2 17 rfl rfl)
theorem dX1_put_64 : decode cX1_put 64 = .ok (.i2s, 1) := dk_147 (dk_at dksX1_put_2 18 rfl rfl)
theorem dX1_put_65 : decode cX1_put 65 = .ok (.sastore, 1) := dk_86 (dk_at dksX1_put_2 19 rfl rfl)
theorem dX1_put_66 : decode cX1_put 66 = .ok (.goto 11, 3) := dk_167 0 11 (dk_at dksX1_put_2 20 rfl rfl)
theorem dX1_put_69 : decode cX1_put 69 = .ok (.aload 4, 2) := dk_25 4 (dk_at dksX1_put_3 0 rfl rfl)
theorem dX1_put_71 : decode cX1_put 71 = .ok (.checkcast 302, 3) := dk_192 1 46 (dk_at dksX1_put_3 2 rfl rfl)
theorem dX1_put_74 : decode cX1_put 74 = .ok (.iload_n 2, 1) := dk_28 (dk_at dksX1_put_3 5 rfl rfl)
theorem dX1_put_75 : decode cX1_put 75 = .ok (.iload_n 3, 1) := dk_29 (dk_at dksX1_put_3 6 rfl rfl)
theorem dX1_put_76 : decode cX1_put 76 = .ok (.iastore, 1) := dk_79 (dk_at dksX1_put_3 7 rfl rfl)
theorem dX1_put_77 : decode cX1_put 77 = .ok (.iconst 0, 1) := dk_3 (dk_at dksX1_put_3 8 rfl rfl)
theorem dX1_put_78 : decode cX1_put 78 = .ok (.ireturn, 1) := dk_172 (dk_at dksX1_put_3 9 rfl rfl)
theorem dX1_put_79 : decode cX1_put 79 = .ok (.astore 5, 2) := dk_58 5 (dk_at dksX1_put_3 10 rfl rfl)
theorem dX1_put_81 : decode cX1_put 81 = .ok (.bipush (-12), 2) := dk_16 244 (dk_at dksX1_put_3 12 rfl rfl)
theorem dX1_put_83 : decode cX1_put 83 = .ok (.ireturn, 1) := dk_172 (dk_at dksX1_put_3 14 rfl rfl)
theorem dX1_put_84 : decode cX1_put 84 = .ok (.astore 5, 2) := dk_58 5 (dk_at dksX1_put_3 15 rfl rfl)
theorem dX1_put_86 : decode cX1_put 86 = .ok (.bipush (-13), 2) := dk_16 243 (dk_at dksX1_put_3 17 rfl rfl)
theorem dX1_put_88 : decode cX1_put 88 = .ok (.ireturn, 1) := dk_172 (dk_at dksX1_put_3 19 rfl rfl)
abbrev cX1_copy : ByteArray := prog_1_method_73_code
def yX1_copy : MethodName := ⟨RX1, "copy", "(IIIII)I"⟩
def dkwX1_copy_4 : List UInt8 := [58, 8, 16, 243, 172]
abbrev dktX1_copy_4 : List UInt8 := dkwX1_copy_4 ++ []
def dkwX1_copy_3 : List UInt8 := [184, 1, 52, 159, 0, 6, 16, 244, 172, 25, 6, 28, 25, 7, 21, 4, 21, 5, 184, 1, 14, 21, 5, 172]
abbrev dktX1_copy_3 : List UInt8 := dkwX1_copy_3 ++ dktX1_copy_4
def dkwX1_copy_2 : List UInt8 := [199, 0, 6, 16, 245, 172, 25, 6, 184, 1, 52, 2, 159, 0, 16, 25, 6, 184, 1, 52, 25, 7]
abbrev dktX1_copy_2 : List UInt8 := dkwX1_copy_2 ++ dktX1_copy_3
def dkwX1_copy_1 : List UInt8 := [180, 0, 145, 58, 6, 42, 180, 0, 141, 29, 50, 180, 0, 145, 58, 7, 25, 6, 198, 0, 8, 25, 7]
abbrev dktX1_copy_1 : List UInt8 := dkwX1_copy_1 ++ dktX1_copy_2
def dkwX1_copy_0 : List UInt8 := [42, 27, 182, 0, 138, 153, 0, 11, 42, 29, 182, 0, 138, 154, 0, 5, 2, 172, 42, 180, 0, 141, 27, 50]
abbrev dktX1_copy_0 : List UInt8 := dkwX1_copy_0 ++ dktX1_copy_1
theorem dksX1_copy_0 : cX1_copy.data.toList.drop 0 = dktX1_copy_0 := by decide +kernel
theorem dksX1_copy_1 : cX1_copy.data.toList.drop 24 = dktX1_copy_1 := dk_seg dksX1_copy_0 24 rfl rfl
theorem dksX1_copy_2 : cX1_copy.data.toList.drop 47 = dktX1_copy_2 := dk_seg dksX1_copy_1 23 rfl rfl
theorem dksX1_copy_3 : cX1_copy.data.toList.drop 69 = dktX1_copy_3 := dk_seg dksX1_copy_2 22 rfl rfl
theorem dksX1_copy_4 : cX1_copy.data.toList.drop 93 = dktX1_copy_4 := dk_seg dksX1_copy_3 24 rfl rfl
theorem dX1_copy_0 : decode cX1_copy 0 = .ok (.aload_n 0, 1) := dk_42 (dk_at dksX1_copy_0 0 rfl rfl)
theorem dX1_copy_1 : decode cX1_copy 1 = .ok (.iload_n 1, 1) := dk_27 (dk_at dksX1_copy_0 1 rfl rfl)
theorem dX1_copy_2 : decode cX1_copy 2 = .ok (.invokevirtual 138, 3) := dk_182 0 138 (dk_at dksX1_copy_0 2 rfl rfl)
theorem dX1_copy_5 : decode cX1_copy 5 = .ok (.ifCond .eq 11, 3) := dk_153 0 11 (dk_at dksX1_copy_0 5 rfl rfl)
theorem dX1_copy_8 : decode cX1_copy 8 = .ok (.aload_n 0, 1) := dk_42 (dk_at dksX1_copy_0 8 rfl rfl)
theorem dX1_copy_9 : decode cX1_copy 9 = .ok (.iload_n 3, 1) := dk_29 (dk_at dksX1_copy_0 9 rfl rfl)
theorem dX1_copy_10 : decode cX1_copy 10 = .ok (.invokevirtual 138, 3) := dk_182 0 138 (dk_at dksX1_copy_0 10 rfl rfl)
theorem dX1_copy_13 : decode cX1_copy 13 = .ok (.ifCond .ne 5, 3) := dk_154 0 5 (dk_at dksX1_copy_0 13 rfl rfl)
theorem dX1_copy_16 : decode cX1_copy 16 = .ok (.iconst (-1), 1) := dk_2 (dk_at dksX1_copy_0 16 rfl rfl)
theorem dX1_copy_17 : decode cX1_copy 17 = .ok (.ireturn, 1) := dk_172 (dk_at dksX1_copy_0 17 rfl rfl)
theorem dX1_copy_18 : decode cX1_copy 18 = .ok (.aload_n 0, 1) := dk_42 (dk_at dksX1_copy_0 18 rfl rfl)
theorem dX1_copy_19 : decode cX1_copy 19 = .ok (.getfield 141, 3) := dk_180 0 141 (dk_at dksX1_copy_0 19 rfl rfl)
theorem dX1_copy_22 : decode cX1_copy 22 = .ok (.iload_n 1, 1) := dk_27 (dk_at dksX1_copy_0 22 rfl rfl)
theorem dX1_copy_23 : decode cX1_copy 23 = .ok (.aaload, 1) := dk_50 (dk_at dksX1_copy_0 23 rfl rfl)
theorem dX1_copy_24 : decode cX1_copy 24 = .ok (.getfield 145, 3) := dk_180 0 145 (dk_at dksX1_copy_1 0 rfl rfl)
theorem dX1_copy_27 : decode cX1_copy 27 = .ok (.astore 6, 2) := dk_58 6 (dk_at dksX1_copy_1 3 rfl rfl)
theorem dX1_copy_29 : decode cX1_copy 29 = .ok (.aload_n 0, 1) := dk_42 (dk_at dksX1_copy_1 5 rfl rfl)
theorem dX1_copy_30 : decode cX1_copy 30 = .ok (.getfield 141, 3) := dk_180 0 141 (dk_at dksX1_copy_1 6 rfl rfl)
theorem dX1_copy_33 : decode cX1_copy 33 = .ok (.iload_n 3, 1) := dk_29 (dk_at dksX1_copy_1 9 rfl rfl)
theorem dX1_copy_34 : decode cX1_copy 34 = .ok (.aaload, 1) := dk_50 (dk_at dksX1_copy_1 10 rfl rfl)
theorem dX1_copy_35 : decode cX1_copy 35 = .ok (.getfield 145, 3) := dk_180 0 145 (dk_at dksX1_copy_1 11 rfl rfl)
theorem dX1_copy_38 : decode cX1_copy 38 = .ok (.astore 7, 2) := dk_58 7 (dk_at dksX1_copy_1 14 rfl rfl)
theorem dX1_copy_40 : decode cX1_copy 40 = .ok (.aload 6, 2) := dk_25 6 (dk_at dksX1_copy_1 16 rfl rfl)
theorem dX1_copy_42 : decode cX1_copy 42 = .ok (.ifnull 8, 3) := dk_198 0 8 (dk_at dksX1_copy_1 18 rfl rfl)
theorem dX1_copy_45 : decode cX1_copy 45 = .ok (.aload 7, 2) := dk_25 7 (dk_at dksX1_copy_1 21 rfl rfl)
theorem dX1_copy_47 : decode cX1_copy 47 = .ok (.ifnonnull 6, 3) := dk_199 0 6 (dk_at dksX1_copy_2 0 rfl rfl)
theorem dX1_copy_50 : decode cX1_copy 50 = .ok (.bipush (-11), 2) := dk_16 245 (dk_at dksX1_copy_2 3 rfl rfl)
theorem dX1_copy_52 : decode cX1_copy 52 = .ok (.ireturn, 1) := dk_172 (dk_at dksX1_copy_2 5 rfl rfl)
theorem dX1_copy_53 : decode cX1_copy 53 = .ok (.aload 6, 2) := dk_25 6 (dk_at dksX1_copy_2 6 rfl rfl)
theorem dX1_copy_55 : decode cX1_copy 55 = .ok (.invokestatic 308, 3) := dk_184 1 52 (dk_at dksX1_copy_2 8 rfl rfl)
theorem dX1_copy_58 : decode cX1_copy 58 = .ok (.iconst (-1), 1) := dk_2 (dk_at dksX1_copy_2 11 rfl rfl)
theorem dX1_copy_59 : decode cX1_copy 59 = .ok (.if_icmp .eq 16, 3) := dk_159 0 16 (dk_at dksX1_copy_2 12 rfl rfl)
theorem dX1_copy_62 : decode cX1_copy 62 = .ok (.aload 6, 2) := dk_25 6 (dk_at dksX1_copy_2 15 rfl rfl)
theorem dX1_copy_64 : decode cX1_copy 64 = .ok (.invokestatic 308, 3) := dk_184 1 52 (dk_at dksX1_copy_2 17 rfl rfl)
theorem dX1_copy_67 : decode cX1_copy 67 = .ok (.aload 7, 2) := dk_25 7 (dk_at dksX1_copy_2 20 rfl rfl)
theorem dX1_copy_69 : decode cX1_copy 69 = .ok (.invokestatic 308, 3) := dk_184 1 52 (dk_at dksX1_copy_3 0 rfl rfl)
theorem dX1_copy_72 : decode cX1_copy 72 = .ok (.if_icmp .eq 6, 3) := dk_159 0 6 (dk_at dksX1_copy_3 3 rfl rfl)
theorem dX1_copy_75 : decode cX1_copy 75 = .ok (.bipush (-12), 2) := dk_16 244 (dk_at dksX1_copy_3 6 rfl rfl)
theorem dX1_copy_77 : decode cX1_copy 77 = .ok (.ireturn, 1) := dk_172 (dk_at dksX1_copy_3 8 rfl rfl)
theorem dX1_copy_78 : decode cX1_copy 78 = .ok (.aload 6, 2) := dk_25 6 (dk_at dksX1_copy_3 9 rfl rfl)
theorem dX1_copy_80 : decode cX1_copy 80 = .ok (.iload_n 2, 1) := dk_28 (dk_at dksX1_copy_3 11 rfl rfl)
theorem dX1_copy_81 : decode cX1_copy 81 = .ok (.aload 7, 2) := dk_25 7 (dk_at dksX1_copy_3 12 rfl rfl)
theorem dX1_copy_83 : decode cX1_copy 83 = .ok (.iload 4, 2) := dk_21 4 (dk_at dksX1_copy_3 14 rfl rfl)
theorem dX1_copy_85 : decode cX1_copy 85 = .ok (.iload 5, 2) := dk_21 5 (dk_at dksX1_copy_3 16 rfl rfl)
theorem dX1_copy_87 : decode cX1_copy 87 = .ok (.invokestatic 270, 3) := dk_184 1 14 (dk_at dksX1_copy_3 18 rfl rfl)
theorem dX1_copy_90 : decode cX1_copy 90 = .ok (.iload 5, 2) := dk_21 5 (dk_at dksX1_copy_3 21 rfl rfl)
theorem dX1_copy_92 : decode cX1_copy 92 = .ok (.ireturn, 1) := dk_172 (dk_at dksX1_copy_3 23 rfl rfl)
theorem dX1_copy_93 : decode cX1_copy 93 = .ok (.astore 8, 2) := dk_58 8 (dk_at dksX1_copy_4 0 rfl rfl)
theorem dX1_copy_95 : decode cX1_copy 95 = .ok (.bipush (-13), 2) := dk_16 243 (dk_at dksX1_copy_4 2 rfl rfl)
theorem dX1_copy_97 : decode cX1_copy 97 = .ok (.ireturn, 1) := dk_172 (dk_at dksX1_copy_4 4 rfl rfl)
abbrev cX1_cost : ByteArray := prog_1_method_74_code
def yX1_cost : MethodName := ⟨RX1, "cost", "(I)I"⟩
def dkwX1_cost_1 : List UInt8 := [182, 1, 118, 172, 77, 16, 245, 172, 77, 16, 244, 172]
abbrev dktX1_cost_1 : List UInt8 := dkwX1_cost_1 ++ []
def dkwX1_cost_0 : List UInt8 := [42, 27, 182, 0, 138, 154, 0, 5, 2, 172, 42, 180, 0, 141, 27, 50, 180, 0, 145, 192, 0, 12]
abbrev dktX1_cost_0 : List UInt8 := dkwX1_cost_0 ++ dktX1_cost_1
theorem dksX1_cost_0 : cX1_cost.data.toList.drop 0 = dktX1_cost_0 := by decide +kernel
theorem dksX1_cost_1 : cX1_cost.data.toList.drop 22 = dktX1_cost_1 := dk_seg dksX1_cost_0 22 rfl rfl
theorem dX1_cost_0 : decode cX1_cost 0 = .ok (.aload_n 0, 1) := dk_42 (dk_at dksX1_cost_0 0 rfl rfl)
theorem dX1_cost_1 : decode cX1_cost 1 = .ok (.iload_n 1, 1) := dk_27 (dk_at dksX1_cost_0 1 rfl rfl)
theorem dX1_cost_2 : decode cX1_cost 2 = .ok (.invokevirtual 138, 3) := dk_182 0 138 (dk_at dksX1_cost_0 2 rfl rfl)
theorem dX1_cost_5 : decode cX1_cost 5 = .ok (.ifCond .ne 5, 3) := dk_154 0 5 (dk_at dksX1_cost_0 5 rfl rfl)
theorem dX1_cost_8 : decode cX1_cost 8 = .ok (.iconst (-1), 1) := dk_2 (dk_at dksX1_cost_0 8 rfl rfl)
theorem dX1_cost_9 : decode cX1_cost 9 = .ok (.ireturn, 1) := dk_172 (dk_at dksX1_cost_0 9 rfl rfl)
theorem dX1_cost_10 : decode cX1_cost 10 = .ok (.aload_n 0, 1) := dk_42 (dk_at dksX1_cost_0 10 rfl rfl)
theorem dX1_cost_11 : decode cX1_cost 11 = .ok (.getfield 141, 3) := dk_180 0 141 (dk_at dksX1_cost_0 11 rfl rfl)
theorem dX1_cost_14 : decode cX1_cost 14 = .ok (.iload_n 1, 1) := dk_27 (dk_at dksX1_cost_0 14 rfl rfl)
theorem dX1_cost_15 : decode cX1_cost 15 = .ok (.aaload, 1) := dk_50 (dk_at dksX1_cost_0 15 rfl rfl)
theorem dX1_cost_16 : decode cX1_cost 16 = .ok (.getfield 145, 3) := dk_180 0 145 (dk_at dksX1_cost_0 16 rfl rfl)
theorem dX1_cost_19 : decode cX1_cost 19 = .ok (.checkcast 12, 3) := dk_192 0 12 (dk_at dksX1_cost_0 19 rfl rfl)
theorem dX1_cost_22 : decode cX1_cost 22 = .ok (.invokevirtual 374, 3) := dk_182 1 118 (dk_at dksX1_cost_1 0 rfl rfl)
theorem dX1_cost_25 : decode cX1_cost 25 = .ok (.ireturn, 1) := dk_172 (dk_at dksX1_cost_1 3 rfl rfl)
theorem dX1_cost_26 : decode cX1_cost 26 = .ok (.astore_n 2, 1) := dk_77 (dk_at dksX1_cost_1 4 rfl rfl)
theorem dX1_cost_27 : decode cX1_cost 27 = .ok (.bipush (-11), 2) := dk_16 245 (dk_at dksX1_cost_1 5 rfl rfl)
theorem dX1_cost_29 : decode cX1_cost 29 = .ok (.ireturn, 1) := dk_172 (dk_at dksX1_cost_1 7 rfl rfl)
theorem dX1_cost_30 : decode cX1_cost 30 = .ok (.astore_n 2, 1) := dk_77 (dk_at dksX1_cost_1 8 rfl rfl)
theorem dX1_cost_31 : decode cX1_cost 31 = .ok (.bipush (-12), 2) := dk_16 244 (dk_at dksX1_cost_1 9 rfl rfl)
theorem dX1_cost_33 : decode cX1_cost 33 = .ok (.ireturn, 1) := dk_172 (dk_at dksX1_cost_1 11 rfl rfl)
abbrev cX1_toss : ByteArray := prog_1_method_75_code
def yX1_toss : MethodName := ⟨RX1, "toss", "(I)I"⟩
def dkwX1_toss_2 : List UInt8 := [16, 241, 172, 77, 16, 244, 172]
abbrev dktX1_toss_2 : List UInt8 := dkwX1_toss_2 ++ []
def dkwX1_toss_1 : List UInt8 := [172, 42, 180, 0, 141, 27, 50, 180, 0, 145, 192, 0, 12, 182, 1, 121, 191, 77, 44, 180, 1, 127, 172, 77]
abbrev dktX1_toss_1 : List UInt8 := dkwX1_toss_1 ++ dktX1_toss_2
def dkwX1_toss_0 : List UInt8 := [42, 27, 182, 0, 138, 154, 0, 5, 2, 172, 42, 180, 0, 141, 27, 50, 180, 0, 145, 199, 0, 6, 16, 245]
abbrev dktX1_toss_0 : List UInt8 := dkwX1_toss_0 ++ dktX1_toss_1
theorem dksX1_toss_0 : cX1_toss.data.toList.drop 0 = dktX1_toss_0 := by decide +kernel
theorem dksX1_toss_1 : cX1_toss.data.toList.drop 24 = dktX1_toss_1 := dk_seg dksX1_toss_0 24 rfl rfl
theorem dksX1_toss_2 : cX1_toss.data.toList.drop 48 = dktX1_toss_2 := dk_seg dksX1_toss_1 24 rfl rfl
theorem dX1_toss_0 : decode cX1_toss 0 = .ok (.aload_n 0, 1) := dk_42 (dk_at dksX1_toss_0 0 rfl rfl)
theorem dX1_toss_1 : decode cX1_toss 1 = .ok (.iload_n 1, 1) := dk_27 (dk_at dksX1_toss_0 1 rfl rfl)
theorem dX1_toss_2 : decode cX1_toss 2 = .ok (.invokevirtual 138, 3) := dk_182 0 138 (dk_at dksX1_toss_0 2 rfl rfl)
theorem dX1_toss_5 : decode cX1_toss 5 = .ok (.ifCond .ne 5, 3) := dk_154 0 5 (dk_at dksX1_toss_0 5 rfl rfl)
theorem dX1_toss_8 : decode cX1_toss 8 = .ok (.iconst (-1), 1) := dk_2 (dk_at dksX1_toss_0 8 rfl rfl)
theorem dX1_toss_9 : decode cX1_toss 9 = .ok (.ireturn, 1) := dk_172 (dk_at dksX1_toss_0 9 rfl rfl)
theorem dX1_toss_10 : decode cX1_toss 10 = .ok (.aload_n 0, 1) := dk_42 (dk_at dksX1_toss_0 10 rfl rfl)
theorem dX1_toss_11 : decode cX1_toss 11 = .ok (.getfield 141, 3) := dk_180 0 141 (dk_at dksX1_toss_0 11 rfl rfl)
theorem dX1_toss_14 : decode cX1_toss 14 = .ok (.iload_n 1, 1) := dk_27 (dk_at dksX1_toss_0 14 rfl rfl)
theorem dX1_toss_15 : decode cX1_toss 15 = .ok (.aaload, 1) := dk_50 (dk_at dksX1_toss_0 15 rfl rfl)
theorem dX1_toss_16 : decode cX1_toss 16 = .ok (.getfield 145, 3) := dk_180 0 145 (dk_at dksX1_toss_0 16 rfl rfl)
theorem dX1_toss_19 : decode cX1_toss 19 = .ok (.ifnonnull 6, 3) := dk_199 0 6 (dk_at dksX1_toss_0 19 rfl rfl)
theorem dX1_toss_22 : decode cX1_toss 22 = .ok (.bipush (-11), 2) := dk_16 245 (dk_at dksX1_toss_0 22 rfl rfl)
theorem dX1_toss_24 : decode cX1_toss 24 = .ok (.ireturn, 1) := dk_172 (dk_at dksX1_toss_1 0 rfl rfl)
theorem dX1_toss_25 : decode cX1_toss 25 = .ok (.aload_n 0, 1) := dk_42 (dk_at dksX1_toss_1 1 rfl rfl)
theorem dX1_toss_26 : decode cX1_toss 26 = .ok (.getfield 141, 3) := dk_180 0 141 (dk_at dksX1_toss_1 2 rfl rfl)
theorem dX1_toss_29 : decode cX1_toss 29 = .ok (.iload_n 1, 1) := dk_27 (dk_at dksX1_toss_1 5 rfl rfl)
theorem dX1_toss_30 : decode cX1_toss 30 = .ok (.aaload, 1) := dk_50 (dk_at dksX1_toss_1 6 rfl rfl)
theorem dX1_toss_31 : decode cX1_toss 31 = .ok (.getfield 145, 3) := dk_180 0 145 (dk_at dksX1_toss_1 7 rfl rfl)
theorem dX1_toss_34 : decode cX1_toss 34 = .ok (.checkcast 12, 3) := dk_192 0 12 (dk_at dksX1_toss_1 10 rfl rfl)
theorem dX1_toss_37 : decode cX1_toss 37 = .ok (.invokevirtual 377, 3) := dk_182 1 121 (dk_at dksX1_toss_1 13 rfl rfl)
theorem dX1_toss_40 : decode cX1_toss 40 = .ok (.athrow, 1) := dk_191 (dk_at dksX1_toss_1 16 rfl rfl)
theorem dX1_toss_41 : decode cX1_toss 41 = .ok (.astore_n 2, 1) := dk_77 (dk_at dksX1_toss_1 17 rfl rfl)
theorem dX1_toss_42 : decode cX1_toss 42 = .ok (.aload_n 2, 1) := dk_44 (dk_at dksX1_toss_1 18 rfl rfl)
theorem dX1_toss_43 : decode cX1_toss 43 = .ok (.getfield 383, 3) := dk_180 1 127 (dk_at dksX1_toss_1 19 rfl rfl)
theorem dX1_toss_46 : decode cX1_toss 46 = .ok (.ireturn, 1) := dk_172 (dk_at dksX1_toss_1 22 rfl rfl)
theorem dX1_toss_47 : decode cX1_toss 47 = .ok (.astore_n 2, 1) := dk_77 (dk_at dksX1_toss_1 23 rfl rfl)
theorem dX1_toss_48 : decode cX1_toss 48 = .ok (.bipush (-15), 2) := dk_16 241 (dk_at dksX1_toss_2 0 rfl rfl)
theorem dX1_toss_50 : decode cX1_toss 50 = .ok (.ireturn, 1) := dk_172 (dk_at dksX1_toss_2 2 rfl rfl)
theorem dX1_toss_51 : decode cX1_toss 51 = .ok (.astore_n 2, 1) := dk_77 (dk_at dksX1_toss_2 3 rfl rfl)
theorem dX1_toss_52 : decode cX1_toss 52 = .ok (.bipush (-12), 2) := dk_16 244 (dk_at dksX1_toss_2 4 rfl rfl)
theorem dX1_toss_54 : decode cX1_toss 54 = .ok (.ireturn, 1) := dk_172 (dk_at dksX1_toss_2 6 rfl rfl)
abbrev cX1_element : ByteArray := prog_1_method_72_code
def yX1_element : MethodName := ⟨RX1, "element", "(II)J"⟩
def dkwX1_element_4 : List UInt8 := [191]
abbrev dktX1_element_4 : List UInt8 := dkwX1_element_4 ++ []
def dkwX1_element_3 : List UInt8 := [89, 183, 1, 115, 191, 58, 4, 187, 1, 113, 89, 183, 1, 115, 191, 58, 4, 187, 1, 113, 89, 183, 1, 115]
abbrev dktX1_element_3 : List UInt8 := dkwX1_element_3 ++ dktX1_element_4
def dkwX1_element_2 : List UInt8 := [153, 0, 11, 45, 192, 1, 44, 28, 53, 133, 173, 45, 192, 1, 46, 28, 46, 133, 173, 58, 4, 187, 1, 113]
abbrev dktX1_element_2 : List UInt8 := dkwX1_element_2 ++ dktX1_element_3
def dkwX1_element_1 : List UInt8 := [180, 0, 145, 78, 45, 193, 0, 151, 153, 0, 11, 45, 192, 0, 151, 28, 51, 133, 173, 45, 193, 1, 44]
abbrev dktX1_element_1 : List UInt8 := dkwX1_element_1 ++ dktX1_element_2
def dkwX1_element_0 : List UInt8 := [42, 27, 182, 0, 138, 154, 0, 11, 187, 1, 108, 89, 183, 1, 110, 191, 42, 180, 0, 141, 27, 50]
abbrev dktX1_element_0 : List UInt8 := dkwX1_element_0 ++ dktX1_element_1
theorem dksX1_element_0 : cX1_element.data.toList.drop 0 = dktX1_element_0 := by decide +kernel
theorem dksX1_element_1 : cX1_element.data.toList.drop 22 = dktX1_element_1 := dk_seg dksX1_element_0 22 rfl rfl
theorem dksX1_element_2 : cX1_element.data.toList.drop 45 = dktX1_element_2 := dk_seg dksX1_element_1 23 rfl rfl
theorem dksX1_element_3 : cX1_element.data.toList.drop 69 = dktX1_element_3 := dk_seg dksX1_element_2 24 rfl rfl
theorem dksX1_element_4 : cX1_element.data.toList.drop 93 = dktX1_element_4 := dk_seg dksX1_element_3 24 rfl rfl
theorem dX1_element_0 : decode cX1_element 0 = .ok (.aload_n 0, 1) := dk_42 (dk_at dksX1_element_0 0 rfl rfl)
theorem dX1_element_1 : decode cX1_element 1 = .ok (.iload_n 1, 1) := dk_27 (dk_at dksX1_element_0 1 rfl rfl)
theorem dX1_element_2 : decode cX1_element 2 = .ok (.invokevirtual 138, 3) := dk_182 0 138 (dk_at dksX1_element_0 2 rfl rfl)
theorem dX1_element_5 : decode cX1_element 5 = .ok (.ifCond .ne 11, 3) := dk_154 0 11 (dk_at dksX1_element_0 5 rfl rfl)
theorem dX1_element_8 : decode cX1_element 8 = .ok (.new 364, 3) := dk_187 1 108 (dk_at dksX1_element_0 8 rfl rfl)
theorem dX1_element_11 : decode cX1_element 11 = .ok (.dup, 1) := dk_89 (dk_at dksX1_element_0 11 rfl rfl)
theorem dX1_element_12 : decode cX1_element 12 = .ok (.invokespecial 366, 3) := dk_183 1 110 (dk_at dksX1_element_0 12 rfl rfl)
theorem dX1_element_15 : decode cX1_element 15 = .ok (.athrow, 1) := dk_191 (dk_at dksX1_element_0 15 rfl rfl)
theorem dX1_element_16 : decode cX1_element 16 = .ok (.aload_n 0, 1) := dk_42 (dk_at dksX1_element_0 16 rfl rfl)
theorem dX1_element_17 : decode cX1_element 17 = .ok (.getfield 141, 3) := dk_180 0 141 (dk_at dksX1_element_0 17 rfl rfl)
theorem dX1_element_20 : decode cX1_element 20 = .ok (.iload_n 1, 1) := dk_27 (dk_at dksX1_element_0 20 rfl rfl)
theorem dX1_element_21 : decode cX1_element 21 = .ok (.aaload, 1) := dk_50 (dk_at dksX1_element_0 21 rfl rfl)
theorem dX1_element_22 : decode cX1_element 22 = .ok (.getfield 145, 3) := dk_180 0 145 (dk_at dksX1_element_1 0 rfl rfl)
theorem dX1_element_25 : decode cX1_element 25 = .ok (.astore_n 3, 1) := dk_78 (dk_at dksX1_element_1 3 rfl rfl)
theorem dX1_element_26 : decode cX1_element 26 = .ok (.aload_n 3, 1) := dk_45 (dk_at dksX1_element_1 4 rfl rfl)
theorem dX1_element_27 : decode cX1_element 27 = .ok (.instanceof 151, 3) := dk_193 0 151 (dk_at dksX1_element_1 5 rfl rfl)
theorem dX1_element_30 : decode cX1_element 30 = .ok (.ifCond .eq 11, 3) := dk_153 0 11 (dk_at dksX1_element_1 8 rfl rfl)
theorem dX1_element_33 : decode cX1_element 33 = .ok (.aload_n 3, 1) := dk_45 (dk_at dksX1_element_1 11 rfl rfl)
theorem dX1_element_34 : decode cX1_element 34 = .ok (.checkcast 151, 3) := dk_192 0 151 (dk_at dksX1_element_1 12 rfl rfl)
theorem dX1_element_37 : decode cX1_element 37 = .ok (.iload_n 2, 1) := dk_28 (dk_at dksX1_element_1 15 rfl rfl)
theorem dX1_element_38 : decode cX1_element 38 = .ok (.baload, 1) := dk_51 (dk_at dksX1_element_1 16 rfl rfl)
theorem dX1_element_39 : decode cX1_element 39 = .ok (.i2l, 1) := dk_133 (dk_at dksX1_element_1 17 rfl rfl)
theorem dX1_element_40 : decode cX1_element 40 = .ok (.lreturn, 1) := dk_173 (dk_at dksX1_element_1 18 rfl rfl)
theorem dX1_element_41 : decode cX1_element 41 = .ok (.aload_n 3, 1) := dk_45 (dk_at dksX1_element_1 19 rfl rfl)
theorem dX1_element_42 : decode cX1_element 42 = .ok (.instanceof 300, 3) := dk_193 1 44 (dk_at dksX1_element_1 20 rfl rfl)
theorem dX1_element_45 : decode cX1_element 45 = .ok (.ifCond .eq 11, 3) := dk_153 0 11 (dk_at dksX1_element_2 0 rfl rfl)
theorem dX1_element_48 : decode cX1_element 48 = .ok (.aload_n 3, 1) := dk_45 (dk_at dksX1_element_2 3 rfl rfl)
theorem dX1_element_49 : decode cX1_element 49 = .ok (.checkcast 300, 3) := dk_192 1 44 (dk_at dksX1_element_2 4 rfl rfl)
theorem dX1_element_52 : decode cX1_element 52 = .ok (.iload_n 2, 1) := dk_28 (dk_at dksX1_element_2 7 rfl rfl)
theorem dX1_element_53 : decode cX1_element 53 = .ok (.saload, 1) := dk_53 (dk_at dksX1_element_2 8 rfl rfl)
theorem dX1_element_54 : decode cX1_element 54 = .ok (.i2l, 1) := dk_133 (dk_at dksX1_element_2 9 rfl rfl)
theorem dX1_element_55 : decode cX1_element 55 = .ok (.lreturn, 1) := dk_173 (dk_at dksX1_element_2 10 rfl rfl)
theorem dX1_element_56 : decode cX1_element 56 = .ok (.aload_n 3, 1) := dk_45 (dk_at dksX1_element_2 11 rfl rfl)
theorem dX1_element_57 : decode cX1_element 57 = .ok (.checkcast 302, 3) := dk_192 1 46 (dk_at dksX1_element_2 12 rfl rfl)
theorem dX1_element_60 : decode cX1_element 60 = .ok (.iload_n 2, 1) := dk_28 (dk_at dksX1_element_2 15 rfl rfl)
theorem dX1_element_61 : decode cX1_element 61 = .ok (.iaload, 1) := dk_46 (dk_at dksX1_element_2 16 rfl rfl)
theorem dX1_element_62 : decode cX1_element 62 = .ok (.i2l, 1) := dk_133 (dk_at dksX1_element_2 17 rfl rfl)
theorem dX1_element_63 : decode cX1_element 63 = .ok (.lreturn, 1) := dk_173 (dk_at dksX1_element_2 18 rfl rfl)
theorem dX1_element_64 : decode cX1_element 64 = .ok (.astore 4, 2) := dk_58 4 (dk_at dksX1_element_2 19 rfl rfl)
theorem dX1_element_66 : decode cX1_element 66 = .ok (.new 369, 3) := dk_187 1 113 (dk_at dksX1_element_2 21 rfl rfl)
theorem dX1_element_69 : decode cX1_element 69 = .ok (.dup, 1) := dk_89 (dk_at dksX1_element_3 0 rfl rfl)
theorem dX1_element_70 : decode cX1_element 70 = .ok (.invokespecial 371, 3) := dk_183 1 115 (dk_at dksX1_element_3 1 rfl rfl)
theorem dX1_element_73 : decode cX1_element 73 = .ok (.athrow, 1) := dk_191 (dk_at dksX1_element_3 4 rfl rfl)
theorem dX1_element_74 : decode cX1_element 74 = .ok (.astore 4, 2) := dk_58 4 (dk_at dksX1_element_3 5 rfl rfl)
theorem dX1_element_76 : decode cX1_element 76 = .ok (.new 369, 3) := dk_187 1 113 (dk_at dksX1_element_3 7 rfl rfl)
theorem dX1_element_79 : decode cX1_element 79 = .ok (.dup, 1) := dk_89 (dk_at dksX1_element_3 10 rfl rfl)
theorem dX1_element_80 : decode cX1_element 80 = .ok (.invokespecial 371, 3) := dk_183 1 115 (dk_at dksX1_element_3 11 rfl rfl)
theorem dX1_element_83 : decode cX1_element 83 = .ok (.athrow, 1) := dk_191 (dk_at dksX1_element_3 14 rfl rfl)
theorem dX1_element_84 : decode cX1_element 84 = .ok (.astore 4, 2) := dk_58 4 (dk_at dksX1_element_3 15 rfl rfl)
theorem dX1_element_86 : decode cX1_element 86 = .ok (.new 369, 3) := dk_187 1 113 (dk_at dksX1_element_3 17 rfl rfl)
theorem dX1_element_89 : decode cX1_element 89 = .ok (.dup, 1) := dk_89 (dk_at dksX1_element_3 20 rfl rfl)
theorem dX1_element_90 : decode cX1_element 90 = .ok (.invokespecial 371, 3) := dk_183 1 115 (dk_at dksX1_element_3 21 rfl rfl)
theorem dX1_element_93 : decode cX1_element 93 = .ok (.athrow, 1) := dk_191 (dk_at dksX1_element_4 0 rfl rfl)
theorem q79 : (Jvm.Cond.initialized "HandUnderTheChin") ∈ lw_all := lw_g (lw_at lw_m1 1 rfl) rfl
theorem q110 : (Jvm.Cond.instanceMethod ({ cls := "HandUnderTheChin", name := "bath", desc := "(I)I" } : Jvm.MethodName)) ∈ lw_all := lw_g (lw_at lw_m1 32 rfl) rfl
theorem q111 : (Jvm.Cond.selects "HandUnderTheChin" ({ cls := "HandUnderTheChin", name := "bath", desc := "(I)I" } : Jvm.MethodName) ({ cls := "HandUnderTheChin", name := "bath", desc := "(I)I" } : Jvm.MethodName)) ∈ lw_all := lw_g (lw_at lw_m1 33 rfl) rfl
theorem q112 : (Jvm.Cond.codeWith ({ cls := "HandUnderTheChin", name := "bath", desc := "(I)I" } : Jvm.MethodName) prog_1_method_14_code (3 : Nat) (Option.some Jvm.ClassFile.FieldType.int) [((10 : Nat), (37 : Nat), (38 : Nat), (157 : Nat)), ((10 : Nat), (37 : Nat), (42 : Nat), (132 : Nat))]) ∈ lw_all := lw_g (lw_at lw_m1 34 rfl) rfl
theorem q113 : (Jvm.Cond.classLink "HandUnderTheChin" (157 : Nat) "java/lang/ClassCastException") ∈ lw_all := lw_g (lw_at lw_m1 35 rfl) rfl
theorem q204 : (Jvm.Cond.classLink "HandUnderTheChin" (132 : Nat) "HandUnderTheChin$Broken") ∈ lw_all := lw_g (lw_at lw_m1 126 rfl) rfl
theorem q205 : (Jvm.Cond.methodLink "HandUnderTheChin" (138 : Nat) ({ cls := "HandUnderTheChin", name := "isShelf", desc := "(I)Z" } : Jvm.MethodName)) ∈ lw_all := lw_g (lw_at lw_m1 127 rfl) rfl
theorem q206 : (Jvm.Cond.privateMethod ({ cls := "HandUnderTheChin", name := "isShelf", desc := "(I)Z" } : Jvm.MethodName)) ∈ lw_tbl := lw_at lw_m1 128 rfl
theorem q207 : (Jvm.Cond.instanceMethod ({ cls := "HandUnderTheChin", name := "isShelf", desc := "(I)Z" } : Jvm.MethodName)) ∈ lw_all := lw_g (lw_at lw_m1 129 rfl) rfl
theorem q208 : (Jvm.Cond.instantiable "HandUnderTheChin" (13 : Nat)) ∈ lw_all := lw_g (lw_at lw_m1 130 rfl) rfl
theorem q209 : (Jvm.Cond.code ({ cls := "HandUnderTheChin", name := "isShelf", desc := "(I)Z" } : Jvm.MethodName) prog_1_method_5_code (2 : Nat) (Option.some Jvm.ClassFile.FieldType.boolean)) ∈ lw_all := lw_g (lw_at lw_m1 131 rfl) rfl
theorem q210 : (Jvm.Cond.methodLink "HandUnderTheChin" (39 : Nat) ({ cls := "HandUnderTheChin", name := "isIn", desc := "(III)Z" } : Jvm.MethodName)) ∈ lw_all := lw_g (lw_at lw_m1 132 rfl) rfl
theorem q211 : (Jvm.Cond.static ({ cls := "HandUnderTheChin", name := "isIn", desc := "(III)Z" } : Jvm.MethodName)) ∈ lw_all := lw_g (lw_at lw_m1 133 rfl) rfl
theorem q212 : (Jvm.Cond.code ({ cls := "HandUnderTheChin", name := "isIn", desc := "(III)Z" } : Jvm.MethodName) prog_1_method_1_code (3 : Nat) (Option.some Jvm.ClassFile.FieldType.boolean)) ∈ lw_all := lw_g (lw_at lw_m1 134 rfl) rfl
theorem q213 : (Jvm.Cond.classLink "HandUnderTheChin" (151 : Nat) "[B") ∈ lw_all := lw_g (lw_at lw_m1 135 rfl) rfl
theorem q214 : (Jvm.Cond.methodLink "HandUnderTheChin" (153 : Nat) ({ cls := "HandUnderTheChin", name := "reads", desc := "([B)I" } : Jvm.MethodName)) ∈ lw_all := lw_g (lw_at lw_m1 136 rfl) rfl
theorem q215 : (Jvm.Cond.privateMethod ({ cls := "HandUnderTheChin", name := "reads", desc := "([B)I" } : Jvm.MethodName)) ∈ lw_tbl := lw_at lw_m1 137 rfl
theorem q216 : (Jvm.Cond.instanceMethod ({ cls := "HandUnderTheChin", name := "reads", desc := "([B)I" } : Jvm.MethodName)) ∈ lw_all := lw_g (lw_at lw_m1 138 rfl) rfl
theorem q217 : (Jvm.Cond.code ({ cls := "HandUnderTheChin", name := "reads", desc := "([B)I" } : Jvm.MethodName) prog_1_method_13_code (4 : Nat) (Option.some Jvm.ClassFile.FieldType.int)) ∈ lw_all := lw_g (lw_at lw_m1 139 rfl) rfl
theorem q218 : (Jvm.Cond.classLink "HandUnderTheChin" (112 : Nat) "HandUnderTheChin$BathReader") ∈ lw_all := lw_g (lw_at lw_m1 140 rfl) rfl
theorem q220 : (Jvm.Cond.methodLink "HandUnderTheChin" (114 : Nat) ({ cls := "HandUnderTheChin$BathReader", name := "<init>", desc := "([B)V" } : Jvm.MethodName)) ∈ lw_all := lw_g (lw_at lw_m1 142 rfl) rfl
theorem q231 : (Jvm.Cond.methodLink "HandUnderTheChin" (121 : Nat) ({ cls := "HandUnderTheChin$BathReader", name := "whole", desc := "([LHandUnderTheChin$Told;)I" } : Jvm.MethodName)) ∈ lw_all := lw_g (lw_at lw_m1 153 rfl) rfl
theorem q251 : (Jvm.Cond.fieldLink "HandUnderTheChin" (89 : Nat) "HandUnderTheChin$Told" "letter" "I") ∈ lw_all := lw_g (lw_at lw_m1 173 rfl) rfl
theorem q253 : (Jvm.Cond.fieldLink "HandUnderTheChin" (134 : Nat) "HandUnderTheChin$Told" "at" "I") ∈ lw_all := lw_g (lw_at lw_m1 175 rfl) rfl
theorem q255 : (Jvm.Cond.fieldLink "HandUnderTheChin" (84 : Nat) "HandUnderTheChin$Told" "numbers" "[I") ∈ lw_all := lw_g (lw_at lw_m1 177 rfl) rfl
theorem q297 : (Jvm.Cond.fieldLink "HandUnderTheChin" (159 : Nat) "HandUnderTheChin$Broken" "code" "I") ∈ lw_all := lw_g (lw_at lw_m1 219 rfl) rfl
theorem q306 : (Jvm.Cond.methodLink "HandUnderTheChin" (125 : Nat) ({ cls := "HandUnderTheChin$Bath", name := "takes", desc := "(LHandUnderTheChin$Bath;)V" } : Jvm.MethodName)) ∈ lw_all := lw_g (lw_at lw_m1 228 rfl) rfl
theorem q316 : (Jvm.Cond.methodLink "HandUnderTheChin" (129 : Nat) ({ cls := "HandUnderTheChin", name := "comes", desc := "(LHandUnderTheChin$Told;)Z" } : Jvm.MethodName)) ∈ lw_all := lw_g (lw_at lw_m1 238 rfl) rfl
theorem q317 : (Jvm.Cond.privateMethod ({ cls := "HandUnderTheChin", name := "comes", desc := "(LHandUnderTheChin$Told;)Z" } : Jvm.MethodName)) ∈ lw_tbl := lw_at lw_m1 239 rfl
theorem q318 : (Jvm.Cond.instanceMethod ({ cls := "HandUnderTheChin", name := "comes", desc := "(LHandUnderTheChin$Told;)Z" } : Jvm.MethodName)) ∈ lw_all := lw_g (lw_at lw_m2 0 rfl) rfl
theorem q319 : (Jvm.Cond.code ({ cls := "HandUnderTheChin", name := "comes", desc := "(LHandUnderTheChin$Told;)Z" } : Jvm.MethodName) prog_1_method_12_code (3 : Nat) (Option.some Jvm.ClassFile.FieldType.boolean)) ∈ lw_all := lw_g (lw_at lw_m2 1 rfl) rfl
theorem q320 : (Jvm.Cond.methodLink "HandUnderTheChin" (92 : Nat) ({ cls := "HandUnderTheChin", name := "comesOne", desc := "([I)Z" } : Jvm.MethodName)) ∈ lw_all := lw_g (lw_at lw_m2 2 rfl) rfl
theorem q321 : (Jvm.Cond.privateMethod ({ cls := "HandUnderTheChin", name := "comesOne", desc := "([I)Z" } : Jvm.MethodName)) ∈ lw_tbl := lw_at lw_m2 3 rfl
theorem q322 : (Jvm.Cond.instanceMethod ({ cls := "HandUnderTheChin", name := "comesOne", desc := "([I)Z" } : Jvm.MethodName)) ∈ lw_all := lw_g (lw_at lw_m2 4 rfl) rfl
theorem q323 : (Jvm.Cond.code ({ cls := "HandUnderTheChin", name := "comesOne", desc := "([I)Z" } : Jvm.MethodName) prog_1_method_10_code (2 : Nat) (Option.some Jvm.ClassFile.FieldType.boolean)) ∈ lw_all := lw_g (lw_at lw_m2 5 rfl) rfl
theorem q324 : (Jvm.Cond.methodLink "HandUnderTheChin" (60 : Nat) ({ cls := "HandUnderTheChin", name := "isTrust", desc := "(I)Z" } : Jvm.MethodName)) ∈ lw_all := lw_g (lw_at lw_m2 6 rfl) rfl
theorem q325 : (Jvm.Cond.static ({ cls := "HandUnderTheChin", name := "isTrust", desc := "(I)Z" } : Jvm.MethodName)) ∈ lw_all := lw_g (lw_at lw_m2 7 rfl) rfl
theorem q326 : (Jvm.Cond.code ({ cls := "HandUnderTheChin", name := "isTrust", desc := "(I)Z" } : Jvm.MethodName) prog_1_method_7_code (1 : Nat) (Option.some Jvm.ClassFile.FieldType.boolean)) ∈ lw_all := lw_g (lw_at lw_m2 8 rfl) rfl
theorem q327 : (Jvm.Cond.methodLink "HandUnderTheChin" (69 : Nat) ({ cls := "HandUnderTheChin", name := "childOf", desc := "(II)LHandUnderTheChin$Child;" } : Jvm.MethodName)) ∈ lw_all := lw_g (lw_at lw_m2 9 rfl) rfl
theorem q328 : (Jvm.Cond.static ({ cls := "HandUnderTheChin", name := "childOf", desc := "(II)LHandUnderTheChin$Child;" } : Jvm.MethodName)) ∈ lw_all := lw_g (lw_at lw_m2 10 rfl) rfl
theorem q329 : (Jvm.Cond.code ({ cls := "HandUnderTheChin", name := "childOf", desc := "(II)LHandUnderTheChin$Child;" } : Jvm.MethodName) prog_1_method_4_code (2 : Nat) (Option.some (Jvm.ClassFile.FieldType.object "HandUnderTheChin$Child"))) ∈ lw_all := lw_g (lw_at lw_m2 11 rfl) rfl
theorem q330 : (Jvm.Cond.classLink "HandUnderTheChin" (12 : Nat) "HandUnderTheChin$Child") ∈ lw_all := lw_g (lw_at lw_m2 12 rfl) rfl
theorem q332 : (Jvm.Cond.methodLink "HandUnderTheChin" (14 : Nat) ({ cls := "HandUnderTheChin$Child", name := "<init>", desc := "(I)V" } : Jvm.MethodName)) ∈ lw_all := lw_g (lw_at lw_m2 14 rfl) rfl
theorem q345 : (Jvm.Cond.fieldLink "HandUnderTheChin" (170 : Nat) "HandUnderTheChin$Child" "figure" "I") ∈ lw_all := lw_g (lw_at lw_m2 27 rfl) rfl
theorem q349 : (Jvm.Cond.classLink "HandUnderTheChin" (18 : Nat) "HandUnderTheChin$Bold") ∈ lw_all := lw_g (lw_at lw_m2 31 rfl) rfl
theorem q351 : (Jvm.Cond.methodLink "HandUnderTheChin" (20 : Nat) ({ cls := "HandUnderTheChin$Bold", name := "<init>", desc := "(I)V" } : Jvm.MethodName)) ∈ lw_all := lw_g (lw_at lw_m2 33 rfl) rfl
theorem q357 : (Jvm.Cond.classLink "HandUnderTheChin" (21 : Nat) "HandUnderTheChin$Shy") ∈ lw_all := lw_g (lw_at lw_m2 39 rfl) rfl
theorem q359 : (Jvm.Cond.methodLink "HandUnderTheChin" (23 : Nat) ({ cls := "HandUnderTheChin$Shy", name := "<init>", desc := "(I)V" } : Jvm.MethodName)) ∈ lw_all := lw_g (lw_at lw_m2 41 rfl) rfl
theorem q365 : (Jvm.Cond.classLink "HandUnderTheChin" (24 : Nat) "HandUnderTheChin$Twin") ∈ lw_all := lw_g (lw_at lw_m2 47 rfl) rfl
theorem q367 : (Jvm.Cond.methodLink "HandUnderTheChin" (26 : Nat) ({ cls := "HandUnderTheChin$Twin", name := "<init>", desc := "(I)V" } : Jvm.MethodName)) ∈ lw_all := lw_g (lw_at lw_m2 49 rfl) rfl
theorem q373 : (Jvm.Cond.classLink "HandUnderTheChin" (27 : Nat) "HandUnderTheChin$Pusher") ∈ lw_all := lw_g (lw_at lw_m2 55 rfl) rfl
theorem q375 : (Jvm.Cond.methodLink "HandUnderTheChin" (29 : Nat) ({ cls := "HandUnderTheChin$Pusher", name := "<init>", desc := "(I)V" } : Jvm.MethodName)) ∈ lw_all := lw_g (lw_at lw_m2 57 rfl) rfl
theorem q381 : (Jvm.Cond.classLink "HandUnderTheChin" (30 : Nat) "HandUnderTheChin$Laugher") ∈ lw_all := lw_g (lw_at lw_m2 63 rfl) rfl
theorem q383 : (Jvm.Cond.methodLink "HandUnderTheChin" (32 : Nat) ({ cls := "HandUnderTheChin$Laugher", name := "<init>", desc := "(I)V" } : Jvm.MethodName)) ∈ lw_all := lw_g (lw_at lw_m2 65 rfl) rfl
theorem q389 : (Jvm.Cond.classLink "HandUnderTheChin" (33 : Nat) "HandUnderTheChin$Clinger") ∈ lw_all := lw_g (lw_at lw_m2 71 rfl) rfl
theorem q391 : (Jvm.Cond.methodLink "HandUnderTheChin" (35 : Nat) ({ cls := "HandUnderTheChin$Clinger", name := "<init>", desc := "(I)V" } : Jvm.MethodName)) ∈ lw_all := lw_g (lw_at lw_m2 73 rfl) rfl
theorem q397 : (Jvm.Cond.classLink "HandUnderTheChin" (36 : Nat) "HandUnderTheChin$Diver") ∈ lw_all := lw_g (lw_at lw_m2 79 rfl) rfl
theorem q399 : (Jvm.Cond.methodLink "HandUnderTheChin" (38 : Nat) ({ cls := "HandUnderTheChin$Diver", name := "<init>", desc := "(I)V" } : Jvm.MethodName)) ∈ lw_all := lw_g (lw_at lw_m2 81 rfl) rfl
theorem q405 : (Jvm.Cond.methodLink "HandUnderTheChin" (73 : Nat) ({ cls := "HandUnderTheChin$Bath", name := "comes", desc := "(LHandUnderTheChin$Child;I)I" } : Jvm.MethodName)) ∈ lw_all := lw_g (lw_at lw_m2 87 rfl) rfl
theorem q409 : (Jvm.Cond.methodLink "HandUnderTheChin" (96 : Nat) ({ cls := "HandUnderTheChin", name := "canMinute", desc := "(LHandUnderTheChin$Bath;II)Z" } : Jvm.MethodName)) ∈ lw_all := lw_g (lw_at lw_m2 91 rfl) rfl
theorem q410 : (Jvm.Cond.static ({ cls := "HandUnderTheChin", name := "canMinute", desc := "(LHandUnderTheChin$Bath;II)Z" } : Jvm.MethodName)) ∈ lw_all := lw_g (lw_at lw_m2 92 rfl) rfl
theorem q411 : (Jvm.Cond.code ({ cls := "HandUnderTheChin", name := "canMinute", desc := "(LHandUnderTheChin$Bath;II)Z" } : Jvm.MethodName) prog_1_method_9_code (3 : Nat) (Option.some Jvm.ClassFile.FieldType.boolean)) ∈ lw_all := lw_g (lw_at lw_m2 93 rfl) rfl
theorem q412 : (Jvm.Cond.methodLink "HandUnderTheChin" (47 : Nat) ({ cls := "HandUnderTheChin$Bath", name := "isOne", desc := "(I)Z" } : Jvm.MethodName)) ∈ lw_all := lw_g (lw_at lw_m2 94 rfl) rfl
theorem q417 : (Jvm.Cond.methodLink "HandUnderTheChin" (53 : Nat) ({ cls := "HandUnderTheChin$Bath", name := "swims", desc := "(I)Z" } : Jvm.MethodName)) ∈ lw_all := lw_g (lw_at lw_m2 99 rfl) rfl
theorem q421 : (Jvm.Cond.methodLink "HandUnderTheChin" (100 : Nat) ({ cls := "HandUnderTheChin$Bath", name := "minute", desc := "(II)I" } : Jvm.MethodName)) ∈ lw_all := lw_g (lw_at lw_m2 103 rfl) rfl
theorem q453 : (Jvm.Cond.static ({ cls := "HandUnderTheChin", name := "held", desc := "(I)I" } : Jvm.MethodName)) ∈ lw_all := lw_g (lw_at lw_m2 135 rfl) rfl
theorem q454 : (Jvm.Cond.code ({ cls := "HandUnderTheChin", name := "held", desc := "(I)I" } : Jvm.MethodName) prog_1_method_3_code (1 : Nat) (Option.some Jvm.ClassFile.FieldType.int)) ∈ lw_all := lw_g (lw_at lw_m2 136 rfl) rfl
theorem q455 : (Jvm.Cond.methodLink "HandUnderTheChin" (3 : Nat) ({ cls := "java/lang/Math", name := "min", desc := "(II)I" } : Jvm.MethodName)) ∈ lw_all := lw_g (lw_at lw_m2 137 rfl) rfl
theorem q458 : (Jvm.Cond.methodLink "HandUnderTheChin" (9 : Nat) ({ cls := "java/lang/Math", name := "max", desc := "(II)I" } : Jvm.MethodName)) ∈ lw_all := lw_g (lw_at lw_m2 140 rfl) rfl
theorem q575 : (Jvm.Cond.methodLink "HandUnderTheChin" (102 : Nat) ({ cls := "HandUnderTheChin$Bath", name := "rest", desc := "(I)V" } : Jvm.MethodName)) ∈ lw_all := lw_g (lw_at lw_m3 17 rfl) rfl
theorem q580 : (Jvm.Cond.methodLink "HandUnderTheChin" (105 : Nat) ({ cls := "HandUnderTheChin$Bath", name := "change", desc := "(II)V" } : Jvm.MethodName)) ∈ lw_all := lw_g (lw_at lw_m3 22 rfl) rfl
theorem q587 : (Jvm.Cond.methodLink "HandUnderTheChin" (109 : Nat) ({ cls := "HandUnderTheChin", name := "comesFeeling", desc := "(III)Z" } : Jvm.MethodName)) ∈ lw_all := lw_g (lw_at lw_m3 29 rfl) rfl
theorem q588 : (Jvm.Cond.privateMethod ({ cls := "HandUnderTheChin", name := "comesFeeling", desc := "(III)Z" } : Jvm.MethodName)) ∈ lw_tbl := lw_at lw_m3 30 rfl
theorem q589 : (Jvm.Cond.instanceMethod ({ cls := "HandUnderTheChin", name := "comesFeeling", desc := "(III)Z" } : Jvm.MethodName)) ∈ lw_all := lw_g (lw_at lw_m3 31 rfl) rfl
theorem q590 : (Jvm.Cond.code ({ cls := "HandUnderTheChin", name := "comesFeeling", desc := "(III)Z" } : Jvm.MethodName) prog_1_method_11_code (4 : Nat) (Option.some Jvm.ClassFile.FieldType.boolean)) ∈ lw_all := lw_g (lw_at lw_m3 32 rfl) rfl
theorem q591 : (Jvm.Cond.methodLink "HandUnderTheChin" (137 : Nat) ({ cls := "HandUnderTheChin$Broken", name := "<init>", desc := "(I)V" } : Jvm.MethodName)) ∈ lw_all := lw_g (lw_at lw_m3 33 rfl) rfl
theorem q593 : (Jvm.Cond.instanceMethod ({ cls := "HandUnderTheChin", name := "child", desc := "(II)I" } : Jvm.MethodName)) ∈ lw_all := lw_g (lw_at lw_m3 35 rfl) rfl
theorem q594 : (Jvm.Cond.selects "HandUnderTheChin" ({ cls := "HandUnderTheChin", name := "child", desc := "(II)I" } : Jvm.MethodName) ({ cls := "HandUnderTheChin", name := "child", desc := "(II)I" } : Jvm.MethodName)) ∈ lw_all := lw_g (lw_at lw_m3 36 rfl) rfl
theorem q595 : (Jvm.Cond.code ({ cls := "HandUnderTheChin", name := "child", desc := "(II)I" } : Jvm.MethodName) prog_1_method_15_code (4 : Nat) (Option.some Jvm.ClassFile.FieldType.int)) ∈ lw_all := lw_g (lw_at lw_m3 37 rfl) rfl
theorem q596 : (Jvm.Cond.methodLink "HandUnderTheChin" (166 : Nat) ({ cls := "HandUnderTheChin$Child", name := "kind", desc := "()I" } : Jvm.MethodName)) ∈ lw_all := lw_g (lw_at lw_m3 38 rfl) rfl
theorem q622 : (Jvm.Cond.methodLink "HandUnderTheChin" (179 : Nat) ({ cls := "HandUnderTheChin$Child", name := "needs", desc := "(I)I" } : Jvm.MethodName)) ∈ lw_all := lw_g (lw_at lw_m3 64 rfl) rfl
theorem q624 : (Jvm.Cond.instanceMethod ({ cls := "HandUnderTheChin", name := "comes", desc := "(II)I" } : Jvm.MethodName)) ∈ lw_all := lw_g (lw_at lw_m3 66 rfl) rfl
theorem q625 : (Jvm.Cond.selects "HandUnderTheChin" ({ cls := "HandUnderTheChin", name := "comes", desc := "(II)I" } : Jvm.MethodName) ({ cls := "HandUnderTheChin", name := "comes", desc := "(II)I" } : Jvm.MethodName)) ∈ lw_all := lw_g (lw_at lw_m3 67 rfl) rfl
theorem q626 : (Jvm.Cond.codeWith ({ cls := "HandUnderTheChin", name := "comes", desc := "(II)I" } : Jvm.MethodName) prog_1_method_16_code (4 : Nat) (Option.some Jvm.ClassFile.FieldType.int) [((17 : Nat), (36 : Nat), (64 : Nat), (157 : Nat)), ((37 : Nat), (63 : Nat), (64 : Nat), (157 : Nat))]) ∈ lw_all := lw_g (lw_at lw_m3 68 rfl) rfl
theorem q628 : (Jvm.Cond.instanceMethod ({ cls := "HandUnderTheChin", name := "feels", desc := "(III)I" } : Jvm.MethodName)) ∈ lw_all := lw_g (lw_at lw_m3 70 rfl) rfl
theorem q629 : (Jvm.Cond.selects "HandUnderTheChin" ({ cls := "HandUnderTheChin", name := "feels", desc := "(III)I" } : Jvm.MethodName) ({ cls := "HandUnderTheChin", name := "feels", desc := "(III)I" } : Jvm.MethodName)) ∈ lw_all := lw_g (lw_at lw_m3 71 rfl) rfl
theorem q630 : (Jvm.Cond.code ({ cls := "HandUnderTheChin", name := "feels", desc := "(III)I" } : Jvm.MethodName) prog_1_method_17_code (6 : Nat) (Option.some Jvm.ClassFile.FieldType.int)) ∈ lw_all := lw_g (lw_at lw_m3 72 rfl) rfl
theorem q632 : (Jvm.Cond.instanceMethod ({ cls := "HandUnderTheChin", name := "minute", desc := "(II)I" } : Jvm.MethodName)) ∈ lw_all := lw_g (lw_at lw_m3 74 rfl) rfl
theorem q633 : (Jvm.Cond.selects "HandUnderTheChin" ({ cls := "HandUnderTheChin", name := "minute", desc := "(II)I" } : Jvm.MethodName) ({ cls := "HandUnderTheChin", name := "minute", desc := "(II)I" } : Jvm.MethodName)) ∈ lw_all := lw_g (lw_at lw_m3 75 rfl) rfl
theorem q634 : (Jvm.Cond.code ({ cls := "HandUnderTheChin", name := "minute", desc := "(II)I" } : Jvm.MethodName) prog_1_method_18_code (3 : Nat) (Option.some Jvm.ClassFile.FieldType.int)) ∈ lw_all := lw_g (lw_at lw_m3 76 rfl) rfl
theorem q636 : (Jvm.Cond.instanceMethod ({ cls := "HandUnderTheChin", name := "change", desc := "(II)I" } : Jvm.MethodName)) ∈ lw_all := lw_g (lw_at lw_m3 78 rfl) rfl
theorem q637 : (Jvm.Cond.selects "HandUnderTheChin" ({ cls := "HandUnderTheChin", name := "change", desc := "(II)I" } : Jvm.MethodName) ({ cls := "HandUnderTheChin", name := "change", desc := "(II)I" } : Jvm.MethodName)) ∈ lw_all := lw_g (lw_at lw_m3 79 rfl) rfl
theorem q638 : (Jvm.Cond.code ({ cls := "HandUnderTheChin", name := "change", desc := "(II)I" } : Jvm.MethodName) prog_1_method_19_code (3 : Nat) (Option.some Jvm.ClassFile.FieldType.int)) ∈ lw_all := lw_g (lw_at lw_m3 80 rfl) rfl
theorem q639 : (Jvm.Cond.methodLink "HandUnderTheChin" (192 : Nat) ({ cls := "HandUnderTheChin", name := "areTwo", desc := "(II)Z" } : Jvm.MethodName)) ∈ lw_all := lw_g (lw_at lw_m3 81 rfl) rfl
theorem q640 : (Jvm.Cond.privateMethod ({ cls := "HandUnderTheChin", name := "areTwo", desc := "(II)Z" } : Jvm.MethodName)) ∈ lw_tbl := lw_at lw_m3 82 rfl
theorem q641 : (Jvm.Cond.instanceMethod ({ cls := "HandUnderTheChin", name := "areTwo", desc := "(II)Z" } : Jvm.MethodName)) ∈ lw_all := lw_g (lw_at lw_m3 83 rfl) rfl
theorem q642 : (Jvm.Cond.code ({ cls := "HandUnderTheChin", name := "areTwo", desc := "(II)Z" } : Jvm.MethodName) prog_1_method_8_code (3 : Nat) (Option.some Jvm.ClassFile.FieldType.boolean)) ∈ lw_all := lw_g (lw_at lw_m3 84 rfl) rfl
theorem q644 : (Jvm.Cond.instanceMethod ({ cls := "HandUnderTheChin", name := "rest", desc := "(I)I" } : Jvm.MethodName)) ∈ lw_all := lw_g (lw_at lw_m3 86 rfl) rfl
theorem q645 : (Jvm.Cond.selects "HandUnderTheChin" ({ cls := "HandUnderTheChin", name := "rest", desc := "(I)I" } : Jvm.MethodName) ({ cls := "HandUnderTheChin", name := "rest", desc := "(I)I" } : Jvm.MethodName)) ∈ lw_all := lw_g (lw_at lw_m3 87 rfl) rfl
theorem q646 : (Jvm.Cond.code ({ cls := "HandUnderTheChin", name := "rest", desc := "(I)I" } : Jvm.MethodName) prog_1_method_20_code (2 : Nat) (Option.some Jvm.ClassFile.FieldType.int)) ∈ lw_all := lw_g (lw_at lw_m3 88 rfl) rfl
theorem q647 : (Jvm.Cond.methodLink "HandUnderTheChin" (196 : Nat) ({ cls := "HandUnderTheChin", name := "isNine", desc := "(I)Z" } : Jvm.MethodName)) ∈ lw_all := lw_g (lw_at lw_m3 89 rfl) rfl
theorem q648 : (Jvm.Cond.static ({ cls := "HandUnderTheChin", name := "isNine", desc := "(I)Z" } : Jvm.MethodName)) ∈ lw_all := lw_g (lw_at lw_m3 90 rfl) rfl
theorem q649 : (Jvm.Cond.code ({ cls := "HandUnderTheChin", name := "isNine", desc := "(I)Z" } : Jvm.MethodName) prog_1_method_6_code (1 : Nat) (Option.some Jvm.ClassFile.FieldType.boolean)) ∈ lw_all := lw_g (lw_at lw_m3 91 rfl) rfl
theorem q650 : (Jvm.Cond.methodLink "HandUnderTheChin" (199 : Nat) ({ cls := "HandUnderTheChin$Bath", name := "allSteps", desc := "()I" } : Jvm.MethodName)) ∈ lw_all := lw_g (lw_at lw_m3 92 rfl) rfl
theorem q655 : (Jvm.Cond.instanceMethod ({ cls := "HandUnderTheChin", name := "ready", desc := "()I" } : Jvm.MethodName)) ∈ lw_all := lw_g (lw_at lw_m3 97 rfl) rfl
theorem q656 : (Jvm.Cond.selects "HandUnderTheChin" ({ cls := "HandUnderTheChin", name := "ready", desc := "()I" } : Jvm.MethodName) ({ cls := "HandUnderTheChin", name := "ready", desc := "()I" } : Jvm.MethodName)) ∈ lw_all := lw_g (lw_at lw_m3 98 rfl) rfl
theorem q657 : (Jvm.Cond.code ({ cls := "HandUnderTheChin", name := "ready", desc := "()I" } : Jvm.MethodName) prog_1_method_22_code (1 : Nat) (Option.some Jvm.ClassFile.FieldType.int)) ∈ lw_all := lw_g (lw_at lw_m3 99 rfl) rfl
theorem q658 : (Jvm.Cond.methodLink "HandUnderTheChin" (205 : Nat) ({ cls := "HandUnderTheChin", name := "readyOf", desc := "(LHandUnderTheChin$Bath;)I" } : Jvm.MethodName)) ∈ lw_all := lw_g (lw_at lw_m3 100 rfl) rfl
theorem q659 : (Jvm.Cond.static ({ cls := "HandUnderTheChin", name := "readyOf", desc := "(LHandUnderTheChin$Bath;)I" } : Jvm.MethodName)) ∈ lw_all := lw_g (lw_at lw_m3 101 rfl) rfl
theorem q660 : (Jvm.Cond.code ({ cls := "HandUnderTheChin", name := "readyOf", desc := "(LHandUnderTheChin$Bath;)I" } : Jvm.MethodName) prog_1_method_21_code (3 : Nat) (Option.some Jvm.ClassFile.FieldType.int)) ∈ lw_all := lw_g (lw_at lw_m3 102 rfl) rfl
theorem q661 : (Jvm.Cond.methodLink "HandUnderTheChin" (202 : Nat) ({ cls := "HandUnderTheChin$Bath", name := "isReady", desc := "(I)Z" } : Jvm.MethodName)) ∈ lw_all := lw_g (lw_at lw_m3 103 rfl) rfl
theorem q663 : (Jvm.Cond.instanceMethod ({ cls := "HandUnderTheChin", name := "alone", desc := "(II)I" } : Jvm.MethodName)) ∈ lw_all := lw_g (lw_at lw_m3 105 rfl) rfl
theorem q664 : (Jvm.Cond.selects "HandUnderTheChin" ({ cls := "HandUnderTheChin", name := "alone", desc := "(II)I" } : Jvm.MethodName) ({ cls := "HandUnderTheChin", name := "alone", desc := "(II)I" } : Jvm.MethodName)) ∈ lw_all := lw_g (lw_at lw_m3 106 rfl) rfl
theorem q665 : (Jvm.Cond.code ({ cls := "HandUnderTheChin", name := "alone", desc := "(II)I" } : Jvm.MethodName) prog_1_method_27_code (6 : Nat) (Option.some Jvm.ClassFile.FieldType.int)) ∈ lw_all := lw_g (lw_at lw_m3 107 rfl) rfl
theorem q666 : (Jvm.Cond.methodLink "HandUnderTheChin" (218 : Nat) ({ cls := "HandUnderTheChin", name := "findFewest", desc := "(LHandUnderTheChin$Child;I)V" } : Jvm.MethodName)) ∈ lw_all := lw_g (lw_at lw_m3 108 rfl) rfl
theorem q667 : (Jvm.Cond.privateMethod ({ cls := "HandUnderTheChin", name := "findFewest", desc := "(LHandUnderTheChin$Child;I)V" } : Jvm.MethodName)) ∈ lw_tbl := lw_at lw_m3 109 rfl
theorem q668 : (Jvm.Cond.instanceMethod ({ cls := "HandUnderTheChin", name := "findFewest", desc := "(LHandUnderTheChin$Child;I)V" } : Jvm.MethodName)) ∈ lw_all := lw_g (lw_at lw_m3 110 rfl) rfl
theorem q669 : (Jvm.Cond.code ({ cls := "HandUnderTheChin", name := "findFewest", desc := "(LHandUnderTheChin$Child;I)V" } : Jvm.MethodName) prog_1_method_24_code (7 : Nat) (Option.none : Option Jvm.ClassFile.FieldType)) ∈ lw_all := lw_g (lw_at lw_m3 111 rfl) rfl
theorem q670 : (Jvm.Cond.methodLink "HandUnderTheChin" (214 : Nat) ({ cls := "HandUnderTheChin", name := "alone", desc := "(LHandUnderTheChin$Child;II)I" } : Jvm.MethodName)) ∈ lw_all := lw_g (lw_at lw_m3 112 rfl) rfl
theorem q671 : (Jvm.Cond.static ({ cls := "HandUnderTheChin", name := "alone", desc := "(LHandUnderTheChin$Child;II)I" } : Jvm.MethodName)) ∈ lw_all := lw_g (lw_at lw_m3 113 rfl) rfl
theorem q672 : (Jvm.Cond.code ({ cls := "HandUnderTheChin", name := "alone", desc := "(LHandUnderTheChin$Child;II)I" } : Jvm.MethodName) prog_1_method_23_code (6 : Nat) (Option.some Jvm.ClassFile.FieldType.int)) ∈ lw_all := lw_g (lw_at lw_m3 114 rfl) rfl
theorem q673 : (Jvm.Cond.methodLink "HandUnderTheChin" (209 : Nat) ({ cls := "HandUnderTheChin", name := "held", desc := "(I)I" } : Jvm.MethodName)) ∈ lw_all := lw_g (lw_at lw_m3 115 rfl) rfl
theorem q674 : (Jvm.Cond.methodLink "HandUnderTheChin" (222 : Nat) ({ cls := "HandUnderTheChin", name := "stateOf", desc := "(II)I" } : Jvm.MethodName)) ∈ lw_all := lw_g (lw_at lw_m3 116 rfl) rfl
theorem q675 : (Jvm.Cond.privateMethod ({ cls := "HandUnderTheChin", name := "stateOf", desc := "(II)I" } : Jvm.MethodName)) ∈ lw_tbl := lw_at lw_m3 117 rfl
theorem q676 : (Jvm.Cond.instanceMethod ({ cls := "HandUnderTheChin", name := "stateOf", desc := "(II)I" } : Jvm.MethodName)) ∈ lw_all := lw_g (lw_at lw_m3 118 rfl) rfl
theorem q677 : (Jvm.Cond.code ({ cls := "HandUnderTheChin", name := "stateOf", desc := "(II)I" } : Jvm.MethodName) prog_1_method_25_code (3 : Nat) (Option.some Jvm.ClassFile.FieldType.int)) ∈ lw_all := lw_g (lw_at lw_m3 119 rfl) rfl
theorem q678 : (Jvm.Cond.methodLink "HandUnderTheChin" (225 : Nat) ({ cls := "HandUnderTheChin", name := "orNone", desc := "(I)I" } : Jvm.MethodName)) ∈ lw_all := lw_g (lw_at lw_m3 120 rfl) rfl
theorem q679 : (Jvm.Cond.static ({ cls := "HandUnderTheChin", name := "orNone", desc := "(I)I" } : Jvm.MethodName)) ∈ lw_all := lw_g (lw_at lw_m3 121 rfl) rfl
theorem q680 : (Jvm.Cond.code ({ cls := "HandUnderTheChin", name := "orNone", desc := "(I)I" } : Jvm.MethodName) prog_1_method_26_code (1 : Nat) (Option.some Jvm.ClassFile.FieldType.int)) ∈ lw_all := lw_g (lw_at lw_m3 122 rfl) rfl
theorem q682 : (Jvm.Cond.instanceMethod ({ cls := "HandUnderTheChin", name := "neverHeld", desc := "(I)I" } : Jvm.MethodName)) ∈ lw_all := lw_g (lw_at lw_m3 124 rfl) rfl
theorem q683 : (Jvm.Cond.selects "HandUnderTheChin" ({ cls := "HandUnderTheChin", name := "neverHeld", desc := "(I)I" } : Jvm.MethodName) ({ cls := "HandUnderTheChin", name := "neverHeld", desc := "(I)I" } : Jvm.MethodName)) ∈ lw_all := lw_g (lw_at lw_m3 125 rfl) rfl
theorem q684 : (Jvm.Cond.code ({ cls := "HandUnderTheChin", name := "neverHeld", desc := "(I)I" } : Jvm.MethodName) prog_1_method_28_code (2 : Nat) (Option.some Jvm.ClassFile.FieldType.int)) ∈ lw_all := lw_g (lw_at lw_m3 126 rfl) rfl
theorem q686 : (Jvm.Cond.instanceMethod ({ cls := "HandUnderTheChin", name := "costs", desc := "(I)I" } : Jvm.MethodName)) ∈ lw_all := lw_g (lw_at lw_m3 128 rfl) rfl
theorem q687 : (Jvm.Cond.selects "HandUnderTheChin" ({ cls := "HandUnderTheChin", name := "costs", desc := "(I)I" } : Jvm.MethodName) ({ cls := "HandUnderTheChin", name := "costs", desc := "(I)I" } : Jvm.MethodName)) ∈ lw_all := lw_g (lw_at lw_m3 129 rfl) rfl
theorem q688 : (Jvm.Cond.code ({ cls := "HandUnderTheChin", name := "costs", desc := "(I)I" } : Jvm.MethodName) prog_1_method_29_code (4 : Nat) (Option.some Jvm.ClassFile.FieldType.int)) ∈ lw_all := lw_g (lw_at lw_m3 130 rfl) rfl
theorem q690 : (Jvm.Cond.instanceMethod ({ cls := "HandUnderTheChin", name := "mostSteps", desc := "(II)I" } : Jvm.MethodName)) ∈ lw_all := lw_g (lw_at lw_m3 132 rfl) rfl
theorem q691 : (Jvm.Cond.selects "HandUnderTheChin" ({ cls := "HandUnderTheChin", name := "mostSteps", desc := "(II)I" } : Jvm.MethodName) ({ cls := "HandUnderTheChin", name := "mostSteps", desc := "(II)I" } : Jvm.MethodName)) ∈ lw_all := lw_g (lw_at lw_m3 133 rfl) rfl
theorem q692 : (Jvm.Cond.code ({ cls := "HandUnderTheChin", name := "mostSteps", desc := "(II)I" } : Jvm.MethodName) prog_1_method_32_code (5 : Nat) (Option.some Jvm.ClassFile.FieldType.int)) ∈ lw_all := lw_g (lw_at lw_m3 134 rfl) rfl
theorem q693 : (Jvm.Cond.methodLink "HandUnderTheChin" (236 : Nat) ({ cls := "HandUnderTheChin", name := "mostFrom", desc := "(II)I" } : Jvm.MethodName)) ∈ lw_all := lw_g (lw_at lw_m3 135 rfl) rfl
theorem q694 : (Jvm.Cond.privateMethod ({ cls := "HandUnderTheChin", name := "mostFrom", desc := "(II)I" } : Jvm.MethodName)) ∈ lw_tbl := lw_at lw_m3 136 rfl
theorem q695 : (Jvm.Cond.instanceMethod ({ cls := "HandUnderTheChin", name := "mostFrom", desc := "(II)I" } : Jvm.MethodName)) ∈ lw_all := lw_g (lw_at lw_m3 137 rfl) rfl
theorem q696 : (Jvm.Cond.code ({ cls := "HandUnderTheChin", name := "mostFrom", desc := "(II)I" } : Jvm.MethodName) prog_1_method_30_code (7 : Nat) (Option.some Jvm.ClassFile.FieldType.int)) ∈ lw_all := lw_g (lw_at lw_m3 138 rfl) rfl
theorem q697 : (Jvm.Cond.methodLink "HandUnderTheChin" (232 : Nat) ({ cls := "HandUnderTheChin", name := "mostBy", desc := "(IIII)I" } : Jvm.MethodName)) ∈ lw_all := lw_g (lw_at lw_m3 139 rfl) rfl
theorem q698 : (Jvm.Cond.privateMethod ({ cls := "HandUnderTheChin", name := "mostBy", desc := "(IIII)I" } : Jvm.MethodName)) ∈ lw_tbl := lw_at lw_m3 140 rfl
theorem q699 : (Jvm.Cond.instanceMethod ({ cls := "HandUnderTheChin", name := "mostBy", desc := "(IIII)I" } : Jvm.MethodName)) ∈ lw_all := lw_g (lw_at lw_m3 141 rfl) rfl
theorem q700 : (Jvm.Cond.code ({ cls := "HandUnderTheChin", name := "mostBy", desc := "(IIII)I" } : Jvm.MethodName) prog_1_method_31_code (5 : Nat) (Option.some Jvm.ClassFile.FieldType.int)) ∈ lw_all := lw_g (lw_at lw_m3 142 rfl) rfl
theorem q702 : (Jvm.Cond.instanceMethod ({ cls := "HandUnderTheChin", name := "byTurns", desc := "(II)I" } : Jvm.MethodName)) ∈ lw_all := lw_g (lw_at lw_m3 144 rfl) rfl
theorem q703 : (Jvm.Cond.selects "HandUnderTheChin" ({ cls := "HandUnderTheChin", name := "byTurns", desc := "(II)I" } : Jvm.MethodName) ({ cls := "HandUnderTheChin", name := "byTurns", desc := "(II)I" } : Jvm.MethodName)) ∈ lw_all := lw_g (lw_at lw_m3 145 rfl) rfl
theorem q704 : (Jvm.Cond.code ({ cls := "HandUnderTheChin", name := "byTurns", desc := "(II)I" } : Jvm.MethodName) prog_1_method_35_code (5 : Nat) (Option.some Jvm.ClassFile.FieldType.int)) ∈ lw_all := lw_g (lw_at lw_m3 146 rfl) rfl
theorem q705 : (Jvm.Cond.methodLink "HandUnderTheChin" (242 : Nat) ({ cls := "HandUnderTheChin", name := "minds", desc := "()V" } : Jvm.MethodName)) ∈ lw_all := lw_g (lw_at lw_m3 147 rfl) rfl
theorem q706 : (Jvm.Cond.privateMethod ({ cls := "HandUnderTheChin", name := "minds", desc := "()V" } : Jvm.MethodName)) ∈ lw_tbl := lw_at lw_m3 148 rfl
theorem q707 : (Jvm.Cond.instanceMethod ({ cls := "HandUnderTheChin", name := "minds", desc := "()V" } : Jvm.MethodName)) ∈ lw_all := lw_g (lw_at lw_m3 149 rfl) rfl
theorem q708 : (Jvm.Cond.code ({ cls := "HandUnderTheChin", name := "minds", desc := "()V" } : Jvm.MethodName) prog_1_method_34_code (1 : Nat) (Option.none : Option Jvm.ClassFile.FieldType)) ∈ lw_all := lw_g (lw_at lw_m3 150 rfl) rfl
theorem q709 : (Jvm.Cond.methodLink "HandUnderTheChin" (246 : Nat) ({ cls := "HandUnderTheChin$Bath", name := "allSwim", desc := "()Z" } : Jvm.MethodName)) ∈ lw_all := lw_g (lw_at lw_m3 151 rfl) rfl
theorem q717 : (Jvm.Cond.methodLink "HandUnderTheChin" (250 : Nat) ({ cls := "HandUnderTheChin", name := "goesTurn", desc := "()Z" } : Jvm.MethodName)) ∈ lw_all := lw_g (lw_at lw_m3 159 rfl) rfl
theorem q718 : (Jvm.Cond.privateMethod ({ cls := "HandUnderTheChin", name := "goesTurn", desc := "()Z" } : Jvm.MethodName)) ∈ lw_tbl := lw_at lw_m3 160 rfl
theorem q719 : (Jvm.Cond.instanceMethod ({ cls := "HandUnderTheChin", name := "goesTurn", desc := "()Z" } : Jvm.MethodName)) ∈ lw_all := lw_g (lw_at lw_m3 161 rfl) rfl
theorem q720 : (Jvm.Cond.code ({ cls := "HandUnderTheChin", name := "goesTurn", desc := "()Z" } : Jvm.MethodName) prog_1_method_33_code (2 : Nat) (Option.some Jvm.ClassFile.FieldType.boolean)) ∈ lw_all := lw_g (lw_at lw_m3 162 rfl) rfl
theorem q721 : (Jvm.Cond.methodLink "HandUnderTheChin" (253 : Nat) ({ cls := "HandUnderTheChin$Bath", name := "swimming", desc := "()I" } : Jvm.MethodName)) ∈ lw_all := lw_g (lw_at lw_m3 163 rfl) rfl
theorem q722 : (Jvm.Cond.methodLink "HandUnderTheChin" (256 : Nat) ({ cls := "java/lang/Integer", name := "bitCount", desc := "(I)I" } : Jvm.MethodName)) ∈ lw_all := lw_g (lw_at lw_m3 164 rfl) rfl
theorem q729 : (Jvm.Cond.instanceMethod ({ cls := "HandUnderTheChin", name := "allSwim", desc := "()I" } : Jvm.MethodName)) ∈ lw_all := lw_g (lw_at lw_m3 171 rfl) rfl
theorem q730 : (Jvm.Cond.selects "HandUnderTheChin" ({ cls := "HandUnderTheChin", name := "allSwim", desc := "()I" } : Jvm.MethodName) ({ cls := "HandUnderTheChin", name := "allSwim", desc := "()I" } : Jvm.MethodName)) ∈ lw_all := lw_g (lw_at lw_m3 172 rfl) rfl
theorem q731 : (Jvm.Cond.code ({ cls := "HandUnderTheChin", name := "allSwim", desc := "()I" } : Jvm.MethodName) prog_1_method_36_code (2 : Nat) (Option.some Jvm.ClassFile.FieldType.int)) ∈ lw_all := lw_g (lw_at lw_m3 173 rfl) rfl
theorem q733 : (Jvm.Cond.instanceMethod ({ cls := "HandUnderTheChin", name := "beside", desc := "(I)I" } : Jvm.MethodName)) ∈ lw_all := lw_g (lw_at lw_m3 175 rfl) rfl
theorem q734 : (Jvm.Cond.selects "HandUnderTheChin" ({ cls := "HandUnderTheChin", name := "beside", desc := "(I)I" } : Jvm.MethodName) ({ cls := "HandUnderTheChin", name := "beside", desc := "(I)I" } : Jvm.MethodName)) ∈ lw_all := lw_g (lw_at lw_m3 176 rfl) rfl
theorem q735 : (Jvm.Cond.code ({ cls := "HandUnderTheChin", name := "beside", desc := "(I)I" } : Jvm.MethodName) prog_1_method_38_code (2 : Nat) (Option.some Jvm.ClassFile.FieldType.int)) ∈ lw_all := lw_g (lw_at lw_m3 177 rfl) rfl
theorem q736 : (Jvm.Cond.methodLink "HandUnderTheChin" (279 : Nat) ({ cls := "HandUnderTheChin", name := "ordersFrom", desc := "(III)V" } : Jvm.MethodName)) ∈ lw_all := lw_g (lw_at lw_m3 178 rfl) rfl
theorem q737 : (Jvm.Cond.privateMethod ({ cls := "HandUnderTheChin", name := "ordersFrom", desc := "(III)V" } : Jvm.MethodName)) ∈ lw_tbl := lw_at lw_m3 179 rfl
theorem q738 : (Jvm.Cond.instanceMethod ({ cls := "HandUnderTheChin", name := "ordersFrom", desc := "(III)V" } : Jvm.MethodName)) ∈ lw_all := lw_g (lw_at lw_m3 180 rfl) rfl
theorem q739 : (Jvm.Cond.code ({ cls := "HandUnderTheChin", name := "ordersFrom", desc := "(III)V" } : Jvm.MethodName) prog_1_method_37_code (6 : Nat) (Option.none : Option Jvm.ClassFile.FieldType)) ∈ lw_all := lw_g (lw_at lw_m3 181 rfl) rfl
theorem q740 : (Jvm.Cond.methodLink "HandUnderTheChin" (270 : Nat) ({ cls := "java/lang/System", name := "arraycopy", desc := "(Ljava/lang/Object;ILjava/lang/Object;II)V" } : Jvm.MethodName)) ∈ lw_all := lw_g (lw_at lw_m3 182 rfl) rfl
theorem q741 : (Jvm.Cond.methodLink "HandUnderTheChin" (276 : Nat) ({ cls := "HandUnderTheChin", name := "has", desc := "(II)Z" } : Jvm.MethodName)) ∈ lw_all := lw_g (lw_at lw_m3 183 rfl) rfl
theorem q742 : (Jvm.Cond.static ({ cls := "HandUnderTheChin", name := "has", desc := "(II)Z" } : Jvm.MethodName)) ∈ lw_all := lw_g (lw_at lw_m3 184 rfl) rfl
theorem q743 : (Jvm.Cond.code ({ cls := "HandUnderTheChin", name := "has", desc := "(II)Z" } : Jvm.MethodName) prog_1_method_2_code (2 : Nat) (Option.some Jvm.ClassFile.FieldType.boolean)) ∈ lw_all := lw_g (lw_at lw_m3 185 rfl) rfl
theorem q745 : (Jvm.Cond.instanceMethod ({ cls := "HandUnderTheChin", name := "helps", desc := "()I" } : Jvm.MethodName)) ∈ lw_all := lw_g (lw_at lw_m3 187 rfl) rfl
theorem q746 : (Jvm.Cond.selects "HandUnderTheChin" ({ cls := "HandUnderTheChin", name := "helps", desc := "()I" } : Jvm.MethodName) ({ cls := "HandUnderTheChin", name := "helps", desc := "()I" } : Jvm.MethodName)) ∈ lw_all := lw_g (lw_at lw_m3 188 rfl) rfl
theorem q747 : (Jvm.Cond.code ({ cls := "HandUnderTheChin", name := "helps", desc := "()I" } : Jvm.MethodName) prog_1_method_40_code (5 : Nat) (Option.some Jvm.ClassFile.FieldType.int)) ∈ lw_all := lw_g (lw_at lw_m3 189 rfl) rfl
theorem q748 : (Jvm.Cond.methodLink "HandUnderTheChin" (283 : Nat) ({ cls := "HandUnderTheChin", name := "manyBeside", desc := "(I)I" } : Jvm.MethodName)) ∈ lw_all := lw_g (lw_at lw_m3 190 rfl) rfl
theorem q749 : (Jvm.Cond.privateMethod ({ cls := "HandUnderTheChin", name := "manyBeside", desc := "(I)I" } : Jvm.MethodName)) ∈ lw_tbl := lw_at lw_m3 191 rfl
theorem q750 : (Jvm.Cond.instanceMethod ({ cls := "HandUnderTheChin", name := "manyBeside", desc := "(I)I" } : Jvm.MethodName)) ∈ lw_all := lw_g (lw_at lw_m3 192 rfl) rfl
theorem q751 : (Jvm.Cond.code ({ cls := "HandUnderTheChin", name := "manyBeside", desc := "(I)I" } : Jvm.MethodName) prog_1_method_39_code (2 : Nat) (Option.some Jvm.ClassFile.FieldType.int)) ∈ lw_all := lw_g (lw_at lw_m3 193 rfl) rfl
theorem q753 : (Jvm.Cond.instanceMethod ({ cls := "HandUnderTheChin", name := "bands", desc := "(III)I" } : Jvm.MethodName)) ∈ lw_all := lw_g (lw_at lw_m3 195 rfl) rfl
theorem q754 : (Jvm.Cond.selects "HandUnderTheChin" ({ cls := "HandUnderTheChin", name := "bands", desc := "(III)I" } : Jvm.MethodName) ({ cls := "HandUnderTheChin", name := "bands", desc := "(III)I" } : Jvm.MethodName)) ∈ lw_all := lw_g (lw_at lw_m3 196 rfl) rfl
theorem q755 : (Jvm.Cond.code ({ cls := "HandUnderTheChin", name := "bands", desc := "(III)I" } : Jvm.MethodName) prog_1_method_41_code (6 : Nat) (Option.some Jvm.ClassFile.FieldType.int)) ∈ lw_all := lw_g (lw_at lw_m3 197 rfl) rfl
theorem q757 : (Jvm.Cond.instanceMethod ({ cls := "HandUnderTheChin", name := "frights", desc := "(IIIII)J" } : Jvm.MethodName)) ∈ lw_all := lw_g (lw_at lw_m3 199 rfl) rfl
theorem q758 : (Jvm.Cond.selects "HandUnderTheChin" ({ cls := "HandUnderTheChin", name := "frights", desc := "(IIIII)J" } : Jvm.MethodName) ({ cls := "HandUnderTheChin", name := "frights", desc := "(IIIII)J" } : Jvm.MethodName)) ∈ lw_all := lw_g (lw_at lw_m3 200 rfl) rfl
theorem q759 : (Jvm.Cond.code ({ cls := "HandUnderTheChin", name := "frights", desc := "(IIIII)J" } : Jvm.MethodName) prog_1_method_45_code (14 : Nat) (Option.some Jvm.ClassFile.FieldType.long)) ∈ lw_all := lw_g (lw_at lw_m3 201 rfl) rfl
theorem q760 : (Jvm.Cond.constantLong "HandUnderTheChin" (290 : Nat) (1000000001 : Int64)) ∈ lw_all := lw_g (lw_at lw_m3 202 rfl) rfl
theorem q761 : (Jvm.Cond.methodLink "HandUnderTheChin" (292 : Nat) ({ cls := "HandUnderTheChin", name := "gained", desc := "(III)I" } : Jvm.MethodName)) ∈ lw_all := lw_g (lw_at lw_m3 203 rfl) rfl
theorem q762 : (Jvm.Cond.privateMethod ({ cls := "HandUnderTheChin", name := "gained", desc := "(III)I" } : Jvm.MethodName)) ∈ lw_tbl := lw_at lw_m3 204 rfl
theorem q763 : (Jvm.Cond.instanceMethod ({ cls := "HandUnderTheChin", name := "gained", desc := "(III)I" } : Jvm.MethodName)) ∈ lw_all := lw_g (lw_at lw_m3 205 rfl) rfl
theorem q764 : (Jvm.Cond.code ({ cls := "HandUnderTheChin", name := "gained", desc := "(III)I" } : Jvm.MethodName) prog_1_method_44_code (7 : Nat) (Option.some Jvm.ClassFile.FieldType.int)) ∈ lw_all := lw_g (lw_at lw_m3 206 rfl) rfl
theorem q765 : (Jvm.Cond.methodLink "HandUnderTheChin" (296 : Nat) ({ cls := "HandUnderTheChin", name := "partOf", desc := "(JJI)J" } : Jvm.MethodName)) ∈ lw_all := lw_g (lw_at lw_m3 207 rfl) rfl
theorem q766 : (Jvm.Cond.static ({ cls := "HandUnderTheChin", name := "partOf", desc := "(JJI)J" } : Jvm.MethodName)) ∈ lw_all := lw_g (lw_at lw_m3 208 rfl) rfl
theorem q767 : (Jvm.Cond.code ({ cls := "HandUnderTheChin", name := "partOf", desc := "(JJI)J" } : Jvm.MethodName) prog_1_method_43_code (5 : Nat) (Option.some Jvm.ClassFile.FieldType.long)) ∈ lw_all := lw_g (lw_at lw_m3 209 rfl) rfl
theorem q768 : (Jvm.Cond.methodLink "HandUnderTheChin" (286 : Nat) ({ cls := "HandUnderTheChin", name := "divisor", desc := "(JJ)J" } : Jvm.MethodName)) ∈ lw_all := lw_g (lw_at lw_m3 210 rfl) rfl
theorem q769 : (Jvm.Cond.static ({ cls := "HandUnderTheChin", name := "divisor", desc := "(JJ)J" } : Jvm.MethodName)) ∈ lw_all := lw_g (lw_at lw_m3 211 rfl) rfl
theorem q770 : (Jvm.Cond.code ({ cls := "HandUnderTheChin", name := "divisor", desc := "(JJ)J" } : Jvm.MethodName) prog_1_method_42_code (4 : Nat) (Option.some Jvm.ClassFile.FieldType.long)) ∈ lw_all := lw_g (lw_at lw_m3 212 rfl) rfl
theorem q772 : (Jvm.Cond.instanceMethod ({ cls := "HandUnderTheChin", name := "was", desc := "(IIII)I" } : Jvm.MethodName)) ∈ lw_all := lw_g (lw_at lw_m3 214 rfl) rfl
theorem q773 : (Jvm.Cond.selects "HandUnderTheChin" ({ cls := "HandUnderTheChin", name := "was", desc := "(IIII)I" } : Jvm.MethodName) ({ cls := "HandUnderTheChin", name := "was", desc := "(IIII)I" } : Jvm.MethodName)) ∈ lw_all := lw_g (lw_at lw_m3 215 rfl) rfl
theorem q774 : (Jvm.Cond.code ({ cls := "HandUnderTheChin", name := "was", desc := "(IIII)I" } : Jvm.MethodName) prog_1_method_52_code (8 : Nat) (Option.some Jvm.ClassFile.FieldType.int)) ∈ lw_all := lw_g (lw_at lw_m3 216 rfl) rfl
theorem q775 : (Jvm.Cond.methodLink "HandUnderTheChin" (319 : Nat) ({ cls := "HandUnderTheChin", name := "notRow", desc := "(I)I" } : Jvm.MethodName)) ∈ lw_all := lw_g (lw_at lw_m3 217 rfl) rfl
theorem q776 : (Jvm.Cond.privateMethod ({ cls := "HandUnderTheChin", name := "notRow", desc := "(I)I" } : Jvm.MethodName)) ∈ lw_tbl := lw_at lw_m3 218 rfl
theorem q777 : (Jvm.Cond.instanceMethod ({ cls := "HandUnderTheChin", name := "notRow", desc := "(I)I" } : Jvm.MethodName)) ∈ lw_all := lw_g (lw_at lw_m3 219 rfl) rfl
theorem q778 : (Jvm.Cond.code ({ cls := "HandUnderTheChin", name := "notRow", desc := "(I)I" } : Jvm.MethodName) prog_1_method_50_code (3 : Nat) (Option.some Jvm.ClassFile.FieldType.int)) ∈ lw_all := lw_g (lw_at lw_m3 220 rfl) rfl
theorem q779 : (Jvm.Cond.methodLink "HandUnderTheChin" (308 : Nat) ({ cls := "HandUnderTheChin", name := "sortOf", desc := "(Ljava/lang/Object;)I" } : Jvm.MethodName)) ∈ lw_all := lw_g (lw_at lw_m3 221 rfl) rfl
theorem q780 : (Jvm.Cond.static ({ cls := "HandUnderTheChin", name := "sortOf", desc := "(Ljava/lang/Object;)I" } : Jvm.MethodName)) ∈ lw_all := lw_g (lw_at lw_m3 222 rfl) rfl
theorem q781 : (Jvm.Cond.code ({ cls := "HandUnderTheChin", name := "sortOf", desc := "(Ljava/lang/Object;)I" } : Jvm.MethodName) prog_1_method_49_code (1 : Nat) (Option.some Jvm.ClassFile.FieldType.int)) ∈ lw_all := lw_g (lw_at lw_m3 223 rfl) rfl
theorem q782 : (Jvm.Cond.classLink "HandUnderTheChin" (300 : Nat) "[S") ∈ lw_all := lw_g (lw_at lw_m3 224 rfl) rfl
theorem q783 : (Jvm.Cond.classLink "HandUnderTheChin" (302 : Nat) "[I") ∈ lw_all := lw_g (lw_at lw_m3 225 rfl) rfl
theorem q784 : (Jvm.Cond.methodLink "HandUnderTheChin" (322 : Nat) ({ cls := "HandUnderTheChin", name := "wentSo", desc := "(Ljava/lang/Object;II)Z" } : Jvm.MethodName)) ∈ lw_all := lw_g (lw_at lw_m3 226 rfl) rfl
theorem q785 : (Jvm.Cond.static ({ cls := "HandUnderTheChin", name := "wentSo", desc := "(Ljava/lang/Object;II)Z" } : Jvm.MethodName)) ∈ lw_all := lw_g (lw_at lw_m3 227 rfl) rfl
theorem q786 : (Jvm.Cond.code ({ cls := "HandUnderTheChin", name := "wentSo", desc := "(Ljava/lang/Object;II)Z" } : Jvm.MethodName) prog_1_method_51_code (4 : Nat) (Option.some Jvm.ClassFile.FieldType.boolean)) ∈ lw_all := lw_g (lw_at lw_m3 228 rfl) rfl
theorem q787 : (Jvm.Cond.methodLink "HandUnderTheChin" (312 : Nat) ({ cls := "HandUnderTheChin", name := "sizeOf", desc := "(Ljava/lang/Object;)I" } : Jvm.MethodName)) ∈ lw_all := lw_g (lw_at lw_m3 229 rfl) rfl
theorem q788 : (Jvm.Cond.static ({ cls := "HandUnderTheChin", name := "sizeOf", desc := "(Ljava/lang/Object;)I" } : Jvm.MethodName)) ∈ lw_all := lw_g (lw_at lw_m3 230 rfl) rfl
theorem q789 : (Jvm.Cond.code ({ cls := "HandUnderTheChin", name := "sizeOf", desc := "(Ljava/lang/Object;)I" } : Jvm.MethodName) prog_1_method_46_code (1 : Nat) (Option.some Jvm.ClassFile.FieldType.int)) ∈ lw_all := lw_g (lw_at lw_m3 231 rfl) rfl
theorem q790 : (Jvm.Cond.methodLink "HandUnderTheChin" (315 : Nat) ({ cls := "HandUnderTheChin", name := "elementOf", desc := "(Ljava/lang/Object;I)I" } : Jvm.MethodName)) ∈ lw_all := lw_g (lw_at lw_m3 232 rfl) rfl
theorem q791 : (Jvm.Cond.static ({ cls := "HandUnderTheChin", name := "elementOf", desc := "(Ljava/lang/Object;I)I" } : Jvm.MethodName)) ∈ lw_all := lw_g (lw_at lw_m3 233 rfl) rfl
theorem q792 : (Jvm.Cond.code ({ cls := "HandUnderTheChin", name := "elementOf", desc := "(Ljava/lang/Object;I)I" } : Jvm.MethodName) prog_1_method_47_code (2 : Nat) (Option.some Jvm.ClassFile.FieldType.int)) ∈ lw_all := lw_g (lw_at lw_m3 234 rfl) rfl
theorem q794 : (Jvm.Cond.instanceMethod ({ cls := "HandUnderTheChin", name := "dare", desc := "(II)I" } : Jvm.MethodName)) ∈ lw_all := lw_g (lw_at lw_m3 236 rfl) rfl
theorem q795 : (Jvm.Cond.selects "HandUnderTheChin" ({ cls := "HandUnderTheChin", name := "dare", desc := "(II)I" } : Jvm.MethodName) ({ cls := "HandUnderTheChin", name := "dare", desc := "(II)I" } : Jvm.MethodName)) ∈ lw_all := lw_g (lw_at lw_m3 237 rfl) rfl
theorem q796 : (Jvm.Cond.code ({ cls := "HandUnderTheChin", name := "dare", desc := "(II)I" } : Jvm.MethodName) prog_1_method_54_code (6 : Nat) (Option.some Jvm.ClassFile.FieldType.int)) ∈ lw_all := lw_g (lw_at lw_m3 238 rfl) rfl
theorem q797 : (Jvm.Cond.methodLink "HandUnderTheChin" (326 : Nat) ({ cls := "HandUnderTheChin", name := "gets", desc := "(III)I" } : Jvm.MethodName)) ∈ lw_all := lw_g (lw_at lw_m3 239 rfl) rfl
theorem q798 : (Jvm.Cond.privateMethod ({ cls := "HandUnderTheChin", name := "gets", desc := "(III)I" } : Jvm.MethodName)) ∈ lw_tbl := lw_at lw_m4 0 rfl
theorem q799 : (Jvm.Cond.instanceMethod ({ cls := "HandUnderTheChin", name := "gets", desc := "(III)I" } : Jvm.MethodName)) ∈ lw_all := lw_g (lw_at lw_m4 1 rfl) rfl
theorem q800 : (Jvm.Cond.code ({ cls := "HandUnderTheChin", name := "gets", desc := "(III)I" } : Jvm.MethodName) prog_1_method_53_code (4 : Nat) (Option.some Jvm.ClassFile.FieldType.int)) ∈ lw_all := lw_g (lw_at lw_m4 2 rfl) rfl
theorem q802 : (Jvm.Cond.instanceMethod ({ cls := "HandUnderTheChin", name := "group", desc := "(II)I" } : Jvm.MethodName)) ∈ lw_all := lw_g (lw_at lw_m4 4 rfl) rfl
theorem q803 : (Jvm.Cond.selects "HandUnderTheChin" ({ cls := "HandUnderTheChin", name := "group", desc := "(II)I" } : Jvm.MethodName) ({ cls := "HandUnderTheChin", name := "group", desc := "(II)I" } : Jvm.MethodName)) ∈ lw_all := lw_g (lw_at lw_m4 5 rfl) rfl
theorem q804 : (Jvm.Cond.code ({ cls := "HandUnderTheChin", name := "group", desc := "(II)I" } : Jvm.MethodName) prog_1_method_56_code (5 : Nat) (Option.some Jvm.ClassFile.FieldType.int)) ∈ lw_all := lw_g (lw_at lw_m4 6 rfl) rfl
theorem q805 : (Jvm.Cond.methodLink "HandUnderTheChin" (329 : Nat) ({ cls := "HandUnderTheChin", name := "holdsOf", desc := "(I)I" } : Jvm.MethodName)) ∈ lw_all := lw_g (lw_at lw_m4 7 rfl) rfl
theorem q806 : (Jvm.Cond.privateMethod ({ cls := "HandUnderTheChin", name := "holdsOf", desc := "(I)I" } : Jvm.MethodName)) ∈ lw_tbl := lw_at lw_m4 8 rfl
theorem q807 : (Jvm.Cond.instanceMethod ({ cls := "HandUnderTheChin", name := "holdsOf", desc := "(I)I" } : Jvm.MethodName)) ∈ lw_all := lw_g (lw_at lw_m4 9 rfl) rfl
theorem q808 : (Jvm.Cond.code ({ cls := "HandUnderTheChin", name := "holdsOf", desc := "(I)I" } : Jvm.MethodName) prog_1_method_55_code (4 : Nat) (Option.some Jvm.ClassFile.FieldType.int)) ∈ lw_all := lw_g (lw_at lw_m4 10 rfl) rfl
theorem q810 : (Jvm.Cond.instanceMethod ({ cls := "HandUnderTheChin", name := "forget", desc := "()I" } : Jvm.MethodName)) ∈ lw_all := lw_g (lw_at lw_m4 12 rfl) rfl
theorem q811 : (Jvm.Cond.selects "HandUnderTheChin" ({ cls := "HandUnderTheChin", name := "forget", desc := "()I" } : Jvm.MethodName) ({ cls := "HandUnderTheChin", name := "forget", desc := "()I" } : Jvm.MethodName)) ∈ lw_all := lw_g (lw_at lw_m4 13 rfl) rfl
theorem q812 : (Jvm.Cond.code ({ cls := "HandUnderTheChin", name := "forget", desc := "()I" } : Jvm.MethodName) prog_1_method_57_code (2 : Nat) (Option.some Jvm.ClassFile.FieldType.int)) ∈ lw_all := lw_g (lw_at lw_m4 14 rfl) rfl
theorem q814 : (Jvm.Cond.instanceMethod ({ cls := "HandUnderTheChin", name := "coldest", desc := "(II)I" } : Jvm.MethodName)) ∈ lw_all := lw_g (lw_at lw_m4 16 rfl) rfl
theorem q815 : (Jvm.Cond.selects "HandUnderTheChin" ({ cls := "HandUnderTheChin", name := "coldest", desc := "(II)I" } : Jvm.MethodName) ({ cls := "HandUnderTheChin", name := "coldest", desc := "(II)I" } : Jvm.MethodName)) ∈ lw_all := lw_g (lw_at lw_m4 17 rfl) rfl
theorem q816 : (Jvm.Cond.code ({ cls := "HandUnderTheChin", name := "coldest", desc := "(II)I" } : Jvm.MethodName) prog_1_method_58_code (5 : Nat) (Option.some Jvm.ClassFile.FieldType.int)) ∈ lw_all := lw_g (lw_at lw_m4 18 rfl) rfl
theorem q818 : (Jvm.Cond.instanceMethod ({ cls := "HandUnderTheChin", name := "last", desc := "()I" } : Jvm.MethodName)) ∈ lw_all := lw_g (lw_at lw_m4 20 rfl) rfl
theorem q819 : (Jvm.Cond.selects "HandUnderTheChin" ({ cls := "HandUnderTheChin", name := "last", desc := "()I" } : Jvm.MethodName) ({ cls := "HandUnderTheChin", name := "last", desc := "()I" } : Jvm.MethodName)) ∈ lw_all := lw_g (lw_at lw_m4 21 rfl) rfl
theorem q820 : (Jvm.Cond.code ({ cls := "HandUnderTheChin", name := "last", desc := "()I" } : Jvm.MethodName) prog_1_method_59_code (3 : Nat) (Option.some Jvm.ClassFile.FieldType.int)) ∈ lw_all := lw_g (lw_at lw_m4 22 rfl) rfl
theorem q822 : (Jvm.Cond.instanceMethod ({ cls := "HandUnderTheChin", name := "mean", desc := "(I)J" } : Jvm.MethodName)) ∈ lw_all := lw_g (lw_at lw_m4 24 rfl) rfl
theorem q823 : (Jvm.Cond.selects "HandUnderTheChin" ({ cls := "HandUnderTheChin", name := "mean", desc := "(I)J" } : Jvm.MethodName) ({ cls := "HandUnderTheChin", name := "mean", desc := "(I)J" } : Jvm.MethodName)) ∈ lw_all := lw_g (lw_at lw_m4 25 rfl) rfl
theorem q824 : (Jvm.Cond.code ({ cls := "HandUnderTheChin", name := "mean", desc := "(I)J" } : Jvm.MethodName) prog_1_method_60_code (2 : Nat) (Option.some Jvm.ClassFile.FieldType.long)) ∈ lw_all := lw_g (lw_at lw_m4 26 rfl) rfl
theorem q826 : (Jvm.Cond.instanceMethod ({ cls := "HandUnderTheChin", name := "forged", desc := "(I)I" } : Jvm.MethodName)) ∈ lw_all := lw_g (lw_at lw_m4 28 rfl) rfl
theorem q827 : (Jvm.Cond.selects "HandUnderTheChin" ({ cls := "HandUnderTheChin", name := "forged", desc := "(I)I" } : Jvm.MethodName) ({ cls := "HandUnderTheChin", name := "forged", desc := "(I)I" } : Jvm.MethodName)) ∈ lw_all := lw_g (lw_at lw_m4 29 rfl) rfl
theorem q828 : (Jvm.Cond.code ({ cls := "HandUnderTheChin", name := "forged", desc := "(I)I" } : Jvm.MethodName) prog_1_method_61_code (7 : Nat) (Option.some Jvm.ClassFile.FieldType.int)) ∈ lw_all := lw_g (lw_at lw_m4 30 rfl) rfl
theorem q830 : (Jvm.Cond.instanceMethod ({ cls := "HandUnderTheChin", name := "judge", desc := "(II)I" } : Jvm.MethodName)) ∈ lw_all := lw_g (lw_at lw_m4 32 rfl) rfl
theorem q831 : (Jvm.Cond.selects "HandUnderTheChin" ({ cls := "HandUnderTheChin", name := "judge", desc := "(II)I" } : Jvm.MethodName) ({ cls := "HandUnderTheChin", name := "judge", desc := "(II)I" } : Jvm.MethodName)) ∈ lw_all := lw_g (lw_at lw_m4 33 rfl) rfl
theorem q832 : (Jvm.Cond.code ({ cls := "HandUnderTheChin", name := "judge", desc := "(II)I" } : Jvm.MethodName) prog_1_method_62_code (6 : Nat) (Option.some Jvm.ClassFile.FieldType.int)) ∈ lw_all := lw_g (lw_at lw_m4 34 rfl) rfl
theorem q833 : (Jvm.Cond.methodLink "HandUnderTheChin" (332 : Nat) ({ cls := "HandUnderTheChin", name := "leastElement", desc := "(Ljava/lang/Object;)I" } : Jvm.MethodName)) ∈ lw_all := lw_g (lw_at lw_m4 35 rfl) rfl
theorem q834 : (Jvm.Cond.static ({ cls := "HandUnderTheChin", name := "leastElement", desc := "(Ljava/lang/Object;)I" } : Jvm.MethodName)) ∈ lw_all := lw_g (lw_at lw_m4 36 rfl) rfl
theorem q835 : (Jvm.Cond.code ({ cls := "HandUnderTheChin", name := "leastElement", desc := "(Ljava/lang/Object;)I" } : Jvm.MethodName) prog_1_method_48_code (1 : Nat) (Option.some Jvm.ClassFile.FieldType.int)) ∈ lw_all := lw_g (lw_at lw_m4 37 rfl) rfl
theorem q836 : (Jvm.Cond.constant "HandUnderTheChin" (307 : Nat) (-2147483648 : Int32)) ∈ lw_all := lw_g (lw_at lw_m4 38 rfl) rfl
theorem q838 : (Jvm.Cond.instanceMethod ({ cls := "HandUnderTheChin", name := "weeks", desc := "(III)I" } : Jvm.MethodName)) ∈ lw_all := lw_g (lw_at lw_m4 40 rfl) rfl
theorem q839 : (Jvm.Cond.selects "HandUnderTheChin" ({ cls := "HandUnderTheChin", name := "weeks", desc := "(III)I" } : Jvm.MethodName) ({ cls := "HandUnderTheChin", name := "weeks", desc := "(III)I" } : Jvm.MethodName)) ∈ lw_all := lw_g (lw_at lw_m4 41 rfl) rfl
theorem q840 : (Jvm.Cond.code ({ cls := "HandUnderTheChin", name := "weeks", desc := "(III)I" } : Jvm.MethodName) prog_1_method_64_code (10 : Nat) (Option.some Jvm.ClassFile.FieldType.int)) ∈ lw_all := lw_g (lw_at lw_m4 42 rfl) rfl
theorem q841 : (Jvm.Cond.methodLink "HandUnderTheChin" (341 : Nat) ({ cls := "HandUnderTheChin", name := "draw", desc := "(I)I" } : Jvm.MethodName)) ∈ lw_all := lw_g (lw_at lw_m4 43 rfl) rfl
theorem q842 : (Jvm.Cond.privateMethod ({ cls := "HandUnderTheChin", name := "draw", desc := "(I)I" } : Jvm.MethodName)) ∈ lw_tbl := lw_at lw_m4 44 rfl
theorem q843 : (Jvm.Cond.instanceMethod ({ cls := "HandUnderTheChin", name := "draw", desc := "(I)I" } : Jvm.MethodName)) ∈ lw_all := lw_g (lw_at lw_m4 45 rfl) rfl
theorem q844 : (Jvm.Cond.code ({ cls := "HandUnderTheChin", name := "draw", desc := "(I)I" } : Jvm.MethodName) prog_1_method_63_code (2 : Nat) (Option.some Jvm.ClassFile.FieldType.int)) ∈ lw_all := lw_g (lw_at lw_m4 46 rfl) rfl
theorem q845 : (Jvm.Cond.constant "HandUnderTheChin" (338 : Nat) (1103515245 : Int32)) ∈ lw_all := lw_g (lw_at lw_m4 47 rfl) rfl
theorem q846 : (Jvm.Cond.constant "HandUnderTheChin" (339 : Nat) (2147483647 : Int32)) ∈ lw_all := lw_g (lw_at lw_m4 48 rfl) rfl
theorem q847 : (Jvm.Cond.constant "HandUnderTheChin" (340 : Nat) (65536 : Int32)) ∈ lw_all := lw_g (lw_at lw_m4 49 rfl) rfl
theorem q849 : (Jvm.Cond.instanceMethod ({ cls := "HandUnderTheChin", name := "image", desc := "()I" } : Jvm.MethodName)) ∈ lw_all := lw_g (lw_at lw_m4 51 rfl) rfl
theorem q850 : (Jvm.Cond.selects "HandUnderTheChin" ({ cls := "HandUnderTheChin", name := "image", desc := "()I" } : Jvm.MethodName) ({ cls := "HandUnderTheChin", name := "image", desc := "()I" } : Jvm.MethodName)) ∈ lw_all := lw_g (lw_at lw_m4 52 rfl) rfl
theorem q851 : (Jvm.Cond.code ({ cls := "HandUnderTheChin", name := "image", desc := "()I" } : Jvm.MethodName) prog_1_method_65_code (1 : Nat) (Option.some Jvm.ClassFile.FieldType.int)) ∈ lw_all := lw_g (lw_at lw_m4 53 rfl) rfl
theorem q853 : (Jvm.Cond.instanceMethod ({ cls := "HandUnderTheChin", name := "restore", desc := "()I" } : Jvm.MethodName)) ∈ lw_all := lw_g (lw_at lw_m4 55 rfl) rfl
theorem q854 : (Jvm.Cond.selects "HandUnderTheChin" ({ cls := "HandUnderTheChin", name := "restore", desc := "()I" } : Jvm.MethodName) ({ cls := "HandUnderTheChin", name := "restore", desc := "()I" } : Jvm.MethodName)) ∈ lw_all := lw_g (lw_at lw_m4 56 rfl) rfl
theorem q855 : (Jvm.Cond.code ({ cls := "HandUnderTheChin", name := "restore", desc := "()I" } : Jvm.MethodName) prog_1_method_66_code (1 : Nat) (Option.some Jvm.ClassFile.FieldType.int)) ∈ lw_all := lw_g (lw_at lw_m4 57 rfl) rfl
theorem q857 : (Jvm.Cond.instanceMethod ({ cls := "HandUnderTheChin", name := "count", desc := "(I)I" } : Jvm.MethodName)) ∈ lw_all := lw_g (lw_at lw_m4 59 rfl) rfl
theorem q858 : (Jvm.Cond.selects "HandUnderTheChin" ({ cls := "HandUnderTheChin", name := "count", desc := "(I)I" } : Jvm.MethodName) ({ cls := "HandUnderTheChin", name := "count", desc := "(I)I" } : Jvm.MethodName)) ∈ lw_all := lw_g (lw_at lw_m4 60 rfl) rfl
theorem q859 : (Jvm.Cond.code ({ cls := "HandUnderTheChin", name := "count", desc := "(I)I" } : Jvm.MethodName) prog_1_method_67_code (4 : Nat) (Option.some Jvm.ClassFile.FieldType.int)) ∈ lw_all := lw_g (lw_at lw_m4 61 rfl) rfl
theorem q862 : (Jvm.Cond.instanceMethod ({ cls := "HandUnderTheChin", name := "<init>", desc := "()V" } : Jvm.MethodName)) ∈ lw_all := lw_g (lw_at lw_m4 64 rfl) rfl
theorem q863 : (Jvm.Cond.code ({ cls := "HandUnderTheChin", name := "<init>", desc := "()V" } : Jvm.MethodName) prog_1_method_68_code (2 : Nat) (Option.none : Option Jvm.ClassFile.FieldType)) ∈ lw_all := lw_g (lw_at lw_m4 65 rfl) rfl
theorem q864 : (Jvm.Cond.methodLink "HandUnderTheChin" (354 : Nat) ({ cls := "java/lang/Object", name := "<init>", desc := "()V" } : Jvm.MethodName)) ∈ lw_all := lw_g (lw_at lw_m4 66 rfl) rfl
theorem q865 : (Jvm.Cond.classLink "HandUnderTheChin" (48 : Nat) "HandUnderTheChin$Bath") ∈ lw_all := lw_g (lw_at lw_m4 67 rfl) rfl
theorem q866 : (Jvm.Cond.methodLinkNest "HandUnderTheChin" (358 : Nat) ({ cls := "HandUnderTheChin$Bath", name := "<init>", desc := "()V" } : Jvm.MethodName) "HandUnderTheChin") ∈ lw_tbl := lw_at lw_m4 68 rfl
theorem q873 : (Jvm.Cond.fieldLink "HandUnderTheChin" (162 : Nat) "HandUnderTheChin$Bath" "who" "[LHandUnderTheChin$Child;") ∈ lw_all := lw_g (lw_at lw_m4 75 rfl) rfl
theorem q875 : (Jvm.Cond.fieldLink "HandUnderTheChin" (77 : Nat) "HandUnderTheChin$Bath" "trust" "[I") ∈ lw_all := lw_g (lw_at lw_m4 77 rfl) rfl
theorem q877 : (Jvm.Cond.fieldLink "HandUnderTheChin" (81 : Nat) "HandUnderTheChin$Bath" "step" "[I") ∈ lw_all := lw_g (lw_at lw_m4 79 rfl) rfl
theorem q879 : (Jvm.Cond.fieldLink "HandUnderTheChin" (173 : Nat) "HandUnderTheChin$Bath" "cold" "[I") ∈ lw_all := lw_g (lw_at lw_m4 81 rfl) rfl
theorem q881 : (Jvm.Cond.fieldLink "HandUnderTheChin" (66 : Nat) "HandUnderTheChin$Bath" "children" "I") ∈ lw_all := lw_g (lw_at lw_m4 83 rfl) rfl
theorem q883 : (Jvm.Cond.fieldLink "HandUnderTheChin" (56 : Nat) "HandUnderTheChin$Bath" "minute" "I") ∈ lw_all := lw_g (lw_at lw_m4 85 rfl) rfl
theorem q885 : (Jvm.Cond.fieldLink "HandUnderTheChin" (344 : Nat) "HandUnderTheChin$Bath" "swallows" "I") ∈ lw_all := lw_g (lw_at lw_m4 87 rfl) rfl
theorem q901 : (Jvm.Cond.classLink "HandUnderTheChin" (85 : Nat) "HandUnderTheChin$Told") ∈ lw_all := lw_g (lw_at lw_m4 103 rfl) rfl
theorem q904 : (Jvm.Cond.classLink "HandUnderTheChin" (146 : Nat) "HandUnderTheChin$Shelf") ∈ lw_all := lw_g (lw_at lw_m4 106 rfl) rfl
theorem q907 : (Jvm.Cond.methodLinkNest "HandUnderTheChin" (359 : Nat) ({ cls := "HandUnderTheChin$Shelf", name := "<init>", desc := "()V" } : Jvm.MethodName) "HandUnderTheChin") ∈ lw_tbl := lw_at lw_m4 109 rfl
theorem q911 : (Jvm.Cond.fieldLink "HandUnderTheChin" (145 : Nat) "HandUnderTheChin$Shelf" "held" "Ljava/lang/Object;") ∈ lw_all := lw_g (lw_at lw_m4 113 rfl) rfl
theorem q915 : (Jvm.Cond.fieldLink "HandUnderTheChin" (43 : Nat) "HandUnderTheChin" "now" "LHandUnderTheChin$Bath;") ∈ lw_all := lw_g (lw_at lw_m4 117 rfl) rfl
theorem q916 : (Jvm.Cond.fieldLink "HandUnderTheChin" (347 : Nat) "HandUnderTheChin" "kept" "LHandUnderTheChin$Bath;") ∈ lw_all := lw_g (lw_at lw_m4 118 rfl) rfl
theorem q917 : (Jvm.Cond.fieldLink "HandUnderTheChin" (63 : Nat) "HandUnderTheChin" "mind" "LHandUnderTheChin$Bath;") ∈ lw_all := lw_g (lw_at lw_m4 119 rfl) rfl
theorem q918 : (Jvm.Cond.fieldLink "HandUnderTheChin" (350 : Nat) "HandUnderTheChin" "hasImage" "Z") ∈ lw_all := lw_g (lw_at lw_m4 120 rfl) rfl
theorem q919 : (Jvm.Cond.fieldLink "HandUnderTheChin" (117 : Nat) "HandUnderTheChin" "told" "[LHandUnderTheChin$Told;") ∈ lw_all := lw_g (lw_at lw_m4 121 rfl) rfl
theorem q920 : (Jvm.Cond.fieldLink "HandUnderTheChin" (211 : Nat) "HandUnderTheChin" "fewest" "[I") ∈ lw_all := lw_g (lw_at lw_m4 122 rfl) rfl
theorem q921 : (Jvm.Cond.fieldLink "HandUnderTheChin" (228 : Nat) "HandUnderTheChin" "levels" "[LHandUnderTheChin$Bath;") ∈ lw_all := lw_g (lw_at lw_m4 123 rfl) rfl
theorem q922 : (Jvm.Cond.fieldLink "HandUnderTheChin" (239 : Nat) "HandUnderTheChin" "turn" "I") ∈ lw_all := lw_g (lw_at lw_m4 124 rfl) rfl
theorem q923 : (Jvm.Cond.fieldLink "HandUnderTheChin" (264 : Nat) "HandUnderTheChin" "order" "[I") ∈ lw_all := lw_g (lw_at lw_m4 125 rfl) rfl
theorem q924 : (Jvm.Cond.fieldLink "HandUnderTheChin" (267 : Nat) "HandUnderTheChin" "bestOrder" "[I") ∈ lw_all := lw_g (lw_at lw_m4 126 rfl) rfl
theorem q925 : (Jvm.Cond.fieldLink "HandUnderTheChin" (261 : Nat) "HandUnderTheChin" "bestSum" "I") ∈ lw_all := lw_g (lw_at lw_m4 127 rfl) rfl
theorem q926 : (Jvm.Cond.fieldLink "HandUnderTheChin" (335 : Nat) "HandUnderTheChin" "lots" "I") ∈ lw_all := lw_g (lw_at lw_m4 128 rfl) rfl
theorem q927 : (Jvm.Cond.fieldLink "HandUnderTheChin" (141 : Nat) "HandUnderTheChin" "shelves" "[LHandUnderTheChin$Shelf;") ∈ lw_all := lw_g (lw_at lw_m4 129 rfl) rfl
theorem q928 : (Jvm.Cond.laysFinal "HandUnderTheChin" "HandUnderTheChin" "now" "LHandUnderTheChin$Bath;") ∈ lw_all := lw_g (lw_at lw_m4 130 rfl) rfl
theorem q929 : (Jvm.Cond.soleField "HandUnderTheChin" "now") ∈ lw_all := lw_g (lw_at lw_m4 131 rfl) rfl
theorem q930 : (Jvm.Cond.laysFinal "HandUnderTheChin" "HandUnderTheChin" "kept" "LHandUnderTheChin$Bath;") ∈ lw_all := lw_g (lw_at lw_m4 132 rfl) rfl
theorem q931 : (Jvm.Cond.soleField "HandUnderTheChin" "kept") ∈ lw_all := lw_g (lw_at lw_m4 133 rfl) rfl
theorem q932 : (Jvm.Cond.laysFinal "HandUnderTheChin" "HandUnderTheChin" "mind" "LHandUnderTheChin$Bath;") ∈ lw_all := lw_g (lw_at lw_m4 134 rfl) rfl
theorem q933 : (Jvm.Cond.soleField "HandUnderTheChin" "mind") ∈ lw_all := lw_g (lw_at lw_m4 135 rfl) rfl
theorem q934 : (Jvm.Cond.lays "HandUnderTheChin" "HandUnderTheChin" "hasImage" "Z") ∈ lw_all := lw_g (lw_at lw_m4 136 rfl) rfl
theorem q935 : (Jvm.Cond.soleField "HandUnderTheChin" "hasImage") ∈ lw_all := lw_g (lw_at lw_m4 137 rfl) rfl
theorem q936 : (Jvm.Cond.laysFinal "HandUnderTheChin" "HandUnderTheChin" "told" "[LHandUnderTheChin$Told;") ∈ lw_all := lw_g (lw_at lw_m4 138 rfl) rfl
theorem q937 : (Jvm.Cond.soleField "HandUnderTheChin" "told") ∈ lw_all := lw_g (lw_at lw_m4 139 rfl) rfl
theorem q938 : (Jvm.Cond.laysFinal "HandUnderTheChin" "HandUnderTheChin" "fewest" "[I") ∈ lw_all := lw_g (lw_at lw_m4 140 rfl) rfl
theorem q939 : (Jvm.Cond.soleField "HandUnderTheChin" "fewest") ∈ lw_all := lw_g (lw_at lw_m4 141 rfl) rfl
theorem q940 : (Jvm.Cond.laysFinal "HandUnderTheChin" "HandUnderTheChin" "levels" "[LHandUnderTheChin$Bath;") ∈ lw_all := lw_g (lw_at lw_m4 142 rfl) rfl
theorem q941 : (Jvm.Cond.soleField "HandUnderTheChin" "levels") ∈ lw_all := lw_g (lw_at lw_m4 143 rfl) rfl
theorem q942 : (Jvm.Cond.lays "HandUnderTheChin" "HandUnderTheChin" "turn" "I") ∈ lw_all := lw_g (lw_at lw_m4 144 rfl) rfl
theorem q943 : (Jvm.Cond.soleField "HandUnderTheChin" "turn") ∈ lw_all := lw_g (lw_at lw_m4 145 rfl) rfl
theorem q944 : (Jvm.Cond.laysFinal "HandUnderTheChin" "HandUnderTheChin" "order" "[I") ∈ lw_all := lw_g (lw_at lw_m4 146 rfl) rfl
theorem q945 : (Jvm.Cond.soleField "HandUnderTheChin" "order") ∈ lw_all := lw_g (lw_at lw_m4 147 rfl) rfl
theorem q946 : (Jvm.Cond.laysFinal "HandUnderTheChin" "HandUnderTheChin" "bestOrder" "[I") ∈ lw_all := lw_g (lw_at lw_m4 148 rfl) rfl
theorem q947 : (Jvm.Cond.soleField "HandUnderTheChin" "bestOrder") ∈ lw_all := lw_g (lw_at lw_m4 149 rfl) rfl
theorem q948 : (Jvm.Cond.lays "HandUnderTheChin" "HandUnderTheChin" "bestSum" "I") ∈ lw_all := lw_g (lw_at lw_m4 150 rfl) rfl
theorem q949 : (Jvm.Cond.soleField "HandUnderTheChin" "bestSum") ∈ lw_all := lw_g (lw_at lw_m4 151 rfl) rfl
theorem q950 : (Jvm.Cond.lays "HandUnderTheChin" "HandUnderTheChin" "lots" "I") ∈ lw_all := lw_g (lw_at lw_m4 152 rfl) rfl
theorem q951 : (Jvm.Cond.soleField "HandUnderTheChin" "lots") ∈ lw_all := lw_g (lw_at lw_m4 153 rfl) rfl
theorem q952 : (Jvm.Cond.laysFinal "HandUnderTheChin" "HandUnderTheChin" "shelves" "[LHandUnderTheChin$Shelf;") ∈ lw_all := lw_g (lw_at lw_m4 154 rfl) rfl
theorem q953 : (Jvm.Cond.soleField "HandUnderTheChin" "shelves") ∈ lw_all := lw_g (lw_at lw_m4 155 rfl) rfl
theorem q954 : (Jvm.Cond.superclass "HandUnderTheChin" "java/lang/Object") ∈ lw_all := lw_g (lw_at lw_m4 156 rfl) rfl
theorem q956 : (Jvm.Cond.instanceMethod ({ cls := "HandUnderTheChin", name := "keep", desc := "(IIII)I" } : Jvm.MethodName)) ∈ lw_all := lw_g (lw_at lw_m4 158 rfl) rfl
theorem q957 : (Jvm.Cond.selects "HandUnderTheChin" ({ cls := "HandUnderTheChin", name := "keep", desc := "(IIII)I" } : Jvm.MethodName) ({ cls := "HandUnderTheChin", name := "keep", desc := "(IIII)I" } : Jvm.MethodName)) ∈ lw_all := lw_g (lw_at lw_m4 159 rfl) rfl
theorem q958 : (Jvm.Cond.code ({ cls := "HandUnderTheChin", name := "keep", desc := "(IIII)I" } : Jvm.MethodName) prog_1_method_69_code (5 : Nat) (Option.some Jvm.ClassFile.FieldType.int)) ∈ lw_all := lw_g (lw_at lw_m4 160 rfl) rfl
theorem q960 : (Jvm.Cond.instanceMethod ({ cls := "HandUnderTheChin", name := "row", desc := "(III)I" } : Jvm.MethodName)) ∈ lw_all := lw_g (lw_at lw_m4 162 rfl) rfl
theorem q961 : (Jvm.Cond.selects "HandUnderTheChin" ({ cls := "HandUnderTheChin", name := "row", desc := "(III)I" } : Jvm.MethodName) ({ cls := "HandUnderTheChin", name := "row", desc := "(III)I" } : Jvm.MethodName)) ∈ lw_all := lw_g (lw_at lw_m4 163 rfl) rfl
theorem q962 : (Jvm.Cond.codeWith ({ cls := "HandUnderTheChin", name := "row", desc := "(III)I" } : Jvm.MethodName) prog_1_method_70_code (5 : Nat) (Option.some Jvm.ClassFile.FieldType.int) [((25 : Nat), (67 : Nat), (68 : Nat), (360 : Nat))]) ∈ lw_all := lw_g (lw_at lw_m4 164 rfl) rfl
theorem q963 : (Jvm.Cond.classLink "HandUnderTheChin" (360 : Nat) "java/lang/NegativeArraySizeException") ∈ lw_all := lw_g (lw_at lw_m4 165 rfl) rfl
theorem q979 : (Jvm.Cond.instanceMethod ({ cls := "HandUnderTheChin", name := "put", desc := "(III)I" } : Jvm.MethodName)) ∈ lw_all := lw_g (lw_at lw_m4 181 rfl) rfl
theorem q980 : (Jvm.Cond.selects "HandUnderTheChin" ({ cls := "HandUnderTheChin", name := "put", desc := "(III)I" } : Jvm.MethodName) ({ cls := "HandUnderTheChin", name := "put", desc := "(III)I" } : Jvm.MethodName)) ∈ lw_all := lw_g (lw_at lw_m4 182 rfl) rfl
theorem q981 : (Jvm.Cond.codeWith ({ cls := "HandUnderTheChin", name := "put", desc := "(III)I" } : Jvm.MethodName) prog_1_method_71_code (6 : Nat) (Option.some Jvm.ClassFile.FieldType.int) [((29 : Nat), (78 : Nat), (79 : Nat), (157 : Nat)), ((29 : Nat), (78 : Nat), (84 : Nat), (362 : Nat))]) ∈ lw_all := lw_g (lw_at lw_m4 183 rfl) rfl
theorem q982 : (Jvm.Cond.classLink "HandUnderTheChin" (362 : Nat) "java/lang/ArrayIndexOutOfBoundsException") ∈ lw_all := lw_g (lw_at lw_m4 184 rfl) rfl
theorem q1002 : (Jvm.Cond.instanceMethod ({ cls := "HandUnderTheChin", name := "copy", desc := "(IIIII)I" } : Jvm.MethodName)) ∈ lw_all := lw_g (lw_at lw_m4 204 rfl) rfl
theorem q1003 : (Jvm.Cond.selects "HandUnderTheChin" ({ cls := "HandUnderTheChin", name := "copy", desc := "(IIIII)I" } : Jvm.MethodName) ({ cls := "HandUnderTheChin", name := "copy", desc := "(IIIII)I" } : Jvm.MethodName)) ∈ lw_all := lw_g (lw_at lw_m4 205 rfl) rfl
theorem q1004 : (Jvm.Cond.codeWith ({ cls := "HandUnderTheChin", name := "copy", desc := "(IIIII)I" } : Jvm.MethodName) prog_1_method_73_code (9 : Nat) (Option.some Jvm.ClassFile.FieldType.int) [((78 : Nat), (92 : Nat), (93 : Nat), (372 : Nat))]) ∈ lw_all := lw_g (lw_at lw_m4 206 rfl) rfl
theorem q1005 : (Jvm.Cond.classLink "HandUnderTheChin" (372 : Nat) "java/lang/IndexOutOfBoundsException") ∈ lw_all := lw_g (lw_at lw_m4 207 rfl) rfl
theorem q1007 : (Jvm.Cond.instanceMethod ({ cls := "HandUnderTheChin", name := "cost", desc := "(I)I" } : Jvm.MethodName)) ∈ lw_all := lw_g (lw_at lw_m4 209 rfl) rfl
theorem q1008 : (Jvm.Cond.selects "HandUnderTheChin" ({ cls := "HandUnderTheChin", name := "cost", desc := "(I)I" } : Jvm.MethodName) ({ cls := "HandUnderTheChin", name := "cost", desc := "(I)I" } : Jvm.MethodName)) ∈ lw_all := lw_g (lw_at lw_m4 210 rfl) rfl
theorem q1009 : (Jvm.Cond.codeWith ({ cls := "HandUnderTheChin", name := "cost", desc := "(I)I" } : Jvm.MethodName) prog_1_method_74_code (3 : Nat) (Option.some Jvm.ClassFile.FieldType.int) [((10 : Nat), (25 : Nat), (26 : Nat), (367 : Nat)), ((10 : Nat), (25 : Nat), (30 : Nat), (157 : Nat))]) ∈ lw_all := lw_g (lw_at lw_m4 211 rfl) rfl
theorem q1010 : (Jvm.Cond.classLink "HandUnderTheChin" (367 : Nat) "java/lang/NullPointerException") ∈ lw_all := lw_g (lw_at lw_m4 212 rfl) rfl
theorem q1032 : (Jvm.Cond.methodLink "HandUnderTheChin" (374 : Nat) ({ cls := "HandUnderTheChin$Child", name := "cost", desc := "()I" } : Jvm.MethodName)) ∈ lw_all := lw_g (lw_at lw_m4 234 rfl) rfl
theorem q1066 : (Jvm.Cond.instanceMethod ({ cls := "HandUnderTheChin", name := "toss", desc := "(I)I" } : Jvm.MethodName)) ∈ lw_all := lw_g (lw_at lw_m5 28 rfl) rfl
theorem q1067 : (Jvm.Cond.selects "HandUnderTheChin" ({ cls := "HandUnderTheChin", name := "toss", desc := "(I)I" } : Jvm.MethodName) ({ cls := "HandUnderTheChin", name := "toss", desc := "(I)I" } : Jvm.MethodName)) ∈ lw_all := lw_g (lw_at lw_m5 29 rfl) rfl
theorem q1068 : (Jvm.Cond.codeWith ({ cls := "HandUnderTheChin", name := "toss", desc := "(I)I" } : Jvm.MethodName) prog_1_method_75_code (3 : Nat) (Option.some Jvm.ClassFile.FieldType.int) [((25 : Nat), (41 : Nat), (41 : Nat), (381 : Nat)), ((25 : Nat), (41 : Nat), (47 : Nat), (367 : Nat)), ((25 : Nat), (41 : Nat), (51 : Nat), (157 : Nat))]) ∈ lw_all := lw_g (lw_at lw_m5 30 rfl) rfl
theorem q1069 : (Jvm.Cond.classLink "HandUnderTheChin" (381 : Nat) "HandUnderTheChin$Tossed") ∈ lw_all := lw_g (lw_at lw_m5 31 rfl) rfl
theorem q1070 : (Jvm.Cond.methodLink "HandUnderTheChin" (377 : Nat) ({ cls := "HandUnderTheChin$Child", name := "failure", desc := "()LHandUnderTheChin$Tossed;" } : Jvm.MethodName)) ∈ lw_all := lw_g (lw_at lw_m5 32 rfl) rfl
theorem q1094 : (Jvm.Cond.fieldLink "HandUnderTheChin" (383 : Nat) "HandUnderTheChin$Tossed" "n" "I") ∈ lw_all := lw_g (lw_at lw_m5 56 rfl) rfl
theorem q1123 : (Jvm.Cond.instanceMethod ({ cls := "HandUnderTheChin", name := "element", desc := "(II)J" } : Jvm.MethodName)) ∈ lw_all := lw_g (lw_at lw_m5 85 rfl) rfl
theorem q1124 : (Jvm.Cond.selects "HandUnderTheChin" ({ cls := "HandUnderTheChin", name := "element", desc := "(II)J" } : Jvm.MethodName) ({ cls := "HandUnderTheChin", name := "element", desc := "(II)J" } : Jvm.MethodName)) ∈ lw_all := lw_g (lw_at lw_m5 86 rfl) rfl
theorem q1125 : (Jvm.Cond.codeWith ({ cls := "HandUnderTheChin", name := "element", desc := "(II)J" } : Jvm.MethodName) prog_1_method_72_code (5 : Nat) (Option.some Jvm.ClassFile.FieldType.long) [((26 : Nat), (40 : Nat), (64 : Nat), (367 : Nat)), ((41 : Nat), (55 : Nat), (64 : Nat), (367 : Nat)), ((56 : Nat), (63 : Nat), (64 : Nat), (367 : Nat)), ((26 : Nat), (40 : Nat), (74 : Nat), (157 : Nat)), ((41 : Nat), (55 : Nat), (74 : Nat), (157 : Nat)), ((56 : Nat), (63 : Nat), (74 : Nat), (157 : Nat)), ((26 : Nat), (40 : Nat), (84 : Nat), (362 : Nat)), ((41 : Nat), (55 : Nat), (84 : Nat), (362 : Nat)), ((56 : Nat), (63 : Nat), (84 : Nat), (362 : Nat))]) ∈ lw_all := lw_g (lw_at lw_m5 87 rfl) rfl
theorem q1126 : (Jvm.Cond.classLink "HandUnderTheChin" (364 : Nat) "java/lang/IllegalArgumentException") ∈ lw_all := lw_g (lw_at lw_m5 88 rfl) rfl
theorem q1135 : (Jvm.Cond.methodLink "HandUnderTheChin" (366 : Nat) ({ cls := "java/lang/IllegalArgumentException", name := "<init>", desc := "()V" } : Jvm.MethodName)) ∈ lw_all := lw_g (lw_at lw_m5 97 rfl) rfl
theorem q1141 : (Jvm.Cond.classLink "HandUnderTheChin" (369 : Nat) "java/lang/IllegalStateException") ∈ lw_all := lw_g (lw_at lw_m5 103 rfl) rfl
theorem q1150 : (Jvm.Cond.methodLink "HandUnderTheChin" (371 : Nat) ({ cls := "java/lang/IllegalStateException", name := "<init>", desc := "()V" } : Jvm.MethodName)) ∈ lw_all := lw_g (lw_at lw_m5 112 rfl) rfl
theorem in_X1 : ∀ w ∈ wsX10, w ∈ lw_all := lw_in wsX10 [928, 930, 932, 934, 936, 938, 940, 942, 944, 946, 948, 950, 952] (by decide +kernel) (by decide +kernel)
