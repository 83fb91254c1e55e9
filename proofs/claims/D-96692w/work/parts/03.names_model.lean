/-! HandUnderTheChinModel -/
set_option maxRecDepth 100000
def RX4 : String := "HandUnderTheChinModel"
def TX4 : u_T := fun k => match k with
  | 0 => ("HandUnderTheChinModel", "children", "I", false)
  | 1 => ("HandUnderTheChinModel", "kinds", "[I", true)
  | 2 => ("HandUnderTheChinModel", "figures", "[I", true)
  | 3 => ("HandUnderTheChinModel", "trusts", "[I", true)
  | 4 => ("HandUnderTheChinModel", "steps", "[I", true)
  | 5 => ("HandUnderTheChinModel", "colds", "[I", true)
  | 6 => ("HandUnderTheChinModel", "minute0", "I", false)
  | 7 => ("HandUnderTheChinModel", "holdsWhat", "[I", true)
  | 8 => ("HandUnderTheChinModel", "keptKind", "[I", true)
  | 9 => ("HandUnderTheChinModel", "keptFigure", "[I", true)
  | 10 => ("HandUnderTheChinModel", "rowSort", "[I", true)
  | 11 => ("HandUnderTheChinModel", "rowMany", "[I", true)
  | 12 => ("HandUnderTheChinModel", "rows", "[J", true)
  | 13 => ("HandUnderTheChinModel", "thrown", "I", false)
  | 14 => ("HandUnderTheChinModel", "reading", "I", false)
  | 15 => ("HandUnderTheChinModel", "at", "I", false)
  | 16 => ("HandUnderTheChinModel", "isBad", "Z", false)
  | 17 => ("HandUnderTheChinModel", "statements", "I", false)
  | 18 => ("HandUnderTheChinModel", "placeIn", "[I", true)
  | 19 => ("HandUnderTheChinModel", "letterOf", "[I", true)
  | 20 => ("HandUnderTheChinModel", "told", "[I", true)
  | 21 => ("HandUnderTheChinModel", "kept", "[I", true)
  | 22 => ("HandUnderTheChinModel", "imaged", "[I", true)
  | 23 => ("HandUnderTheChinModel", "hasImage", "Z", false)
  | 24 => ("HandUnderTheChinModel", "place0", "I", false)
  | 25 => ("HandUnderTheChinModel", "isTaking", "Z", false)
  | 26 => ("HandUnderTheChinModel", "keptIn", "[I", false)
  | 27 => ("HandUnderTheChinModel", "fewest", "[I", true)
  | 28 => ("HandUnderTheChinModel", "past", "[I", true)
  | 29 => ("HandUnderTheChinModel", "stage", "[I", true)
  | 30 => ("HandUnderTheChinModel", "choices", "[I", true)
  | 31 => ("HandUnderTheChinModel", "mostAll", "I", false)
  | 32 => ("HandUnderTheChinModel", "mostFirst", "I", false)
  | 33 => ("HandUnderTheChinModel", "turnAt", "I", false)
  | 34 => ("HandUnderTheChinModel", "order0", "[I", true)
  | 35 => ("HandUnderTheChinModel", "seed", "I", false)
  | _ => ("HandUnderTheChinModel", "between", "[J", true)
def tyX4 : Nat → FieldType := fun k => match k with
  | 0 => .int
  | 1 => .array .int
  | 2 => .array .int
  | 3 => .array .int
  | 4 => .array .int
  | 5 => .array .int
  | 6 => .int
  | 7 => .array .int
  | 8 => .array .int
  | 9 => .array .int
  | 10 => .array .int
  | 11 => .array .int
  | 12 => .array .long
  | 13 => .int
  | 14 => .int
  | 15 => .int
  | 16 => .boolean
  | 17 => .int
  | 18 => .array .int
  | 19 => .array .int
  | 20 => .array .int
  | 21 => .array .int
  | 22 => .array .int
  | 23 => .boolean
  | 24 => .int
  | 25 => .boolean
  | 26 => .array .int
  | 27 => .array .int
  | 28 => .array .int
  | 29 => .array .int
  | 30 => .array .int
  | 31 => .int
  | 32 => .int
  | 33 => .int
  | 34 => .array .int
  | 35 => .int
  | _ => .array .long
abbrev wsX40 : List Cond := u_ws RX4 TX4 37
set_option maxRecDepth 100000 in
theorem nmX4 : ∀ a, a < 37 → ∀ b, b < 37 → a ≠ b → (TX4 a).2.1 ≠ (TX4 b).2.1 := by decide +kernel
set_option maxRecDepth 100000 in
theorem tyX4_ok : ∀ k, k < 37 → parseFieldDescriptor (TX4 k).2.2.1 = some (tyX4 k) := by decide +kernel
abbrev cX4_init : ByteArray := prog_21_method_1_code
def yX4_init : MethodName := ⟨RX4, "<init>", "()V"⟩
def dkwX4_init_8 : List UInt8 := [177]
abbrev dktX4_init_8 : List UInt8 := dkwX4_init_8 ++ []
def dkwX4_init_7 : List UInt8 := [181, 0, 68, 42, 16, 6, 188, 10, 181, 0, 71, 42, 16, 100, 188, 11, 181, 0, 74, 42, 3, 181, 0, 77]
abbrev dktX4_init_7 : List UInt8 := dkwX4_init_7 ++ dktX4_init_8
def dkwX4_init_6 : List UInt8 := [181, 0, 59, 42, 16, 96, 188, 10, 181, 0, 62, 42, 16, 32, 188, 10, 181, 0, 65, 42, 6, 188, 10]
abbrev dktX4_init_6 : List UInt8 := dkwX4_init_6 ++ dktX4_init_7
def dkwX4_init_5 : List UInt8 := [42, 16, 32, 188, 10, 181, 0, 53, 42, 16, 32, 188, 10, 181, 0, 56, 42, 17, 0, 168, 188, 10]
abbrev dktX4_init_5 : List UInt8 := dkwX4_init_5 ++ dktX4_init_6
def dkwX4_init_4 : List UInt8 := [16, 51, 188, 10, 181, 0, 44, 42, 16, 51, 188, 10, 181, 0, 47, 42, 17, 0, 153, 188, 10, 181, 0, 50]
abbrev dktX4_init_4 : List UInt8 := dkwX4_init_4 ++ dktX4_init_5
def dkwX4_init_3 : List UInt8 := [188, 10, 181, 0, 34, 42, 16, 8, 188, 10, 181, 0, 37, 42, 17, 3, 32, 188, 11, 181, 0, 40, 42]
abbrev dktX4_init_3 : List UInt8 := dkwX4_init_3 ++ dktX4_init_4
def dkwX4_init_2 : List UInt8 := [188, 10, 181, 0, 25, 42, 16, 8, 188, 10, 181, 0, 28, 42, 16, 8, 188, 10, 181, 0, 31, 42, 16, 8]
abbrev dktX4_init_2 : List UInt8 := dkwX4_init_2 ++ dktX4_init_3
def dkwX4_init_1 : List UInt8 := [188, 10, 181, 0, 16, 42, 16, 6, 188, 10, 181, 0, 19, 42, 16, 6, 188, 10, 181, 0, 22, 42, 16, 8]
abbrev dktX4_init_1 : List UInt8 := dkwX4_init_1 ++ dktX4_init_2
def dkwX4_init_0 : List UInt8 := [42, 183, 0, 1, 42, 16, 6, 188, 10, 181, 0, 7, 42, 16, 6, 188, 10, 181, 0, 13, 42, 16, 6]
abbrev dktX4_init_0 : List UInt8 := dkwX4_init_0 ++ dktX4_init_1
theorem dksX4_init_0 : cX4_init.data.toList.drop 0 = dktX4_init_0 := by decide +kernel
theorem dksX4_init_1 : cX4_init.data.toList.drop 23 = dktX4_init_1 := dk_seg dksX4_init_0 23 rfl rfl
theorem dksX4_init_2 : cX4_init.data.toList.drop 47 = dktX4_init_2 := dk_seg dksX4_init_1 24 rfl rfl
theorem dksX4_init_3 : cX4_init.data.toList.drop 71 = dktX4_init_3 := dk_seg dksX4_init_2 24 rfl rfl
theorem dksX4_init_4 : cX4_init.data.toList.drop 94 = dktX4_init_4 := dk_seg dksX4_init_3 23 rfl rfl
theorem dksX4_init_5 : cX4_init.data.toList.drop 118 = dktX4_init_5 := dk_seg dksX4_init_4 24 rfl rfl
theorem dksX4_init_6 : cX4_init.data.toList.drop 140 = dktX4_init_6 := dk_seg dksX4_init_5 22 rfl rfl
theorem dksX4_init_7 : cX4_init.data.toList.drop 163 = dktX4_init_7 := dk_seg dksX4_init_6 23 rfl rfl
theorem dksX4_init_8 : cX4_init.data.toList.drop 187 = dktX4_init_8 := dk_seg dksX4_init_7 24 rfl rfl
theorem dX4_init_0 : decode cX4_init 0 = .ok (.aload_n 0, 1) := dk_42 (dk_at dksX4_init_0 0 rfl rfl)
theorem dX4_init_1 : decode cX4_init 1 = .ok (.invokespecial 1, 3) := dk_183 0 1 (dk_at dksX4_init_0 1 rfl rfl)
theorem dX4_init_4 : decode cX4_init 4 = .ok (.aload_n 0, 1) := dk_42 (dk_at dksX4_init_0 4 rfl rfl)
theorem dX4_init_5 : decode cX4_init 5 = .ok (.bipush 6, 2) := dk_16 6 (dk_at dksX4_init_0 5 rfl rfl)
theorem dX4_init_7 : decode cX4_init 7 = .ok (.newarray .int, 2) := dk_188_10 (dk_at dksX4_init_0 7 rfl rfl)
theorem dX4_init_9 : decode cX4_init 9 = .ok (.putfield 7, 3) := dk_181 0 7 (dk_at dksX4_init_0 9 rfl rfl)
theorem dX4_init_12 : decode cX4_init 12 = .ok (.aload_n 0, 1) := dk_42 (dk_at dksX4_init_0 12 rfl rfl)
theorem dX4_init_13 : decode cX4_init 13 = .ok (.bipush 6, 2) := dk_16 6 (dk_at dksX4_init_0 13 rfl rfl)
theorem dX4_init_15 : decode cX4_init 15 = .ok (.newarray .int, 2) := dk_188_10 (dk_at dksX4_init_0 15 rfl rfl)
theorem dX4_init_17 : decode cX4_init 17 = .ok (.putfield 13, 3) := dk_181 0 13 (dk_at dksX4_init_0 17 rfl rfl)
theorem dX4_init_20 : decode cX4_init 20 = .ok (.aload_n 0, 1) := dk_42 (dk_at dksX4_init_0 20 rfl rfl)
theorem dX4_init_21 : decode cX4_init 21 = .ok (.bipush 6, 2) := dk_16 6 (dk_at dksX4_init_0 21 rfl rfl)
theorem dX4_init_23 : decode cX4_init 23 = .ok (.newarray .int, 2) := dk_188_10 (dk_at dksX4_init_1 0 rfl rfl)
theorem dX4_init_25 : decode cX4_init 25 = .ok (.putfield 16, 3) := dk_181 0 16 (dk_at dksX4_init_1 2 rfl rfl)
theorem dX4_init_28 : decode cX4_init 28 = .ok (.aload_n 0, 1) := dk_42 (dk_at dksX4_init_1 5 rfl rfl)
theorem dX4_init_29 : decode cX4_init 29 = .ok (.bipush 6, 2) := dk_16 6 (dk_at dksX4_init_1 6 rfl rfl)
theorem dX4_init_31 : decode cX4_init 31 = .ok (.newarray .int, 2) := dk_188_10 (dk_at dksX4_init_1 8 rfl rfl)
theorem dX4_init_33 : decode cX4_init 33 = .ok (.putfield 19, 3) := dk_181 0 19 (dk_at dksX4_init_1 10 rfl rfl)
theorem dX4_init_36 : decode cX4_init 36 = .ok (.aload_n 0, 1) := dk_42 (dk_at dksX4_init_1 13 rfl rfl)
theorem dX4_init_37 : decode cX4_init 37 = .ok (.bipush 6, 2) := dk_16 6 (dk_at dksX4_init_1 14 rfl rfl)
theorem dX4_init_39 : decode cX4_init 39 = .ok (.newarray .int, 2) := dk_188_10 (dk_at dksX4_init_1 16 rfl rfl)
theorem dX4_init_41 : decode cX4_init 41 = .ok (.putfield 22, 3) := dk_181 0 22 (dk_at dksX4_init_1 18 rfl rfl)
theorem dX4_init_44 : decode cX4_init 44 = .ok (.aload_n 0, 1) := dk_42 (dk_at dksX4_init_1 21 rfl rfl)
theorem dX4_init_45 : decode cX4_init 45 = .ok (.bipush 8, 2) := dk_16 8 (dk_at dksX4_init_1 22 rfl rfl)
theorem dX4_init_47 : decode cX4_init 47 = .ok (.newarray .int, 2) := dk_188_10 (dk_at dksX4_init_2 0 rfl rfl)
theorem dX4_init_49 : decode cX4_init 49 = .ok (.putfield 25, 3) := dk_181 0 25 (dk_at dksX4_init_2 2 rfl rfl)
theorem dX4_init_52 : decode cX4_init 52 = .ok (.aload_n 0, 1) := dk_42 (dk_at dksX4_init_2 5 rfl rfl)
theorem dX4_init_53 : decode cX4_init 53 = .ok (.bipush 8, 2) := dk_16 8 (dk_at dksX4_init_2 6 rfl rfl)
theorem dX4_init_55 : decode cX4_init 55 = .ok (.newarray .int, 2) := dk_188_10 (dk_at dksX4_init_2 8 rfl rfl)
theorem dX4_init_57 : decode cX4_init 57 = .ok (.putfield 28, 3) := dk_181 0 28 (dk_at dksX4_init_2 10 rfl rfl)
theorem dX4_init_60 : decode cX4_init 60 = .ok (.aload_n 0, 1) := dk_42 (dk_at dksX4_init_2 13 rfl rfl)
theorem dX4_init_61 : decode cX4_init 61 = .ok (.bipush 8, 2) := dk_16 8 (dk_at dksX4_init_2 14 rfl rfl)
theorem dX4_init_63 : decode cX4_init 63 = .ok (.newarray .int, 2) := dk_188_10 (dk_at dksX4_init_2 16 rfl rfl)
theorem dX4_init_65 : decode cX4_init 65 = .ok (.putfield 31, 3) := dk_181 0 31 (dk_at dksX4_init_2 18 rfl rfl)
theorem dX4_init_68 : decode cX4_init 68 = .ok (.aload_n 0, 1) := dk_42 (dk_at dksX4_init_2 21 rfl rfl)
theorem dX4_init_69 : decode cX4_init 69 = .ok (.bipush 8, 2) := dk_16 8 (dk_at dksX4_init_2 22 rfl rfl)
theorem dX4_init_71 : decode cX4_init 71 = .ok (.newarray .int, 2) := dk_188_10 (dk_at dksX4_init_3 0 rfl rfl)
theorem dX4_init_73 : decode cX4_init 73 = .ok (.putfield 34, 3) := dk_181 0 34 (dk_at dksX4_init_3 2 rfl rfl)
theorem dX4_init_76 : decode cX4_init 76 = .ok (.aload_n 0, 1) := dk_42 (dk_at dksX4_init_3 5 rfl rfl)
theorem dX4_init_77 : decode cX4_init 77 = .ok (.bipush 8, 2) := dk_16 8 (dk_at dksX4_init_3 6 rfl rfl)
theorem dX4_init_79 : decode cX4_init 79 = .ok (.newarray .int, 2) := dk_188_10 (dk_at dksX4_init_3 8 rfl rfl)
theorem dX4_init_81 : decode cX4_init 81 = .ok (.putfield 37, 3) := dk_181 0 37 (dk_at dksX4_init_3 10 rfl rfl)
theorem dX4_init_84 : decode cX4_init 84 = .ok (.aload_n 0, 1) := dk_42 (dk_at dksX4_init_3 13 rfl rfl)
theorem dX4_init_85 : decode cX4_init 85 = .ok (.sipush 800, 3) := dk_17 3 32 (dk_at dksX4_init_3 14 rfl rfl)
theorem dX4_init_88 : decode cX4_init 88 = .ok (.newarray .long, 2) := dk_188_11 (dk_at dksX4_init_3 17 rfl rfl)
theorem dX4_init_90 : decode cX4_init 90 = .ok (.putfield 40, 3) := dk_181 0 40 (dk_at dksX4_init_3 19 rfl rfl)
theorem dX4_init_93 : decode cX4_init 93 = .ok (.aload_n 0, 1) := dk_42 (dk_at dksX4_init_3 22 rfl rfl)
theorem dX4_init_94 : decode cX4_init 94 = .ok (.bipush 51, 2) := dk_16 51 (dk_at dksX4_init_4 0 rfl rfl)
theorem dX4_init_96 : decode cX4_init 96 = .ok (.newarray .int, 2) := dk_188_10 (dk_at dksX4_init_4 2 rfl rfl)
theorem dX4_init_98 : decode cX4_init 98 = .ok (.putfield 44, 3) := dk_181 0 44 (dk_at dksX4_init_4 4 rfl rfl)
theorem dX4_init_101 : decode cX4_init 101 = .ok (.aload_n 0, 1) := dk_42 (dk_at dksX4_init_4 7 rfl rfl)
theorem dX4_init_102 : decode cX4_init 102 = .ok (.bipush 51, 2) := dk_16 51 (dk_at dksX4_init_4 8 rfl rfl)
theorem dX4_init_104 : decode cX4_init 104 = .ok (.newarray .int, 2) := dk_188_10 (dk_at dksX4_init_4 10 rfl rfl)
theorem dX4_init_106 : decode cX4_init 106 = .ok (.putfield 47, 3) := dk_181 0 47 (dk_at dksX4_init_4 12 rfl rfl)
theorem dX4_init_109 : decode cX4_init 109 = .ok (.aload_n 0, 1) := dk_42 (dk_at dksX4_init_4 15 rfl rfl)
theorem dX4_init_110 : decode cX4_init 110 = .ok (.sipush 153, 3) := dk_17 0 153 (dk_at dksX4_init_4 16 rfl rfl)
theorem dX4_init_113 : decode cX4_init 113 = .ok (.newarray .int, 2) := dk_188_10 (dk_at dksX4_init_4 19 rfl rfl)
theorem dX4_init_115 : decode cX4_init 115 = .ok (.putfield 50, 3) := dk_181 0 50 (dk_at dksX4_init_4 21 rfl rfl)
theorem dX4_init_118 : decode cX4_init 118 = .ok (.aload_n 0, 1) := dk_42 (dk_at dksX4_init_5 0 rfl rfl)
theorem dX4_init_119 : decode cX4_init 119 = .ok (.bipush 32, 2) := dk_16 32 (dk_at dksX4_init_5 1 rfl rfl)
theorem dX4_init_121 : decode cX4_init 121 = .ok (.newarray .int, 2) := dk_188_10 (dk_at dksX4_init_5 3 rfl rfl)
theorem dX4_init_123 : decode cX4_init 123 = .ok (.putfield 53, 3) := dk_181 0 53 (dk_at dksX4_init_5 5 rfl rfl)
theorem dX4_init_126 : decode cX4_init 126 = .ok (.aload_n 0, 1) := dk_42 (dk_at dksX4_init_5 8 rfl rfl)
theorem dX4_init_127 : decode cX4_init 127 = .ok (.bipush 32, 2) := dk_16 32 (dk_at dksX4_init_5 9 rfl rfl)
theorem dX4_init_129 : decode cX4_init 129 = .ok (.newarray .int, 2) := dk_188_10 (dk_at dksX4_init_5 11 rfl rfl)
theorem dX4_init_131 : decode cX4_init 131 = .ok (.putfield 56, 3) := dk_181 0 56 (dk_at dksX4_init_5 13 rfl rfl)
theorem dX4_init_134 : decode cX4_init 134 = .ok (.aload_n 0, 1) := dk_42 (dk_at dksX4_init_5 16 rfl rfl)
theorem dX4_init_135 : decode cX4_init 135 = .ok (.sipush 168, 3) := dk_17 0 168 (dk_at dksX4_init_5 17 rfl rfl)
theorem dX4_init_138 : decode cX4_init 138 = .ok (.newarray .int, 2) := dk_188_10 (dk_at dksX4_init_5 20 rfl rfl)
theorem dX4_init_140 : decode cX4_init 140 = .ok (.putfield 59, 3) := dk_181 0 59 (dk_at dksX4_init_6 0 rfl rfl)
theorem dX4_init_143 : decode cX4_init 143 = .ok (.aload_n 0, 1) := dk_42 (dk_at dksX4_init_6 3 rfl rfl)
theorem dX4_init_144 : decode cX4_init 144 = .ok (.bipush 96, 2) := dk_16 96 (dk_at dksX4_init_6 4 rfl rfl)
theorem dX4_init_146 : decode cX4_init 146 = .ok (.newarray .int, 2) := dk_188_10 (dk_at dksX4_init_6 6 rfl rfl)
theorem dX4_init_148 : decode cX4_init 148 = .ok (.putfield 62, 3) := dk_181 0 62 (dk_at dksX4_init_6 8 rfl rfl)
theorem dX4_init_151 : decode cX4_init 151 = .ok (.aload_n 0, 1) := dk_42 (dk_at dksX4_init_6 11 rfl rfl)
theorem dX4_init_152 : decode cX4_init 152 = .ok (.bipush 32, 2) := dk_16 32 (dk_at dksX4_init_6 12 rfl rfl)
theorem dX4_init_154 : decode cX4_init 154 = .ok (.newarray .int, 2) := dk_188_10 (dk_at dksX4_init_6 14 rfl rfl)
theorem dX4_init_156 : decode cX4_init 156 = .ok (.putfield 65, 3) := dk_181 0 65 (dk_at dksX4_init_6 16 rfl rfl)
theorem dX4_init_159 : decode cX4_init 159 = .ok (.aload_n 0, 1) := dk_42 (dk_at dksX4_init_6 19 rfl rfl)
theorem dX4_init_160 : decode cX4_init 160 = .ok (.iconst 3, 1) := dk_6 (dk_at dksX4_init_6 20 rfl rfl)
theorem dX4_init_161 : decode cX4_init 161 = .ok (.newarray .int, 2) := dk_188_10 (dk_at dksX4_init_6 21 rfl rfl)
theorem dX4_init_163 : decode cX4_init 163 = .ok (.putfield 68, 3) := dk_181 0 68 (dk_at dksX4_init_7 0 rfl rfl)
theorem dX4_init_166 : decode cX4_init 166 = .ok (.aload_n 0, 1) := dk_42 (dk_at dksX4_init_7 3 rfl rfl)
theorem dX4_init_167 : decode cX4_init 167 = .ok (.bipush 6, 2) := dk_16 6 (dk_at dksX4_init_7 4 rfl rfl)
theorem dX4_init_169 : decode cX4_init 169 = .ok (.newarray .int, 2) := dk_188_10 (dk_at dksX4_init_7 6 rfl rfl)
theorem dX4_init_171 : decode cX4_init 171 = .ok (.putfield 71, 3) := dk_181 0 71 (dk_at dksX4_init_7 8 rfl rfl)
theorem dX4_init_174 : decode cX4_init 174 = .ok (.aload_n 0, 1) := dk_42 (dk_at dksX4_init_7 11 rfl rfl)
theorem dX4_init_175 : decode cX4_init 175 = .ok (.bipush 100, 2) := dk_16 100 (dk_at dksX4_init_7 12 rfl rfl)
theorem dX4_init_177 : decode cX4_init 177 = .ok (.newarray .long, 2) := dk_188_11 (dk_at dksX4_init_7 14 rfl rfl)
theorem dX4_init_179 : decode cX4_init 179 = .ok (.putfield 74, 3) := dk_181 0 74 (dk_at dksX4_init_7 16 rfl rfl)
theorem dX4_init_182 : decode cX4_init 182 = .ok (.aload_n 0, 1) := dk_42 (dk_at dksX4_init_7 19 rfl rfl)
theorem dX4_init_183 : decode cX4_init 183 = .ok (.iconst 0, 1) := dk_3 (dk_at dksX4_init_7 20 rfl rfl)
theorem dX4_init_184 : decode cX4_init 184 = .ok (.putfield 77, 3) := dk_181 0 77 (dk_at dksX4_init_7 21 rfl rfl)
theorem dX4_init_187 : decode cX4_init 187 = .ok (.return_, 1) := dk_177 (dk_at dksX4_init_8 0 rfl rfl)
abbrev cX4_thrown : ByteArray := prog_21_method_2_code
def yX4_thrown : MethodName := ⟨RX4, "thrown", "()I"⟩
theorem dX4_thrown_0 : decode cX4_thrown 0 = .ok (.aload_n 0, 1) := by decide +kernel
theorem dX4_thrown_1 : decode cX4_thrown 1 = .ok (.getfield 77, 3) := by decide +kernel
theorem dX4_thrown_4 : decode cX4_thrown 4 = .ok (.ireturn, 1) := by decide +kernel
abbrev cX4_bath : ByteArray := prog_21_method_34_code
def yX4_bath : MethodName := ⟨RX4, "bath", "(I)I"⟩
def dkwX4_bath_6 : List UInt8 := [100, 172, 132, 3, 1, 167, 255, 222, 42, 180, 0, 159, 172]
abbrev dktX4_bath_6 : List UInt8 := dkwX4_bath_6 ++ []
def dkwX4_bath_5 : List UInt8 := [162, 0, 32, 42, 29, 182, 0, 198, 154, 0, 18, 42, 182, 0, 201, 17, 248, 48, 42, 180, 0, 44, 29, 46]
abbrev dktX4_bath_5 : List UInt8 := dkwX4_bath_5 ++ dktX4_bath_6
def dkwX4_bath_4 : List UInt8 := [153, 0, 12, 17, 252, 24, 42, 180, 0, 138, 100, 172, 42, 182, 0, 195, 3, 62, 29, 42, 180, 0, 159]
abbrev dktX4_bath_4 : List UInt8 := dkwX4_bath_4 ++ dktX4_bath_5
def dkwX4_bath_3 : List UInt8 := [180, 0, 138, 42, 180, 0, 37, 27, 46, 162, 0, 10, 42, 182, 0, 192, 167, 255, 225, 42, 180, 0, 144]
abbrev dktX4_bath_3 : List UInt8 := dkwX4_bath_3 ++ dktX4_bath_4
def dkwX4_bath_2 : List UInt8 := [3, 181, 0, 144, 42, 3, 181, 0, 159, 42, 180, 0, 144, 154, 0, 30, 42, 180, 0, 159, 153, 0, 16, 42]
abbrev dktX4_bath_2 : List UInt8 := dkwX4_bath_2 ++ dktX4_bath_3
def dkwX4_bath_1 : List UInt8 := [16, 244, 167, 0, 4, 28, 61, 28, 156, 0, 5, 28, 172, 42, 27, 181, 0, 141, 42, 3, 181, 0, 138, 42]
abbrev dktX4_bath_1 : List UInt8 := dkwX4_bath_1 ++ dktX4_bath_2
def dkwX4_bath_0 : List UInt8 := [42, 3, 181, 0, 77, 42, 27, 182, 0, 189, 61, 28, 154, 0, 17, 42, 180, 0, 34, 27, 46, 153, 0, 8]
abbrev dktX4_bath_0 : List UInt8 := dkwX4_bath_0 ++ dktX4_bath_1
theorem dksX4_bath_0 : cX4_bath.data.toList.drop 0 = dktX4_bath_0 := by decide +kernel
theorem dksX4_bath_1 : cX4_bath.data.toList.drop 24 = dktX4_bath_1 := dk_seg dksX4_bath_0 24 rfl rfl
theorem dksX4_bath_2 : cX4_bath.data.toList.drop 48 = dktX4_bath_2 := dk_seg dksX4_bath_1 24 rfl rfl
theorem dksX4_bath_3 : cX4_bath.data.toList.drop 72 = dktX4_bath_3 := dk_seg dksX4_bath_2 24 rfl rfl
theorem dksX4_bath_4 : cX4_bath.data.toList.drop 95 = dktX4_bath_4 := dk_seg dksX4_bath_3 23 rfl rfl
theorem dksX4_bath_5 : cX4_bath.data.toList.drop 118 = dktX4_bath_5 := dk_seg dksX4_bath_4 23 rfl rfl
theorem dksX4_bath_6 : cX4_bath.data.toList.drop 142 = dktX4_bath_6 := dk_seg dksX4_bath_5 24 rfl rfl
theorem dX4_bath_0 : decode cX4_bath 0 = .ok (.aload_n 0, 1) := dk_42 (dk_at dksX4_bath_0 0 rfl rfl)
theorem dX4_bath_1 : decode cX4_bath 1 = .ok (.iconst 0, 1) := dk_3 (dk_at dksX4_bath_0 1 rfl rfl)
theorem dX4_bath_2 : decode cX4_bath 2 = .ok (.putfield 77, 3) := dk_181 0 77 (dk_at dksX4_bath_0 2 rfl rfl)
theorem dX4_bath_5 : decode cX4_bath 5 = .ok (.aload_n 0, 1) := dk_42 (dk_at dksX4_bath_0 5 rfl rfl)
theorem dX4_bath_6 : decode cX4_bath 6 = .ok (.iload_n 1, 1) := dk_27 (dk_at dksX4_bath_0 6 rfl rfl)
theorem dX4_bath_7 : decode cX4_bath 7 = .ok (.invokevirtual 189, 3) := dk_182 0 189 (dk_at dksX4_bath_0 7 rfl rfl)
theorem dX4_bath_10 : decode cX4_bath 10 = .ok (.istore_n 2, 1) := dk_61 (dk_at dksX4_bath_0 10 rfl rfl)
theorem dX4_bath_11 : decode cX4_bath 11 = .ok (.iload_n 2, 1) := dk_28 (dk_at dksX4_bath_0 11 rfl rfl)
theorem dX4_bath_12 : decode cX4_bath 12 = .ok (.ifCond .ne 17, 3) := dk_154 0 17 (dk_at dksX4_bath_0 12 rfl rfl)
theorem dX4_bath_15 : decode cX4_bath 15 = .ok (.aload_n 0, 1) := dk_42 (dk_at dksX4_bath_0 15 rfl rfl)
theorem dX4_bath_16 : decode cX4_bath 16 = .ok (.getfield 34, 3) := dk_180 0 34 (dk_at dksX4_bath_0 16 rfl rfl)
theorem dX4_bath_19 : decode cX4_bath 19 = .ok (.iload_n 1, 1) := dk_27 (dk_at dksX4_bath_0 19 rfl rfl)
theorem dX4_bath_20 : decode cX4_bath 20 = .ok (.iaload, 1) := dk_46 (dk_at dksX4_bath_0 20 rfl rfl)
theorem dX4_bath_21 : decode cX4_bath 21 = .ok (.ifCond .eq 8, 3) := dk_153 0 8 (dk_at dksX4_bath_0 21 rfl rfl)
theorem dX4_bath_24 : decode cX4_bath 24 = .ok (.bipush (-12), 2) := dk_16 244 (dk_at dksX4_bath_1 0 rfl rfl)
theorem dX4_bath_26 : decode cX4_bath 26 = .ok (.goto 4, 3) := dk_167 0 4 (dk_at dksX4_bath_1 2 rfl rfl)
theorem dX4_bath_29 : decode cX4_bath 29 = .ok (.iload_n 2, 1) := dk_28 (dk_at dksX4_bath_1 5 rfl rfl)
theorem dX4_bath_30 : decode cX4_bath 30 = .ok (.istore_n 2, 1) := dk_61 (dk_at dksX4_bath_1 6 rfl rfl)
theorem dX4_bath_31 : decode cX4_bath 31 = .ok (.iload_n 2, 1) := dk_28 (dk_at dksX4_bath_1 7 rfl rfl)
theorem dX4_bath_32 : decode cX4_bath 32 = .ok (.ifCond .ge 5, 3) := dk_156 0 5 (dk_at dksX4_bath_1 8 rfl rfl)
theorem dX4_bath_35 : decode cX4_bath 35 = .ok (.iload_n 2, 1) := dk_28 (dk_at dksX4_bath_1 11 rfl rfl)
theorem dX4_bath_36 : decode cX4_bath 36 = .ok (.ireturn, 1) := dk_172 (dk_at dksX4_bath_1 12 rfl rfl)
theorem dX4_bath_37 : decode cX4_bath 37 = .ok (.aload_n 0, 1) := dk_42 (dk_at dksX4_bath_1 13 rfl rfl)
theorem dX4_bath_38 : decode cX4_bath 38 = .ok (.iload_n 1, 1) := dk_27 (dk_at dksX4_bath_1 14 rfl rfl)
theorem dX4_bath_39 : decode cX4_bath 39 = .ok (.putfield 141, 3) := dk_181 0 141 (dk_at dksX4_bath_1 15 rfl rfl)
theorem dX4_bath_42 : decode cX4_bath 42 = .ok (.aload_n 0, 1) := dk_42 (dk_at dksX4_bath_1 18 rfl rfl)
theorem dX4_bath_43 : decode cX4_bath 43 = .ok (.iconst 0, 1) := dk_3 (dk_at dksX4_bath_1 19 rfl rfl)
theorem dX4_bath_44 : decode cX4_bath 44 = .ok (.putfield 138, 3) := dk_181 0 138 (dk_at dksX4_bath_1 20 rfl rfl)
theorem dX4_bath_47 : decode cX4_bath 47 = .ok (.aload_n 0, 1) := dk_42 (dk_at dksX4_bath_1 23 rfl rfl)
theorem dX4_bath_48 : decode cX4_bath 48 = .ok (.iconst 0, 1) := dk_3 (dk_at dksX4_bath_2 0 rfl rfl)
theorem dX4_bath_49 : decode cX4_bath 49 = .ok (.putfield 144, 3) := dk_181 0 144 (dk_at dksX4_bath_2 1 rfl rfl)
theorem dX4_bath_52 : decode cX4_bath 52 = .ok (.aload_n 0, 1) := dk_42 (dk_at dksX4_bath_2 4 rfl rfl)
theorem dX4_bath_53 : decode cX4_bath 53 = .ok (.iconst 0, 1) := dk_3 (dk_at dksX4_bath_2 5 rfl rfl)
theorem dX4_bath_54 : decode cX4_bath 54 = .ok (.putfield 159, 3) := dk_181 0 159 (dk_at dksX4_bath_2 6 rfl rfl)
theorem dX4_bath_57 : decode cX4_bath 57 = .ok (.aload_n 0, 1) := dk_42 (dk_at dksX4_bath_2 9 rfl rfl)
theorem dX4_bath_58 : decode cX4_bath 58 = .ok (.getfield 144, 3) := dk_180 0 144 (dk_at dksX4_bath_2 10 rfl rfl)
theorem dX4_bath_61 : decode cX4_bath 61 = .ok (.ifCond .ne 30, 3) := dk_154 0 30 (dk_at dksX4_bath_2 13 rfl rfl)
theorem dX4_bath_64 : decode cX4_bath 64 = .ok (.aload_n 0, 1) := dk_42 (dk_at dksX4_bath_2 16 rfl rfl)
theorem dX4_bath_65 : decode cX4_bath 65 = .ok (.getfield 159, 3) := dk_180 0 159 (dk_at dksX4_bath_2 17 rfl rfl)
theorem dX4_bath_68 : decode cX4_bath 68 = .ok (.ifCond .eq 16, 3) := dk_153 0 16 (dk_at dksX4_bath_2 20 rfl rfl)
theorem dX4_bath_71 : decode cX4_bath 71 = .ok (.aload_n 0, 1) := dk_42 (dk_at dksX4_bath_2 23 rfl rfl)
theorem dX4_bath_72 : decode cX4_bath 72 = .ok (.getfield 138, 3) := dk_180 0 138 (dk_at dksX4_bath_3 0 rfl rfl)
theorem dX4_bath_75 : decode cX4_bath 75 = .ok (.aload_n 0, 1) := dk_42 (dk_at dksX4_bath_3 3 rfl rfl)
theorem dX4_bath_76 : decode cX4_bath 76 = .ok (.getfield 37, 3) := dk_180 0 37 (dk_at dksX4_bath_3 4 rfl rfl)
theorem dX4_bath_79 : decode cX4_bath 79 = .ok (.iload_n 1, 1) := dk_27 (dk_at dksX4_bath_3 7 rfl rfl)
theorem dX4_bath_80 : decode cX4_bath 80 = .ok (.iaload, 1) := dk_46 (dk_at dksX4_bath_3 8 rfl rfl)
theorem dX4_bath_81 : decode cX4_bath 81 = .ok (.if_icmp .ge 10, 3) := dk_162 0 10 (dk_at dksX4_bath_3 9 rfl rfl)
theorem dX4_bath_84 : decode cX4_bath 84 = .ok (.aload_n 0, 1) := dk_42 (dk_at dksX4_bath_3 12 rfl rfl)
theorem dX4_bath_85 : decode cX4_bath 85 = .ok (.invokevirtual 192, 3) := dk_182 0 192 (dk_at dksX4_bath_3 13 rfl rfl)
theorem dX4_bath_88 : decode cX4_bath 88 = .ok (.goto (-31), 3) := dk_167 255 225 (dk_at dksX4_bath_3 16 rfl rfl)
theorem dX4_bath_91 : decode cX4_bath 91 = .ok (.aload_n 0, 1) := dk_42 (dk_at dksX4_bath_3 19 rfl rfl)
theorem dX4_bath_92 : decode cX4_bath 92 = .ok (.getfield 144, 3) := dk_180 0 144 (dk_at dksX4_bath_3 20 rfl rfl)
theorem dX4_bath_95 : decode cX4_bath 95 = .ok (.ifCond .eq 12, 3) := dk_153 0 12 (dk_at dksX4_bath_4 0 rfl rfl)
theorem dX4_bath_98 : decode cX4_bath 98 = .ok (.sipush (-1000), 3) := dk_17 252 24 (dk_at dksX4_bath_4 3 rfl rfl)
theorem dX4_bath_101 : decode cX4_bath 101 = .ok (.aload_n 0, 1) := dk_42 (dk_at dksX4_bath_4 6 rfl rfl)
theorem dX4_bath_102 : decode cX4_bath 102 = .ok (.getfield 138, 3) := dk_180 0 138 (dk_at dksX4_bath_4 7 rfl rfl)
theorem dX4_bath_105 : decode cX4_bath 105 = .ok (.isub, 1) := dk_100 (dk_at dksX4_bath_4 10 rfl rfl)
theorem dX4_bath_106 : decode cX4_bath 106 = .ok (.ireturn, 1) := dk_172 (dk_at dksX4_bath_4 11 rfl rfl)
theorem dX4_bath_107 : decode cX4_bath 107 = .ok (.aload_n 0, 1) := dk_42 (dk_at dksX4_bath_4 12 rfl rfl)
theorem dX4_bath_108 : decode cX4_bath 108 = .ok (.invokevirtual 195, 3) := dk_182 0 195 (dk_at dksX4_bath_4 13 rfl rfl)
theorem dX4_bath_111 : decode cX4_bath 111 = .ok (.iconst 0, 1) := dk_3 (dk_at dksX4_bath_4 16 rfl rfl)
theorem dX4_bath_112 : decode cX4_bath 112 = .ok (.istore_n 3, 1) := dk_62 (dk_at dksX4_bath_4 17 rfl rfl)
theorem dX4_bath_113 : decode cX4_bath 113 = .ok (.iload_n 3, 1) := dk_29 (dk_at dksX4_bath_4 18 rfl rfl)
theorem dX4_bath_114 : decode cX4_bath 114 = .ok (.aload_n 0, 1) := dk_42 (dk_at dksX4_bath_4 19 rfl rfl)
theorem dX4_bath_115 : decode cX4_bath 115 = .ok (.getfield 159, 3) := dk_180 0 159 (dk_at dksX4_bath_4 20 rfl rfl)
theorem dX4_bath_118 : decode cX4_bath 118 = .ok (.if_icmp .ge 32, 3) := dk_162 0 32 (dk_at dksX4_bath_5 0 rfl rfl)
theorem dX4_bath_121 : decode cX4_bath 121 = .ok (.aload_n 0, 1) := dk_42 (dk_at dksX4_bath_5 3 rfl rfl)
theorem dX4_bath_122 : decode cX4_bath 122 = .ok (.iload_n 3, 1) := dk_29 (dk_at dksX4_bath_5 4 rfl rfl)
theorem dX4_bath_123 : decode cX4_bath 123 = .ok (.invokevirtual 198, 3) := dk_182 0 198 (dk_at dksX4_bath_5 5 rfl rfl)
theorem dX4_bath_126 : decode cX4_bath 126 = .ok (.ifCond .ne 18, 3) := dk_154 0 18 (dk_at dksX4_bath_5 8 rfl rfl)
theorem dX4_bath_129 : decode cX4_bath 129 = .ok (.aload_n 0, 1) := dk_42 (dk_at dksX4_bath_5 11 rfl rfl)
theorem dX4_bath_130 : decode cX4_bath 130 = .ok (.invokevirtual 201, 3) := dk_182 0 201 (dk_at dksX4_bath_5 12 rfl rfl)
theorem dX4_bath_133 : decode cX4_bath 133 = .ok (.sipush (-2000), 3) := dk_17 248 48 (dk_at dksX4_bath_5 15 rfl rfl)
theorem dX4_bath_136 : decode cX4_bath 136 = .ok (.aload_n 0, 1) := dk_42 (dk_at dksX4_bath_5 18 rfl rfl)
theorem dX4_bath_137 : decode cX4_bath 137 = .ok (.getfield 44, 3) := dk_180 0 44 (dk_at dksX4_bath_5 19 rfl rfl)
theorem dX4_bath_140 : decode cX4_bath 140 = .ok (.iload_n 3, 1) := dk_29 (dk_at dksX4_bath_5 22 rfl rfl)
theorem dX4_bath_141 : decode cX4_bath 141 = .ok (.iaload, 1) := dk_46 (dk_at dksX4_bath_5 23 rfl rfl)
theorem dX4_bath_142 : decode cX4_bath 142 = .ok (.isub, 1) := dk_100 (dk_at dksX4_bath_6 0 rfl rfl)
theorem dX4_bath_143 : decode cX4_bath 143 = .ok (.ireturn, 1) := dk_172 (dk_at dksX4_bath_6 1 rfl rfl)
theorem dX4_bath_144 : decode cX4_bath 144 = .ok (.iinc 3 1, 3) := dk_132 3 1 (dk_at dksX4_bath_6 2 rfl rfl)
theorem dX4_bath_147 : decode cX4_bath 147 = .ok (.goto (-34), 3) := dk_167 255 222 (dk_at dksX4_bath_6 5 rfl rfl)
theorem dX4_bath_150 : decode cX4_bath 150 = .ok (.aload_n 0, 1) := dk_42 (dk_at dksX4_bath_6 8 rfl rfl)
theorem dX4_bath_151 : decode cX4_bath 151 = .ok (.getfield 159, 3) := dk_180 0 159 (dk_at dksX4_bath_6 9 rfl rfl)
theorem dX4_bath_154 : decode cX4_bath 154 = .ok (.ireturn, 1) := dk_172 (dk_at dksX4_bath_6 12 rfl rfl)
abbrev cX4_wrongRow : ByteArray := prog_21_method_88_code
def yX4_wrongRow : MethodName := ⟨RX4, "wrongRow", "(I)I"⟩
def dkwX4_wrongRow_2 : List UInt8 := [172]
abbrev dktX4_wrongRow_2 : List UInt8 := dkwX4_wrongRow_2 ++ []
def dkwX4_wrongRow_1 : List UInt8 := [154, 0, 8, 16, 245, 167, 0, 19, 42, 180, 0, 25, 27, 46, 5, 159, 0, 8, 16, 244, 167, 0, 4, 3]
abbrev dktX4_wrongRow_1 : List UInt8 := dkwX4_wrongRow_1 ++ dktX4_wrongRow_2
def dkwX4_wrongRow_0 : List UInt8 := [27, 133, 9, 20, 0, 223, 184, 0, 84, 154, 0, 7, 2, 167, 0, 33, 42, 180, 0, 25, 27, 46]
abbrev dktX4_wrongRow_0 : List UInt8 := dkwX4_wrongRow_0 ++ dktX4_wrongRow_1
theorem dksX4_wrongRow_0 : cX4_wrongRow.data.toList.drop 0 = dktX4_wrongRow_0 := by decide +kernel
theorem dksX4_wrongRow_1 : cX4_wrongRow.data.toList.drop 22 = dktX4_wrongRow_1 := dk_seg dksX4_wrongRow_0 22 rfl rfl
theorem dksX4_wrongRow_2 : cX4_wrongRow.data.toList.drop 46 = dktX4_wrongRow_2 := dk_seg dksX4_wrongRow_1 24 rfl rfl
theorem dX4_wrongRow_0 : decode cX4_wrongRow 0 = .ok (.iload_n 1, 1) := dk_27 (dk_at dksX4_wrongRow_0 0 rfl rfl)
theorem dX4_wrongRow_1 : decode cX4_wrongRow 1 = .ok (.i2l, 1) := dk_133 (dk_at dksX4_wrongRow_0 1 rfl rfl)
theorem dX4_wrongRow_2 : decode cX4_wrongRow 2 = .ok (.lconst 0, 1) := dk_9 (dk_at dksX4_wrongRow_0 2 rfl rfl)
theorem dX4_wrongRow_3 : decode cX4_wrongRow 3 = .ok (.ldc2_w 223, 3) := dk_20 0 223 (dk_at dksX4_wrongRow_0 3 rfl rfl)
theorem dX4_wrongRow_6 : decode cX4_wrongRow 6 = .ok (.invokestatic 84, 3) := dk_184 0 84 (dk_at dksX4_wrongRow_0 6 rfl rfl)
theorem dX4_wrongRow_9 : decode cX4_wrongRow 9 = .ok (.ifCond .ne 7, 3) := dk_154 0 7 (dk_at dksX4_wrongRow_0 9 rfl rfl)
theorem dX4_wrongRow_12 : decode cX4_wrongRow 12 = .ok (.iconst (-1), 1) := dk_2 (dk_at dksX4_wrongRow_0 12 rfl rfl)
theorem dX4_wrongRow_13 : decode cX4_wrongRow 13 = .ok (.goto 33, 3) := dk_167 0 33 (dk_at dksX4_wrongRow_0 13 rfl rfl)
theorem dX4_wrongRow_16 : decode cX4_wrongRow 16 = .ok (.aload_n 0, 1) := dk_42 (dk_at dksX4_wrongRow_0 16 rfl rfl)
theorem dX4_wrongRow_17 : decode cX4_wrongRow 17 = .ok (.getfield 25, 3) := dk_180 0 25 (dk_at dksX4_wrongRow_0 17 rfl rfl)
theorem dX4_wrongRow_20 : decode cX4_wrongRow 20 = .ok (.iload_n 1, 1) := dk_27 (dk_at dksX4_wrongRow_0 20 rfl rfl)
theorem dX4_wrongRow_21 : decode cX4_wrongRow 21 = .ok (.iaload, 1) := dk_46 (dk_at dksX4_wrongRow_0 21 rfl rfl)
theorem dX4_wrongRow_22 : decode cX4_wrongRow 22 = .ok (.ifCond .ne 8, 3) := dk_154 0 8 (dk_at dksX4_wrongRow_1 0 rfl rfl)
theorem dX4_wrongRow_25 : decode cX4_wrongRow 25 = .ok (.bipush (-11), 2) := dk_16 245 (dk_at dksX4_wrongRow_1 3 rfl rfl)
theorem dX4_wrongRow_27 : decode cX4_wrongRow 27 = .ok (.goto 19, 3) := dk_167 0 19 (dk_at dksX4_wrongRow_1 5 rfl rfl)
theorem dX4_wrongRow_30 : decode cX4_wrongRow 30 = .ok (.aload_n 0, 1) := dk_42 (dk_at dksX4_wrongRow_1 8 rfl rfl)
theorem dX4_wrongRow_31 : decode cX4_wrongRow 31 = .ok (.getfield 25, 3) := dk_180 0 25 (dk_at dksX4_wrongRow_1 9 rfl rfl)
theorem dX4_wrongRow_34 : decode cX4_wrongRow 34 = .ok (.iload_n 1, 1) := dk_27 (dk_at dksX4_wrongRow_1 12 rfl rfl)
theorem dX4_wrongRow_35 : decode cX4_wrongRow 35 = .ok (.iaload, 1) := dk_46 (dk_at dksX4_wrongRow_1 13 rfl rfl)
theorem dX4_wrongRow_36 : decode cX4_wrongRow 36 = .ok (.iconst 2, 1) := dk_5 (dk_at dksX4_wrongRow_1 14 rfl rfl)
theorem dX4_wrongRow_37 : decode cX4_wrongRow 37 = .ok (.if_icmp .eq 8, 3) := dk_159 0 8 (dk_at dksX4_wrongRow_1 15 rfl rfl)
theorem dX4_wrongRow_40 : decode cX4_wrongRow 40 = .ok (.bipush (-12), 2) := dk_16 244 (dk_at dksX4_wrongRow_1 18 rfl rfl)
theorem dX4_wrongRow_42 : decode cX4_wrongRow 42 = .ok (.goto 4, 3) := dk_167 0 4 (dk_at dksX4_wrongRow_1 20 rfl rfl)
theorem dX4_wrongRow_45 : decode cX4_wrongRow 45 = .ok (.iconst 0, 1) := dk_3 (dk_at dksX4_wrongRow_1 23 rfl rfl)
theorem dX4_wrongRow_46 : decode cX4_wrongRow 46 = .ok (.ireturn, 1) := dk_172 (dk_at dksX4_wrongRow_2 0 rfl rfl)
abbrev cX4_in : ByteArray := prog_21_method_3_code
def yX4_in : MethodName := ⟨RX4, "in", "(JJJ)Z"⟩
def dkwX4_in_0 : List UInt8 := [30, 32, 148, 155, 0, 14, 30, 22, 4, 148, 157, 0, 7, 4, 167, 0, 4, 3, 172]
abbrev dktX4_in_0 : List UInt8 := dkwX4_in_0 ++ []
theorem dksX4_in_0 : cX4_in.data.toList.drop 0 = dktX4_in_0 := by decide +kernel
theorem dX4_in_0 : decode cX4_in 0 = .ok (.lload_n 0, 1) := dk_30 (dk_at dksX4_in_0 0 rfl rfl)
theorem dX4_in_1 : decode cX4_in 1 = .ok (.lload_n 2, 1) := dk_32 (dk_at dksX4_in_0 1 rfl rfl)
theorem dX4_in_2 : decode cX4_in 2 = .ok (.lcmp, 1) := dk_148 (dk_at dksX4_in_0 2 rfl rfl)
theorem dX4_in_3 : decode cX4_in 3 = .ok (.ifCond .lt 14, 3) := dk_155 0 14 (dk_at dksX4_in_0 3 rfl rfl)
theorem dX4_in_6 : decode cX4_in 6 = .ok (.lload_n 0, 1) := dk_30 (dk_at dksX4_in_0 6 rfl rfl)
theorem dX4_in_7 : decode cX4_in 7 = .ok (.lload 4, 2) := dk_22 4 (dk_at dksX4_in_0 7 rfl rfl)
theorem dX4_in_9 : decode cX4_in 9 = .ok (.lcmp, 1) := dk_148 (dk_at dksX4_in_0 9 rfl rfl)
theorem dX4_in_10 : decode cX4_in 10 = .ok (.ifCond .gt 7, 3) := dk_157 0 7 (dk_at dksX4_in_0 10 rfl rfl)
theorem dX4_in_13 : decode cX4_in 13 = .ok (.iconst 1, 1) := dk_4 (dk_at dksX4_in_0 13 rfl rfl)
theorem dX4_in_14 : decode cX4_in 14 = .ok (.goto 4, 3) := dk_167 0 4 (dk_at dksX4_in_0 14 rfl rfl)
theorem dX4_in_17 : decode cX4_in 17 = .ok (.iconst 0, 1) := dk_3 (dk_at dksX4_in_0 17 rfl rfl)
theorem dX4_in_18 : decode cX4_in 18 = .ok (.ireturn, 1) := dk_172 (dk_at dksX4_in_0 18 rfl rfl)
abbrev cX4_readStatement : ByteArray := prog_21_method_28_code
def yX4_readStatement : MethodName := ⟨RX4, "readStatement", "()V"⟩
def dkwX4_readStatement_6 : List UInt8 := [181, 0, 159, 177]
abbrev dktX4_readStatement_6 : List UInt8 := dkwX4_readStatement_6 ++ []
def dkwX4_readStatement_5 : List UInt8 := [180, 0, 144, 153, 0, 7, 3, 167, 0, 4, 4, 96, 181, 0, 138, 42, 89, 180, 0, 159, 4, 96]
abbrev dktX4_readStatement_5 : List UInt8 := dkwX4_readStatement_5 ++ dktX4_readStatement_6
def dkwX4_readStatement_4 : List UInt8 := [182, 0, 148, 16, 59, 159, 0, 7, 4, 167, 0, 4, 3, 181, 0, 144, 42, 89, 180, 0, 138, 42]
abbrev dktX4_readStatement_4 : List UInt8 := dkwX4_readStatement_4 ++ dktX4_readStatement_5
def dkwX4_readStatement_3 : List UInt8 := [42, 180, 0, 144, 154, 0, 11, 42, 28, 6, 27, 104, 182, 0, 165, 42, 42, 180, 0, 144, 154, 0, 12, 42]
abbrev dktX4_readStatement_3 : List UInt8 := dkwX4_readStatement_3 ++ dktX4_readStatement_4
def dkwX4_readStatement_2 : List UInt8 := [181, 0, 144, 42, 89, 180, 0, 138, 42, 180, 0, 144, 153, 0, 7, 3, 167, 0, 4, 4, 96, 181, 0, 138]
abbrev dktX4_readStatement_2 : List UInt8 := dkwX4_readStatement_2 ++ dktX4_readStatement_3
def dkwX4_readStatement_1 : List UInt8 := [27, 28, 79, 42, 42, 180, 0, 144, 154, 0, 10, 28, 184, 0, 162, 154, 0, 7, 4, 167, 0, 4, 3]
abbrev dktX4_readStatement_1 : List UInt8 := dkwX4_readStatement_1 ++ dktX4_readStatement_2
def dkwX4_readStatement_0 : List UInt8 := [42, 180, 0, 159, 60, 42, 182, 0, 148, 61, 42, 180, 0, 44, 27, 42, 180, 0, 138, 79, 42, 180, 0, 47]
abbrev dktX4_readStatement_0 : List UInt8 := dkwX4_readStatement_0 ++ dktX4_readStatement_1
theorem dksX4_readStatement_0 : cX4_readStatement.data.toList.drop 0 = dktX4_readStatement_0 := by decide +kernel
theorem dksX4_readStatement_1 : cX4_readStatement.data.toList.drop 24 = dktX4_readStatement_1 := dk_seg dksX4_readStatement_0 24 rfl rfl
theorem dksX4_readStatement_2 : cX4_readStatement.data.toList.drop 47 = dktX4_readStatement_2 := dk_seg dksX4_readStatement_1 23 rfl rfl
theorem dksX4_readStatement_3 : cX4_readStatement.data.toList.drop 71 = dktX4_readStatement_3 := dk_seg dksX4_readStatement_2 24 rfl rfl
theorem dksX4_readStatement_4 : cX4_readStatement.data.toList.drop 95 = dktX4_readStatement_4 := dk_seg dksX4_readStatement_3 24 rfl rfl
theorem dksX4_readStatement_5 : cX4_readStatement.data.toList.drop 117 = dktX4_readStatement_5 := dk_seg dksX4_readStatement_4 22 rfl rfl
theorem dksX4_readStatement_6 : cX4_readStatement.data.toList.drop 139 = dktX4_readStatement_6 := dk_seg dksX4_readStatement_5 22 rfl rfl
theorem dX4_readStatement_0 : decode cX4_readStatement 0 = .ok (.aload_n 0, 1) := dk_42 (dk_at dksX4_readStatement_0 0 rfl rfl)
theorem dX4_readStatement_1 : decode cX4_readStatement 1 = .ok (.getfield 159, 3) := dk_180 0 159 (dk_at dksX4_readStatement_0 1 rfl rfl)
theorem dX4_readStatement_4 : decode cX4_readStatement 4 = .ok (.istore_n 1, 1) := dk_60 (dk_at dksX4_readStatement_0 4 rfl rfl)
theorem dX4_readStatement_5 : decode cX4_readStatement 5 = .ok (.aload_n 0, 1) := dk_42 (dk_at dksX4_readStatement_0 5 rfl rfl)
theorem dX4_readStatement_6 : decode cX4_readStatement 6 = .ok (.invokevirtual 148, 3) := dk_182 0 148 (dk_at dksX4_readStatement_0 6 rfl rfl)
theorem dX4_readStatement_9 : decode cX4_readStatement 9 = .ok (.istore_n 2, 1) := dk_61 (dk_at dksX4_readStatement_0 9 rfl rfl)
theorem dX4_readStatement_10 : decode cX4_readStatement 10 = .ok (.aload_n 0, 1) := dk_42 (dk_at dksX4_readStatement_0 10 rfl rfl)
theorem dX4_readStatement_11 : decode cX4_readStatement 11 = .ok (.getfield 44, 3) := dk_180 0 44 (dk_at dksX4_readStatement_0 11 rfl rfl)
theorem dX4_readStatement_14 : decode cX4_readStatement 14 = .ok (.iload_n 1, 1) := dk_27 (dk_at dksX4_readStatement_0 14 rfl rfl)
theorem dX4_readStatement_15 : decode cX4_readStatement 15 = .ok (.aload_n 0, 1) := dk_42 (dk_at dksX4_readStatement_0 15 rfl rfl)
theorem dX4_readStatement_16 : decode cX4_readStatement 16 = .ok (.getfield 138, 3) := dk_180 0 138 (dk_at dksX4_readStatement_0 16 rfl rfl)
theorem dX4_readStatement_19 : decode cX4_readStatement 19 = .ok (.iastore, 1) := dk_79 (dk_at dksX4_readStatement_0 19 rfl rfl)
theorem dX4_readStatement_20 : decode cX4_readStatement 20 = .ok (.aload_n 0, 1) := dk_42 (dk_at dksX4_readStatement_0 20 rfl rfl)
theorem dX4_readStatement_21 : decode cX4_readStatement 21 = .ok (.getfield 47, 3) := dk_180 0 47 (dk_at dksX4_readStatement_0 21 rfl rfl)
theorem dX4_readStatement_24 : decode cX4_readStatement 24 = .ok (.iload_n 1, 1) := dk_27 (dk_at dksX4_readStatement_1 0 rfl rfl)
theorem dX4_readStatement_25 : decode cX4_readStatement 25 = .ok (.iload_n 2, 1) := dk_28 (dk_at dksX4_readStatement_1 1 rfl rfl)
theorem dX4_readStatement_26 : decode cX4_readStatement 26 = .ok (.iastore, 1) := dk_79 (dk_at dksX4_readStatement_1 2 rfl rfl)
theorem dX4_readStatement_27 : decode cX4_readStatement 27 = .ok (.aload_n 0, 1) := dk_42 (dk_at dksX4_readStatement_1 3 rfl rfl)
theorem dX4_readStatement_28 : decode cX4_readStatement 28 = .ok (.aload_n 0, 1) := dk_42 (dk_at dksX4_readStatement_1 4 rfl rfl)
theorem dX4_readStatement_29 : decode cX4_readStatement 29 = .ok (.getfield 144, 3) := dk_180 0 144 (dk_at dksX4_readStatement_1 5 rfl rfl)
theorem dX4_readStatement_32 : decode cX4_readStatement 32 = .ok (.ifCond .ne 10, 3) := dk_154 0 10 (dk_at dksX4_readStatement_1 8 rfl rfl)
theorem dX4_readStatement_35 : decode cX4_readStatement 35 = .ok (.iload_n 2, 1) := dk_28 (dk_at dksX4_readStatement_1 11 rfl rfl)
theorem dX4_readStatement_36 : decode cX4_readStatement 36 = .ok (.invokestatic 162, 3) := dk_184 0 162 (dk_at dksX4_readStatement_1 12 rfl rfl)
theorem dX4_readStatement_39 : decode cX4_readStatement 39 = .ok (.ifCond .ne 7, 3) := dk_154 0 7 (dk_at dksX4_readStatement_1 15 rfl rfl)
theorem dX4_readStatement_42 : decode cX4_readStatement 42 = .ok (.iconst 1, 1) := dk_4 (dk_at dksX4_readStatement_1 18 rfl rfl)
theorem dX4_readStatement_43 : decode cX4_readStatement 43 = .ok (.goto 4, 3) := dk_167 0 4 (dk_at dksX4_readStatement_1 19 rfl rfl)
theorem dX4_readStatement_46 : decode cX4_readStatement 46 = .ok (.iconst 0, 1) := dk_3 (dk_at dksX4_readStatement_1 22 rfl rfl)
theorem dX4_readStatement_47 : decode cX4_readStatement 47 = .ok (.putfield 144, 3) := dk_181 0 144 (dk_at dksX4_readStatement_2 0 rfl rfl)
theorem dX4_readStatement_50 : decode cX4_readStatement 50 = .ok (.aload_n 0, 1) := dk_42 (dk_at dksX4_readStatement_2 3 rfl rfl)
theorem dX4_readStatement_51 : decode cX4_readStatement 51 = .ok (.dup, 1) := dk_89 (dk_at dksX4_readStatement_2 4 rfl rfl)
theorem dX4_readStatement_52 : decode cX4_readStatement 52 = .ok (.getfield 138, 3) := dk_180 0 138 (dk_at dksX4_readStatement_2 5 rfl rfl)
theorem dX4_readStatement_55 : decode cX4_readStatement 55 = .ok (.aload_n 0, 1) := dk_42 (dk_at dksX4_readStatement_2 8 rfl rfl)
theorem dX4_readStatement_56 : decode cX4_readStatement 56 = .ok (.getfield 144, 3) := dk_180 0 144 (dk_at dksX4_readStatement_2 9 rfl rfl)
theorem dX4_readStatement_59 : decode cX4_readStatement 59 = .ok (.ifCond .eq 7, 3) := dk_153 0 7 (dk_at dksX4_readStatement_2 12 rfl rfl)
theorem dX4_readStatement_62 : decode cX4_readStatement 62 = .ok (.iconst 0, 1) := dk_3 (dk_at dksX4_readStatement_2 15 rfl rfl)
theorem dX4_readStatement_63 : decode cX4_readStatement 63 = .ok (.goto 4, 3) := dk_167 0 4 (dk_at dksX4_readStatement_2 16 rfl rfl)
theorem dX4_readStatement_66 : decode cX4_readStatement 66 = .ok (.iconst 1, 1) := dk_4 (dk_at dksX4_readStatement_2 19 rfl rfl)
theorem dX4_readStatement_67 : decode cX4_readStatement 67 = .ok (.iadd, 1) := dk_96 (dk_at dksX4_readStatement_2 20 rfl rfl)
theorem dX4_readStatement_68 : decode cX4_readStatement 68 = .ok (.putfield 138, 3) := dk_181 0 138 (dk_at dksX4_readStatement_2 21 rfl rfl)
theorem dX4_readStatement_71 : decode cX4_readStatement 71 = .ok (.aload_n 0, 1) := dk_42 (dk_at dksX4_readStatement_3 0 rfl rfl)
theorem dX4_readStatement_72 : decode cX4_readStatement 72 = .ok (.getfield 144, 3) := dk_180 0 144 (dk_at dksX4_readStatement_3 1 rfl rfl)
theorem dX4_readStatement_75 : decode cX4_readStatement 75 = .ok (.ifCond .ne 11, 3) := dk_154 0 11 (dk_at dksX4_readStatement_3 4 rfl rfl)
theorem dX4_readStatement_78 : decode cX4_readStatement 78 = .ok (.aload_n 0, 1) := dk_42 (dk_at dksX4_readStatement_3 7 rfl rfl)
theorem dX4_readStatement_79 : decode cX4_readStatement 79 = .ok (.iload_n 2, 1) := dk_28 (dk_at dksX4_readStatement_3 8 rfl rfl)
theorem dX4_readStatement_80 : decode cX4_readStatement 80 = .ok (.iconst 3, 1) := dk_6 (dk_at dksX4_readStatement_3 9 rfl rfl)
theorem dX4_readStatement_81 : decode cX4_readStatement 81 = .ok (.iload_n 1, 1) := dk_27 (dk_at dksX4_readStatement_3 10 rfl rfl)
theorem dX4_readStatement_82 : decode cX4_readStatement 82 = .ok (.imul, 1) := dk_104 (dk_at dksX4_readStatement_3 11 rfl rfl)
theorem dX4_readStatement_83 : decode cX4_readStatement 83 = .ok (.invokevirtual 165, 3) := dk_182 0 165 (dk_at dksX4_readStatement_3 12 rfl rfl)
theorem dX4_readStatement_86 : decode cX4_readStatement 86 = .ok (.aload_n 0, 1) := dk_42 (dk_at dksX4_readStatement_3 15 rfl rfl)
theorem dX4_readStatement_87 : decode cX4_readStatement 87 = .ok (.aload_n 0, 1) := dk_42 (dk_at dksX4_readStatement_3 16 rfl rfl)
theorem dX4_readStatement_88 : decode cX4_readStatement 88 = .ok (.getfield 144, 3) := dk_180 0 144 (dk_at dksX4_readStatement_3 17 rfl rfl)
theorem dX4_readStatement_91 : decode cX4_readStatement 91 = .ok (.ifCond .ne 12, 3) := dk_154 0 12 (dk_at dksX4_readStatement_3 20 rfl rfl)
theorem dX4_readStatement_94 : decode cX4_readStatement 94 = .ok (.aload_n 0, 1) := dk_42 (dk_at dksX4_readStatement_3 23 rfl rfl)
theorem dX4_readStatement_95 : decode cX4_readStatement 95 = .ok (.invokevirtual 148, 3) := dk_182 0 148 (dk_at dksX4_readStatement_4 0 rfl rfl)
theorem dX4_readStatement_98 : decode cX4_readStatement 98 = .ok (.bipush 59, 2) := dk_16 59 (dk_at dksX4_readStatement_4 3 rfl rfl)
theorem dX4_readStatement_100 : decode cX4_readStatement 100 = .ok (.if_icmp .eq 7, 3) := dk_159 0 7 (dk_at dksX4_readStatement_4 5 rfl rfl)
theorem dX4_readStatement_103 : decode cX4_readStatement 103 = .ok (.iconst 1, 1) := dk_4 (dk_at dksX4_readStatement_4 8 rfl rfl)
theorem dX4_readStatement_104 : decode cX4_readStatement 104 = .ok (.goto 4, 3) := dk_167 0 4 (dk_at dksX4_readStatement_4 9 rfl rfl)
theorem dX4_readStatement_107 : decode cX4_readStatement 107 = .ok (.iconst 0, 1) := dk_3 (dk_at dksX4_readStatement_4 12 rfl rfl)
theorem dX4_readStatement_108 : decode cX4_readStatement 108 = .ok (.putfield 144, 3) := dk_181 0 144 (dk_at dksX4_readStatement_4 13 rfl rfl)
theorem dX4_readStatement_111 : decode cX4_readStatement 111 = .ok (.aload_n 0, 1) := dk_42 (dk_at dksX4_readStatement_4 16 rfl rfl)
theorem dX4_readStatement_112 : decode cX4_readStatement 112 = .ok (.dup, 1) := dk_89 (dk_at dksX4_readStatement_4 17 rfl rfl)
theorem dX4_readStatement_113 : decode cX4_readStatement 113 = .ok (.getfield 138, 3) := dk_180 0 138 (dk_at dksX4_readStatement_4 18 rfl rfl)
theorem dX4_readStatement_116 : decode cX4_readStatement 116 = .ok (.aload_n 0, 1) := dk_42 (dk_at dksX4_readStatement_4 21 rfl rfl)
theorem dX4_readStatement_117 : decode cX4_readStatement 117 = .ok (.getfield 144, 3) := dk_180 0 144 (dk_at dksX4_readStatement_5 0 rfl rfl)
theorem dX4_readStatement_120 : decode cX4_readStatement 120 = .ok (.ifCond .eq 7, 3) := dk_153 0 7 (dk_at dksX4_readStatement_5 3 rfl rfl)
theorem dX4_readStatement_123 : decode cX4_readStatement 123 = .ok (.iconst 0, 1) := dk_3 (dk_at dksX4_readStatement_5 6 rfl rfl)
theorem dX4_readStatement_124 : decode cX4_readStatement 124 = .ok (.goto 4, 3) := dk_167 0 4 (dk_at dksX4_readStatement_5 7 rfl rfl)
theorem dX4_readStatement_127 : decode cX4_readStatement 127 = .ok (.iconst 1, 1) := dk_4 (dk_at dksX4_readStatement_5 10 rfl rfl)
theorem dX4_readStatement_128 : decode cX4_readStatement 128 = .ok (.iadd, 1) := dk_96 (dk_at dksX4_readStatement_5 11 rfl rfl)
theorem dX4_readStatement_129 : decode cX4_readStatement 129 = .ok (.putfield 138, 3) := dk_181 0 138 (dk_at dksX4_readStatement_5 12 rfl rfl)
theorem dX4_readStatement_132 : decode cX4_readStatement 132 = .ok (.aload_n 0, 1) := dk_42 (dk_at dksX4_readStatement_5 15 rfl rfl)
theorem dX4_readStatement_133 : decode cX4_readStatement 133 = .ok (.dup, 1) := dk_89 (dk_at dksX4_readStatement_5 16 rfl rfl)
theorem dX4_readStatement_134 : decode cX4_readStatement 134 = .ok (.getfield 159, 3) := dk_180 0 159 (dk_at dksX4_readStatement_5 17 rfl rfl)
theorem dX4_readStatement_137 : decode cX4_readStatement 137 = .ok (.iconst 1, 1) := dk_4 (dk_at dksX4_readStatement_5 20 rfl rfl)
theorem dX4_readStatement_138 : decode cX4_readStatement 138 = .ok (.iadd, 1) := dk_96 (dk_at dksX4_readStatement_5 21 rfl rfl)
theorem dX4_readStatement_139 : decode cX4_readStatement 139 = .ok (.putfield 159, 3) := dk_181 0 159 (dk_at dksX4_readStatement_6 0 rfl rfl)
theorem dX4_readStatement_142 : decode cX4_readStatement 142 = .ok (.return_, 1) := dk_177 (dk_at dksX4_readStatement_6 3 rfl rfl)
abbrev cX4_here : ByteArray := prog_21_method_24_code
def yX4_here : MethodName := ⟨RX4, "here", "()I"⟩
def dkwX4_here_1 : List UInt8 := [180, 0, 141, 104, 42, 180, 0, 138, 96, 47, 136, 167, 0, 6, 17, 252, 25, 172]
abbrev dktX4_here_1 : List UInt8 := dkwX4_here_1 ++ []
def dkwX4_here_0 : List UInt8 := [42, 180, 0, 138, 42, 180, 0, 37, 42, 180, 0, 141, 46, 162, 0, 24, 42, 180, 0, 40, 16, 100, 42]
abbrev dktX4_here_0 : List UInt8 := dkwX4_here_0 ++ dktX4_here_1
theorem dksX4_here_0 : cX4_here.data.toList.drop 0 = dktX4_here_0 := by decide +kernel
theorem dksX4_here_1 : cX4_here.data.toList.drop 23 = dktX4_here_1 := dk_seg dksX4_here_0 23 rfl rfl
theorem dX4_here_0 : decode cX4_here 0 = .ok (.aload_n 0, 1) := dk_42 (dk_at dksX4_here_0 0 rfl rfl)
theorem dX4_here_1 : decode cX4_here 1 = .ok (.getfield 138, 3) := dk_180 0 138 (dk_at dksX4_here_0 1 rfl rfl)
theorem dX4_here_4 : decode cX4_here 4 = .ok (.aload_n 0, 1) := dk_42 (dk_at dksX4_here_0 4 rfl rfl)
theorem dX4_here_5 : decode cX4_here 5 = .ok (.getfield 37, 3) := dk_180 0 37 (dk_at dksX4_here_0 5 rfl rfl)
theorem dX4_here_8 : decode cX4_here 8 = .ok (.aload_n 0, 1) := dk_42 (dk_at dksX4_here_0 8 rfl rfl)
theorem dX4_here_9 : decode cX4_here 9 = .ok (.getfield 141, 3) := dk_180 0 141 (dk_at dksX4_here_0 9 rfl rfl)
theorem dX4_here_12 : decode cX4_here 12 = .ok (.iaload, 1) := dk_46 (dk_at dksX4_here_0 12 rfl rfl)
theorem dX4_here_13 : decode cX4_here 13 = .ok (.if_icmp .ge 24, 3) := dk_162 0 24 (dk_at dksX4_here_0 13 rfl rfl)
theorem dX4_here_16 : decode cX4_here 16 = .ok (.aload_n 0, 1) := dk_42 (dk_at dksX4_here_0 16 rfl rfl)
theorem dX4_here_17 : decode cX4_here 17 = .ok (.getfield 40, 3) := dk_180 0 40 (dk_at dksX4_here_0 17 rfl rfl)
theorem dX4_here_20 : decode cX4_here 20 = .ok (.bipush 100, 2) := dk_16 100 (dk_at dksX4_here_0 20 rfl rfl)
theorem dX4_here_22 : decode cX4_here 22 = .ok (.aload_n 0, 1) := dk_42 (dk_at dksX4_here_0 22 rfl rfl)
theorem dX4_here_23 : decode cX4_here 23 = .ok (.getfield 141, 3) := dk_180 0 141 (dk_at dksX4_here_1 0 rfl rfl)
theorem dX4_here_26 : decode cX4_here 26 = .ok (.imul, 1) := dk_104 (dk_at dksX4_here_1 3 rfl rfl)
theorem dX4_here_27 : decode cX4_here 27 = .ok (.aload_n 0, 1) := dk_42 (dk_at dksX4_here_1 4 rfl rfl)
theorem dX4_here_28 : decode cX4_here 28 = .ok (.getfield 138, 3) := dk_180 0 138 (dk_at dksX4_here_1 5 rfl rfl)
theorem dX4_here_31 : decode cX4_here 31 = .ok (.iadd, 1) := dk_96 (dk_at dksX4_here_1 8 rfl rfl)
theorem dX4_here_32 : decode cX4_here 32 = .ok (.laload, 1) := dk_47 (dk_at dksX4_here_1 9 rfl rfl)
theorem dX4_here_33 : decode cX4_here 33 = .ok (.l2i, 1) := dk_136 (dk_at dksX4_here_1 10 rfl rfl)
theorem dX4_here_34 : decode cX4_here 34 = .ok (.goto 6, 3) := dk_167 0 6 (dk_at dksX4_here_1 11 rfl rfl)
theorem dX4_here_37 : decode cX4_here 37 = .ok (.sipush (-999), 3) := dk_17 252 25 (dk_at dksX4_here_1 14 rfl rfl)
theorem dX4_here_40 : decode cX4_here 40 = .ok (.ireturn, 1) := dk_172 (dk_at dksX4_here_1 17 rfl rfl)
abbrev cX4_isLetter : ByteArray := prog_21_method_26_code
def yX4_isLetter : MethodName := ⟨RX4, "isLetter", "(I)Z"⟩
def dkwX4_isLetter_1 : List UInt8 := [26, 16, 116, 159, 0, 9, 26, 16, 115, 160, 0, 7, 4, 167, 0, 4, 3, 172]
abbrev dktX4_isLetter_1 : List UInt8 := dkwX4_isLetter_1 ++ []
def dkwX4_isLetter_0 : List UInt8 := [26, 16, 99, 159, 0, 33, 26, 16, 109, 159, 0, 27, 26, 16, 98, 159, 0, 21, 26, 16, 120, 159, 0, 15]
abbrev dktX4_isLetter_0 : List UInt8 := dkwX4_isLetter_0 ++ dktX4_isLetter_1
theorem dksX4_isLetter_0 : cX4_isLetter.data.toList.drop 0 = dktX4_isLetter_0 := by decide +kernel
theorem dksX4_isLetter_1 : cX4_isLetter.data.toList.drop 24 = dktX4_isLetter_1 := dk_seg dksX4_isLetter_0 24 rfl rfl
theorem dX4_isLetter_0 : decode cX4_isLetter 0 = .ok (.iload_n 0, 1) := dk_26 (dk_at dksX4_isLetter_0 0 rfl rfl)
theorem dX4_isLetter_1 : decode cX4_isLetter 1 = .ok (.bipush 99, 2) := dk_16 99 (dk_at dksX4_isLetter_0 1 rfl rfl)
theorem dX4_isLetter_3 : decode cX4_isLetter 3 = .ok (.if_icmp .eq 33, 3) := dk_159 0 33 (dk_at dksX4_isLetter_0 3 rfl rfl)
theorem dX4_isLetter_6 : decode cX4_isLetter 6 = .ok (.iload_n 0, 1) := dk_26 (dk_at dksX4_isLetter_0 6 rfl rfl)
theorem dX4_isLetter_7 : decode cX4_isLetter 7 = .ok (.bipush 109, 2) := dk_16 109 (dk_at dksX4_isLetter_0 7 rfl rfl)
theorem dX4_isLetter_9 : decode cX4_isLetter 9 = .ok (.if_icmp .eq 27, 3) := dk_159 0 27 (dk_at dksX4_isLetter_0 9 rfl rfl)
theorem dX4_isLetter_12 : decode cX4_isLetter 12 = .ok (.iload_n 0, 1) := dk_26 (dk_at dksX4_isLetter_0 12 rfl rfl)
theorem dX4_isLetter_13 : decode cX4_isLetter 13 = .ok (.bipush 98, 2) := dk_16 98 (dk_at dksX4_isLetter_0 13 rfl rfl)
theorem dX4_isLetter_15 : decode cX4_isLetter 15 = .ok (.if_icmp .eq 21, 3) := dk_159 0 21 (dk_at dksX4_isLetter_0 15 rfl rfl)
theorem dX4_isLetter_18 : decode cX4_isLetter 18 = .ok (.iload_n 0, 1) := dk_26 (dk_at dksX4_isLetter_0 18 rfl rfl)
theorem dX4_isLetter_19 : decode cX4_isLetter 19 = .ok (.bipush 120, 2) := dk_16 120 (dk_at dksX4_isLetter_0 19 rfl rfl)
theorem dX4_isLetter_21 : decode cX4_isLetter 21 = .ok (.if_icmp .eq 15, 3) := dk_159 0 15 (dk_at dksX4_isLetter_0 21 rfl rfl)
theorem dX4_isLetter_24 : decode cX4_isLetter 24 = .ok (.iload_n 0, 1) := dk_26 (dk_at dksX4_isLetter_1 0 rfl rfl)
theorem dX4_isLetter_25 : decode cX4_isLetter 25 = .ok (.bipush 116, 2) := dk_16 116 (dk_at dksX4_isLetter_1 1 rfl rfl)
theorem dX4_isLetter_27 : decode cX4_isLetter 27 = .ok (.if_icmp .eq 9, 3) := dk_159 0 9 (dk_at dksX4_isLetter_1 3 rfl rfl)
theorem dX4_isLetter_30 : decode cX4_isLetter 30 = .ok (.iload_n 0, 1) := dk_26 (dk_at dksX4_isLetter_1 6 rfl rfl)
theorem dX4_isLetter_31 : decode cX4_isLetter 31 = .ok (.bipush 115, 2) := dk_16 115 (dk_at dksX4_isLetter_1 7 rfl rfl)
theorem dX4_isLetter_33 : decode cX4_isLetter 33 = .ok (.if_icmp .ne 7, 3) := dk_160 0 7 (dk_at dksX4_isLetter_1 9 rfl rfl)
theorem dX4_isLetter_36 : decode cX4_isLetter 36 = .ok (.iconst 1, 1) := dk_4 (dk_at dksX4_isLetter_1 12 rfl rfl)
theorem dX4_isLetter_37 : decode cX4_isLetter 37 = .ok (.goto 4, 3) := dk_167 0 4 (dk_at dksX4_isLetter_1 13 rfl rfl)
theorem dX4_isLetter_40 : decode cX4_isLetter 40 = .ok (.iconst 0, 1) := dk_3 (dk_at dksX4_isLetter_1 16 rfl rfl)
theorem dX4_isLetter_41 : decode cX4_isLetter 41 = .ok (.ireturn, 1) := dk_172 (dk_at dksX4_isLetter_1 17 rfl rfl)
abbrev cX4_readNumbers : ByteArray := prog_21_method_27_code
def yX4_readNumbers : MethodName := ⟨RX4, "readNumbers", "(II)V"⟩
def dkwX4_readNumbers_3 : List UInt8 := [182, 0, 156, 79, 177]
abbrev dktX4_readNumbers_3 : List UInt8 := dkwX4_readNumbers_3 ++ []
def dkwX4_readNumbers_2 : List UInt8 := [16, 98, 159, 0, 26, 42, 180, 0, 50, 28, 4, 96, 42, 27, 16, 116, 160, 0, 7, 5, 167, 0, 4, 4]
abbrev dktX4_readNumbers_2 : List UInt8 := dkwX4_readNumbers_2 ++ dktX4_readNumbers_3
def dkwX4_readNumbers_1 : List UInt8 := [42, 4, 182, 0, 156, 79, 42, 180, 0, 50, 28, 5, 96, 42, 5, 182, 0, 156, 79, 167, 0, 32, 27]
abbrev dktX4_readNumbers_1 : List UInt8 := dkwX4_readNumbers_1 ++ dktX4_readNumbers_2
def dkwX4_readNumbers_0 : List UInt8 := [42, 180, 0, 50, 28, 42, 4, 182, 0, 156, 79, 27, 16, 99, 160, 0, 32, 42, 180, 0, 50, 28, 4, 96]
abbrev dktX4_readNumbers_0 : List UInt8 := dkwX4_readNumbers_0 ++ dktX4_readNumbers_1
theorem dksX4_readNumbers_0 : cX4_readNumbers.data.toList.drop 0 = dktX4_readNumbers_0 := by decide +kernel
theorem dksX4_readNumbers_1 : cX4_readNumbers.data.toList.drop 24 = dktX4_readNumbers_1 := dk_seg dksX4_readNumbers_0 24 rfl rfl
theorem dksX4_readNumbers_2 : cX4_readNumbers.data.toList.drop 47 = dktX4_readNumbers_2 := dk_seg dksX4_readNumbers_1 23 rfl rfl
theorem dksX4_readNumbers_3 : cX4_readNumbers.data.toList.drop 71 = dktX4_readNumbers_3 := dk_seg dksX4_readNumbers_2 24 rfl rfl
theorem dX4_readNumbers_0 : decode cX4_readNumbers 0 = .ok (.aload_n 0, 1) := dk_42 (dk_at dksX4_readNumbers_0 0 rfl rfl)
theorem dX4_readNumbers_1 : decode cX4_readNumbers 1 = .ok (.getfield 50, 3) := dk_180 0 50 (dk_at dksX4_readNumbers_0 1 rfl rfl)
theorem dX4_readNumbers_4 : decode cX4_readNumbers 4 = .ok (.iload_n 2, 1) := dk_28 (dk_at dksX4_readNumbers_0 4 rfl rfl)
theorem dX4_readNumbers_5 : decode cX4_readNumbers 5 = .ok (.aload_n 0, 1) := dk_42 (dk_at dksX4_readNumbers_0 5 rfl rfl)
theorem dX4_readNumbers_6 : decode cX4_readNumbers 6 = .ok (.iconst 1, 1) := dk_4 (dk_at dksX4_readNumbers_0 6 rfl rfl)
theorem dX4_readNumbers_7 : decode cX4_readNumbers 7 = .ok (.invokevirtual 156, 3) := dk_182 0 156 (dk_at dksX4_readNumbers_0 7 rfl rfl)
theorem dX4_readNumbers_10 : decode cX4_readNumbers 10 = .ok (.iastore, 1) := dk_79 (dk_at dksX4_readNumbers_0 10 rfl rfl)
theorem dX4_readNumbers_11 : decode cX4_readNumbers 11 = .ok (.iload_n 1, 1) := dk_27 (dk_at dksX4_readNumbers_0 11 rfl rfl)
theorem dX4_readNumbers_12 : decode cX4_readNumbers 12 = .ok (.bipush 99, 2) := dk_16 99 (dk_at dksX4_readNumbers_0 12 rfl rfl)
theorem dX4_readNumbers_14 : decode cX4_readNumbers 14 = .ok (.if_icmp .ne 32, 3) := dk_160 0 32 (dk_at dksX4_readNumbers_0 14 rfl rfl)
theorem dX4_readNumbers_17 : decode cX4_readNumbers 17 = .ok (.aload_n 0, 1) := dk_42 (dk_at dksX4_readNumbers_0 17 rfl rfl)
theorem dX4_readNumbers_18 : decode cX4_readNumbers 18 = .ok (.getfield 50, 3) := dk_180 0 50 (dk_at dksX4_readNumbers_0 18 rfl rfl)
theorem dX4_readNumbers_21 : decode cX4_readNumbers 21 = .ok (.iload_n 2, 1) := dk_28 (dk_at dksX4_readNumbers_0 21 rfl rfl)
theorem dX4_readNumbers_22 : decode cX4_readNumbers 22 = .ok (.iconst 1, 1) := dk_4 (dk_at dksX4_readNumbers_0 22 rfl rfl)
theorem dX4_readNumbers_23 : decode cX4_readNumbers 23 = .ok (.iadd, 1) := dk_96 (dk_at dksX4_readNumbers_0 23 rfl rfl)
theorem dX4_readNumbers_24 : decode cX4_readNumbers 24 = .ok (.aload_n 0, 1) := dk_42 (dk_at dksX4_readNumbers_1 0 rfl rfl)
theorem dX4_readNumbers_25 : decode cX4_readNumbers 25 = .ok (.iconst 1, 1) := dk_4 (dk_at dksX4_readNumbers_1 1 rfl rfl)
theorem dX4_readNumbers_26 : decode cX4_readNumbers 26 = .ok (.invokevirtual 156, 3) := dk_182 0 156 (dk_at dksX4_readNumbers_1 2 rfl rfl)
theorem dX4_readNumbers_29 : decode cX4_readNumbers 29 = .ok (.iastore, 1) := dk_79 (dk_at dksX4_readNumbers_1 5 rfl rfl)
theorem dX4_readNumbers_30 : decode cX4_readNumbers 30 = .ok (.aload_n 0, 1) := dk_42 (dk_at dksX4_readNumbers_1 6 rfl rfl)
theorem dX4_readNumbers_31 : decode cX4_readNumbers 31 = .ok (.getfield 50, 3) := dk_180 0 50 (dk_at dksX4_readNumbers_1 7 rfl rfl)
theorem dX4_readNumbers_34 : decode cX4_readNumbers 34 = .ok (.iload_n 2, 1) := dk_28 (dk_at dksX4_readNumbers_1 10 rfl rfl)
theorem dX4_readNumbers_35 : decode cX4_readNumbers 35 = .ok (.iconst 2, 1) := dk_5 (dk_at dksX4_readNumbers_1 11 rfl rfl)
theorem dX4_readNumbers_36 : decode cX4_readNumbers 36 = .ok (.iadd, 1) := dk_96 (dk_at dksX4_readNumbers_1 12 rfl rfl)
theorem dX4_readNumbers_37 : decode cX4_readNumbers 37 = .ok (.aload_n 0, 1) := dk_42 (dk_at dksX4_readNumbers_1 13 rfl rfl)
theorem dX4_readNumbers_38 : decode cX4_readNumbers 38 = .ok (.iconst 2, 1) := dk_5 (dk_at dksX4_readNumbers_1 14 rfl rfl)
theorem dX4_readNumbers_39 : decode cX4_readNumbers 39 = .ok (.invokevirtual 156, 3) := dk_182 0 156 (dk_at dksX4_readNumbers_1 15 rfl rfl)
theorem dX4_readNumbers_42 : decode cX4_readNumbers 42 = .ok (.iastore, 1) := dk_79 (dk_at dksX4_readNumbers_1 18 rfl rfl)
theorem dX4_readNumbers_43 : decode cX4_readNumbers 43 = .ok (.goto 32, 3) := dk_167 0 32 (dk_at dksX4_readNumbers_1 19 rfl rfl)
theorem dX4_readNumbers_46 : decode cX4_readNumbers 46 = .ok (.iload_n 1, 1) := dk_27 (dk_at dksX4_readNumbers_1 22 rfl rfl)
theorem dX4_readNumbers_47 : decode cX4_readNumbers 47 = .ok (.bipush 98, 2) := dk_16 98 (dk_at dksX4_readNumbers_2 0 rfl rfl)
theorem dX4_readNumbers_49 : decode cX4_readNumbers 49 = .ok (.if_icmp .eq 26, 3) := dk_159 0 26 (dk_at dksX4_readNumbers_2 2 rfl rfl)
theorem dX4_readNumbers_52 : decode cX4_readNumbers 52 = .ok (.aload_n 0, 1) := dk_42 (dk_at dksX4_readNumbers_2 5 rfl rfl)
theorem dX4_readNumbers_53 : decode cX4_readNumbers 53 = .ok (.getfield 50, 3) := dk_180 0 50 (dk_at dksX4_readNumbers_2 6 rfl rfl)
theorem dX4_readNumbers_56 : decode cX4_readNumbers 56 = .ok (.iload_n 2, 1) := dk_28 (dk_at dksX4_readNumbers_2 9 rfl rfl)
theorem dX4_readNumbers_57 : decode cX4_readNumbers 57 = .ok (.iconst 1, 1) := dk_4 (dk_at dksX4_readNumbers_2 10 rfl rfl)
theorem dX4_readNumbers_58 : decode cX4_readNumbers 58 = .ok (.iadd, 1) := dk_96 (dk_at dksX4_readNumbers_2 11 rfl rfl)
theorem dX4_readNumbers_59 : decode cX4_readNumbers 59 = .ok (.aload_n 0, 1) := dk_42 (dk_at dksX4_readNumbers_2 12 rfl rfl)
theorem dX4_readNumbers_60 : decode cX4_readNumbers 60 = .ok (.iload_n 1, 1) := dk_27 (dk_at dksX4_readNumbers_2 13 rfl rfl)
theorem dX4_readNumbers_61 : decode cX4_readNumbers 61 = .ok (.bipush 116, 2) := dk_16 116 (dk_at dksX4_readNumbers_2 14 rfl rfl)
theorem dX4_readNumbers_63 : decode cX4_readNumbers 63 = .ok (.if_icmp .ne 7, 3) := dk_160 0 7 (dk_at dksX4_readNumbers_2 16 rfl rfl)
theorem dX4_readNumbers_66 : decode cX4_readNumbers 66 = .ok (.iconst 2, 1) := dk_5 (dk_at dksX4_readNumbers_2 19 rfl rfl)
theorem dX4_readNumbers_67 : decode cX4_readNumbers 67 = .ok (.goto 4, 3) := dk_167 0 4 (dk_at dksX4_readNumbers_2 20 rfl rfl)
theorem dX4_readNumbers_70 : decode cX4_readNumbers 70 = .ok (.iconst 1, 1) := dk_4 (dk_at dksX4_readNumbers_2 23 rfl rfl)
theorem dX4_readNumbers_71 : decode cX4_readNumbers 71 = .ok (.invokevirtual 156, 3) := dk_182 0 156 (dk_at dksX4_readNumbers_3 0 rfl rfl)
theorem dX4_readNumbers_74 : decode cX4_readNumbers 74 = .ok (.iastore, 1) := dk_79 (dk_at dksX4_readNumbers_3 3 rfl rfl)
theorem dX4_readNumbers_75 : decode cX4_readNumbers 75 = .ok (.return_, 1) := dk_177 (dk_at dksX4_readNumbers_3 4 rfl rfl)
abbrev cX4_readDigits : ByteArray := prog_21_method_25_code
def yX4_readDigits : MethodName := ⟨RX4, "readDigits", "(I)I"⟩
def dkwX4_readDigits_4 : List UInt8 := [167, 255, 170, 28, 172]
abbrev dktX4_readDigits_4 : List UInt8 := dkwX4_readDigits_4 ++ []
def dkwX4_readDigits_3 : List UInt8 := [180, 0, 138, 42, 180, 0, 144, 153, 0, 7, 3, 167, 0, 4, 4, 96, 181, 0, 138, 132, 3, 1]
abbrev dktX4_readDigits_3 : List UInt8 := dkwX4_readDigits_3 ++ dktX4_readDigits_4
def dkwX4_readDigits_2 : List UInt8 := [153, 0, 7, 3, 167, 0, 15, 16, 10, 28, 104, 42, 182, 0, 148, 96, 16, 48, 100, 61, 42, 89]
abbrev dktX4_readDigits_2 : List UInt8 := dkwX4_readDigits_2 ++ dktX4_readDigits_3
def dkwX4_readDigits_1 : List UInt8 := [20, 0, 152, 20, 0, 154, 184, 0, 84, 154, 0, 7, 4, 167, 0, 4, 3, 181, 0, 144, 42, 180, 0, 144]
abbrev dktX4_readDigits_1 : List UInt8 := dkwX4_readDigits_1 ++ dktX4_readDigits_2
def dkwX4_readDigits_0 : List UInt8 := [3, 61, 3, 62, 29, 27, 162, 0, 87, 42, 42, 180, 0, 144, 154, 0, 20, 42, 182, 0, 148, 133]
abbrev dktX4_readDigits_0 : List UInt8 := dkwX4_readDigits_0 ++ dktX4_readDigits_1
theorem dksX4_readDigits_0 : cX4_readDigits.data.toList.drop 0 = dktX4_readDigits_0 := by decide +kernel
theorem dksX4_readDigits_1 : cX4_readDigits.data.toList.drop 22 = dktX4_readDigits_1 := dk_seg dksX4_readDigits_0 22 rfl rfl
theorem dksX4_readDigits_2 : cX4_readDigits.data.toList.drop 46 = dktX4_readDigits_2 := dk_seg dksX4_readDigits_1 24 rfl rfl
theorem dksX4_readDigits_3 : cX4_readDigits.data.toList.drop 68 = dktX4_readDigits_3 := dk_seg dksX4_readDigits_2 22 rfl rfl
theorem dksX4_readDigits_4 : cX4_readDigits.data.toList.drop 90 = dktX4_readDigits_4 := dk_seg dksX4_readDigits_3 22 rfl rfl
theorem dX4_readDigits_0 : decode cX4_readDigits 0 = .ok (.iconst 0, 1) := dk_3 (dk_at dksX4_readDigits_0 0 rfl rfl)
theorem dX4_readDigits_1 : decode cX4_readDigits 1 = .ok (.istore_n 2, 1) := dk_61 (dk_at dksX4_readDigits_0 1 rfl rfl)
theorem dX4_readDigits_2 : decode cX4_readDigits 2 = .ok (.iconst 0, 1) := dk_3 (dk_at dksX4_readDigits_0 2 rfl rfl)
theorem dX4_readDigits_3 : decode cX4_readDigits 3 = .ok (.istore_n 3, 1) := dk_62 (dk_at dksX4_readDigits_0 3 rfl rfl)
theorem dX4_readDigits_4 : decode cX4_readDigits 4 = .ok (.iload_n 3, 1) := dk_29 (dk_at dksX4_readDigits_0 4 rfl rfl)
theorem dX4_readDigits_5 : decode cX4_readDigits 5 = .ok (.iload_n 1, 1) := dk_27 (dk_at dksX4_readDigits_0 5 rfl rfl)
theorem dX4_readDigits_6 : decode cX4_readDigits 6 = .ok (.if_icmp .ge 87, 3) := dk_162 0 87 (dk_at dksX4_readDigits_0 6 rfl rfl)
theorem dX4_readDigits_9 : decode cX4_readDigits 9 = .ok (.aload_n 0, 1) := dk_42 (dk_at dksX4_readDigits_0 9 rfl rfl)
theorem dX4_readDigits_10 : decode cX4_readDigits 10 = .ok (.aload_n 0, 1) := dk_42 (dk_at dksX4_readDigits_0 10 rfl rfl)
theorem dX4_readDigits_11 : decode cX4_readDigits 11 = .ok (.getfield 144, 3) := dk_180 0 144 (dk_at dksX4_readDigits_0 11 rfl rfl)
theorem dX4_readDigits_14 : decode cX4_readDigits 14 = .ok (.ifCond .ne 20, 3) := dk_154 0 20 (dk_at dksX4_readDigits_0 14 rfl rfl)
theorem dX4_readDigits_17 : decode cX4_readDigits 17 = .ok (.aload_n 0, 1) := dk_42 (dk_at dksX4_readDigits_0 17 rfl rfl)
theorem dX4_readDigits_18 : decode cX4_readDigits 18 = .ok (.invokevirtual 148, 3) := dk_182 0 148 (dk_at dksX4_readDigits_0 18 rfl rfl)
theorem dX4_readDigits_21 : decode cX4_readDigits 21 = .ok (.i2l, 1) := dk_133 (dk_at dksX4_readDigits_0 21 rfl rfl)
theorem dX4_readDigits_22 : decode cX4_readDigits 22 = .ok (.ldc2_w 152, 3) := dk_20 0 152 (dk_at dksX4_readDigits_1 0 rfl rfl)
theorem dX4_readDigits_25 : decode cX4_readDigits 25 = .ok (.ldc2_w 154, 3) := dk_20 0 154 (dk_at dksX4_readDigits_1 3 rfl rfl)
theorem dX4_readDigits_28 : decode cX4_readDigits 28 = .ok (.invokestatic 84, 3) := dk_184 0 84 (dk_at dksX4_readDigits_1 6 rfl rfl)
theorem dX4_readDigits_31 : decode cX4_readDigits 31 = .ok (.ifCond .ne 7, 3) := dk_154 0 7 (dk_at dksX4_readDigits_1 9 rfl rfl)
theorem dX4_readDigits_34 : decode cX4_readDigits 34 = .ok (.iconst 1, 1) := dk_4 (dk_at dksX4_readDigits_1 12 rfl rfl)
theorem dX4_readDigits_35 : decode cX4_readDigits 35 = .ok (.goto 4, 3) := dk_167 0 4 (dk_at dksX4_readDigits_1 13 rfl rfl)
theorem dX4_readDigits_38 : decode cX4_readDigits 38 = .ok (.iconst 0, 1) := dk_3 (dk_at dksX4_readDigits_1 16 rfl rfl)
theorem dX4_readDigits_39 : decode cX4_readDigits 39 = .ok (.putfield 144, 3) := dk_181 0 144 (dk_at dksX4_readDigits_1 17 rfl rfl)
theorem dX4_readDigits_42 : decode cX4_readDigits 42 = .ok (.aload_n 0, 1) := dk_42 (dk_at dksX4_readDigits_1 20 rfl rfl)
theorem dX4_readDigits_43 : decode cX4_readDigits 43 = .ok (.getfield 144, 3) := dk_180 0 144 (dk_at dksX4_readDigits_1 21 rfl rfl)
theorem dX4_readDigits_46 : decode cX4_readDigits 46 = .ok (.ifCond .eq 7, 3) := dk_153 0 7 (dk_at dksX4_readDigits_2 0 rfl rfl)
theorem dX4_readDigits_49 : decode cX4_readDigits 49 = .ok (.iconst 0, 1) := dk_3 (dk_at dksX4_readDigits_2 3 rfl rfl)
theorem dX4_readDigits_50 : decode cX4_readDigits 50 = .ok (.goto 15, 3) := dk_167 0 15 (dk_at dksX4_readDigits_2 4 rfl rfl)
theorem dX4_readDigits_53 : decode cX4_readDigits 53 = .ok (.bipush 10, 2) := dk_16 10 (dk_at dksX4_readDigits_2 7 rfl rfl)
theorem dX4_readDigits_55 : decode cX4_readDigits 55 = .ok (.iload_n 2, 1) := dk_28 (dk_at dksX4_readDigits_2 9 rfl rfl)
theorem dX4_readDigits_56 : decode cX4_readDigits 56 = .ok (.imul, 1) := dk_104 (dk_at dksX4_readDigits_2 10 rfl rfl)
theorem dX4_readDigits_57 : decode cX4_readDigits 57 = .ok (.aload_n 0, 1) := dk_42 (dk_at dksX4_readDigits_2 11 rfl rfl)
theorem dX4_readDigits_58 : decode cX4_readDigits 58 = .ok (.invokevirtual 148, 3) := dk_182 0 148 (dk_at dksX4_readDigits_2 12 rfl rfl)
theorem dX4_readDigits_61 : decode cX4_readDigits 61 = .ok (.iadd, 1) := dk_96 (dk_at dksX4_readDigits_2 15 rfl rfl)
theorem dX4_readDigits_62 : decode cX4_readDigits 62 = .ok (.bipush 48, 2) := dk_16 48 (dk_at dksX4_readDigits_2 16 rfl rfl)
theorem dX4_readDigits_64 : decode cX4_readDigits 64 = .ok (.isub, 1) := dk_100 (dk_at dksX4_readDigits_2 18 rfl rfl)
theorem dX4_readDigits_65 : decode cX4_readDigits 65 = .ok (.istore_n 2, 1) := dk_61 (dk_at dksX4_readDigits_2 19 rfl rfl)
theorem dX4_readDigits_66 : decode cX4_readDigits 66 = .ok (.aload_n 0, 1) := dk_42 (dk_at dksX4_readDigits_2 20 rfl rfl)
theorem dX4_readDigits_67 : decode cX4_readDigits 67 = .ok (.dup, 1) := dk_89 (dk_at dksX4_readDigits_2 21 rfl rfl)
theorem dX4_readDigits_68 : decode cX4_readDigits 68 = .ok (.getfield 138, 3) := dk_180 0 138 (dk_at dksX4_readDigits_3 0 rfl rfl)
theorem dX4_readDigits_71 : decode cX4_readDigits 71 = .ok (.aload_n 0, 1) := dk_42 (dk_at dksX4_readDigits_3 3 rfl rfl)
theorem dX4_readDigits_72 : decode cX4_readDigits 72 = .ok (.getfield 144, 3) := dk_180 0 144 (dk_at dksX4_readDigits_3 4 rfl rfl)
theorem dX4_readDigits_75 : decode cX4_readDigits 75 = .ok (.ifCond .eq 7, 3) := dk_153 0 7 (dk_at dksX4_readDigits_3 7 rfl rfl)
theorem dX4_readDigits_78 : decode cX4_readDigits 78 = .ok (.iconst 0, 1) := dk_3 (dk_at dksX4_readDigits_3 10 rfl rfl)
theorem dX4_readDigits_79 : decode cX4_readDigits 79 = .ok (.goto 4, 3) := dk_167 0 4 (dk_at dksX4_readDigits_3 11 rfl rfl)
theorem dX4_readDigits_82 : decode cX4_readDigits 82 = .ok (.iconst 1, 1) := dk_4 (dk_at dksX4_readDigits_3 14 rfl rfl)
theorem dX4_readDigits_83 : decode cX4_readDigits 83 = .ok (.iadd, 1) := dk_96 (dk_at dksX4_readDigits_3 15 rfl rfl)
theorem dX4_readDigits_84 : decode cX4_readDigits 84 = .ok (.putfield 138, 3) := dk_181 0 138 (dk_at dksX4_readDigits_3 16 rfl rfl)
theorem dX4_readDigits_87 : decode cX4_readDigits 87 = .ok (.iinc 3 1, 3) := dk_132 3 1 (dk_at dksX4_readDigits_3 19 rfl rfl)
theorem dX4_readDigits_90 : decode cX4_readDigits 90 = .ok (.goto (-86), 3) := dk_167 255 170 (dk_at dksX4_readDigits_4 0 rfl rfl)
theorem dX4_readDigits_93 : decode cX4_readDigits 93 = .ok (.iload_n 2, 1) := dk_28 (dk_at dksX4_readDigits_4 3 rfl rfl)
theorem dX4_readDigits_94 : decode cX4_readDigits 94 = .ok (.ireturn, 1) := dk_172 (dk_at dksX4_readDigits_4 4 rfl rfl)
abbrev cX4_open : ByteArray := prog_21_method_37_code
def yX4_open : MethodName := ⟨RX4, "open", "()V"⟩
def dkwX4_open_0 : List UInt8 := [42, 42, 180, 0, 53, 4, 182, 0, 216, 177]
abbrev dktX4_open_0 : List UInt8 := dkwX4_open_0 ++ []
theorem dksX4_open_0 : cX4_open.data.toList.drop 0 = dktX4_open_0 := by decide +kernel
theorem dX4_open_0 : decode cX4_open 0 = .ok (.aload_n 0, 1) := dk_42 (dk_at dksX4_open_0 0 rfl rfl)
theorem dX4_open_1 : decode cX4_open 1 = .ok (.aload_n 0, 1) := dk_42 (dk_at dksX4_open_0 1 rfl rfl)
theorem dX4_open_2 : decode cX4_open 2 = .ok (.getfield 53, 3) := dk_180 0 53 (dk_at dksX4_open_0 2 rfl rfl)
theorem dX4_open_5 : decode cX4_open 5 = .ok (.iconst 1, 1) := dk_4 (dk_at dksX4_open_0 5 rfl rfl)
theorem dX4_open_6 : decode cX4_open 6 = .ok (.invokevirtual 216, 3) := dk_182 0 216 (dk_at dksX4_open_0 6 rfl rfl)
theorem dX4_open_9 : decode cX4_open 9 = .ok (.return_, 1) := dk_177 (dk_at dksX4_open_0 9 rfl rfl)
abbrev cX4_carryAll : ByteArray := prog_21_method_36_code
def yX4_carryAll : MethodName := ⟨RX4, "carryAll", "([IZ)V"⟩
def dkwX4_carryAll_5 : List UInt8 := [180, 0, 22, 29, 46, 182, 0, 213, 79, 132, 3, 1, 167, 255, 167, 177]
abbrev dktX4_carryAll_5 : List UInt8 := dkwX4_carryAll_5 ++ []
def dkwX4_carryAll_4 : List UInt8 := [79, 42, 180, 0, 19, 29, 42, 42, 180, 0, 19, 29, 46, 182, 0, 213, 79, 42, 180, 0, 22, 29, 42, 42]
abbrev dktX4_carryAll_4 : List UInt8 := dkwX4_carryAll_4 ++ dktX4_carryAll_5
def dkwX4_carryAll_3 : List UInt8 := [180, 0, 13, 29, 46, 182, 0, 213, 79, 42, 180, 0, 16, 29, 42, 42, 180, 0, 16, 29, 46, 182, 0, 213]
abbrev dktX4_carryAll_3 : List UInt8 := dkwX4_carryAll_3 ++ dktX4_carryAll_4
def dkwX4_carryAll_2 : List UInt8 := [180, 0, 7, 29, 42, 42, 180, 0, 7, 29, 46, 182, 0, 213, 79, 42, 180, 0, 13, 29, 42, 42]
abbrev dktX4_carryAll_2 : List UInt8 := dkwX4_carryAll_2 ++ dktX4_carryAll_3
def dkwX4_carryAll_1 : List UInt8 := [181, 0, 81, 42, 42, 42, 180, 0, 135, 182, 0, 213, 181, 0, 135, 3, 62, 29, 16, 6, 162, 0, 89, 42]
abbrev dktX4_carryAll_1 : List UInt8 := dkwX4_carryAll_1 ++ dktX4_carryAll_2
def dkwX4_carryAll_0 : List UInt8 := [42, 43, 181, 0, 207, 42, 28, 181, 0, 204, 42, 3, 181, 0, 210, 42, 42, 42, 180, 0, 81, 182, 0, 213]
abbrev dktX4_carryAll_0 : List UInt8 := dkwX4_carryAll_0 ++ dktX4_carryAll_1
theorem dksX4_carryAll_0 : cX4_carryAll.data.toList.drop 0 = dktX4_carryAll_0 := by decide +kernel
theorem dksX4_carryAll_1 : cX4_carryAll.data.toList.drop 24 = dktX4_carryAll_1 := dk_seg dksX4_carryAll_0 24 rfl rfl
theorem dksX4_carryAll_2 : cX4_carryAll.data.toList.drop 48 = dktX4_carryAll_2 := dk_seg dksX4_carryAll_1 24 rfl rfl
theorem dksX4_carryAll_3 : cX4_carryAll.data.toList.drop 70 = dktX4_carryAll_3 := dk_seg dksX4_carryAll_2 22 rfl rfl
theorem dksX4_carryAll_4 : cX4_carryAll.data.toList.drop 94 = dktX4_carryAll_4 := dk_seg dksX4_carryAll_3 24 rfl rfl
theorem dksX4_carryAll_5 : cX4_carryAll.data.toList.drop 118 = dktX4_carryAll_5 := dk_seg dksX4_carryAll_4 24 rfl rfl
theorem dX4_carryAll_0 : decode cX4_carryAll 0 = .ok (.aload_n 0, 1) := dk_42 (dk_at dksX4_carryAll_0 0 rfl rfl)
theorem dX4_carryAll_1 : decode cX4_carryAll 1 = .ok (.aload_n 1, 1) := dk_43 (dk_at dksX4_carryAll_0 1 rfl rfl)
theorem dX4_carryAll_2 : decode cX4_carryAll 2 = .ok (.putfield 207, 3) := dk_181 0 207 (dk_at dksX4_carryAll_0 2 rfl rfl)
theorem dX4_carryAll_5 : decode cX4_carryAll 5 = .ok (.aload_n 0, 1) := dk_42 (dk_at dksX4_carryAll_0 5 rfl rfl)
theorem dX4_carryAll_6 : decode cX4_carryAll 6 = .ok (.iload_n 2, 1) := dk_28 (dk_at dksX4_carryAll_0 6 rfl rfl)
theorem dX4_carryAll_7 : decode cX4_carryAll 7 = .ok (.putfield 204, 3) := dk_181 0 204 (dk_at dksX4_carryAll_0 7 rfl rfl)
theorem dX4_carryAll_10 : decode cX4_carryAll 10 = .ok (.aload_n 0, 1) := dk_42 (dk_at dksX4_carryAll_0 10 rfl rfl)
theorem dX4_carryAll_11 : decode cX4_carryAll 11 = .ok (.iconst 0, 1) := dk_3 (dk_at dksX4_carryAll_0 11 rfl rfl)
theorem dX4_carryAll_12 : decode cX4_carryAll 12 = .ok (.putfield 210, 3) := dk_181 0 210 (dk_at dksX4_carryAll_0 12 rfl rfl)
theorem dX4_carryAll_15 : decode cX4_carryAll 15 = .ok (.aload_n 0, 1) := dk_42 (dk_at dksX4_carryAll_0 15 rfl rfl)
theorem dX4_carryAll_16 : decode cX4_carryAll 16 = .ok (.aload_n 0, 1) := dk_42 (dk_at dksX4_carryAll_0 16 rfl rfl)
theorem dX4_carryAll_17 : decode cX4_carryAll 17 = .ok (.aload_n 0, 1) := dk_42 (dk_at dksX4_carryAll_0 17 rfl rfl)
theorem dX4_carryAll_18 : decode cX4_carryAll 18 = .ok (.getfield 81, 3) := dk_180 0 81 (dk_at dksX4_carryAll_0 18 rfl rfl)
theorem dX4_carryAll_21 : decode cX4_carryAll 21 = .ok (.invokevirtual 213, 3) := dk_182 0 213 (dk_at dksX4_carryAll_0 21 rfl rfl)
theorem dX4_carryAll_24 : decode cX4_carryAll 24 = .ok (.putfield 81, 3) := dk_181 0 81 (dk_at dksX4_carryAll_1 0 rfl rfl)
theorem dX4_carryAll_27 : decode cX4_carryAll 27 = .ok (.aload_n 0, 1) := dk_42 (dk_at dksX4_carryAll_1 3 rfl rfl)
theorem dX4_carryAll_28 : decode cX4_carryAll 28 = .ok (.aload_n 0, 1) := dk_42 (dk_at dksX4_carryAll_1 4 rfl rfl)
theorem dX4_carryAll_29 : decode cX4_carryAll 29 = .ok (.aload_n 0, 1) := dk_42 (dk_at dksX4_carryAll_1 5 rfl rfl)
theorem dX4_carryAll_30 : decode cX4_carryAll 30 = .ok (.getfield 135, 3) := dk_180 0 135 (dk_at dksX4_carryAll_1 6 rfl rfl)
theorem dX4_carryAll_33 : decode cX4_carryAll 33 = .ok (.invokevirtual 213, 3) := dk_182 0 213 (dk_at dksX4_carryAll_1 9 rfl rfl)
theorem dX4_carryAll_36 : decode cX4_carryAll 36 = .ok (.putfield 135, 3) := dk_181 0 135 (dk_at dksX4_carryAll_1 12 rfl rfl)
theorem dX4_carryAll_39 : decode cX4_carryAll 39 = .ok (.iconst 0, 1) := dk_3 (dk_at dksX4_carryAll_1 15 rfl rfl)
theorem dX4_carryAll_40 : decode cX4_carryAll 40 = .ok (.istore_n 3, 1) := dk_62 (dk_at dksX4_carryAll_1 16 rfl rfl)
theorem dX4_carryAll_41 : decode cX4_carryAll 41 = .ok (.iload_n 3, 1) := dk_29 (dk_at dksX4_carryAll_1 17 rfl rfl)
theorem dX4_carryAll_42 : decode cX4_carryAll 42 = .ok (.bipush 6, 2) := dk_16 6 (dk_at dksX4_carryAll_1 18 rfl rfl)
theorem dX4_carryAll_44 : decode cX4_carryAll 44 = .ok (.if_icmp .ge 89, 3) := dk_162 0 89 (dk_at dksX4_carryAll_1 20 rfl rfl)
theorem dX4_carryAll_47 : decode cX4_carryAll 47 = .ok (.aload_n 0, 1) := dk_42 (dk_at dksX4_carryAll_1 23 rfl rfl)
theorem dX4_carryAll_48 : decode cX4_carryAll 48 = .ok (.getfield 7, 3) := dk_180 0 7 (dk_at dksX4_carryAll_2 0 rfl rfl)
theorem dX4_carryAll_51 : decode cX4_carryAll 51 = .ok (.iload_n 3, 1) := dk_29 (dk_at dksX4_carryAll_2 3 rfl rfl)
theorem dX4_carryAll_52 : decode cX4_carryAll 52 = .ok (.aload_n 0, 1) := dk_42 (dk_at dksX4_carryAll_2 4 rfl rfl)
theorem dX4_carryAll_53 : decode cX4_carryAll 53 = .ok (.aload_n 0, 1) := dk_42 (dk_at dksX4_carryAll_2 5 rfl rfl)
theorem dX4_carryAll_54 : decode cX4_carryAll 54 = .ok (.getfield 7, 3) := dk_180 0 7 (dk_at dksX4_carryAll_2 6 rfl rfl)
theorem dX4_carryAll_57 : decode cX4_carryAll 57 = .ok (.iload_n 3, 1) := dk_29 (dk_at dksX4_carryAll_2 9 rfl rfl)
theorem dX4_carryAll_58 : decode cX4_carryAll 58 = .ok (.iaload, 1) := dk_46 (dk_at dksX4_carryAll_2 10 rfl rfl)
theorem dX4_carryAll_59 : decode cX4_carryAll 59 = .ok (.invokevirtual 213, 3) := dk_182 0 213 (dk_at dksX4_carryAll_2 11 rfl rfl)
theorem dX4_carryAll_62 : decode cX4_carryAll 62 = .ok (.iastore, 1) := dk_79 (dk_at dksX4_carryAll_2 14 rfl rfl)
theorem dX4_carryAll_63 : decode cX4_carryAll 63 = .ok (.aload_n 0, 1) := dk_42 (dk_at dksX4_carryAll_2 15 rfl rfl)
theorem dX4_carryAll_64 : decode cX4_carryAll 64 = .ok (.getfield 13, 3) := dk_180 0 13 (dk_at dksX4_carryAll_2 16 rfl rfl)
theorem dX4_carryAll_67 : decode cX4_carryAll 67 = .ok (.iload_n 3, 1) := dk_29 (dk_at dksX4_carryAll_2 19 rfl rfl)
theorem dX4_carryAll_68 : decode cX4_carryAll 68 = .ok (.aload_n 0, 1) := dk_42 (dk_at dksX4_carryAll_2 20 rfl rfl)
theorem dX4_carryAll_69 : decode cX4_carryAll 69 = .ok (.aload_n 0, 1) := dk_42 (dk_at dksX4_carryAll_2 21 rfl rfl)
theorem dX4_carryAll_70 : decode cX4_carryAll 70 = .ok (.getfield 13, 3) := dk_180 0 13 (dk_at dksX4_carryAll_3 0 rfl rfl)
theorem dX4_carryAll_73 : decode cX4_carryAll 73 = .ok (.iload_n 3, 1) := dk_29 (dk_at dksX4_carryAll_3 3 rfl rfl)
theorem dX4_carryAll_74 : decode cX4_carryAll 74 = .ok (.iaload, 1) := dk_46 (dk_at dksX4_carryAll_3 4 rfl rfl)
theorem dX4_carryAll_75 : decode cX4_carryAll 75 = .ok (.invokevirtual 213, 3) := dk_182 0 213 (dk_at dksX4_carryAll_3 5 rfl rfl)
theorem dX4_carryAll_78 : decode cX4_carryAll 78 = .ok (.iastore, 1) := dk_79 (dk_at dksX4_carryAll_3 8 rfl rfl)
theorem dX4_carryAll_79 : decode cX4_carryAll 79 = .ok (.aload_n 0, 1) := dk_42 (dk_at dksX4_carryAll_3 9 rfl rfl)
theorem dX4_carryAll_80 : decode cX4_carryAll 80 = .ok (.getfield 16, 3) := dk_180 0 16 (dk_at dksX4_carryAll_3 10 rfl rfl)
theorem dX4_carryAll_83 : decode cX4_carryAll 83 = .ok (.iload_n 3, 1) := dk_29 (dk_at dksX4_carryAll_3 13 rfl rfl)
theorem dX4_carryAll_84 : decode cX4_carryAll 84 = .ok (.aload_n 0, 1) := dk_42 (dk_at dksX4_carryAll_3 14 rfl rfl)
theorem dX4_carryAll_85 : decode cX4_carryAll 85 = .ok (.aload_n 0, 1) := dk_42 (dk_at dksX4_carryAll_3 15 rfl rfl)
theorem dX4_carryAll_86 : decode cX4_carryAll 86 = .ok (.getfield 16, 3) := dk_180 0 16 (dk_at dksX4_carryAll_3 16 rfl rfl)
theorem dX4_carryAll_89 : decode cX4_carryAll 89 = .ok (.iload_n 3, 1) := dk_29 (dk_at dksX4_carryAll_3 19 rfl rfl)
theorem dX4_carryAll_90 : decode cX4_carryAll 90 = .ok (.iaload, 1) := dk_46 (dk_at dksX4_carryAll_3 20 rfl rfl)
theorem dX4_carryAll_91 : decode cX4_carryAll 91 = .ok (.invokevirtual 213, 3) := dk_182 0 213 (dk_at dksX4_carryAll_3 21 rfl rfl)
theorem dX4_carryAll_94 : decode cX4_carryAll 94 = .ok (.iastore, 1) := dk_79 (dk_at dksX4_carryAll_4 0 rfl rfl)
theorem dX4_carryAll_95 : decode cX4_carryAll 95 = .ok (.aload_n 0, 1) := dk_42 (dk_at dksX4_carryAll_4 1 rfl rfl)
theorem dX4_carryAll_96 : decode cX4_carryAll 96 = .ok (.getfield 19, 3) := dk_180 0 19 (dk_at dksX4_carryAll_4 2 rfl rfl)
theorem dX4_carryAll_99 : decode cX4_carryAll 99 = .ok (.iload_n 3, 1) := dk_29 (dk_at dksX4_carryAll_4 5 rfl rfl)
theorem dX4_carryAll_100 : decode cX4_carryAll 100 = .ok (.aload_n 0, 1) := dk_42 (dk_at dksX4_carryAll_4 6 rfl rfl)
theorem dX4_carryAll_101 : decode cX4_carryAll 101 = .ok (.aload_n 0, 1) := dk_42 (dk_at dksX4_carryAll_4 7 rfl rfl)
theorem dX4_carryAll_102 : decode cX4_carryAll 102 = .ok (.getfield 19, 3) := dk_180 0 19 (dk_at dksX4_carryAll_4 8 rfl rfl)
theorem dX4_carryAll_105 : decode cX4_carryAll 105 = .ok (.iload_n 3, 1) := dk_29 (dk_at dksX4_carryAll_4 11 rfl rfl)
theorem dX4_carryAll_106 : decode cX4_carryAll 106 = .ok (.iaload, 1) := dk_46 (dk_at dksX4_carryAll_4 12 rfl rfl)
theorem dX4_carryAll_107 : decode cX4_carryAll 107 = .ok (.invokevirtual 213, 3) := dk_182 0 213 (dk_at dksX4_carryAll_4 13 rfl rfl)
theorem dX4_carryAll_110 : decode cX4_carryAll 110 = .ok (.iastore, 1) := dk_79 (dk_at dksX4_carryAll_4 16 rfl rfl)
theorem dX4_carryAll_111 : decode cX4_carryAll 111 = .ok (.aload_n 0, 1) := dk_42 (dk_at dksX4_carryAll_4 17 rfl rfl)
theorem dX4_carryAll_112 : decode cX4_carryAll 112 = .ok (.getfield 22, 3) := dk_180 0 22 (dk_at dksX4_carryAll_4 18 rfl rfl)
theorem dX4_carryAll_115 : decode cX4_carryAll 115 = .ok (.iload_n 3, 1) := dk_29 (dk_at dksX4_carryAll_4 21 rfl rfl)
theorem dX4_carryAll_116 : decode cX4_carryAll 116 = .ok (.aload_n 0, 1) := dk_42 (dk_at dksX4_carryAll_4 22 rfl rfl)
theorem dX4_carryAll_117 : decode cX4_carryAll 117 = .ok (.aload_n 0, 1) := dk_42 (dk_at dksX4_carryAll_4 23 rfl rfl)
theorem dX4_carryAll_118 : decode cX4_carryAll 118 = .ok (.getfield 22, 3) := dk_180 0 22 (dk_at dksX4_carryAll_5 0 rfl rfl)
theorem dX4_carryAll_121 : decode cX4_carryAll 121 = .ok (.iload_n 3, 1) := dk_29 (dk_at dksX4_carryAll_5 3 rfl rfl)
theorem dX4_carryAll_122 : decode cX4_carryAll 122 = .ok (.iaload, 1) := dk_46 (dk_at dksX4_carryAll_5 4 rfl rfl)
theorem dX4_carryAll_123 : decode cX4_carryAll 123 = .ok (.invokevirtual 213, 3) := dk_182 0 213 (dk_at dksX4_carryAll_5 5 rfl rfl)
theorem dX4_carryAll_126 : decode cX4_carryAll 126 = .ok (.iastore, 1) := dk_79 (dk_at dksX4_carryAll_5 8 rfl rfl)
theorem dX4_carryAll_127 : decode cX4_carryAll 127 = .ok (.iinc 3 1, 3) := dk_132 3 1 (dk_at dksX4_carryAll_5 9 rfl rfl)
theorem dX4_carryAll_130 : decode cX4_carryAll 130 = .ok (.goto (-89), 3) := dk_167 255 167 (dk_at dksX4_carryAll_5 12 rfl rfl)
theorem dX4_carryAll_133 : decode cX4_carryAll 133 = .ok (.return_, 1) := dk_177 (dk_at dksX4_carryAll_5 15 rfl rfl)
abbrev cX4_carry : ByteArray := prog_21_method_35_code
def yX4_carry : MethodName := ⟨RX4, "carry", "(I)I"⟩
def dkwX4_carry_1 : List UInt8 := [181, 0, 210, 42, 180, 0, 207, 42, 180, 0, 210, 4, 100, 46, 172]
abbrev dktX4_carry_1 : List UInt8 := dkwX4_carry_1 ++ []
def dkwX4_carry_0 : List UInt8 := [42, 180, 0, 204, 153, 0, 13, 42, 180, 0, 207, 42, 180, 0, 210, 27, 79, 42, 89, 180, 0, 210, 4, 96]
abbrev dktX4_carry_0 : List UInt8 := dkwX4_carry_0 ++ dktX4_carry_1
theorem dksX4_carry_0 : cX4_carry.data.toList.drop 0 = dktX4_carry_0 := by decide +kernel
theorem dksX4_carry_1 : cX4_carry.data.toList.drop 24 = dktX4_carry_1 := dk_seg dksX4_carry_0 24 rfl rfl
theorem dX4_carry_0 : decode cX4_carry 0 = .ok (.aload_n 0, 1) := dk_42 (dk_at dksX4_carry_0 0 rfl rfl)
theorem dX4_carry_1 : decode cX4_carry 1 = .ok (.getfield 204, 3) := dk_180 0 204 (dk_at dksX4_carry_0 1 rfl rfl)
theorem dX4_carry_4 : decode cX4_carry 4 = .ok (.ifCond .eq 13, 3) := dk_153 0 13 (dk_at dksX4_carry_0 4 rfl rfl)
theorem dX4_carry_7 : decode cX4_carry 7 = .ok (.aload_n 0, 1) := dk_42 (dk_at dksX4_carry_0 7 rfl rfl)
theorem dX4_carry_8 : decode cX4_carry 8 = .ok (.getfield 207, 3) := dk_180 0 207 (dk_at dksX4_carry_0 8 rfl rfl)
theorem dX4_carry_11 : decode cX4_carry 11 = .ok (.aload_n 0, 1) := dk_42 (dk_at dksX4_carry_0 11 rfl rfl)
theorem dX4_carry_12 : decode cX4_carry 12 = .ok (.getfield 210, 3) := dk_180 0 210 (dk_at dksX4_carry_0 12 rfl rfl)
theorem dX4_carry_15 : decode cX4_carry 15 = .ok (.iload_n 1, 1) := dk_27 (dk_at dksX4_carry_0 15 rfl rfl)
theorem dX4_carry_16 : decode cX4_carry 16 = .ok (.iastore, 1) := dk_79 (dk_at dksX4_carry_0 16 rfl rfl)
theorem dX4_carry_17 : decode cX4_carry 17 = .ok (.aload_n 0, 1) := dk_42 (dk_at dksX4_carry_0 17 rfl rfl)
theorem dX4_carry_18 : decode cX4_carry 18 = .ok (.dup, 1) := dk_89 (dk_at dksX4_carry_0 18 rfl rfl)
theorem dX4_carry_19 : decode cX4_carry 19 = .ok (.getfield 210, 3) := dk_180 0 210 (dk_at dksX4_carry_0 19 rfl rfl)
theorem dX4_carry_22 : decode cX4_carry 22 = .ok (.iconst 1, 1) := dk_4 (dk_at dksX4_carry_0 22 rfl rfl)
theorem dX4_carry_23 : decode cX4_carry 23 = .ok (.iadd, 1) := dk_96 (dk_at dksX4_carry_0 23 rfl rfl)
theorem dX4_carry_24 : decode cX4_carry 24 = .ok (.putfield 210, 3) := dk_181 0 210 (dk_at dksX4_carry_1 0 rfl rfl)
theorem dX4_carry_27 : decode cX4_carry 27 = .ok (.aload_n 0, 1) := dk_42 (dk_at dksX4_carry_1 3 rfl rfl)
theorem dX4_carry_28 : decode cX4_carry 28 = .ok (.getfield 207, 3) := dk_180 0 207 (dk_at dksX4_carry_1 4 rfl rfl)
theorem dX4_carry_31 : decode cX4_carry 31 = .ok (.aload_n 0, 1) := dk_42 (dk_at dksX4_carry_1 7 rfl rfl)
theorem dX4_carry_32 : decode cX4_carry 32 = .ok (.getfield 210, 3) := dk_180 0 210 (dk_at dksX4_carry_1 8 rfl rfl)
theorem dX4_carry_35 : decode cX4_carry 35 = .ok (.iconst 1, 1) := dk_4 (dk_at dksX4_carry_1 11 rfl rfl)
theorem dX4_carry_36 : decode cX4_carry 36 = .ok (.isub, 1) := dk_100 (dk_at dksX4_carry_1 12 rfl rfl)
theorem dX4_carry_37 : decode cX4_carry 37 = .ok (.iaload, 1) := dk_46 (dk_at dksX4_carry_1 13 rfl rfl)
theorem dX4_carry_38 : decode cX4_carry 38 = .ok (.ireturn, 1) := dk_172 (dk_at dksX4_carry_1 14 rfl rfl)
abbrev cX4_comesTold : ByteArray := prog_21_method_33_code
def yX4_comesTold : MethodName := ⟨RX4, "comesTold", "(I)Z"⟩
def dkwX4_comesTold_9 : List UInt8 := [172]
abbrev dktX4_comesTold_9 : List UInt8 := dkwX4_comesTold_9 ++ []
def dkwX4_comesTold_8 : List UInt8 := [163, 0, 7, 4, 167, 0, 4, 3, 54, 4, 21, 4, 153, 0, 10, 42, 180, 0, 19, 28, 29, 79, 21, 4]
abbrev dktX4_comesTold_8 : List UInt8 := dkwX4_comesTold_8 ++ dktX4_comesTold_9
def dkwX4_comesTold_7 : List UInt8 := [153, 0, 10, 42, 180, 0, 16, 28, 29, 79, 21, 4, 172, 42, 28, 182, 0, 99, 153, 0, 13, 29, 16, 7]
abbrev dktX4_comesTold_7 : List UInt8 := dkwX4_comesTold_7 ++ dktX4_comesTold_8
def dkwX4_comesTold_6 : List UInt8 := [172, 42, 28, 182, 0, 99, 153, 0, 13, 29, 16, 20, 163, 0, 7, 4, 167, 0, 4, 3, 54, 4, 21, 4]
abbrev dktX4_comesTold_6 : List UInt8 := dkwX4_comesTold_6 ++ dktX4_comesTold_7
def dkwX4_comesTold_5 : List UInt8 := [29, 159, 0, 7, 4, 167, 0, 4, 3, 54, 4, 21, 4, 153, 0, 9, 42, 28, 29, 182, 0, 186, 21, 4]
abbrev dktX4_comesTold_5 : List UInt8 := dkwX4_comesTold_5 ++ dktX4_comesTold_6
def dkwX4_comesTold_4 : List UInt8 := [42, 28, 182, 0, 183, 4, 172, 42, 28, 182, 0, 99, 153, 0, 20, 42, 29, 182, 0, 99, 153, 0, 12, 28]
abbrev dktX4_comesTold_4 : List UInt8 := dkwX4_comesTold_4 ++ dktX4_comesTold_5
def dkwX4_comesTold_3 : List UInt8 := [42, 28, 29, 42, 180, 0, 50, 6, 27, 104, 5, 96, 46, 182, 0, 175, 172, 42, 28, 29, 182, 0, 179, 172]
abbrev dktX4_comesTold_3 : List UInt8 := dkwX4_comesTold_3 ++ dktX4_comesTold_4
def dkwX4_comesTold_2 : List UInt8 := [171, 0, 0, 0, 0, 0, 160, 0, 0, 0, 5, 0, 0, 0, 98, 0, 0, 0, 75, 0, 0, 0, 99, 0, 0, 0, 51, 0, 0, 0, 109, 0, 0, 0, 68, 0, 0, 0, 116, 0, 0, 0, 124, 0, 0, 0, 120, 0, 0, 0, 82]
abbrev dktX4_comesTold_2 : List UInt8 := dkwX4_comesTold_2 ++ dktX4_comesTold_3
def dkwX4_comesTold_1 : List UInt8 := [180, 0, 47, 27, 46]
abbrev dktX4_comesTold_1 : List UInt8 := dkwX4_comesTold_1 ++ dktX4_comesTold_2
def dkwX4_comesTold_0 : List UInt8 := [42, 180, 0, 50, 6, 27, 104, 46, 61, 42, 180, 0, 50, 6, 27, 104, 4, 96, 46, 62, 4, 54, 4, 42]
abbrev dktX4_comesTold_0 : List UInt8 := dkwX4_comesTold_0 ++ dktX4_comesTold_1
theorem dksX4_comesTold_0 : cX4_comesTold.data.toList.drop 0 = dktX4_comesTold_0 := by decide +kernel
theorem dksX4_comesTold_1 : cX4_comesTold.data.toList.drop 24 = dktX4_comesTold_1 := dk_seg dksX4_comesTold_0 24 rfl rfl
theorem dksX4_comesTold_2 : cX4_comesTold.data.toList.drop 29 = dktX4_comesTold_2 := dk_seg dksX4_comesTold_1 5 rfl rfl
theorem dksX4_comesTold_3 : cX4_comesTold.data.toList.drop 80 = dktX4_comesTold_3 := dk_seg dksX4_comesTold_2 51 rfl rfl
theorem dksX4_comesTold_4 : cX4_comesTold.data.toList.drop 104 = dktX4_comesTold_4 := dk_seg dksX4_comesTold_3 24 rfl rfl
theorem dksX4_comesTold_5 : cX4_comesTold.data.toList.drop 128 = dktX4_comesTold_5 := dk_seg dksX4_comesTold_4 24 rfl rfl
theorem dksX4_comesTold_6 : cX4_comesTold.data.toList.drop 152 = dktX4_comesTold_6 := dk_seg dksX4_comesTold_5 24 rfl rfl
theorem dksX4_comesTold_7 : cX4_comesTold.data.toList.drop 176 = dktX4_comesTold_7 := dk_seg dksX4_comesTold_6 24 rfl rfl
theorem dksX4_comesTold_8 : cX4_comesTold.data.toList.drop 200 = dktX4_comesTold_8 := dk_seg dksX4_comesTold_7 24 rfl rfl
theorem dksX4_comesTold_9 : cX4_comesTold.data.toList.drop 224 = dktX4_comesTold_9 := dk_seg dksX4_comesTold_8 24 rfl rfl
theorem dX4_comesTold_0 : decode cX4_comesTold 0 = .ok (.aload_n 0, 1) := dk_42 (dk_at dksX4_comesTold_0 0 rfl rfl)
theorem dX4_comesTold_1 : decode cX4_comesTold 1 = .ok (.getfield 50, 3) := dk_180 0 50 (dk_at dksX4_comesTold_0 1 rfl rfl)
theorem dX4_comesTold_4 : decode cX4_comesTold 4 = .ok (.iconst 3, 1) := dk_6 (dk_at dksX4_comesTold_0 4 rfl rfl)
theorem dX4_comesTold_5 : decode cX4_comesTold 5 = .ok (.iload_n 1, 1) := dk_27 (dk_at dksX4_comesTold_0 5 rfl rfl)
theorem dX4_comesTold_6 : decode cX4_comesTold 6 = .ok (.imul, 1) := dk_104 (dk_at dksX4_comesTold_0 6 rfl rfl)
theorem dX4_comesTold_7 : decode cX4_comesTold 7 = .ok (.iaload, 1) := dk_46 (dk_at dksX4_comesTold_0 7 rfl rfl)
theorem dX4_comesTold_8 : decode cX4_comesTold 8 = .ok (.istore_n 2, 1) := dk_61 (dk_at dksX4_comesTold_0 8 rfl rfl)
theorem dX4_comesTold_9 : decode cX4_comesTold 9 = .ok (.aload_n 0, 1) := dk_42 (dk_at dksX4_comesTold_0 9 rfl rfl)
theorem dX4_comesTold_10 : decode cX4_comesTold 10 = .ok (.getfield 50, 3) := dk_180 0 50 (dk_at dksX4_comesTold_0 10 rfl rfl)
theorem dX4_comesTold_13 : decode cX4_comesTold 13 = .ok (.iconst 3, 1) := dk_6 (dk_at dksX4_comesTold_0 13 rfl rfl)
theorem dX4_comesTold_14 : decode cX4_comesTold 14 = .ok (.iload_n 1, 1) := dk_27 (dk_at dksX4_comesTold_0 14 rfl rfl)
theorem dX4_comesTold_15 : decode cX4_comesTold 15 = .ok (.imul, 1) := dk_104 (dk_at dksX4_comesTold_0 15 rfl rfl)
theorem dX4_comesTold_16 : decode cX4_comesTold 16 = .ok (.iconst 1, 1) := dk_4 (dk_at dksX4_comesTold_0 16 rfl rfl)
theorem dX4_comesTold_17 : decode cX4_comesTold 17 = .ok (.iadd, 1) := dk_96 (dk_at dksX4_comesTold_0 17 rfl rfl)
theorem dX4_comesTold_18 : decode cX4_comesTold 18 = .ok (.iaload, 1) := dk_46 (dk_at dksX4_comesTold_0 18 rfl rfl)
theorem dX4_comesTold_19 : decode cX4_comesTold 19 = .ok (.istore_n 3, 1) := dk_62 (dk_at dksX4_comesTold_0 19 rfl rfl)
theorem dX4_comesTold_20 : decode cX4_comesTold 20 = .ok (.iconst 1, 1) := dk_4 (dk_at dksX4_comesTold_0 20 rfl rfl)
theorem dX4_comesTold_21 : decode cX4_comesTold 21 = .ok (.istore 4, 2) := dk_54 4 (dk_at dksX4_comesTold_0 21 rfl rfl)
theorem dX4_comesTold_23 : decode cX4_comesTold 23 = .ok (.aload_n 0, 1) := dk_42 (dk_at dksX4_comesTold_0 23 rfl rfl)
theorem dX4_comesTold_24 : decode cX4_comesTold 24 = .ok (.getfield 47, 3) := dk_180 0 47 (dk_at dksX4_comesTold_1 0 rfl rfl)
theorem dX4_comesTold_27 : decode cX4_comesTold 27 = .ok (.iload_n 1, 1) := dk_27 (dk_at dksX4_comesTold_1 3 rfl rfl)
theorem dX4_comesTold_28 : decode cX4_comesTold 28 = .ok (.iaload, 1) := dk_46 (dk_at dksX4_comesTold_1 4 rfl rfl)
theorem dX4_comesTold_29 : decode cX4_comesTold 29 = .ok (.lookupswitch 160 #[(98, 75), (99, 51), (109, 68), (116, 124), (120, 82)], 51) := by decide +kernel
theorem dX4_comesTold_80 : decode cX4_comesTold 80 = .ok (.aload_n 0, 1) := dk_42 (dk_at dksX4_comesTold_3 0 rfl rfl)
theorem dX4_comesTold_81 : decode cX4_comesTold 81 = .ok (.iload_n 2, 1) := dk_28 (dk_at dksX4_comesTold_3 1 rfl rfl)
theorem dX4_comesTold_82 : decode cX4_comesTold 82 = .ok (.iload_n 3, 1) := dk_29 (dk_at dksX4_comesTold_3 2 rfl rfl)
theorem dX4_comesTold_83 : decode cX4_comesTold 83 = .ok (.aload_n 0, 1) := dk_42 (dk_at dksX4_comesTold_3 3 rfl rfl)
theorem dX4_comesTold_84 : decode cX4_comesTold 84 = .ok (.getfield 50, 3) := dk_180 0 50 (dk_at dksX4_comesTold_3 4 rfl rfl)
theorem dX4_comesTold_87 : decode cX4_comesTold 87 = .ok (.iconst 3, 1) := dk_6 (dk_at dksX4_comesTold_3 7 rfl rfl)
theorem dX4_comesTold_88 : decode cX4_comesTold 88 = .ok (.iload_n 1, 1) := dk_27 (dk_at dksX4_comesTold_3 8 rfl rfl)
theorem dX4_comesTold_89 : decode cX4_comesTold 89 = .ok (.imul, 1) := dk_104 (dk_at dksX4_comesTold_3 9 rfl rfl)
theorem dX4_comesTold_90 : decode cX4_comesTold 90 = .ok (.iconst 2, 1) := dk_5 (dk_at dksX4_comesTold_3 10 rfl rfl)
theorem dX4_comesTold_91 : decode cX4_comesTold 91 = .ok (.iadd, 1) := dk_96 (dk_at dksX4_comesTold_3 11 rfl rfl)
theorem dX4_comesTold_92 : decode cX4_comesTold 92 = .ok (.iaload, 1) := dk_46 (dk_at dksX4_comesTold_3 12 rfl rfl)
theorem dX4_comesTold_93 : decode cX4_comesTold 93 = .ok (.invokevirtual 175, 3) := dk_182 0 175 (dk_at dksX4_comesTold_3 13 rfl rfl)
theorem dX4_comesTold_96 : decode cX4_comesTold 96 = .ok (.ireturn, 1) := dk_172 (dk_at dksX4_comesTold_3 16 rfl rfl)
theorem dX4_comesTold_97 : decode cX4_comesTold 97 = .ok (.aload_n 0, 1) := dk_42 (dk_at dksX4_comesTold_3 17 rfl rfl)
theorem dX4_comesTold_98 : decode cX4_comesTold 98 = .ok (.iload_n 2, 1) := dk_28 (dk_at dksX4_comesTold_3 18 rfl rfl)
theorem dX4_comesTold_99 : decode cX4_comesTold 99 = .ok (.iload_n 3, 1) := dk_29 (dk_at dksX4_comesTold_3 19 rfl rfl)
theorem dX4_comesTold_100 : decode cX4_comesTold 100 = .ok (.invokevirtual 179, 3) := dk_182 0 179 (dk_at dksX4_comesTold_3 20 rfl rfl)
theorem dX4_comesTold_103 : decode cX4_comesTold 103 = .ok (.ireturn, 1) := dk_172 (dk_at dksX4_comesTold_3 23 rfl rfl)
theorem dX4_comesTold_104 : decode cX4_comesTold 104 = .ok (.aload_n 0, 1) := dk_42 (dk_at dksX4_comesTold_4 0 rfl rfl)
theorem dX4_comesTold_105 : decode cX4_comesTold 105 = .ok (.iload_n 2, 1) := dk_28 (dk_at dksX4_comesTold_4 1 rfl rfl)
theorem dX4_comesTold_106 : decode cX4_comesTold 106 = .ok (.invokevirtual 183, 3) := dk_182 0 183 (dk_at dksX4_comesTold_4 2 rfl rfl)
theorem dX4_comesTold_109 : decode cX4_comesTold 109 = .ok (.iconst 1, 1) := dk_4 (dk_at dksX4_comesTold_4 5 rfl rfl)
theorem dX4_comesTold_110 : decode cX4_comesTold 110 = .ok (.ireturn, 1) := dk_172 (dk_at dksX4_comesTold_4 6 rfl rfl)
theorem dX4_comesTold_111 : decode cX4_comesTold 111 = .ok (.aload_n 0, 1) := dk_42 (dk_at dksX4_comesTold_4 7 rfl rfl)
theorem dX4_comesTold_112 : decode cX4_comesTold 112 = .ok (.iload_n 2, 1) := dk_28 (dk_at dksX4_comesTold_4 8 rfl rfl)
theorem dX4_comesTold_113 : decode cX4_comesTold 113 = .ok (.invokevirtual 99, 3) := dk_182 0 99 (dk_at dksX4_comesTold_4 9 rfl rfl)
theorem dX4_comesTold_116 : decode cX4_comesTold 116 = .ok (.ifCond .eq 20, 3) := dk_153 0 20 (dk_at dksX4_comesTold_4 12 rfl rfl)
theorem dX4_comesTold_119 : decode cX4_comesTold 119 = .ok (.aload_n 0, 1) := dk_42 (dk_at dksX4_comesTold_4 15 rfl rfl)
theorem dX4_comesTold_120 : decode cX4_comesTold 120 = .ok (.iload_n 3, 1) := dk_29 (dk_at dksX4_comesTold_4 16 rfl rfl)
theorem dX4_comesTold_121 : decode cX4_comesTold 121 = .ok (.invokevirtual 99, 3) := dk_182 0 99 (dk_at dksX4_comesTold_4 17 rfl rfl)
theorem dX4_comesTold_124 : decode cX4_comesTold 124 = .ok (.ifCond .eq 12, 3) := dk_153 0 12 (dk_at dksX4_comesTold_4 20 rfl rfl)
theorem dX4_comesTold_127 : decode cX4_comesTold 127 = .ok (.iload_n 2, 1) := dk_28 (dk_at dksX4_comesTold_4 23 rfl rfl)
theorem dX4_comesTold_128 : decode cX4_comesTold 128 = .ok (.iload_n 3, 1) := dk_29 (dk_at dksX4_comesTold_5 0 rfl rfl)
theorem dX4_comesTold_129 : decode cX4_comesTold 129 = .ok (.if_icmp .eq 7, 3) := dk_159 0 7 (dk_at dksX4_comesTold_5 1 rfl rfl)
theorem dX4_comesTold_132 : decode cX4_comesTold 132 = .ok (.iconst 1, 1) := dk_4 (dk_at dksX4_comesTold_5 4 rfl rfl)
theorem dX4_comesTold_133 : decode cX4_comesTold 133 = .ok (.goto 4, 3) := dk_167 0 4 (dk_at dksX4_comesTold_5 5 rfl rfl)
theorem dX4_comesTold_136 : decode cX4_comesTold 136 = .ok (.iconst 0, 1) := dk_3 (dk_at dksX4_comesTold_5 8 rfl rfl)
theorem dX4_comesTold_137 : decode cX4_comesTold 137 = .ok (.istore 4, 2) := dk_54 4 (dk_at dksX4_comesTold_5 9 rfl rfl)
theorem dX4_comesTold_139 : decode cX4_comesTold 139 = .ok (.iload 4, 2) := dk_21 4 (dk_at dksX4_comesTold_5 11 rfl rfl)
theorem dX4_comesTold_141 : decode cX4_comesTold 141 = .ok (.ifCond .eq 9, 3) := dk_153 0 9 (dk_at dksX4_comesTold_5 13 rfl rfl)
theorem dX4_comesTold_144 : decode cX4_comesTold 144 = .ok (.aload_n 0, 1) := dk_42 (dk_at dksX4_comesTold_5 16 rfl rfl)
theorem dX4_comesTold_145 : decode cX4_comesTold 145 = .ok (.iload_n 2, 1) := dk_28 (dk_at dksX4_comesTold_5 17 rfl rfl)
theorem dX4_comesTold_146 : decode cX4_comesTold 146 = .ok (.iload_n 3, 1) := dk_29 (dk_at dksX4_comesTold_5 18 rfl rfl)
theorem dX4_comesTold_147 : decode cX4_comesTold 147 = .ok (.invokevirtual 186, 3) := dk_182 0 186 (dk_at dksX4_comesTold_5 19 rfl rfl)
theorem dX4_comesTold_150 : decode cX4_comesTold 150 = .ok (.iload 4, 2) := dk_21 4 (dk_at dksX4_comesTold_5 22 rfl rfl)
theorem dX4_comesTold_152 : decode cX4_comesTold 152 = .ok (.ireturn, 1) := dk_172 (dk_at dksX4_comesTold_6 0 rfl rfl)
theorem dX4_comesTold_153 : decode cX4_comesTold 153 = .ok (.aload_n 0, 1) := dk_42 (dk_at dksX4_comesTold_6 1 rfl rfl)
theorem dX4_comesTold_154 : decode cX4_comesTold 154 = .ok (.iload_n 2, 1) := dk_28 (dk_at dksX4_comesTold_6 2 rfl rfl)
theorem dX4_comesTold_155 : decode cX4_comesTold 155 = .ok (.invokevirtual 99, 3) := dk_182 0 99 (dk_at dksX4_comesTold_6 3 rfl rfl)
theorem dX4_comesTold_158 : decode cX4_comesTold 158 = .ok (.ifCond .eq 13, 3) := dk_153 0 13 (dk_at dksX4_comesTold_6 6 rfl rfl)
theorem dX4_comesTold_161 : decode cX4_comesTold 161 = .ok (.iload_n 3, 1) := dk_29 (dk_at dksX4_comesTold_6 9 rfl rfl)
theorem dX4_comesTold_162 : decode cX4_comesTold 162 = .ok (.bipush 20, 2) := dk_16 20 (dk_at dksX4_comesTold_6 10 rfl rfl)
theorem dX4_comesTold_164 : decode cX4_comesTold 164 = .ok (.if_icmp .gt 7, 3) := dk_163 0 7 (dk_at dksX4_comesTold_6 12 rfl rfl)
theorem dX4_comesTold_167 : decode cX4_comesTold 167 = .ok (.iconst 1, 1) := dk_4 (dk_at dksX4_comesTold_6 15 rfl rfl)
theorem dX4_comesTold_168 : decode cX4_comesTold 168 = .ok (.goto 4, 3) := dk_167 0 4 (dk_at dksX4_comesTold_6 16 rfl rfl)
theorem dX4_comesTold_171 : decode cX4_comesTold 171 = .ok (.iconst 0, 1) := dk_3 (dk_at dksX4_comesTold_6 19 rfl rfl)
theorem dX4_comesTold_172 : decode cX4_comesTold 172 = .ok (.istore 4, 2) := dk_54 4 (dk_at dksX4_comesTold_6 20 rfl rfl)
theorem dX4_comesTold_174 : decode cX4_comesTold 174 = .ok (.iload 4, 2) := dk_21 4 (dk_at dksX4_comesTold_6 22 rfl rfl)
theorem dX4_comesTold_176 : decode cX4_comesTold 176 = .ok (.ifCond .eq 10, 3) := dk_153 0 10 (dk_at dksX4_comesTold_7 0 rfl rfl)
theorem dX4_comesTold_179 : decode cX4_comesTold 179 = .ok (.aload_n 0, 1) := dk_42 (dk_at dksX4_comesTold_7 3 rfl rfl)
theorem dX4_comesTold_180 : decode cX4_comesTold 180 = .ok (.getfield 16, 3) := dk_180 0 16 (dk_at dksX4_comesTold_7 4 rfl rfl)
theorem dX4_comesTold_183 : decode cX4_comesTold 183 = .ok (.iload_n 2, 1) := dk_28 (dk_at dksX4_comesTold_7 7 rfl rfl)
theorem dX4_comesTold_184 : decode cX4_comesTold 184 = .ok (.iload_n 3, 1) := dk_29 (dk_at dksX4_comesTold_7 8 rfl rfl)
theorem dX4_comesTold_185 : decode cX4_comesTold 185 = .ok (.iastore, 1) := dk_79 (dk_at dksX4_comesTold_7 9 rfl rfl)
theorem dX4_comesTold_186 : decode cX4_comesTold 186 = .ok (.iload 4, 2) := dk_21 4 (dk_at dksX4_comesTold_7 10 rfl rfl)
theorem dX4_comesTold_188 : decode cX4_comesTold 188 = .ok (.ireturn, 1) := dk_172 (dk_at dksX4_comesTold_7 12 rfl rfl)
theorem dX4_comesTold_189 : decode cX4_comesTold 189 = .ok (.aload_n 0, 1) := dk_42 (dk_at dksX4_comesTold_7 13 rfl rfl)
theorem dX4_comesTold_190 : decode cX4_comesTold 190 = .ok (.iload_n 2, 1) := dk_28 (dk_at dksX4_comesTold_7 14 rfl rfl)
theorem dX4_comesTold_191 : decode cX4_comesTold 191 = .ok (.invokevirtual 99, 3) := dk_182 0 99 (dk_at dksX4_comesTold_7 15 rfl rfl)
theorem dX4_comesTold_194 : decode cX4_comesTold 194 = .ok (.ifCond .eq 13, 3) := dk_153 0 13 (dk_at dksX4_comesTold_7 18 rfl rfl)
theorem dX4_comesTold_197 : decode cX4_comesTold 197 = .ok (.iload_n 3, 1) := dk_29 (dk_at dksX4_comesTold_7 21 rfl rfl)
theorem dX4_comesTold_198 : decode cX4_comesTold 198 = .ok (.bipush 7, 2) := dk_16 7 (dk_at dksX4_comesTold_7 22 rfl rfl)
theorem dX4_comesTold_200 : decode cX4_comesTold 200 = .ok (.if_icmp .gt 7, 3) := dk_163 0 7 (dk_at dksX4_comesTold_8 0 rfl rfl)
theorem dX4_comesTold_203 : decode cX4_comesTold 203 = .ok (.iconst 1, 1) := dk_4 (dk_at dksX4_comesTold_8 3 rfl rfl)
theorem dX4_comesTold_204 : decode cX4_comesTold 204 = .ok (.goto 4, 3) := dk_167 0 4 (dk_at dksX4_comesTold_8 4 rfl rfl)
theorem dX4_comesTold_207 : decode cX4_comesTold 207 = .ok (.iconst 0, 1) := dk_3 (dk_at dksX4_comesTold_8 7 rfl rfl)
theorem dX4_comesTold_208 : decode cX4_comesTold 208 = .ok (.istore 4, 2) := dk_54 4 (dk_at dksX4_comesTold_8 8 rfl rfl)
theorem dX4_comesTold_210 : decode cX4_comesTold 210 = .ok (.iload 4, 2) := dk_21 4 (dk_at dksX4_comesTold_8 10 rfl rfl)
theorem dX4_comesTold_212 : decode cX4_comesTold 212 = .ok (.ifCond .eq 10, 3) := dk_153 0 10 (dk_at dksX4_comesTold_8 12 rfl rfl)
theorem dX4_comesTold_215 : decode cX4_comesTold 215 = .ok (.aload_n 0, 1) := dk_42 (dk_at dksX4_comesTold_8 15 rfl rfl)
theorem dX4_comesTold_216 : decode cX4_comesTold 216 = .ok (.getfield 19, 3) := dk_180 0 19 (dk_at dksX4_comesTold_8 16 rfl rfl)
theorem dX4_comesTold_219 : decode cX4_comesTold 219 = .ok (.iload_n 2, 1) := dk_28 (dk_at dksX4_comesTold_8 19 rfl rfl)
theorem dX4_comesTold_220 : decode cX4_comesTold 220 = .ok (.iload_n 3, 1) := dk_29 (dk_at dksX4_comesTold_8 20 rfl rfl)
theorem dX4_comesTold_221 : decode cX4_comesTold 221 = .ok (.iastore, 1) := dk_79 (dk_at dksX4_comesTold_8 21 rfl rfl)
theorem dX4_comesTold_222 : decode cX4_comesTold 222 = .ok (.iload 4, 2) := dk_21 4 (dk_at dksX4_comesTold_8 22 rfl rfl)
theorem dX4_comesTold_224 : decode cX4_comesTold 224 = .ok (.ireturn, 1) := dk_172 (dk_at dksX4_comesTold_9 0 rfl rfl)
abbrev cX4_childComes : ByteArray := prog_21_method_29_code
def yX4_childComes : MethodName := ⟨RX4, "childComes", "(III)Z"⟩
def dkwX4_childComes_4 : List UInt8 := [181, 0, 81, 21, 4, 172]
abbrev dktX4_childComes_4 : List UInt8 := dkwX4_childComes_4 ++ []
def dkwX4_childComes_3 : List UInt8 := [180, 0, 81, 3, 79, 42, 180, 0, 22, 42, 180, 0, 81, 3, 79, 42, 89, 180, 0, 81, 4, 96]
abbrev dktX4_childComes_3 : List UInt8 := dkwX4_childComes_3 ++ dktX4_childComes_4
def dkwX4_childComes_2 : List UInt8 := [180, 0, 13, 42, 180, 0, 81, 28, 79, 42, 180, 0, 16, 42, 180, 0, 81, 29, 79, 42, 180, 0, 19, 42]
abbrev dktX4_childComes_2 : List UInt8 := dkwX4_childComes_2 ++ dktX4_childComes_3
def dkwX4_childComes_1 : List UInt8 := [167, 0, 4, 3, 54, 4, 21, 4, 153, 0, 63, 42, 180, 0, 7, 42, 180, 0, 81, 27, 79, 42]
abbrev dktX4_childComes_1 : List UInt8 := dkwX4_childComes_1 ++ dktX4_childComes_2
def dkwX4_childComes_0 : List UInt8 := [27, 16, 8, 162, 0, 22, 29, 16, 20, 163, 0, 16, 42, 180, 0, 81, 16, 6, 162, 0, 7, 4]
abbrev dktX4_childComes_0 : List UInt8 := dkwX4_childComes_0 ++ dktX4_childComes_1
theorem dksX4_childComes_0 : cX4_childComes.data.toList.drop 0 = dktX4_childComes_0 := by decide +kernel
theorem dksX4_childComes_1 : cX4_childComes.data.toList.drop 22 = dktX4_childComes_1 := dk_seg dksX4_childComes_0 22 rfl rfl
theorem dksX4_childComes_2 : cX4_childComes.data.toList.drop 44 = dktX4_childComes_2 := dk_seg dksX4_childComes_1 22 rfl rfl
theorem dksX4_childComes_3 : cX4_childComes.data.toList.drop 68 = dktX4_childComes_3 := dk_seg dksX4_childComes_2 24 rfl rfl
theorem dksX4_childComes_4 : cX4_childComes.data.toList.drop 90 = dktX4_childComes_4 := dk_seg dksX4_childComes_3 22 rfl rfl
theorem dX4_childComes_0 : decode cX4_childComes 0 = .ok (.iload_n 1, 1) := dk_27 (dk_at dksX4_childComes_0 0 rfl rfl)
theorem dX4_childComes_1 : decode cX4_childComes 1 = .ok (.bipush 8, 2) := dk_16 8 (dk_at dksX4_childComes_0 1 rfl rfl)
theorem dX4_childComes_3 : decode cX4_childComes 3 = .ok (.if_icmp .ge 22, 3) := dk_162 0 22 (dk_at dksX4_childComes_0 3 rfl rfl)
theorem dX4_childComes_6 : decode cX4_childComes 6 = .ok (.iload_n 3, 1) := dk_29 (dk_at dksX4_childComes_0 6 rfl rfl)
theorem dX4_childComes_7 : decode cX4_childComes 7 = .ok (.bipush 20, 2) := dk_16 20 (dk_at dksX4_childComes_0 7 rfl rfl)
theorem dX4_childComes_9 : decode cX4_childComes 9 = .ok (.if_icmp .gt 16, 3) := dk_163 0 16 (dk_at dksX4_childComes_0 9 rfl rfl)
theorem dX4_childComes_12 : decode cX4_childComes 12 = .ok (.aload_n 0, 1) := dk_42 (dk_at dksX4_childComes_0 12 rfl rfl)
theorem dX4_childComes_13 : decode cX4_childComes 13 = .ok (.getfield 81, 3) := dk_180 0 81 (dk_at dksX4_childComes_0 13 rfl rfl)
theorem dX4_childComes_16 : decode cX4_childComes 16 = .ok (.bipush 6, 2) := dk_16 6 (dk_at dksX4_childComes_0 16 rfl rfl)
theorem dX4_childComes_18 : decode cX4_childComes 18 = .ok (.if_icmp .ge 7, 3) := dk_162 0 7 (dk_at dksX4_childComes_0 18 rfl rfl)
theorem dX4_childComes_21 : decode cX4_childComes 21 = .ok (.iconst 1, 1) := dk_4 (dk_at dksX4_childComes_0 21 rfl rfl)
theorem dX4_childComes_22 : decode cX4_childComes 22 = .ok (.goto 4, 3) := dk_167 0 4 (dk_at dksX4_childComes_1 0 rfl rfl)
theorem dX4_childComes_25 : decode cX4_childComes 25 = .ok (.iconst 0, 1) := dk_3 (dk_at dksX4_childComes_1 3 rfl rfl)
theorem dX4_childComes_26 : decode cX4_childComes 26 = .ok (.istore 4, 2) := dk_54 4 (dk_at dksX4_childComes_1 4 rfl rfl)
theorem dX4_childComes_28 : decode cX4_childComes 28 = .ok (.iload 4, 2) := dk_21 4 (dk_at dksX4_childComes_1 6 rfl rfl)
theorem dX4_childComes_30 : decode cX4_childComes 30 = .ok (.ifCond .eq 63, 3) := dk_153 0 63 (dk_at dksX4_childComes_1 8 rfl rfl)
theorem dX4_childComes_33 : decode cX4_childComes 33 = .ok (.aload_n 0, 1) := dk_42 (dk_at dksX4_childComes_1 11 rfl rfl)
theorem dX4_childComes_34 : decode cX4_childComes 34 = .ok (.getfield 7, 3) := dk_180 0 7 (dk_at dksX4_childComes_1 12 rfl rfl)
theorem dX4_childComes_37 : decode cX4_childComes 37 = .ok (.aload_n 0, 1) := dk_42 (dk_at dksX4_childComes_1 15 rfl rfl)
theorem dX4_childComes_38 : decode cX4_childComes 38 = .ok (.getfield 81, 3) := dk_180 0 81 (dk_at dksX4_childComes_1 16 rfl rfl)
theorem dX4_childComes_41 : decode cX4_childComes 41 = .ok (.iload_n 1, 1) := dk_27 (dk_at dksX4_childComes_1 19 rfl rfl)
theorem dX4_childComes_42 : decode cX4_childComes 42 = .ok (.iastore, 1) := dk_79 (dk_at dksX4_childComes_1 20 rfl rfl)
theorem dX4_childComes_43 : decode cX4_childComes 43 = .ok (.aload_n 0, 1) := dk_42 (dk_at dksX4_childComes_1 21 rfl rfl)
theorem dX4_childComes_44 : decode cX4_childComes 44 = .ok (.getfield 13, 3) := dk_180 0 13 (dk_at dksX4_childComes_2 0 rfl rfl)
theorem dX4_childComes_47 : decode cX4_childComes 47 = .ok (.aload_n 0, 1) := dk_42 (dk_at dksX4_childComes_2 3 rfl rfl)
theorem dX4_childComes_48 : decode cX4_childComes 48 = .ok (.getfield 81, 3) := dk_180 0 81 (dk_at dksX4_childComes_2 4 rfl rfl)
theorem dX4_childComes_51 : decode cX4_childComes 51 = .ok (.iload_n 2, 1) := dk_28 (dk_at dksX4_childComes_2 7 rfl rfl)
theorem dX4_childComes_52 : decode cX4_childComes 52 = .ok (.iastore, 1) := dk_79 (dk_at dksX4_childComes_2 8 rfl rfl)
theorem dX4_childComes_53 : decode cX4_childComes 53 = .ok (.aload_n 0, 1) := dk_42 (dk_at dksX4_childComes_2 9 rfl rfl)
theorem dX4_childComes_54 : decode cX4_childComes 54 = .ok (.getfield 16, 3) := dk_180 0 16 (dk_at dksX4_childComes_2 10 rfl rfl)
theorem dX4_childComes_57 : decode cX4_childComes 57 = .ok (.aload_n 0, 1) := dk_42 (dk_at dksX4_childComes_2 13 rfl rfl)
theorem dX4_childComes_58 : decode cX4_childComes 58 = .ok (.getfield 81, 3) := dk_180 0 81 (dk_at dksX4_childComes_2 14 rfl rfl)
theorem dX4_childComes_61 : decode cX4_childComes 61 = .ok (.iload_n 3, 1) := dk_29 (dk_at dksX4_childComes_2 17 rfl rfl)
theorem dX4_childComes_62 : decode cX4_childComes 62 = .ok (.iastore, 1) := dk_79 (dk_at dksX4_childComes_2 18 rfl rfl)
theorem dX4_childComes_63 : decode cX4_childComes 63 = .ok (.aload_n 0, 1) := dk_42 (dk_at dksX4_childComes_2 19 rfl rfl)
theorem dX4_childComes_64 : decode cX4_childComes 64 = .ok (.getfield 19, 3) := dk_180 0 19 (dk_at dksX4_childComes_2 20 rfl rfl)
theorem dX4_childComes_67 : decode cX4_childComes 67 = .ok (.aload_n 0, 1) := dk_42 (dk_at dksX4_childComes_2 23 rfl rfl)
theorem dX4_childComes_68 : decode cX4_childComes 68 = .ok (.getfield 81, 3) := dk_180 0 81 (dk_at dksX4_childComes_3 0 rfl rfl)
theorem dX4_childComes_71 : decode cX4_childComes 71 = .ok (.iconst 0, 1) := dk_3 (dk_at dksX4_childComes_3 3 rfl rfl)
theorem dX4_childComes_72 : decode cX4_childComes 72 = .ok (.iastore, 1) := dk_79 (dk_at dksX4_childComes_3 4 rfl rfl)
theorem dX4_childComes_73 : decode cX4_childComes 73 = .ok (.aload_n 0, 1) := dk_42 (dk_at dksX4_childComes_3 5 rfl rfl)
theorem dX4_childComes_74 : decode cX4_childComes 74 = .ok (.getfield 22, 3) := dk_180 0 22 (dk_at dksX4_childComes_3 6 rfl rfl)
theorem dX4_childComes_77 : decode cX4_childComes 77 = .ok (.aload_n 0, 1) := dk_42 (dk_at dksX4_childComes_3 9 rfl rfl)
theorem dX4_childComes_78 : decode cX4_childComes 78 = .ok (.getfield 81, 3) := dk_180 0 81 (dk_at dksX4_childComes_3 10 rfl rfl)
theorem dX4_childComes_81 : decode cX4_childComes 81 = .ok (.iconst 0, 1) := dk_3 (dk_at dksX4_childComes_3 13 rfl rfl)
theorem dX4_childComes_82 : decode cX4_childComes 82 = .ok (.iastore, 1) := dk_79 (dk_at dksX4_childComes_3 14 rfl rfl)
theorem dX4_childComes_83 : decode cX4_childComes 83 = .ok (.aload_n 0, 1) := dk_42 (dk_at dksX4_childComes_3 15 rfl rfl)
theorem dX4_childComes_84 : decode cX4_childComes 84 = .ok (.dup, 1) := dk_89 (dk_at dksX4_childComes_3 16 rfl rfl)
theorem dX4_childComes_85 : decode cX4_childComes 85 = .ok (.getfield 81, 3) := dk_180 0 81 (dk_at dksX4_childComes_3 17 rfl rfl)
theorem dX4_childComes_88 : decode cX4_childComes 88 = .ok (.iconst 1, 1) := dk_4 (dk_at dksX4_childComes_3 20 rfl rfl)
theorem dX4_childComes_89 : decode cX4_childComes 89 = .ok (.iadd, 1) := dk_96 (dk_at dksX4_childComes_3 21 rfl rfl)
theorem dX4_childComes_90 : decode cX4_childComes 90 = .ok (.putfield 81, 3) := dk_181 0 81 (dk_at dksX4_childComes_4 0 rfl rfl)
theorem dX4_childComes_93 : decode cX4_childComes 93 = .ok (.iload 4, 2) := dk_21 4 (dk_at dksX4_childComes_4 3 rfl rfl)
theorem dX4_childComes_95 : decode cX4_childComes 95 = .ok (.ireturn, 1) := dk_172 (dk_at dksX4_childComes_4 5 rfl rfl)
abbrev cX4_minuteComes : ByteArray := prog_21_method_30_code
def yX4_minuteComes : MethodName := ⟨RX4, "minuteComes", "(II)Z"⟩
def dkwX4_minuteComes_2 : List UInt8 := [182, 0, 168, 29, 172]
abbrev dktX4_minuteComes_2 : List UInt8 := dkwX4_minuteComes_2 ++ []
def dkwX4_minuteComes_1 : List UInt8 := [42, 180, 0, 135, 17, 3, 231, 162, 0, 7, 4, 167, 0, 4, 3, 62, 29, 153, 0, 9, 42, 27, 28]
abbrev dktX4_minuteComes_1 : List UInt8 := dkwX4_minuteComes_1 ++ dktX4_minuteComes_2
def dkwX4_minuteComes_0 : List UInt8 := [42, 27, 182, 0, 99, 153, 0, 33, 28, 7, 162, 0, 28, 42, 180, 0, 19, 27, 46, 16, 7, 162, 0, 17]
abbrev dktX4_minuteComes_0 : List UInt8 := dkwX4_minuteComes_0 ++ dktX4_minuteComes_1
theorem dksX4_minuteComes_0 : cX4_minuteComes.data.toList.drop 0 = dktX4_minuteComes_0 := by decide +kernel
theorem dksX4_minuteComes_1 : cX4_minuteComes.data.toList.drop 24 = dktX4_minuteComes_1 := dk_seg dksX4_minuteComes_0 24 rfl rfl
theorem dksX4_minuteComes_2 : cX4_minuteComes.data.toList.drop 47 = dktX4_minuteComes_2 := dk_seg dksX4_minuteComes_1 23 rfl rfl
theorem dX4_minuteComes_0 : decode cX4_minuteComes 0 = .ok (.aload_n 0, 1) := dk_42 (dk_at dksX4_minuteComes_0 0 rfl rfl)
theorem dX4_minuteComes_1 : decode cX4_minuteComes 1 = .ok (.iload_n 1, 1) := dk_27 (dk_at dksX4_minuteComes_0 1 rfl rfl)
theorem dX4_minuteComes_2 : decode cX4_minuteComes 2 = .ok (.invokevirtual 99, 3) := dk_182 0 99 (dk_at dksX4_minuteComes_0 2 rfl rfl)
theorem dX4_minuteComes_5 : decode cX4_minuteComes 5 = .ok (.ifCond .eq 33, 3) := dk_153 0 33 (dk_at dksX4_minuteComes_0 5 rfl rfl)
theorem dX4_minuteComes_8 : decode cX4_minuteComes 8 = .ok (.iload_n 2, 1) := dk_28 (dk_at dksX4_minuteComes_0 8 rfl rfl)
theorem dX4_minuteComes_9 : decode cX4_minuteComes 9 = .ok (.iconst 4, 1) := dk_7 (dk_at dksX4_minuteComes_0 9 rfl rfl)
theorem dX4_minuteComes_10 : decode cX4_minuteComes 10 = .ok (.if_icmp .ge 28, 3) := dk_162 0 28 (dk_at dksX4_minuteComes_0 10 rfl rfl)
theorem dX4_minuteComes_13 : decode cX4_minuteComes 13 = .ok (.aload_n 0, 1) := dk_42 (dk_at dksX4_minuteComes_0 13 rfl rfl)
theorem dX4_minuteComes_14 : decode cX4_minuteComes 14 = .ok (.getfield 19, 3) := dk_180 0 19 (dk_at dksX4_minuteComes_0 14 rfl rfl)
theorem dX4_minuteComes_17 : decode cX4_minuteComes 17 = .ok (.iload_n 1, 1) := dk_27 (dk_at dksX4_minuteComes_0 17 rfl rfl)
theorem dX4_minuteComes_18 : decode cX4_minuteComes 18 = .ok (.iaload, 1) := dk_46 (dk_at dksX4_minuteComes_0 18 rfl rfl)
theorem dX4_minuteComes_19 : decode cX4_minuteComes 19 = .ok (.bipush 7, 2) := dk_16 7 (dk_at dksX4_minuteComes_0 19 rfl rfl)
theorem dX4_minuteComes_21 : decode cX4_minuteComes 21 = .ok (.if_icmp .ge 17, 3) := dk_162 0 17 (dk_at dksX4_minuteComes_0 21 rfl rfl)
theorem dX4_minuteComes_24 : decode cX4_minuteComes 24 = .ok (.aload_n 0, 1) := dk_42 (dk_at dksX4_minuteComes_1 0 rfl rfl)
theorem dX4_minuteComes_25 : decode cX4_minuteComes 25 = .ok (.getfield 135, 3) := dk_180 0 135 (dk_at dksX4_minuteComes_1 1 rfl rfl)
theorem dX4_minuteComes_28 : decode cX4_minuteComes 28 = .ok (.sipush 999, 3) := dk_17 3 231 (dk_at dksX4_minuteComes_1 4 rfl rfl)
theorem dX4_minuteComes_31 : decode cX4_minuteComes 31 = .ok (.if_icmp .ge 7, 3) := dk_162 0 7 (dk_at dksX4_minuteComes_1 7 rfl rfl)
theorem dX4_minuteComes_34 : decode cX4_minuteComes 34 = .ok (.iconst 1, 1) := dk_4 (dk_at dksX4_minuteComes_1 10 rfl rfl)
theorem dX4_minuteComes_35 : decode cX4_minuteComes 35 = .ok (.goto 4, 3) := dk_167 0 4 (dk_at dksX4_minuteComes_1 11 rfl rfl)
theorem dX4_minuteComes_38 : decode cX4_minuteComes 38 = .ok (.iconst 0, 1) := dk_3 (dk_at dksX4_minuteComes_1 14 rfl rfl)
theorem dX4_minuteComes_39 : decode cX4_minuteComes 39 = .ok (.istore_n 3, 1) := dk_62 (dk_at dksX4_minuteComes_1 15 rfl rfl)
theorem dX4_minuteComes_40 : decode cX4_minuteComes 40 = .ok (.iload_n 3, 1) := dk_29 (dk_at dksX4_minuteComes_1 16 rfl rfl)
theorem dX4_minuteComes_41 : decode cX4_minuteComes 41 = .ok (.ifCond .eq 9, 3) := dk_153 0 9 (dk_at dksX4_minuteComes_1 17 rfl rfl)
theorem dX4_minuteComes_44 : decode cX4_minuteComes 44 = .ok (.aload_n 0, 1) := dk_42 (dk_at dksX4_minuteComes_1 20 rfl rfl)
theorem dX4_minuteComes_45 : decode cX4_minuteComes 45 = .ok (.iload_n 1, 1) := dk_27 (dk_at dksX4_minuteComes_1 21 rfl rfl)
theorem dX4_minuteComes_46 : decode cX4_minuteComes 46 = .ok (.iload_n 2, 1) := dk_28 (dk_at dksX4_minuteComes_1 22 rfl rfl)
theorem dX4_minuteComes_47 : decode cX4_minuteComes 47 = .ok (.invokevirtual 168, 3) := dk_182 0 168 (dk_at dksX4_minuteComes_2 0 rfl rfl)
theorem dX4_minuteComes_50 : decode cX4_minuteComes 50 = .ok (.iload_n 3, 1) := dk_29 (dk_at dksX4_minuteComes_2 3 rfl rfl)
theorem dX4_minuteComes_51 : decode cX4_minuteComes 51 = .ok (.ireturn, 1) := dk_172 (dk_at dksX4_minuteComes_2 4 rfl rfl)
abbrev cX4_isChild : ByteArray := prog_21_method_7_code
def yX4_isChild : MethodName := ⟨RX4, "isChild", "(I)Z"⟩
def dkwX4_isChild_0 : List UInt8 := [27, 133, 9, 42, 180, 0, 81, 4, 100, 133, 184, 0, 84, 172]
abbrev dktX4_isChild_0 : List UInt8 := dkwX4_isChild_0 ++ []
theorem dksX4_isChild_0 : cX4_isChild.data.toList.drop 0 = dktX4_isChild_0 := by decide +kernel
theorem dX4_isChild_0 : decode cX4_isChild 0 = .ok (.iload_n 1, 1) := dk_27 (dk_at dksX4_isChild_0 0 rfl rfl)
theorem dX4_isChild_1 : decode cX4_isChild 1 = .ok (.i2l, 1) := dk_133 (dk_at dksX4_isChild_0 1 rfl rfl)
theorem dX4_isChild_2 : decode cX4_isChild 2 = .ok (.lconst 0, 1) := dk_9 (dk_at dksX4_isChild_0 2 rfl rfl)
theorem dX4_isChild_3 : decode cX4_isChild 3 = .ok (.aload_n 0, 1) := dk_42 (dk_at dksX4_isChild_0 3 rfl rfl)
theorem dX4_isChild_4 : decode cX4_isChild 4 = .ok (.getfield 81, 3) := dk_180 0 81 (dk_at dksX4_isChild_0 4 rfl rfl)
theorem dX4_isChild_7 : decode cX4_isChild 7 = .ok (.iconst 1, 1) := dk_4 (dk_at dksX4_isChild_0 7 rfl rfl)
theorem dX4_isChild_8 : decode cX4_isChild 8 = .ok (.isub, 1) := dk_100 (dk_at dksX4_isChild_0 8 rfl rfl)
theorem dX4_isChild_9 : decode cX4_isChild 9 = .ok (.i2l, 1) := dk_133 (dk_at dksX4_isChild_0 9 rfl rfl)
theorem dX4_isChild_10 : decode cX4_isChild 10 = .ok (.invokestatic 84, 3) := dk_184 0 84 (dk_at dksX4_isChild_0 10 rfl rfl)
theorem dX4_isChild_13 : decode cX4_isChild 13 = .ok (.ireturn, 1) := dk_172 (dk_at dksX4_isChild_0 13 rfl rfl)
abbrev cX4_goMinute : ByteArray := prog_21_method_20_code
def yX4_goMinute : MethodName := ⟨RX4, "goMinute", "(II)V"⟩
def dkwX4_goMinute_5 : List UInt8 := [182, 0, 129, 42, 27, 182, 0, 132, 42, 89, 180, 0, 135, 4, 96, 181, 0, 135, 177]
abbrev dktX4_goMinute_5 : List UInt8 := dkwX4_goMinute_5 ++ []
def dkwX4_goMinute_4 : List UInt8 := [161, 0, 7, 4, 167, 0, 4, 3, 96, 79, 167, 0, 16, 42, 27, 182, 0, 125, 167, 0, 8, 42, 27]
abbrev dktX4_goMinute_4 : List UInt8 := dkwX4_goMinute_4 ++ dktX4_goMinute_5
def dkwX4_goMinute_3 : List UInt8 := [182, 0, 112, 42, 180, 0, 19, 27, 92, 46, 42, 180, 0, 16, 27, 46, 42, 27, 182, 0, 95, 6, 96]
abbrev dktX4_goMinute_3 : List UInt8 := dkwX4_goMinute_3 ++ dktX4_goMinute_4
def dkwX4_goMinute_2 : List UInt8 := [42, 27, 42, 27, 182, 0, 122, 182, 0, 112, 167, 0, 63, 42, 27, 42, 27, 182, 0, 122, 5, 108, 4, 96]
abbrev dktX4_goMinute_2 : List UInt8 := dkwX4_goMinute_2 ++ dktX4_goMinute_3
def dkwX4_goMinute_1 : List UInt8 := [170, 0, 0, 0, 0, 0, 95, 0, 0, 0, 0, 0, 0, 0, 2, 0, 0, 0, 27, 0, 0, 0, 40, 0, 0, 0, 87]
abbrev dktX4_goMinute_1 : List UInt8 := dkwX4_goMinute_1 ++ dktX4_goMinute_2
def dkwX4_goMinute_0 : List UInt8 := [28]
abbrev dktX4_goMinute_0 : List UInt8 := dkwX4_goMinute_0 ++ dktX4_goMinute_1
theorem dksX4_goMinute_0 : cX4_goMinute.data.toList.drop 0 = dktX4_goMinute_0 := by decide +kernel
theorem dksX4_goMinute_1 : cX4_goMinute.data.toList.drop 1 = dktX4_goMinute_1 := dk_seg dksX4_goMinute_0 1 rfl rfl
theorem dksX4_goMinute_2 : cX4_goMinute.data.toList.drop 28 = dktX4_goMinute_2 := dk_seg dksX4_goMinute_1 27 rfl rfl
theorem dksX4_goMinute_3 : cX4_goMinute.data.toList.drop 52 = dktX4_goMinute_3 := dk_seg dksX4_goMinute_2 24 rfl rfl
theorem dksX4_goMinute_4 : cX4_goMinute.data.toList.drop 75 = dktX4_goMinute_4 := dk_seg dksX4_goMinute_3 23 rfl rfl
theorem dksX4_goMinute_5 : cX4_goMinute.data.toList.drop 98 = dktX4_goMinute_5 := dk_seg dksX4_goMinute_4 23 rfl rfl
theorem dX4_goMinute_0 : decode cX4_goMinute 0 = .ok (.iload_n 2, 1) := dk_28 (dk_at dksX4_goMinute_0 0 rfl rfl)
theorem dX4_goMinute_1 : decode cX4_goMinute 1 = .ok (.tableswitch 95 0 2 #[27, 40, 87], 27) := by decide +kernel
theorem dX4_goMinute_28 : decode cX4_goMinute 28 = .ok (.aload_n 0, 1) := dk_42 (dk_at dksX4_goMinute_2 0 rfl rfl)
theorem dX4_goMinute_29 : decode cX4_goMinute 29 = .ok (.iload_n 1, 1) := dk_27 (dk_at dksX4_goMinute_2 1 rfl rfl)
theorem dX4_goMinute_30 : decode cX4_goMinute 30 = .ok (.aload_n 0, 1) := dk_42 (dk_at dksX4_goMinute_2 2 rfl rfl)
theorem dX4_goMinute_31 : decode cX4_goMinute 31 = .ok (.iload_n 1, 1) := dk_27 (dk_at dksX4_goMinute_2 3 rfl rfl)
theorem dX4_goMinute_32 : decode cX4_goMinute 32 = .ok (.invokevirtual 122, 3) := dk_182 0 122 (dk_at dksX4_goMinute_2 4 rfl rfl)
theorem dX4_goMinute_35 : decode cX4_goMinute 35 = .ok (.invokevirtual 112, 3) := dk_182 0 112 (dk_at dksX4_goMinute_2 7 rfl rfl)
theorem dX4_goMinute_38 : decode cX4_goMinute 38 = .ok (.goto 63, 3) := dk_167 0 63 (dk_at dksX4_goMinute_2 10 rfl rfl)
theorem dX4_goMinute_41 : decode cX4_goMinute 41 = .ok (.aload_n 0, 1) := dk_42 (dk_at dksX4_goMinute_2 13 rfl rfl)
theorem dX4_goMinute_42 : decode cX4_goMinute 42 = .ok (.iload_n 1, 1) := dk_27 (dk_at dksX4_goMinute_2 14 rfl rfl)
theorem dX4_goMinute_43 : decode cX4_goMinute 43 = .ok (.aload_n 0, 1) := dk_42 (dk_at dksX4_goMinute_2 15 rfl rfl)
theorem dX4_goMinute_44 : decode cX4_goMinute 44 = .ok (.iload_n 1, 1) := dk_27 (dk_at dksX4_goMinute_2 16 rfl rfl)
theorem dX4_goMinute_45 : decode cX4_goMinute 45 = .ok (.invokevirtual 122, 3) := dk_182 0 122 (dk_at dksX4_goMinute_2 17 rfl rfl)
theorem dX4_goMinute_48 : decode cX4_goMinute 48 = .ok (.iconst 2, 1) := dk_5 (dk_at dksX4_goMinute_2 20 rfl rfl)
theorem dX4_goMinute_49 : decode cX4_goMinute 49 = .ok (.idiv, 1) := dk_108 (dk_at dksX4_goMinute_2 21 rfl rfl)
theorem dX4_goMinute_50 : decode cX4_goMinute 50 = .ok (.iconst 1, 1) := dk_4 (dk_at dksX4_goMinute_2 22 rfl rfl)
theorem dX4_goMinute_51 : decode cX4_goMinute 51 = .ok (.iadd, 1) := dk_96 (dk_at dksX4_goMinute_2 23 rfl rfl)
theorem dX4_goMinute_52 : decode cX4_goMinute 52 = .ok (.invokevirtual 112, 3) := dk_182 0 112 (dk_at dksX4_goMinute_3 0 rfl rfl)
theorem dX4_goMinute_55 : decode cX4_goMinute 55 = .ok (.aload_n 0, 1) := dk_42 (dk_at dksX4_goMinute_3 3 rfl rfl)
theorem dX4_goMinute_56 : decode cX4_goMinute 56 = .ok (.getfield 19, 3) := dk_180 0 19 (dk_at dksX4_goMinute_3 4 rfl rfl)
theorem dX4_goMinute_59 : decode cX4_goMinute 59 = .ok (.iload_n 1, 1) := dk_27 (dk_at dksX4_goMinute_3 7 rfl rfl)
theorem dX4_goMinute_60 : decode cX4_goMinute 60 = .ok (.dup2, 1) := dk_92 (dk_at dksX4_goMinute_3 8 rfl rfl)
theorem dX4_goMinute_61 : decode cX4_goMinute 61 = .ok (.iaload, 1) := dk_46 (dk_at dksX4_goMinute_3 9 rfl rfl)
theorem dX4_goMinute_62 : decode cX4_goMinute 62 = .ok (.aload_n 0, 1) := dk_42 (dk_at dksX4_goMinute_3 10 rfl rfl)
theorem dX4_goMinute_63 : decode cX4_goMinute 63 = .ok (.getfield 16, 3) := dk_180 0 16 (dk_at dksX4_goMinute_3 11 rfl rfl)
theorem dX4_goMinute_66 : decode cX4_goMinute 66 = .ok (.iload_n 1, 1) := dk_27 (dk_at dksX4_goMinute_3 14 rfl rfl)
theorem dX4_goMinute_67 : decode cX4_goMinute 67 = .ok (.iaload, 1) := dk_46 (dk_at dksX4_goMinute_3 15 rfl rfl)
theorem dX4_goMinute_68 : decode cX4_goMinute 68 = .ok (.aload_n 0, 1) := dk_42 (dk_at dksX4_goMinute_3 16 rfl rfl)
theorem dX4_goMinute_69 : decode cX4_goMinute 69 = .ok (.iload_n 1, 1) := dk_27 (dk_at dksX4_goMinute_3 17 rfl rfl)
theorem dX4_goMinute_70 : decode cX4_goMinute 70 = .ok (.invokevirtual 95, 3) := dk_182 0 95 (dk_at dksX4_goMinute_3 18 rfl rfl)
theorem dX4_goMinute_73 : decode cX4_goMinute 73 = .ok (.iconst 3, 1) := dk_6 (dk_at dksX4_goMinute_3 21 rfl rfl)
theorem dX4_goMinute_74 : decode cX4_goMinute 74 = .ok (.iadd, 1) := dk_96 (dk_at dksX4_goMinute_3 22 rfl rfl)
theorem dX4_goMinute_75 : decode cX4_goMinute 75 = .ok (.if_icmp .lt 7, 3) := dk_161 0 7 (dk_at dksX4_goMinute_4 0 rfl rfl)
theorem dX4_goMinute_78 : decode cX4_goMinute 78 = .ok (.iconst 1, 1) := dk_4 (dk_at dksX4_goMinute_4 3 rfl rfl)
theorem dX4_goMinute_79 : decode cX4_goMinute 79 = .ok (.goto 4, 3) := dk_167 0 4 (dk_at dksX4_goMinute_4 4 rfl rfl)
theorem dX4_goMinute_82 : decode cX4_goMinute 82 = .ok (.iconst 0, 1) := dk_3 (dk_at dksX4_goMinute_4 7 rfl rfl)
theorem dX4_goMinute_83 : decode cX4_goMinute 83 = .ok (.iadd, 1) := dk_96 (dk_at dksX4_goMinute_4 8 rfl rfl)
theorem dX4_goMinute_84 : decode cX4_goMinute 84 = .ok (.iastore, 1) := dk_79 (dk_at dksX4_goMinute_4 9 rfl rfl)
theorem dX4_goMinute_85 : decode cX4_goMinute 85 = .ok (.goto 16, 3) := dk_167 0 16 (dk_at dksX4_goMinute_4 10 rfl rfl)
theorem dX4_goMinute_88 : decode cX4_goMinute 88 = .ok (.aload_n 0, 1) := dk_42 (dk_at dksX4_goMinute_4 13 rfl rfl)
theorem dX4_goMinute_89 : decode cX4_goMinute 89 = .ok (.iload_n 1, 1) := dk_27 (dk_at dksX4_goMinute_4 14 rfl rfl)
theorem dX4_goMinute_90 : decode cX4_goMinute 90 = .ok (.invokevirtual 125, 3) := dk_182 0 125 (dk_at dksX4_goMinute_4 15 rfl rfl)
theorem dX4_goMinute_93 : decode cX4_goMinute 93 = .ok (.goto 8, 3) := dk_167 0 8 (dk_at dksX4_goMinute_4 18 rfl rfl)
theorem dX4_goMinute_96 : decode cX4_goMinute 96 = .ok (.aload_n 0, 1) := dk_42 (dk_at dksX4_goMinute_4 21 rfl rfl)
theorem dX4_goMinute_97 : decode cX4_goMinute 97 = .ok (.iload_n 1, 1) := dk_27 (dk_at dksX4_goMinute_4 22 rfl rfl)
theorem dX4_goMinute_98 : decode cX4_goMinute 98 = .ok (.invokevirtual 129, 3) := dk_182 0 129 (dk_at dksX4_goMinute_5 0 rfl rfl)
theorem dX4_goMinute_101 : decode cX4_goMinute 101 = .ok (.aload_n 0, 1) := dk_42 (dk_at dksX4_goMinute_5 3 rfl rfl)
theorem dX4_goMinute_102 : decode cX4_goMinute 102 = .ok (.iload_n 1, 1) := dk_27 (dk_at dksX4_goMinute_5 4 rfl rfl)
theorem dX4_goMinute_103 : decode cX4_goMinute 103 = .ok (.invokevirtual 132, 3) := dk_182 0 132 (dk_at dksX4_goMinute_5 5 rfl rfl)
theorem dX4_goMinute_106 : decode cX4_goMinute 106 = .ok (.aload_n 0, 1) := dk_42 (dk_at dksX4_goMinute_5 8 rfl rfl)
theorem dX4_goMinute_107 : decode cX4_goMinute 107 = .ok (.dup, 1) := dk_89 (dk_at dksX4_goMinute_5 9 rfl rfl)
theorem dX4_goMinute_108 : decode cX4_goMinute 108 = .ok (.getfield 135, 3) := dk_180 0 135 (dk_at dksX4_goMinute_5 10 rfl rfl)
theorem dX4_goMinute_111 : decode cX4_goMinute 111 = .ok (.iconst 1, 1) := dk_4 (dk_at dksX4_goMinute_5 13 rfl rfl)
theorem dX4_goMinute_112 : decode cX4_goMinute 112 = .ok (.iadd, 1) := dk_96 (dk_at dksX4_goMinute_5 14 rfl rfl)
theorem dX4_goMinute_113 : decode cX4_goMinute 113 = .ok (.putfield 135, 3) := dk_181 0 135 (dk_at dksX4_goMinute_5 15 rfl rfl)
theorem dX4_goMinute_116 : decode cX4_goMinute 116 = .ok (.return_, 1) := dk_177 (dk_at dksX4_goMinute_5 18 rfl rfl)
abbrev cX4_holdsOf : ByteArray := prog_21_method_9_code
def yX4_holdsOf : MethodName := ⟨RX4, "holdsOf", "(I)I"⟩
def dkwX4_holdsOf_0 : List UInt8 := [42, 180, 0, 7, 27, 46, 42, 180, 0, 13, 27, 46, 184, 0, 88, 172]
abbrev dktX4_holdsOf_0 : List UInt8 := dkwX4_holdsOf_0 ++ []
theorem dksX4_holdsOf_0 : cX4_holdsOf.data.toList.drop 0 = dktX4_holdsOf_0 := by decide +kernel
theorem dX4_holdsOf_0 : decode cX4_holdsOf 0 = .ok (.aload_n 0, 1) := dk_42 (dk_at dksX4_holdsOf_0 0 rfl rfl)
theorem dX4_holdsOf_1 : decode cX4_holdsOf 1 = .ok (.getfield 7, 3) := dk_180 0 7 (dk_at dksX4_holdsOf_0 1 rfl rfl)
theorem dX4_holdsOf_4 : decode cX4_holdsOf 4 = .ok (.iload_n 1, 1) := dk_27 (dk_at dksX4_holdsOf_0 4 rfl rfl)
theorem dX4_holdsOf_5 : decode cX4_holdsOf 5 = .ok (.iaload, 1) := dk_46 (dk_at dksX4_holdsOf_0 5 rfl rfl)
theorem dX4_holdsOf_6 : decode cX4_holdsOf 6 = .ok (.aload_n 0, 1) := dk_42 (dk_at dksX4_holdsOf_0 6 rfl rfl)
theorem dX4_holdsOf_7 : decode cX4_holdsOf 7 = .ok (.getfield 13, 3) := dk_180 0 13 (dk_at dksX4_holdsOf_0 7 rfl rfl)
theorem dX4_holdsOf_10 : decode cX4_holdsOf 10 = .ok (.iload_n 1, 1) := dk_27 (dk_at dksX4_holdsOf_0 10 rfl rfl)
theorem dX4_holdsOf_11 : decode cX4_holdsOf 11 = .ok (.iaload, 1) := dk_46 (dk_at dksX4_holdsOf_0 11 rfl rfl)
theorem dX4_holdsOf_12 : decode cX4_holdsOf 12 = .ok (.invokestatic 88, 3) := dk_184 0 88 (dk_at dksX4_holdsOf_0 12 rfl rfl)
theorem dX4_holdsOf_15 : decode cX4_holdsOf 15 = .ok (.ireturn, 1) := dk_172 (dk_at dksX4_holdsOf_0 15 rfl rfl)
abbrev cX4_holdsBy : ByteArray := prog_21_method_8_code
def yX4_holdsBy : MethodName := ⟨RX4, "holdsBy", "(II)I"⟩
def dkwX4_holdsBy_2 : List UInt8 := [5, 172, 6, 172, 6, 27, 6, 108, 96, 172, 4, 172]
abbrev dktX4_holdsBy_2 : List UInt8 := dkwX4_holdsBy_2 ++ []
def dkwX4_holdsBy_1 : List UInt8 := [170, 0, 0, 0, 0, 0, 53, 0, 0, 0, 0, 0, 0, 0, 6, 0, 0, 0, 43, 0, 0, 0, 53, 0, 0, 0, 45, 0, 0, 0, 45, 0, 0, 0, 53, 0, 0, 0, 53, 0, 0, 0, 47]
abbrev dktX4_holdsBy_1 : List UInt8 := dkwX4_holdsBy_1 ++ dktX4_holdsBy_2
def dkwX4_holdsBy_0 : List UInt8 := [26]
abbrev dktX4_holdsBy_0 : List UInt8 := dkwX4_holdsBy_0 ++ dktX4_holdsBy_1
theorem dksX4_holdsBy_0 : cX4_holdsBy.data.toList.drop 0 = dktX4_holdsBy_0 := by decide +kernel
theorem dksX4_holdsBy_1 : cX4_holdsBy.data.toList.drop 1 = dktX4_holdsBy_1 := dk_seg dksX4_holdsBy_0 1 rfl rfl
theorem dksX4_holdsBy_2 : cX4_holdsBy.data.toList.drop 44 = dktX4_holdsBy_2 := dk_seg dksX4_holdsBy_1 43 rfl rfl
theorem dX4_holdsBy_0 : decode cX4_holdsBy 0 = .ok (.iload_n 0, 1) := dk_26 (dk_at dksX4_holdsBy_0 0 rfl rfl)
theorem dX4_holdsBy_1 : decode cX4_holdsBy 1 = .ok (.tableswitch 53 0 6 #[43, 53, 45, 45, 53, 53, 47], 43) := by decide +kernel
theorem dX4_holdsBy_44 : decode cX4_holdsBy 44 = .ok (.iconst 2, 1) := dk_5 (dk_at dksX4_holdsBy_2 0 rfl rfl)
theorem dX4_holdsBy_45 : decode cX4_holdsBy 45 = .ok (.ireturn, 1) := dk_172 (dk_at dksX4_holdsBy_2 1 rfl rfl)
theorem dX4_holdsBy_46 : decode cX4_holdsBy 46 = .ok (.iconst 3, 1) := dk_6 (dk_at dksX4_holdsBy_2 2 rfl rfl)
theorem dX4_holdsBy_47 : decode cX4_holdsBy 47 = .ok (.ireturn, 1) := dk_172 (dk_at dksX4_holdsBy_2 3 rfl rfl)
theorem dX4_holdsBy_48 : decode cX4_holdsBy 48 = .ok (.iconst 3, 1) := dk_6 (dk_at dksX4_holdsBy_2 4 rfl rfl)
theorem dX4_holdsBy_49 : decode cX4_holdsBy 49 = .ok (.iload_n 1, 1) := dk_27 (dk_at dksX4_holdsBy_2 5 rfl rfl)
theorem dX4_holdsBy_50 : decode cX4_holdsBy 50 = .ok (.iconst 3, 1) := dk_6 (dk_at dksX4_holdsBy_2 6 rfl rfl)
theorem dX4_holdsBy_51 : decode cX4_holdsBy 51 = .ok (.idiv, 1) := dk_108 (dk_at dksX4_holdsBy_2 7 rfl rfl)
theorem dX4_holdsBy_52 : decode cX4_holdsBy 52 = .ok (.iadd, 1) := dk_96 (dk_at dksX4_holdsBy_2 8 rfl rfl)
theorem dX4_holdsBy_53 : decode cX4_holdsBy 53 = .ok (.ireturn, 1) := dk_172 (dk_at dksX4_holdsBy_2 9 rfl rfl)
theorem dX4_holdsBy_54 : decode cX4_holdsBy 54 = .ok (.iconst 1, 1) := dk_4 (dk_at dksX4_holdsBy_2 10 rfl rfl)
theorem dX4_holdsBy_55 : decode cX4_holdsBy 55 = .ok (.ireturn, 1) := dk_172 (dk_at dksX4_holdsBy_2 11 rfl rfl)
abbrev cX4_gains : ByteArray := prog_21_method_16_code
def yX4_gains : MethodName := ⟨RX4, "gains", "(II)V"⟩
def dkwX4_gains_1 : List UInt8 := [184, 0, 103, 79, 177]
abbrev dktX4_gains_1 : List UInt8 := dkwX4_gains_1 ++ []
def dkwX4_gains_0 : List UInt8 := [42, 27, 182, 0, 99, 153, 0, 22, 42, 180, 0, 16, 27, 42, 180, 0, 16, 27, 46, 28, 96, 16, 20]
abbrev dktX4_gains_0 : List UInt8 := dkwX4_gains_0 ++ dktX4_gains_1
theorem dksX4_gains_0 : cX4_gains.data.toList.drop 0 = dktX4_gains_0 := by decide +kernel
theorem dksX4_gains_1 : cX4_gains.data.toList.drop 23 = dktX4_gains_1 := dk_seg dksX4_gains_0 23 rfl rfl
theorem dX4_gains_0 : decode cX4_gains 0 = .ok (.aload_n 0, 1) := dk_42 (dk_at dksX4_gains_0 0 rfl rfl)
theorem dX4_gains_1 : decode cX4_gains 1 = .ok (.iload_n 1, 1) := dk_27 (dk_at dksX4_gains_0 1 rfl rfl)
theorem dX4_gains_2 : decode cX4_gains 2 = .ok (.invokevirtual 99, 3) := dk_182 0 99 (dk_at dksX4_gains_0 2 rfl rfl)
theorem dX4_gains_5 : decode cX4_gains 5 = .ok (.ifCond .eq 22, 3) := dk_153 0 22 (dk_at dksX4_gains_0 5 rfl rfl)
theorem dX4_gains_8 : decode cX4_gains 8 = .ok (.aload_n 0, 1) := dk_42 (dk_at dksX4_gains_0 8 rfl rfl)
theorem dX4_gains_9 : decode cX4_gains 9 = .ok (.getfield 16, 3) := dk_180 0 16 (dk_at dksX4_gains_0 9 rfl rfl)
theorem dX4_gains_12 : decode cX4_gains 12 = .ok (.iload_n 1, 1) := dk_27 (dk_at dksX4_gains_0 12 rfl rfl)
theorem dX4_gains_13 : decode cX4_gains 13 = .ok (.aload_n 0, 1) := dk_42 (dk_at dksX4_gains_0 13 rfl rfl)
theorem dX4_gains_14 : decode cX4_gains 14 = .ok (.getfield 16, 3) := dk_180 0 16 (dk_at dksX4_gains_0 14 rfl rfl)
theorem dX4_gains_17 : decode cX4_gains 17 = .ok (.iload_n 1, 1) := dk_27 (dk_at dksX4_gains_0 17 rfl rfl)
theorem dX4_gains_18 : decode cX4_gains 18 = .ok (.iaload, 1) := dk_46 (dk_at dksX4_gains_0 18 rfl rfl)
theorem dX4_gains_19 : decode cX4_gains 19 = .ok (.iload_n 2, 1) := dk_28 (dk_at dksX4_gains_0 19 rfl rfl)
theorem dX4_gains_20 : decode cX4_gains 20 = .ok (.iadd, 1) := dk_96 (dk_at dksX4_gains_0 20 rfl rfl)
theorem dX4_gains_21 : decode cX4_gains 21 = .ok (.bipush 20, 2) := dk_16 20 (dk_at dksX4_gains_0 21 rfl rfl)
theorem dX4_gains_23 : decode cX4_gains 23 = .ok (.invokestatic 103, 3) := dk_184 0 103 (dk_at dksX4_gains_1 0 rfl rfl)
theorem dX4_gains_26 : decode cX4_gains 26 = .ok (.iastore, 1) := dk_79 (dk_at dksX4_gains_1 3 rfl rfl)
theorem dX4_gains_27 : decode cX4_gains 27 = .ok (.return_, 1) := dk_177 (dk_at dksX4_gains_1 4 rfl rfl)
abbrev cX4_held : ByteArray := prog_21_method_6_code
def yX4_held : MethodName := ⟨RX4, "held", "(II)I"⟩
def dkwX4_held_0 : List UInt8 := [26, 156, 0, 7, 3, 167, 0, 13, 26, 27, 164, 0, 7, 27, 167, 0, 4, 26, 172]
abbrev dktX4_held_0 : List UInt8 := dkwX4_held_0 ++ []
theorem dksX4_held_0 : cX4_held.data.toList.drop 0 = dktX4_held_0 := by decide +kernel
theorem dX4_held_0 : decode cX4_held 0 = .ok (.iload_n 0, 1) := dk_26 (dk_at dksX4_held_0 0 rfl rfl)
theorem dX4_held_1 : decode cX4_held 1 = .ok (.ifCond .ge 7, 3) := dk_156 0 7 (dk_at dksX4_held_0 1 rfl rfl)
theorem dX4_held_4 : decode cX4_held 4 = .ok (.iconst 0, 1) := dk_3 (dk_at dksX4_held_0 4 rfl rfl)
theorem dX4_held_5 : decode cX4_held 5 = .ok (.goto 13, 3) := dk_167 0 13 (dk_at dksX4_held_0 5 rfl rfl)
theorem dX4_held_8 : decode cX4_held 8 = .ok (.iload_n 0, 1) := dk_26 (dk_at dksX4_held_0 8 rfl rfl)
theorem dX4_held_9 : decode cX4_held 9 = .ok (.iload_n 1, 1) := dk_27 (dk_at dksX4_held_0 9 rfl rfl)
theorem dX4_held_10 : decode cX4_held 10 = .ok (.if_icmp .le 7, 3) := dk_164 0 7 (dk_at dksX4_held_0 10 rfl rfl)
theorem dX4_held_13 : decode cX4_held 13 = .ok (.iload_n 1, 1) := dk_27 (dk_at dksX4_held_0 13 rfl rfl)
theorem dX4_held_14 : decode cX4_held 14 = .ok (.goto 4, 3) := dk_167 0 4 (dk_at dksX4_held_0 14 rfl rfl)
theorem dX4_held_17 : decode cX4_held 17 = .ok (.iload_n 0, 1) := dk_26 (dk_at dksX4_held_0 17 rfl rfl)
theorem dX4_held_18 : decode cX4_held 18 = .ok (.ireturn, 1) := dk_172 (dk_at dksX4_held_0 18 rfl rfl)
abbrev cX4_needsOf : ByteArray := prog_21_method_11_code
def yX4_needsOf : MethodName := ⟨RX4, "needsOf", "(I)I"⟩
def dkwX4_needsOf_0 : List UInt8 := [42, 27, 42, 180, 0, 19, 27, 46, 182, 0, 92, 172]
abbrev dktX4_needsOf_0 : List UInt8 := dkwX4_needsOf_0 ++ []
theorem dksX4_needsOf_0 : cX4_needsOf.data.toList.drop 0 = dktX4_needsOf_0 := by decide +kernel
theorem dX4_needsOf_0 : decode cX4_needsOf 0 = .ok (.aload_n 0, 1) := dk_42 (dk_at dksX4_needsOf_0 0 rfl rfl)
theorem dX4_needsOf_1 : decode cX4_needsOf 1 = .ok (.iload_n 1, 1) := dk_27 (dk_at dksX4_needsOf_0 1 rfl rfl)
theorem dX4_needsOf_2 : decode cX4_needsOf 2 = .ok (.aload_n 0, 1) := dk_42 (dk_at dksX4_needsOf_0 2 rfl rfl)
theorem dX4_needsOf_3 : decode cX4_needsOf 3 = .ok (.getfield 19, 3) := dk_180 0 19 (dk_at dksX4_needsOf_0 3 rfl rfl)
theorem dX4_needsOf_6 : decode cX4_needsOf 6 = .ok (.iload_n 1, 1) := dk_27 (dk_at dksX4_needsOf_0 6 rfl rfl)
theorem dX4_needsOf_7 : decode cX4_needsOf 7 = .ok (.iaload, 1) := dk_46 (dk_at dksX4_needsOf_0 7 rfl rfl)
theorem dX4_needsOf_8 : decode cX4_needsOf 8 = .ok (.invokevirtual 92, 3) := dk_182 0 92 (dk_at dksX4_needsOf_0 8 rfl rfl)
theorem dX4_needsOf_11 : decode cX4_needsOf 11 = .ok (.ireturn, 1) := dk_172 (dk_at dksX4_needsOf_0 11 rfl rfl)
abbrev cX4_needsAt : ByteArray := prog_21_method_10_code
def yX4_needsAt : MethodName := ⟨RX4, "needsAt", "(II)I"⟩
def dkwX4_needsAt_3 : List UInt8 := [28, 7, 96, 104, 4, 100, 172, 28, 5, 96, 5, 108, 172, 28, 5, 96, 172]
abbrev dktX4_needsAt_3 : List UInt8 := dkwX4_needsAt_3 ++ []
def dkwX4_needsAt_2 : List UInt8 := [28, 7, 96, 172, 5, 28, 7, 96, 104, 172, 28, 7, 96, 42, 180, 0, 13, 27, 46, 7, 108, 96, 172, 5]
abbrev dktX4_needsAt_2 : List UInt8 := dkwX4_needsAt_2 ++ dktX4_needsAt_3
def dkwX4_needsAt_1 : List UInt8 := [170, 0, 0, 0, 0, 83, 0, 0, 0, 0, 0, 0, 0, 7, 0, 0, 0, 46, 0, 0, 0, 83, 0, 0, 0, 50, 0, 0, 0, 56, 0, 0, 0, 83, 0, 0, 0, 83, 0, 0, 0, 69, 0, 0, 0, 77]
abbrev dktX4_needsAt_1 : List UInt8 := dkwX4_needsAt_1 ++ dktX4_needsAt_2
def dkwX4_needsAt_0 : List UInt8 := [42, 180, 0, 7, 27, 46]
abbrev dktX4_needsAt_0 : List UInt8 := dkwX4_needsAt_0 ++ dktX4_needsAt_1
theorem dksX4_needsAt_0 : cX4_needsAt.data.toList.drop 0 = dktX4_needsAt_0 := by decide +kernel
theorem dksX4_needsAt_1 : cX4_needsAt.data.toList.drop 6 = dktX4_needsAt_1 := dk_seg dksX4_needsAt_0 6 rfl rfl
theorem dksX4_needsAt_2 : cX4_needsAt.data.toList.drop 52 = dktX4_needsAt_2 := dk_seg dksX4_needsAt_1 46 rfl rfl
theorem dksX4_needsAt_3 : cX4_needsAt.data.toList.drop 76 = dktX4_needsAt_3 := dk_seg dksX4_needsAt_2 24 rfl rfl
theorem dX4_needsAt_0 : decode cX4_needsAt 0 = .ok (.aload_n 0, 1) := dk_42 (dk_at dksX4_needsAt_0 0 rfl rfl)
theorem dX4_needsAt_1 : decode cX4_needsAt 1 = .ok (.getfield 7, 3) := dk_180 0 7 (dk_at dksX4_needsAt_0 1 rfl rfl)
theorem dX4_needsAt_4 : decode cX4_needsAt 4 = .ok (.iload_n 1, 1) := dk_27 (dk_at dksX4_needsAt_0 4 rfl rfl)
theorem dX4_needsAt_5 : decode cX4_needsAt 5 = .ok (.iaload, 1) := dk_46 (dk_at dksX4_needsAt_0 5 rfl rfl)
theorem dX4_needsAt_6 : decode cX4_needsAt 6 = .ok (.tableswitch 83 0 7 #[46, 83, 50, 56, 83, 83, 69, 77], 46) := by decide +kernel
theorem dX4_needsAt_52 : decode cX4_needsAt 52 = .ok (.iload_n 2, 1) := dk_28 (dk_at dksX4_needsAt_2 0 rfl rfl)
theorem dX4_needsAt_53 : decode cX4_needsAt 53 = .ok (.iconst 4, 1) := dk_7 (dk_at dksX4_needsAt_2 1 rfl rfl)
theorem dX4_needsAt_54 : decode cX4_needsAt 54 = .ok (.iadd, 1) := dk_96 (dk_at dksX4_needsAt_2 2 rfl rfl)
theorem dX4_needsAt_55 : decode cX4_needsAt 55 = .ok (.ireturn, 1) := dk_172 (dk_at dksX4_needsAt_2 3 rfl rfl)
theorem dX4_needsAt_56 : decode cX4_needsAt 56 = .ok (.iconst 2, 1) := dk_5 (dk_at dksX4_needsAt_2 4 rfl rfl)
theorem dX4_needsAt_57 : decode cX4_needsAt 57 = .ok (.iload_n 2, 1) := dk_28 (dk_at dksX4_needsAt_2 5 rfl rfl)
theorem dX4_needsAt_58 : decode cX4_needsAt 58 = .ok (.iconst 4, 1) := dk_7 (dk_at dksX4_needsAt_2 6 rfl rfl)
theorem dX4_needsAt_59 : decode cX4_needsAt 59 = .ok (.iadd, 1) := dk_96 (dk_at dksX4_needsAt_2 7 rfl rfl)
theorem dX4_needsAt_60 : decode cX4_needsAt 60 = .ok (.imul, 1) := dk_104 (dk_at dksX4_needsAt_2 8 rfl rfl)
theorem dX4_needsAt_61 : decode cX4_needsAt 61 = .ok (.ireturn, 1) := dk_172 (dk_at dksX4_needsAt_2 9 rfl rfl)
theorem dX4_needsAt_62 : decode cX4_needsAt 62 = .ok (.iload_n 2, 1) := dk_28 (dk_at dksX4_needsAt_2 10 rfl rfl)
theorem dX4_needsAt_63 : decode cX4_needsAt 63 = .ok (.iconst 4, 1) := dk_7 (dk_at dksX4_needsAt_2 11 rfl rfl)
theorem dX4_needsAt_64 : decode cX4_needsAt 64 = .ok (.iadd, 1) := dk_96 (dk_at dksX4_needsAt_2 12 rfl rfl)
theorem dX4_needsAt_65 : decode cX4_needsAt 65 = .ok (.aload_n 0, 1) := dk_42 (dk_at dksX4_needsAt_2 13 rfl rfl)
theorem dX4_needsAt_66 : decode cX4_needsAt 66 = .ok (.getfield 13, 3) := dk_180 0 13 (dk_at dksX4_needsAt_2 14 rfl rfl)
theorem dX4_needsAt_69 : decode cX4_needsAt 69 = .ok (.iload_n 1, 1) := dk_27 (dk_at dksX4_needsAt_2 17 rfl rfl)
theorem dX4_needsAt_70 : decode cX4_needsAt 70 = .ok (.iaload, 1) := dk_46 (dk_at dksX4_needsAt_2 18 rfl rfl)
theorem dX4_needsAt_71 : decode cX4_needsAt 71 = .ok (.iconst 4, 1) := dk_7 (dk_at dksX4_needsAt_2 19 rfl rfl)
theorem dX4_needsAt_72 : decode cX4_needsAt 72 = .ok (.idiv, 1) := dk_108 (dk_at dksX4_needsAt_2 20 rfl rfl)
theorem dX4_needsAt_73 : decode cX4_needsAt 73 = .ok (.iadd, 1) := dk_96 (dk_at dksX4_needsAt_2 21 rfl rfl)
theorem dX4_needsAt_74 : decode cX4_needsAt 74 = .ok (.ireturn, 1) := dk_172 (dk_at dksX4_needsAt_2 22 rfl rfl)
theorem dX4_needsAt_75 : decode cX4_needsAt 75 = .ok (.iconst 2, 1) := dk_5 (dk_at dksX4_needsAt_2 23 rfl rfl)
theorem dX4_needsAt_76 : decode cX4_needsAt 76 = .ok (.iload_n 2, 1) := dk_28 (dk_at dksX4_needsAt_3 0 rfl rfl)
theorem dX4_needsAt_77 : decode cX4_needsAt 77 = .ok (.iconst 4, 1) := dk_7 (dk_at dksX4_needsAt_3 1 rfl rfl)
theorem dX4_needsAt_78 : decode cX4_needsAt 78 = .ok (.iadd, 1) := dk_96 (dk_at dksX4_needsAt_3 2 rfl rfl)
theorem dX4_needsAt_79 : decode cX4_needsAt 79 = .ok (.imul, 1) := dk_104 (dk_at dksX4_needsAt_3 3 rfl rfl)
theorem dX4_needsAt_80 : decode cX4_needsAt 80 = .ok (.iconst 1, 1) := dk_4 (dk_at dksX4_needsAt_3 4 rfl rfl)
theorem dX4_needsAt_81 : decode cX4_needsAt 81 = .ok (.isub, 1) := dk_100 (dk_at dksX4_needsAt_3 5 rfl rfl)
theorem dX4_needsAt_82 : decode cX4_needsAt 82 = .ok (.ireturn, 1) := dk_172 (dk_at dksX4_needsAt_3 6 rfl rfl)
theorem dX4_needsAt_83 : decode cX4_needsAt 83 = .ok (.iload_n 2, 1) := dk_28 (dk_at dksX4_needsAt_3 7 rfl rfl)
theorem dX4_needsAt_84 : decode cX4_needsAt 84 = .ok (.iconst 2, 1) := dk_5 (dk_at dksX4_needsAt_3 8 rfl rfl)
theorem dX4_needsAt_85 : decode cX4_needsAt 85 = .ok (.iadd, 1) := dk_96 (dk_at dksX4_needsAt_3 9 rfl rfl)
theorem dX4_needsAt_86 : decode cX4_needsAt 86 = .ok (.iconst 2, 1) := dk_5 (dk_at dksX4_needsAt_3 10 rfl rfl)
theorem dX4_needsAt_87 : decode cX4_needsAt 87 = .ok (.idiv, 1) := dk_108 (dk_at dksX4_needsAt_3 11 rfl rfl)
theorem dX4_needsAt_88 : decode cX4_needsAt 88 = .ok (.ireturn, 1) := dk_172 (dk_at dksX4_needsAt_3 12 rfl rfl)
theorem dX4_needsAt_89 : decode cX4_needsAt 89 = .ok (.iload_n 2, 1) := dk_28 (dk_at dksX4_needsAt_3 13 rfl rfl)
theorem dX4_needsAt_90 : decode cX4_needsAt 90 = .ok (.iconst 2, 1) := dk_5 (dk_at dksX4_needsAt_3 14 rfl rfl)
theorem dX4_needsAt_91 : decode cX4_needsAt 91 = .ok (.iadd, 1) := dk_96 (dk_at dksX4_needsAt_3 15 rfl rfl)
theorem dX4_needsAt_92 : decode cX4_needsAt 92 = .ok (.ireturn, 1) := dk_172 (dk_at dksX4_needsAt_3 16 rfl rfl)
abbrev cX4_letGo : ByteArray := prog_21_method_17_code
def yX4_letGo : MethodName := ⟨RX4, "letGo", "(I)V"⟩
def dkwX4_letGo_3 : List UInt8 := [182, 0, 112, 177]
abbrev dktX4_letGo_3 : List UInt8 := dkwX4_letGo_3 ++ []
def dkwX4_letGo_2 : List UInt8 := [182, 0, 116, 116, 182, 0, 112, 42, 27, 4, 100, 28, 116, 182, 0, 112, 42, 27, 4, 96, 28, 116]
abbrev dktX4_letGo_2 : List UInt8 := dkwX4_letGo_2 ++ dktX4_letGo_3
def dkwX4_letGo_1 : List UInt8 := [42, 27, 4, 100, 28, 182, 0, 112, 42, 27, 4, 96, 28, 182, 0, 112, 167, 0, 32, 42, 27, 42, 27]
abbrev dktX4_letGo_1 : List UInt8 := dkwX4_letGo_1 ++ dktX4_letGo_2
def dkwX4_letGo_0 : List UInt8 := [42, 27, 182, 0, 106, 61, 42, 27, 182, 0, 109, 153, 0, 32, 42, 180, 0, 19, 27, 92, 46, 4, 96, 79]
abbrev dktX4_letGo_0 : List UInt8 := dkwX4_letGo_0 ++ dktX4_letGo_1
theorem dksX4_letGo_0 : cX4_letGo.data.toList.drop 0 = dktX4_letGo_0 := by decide +kernel
theorem dksX4_letGo_1 : cX4_letGo.data.toList.drop 24 = dktX4_letGo_1 := dk_seg dksX4_letGo_0 24 rfl rfl
theorem dksX4_letGo_2 : cX4_letGo.data.toList.drop 47 = dktX4_letGo_2 := dk_seg dksX4_letGo_1 23 rfl rfl
theorem dksX4_letGo_3 : cX4_letGo.data.toList.drop 69 = dktX4_letGo_3 := dk_seg dksX4_letGo_2 22 rfl rfl
theorem dX4_letGo_0 : decode cX4_letGo 0 = .ok (.aload_n 0, 1) := dk_42 (dk_at dksX4_letGo_0 0 rfl rfl)
theorem dX4_letGo_1 : decode cX4_letGo 1 = .ok (.iload_n 1, 1) := dk_27 (dk_at dksX4_letGo_0 1 rfl rfl)
theorem dX4_letGo_2 : decode cX4_letGo 2 = .ok (.invokevirtual 106, 3) := dk_182 0 106 (dk_at dksX4_letGo_0 2 rfl rfl)
theorem dX4_letGo_5 : decode cX4_letGo 5 = .ok (.istore_n 2, 1) := dk_61 (dk_at dksX4_letGo_0 5 rfl rfl)
theorem dX4_letGo_6 : decode cX4_letGo 6 = .ok (.aload_n 0, 1) := dk_42 (dk_at dksX4_letGo_0 6 rfl rfl)
theorem dX4_letGo_7 : decode cX4_letGo 7 = .ok (.iload_n 1, 1) := dk_27 (dk_at dksX4_letGo_0 7 rfl rfl)
theorem dX4_letGo_8 : decode cX4_letGo 8 = .ok (.invokevirtual 109, 3) := dk_182 0 109 (dk_at dksX4_letGo_0 8 rfl rfl)
theorem dX4_letGo_11 : decode cX4_letGo 11 = .ok (.ifCond .eq 32, 3) := dk_153 0 32 (dk_at dksX4_letGo_0 11 rfl rfl)
theorem dX4_letGo_14 : decode cX4_letGo 14 = .ok (.aload_n 0, 1) := dk_42 (dk_at dksX4_letGo_0 14 rfl rfl)
theorem dX4_letGo_15 : decode cX4_letGo 15 = .ok (.getfield 19, 3) := dk_180 0 19 (dk_at dksX4_letGo_0 15 rfl rfl)
theorem dX4_letGo_18 : decode cX4_letGo 18 = .ok (.iload_n 1, 1) := dk_27 (dk_at dksX4_letGo_0 18 rfl rfl)
theorem dX4_letGo_19 : decode cX4_letGo 19 = .ok (.dup2, 1) := dk_92 (dk_at dksX4_letGo_0 19 rfl rfl)
theorem dX4_letGo_20 : decode cX4_letGo 20 = .ok (.iaload, 1) := dk_46 (dk_at dksX4_letGo_0 20 rfl rfl)
theorem dX4_letGo_21 : decode cX4_letGo 21 = .ok (.iconst 1, 1) := dk_4 (dk_at dksX4_letGo_0 21 rfl rfl)
theorem dX4_letGo_22 : decode cX4_letGo 22 = .ok (.iadd, 1) := dk_96 (dk_at dksX4_letGo_0 22 rfl rfl)
theorem dX4_letGo_23 : decode cX4_letGo 23 = .ok (.iastore, 1) := dk_79 (dk_at dksX4_letGo_0 23 rfl rfl)
theorem dX4_letGo_24 : decode cX4_letGo 24 = .ok (.aload_n 0, 1) := dk_42 (dk_at dksX4_letGo_1 0 rfl rfl)
theorem dX4_letGo_25 : decode cX4_letGo 25 = .ok (.iload_n 1, 1) := dk_27 (dk_at dksX4_letGo_1 1 rfl rfl)
theorem dX4_letGo_26 : decode cX4_letGo 26 = .ok (.iconst 1, 1) := dk_4 (dk_at dksX4_letGo_1 2 rfl rfl)
theorem dX4_letGo_27 : decode cX4_letGo 27 = .ok (.isub, 1) := dk_100 (dk_at dksX4_letGo_1 3 rfl rfl)
theorem dX4_letGo_28 : decode cX4_letGo 28 = .ok (.iload_n 2, 1) := dk_28 (dk_at dksX4_letGo_1 4 rfl rfl)
theorem dX4_letGo_29 : decode cX4_letGo 29 = .ok (.invokevirtual 112, 3) := dk_182 0 112 (dk_at dksX4_letGo_1 5 rfl rfl)
theorem dX4_letGo_32 : decode cX4_letGo 32 = .ok (.aload_n 0, 1) := dk_42 (dk_at dksX4_letGo_1 8 rfl rfl)
theorem dX4_letGo_33 : decode cX4_letGo 33 = .ok (.iload_n 1, 1) := dk_27 (dk_at dksX4_letGo_1 9 rfl rfl)
theorem dX4_letGo_34 : decode cX4_letGo 34 = .ok (.iconst 1, 1) := dk_4 (dk_at dksX4_letGo_1 10 rfl rfl)
theorem dX4_letGo_35 : decode cX4_letGo 35 = .ok (.iadd, 1) := dk_96 (dk_at dksX4_letGo_1 11 rfl rfl)
theorem dX4_letGo_36 : decode cX4_letGo 36 = .ok (.iload_n 2, 1) := dk_28 (dk_at dksX4_letGo_1 12 rfl rfl)
theorem dX4_letGo_37 : decode cX4_letGo 37 = .ok (.invokevirtual 112, 3) := dk_182 0 112 (dk_at dksX4_letGo_1 13 rfl rfl)
theorem dX4_letGo_40 : decode cX4_letGo 40 = .ok (.goto 32, 3) := dk_167 0 32 (dk_at dksX4_letGo_1 16 rfl rfl)
theorem dX4_letGo_43 : decode cX4_letGo 43 = .ok (.aload_n 0, 1) := dk_42 (dk_at dksX4_letGo_1 19 rfl rfl)
theorem dX4_letGo_44 : decode cX4_letGo 44 = .ok (.iload_n 1, 1) := dk_27 (dk_at dksX4_letGo_1 20 rfl rfl)
theorem dX4_letGo_45 : decode cX4_letGo 45 = .ok (.aload_n 0, 1) := dk_42 (dk_at dksX4_letGo_1 21 rfl rfl)
theorem dX4_letGo_46 : decode cX4_letGo 46 = .ok (.iload_n 1, 1) := dk_27 (dk_at dksX4_letGo_1 22 rfl rfl)
theorem dX4_letGo_47 : decode cX4_letGo 47 = .ok (.invokevirtual 116, 3) := dk_182 0 116 (dk_at dksX4_letGo_2 0 rfl rfl)
theorem dX4_letGo_50 : decode cX4_letGo 50 = .ok (.ineg, 1) := dk_116 (dk_at dksX4_letGo_2 3 rfl rfl)
theorem dX4_letGo_51 : decode cX4_letGo 51 = .ok (.invokevirtual 112, 3) := dk_182 0 112 (dk_at dksX4_letGo_2 4 rfl rfl)
theorem dX4_letGo_54 : decode cX4_letGo 54 = .ok (.aload_n 0, 1) := dk_42 (dk_at dksX4_letGo_2 7 rfl rfl)
theorem dX4_letGo_55 : decode cX4_letGo 55 = .ok (.iload_n 1, 1) := dk_27 (dk_at dksX4_letGo_2 8 rfl rfl)
theorem dX4_letGo_56 : decode cX4_letGo 56 = .ok (.iconst 1, 1) := dk_4 (dk_at dksX4_letGo_2 9 rfl rfl)
theorem dX4_letGo_57 : decode cX4_letGo 57 = .ok (.isub, 1) := dk_100 (dk_at dksX4_letGo_2 10 rfl rfl)
theorem dX4_letGo_58 : decode cX4_letGo 58 = .ok (.iload_n 2, 1) := dk_28 (dk_at dksX4_letGo_2 11 rfl rfl)
theorem dX4_letGo_59 : decode cX4_letGo 59 = .ok (.ineg, 1) := dk_116 (dk_at dksX4_letGo_2 12 rfl rfl)
theorem dX4_letGo_60 : decode cX4_letGo 60 = .ok (.invokevirtual 112, 3) := dk_182 0 112 (dk_at dksX4_letGo_2 13 rfl rfl)
theorem dX4_letGo_63 : decode cX4_letGo 63 = .ok (.aload_n 0, 1) := dk_42 (dk_at dksX4_letGo_2 16 rfl rfl)
theorem dX4_letGo_64 : decode cX4_letGo 64 = .ok (.iload_n 1, 1) := dk_27 (dk_at dksX4_letGo_2 17 rfl rfl)
theorem dX4_letGo_65 : decode cX4_letGo 65 = .ok (.iconst 1, 1) := dk_4 (dk_at dksX4_letGo_2 18 rfl rfl)
theorem dX4_letGo_66 : decode cX4_letGo 66 = .ok (.iadd, 1) := dk_96 (dk_at dksX4_letGo_2 19 rfl rfl)
theorem dX4_letGo_67 : decode cX4_letGo 67 = .ok (.iload_n 2, 1) := dk_28 (dk_at dksX4_letGo_2 20 rfl rfl)
theorem dX4_letGo_68 : decode cX4_letGo 68 = .ok (.ineg, 1) := dk_116 (dk_at dksX4_letGo_2 21 rfl rfl)
theorem dX4_letGo_69 : decode cX4_letGo 69 = .ok (.invokevirtual 112, 3) := dk_182 0 112 (dk_at dksX4_letGo_3 0 rfl rfl)
theorem dX4_letGo_72 : decode cX4_letGo 72 = .ok (.return_, 1) := dk_177 (dk_at dksX4_letGo_3 3 rfl rfl)
abbrev cX4_passesOf : ByteArray := prog_21_method_14_code
def yX4_passesOf : MethodName := ⟨RX4, "passesOf", "(I)I"⟩
def dkwX4_passesOf_2 : List UInt8 := [3, 172, 5, 172, 6, 172, 4, 172]
abbrev dktX4_passesOf_2 : List UInt8 := dkwX4_passesOf_2 ++ []
def dkwX4_passesOf_1 : List UInt8 := [170, 0, 0, 0, 0, 40, 0, 0, 0, 2, 0, 0, 0, 6, 0, 0, 0, 34, 0, 0, 0, 40, 0, 0, 0, 36, 0, 0, 0, 38, 0, 0, 0, 34]
abbrev dktX4_passesOf_1 : List UInt8 := dkwX4_passesOf_1 ++ dktX4_passesOf_2
def dkwX4_passesOf_0 : List UInt8 := [42, 180, 0, 7, 27, 46]
abbrev dktX4_passesOf_0 : List UInt8 := dkwX4_passesOf_0 ++ dktX4_passesOf_1
theorem dksX4_passesOf_0 : cX4_passesOf.data.toList.drop 0 = dktX4_passesOf_0 := by decide +kernel
theorem dksX4_passesOf_1 : cX4_passesOf.data.toList.drop 6 = dktX4_passesOf_1 := dk_seg dksX4_passesOf_0 6 rfl rfl
theorem dksX4_passesOf_2 : cX4_passesOf.data.toList.drop 40 = dktX4_passesOf_2 := dk_seg dksX4_passesOf_1 34 rfl rfl
theorem dX4_passesOf_0 : decode cX4_passesOf 0 = .ok (.aload_n 0, 1) := dk_42 (dk_at dksX4_passesOf_0 0 rfl rfl)
theorem dX4_passesOf_1 : decode cX4_passesOf 1 = .ok (.getfield 7, 3) := dk_180 0 7 (dk_at dksX4_passesOf_0 1 rfl rfl)
theorem dX4_passesOf_4 : decode cX4_passesOf 4 = .ok (.iload_n 1, 1) := dk_27 (dk_at dksX4_passesOf_0 4 rfl rfl)
theorem dX4_passesOf_5 : decode cX4_passesOf 5 = .ok (.iaload, 1) := dk_46 (dk_at dksX4_passesOf_0 5 rfl rfl)
theorem dX4_passesOf_6 : decode cX4_passesOf 6 = .ok (.tableswitch 40 2 6 #[34, 40, 36, 38, 34], 34) := by decide +kernel
theorem dX4_passesOf_40 : decode cX4_passesOf 40 = .ok (.iconst 0, 1) := dk_3 (dk_at dksX4_passesOf_2 0 rfl rfl)
theorem dX4_passesOf_41 : decode cX4_passesOf 41 = .ok (.ireturn, 1) := dk_172 (dk_at dksX4_passesOf_2 1 rfl rfl)
theorem dX4_passesOf_42 : decode cX4_passesOf 42 = .ok (.iconst 2, 1) := dk_5 (dk_at dksX4_passesOf_2 2 rfl rfl)
theorem dX4_passesOf_43 : decode cX4_passesOf 43 = .ok (.ireturn, 1) := dk_172 (dk_at dksX4_passesOf_2 3 rfl rfl)
theorem dX4_passesOf_44 : decode cX4_passesOf 44 = .ok (.iconst 3, 1) := dk_6 (dk_at dksX4_passesOf_2 4 rfl rfl)
theorem dX4_passesOf_45 : decode cX4_passesOf 45 = .ok (.ireturn, 1) := dk_172 (dk_at dksX4_passesOf_2 5 rfl rfl)
theorem dX4_passesOf_46 : decode cX4_passesOf 46 = .ok (.iconst 1, 1) := dk_4 (dk_at dksX4_passesOf_2 6 rfl rfl)
theorem dX4_passesOf_47 : decode cX4_passesOf 47 = .ok (.ireturn, 1) := dk_172 (dk_at dksX4_passesOf_2 7 rfl rfl)
abbrev cX4_isReady : ByteArray := prog_21_method_15_code
def yX4_isReady : MethodName := ⟨RX4, "isReady", "(I)Z"⟩
def dkwX4_isReady_1 : List UInt8 := [161, 0, 7, 4, 167, 0, 4, 3, 172]
abbrev dktX4_isReady_1 : List UInt8 := dkwX4_isReady_1 ++ []
def dkwX4_isReady_0 : List UInt8 := [42, 180, 0, 19, 27, 46, 16, 7, 162, 0, 21, 42, 180, 0, 16, 27, 46, 42, 27, 182, 0, 95]
abbrev dktX4_isReady_0 : List UInt8 := dkwX4_isReady_0 ++ dktX4_isReady_1
theorem dksX4_isReady_0 : cX4_isReady.data.toList.drop 0 = dktX4_isReady_0 := by decide +kernel
theorem dksX4_isReady_1 : cX4_isReady.data.toList.drop 22 = dktX4_isReady_1 := dk_seg dksX4_isReady_0 22 rfl rfl
theorem dX4_isReady_0 : decode cX4_isReady 0 = .ok (.aload_n 0, 1) := dk_42 (dk_at dksX4_isReady_0 0 rfl rfl)
theorem dX4_isReady_1 : decode cX4_isReady 1 = .ok (.getfield 19, 3) := dk_180 0 19 (dk_at dksX4_isReady_0 1 rfl rfl)
theorem dX4_isReady_4 : decode cX4_isReady 4 = .ok (.iload_n 1, 1) := dk_27 (dk_at dksX4_isReady_0 4 rfl rfl)
theorem dX4_isReady_5 : decode cX4_isReady 5 = .ok (.iaload, 1) := dk_46 (dk_at dksX4_isReady_0 5 rfl rfl)
theorem dX4_isReady_6 : decode cX4_isReady 6 = .ok (.bipush 7, 2) := dk_16 7 (dk_at dksX4_isReady_0 6 rfl rfl)
theorem dX4_isReady_8 : decode cX4_isReady 8 = .ok (.if_icmp .ge 21, 3) := dk_162 0 21 (dk_at dksX4_isReady_0 8 rfl rfl)
theorem dX4_isReady_11 : decode cX4_isReady 11 = .ok (.aload_n 0, 1) := dk_42 (dk_at dksX4_isReady_0 11 rfl rfl)
theorem dX4_isReady_12 : decode cX4_isReady 12 = .ok (.getfield 16, 3) := dk_180 0 16 (dk_at dksX4_isReady_0 12 rfl rfl)
theorem dX4_isReady_15 : decode cX4_isReady 15 = .ok (.iload_n 1, 1) := dk_27 (dk_at dksX4_isReady_0 15 rfl rfl)
theorem dX4_isReady_16 : decode cX4_isReady 16 = .ok (.iaload, 1) := dk_46 (dk_at dksX4_isReady_0 16 rfl rfl)
theorem dX4_isReady_17 : decode cX4_isReady 17 = .ok (.aload_n 0, 1) := dk_42 (dk_at dksX4_isReady_0 17 rfl rfl)
theorem dX4_isReady_18 : decode cX4_isReady 18 = .ok (.iload_n 1, 1) := dk_27 (dk_at dksX4_isReady_0 18 rfl rfl)
theorem dX4_isReady_19 : decode cX4_isReady 19 = .ok (.invokevirtual 95, 3) := dk_182 0 95 (dk_at dksX4_isReady_0 19 rfl rfl)
theorem dX4_isReady_22 : decode cX4_isReady 22 = .ok (.if_icmp .lt 7, 3) := dk_161 0 7 (dk_at dksX4_isReady_1 0 rfl rfl)
theorem dX4_isReady_25 : decode cX4_isReady 25 = .ok (.iconst 1, 1) := dk_4 (dk_at dksX4_isReady_1 3 rfl rfl)
theorem dX4_isReady_26 : decode cX4_isReady 26 = .ok (.goto 4, 3) := dk_167 0 4 (dk_at dksX4_isReady_1 4 rfl rfl)
theorem dX4_isReady_29 : decode cX4_isReady 29 = .ok (.iconst 0, 1) := dk_3 (dk_at dksX4_isReady_1 7 rfl rfl)
theorem dX4_isReady_30 : decode cX4_isReady 30 = .ok (.ireturn, 1) := dk_172 (dk_at dksX4_isReady_1 8 rfl rfl)
abbrev cX4_frightOf : ByteArray := prog_21_method_12_code
def yX4_frightOf : MethodName := ⟨RX4, "frightOf", "(I)I"⟩
def dkwX4_frightOf_3 : List UInt8 := [108, 96, 104, 172, 5, 172]
abbrev dktX4_frightOf_3 : List UInt8 := dkwX4_frightOf_3 ++ []
def dkwX4_frightOf_2 : List UInt8 := [6, 172, 6, 42, 180, 0, 13, 27, 46, 5, 108, 96, 172, 3, 172, 5, 6, 42, 180, 0, 13, 27, 46, 5]
abbrev dktX4_frightOf_2 : List UInt8 := dkwX4_frightOf_2 ++ dktX4_frightOf_3
def dkwX4_frightOf_1 : List UInt8 := [170, 0, 0, 0, 0, 70, 0, 0, 0, 0, 0, 0, 0, 6, 0, 0, 0, 42, 0, 0, 0, 70, 0, 0, 0, 44, 0, 0, 0, 42, 0, 0, 0, 55, 0, 0, 0, 70, 0, 0, 0, 57]
abbrev dktX4_frightOf_1 : List UInt8 := dkwX4_frightOf_1 ++ dktX4_frightOf_2
def dkwX4_frightOf_0 : List UInt8 := [42, 180, 0, 7, 27, 46]
abbrev dktX4_frightOf_0 : List UInt8 := dkwX4_frightOf_0 ++ dktX4_frightOf_1
theorem dksX4_frightOf_0 : cX4_frightOf.data.toList.drop 0 = dktX4_frightOf_0 := by decide +kernel
theorem dksX4_frightOf_1 : cX4_frightOf.data.toList.drop 6 = dktX4_frightOf_1 := dk_seg dksX4_frightOf_0 6 rfl rfl
theorem dksX4_frightOf_2 : cX4_frightOf.data.toList.drop 48 = dktX4_frightOf_2 := dk_seg dksX4_frightOf_1 42 rfl rfl
theorem dksX4_frightOf_3 : cX4_frightOf.data.toList.drop 72 = dktX4_frightOf_3 := dk_seg dksX4_frightOf_2 24 rfl rfl
theorem dX4_frightOf_0 : decode cX4_frightOf 0 = .ok (.aload_n 0, 1) := dk_42 (dk_at dksX4_frightOf_0 0 rfl rfl)
theorem dX4_frightOf_1 : decode cX4_frightOf 1 = .ok (.getfield 7, 3) := dk_180 0 7 (dk_at dksX4_frightOf_0 1 rfl rfl)
theorem dX4_frightOf_4 : decode cX4_frightOf 4 = .ok (.iload_n 1, 1) := dk_27 (dk_at dksX4_frightOf_0 4 rfl rfl)
theorem dX4_frightOf_5 : decode cX4_frightOf 5 = .ok (.iaload, 1) := dk_46 (dk_at dksX4_frightOf_0 5 rfl rfl)
theorem dX4_frightOf_6 : decode cX4_frightOf 6 = .ok (.tableswitch 70 0 6 #[42, 70, 44, 42, 55, 70, 57], 42) := by decide +kernel
theorem dX4_frightOf_48 : decode cX4_frightOf 48 = .ok (.iconst 3, 1) := dk_6 (dk_at dksX4_frightOf_2 0 rfl rfl)
theorem dX4_frightOf_49 : decode cX4_frightOf 49 = .ok (.ireturn, 1) := dk_172 (dk_at dksX4_frightOf_2 1 rfl rfl)
theorem dX4_frightOf_50 : decode cX4_frightOf 50 = .ok (.iconst 3, 1) := dk_6 (dk_at dksX4_frightOf_2 2 rfl rfl)
theorem dX4_frightOf_51 : decode cX4_frightOf 51 = .ok (.aload_n 0, 1) := dk_42 (dk_at dksX4_frightOf_2 3 rfl rfl)
theorem dX4_frightOf_52 : decode cX4_frightOf 52 = .ok (.getfield 13, 3) := dk_180 0 13 (dk_at dksX4_frightOf_2 4 rfl rfl)
theorem dX4_frightOf_55 : decode cX4_frightOf 55 = .ok (.iload_n 1, 1) := dk_27 (dk_at dksX4_frightOf_2 7 rfl rfl)
theorem dX4_frightOf_56 : decode cX4_frightOf 56 = .ok (.iaload, 1) := dk_46 (dk_at dksX4_frightOf_2 8 rfl rfl)
theorem dX4_frightOf_57 : decode cX4_frightOf 57 = .ok (.iconst 2, 1) := dk_5 (dk_at dksX4_frightOf_2 9 rfl rfl)
theorem dX4_frightOf_58 : decode cX4_frightOf 58 = .ok (.idiv, 1) := dk_108 (dk_at dksX4_frightOf_2 10 rfl rfl)
theorem dX4_frightOf_59 : decode cX4_frightOf 59 = .ok (.iadd, 1) := dk_96 (dk_at dksX4_frightOf_2 11 rfl rfl)
theorem dX4_frightOf_60 : decode cX4_frightOf 60 = .ok (.ireturn, 1) := dk_172 (dk_at dksX4_frightOf_2 12 rfl rfl)
theorem dX4_frightOf_61 : decode cX4_frightOf 61 = .ok (.iconst 0, 1) := dk_3 (dk_at dksX4_frightOf_2 13 rfl rfl)
theorem dX4_frightOf_62 : decode cX4_frightOf 62 = .ok (.ireturn, 1) := dk_172 (dk_at dksX4_frightOf_2 14 rfl rfl)
theorem dX4_frightOf_63 : decode cX4_frightOf 63 = .ok (.iconst 2, 1) := dk_5 (dk_at dksX4_frightOf_2 15 rfl rfl)
theorem dX4_frightOf_64 : decode cX4_frightOf 64 = .ok (.iconst 3, 1) := dk_6 (dk_at dksX4_frightOf_2 16 rfl rfl)
theorem dX4_frightOf_65 : decode cX4_frightOf 65 = .ok (.aload_n 0, 1) := dk_42 (dk_at dksX4_frightOf_2 17 rfl rfl)
theorem dX4_frightOf_66 : decode cX4_frightOf 66 = .ok (.getfield 13, 3) := dk_180 0 13 (dk_at dksX4_frightOf_2 18 rfl rfl)
theorem dX4_frightOf_69 : decode cX4_frightOf 69 = .ok (.iload_n 1, 1) := dk_27 (dk_at dksX4_frightOf_2 21 rfl rfl)
theorem dX4_frightOf_70 : decode cX4_frightOf 70 = .ok (.iaload, 1) := dk_46 (dk_at dksX4_frightOf_2 22 rfl rfl)
theorem dX4_frightOf_71 : decode cX4_frightOf 71 = .ok (.iconst 2, 1) := dk_5 (dk_at dksX4_frightOf_2 23 rfl rfl)
theorem dX4_frightOf_72 : decode cX4_frightOf 72 = .ok (.idiv, 1) := dk_108 (dk_at dksX4_frightOf_3 0 rfl rfl)
theorem dX4_frightOf_73 : decode cX4_frightOf 73 = .ok (.iadd, 1) := dk_96 (dk_at dksX4_frightOf_3 1 rfl rfl)
theorem dX4_frightOf_74 : decode cX4_frightOf 74 = .ok (.imul, 1) := dk_104 (dk_at dksX4_frightOf_3 2 rfl rfl)
theorem dX4_frightOf_75 : decode cX4_frightOf 75 = .ok (.ireturn, 1) := dk_172 (dk_at dksX4_frightOf_3 3 rfl rfl)
theorem dX4_frightOf_76 : decode cX4_frightOf 76 = .ok (.iconst 2, 1) := dk_5 (dk_at dksX4_frightOf_3 4 rfl rfl)
theorem dX4_frightOf_77 : decode cX4_frightOf 77 = .ok (.ireturn, 1) := dk_172 (dk_at dksX4_frightOf_3 5 rfl rfl)
abbrev cX4_show : ByteArray := prog_21_method_18_code
def yX4_show : MethodName := ⟨RX4, "show", "(I)V"⟩
def dkwX4_show_4 : List UInt8 := [153, 0, 7, 4, 167, 0, 4, 3, 29, 153, 0, 7, 4, 167, 0, 4, 3, 96, 182, 0, 112, 177]
abbrev dktX4_show_4 : List UInt8 := dkwX4_show_4 ++ []
def dkwX4_show_3 : List UInt8 := [21, 4, 27, 4, 96, 160, 0, 7, 4, 167, 0, 4, 3, 62, 132, 4, 1, 167, 255, 175, 42, 27, 28]
abbrev dktX4_show_3 : List UInt8 := dkwX4_show_3 ++ dktX4_show_4
def dkwX4_show_2 : List UInt8 := [4, 167, 0, 4, 3, 61, 29, 154, 0, 24, 21, 5, 153, 0, 23, 21, 4, 27, 4, 100, 159, 0, 11]
abbrev dktX4_show_2 : List UInt8 := dkwX4_show_2 ++ dktX4_show_3
def dkwX4_show_1 : List UInt8 := [180, 0, 19, 27, 46, 164, 0, 7, 4, 167, 0, 4, 3, 54, 5, 28, 154, 0, 8, 21, 5, 153, 0, 7]
abbrev dktX4_show_1 : List UInt8 := dkwX4_show_1 ++ dktX4_show_2
def dkwX4_show_0 : List UInt8 := [3, 61, 3, 62, 3, 54, 4, 21, 4, 42, 180, 0, 81, 162, 0, 78, 42, 180, 0, 19, 21, 4, 46, 42]
abbrev dktX4_show_0 : List UInt8 := dkwX4_show_0 ++ dktX4_show_1
theorem dksX4_show_0 : cX4_show.data.toList.drop 0 = dktX4_show_0 := by decide +kernel
theorem dksX4_show_1 : cX4_show.data.toList.drop 24 = dktX4_show_1 := dk_seg dksX4_show_0 24 rfl rfl
theorem dksX4_show_2 : cX4_show.data.toList.drop 48 = dktX4_show_2 := dk_seg dksX4_show_1 24 rfl rfl
theorem dksX4_show_3 : cX4_show.data.toList.drop 71 = dktX4_show_3 := dk_seg dksX4_show_2 23 rfl rfl
theorem dksX4_show_4 : cX4_show.data.toList.drop 94 = dktX4_show_4 := dk_seg dksX4_show_3 23 rfl rfl
theorem dX4_show_0 : decode cX4_show 0 = .ok (.iconst 0, 1) := dk_3 (dk_at dksX4_show_0 0 rfl rfl)
theorem dX4_show_1 : decode cX4_show 1 = .ok (.istore_n 2, 1) := dk_61 (dk_at dksX4_show_0 1 rfl rfl)
theorem dX4_show_2 : decode cX4_show 2 = .ok (.iconst 0, 1) := dk_3 (dk_at dksX4_show_0 2 rfl rfl)
theorem dX4_show_3 : decode cX4_show 3 = .ok (.istore_n 3, 1) := dk_62 (dk_at dksX4_show_0 3 rfl rfl)
theorem dX4_show_4 : decode cX4_show 4 = .ok (.iconst 0, 1) := dk_3 (dk_at dksX4_show_0 4 rfl rfl)
theorem dX4_show_5 : decode cX4_show 5 = .ok (.istore 4, 2) := dk_54 4 (dk_at dksX4_show_0 5 rfl rfl)
theorem dX4_show_7 : decode cX4_show 7 = .ok (.iload 4, 2) := dk_21 4 (dk_at dksX4_show_0 7 rfl rfl)
theorem dX4_show_9 : decode cX4_show 9 = .ok (.aload_n 0, 1) := dk_42 (dk_at dksX4_show_0 9 rfl rfl)
theorem dX4_show_10 : decode cX4_show 10 = .ok (.getfield 81, 3) := dk_180 0 81 (dk_at dksX4_show_0 10 rfl rfl)
theorem dX4_show_13 : decode cX4_show 13 = .ok (.if_icmp .ge 78, 3) := dk_162 0 78 (dk_at dksX4_show_0 13 rfl rfl)
theorem dX4_show_16 : decode cX4_show 16 = .ok (.aload_n 0, 1) := dk_42 (dk_at dksX4_show_0 16 rfl rfl)
theorem dX4_show_17 : decode cX4_show 17 = .ok (.getfield 19, 3) := dk_180 0 19 (dk_at dksX4_show_0 17 rfl rfl)
theorem dX4_show_20 : decode cX4_show 20 = .ok (.iload 4, 2) := dk_21 4 (dk_at dksX4_show_0 20 rfl rfl)
theorem dX4_show_22 : decode cX4_show 22 = .ok (.iaload, 1) := dk_46 (dk_at dksX4_show_0 22 rfl rfl)
theorem dX4_show_23 : decode cX4_show 23 = .ok (.aload_n 0, 1) := dk_42 (dk_at dksX4_show_0 23 rfl rfl)
theorem dX4_show_24 : decode cX4_show 24 = .ok (.getfield 19, 3) := dk_180 0 19 (dk_at dksX4_show_1 0 rfl rfl)
theorem dX4_show_27 : decode cX4_show 27 = .ok (.iload_n 1, 1) := dk_27 (dk_at dksX4_show_1 3 rfl rfl)
theorem dX4_show_28 : decode cX4_show 28 = .ok (.iaload, 1) := dk_46 (dk_at dksX4_show_1 4 rfl rfl)
theorem dX4_show_29 : decode cX4_show 29 = .ok (.if_icmp .le 7, 3) := dk_164 0 7 (dk_at dksX4_show_1 5 rfl rfl)
theorem dX4_show_32 : decode cX4_show 32 = .ok (.iconst 1, 1) := dk_4 (dk_at dksX4_show_1 8 rfl rfl)
theorem dX4_show_33 : decode cX4_show 33 = .ok (.goto 4, 3) := dk_167 0 4 (dk_at dksX4_show_1 9 rfl rfl)
theorem dX4_show_36 : decode cX4_show 36 = .ok (.iconst 0, 1) := dk_3 (dk_at dksX4_show_1 12 rfl rfl)
theorem dX4_show_37 : decode cX4_show 37 = .ok (.istore 5, 2) := dk_54 5 (dk_at dksX4_show_1 13 rfl rfl)
theorem dX4_show_39 : decode cX4_show 39 = .ok (.iload_n 2, 1) := dk_28 (dk_at dksX4_show_1 15 rfl rfl)
theorem dX4_show_40 : decode cX4_show 40 = .ok (.ifCond .ne 8, 3) := dk_154 0 8 (dk_at dksX4_show_1 16 rfl rfl)
theorem dX4_show_43 : decode cX4_show 43 = .ok (.iload 5, 2) := dk_21 5 (dk_at dksX4_show_1 19 rfl rfl)
theorem dX4_show_45 : decode cX4_show 45 = .ok (.ifCond .eq 7, 3) := dk_153 0 7 (dk_at dksX4_show_1 21 rfl rfl)
theorem dX4_show_48 : decode cX4_show 48 = .ok (.iconst 1, 1) := dk_4 (dk_at dksX4_show_2 0 rfl rfl)
theorem dX4_show_49 : decode cX4_show 49 = .ok (.goto 4, 3) := dk_167 0 4 (dk_at dksX4_show_2 1 rfl rfl)
theorem dX4_show_52 : decode cX4_show 52 = .ok (.iconst 0, 1) := dk_3 (dk_at dksX4_show_2 4 rfl rfl)
theorem dX4_show_53 : decode cX4_show 53 = .ok (.istore_n 2, 1) := dk_61 (dk_at dksX4_show_2 5 rfl rfl)
theorem dX4_show_54 : decode cX4_show 54 = .ok (.iload_n 3, 1) := dk_29 (dk_at dksX4_show_2 6 rfl rfl)
theorem dX4_show_55 : decode cX4_show 55 = .ok (.ifCond .ne 24, 3) := dk_154 0 24 (dk_at dksX4_show_2 7 rfl rfl)
theorem dX4_show_58 : decode cX4_show 58 = .ok (.iload 5, 2) := dk_21 5 (dk_at dksX4_show_2 10 rfl rfl)
theorem dX4_show_60 : decode cX4_show 60 = .ok (.ifCond .eq 23, 3) := dk_153 0 23 (dk_at dksX4_show_2 12 rfl rfl)
theorem dX4_show_63 : decode cX4_show 63 = .ok (.iload 4, 2) := dk_21 4 (dk_at dksX4_show_2 15 rfl rfl)
theorem dX4_show_65 : decode cX4_show 65 = .ok (.iload_n 1, 1) := dk_27 (dk_at dksX4_show_2 17 rfl rfl)
theorem dX4_show_66 : decode cX4_show 66 = .ok (.iconst 1, 1) := dk_4 (dk_at dksX4_show_2 18 rfl rfl)
theorem dX4_show_67 : decode cX4_show 67 = .ok (.isub, 1) := dk_100 (dk_at dksX4_show_2 19 rfl rfl)
theorem dX4_show_68 : decode cX4_show 68 = .ok (.if_icmp .eq 11, 3) := dk_159 0 11 (dk_at dksX4_show_2 20 rfl rfl)
theorem dX4_show_71 : decode cX4_show 71 = .ok (.iload 4, 2) := dk_21 4 (dk_at dksX4_show_3 0 rfl rfl)
theorem dX4_show_73 : decode cX4_show 73 = .ok (.iload_n 1, 1) := dk_27 (dk_at dksX4_show_3 2 rfl rfl)
theorem dX4_show_74 : decode cX4_show 74 = .ok (.iconst 1, 1) := dk_4 (dk_at dksX4_show_3 3 rfl rfl)
theorem dX4_show_75 : decode cX4_show 75 = .ok (.iadd, 1) := dk_96 (dk_at dksX4_show_3 4 rfl rfl)
theorem dX4_show_76 : decode cX4_show 76 = .ok (.if_icmp .ne 7, 3) := dk_160 0 7 (dk_at dksX4_show_3 5 rfl rfl)
theorem dX4_show_79 : decode cX4_show 79 = .ok (.iconst 1, 1) := dk_4 (dk_at dksX4_show_3 8 rfl rfl)
theorem dX4_show_80 : decode cX4_show 80 = .ok (.goto 4, 3) := dk_167 0 4 (dk_at dksX4_show_3 9 rfl rfl)
theorem dX4_show_83 : decode cX4_show 83 = .ok (.iconst 0, 1) := dk_3 (dk_at dksX4_show_3 12 rfl rfl)
theorem dX4_show_84 : decode cX4_show 84 = .ok (.istore_n 3, 1) := dk_62 (dk_at dksX4_show_3 13 rfl rfl)
theorem dX4_show_85 : decode cX4_show 85 = .ok (.iinc 4 1, 3) := dk_132 4 1 (dk_at dksX4_show_3 14 rfl rfl)
theorem dX4_show_88 : decode cX4_show 88 = .ok (.goto (-81), 3) := dk_167 255 175 (dk_at dksX4_show_3 17 rfl rfl)
theorem dX4_show_91 : decode cX4_show 91 = .ok (.aload_n 0, 1) := dk_42 (dk_at dksX4_show_3 20 rfl rfl)
theorem dX4_show_92 : decode cX4_show 92 = .ok (.iload_n 1, 1) := dk_27 (dk_at dksX4_show_3 21 rfl rfl)
theorem dX4_show_93 : decode cX4_show 93 = .ok (.iload_n 2, 1) := dk_28 (dk_at dksX4_show_3 22 rfl rfl)
theorem dX4_show_94 : decode cX4_show 94 = .ok (.ifCond .eq 7, 3) := dk_153 0 7 (dk_at dksX4_show_4 0 rfl rfl)
theorem dX4_show_97 : decode cX4_show 97 = .ok (.iconst 1, 1) := dk_4 (dk_at dksX4_show_4 3 rfl rfl)
theorem dX4_show_98 : decode cX4_show 98 = .ok (.goto 4, 3) := dk_167 0 4 (dk_at dksX4_show_4 4 rfl rfl)
theorem dX4_show_101 : decode cX4_show 101 = .ok (.iconst 0, 1) := dk_3 (dk_at dksX4_show_4 7 rfl rfl)
theorem dX4_show_102 : decode cX4_show 102 = .ok (.iload_n 3, 1) := dk_29 (dk_at dksX4_show_4 8 rfl rfl)
theorem dX4_show_103 : decode cX4_show 103 = .ok (.ifCond .eq 7, 3) := dk_153 0 7 (dk_at dksX4_show_4 9 rfl rfl)
theorem dX4_show_106 : decode cX4_show 106 = .ok (.iconst 1, 1) := dk_4 (dk_at dksX4_show_4 12 rfl rfl)
theorem dX4_show_107 : decode cX4_show 107 = .ok (.goto 4, 3) := dk_167 0 4 (dk_at dksX4_show_4 13 rfl rfl)
theorem dX4_show_110 : decode cX4_show 110 = .ok (.iconst 0, 1) := dk_3 (dk_at dksX4_show_4 16 rfl rfl)
theorem dX4_show_111 : decode cX4_show 111 = .ok (.iadd, 1) := dk_96 (dk_at dksX4_show_4 17 rfl rfl)
theorem dX4_show_112 : decode cX4_show 112 = .ok (.invokevirtual 112, 3) := dk_182 0 112 (dk_at dksX4_show_4 18 rfl rfl)
theorem dX4_show_115 : decode cX4_show 115 = .ok (.return_, 1) := dk_177 (dk_at dksX4_show_4 21 rfl rfl)
abbrev cX4_colder : ByteArray := prog_21_method_19_code
def yX4_colder : MethodName := ⟨RX4, "colder", "(I)V"⟩
def dkwX4_colder_3 : List UInt8 := [182, 0, 112, 132, 2, 1, 167, 255, 183, 177]
abbrev dktX4_colder_3 : List UInt8 := dkwX4_colder_3 ++ []
def dkwX4_colder_2 : List UInt8 := [180, 0, 22, 28, 46, 42, 28, 182, 0, 119, 164, 0, 16, 42, 180, 0, 22, 28, 3, 79, 42, 28, 2]
abbrev dktX4_colder_2 : List UInt8 := dkwX4_colder_2 ++ dktX4_colder_3
def dkwX4_colder_1 : List UInt8 := [162, 0, 49, 42, 180, 0, 22, 28, 42, 180, 0, 22, 28, 46, 4, 96, 16, 20, 184, 0, 103, 79, 42]
abbrev dktX4_colder_1 : List UInt8 := dkwX4_colder_1 ++ dktX4_colder_2
def dkwX4_colder_0 : List UInt8 := [3, 61, 28, 42, 180, 0, 81, 162, 0, 71, 28, 27, 159, 0, 60, 42, 180, 0, 19, 28, 46, 16, 7]
abbrev dktX4_colder_0 : List UInt8 := dkwX4_colder_0 ++ dktX4_colder_1
theorem dksX4_colder_0 : cX4_colder.data.toList.drop 0 = dktX4_colder_0 := by decide +kernel
theorem dksX4_colder_1 : cX4_colder.data.toList.drop 23 = dktX4_colder_1 := dk_seg dksX4_colder_0 23 rfl rfl
theorem dksX4_colder_2 : cX4_colder.data.toList.drop 46 = dktX4_colder_2 := dk_seg dksX4_colder_1 23 rfl rfl
theorem dksX4_colder_3 : cX4_colder.data.toList.drop 69 = dktX4_colder_3 := dk_seg dksX4_colder_2 23 rfl rfl
theorem dX4_colder_0 : decode cX4_colder 0 = .ok (.iconst 0, 1) := dk_3 (dk_at dksX4_colder_0 0 rfl rfl)
theorem dX4_colder_1 : decode cX4_colder 1 = .ok (.istore_n 2, 1) := dk_61 (dk_at dksX4_colder_0 1 rfl rfl)
theorem dX4_colder_2 : decode cX4_colder 2 = .ok (.iload_n 2, 1) := dk_28 (dk_at dksX4_colder_0 2 rfl rfl)
theorem dX4_colder_3 : decode cX4_colder 3 = .ok (.aload_n 0, 1) := dk_42 (dk_at dksX4_colder_0 3 rfl rfl)
theorem dX4_colder_4 : decode cX4_colder 4 = .ok (.getfield 81, 3) := dk_180 0 81 (dk_at dksX4_colder_0 4 rfl rfl)
theorem dX4_colder_7 : decode cX4_colder 7 = .ok (.if_icmp .ge 71, 3) := dk_162 0 71 (dk_at dksX4_colder_0 7 rfl rfl)
theorem dX4_colder_10 : decode cX4_colder 10 = .ok (.iload_n 2, 1) := dk_28 (dk_at dksX4_colder_0 10 rfl rfl)
theorem dX4_colder_11 : decode cX4_colder 11 = .ok (.iload_n 1, 1) := dk_27 (dk_at dksX4_colder_0 11 rfl rfl)
theorem dX4_colder_12 : decode cX4_colder 12 = .ok (.if_icmp .eq 60, 3) := dk_159 0 60 (dk_at dksX4_colder_0 12 rfl rfl)
theorem dX4_colder_15 : decode cX4_colder 15 = .ok (.aload_n 0, 1) := dk_42 (dk_at dksX4_colder_0 15 rfl rfl)
theorem dX4_colder_16 : decode cX4_colder 16 = .ok (.getfield 19, 3) := dk_180 0 19 (dk_at dksX4_colder_0 16 rfl rfl)
theorem dX4_colder_19 : decode cX4_colder 19 = .ok (.iload_n 2, 1) := dk_28 (dk_at dksX4_colder_0 19 rfl rfl)
theorem dX4_colder_20 : decode cX4_colder 20 = .ok (.iaload, 1) := dk_46 (dk_at dksX4_colder_0 20 rfl rfl)
theorem dX4_colder_21 : decode cX4_colder 21 = .ok (.bipush 7, 2) := dk_16 7 (dk_at dksX4_colder_0 21 rfl rfl)
theorem dX4_colder_23 : decode cX4_colder 23 = .ok (.if_icmp .ge 49, 3) := dk_162 0 49 (dk_at dksX4_colder_1 0 rfl rfl)
theorem dX4_colder_26 : decode cX4_colder 26 = .ok (.aload_n 0, 1) := dk_42 (dk_at dksX4_colder_1 3 rfl rfl)
theorem dX4_colder_27 : decode cX4_colder 27 = .ok (.getfield 22, 3) := dk_180 0 22 (dk_at dksX4_colder_1 4 rfl rfl)
theorem dX4_colder_30 : decode cX4_colder 30 = .ok (.iload_n 2, 1) := dk_28 (dk_at dksX4_colder_1 7 rfl rfl)
theorem dX4_colder_31 : decode cX4_colder 31 = .ok (.aload_n 0, 1) := dk_42 (dk_at dksX4_colder_1 8 rfl rfl)
theorem dX4_colder_32 : decode cX4_colder 32 = .ok (.getfield 22, 3) := dk_180 0 22 (dk_at dksX4_colder_1 9 rfl rfl)
theorem dX4_colder_35 : decode cX4_colder 35 = .ok (.iload_n 2, 1) := dk_28 (dk_at dksX4_colder_1 12 rfl rfl)
theorem dX4_colder_36 : decode cX4_colder 36 = .ok (.iaload, 1) := dk_46 (dk_at dksX4_colder_1 13 rfl rfl)
theorem dX4_colder_37 : decode cX4_colder 37 = .ok (.iconst 1, 1) := dk_4 (dk_at dksX4_colder_1 14 rfl rfl)
theorem dX4_colder_38 : decode cX4_colder 38 = .ok (.iadd, 1) := dk_96 (dk_at dksX4_colder_1 15 rfl rfl)
theorem dX4_colder_39 : decode cX4_colder 39 = .ok (.bipush 20, 2) := dk_16 20 (dk_at dksX4_colder_1 16 rfl rfl)
theorem dX4_colder_41 : decode cX4_colder 41 = .ok (.invokestatic 103, 3) := dk_184 0 103 (dk_at dksX4_colder_1 18 rfl rfl)
theorem dX4_colder_44 : decode cX4_colder 44 = .ok (.iastore, 1) := dk_79 (dk_at dksX4_colder_1 21 rfl rfl)
theorem dX4_colder_45 : decode cX4_colder 45 = .ok (.aload_n 0, 1) := dk_42 (dk_at dksX4_colder_1 22 rfl rfl)
theorem dX4_colder_46 : decode cX4_colder 46 = .ok (.getfield 22, 3) := dk_180 0 22 (dk_at dksX4_colder_2 0 rfl rfl)
theorem dX4_colder_49 : decode cX4_colder 49 = .ok (.iload_n 2, 1) := dk_28 (dk_at dksX4_colder_2 3 rfl rfl)
theorem dX4_colder_50 : decode cX4_colder 50 = .ok (.iaload, 1) := dk_46 (dk_at dksX4_colder_2 4 rfl rfl)
theorem dX4_colder_51 : decode cX4_colder 51 = .ok (.aload_n 0, 1) := dk_42 (dk_at dksX4_colder_2 5 rfl rfl)
theorem dX4_colder_52 : decode cX4_colder 52 = .ok (.iload_n 2, 1) := dk_28 (dk_at dksX4_colder_2 6 rfl rfl)
theorem dX4_colder_53 : decode cX4_colder 53 = .ok (.invokevirtual 119, 3) := dk_182 0 119 (dk_at dksX4_colder_2 7 rfl rfl)
theorem dX4_colder_56 : decode cX4_colder 56 = .ok (.if_icmp .le 16, 3) := dk_164 0 16 (dk_at dksX4_colder_2 10 rfl rfl)
theorem dX4_colder_59 : decode cX4_colder 59 = .ok (.aload_n 0, 1) := dk_42 (dk_at dksX4_colder_2 13 rfl rfl)
theorem dX4_colder_60 : decode cX4_colder 60 = .ok (.getfield 22, 3) := dk_180 0 22 (dk_at dksX4_colder_2 14 rfl rfl)
theorem dX4_colder_63 : decode cX4_colder 63 = .ok (.iload_n 2, 1) := dk_28 (dk_at dksX4_colder_2 17 rfl rfl)
theorem dX4_colder_64 : decode cX4_colder 64 = .ok (.iconst 0, 1) := dk_3 (dk_at dksX4_colder_2 18 rfl rfl)
theorem dX4_colder_65 : decode cX4_colder 65 = .ok (.iastore, 1) := dk_79 (dk_at dksX4_colder_2 19 rfl rfl)
theorem dX4_colder_66 : decode cX4_colder 66 = .ok (.aload_n 0, 1) := dk_42 (dk_at dksX4_colder_2 20 rfl rfl)
theorem dX4_colder_67 : decode cX4_colder 67 = .ok (.iload_n 2, 1) := dk_28 (dk_at dksX4_colder_2 21 rfl rfl)
theorem dX4_colder_68 : decode cX4_colder 68 = .ok (.iconst (-1), 1) := dk_2 (dk_at dksX4_colder_2 22 rfl rfl)
theorem dX4_colder_69 : decode cX4_colder 69 = .ok (.invokevirtual 112, 3) := dk_182 0 112 (dk_at dksX4_colder_3 0 rfl rfl)
theorem dX4_colder_72 : decode cX4_colder 72 = .ok (.iinc 2 1, 3) := dk_132 2 1 (dk_at dksX4_colder_3 3 rfl rfl)
theorem dX4_colder_75 : decode cX4_colder 75 = .ok (.goto (-73), 3) := dk_167 255 183 (dk_at dksX4_colder_3 6 rfl rfl)
theorem dX4_colder_78 : decode cX4_colder 78 = .ok (.return_, 1) := dk_177 (dk_at dksX4_colder_3 9 rfl rfl)
abbrev cX4_bearsOf : ByteArray := prog_21_method_13_code
def yX4_bearsOf : MethodName := ⟨RX4, "bearsOf", "(I)I"⟩
def dkwX4_bearsOf_2 : List UInt8 := [8, 172, 7, 172, 16, 20, 172, 8, 42, 180, 0, 13, 27, 46, 96, 172]
abbrev dktX4_bearsOf_2 : List UInt8 := dkwX4_bearsOf_2 ++ []
def dkwX4_bearsOf_1 : List UInt8 := [170, 0, 0, 0, 0, 53, 0, 0, 0, 0, 0, 0, 0, 7, 0, 0, 0, 46, 0, 0, 0, 53, 0, 0, 0, 48, 0, 0, 0, 46, 0, 0, 0, 53, 0, 0, 0, 53, 0, 0, 0, 48, 0, 0, 0, 50]
abbrev dktX4_bearsOf_1 : List UInt8 := dkwX4_bearsOf_1 ++ dktX4_bearsOf_2
def dkwX4_bearsOf_0 : List UInt8 := [42, 180, 0, 7, 27, 46]
abbrev dktX4_bearsOf_0 : List UInt8 := dkwX4_bearsOf_0 ++ dktX4_bearsOf_1
theorem dksX4_bearsOf_0 : cX4_bearsOf.data.toList.drop 0 = dktX4_bearsOf_0 := by decide +kernel
theorem dksX4_bearsOf_1 : cX4_bearsOf.data.toList.drop 6 = dktX4_bearsOf_1 := dk_seg dksX4_bearsOf_0 6 rfl rfl
theorem dksX4_bearsOf_2 : cX4_bearsOf.data.toList.drop 52 = dktX4_bearsOf_2 := dk_seg dksX4_bearsOf_1 46 rfl rfl
theorem dX4_bearsOf_0 : decode cX4_bearsOf 0 = .ok (.aload_n 0, 1) := dk_42 (dk_at dksX4_bearsOf_0 0 rfl rfl)
theorem dX4_bearsOf_1 : decode cX4_bearsOf 1 = .ok (.getfield 7, 3) := dk_180 0 7 (dk_at dksX4_bearsOf_0 1 rfl rfl)
theorem dX4_bearsOf_4 : decode cX4_bearsOf 4 = .ok (.iload_n 1, 1) := dk_27 (dk_at dksX4_bearsOf_0 4 rfl rfl)
theorem dX4_bearsOf_5 : decode cX4_bearsOf 5 = .ok (.iaload, 1) := dk_46 (dk_at dksX4_bearsOf_0 5 rfl rfl)
theorem dX4_bearsOf_6 : decode cX4_bearsOf 6 = .ok (.tableswitch 53 0 7 #[46, 53, 48, 46, 53, 53, 48, 50], 46) := by decide +kernel
theorem dX4_bearsOf_52 : decode cX4_bearsOf 52 = .ok (.iconst 5, 1) := dk_8 (dk_at dksX4_bearsOf_2 0 rfl rfl)
theorem dX4_bearsOf_53 : decode cX4_bearsOf 53 = .ok (.ireturn, 1) := dk_172 (dk_at dksX4_bearsOf_2 1 rfl rfl)
theorem dX4_bearsOf_54 : decode cX4_bearsOf 54 = .ok (.iconst 4, 1) := dk_7 (dk_at dksX4_bearsOf_2 2 rfl rfl)
theorem dX4_bearsOf_55 : decode cX4_bearsOf 55 = .ok (.ireturn, 1) := dk_172 (dk_at dksX4_bearsOf_2 3 rfl rfl)
theorem dX4_bearsOf_56 : decode cX4_bearsOf 56 = .ok (.bipush 20, 2) := dk_16 20 (dk_at dksX4_bearsOf_2 4 rfl rfl)
theorem dX4_bearsOf_58 : decode cX4_bearsOf 58 = .ok (.ireturn, 1) := dk_172 (dk_at dksX4_bearsOf_2 6 rfl rfl)
theorem dX4_bearsOf_59 : decode cX4_bearsOf 59 = .ok (.iconst 5, 1) := dk_8 (dk_at dksX4_bearsOf_2 7 rfl rfl)
theorem dX4_bearsOf_60 : decode cX4_bearsOf 60 = .ok (.aload_n 0, 1) := dk_42 (dk_at dksX4_bearsOf_2 8 rfl rfl)
theorem dX4_bearsOf_61 : decode cX4_bearsOf 61 = .ok (.getfield 13, 3) := dk_180 0 13 (dk_at dksX4_bearsOf_2 9 rfl rfl)
theorem dX4_bearsOf_64 : decode cX4_bearsOf 64 = .ok (.iload_n 1, 1) := dk_27 (dk_at dksX4_bearsOf_2 12 rfl rfl)
theorem dX4_bearsOf_65 : decode cX4_bearsOf 65 = .ok (.iaload, 1) := dk_46 (dk_at dksX4_bearsOf_2 13 rfl rfl)
theorem dX4_bearsOf_66 : decode cX4_bearsOf 66 = .ok (.iadd, 1) := dk_96 (dk_at dksX4_bearsOf_2 14 rfl rfl)
theorem dX4_bearsOf_67 : decode cX4_bearsOf 67 = .ok (.ireturn, 1) := dk_172 (dk_at dksX4_bearsOf_2 15 rfl rfl)
abbrev cX4_goBreak : ByteArray := prog_21_method_21_code
def yX4_goBreak : MethodName := ⟨RX4, "goBreak", "(I)V"⟩
def dkwX4_goBreak_3 : List UInt8 := [3, 79, 132, 2, 1, 167, 255, 182, 177]
abbrev dktX4_goBreak_3 : List UInt8 := dkwX4_goBreak_3 ++ []
def dkwX4_goBreak_2 : List UInt8 := [42, 180, 0, 16, 28, 42, 180, 0, 16, 28, 46, 27, 100, 16, 20, 184, 0, 103, 79, 42, 180, 0, 22, 28]
abbrev dktX4_goBreak_2 : List UInt8 := dkwX4_goBreak_2 ++ dktX4_goBreak_3
def dkwX4_goBreak_1 : List UInt8 := [160, 0, 8, 16, 7, 167, 0, 18, 42, 180, 0, 19, 28, 46, 27, 6, 108, 100, 16, 7, 184, 0, 103, 79]
abbrev dktX4_goBreak_1 : List UInt8 := dkwX4_goBreak_1 ++ dktX4_goBreak_2
def dkwX4_goBreak_0 : List UInt8 := [3, 61, 28, 42, 180, 0, 81, 162, 0, 72, 42, 180, 0, 19, 28, 42, 180, 0, 19, 28, 46, 16, 7]
abbrev dktX4_goBreak_0 : List UInt8 := dkwX4_goBreak_0 ++ dktX4_goBreak_1
theorem dksX4_goBreak_0 : cX4_goBreak.data.toList.drop 0 = dktX4_goBreak_0 := by decide +kernel
theorem dksX4_goBreak_1 : cX4_goBreak.data.toList.drop 23 = dktX4_goBreak_1 := dk_seg dksX4_goBreak_0 23 rfl rfl
theorem dksX4_goBreak_2 : cX4_goBreak.data.toList.drop 47 = dktX4_goBreak_2 := dk_seg dksX4_goBreak_1 24 rfl rfl
theorem dksX4_goBreak_3 : cX4_goBreak.data.toList.drop 71 = dktX4_goBreak_3 := dk_seg dksX4_goBreak_2 24 rfl rfl
theorem dX4_goBreak_0 : decode cX4_goBreak 0 = .ok (.iconst 0, 1) := dk_3 (dk_at dksX4_goBreak_0 0 rfl rfl)
theorem dX4_goBreak_1 : decode cX4_goBreak 1 = .ok (.istore_n 2, 1) := dk_61 (dk_at dksX4_goBreak_0 1 rfl rfl)
theorem dX4_goBreak_2 : decode cX4_goBreak 2 = .ok (.iload_n 2, 1) := dk_28 (dk_at dksX4_goBreak_0 2 rfl rfl)
theorem dX4_goBreak_3 : decode cX4_goBreak 3 = .ok (.aload_n 0, 1) := dk_42 (dk_at dksX4_goBreak_0 3 rfl rfl)
theorem dX4_goBreak_4 : decode cX4_goBreak 4 = .ok (.getfield 81, 3) := dk_180 0 81 (dk_at dksX4_goBreak_0 4 rfl rfl)
theorem dX4_goBreak_7 : decode cX4_goBreak 7 = .ok (.if_icmp .ge 72, 3) := dk_162 0 72 (dk_at dksX4_goBreak_0 7 rfl rfl)
theorem dX4_goBreak_10 : decode cX4_goBreak 10 = .ok (.aload_n 0, 1) := dk_42 (dk_at dksX4_goBreak_0 10 rfl rfl)
theorem dX4_goBreak_11 : decode cX4_goBreak 11 = .ok (.getfield 19, 3) := dk_180 0 19 (dk_at dksX4_goBreak_0 11 rfl rfl)
theorem dX4_goBreak_14 : decode cX4_goBreak 14 = .ok (.iload_n 2, 1) := dk_28 (dk_at dksX4_goBreak_0 14 rfl rfl)
theorem dX4_goBreak_15 : decode cX4_goBreak 15 = .ok (.aload_n 0, 1) := dk_42 (dk_at dksX4_goBreak_0 15 rfl rfl)
theorem dX4_goBreak_16 : decode cX4_goBreak 16 = .ok (.getfield 19, 3) := dk_180 0 19 (dk_at dksX4_goBreak_0 16 rfl rfl)
theorem dX4_goBreak_19 : decode cX4_goBreak 19 = .ok (.iload_n 2, 1) := dk_28 (dk_at dksX4_goBreak_0 19 rfl rfl)
theorem dX4_goBreak_20 : decode cX4_goBreak 20 = .ok (.iaload, 1) := dk_46 (dk_at dksX4_goBreak_0 20 rfl rfl)
theorem dX4_goBreak_21 : decode cX4_goBreak 21 = .ok (.bipush 7, 2) := dk_16 7 (dk_at dksX4_goBreak_0 21 rfl rfl)
theorem dX4_goBreak_23 : decode cX4_goBreak 23 = .ok (.if_icmp .ne 8, 3) := dk_160 0 8 (dk_at dksX4_goBreak_1 0 rfl rfl)
theorem dX4_goBreak_26 : decode cX4_goBreak 26 = .ok (.bipush 7, 2) := dk_16 7 (dk_at dksX4_goBreak_1 3 rfl rfl)
theorem dX4_goBreak_28 : decode cX4_goBreak 28 = .ok (.goto 18, 3) := dk_167 0 18 (dk_at dksX4_goBreak_1 5 rfl rfl)
theorem dX4_goBreak_31 : decode cX4_goBreak 31 = .ok (.aload_n 0, 1) := dk_42 (dk_at dksX4_goBreak_1 8 rfl rfl)
theorem dX4_goBreak_32 : decode cX4_goBreak 32 = .ok (.getfield 19, 3) := dk_180 0 19 (dk_at dksX4_goBreak_1 9 rfl rfl)
theorem dX4_goBreak_35 : decode cX4_goBreak 35 = .ok (.iload_n 2, 1) := dk_28 (dk_at dksX4_goBreak_1 12 rfl rfl)
theorem dX4_goBreak_36 : decode cX4_goBreak 36 = .ok (.iaload, 1) := dk_46 (dk_at dksX4_goBreak_1 13 rfl rfl)
theorem dX4_goBreak_37 : decode cX4_goBreak 37 = .ok (.iload_n 1, 1) := dk_27 (dk_at dksX4_goBreak_1 14 rfl rfl)
theorem dX4_goBreak_38 : decode cX4_goBreak 38 = .ok (.iconst 3, 1) := dk_6 (dk_at dksX4_goBreak_1 15 rfl rfl)
theorem dX4_goBreak_39 : decode cX4_goBreak 39 = .ok (.idiv, 1) := dk_108 (dk_at dksX4_goBreak_1 16 rfl rfl)
theorem dX4_goBreak_40 : decode cX4_goBreak 40 = .ok (.isub, 1) := dk_100 (dk_at dksX4_goBreak_1 17 rfl rfl)
theorem dX4_goBreak_41 : decode cX4_goBreak 41 = .ok (.bipush 7, 2) := dk_16 7 (dk_at dksX4_goBreak_1 18 rfl rfl)
theorem dX4_goBreak_43 : decode cX4_goBreak 43 = .ok (.invokestatic 103, 3) := dk_184 0 103 (dk_at dksX4_goBreak_1 20 rfl rfl)
theorem dX4_goBreak_46 : decode cX4_goBreak 46 = .ok (.iastore, 1) := dk_79 (dk_at dksX4_goBreak_1 23 rfl rfl)
theorem dX4_goBreak_47 : decode cX4_goBreak 47 = .ok (.aload_n 0, 1) := dk_42 (dk_at dksX4_goBreak_2 0 rfl rfl)
theorem dX4_goBreak_48 : decode cX4_goBreak 48 = .ok (.getfield 16, 3) := dk_180 0 16 (dk_at dksX4_goBreak_2 1 rfl rfl)
theorem dX4_goBreak_51 : decode cX4_goBreak 51 = .ok (.iload_n 2, 1) := dk_28 (dk_at dksX4_goBreak_2 4 rfl rfl)
theorem dX4_goBreak_52 : decode cX4_goBreak 52 = .ok (.aload_n 0, 1) := dk_42 (dk_at dksX4_goBreak_2 5 rfl rfl)
theorem dX4_goBreak_53 : decode cX4_goBreak 53 = .ok (.getfield 16, 3) := dk_180 0 16 (dk_at dksX4_goBreak_2 6 rfl rfl)
theorem dX4_goBreak_56 : decode cX4_goBreak 56 = .ok (.iload_n 2, 1) := dk_28 (dk_at dksX4_goBreak_2 9 rfl rfl)
theorem dX4_goBreak_57 : decode cX4_goBreak 57 = .ok (.iaload, 1) := dk_46 (dk_at dksX4_goBreak_2 10 rfl rfl)
theorem dX4_goBreak_58 : decode cX4_goBreak 58 = .ok (.iload_n 1, 1) := dk_27 (dk_at dksX4_goBreak_2 11 rfl rfl)
theorem dX4_goBreak_59 : decode cX4_goBreak 59 = .ok (.isub, 1) := dk_100 (dk_at dksX4_goBreak_2 12 rfl rfl)
theorem dX4_goBreak_60 : decode cX4_goBreak 60 = .ok (.bipush 20, 2) := dk_16 20 (dk_at dksX4_goBreak_2 13 rfl rfl)
theorem dX4_goBreak_62 : decode cX4_goBreak 62 = .ok (.invokestatic 103, 3) := dk_184 0 103 (dk_at dksX4_goBreak_2 15 rfl rfl)
theorem dX4_goBreak_65 : decode cX4_goBreak 65 = .ok (.iastore, 1) := dk_79 (dk_at dksX4_goBreak_2 18 rfl rfl)
theorem dX4_goBreak_66 : decode cX4_goBreak 66 = .ok (.aload_n 0, 1) := dk_42 (dk_at dksX4_goBreak_2 19 rfl rfl)
theorem dX4_goBreak_67 : decode cX4_goBreak 67 = .ok (.getfield 22, 3) := dk_180 0 22 (dk_at dksX4_goBreak_2 20 rfl rfl)
theorem dX4_goBreak_70 : decode cX4_goBreak 70 = .ok (.iload_n 2, 1) := dk_28 (dk_at dksX4_goBreak_2 23 rfl rfl)
theorem dX4_goBreak_71 : decode cX4_goBreak 71 = .ok (.iconst 0, 1) := dk_3 (dk_at dksX4_goBreak_3 0 rfl rfl)
theorem dX4_goBreak_72 : decode cX4_goBreak 72 = .ok (.iastore, 1) := dk_79 (dk_at dksX4_goBreak_3 1 rfl rfl)
theorem dX4_goBreak_73 : decode cX4_goBreak 73 = .ok (.iinc 2 1, 3) := dk_132 2 1 (dk_at dksX4_goBreak_3 2 rfl rfl)
theorem dX4_goBreak_76 : decode cX4_goBreak 76 = .ok (.goto (-74), 3) := dk_167 255 182 (dk_at dksX4_goBreak_3 5 rfl rfl)
theorem dX4_goBreak_79 : decode cX4_goBreak 79 = .ok (.return_, 1) := dk_177 (dk_at dksX4_goBreak_3 8 rfl rfl)
abbrev cX4_swapAll : ByteArray := prog_21_method_32_code
def yX4_swapAll : MethodName := ⟨RX4, "swapAll", "(II)V"⟩
def dkwX4_swapAll_2 : List UInt8 := [28, 182, 0, 171, 177]
abbrev dktX4_swapAll_2 : List UInt8 := dkwX4_swapAll_2 ++ []
def dkwX4_swapAll_1 : List UInt8 := [180, 0, 16, 27, 28, 182, 0, 171, 42, 42, 180, 0, 19, 27, 28, 182, 0, 171, 42, 42, 180, 0, 22, 27]
abbrev dktX4_swapAll_1 : List UInt8 := dkwX4_swapAll_1 ++ dktX4_swapAll_2
def dkwX4_swapAll_0 : List UInt8 := [42, 42, 180, 0, 7, 27, 28, 182, 0, 171, 42, 42, 180, 0, 13, 27, 28, 182, 0, 171, 42, 42]
abbrev dktX4_swapAll_0 : List UInt8 := dkwX4_swapAll_0 ++ dktX4_swapAll_1
theorem dksX4_swapAll_0 : cX4_swapAll.data.toList.drop 0 = dktX4_swapAll_0 := by decide +kernel
theorem dksX4_swapAll_1 : cX4_swapAll.data.toList.drop 22 = dktX4_swapAll_1 := dk_seg dksX4_swapAll_0 22 rfl rfl
theorem dksX4_swapAll_2 : cX4_swapAll.data.toList.drop 46 = dktX4_swapAll_2 := dk_seg dksX4_swapAll_1 24 rfl rfl
theorem dX4_swapAll_0 : decode cX4_swapAll 0 = .ok (.aload_n 0, 1) := dk_42 (dk_at dksX4_swapAll_0 0 rfl rfl)
theorem dX4_swapAll_1 : decode cX4_swapAll 1 = .ok (.aload_n 0, 1) := dk_42 (dk_at dksX4_swapAll_0 1 rfl rfl)
theorem dX4_swapAll_2 : decode cX4_swapAll 2 = .ok (.getfield 7, 3) := dk_180 0 7 (dk_at dksX4_swapAll_0 2 rfl rfl)
theorem dX4_swapAll_5 : decode cX4_swapAll 5 = .ok (.iload_n 1, 1) := dk_27 (dk_at dksX4_swapAll_0 5 rfl rfl)
theorem dX4_swapAll_6 : decode cX4_swapAll 6 = .ok (.iload_n 2, 1) := dk_28 (dk_at dksX4_swapAll_0 6 rfl rfl)
theorem dX4_swapAll_7 : decode cX4_swapAll 7 = .ok (.invokevirtual 171, 3) := dk_182 0 171 (dk_at dksX4_swapAll_0 7 rfl rfl)
theorem dX4_swapAll_10 : decode cX4_swapAll 10 = .ok (.aload_n 0, 1) := dk_42 (dk_at dksX4_swapAll_0 10 rfl rfl)
theorem dX4_swapAll_11 : decode cX4_swapAll 11 = .ok (.aload_n 0, 1) := dk_42 (dk_at dksX4_swapAll_0 11 rfl rfl)
theorem dX4_swapAll_12 : decode cX4_swapAll 12 = .ok (.getfield 13, 3) := dk_180 0 13 (dk_at dksX4_swapAll_0 12 rfl rfl)
theorem dX4_swapAll_15 : decode cX4_swapAll 15 = .ok (.iload_n 1, 1) := dk_27 (dk_at dksX4_swapAll_0 15 rfl rfl)
theorem dX4_swapAll_16 : decode cX4_swapAll 16 = .ok (.iload_n 2, 1) := dk_28 (dk_at dksX4_swapAll_0 16 rfl rfl)
theorem dX4_swapAll_17 : decode cX4_swapAll 17 = .ok (.invokevirtual 171, 3) := dk_182 0 171 (dk_at dksX4_swapAll_0 17 rfl rfl)
theorem dX4_swapAll_20 : decode cX4_swapAll 20 = .ok (.aload_n 0, 1) := dk_42 (dk_at dksX4_swapAll_0 20 rfl rfl)
theorem dX4_swapAll_21 : decode cX4_swapAll 21 = .ok (.aload_n 0, 1) := dk_42 (dk_at dksX4_swapAll_0 21 rfl rfl)
theorem dX4_swapAll_22 : decode cX4_swapAll 22 = .ok (.getfield 16, 3) := dk_180 0 16 (dk_at dksX4_swapAll_1 0 rfl rfl)
theorem dX4_swapAll_25 : decode cX4_swapAll 25 = .ok (.iload_n 1, 1) := dk_27 (dk_at dksX4_swapAll_1 3 rfl rfl)
theorem dX4_swapAll_26 : decode cX4_swapAll 26 = .ok (.iload_n 2, 1) := dk_28 (dk_at dksX4_swapAll_1 4 rfl rfl)
theorem dX4_swapAll_27 : decode cX4_swapAll 27 = .ok (.invokevirtual 171, 3) := dk_182 0 171 (dk_at dksX4_swapAll_1 5 rfl rfl)
theorem dX4_swapAll_30 : decode cX4_swapAll 30 = .ok (.aload_n 0, 1) := dk_42 (dk_at dksX4_swapAll_1 8 rfl rfl)
theorem dX4_swapAll_31 : decode cX4_swapAll 31 = .ok (.aload_n 0, 1) := dk_42 (dk_at dksX4_swapAll_1 9 rfl rfl)
theorem dX4_swapAll_32 : decode cX4_swapAll 32 = .ok (.getfield 19, 3) := dk_180 0 19 (dk_at dksX4_swapAll_1 10 rfl rfl)
theorem dX4_swapAll_35 : decode cX4_swapAll 35 = .ok (.iload_n 1, 1) := dk_27 (dk_at dksX4_swapAll_1 13 rfl rfl)
theorem dX4_swapAll_36 : decode cX4_swapAll 36 = .ok (.iload_n 2, 1) := dk_28 (dk_at dksX4_swapAll_1 14 rfl rfl)
theorem dX4_swapAll_37 : decode cX4_swapAll 37 = .ok (.invokevirtual 171, 3) := dk_182 0 171 (dk_at dksX4_swapAll_1 15 rfl rfl)
theorem dX4_swapAll_40 : decode cX4_swapAll 40 = .ok (.aload_n 0, 1) := dk_42 (dk_at dksX4_swapAll_1 18 rfl rfl)
theorem dX4_swapAll_41 : decode cX4_swapAll 41 = .ok (.aload_n 0, 1) := dk_42 (dk_at dksX4_swapAll_1 19 rfl rfl)
theorem dX4_swapAll_42 : decode cX4_swapAll 42 = .ok (.getfield 22, 3) := dk_180 0 22 (dk_at dksX4_swapAll_1 20 rfl rfl)
theorem dX4_swapAll_45 : decode cX4_swapAll 45 = .ok (.iload_n 1, 1) := dk_27 (dk_at dksX4_swapAll_1 23 rfl rfl)
theorem dX4_swapAll_46 : decode cX4_swapAll 46 = .ok (.iload_n 2, 1) := dk_28 (dk_at dksX4_swapAll_2 0 rfl rfl)
theorem dX4_swapAll_47 : decode cX4_swapAll 47 = .ok (.invokevirtual 171, 3) := dk_182 0 171 (dk_at dksX4_swapAll_2 1 rfl rfl)
theorem dX4_swapAll_50 : decode cX4_swapAll 50 = .ok (.return_, 1) := dk_177 (dk_at dksX4_swapAll_2 4 rfl rfl)
abbrev cX4_swapNumbers : ByteArray := prog_21_method_31_code
def yX4_swapNumbers : MethodName := ⟨RX4, "swapNumbers", "([III)V"⟩
def dkwX4_swapNumbers_0 : List UInt8 := [43, 28, 46, 54, 4, 43, 28, 43, 29, 46, 79, 43, 29, 21, 4, 79, 177]
abbrev dktX4_swapNumbers_0 : List UInt8 := dkwX4_swapNumbers_0 ++ []
theorem dksX4_swapNumbers_0 : cX4_swapNumbers.data.toList.drop 0 = dktX4_swapNumbers_0 := by decide +kernel
theorem dX4_swapNumbers_0 : decode cX4_swapNumbers 0 = .ok (.aload_n 1, 1) := dk_43 (dk_at dksX4_swapNumbers_0 0 rfl rfl)
theorem dX4_swapNumbers_1 : decode cX4_swapNumbers 1 = .ok (.iload_n 2, 1) := dk_28 (dk_at dksX4_swapNumbers_0 1 rfl rfl)
theorem dX4_swapNumbers_2 : decode cX4_swapNumbers 2 = .ok (.iaload, 1) := dk_46 (dk_at dksX4_swapNumbers_0 2 rfl rfl)
theorem dX4_swapNumbers_3 : decode cX4_swapNumbers 3 = .ok (.istore 4, 2) := dk_54 4 (dk_at dksX4_swapNumbers_0 3 rfl rfl)
theorem dX4_swapNumbers_5 : decode cX4_swapNumbers 5 = .ok (.aload_n 1, 1) := dk_43 (dk_at dksX4_swapNumbers_0 5 rfl rfl)
theorem dX4_swapNumbers_6 : decode cX4_swapNumbers 6 = .ok (.iload_n 2, 1) := dk_28 (dk_at dksX4_swapNumbers_0 6 rfl rfl)
theorem dX4_swapNumbers_7 : decode cX4_swapNumbers 7 = .ok (.aload_n 1, 1) := dk_43 (dk_at dksX4_swapNumbers_0 7 rfl rfl)
theorem dX4_swapNumbers_8 : decode cX4_swapNumbers 8 = .ok (.iload_n 3, 1) := dk_29 (dk_at dksX4_swapNumbers_0 8 rfl rfl)
theorem dX4_swapNumbers_9 : decode cX4_swapNumbers 9 = .ok (.iaload, 1) := dk_46 (dk_at dksX4_swapNumbers_0 9 rfl rfl)
theorem dX4_swapNumbers_10 : decode cX4_swapNumbers 10 = .ok (.iastore, 1) := dk_79 (dk_at dksX4_swapNumbers_0 10 rfl rfl)
theorem dX4_swapNumbers_11 : decode cX4_swapNumbers 11 = .ok (.aload_n 1, 1) := dk_43 (dk_at dksX4_swapNumbers_0 11 rfl rfl)
theorem dX4_swapNumbers_12 : decode cX4_swapNumbers 12 = .ok (.iload_n 3, 1) := dk_29 (dk_at dksX4_swapNumbers_0 12 rfl rfl)
theorem dX4_swapNumbers_13 : decode cX4_swapNumbers 13 = .ok (.iload 4, 2) := dk_21 4 (dk_at dksX4_swapNumbers_0 13 rfl rfl)
theorem dX4_swapNumbers_15 : decode cX4_swapNumbers 15 = .ok (.iastore, 1) := dk_79 (dk_at dksX4_swapNumbers_0 15 rfl rfl)
theorem dX4_swapNumbers_16 : decode cX4_swapNumbers 16 = .ok (.return_, 1) := dk_177 (dk_at dksX4_swapNumbers_0 16 rfl rfl)
abbrev cX4_close : ByteArray := prog_21_method_38_code
def yX4_close : MethodName := ⟨RX4, "close", "()V"⟩
def dkwX4_close_0 : List UInt8 := [42, 42, 180, 0, 53, 3, 182, 0, 216, 177]
abbrev dktX4_close_0 : List UInt8 := dkwX4_close_0 ++ []
theorem dksX4_close_0 : cX4_close.data.toList.drop 0 = dktX4_close_0 := by decide +kernel
theorem dX4_close_0 : decode cX4_close 0 = .ok (.aload_n 0, 1) := dk_42 (dk_at dksX4_close_0 0 rfl rfl)
theorem dX4_close_1 : decode cX4_close 1 = .ok (.aload_n 0, 1) := dk_42 (dk_at dksX4_close_0 1 rfl rfl)
theorem dX4_close_2 : decode cX4_close 2 = .ok (.getfield 53, 3) := dk_180 0 53 (dk_at dksX4_close_0 2 rfl rfl)
theorem dX4_close_5 : decode cX4_close 5 = .ok (.iconst 0, 1) := dk_3 (dk_at dksX4_close_0 5 rfl rfl)
theorem dX4_close_6 : decode cX4_close 6 = .ok (.invokevirtual 216, 3) := dk_182 0 216 (dk_at dksX4_close_0 6 rfl rfl)
theorem dX4_close_9 : decode cX4_close 9 = .ok (.return_, 1) := dk_177 (dk_at dksX4_close_0 9 rfl rfl)
abbrev cX4_image : ByteArray := prog_21_method_39_code
def yX4_image : MethodName := ⟨RX4, "image", "()I"⟩
def dkwX4_image_0 : List UInt8 := [42, 3, 181, 0, 77, 42, 4, 181, 0, 220, 42, 42, 180, 0, 56, 4, 182, 0, 216, 42, 180, 0, 135, 172]
abbrev dktX4_image_0 : List UInt8 := dkwX4_image_0 ++ []
theorem dksX4_image_0 : cX4_image.data.toList.drop 0 = dktX4_image_0 := by decide +kernel
theorem dX4_image_0 : decode cX4_image 0 = .ok (.aload_n 0, 1) := dk_42 (dk_at dksX4_image_0 0 rfl rfl)
theorem dX4_image_1 : decode cX4_image 1 = .ok (.iconst 0, 1) := dk_3 (dk_at dksX4_image_0 1 rfl rfl)
theorem dX4_image_2 : decode cX4_image 2 = .ok (.putfield 77, 3) := dk_181 0 77 (dk_at dksX4_image_0 2 rfl rfl)
theorem dX4_image_5 : decode cX4_image 5 = .ok (.aload_n 0, 1) := dk_42 (dk_at dksX4_image_0 5 rfl rfl)
theorem dX4_image_6 : decode cX4_image 6 = .ok (.iconst 1, 1) := dk_4 (dk_at dksX4_image_0 6 rfl rfl)
theorem dX4_image_7 : decode cX4_image 7 = .ok (.putfield 220, 3) := dk_181 0 220 (dk_at dksX4_image_0 7 rfl rfl)
theorem dX4_image_10 : decode cX4_image 10 = .ok (.aload_n 0, 1) := dk_42 (dk_at dksX4_image_0 10 rfl rfl)
theorem dX4_image_11 : decode cX4_image 11 = .ok (.aload_n 0, 1) := dk_42 (dk_at dksX4_image_0 11 rfl rfl)
theorem dX4_image_12 : decode cX4_image 12 = .ok (.getfield 56, 3) := dk_180 0 56 (dk_at dksX4_image_0 12 rfl rfl)
theorem dX4_image_15 : decode cX4_image 15 = .ok (.iconst 1, 1) := dk_4 (dk_at dksX4_image_0 15 rfl rfl)
theorem dX4_image_16 : decode cX4_image 16 = .ok (.invokevirtual 216, 3) := dk_182 0 216 (dk_at dksX4_image_0 16 rfl rfl)
theorem dX4_image_19 : decode cX4_image 19 = .ok (.aload_n 0, 1) := dk_42 (dk_at dksX4_image_0 19 rfl rfl)
theorem dX4_image_20 : decode cX4_image 20 = .ok (.getfield 135, 3) := dk_180 0 135 (dk_at dksX4_image_0 20 rfl rfl)
theorem dX4_image_23 : decode cX4_image 23 = .ok (.ireturn, 1) := dk_172 (dk_at dksX4_image_0 23 rfl rfl)
abbrev cX4_restore : ByteArray := prog_21_method_40_code
def yX4_restore : MethodName := ⟨RX4, "restore", "()I"⟩
def dkwX4_restore_1 : List UInt8 := [42, 180, 0, 135, 172]
abbrev dktX4_restore_1 : List UInt8 := dkwX4_restore_1 ++ []
def dkwX4_restore_0 : List UInt8 := [42, 3, 181, 0, 77, 42, 180, 0, 220, 154, 0, 6, 16, 253, 172, 42, 42, 180, 0, 56, 3, 182, 0, 216]
abbrev dktX4_restore_0 : List UInt8 := dkwX4_restore_0 ++ dktX4_restore_1
theorem dksX4_restore_0 : cX4_restore.data.toList.drop 0 = dktX4_restore_0 := by decide +kernel
theorem dksX4_restore_1 : cX4_restore.data.toList.drop 24 = dktX4_restore_1 := dk_seg dksX4_restore_0 24 rfl rfl
theorem dX4_restore_0 : decode cX4_restore 0 = .ok (.aload_n 0, 1) := dk_42 (dk_at dksX4_restore_0 0 rfl rfl)
theorem dX4_restore_1 : decode cX4_restore 1 = .ok (.iconst 0, 1) := dk_3 (dk_at dksX4_restore_0 1 rfl rfl)
theorem dX4_restore_2 : decode cX4_restore 2 = .ok (.putfield 77, 3) := dk_181 0 77 (dk_at dksX4_restore_0 2 rfl rfl)
theorem dX4_restore_5 : decode cX4_restore 5 = .ok (.aload_n 0, 1) := dk_42 (dk_at dksX4_restore_0 5 rfl rfl)
theorem dX4_restore_6 : decode cX4_restore 6 = .ok (.getfield 220, 3) := dk_180 0 220 (dk_at dksX4_restore_0 6 rfl rfl)
theorem dX4_restore_9 : decode cX4_restore 9 = .ok (.ifCond .ne 6, 3) := dk_154 0 6 (dk_at dksX4_restore_0 9 rfl rfl)
theorem dX4_restore_12 : decode cX4_restore 12 = .ok (.bipush (-3), 2) := dk_16 253 (dk_at dksX4_restore_0 12 rfl rfl)
theorem dX4_restore_14 : decode cX4_restore 14 = .ok (.ireturn, 1) := dk_172 (dk_at dksX4_restore_0 14 rfl rfl)
theorem dX4_restore_15 : decode cX4_restore 15 = .ok (.aload_n 0, 1) := dk_42 (dk_at dksX4_restore_0 15 rfl rfl)
theorem dX4_restore_16 : decode cX4_restore 16 = .ok (.aload_n 0, 1) := dk_42 (dk_at dksX4_restore_0 16 rfl rfl)
theorem dX4_restore_17 : decode cX4_restore 17 = .ok (.getfield 56, 3) := dk_180 0 56 (dk_at dksX4_restore_0 17 rfl rfl)
theorem dX4_restore_20 : decode cX4_restore 20 = .ok (.iconst 0, 1) := dk_3 (dk_at dksX4_restore_0 20 rfl rfl)
theorem dX4_restore_21 : decode cX4_restore 21 = .ok (.invokevirtual 216, 3) := dk_182 0 216 (dk_at dksX4_restore_0 21 rfl rfl)
theorem dX4_restore_24 : decode cX4_restore 24 = .ok (.aload_n 0, 1) := dk_42 (dk_at dksX4_restore_1 0 rfl rfl)
theorem dX4_restore_25 : decode cX4_restore 25 = .ok (.getfield 135, 3) := dk_180 0 135 (dk_at dksX4_restore_1 1 rfl rfl)
theorem dX4_restore_28 : decode cX4_restore 28 = .ok (.ireturn, 1) := dk_172 (dk_at dksX4_restore_1 4 rfl rfl)
abbrev cX4_child : ByteArray := prog_21_method_41_code
def yX4_child : MethodName := ⟨RX4, "child", "(II)I"⟩
def dkwX4_child_5 : List UInt8 := [182, 0, 119, 172, 42, 27, 182, 0, 106, 172, 2, 172]
abbrev dktX4_child_5 : List UInt8 := dkwX4_child_5 ++ []
def dkwX4_child_4 : List UInt8 := [46, 16, 7, 160, 0, 7, 3, 167, 0, 8, 42, 27, 182, 0, 95, 172, 42, 27, 182, 0, 116, 172, 42, 27]
abbrev dktX4_child_4 : List UInt8 := dkwX4_child_4 ++ dktX4_child_5
def dkwX4_child_3 : List UInt8 := [180, 0, 19, 27, 46, 172, 42, 180, 0, 22, 27, 46, 172, 42, 27, 182, 0, 122, 172, 42, 180, 0, 19, 27]
abbrev dktX4_child_3 : List UInt8 := dkwX4_child_3 ++ dktX4_child_4
def dkwX4_child_2 : List UInt8 := [42, 180, 0, 7, 27, 46, 172, 42, 180, 0, 13, 27, 46, 172, 42, 180, 0, 16, 27, 46, 172, 42]
abbrev dktX4_child_2 : List UInt8 := dkwX4_child_2 ++ dktX4_child_3
def dkwX4_child_1 : List UInt8 := [170, 0, 0, 0, 0, 0, 0, 136, 0, 0, 0, 0, 0, 0, 0, 9, 0, 0, 0, 56, 0, 0, 0, 63, 0, 0, 0, 70, 0, 0, 0, 77, 0, 0, 0, 84, 0, 0, 0, 91, 0, 0, 0, 97, 0, 0, 0, 118, 0, 0, 0, 124, 0, 0, 0, 130]
abbrev dktX4_child_1 : List UInt8 := dkwX4_child_1 ++ dktX4_child_2
def dkwX4_child_0 : List UInt8 := [42, 3, 181, 0, 77, 42, 27, 182, 0, 99, 154, 0, 5, 2, 172, 28]
abbrev dktX4_child_0 : List UInt8 := dkwX4_child_0 ++ dktX4_child_1
theorem dksX4_child_0 : cX4_child.data.toList.drop 0 = dktX4_child_0 := by decide +kernel
theorem dksX4_child_1 : cX4_child.data.toList.drop 16 = dktX4_child_1 := dk_seg dksX4_child_0 16 rfl rfl
theorem dksX4_child_2 : cX4_child.data.toList.drop 72 = dktX4_child_2 := dk_seg dksX4_child_1 56 rfl rfl
theorem dksX4_child_3 : cX4_child.data.toList.drop 94 = dktX4_child_3 := dk_seg dksX4_child_2 22 rfl rfl
theorem dksX4_child_4 : cX4_child.data.toList.drop 118 = dktX4_child_4 := dk_seg dksX4_child_3 24 rfl rfl
theorem dksX4_child_5 : cX4_child.data.toList.drop 142 = dktX4_child_5 := dk_seg dksX4_child_4 24 rfl rfl
theorem dX4_child_0 : decode cX4_child 0 = .ok (.aload_n 0, 1) := dk_42 (dk_at dksX4_child_0 0 rfl rfl)
theorem dX4_child_1 : decode cX4_child 1 = .ok (.iconst 0, 1) := dk_3 (dk_at dksX4_child_0 1 rfl rfl)
theorem dX4_child_2 : decode cX4_child 2 = .ok (.putfield 77, 3) := dk_181 0 77 (dk_at dksX4_child_0 2 rfl rfl)
theorem dX4_child_5 : decode cX4_child 5 = .ok (.aload_n 0, 1) := dk_42 (dk_at dksX4_child_0 5 rfl rfl)
theorem dX4_child_6 : decode cX4_child 6 = .ok (.iload_n 1, 1) := dk_27 (dk_at dksX4_child_0 6 rfl rfl)
theorem dX4_child_7 : decode cX4_child 7 = .ok (.invokevirtual 99, 3) := dk_182 0 99 (dk_at dksX4_child_0 7 rfl rfl)
theorem dX4_child_10 : decode cX4_child 10 = .ok (.ifCond .ne 5, 3) := dk_154 0 5 (dk_at dksX4_child_0 10 rfl rfl)
theorem dX4_child_13 : decode cX4_child 13 = .ok (.iconst (-1), 1) := dk_2 (dk_at dksX4_child_0 13 rfl rfl)
theorem dX4_child_14 : decode cX4_child 14 = .ok (.ireturn, 1) := dk_172 (dk_at dksX4_child_0 14 rfl rfl)
theorem dX4_child_15 : decode cX4_child 15 = .ok (.iload_n 2, 1) := dk_28 (dk_at dksX4_child_0 15 rfl rfl)
theorem dX4_child_16 : decode cX4_child 16 = .ok (.tableswitch 136 0 9 #[56, 63, 70, 77, 84, 91, 97, 118, 124, 130], 56) := by decide +kernel
theorem dX4_child_72 : decode cX4_child 72 = .ok (.aload_n 0, 1) := dk_42 (dk_at dksX4_child_2 0 rfl rfl)
theorem dX4_child_73 : decode cX4_child 73 = .ok (.getfield 7, 3) := dk_180 0 7 (dk_at dksX4_child_2 1 rfl rfl)
theorem dX4_child_76 : decode cX4_child 76 = .ok (.iload_n 1, 1) := dk_27 (dk_at dksX4_child_2 4 rfl rfl)
theorem dX4_child_77 : decode cX4_child 77 = .ok (.iaload, 1) := dk_46 (dk_at dksX4_child_2 5 rfl rfl)
theorem dX4_child_78 : decode cX4_child 78 = .ok (.ireturn, 1) := dk_172 (dk_at dksX4_child_2 6 rfl rfl)
theorem dX4_child_79 : decode cX4_child 79 = .ok (.aload_n 0, 1) := dk_42 (dk_at dksX4_child_2 7 rfl rfl)
theorem dX4_child_80 : decode cX4_child 80 = .ok (.getfield 13, 3) := dk_180 0 13 (dk_at dksX4_child_2 8 rfl rfl)
theorem dX4_child_83 : decode cX4_child 83 = .ok (.iload_n 1, 1) := dk_27 (dk_at dksX4_child_2 11 rfl rfl)
theorem dX4_child_84 : decode cX4_child 84 = .ok (.iaload, 1) := dk_46 (dk_at dksX4_child_2 12 rfl rfl)
theorem dX4_child_85 : decode cX4_child 85 = .ok (.ireturn, 1) := dk_172 (dk_at dksX4_child_2 13 rfl rfl)
theorem dX4_child_86 : decode cX4_child 86 = .ok (.aload_n 0, 1) := dk_42 (dk_at dksX4_child_2 14 rfl rfl)
theorem dX4_child_87 : decode cX4_child 87 = .ok (.getfield 16, 3) := dk_180 0 16 (dk_at dksX4_child_2 15 rfl rfl)
theorem dX4_child_90 : decode cX4_child 90 = .ok (.iload_n 1, 1) := dk_27 (dk_at dksX4_child_2 18 rfl rfl)
theorem dX4_child_91 : decode cX4_child 91 = .ok (.iaload, 1) := dk_46 (dk_at dksX4_child_2 19 rfl rfl)
theorem dX4_child_92 : decode cX4_child 92 = .ok (.ireturn, 1) := dk_172 (dk_at dksX4_child_2 20 rfl rfl)
theorem dX4_child_93 : decode cX4_child 93 = .ok (.aload_n 0, 1) := dk_42 (dk_at dksX4_child_2 21 rfl rfl)
theorem dX4_child_94 : decode cX4_child 94 = .ok (.getfield 19, 3) := dk_180 0 19 (dk_at dksX4_child_3 0 rfl rfl)
theorem dX4_child_97 : decode cX4_child 97 = .ok (.iload_n 1, 1) := dk_27 (dk_at dksX4_child_3 3 rfl rfl)
theorem dX4_child_98 : decode cX4_child 98 = .ok (.iaload, 1) := dk_46 (dk_at dksX4_child_3 4 rfl rfl)
theorem dX4_child_99 : decode cX4_child 99 = .ok (.ireturn, 1) := dk_172 (dk_at dksX4_child_3 5 rfl rfl)
theorem dX4_child_100 : decode cX4_child 100 = .ok (.aload_n 0, 1) := dk_42 (dk_at dksX4_child_3 6 rfl rfl)
theorem dX4_child_101 : decode cX4_child 101 = .ok (.getfield 22, 3) := dk_180 0 22 (dk_at dksX4_child_3 7 rfl rfl)
theorem dX4_child_104 : decode cX4_child 104 = .ok (.iload_n 1, 1) := dk_27 (dk_at dksX4_child_3 10 rfl rfl)
theorem dX4_child_105 : decode cX4_child 105 = .ok (.iaload, 1) := dk_46 (dk_at dksX4_child_3 11 rfl rfl)
theorem dX4_child_106 : decode cX4_child 106 = .ok (.ireturn, 1) := dk_172 (dk_at dksX4_child_3 12 rfl rfl)
theorem dX4_child_107 : decode cX4_child 107 = .ok (.aload_n 0, 1) := dk_42 (dk_at dksX4_child_3 13 rfl rfl)
theorem dX4_child_108 : decode cX4_child 108 = .ok (.iload_n 1, 1) := dk_27 (dk_at dksX4_child_3 14 rfl rfl)
theorem dX4_child_109 : decode cX4_child 109 = .ok (.invokevirtual 122, 3) := dk_182 0 122 (dk_at dksX4_child_3 15 rfl rfl)
theorem dX4_child_112 : decode cX4_child 112 = .ok (.ireturn, 1) := dk_172 (dk_at dksX4_child_3 18 rfl rfl)
theorem dX4_child_113 : decode cX4_child 113 = .ok (.aload_n 0, 1) := dk_42 (dk_at dksX4_child_3 19 rfl rfl)
theorem dX4_child_114 : decode cX4_child 114 = .ok (.getfield 19, 3) := dk_180 0 19 (dk_at dksX4_child_3 20 rfl rfl)
theorem dX4_child_117 : decode cX4_child 117 = .ok (.iload_n 1, 1) := dk_27 (dk_at dksX4_child_3 23 rfl rfl)
theorem dX4_child_118 : decode cX4_child 118 = .ok (.iaload, 1) := dk_46 (dk_at dksX4_child_4 0 rfl rfl)
theorem dX4_child_119 : decode cX4_child 119 = .ok (.bipush 7, 2) := dk_16 7 (dk_at dksX4_child_4 1 rfl rfl)
theorem dX4_child_121 : decode cX4_child 121 = .ok (.if_icmp .ne 7, 3) := dk_160 0 7 (dk_at dksX4_child_4 3 rfl rfl)
theorem dX4_child_124 : decode cX4_child 124 = .ok (.iconst 0, 1) := dk_3 (dk_at dksX4_child_4 6 rfl rfl)
theorem dX4_child_125 : decode cX4_child 125 = .ok (.goto 8, 3) := dk_167 0 8 (dk_at dksX4_child_4 7 rfl rfl)
theorem dX4_child_128 : decode cX4_child 128 = .ok (.aload_n 0, 1) := dk_42 (dk_at dksX4_child_4 10 rfl rfl)
theorem dX4_child_129 : decode cX4_child 129 = .ok (.iload_n 1, 1) := dk_27 (dk_at dksX4_child_4 11 rfl rfl)
theorem dX4_child_130 : decode cX4_child 130 = .ok (.invokevirtual 95, 3) := dk_182 0 95 (dk_at dksX4_child_4 12 rfl rfl)
theorem dX4_child_133 : decode cX4_child 133 = .ok (.ireturn, 1) := dk_172 (dk_at dksX4_child_4 15 rfl rfl)
theorem dX4_child_134 : decode cX4_child 134 = .ok (.aload_n 0, 1) := dk_42 (dk_at dksX4_child_4 16 rfl rfl)
theorem dX4_child_135 : decode cX4_child 135 = .ok (.iload_n 1, 1) := dk_27 (dk_at dksX4_child_4 17 rfl rfl)
theorem dX4_child_136 : decode cX4_child 136 = .ok (.invokevirtual 116, 3) := dk_182 0 116 (dk_at dksX4_child_4 18 rfl rfl)
theorem dX4_child_139 : decode cX4_child 139 = .ok (.ireturn, 1) := dk_172 (dk_at dksX4_child_4 21 rfl rfl)
theorem dX4_child_140 : decode cX4_child 140 = .ok (.aload_n 0, 1) := dk_42 (dk_at dksX4_child_4 22 rfl rfl)
theorem dX4_child_141 : decode cX4_child 141 = .ok (.iload_n 1, 1) := dk_27 (dk_at dksX4_child_4 23 rfl rfl)
theorem dX4_child_142 : decode cX4_child 142 = .ok (.invokevirtual 119, 3) := dk_182 0 119 (dk_at dksX4_child_5 0 rfl rfl)
theorem dX4_child_145 : decode cX4_child 145 = .ok (.ireturn, 1) := dk_172 (dk_at dksX4_child_5 3 rfl rfl)
theorem dX4_child_146 : decode cX4_child 146 = .ok (.aload_n 0, 1) := dk_42 (dk_at dksX4_child_5 4 rfl rfl)
theorem dX4_child_147 : decode cX4_child 147 = .ok (.iload_n 1, 1) := dk_27 (dk_at dksX4_child_5 5 rfl rfl)
theorem dX4_child_148 : decode cX4_child 148 = .ok (.invokevirtual 106, 3) := dk_182 0 106 (dk_at dksX4_child_5 6 rfl rfl)
theorem dX4_child_151 : decode cX4_child 151 = .ok (.ireturn, 1) := dk_172 (dk_at dksX4_child_5 9 rfl rfl)
theorem dX4_child_152 : decode cX4_child 152 = .ok (.iconst (-1), 1) := dk_2 (dk_at dksX4_child_5 10 rfl rfl)
theorem dX4_child_153 : decode cX4_child 153 = .ok (.ireturn, 1) := dk_172 (dk_at dksX4_child_5 11 rfl rfl)
abbrev cX4_comes : ByteArray := prog_21_method_43_code
def yX4_comes : MethodName := ⟨RX4, "comes", "(II)I"⟩
def dkwX4_comes_2 : List UInt8 := [28, 182, 0, 175, 153, 0, 12, 42, 180, 0, 81, 4, 100, 167, 0, 5, 16, 254, 172]
abbrev dktX4_comes_2 : List UInt8 := dkwX4_comes_2 ++ []
def dkwX4_comes_1 : List UInt8 := [167, 0, 4, 2, 62, 29, 156, 0, 5, 29, 172, 42, 42, 180, 0, 28, 27, 46, 42, 180, 0, 31, 27, 46]
abbrev dktX4_comes_1 : List UInt8 := dkwX4_comes_1 ++ dktX4_comes_2
def dkwX4_comes_0 : List UInt8 := [42, 3, 181, 0, 77, 28, 133, 9, 20, 0, 225, 184, 0, 84, 153, 0, 11, 42, 27, 182, 0, 227]
abbrev dktX4_comes_0 : List UInt8 := dkwX4_comes_0 ++ dktX4_comes_1
theorem dksX4_comes_0 : cX4_comes.data.toList.drop 0 = dktX4_comes_0 := by decide +kernel
theorem dksX4_comes_1 : cX4_comes.data.toList.drop 22 = dktX4_comes_1 := dk_seg dksX4_comes_0 22 rfl rfl
theorem dksX4_comes_2 : cX4_comes.data.toList.drop 46 = dktX4_comes_2 := dk_seg dksX4_comes_1 24 rfl rfl
theorem dX4_comes_0 : decode cX4_comes 0 = .ok (.aload_n 0, 1) := dk_42 (dk_at dksX4_comes_0 0 rfl rfl)
theorem dX4_comes_1 : decode cX4_comes 1 = .ok (.iconst 0, 1) := dk_3 (dk_at dksX4_comes_0 1 rfl rfl)
theorem dX4_comes_2 : decode cX4_comes 2 = .ok (.putfield 77, 3) := dk_181 0 77 (dk_at dksX4_comes_0 2 rfl rfl)
theorem dX4_comes_5 : decode cX4_comes 5 = .ok (.iload_n 2, 1) := dk_28 (dk_at dksX4_comes_0 5 rfl rfl)
theorem dX4_comes_6 : decode cX4_comes 6 = .ok (.i2l, 1) := dk_133 (dk_at dksX4_comes_0 6 rfl rfl)
theorem dX4_comes_7 : decode cX4_comes 7 = .ok (.lconst 0, 1) := dk_9 (dk_at dksX4_comes_0 7 rfl rfl)
theorem dX4_comes_8 : decode cX4_comes 8 = .ok (.ldc2_w 225, 3) := dk_20 0 225 (dk_at dksX4_comes_0 8 rfl rfl)
theorem dX4_comes_11 : decode cX4_comes 11 = .ok (.invokestatic 84, 3) := dk_184 0 84 (dk_at dksX4_comes_0 11 rfl rfl)
theorem dX4_comes_14 : decode cX4_comes 14 = .ok (.ifCond .eq 11, 3) := dk_153 0 11 (dk_at dksX4_comes_0 14 rfl rfl)
theorem dX4_comes_17 : decode cX4_comes 17 = .ok (.aload_n 0, 1) := dk_42 (dk_at dksX4_comes_0 17 rfl rfl)
theorem dX4_comes_18 : decode cX4_comes 18 = .ok (.iload_n 1, 1) := dk_27 (dk_at dksX4_comes_0 18 rfl rfl)
theorem dX4_comes_19 : decode cX4_comes 19 = .ok (.invokevirtual 227, 3) := dk_182 0 227 (dk_at dksX4_comes_0 19 rfl rfl)
theorem dX4_comes_22 : decode cX4_comes 22 = .ok (.goto 4, 3) := dk_167 0 4 (dk_at dksX4_comes_1 0 rfl rfl)
theorem dX4_comes_25 : decode cX4_comes 25 = .ok (.iconst (-1), 1) := dk_2 (dk_at dksX4_comes_1 3 rfl rfl)
theorem dX4_comes_26 : decode cX4_comes 26 = .ok (.istore_n 3, 1) := dk_62 (dk_at dksX4_comes_1 4 rfl rfl)
theorem dX4_comes_27 : decode cX4_comes 27 = .ok (.iload_n 3, 1) := dk_29 (dk_at dksX4_comes_1 5 rfl rfl)
theorem dX4_comes_28 : decode cX4_comes 28 = .ok (.ifCond .ge 5, 3) := dk_156 0 5 (dk_at dksX4_comes_1 6 rfl rfl)
theorem dX4_comes_31 : decode cX4_comes 31 = .ok (.iload_n 3, 1) := dk_29 (dk_at dksX4_comes_1 9 rfl rfl)
theorem dX4_comes_32 : decode cX4_comes 32 = .ok (.ireturn, 1) := dk_172 (dk_at dksX4_comes_1 10 rfl rfl)
theorem dX4_comes_33 : decode cX4_comes 33 = .ok (.aload_n 0, 1) := dk_42 (dk_at dksX4_comes_1 11 rfl rfl)
theorem dX4_comes_34 : decode cX4_comes 34 = .ok (.aload_n 0, 1) := dk_42 (dk_at dksX4_comes_1 12 rfl rfl)
theorem dX4_comes_35 : decode cX4_comes 35 = .ok (.getfield 28, 3) := dk_180 0 28 (dk_at dksX4_comes_1 13 rfl rfl)
theorem dX4_comes_38 : decode cX4_comes 38 = .ok (.iload_n 1, 1) := dk_27 (dk_at dksX4_comes_1 16 rfl rfl)
theorem dX4_comes_39 : decode cX4_comes 39 = .ok (.iaload, 1) := dk_46 (dk_at dksX4_comes_1 17 rfl rfl)
theorem dX4_comes_40 : decode cX4_comes 40 = .ok (.aload_n 0, 1) := dk_42 (dk_at dksX4_comes_1 18 rfl rfl)
theorem dX4_comes_41 : decode cX4_comes 41 = .ok (.getfield 31, 3) := dk_180 0 31 (dk_at dksX4_comes_1 19 rfl rfl)
theorem dX4_comes_44 : decode cX4_comes 44 = .ok (.iload_n 1, 1) := dk_27 (dk_at dksX4_comes_1 22 rfl rfl)
theorem dX4_comes_45 : decode cX4_comes 45 = .ok (.iaload, 1) := dk_46 (dk_at dksX4_comes_1 23 rfl rfl)
theorem dX4_comes_46 : decode cX4_comes 46 = .ok (.iload_n 2, 1) := dk_28 (dk_at dksX4_comes_2 0 rfl rfl)
theorem dX4_comes_47 : decode cX4_comes 47 = .ok (.invokevirtual 175, 3) := dk_182 0 175 (dk_at dksX4_comes_2 1 rfl rfl)
theorem dX4_comes_50 : decode cX4_comes 50 = .ok (.ifCond .eq 12, 3) := dk_153 0 12 (dk_at dksX4_comes_2 4 rfl rfl)
theorem dX4_comes_53 : decode cX4_comes 53 = .ok (.aload_n 0, 1) := dk_42 (dk_at dksX4_comes_2 7 rfl rfl)
theorem dX4_comes_54 : decode cX4_comes 54 = .ok (.getfield 81, 3) := dk_180 0 81 (dk_at dksX4_comes_2 8 rfl rfl)
theorem dX4_comes_57 : decode cX4_comes 57 = .ok (.iconst 1, 1) := dk_4 (dk_at dksX4_comes_2 11 rfl rfl)
theorem dX4_comes_58 : decode cX4_comes 58 = .ok (.isub, 1) := dk_100 (dk_at dksX4_comes_2 12 rfl rfl)
theorem dX4_comes_59 : decode cX4_comes 59 = .ok (.goto 5, 3) := dk_167 0 5 (dk_at dksX4_comes_2 13 rfl rfl)
theorem dX4_comes_62 : decode cX4_comes 62 = .ok (.bipush (-2), 2) := dk_16 254 (dk_at dksX4_comes_2 16 rfl rfl)
theorem dX4_comes_64 : decode cX4_comes 64 = .ok (.ireturn, 1) := dk_172 (dk_at dksX4_comes_2 18 rfl rfl)
abbrev cX4_wrongKept : ByteArray := prog_21_method_42_code
def yX4_wrongKept : MethodName := ⟨RX4, "wrongKept", "(I)I"⟩
def dkwX4_wrongKept_2 : List UInt8 := [172]
abbrev dktX4_wrongKept_2 : List UInt8 := dkwX4_wrongKept_2 ++ []
def dkwX4_wrongKept_1 : List UInt8 := [154, 0, 8, 16, 245, 167, 0, 19, 42, 180, 0, 25, 27, 46, 4, 159, 0, 8, 16, 244, 167, 0, 4, 3]
abbrev dktX4_wrongKept_1 : List UInt8 := dkwX4_wrongKept_1 ++ dktX4_wrongKept_2
def dkwX4_wrongKept_0 : List UInt8 := [27, 133, 9, 20, 0, 223, 184, 0, 84, 154, 0, 7, 2, 167, 0, 33, 42, 180, 0, 25, 27, 46]
abbrev dktX4_wrongKept_0 : List UInt8 := dkwX4_wrongKept_0 ++ dktX4_wrongKept_1
theorem dksX4_wrongKept_0 : cX4_wrongKept.data.toList.drop 0 = dktX4_wrongKept_0 := by decide +kernel
theorem dksX4_wrongKept_1 : cX4_wrongKept.data.toList.drop 22 = dktX4_wrongKept_1 := dk_seg dksX4_wrongKept_0 22 rfl rfl
theorem dksX4_wrongKept_2 : cX4_wrongKept.data.toList.drop 46 = dktX4_wrongKept_2 := dk_seg dksX4_wrongKept_1 24 rfl rfl
theorem dX4_wrongKept_0 : decode cX4_wrongKept 0 = .ok (.iload_n 1, 1) := dk_27 (dk_at dksX4_wrongKept_0 0 rfl rfl)
theorem dX4_wrongKept_1 : decode cX4_wrongKept 1 = .ok (.i2l, 1) := dk_133 (dk_at dksX4_wrongKept_0 1 rfl rfl)
theorem dX4_wrongKept_2 : decode cX4_wrongKept 2 = .ok (.lconst 0, 1) := dk_9 (dk_at dksX4_wrongKept_0 2 rfl rfl)
theorem dX4_wrongKept_3 : decode cX4_wrongKept 3 = .ok (.ldc2_w 223, 3) := dk_20 0 223 (dk_at dksX4_wrongKept_0 3 rfl rfl)
theorem dX4_wrongKept_6 : decode cX4_wrongKept 6 = .ok (.invokestatic 84, 3) := dk_184 0 84 (dk_at dksX4_wrongKept_0 6 rfl rfl)
theorem dX4_wrongKept_9 : decode cX4_wrongKept 9 = .ok (.ifCond .ne 7, 3) := dk_154 0 7 (dk_at dksX4_wrongKept_0 9 rfl rfl)
theorem dX4_wrongKept_12 : decode cX4_wrongKept 12 = .ok (.iconst (-1), 1) := dk_2 (dk_at dksX4_wrongKept_0 12 rfl rfl)
theorem dX4_wrongKept_13 : decode cX4_wrongKept 13 = .ok (.goto 33, 3) := dk_167 0 33 (dk_at dksX4_wrongKept_0 13 rfl rfl)
theorem dX4_wrongKept_16 : decode cX4_wrongKept 16 = .ok (.aload_n 0, 1) := dk_42 (dk_at dksX4_wrongKept_0 16 rfl rfl)
theorem dX4_wrongKept_17 : decode cX4_wrongKept 17 = .ok (.getfield 25, 3) := dk_180 0 25 (dk_at dksX4_wrongKept_0 17 rfl rfl)
theorem dX4_wrongKept_20 : decode cX4_wrongKept 20 = .ok (.iload_n 1, 1) := dk_27 (dk_at dksX4_wrongKept_0 20 rfl rfl)
theorem dX4_wrongKept_21 : decode cX4_wrongKept 21 = .ok (.iaload, 1) := dk_46 (dk_at dksX4_wrongKept_0 21 rfl rfl)
theorem dX4_wrongKept_22 : decode cX4_wrongKept 22 = .ok (.ifCond .ne 8, 3) := dk_154 0 8 (dk_at dksX4_wrongKept_1 0 rfl rfl)
theorem dX4_wrongKept_25 : decode cX4_wrongKept 25 = .ok (.bipush (-11), 2) := dk_16 245 (dk_at dksX4_wrongKept_1 3 rfl rfl)
theorem dX4_wrongKept_27 : decode cX4_wrongKept 27 = .ok (.goto 19, 3) := dk_167 0 19 (dk_at dksX4_wrongKept_1 5 rfl rfl)
theorem dX4_wrongKept_30 : decode cX4_wrongKept 30 = .ok (.aload_n 0, 1) := dk_42 (dk_at dksX4_wrongKept_1 8 rfl rfl)
theorem dX4_wrongKept_31 : decode cX4_wrongKept 31 = .ok (.getfield 25, 3) := dk_180 0 25 (dk_at dksX4_wrongKept_1 9 rfl rfl)
theorem dX4_wrongKept_34 : decode cX4_wrongKept 34 = .ok (.iload_n 1, 1) := dk_27 (dk_at dksX4_wrongKept_1 12 rfl rfl)
theorem dX4_wrongKept_35 : decode cX4_wrongKept 35 = .ok (.iaload, 1) := dk_46 (dk_at dksX4_wrongKept_1 13 rfl rfl)
theorem dX4_wrongKept_36 : decode cX4_wrongKept 36 = .ok (.iconst 1, 1) := dk_4 (dk_at dksX4_wrongKept_1 14 rfl rfl)
theorem dX4_wrongKept_37 : decode cX4_wrongKept 37 = .ok (.if_icmp .eq 8, 3) := dk_159 0 8 (dk_at dksX4_wrongKept_1 15 rfl rfl)
theorem dX4_wrongKept_40 : decode cX4_wrongKept 40 = .ok (.bipush (-12), 2) := dk_16 244 (dk_at dksX4_wrongKept_1 18 rfl rfl)
theorem dX4_wrongKept_42 : decode cX4_wrongKept 42 = .ok (.goto 4, 3) := dk_167 0 4 (dk_at dksX4_wrongKept_1 20 rfl rfl)
theorem dX4_wrongKept_45 : decode cX4_wrongKept 45 = .ok (.iconst 0, 1) := dk_3 (dk_at dksX4_wrongKept_1 23 rfl rfl)
theorem dX4_wrongKept_46 : decode cX4_wrongKept 46 = .ok (.ireturn, 1) := dk_172 (dk_at dksX4_wrongKept_2 0 rfl rfl)
abbrev cX4_feels : ByteArray := prog_21_method_44_code
def yX4_feels : MethodName := ⟨RX4, "feels", "(III)I"⟩
def dkwX4_feels_3 : List UInt8 := [42, 180, 0, 16, 27, 29, 79, 167, 0, 10, 42, 180, 0, 19, 27, 29, 79, 21, 4, 172]
abbrev dktX4_feels_3 : List UInt8 := dkwX4_feels_3 ++ []
def dkwX4_feels_2 : List UInt8 := [154, 0, 12, 42, 180, 0, 16, 27, 46, 167, 0, 9, 42, 180, 0, 19, 27, 46, 54, 4, 28, 154, 0, 13]
abbrev dktX4_feels_2 : List UInt8 := dkwX4_feels_2 ++ dktX4_feels_3
def dkwX4_feels_1 : List UInt8 := [133, 9, 28, 154, 0, 9, 20, 0, 225, 167, 0, 6, 20, 0, 223, 184, 0, 84, 154, 0, 5, 2, 172, 28]
abbrev dktX4_feels_1 : List UInt8 := dkwX4_feels_1 ++ dktX4_feels_2
def dkwX4_feels_0 : List UInt8 := [42, 3, 181, 0, 77, 42, 27, 182, 0, 99, 153, 0, 35, 28, 133, 9, 10, 184, 0, 84, 153, 0, 25, 29]
abbrev dktX4_feels_0 : List UInt8 := dkwX4_feels_0 ++ dktX4_feels_1
theorem dksX4_feels_0 : cX4_feels.data.toList.drop 0 = dktX4_feels_0 := by decide +kernel
theorem dksX4_feels_1 : cX4_feels.data.toList.drop 24 = dktX4_feels_1 := dk_seg dksX4_feels_0 24 rfl rfl
theorem dksX4_feels_2 : cX4_feels.data.toList.drop 48 = dktX4_feels_2 := dk_seg dksX4_feels_1 24 rfl rfl
theorem dksX4_feels_3 : cX4_feels.data.toList.drop 72 = dktX4_feels_3 := dk_seg dksX4_feels_2 24 rfl rfl
theorem dX4_feels_0 : decode cX4_feels 0 = .ok (.aload_n 0, 1) := dk_42 (dk_at dksX4_feels_0 0 rfl rfl)
theorem dX4_feels_1 : decode cX4_feels 1 = .ok (.iconst 0, 1) := dk_3 (dk_at dksX4_feels_0 1 rfl rfl)
theorem dX4_feels_2 : decode cX4_feels 2 = .ok (.putfield 77, 3) := dk_181 0 77 (dk_at dksX4_feels_0 2 rfl rfl)
theorem dX4_feels_5 : decode cX4_feels 5 = .ok (.aload_n 0, 1) := dk_42 (dk_at dksX4_feels_0 5 rfl rfl)
theorem dX4_feels_6 : decode cX4_feels 6 = .ok (.iload_n 1, 1) := dk_27 (dk_at dksX4_feels_0 6 rfl rfl)
theorem dX4_feels_7 : decode cX4_feels 7 = .ok (.invokevirtual 99, 3) := dk_182 0 99 (dk_at dksX4_feels_0 7 rfl rfl)
theorem dX4_feels_10 : decode cX4_feels 10 = .ok (.ifCond .eq 35, 3) := dk_153 0 35 (dk_at dksX4_feels_0 10 rfl rfl)
theorem dX4_feels_13 : decode cX4_feels 13 = .ok (.iload_n 2, 1) := dk_28 (dk_at dksX4_feels_0 13 rfl rfl)
theorem dX4_feels_14 : decode cX4_feels 14 = .ok (.i2l, 1) := dk_133 (dk_at dksX4_feels_0 14 rfl rfl)
theorem dX4_feels_15 : decode cX4_feels 15 = .ok (.lconst 0, 1) := dk_9 (dk_at dksX4_feels_0 15 rfl rfl)
theorem dX4_feels_16 : decode cX4_feels 16 = .ok (.lconst 1, 1) := dk_10 (dk_at dksX4_feels_0 16 rfl rfl)
theorem dX4_feels_17 : decode cX4_feels 17 = .ok (.invokestatic 84, 3) := dk_184 0 84 (dk_at dksX4_feels_0 17 rfl rfl)
theorem dX4_feels_20 : decode cX4_feels 20 = .ok (.ifCond .eq 25, 3) := dk_153 0 25 (dk_at dksX4_feels_0 20 rfl rfl)
theorem dX4_feels_23 : decode cX4_feels 23 = .ok (.iload_n 3, 1) := dk_29 (dk_at dksX4_feels_0 23 rfl rfl)
theorem dX4_feels_24 : decode cX4_feels 24 = .ok (.i2l, 1) := dk_133 (dk_at dksX4_feels_1 0 rfl rfl)
theorem dX4_feels_25 : decode cX4_feels 25 = .ok (.lconst 0, 1) := dk_9 (dk_at dksX4_feels_1 1 rfl rfl)
theorem dX4_feels_26 : decode cX4_feels 26 = .ok (.iload_n 2, 1) := dk_28 (dk_at dksX4_feels_1 2 rfl rfl)
theorem dX4_feels_27 : decode cX4_feels 27 = .ok (.ifCond .ne 9, 3) := dk_154 0 9 (dk_at dksX4_feels_1 3 rfl rfl)
theorem dX4_feels_30 : decode cX4_feels 30 = .ok (.ldc2_w 225, 3) := dk_20 0 225 (dk_at dksX4_feels_1 6 rfl rfl)
theorem dX4_feels_33 : decode cX4_feels 33 = .ok (.goto 6, 3) := dk_167 0 6 (dk_at dksX4_feels_1 9 rfl rfl)
theorem dX4_feels_36 : decode cX4_feels 36 = .ok (.ldc2_w 223, 3) := dk_20 0 223 (dk_at dksX4_feels_1 12 rfl rfl)
theorem dX4_feels_39 : decode cX4_feels 39 = .ok (.invokestatic 84, 3) := dk_184 0 84 (dk_at dksX4_feels_1 15 rfl rfl)
theorem dX4_feels_42 : decode cX4_feels 42 = .ok (.ifCond .ne 5, 3) := dk_154 0 5 (dk_at dksX4_feels_1 18 rfl rfl)
theorem dX4_feels_45 : decode cX4_feels 45 = .ok (.iconst (-1), 1) := dk_2 (dk_at dksX4_feels_1 21 rfl rfl)
theorem dX4_feels_46 : decode cX4_feels 46 = .ok (.ireturn, 1) := dk_172 (dk_at dksX4_feels_1 22 rfl rfl)
theorem dX4_feels_47 : decode cX4_feels 47 = .ok (.iload_n 2, 1) := dk_28 (dk_at dksX4_feels_1 23 rfl rfl)
theorem dX4_feels_48 : decode cX4_feels 48 = .ok (.ifCond .ne 12, 3) := dk_154 0 12 (dk_at dksX4_feels_2 0 rfl rfl)
theorem dX4_feels_51 : decode cX4_feels 51 = .ok (.aload_n 0, 1) := dk_42 (dk_at dksX4_feels_2 3 rfl rfl)
theorem dX4_feels_52 : decode cX4_feels 52 = .ok (.getfield 16, 3) := dk_180 0 16 (dk_at dksX4_feels_2 4 rfl rfl)
theorem dX4_feels_55 : decode cX4_feels 55 = .ok (.iload_n 1, 1) := dk_27 (dk_at dksX4_feels_2 7 rfl rfl)
theorem dX4_feels_56 : decode cX4_feels 56 = .ok (.iaload, 1) := dk_46 (dk_at dksX4_feels_2 8 rfl rfl)
theorem dX4_feels_57 : decode cX4_feels 57 = .ok (.goto 9, 3) := dk_167 0 9 (dk_at dksX4_feels_2 9 rfl rfl)
theorem dX4_feels_60 : decode cX4_feels 60 = .ok (.aload_n 0, 1) := dk_42 (dk_at dksX4_feels_2 12 rfl rfl)
theorem dX4_feels_61 : decode cX4_feels 61 = .ok (.getfield 19, 3) := dk_180 0 19 (dk_at dksX4_feels_2 13 rfl rfl)
theorem dX4_feels_64 : decode cX4_feels 64 = .ok (.iload_n 1, 1) := dk_27 (dk_at dksX4_feels_2 16 rfl rfl)
theorem dX4_feels_65 : decode cX4_feels 65 = .ok (.iaload, 1) := dk_46 (dk_at dksX4_feels_2 17 rfl rfl)
theorem dX4_feels_66 : decode cX4_feels 66 = .ok (.istore 4, 2) := dk_54 4 (dk_at dksX4_feels_2 18 rfl rfl)
theorem dX4_feels_68 : decode cX4_feels 68 = .ok (.iload_n 2, 1) := dk_28 (dk_at dksX4_feels_2 20 rfl rfl)
theorem dX4_feels_69 : decode cX4_feels 69 = .ok (.ifCond .ne 13, 3) := dk_154 0 13 (dk_at dksX4_feels_2 21 rfl rfl)
theorem dX4_feels_72 : decode cX4_feels 72 = .ok (.aload_n 0, 1) := dk_42 (dk_at dksX4_feels_3 0 rfl rfl)
theorem dX4_feels_73 : decode cX4_feels 73 = .ok (.getfield 16, 3) := dk_180 0 16 (dk_at dksX4_feels_3 1 rfl rfl)
theorem dX4_feels_76 : decode cX4_feels 76 = .ok (.iload_n 1, 1) := dk_27 (dk_at dksX4_feels_3 4 rfl rfl)
theorem dX4_feels_77 : decode cX4_feels 77 = .ok (.iload_n 3, 1) := dk_29 (dk_at dksX4_feels_3 5 rfl rfl)
theorem dX4_feels_78 : decode cX4_feels 78 = .ok (.iastore, 1) := dk_79 (dk_at dksX4_feels_3 6 rfl rfl)
theorem dX4_feels_79 : decode cX4_feels 79 = .ok (.goto 10, 3) := dk_167 0 10 (dk_at dksX4_feels_3 7 rfl rfl)
theorem dX4_feels_82 : decode cX4_feels 82 = .ok (.aload_n 0, 1) := dk_42 (dk_at dksX4_feels_3 10 rfl rfl)
theorem dX4_feels_83 : decode cX4_feels 83 = .ok (.getfield 19, 3) := dk_180 0 19 (dk_at dksX4_feels_3 11 rfl rfl)
theorem dX4_feels_86 : decode cX4_feels 86 = .ok (.iload_n 1, 1) := dk_27 (dk_at dksX4_feels_3 14 rfl rfl)
theorem dX4_feels_87 : decode cX4_feels 87 = .ok (.iload_n 3, 1) := dk_29 (dk_at dksX4_feels_3 15 rfl rfl)
theorem dX4_feels_88 : decode cX4_feels 88 = .ok (.iastore, 1) := dk_79 (dk_at dksX4_feels_3 16 rfl rfl)
theorem dX4_feels_89 : decode cX4_feels 89 = .ok (.iload 4, 2) := dk_21 4 (dk_at dksX4_feels_3 17 rfl rfl)
theorem dX4_feels_91 : decode cX4_feels 91 = .ok (.ireturn, 1) := dk_172 (dk_at dksX4_feels_3 19 rfl rfl)
abbrev cX4_minute : ByteArray := prog_21_method_45_code
def yX4_minute : MethodName := ⟨RX4, "minute", "(II)I"⟩
def dkwX4_minute_2 : List UInt8 := [16, 253, 172]
abbrev dktX4_minute_2 : List UInt8 := dkwX4_minute_2 ++ []
def dkwX4_minute_1 : List UInt8 := [154, 0, 5, 2, 172, 42, 27, 28, 182, 0, 179, 153, 0, 12, 42, 180, 0, 16, 27, 46, 167, 0, 5]
abbrev dktX4_minute_1 : List UInt8 := dkwX4_minute_1 ++ dktX4_minute_2
def dkwX4_minute_0 : List UInt8 := [42, 3, 181, 0, 77, 42, 27, 182, 0, 99, 153, 0, 15, 28, 133, 9, 20, 0, 230, 184, 0, 84]
abbrev dktX4_minute_0 : List UInt8 := dkwX4_minute_0 ++ dktX4_minute_1
theorem dksX4_minute_0 : cX4_minute.data.toList.drop 0 = dktX4_minute_0 := by decide +kernel
theorem dksX4_minute_1 : cX4_minute.data.toList.drop 22 = dktX4_minute_1 := dk_seg dksX4_minute_0 22 rfl rfl
theorem dksX4_minute_2 : cX4_minute.data.toList.drop 45 = dktX4_minute_2 := dk_seg dksX4_minute_1 23 rfl rfl
theorem dX4_minute_0 : decode cX4_minute 0 = .ok (.aload_n 0, 1) := dk_42 (dk_at dksX4_minute_0 0 rfl rfl)
theorem dX4_minute_1 : decode cX4_minute 1 = .ok (.iconst 0, 1) := dk_3 (dk_at dksX4_minute_0 1 rfl rfl)
theorem dX4_minute_2 : decode cX4_minute 2 = .ok (.putfield 77, 3) := dk_181 0 77 (dk_at dksX4_minute_0 2 rfl rfl)
theorem dX4_minute_5 : decode cX4_minute 5 = .ok (.aload_n 0, 1) := dk_42 (dk_at dksX4_minute_0 5 rfl rfl)
theorem dX4_minute_6 : decode cX4_minute 6 = .ok (.iload_n 1, 1) := dk_27 (dk_at dksX4_minute_0 6 rfl rfl)
theorem dX4_minute_7 : decode cX4_minute 7 = .ok (.invokevirtual 99, 3) := dk_182 0 99 (dk_at dksX4_minute_0 7 rfl rfl)
theorem dX4_minute_10 : decode cX4_minute 10 = .ok (.ifCond .eq 15, 3) := dk_153 0 15 (dk_at dksX4_minute_0 10 rfl rfl)
theorem dX4_minute_13 : decode cX4_minute 13 = .ok (.iload_n 2, 1) := dk_28 (dk_at dksX4_minute_0 13 rfl rfl)
theorem dX4_minute_14 : decode cX4_minute 14 = .ok (.i2l, 1) := dk_133 (dk_at dksX4_minute_0 14 rfl rfl)
theorem dX4_minute_15 : decode cX4_minute 15 = .ok (.lconst 0, 1) := dk_9 (dk_at dksX4_minute_0 15 rfl rfl)
theorem dX4_minute_16 : decode cX4_minute 16 = .ok (.ldc2_w 230, 3) := dk_20 0 230 (dk_at dksX4_minute_0 16 rfl rfl)
theorem dX4_minute_19 : decode cX4_minute 19 = .ok (.invokestatic 84, 3) := dk_184 0 84 (dk_at dksX4_minute_0 19 rfl rfl)
theorem dX4_minute_22 : decode cX4_minute 22 = .ok (.ifCond .ne 5, 3) := dk_154 0 5 (dk_at dksX4_minute_1 0 rfl rfl)
theorem dX4_minute_25 : decode cX4_minute 25 = .ok (.iconst (-1), 1) := dk_2 (dk_at dksX4_minute_1 3 rfl rfl)
theorem dX4_minute_26 : decode cX4_minute 26 = .ok (.ireturn, 1) := dk_172 (dk_at dksX4_minute_1 4 rfl rfl)
theorem dX4_minute_27 : decode cX4_minute 27 = .ok (.aload_n 0, 1) := dk_42 (dk_at dksX4_minute_1 5 rfl rfl)
theorem dX4_minute_28 : decode cX4_minute 28 = .ok (.iload_n 1, 1) := dk_27 (dk_at dksX4_minute_1 6 rfl rfl)
theorem dX4_minute_29 : decode cX4_minute 29 = .ok (.iload_n 2, 1) := dk_28 (dk_at dksX4_minute_1 7 rfl rfl)
theorem dX4_minute_30 : decode cX4_minute 30 = .ok (.invokevirtual 179, 3) := dk_182 0 179 (dk_at dksX4_minute_1 8 rfl rfl)
theorem dX4_minute_33 : decode cX4_minute 33 = .ok (.ifCond .eq 12, 3) := dk_153 0 12 (dk_at dksX4_minute_1 11 rfl rfl)
theorem dX4_minute_36 : decode cX4_minute 36 = .ok (.aload_n 0, 1) := dk_42 (dk_at dksX4_minute_1 14 rfl rfl)
theorem dX4_minute_37 : decode cX4_minute 37 = .ok (.getfield 16, 3) := dk_180 0 16 (dk_at dksX4_minute_1 15 rfl rfl)
theorem dX4_minute_40 : decode cX4_minute 40 = .ok (.iload_n 1, 1) := dk_27 (dk_at dksX4_minute_1 18 rfl rfl)
theorem dX4_minute_41 : decode cX4_minute 41 = .ok (.iaload, 1) := dk_46 (dk_at dksX4_minute_1 19 rfl rfl)
theorem dX4_minute_42 : decode cX4_minute 42 = .ok (.goto 5, 3) := dk_167 0 5 (dk_at dksX4_minute_1 20 rfl rfl)
theorem dX4_minute_45 : decode cX4_minute 45 = .ok (.bipush (-3), 2) := dk_16 253 (dk_at dksX4_minute_2 0 rfl rfl)
theorem dX4_minute_47 : decode cX4_minute 47 = .ok (.ireturn, 1) := dk_172 (dk_at dksX4_minute_2 2 rfl rfl)
abbrev cX4_change : ByteArray := prog_21_method_46_code
def yX4_change : MethodName := ⟨RX4, "change", "(II)I"⟩
def dkwX4_change_1 : List UInt8 := [160, 0, 5, 2, 172, 42, 27, 28, 182, 0, 186, 4, 172]
abbrev dktX4_change_1 : List UInt8 := dkwX4_change_1 ++ []
def dkwX4_change_0 : List UInt8 := [42, 3, 181, 0, 77, 42, 27, 182, 0, 99, 153, 0, 16, 42, 28, 182, 0, 99, 153, 0, 8, 27, 28]
abbrev dktX4_change_0 : List UInt8 := dkwX4_change_0 ++ dktX4_change_1
theorem dksX4_change_0 : cX4_change.data.toList.drop 0 = dktX4_change_0 := by decide +kernel
theorem dksX4_change_1 : cX4_change.data.toList.drop 23 = dktX4_change_1 := dk_seg dksX4_change_0 23 rfl rfl
theorem dX4_change_0 : decode cX4_change 0 = .ok (.aload_n 0, 1) := dk_42 (dk_at dksX4_change_0 0 rfl rfl)
theorem dX4_change_1 : decode cX4_change 1 = .ok (.iconst 0, 1) := dk_3 (dk_at dksX4_change_0 1 rfl rfl)
theorem dX4_change_2 : decode cX4_change 2 = .ok (.putfield 77, 3) := dk_181 0 77 (dk_at dksX4_change_0 2 rfl rfl)
theorem dX4_change_5 : decode cX4_change 5 = .ok (.aload_n 0, 1) := dk_42 (dk_at dksX4_change_0 5 rfl rfl)
theorem dX4_change_6 : decode cX4_change 6 = .ok (.iload_n 1, 1) := dk_27 (dk_at dksX4_change_0 6 rfl rfl)
theorem dX4_change_7 : decode cX4_change 7 = .ok (.invokevirtual 99, 3) := dk_182 0 99 (dk_at dksX4_change_0 7 rfl rfl)
theorem dX4_change_10 : decode cX4_change 10 = .ok (.ifCond .eq 16, 3) := dk_153 0 16 (dk_at dksX4_change_0 10 rfl rfl)
theorem dX4_change_13 : decode cX4_change 13 = .ok (.aload_n 0, 1) := dk_42 (dk_at dksX4_change_0 13 rfl rfl)
theorem dX4_change_14 : decode cX4_change 14 = .ok (.iload_n 2, 1) := dk_28 (dk_at dksX4_change_0 14 rfl rfl)
theorem dX4_change_15 : decode cX4_change 15 = .ok (.invokevirtual 99, 3) := dk_182 0 99 (dk_at dksX4_change_0 15 rfl rfl)
theorem dX4_change_18 : decode cX4_change 18 = .ok (.ifCond .eq 8, 3) := dk_153 0 8 (dk_at dksX4_change_0 18 rfl rfl)
theorem dX4_change_21 : decode cX4_change 21 = .ok (.iload_n 1, 1) := dk_27 (dk_at dksX4_change_0 21 rfl rfl)
theorem dX4_change_22 : decode cX4_change 22 = .ok (.iload_n 2, 1) := dk_28 (dk_at dksX4_change_0 22 rfl rfl)
theorem dX4_change_23 : decode cX4_change 23 = .ok (.if_icmp .ne 5, 3) := dk_160 0 5 (dk_at dksX4_change_1 0 rfl rfl)
theorem dX4_change_26 : decode cX4_change 26 = .ok (.iconst (-1), 1) := dk_2 (dk_at dksX4_change_1 3 rfl rfl)
theorem dX4_change_27 : decode cX4_change 27 = .ok (.ireturn, 1) := dk_172 (dk_at dksX4_change_1 4 rfl rfl)
theorem dX4_change_28 : decode cX4_change 28 = .ok (.aload_n 0, 1) := dk_42 (dk_at dksX4_change_1 5 rfl rfl)
theorem dX4_change_29 : decode cX4_change 29 = .ok (.iload_n 1, 1) := dk_27 (dk_at dksX4_change_1 6 rfl rfl)
theorem dX4_change_30 : decode cX4_change 30 = .ok (.iload_n 2, 1) := dk_28 (dk_at dksX4_change_1 7 rfl rfl)
theorem dX4_change_31 : decode cX4_change 31 = .ok (.invokevirtual 186, 3) := dk_182 0 186 (dk_at dksX4_change_1 8 rfl rfl)
theorem dX4_change_34 : decode cX4_change 34 = .ok (.iconst 1, 1) := dk_4 (dk_at dksX4_change_1 11 rfl rfl)
theorem dX4_change_35 : decode cX4_change 35 = .ok (.ireturn, 1) := dk_172 (dk_at dksX4_change_1 12 rfl rfl)
abbrev cX4_rest : ByteArray := prog_21_method_47_code
def yX4_rest : MethodName := ⟨RX4, "rest", "(I)I"⟩
def dkwX4_rest_1 : List UInt8 := [42, 182, 0, 234, 172]
abbrev dktX4_rest_1 : List UInt8 := dkwX4_rest_1 ++ []
def dkwX4_rest_0 : List UInt8 := [42, 3, 181, 0, 77, 27, 133, 9, 20, 0, 232, 184, 0, 84, 154, 0, 5, 2, 172, 42, 27, 182, 0, 183]
abbrev dktX4_rest_0 : List UInt8 := dkwX4_rest_0 ++ dktX4_rest_1
theorem dksX4_rest_0 : cX4_rest.data.toList.drop 0 = dktX4_rest_0 := by decide +kernel
theorem dksX4_rest_1 : cX4_rest.data.toList.drop 24 = dktX4_rest_1 := dk_seg dksX4_rest_0 24 rfl rfl
theorem dX4_rest_0 : decode cX4_rest 0 = .ok (.aload_n 0, 1) := dk_42 (dk_at dksX4_rest_0 0 rfl rfl)
theorem dX4_rest_1 : decode cX4_rest 1 = .ok (.iconst 0, 1) := dk_3 (dk_at dksX4_rest_0 1 rfl rfl)
theorem dX4_rest_2 : decode cX4_rest 2 = .ok (.putfield 77, 3) := dk_181 0 77 (dk_at dksX4_rest_0 2 rfl rfl)
theorem dX4_rest_5 : decode cX4_rest 5 = .ok (.iload_n 1, 1) := dk_27 (dk_at dksX4_rest_0 5 rfl rfl)
theorem dX4_rest_6 : decode cX4_rest 6 = .ok (.i2l, 1) := dk_133 (dk_at dksX4_rest_0 6 rfl rfl)
theorem dX4_rest_7 : decode cX4_rest 7 = .ok (.lconst 0, 1) := dk_9 (dk_at dksX4_rest_0 7 rfl rfl)
theorem dX4_rest_8 : decode cX4_rest 8 = .ok (.ldc2_w 232, 3) := dk_20 0 232 (dk_at dksX4_rest_0 8 rfl rfl)
theorem dX4_rest_11 : decode cX4_rest 11 = .ok (.invokestatic 84, 3) := dk_184 0 84 (dk_at dksX4_rest_0 11 rfl rfl)
theorem dX4_rest_14 : decode cX4_rest 14 = .ok (.ifCond .ne 5, 3) := dk_154 0 5 (dk_at dksX4_rest_0 14 rfl rfl)
theorem dX4_rest_17 : decode cX4_rest 17 = .ok (.iconst (-1), 1) := dk_2 (dk_at dksX4_rest_0 17 rfl rfl)
theorem dX4_rest_18 : decode cX4_rest 18 = .ok (.ireturn, 1) := dk_172 (dk_at dksX4_rest_0 18 rfl rfl)
theorem dX4_rest_19 : decode cX4_rest 19 = .ok (.aload_n 0, 1) := dk_42 (dk_at dksX4_rest_0 19 rfl rfl)
theorem dX4_rest_20 : decode cX4_rest 20 = .ok (.iload_n 1, 1) := dk_27 (dk_at dksX4_rest_0 20 rfl rfl)
theorem dX4_rest_21 : decode cX4_rest 21 = .ok (.invokevirtual 183, 3) := dk_182 0 183 (dk_at dksX4_rest_0 21 rfl rfl)
theorem dX4_rest_24 : decode cX4_rest 24 = .ok (.aload_n 0, 1) := dk_42 (dk_at dksX4_rest_1 0 rfl rfl)
theorem dX4_rest_25 : decode cX4_rest 25 = .ok (.invokevirtual 234, 3) := dk_182 0 234 (dk_at dksX4_rest_1 1 rfl rfl)
theorem dX4_rest_28 : decode cX4_rest 28 = .ok (.ireturn, 1) := dk_172 (dk_at dksX4_rest_1 4 rfl rfl)
abbrev cX4_allSteps : ByteArray := prog_21_method_22_code
def yX4_allSteps : MethodName := ⟨RX4, "allSteps", "()I"⟩
def dkwX4_allSteps_1 : List UInt8 := [167, 255, 236, 27, 172]
abbrev dktX4_allSteps_1 : List UInt8 := dkwX4_allSteps_1 ++ []
def dkwX4_allSteps_0 : List UInt8 := [3, 60, 3, 61, 28, 42, 180, 0, 81, 162, 0, 18, 27, 42, 180, 0, 19, 28, 46, 96, 60, 132, 2, 1]
abbrev dktX4_allSteps_0 : List UInt8 := dkwX4_allSteps_0 ++ dktX4_allSteps_1
theorem dksX4_allSteps_0 : cX4_allSteps.data.toList.drop 0 = dktX4_allSteps_0 := by decide +kernel
theorem dksX4_allSteps_1 : cX4_allSteps.data.toList.drop 24 = dktX4_allSteps_1 := dk_seg dksX4_allSteps_0 24 rfl rfl
theorem dX4_allSteps_0 : decode cX4_allSteps 0 = .ok (.iconst 0, 1) := dk_3 (dk_at dksX4_allSteps_0 0 rfl rfl)
theorem dX4_allSteps_1 : decode cX4_allSteps 1 = .ok (.istore_n 1, 1) := dk_60 (dk_at dksX4_allSteps_0 1 rfl rfl)
theorem dX4_allSteps_2 : decode cX4_allSteps 2 = .ok (.iconst 0, 1) := dk_3 (dk_at dksX4_allSteps_0 2 rfl rfl)
theorem dX4_allSteps_3 : decode cX4_allSteps 3 = .ok (.istore_n 2, 1) := dk_61 (dk_at dksX4_allSteps_0 3 rfl rfl)
theorem dX4_allSteps_4 : decode cX4_allSteps 4 = .ok (.iload_n 2, 1) := dk_28 (dk_at dksX4_allSteps_0 4 rfl rfl)
theorem dX4_allSteps_5 : decode cX4_allSteps 5 = .ok (.aload_n 0, 1) := dk_42 (dk_at dksX4_allSteps_0 5 rfl rfl)
theorem dX4_allSteps_6 : decode cX4_allSteps 6 = .ok (.getfield 81, 3) := dk_180 0 81 (dk_at dksX4_allSteps_0 6 rfl rfl)
theorem dX4_allSteps_9 : decode cX4_allSteps 9 = .ok (.if_icmp .ge 18, 3) := dk_162 0 18 (dk_at dksX4_allSteps_0 9 rfl rfl)
theorem dX4_allSteps_12 : decode cX4_allSteps 12 = .ok (.iload_n 1, 1) := dk_27 (dk_at dksX4_allSteps_0 12 rfl rfl)
theorem dX4_allSteps_13 : decode cX4_allSteps 13 = .ok (.aload_n 0, 1) := dk_42 (dk_at dksX4_allSteps_0 13 rfl rfl)
theorem dX4_allSteps_14 : decode cX4_allSteps 14 = .ok (.getfield 19, 3) := dk_180 0 19 (dk_at dksX4_allSteps_0 14 rfl rfl)
theorem dX4_allSteps_17 : decode cX4_allSteps 17 = .ok (.iload_n 2, 1) := dk_28 (dk_at dksX4_allSteps_0 17 rfl rfl)
theorem dX4_allSteps_18 : decode cX4_allSteps 18 = .ok (.iaload, 1) := dk_46 (dk_at dksX4_allSteps_0 18 rfl rfl)
theorem dX4_allSteps_19 : decode cX4_allSteps 19 = .ok (.iadd, 1) := dk_96 (dk_at dksX4_allSteps_0 19 rfl rfl)
theorem dX4_allSteps_20 : decode cX4_allSteps 20 = .ok (.istore_n 1, 1) := dk_60 (dk_at dksX4_allSteps_0 20 rfl rfl)
theorem dX4_allSteps_21 : decode cX4_allSteps 21 = .ok (.iinc 2 1, 3) := dk_132 2 1 (dk_at dksX4_allSteps_0 21 rfl rfl)
theorem dX4_allSteps_24 : decode cX4_allSteps 24 = .ok (.goto (-20), 3) := dk_167 255 236 (dk_at dksX4_allSteps_1 0 rfl rfl)
theorem dX4_allSteps_27 : decode cX4_allSteps 27 = .ok (.iload_n 1, 1) := dk_27 (dk_at dksX4_allSteps_1 3 rfl rfl)
theorem dX4_allSteps_28 : decode cX4_allSteps 28 = .ok (.ireturn, 1) := dk_172 (dk_at dksX4_allSteps_1 4 rfl rfl)
abbrev cX4_ready : ByteArray := prog_21_method_49_code
def yX4_ready : MethodName := ⟨RX4, "ready", "()I"⟩
def dkwX4_ready_0 : List UInt8 := [42, 3, 181, 0, 77, 42, 182, 0, 237, 172]
abbrev dktX4_ready_0 : List UInt8 := dkwX4_ready_0 ++ []
theorem dksX4_ready_0 : cX4_ready.data.toList.drop 0 = dktX4_ready_0 := by decide +kernel
theorem dX4_ready_0 : decode cX4_ready 0 = .ok (.aload_n 0, 1) := dk_42 (dk_at dksX4_ready_0 0 rfl rfl)
theorem dX4_ready_1 : decode cX4_ready 1 = .ok (.iconst 0, 1) := dk_3 (dk_at dksX4_ready_0 1 rfl rfl)
theorem dX4_ready_2 : decode cX4_ready 2 = .ok (.putfield 77, 3) := dk_181 0 77 (dk_at dksX4_ready_0 2 rfl rfl)
theorem dX4_ready_5 : decode cX4_ready 5 = .ok (.aload_n 0, 1) := dk_42 (dk_at dksX4_ready_0 5 rfl rfl)
theorem dX4_ready_6 : decode cX4_ready 6 = .ok (.invokevirtual 237, 3) := dk_182 0 237 (dk_at dksX4_ready_0 6 rfl rfl)
theorem dX4_ready_9 : decode cX4_ready 9 = .ok (.ireturn, 1) := dk_172 (dk_at dksX4_ready_0 9 rfl rfl)
abbrev cX4_readyBits : ByteArray := prog_21_method_48_code
def yX4_readyBits : MethodName := ⟨RX4, "readyBits", "()I"⟩
def dkwX4_readyBits_1 : List UInt8 := [167, 0, 4, 3, 128, 60, 132, 2, 1, 167, 255, 227, 27, 172]
abbrev dktX4_readyBits_1 : List UInt8 := dkwX4_readyBits_1 ++ []
def dkwX4_readyBits_0 : List UInt8 := [3, 60, 3, 61, 28, 42, 180, 0, 81, 162, 0, 27, 27, 42, 28, 182, 0, 109, 153, 0, 9, 4, 28, 120]
abbrev dktX4_readyBits_0 : List UInt8 := dkwX4_readyBits_0 ++ dktX4_readyBits_1
theorem dksX4_readyBits_0 : cX4_readyBits.data.toList.drop 0 = dktX4_readyBits_0 := by decide +kernel
theorem dksX4_readyBits_1 : cX4_readyBits.data.toList.drop 24 = dktX4_readyBits_1 := dk_seg dksX4_readyBits_0 24 rfl rfl
theorem dX4_readyBits_0 : decode cX4_readyBits 0 = .ok (.iconst 0, 1) := dk_3 (dk_at dksX4_readyBits_0 0 rfl rfl)
theorem dX4_readyBits_1 : decode cX4_readyBits 1 = .ok (.istore_n 1, 1) := dk_60 (dk_at dksX4_readyBits_0 1 rfl rfl)
theorem dX4_readyBits_2 : decode cX4_readyBits 2 = .ok (.iconst 0, 1) := dk_3 (dk_at dksX4_readyBits_0 2 rfl rfl)
theorem dX4_readyBits_3 : decode cX4_readyBits 3 = .ok (.istore_n 2, 1) := dk_61 (dk_at dksX4_readyBits_0 3 rfl rfl)
theorem dX4_readyBits_4 : decode cX4_readyBits 4 = .ok (.iload_n 2, 1) := dk_28 (dk_at dksX4_readyBits_0 4 rfl rfl)
theorem dX4_readyBits_5 : decode cX4_readyBits 5 = .ok (.aload_n 0, 1) := dk_42 (dk_at dksX4_readyBits_0 5 rfl rfl)
theorem dX4_readyBits_6 : decode cX4_readyBits 6 = .ok (.getfield 81, 3) := dk_180 0 81 (dk_at dksX4_readyBits_0 6 rfl rfl)
theorem dX4_readyBits_9 : decode cX4_readyBits 9 = .ok (.if_icmp .ge 27, 3) := dk_162 0 27 (dk_at dksX4_readyBits_0 9 rfl rfl)
theorem dX4_readyBits_12 : decode cX4_readyBits 12 = .ok (.iload_n 1, 1) := dk_27 (dk_at dksX4_readyBits_0 12 rfl rfl)
theorem dX4_readyBits_13 : decode cX4_readyBits 13 = .ok (.aload_n 0, 1) := dk_42 (dk_at dksX4_readyBits_0 13 rfl rfl)
theorem dX4_readyBits_14 : decode cX4_readyBits 14 = .ok (.iload_n 2, 1) := dk_28 (dk_at dksX4_readyBits_0 14 rfl rfl)
theorem dX4_readyBits_15 : decode cX4_readyBits 15 = .ok (.invokevirtual 109, 3) := dk_182 0 109 (dk_at dksX4_readyBits_0 15 rfl rfl)
theorem dX4_readyBits_18 : decode cX4_readyBits 18 = .ok (.ifCond .eq 9, 3) := dk_153 0 9 (dk_at dksX4_readyBits_0 18 rfl rfl)
theorem dX4_readyBits_21 : decode cX4_readyBits 21 = .ok (.iconst 1, 1) := dk_4 (dk_at dksX4_readyBits_0 21 rfl rfl)
theorem dX4_readyBits_22 : decode cX4_readyBits 22 = .ok (.iload_n 2, 1) := dk_28 (dk_at dksX4_readyBits_0 22 rfl rfl)
theorem dX4_readyBits_23 : decode cX4_readyBits 23 = .ok (.ishl, 1) := dk_120 (dk_at dksX4_readyBits_0 23 rfl rfl)
theorem dX4_readyBits_24 : decode cX4_readyBits 24 = .ok (.goto 4, 3) := dk_167 0 4 (dk_at dksX4_readyBits_1 0 rfl rfl)
theorem dX4_readyBits_27 : decode cX4_readyBits 27 = .ok (.iconst 0, 1) := dk_3 (dk_at dksX4_readyBits_1 3 rfl rfl)
theorem dX4_readyBits_28 : decode cX4_readyBits 28 = .ok (.ior, 1) := dk_128 (dk_at dksX4_readyBits_1 4 rfl rfl)
theorem dX4_readyBits_29 : decode cX4_readyBits 29 = .ok (.istore_n 1, 1) := dk_60 (dk_at dksX4_readyBits_1 5 rfl rfl)
theorem dX4_readyBits_30 : decode cX4_readyBits 30 = .ok (.iinc 2 1, 3) := dk_132 2 1 (dk_at dksX4_readyBits_1 6 rfl rfl)
theorem dX4_readyBits_33 : decode cX4_readyBits 33 = .ok (.goto (-29), 3) := dk_167 255 227 (dk_at dksX4_readyBits_1 9 rfl rfl)
theorem dX4_readyBits_36 : decode cX4_readyBits 36 = .ok (.iload_n 1, 1) := dk_27 (dk_at dksX4_readyBits_1 12 rfl rfl)
theorem dX4_readyBits_37 : decode cX4_readyBits 37 = .ok (.ireturn, 1) := dk_172 (dk_at dksX4_readyBits_1 13 rfl rfl)
abbrev cX4_alone : ByteArray := prog_21_method_54_code
def yX4_alone : MethodName := ⟨RX4, "alone", "(II)I"⟩
def dkwX4_alone_4 : List UInt8 := [21, 4, 172]
abbrev dktX4_alone_4 : List UInt8 := dkwX4_alone_4 ++ []
def dkwX4_alone_3 : List UInt8 := [42, 27, 182, 0, 250, 21, 4, 182, 0, 240, 46, 4, 96, 29, 164, 0, 9, 132, 4, 1, 167, 255, 230]
abbrev dktX4_alone_3 : List UInt8 := dkwX4_alone_3 ++ dktX4_alone_4
def dkwX4_alone_2 : List UInt8 := [4, 162, 0, 14, 28, 154, 0, 7, 29, 167, 0, 5, 16, 252, 172, 3, 54, 4, 42, 180, 0, 59, 42, 27]
abbrev dktX4_alone_2 : List UInt8 := dkwX4_alone_2 ++ dktX4_alone_3
def dkwX4_alone_1 : List UInt8 := [172, 42, 27, 3, 182, 0, 244, 42, 27, 42, 180, 0, 16, 27, 46, 182, 0, 247, 62, 28, 153, 0, 8, 29]
abbrev dktX4_alone_1 : List UInt8 := dkwX4_alone_1 ++ dktX4_alone_2
def dkwX4_alone_0 : List UInt8 := [42, 3, 181, 0, 77, 42, 27, 182, 0, 99, 153, 0, 13, 28, 133, 9, 10, 184, 0, 84, 154, 0, 5, 2]
abbrev dktX4_alone_0 : List UInt8 := dkwX4_alone_0 ++ dktX4_alone_1
theorem dksX4_alone_0 : cX4_alone.data.toList.drop 0 = dktX4_alone_0 := by decide +kernel
theorem dksX4_alone_1 : cX4_alone.data.toList.drop 24 = dktX4_alone_1 := dk_seg dksX4_alone_0 24 rfl rfl
theorem dksX4_alone_2 : cX4_alone.data.toList.drop 48 = dktX4_alone_2 := dk_seg dksX4_alone_1 24 rfl rfl
theorem dksX4_alone_3 : cX4_alone.data.toList.drop 72 = dktX4_alone_3 := dk_seg dksX4_alone_2 24 rfl rfl
theorem dksX4_alone_4 : cX4_alone.data.toList.drop 95 = dktX4_alone_4 := dk_seg dksX4_alone_3 23 rfl rfl
theorem dX4_alone_0 : decode cX4_alone 0 = .ok (.aload_n 0, 1) := dk_42 (dk_at dksX4_alone_0 0 rfl rfl)
theorem dX4_alone_1 : decode cX4_alone 1 = .ok (.iconst 0, 1) := dk_3 (dk_at dksX4_alone_0 1 rfl rfl)
theorem dX4_alone_2 : decode cX4_alone 2 = .ok (.putfield 77, 3) := dk_181 0 77 (dk_at dksX4_alone_0 2 rfl rfl)
theorem dX4_alone_5 : decode cX4_alone 5 = .ok (.aload_n 0, 1) := dk_42 (dk_at dksX4_alone_0 5 rfl rfl)
theorem dX4_alone_6 : decode cX4_alone 6 = .ok (.iload_n 1, 1) := dk_27 (dk_at dksX4_alone_0 6 rfl rfl)
theorem dX4_alone_7 : decode cX4_alone 7 = .ok (.invokevirtual 99, 3) := dk_182 0 99 (dk_at dksX4_alone_0 7 rfl rfl)
theorem dX4_alone_10 : decode cX4_alone 10 = .ok (.ifCond .eq 13, 3) := dk_153 0 13 (dk_at dksX4_alone_0 10 rfl rfl)
theorem dX4_alone_13 : decode cX4_alone 13 = .ok (.iload_n 2, 1) := dk_28 (dk_at dksX4_alone_0 13 rfl rfl)
theorem dX4_alone_14 : decode cX4_alone 14 = .ok (.i2l, 1) := dk_133 (dk_at dksX4_alone_0 14 rfl rfl)
theorem dX4_alone_15 : decode cX4_alone 15 = .ok (.lconst 0, 1) := dk_9 (dk_at dksX4_alone_0 15 rfl rfl)
theorem dX4_alone_16 : decode cX4_alone 16 = .ok (.lconst 1, 1) := dk_10 (dk_at dksX4_alone_0 16 rfl rfl)
theorem dX4_alone_17 : decode cX4_alone 17 = .ok (.invokestatic 84, 3) := dk_184 0 84 (dk_at dksX4_alone_0 17 rfl rfl)
theorem dX4_alone_20 : decode cX4_alone 20 = .ok (.ifCond .ne 5, 3) := dk_154 0 5 (dk_at dksX4_alone_0 20 rfl rfl)
theorem dX4_alone_23 : decode cX4_alone 23 = .ok (.iconst (-1), 1) := dk_2 (dk_at dksX4_alone_0 23 rfl rfl)
theorem dX4_alone_24 : decode cX4_alone 24 = .ok (.ireturn, 1) := dk_172 (dk_at dksX4_alone_1 0 rfl rfl)
theorem dX4_alone_25 : decode cX4_alone 25 = .ok (.aload_n 0, 1) := dk_42 (dk_at dksX4_alone_1 1 rfl rfl)
theorem dX4_alone_26 : decode cX4_alone 26 = .ok (.iload_n 1, 1) := dk_27 (dk_at dksX4_alone_1 2 rfl rfl)
theorem dX4_alone_27 : decode cX4_alone 27 = .ok (.iconst 0, 1) := dk_3 (dk_at dksX4_alone_1 3 rfl rfl)
theorem dX4_alone_28 : decode cX4_alone 28 = .ok (.invokevirtual 244, 3) := dk_182 0 244 (dk_at dksX4_alone_1 4 rfl rfl)
theorem dX4_alone_31 : decode cX4_alone 31 = .ok (.aload_n 0, 1) := dk_42 (dk_at dksX4_alone_1 7 rfl rfl)
theorem dX4_alone_32 : decode cX4_alone 32 = .ok (.iload_n 1, 1) := dk_27 (dk_at dksX4_alone_1 8 rfl rfl)
theorem dX4_alone_33 : decode cX4_alone 33 = .ok (.aload_n 0, 1) := dk_42 (dk_at dksX4_alone_1 9 rfl rfl)
theorem dX4_alone_34 : decode cX4_alone 34 = .ok (.getfield 16, 3) := dk_180 0 16 (dk_at dksX4_alone_1 10 rfl rfl)
theorem dX4_alone_37 : decode cX4_alone 37 = .ok (.iload_n 1, 1) := dk_27 (dk_at dksX4_alone_1 13 rfl rfl)
theorem dX4_alone_38 : decode cX4_alone 38 = .ok (.iaload, 1) := dk_46 (dk_at dksX4_alone_1 14 rfl rfl)
theorem dX4_alone_39 : decode cX4_alone 39 = .ok (.invokevirtual 247, 3) := dk_182 0 247 (dk_at dksX4_alone_1 15 rfl rfl)
theorem dX4_alone_42 : decode cX4_alone 42 = .ok (.istore_n 3, 1) := dk_62 (dk_at dksX4_alone_1 18 rfl rfl)
theorem dX4_alone_43 : decode cX4_alone 43 = .ok (.iload_n 2, 1) := dk_28 (dk_at dksX4_alone_1 19 rfl rfl)
theorem dX4_alone_44 : decode cX4_alone 44 = .ok (.ifCond .eq 8, 3) := dk_153 0 8 (dk_at dksX4_alone_1 20 rfl rfl)
theorem dX4_alone_47 : decode cX4_alone 47 = .ok (.iload_n 3, 1) := dk_29 (dk_at dksX4_alone_1 23 rfl rfl)
theorem dX4_alone_48 : decode cX4_alone 48 = .ok (.iconst 1, 1) := dk_4 (dk_at dksX4_alone_2 0 rfl rfl)
theorem dX4_alone_49 : decode cX4_alone 49 = .ok (.if_icmp .ge 14, 3) := dk_162 0 14 (dk_at dksX4_alone_2 1 rfl rfl)
theorem dX4_alone_52 : decode cX4_alone 52 = .ok (.iload_n 2, 1) := dk_28 (dk_at dksX4_alone_2 4 rfl rfl)
theorem dX4_alone_53 : decode cX4_alone 53 = .ok (.ifCond .ne 7, 3) := dk_154 0 7 (dk_at dksX4_alone_2 5 rfl rfl)
theorem dX4_alone_56 : decode cX4_alone 56 = .ok (.iload_n 3, 1) := dk_29 (dk_at dksX4_alone_2 8 rfl rfl)
theorem dX4_alone_57 : decode cX4_alone 57 = .ok (.goto 5, 3) := dk_167 0 5 (dk_at dksX4_alone_2 9 rfl rfl)
theorem dX4_alone_60 : decode cX4_alone 60 = .ok (.bipush (-4), 2) := dk_16 252 (dk_at dksX4_alone_2 12 rfl rfl)
theorem dX4_alone_62 : decode cX4_alone 62 = .ok (.ireturn, 1) := dk_172 (dk_at dksX4_alone_2 14 rfl rfl)
theorem dX4_alone_63 : decode cX4_alone 63 = .ok (.iconst 0, 1) := dk_3 (dk_at dksX4_alone_2 15 rfl rfl)
theorem dX4_alone_64 : decode cX4_alone 64 = .ok (.istore 4, 2) := dk_54 4 (dk_at dksX4_alone_2 16 rfl rfl)
theorem dX4_alone_66 : decode cX4_alone 66 = .ok (.aload_n 0, 1) := dk_42 (dk_at dksX4_alone_2 18 rfl rfl)
theorem dX4_alone_67 : decode cX4_alone 67 = .ok (.getfield 59, 3) := dk_180 0 59 (dk_at dksX4_alone_2 19 rfl rfl)
theorem dX4_alone_70 : decode cX4_alone 70 = .ok (.aload_n 0, 1) := dk_42 (dk_at dksX4_alone_2 22 rfl rfl)
theorem dX4_alone_71 : decode cX4_alone 71 = .ok (.iload_n 1, 1) := dk_27 (dk_at dksX4_alone_2 23 rfl rfl)
theorem dX4_alone_72 : decode cX4_alone 72 = .ok (.aload_n 0, 1) := dk_42 (dk_at dksX4_alone_3 0 rfl rfl)
theorem dX4_alone_73 : decode cX4_alone 73 = .ok (.iload_n 1, 1) := dk_27 (dk_at dksX4_alone_3 1 rfl rfl)
theorem dX4_alone_74 : decode cX4_alone 74 = .ok (.invokevirtual 250, 3) := dk_182 0 250 (dk_at dksX4_alone_3 2 rfl rfl)
theorem dX4_alone_77 : decode cX4_alone 77 = .ok (.iload 4, 2) := dk_21 4 (dk_at dksX4_alone_3 5 rfl rfl)
theorem dX4_alone_79 : decode cX4_alone 79 = .ok (.invokevirtual 240, 3) := dk_182 0 240 (dk_at dksX4_alone_3 7 rfl rfl)
theorem dX4_alone_82 : decode cX4_alone 82 = .ok (.iaload, 1) := dk_46 (dk_at dksX4_alone_3 10 rfl rfl)
theorem dX4_alone_83 : decode cX4_alone 83 = .ok (.iconst 1, 1) := dk_4 (dk_at dksX4_alone_3 11 rfl rfl)
theorem dX4_alone_84 : decode cX4_alone 84 = .ok (.iadd, 1) := dk_96 (dk_at dksX4_alone_3 12 rfl rfl)
theorem dX4_alone_85 : decode cX4_alone 85 = .ok (.iload_n 3, 1) := dk_29 (dk_at dksX4_alone_3 13 rfl rfl)
theorem dX4_alone_86 : decode cX4_alone 86 = .ok (.if_icmp .le 9, 3) := dk_164 0 9 (dk_at dksX4_alone_3 14 rfl rfl)
theorem dX4_alone_89 : decode cX4_alone 89 = .ok (.iinc 4 1, 3) := dk_132 4 1 (dk_at dksX4_alone_3 17 rfl rfl)
theorem dX4_alone_92 : decode cX4_alone 92 = .ok (.goto (-26), 3) := dk_167 255 230 (dk_at dksX4_alone_3 20 rfl rfl)
theorem dX4_alone_95 : decode cX4_alone 95 = .ok (.iload 4, 2) := dk_21 4 (dk_at dksX4_alone_4 0 rfl rfl)
theorem dX4_alone_97 : decode cX4_alone 97 = .ok (.ireturn, 1) := dk_172 (dk_at dksX4_alone_4 2 rfl rfl)
abbrev cX4_layFewest : ByteArray := prog_21_method_51_code
def yX4_layFewest : MethodName := ⟨RX4, "layFewest", "(II)V"⟩
def dkwX4_layFewest_6 : List UInt8 := [132, 4, 255, 167, 255, 162, 167, 255, 148, 177]
abbrev dktX4_layFewest_6 : List UInt8 := dkwX4_layFewest_6 ++ []
def dkwX4_layFewest_5 : List UInt8 := [162, 0, 8, 21, 6, 167, 0, 10, 42, 180, 0, 59, 21, 4, 46, 79, 132, 5, 1, 167, 255, 176]
abbrev dktX4_layFewest_5 : List UInt8 := dkwX4_layFewest_5 ++ dktX4_layFewest_6
def dkwX4_layFewest_4 : List UInt8 := [162, 0, 7, 4, 167, 0, 4, 3, 62, 42, 180, 0, 59, 21, 4, 21, 6, 42, 180, 0, 59, 21, 4, 46]
abbrev dktX4_layFewest_4 : List UInt8 := dkwX4_layFewest_4 ++ dktX4_layFewest_5
def dkwX4_layFewest_3 : List UInt8 := [21, 5, 182, 0, 240, 46, 4, 96, 54, 6, 29, 154, 0, 15, 21, 6, 42, 180, 0, 59, 21, 4, 46]
abbrev dktX4_layFewest_3 : List UInt8 := dkwX4_layFewest_3 ++ dktX4_layFewest_4
def dkwX4_layFewest_2 : List UInt8 := [54, 4, 21, 4, 155, 0, 95, 28, 54, 5, 21, 5, 6, 162, 0, 80, 42, 180, 0, 59, 42, 27, 21, 4]
abbrev dktX4_layFewest_2 : List UInt8 := dkwX4_layFewest_2 ++ dktX4_layFewest_3
def dkwX4_layFewest_1 : List UInt8 := [167, 0, 5, 16, 99, 79, 132, 3, 1, 167, 255, 227, 4, 62, 29, 153, 0, 110, 3, 62, 17, 0, 146]
abbrev dktX4_layFewest_1 : List UInt8 := dkwX4_layFewest_1 ++ dktX4_layFewest_2
def dkwX4_layFewest_0 : List UInt8 := [3, 62, 29, 17, 0, 168, 162, 0, 28, 42, 180, 0, 59, 29, 29, 17, 0, 147, 161, 0, 7, 3]
abbrev dktX4_layFewest_0 : List UInt8 := dkwX4_layFewest_0 ++ dktX4_layFewest_1
theorem dksX4_layFewest_0 : cX4_layFewest.data.toList.drop 0 = dktX4_layFewest_0 := by decide +kernel
theorem dksX4_layFewest_1 : cX4_layFewest.data.toList.drop 22 = dktX4_layFewest_1 := dk_seg dksX4_layFewest_0 22 rfl rfl
theorem dksX4_layFewest_2 : cX4_layFewest.data.toList.drop 45 = dktX4_layFewest_2 := dk_seg dksX4_layFewest_1 23 rfl rfl
theorem dksX4_layFewest_3 : cX4_layFewest.data.toList.drop 69 = dktX4_layFewest_3 := dk_seg dksX4_layFewest_2 24 rfl rfl
theorem dksX4_layFewest_4 : cX4_layFewest.data.toList.drop 92 = dktX4_layFewest_4 := dk_seg dksX4_layFewest_3 23 rfl rfl
theorem dksX4_layFewest_5 : cX4_layFewest.data.toList.drop 116 = dktX4_layFewest_5 := dk_seg dksX4_layFewest_4 24 rfl rfl
theorem dksX4_layFewest_6 : cX4_layFewest.data.toList.drop 138 = dktX4_layFewest_6 := dk_seg dksX4_layFewest_5 22 rfl rfl
theorem dX4_layFewest_0 : decode cX4_layFewest 0 = .ok (.iconst 0, 1) := dk_3 (dk_at dksX4_layFewest_0 0 rfl rfl)
theorem dX4_layFewest_1 : decode cX4_layFewest 1 = .ok (.istore_n 3, 1) := dk_62 (dk_at dksX4_layFewest_0 1 rfl rfl)
theorem dX4_layFewest_2 : decode cX4_layFewest 2 = .ok (.iload_n 3, 1) := dk_29 (dk_at dksX4_layFewest_0 2 rfl rfl)
theorem dX4_layFewest_3 : decode cX4_layFewest 3 = .ok (.sipush 168, 3) := dk_17 0 168 (dk_at dksX4_layFewest_0 3 rfl rfl)
theorem dX4_layFewest_6 : decode cX4_layFewest 6 = .ok (.if_icmp .ge 28, 3) := dk_162 0 28 (dk_at dksX4_layFewest_0 6 rfl rfl)
theorem dX4_layFewest_9 : decode cX4_layFewest 9 = .ok (.aload_n 0, 1) := dk_42 (dk_at dksX4_layFewest_0 9 rfl rfl)
theorem dX4_layFewest_10 : decode cX4_layFewest 10 = .ok (.getfield 59, 3) := dk_180 0 59 (dk_at dksX4_layFewest_0 10 rfl rfl)
theorem dX4_layFewest_13 : decode cX4_layFewest 13 = .ok (.iload_n 3, 1) := dk_29 (dk_at dksX4_layFewest_0 13 rfl rfl)
theorem dX4_layFewest_14 : decode cX4_layFewest 14 = .ok (.iload_n 3, 1) := dk_29 (dk_at dksX4_layFewest_0 14 rfl rfl)
theorem dX4_layFewest_15 : decode cX4_layFewest 15 = .ok (.sipush 147, 3) := dk_17 0 147 (dk_at dksX4_layFewest_0 15 rfl rfl)
theorem dX4_layFewest_18 : decode cX4_layFewest 18 = .ok (.if_icmp .lt 7, 3) := dk_161 0 7 (dk_at dksX4_layFewest_0 18 rfl rfl)
theorem dX4_layFewest_21 : decode cX4_layFewest 21 = .ok (.iconst 0, 1) := dk_3 (dk_at dksX4_layFewest_0 21 rfl rfl)
theorem dX4_layFewest_22 : decode cX4_layFewest 22 = .ok (.goto 5, 3) := dk_167 0 5 (dk_at dksX4_layFewest_1 0 rfl rfl)
theorem dX4_layFewest_25 : decode cX4_layFewest 25 = .ok (.bipush 99, 2) := dk_16 99 (dk_at dksX4_layFewest_1 3 rfl rfl)
theorem dX4_layFewest_27 : decode cX4_layFewest 27 = .ok (.iastore, 1) := dk_79 (dk_at dksX4_layFewest_1 5 rfl rfl)
theorem dX4_layFewest_28 : decode cX4_layFewest 28 = .ok (.iinc 3 1, 3) := dk_132 3 1 (dk_at dksX4_layFewest_1 6 rfl rfl)
theorem dX4_layFewest_31 : decode cX4_layFewest 31 = .ok (.goto (-29), 3) := dk_167 255 227 (dk_at dksX4_layFewest_1 9 rfl rfl)
theorem dX4_layFewest_34 : decode cX4_layFewest 34 = .ok (.iconst 1, 1) := dk_4 (dk_at dksX4_layFewest_1 12 rfl rfl)
theorem dX4_layFewest_35 : decode cX4_layFewest 35 = .ok (.istore_n 3, 1) := dk_62 (dk_at dksX4_layFewest_1 13 rfl rfl)
theorem dX4_layFewest_36 : decode cX4_layFewest 36 = .ok (.iload_n 3, 1) := dk_29 (dk_at dksX4_layFewest_1 14 rfl rfl)
theorem dX4_layFewest_37 : decode cX4_layFewest 37 = .ok (.ifCond .eq 110, 3) := dk_153 0 110 (dk_at dksX4_layFewest_1 15 rfl rfl)
theorem dX4_layFewest_40 : decode cX4_layFewest 40 = .ok (.iconst 0, 1) := dk_3 (dk_at dksX4_layFewest_1 18 rfl rfl)
theorem dX4_layFewest_41 : decode cX4_layFewest 41 = .ok (.istore_n 3, 1) := dk_62 (dk_at dksX4_layFewest_1 19 rfl rfl)
theorem dX4_layFewest_42 : decode cX4_layFewest 42 = .ok (.sipush 146, 3) := dk_17 0 146 (dk_at dksX4_layFewest_1 20 rfl rfl)
theorem dX4_layFewest_45 : decode cX4_layFewest 45 = .ok (.istore 4, 2) := dk_54 4 (dk_at dksX4_layFewest_2 0 rfl rfl)
theorem dX4_layFewest_47 : decode cX4_layFewest 47 = .ok (.iload 4, 2) := dk_21 4 (dk_at dksX4_layFewest_2 2 rfl rfl)
theorem dX4_layFewest_49 : decode cX4_layFewest 49 = .ok (.ifCond .lt 95, 3) := dk_155 0 95 (dk_at dksX4_layFewest_2 4 rfl rfl)
theorem dX4_layFewest_52 : decode cX4_layFewest 52 = .ok (.iload_n 2, 1) := dk_28 (dk_at dksX4_layFewest_2 7 rfl rfl)
theorem dX4_layFewest_53 : decode cX4_layFewest 53 = .ok (.istore 5, 2) := dk_54 5 (dk_at dksX4_layFewest_2 8 rfl rfl)
theorem dX4_layFewest_55 : decode cX4_layFewest 55 = .ok (.iload 5, 2) := dk_21 5 (dk_at dksX4_layFewest_2 10 rfl rfl)
theorem dX4_layFewest_57 : decode cX4_layFewest 57 = .ok (.iconst 3, 1) := dk_6 (dk_at dksX4_layFewest_2 12 rfl rfl)
theorem dX4_layFewest_58 : decode cX4_layFewest 58 = .ok (.if_icmp .ge 80, 3) := dk_162 0 80 (dk_at dksX4_layFewest_2 13 rfl rfl)
theorem dX4_layFewest_61 : decode cX4_layFewest 61 = .ok (.aload_n 0, 1) := dk_42 (dk_at dksX4_layFewest_2 16 rfl rfl)
theorem dX4_layFewest_62 : decode cX4_layFewest 62 = .ok (.getfield 59, 3) := dk_180 0 59 (dk_at dksX4_layFewest_2 17 rfl rfl)
theorem dX4_layFewest_65 : decode cX4_layFewest 65 = .ok (.aload_n 0, 1) := dk_42 (dk_at dksX4_layFewest_2 20 rfl rfl)
theorem dX4_layFewest_66 : decode cX4_layFewest 66 = .ok (.iload_n 1, 1) := dk_27 (dk_at dksX4_layFewest_2 21 rfl rfl)
theorem dX4_layFewest_67 : decode cX4_layFewest 67 = .ok (.iload 4, 2) := dk_21 4 (dk_at dksX4_layFewest_2 22 rfl rfl)
theorem dX4_layFewest_69 : decode cX4_layFewest 69 = .ok (.iload 5, 2) := dk_21 5 (dk_at dksX4_layFewest_3 0 rfl rfl)
theorem dX4_layFewest_71 : decode cX4_layFewest 71 = .ok (.invokevirtual 240, 3) := dk_182 0 240 (dk_at dksX4_layFewest_3 2 rfl rfl)
theorem dX4_layFewest_74 : decode cX4_layFewest 74 = .ok (.iaload, 1) := dk_46 (dk_at dksX4_layFewest_3 5 rfl rfl)
theorem dX4_layFewest_75 : decode cX4_layFewest 75 = .ok (.iconst 1, 1) := dk_4 (dk_at dksX4_layFewest_3 6 rfl rfl)
theorem dX4_layFewest_76 : decode cX4_layFewest 76 = .ok (.iadd, 1) := dk_96 (dk_at dksX4_layFewest_3 7 rfl rfl)
theorem dX4_layFewest_77 : decode cX4_layFewest 77 = .ok (.istore 6, 2) := dk_54 6 (dk_at dksX4_layFewest_3 8 rfl rfl)
theorem dX4_layFewest_79 : decode cX4_layFewest 79 = .ok (.iload_n 3, 1) := dk_29 (dk_at dksX4_layFewest_3 10 rfl rfl)
theorem dX4_layFewest_80 : decode cX4_layFewest 80 = .ok (.ifCond .ne 15, 3) := dk_154 0 15 (dk_at dksX4_layFewest_3 11 rfl rfl)
theorem dX4_layFewest_83 : decode cX4_layFewest 83 = .ok (.iload 6, 2) := dk_21 6 (dk_at dksX4_layFewest_3 14 rfl rfl)
theorem dX4_layFewest_85 : decode cX4_layFewest 85 = .ok (.aload_n 0, 1) := dk_42 (dk_at dksX4_layFewest_3 16 rfl rfl)
theorem dX4_layFewest_86 : decode cX4_layFewest 86 = .ok (.getfield 59, 3) := dk_180 0 59 (dk_at dksX4_layFewest_3 17 rfl rfl)
theorem dX4_layFewest_89 : decode cX4_layFewest 89 = .ok (.iload 4, 2) := dk_21 4 (dk_at dksX4_layFewest_3 20 rfl rfl)
theorem dX4_layFewest_91 : decode cX4_layFewest 91 = .ok (.iaload, 1) := dk_46 (dk_at dksX4_layFewest_3 22 rfl rfl)
theorem dX4_layFewest_92 : decode cX4_layFewest 92 = .ok (.if_icmp .ge 7, 3) := dk_162 0 7 (dk_at dksX4_layFewest_4 0 rfl rfl)
theorem dX4_layFewest_95 : decode cX4_layFewest 95 = .ok (.iconst 1, 1) := dk_4 (dk_at dksX4_layFewest_4 3 rfl rfl)
theorem dX4_layFewest_96 : decode cX4_layFewest 96 = .ok (.goto 4, 3) := dk_167 0 4 (dk_at dksX4_layFewest_4 4 rfl rfl)
theorem dX4_layFewest_99 : decode cX4_layFewest 99 = .ok (.iconst 0, 1) := dk_3 (dk_at dksX4_layFewest_4 7 rfl rfl)
theorem dX4_layFewest_100 : decode cX4_layFewest 100 = .ok (.istore_n 3, 1) := dk_62 (dk_at dksX4_layFewest_4 8 rfl rfl)
theorem dX4_layFewest_101 : decode cX4_layFewest 101 = .ok (.aload_n 0, 1) := dk_42 (dk_at dksX4_layFewest_4 9 rfl rfl)
theorem dX4_layFewest_102 : decode cX4_layFewest 102 = .ok (.getfield 59, 3) := dk_180 0 59 (dk_at dksX4_layFewest_4 10 rfl rfl)
theorem dX4_layFewest_105 : decode cX4_layFewest 105 = .ok (.iload 4, 2) := dk_21 4 (dk_at dksX4_layFewest_4 13 rfl rfl)
theorem dX4_layFewest_107 : decode cX4_layFewest 107 = .ok (.iload 6, 2) := dk_21 6 (dk_at dksX4_layFewest_4 15 rfl rfl)
theorem dX4_layFewest_109 : decode cX4_layFewest 109 = .ok (.aload_n 0, 1) := dk_42 (dk_at dksX4_layFewest_4 17 rfl rfl)
theorem dX4_layFewest_110 : decode cX4_layFewest 110 = .ok (.getfield 59, 3) := dk_180 0 59 (dk_at dksX4_layFewest_4 18 rfl rfl)
theorem dX4_layFewest_113 : decode cX4_layFewest 113 = .ok (.iload 4, 2) := dk_21 4 (dk_at dksX4_layFewest_4 21 rfl rfl)
theorem dX4_layFewest_115 : decode cX4_layFewest 115 = .ok (.iaload, 1) := dk_46 (dk_at dksX4_layFewest_4 23 rfl rfl)
theorem dX4_layFewest_116 : decode cX4_layFewest 116 = .ok (.if_icmp .ge 8, 3) := dk_162 0 8 (dk_at dksX4_layFewest_5 0 rfl rfl)
theorem dX4_layFewest_119 : decode cX4_layFewest 119 = .ok (.iload 6, 2) := dk_21 6 (dk_at dksX4_layFewest_5 3 rfl rfl)
theorem dX4_layFewest_121 : decode cX4_layFewest 121 = .ok (.goto 10, 3) := dk_167 0 10 (dk_at dksX4_layFewest_5 5 rfl rfl)
theorem dX4_layFewest_124 : decode cX4_layFewest 124 = .ok (.aload_n 0, 1) := dk_42 (dk_at dksX4_layFewest_5 8 rfl rfl)
theorem dX4_layFewest_125 : decode cX4_layFewest 125 = .ok (.getfield 59, 3) := dk_180 0 59 (dk_at dksX4_layFewest_5 9 rfl rfl)
theorem dX4_layFewest_128 : decode cX4_layFewest 128 = .ok (.iload 4, 2) := dk_21 4 (dk_at dksX4_layFewest_5 12 rfl rfl)
theorem dX4_layFewest_130 : decode cX4_layFewest 130 = .ok (.iaload, 1) := dk_46 (dk_at dksX4_layFewest_5 14 rfl rfl)
theorem dX4_layFewest_131 : decode cX4_layFewest 131 = .ok (.iastore, 1) := dk_79 (dk_at dksX4_layFewest_5 15 rfl rfl)
theorem dX4_layFewest_132 : decode cX4_layFewest 132 = .ok (.iinc 5 1, 3) := dk_132 5 1 (dk_at dksX4_layFewest_5 16 rfl rfl)
theorem dX4_layFewest_135 : decode cX4_layFewest 135 = .ok (.goto (-80), 3) := dk_167 255 176 (dk_at dksX4_layFewest_5 19 rfl rfl)
theorem dX4_layFewest_138 : decode cX4_layFewest 138 = .ok (.iinc 4 (-1), 3) := dk_132 4 255 (dk_at dksX4_layFewest_6 0 rfl rfl)
theorem dX4_layFewest_141 : decode cX4_layFewest 141 = .ok (.goto (-94), 3) := dk_167 255 162 (dk_at dksX4_layFewest_6 3 rfl rfl)
theorem dX4_layFewest_144 : decode cX4_layFewest 144 = .ok (.goto (-108), 3) := dk_167 255 148 (dk_at dksX4_layFewest_6 6 rfl rfl)
theorem dX4_layFewest_147 : decode cX4_layFewest 147 = .ok (.return_, 1) := dk_177 (dk_at dksX4_layFewest_6 9 rfl rfl)
abbrev cX4_behindWay : ByteArray := prog_21_method_50_code
def yX4_behindWay : MethodName := ⟨RX4, "behindWay", "(III)I"⟩
def dkwX4_behindWay_5 : List UInt8 := [16, 21, 21, 4, 104, 21, 5, 96, 172]
abbrev dktX4_behindWay_5 : List UInt8 := dkwX4_behindWay_5 ++ []
def dkwX4_behindWay_4 : List UInt8 := [161, 0, 9, 132, 4, 1, 167, 0, 18, 21, 5, 42, 27, 182, 0, 116, 100, 16, 20, 184, 0, 103, 54, 5]
abbrev dktX4_behindWay_4 : List UInt8 := dkwX4_behindWay_4 ++ dktX4_behindWay_5
def dkwX4_behindWay_3 : List UInt8 := [161, 0, 7, 4, 167, 0, 4, 3, 96, 54, 4, 167, 0, 36, 21, 5, 42, 27, 21, 4, 182, 0, 92]
abbrev dktX4_behindWay_3 : List UInt8 := dkwX4_behindWay_3 ++ dktX4_behindWay_4
def dkwX4_behindWay_2 : List UInt8 := [96, 4, 96, 16, 20, 184, 0, 103, 54, 5, 21, 4, 21, 5, 42, 27, 21, 4, 182, 0, 92, 6, 96]
abbrev dktX4_behindWay_2 : List UInt8 := dkwX4_behindWay_2 ++ dktX4_behindWay_3
def dkwX4_behindWay_1 : List UInt8 := [16, 20, 184, 0, 103, 54, 5, 167, 0, 87, 29, 4, 160, 0, 49, 21, 5, 42, 27, 182, 0, 122, 5, 108]
abbrev dktX4_behindWay_1 : List UInt8 := dkwX4_behindWay_1 ++ dktX4_behindWay_2
def dkwX4_behindWay_0 : List UInt8 := [28, 16, 21, 108, 54, 4, 28, 16, 21, 112, 54, 5, 29, 154, 0, 21, 21, 5, 42, 27, 182, 0, 122, 96]
abbrev dktX4_behindWay_0 : List UInt8 := dkwX4_behindWay_0 ++ dktX4_behindWay_1
theorem dksX4_behindWay_0 : cX4_behindWay.data.toList.drop 0 = dktX4_behindWay_0 := by decide +kernel
theorem dksX4_behindWay_1 : cX4_behindWay.data.toList.drop 24 = dktX4_behindWay_1 := dk_seg dksX4_behindWay_0 24 rfl rfl
theorem dksX4_behindWay_2 : cX4_behindWay.data.toList.drop 48 = dktX4_behindWay_2 := dk_seg dksX4_behindWay_1 24 rfl rfl
theorem dksX4_behindWay_3 : cX4_behindWay.data.toList.drop 71 = dktX4_behindWay_3 := dk_seg dksX4_behindWay_2 23 rfl rfl
theorem dksX4_behindWay_4 : cX4_behindWay.data.toList.drop 94 = dktX4_behindWay_4 := dk_seg dksX4_behindWay_3 23 rfl rfl
theorem dksX4_behindWay_5 : cX4_behindWay.data.toList.drop 118 = dktX4_behindWay_5 := dk_seg dksX4_behindWay_4 24 rfl rfl
theorem dX4_behindWay_0 : decode cX4_behindWay 0 = .ok (.iload_n 2, 1) := dk_28 (dk_at dksX4_behindWay_0 0 rfl rfl)
theorem dX4_behindWay_1 : decode cX4_behindWay 1 = .ok (.bipush 21, 2) := dk_16 21 (dk_at dksX4_behindWay_0 1 rfl rfl)
theorem dX4_behindWay_3 : decode cX4_behindWay 3 = .ok (.idiv, 1) := dk_108 (dk_at dksX4_behindWay_0 3 rfl rfl)
theorem dX4_behindWay_4 : decode cX4_behindWay 4 = .ok (.istore 4, 2) := dk_54 4 (dk_at dksX4_behindWay_0 4 rfl rfl)
theorem dX4_behindWay_6 : decode cX4_behindWay 6 = .ok (.iload_n 2, 1) := dk_28 (dk_at dksX4_behindWay_0 6 rfl rfl)
theorem dX4_behindWay_7 : decode cX4_behindWay 7 = .ok (.bipush 21, 2) := dk_16 21 (dk_at dksX4_behindWay_0 7 rfl rfl)
theorem dX4_behindWay_9 : decode cX4_behindWay 9 = .ok (.irem, 1) := dk_112 (dk_at dksX4_behindWay_0 9 rfl rfl)
theorem dX4_behindWay_10 : decode cX4_behindWay 10 = .ok (.istore 5, 2) := dk_54 5 (dk_at dksX4_behindWay_0 10 rfl rfl)
theorem dX4_behindWay_12 : decode cX4_behindWay 12 = .ok (.iload_n 3, 1) := dk_29 (dk_at dksX4_behindWay_0 12 rfl rfl)
theorem dX4_behindWay_13 : decode cX4_behindWay 13 = .ok (.ifCond .ne 21, 3) := dk_154 0 21 (dk_at dksX4_behindWay_0 13 rfl rfl)
theorem dX4_behindWay_16 : decode cX4_behindWay 16 = .ok (.iload 5, 2) := dk_21 5 (dk_at dksX4_behindWay_0 16 rfl rfl)
theorem dX4_behindWay_18 : decode cX4_behindWay 18 = .ok (.aload_n 0, 1) := dk_42 (dk_at dksX4_behindWay_0 18 rfl rfl)
theorem dX4_behindWay_19 : decode cX4_behindWay 19 = .ok (.iload_n 1, 1) := dk_27 (dk_at dksX4_behindWay_0 19 rfl rfl)
theorem dX4_behindWay_20 : decode cX4_behindWay 20 = .ok (.invokevirtual 122, 3) := dk_182 0 122 (dk_at dksX4_behindWay_0 20 rfl rfl)
theorem dX4_behindWay_23 : decode cX4_behindWay 23 = .ok (.iadd, 1) := dk_96 (dk_at dksX4_behindWay_0 23 rfl rfl)
theorem dX4_behindWay_24 : decode cX4_behindWay 24 = .ok (.bipush 20, 2) := dk_16 20 (dk_at dksX4_behindWay_1 0 rfl rfl)
theorem dX4_behindWay_26 : decode cX4_behindWay 26 = .ok (.invokestatic 103, 3) := dk_184 0 103 (dk_at dksX4_behindWay_1 2 rfl rfl)
theorem dX4_behindWay_29 : decode cX4_behindWay 29 = .ok (.istore 5, 2) := dk_54 5 (dk_at dksX4_behindWay_1 5 rfl rfl)
theorem dX4_behindWay_31 : decode cX4_behindWay 31 = .ok (.goto 87, 3) := dk_167 0 87 (dk_at dksX4_behindWay_1 7 rfl rfl)
theorem dX4_behindWay_34 : decode cX4_behindWay 34 = .ok (.iload_n 3, 1) := dk_29 (dk_at dksX4_behindWay_1 10 rfl rfl)
theorem dX4_behindWay_35 : decode cX4_behindWay 35 = .ok (.iconst 1, 1) := dk_4 (dk_at dksX4_behindWay_1 11 rfl rfl)
theorem dX4_behindWay_36 : decode cX4_behindWay 36 = .ok (.if_icmp .ne 49, 3) := dk_160 0 49 (dk_at dksX4_behindWay_1 12 rfl rfl)
theorem dX4_behindWay_39 : decode cX4_behindWay 39 = .ok (.iload 5, 2) := dk_21 5 (dk_at dksX4_behindWay_1 15 rfl rfl)
theorem dX4_behindWay_41 : decode cX4_behindWay 41 = .ok (.aload_n 0, 1) := dk_42 (dk_at dksX4_behindWay_1 17 rfl rfl)
theorem dX4_behindWay_42 : decode cX4_behindWay 42 = .ok (.iload_n 1, 1) := dk_27 (dk_at dksX4_behindWay_1 18 rfl rfl)
theorem dX4_behindWay_43 : decode cX4_behindWay 43 = .ok (.invokevirtual 122, 3) := dk_182 0 122 (dk_at dksX4_behindWay_1 19 rfl rfl)
theorem dX4_behindWay_46 : decode cX4_behindWay 46 = .ok (.iconst 2, 1) := dk_5 (dk_at dksX4_behindWay_1 22 rfl rfl)
theorem dX4_behindWay_47 : decode cX4_behindWay 47 = .ok (.idiv, 1) := dk_108 (dk_at dksX4_behindWay_1 23 rfl rfl)
theorem dX4_behindWay_48 : decode cX4_behindWay 48 = .ok (.iadd, 1) := dk_96 (dk_at dksX4_behindWay_2 0 rfl rfl)
theorem dX4_behindWay_49 : decode cX4_behindWay 49 = .ok (.iconst 1, 1) := dk_4 (dk_at dksX4_behindWay_2 1 rfl rfl)
theorem dX4_behindWay_50 : decode cX4_behindWay 50 = .ok (.iadd, 1) := dk_96 (dk_at dksX4_behindWay_2 2 rfl rfl)
theorem dX4_behindWay_51 : decode cX4_behindWay 51 = .ok (.bipush 20, 2) := dk_16 20 (dk_at dksX4_behindWay_2 3 rfl rfl)
theorem dX4_behindWay_53 : decode cX4_behindWay 53 = .ok (.invokestatic 103, 3) := dk_184 0 103 (dk_at dksX4_behindWay_2 5 rfl rfl)
theorem dX4_behindWay_56 : decode cX4_behindWay 56 = .ok (.istore 5, 2) := dk_54 5 (dk_at dksX4_behindWay_2 8 rfl rfl)
theorem dX4_behindWay_58 : decode cX4_behindWay 58 = .ok (.iload 4, 2) := dk_21 4 (dk_at dksX4_behindWay_2 10 rfl rfl)
theorem dX4_behindWay_60 : decode cX4_behindWay 60 = .ok (.iload 5, 2) := dk_21 5 (dk_at dksX4_behindWay_2 12 rfl rfl)
theorem dX4_behindWay_62 : decode cX4_behindWay 62 = .ok (.aload_n 0, 1) := dk_42 (dk_at dksX4_behindWay_2 14 rfl rfl)
theorem dX4_behindWay_63 : decode cX4_behindWay 63 = .ok (.iload_n 1, 1) := dk_27 (dk_at dksX4_behindWay_2 15 rfl rfl)
theorem dX4_behindWay_64 : decode cX4_behindWay 64 = .ok (.iload 4, 2) := dk_21 4 (dk_at dksX4_behindWay_2 16 rfl rfl)
theorem dX4_behindWay_66 : decode cX4_behindWay 66 = .ok (.invokevirtual 92, 3) := dk_182 0 92 (dk_at dksX4_behindWay_2 18 rfl rfl)
theorem dX4_behindWay_69 : decode cX4_behindWay 69 = .ok (.iconst 3, 1) := dk_6 (dk_at dksX4_behindWay_2 21 rfl rfl)
theorem dX4_behindWay_70 : decode cX4_behindWay 70 = .ok (.iadd, 1) := dk_96 (dk_at dksX4_behindWay_2 22 rfl rfl)
theorem dX4_behindWay_71 : decode cX4_behindWay 71 = .ok (.if_icmp .lt 7, 3) := dk_161 0 7 (dk_at dksX4_behindWay_3 0 rfl rfl)
theorem dX4_behindWay_74 : decode cX4_behindWay 74 = .ok (.iconst 1, 1) := dk_4 (dk_at dksX4_behindWay_3 3 rfl rfl)
theorem dX4_behindWay_75 : decode cX4_behindWay 75 = .ok (.goto 4, 3) := dk_167 0 4 (dk_at dksX4_behindWay_3 4 rfl rfl)
theorem dX4_behindWay_78 : decode cX4_behindWay 78 = .ok (.iconst 0, 1) := dk_3 (dk_at dksX4_behindWay_3 7 rfl rfl)
theorem dX4_behindWay_79 : decode cX4_behindWay 79 = .ok (.iadd, 1) := dk_96 (dk_at dksX4_behindWay_3 8 rfl rfl)
theorem dX4_behindWay_80 : decode cX4_behindWay 80 = .ok (.istore 4, 2) := dk_54 4 (dk_at dksX4_behindWay_3 9 rfl rfl)
theorem dX4_behindWay_82 : decode cX4_behindWay 82 = .ok (.goto 36, 3) := dk_167 0 36 (dk_at dksX4_behindWay_3 11 rfl rfl)
theorem dX4_behindWay_85 : decode cX4_behindWay 85 = .ok (.iload 5, 2) := dk_21 5 (dk_at dksX4_behindWay_3 14 rfl rfl)
theorem dX4_behindWay_87 : decode cX4_behindWay 87 = .ok (.aload_n 0, 1) := dk_42 (dk_at dksX4_behindWay_3 16 rfl rfl)
theorem dX4_behindWay_88 : decode cX4_behindWay 88 = .ok (.iload_n 1, 1) := dk_27 (dk_at dksX4_behindWay_3 17 rfl rfl)
theorem dX4_behindWay_89 : decode cX4_behindWay 89 = .ok (.iload 4, 2) := dk_21 4 (dk_at dksX4_behindWay_3 18 rfl rfl)
theorem dX4_behindWay_91 : decode cX4_behindWay 91 = .ok (.invokevirtual 92, 3) := dk_182 0 92 (dk_at dksX4_behindWay_3 20 rfl rfl)
theorem dX4_behindWay_94 : decode cX4_behindWay 94 = .ok (.if_icmp .lt 9, 3) := dk_161 0 9 (dk_at dksX4_behindWay_4 0 rfl rfl)
theorem dX4_behindWay_97 : decode cX4_behindWay 97 = .ok (.iinc 4 1, 3) := dk_132 4 1 (dk_at dksX4_behindWay_4 3 rfl rfl)
theorem dX4_behindWay_100 : decode cX4_behindWay 100 = .ok (.goto 18, 3) := dk_167 0 18 (dk_at dksX4_behindWay_4 6 rfl rfl)
theorem dX4_behindWay_103 : decode cX4_behindWay 103 = .ok (.iload 5, 2) := dk_21 5 (dk_at dksX4_behindWay_4 9 rfl rfl)
theorem dX4_behindWay_105 : decode cX4_behindWay 105 = .ok (.aload_n 0, 1) := dk_42 (dk_at dksX4_behindWay_4 11 rfl rfl)
theorem dX4_behindWay_106 : decode cX4_behindWay 106 = .ok (.iload_n 1, 1) := dk_27 (dk_at dksX4_behindWay_4 12 rfl rfl)
theorem dX4_behindWay_107 : decode cX4_behindWay 107 = .ok (.invokevirtual 116, 3) := dk_182 0 116 (dk_at dksX4_behindWay_4 13 rfl rfl)
theorem dX4_behindWay_110 : decode cX4_behindWay 110 = .ok (.isub, 1) := dk_100 (dk_at dksX4_behindWay_4 16 rfl rfl)
theorem dX4_behindWay_111 : decode cX4_behindWay 111 = .ok (.bipush 20, 2) := dk_16 20 (dk_at dksX4_behindWay_4 17 rfl rfl)
theorem dX4_behindWay_113 : decode cX4_behindWay 113 = .ok (.invokestatic 103, 3) := dk_184 0 103 (dk_at dksX4_behindWay_4 19 rfl rfl)
theorem dX4_behindWay_116 : decode cX4_behindWay 116 = .ok (.istore 5, 2) := dk_54 5 (dk_at dksX4_behindWay_4 22 rfl rfl)
theorem dX4_behindWay_118 : decode cX4_behindWay 118 = .ok (.bipush 21, 2) := dk_16 21 (dk_at dksX4_behindWay_5 0 rfl rfl)
theorem dX4_behindWay_120 : decode cX4_behindWay 120 = .ok (.iload 4, 2) := dk_21 4 (dk_at dksX4_behindWay_5 2 rfl rfl)
theorem dX4_behindWay_122 : decode cX4_behindWay 122 = .ok (.imul, 1) := dk_104 (dk_at dksX4_behindWay_5 4 rfl rfl)
theorem dX4_behindWay_123 : decode cX4_behindWay 123 = .ok (.iload 5, 2) := dk_21 5 (dk_at dksX4_behindWay_5 5 rfl rfl)
theorem dX4_behindWay_125 : decode cX4_behindWay 125 = .ok (.iadd, 1) := dk_96 (dk_at dksX4_behindWay_5 7 rfl rfl)
theorem dX4_behindWay_126 : decode cX4_behindWay 126 = .ok (.ireturn, 1) := dk_172 (dk_at dksX4_behindWay_5 8 rfl rfl)
abbrev cX4_aloneFrom : ByteArray := prog_21_method_53_code
def yX4_aloneFrom : MethodName := ⟨RX4, "aloneFrom", "(II)I"⟩
def dkwX4_aloneFrom_1 : List UInt8 := [16, 60, 164, 0, 8, 16, 252, 167, 0, 4, 29, 172]
abbrev dktX4_aloneFrom_1 : List UInt8 := dkwX4_aloneFrom_1 ++ []
def dkwX4_aloneFrom_0 : List UInt8 := [42, 180, 0, 59, 16, 21, 42, 180, 0, 19, 27, 46, 104, 28, 16, 20, 184, 0, 103, 96, 46, 62, 29]
abbrev dktX4_aloneFrom_0 : List UInt8 := dkwX4_aloneFrom_0 ++ dktX4_aloneFrom_1
theorem dksX4_aloneFrom_0 : cX4_aloneFrom.data.toList.drop 0 = dktX4_aloneFrom_0 := by decide +kernel
theorem dksX4_aloneFrom_1 : cX4_aloneFrom.data.toList.drop 23 = dktX4_aloneFrom_1 := dk_seg dksX4_aloneFrom_0 23 rfl rfl
theorem dX4_aloneFrom_0 : decode cX4_aloneFrom 0 = .ok (.aload_n 0, 1) := dk_42 (dk_at dksX4_aloneFrom_0 0 rfl rfl)
theorem dX4_aloneFrom_1 : decode cX4_aloneFrom 1 = .ok (.getfield 59, 3) := dk_180 0 59 (dk_at dksX4_aloneFrom_0 1 rfl rfl)
theorem dX4_aloneFrom_4 : decode cX4_aloneFrom 4 = .ok (.bipush 21, 2) := dk_16 21 (dk_at dksX4_aloneFrom_0 4 rfl rfl)
theorem dX4_aloneFrom_6 : decode cX4_aloneFrom 6 = .ok (.aload_n 0, 1) := dk_42 (dk_at dksX4_aloneFrom_0 6 rfl rfl)
theorem dX4_aloneFrom_7 : decode cX4_aloneFrom 7 = .ok (.getfield 19, 3) := dk_180 0 19 (dk_at dksX4_aloneFrom_0 7 rfl rfl)
theorem dX4_aloneFrom_10 : decode cX4_aloneFrom 10 = .ok (.iload_n 1, 1) := dk_27 (dk_at dksX4_aloneFrom_0 10 rfl rfl)
theorem dX4_aloneFrom_11 : decode cX4_aloneFrom 11 = .ok (.iaload, 1) := dk_46 (dk_at dksX4_aloneFrom_0 11 rfl rfl)
theorem dX4_aloneFrom_12 : decode cX4_aloneFrom 12 = .ok (.imul, 1) := dk_104 (dk_at dksX4_aloneFrom_0 12 rfl rfl)
theorem dX4_aloneFrom_13 : decode cX4_aloneFrom 13 = .ok (.iload_n 2, 1) := dk_28 (dk_at dksX4_aloneFrom_0 13 rfl rfl)
theorem dX4_aloneFrom_14 : decode cX4_aloneFrom 14 = .ok (.bipush 20, 2) := dk_16 20 (dk_at dksX4_aloneFrom_0 14 rfl rfl)
theorem dX4_aloneFrom_16 : decode cX4_aloneFrom 16 = .ok (.invokestatic 103, 3) := dk_184 0 103 (dk_at dksX4_aloneFrom_0 16 rfl rfl)
theorem dX4_aloneFrom_19 : decode cX4_aloneFrom 19 = .ok (.iadd, 1) := dk_96 (dk_at dksX4_aloneFrom_0 19 rfl rfl)
theorem dX4_aloneFrom_20 : decode cX4_aloneFrom 20 = .ok (.iaload, 1) := dk_46 (dk_at dksX4_aloneFrom_0 20 rfl rfl)
theorem dX4_aloneFrom_21 : decode cX4_aloneFrom 21 = .ok (.istore_n 3, 1) := dk_62 (dk_at dksX4_aloneFrom_0 21 rfl rfl)
theorem dX4_aloneFrom_22 : decode cX4_aloneFrom 22 = .ok (.iload_n 3, 1) := dk_29 (dk_at dksX4_aloneFrom_0 22 rfl rfl)
theorem dX4_aloneFrom_23 : decode cX4_aloneFrom 23 = .ok (.bipush 60, 2) := dk_16 60 (dk_at dksX4_aloneFrom_1 0 rfl rfl)
theorem dX4_aloneFrom_25 : decode cX4_aloneFrom 25 = .ok (.if_icmp .le 8, 3) := dk_164 0 8 (dk_at dksX4_aloneFrom_1 2 rfl rfl)
theorem dX4_aloneFrom_28 : decode cX4_aloneFrom 28 = .ok (.bipush (-4), 2) := dk_16 252 (dk_at dksX4_aloneFrom_1 5 rfl rfl)
theorem dX4_aloneFrom_30 : decode cX4_aloneFrom 30 = .ok (.goto 4, 3) := dk_167 0 4 (dk_at dksX4_aloneFrom_1 7 rfl rfl)
theorem dX4_aloneFrom_33 : decode cX4_aloneFrom 33 = .ok (.iload_n 3, 1) := dk_29 (dk_at dksX4_aloneFrom_1 10 rfl rfl)
theorem dX4_aloneFrom_34 : decode cX4_aloneFrom 34 = .ok (.ireturn, 1) := dk_172 (dk_at dksX4_aloneFrom_1 11 rfl rfl)
abbrev cX4_stateOf : ByteArray := prog_21_method_52_code
def yX4_stateOf : MethodName := ⟨RX4, "stateOf", "(I)I"⟩
def dkwX4_stateOf_0 : List UInt8 := [16, 21, 42, 180, 0, 19, 27, 46, 104, 42, 180, 0, 16, 27, 46, 96, 172]
abbrev dktX4_stateOf_0 : List UInt8 := dkwX4_stateOf_0 ++ []
theorem dksX4_stateOf_0 : cX4_stateOf.data.toList.drop 0 = dktX4_stateOf_0 := by decide +kernel
theorem dX4_stateOf_0 : decode cX4_stateOf 0 = .ok (.bipush 21, 2) := dk_16 21 (dk_at dksX4_stateOf_0 0 rfl rfl)
theorem dX4_stateOf_2 : decode cX4_stateOf 2 = .ok (.aload_n 0, 1) := dk_42 (dk_at dksX4_stateOf_0 2 rfl rfl)
theorem dX4_stateOf_3 : decode cX4_stateOf 3 = .ok (.getfield 19, 3) := dk_180 0 19 (dk_at dksX4_stateOf_0 3 rfl rfl)
theorem dX4_stateOf_6 : decode cX4_stateOf 6 = .ok (.iload_n 1, 1) := dk_27 (dk_at dksX4_stateOf_0 6 rfl rfl)
theorem dX4_stateOf_7 : decode cX4_stateOf 7 = .ok (.iaload, 1) := dk_46 (dk_at dksX4_stateOf_0 7 rfl rfl)
theorem dX4_stateOf_8 : decode cX4_stateOf 8 = .ok (.imul, 1) := dk_104 (dk_at dksX4_stateOf_0 8 rfl rfl)
theorem dX4_stateOf_9 : decode cX4_stateOf 9 = .ok (.aload_n 0, 1) := dk_42 (dk_at dksX4_stateOf_0 9 rfl rfl)
theorem dX4_stateOf_10 : decode cX4_stateOf 10 = .ok (.getfield 16, 3) := dk_180 0 16 (dk_at dksX4_stateOf_0 10 rfl rfl)
theorem dX4_stateOf_13 : decode cX4_stateOf 13 = .ok (.iload_n 1, 1) := dk_27 (dk_at dksX4_stateOf_0 13 rfl rfl)
theorem dX4_stateOf_14 : decode cX4_stateOf 14 = .ok (.iaload, 1) := dk_46 (dk_at dksX4_stateOf_0 14 rfl rfl)
theorem dX4_stateOf_15 : decode cX4_stateOf 15 = .ok (.iadd, 1) := dk_96 (dk_at dksX4_stateOf_0 15 rfl rfl)
theorem dX4_stateOf_16 : decode cX4_stateOf 16 = .ok (.ireturn, 1) := dk_172 (dk_at dksX4_stateOf_0 16 rfl rfl)
abbrev cX4_neverHeld : ByteArray := prog_21_method_55_code
def yX4_neverHeld : MethodName := ⟨RX4, "neverHeld", "(I)I"⟩
def dkwX4_neverHeld_1 : List UInt8 := [180, 0, 16, 27, 46, 182, 0, 247, 172]
abbrev dktX4_neverHeld_1 : List UInt8 := dkwX4_neverHeld_1 ++ []
def dkwX4_neverHeld_0 : List UInt8 := [42, 3, 181, 0, 77, 42, 27, 182, 0, 99, 154, 0, 5, 2, 172, 42, 27, 4, 182, 0, 244, 42, 27, 42]
abbrev dktX4_neverHeld_0 : List UInt8 := dkwX4_neverHeld_0 ++ dktX4_neverHeld_1
theorem dksX4_neverHeld_0 : cX4_neverHeld.data.toList.drop 0 = dktX4_neverHeld_0 := by decide +kernel
theorem dksX4_neverHeld_1 : cX4_neverHeld.data.toList.drop 24 = dktX4_neverHeld_1 := dk_seg dksX4_neverHeld_0 24 rfl rfl
theorem dX4_neverHeld_0 : decode cX4_neverHeld 0 = .ok (.aload_n 0, 1) := dk_42 (dk_at dksX4_neverHeld_0 0 rfl rfl)
theorem dX4_neverHeld_1 : decode cX4_neverHeld 1 = .ok (.iconst 0, 1) := dk_3 (dk_at dksX4_neverHeld_0 1 rfl rfl)
theorem dX4_neverHeld_2 : decode cX4_neverHeld 2 = .ok (.putfield 77, 3) := dk_181 0 77 (dk_at dksX4_neverHeld_0 2 rfl rfl)
theorem dX4_neverHeld_5 : decode cX4_neverHeld 5 = .ok (.aload_n 0, 1) := dk_42 (dk_at dksX4_neverHeld_0 5 rfl rfl)
theorem dX4_neverHeld_6 : decode cX4_neverHeld 6 = .ok (.iload_n 1, 1) := dk_27 (dk_at dksX4_neverHeld_0 6 rfl rfl)
theorem dX4_neverHeld_7 : decode cX4_neverHeld 7 = .ok (.invokevirtual 99, 3) := dk_182 0 99 (dk_at dksX4_neverHeld_0 7 rfl rfl)
theorem dX4_neverHeld_10 : decode cX4_neverHeld 10 = .ok (.ifCond .ne 5, 3) := dk_154 0 5 (dk_at dksX4_neverHeld_0 10 rfl rfl)
theorem dX4_neverHeld_13 : decode cX4_neverHeld 13 = .ok (.iconst (-1), 1) := dk_2 (dk_at dksX4_neverHeld_0 13 rfl rfl)
theorem dX4_neverHeld_14 : decode cX4_neverHeld 14 = .ok (.ireturn, 1) := dk_172 (dk_at dksX4_neverHeld_0 14 rfl rfl)
theorem dX4_neverHeld_15 : decode cX4_neverHeld 15 = .ok (.aload_n 0, 1) := dk_42 (dk_at dksX4_neverHeld_0 15 rfl rfl)
theorem dX4_neverHeld_16 : decode cX4_neverHeld 16 = .ok (.iload_n 1, 1) := dk_27 (dk_at dksX4_neverHeld_0 16 rfl rfl)
theorem dX4_neverHeld_17 : decode cX4_neverHeld 17 = .ok (.iconst 1, 1) := dk_4 (dk_at dksX4_neverHeld_0 17 rfl rfl)
theorem dX4_neverHeld_18 : decode cX4_neverHeld 18 = .ok (.invokevirtual 244, 3) := dk_182 0 244 (dk_at dksX4_neverHeld_0 18 rfl rfl)
theorem dX4_neverHeld_21 : decode cX4_neverHeld 21 = .ok (.aload_n 0, 1) := dk_42 (dk_at dksX4_neverHeld_0 21 rfl rfl)
theorem dX4_neverHeld_22 : decode cX4_neverHeld 22 = .ok (.iload_n 1, 1) := dk_27 (dk_at dksX4_neverHeld_0 22 rfl rfl)
theorem dX4_neverHeld_23 : decode cX4_neverHeld 23 = .ok (.aload_n 0, 1) := dk_42 (dk_at dksX4_neverHeld_0 23 rfl rfl)
theorem dX4_neverHeld_24 : decode cX4_neverHeld 24 = .ok (.getfield 16, 3) := dk_180 0 16 (dk_at dksX4_neverHeld_1 0 rfl rfl)
theorem dX4_neverHeld_27 : decode cX4_neverHeld 27 = .ok (.iload_n 1, 1) := dk_27 (dk_at dksX4_neverHeld_1 3 rfl rfl)
theorem dX4_neverHeld_28 : decode cX4_neverHeld 28 = .ok (.iaload, 1) := dk_46 (dk_at dksX4_neverHeld_1 4 rfl rfl)
theorem dX4_neverHeld_29 : decode cX4_neverHeld 29 = .ok (.invokevirtual 247, 3) := dk_182 0 247 (dk_at dksX4_neverHeld_1 5 rfl rfl)
theorem dX4_neverHeld_32 : decode cX4_neverHeld 32 = .ok (.ireturn, 1) := dk_172 (dk_at dksX4_neverHeld_1 8 rfl rfl)
abbrev cX4_mostSteps : ByteArray := prog_21_method_60_code
def yX4_mostSteps : MethodName := ⟨RX4, "mostSteps", "(II)I"⟩
def dkwX4_mostSteps_2 : List UInt8 := [180, 1, 0, 172]
abbrev dktX4_mostSteps_2 : List UInt8 := dkwX4_mostSteps_2 ++ []
def dkwX4_mostSteps_1 : List UInt8 := [154, 0, 5, 2, 172, 42, 27, 182, 1, 12, 28, 154, 0, 10, 42, 180, 0, 253, 167, 0, 7, 42]
abbrev dktX4_mostSteps_1 : List UInt8 := dkwX4_mostSteps_1 ++ dktX4_mostSteps_2
def dkwX4_mostSteps_0 : List UInt8 := [42, 3, 181, 0, 77, 27, 133, 9, 20, 0, 230, 184, 0, 84, 153, 0, 13, 28, 133, 9, 10, 184, 0, 84]
abbrev dktX4_mostSteps_0 : List UInt8 := dkwX4_mostSteps_0 ++ dktX4_mostSteps_1
theorem dksX4_mostSteps_0 : cX4_mostSteps.data.toList.drop 0 = dktX4_mostSteps_0 := by decide +kernel
theorem dksX4_mostSteps_1 : cX4_mostSteps.data.toList.drop 24 = dktX4_mostSteps_1 := dk_seg dksX4_mostSteps_0 24 rfl rfl
theorem dksX4_mostSteps_2 : cX4_mostSteps.data.toList.drop 46 = dktX4_mostSteps_2 := dk_seg dksX4_mostSteps_1 22 rfl rfl
theorem dX4_mostSteps_0 : decode cX4_mostSteps 0 = .ok (.aload_n 0, 1) := dk_42 (dk_at dksX4_mostSteps_0 0 rfl rfl)
theorem dX4_mostSteps_1 : decode cX4_mostSteps 1 = .ok (.iconst 0, 1) := dk_3 (dk_at dksX4_mostSteps_0 1 rfl rfl)
theorem dX4_mostSteps_2 : decode cX4_mostSteps 2 = .ok (.putfield 77, 3) := dk_181 0 77 (dk_at dksX4_mostSteps_0 2 rfl rfl)
theorem dX4_mostSteps_5 : decode cX4_mostSteps 5 = .ok (.iload_n 1, 1) := dk_27 (dk_at dksX4_mostSteps_0 5 rfl rfl)
theorem dX4_mostSteps_6 : decode cX4_mostSteps 6 = .ok (.i2l, 1) := dk_133 (dk_at dksX4_mostSteps_0 6 rfl rfl)
theorem dX4_mostSteps_7 : decode cX4_mostSteps 7 = .ok (.lconst 0, 1) := dk_9 (dk_at dksX4_mostSteps_0 7 rfl rfl)
theorem dX4_mostSteps_8 : decode cX4_mostSteps 8 = .ok (.ldc2_w 230, 3) := dk_20 0 230 (dk_at dksX4_mostSteps_0 8 rfl rfl)
theorem dX4_mostSteps_11 : decode cX4_mostSteps 11 = .ok (.invokestatic 84, 3) := dk_184 0 84 (dk_at dksX4_mostSteps_0 11 rfl rfl)
theorem dX4_mostSteps_14 : decode cX4_mostSteps 14 = .ok (.ifCond .eq 13, 3) := dk_153 0 13 (dk_at dksX4_mostSteps_0 14 rfl rfl)
theorem dX4_mostSteps_17 : decode cX4_mostSteps 17 = .ok (.iload_n 2, 1) := dk_28 (dk_at dksX4_mostSteps_0 17 rfl rfl)
theorem dX4_mostSteps_18 : decode cX4_mostSteps 18 = .ok (.i2l, 1) := dk_133 (dk_at dksX4_mostSteps_0 18 rfl rfl)
theorem dX4_mostSteps_19 : decode cX4_mostSteps 19 = .ok (.lconst 0, 1) := dk_9 (dk_at dksX4_mostSteps_0 19 rfl rfl)
theorem dX4_mostSteps_20 : decode cX4_mostSteps 20 = .ok (.lconst 1, 1) := dk_10 (dk_at dksX4_mostSteps_0 20 rfl rfl)
theorem dX4_mostSteps_21 : decode cX4_mostSteps 21 = .ok (.invokestatic 84, 3) := dk_184 0 84 (dk_at dksX4_mostSteps_0 21 rfl rfl)
theorem dX4_mostSteps_24 : decode cX4_mostSteps 24 = .ok (.ifCond .ne 5, 3) := dk_154 0 5 (dk_at dksX4_mostSteps_1 0 rfl rfl)
theorem dX4_mostSteps_27 : decode cX4_mostSteps 27 = .ok (.iconst (-1), 1) := dk_2 (dk_at dksX4_mostSteps_1 3 rfl rfl)
theorem dX4_mostSteps_28 : decode cX4_mostSteps 28 = .ok (.ireturn, 1) := dk_172 (dk_at dksX4_mostSteps_1 4 rfl rfl)
theorem dX4_mostSteps_29 : decode cX4_mostSteps 29 = .ok (.aload_n 0, 1) := dk_42 (dk_at dksX4_mostSteps_1 5 rfl rfl)
theorem dX4_mostSteps_30 : decode cX4_mostSteps 30 = .ok (.iload_n 1, 1) := dk_27 (dk_at dksX4_mostSteps_1 6 rfl rfl)
theorem dX4_mostSteps_31 : decode cX4_mostSteps 31 = .ok (.invokevirtual 268, 3) := dk_182 1 12 (dk_at dksX4_mostSteps_1 7 rfl rfl)
theorem dX4_mostSteps_34 : decode cX4_mostSteps 34 = .ok (.iload_n 2, 1) := dk_28 (dk_at dksX4_mostSteps_1 10 rfl rfl)
theorem dX4_mostSteps_35 : decode cX4_mostSteps 35 = .ok (.ifCond .ne 10, 3) := dk_154 0 10 (dk_at dksX4_mostSteps_1 11 rfl rfl)
theorem dX4_mostSteps_38 : decode cX4_mostSteps 38 = .ok (.aload_n 0, 1) := dk_42 (dk_at dksX4_mostSteps_1 14 rfl rfl)
theorem dX4_mostSteps_39 : decode cX4_mostSteps 39 = .ok (.getfield 253, 3) := dk_180 0 253 (dk_at dksX4_mostSteps_1 15 rfl rfl)
theorem dX4_mostSteps_42 : decode cX4_mostSteps 42 = .ok (.goto 7, 3) := dk_167 0 7 (dk_at dksX4_mostSteps_1 18 rfl rfl)
theorem dX4_mostSteps_45 : decode cX4_mostSteps 45 = .ok (.aload_n 0, 1) := dk_42 (dk_at dksX4_mostSteps_1 21 rfl rfl)
theorem dX4_mostSteps_46 : decode cX4_mostSteps 46 = .ok (.getfield 256, 3) := dk_180 1 0 (dk_at dksX4_mostSteps_2 0 rfl rfl)
theorem dX4_mostSteps_49 : decode cX4_mostSteps 49 = .ok (.ireturn, 1) := dk_172 (dk_at dksX4_mostSteps_2 3 rfl rfl)
abbrev cX4_layMost : ByteArray := prog_21_method_59_code
def yX4_layMost : MethodName := ⟨RX4, "layMost", "(I)V"⟩
def dkwX4_layMost_7 : List UInt8 := [3, 46, 6, 112, 96, 181, 1, 0, 167, 255, 131, 42, 3, 182, 1, 9, 177]
abbrev dktX4_layMost_7 : List UInt8 := dkwX4_layMost_7 ++ []
def dkwX4_layMost_6 : List UInt8 := [42, 42, 182, 0, 234, 181, 0, 253, 42, 16, 10, 42, 180, 0, 68, 3, 46, 6, 108, 104, 42, 180, 0, 68]
abbrev dktX4_layMost_6 : List UInt8 := dkwX4_layMost_6 ++ dktX4_layMost_7
def dkwX4_layMost_5 : List UInt8 := [182, 1, 3, 42, 180, 0, 68, 28, 2, 79, 167, 0, 46, 42, 182, 0, 234, 42, 180, 0, 253, 164, 0, 35]
abbrev dktX4_layMost_5 : List UInt8 := dkwX4_layMost_5 ++ dktX4_layMost_6
def dkwX4_layMost_4 : List UInt8 := [182, 0, 168, 28, 4, 96, 27, 162, 0, 29, 42, 3, 182, 1, 6, 155, 0, 21, 132, 2, 1, 42, 28]
abbrev dktX4_layMost_4 : List UInt8 := dkwX4_layMost_4 ++ dktX4_layMost_5
def dkwX4_layMost_3 : List UInt8 := [180, 0, 68, 28, 29, 79, 29, 156, 0, 9, 132, 2, 255, 167, 0, 89, 42, 29, 6, 108, 29, 6, 112]
abbrev dktX4_layMost_3 : List UInt8 := dkwX4_layMost_3 ++ dktX4_layMost_4
def dkwX4_layMost_2 : List UInt8 := [155, 0, 127, 42, 28, 182, 1, 9, 42, 42, 180, 0, 68, 28, 46, 4, 96, 182, 1, 6, 62, 42]
abbrev dktX4_layMost_2 : List UInt8 := dkwX4_layMost_2 ++ dktX4_layMost_3
def dkwX4_layMost_1 : List UInt8 := [79, 27, 153, 0, 11, 42, 3, 182, 1, 6, 156, 0, 12, 42, 42, 182, 0, 234, 181, 0, 253, 177, 28]
abbrev dktX4_layMost_1 : List UInt8 := dkwX4_layMost_1 ++ dktX4_layMost_2
def dkwX4_layMost_0 : List UInt8 := [42, 2, 181, 0, 253, 42, 16, 252, 181, 1, 0, 3, 61, 42, 3, 182, 1, 3, 42, 180, 0, 68, 3, 2]
abbrev dktX4_layMost_0 : List UInt8 := dkwX4_layMost_0 ++ dktX4_layMost_1
theorem dksX4_layMost_0 : cX4_layMost.data.toList.drop 0 = dktX4_layMost_0 := by decide +kernel
theorem dksX4_layMost_1 : cX4_layMost.data.toList.drop 24 = dktX4_layMost_1 := dk_seg dksX4_layMost_0 24 rfl rfl
theorem dksX4_layMost_2 : cX4_layMost.data.toList.drop 47 = dktX4_layMost_2 := dk_seg dksX4_layMost_1 23 rfl rfl
theorem dksX4_layMost_3 : cX4_layMost.data.toList.drop 69 = dktX4_layMost_3 := dk_seg dksX4_layMost_2 22 rfl rfl
theorem dksX4_layMost_4 : cX4_layMost.data.toList.drop 92 = dktX4_layMost_4 := dk_seg dksX4_layMost_3 23 rfl rfl
theorem dksX4_layMost_5 : cX4_layMost.data.toList.drop 115 = dktX4_layMost_5 := dk_seg dksX4_layMost_4 23 rfl rfl
theorem dksX4_layMost_6 : cX4_layMost.data.toList.drop 139 = dktX4_layMost_6 := dk_seg dksX4_layMost_5 24 rfl rfl
theorem dksX4_layMost_7 : cX4_layMost.data.toList.drop 163 = dktX4_layMost_7 := dk_seg dksX4_layMost_6 24 rfl rfl
theorem dX4_layMost_0 : decode cX4_layMost 0 = .ok (.aload_n 0, 1) := dk_42 (dk_at dksX4_layMost_0 0 rfl rfl)
theorem dX4_layMost_1 : decode cX4_layMost 1 = .ok (.iconst (-1), 1) := dk_2 (dk_at dksX4_layMost_0 1 rfl rfl)
theorem dX4_layMost_2 : decode cX4_layMost 2 = .ok (.putfield 253, 3) := dk_181 0 253 (dk_at dksX4_layMost_0 2 rfl rfl)
theorem dX4_layMost_5 : decode cX4_layMost 5 = .ok (.aload_n 0, 1) := dk_42 (dk_at dksX4_layMost_0 5 rfl rfl)
theorem dX4_layMost_6 : decode cX4_layMost 6 = .ok (.bipush (-4), 2) := dk_16 252 (dk_at dksX4_layMost_0 6 rfl rfl)
theorem dX4_layMost_8 : decode cX4_layMost 8 = .ok (.putfield 256, 3) := dk_181 1 0 (dk_at dksX4_layMost_0 8 rfl rfl)
theorem dX4_layMost_11 : decode cX4_layMost 11 = .ok (.iconst 0, 1) := dk_3 (dk_at dksX4_layMost_0 11 rfl rfl)
theorem dX4_layMost_12 : decode cX4_layMost 12 = .ok (.istore_n 2, 1) := dk_61 (dk_at dksX4_layMost_0 12 rfl rfl)
theorem dX4_layMost_13 : decode cX4_layMost 13 = .ok (.aload_n 0, 1) := dk_42 (dk_at dksX4_layMost_0 13 rfl rfl)
theorem dX4_layMost_14 : decode cX4_layMost 14 = .ok (.iconst 0, 1) := dk_3 (dk_at dksX4_layMost_0 14 rfl rfl)
theorem dX4_layMost_15 : decode cX4_layMost 15 = .ok (.invokevirtual 259, 3) := dk_182 1 3 (dk_at dksX4_layMost_0 15 rfl rfl)
theorem dX4_layMost_18 : decode cX4_layMost 18 = .ok (.aload_n 0, 1) := dk_42 (dk_at dksX4_layMost_0 18 rfl rfl)
theorem dX4_layMost_19 : decode cX4_layMost 19 = .ok (.getfield 68, 3) := dk_180 0 68 (dk_at dksX4_layMost_0 19 rfl rfl)
theorem dX4_layMost_22 : decode cX4_layMost 22 = .ok (.iconst 0, 1) := dk_3 (dk_at dksX4_layMost_0 22 rfl rfl)
theorem dX4_layMost_23 : decode cX4_layMost 23 = .ok (.iconst (-1), 1) := dk_2 (dk_at dksX4_layMost_0 23 rfl rfl)
theorem dX4_layMost_24 : decode cX4_layMost 24 = .ok (.iastore, 1) := dk_79 (dk_at dksX4_layMost_1 0 rfl rfl)
theorem dX4_layMost_25 : decode cX4_layMost 25 = .ok (.iload_n 1, 1) := dk_27 (dk_at dksX4_layMost_1 1 rfl rfl)
theorem dX4_layMost_26 : decode cX4_layMost 26 = .ok (.ifCond .eq 11, 3) := dk_153 0 11 (dk_at dksX4_layMost_1 2 rfl rfl)
theorem dX4_layMost_29 : decode cX4_layMost 29 = .ok (.aload_n 0, 1) := dk_42 (dk_at dksX4_layMost_1 5 rfl rfl)
theorem dX4_layMost_30 : decode cX4_layMost 30 = .ok (.iconst 0, 1) := dk_3 (dk_at dksX4_layMost_1 6 rfl rfl)
theorem dX4_layMost_31 : decode cX4_layMost 31 = .ok (.invokevirtual 262, 3) := dk_182 1 6 (dk_at dksX4_layMost_1 7 rfl rfl)
theorem dX4_layMost_34 : decode cX4_layMost 34 = .ok (.ifCond .ge 12, 3) := dk_156 0 12 (dk_at dksX4_layMost_1 10 rfl rfl)
theorem dX4_layMost_37 : decode cX4_layMost 37 = .ok (.aload_n 0, 1) := dk_42 (dk_at dksX4_layMost_1 13 rfl rfl)
theorem dX4_layMost_38 : decode cX4_layMost 38 = .ok (.aload_n 0, 1) := dk_42 (dk_at dksX4_layMost_1 14 rfl rfl)
theorem dX4_layMost_39 : decode cX4_layMost 39 = .ok (.invokevirtual 234, 3) := dk_182 0 234 (dk_at dksX4_layMost_1 15 rfl rfl)
theorem dX4_layMost_42 : decode cX4_layMost 42 = .ok (.putfield 253, 3) := dk_181 0 253 (dk_at dksX4_layMost_1 18 rfl rfl)
theorem dX4_layMost_45 : decode cX4_layMost 45 = .ok (.return_, 1) := dk_177 (dk_at dksX4_layMost_1 21 rfl rfl)
theorem dX4_layMost_46 : decode cX4_layMost 46 = .ok (.iload_n 2, 1) := dk_28 (dk_at dksX4_layMost_1 22 rfl rfl)
theorem dX4_layMost_47 : decode cX4_layMost 47 = .ok (.ifCond .lt 127, 3) := dk_155 0 127 (dk_at dksX4_layMost_2 0 rfl rfl)
theorem dX4_layMost_50 : decode cX4_layMost 50 = .ok (.aload_n 0, 1) := dk_42 (dk_at dksX4_layMost_2 3 rfl rfl)
theorem dX4_layMost_51 : decode cX4_layMost 51 = .ok (.iload_n 2, 1) := dk_28 (dk_at dksX4_layMost_2 4 rfl rfl)
theorem dX4_layMost_52 : decode cX4_layMost 52 = .ok (.invokevirtual 265, 3) := dk_182 1 9 (dk_at dksX4_layMost_2 5 rfl rfl)
theorem dX4_layMost_55 : decode cX4_layMost 55 = .ok (.aload_n 0, 1) := dk_42 (dk_at dksX4_layMost_2 8 rfl rfl)
theorem dX4_layMost_56 : decode cX4_layMost 56 = .ok (.aload_n 0, 1) := dk_42 (dk_at dksX4_layMost_2 9 rfl rfl)
theorem dX4_layMost_57 : decode cX4_layMost 57 = .ok (.getfield 68, 3) := dk_180 0 68 (dk_at dksX4_layMost_2 10 rfl rfl)
theorem dX4_layMost_60 : decode cX4_layMost 60 = .ok (.iload_n 2, 1) := dk_28 (dk_at dksX4_layMost_2 13 rfl rfl)
theorem dX4_layMost_61 : decode cX4_layMost 61 = .ok (.iaload, 1) := dk_46 (dk_at dksX4_layMost_2 14 rfl rfl)
theorem dX4_layMost_62 : decode cX4_layMost 62 = .ok (.iconst 1, 1) := dk_4 (dk_at dksX4_layMost_2 15 rfl rfl)
theorem dX4_layMost_63 : decode cX4_layMost 63 = .ok (.iadd, 1) := dk_96 (dk_at dksX4_layMost_2 16 rfl rfl)
theorem dX4_layMost_64 : decode cX4_layMost 64 = .ok (.invokevirtual 262, 3) := dk_182 1 6 (dk_at dksX4_layMost_2 17 rfl rfl)
theorem dX4_layMost_67 : decode cX4_layMost 67 = .ok (.istore_n 3, 1) := dk_62 (dk_at dksX4_layMost_2 20 rfl rfl)
theorem dX4_layMost_68 : decode cX4_layMost 68 = .ok (.aload_n 0, 1) := dk_42 (dk_at dksX4_layMost_2 21 rfl rfl)
theorem dX4_layMost_69 : decode cX4_layMost 69 = .ok (.getfield 68, 3) := dk_180 0 68 (dk_at dksX4_layMost_3 0 rfl rfl)
theorem dX4_layMost_72 : decode cX4_layMost 72 = .ok (.iload_n 2, 1) := dk_28 (dk_at dksX4_layMost_3 3 rfl rfl)
theorem dX4_layMost_73 : decode cX4_layMost 73 = .ok (.iload_n 3, 1) := dk_29 (dk_at dksX4_layMost_3 4 rfl rfl)
theorem dX4_layMost_74 : decode cX4_layMost 74 = .ok (.iastore, 1) := dk_79 (dk_at dksX4_layMost_3 5 rfl rfl)
theorem dX4_layMost_75 : decode cX4_layMost 75 = .ok (.iload_n 3, 1) := dk_29 (dk_at dksX4_layMost_3 6 rfl rfl)
theorem dX4_layMost_76 : decode cX4_layMost 76 = .ok (.ifCond .ge 9, 3) := dk_156 0 9 (dk_at dksX4_layMost_3 7 rfl rfl)
theorem dX4_layMost_79 : decode cX4_layMost 79 = .ok (.iinc 2 (-1), 3) := dk_132 2 255 (dk_at dksX4_layMost_3 10 rfl rfl)
theorem dX4_layMost_82 : decode cX4_layMost 82 = .ok (.goto 89, 3) := dk_167 0 89 (dk_at dksX4_layMost_3 13 rfl rfl)
theorem dX4_layMost_85 : decode cX4_layMost 85 = .ok (.aload_n 0, 1) := dk_42 (dk_at dksX4_layMost_3 16 rfl rfl)
theorem dX4_layMost_86 : decode cX4_layMost 86 = .ok (.iload_n 3, 1) := dk_29 (dk_at dksX4_layMost_3 17 rfl rfl)
theorem dX4_layMost_87 : decode cX4_layMost 87 = .ok (.iconst 3, 1) := dk_6 (dk_at dksX4_layMost_3 18 rfl rfl)
theorem dX4_layMost_88 : decode cX4_layMost 88 = .ok (.idiv, 1) := dk_108 (dk_at dksX4_layMost_3 19 rfl rfl)
theorem dX4_layMost_89 : decode cX4_layMost 89 = .ok (.iload_n 3, 1) := dk_29 (dk_at dksX4_layMost_3 20 rfl rfl)
theorem dX4_layMost_90 : decode cX4_layMost 90 = .ok (.iconst 3, 1) := dk_6 (dk_at dksX4_layMost_3 21 rfl rfl)
theorem dX4_layMost_91 : decode cX4_layMost 91 = .ok (.irem, 1) := dk_112 (dk_at dksX4_layMost_3 22 rfl rfl)
theorem dX4_layMost_92 : decode cX4_layMost 92 = .ok (.invokevirtual 168, 3) := dk_182 0 168 (dk_at dksX4_layMost_4 0 rfl rfl)
theorem dX4_layMost_95 : decode cX4_layMost 95 = .ok (.iload_n 2, 1) := dk_28 (dk_at dksX4_layMost_4 3 rfl rfl)
theorem dX4_layMost_96 : decode cX4_layMost 96 = .ok (.iconst 1, 1) := dk_4 (dk_at dksX4_layMost_4 4 rfl rfl)
theorem dX4_layMost_97 : decode cX4_layMost 97 = .ok (.iadd, 1) := dk_96 (dk_at dksX4_layMost_4 5 rfl rfl)
theorem dX4_layMost_98 : decode cX4_layMost 98 = .ok (.iload_n 1, 1) := dk_27 (dk_at dksX4_layMost_4 6 rfl rfl)
theorem dX4_layMost_99 : decode cX4_layMost 99 = .ok (.if_icmp .ge 29, 3) := dk_162 0 29 (dk_at dksX4_layMost_4 7 rfl rfl)
theorem dX4_layMost_102 : decode cX4_layMost 102 = .ok (.aload_n 0, 1) := dk_42 (dk_at dksX4_layMost_4 10 rfl rfl)
theorem dX4_layMost_103 : decode cX4_layMost 103 = .ok (.iconst 0, 1) := dk_3 (dk_at dksX4_layMost_4 11 rfl rfl)
theorem dX4_layMost_104 : decode cX4_layMost 104 = .ok (.invokevirtual 262, 3) := dk_182 1 6 (dk_at dksX4_layMost_4 12 rfl rfl)
theorem dX4_layMost_107 : decode cX4_layMost 107 = .ok (.ifCond .lt 21, 3) := dk_155 0 21 (dk_at dksX4_layMost_4 15 rfl rfl)
theorem dX4_layMost_110 : decode cX4_layMost 110 = .ok (.iinc 2 1, 3) := dk_132 2 1 (dk_at dksX4_layMost_4 18 rfl rfl)
theorem dX4_layMost_113 : decode cX4_layMost 113 = .ok (.aload_n 0, 1) := dk_42 (dk_at dksX4_layMost_4 21 rfl rfl)
theorem dX4_layMost_114 : decode cX4_layMost 114 = .ok (.iload_n 2, 1) := dk_28 (dk_at dksX4_layMost_4 22 rfl rfl)
theorem dX4_layMost_115 : decode cX4_layMost 115 = .ok (.invokevirtual 259, 3) := dk_182 1 3 (dk_at dksX4_layMost_5 0 rfl rfl)
theorem dX4_layMost_118 : decode cX4_layMost 118 = .ok (.aload_n 0, 1) := dk_42 (dk_at dksX4_layMost_5 3 rfl rfl)
theorem dX4_layMost_119 : decode cX4_layMost 119 = .ok (.getfield 68, 3) := dk_180 0 68 (dk_at dksX4_layMost_5 4 rfl rfl)
theorem dX4_layMost_122 : decode cX4_layMost 122 = .ok (.iload_n 2, 1) := dk_28 (dk_at dksX4_layMost_5 7 rfl rfl)
theorem dX4_layMost_123 : decode cX4_layMost 123 = .ok (.iconst (-1), 1) := dk_2 (dk_at dksX4_layMost_5 8 rfl rfl)
theorem dX4_layMost_124 : decode cX4_layMost 124 = .ok (.iastore, 1) := dk_79 (dk_at dksX4_layMost_5 9 rfl rfl)
theorem dX4_layMost_125 : decode cX4_layMost 125 = .ok (.goto 46, 3) := dk_167 0 46 (dk_at dksX4_layMost_5 10 rfl rfl)
theorem dX4_layMost_128 : decode cX4_layMost 128 = .ok (.aload_n 0, 1) := dk_42 (dk_at dksX4_layMost_5 13 rfl rfl)
theorem dX4_layMost_129 : decode cX4_layMost 129 = .ok (.invokevirtual 234, 3) := dk_182 0 234 (dk_at dksX4_layMost_5 14 rfl rfl)
theorem dX4_layMost_132 : decode cX4_layMost 132 = .ok (.aload_n 0, 1) := dk_42 (dk_at dksX4_layMost_5 17 rfl rfl)
theorem dX4_layMost_133 : decode cX4_layMost 133 = .ok (.getfield 253, 3) := dk_180 0 253 (dk_at dksX4_layMost_5 18 rfl rfl)
theorem dX4_layMost_136 : decode cX4_layMost 136 = .ok (.if_icmp .le 35, 3) := dk_164 0 35 (dk_at dksX4_layMost_5 21 rfl rfl)
theorem dX4_layMost_139 : decode cX4_layMost 139 = .ok (.aload_n 0, 1) := dk_42 (dk_at dksX4_layMost_6 0 rfl rfl)
theorem dX4_layMost_140 : decode cX4_layMost 140 = .ok (.aload_n 0, 1) := dk_42 (dk_at dksX4_layMost_6 1 rfl rfl)
theorem dX4_layMost_141 : decode cX4_layMost 141 = .ok (.invokevirtual 234, 3) := dk_182 0 234 (dk_at dksX4_layMost_6 2 rfl rfl)
theorem dX4_layMost_144 : decode cX4_layMost 144 = .ok (.putfield 253, 3) := dk_181 0 253 (dk_at dksX4_layMost_6 5 rfl rfl)
theorem dX4_layMost_147 : decode cX4_layMost 147 = .ok (.aload_n 0, 1) := dk_42 (dk_at dksX4_layMost_6 8 rfl rfl)
theorem dX4_layMost_148 : decode cX4_layMost 148 = .ok (.bipush 10, 2) := dk_16 10 (dk_at dksX4_layMost_6 9 rfl rfl)
theorem dX4_layMost_150 : decode cX4_layMost 150 = .ok (.aload_n 0, 1) := dk_42 (dk_at dksX4_layMost_6 11 rfl rfl)
theorem dX4_layMost_151 : decode cX4_layMost 151 = .ok (.getfield 68, 3) := dk_180 0 68 (dk_at dksX4_layMost_6 12 rfl rfl)
theorem dX4_layMost_154 : decode cX4_layMost 154 = .ok (.iconst 0, 1) := dk_3 (dk_at dksX4_layMost_6 15 rfl rfl)
theorem dX4_layMost_155 : decode cX4_layMost 155 = .ok (.iaload, 1) := dk_46 (dk_at dksX4_layMost_6 16 rfl rfl)
theorem dX4_layMost_156 : decode cX4_layMost 156 = .ok (.iconst 3, 1) := dk_6 (dk_at dksX4_layMost_6 17 rfl rfl)
theorem dX4_layMost_157 : decode cX4_layMost 157 = .ok (.idiv, 1) := dk_108 (dk_at dksX4_layMost_6 18 rfl rfl)
theorem dX4_layMost_158 : decode cX4_layMost 158 = .ok (.imul, 1) := dk_104 (dk_at dksX4_layMost_6 19 rfl rfl)
theorem dX4_layMost_159 : decode cX4_layMost 159 = .ok (.aload_n 0, 1) := dk_42 (dk_at dksX4_layMost_6 20 rfl rfl)
theorem dX4_layMost_160 : decode cX4_layMost 160 = .ok (.getfield 68, 3) := dk_180 0 68 (dk_at dksX4_layMost_6 21 rfl rfl)
theorem dX4_layMost_163 : decode cX4_layMost 163 = .ok (.iconst 0, 1) := dk_3 (dk_at dksX4_layMost_7 0 rfl rfl)
theorem dX4_layMost_164 : decode cX4_layMost 164 = .ok (.iaload, 1) := dk_46 (dk_at dksX4_layMost_7 1 rfl rfl)
theorem dX4_layMost_165 : decode cX4_layMost 165 = .ok (.iconst 3, 1) := dk_6 (dk_at dksX4_layMost_7 2 rfl rfl)
theorem dX4_layMost_166 : decode cX4_layMost 166 = .ok (.irem, 1) := dk_112 (dk_at dksX4_layMost_7 3 rfl rfl)
theorem dX4_layMost_167 : decode cX4_layMost 167 = .ok (.iadd, 1) := dk_96 (dk_at dksX4_layMost_7 4 rfl rfl)
theorem dX4_layMost_168 : decode cX4_layMost 168 = .ok (.putfield 256, 3) := dk_181 1 0 (dk_at dksX4_layMost_7 5 rfl rfl)
theorem dX4_layMost_171 : decode cX4_layMost 171 = .ok (.goto (-125), 3) := dk_167 255 131 (dk_at dksX4_layMost_7 8 rfl rfl)
theorem dX4_layMost_174 : decode cX4_layMost 174 = .ok (.aload_n 0, 1) := dk_42 (dk_at dksX4_layMost_7 11 rfl rfl)
theorem dX4_layMost_175 : decode cX4_layMost 175 = .ok (.iconst 0, 1) := dk_3 (dk_at dksX4_layMost_7 12 rfl rfl)
theorem dX4_layMost_176 : decode cX4_layMost 176 = .ok (.invokevirtual 265, 3) := dk_182 1 9 (dk_at dksX4_layMost_7 13 rfl rfl)
theorem dX4_layMost_179 : decode cX4_layMost 179 = .ok (.return_, 1) := dk_177 (dk_at dksX4_layMost_7 16 rfl rfl)
abbrev cX4_keepStage : ByteArray := prog_21_method_56_code
def yX4_keepStage : MethodName := ⟨RX4, "keepStage", "(I)V"⟩
def dkwX4_keepStage_1 : List UInt8 := [104, 28, 96, 42, 180, 0, 65, 28, 46, 79, 132, 2, 1, 167, 255, 230, 177]
abbrev dktX4_keepStage_1 : List UInt8 := dkwX4_keepStage_1 ++ []
def dkwX4_keepStage_0 : List UInt8 := [42, 42, 180, 0, 65, 4, 182, 0, 216, 3, 61, 28, 16, 32, 162, 0, 26, 42, 180, 0, 62, 16, 32, 27]
abbrev dktX4_keepStage_0 : List UInt8 := dkwX4_keepStage_0 ++ dktX4_keepStage_1
theorem dksX4_keepStage_0 : cX4_keepStage.data.toList.drop 0 = dktX4_keepStage_0 := by decide +kernel
theorem dksX4_keepStage_1 : cX4_keepStage.data.toList.drop 24 = dktX4_keepStage_1 := dk_seg dksX4_keepStage_0 24 rfl rfl
theorem dX4_keepStage_0 : decode cX4_keepStage 0 = .ok (.aload_n 0, 1) := dk_42 (dk_at dksX4_keepStage_0 0 rfl rfl)
theorem dX4_keepStage_1 : decode cX4_keepStage 1 = .ok (.aload_n 0, 1) := dk_42 (dk_at dksX4_keepStage_0 1 rfl rfl)
theorem dX4_keepStage_2 : decode cX4_keepStage 2 = .ok (.getfield 65, 3) := dk_180 0 65 (dk_at dksX4_keepStage_0 2 rfl rfl)
theorem dX4_keepStage_5 : decode cX4_keepStage 5 = .ok (.iconst 1, 1) := dk_4 (dk_at dksX4_keepStage_0 5 rfl rfl)
theorem dX4_keepStage_6 : decode cX4_keepStage 6 = .ok (.invokevirtual 216, 3) := dk_182 0 216 (dk_at dksX4_keepStage_0 6 rfl rfl)
theorem dX4_keepStage_9 : decode cX4_keepStage 9 = .ok (.iconst 0, 1) := dk_3 (dk_at dksX4_keepStage_0 9 rfl rfl)
theorem dX4_keepStage_10 : decode cX4_keepStage 10 = .ok (.istore_n 2, 1) := dk_61 (dk_at dksX4_keepStage_0 10 rfl rfl)
theorem dX4_keepStage_11 : decode cX4_keepStage 11 = .ok (.iload_n 2, 1) := dk_28 (dk_at dksX4_keepStage_0 11 rfl rfl)
theorem dX4_keepStage_12 : decode cX4_keepStage 12 = .ok (.bipush 32, 2) := dk_16 32 (dk_at dksX4_keepStage_0 12 rfl rfl)
theorem dX4_keepStage_14 : decode cX4_keepStage 14 = .ok (.if_icmp .ge 26, 3) := dk_162 0 26 (dk_at dksX4_keepStage_0 14 rfl rfl)
theorem dX4_keepStage_17 : decode cX4_keepStage 17 = .ok (.aload_n 0, 1) := dk_42 (dk_at dksX4_keepStage_0 17 rfl rfl)
theorem dX4_keepStage_18 : decode cX4_keepStage 18 = .ok (.getfield 62, 3) := dk_180 0 62 (dk_at dksX4_keepStage_0 18 rfl rfl)
theorem dX4_keepStage_21 : decode cX4_keepStage 21 = .ok (.bipush 32, 2) := dk_16 32 (dk_at dksX4_keepStage_0 21 rfl rfl)
theorem dX4_keepStage_23 : decode cX4_keepStage 23 = .ok (.iload_n 1, 1) := dk_27 (dk_at dksX4_keepStage_0 23 rfl rfl)
theorem dX4_keepStage_24 : decode cX4_keepStage 24 = .ok (.imul, 1) := dk_104 (dk_at dksX4_keepStage_1 0 rfl rfl)
theorem dX4_keepStage_25 : decode cX4_keepStage 25 = .ok (.iload_n 2, 1) := dk_28 (dk_at dksX4_keepStage_1 1 rfl rfl)
theorem dX4_keepStage_26 : decode cX4_keepStage 26 = .ok (.iadd, 1) := dk_96 (dk_at dksX4_keepStage_1 2 rfl rfl)
theorem dX4_keepStage_27 : decode cX4_keepStage 27 = .ok (.aload_n 0, 1) := dk_42 (dk_at dksX4_keepStage_1 3 rfl rfl)
theorem dX4_keepStage_28 : decode cX4_keepStage 28 = .ok (.getfield 65, 3) := dk_180 0 65 (dk_at dksX4_keepStage_1 4 rfl rfl)
theorem dX4_keepStage_31 : decode cX4_keepStage 31 = .ok (.iload_n 2, 1) := dk_28 (dk_at dksX4_keepStage_1 7 rfl rfl)
theorem dX4_keepStage_32 : decode cX4_keepStage 32 = .ok (.iaload, 1) := dk_46 (dk_at dksX4_keepStage_1 8 rfl rfl)
theorem dX4_keepStage_33 : decode cX4_keepStage 33 = .ok (.iastore, 1) := dk_79 (dk_at dksX4_keepStage_1 9 rfl rfl)
theorem dX4_keepStage_34 : decode cX4_keepStage 34 = .ok (.iinc 2 1, 3) := dk_132 2 1 (dk_at dksX4_keepStage_1 10 rfl rfl)
theorem dX4_keepStage_37 : decode cX4_keepStage 37 = .ok (.goto (-26), 3) := dk_167 255 230 (dk_at dksX4_keepStage_1 13 rfl rfl)
theorem dX4_keepStage_40 : decode cX4_keepStage 40 = .ok (.return_, 1) := dk_177 (dk_at dksX4_keepStage_1 16 rfl rfl)
abbrev cX4_nextChoice : ByteArray := prog_21_method_58_code
def yX4_nextChoice : MethodName := ⟨RX4, "nextChoice", "(I)I"⟩
def dkwX4_nextChoice_2 : List UInt8 := [16, 252, 172]
abbrev dktX4_nextChoice_2 : List UInt8 := dkwX4_nextChoice_2 ++ []
def dkwX4_nextChoice_1 : List UInt8 := [160, 0, 9, 132, 2, 1, 167, 255, 230, 28, 6, 42, 180, 0, 81, 104, 162, 0, 7, 28, 167, 0, 5]
abbrev dktX4_nextChoice_1 : List UInt8 := dkwX4_nextChoice_1 ++ dktX4_nextChoice_2
def dkwX4_nextChoice_0 : List UInt8 := [27, 61, 28, 6, 42, 180, 0, 81, 104, 162, 0, 22, 42, 180, 0, 19, 28, 6, 108, 46, 16, 7]
abbrev dktX4_nextChoice_0 : List UInt8 := dkwX4_nextChoice_0 ++ dktX4_nextChoice_1
theorem dksX4_nextChoice_0 : cX4_nextChoice.data.toList.drop 0 = dktX4_nextChoice_0 := by decide +kernel
theorem dksX4_nextChoice_1 : cX4_nextChoice.data.toList.drop 22 = dktX4_nextChoice_1 := dk_seg dksX4_nextChoice_0 22 rfl rfl
theorem dksX4_nextChoice_2 : cX4_nextChoice.data.toList.drop 45 = dktX4_nextChoice_2 := dk_seg dksX4_nextChoice_1 23 rfl rfl
theorem dX4_nextChoice_0 : decode cX4_nextChoice 0 = .ok (.iload_n 1, 1) := dk_27 (dk_at dksX4_nextChoice_0 0 rfl rfl)
theorem dX4_nextChoice_1 : decode cX4_nextChoice 1 = .ok (.istore_n 2, 1) := dk_61 (dk_at dksX4_nextChoice_0 1 rfl rfl)
theorem dX4_nextChoice_2 : decode cX4_nextChoice 2 = .ok (.iload_n 2, 1) := dk_28 (dk_at dksX4_nextChoice_0 2 rfl rfl)
theorem dX4_nextChoice_3 : decode cX4_nextChoice 3 = .ok (.iconst 3, 1) := dk_6 (dk_at dksX4_nextChoice_0 3 rfl rfl)
theorem dX4_nextChoice_4 : decode cX4_nextChoice 4 = .ok (.aload_n 0, 1) := dk_42 (dk_at dksX4_nextChoice_0 4 rfl rfl)
theorem dX4_nextChoice_5 : decode cX4_nextChoice 5 = .ok (.getfield 81, 3) := dk_180 0 81 (dk_at dksX4_nextChoice_0 5 rfl rfl)
theorem dX4_nextChoice_8 : decode cX4_nextChoice 8 = .ok (.imul, 1) := dk_104 (dk_at dksX4_nextChoice_0 8 rfl rfl)
theorem dX4_nextChoice_9 : decode cX4_nextChoice 9 = .ok (.if_icmp .ge 22, 3) := dk_162 0 22 (dk_at dksX4_nextChoice_0 9 rfl rfl)
theorem dX4_nextChoice_12 : decode cX4_nextChoice 12 = .ok (.aload_n 0, 1) := dk_42 (dk_at dksX4_nextChoice_0 12 rfl rfl)
theorem dX4_nextChoice_13 : decode cX4_nextChoice 13 = .ok (.getfield 19, 3) := dk_180 0 19 (dk_at dksX4_nextChoice_0 13 rfl rfl)
theorem dX4_nextChoice_16 : decode cX4_nextChoice 16 = .ok (.iload_n 2, 1) := dk_28 (dk_at dksX4_nextChoice_0 16 rfl rfl)
theorem dX4_nextChoice_17 : decode cX4_nextChoice 17 = .ok (.iconst 3, 1) := dk_6 (dk_at dksX4_nextChoice_0 17 rfl rfl)
theorem dX4_nextChoice_18 : decode cX4_nextChoice 18 = .ok (.idiv, 1) := dk_108 (dk_at dksX4_nextChoice_0 18 rfl rfl)
theorem dX4_nextChoice_19 : decode cX4_nextChoice 19 = .ok (.iaload, 1) := dk_46 (dk_at dksX4_nextChoice_0 19 rfl rfl)
theorem dX4_nextChoice_20 : decode cX4_nextChoice 20 = .ok (.bipush 7, 2) := dk_16 7 (dk_at dksX4_nextChoice_0 20 rfl rfl)
theorem dX4_nextChoice_22 : decode cX4_nextChoice 22 = .ok (.if_icmp .ne 9, 3) := dk_160 0 9 (dk_at dksX4_nextChoice_1 0 rfl rfl)
theorem dX4_nextChoice_25 : decode cX4_nextChoice 25 = .ok (.iinc 2 1, 3) := dk_132 2 1 (dk_at dksX4_nextChoice_1 3 rfl rfl)
theorem dX4_nextChoice_28 : decode cX4_nextChoice 28 = .ok (.goto (-26), 3) := dk_167 255 230 (dk_at dksX4_nextChoice_1 6 rfl rfl)
theorem dX4_nextChoice_31 : decode cX4_nextChoice 31 = .ok (.iload_n 2, 1) := dk_28 (dk_at dksX4_nextChoice_1 9 rfl rfl)
theorem dX4_nextChoice_32 : decode cX4_nextChoice 32 = .ok (.iconst 3, 1) := dk_6 (dk_at dksX4_nextChoice_1 10 rfl rfl)
theorem dX4_nextChoice_33 : decode cX4_nextChoice 33 = .ok (.aload_n 0, 1) := dk_42 (dk_at dksX4_nextChoice_1 11 rfl rfl)
theorem dX4_nextChoice_34 : decode cX4_nextChoice 34 = .ok (.getfield 81, 3) := dk_180 0 81 (dk_at dksX4_nextChoice_1 12 rfl rfl)
theorem dX4_nextChoice_37 : decode cX4_nextChoice 37 = .ok (.imul, 1) := dk_104 (dk_at dksX4_nextChoice_1 15 rfl rfl)
theorem dX4_nextChoice_38 : decode cX4_nextChoice 38 = .ok (.if_icmp .ge 7, 3) := dk_162 0 7 (dk_at dksX4_nextChoice_1 16 rfl rfl)
theorem dX4_nextChoice_41 : decode cX4_nextChoice 41 = .ok (.iload_n 2, 1) := dk_28 (dk_at dksX4_nextChoice_1 19 rfl rfl)
theorem dX4_nextChoice_42 : decode cX4_nextChoice 42 = .ok (.goto 5, 3) := dk_167 0 5 (dk_at dksX4_nextChoice_1 20 rfl rfl)
theorem dX4_nextChoice_45 : decode cX4_nextChoice 45 = .ok (.bipush (-4), 2) := dk_16 252 (dk_at dksX4_nextChoice_2 0 rfl rfl)
theorem dX4_nextChoice_47 : decode cX4_nextChoice 47 = .ok (.ireturn, 1) := dk_172 (dk_at dksX4_nextChoice_2 2 rfl rfl)
abbrev cX4_toStage : ByteArray := prog_21_method_57_code
def yX4_toStage : MethodName := ⟨RX4, "toStage", "(I)V"⟩
def dkwX4_toStage_1 : List UInt8 := [79, 132, 2, 1, 167, 255, 230, 42, 42, 180, 0, 65, 3, 182, 0, 216, 177]
abbrev dktX4_toStage_1 : List UInt8 := dkwX4_toStage_1 ++ []
def dkwX4_toStage_0 : List UInt8 := [3, 61, 28, 16, 32, 162, 0, 26, 42, 180, 0, 65, 28, 42, 180, 0, 62, 16, 32, 27, 104, 28, 96, 46]
abbrev dktX4_toStage_0 : List UInt8 := dkwX4_toStage_0 ++ dktX4_toStage_1
theorem dksX4_toStage_0 : cX4_toStage.data.toList.drop 0 = dktX4_toStage_0 := by decide +kernel
theorem dksX4_toStage_1 : cX4_toStage.data.toList.drop 24 = dktX4_toStage_1 := dk_seg dksX4_toStage_0 24 rfl rfl
theorem dX4_toStage_0 : decode cX4_toStage 0 = .ok (.iconst 0, 1) := dk_3 (dk_at dksX4_toStage_0 0 rfl rfl)
theorem dX4_toStage_1 : decode cX4_toStage 1 = .ok (.istore_n 2, 1) := dk_61 (dk_at dksX4_toStage_0 1 rfl rfl)
theorem dX4_toStage_2 : decode cX4_toStage 2 = .ok (.iload_n 2, 1) := dk_28 (dk_at dksX4_toStage_0 2 rfl rfl)
theorem dX4_toStage_3 : decode cX4_toStage 3 = .ok (.bipush 32, 2) := dk_16 32 (dk_at dksX4_toStage_0 3 rfl rfl)
theorem dX4_toStage_5 : decode cX4_toStage 5 = .ok (.if_icmp .ge 26, 3) := dk_162 0 26 (dk_at dksX4_toStage_0 5 rfl rfl)
theorem dX4_toStage_8 : decode cX4_toStage 8 = .ok (.aload_n 0, 1) := dk_42 (dk_at dksX4_toStage_0 8 rfl rfl)
theorem dX4_toStage_9 : decode cX4_toStage 9 = .ok (.getfield 65, 3) := dk_180 0 65 (dk_at dksX4_toStage_0 9 rfl rfl)
theorem dX4_toStage_12 : decode cX4_toStage 12 = .ok (.iload_n 2, 1) := dk_28 (dk_at dksX4_toStage_0 12 rfl rfl)
theorem dX4_toStage_13 : decode cX4_toStage 13 = .ok (.aload_n 0, 1) := dk_42 (dk_at dksX4_toStage_0 13 rfl rfl)
theorem dX4_toStage_14 : decode cX4_toStage 14 = .ok (.getfield 62, 3) := dk_180 0 62 (dk_at dksX4_toStage_0 14 rfl rfl)
theorem dX4_toStage_17 : decode cX4_toStage 17 = .ok (.bipush 32, 2) := dk_16 32 (dk_at dksX4_toStage_0 17 rfl rfl)
theorem dX4_toStage_19 : decode cX4_toStage 19 = .ok (.iload_n 1, 1) := dk_27 (dk_at dksX4_toStage_0 19 rfl rfl)
theorem dX4_toStage_20 : decode cX4_toStage 20 = .ok (.imul, 1) := dk_104 (dk_at dksX4_toStage_0 20 rfl rfl)
theorem dX4_toStage_21 : decode cX4_toStage 21 = .ok (.iload_n 2, 1) := dk_28 (dk_at dksX4_toStage_0 21 rfl rfl)
theorem dX4_toStage_22 : decode cX4_toStage 22 = .ok (.iadd, 1) := dk_96 (dk_at dksX4_toStage_0 22 rfl rfl)
theorem dX4_toStage_23 : decode cX4_toStage 23 = .ok (.iaload, 1) := dk_46 (dk_at dksX4_toStage_0 23 rfl rfl)
theorem dX4_toStage_24 : decode cX4_toStage 24 = .ok (.iastore, 1) := dk_79 (dk_at dksX4_toStage_1 0 rfl rfl)
theorem dX4_toStage_25 : decode cX4_toStage 25 = .ok (.iinc 2 1, 3) := dk_132 2 1 (dk_at dksX4_toStage_1 1 rfl rfl)
theorem dX4_toStage_28 : decode cX4_toStage 28 = .ok (.goto (-26), 3) := dk_167 255 230 (dk_at dksX4_toStage_1 4 rfl rfl)
theorem dX4_toStage_31 : decode cX4_toStage 31 = .ok (.aload_n 0, 1) := dk_42 (dk_at dksX4_toStage_1 7 rfl rfl)
theorem dX4_toStage_32 : decode cX4_toStage 32 = .ok (.aload_n 0, 1) := dk_42 (dk_at dksX4_toStage_1 8 rfl rfl)
theorem dX4_toStage_33 : decode cX4_toStage 33 = .ok (.getfield 65, 3) := dk_180 0 65 (dk_at dksX4_toStage_1 9 rfl rfl)
theorem dX4_toStage_36 : decode cX4_toStage 36 = .ok (.iconst 0, 1) := dk_3 (dk_at dksX4_toStage_1 12 rfl rfl)
theorem dX4_toStage_37 : decode cX4_toStage 37 = .ok (.invokevirtual 216, 3) := dk_182 0 216 (dk_at dksX4_toStage_1 13 rfl rfl)
theorem dX4_toStage_40 : decode cX4_toStage 40 = .ok (.return_, 1) := dk_177 (dk_at dksX4_toStage_1 16 rfl rfl)
abbrev cX4_byTurns : ByteArray := prog_21_method_62_code
def yX4_byTurns : MethodName := ⟨RX4, "byTurns", "(II)I"⟩
def dkwX4_byTurns_4 : List UInt8 := [167, 0, 4, 29, 172]
abbrev dktX4_byTurns_4 : List UInt8 := dkwX4_byTurns_4 ++ []
def dkwX4_byTurns_3 : List UInt8 := [167, 255, 231, 42, 182, 1, 23, 184, 1, 26, 54, 4, 42, 182, 0, 201, 28, 154, 0, 8, 21, 4]
abbrev dktX4_byTurns_3 : List UInt8 := dkwX4_byTurns_3 ++ dktX4_byTurns_4
def dkwX4_byTurns_2 : List UInt8 := [162, 0, 25, 29, 42, 182, 1, 20, 4, 160, 0, 7, 4, 167, 0, 4, 3, 96, 62, 132, 4, 1]
abbrev dktX4_byTurns_2 : List UInt8 := dkwX4_byTurns_2 ++ dktX4_byTurns_3
def dkwX4_byTurns_1 : List UInt8 := [154, 0, 5, 2, 172, 3, 62, 42, 3, 181, 1, 15, 42, 182, 0, 195, 3, 54, 4, 21, 4, 27]
abbrev dktX4_byTurns_1 : List UInt8 := dkwX4_byTurns_1 ++ dktX4_byTurns_2
def dkwX4_byTurns_0 : List UInt8 := [42, 3, 181, 0, 77, 27, 133, 9, 20, 1, 18, 184, 0, 84, 153, 0, 13, 28, 133, 9, 10, 184, 0, 84]
abbrev dktX4_byTurns_0 : List UInt8 := dkwX4_byTurns_0 ++ dktX4_byTurns_1
theorem dksX4_byTurns_0 : cX4_byTurns.data.toList.drop 0 = dktX4_byTurns_0 := by decide +kernel
theorem dksX4_byTurns_1 : cX4_byTurns.data.toList.drop 24 = dktX4_byTurns_1 := dk_seg dksX4_byTurns_0 24 rfl rfl
theorem dksX4_byTurns_2 : cX4_byTurns.data.toList.drop 46 = dktX4_byTurns_2 := dk_seg dksX4_byTurns_1 22 rfl rfl
theorem dksX4_byTurns_3 : cX4_byTurns.data.toList.drop 68 = dktX4_byTurns_3 := dk_seg dksX4_byTurns_2 22 rfl rfl
theorem dksX4_byTurns_4 : cX4_byTurns.data.toList.drop 90 = dktX4_byTurns_4 := dk_seg dksX4_byTurns_3 22 rfl rfl
theorem dX4_byTurns_0 : decode cX4_byTurns 0 = .ok (.aload_n 0, 1) := dk_42 (dk_at dksX4_byTurns_0 0 rfl rfl)
theorem dX4_byTurns_1 : decode cX4_byTurns 1 = .ok (.iconst 0, 1) := dk_3 (dk_at dksX4_byTurns_0 1 rfl rfl)
theorem dX4_byTurns_2 : decode cX4_byTurns 2 = .ok (.putfield 77, 3) := dk_181 0 77 (dk_at dksX4_byTurns_0 2 rfl rfl)
theorem dX4_byTurns_5 : decode cX4_byTurns 5 = .ok (.iload_n 1, 1) := dk_27 (dk_at dksX4_byTurns_0 5 rfl rfl)
theorem dX4_byTurns_6 : decode cX4_byTurns 6 = .ok (.i2l, 1) := dk_133 (dk_at dksX4_byTurns_0 6 rfl rfl)
theorem dX4_byTurns_7 : decode cX4_byTurns 7 = .ok (.lconst 0, 1) := dk_9 (dk_at dksX4_byTurns_0 7 rfl rfl)
theorem dX4_byTurns_8 : decode cX4_byTurns 8 = .ok (.ldc2_w 274, 3) := dk_20 1 18 (dk_at dksX4_byTurns_0 8 rfl rfl)
theorem dX4_byTurns_11 : decode cX4_byTurns 11 = .ok (.invokestatic 84, 3) := dk_184 0 84 (dk_at dksX4_byTurns_0 11 rfl rfl)
theorem dX4_byTurns_14 : decode cX4_byTurns 14 = .ok (.ifCond .eq 13, 3) := dk_153 0 13 (dk_at dksX4_byTurns_0 14 rfl rfl)
theorem dX4_byTurns_17 : decode cX4_byTurns 17 = .ok (.iload_n 2, 1) := dk_28 (dk_at dksX4_byTurns_0 17 rfl rfl)
theorem dX4_byTurns_18 : decode cX4_byTurns 18 = .ok (.i2l, 1) := dk_133 (dk_at dksX4_byTurns_0 18 rfl rfl)
theorem dX4_byTurns_19 : decode cX4_byTurns 19 = .ok (.lconst 0, 1) := dk_9 (dk_at dksX4_byTurns_0 19 rfl rfl)
theorem dX4_byTurns_20 : decode cX4_byTurns 20 = .ok (.lconst 1, 1) := dk_10 (dk_at dksX4_byTurns_0 20 rfl rfl)
theorem dX4_byTurns_21 : decode cX4_byTurns 21 = .ok (.invokestatic 84, 3) := dk_184 0 84 (dk_at dksX4_byTurns_0 21 rfl rfl)
theorem dX4_byTurns_24 : decode cX4_byTurns 24 = .ok (.ifCond .ne 5, 3) := dk_154 0 5 (dk_at dksX4_byTurns_1 0 rfl rfl)
theorem dX4_byTurns_27 : decode cX4_byTurns 27 = .ok (.iconst (-1), 1) := dk_2 (dk_at dksX4_byTurns_1 3 rfl rfl)
theorem dX4_byTurns_28 : decode cX4_byTurns 28 = .ok (.ireturn, 1) := dk_172 (dk_at dksX4_byTurns_1 4 rfl rfl)
theorem dX4_byTurns_29 : decode cX4_byTurns 29 = .ok (.iconst 0, 1) := dk_3 (dk_at dksX4_byTurns_1 5 rfl rfl)
theorem dX4_byTurns_30 : decode cX4_byTurns 30 = .ok (.istore_n 3, 1) := dk_62 (dk_at dksX4_byTurns_1 6 rfl rfl)
theorem dX4_byTurns_31 : decode cX4_byTurns 31 = .ok (.aload_n 0, 1) := dk_42 (dk_at dksX4_byTurns_1 7 rfl rfl)
theorem dX4_byTurns_32 : decode cX4_byTurns 32 = .ok (.iconst 0, 1) := dk_3 (dk_at dksX4_byTurns_1 8 rfl rfl)
theorem dX4_byTurns_33 : decode cX4_byTurns 33 = .ok (.putfield 271, 3) := dk_181 1 15 (dk_at dksX4_byTurns_1 9 rfl rfl)
theorem dX4_byTurns_36 : decode cX4_byTurns 36 = .ok (.aload_n 0, 1) := dk_42 (dk_at dksX4_byTurns_1 12 rfl rfl)
theorem dX4_byTurns_37 : decode cX4_byTurns 37 = .ok (.invokevirtual 195, 3) := dk_182 0 195 (dk_at dksX4_byTurns_1 13 rfl rfl)
theorem dX4_byTurns_40 : decode cX4_byTurns 40 = .ok (.iconst 0, 1) := dk_3 (dk_at dksX4_byTurns_1 16 rfl rfl)
theorem dX4_byTurns_41 : decode cX4_byTurns 41 = .ok (.istore 4, 2) := dk_54 4 (dk_at dksX4_byTurns_1 17 rfl rfl)
theorem dX4_byTurns_43 : decode cX4_byTurns 43 = .ok (.iload 4, 2) := dk_21 4 (dk_at dksX4_byTurns_1 19 rfl rfl)
theorem dX4_byTurns_45 : decode cX4_byTurns 45 = .ok (.iload_n 1, 1) := dk_27 (dk_at dksX4_byTurns_1 21 rfl rfl)
theorem dX4_byTurns_46 : decode cX4_byTurns 46 = .ok (.if_icmp .ge 25, 3) := dk_162 0 25 (dk_at dksX4_byTurns_2 0 rfl rfl)
theorem dX4_byTurns_49 : decode cX4_byTurns 49 = .ok (.iload_n 3, 1) := dk_29 (dk_at dksX4_byTurns_2 3 rfl rfl)
theorem dX4_byTurns_50 : decode cX4_byTurns 50 = .ok (.aload_n 0, 1) := dk_42 (dk_at dksX4_byTurns_2 4 rfl rfl)
theorem dX4_byTurns_51 : decode cX4_byTurns 51 = .ok (.invokevirtual 276, 3) := dk_182 1 20 (dk_at dksX4_byTurns_2 5 rfl rfl)
theorem dX4_byTurns_54 : decode cX4_byTurns 54 = .ok (.iconst 1, 1) := dk_4 (dk_at dksX4_byTurns_2 8 rfl rfl)
theorem dX4_byTurns_55 : decode cX4_byTurns 55 = .ok (.if_icmp .ne 7, 3) := dk_160 0 7 (dk_at dksX4_byTurns_2 9 rfl rfl)
theorem dX4_byTurns_58 : decode cX4_byTurns 58 = .ok (.iconst 1, 1) := dk_4 (dk_at dksX4_byTurns_2 12 rfl rfl)
theorem dX4_byTurns_59 : decode cX4_byTurns 59 = .ok (.goto 4, 3) := dk_167 0 4 (dk_at dksX4_byTurns_2 13 rfl rfl)
theorem dX4_byTurns_62 : decode cX4_byTurns 62 = .ok (.iconst 0, 1) := dk_3 (dk_at dksX4_byTurns_2 16 rfl rfl)
theorem dX4_byTurns_63 : decode cX4_byTurns 63 = .ok (.iadd, 1) := dk_96 (dk_at dksX4_byTurns_2 17 rfl rfl)
theorem dX4_byTurns_64 : decode cX4_byTurns 64 = .ok (.istore_n 3, 1) := dk_62 (dk_at dksX4_byTurns_2 18 rfl rfl)
theorem dX4_byTurns_65 : decode cX4_byTurns 65 = .ok (.iinc 4 1, 3) := dk_132 4 1 (dk_at dksX4_byTurns_2 19 rfl rfl)
theorem dX4_byTurns_68 : decode cX4_byTurns 68 = .ok (.goto (-25), 3) := dk_167 255 231 (dk_at dksX4_byTurns_3 0 rfl rfl)
theorem dX4_byTurns_71 : decode cX4_byTurns 71 = .ok (.aload_n 0, 1) := dk_42 (dk_at dksX4_byTurns_3 3 rfl rfl)
theorem dX4_byTurns_72 : decode cX4_byTurns 72 = .ok (.invokevirtual 279, 3) := dk_182 1 23 (dk_at dksX4_byTurns_3 4 rfl rfl)
theorem dX4_byTurns_75 : decode cX4_byTurns 75 = .ok (.invokestatic 282, 3) := dk_184 1 26 (dk_at dksX4_byTurns_3 7 rfl rfl)
theorem dX4_byTurns_78 : decode cX4_byTurns 78 = .ok (.istore 4, 2) := dk_54 4 (dk_at dksX4_byTurns_3 10 rfl rfl)
theorem dX4_byTurns_80 : decode cX4_byTurns 80 = .ok (.aload_n 0, 1) := dk_42 (dk_at dksX4_byTurns_3 12 rfl rfl)
theorem dX4_byTurns_81 : decode cX4_byTurns 81 = .ok (.invokevirtual 201, 3) := dk_182 0 201 (dk_at dksX4_byTurns_3 13 rfl rfl)
theorem dX4_byTurns_84 : decode cX4_byTurns 84 = .ok (.iload_n 2, 1) := dk_28 (dk_at dksX4_byTurns_3 16 rfl rfl)
theorem dX4_byTurns_85 : decode cX4_byTurns 85 = .ok (.ifCond .ne 8, 3) := dk_154 0 8 (dk_at dksX4_byTurns_3 17 rfl rfl)
theorem dX4_byTurns_88 : decode cX4_byTurns 88 = .ok (.iload 4, 2) := dk_21 4 (dk_at dksX4_byTurns_3 20 rfl rfl)
theorem dX4_byTurns_90 : decode cX4_byTurns 90 = .ok (.goto 4, 3) := dk_167 0 4 (dk_at dksX4_byTurns_4 0 rfl rfl)
theorem dX4_byTurns_93 : decode cX4_byTurns 93 = .ok (.iload_n 3, 1) := dk_29 (dk_at dksX4_byTurns_4 3 rfl rfl)
theorem dX4_byTurns_94 : decode cX4_byTurns 94 = .ok (.ireturn, 1) := dk_172 (dk_at dksX4_byTurns_4 4 rfl rfl)
abbrev cX4_nextTurn : ByteArray := prog_21_method_61_code
def yX4_nextTurn : MethodName := ⟨RX4, "nextTurn", "()I"⟩
def dkwX4_nextTurn_3 : List UInt8 := [132, 1, 1, 167, 255, 185, 16, 252, 172]
abbrev dktX4_nextTurn_3 : List UInt8 := dkwX4_nextTurn_3 ++ []
def dkwX4_nextTurn_2 : List UInt8 := [167, 0, 4, 3, 182, 0, 168, 42, 28, 4, 96, 181, 1, 15, 29, 153, 0, 7, 3, 167, 0, 4, 4, 172]
abbrev dktX4_nextTurn_2 : List UInt8 := dkwX4_nextTurn_2 ++ dktX4_nextTurn_3
def dkwX4_nextTurn_1 : List UInt8 := [180, 0, 19, 28, 46, 16, 7, 162, 0, 40, 42, 28, 182, 0, 109, 62, 42, 28, 29, 153, 0, 7, 5]
abbrev dktX4_nextTurn_1 : List UInt8 := dkwX4_nextTurn_1 ++ dktX4_nextTurn_2
def dkwX4_nextTurn_0 : List UInt8 := [3, 60, 27, 42, 180, 0, 81, 162, 0, 69, 42, 180, 1, 15, 27, 96, 42, 180, 0, 81, 112, 61, 42]
abbrev dktX4_nextTurn_0 : List UInt8 := dkwX4_nextTurn_0 ++ dktX4_nextTurn_1
theorem dksX4_nextTurn_0 : cX4_nextTurn.data.toList.drop 0 = dktX4_nextTurn_0 := by decide +kernel
theorem dksX4_nextTurn_1 : cX4_nextTurn.data.toList.drop 23 = dktX4_nextTurn_1 := dk_seg dksX4_nextTurn_0 23 rfl rfl
theorem dksX4_nextTurn_2 : cX4_nextTurn.data.toList.drop 46 = dktX4_nextTurn_2 := dk_seg dksX4_nextTurn_1 23 rfl rfl
theorem dksX4_nextTurn_3 : cX4_nextTurn.data.toList.drop 70 = dktX4_nextTurn_3 := dk_seg dksX4_nextTurn_2 24 rfl rfl
theorem dX4_nextTurn_0 : decode cX4_nextTurn 0 = .ok (.iconst 0, 1) := dk_3 (dk_at dksX4_nextTurn_0 0 rfl rfl)
theorem dX4_nextTurn_1 : decode cX4_nextTurn 1 = .ok (.istore_n 1, 1) := dk_60 (dk_at dksX4_nextTurn_0 1 rfl rfl)
theorem dX4_nextTurn_2 : decode cX4_nextTurn 2 = .ok (.iload_n 1, 1) := dk_27 (dk_at dksX4_nextTurn_0 2 rfl rfl)
theorem dX4_nextTurn_3 : decode cX4_nextTurn 3 = .ok (.aload_n 0, 1) := dk_42 (dk_at dksX4_nextTurn_0 3 rfl rfl)
theorem dX4_nextTurn_4 : decode cX4_nextTurn 4 = .ok (.getfield 81, 3) := dk_180 0 81 (dk_at dksX4_nextTurn_0 4 rfl rfl)
theorem dX4_nextTurn_7 : decode cX4_nextTurn 7 = .ok (.if_icmp .ge 69, 3) := dk_162 0 69 (dk_at dksX4_nextTurn_0 7 rfl rfl)
theorem dX4_nextTurn_10 : decode cX4_nextTurn 10 = .ok (.aload_n 0, 1) := dk_42 (dk_at dksX4_nextTurn_0 10 rfl rfl)
theorem dX4_nextTurn_11 : decode cX4_nextTurn 11 = .ok (.getfield 271, 3) := dk_180 1 15 (dk_at dksX4_nextTurn_0 11 rfl rfl)
theorem dX4_nextTurn_14 : decode cX4_nextTurn 14 = .ok (.iload_n 1, 1) := dk_27 (dk_at dksX4_nextTurn_0 14 rfl rfl)
theorem dX4_nextTurn_15 : decode cX4_nextTurn 15 = .ok (.iadd, 1) := dk_96 (dk_at dksX4_nextTurn_0 15 rfl rfl)
theorem dX4_nextTurn_16 : decode cX4_nextTurn 16 = .ok (.aload_n 0, 1) := dk_42 (dk_at dksX4_nextTurn_0 16 rfl rfl)
theorem dX4_nextTurn_17 : decode cX4_nextTurn 17 = .ok (.getfield 81, 3) := dk_180 0 81 (dk_at dksX4_nextTurn_0 17 rfl rfl)
theorem dX4_nextTurn_20 : decode cX4_nextTurn 20 = .ok (.irem, 1) := dk_112 (dk_at dksX4_nextTurn_0 20 rfl rfl)
theorem dX4_nextTurn_21 : decode cX4_nextTurn 21 = .ok (.istore_n 2, 1) := dk_61 (dk_at dksX4_nextTurn_0 21 rfl rfl)
theorem dX4_nextTurn_22 : decode cX4_nextTurn 22 = .ok (.aload_n 0, 1) := dk_42 (dk_at dksX4_nextTurn_0 22 rfl rfl)
theorem dX4_nextTurn_23 : decode cX4_nextTurn 23 = .ok (.getfield 19, 3) := dk_180 0 19 (dk_at dksX4_nextTurn_1 0 rfl rfl)
theorem dX4_nextTurn_26 : decode cX4_nextTurn 26 = .ok (.iload_n 2, 1) := dk_28 (dk_at dksX4_nextTurn_1 3 rfl rfl)
theorem dX4_nextTurn_27 : decode cX4_nextTurn 27 = .ok (.iaload, 1) := dk_46 (dk_at dksX4_nextTurn_1 4 rfl rfl)
theorem dX4_nextTurn_28 : decode cX4_nextTurn 28 = .ok (.bipush 7, 2) := dk_16 7 (dk_at dksX4_nextTurn_1 5 rfl rfl)
theorem dX4_nextTurn_30 : decode cX4_nextTurn 30 = .ok (.if_icmp .ge 40, 3) := dk_162 0 40 (dk_at dksX4_nextTurn_1 7 rfl rfl)
theorem dX4_nextTurn_33 : decode cX4_nextTurn 33 = .ok (.aload_n 0, 1) := dk_42 (dk_at dksX4_nextTurn_1 10 rfl rfl)
theorem dX4_nextTurn_34 : decode cX4_nextTurn 34 = .ok (.iload_n 2, 1) := dk_28 (dk_at dksX4_nextTurn_1 11 rfl rfl)
theorem dX4_nextTurn_35 : decode cX4_nextTurn 35 = .ok (.invokevirtual 109, 3) := dk_182 0 109 (dk_at dksX4_nextTurn_1 12 rfl rfl)
theorem dX4_nextTurn_38 : decode cX4_nextTurn 38 = .ok (.istore_n 3, 1) := dk_62 (dk_at dksX4_nextTurn_1 15 rfl rfl)
theorem dX4_nextTurn_39 : decode cX4_nextTurn 39 = .ok (.aload_n 0, 1) := dk_42 (dk_at dksX4_nextTurn_1 16 rfl rfl)
theorem dX4_nextTurn_40 : decode cX4_nextTurn 40 = .ok (.iload_n 2, 1) := dk_28 (dk_at dksX4_nextTurn_1 17 rfl rfl)
theorem dX4_nextTurn_41 : decode cX4_nextTurn 41 = .ok (.iload_n 3, 1) := dk_29 (dk_at dksX4_nextTurn_1 18 rfl rfl)
theorem dX4_nextTurn_42 : decode cX4_nextTurn 42 = .ok (.ifCond .eq 7, 3) := dk_153 0 7 (dk_at dksX4_nextTurn_1 19 rfl rfl)
theorem dX4_nextTurn_45 : decode cX4_nextTurn 45 = .ok (.iconst 2, 1) := dk_5 (dk_at dksX4_nextTurn_1 22 rfl rfl)
theorem dX4_nextTurn_46 : decode cX4_nextTurn 46 = .ok (.goto 4, 3) := dk_167 0 4 (dk_at dksX4_nextTurn_2 0 rfl rfl)
theorem dX4_nextTurn_49 : decode cX4_nextTurn 49 = .ok (.iconst 0, 1) := dk_3 (dk_at dksX4_nextTurn_2 3 rfl rfl)
theorem dX4_nextTurn_50 : decode cX4_nextTurn 50 = .ok (.invokevirtual 168, 3) := dk_182 0 168 (dk_at dksX4_nextTurn_2 4 rfl rfl)
theorem dX4_nextTurn_53 : decode cX4_nextTurn 53 = .ok (.aload_n 0, 1) := dk_42 (dk_at dksX4_nextTurn_2 7 rfl rfl)
theorem dX4_nextTurn_54 : decode cX4_nextTurn 54 = .ok (.iload_n 2, 1) := dk_28 (dk_at dksX4_nextTurn_2 8 rfl rfl)
theorem dX4_nextTurn_55 : decode cX4_nextTurn 55 = .ok (.iconst 1, 1) := dk_4 (dk_at dksX4_nextTurn_2 9 rfl rfl)
theorem dX4_nextTurn_56 : decode cX4_nextTurn 56 = .ok (.iadd, 1) := dk_96 (dk_at dksX4_nextTurn_2 10 rfl rfl)
theorem dX4_nextTurn_57 : decode cX4_nextTurn 57 = .ok (.putfield 271, 3) := dk_181 1 15 (dk_at dksX4_nextTurn_2 11 rfl rfl)
theorem dX4_nextTurn_60 : decode cX4_nextTurn 60 = .ok (.iload_n 3, 1) := dk_29 (dk_at dksX4_nextTurn_2 14 rfl rfl)
theorem dX4_nextTurn_61 : decode cX4_nextTurn 61 = .ok (.ifCond .eq 7, 3) := dk_153 0 7 (dk_at dksX4_nextTurn_2 15 rfl rfl)
theorem dX4_nextTurn_64 : decode cX4_nextTurn 64 = .ok (.iconst 0, 1) := dk_3 (dk_at dksX4_nextTurn_2 18 rfl rfl)
theorem dX4_nextTurn_65 : decode cX4_nextTurn 65 = .ok (.goto 4, 3) := dk_167 0 4 (dk_at dksX4_nextTurn_2 19 rfl rfl)
theorem dX4_nextTurn_68 : decode cX4_nextTurn 68 = .ok (.iconst 1, 1) := dk_4 (dk_at dksX4_nextTurn_2 22 rfl rfl)
theorem dX4_nextTurn_69 : decode cX4_nextTurn 69 = .ok (.ireturn, 1) := dk_172 (dk_at dksX4_nextTurn_2 23 rfl rfl)
theorem dX4_nextTurn_70 : decode cX4_nextTurn 70 = .ok (.iinc 1 1, 3) := dk_132 1 1 (dk_at dksX4_nextTurn_3 0 rfl rfl)
theorem dX4_nextTurn_73 : decode cX4_nextTurn 73 = .ok (.goto (-71), 3) := dk_167 255 185 (dk_at dksX4_nextTurn_3 3 rfl rfl)
theorem dX4_nextTurn_76 : decode cX4_nextTurn 76 = .ok (.bipush (-4), 2) := dk_16 252 (dk_at dksX4_nextTurn_3 6 rfl rfl)
theorem dX4_nextTurn_78 : decode cX4_nextTurn 78 = .ok (.ireturn, 1) := dk_172 (dk_at dksX4_nextTurn_3 8 rfl rfl)
abbrev cX4_swimBits : ByteArray := prog_21_method_23_code
def yX4_swimBits : MethodName := ⟨RX4, "swimBits", "()I"⟩
def dkwX4_swimBits_1 : List UInt8 := [4, 28, 120, 167, 0, 4, 3, 128, 60, 132, 2, 1, 167, 255, 224, 27, 172]
abbrev dktX4_swimBits_1 : List UInt8 := dkwX4_swimBits_1 ++ []
def dkwX4_swimBits_0 : List UInt8 := [3, 60, 3, 61, 28, 42, 180, 0, 81, 162, 0, 30, 27, 42, 180, 0, 19, 28, 46, 16, 7, 160, 0, 9]
abbrev dktX4_swimBits_0 : List UInt8 := dkwX4_swimBits_0 ++ dktX4_swimBits_1
theorem dksX4_swimBits_0 : cX4_swimBits.data.toList.drop 0 = dktX4_swimBits_0 := by decide +kernel
theorem dksX4_swimBits_1 : cX4_swimBits.data.toList.drop 24 = dktX4_swimBits_1 := dk_seg dksX4_swimBits_0 24 rfl rfl
theorem dX4_swimBits_0 : decode cX4_swimBits 0 = .ok (.iconst 0, 1) := dk_3 (dk_at dksX4_swimBits_0 0 rfl rfl)
theorem dX4_swimBits_1 : decode cX4_swimBits 1 = .ok (.istore_n 1, 1) := dk_60 (dk_at dksX4_swimBits_0 1 rfl rfl)
theorem dX4_swimBits_2 : decode cX4_swimBits 2 = .ok (.iconst 0, 1) := dk_3 (dk_at dksX4_swimBits_0 2 rfl rfl)
theorem dX4_swimBits_3 : decode cX4_swimBits 3 = .ok (.istore_n 2, 1) := dk_61 (dk_at dksX4_swimBits_0 3 rfl rfl)
theorem dX4_swimBits_4 : decode cX4_swimBits 4 = .ok (.iload_n 2, 1) := dk_28 (dk_at dksX4_swimBits_0 4 rfl rfl)
theorem dX4_swimBits_5 : decode cX4_swimBits 5 = .ok (.aload_n 0, 1) := dk_42 (dk_at dksX4_swimBits_0 5 rfl rfl)
theorem dX4_swimBits_6 : decode cX4_swimBits 6 = .ok (.getfield 81, 3) := dk_180 0 81 (dk_at dksX4_swimBits_0 6 rfl rfl)
theorem dX4_swimBits_9 : decode cX4_swimBits 9 = .ok (.if_icmp .ge 30, 3) := dk_162 0 30 (dk_at dksX4_swimBits_0 9 rfl rfl)
theorem dX4_swimBits_12 : decode cX4_swimBits 12 = .ok (.iload_n 1, 1) := dk_27 (dk_at dksX4_swimBits_0 12 rfl rfl)
theorem dX4_swimBits_13 : decode cX4_swimBits 13 = .ok (.aload_n 0, 1) := dk_42 (dk_at dksX4_swimBits_0 13 rfl rfl)
theorem dX4_swimBits_14 : decode cX4_swimBits 14 = .ok (.getfield 19, 3) := dk_180 0 19 (dk_at dksX4_swimBits_0 14 rfl rfl)
theorem dX4_swimBits_17 : decode cX4_swimBits 17 = .ok (.iload_n 2, 1) := dk_28 (dk_at dksX4_swimBits_0 17 rfl rfl)
theorem dX4_swimBits_18 : decode cX4_swimBits 18 = .ok (.iaload, 1) := dk_46 (dk_at dksX4_swimBits_0 18 rfl rfl)
theorem dX4_swimBits_19 : decode cX4_swimBits 19 = .ok (.bipush 7, 2) := dk_16 7 (dk_at dksX4_swimBits_0 19 rfl rfl)
theorem dX4_swimBits_21 : decode cX4_swimBits 21 = .ok (.if_icmp .ne 9, 3) := dk_160 0 9 (dk_at dksX4_swimBits_0 21 rfl rfl)
theorem dX4_swimBits_24 : decode cX4_swimBits 24 = .ok (.iconst 1, 1) := dk_4 (dk_at dksX4_swimBits_1 0 rfl rfl)
theorem dX4_swimBits_25 : decode cX4_swimBits 25 = .ok (.iload_n 2, 1) := dk_28 (dk_at dksX4_swimBits_1 1 rfl rfl)
theorem dX4_swimBits_26 : decode cX4_swimBits 26 = .ok (.ishl, 1) := dk_120 (dk_at dksX4_swimBits_1 2 rfl rfl)
theorem dX4_swimBits_27 : decode cX4_swimBits 27 = .ok (.goto 4, 3) := dk_167 0 4 (dk_at dksX4_swimBits_1 3 rfl rfl)
theorem dX4_swimBits_30 : decode cX4_swimBits 30 = .ok (.iconst 0, 1) := dk_3 (dk_at dksX4_swimBits_1 6 rfl rfl)
theorem dX4_swimBits_31 : decode cX4_swimBits 31 = .ok (.ior, 1) := dk_128 (dk_at dksX4_swimBits_1 7 rfl rfl)
theorem dX4_swimBits_32 : decode cX4_swimBits 32 = .ok (.istore_n 1, 1) := dk_60 (dk_at dksX4_swimBits_1 8 rfl rfl)
theorem dX4_swimBits_33 : decode cX4_swimBits 33 = .ok (.iinc 2 1, 3) := dk_132 2 1 (dk_at dksX4_swimBits_1 9 rfl rfl)
theorem dX4_swimBits_36 : decode cX4_swimBits 36 = .ok (.goto (-32), 3) := dk_167 255 224 (dk_at dksX4_swimBits_1 12 rfl rfl)
theorem dX4_swimBits_39 : decode cX4_swimBits 39 = .ok (.iload_n 1, 1) := dk_27 (dk_at dksX4_swimBits_1 15 rfl rfl)
theorem dX4_swimBits_40 : decode cX4_swimBits 40 = .ok (.ireturn, 1) := dk_172 (dk_at dksX4_swimBits_1 16 rfl rfl)
abbrev cX4_onesOf : ByteArray := prog_21_method_5_code
def yX4_onesOf : MethodName := ⟨RX4, "onesOf", "(I)I"⟩
def dkwX4_onesOf_0 : List UInt8 := [3, 60, 26, 61, 28, 153, 0, 15, 132, 1, 1, 28, 28, 4, 100, 126, 61, 167, 255, 243, 27, 172]
abbrev dktX4_onesOf_0 : List UInt8 := dkwX4_onesOf_0 ++ []
theorem dksX4_onesOf_0 : cX4_onesOf.data.toList.drop 0 = dktX4_onesOf_0 := by decide +kernel
theorem dX4_onesOf_0 : decode cX4_onesOf 0 = .ok (.iconst 0, 1) := dk_3 (dk_at dksX4_onesOf_0 0 rfl rfl)
theorem dX4_onesOf_1 : decode cX4_onesOf 1 = .ok (.istore_n 1, 1) := dk_60 (dk_at dksX4_onesOf_0 1 rfl rfl)
theorem dX4_onesOf_2 : decode cX4_onesOf 2 = .ok (.iload_n 0, 1) := dk_26 (dk_at dksX4_onesOf_0 2 rfl rfl)
theorem dX4_onesOf_3 : decode cX4_onesOf 3 = .ok (.istore_n 2, 1) := dk_61 (dk_at dksX4_onesOf_0 3 rfl rfl)
theorem dX4_onesOf_4 : decode cX4_onesOf 4 = .ok (.iload_n 2, 1) := dk_28 (dk_at dksX4_onesOf_0 4 rfl rfl)
theorem dX4_onesOf_5 : decode cX4_onesOf 5 = .ok (.ifCond .eq 15, 3) := dk_153 0 15 (dk_at dksX4_onesOf_0 5 rfl rfl)
theorem dX4_onesOf_8 : decode cX4_onesOf 8 = .ok (.iinc 1 1, 3) := dk_132 1 1 (dk_at dksX4_onesOf_0 8 rfl rfl)
theorem dX4_onesOf_11 : decode cX4_onesOf 11 = .ok (.iload_n 2, 1) := dk_28 (dk_at dksX4_onesOf_0 11 rfl rfl)
theorem dX4_onesOf_12 : decode cX4_onesOf 12 = .ok (.iload_n 2, 1) := dk_28 (dk_at dksX4_onesOf_0 12 rfl rfl)
theorem dX4_onesOf_13 : decode cX4_onesOf 13 = .ok (.iconst 1, 1) := dk_4 (dk_at dksX4_onesOf_0 13 rfl rfl)
theorem dX4_onesOf_14 : decode cX4_onesOf 14 = .ok (.isub, 1) := dk_100 (dk_at dksX4_onesOf_0 14 rfl rfl)
theorem dX4_onesOf_15 : decode cX4_onesOf 15 = .ok (.iand, 1) := dk_126 (dk_at dksX4_onesOf_0 15 rfl rfl)
theorem dX4_onesOf_16 : decode cX4_onesOf 16 = .ok (.istore_n 2, 1) := dk_61 (dk_at dksX4_onesOf_0 16 rfl rfl)
theorem dX4_onesOf_17 : decode cX4_onesOf 17 = .ok (.goto (-13), 3) := dk_167 255 243 (dk_at dksX4_onesOf_0 17 rfl rfl)
theorem dX4_onesOf_20 : decode cX4_onesOf 20 = .ok (.iload_n 1, 1) := dk_27 (dk_at dksX4_onesOf_0 20 rfl rfl)
theorem dX4_onesOf_21 : decode cX4_onesOf 21 = .ok (.ireturn, 1) := dk_172 (dk_at dksX4_onesOf_0 21 rfl rfl)
abbrev cX4_allSwim : ByteArray := prog_21_method_63_code
def yX4_allSwim : MethodName := ⟨RX4, "allSwim", "()I"⟩
def dkwX4_allSwim_2 : List UInt8 := [167, 0, 5, 16, 252, 60, 42, 182, 1, 20, 87, 132, 2, 1, 167, 255, 216, 42, 182, 0, 201, 27, 172]
abbrev dktX4_allSwim_2 : List UInt8 := dkwX4_allSwim_2 ++ []
def dkwX4_allSwim_1 : List UInt8 := [163, 0, 40, 27, 156, 0, 36, 42, 182, 1, 23, 4, 42, 180, 0, 81, 120, 4, 100, 160, 0, 7, 28]
abbrev dktX4_allSwim_1 : List UInt8 := dkwX4_allSwim_1 ++ dktX4_allSwim_2
def dkwX4_allSwim_0 : List UInt8 := [42, 3, 181, 0, 77, 16, 252, 60, 42, 3, 181, 1, 15, 42, 182, 0, 195, 3, 61, 28, 16, 99]
abbrev dktX4_allSwim_0 : List UInt8 := dkwX4_allSwim_0 ++ dktX4_allSwim_1
theorem dksX4_allSwim_0 : cX4_allSwim.data.toList.drop 0 = dktX4_allSwim_0 := by decide +kernel
theorem dksX4_allSwim_1 : cX4_allSwim.data.toList.drop 22 = dktX4_allSwim_1 := dk_seg dksX4_allSwim_0 22 rfl rfl
theorem dksX4_allSwim_2 : cX4_allSwim.data.toList.drop 45 = dktX4_allSwim_2 := dk_seg dksX4_allSwim_1 23 rfl rfl
theorem dX4_allSwim_0 : decode cX4_allSwim 0 = .ok (.aload_n 0, 1) := dk_42 (dk_at dksX4_allSwim_0 0 rfl rfl)
theorem dX4_allSwim_1 : decode cX4_allSwim 1 = .ok (.iconst 0, 1) := dk_3 (dk_at dksX4_allSwim_0 1 rfl rfl)
theorem dX4_allSwim_2 : decode cX4_allSwim 2 = .ok (.putfield 77, 3) := dk_181 0 77 (dk_at dksX4_allSwim_0 2 rfl rfl)
theorem dX4_allSwim_5 : decode cX4_allSwim 5 = .ok (.bipush (-4), 2) := dk_16 252 (dk_at dksX4_allSwim_0 5 rfl rfl)
theorem dX4_allSwim_7 : decode cX4_allSwim 7 = .ok (.istore_n 1, 1) := dk_60 (dk_at dksX4_allSwim_0 7 rfl rfl)
theorem dX4_allSwim_8 : decode cX4_allSwim 8 = .ok (.aload_n 0, 1) := dk_42 (dk_at dksX4_allSwim_0 8 rfl rfl)
theorem dX4_allSwim_9 : decode cX4_allSwim 9 = .ok (.iconst 0, 1) := dk_3 (dk_at dksX4_allSwim_0 9 rfl rfl)
theorem dX4_allSwim_10 : decode cX4_allSwim 10 = .ok (.putfield 271, 3) := dk_181 1 15 (dk_at dksX4_allSwim_0 10 rfl rfl)
theorem dX4_allSwim_13 : decode cX4_allSwim 13 = .ok (.aload_n 0, 1) := dk_42 (dk_at dksX4_allSwim_0 13 rfl rfl)
theorem dX4_allSwim_14 : decode cX4_allSwim 14 = .ok (.invokevirtual 195, 3) := dk_182 0 195 (dk_at dksX4_allSwim_0 14 rfl rfl)
theorem dX4_allSwim_17 : decode cX4_allSwim 17 = .ok (.iconst 0, 1) := dk_3 (dk_at dksX4_allSwim_0 17 rfl rfl)
theorem dX4_allSwim_18 : decode cX4_allSwim 18 = .ok (.istore_n 2, 1) := dk_61 (dk_at dksX4_allSwim_0 18 rfl rfl)
theorem dX4_allSwim_19 : decode cX4_allSwim 19 = .ok (.iload_n 2, 1) := dk_28 (dk_at dksX4_allSwim_0 19 rfl rfl)
theorem dX4_allSwim_20 : decode cX4_allSwim 20 = .ok (.bipush 99, 2) := dk_16 99 (dk_at dksX4_allSwim_0 20 rfl rfl)
theorem dX4_allSwim_22 : decode cX4_allSwim 22 = .ok (.if_icmp .gt 40, 3) := dk_163 0 40 (dk_at dksX4_allSwim_1 0 rfl rfl)
theorem dX4_allSwim_25 : decode cX4_allSwim 25 = .ok (.iload_n 1, 1) := dk_27 (dk_at dksX4_allSwim_1 3 rfl rfl)
theorem dX4_allSwim_26 : decode cX4_allSwim 26 = .ok (.ifCond .ge 36, 3) := dk_156 0 36 (dk_at dksX4_allSwim_1 4 rfl rfl)
theorem dX4_allSwim_29 : decode cX4_allSwim 29 = .ok (.aload_n 0, 1) := dk_42 (dk_at dksX4_allSwim_1 7 rfl rfl)
theorem dX4_allSwim_30 : decode cX4_allSwim 30 = .ok (.invokevirtual 279, 3) := dk_182 1 23 (dk_at dksX4_allSwim_1 8 rfl rfl)
theorem dX4_allSwim_33 : decode cX4_allSwim 33 = .ok (.iconst 1, 1) := dk_4 (dk_at dksX4_allSwim_1 11 rfl rfl)
theorem dX4_allSwim_34 : decode cX4_allSwim 34 = .ok (.aload_n 0, 1) := dk_42 (dk_at dksX4_allSwim_1 12 rfl rfl)
theorem dX4_allSwim_35 : decode cX4_allSwim 35 = .ok (.getfield 81, 3) := dk_180 0 81 (dk_at dksX4_allSwim_1 13 rfl rfl)
theorem dX4_allSwim_38 : decode cX4_allSwim 38 = .ok (.ishl, 1) := dk_120 (dk_at dksX4_allSwim_1 16 rfl rfl)
theorem dX4_allSwim_39 : decode cX4_allSwim 39 = .ok (.iconst 1, 1) := dk_4 (dk_at dksX4_allSwim_1 17 rfl rfl)
theorem dX4_allSwim_40 : decode cX4_allSwim 40 = .ok (.isub, 1) := dk_100 (dk_at dksX4_allSwim_1 18 rfl rfl)
theorem dX4_allSwim_41 : decode cX4_allSwim 41 = .ok (.if_icmp .ne 7, 3) := dk_160 0 7 (dk_at dksX4_allSwim_1 19 rfl rfl)
theorem dX4_allSwim_44 : decode cX4_allSwim 44 = .ok (.iload_n 2, 1) := dk_28 (dk_at dksX4_allSwim_1 22 rfl rfl)
theorem dX4_allSwim_45 : decode cX4_allSwim 45 = .ok (.goto 5, 3) := dk_167 0 5 (dk_at dksX4_allSwim_2 0 rfl rfl)
theorem dX4_allSwim_48 : decode cX4_allSwim 48 = .ok (.bipush (-4), 2) := dk_16 252 (dk_at dksX4_allSwim_2 3 rfl rfl)
theorem dX4_allSwim_50 : decode cX4_allSwim 50 = .ok (.istore_n 1, 1) := dk_60 (dk_at dksX4_allSwim_2 5 rfl rfl)
theorem dX4_allSwim_51 : decode cX4_allSwim 51 = .ok (.aload_n 0, 1) := dk_42 (dk_at dksX4_allSwim_2 6 rfl rfl)
theorem dX4_allSwim_52 : decode cX4_allSwim 52 = .ok (.invokevirtual 276, 3) := dk_182 1 20 (dk_at dksX4_allSwim_2 7 rfl rfl)
theorem dX4_allSwim_55 : decode cX4_allSwim 55 = .ok (.pop, 1) := dk_87 (dk_at dksX4_allSwim_2 10 rfl rfl)
theorem dX4_allSwim_56 : decode cX4_allSwim 56 = .ok (.iinc 2 1, 3) := dk_132 2 1 (dk_at dksX4_allSwim_2 11 rfl rfl)
theorem dX4_allSwim_59 : decode cX4_allSwim 59 = .ok (.goto (-40), 3) := dk_167 255 216 (dk_at dksX4_allSwim_2 14 rfl rfl)
theorem dX4_allSwim_62 : decode cX4_allSwim 62 = .ok (.aload_n 0, 1) := dk_42 (dk_at dksX4_allSwim_2 17 rfl rfl)
theorem dX4_allSwim_63 : decode cX4_allSwim 63 = .ok (.invokevirtual 201, 3) := dk_182 0 201 (dk_at dksX4_allSwim_2 18 rfl rfl)
theorem dX4_allSwim_66 : decode cX4_allSwim 66 = .ok (.iload_n 1, 1) := dk_27 (dk_at dksX4_allSwim_2 21 rfl rfl)
theorem dX4_allSwim_67 : decode cX4_allSwim 67 = .ok (.ireturn, 1) := dk_172 (dk_at dksX4_allSwim_2 22 rfl rfl)
abbrev cX4_beside : ByteArray := prog_21_method_66_code
def yX4_beside : MethodName := ⟨RX4, "beside", "(I)I"⟩
def dkwX4_beside_6 : List UInt8 := [42, 28, 42, 180, 0, 81, 182, 1, 37, 27, 156, 0, 7, 29, 167, 0, 9, 42, 180, 0, 71, 27, 46, 172]
abbrev dktX4_beside_6 : List UInt8 := dkwX4_beside_6 ++ []
def dkwX4_beside_5 : List UInt8 := [167, 0, 4, 28, 61, 21, 6, 29, 164, 0, 8, 21, 6, 167, 0, 4, 29, 62, 132, 5, 1, 167, 255, 159]
abbrev dktX4_beside_5 : List UInt8 := dkwX4_beside_5 ++ dktX4_beside_6
def dkwX4_beside_4 : List UInt8 := [21, 7, 46, 182, 0, 106, 104, 96, 54, 6, 132, 7, 1, 167, 255, 214, 21, 6, 29, 164, 0, 8, 21, 5]
abbrev dktX4_beside_4 : List UInt8 := dkwX4_beside_4 ++ dktX4_beside_5
def dkwX4_beside_3 : List UInt8 := [162, 0, 39, 21, 6, 42, 42, 180, 0, 71, 21, 7, 4, 100, 46, 182, 0, 106, 42, 42, 180, 0, 71]
abbrev dktX4_beside_3 : List UInt8 := dkwX4_beside_3 ++ dktX4_beside_4
def dkwX4_beside_2 : List UInt8 := [42, 21, 5, 42, 180, 0, 81, 182, 1, 37, 3, 54, 6, 4, 54, 7, 21, 7, 42, 180, 0, 81]
abbrev dktX4_beside_2 : List UInt8 := dkwX4_beside_2 ++ dktX4_beside_3
def dkwX4_beside_1 : List UInt8 := [172, 3, 61, 2, 62, 42, 180, 0, 81, 184, 1, 29, 54, 4, 3, 54, 5, 21, 5, 21, 4, 162, 0, 96]
abbrev dktX4_beside_1 : List UInt8 := dkwX4_beside_1 ++ dktX4_beside_2
def dkwX4_beside_0 : List UInt8 := [42, 3, 181, 0, 77, 27, 133, 20, 1, 35, 42, 180, 0, 81, 4, 100, 133, 184, 0, 84, 154, 0, 5, 2]
abbrev dktX4_beside_0 : List UInt8 := dkwX4_beside_0 ++ dktX4_beside_1
theorem dksX4_beside_0 : cX4_beside.data.toList.drop 0 = dktX4_beside_0 := by decide +kernel
theorem dksX4_beside_1 : cX4_beside.data.toList.drop 24 = dktX4_beside_1 := dk_seg dksX4_beside_0 24 rfl rfl
theorem dksX4_beside_2 : cX4_beside.data.toList.drop 48 = dktX4_beside_2 := dk_seg dksX4_beside_1 24 rfl rfl
theorem dksX4_beside_3 : cX4_beside.data.toList.drop 70 = dktX4_beside_3 := dk_seg dksX4_beside_2 22 rfl rfl
theorem dksX4_beside_4 : cX4_beside.data.toList.drop 93 = dktX4_beside_4 := dk_seg dksX4_beside_3 23 rfl rfl
theorem dksX4_beside_5 : cX4_beside.data.toList.drop 117 = dktX4_beside_5 := dk_seg dksX4_beside_4 24 rfl rfl
theorem dksX4_beside_6 : cX4_beside.data.toList.drop 141 = dktX4_beside_6 := dk_seg dksX4_beside_5 24 rfl rfl
theorem dX4_beside_0 : decode cX4_beside 0 = .ok (.aload_n 0, 1) := dk_42 (dk_at dksX4_beside_0 0 rfl rfl)
theorem dX4_beside_1 : decode cX4_beside 1 = .ok (.iconst 0, 1) := dk_3 (dk_at dksX4_beside_0 1 rfl rfl)
theorem dX4_beside_2 : decode cX4_beside 2 = .ok (.putfield 77, 3) := dk_181 0 77 (dk_at dksX4_beside_0 2 rfl rfl)
theorem dX4_beside_5 : decode cX4_beside 5 = .ok (.iload_n 1, 1) := dk_27 (dk_at dksX4_beside_0 5 rfl rfl)
theorem dX4_beside_6 : decode cX4_beside 6 = .ok (.i2l, 1) := dk_133 (dk_at dksX4_beside_0 6 rfl rfl)
theorem dX4_beside_7 : decode cX4_beside 7 = .ok (.ldc2_w 291, 3) := dk_20 1 35 (dk_at dksX4_beside_0 7 rfl rfl)
theorem dX4_beside_10 : decode cX4_beside 10 = .ok (.aload_n 0, 1) := dk_42 (dk_at dksX4_beside_0 10 rfl rfl)
theorem dX4_beside_11 : decode cX4_beside 11 = .ok (.getfield 81, 3) := dk_180 0 81 (dk_at dksX4_beside_0 11 rfl rfl)
theorem dX4_beside_14 : decode cX4_beside 14 = .ok (.iconst 1, 1) := dk_4 (dk_at dksX4_beside_0 14 rfl rfl)
theorem dX4_beside_15 : decode cX4_beside 15 = .ok (.isub, 1) := dk_100 (dk_at dksX4_beside_0 15 rfl rfl)
theorem dX4_beside_16 : decode cX4_beside 16 = .ok (.i2l, 1) := dk_133 (dk_at dksX4_beside_0 16 rfl rfl)
theorem dX4_beside_17 : decode cX4_beside 17 = .ok (.invokestatic 84, 3) := dk_184 0 84 (dk_at dksX4_beside_0 17 rfl rfl)
theorem dX4_beside_20 : decode cX4_beside 20 = .ok (.ifCond .ne 5, 3) := dk_154 0 5 (dk_at dksX4_beside_0 20 rfl rfl)
theorem dX4_beside_23 : decode cX4_beside 23 = .ok (.iconst (-1), 1) := dk_2 (dk_at dksX4_beside_0 23 rfl rfl)
theorem dX4_beside_24 : decode cX4_beside 24 = .ok (.ireturn, 1) := dk_172 (dk_at dksX4_beside_1 0 rfl rfl)
theorem dX4_beside_25 : decode cX4_beside 25 = .ok (.iconst 0, 1) := dk_3 (dk_at dksX4_beside_1 1 rfl rfl)
theorem dX4_beside_26 : decode cX4_beside 26 = .ok (.istore_n 2, 1) := dk_61 (dk_at dksX4_beside_1 2 rfl rfl)
theorem dX4_beside_27 : decode cX4_beside 27 = .ok (.iconst (-1), 1) := dk_2 (dk_at dksX4_beside_1 3 rfl rfl)
theorem dX4_beside_28 : decode cX4_beside 28 = .ok (.istore_n 3, 1) := dk_62 (dk_at dksX4_beside_1 4 rfl rfl)
theorem dX4_beside_29 : decode cX4_beside 29 = .ok (.aload_n 0, 1) := dk_42 (dk_at dksX4_beside_1 5 rfl rfl)
theorem dX4_beside_30 : decode cX4_beside 30 = .ok (.getfield 81, 3) := dk_180 0 81 (dk_at dksX4_beside_1 6 rfl rfl)
theorem dX4_beside_33 : decode cX4_beside 33 = .ok (.invokestatic 285, 3) := dk_184 1 29 (dk_at dksX4_beside_1 9 rfl rfl)
theorem dX4_beside_36 : decode cX4_beside 36 = .ok (.istore 4, 2) := dk_54 4 (dk_at dksX4_beside_1 12 rfl rfl)
theorem dX4_beside_38 : decode cX4_beside 38 = .ok (.iconst 0, 1) := dk_3 (dk_at dksX4_beside_1 14 rfl rfl)
theorem dX4_beside_39 : decode cX4_beside 39 = .ok (.istore 5, 2) := dk_54 5 (dk_at dksX4_beside_1 15 rfl rfl)
theorem dX4_beside_41 : decode cX4_beside 41 = .ok (.iload 5, 2) := dk_21 5 (dk_at dksX4_beside_1 17 rfl rfl)
theorem dX4_beside_43 : decode cX4_beside 43 = .ok (.iload 4, 2) := dk_21 4 (dk_at dksX4_beside_1 19 rfl rfl)
theorem dX4_beside_45 : decode cX4_beside 45 = .ok (.if_icmp .ge 96, 3) := dk_162 0 96 (dk_at dksX4_beside_1 21 rfl rfl)
theorem dX4_beside_48 : decode cX4_beside 48 = .ok (.aload_n 0, 1) := dk_42 (dk_at dksX4_beside_2 0 rfl rfl)
theorem dX4_beside_49 : decode cX4_beside 49 = .ok (.iload 5, 2) := dk_21 5 (dk_at dksX4_beside_2 1 rfl rfl)
theorem dX4_beside_51 : decode cX4_beside 51 = .ok (.aload_n 0, 1) := dk_42 (dk_at dksX4_beside_2 3 rfl rfl)
theorem dX4_beside_52 : decode cX4_beside 52 = .ok (.getfield 81, 3) := dk_180 0 81 (dk_at dksX4_beside_2 4 rfl rfl)
theorem dX4_beside_55 : decode cX4_beside 55 = .ok (.invokevirtual 293, 3) := dk_182 1 37 (dk_at dksX4_beside_2 7 rfl rfl)
theorem dX4_beside_58 : decode cX4_beside 58 = .ok (.iconst 0, 1) := dk_3 (dk_at dksX4_beside_2 10 rfl rfl)
theorem dX4_beside_59 : decode cX4_beside 59 = .ok (.istore 6, 2) := dk_54 6 (dk_at dksX4_beside_2 11 rfl rfl)
theorem dX4_beside_61 : decode cX4_beside 61 = .ok (.iconst 1, 1) := dk_4 (dk_at dksX4_beside_2 13 rfl rfl)
theorem dX4_beside_62 : decode cX4_beside 62 = .ok (.istore 7, 2) := dk_54 7 (dk_at dksX4_beside_2 14 rfl rfl)
theorem dX4_beside_64 : decode cX4_beside 64 = .ok (.iload 7, 2) := dk_21 7 (dk_at dksX4_beside_2 16 rfl rfl)
theorem dX4_beside_66 : decode cX4_beside 66 = .ok (.aload_n 0, 1) := dk_42 (dk_at dksX4_beside_2 18 rfl rfl)
theorem dX4_beside_67 : decode cX4_beside 67 = .ok (.getfield 81, 3) := dk_180 0 81 (dk_at dksX4_beside_2 19 rfl rfl)
theorem dX4_beside_70 : decode cX4_beside 70 = .ok (.if_icmp .ge 39, 3) := dk_162 0 39 (dk_at dksX4_beside_3 0 rfl rfl)
theorem dX4_beside_73 : decode cX4_beside 73 = .ok (.iload 6, 2) := dk_21 6 (dk_at dksX4_beside_3 3 rfl rfl)
theorem dX4_beside_75 : decode cX4_beside 75 = .ok (.aload_n 0, 1) := dk_42 (dk_at dksX4_beside_3 5 rfl rfl)
theorem dX4_beside_76 : decode cX4_beside 76 = .ok (.aload_n 0, 1) := dk_42 (dk_at dksX4_beside_3 6 rfl rfl)
theorem dX4_beside_77 : decode cX4_beside 77 = .ok (.getfield 71, 3) := dk_180 0 71 (dk_at dksX4_beside_3 7 rfl rfl)
theorem dX4_beside_80 : decode cX4_beside 80 = .ok (.iload 7, 2) := dk_21 7 (dk_at dksX4_beside_3 10 rfl rfl)
theorem dX4_beside_82 : decode cX4_beside 82 = .ok (.iconst 1, 1) := dk_4 (dk_at dksX4_beside_3 12 rfl rfl)
theorem dX4_beside_83 : decode cX4_beside 83 = .ok (.isub, 1) := dk_100 (dk_at dksX4_beside_3 13 rfl rfl)
theorem dX4_beside_84 : decode cX4_beside 84 = .ok (.iaload, 1) := dk_46 (dk_at dksX4_beside_3 14 rfl rfl)
theorem dX4_beside_85 : decode cX4_beside 85 = .ok (.invokevirtual 106, 3) := dk_182 0 106 (dk_at dksX4_beside_3 15 rfl rfl)
theorem dX4_beside_88 : decode cX4_beside 88 = .ok (.aload_n 0, 1) := dk_42 (dk_at dksX4_beside_3 18 rfl rfl)
theorem dX4_beside_89 : decode cX4_beside 89 = .ok (.aload_n 0, 1) := dk_42 (dk_at dksX4_beside_3 19 rfl rfl)
theorem dX4_beside_90 : decode cX4_beside 90 = .ok (.getfield 71, 3) := dk_180 0 71 (dk_at dksX4_beside_3 20 rfl rfl)
theorem dX4_beside_93 : decode cX4_beside 93 = .ok (.iload 7, 2) := dk_21 7 (dk_at dksX4_beside_4 0 rfl rfl)
theorem dX4_beside_95 : decode cX4_beside 95 = .ok (.iaload, 1) := dk_46 (dk_at dksX4_beside_4 2 rfl rfl)
theorem dX4_beside_96 : decode cX4_beside 96 = .ok (.invokevirtual 106, 3) := dk_182 0 106 (dk_at dksX4_beside_4 3 rfl rfl)
theorem dX4_beside_99 : decode cX4_beside 99 = .ok (.imul, 1) := dk_104 (dk_at dksX4_beside_4 6 rfl rfl)
theorem dX4_beside_100 : decode cX4_beside 100 = .ok (.iadd, 1) := dk_96 (dk_at dksX4_beside_4 7 rfl rfl)
theorem dX4_beside_101 : decode cX4_beside 101 = .ok (.istore 6, 2) := dk_54 6 (dk_at dksX4_beside_4 8 rfl rfl)
theorem dX4_beside_103 : decode cX4_beside 103 = .ok (.iinc 7 1, 3) := dk_132 7 1 (dk_at dksX4_beside_4 10 rfl rfl)
theorem dX4_beside_106 : decode cX4_beside 106 = .ok (.goto (-42), 3) := dk_167 255 214 (dk_at dksX4_beside_4 13 rfl rfl)
theorem dX4_beside_109 : decode cX4_beside 109 = .ok (.iload 6, 2) := dk_21 6 (dk_at dksX4_beside_4 16 rfl rfl)
theorem dX4_beside_111 : decode cX4_beside 111 = .ok (.iload_n 3, 1) := dk_29 (dk_at dksX4_beside_4 18 rfl rfl)
theorem dX4_beside_112 : decode cX4_beside 112 = .ok (.if_icmp .le 8, 3) := dk_164 0 8 (dk_at dksX4_beside_4 19 rfl rfl)
theorem dX4_beside_115 : decode cX4_beside 115 = .ok (.iload 5, 2) := dk_21 5 (dk_at dksX4_beside_4 22 rfl rfl)
theorem dX4_beside_117 : decode cX4_beside 117 = .ok (.goto 4, 3) := dk_167 0 4 (dk_at dksX4_beside_5 0 rfl rfl)
theorem dX4_beside_120 : decode cX4_beside 120 = .ok (.iload_n 2, 1) := dk_28 (dk_at dksX4_beside_5 3 rfl rfl)
theorem dX4_beside_121 : decode cX4_beside 121 = .ok (.istore_n 2, 1) := dk_61 (dk_at dksX4_beside_5 4 rfl rfl)
theorem dX4_beside_122 : decode cX4_beside 122 = .ok (.iload 6, 2) := dk_21 6 (dk_at dksX4_beside_5 5 rfl rfl)
theorem dX4_beside_124 : decode cX4_beside 124 = .ok (.iload_n 3, 1) := dk_29 (dk_at dksX4_beside_5 7 rfl rfl)
theorem dX4_beside_125 : decode cX4_beside 125 = .ok (.if_icmp .le 8, 3) := dk_164 0 8 (dk_at dksX4_beside_5 8 rfl rfl)
theorem dX4_beside_128 : decode cX4_beside 128 = .ok (.iload 6, 2) := dk_21 6 (dk_at dksX4_beside_5 11 rfl rfl)
theorem dX4_beside_130 : decode cX4_beside 130 = .ok (.goto 4, 3) := dk_167 0 4 (dk_at dksX4_beside_5 13 rfl rfl)
theorem dX4_beside_133 : decode cX4_beside 133 = .ok (.iload_n 3, 1) := dk_29 (dk_at dksX4_beside_5 16 rfl rfl)
theorem dX4_beside_134 : decode cX4_beside 134 = .ok (.istore_n 3, 1) := dk_62 (dk_at dksX4_beside_5 17 rfl rfl)
theorem dX4_beside_135 : decode cX4_beside 135 = .ok (.iinc 5 1, 3) := dk_132 5 1 (dk_at dksX4_beside_5 18 rfl rfl)
theorem dX4_beside_138 : decode cX4_beside 138 = .ok (.goto (-97), 3) := dk_167 255 159 (dk_at dksX4_beside_5 21 rfl rfl)
theorem dX4_beside_141 : decode cX4_beside 141 = .ok (.aload_n 0, 1) := dk_42 (dk_at dksX4_beside_6 0 rfl rfl)
theorem dX4_beside_142 : decode cX4_beside 142 = .ok (.iload_n 2, 1) := dk_28 (dk_at dksX4_beside_6 1 rfl rfl)
theorem dX4_beside_143 : decode cX4_beside 143 = .ok (.aload_n 0, 1) := dk_42 (dk_at dksX4_beside_6 2 rfl rfl)
theorem dX4_beside_144 : decode cX4_beside 144 = .ok (.getfield 81, 3) := dk_180 0 81 (dk_at dksX4_beside_6 3 rfl rfl)
theorem dX4_beside_147 : decode cX4_beside 147 = .ok (.invokevirtual 293, 3) := dk_182 1 37 (dk_at dksX4_beside_6 6 rfl rfl)
theorem dX4_beside_150 : decode cX4_beside 150 = .ok (.iload_n 1, 1) := dk_27 (dk_at dksX4_beside_6 9 rfl rfl)
theorem dX4_beside_151 : decode cX4_beside 151 = .ok (.ifCond .ge 7, 3) := dk_156 0 7 (dk_at dksX4_beside_6 10 rfl rfl)
theorem dX4_beside_154 : decode cX4_beside 154 = .ok (.iload_n 3, 1) := dk_29 (dk_at dksX4_beside_6 13 rfl rfl)
theorem dX4_beside_155 : decode cX4_beside 155 = .ok (.goto 9, 3) := dk_167 0 9 (dk_at dksX4_beside_6 14 rfl rfl)
theorem dX4_beside_158 : decode cX4_beside 158 = .ok (.aload_n 0, 1) := dk_42 (dk_at dksX4_beside_6 17 rfl rfl)
theorem dX4_beside_159 : decode cX4_beside 159 = .ok (.getfield 71, 3) := dk_180 0 71 (dk_at dksX4_beside_6 18 rfl rfl)
theorem dX4_beside_162 : decode cX4_beside 162 = .ok (.iload_n 1, 1) := dk_27 (dk_at dksX4_beside_6 21 rfl rfl)
theorem dX4_beside_163 : decode cX4_beside 163 = .ok (.iaload, 1) := dk_46 (dk_at dksX4_beside_6 22 rfl rfl)
theorem dX4_beside_164 : decode cX4_beside 164 = .ok (.ireturn, 1) := dk_172 (dk_at dksX4_beside_6 23 rfl rfl)
abbrev cX4_ordersOf : ByteArray := prog_21_method_64_code
def yX4_ordersOf : MethodName := ⟨RX4, "ordersOf", "(I)I"⟩
def dkwX4_ordersOf_0 : List UInt8 := [4, 60, 5, 61, 28, 26, 163, 0, 13, 27, 28, 104, 60, 132, 2, 1, 167, 255, 244, 27, 172]
abbrev dktX4_ordersOf_0 : List UInt8 := dkwX4_ordersOf_0 ++ []
theorem dksX4_ordersOf_0 : cX4_ordersOf.data.toList.drop 0 = dktX4_ordersOf_0 := by decide +kernel
theorem dX4_ordersOf_0 : decode cX4_ordersOf 0 = .ok (.iconst 1, 1) := dk_4 (dk_at dksX4_ordersOf_0 0 rfl rfl)
theorem dX4_ordersOf_1 : decode cX4_ordersOf 1 = .ok (.istore_n 1, 1) := dk_60 (dk_at dksX4_ordersOf_0 1 rfl rfl)
theorem dX4_ordersOf_2 : decode cX4_ordersOf 2 = .ok (.iconst 2, 1) := dk_5 (dk_at dksX4_ordersOf_0 2 rfl rfl)
theorem dX4_ordersOf_3 : decode cX4_ordersOf 3 = .ok (.istore_n 2, 1) := dk_61 (dk_at dksX4_ordersOf_0 3 rfl rfl)
theorem dX4_ordersOf_4 : decode cX4_ordersOf 4 = .ok (.iload_n 2, 1) := dk_28 (dk_at dksX4_ordersOf_0 4 rfl rfl)
theorem dX4_ordersOf_5 : decode cX4_ordersOf 5 = .ok (.iload_n 0, 1) := dk_26 (dk_at dksX4_ordersOf_0 5 rfl rfl)
theorem dX4_ordersOf_6 : decode cX4_ordersOf 6 = .ok (.if_icmp .gt 13, 3) := dk_163 0 13 (dk_at dksX4_ordersOf_0 6 rfl rfl)
theorem dX4_ordersOf_9 : decode cX4_ordersOf 9 = .ok (.iload_n 1, 1) := dk_27 (dk_at dksX4_ordersOf_0 9 rfl rfl)
theorem dX4_ordersOf_10 : decode cX4_ordersOf 10 = .ok (.iload_n 2, 1) := dk_28 (dk_at dksX4_ordersOf_0 10 rfl rfl)
theorem dX4_ordersOf_11 : decode cX4_ordersOf 11 = .ok (.imul, 1) := dk_104 (dk_at dksX4_ordersOf_0 11 rfl rfl)
theorem dX4_ordersOf_12 : decode cX4_ordersOf 12 = .ok (.istore_n 1, 1) := dk_60 (dk_at dksX4_ordersOf_0 12 rfl rfl)
theorem dX4_ordersOf_13 : decode cX4_ordersOf 13 = .ok (.iinc 2 1, 3) := dk_132 2 1 (dk_at dksX4_ordersOf_0 13 rfl rfl)
theorem dX4_ordersOf_16 : decode cX4_ordersOf 16 = .ok (.goto (-12), 3) := dk_167 255 244 (dk_at dksX4_ordersOf_0 16 rfl rfl)
theorem dX4_ordersOf_19 : decode cX4_ordersOf 19 = .ok (.iload_n 1, 1) := dk_27 (dk_at dksX4_ordersOf_0 19 rfl rfl)
theorem dX4_ordersOf_20 : decode cX4_ordersOf 20 = .ok (.ireturn, 1) := dk_172 (dk_at dksX4_ordersOf_0 20 rfl rfl)
abbrev cX4_layOrder : ByteArray := prog_21_method_65_code
def yX4_layOrder : MethodName := ⟨RX4, "layOrder", "(II)V"⟩
def dkwX4_layOrder_4 : List UInt8 := [120, 128, 54, 4, 132, 5, 1, 167, 255, 163, 177]
abbrev dktX4_layOrder_4 : List UInt8 := dkwX4_layOrder_4 ++ []
def dkwX4_layOrder_3 : List UInt8 := [4, 100, 54, 7, 132, 8, 1, 167, 255, 218, 42, 180, 0, 71, 21, 5, 21, 8, 79, 21, 4, 4, 21, 8]
abbrev dktX4_layOrder_3 : List UInt8 := dkwX4_layOrder_3 ++ dktX4_layOrder_4
def dkwX4_layOrder_2 : List UInt8 := [154, 0, 8, 21, 7, 158, 0, 29, 21, 7, 21, 4, 21, 8, 184, 1, 32, 153, 0, 7, 3, 167, 0, 4]
abbrev dktX4_layOrder_2 : List UInt8 := dkwX4_layOrder_2 ++ dktX4_layOrder_3
def dkwX4_layOrder_1 : List UInt8 := [54, 6, 29, 21, 6, 108, 54, 7, 29, 21, 6, 112, 62, 3, 54, 8, 21, 4, 21, 8, 184, 1, 32]
abbrev dktX4_layOrder_1 : List UInt8 := dkwX4_layOrder_1 ++ dktX4_layOrder_2
def dkwX4_layOrder_0 : List UInt8 := [27, 62, 3, 54, 4, 3, 54, 5, 21, 5, 28, 162, 0, 93, 28, 4, 100, 21, 5, 100, 184, 1, 29]
abbrev dktX4_layOrder_0 : List UInt8 := dkwX4_layOrder_0 ++ dktX4_layOrder_1
theorem dksX4_layOrder_0 : cX4_layOrder.data.toList.drop 0 = dktX4_layOrder_0 := by decide +kernel
theorem dksX4_layOrder_1 : cX4_layOrder.data.toList.drop 23 = dktX4_layOrder_1 := dk_seg dksX4_layOrder_0 23 rfl rfl
theorem dksX4_layOrder_2 : cX4_layOrder.data.toList.drop 46 = dktX4_layOrder_2 := dk_seg dksX4_layOrder_1 23 rfl rfl
theorem dksX4_layOrder_3 : cX4_layOrder.data.toList.drop 70 = dktX4_layOrder_3 := dk_seg dksX4_layOrder_2 24 rfl rfl
theorem dksX4_layOrder_4 : cX4_layOrder.data.toList.drop 94 = dktX4_layOrder_4 := dk_seg dksX4_layOrder_3 24 rfl rfl
theorem dX4_layOrder_0 : decode cX4_layOrder 0 = .ok (.iload_n 1, 1) := dk_27 (dk_at dksX4_layOrder_0 0 rfl rfl)
theorem dX4_layOrder_1 : decode cX4_layOrder 1 = .ok (.istore_n 3, 1) := dk_62 (dk_at dksX4_layOrder_0 1 rfl rfl)
theorem dX4_layOrder_2 : decode cX4_layOrder 2 = .ok (.iconst 0, 1) := dk_3 (dk_at dksX4_layOrder_0 2 rfl rfl)
theorem dX4_layOrder_3 : decode cX4_layOrder 3 = .ok (.istore 4, 2) := dk_54 4 (dk_at dksX4_layOrder_0 3 rfl rfl)
theorem dX4_layOrder_5 : decode cX4_layOrder 5 = .ok (.iconst 0, 1) := dk_3 (dk_at dksX4_layOrder_0 5 rfl rfl)
theorem dX4_layOrder_6 : decode cX4_layOrder 6 = .ok (.istore 5, 2) := dk_54 5 (dk_at dksX4_layOrder_0 6 rfl rfl)
theorem dX4_layOrder_8 : decode cX4_layOrder 8 = .ok (.iload 5, 2) := dk_21 5 (dk_at dksX4_layOrder_0 8 rfl rfl)
theorem dX4_layOrder_10 : decode cX4_layOrder 10 = .ok (.iload_n 2, 1) := dk_28 (dk_at dksX4_layOrder_0 10 rfl rfl)
theorem dX4_layOrder_11 : decode cX4_layOrder 11 = .ok (.if_icmp .ge 93, 3) := dk_162 0 93 (dk_at dksX4_layOrder_0 11 rfl rfl)
theorem dX4_layOrder_14 : decode cX4_layOrder 14 = .ok (.iload_n 2, 1) := dk_28 (dk_at dksX4_layOrder_0 14 rfl rfl)
theorem dX4_layOrder_15 : decode cX4_layOrder 15 = .ok (.iconst 1, 1) := dk_4 (dk_at dksX4_layOrder_0 15 rfl rfl)
theorem dX4_layOrder_16 : decode cX4_layOrder 16 = .ok (.isub, 1) := dk_100 (dk_at dksX4_layOrder_0 16 rfl rfl)
theorem dX4_layOrder_17 : decode cX4_layOrder 17 = .ok (.iload 5, 2) := dk_21 5 (dk_at dksX4_layOrder_0 17 rfl rfl)
theorem dX4_layOrder_19 : decode cX4_layOrder 19 = .ok (.isub, 1) := dk_100 (dk_at dksX4_layOrder_0 19 rfl rfl)
theorem dX4_layOrder_20 : decode cX4_layOrder 20 = .ok (.invokestatic 285, 3) := dk_184 1 29 (dk_at dksX4_layOrder_0 20 rfl rfl)
theorem dX4_layOrder_23 : decode cX4_layOrder 23 = .ok (.istore 6, 2) := dk_54 6 (dk_at dksX4_layOrder_1 0 rfl rfl)
theorem dX4_layOrder_25 : decode cX4_layOrder 25 = .ok (.iload_n 3, 1) := dk_29 (dk_at dksX4_layOrder_1 2 rfl rfl)
theorem dX4_layOrder_26 : decode cX4_layOrder 26 = .ok (.iload 6, 2) := dk_21 6 (dk_at dksX4_layOrder_1 3 rfl rfl)
theorem dX4_layOrder_28 : decode cX4_layOrder 28 = .ok (.idiv, 1) := dk_108 (dk_at dksX4_layOrder_1 5 rfl rfl)
theorem dX4_layOrder_29 : decode cX4_layOrder 29 = .ok (.istore 7, 2) := dk_54 7 (dk_at dksX4_layOrder_1 6 rfl rfl)
theorem dX4_layOrder_31 : decode cX4_layOrder 31 = .ok (.iload_n 3, 1) := dk_29 (dk_at dksX4_layOrder_1 8 rfl rfl)
theorem dX4_layOrder_32 : decode cX4_layOrder 32 = .ok (.iload 6, 2) := dk_21 6 (dk_at dksX4_layOrder_1 9 rfl rfl)
theorem dX4_layOrder_34 : decode cX4_layOrder 34 = .ok (.irem, 1) := dk_112 (dk_at dksX4_layOrder_1 11 rfl rfl)
theorem dX4_layOrder_35 : decode cX4_layOrder 35 = .ok (.istore_n 3, 1) := dk_62 (dk_at dksX4_layOrder_1 12 rfl rfl)
theorem dX4_layOrder_36 : decode cX4_layOrder 36 = .ok (.iconst 0, 1) := dk_3 (dk_at dksX4_layOrder_1 13 rfl rfl)
theorem dX4_layOrder_37 : decode cX4_layOrder 37 = .ok (.istore 8, 2) := dk_54 8 (dk_at dksX4_layOrder_1 14 rfl rfl)
theorem dX4_layOrder_39 : decode cX4_layOrder 39 = .ok (.iload 4, 2) := dk_21 4 (dk_at dksX4_layOrder_1 16 rfl rfl)
theorem dX4_layOrder_41 : decode cX4_layOrder 41 = .ok (.iload 8, 2) := dk_21 8 (dk_at dksX4_layOrder_1 18 rfl rfl)
theorem dX4_layOrder_43 : decode cX4_layOrder 43 = .ok (.invokestatic 288, 3) := dk_184 1 32 (dk_at dksX4_layOrder_1 20 rfl rfl)
theorem dX4_layOrder_46 : decode cX4_layOrder 46 = .ok (.ifCond .ne 8, 3) := dk_154 0 8 (dk_at dksX4_layOrder_2 0 rfl rfl)
theorem dX4_layOrder_49 : decode cX4_layOrder 49 = .ok (.iload 7, 2) := dk_21 7 (dk_at dksX4_layOrder_2 3 rfl rfl)
theorem dX4_layOrder_51 : decode cX4_layOrder 51 = .ok (.ifCond .le 29, 3) := dk_158 0 29 (dk_at dksX4_layOrder_2 5 rfl rfl)
theorem dX4_layOrder_54 : decode cX4_layOrder 54 = .ok (.iload 7, 2) := dk_21 7 (dk_at dksX4_layOrder_2 8 rfl rfl)
theorem dX4_layOrder_56 : decode cX4_layOrder 56 = .ok (.iload 4, 2) := dk_21 4 (dk_at dksX4_layOrder_2 10 rfl rfl)
theorem dX4_layOrder_58 : decode cX4_layOrder 58 = .ok (.iload 8, 2) := dk_21 8 (dk_at dksX4_layOrder_2 12 rfl rfl)
theorem dX4_layOrder_60 : decode cX4_layOrder 60 = .ok (.invokestatic 288, 3) := dk_184 1 32 (dk_at dksX4_layOrder_2 14 rfl rfl)
theorem dX4_layOrder_63 : decode cX4_layOrder 63 = .ok (.ifCond .eq 7, 3) := dk_153 0 7 (dk_at dksX4_layOrder_2 17 rfl rfl)
theorem dX4_layOrder_66 : decode cX4_layOrder 66 = .ok (.iconst 0, 1) := dk_3 (dk_at dksX4_layOrder_2 20 rfl rfl)
theorem dX4_layOrder_67 : decode cX4_layOrder 67 = .ok (.goto 4, 3) := dk_167 0 4 (dk_at dksX4_layOrder_2 21 rfl rfl)
theorem dX4_layOrder_70 : decode cX4_layOrder 70 = .ok (.iconst 1, 1) := dk_4 (dk_at dksX4_layOrder_3 0 rfl rfl)
theorem dX4_layOrder_71 : decode cX4_layOrder 71 = .ok (.isub, 1) := dk_100 (dk_at dksX4_layOrder_3 1 rfl rfl)
theorem dX4_layOrder_72 : decode cX4_layOrder 72 = .ok (.istore 7, 2) := dk_54 7 (dk_at dksX4_layOrder_3 2 rfl rfl)
theorem dX4_layOrder_74 : decode cX4_layOrder 74 = .ok (.iinc 8 1, 3) := dk_132 8 1 (dk_at dksX4_layOrder_3 4 rfl rfl)
theorem dX4_layOrder_77 : decode cX4_layOrder 77 = .ok (.goto (-38), 3) := dk_167 255 218 (dk_at dksX4_layOrder_3 7 rfl rfl)
theorem dX4_layOrder_80 : decode cX4_layOrder 80 = .ok (.aload_n 0, 1) := dk_42 (dk_at dksX4_layOrder_3 10 rfl rfl)
theorem dX4_layOrder_81 : decode cX4_layOrder 81 = .ok (.getfield 71, 3) := dk_180 0 71 (dk_at dksX4_layOrder_3 11 rfl rfl)
theorem dX4_layOrder_84 : decode cX4_layOrder 84 = .ok (.iload 5, 2) := dk_21 5 (dk_at dksX4_layOrder_3 14 rfl rfl)
theorem dX4_layOrder_86 : decode cX4_layOrder 86 = .ok (.iload 8, 2) := dk_21 8 (dk_at dksX4_layOrder_3 16 rfl rfl)
theorem dX4_layOrder_88 : decode cX4_layOrder 88 = .ok (.iastore, 1) := dk_79 (dk_at dksX4_layOrder_3 18 rfl rfl)
theorem dX4_layOrder_89 : decode cX4_layOrder 89 = .ok (.iload 4, 2) := dk_21 4 (dk_at dksX4_layOrder_3 19 rfl rfl)
theorem dX4_layOrder_91 : decode cX4_layOrder 91 = .ok (.iconst 1, 1) := dk_4 (dk_at dksX4_layOrder_3 21 rfl rfl)
theorem dX4_layOrder_92 : decode cX4_layOrder 92 = .ok (.iload 8, 2) := dk_21 8 (dk_at dksX4_layOrder_3 22 rfl rfl)
theorem dX4_layOrder_94 : decode cX4_layOrder 94 = .ok (.ishl, 1) := dk_120 (dk_at dksX4_layOrder_4 0 rfl rfl)
theorem dX4_layOrder_95 : decode cX4_layOrder 95 = .ok (.ior, 1) := dk_128 (dk_at dksX4_layOrder_4 1 rfl rfl)
theorem dX4_layOrder_96 : decode cX4_layOrder 96 = .ok (.istore 4, 2) := dk_54 4 (dk_at dksX4_layOrder_4 2 rfl rfl)
theorem dX4_layOrder_98 : decode cX4_layOrder 98 = .ok (.iinc 5 1, 3) := dk_132 5 1 (dk_at dksX4_layOrder_4 4 rfl rfl)
theorem dX4_layOrder_101 : decode cX4_layOrder 101 = .ok (.goto (-93), 3) := dk_167 255 163 (dk_at dksX4_layOrder_4 7 rfl rfl)
theorem dX4_layOrder_104 : decode cX4_layOrder 104 = .ok (.return_, 1) := dk_177 (dk_at dksX4_layOrder_4 10 rfl rfl)
abbrev cX4_hasBit : ByteArray := prog_21_method_4_code
def yX4_hasBit : MethodName := ⟨RX4, "hasBit", "(II)Z"⟩
def dkwX4_hasBit_0 : List UInt8 := [26, 27, 122, 4, 126, 4, 160, 0, 7, 4, 167, 0, 4, 3, 172]
abbrev dktX4_hasBit_0 : List UInt8 := dkwX4_hasBit_0 ++ []
theorem dksX4_hasBit_0 : cX4_hasBit.data.toList.drop 0 = dktX4_hasBit_0 := by decide +kernel
theorem dX4_hasBit_0 : decode cX4_hasBit 0 = .ok (.iload_n 0, 1) := dk_26 (dk_at dksX4_hasBit_0 0 rfl rfl)
theorem dX4_hasBit_1 : decode cX4_hasBit 1 = .ok (.iload_n 1, 1) := dk_27 (dk_at dksX4_hasBit_0 1 rfl rfl)
theorem dX4_hasBit_2 : decode cX4_hasBit 2 = .ok (.ishr, 1) := dk_122 (dk_at dksX4_hasBit_0 2 rfl rfl)
theorem dX4_hasBit_3 : decode cX4_hasBit 3 = .ok (.iconst 1, 1) := dk_4 (dk_at dksX4_hasBit_0 3 rfl rfl)
theorem dX4_hasBit_4 : decode cX4_hasBit 4 = .ok (.iand, 1) := dk_126 (dk_at dksX4_hasBit_0 4 rfl rfl)
theorem dX4_hasBit_5 : decode cX4_hasBit 5 = .ok (.iconst 1, 1) := dk_4 (dk_at dksX4_hasBit_0 5 rfl rfl)
theorem dX4_hasBit_6 : decode cX4_hasBit 6 = .ok (.if_icmp .ne 7, 3) := dk_160 0 7 (dk_at dksX4_hasBit_0 6 rfl rfl)
theorem dX4_hasBit_9 : decode cX4_hasBit 9 = .ok (.iconst 1, 1) := dk_4 (dk_at dksX4_hasBit_0 9 rfl rfl)
theorem dX4_hasBit_10 : decode cX4_hasBit 10 = .ok (.goto 4, 3) := dk_167 0 4 (dk_at dksX4_hasBit_0 10 rfl rfl)
theorem dX4_hasBit_13 : decode cX4_hasBit 13 = .ok (.iconst 0, 1) := dk_3 (dk_at dksX4_hasBit_0 13 rfl rfl)
theorem dX4_hasBit_14 : decode cX4_hasBit 14 = .ok (.ireturn, 1) := dk_172 (dk_at dksX4_hasBit_0 14 rfl rfl)
abbrev cX4_helps : ByteArray := prog_21_method_67_code
def yX4_helps : MethodName := ⟨RX4, "helps", "()I"⟩
def dkwX4_helps_4 : List UInt8 := [21, 4, 104, 167, 0, 4, 28, 61, 132, 3, 1, 167, 255, 162, 27, 172]
abbrev dktX4_helps_4 : List UInt8 := dkwX4_helps_4 ++ []
def dkwX4_helps_3 : List UInt8 := [54, 5, 21, 5, 153, 0, 7, 29, 167, 0, 4, 27, 60, 21, 5, 153, 0, 14, 42, 29, 182, 0, 106]
abbrev dktX4_helps_3 : List UInt8 := dkwX4_helps_3 ++ dktX4_helps_4
def dkwX4_helps_2 : List UInt8 := [29, 182, 0, 109, 153, 0, 19, 42, 29, 182, 0, 106, 21, 4, 104, 28, 164, 0, 7, 4, 167, 0, 4, 3]
abbrev dktX4_helps_2 : List UInt8 := dkwX4_helps_2 ++ dktX4_helps_3
def dkwX4_helps_1 : List UInt8 := [4, 167, 0, 4, 3, 29, 4, 96, 42, 180, 0, 81, 162, 0, 7, 4, 167, 0, 4, 3, 96, 54, 4, 42]
abbrev dktX4_helps_1 : List UInt8 := dkwX4_helps_1 ++ dktX4_helps_2
def dkwX4_helps_0 : List UInt8 := [42, 3, 181, 0, 77, 16, 252, 60, 2, 61, 3, 62, 29, 42, 180, 0, 81, 162, 0, 92, 29, 158, 0, 7]
abbrev dktX4_helps_0 : List UInt8 := dkwX4_helps_0 ++ dktX4_helps_1
theorem dksX4_helps_0 : cX4_helps.data.toList.drop 0 = dktX4_helps_0 := by decide +kernel
theorem dksX4_helps_1 : cX4_helps.data.toList.drop 24 = dktX4_helps_1 := dk_seg dksX4_helps_0 24 rfl rfl
theorem dksX4_helps_2 : cX4_helps.data.toList.drop 48 = dktX4_helps_2 := dk_seg dksX4_helps_1 24 rfl rfl
theorem dksX4_helps_3 : cX4_helps.data.toList.drop 72 = dktX4_helps_3 := dk_seg dksX4_helps_2 24 rfl rfl
theorem dksX4_helps_4 : cX4_helps.data.toList.drop 95 = dktX4_helps_4 := dk_seg dksX4_helps_3 23 rfl rfl
theorem dX4_helps_0 : decode cX4_helps 0 = .ok (.aload_n 0, 1) := dk_42 (dk_at dksX4_helps_0 0 rfl rfl)
theorem dX4_helps_1 : decode cX4_helps 1 = .ok (.iconst 0, 1) := dk_3 (dk_at dksX4_helps_0 1 rfl rfl)
theorem dX4_helps_2 : decode cX4_helps 2 = .ok (.putfield 77, 3) := dk_181 0 77 (dk_at dksX4_helps_0 2 rfl rfl)
theorem dX4_helps_5 : decode cX4_helps 5 = .ok (.bipush (-4), 2) := dk_16 252 (dk_at dksX4_helps_0 5 rfl rfl)
theorem dX4_helps_7 : decode cX4_helps 7 = .ok (.istore_n 1, 1) := dk_60 (dk_at dksX4_helps_0 7 rfl rfl)
theorem dX4_helps_8 : decode cX4_helps 8 = .ok (.iconst (-1), 1) := dk_2 (dk_at dksX4_helps_0 8 rfl rfl)
theorem dX4_helps_9 : decode cX4_helps 9 = .ok (.istore_n 2, 1) := dk_61 (dk_at dksX4_helps_0 9 rfl rfl)
theorem dX4_helps_10 : decode cX4_helps 10 = .ok (.iconst 0, 1) := dk_3 (dk_at dksX4_helps_0 10 rfl rfl)
theorem dX4_helps_11 : decode cX4_helps 11 = .ok (.istore_n 3, 1) := dk_62 (dk_at dksX4_helps_0 11 rfl rfl)
theorem dX4_helps_12 : decode cX4_helps 12 = .ok (.iload_n 3, 1) := dk_29 (dk_at dksX4_helps_0 12 rfl rfl)
theorem dX4_helps_13 : decode cX4_helps 13 = .ok (.aload_n 0, 1) := dk_42 (dk_at dksX4_helps_0 13 rfl rfl)
theorem dX4_helps_14 : decode cX4_helps 14 = .ok (.getfield 81, 3) := dk_180 0 81 (dk_at dksX4_helps_0 14 rfl rfl)
theorem dX4_helps_17 : decode cX4_helps 17 = .ok (.if_icmp .ge 92, 3) := dk_162 0 92 (dk_at dksX4_helps_0 17 rfl rfl)
theorem dX4_helps_20 : decode cX4_helps 20 = .ok (.iload_n 3, 1) := dk_29 (dk_at dksX4_helps_0 20 rfl rfl)
theorem dX4_helps_21 : decode cX4_helps 21 = .ok (.ifCond .le 7, 3) := dk_158 0 7 (dk_at dksX4_helps_0 21 rfl rfl)
theorem dX4_helps_24 : decode cX4_helps 24 = .ok (.iconst 1, 1) := dk_4 (dk_at dksX4_helps_1 0 rfl rfl)
theorem dX4_helps_25 : decode cX4_helps 25 = .ok (.goto 4, 3) := dk_167 0 4 (dk_at dksX4_helps_1 1 rfl rfl)
theorem dX4_helps_28 : decode cX4_helps 28 = .ok (.iconst 0, 1) := dk_3 (dk_at dksX4_helps_1 4 rfl rfl)
theorem dX4_helps_29 : decode cX4_helps 29 = .ok (.iload_n 3, 1) := dk_29 (dk_at dksX4_helps_1 5 rfl rfl)
theorem dX4_helps_30 : decode cX4_helps 30 = .ok (.iconst 1, 1) := dk_4 (dk_at dksX4_helps_1 6 rfl rfl)
theorem dX4_helps_31 : decode cX4_helps 31 = .ok (.iadd, 1) := dk_96 (dk_at dksX4_helps_1 7 rfl rfl)
theorem dX4_helps_32 : decode cX4_helps 32 = .ok (.aload_n 0, 1) := dk_42 (dk_at dksX4_helps_1 8 rfl rfl)
theorem dX4_helps_33 : decode cX4_helps 33 = .ok (.getfield 81, 3) := dk_180 0 81 (dk_at dksX4_helps_1 9 rfl rfl)
theorem dX4_helps_36 : decode cX4_helps 36 = .ok (.if_icmp .ge 7, 3) := dk_162 0 7 (dk_at dksX4_helps_1 12 rfl rfl)
theorem dX4_helps_39 : decode cX4_helps 39 = .ok (.iconst 1, 1) := dk_4 (dk_at dksX4_helps_1 15 rfl rfl)
theorem dX4_helps_40 : decode cX4_helps 40 = .ok (.goto 4, 3) := dk_167 0 4 (dk_at dksX4_helps_1 16 rfl rfl)
theorem dX4_helps_43 : decode cX4_helps 43 = .ok (.iconst 0, 1) := dk_3 (dk_at dksX4_helps_1 19 rfl rfl)
theorem dX4_helps_44 : decode cX4_helps 44 = .ok (.iadd, 1) := dk_96 (dk_at dksX4_helps_1 20 rfl rfl)
theorem dX4_helps_45 : decode cX4_helps 45 = .ok (.istore 4, 2) := dk_54 4 (dk_at dksX4_helps_1 21 rfl rfl)
theorem dX4_helps_47 : decode cX4_helps 47 = .ok (.aload_n 0, 1) := dk_42 (dk_at dksX4_helps_1 23 rfl rfl)
theorem dX4_helps_48 : decode cX4_helps 48 = .ok (.iload_n 3, 1) := dk_29 (dk_at dksX4_helps_2 0 rfl rfl)
theorem dX4_helps_49 : decode cX4_helps 49 = .ok (.invokevirtual 109, 3) := dk_182 0 109 (dk_at dksX4_helps_2 1 rfl rfl)
theorem dX4_helps_52 : decode cX4_helps 52 = .ok (.ifCond .eq 19, 3) := dk_153 0 19 (dk_at dksX4_helps_2 4 rfl rfl)
theorem dX4_helps_55 : decode cX4_helps 55 = .ok (.aload_n 0, 1) := dk_42 (dk_at dksX4_helps_2 7 rfl rfl)
theorem dX4_helps_56 : decode cX4_helps 56 = .ok (.iload_n 3, 1) := dk_29 (dk_at dksX4_helps_2 8 rfl rfl)
theorem dX4_helps_57 : decode cX4_helps 57 = .ok (.invokevirtual 106, 3) := dk_182 0 106 (dk_at dksX4_helps_2 9 rfl rfl)
theorem dX4_helps_60 : decode cX4_helps 60 = .ok (.iload 4, 2) := dk_21 4 (dk_at dksX4_helps_2 12 rfl rfl)
theorem dX4_helps_62 : decode cX4_helps 62 = .ok (.imul, 1) := dk_104 (dk_at dksX4_helps_2 14 rfl rfl)
theorem dX4_helps_63 : decode cX4_helps 63 = .ok (.iload_n 2, 1) := dk_28 (dk_at dksX4_helps_2 15 rfl rfl)
theorem dX4_helps_64 : decode cX4_helps 64 = .ok (.if_icmp .le 7, 3) := dk_164 0 7 (dk_at dksX4_helps_2 16 rfl rfl)
theorem dX4_helps_67 : decode cX4_helps 67 = .ok (.iconst 1, 1) := dk_4 (dk_at dksX4_helps_2 19 rfl rfl)
theorem dX4_helps_68 : decode cX4_helps 68 = .ok (.goto 4, 3) := dk_167 0 4 (dk_at dksX4_helps_2 20 rfl rfl)
theorem dX4_helps_71 : decode cX4_helps 71 = .ok (.iconst 0, 1) := dk_3 (dk_at dksX4_helps_2 23 rfl rfl)
theorem dX4_helps_72 : decode cX4_helps 72 = .ok (.istore 5, 2) := dk_54 5 (dk_at dksX4_helps_3 0 rfl rfl)
theorem dX4_helps_74 : decode cX4_helps 74 = .ok (.iload 5, 2) := dk_21 5 (dk_at dksX4_helps_3 2 rfl rfl)
theorem dX4_helps_76 : decode cX4_helps 76 = .ok (.ifCond .eq 7, 3) := dk_153 0 7 (dk_at dksX4_helps_3 4 rfl rfl)
theorem dX4_helps_79 : decode cX4_helps 79 = .ok (.iload_n 3, 1) := dk_29 (dk_at dksX4_helps_3 7 rfl rfl)
theorem dX4_helps_80 : decode cX4_helps 80 = .ok (.goto 4, 3) := dk_167 0 4 (dk_at dksX4_helps_3 8 rfl rfl)
theorem dX4_helps_83 : decode cX4_helps 83 = .ok (.iload_n 1, 1) := dk_27 (dk_at dksX4_helps_3 11 rfl rfl)
theorem dX4_helps_84 : decode cX4_helps 84 = .ok (.istore_n 1, 1) := dk_60 (dk_at dksX4_helps_3 12 rfl rfl)
theorem dX4_helps_85 : decode cX4_helps 85 = .ok (.iload 5, 2) := dk_21 5 (dk_at dksX4_helps_3 13 rfl rfl)
theorem dX4_helps_87 : decode cX4_helps 87 = .ok (.ifCond .eq 14, 3) := dk_153 0 14 (dk_at dksX4_helps_3 15 rfl rfl)
theorem dX4_helps_90 : decode cX4_helps 90 = .ok (.aload_n 0, 1) := dk_42 (dk_at dksX4_helps_3 18 rfl rfl)
theorem dX4_helps_91 : decode cX4_helps 91 = .ok (.iload_n 3, 1) := dk_29 (dk_at dksX4_helps_3 19 rfl rfl)
theorem dX4_helps_92 : decode cX4_helps 92 = .ok (.invokevirtual 106, 3) := dk_182 0 106 (dk_at dksX4_helps_3 20 rfl rfl)
theorem dX4_helps_95 : decode cX4_helps 95 = .ok (.iload 4, 2) := dk_21 4 (dk_at dksX4_helps_4 0 rfl rfl)
theorem dX4_helps_97 : decode cX4_helps 97 = .ok (.imul, 1) := dk_104 (dk_at dksX4_helps_4 2 rfl rfl)
theorem dX4_helps_98 : decode cX4_helps 98 = .ok (.goto 4, 3) := dk_167 0 4 (dk_at dksX4_helps_4 3 rfl rfl)
theorem dX4_helps_101 : decode cX4_helps 101 = .ok (.iload_n 2, 1) := dk_28 (dk_at dksX4_helps_4 6 rfl rfl)
theorem dX4_helps_102 : decode cX4_helps 102 = .ok (.istore_n 2, 1) := dk_61 (dk_at dksX4_helps_4 7 rfl rfl)
theorem dX4_helps_103 : decode cX4_helps 103 = .ok (.iinc 3 1, 3) := dk_132 3 1 (dk_at dksX4_helps_4 8 rfl rfl)
theorem dX4_helps_106 : decode cX4_helps 106 = .ok (.goto (-94), 3) := dk_167 255 162 (dk_at dksX4_helps_4 11 rfl rfl)
theorem dX4_helps_109 : decode cX4_helps 109 = .ok (.iload_n 1, 1) := dk_27 (dk_at dksX4_helps_4 14 rfl rfl)
theorem dX4_helps_110 : decode cX4_helps 110 = .ok (.ireturn, 1) := dk_172 (dk_at dksX4_helps_4 15 rfl rfl)
abbrev cX4_costs : ByteArray := prog_21_method_68_code
def yX4_costs : MethodName := ⟨RX4, "costs", "(I)I"⟩
def dkwX4_costs_3 : List UInt8 := [100, 172]
abbrev dktX4_costs_3 : List UInt8 := dkwX4_costs_3 ++ []
def dkwX4_costs_2 : List UInt8 := [182, 0, 247, 62, 28, 156, 0, 8, 16, 252, 167, 0, 15, 29, 156, 0, 8, 16, 60, 167, 0, 4, 29, 28]
abbrev dktX4_costs_2 : List UInt8 := dkwX4_costs_2 ++ dktX4_costs_3
def dkwX4_costs_1 : List UInt8 := [180, 0, 16, 27, 46, 182, 0, 247, 61, 42, 27, 42, 180, 0, 16, 27, 46, 42, 27, 182, 0, 116, 100]
abbrev dktX4_costs_1 : List UInt8 := dkwX4_costs_1 ++ dktX4_costs_2
def dkwX4_costs_0 : List UInt8 := [42, 3, 181, 0, 77, 42, 27, 182, 0, 99, 154, 0, 5, 2, 172, 42, 27, 3, 182, 0, 244, 42, 27, 42]
abbrev dktX4_costs_0 : List UInt8 := dkwX4_costs_0 ++ dktX4_costs_1
theorem dksX4_costs_0 : cX4_costs.data.toList.drop 0 = dktX4_costs_0 := by decide +kernel
theorem dksX4_costs_1 : cX4_costs.data.toList.drop 24 = dktX4_costs_1 := dk_seg dksX4_costs_0 24 rfl rfl
theorem dksX4_costs_2 : cX4_costs.data.toList.drop 47 = dktX4_costs_2 := dk_seg dksX4_costs_1 23 rfl rfl
theorem dksX4_costs_3 : cX4_costs.data.toList.drop 71 = dktX4_costs_3 := dk_seg dksX4_costs_2 24 rfl rfl
theorem dX4_costs_0 : decode cX4_costs 0 = .ok (.aload_n 0, 1) := dk_42 (dk_at dksX4_costs_0 0 rfl rfl)
theorem dX4_costs_1 : decode cX4_costs 1 = .ok (.iconst 0, 1) := dk_3 (dk_at dksX4_costs_0 1 rfl rfl)
theorem dX4_costs_2 : decode cX4_costs 2 = .ok (.putfield 77, 3) := dk_181 0 77 (dk_at dksX4_costs_0 2 rfl rfl)
theorem dX4_costs_5 : decode cX4_costs 5 = .ok (.aload_n 0, 1) := dk_42 (dk_at dksX4_costs_0 5 rfl rfl)
theorem dX4_costs_6 : decode cX4_costs 6 = .ok (.iload_n 1, 1) := dk_27 (dk_at dksX4_costs_0 6 rfl rfl)
theorem dX4_costs_7 : decode cX4_costs 7 = .ok (.invokevirtual 99, 3) := dk_182 0 99 (dk_at dksX4_costs_0 7 rfl rfl)
theorem dX4_costs_10 : decode cX4_costs 10 = .ok (.ifCond .ne 5, 3) := dk_154 0 5 (dk_at dksX4_costs_0 10 rfl rfl)
theorem dX4_costs_13 : decode cX4_costs 13 = .ok (.iconst (-1), 1) := dk_2 (dk_at dksX4_costs_0 13 rfl rfl)
theorem dX4_costs_14 : decode cX4_costs 14 = .ok (.ireturn, 1) := dk_172 (dk_at dksX4_costs_0 14 rfl rfl)
theorem dX4_costs_15 : decode cX4_costs 15 = .ok (.aload_n 0, 1) := dk_42 (dk_at dksX4_costs_0 15 rfl rfl)
theorem dX4_costs_16 : decode cX4_costs 16 = .ok (.iload_n 1, 1) := dk_27 (dk_at dksX4_costs_0 16 rfl rfl)
theorem dX4_costs_17 : decode cX4_costs 17 = .ok (.iconst 0, 1) := dk_3 (dk_at dksX4_costs_0 17 rfl rfl)
theorem dX4_costs_18 : decode cX4_costs 18 = .ok (.invokevirtual 244, 3) := dk_182 0 244 (dk_at dksX4_costs_0 18 rfl rfl)
theorem dX4_costs_21 : decode cX4_costs 21 = .ok (.aload_n 0, 1) := dk_42 (dk_at dksX4_costs_0 21 rfl rfl)
theorem dX4_costs_22 : decode cX4_costs 22 = .ok (.iload_n 1, 1) := dk_27 (dk_at dksX4_costs_0 22 rfl rfl)
theorem dX4_costs_23 : decode cX4_costs 23 = .ok (.aload_n 0, 1) := dk_42 (dk_at dksX4_costs_0 23 rfl rfl)
theorem dX4_costs_24 : decode cX4_costs 24 = .ok (.getfield 16, 3) := dk_180 0 16 (dk_at dksX4_costs_1 0 rfl rfl)
theorem dX4_costs_27 : decode cX4_costs 27 = .ok (.iload_n 1, 1) := dk_27 (dk_at dksX4_costs_1 3 rfl rfl)
theorem dX4_costs_28 : decode cX4_costs 28 = .ok (.iaload, 1) := dk_46 (dk_at dksX4_costs_1 4 rfl rfl)
theorem dX4_costs_29 : decode cX4_costs 29 = .ok (.invokevirtual 247, 3) := dk_182 0 247 (dk_at dksX4_costs_1 5 rfl rfl)
theorem dX4_costs_32 : decode cX4_costs 32 = .ok (.istore_n 2, 1) := dk_61 (dk_at dksX4_costs_1 8 rfl rfl)
theorem dX4_costs_33 : decode cX4_costs 33 = .ok (.aload_n 0, 1) := dk_42 (dk_at dksX4_costs_1 9 rfl rfl)
theorem dX4_costs_34 : decode cX4_costs 34 = .ok (.iload_n 1, 1) := dk_27 (dk_at dksX4_costs_1 10 rfl rfl)
theorem dX4_costs_35 : decode cX4_costs 35 = .ok (.aload_n 0, 1) := dk_42 (dk_at dksX4_costs_1 11 rfl rfl)
theorem dX4_costs_36 : decode cX4_costs 36 = .ok (.getfield 16, 3) := dk_180 0 16 (dk_at dksX4_costs_1 12 rfl rfl)
theorem dX4_costs_39 : decode cX4_costs 39 = .ok (.iload_n 1, 1) := dk_27 (dk_at dksX4_costs_1 15 rfl rfl)
theorem dX4_costs_40 : decode cX4_costs 40 = .ok (.iaload, 1) := dk_46 (dk_at dksX4_costs_1 16 rfl rfl)
theorem dX4_costs_41 : decode cX4_costs 41 = .ok (.aload_n 0, 1) := dk_42 (dk_at dksX4_costs_1 17 rfl rfl)
theorem dX4_costs_42 : decode cX4_costs 42 = .ok (.iload_n 1, 1) := dk_27 (dk_at dksX4_costs_1 18 rfl rfl)
theorem dX4_costs_43 : decode cX4_costs 43 = .ok (.invokevirtual 116, 3) := dk_182 0 116 (dk_at dksX4_costs_1 19 rfl rfl)
theorem dX4_costs_46 : decode cX4_costs 46 = .ok (.isub, 1) := dk_100 (dk_at dksX4_costs_1 22 rfl rfl)
theorem dX4_costs_47 : decode cX4_costs 47 = .ok (.invokevirtual 247, 3) := dk_182 0 247 (dk_at dksX4_costs_2 0 rfl rfl)
theorem dX4_costs_50 : decode cX4_costs 50 = .ok (.istore_n 3, 1) := dk_62 (dk_at dksX4_costs_2 3 rfl rfl)
theorem dX4_costs_51 : decode cX4_costs 51 = .ok (.iload_n 2, 1) := dk_28 (dk_at dksX4_costs_2 4 rfl rfl)
theorem dX4_costs_52 : decode cX4_costs 52 = .ok (.ifCond .ge 8, 3) := dk_156 0 8 (dk_at dksX4_costs_2 5 rfl rfl)
theorem dX4_costs_55 : decode cX4_costs 55 = .ok (.bipush (-4), 2) := dk_16 252 (dk_at dksX4_costs_2 8 rfl rfl)
theorem dX4_costs_57 : decode cX4_costs 57 = .ok (.goto 15, 3) := dk_167 0 15 (dk_at dksX4_costs_2 10 rfl rfl)
theorem dX4_costs_60 : decode cX4_costs 60 = .ok (.iload_n 3, 1) := dk_29 (dk_at dksX4_costs_2 13 rfl rfl)
theorem dX4_costs_61 : decode cX4_costs 61 = .ok (.ifCond .ge 8, 3) := dk_156 0 8 (dk_at dksX4_costs_2 14 rfl rfl)
theorem dX4_costs_64 : decode cX4_costs 64 = .ok (.bipush 60, 2) := dk_16 60 (dk_at dksX4_costs_2 17 rfl rfl)
theorem dX4_costs_66 : decode cX4_costs 66 = .ok (.goto 4, 3) := dk_167 0 4 (dk_at dksX4_costs_2 19 rfl rfl)
theorem dX4_costs_69 : decode cX4_costs 69 = .ok (.iload_n 3, 1) := dk_29 (dk_at dksX4_costs_2 22 rfl rfl)
theorem dX4_costs_70 : decode cX4_costs 70 = .ok (.iload_n 2, 1) := dk_28 (dk_at dksX4_costs_2 23 rfl rfl)
theorem dX4_costs_71 : decode cX4_costs 71 = .ok (.isub, 1) := dk_100 (dk_at dksX4_costs_3 0 rfl rfl)
theorem dX4_costs_72 : decode cX4_costs 72 = .ok (.ireturn, 1) := dk_172 (dk_at dksX4_costs_3 1 rfl rfl)
abbrev cX4_bands : ByteArray := prog_21_method_69_code
def yX4_bands : MethodName := ⟨RX4, "bands", "(III)I"⟩
def dkwX4_bands_5 : List UInt8 := [184, 0, 103, 54, 4, 132, 5, 1, 167, 255, 194, 16, 252, 172]
abbrev dktX4_bands_5 : List UInt8 := dkwX4_bands_5 ++ []
def dkwX4_bands_4 : List UInt8 := [184, 0, 103, 162, 0, 6, 21, 5, 172, 21, 4, 154, 0, 6, 16, 252, 172, 21, 4, 29, 100, 16, 9]
abbrev dktX4_bands_4 : List UInt8 := dkwX4_bands_4 ++ dktX4_bands_5
def dkwX4_bands_3 : List UInt8 := [180, 0, 16, 27, 46, 21, 5, 96, 16, 20, 184, 0, 103, 42, 27, 182, 0, 95, 21, 4, 100, 16, 99]
abbrev dktX4_bands_3 : List UInt8 := dkwX4_bands_3 ++ dktX4_bands_4
def dkwX4_bands_2 : List UInt8 := [16, 7, 160, 0, 6, 16, 253, 172, 28, 54, 4, 3, 54, 5, 21, 5, 16, 12, 162, 0, 61, 42]
abbrev dktX4_bands_2 : List UInt8 := dkwX4_bands_2 ++ dktX4_bands_3
def dkwX4_bands_1 : List UInt8 := [153, 0, 15, 29, 133, 10, 20, 0, 232, 184, 0, 84, 154, 0, 5, 2, 172, 42, 180, 0, 19, 27, 46]
abbrev dktX4_bands_1 : List UInt8 := dkwX4_bands_1 ++ dktX4_bands_2
def dkwX4_bands_0 : List UInt8 := [42, 3, 181, 0, 77, 42, 27, 182, 0, 99, 153, 0, 27, 28, 133, 9, 20, 0, 232, 184, 0, 84]
abbrev dktX4_bands_0 : List UInt8 := dkwX4_bands_0 ++ dktX4_bands_1
theorem dksX4_bands_0 : cX4_bands.data.toList.drop 0 = dktX4_bands_0 := by decide +kernel
theorem dksX4_bands_1 : cX4_bands.data.toList.drop 22 = dktX4_bands_1 := dk_seg dksX4_bands_0 22 rfl rfl
theorem dksX4_bands_2 : cX4_bands.data.toList.drop 45 = dktX4_bands_2 := dk_seg dksX4_bands_1 23 rfl rfl
theorem dksX4_bands_3 : cX4_bands.data.toList.drop 67 = dktX4_bands_3 := dk_seg dksX4_bands_2 22 rfl rfl
theorem dksX4_bands_4 : cX4_bands.data.toList.drop 90 = dktX4_bands_4 := dk_seg dksX4_bands_3 23 rfl rfl
theorem dksX4_bands_5 : cX4_bands.data.toList.drop 113 = dktX4_bands_5 := dk_seg dksX4_bands_4 23 rfl rfl
theorem dX4_bands_0 : decode cX4_bands 0 = .ok (.aload_n 0, 1) := dk_42 (dk_at dksX4_bands_0 0 rfl rfl)
theorem dX4_bands_1 : decode cX4_bands 1 = .ok (.iconst 0, 1) := dk_3 (dk_at dksX4_bands_0 1 rfl rfl)
theorem dX4_bands_2 : decode cX4_bands 2 = .ok (.putfield 77, 3) := dk_181 0 77 (dk_at dksX4_bands_0 2 rfl rfl)
theorem dX4_bands_5 : decode cX4_bands 5 = .ok (.aload_n 0, 1) := dk_42 (dk_at dksX4_bands_0 5 rfl rfl)
theorem dX4_bands_6 : decode cX4_bands 6 = .ok (.iload_n 1, 1) := dk_27 (dk_at dksX4_bands_0 6 rfl rfl)
theorem dX4_bands_7 : decode cX4_bands 7 = .ok (.invokevirtual 99, 3) := dk_182 0 99 (dk_at dksX4_bands_0 7 rfl rfl)
theorem dX4_bands_10 : decode cX4_bands 10 = .ok (.ifCond .eq 27, 3) := dk_153 0 27 (dk_at dksX4_bands_0 10 rfl rfl)
theorem dX4_bands_13 : decode cX4_bands 13 = .ok (.iload_n 2, 1) := dk_28 (dk_at dksX4_bands_0 13 rfl rfl)
theorem dX4_bands_14 : decode cX4_bands 14 = .ok (.i2l, 1) := dk_133 (dk_at dksX4_bands_0 14 rfl rfl)
theorem dX4_bands_15 : decode cX4_bands 15 = .ok (.lconst 0, 1) := dk_9 (dk_at dksX4_bands_0 15 rfl rfl)
theorem dX4_bands_16 : decode cX4_bands 16 = .ok (.ldc2_w 232, 3) := dk_20 0 232 (dk_at dksX4_bands_0 16 rfl rfl)
theorem dX4_bands_19 : decode cX4_bands 19 = .ok (.invokestatic 84, 3) := dk_184 0 84 (dk_at dksX4_bands_0 19 rfl rfl)
theorem dX4_bands_22 : decode cX4_bands 22 = .ok (.ifCond .eq 15, 3) := dk_153 0 15 (dk_at dksX4_bands_1 0 rfl rfl)
theorem dX4_bands_25 : decode cX4_bands 25 = .ok (.iload_n 3, 1) := dk_29 (dk_at dksX4_bands_1 3 rfl rfl)
theorem dX4_bands_26 : decode cX4_bands 26 = .ok (.i2l, 1) := dk_133 (dk_at dksX4_bands_1 4 rfl rfl)
theorem dX4_bands_27 : decode cX4_bands 27 = .ok (.lconst 1, 1) := dk_10 (dk_at dksX4_bands_1 5 rfl rfl)
theorem dX4_bands_28 : decode cX4_bands 28 = .ok (.ldc2_w 232, 3) := dk_20 0 232 (dk_at dksX4_bands_1 6 rfl rfl)
theorem dX4_bands_31 : decode cX4_bands 31 = .ok (.invokestatic 84, 3) := dk_184 0 84 (dk_at dksX4_bands_1 9 rfl rfl)
theorem dX4_bands_34 : decode cX4_bands 34 = .ok (.ifCond .ne 5, 3) := dk_154 0 5 (dk_at dksX4_bands_1 12 rfl rfl)
theorem dX4_bands_37 : decode cX4_bands 37 = .ok (.iconst (-1), 1) := dk_2 (dk_at dksX4_bands_1 15 rfl rfl)
theorem dX4_bands_38 : decode cX4_bands 38 = .ok (.ireturn, 1) := dk_172 (dk_at dksX4_bands_1 16 rfl rfl)
theorem dX4_bands_39 : decode cX4_bands 39 = .ok (.aload_n 0, 1) := dk_42 (dk_at dksX4_bands_1 17 rfl rfl)
theorem dX4_bands_40 : decode cX4_bands 40 = .ok (.getfield 19, 3) := dk_180 0 19 (dk_at dksX4_bands_1 18 rfl rfl)
theorem dX4_bands_43 : decode cX4_bands 43 = .ok (.iload_n 1, 1) := dk_27 (dk_at dksX4_bands_1 21 rfl rfl)
theorem dX4_bands_44 : decode cX4_bands 44 = .ok (.iaload, 1) := dk_46 (dk_at dksX4_bands_1 22 rfl rfl)
theorem dX4_bands_45 : decode cX4_bands 45 = .ok (.bipush 7, 2) := dk_16 7 (dk_at dksX4_bands_2 0 rfl rfl)
theorem dX4_bands_47 : decode cX4_bands 47 = .ok (.if_icmp .ne 6, 3) := dk_160 0 6 (dk_at dksX4_bands_2 2 rfl rfl)
theorem dX4_bands_50 : decode cX4_bands 50 = .ok (.bipush (-3), 2) := dk_16 253 (dk_at dksX4_bands_2 5 rfl rfl)
theorem dX4_bands_52 : decode cX4_bands 52 = .ok (.ireturn, 1) := dk_172 (dk_at dksX4_bands_2 7 rfl rfl)
theorem dX4_bands_53 : decode cX4_bands 53 = .ok (.iload_n 2, 1) := dk_28 (dk_at dksX4_bands_2 8 rfl rfl)
theorem dX4_bands_54 : decode cX4_bands 54 = .ok (.istore 4, 2) := dk_54 4 (dk_at dksX4_bands_2 9 rfl rfl)
theorem dX4_bands_56 : decode cX4_bands 56 = .ok (.iconst 0, 1) := dk_3 (dk_at dksX4_bands_2 11 rfl rfl)
theorem dX4_bands_57 : decode cX4_bands 57 = .ok (.istore 5, 2) := dk_54 5 (dk_at dksX4_bands_2 12 rfl rfl)
theorem dX4_bands_59 : decode cX4_bands 59 = .ok (.iload 5, 2) := dk_21 5 (dk_at dksX4_bands_2 14 rfl rfl)
theorem dX4_bands_61 : decode cX4_bands 61 = .ok (.bipush 12, 2) := dk_16 12 (dk_at dksX4_bands_2 16 rfl rfl)
theorem dX4_bands_63 : decode cX4_bands 63 = .ok (.if_icmp .ge 61, 3) := dk_162 0 61 (dk_at dksX4_bands_2 18 rfl rfl)
theorem dX4_bands_66 : decode cX4_bands 66 = .ok (.aload_n 0, 1) := dk_42 (dk_at dksX4_bands_2 21 rfl rfl)
theorem dX4_bands_67 : decode cX4_bands 67 = .ok (.getfield 16, 3) := dk_180 0 16 (dk_at dksX4_bands_3 0 rfl rfl)
theorem dX4_bands_70 : decode cX4_bands 70 = .ok (.iload_n 1, 1) := dk_27 (dk_at dksX4_bands_3 3 rfl rfl)
theorem dX4_bands_71 : decode cX4_bands 71 = .ok (.iaload, 1) := dk_46 (dk_at dksX4_bands_3 4 rfl rfl)
theorem dX4_bands_72 : decode cX4_bands 72 = .ok (.iload 5, 2) := dk_21 5 (dk_at dksX4_bands_3 5 rfl rfl)
theorem dX4_bands_74 : decode cX4_bands 74 = .ok (.iadd, 1) := dk_96 (dk_at dksX4_bands_3 7 rfl rfl)
theorem dX4_bands_75 : decode cX4_bands 75 = .ok (.bipush 20, 2) := dk_16 20 (dk_at dksX4_bands_3 8 rfl rfl)
theorem dX4_bands_77 : decode cX4_bands 77 = .ok (.invokestatic 103, 3) := dk_184 0 103 (dk_at dksX4_bands_3 10 rfl rfl)
theorem dX4_bands_80 : decode cX4_bands 80 = .ok (.aload_n 0, 1) := dk_42 (dk_at dksX4_bands_3 13 rfl rfl)
theorem dX4_bands_81 : decode cX4_bands 81 = .ok (.iload_n 1, 1) := dk_27 (dk_at dksX4_bands_3 14 rfl rfl)
theorem dX4_bands_82 : decode cX4_bands 82 = .ok (.invokevirtual 95, 3) := dk_182 0 95 (dk_at dksX4_bands_3 15 rfl rfl)
theorem dX4_bands_85 : decode cX4_bands 85 = .ok (.iload 4, 2) := dk_21 4 (dk_at dksX4_bands_3 18 rfl rfl)
theorem dX4_bands_87 : decode cX4_bands 87 = .ok (.isub, 1) := dk_100 (dk_at dksX4_bands_3 20 rfl rfl)
theorem dX4_bands_88 : decode cX4_bands 88 = .ok (.bipush 99, 2) := dk_16 99 (dk_at dksX4_bands_3 21 rfl rfl)
theorem dX4_bands_90 : decode cX4_bands 90 = .ok (.invokestatic 103, 3) := dk_184 0 103 (dk_at dksX4_bands_4 0 rfl rfl)
theorem dX4_bands_93 : decode cX4_bands 93 = .ok (.if_icmp .ge 6, 3) := dk_162 0 6 (dk_at dksX4_bands_4 3 rfl rfl)
theorem dX4_bands_96 : decode cX4_bands 96 = .ok (.iload 5, 2) := dk_21 5 (dk_at dksX4_bands_4 6 rfl rfl)
theorem dX4_bands_98 : decode cX4_bands 98 = .ok (.ireturn, 1) := dk_172 (dk_at dksX4_bands_4 8 rfl rfl)
theorem dX4_bands_99 : decode cX4_bands 99 = .ok (.iload 4, 2) := dk_21 4 (dk_at dksX4_bands_4 9 rfl rfl)
theorem dX4_bands_101 : decode cX4_bands 101 = .ok (.ifCond .ne 6, 3) := dk_154 0 6 (dk_at dksX4_bands_4 11 rfl rfl)
theorem dX4_bands_104 : decode cX4_bands 104 = .ok (.bipush (-4), 2) := dk_16 252 (dk_at dksX4_bands_4 14 rfl rfl)
theorem dX4_bands_106 : decode cX4_bands 106 = .ok (.ireturn, 1) := dk_172 (dk_at dksX4_bands_4 16 rfl rfl)
theorem dX4_bands_107 : decode cX4_bands 107 = .ok (.iload 4, 2) := dk_21 4 (dk_at dksX4_bands_4 17 rfl rfl)
theorem dX4_bands_109 : decode cX4_bands 109 = .ok (.iload_n 3, 1) := dk_29 (dk_at dksX4_bands_4 19 rfl rfl)
theorem dX4_bands_110 : decode cX4_bands 110 = .ok (.isub, 1) := dk_100 (dk_at dksX4_bands_4 20 rfl rfl)
theorem dX4_bands_111 : decode cX4_bands 111 = .ok (.bipush 9, 2) := dk_16 9 (dk_at dksX4_bands_4 21 rfl rfl)
theorem dX4_bands_113 : decode cX4_bands 113 = .ok (.invokestatic 103, 3) := dk_184 0 103 (dk_at dksX4_bands_5 0 rfl rfl)
theorem dX4_bands_116 : decode cX4_bands 116 = .ok (.istore 4, 2) := dk_54 4 (dk_at dksX4_bands_5 3 rfl rfl)
theorem dX4_bands_118 : decode cX4_bands 118 = .ok (.iinc 5 1, 3) := dk_132 5 1 (dk_at dksX4_bands_5 5 rfl rfl)
theorem dX4_bands_121 : decode cX4_bands 121 = .ok (.goto (-62), 3) := dk_167 255 194 (dk_at dksX4_bands_5 8 rfl rfl)
theorem dX4_bands_124 : decode cX4_bands 124 = .ok (.bipush (-4), 2) := dk_16 252 (dk_at dksX4_bands_5 11 rfl rfl)
theorem dX4_bands_126 : decode cX4_bands 126 = .ok (.ireturn, 1) := dk_172 (dk_at dksX4_bands_5 13 rfl rfl)
abbrev cX4_frights : ByteArray := prog_21_method_72_code
def yX4_frights : MethodName := ⟨RX4, "frights", "(IIIII)J"⟩
def dkwX4_frights_11 : List UInt8 := [132, 10, 1, 167, 255, 94, 22, 6, 22, 8, 21, 5, 184, 1, 50, 173]
abbrev dktX4_frights_11 : List UInt8 := dkwX4_frights_11 ++ []
def dkwX4_frights_10 : List UInt8 := [22, 6, 21, 13, 42, 180, 0, 19, 27, 46, 100, 29, 161, 0, 8, 22, 11, 167, 0, 4, 9, 97, 55, 6]
abbrev dktX4_frights_10 : List UInt8 := dkwX4_frights_10 ++ dktX4_frights_11
def dkwX4_frights_9 : List UInt8 := [162, 0, 18, 21, 14, 42, 27, 182, 0, 116, 100, 16, 20, 184, 0, 103, 54, 14, 132, 15, 1, 167, 255, 154]
abbrev dktX4_frights_9 : List UInt8 := dkwX4_frights_9 ++ dktX4_frights_10
def dkwX4_frights_8 : List UInt8 := [153, 0, 19, 21, 10, 21, 15, 184, 1, 32, 154, 0, 9, 132, 13, 1, 167, 0, 25, 21, 13, 16, 7]
abbrev dktX4_frights_8 : List UInt8 := dkwX4_frights_8 ++ dktX4_frights_9
def dkwX4_frights_7 : List UInt8 := [162, 0, 19, 21, 14, 42, 27, 21, 13, 182, 0, 92, 161, 0, 7, 4, 167, 0, 4, 3, 54, 16, 21, 16]
abbrev dktX4_frights_7 : List UInt8 := dkwX4_frights_7 ++ dktX4_frights_8
def dkwX4_frights_6 : List UInt8 := [21, 15, 184, 1, 32, 153, 0, 7, 10, 167, 0, 8, 21, 4, 4, 100, 133, 105, 55, 11, 21, 13, 16, 7]
abbrev dktX4_frights_6 : List UInt8 := dkwX4_frights_6 ++ dktX4_frights_7
def dkwX4_frights_5 : List UInt8 := [54, 13, 42, 180, 0, 16, 27, 46, 54, 14, 3, 54, 15, 21, 15, 28, 162, 0, 102, 22, 11, 21, 10]
abbrev dktX4_frights_5 : List UInt8 := dkwX4_frights_5 ++ dktX4_frights_6
def dkwX4_frights_4 : List UInt8 := [167, 255, 239, 3, 54, 10, 21, 10, 4, 28, 120, 162, 0, 160, 10, 55, 11, 42, 180, 0, 19, 27, 46]
abbrev dktX4_frights_4 : List UInt8 := dkwX4_frights_4 ++ dktX4_frights_5
def dkwX4_frights_3 : List UInt8 := [10, 55, 8, 3, 54, 10, 21, 10, 28, 162, 0, 17, 22, 8, 21, 4, 133, 105, 55, 8, 132, 10, 1]
abbrev dktX4_frights_3 : List UInt8 := dkwX4_frights_3 ++ dktX4_frights_4
def dkwX4_frights_2 : List UInt8 := [184, 0, 84, 153, 0, 14, 21, 5, 133, 9, 10, 184, 0, 84, 154, 0, 7, 20, 1, 48, 173, 9, 55, 6]
abbrev dktX4_frights_2 : List UInt8 := dkwX4_frights_2 ++ dktX4_frights_3
def dkwX4_frights_1 : List UInt8 := [153, 0, 41, 29, 133, 9, 20, 0, 223, 184, 0, 84, 153, 0, 29, 21, 4, 133, 20, 1, 46, 20, 0, 225]
abbrev dktX4_frights_1 : List UInt8 := dkwX4_frights_1 ++ dktX4_frights_2
def dkwX4_frights_0 : List UInt8 := [42, 3, 181, 0, 77, 42, 27, 182, 0, 99, 153, 0, 53, 28, 133, 9, 20, 1, 44, 184, 0, 84]
abbrev dktX4_frights_0 : List UInt8 := dkwX4_frights_0 ++ dktX4_frights_1
theorem dksX4_frights_0 : cX4_frights.data.toList.drop 0 = dktX4_frights_0 := by decide +kernel
theorem dksX4_frights_1 : cX4_frights.data.toList.drop 22 = dktX4_frights_1 := dk_seg dksX4_frights_0 22 rfl rfl
theorem dksX4_frights_2 : cX4_frights.data.toList.drop 46 = dktX4_frights_2 := dk_seg dksX4_frights_1 24 rfl rfl
theorem dksX4_frights_3 : cX4_frights.data.toList.drop 70 = dktX4_frights_3 := dk_seg dksX4_frights_2 24 rfl rfl
theorem dksX4_frights_4 : cX4_frights.data.toList.drop 93 = dktX4_frights_4 := dk_seg dksX4_frights_3 23 rfl rfl
theorem dksX4_frights_5 : cX4_frights.data.toList.drop 116 = dktX4_frights_5 := dk_seg dksX4_frights_4 23 rfl rfl
theorem dksX4_frights_6 : cX4_frights.data.toList.drop 139 = dktX4_frights_6 := dk_seg dksX4_frights_5 23 rfl rfl
theorem dksX4_frights_7 : cX4_frights.data.toList.drop 163 = dktX4_frights_7 := dk_seg dksX4_frights_6 24 rfl rfl
theorem dksX4_frights_8 : cX4_frights.data.toList.drop 187 = dktX4_frights_8 := dk_seg dksX4_frights_7 24 rfl rfl
theorem dksX4_frights_9 : cX4_frights.data.toList.drop 210 = dktX4_frights_9 := dk_seg dksX4_frights_8 23 rfl rfl
theorem dksX4_frights_10 : cX4_frights.data.toList.drop 234 = dktX4_frights_10 := dk_seg dksX4_frights_9 24 rfl rfl
theorem dksX4_frights_11 : cX4_frights.data.toList.drop 258 = dktX4_frights_11 := dk_seg dksX4_frights_10 24 rfl rfl
theorem dX4_frights_0 : decode cX4_frights 0 = .ok (.aload_n 0, 1) := dk_42 (dk_at dksX4_frights_0 0 rfl rfl)
theorem dX4_frights_1 : decode cX4_frights 1 = .ok (.iconst 0, 1) := dk_3 (dk_at dksX4_frights_0 1 rfl rfl)
theorem dX4_frights_2 : decode cX4_frights 2 = .ok (.putfield 77, 3) := dk_181 0 77 (dk_at dksX4_frights_0 2 rfl rfl)
theorem dX4_frights_5 : decode cX4_frights 5 = .ok (.aload_n 0, 1) := dk_42 (dk_at dksX4_frights_0 5 rfl rfl)
theorem dX4_frights_6 : decode cX4_frights 6 = .ok (.iload_n 1, 1) := dk_27 (dk_at dksX4_frights_0 6 rfl rfl)
theorem dX4_frights_7 : decode cX4_frights 7 = .ok (.invokevirtual 99, 3) := dk_182 0 99 (dk_at dksX4_frights_0 7 rfl rfl)
theorem dX4_frights_10 : decode cX4_frights 10 = .ok (.ifCond .eq 53, 3) := dk_153 0 53 (dk_at dksX4_frights_0 10 rfl rfl)
theorem dX4_frights_13 : decode cX4_frights 13 = .ok (.iload_n 2, 1) := dk_28 (dk_at dksX4_frights_0 13 rfl rfl)
theorem dX4_frights_14 : decode cX4_frights 14 = .ok (.i2l, 1) := dk_133 (dk_at dksX4_frights_0 14 rfl rfl)
theorem dX4_frights_15 : decode cX4_frights 15 = .ok (.lconst 0, 1) := dk_9 (dk_at dksX4_frights_0 15 rfl rfl)
theorem dX4_frights_16 : decode cX4_frights 16 = .ok (.ldc2_w 300, 3) := dk_20 1 44 (dk_at dksX4_frights_0 16 rfl rfl)
theorem dX4_frights_19 : decode cX4_frights 19 = .ok (.invokestatic 84, 3) := dk_184 0 84 (dk_at dksX4_frights_0 19 rfl rfl)
theorem dX4_frights_22 : decode cX4_frights 22 = .ok (.ifCond .eq 41, 3) := dk_153 0 41 (dk_at dksX4_frights_1 0 rfl rfl)
theorem dX4_frights_25 : decode cX4_frights 25 = .ok (.iload_n 3, 1) := dk_29 (dk_at dksX4_frights_1 3 rfl rfl)
theorem dX4_frights_26 : decode cX4_frights 26 = .ok (.i2l, 1) := dk_133 (dk_at dksX4_frights_1 4 rfl rfl)
theorem dX4_frights_27 : decode cX4_frights 27 = .ok (.lconst 0, 1) := dk_9 (dk_at dksX4_frights_1 5 rfl rfl)
theorem dX4_frights_28 : decode cX4_frights 28 = .ok (.ldc2_w 223, 3) := dk_20 0 223 (dk_at dksX4_frights_1 6 rfl rfl)
theorem dX4_frights_31 : decode cX4_frights 31 = .ok (.invokestatic 84, 3) := dk_184 0 84 (dk_at dksX4_frights_1 9 rfl rfl)
theorem dX4_frights_34 : decode cX4_frights 34 = .ok (.ifCond .eq 29, 3) := dk_153 0 29 (dk_at dksX4_frights_1 12 rfl rfl)
theorem dX4_frights_37 : decode cX4_frights 37 = .ok (.iload 4, 2) := dk_21 4 (dk_at dksX4_frights_1 15 rfl rfl)
theorem dX4_frights_39 : decode cX4_frights 39 = .ok (.i2l, 1) := dk_133 (dk_at dksX4_frights_1 17 rfl rfl)
theorem dX4_frights_40 : decode cX4_frights 40 = .ok (.ldc2_w 302, 3) := dk_20 1 46 (dk_at dksX4_frights_1 18 rfl rfl)
theorem dX4_frights_43 : decode cX4_frights 43 = .ok (.ldc2_w 225, 3) := dk_20 0 225 (dk_at dksX4_frights_1 21 rfl rfl)
theorem dX4_frights_46 : decode cX4_frights 46 = .ok (.invokestatic 84, 3) := dk_184 0 84 (dk_at dksX4_frights_2 0 rfl rfl)
theorem dX4_frights_49 : decode cX4_frights 49 = .ok (.ifCond .eq 14, 3) := dk_153 0 14 (dk_at dksX4_frights_2 3 rfl rfl)
theorem dX4_frights_52 : decode cX4_frights 52 = .ok (.iload 5, 2) := dk_21 5 (dk_at dksX4_frights_2 6 rfl rfl)
theorem dX4_frights_54 : decode cX4_frights 54 = .ok (.i2l, 1) := dk_133 (dk_at dksX4_frights_2 8 rfl rfl)
theorem dX4_frights_55 : decode cX4_frights 55 = .ok (.lconst 0, 1) := dk_9 (dk_at dksX4_frights_2 9 rfl rfl)
theorem dX4_frights_56 : decode cX4_frights 56 = .ok (.lconst 1, 1) := dk_10 (dk_at dksX4_frights_2 10 rfl rfl)
theorem dX4_frights_57 : decode cX4_frights 57 = .ok (.invokestatic 84, 3) := dk_184 0 84 (dk_at dksX4_frights_2 11 rfl rfl)
theorem dX4_frights_60 : decode cX4_frights 60 = .ok (.ifCond .ne 7, 3) := dk_154 0 7 (dk_at dksX4_frights_2 14 rfl rfl)
theorem dX4_frights_63 : decode cX4_frights 63 = .ok (.ldc2_w 304, 3) := dk_20 1 48 (dk_at dksX4_frights_2 17 rfl rfl)
theorem dX4_frights_66 : decode cX4_frights 66 = .ok (.lreturn, 1) := dk_173 (dk_at dksX4_frights_2 20 rfl rfl)
theorem dX4_frights_67 : decode cX4_frights 67 = .ok (.lconst 0, 1) := dk_9 (dk_at dksX4_frights_2 21 rfl rfl)
theorem dX4_frights_68 : decode cX4_frights 68 = .ok (.lstore 6, 2) := dk_55 6 (dk_at dksX4_frights_2 22 rfl rfl)
theorem dX4_frights_70 : decode cX4_frights 70 = .ok (.lconst 1, 1) := dk_10 (dk_at dksX4_frights_3 0 rfl rfl)
theorem dX4_frights_71 : decode cX4_frights 71 = .ok (.lstore 8, 2) := dk_55 8 (dk_at dksX4_frights_3 1 rfl rfl)
theorem dX4_frights_73 : decode cX4_frights 73 = .ok (.iconst 0, 1) := dk_3 (dk_at dksX4_frights_3 3 rfl rfl)
theorem dX4_frights_74 : decode cX4_frights 74 = .ok (.istore 10, 2) := dk_54 10 (dk_at dksX4_frights_3 4 rfl rfl)
theorem dX4_frights_76 : decode cX4_frights 76 = .ok (.iload 10, 2) := dk_21 10 (dk_at dksX4_frights_3 6 rfl rfl)
theorem dX4_frights_78 : decode cX4_frights 78 = .ok (.iload_n 2, 1) := dk_28 (dk_at dksX4_frights_3 8 rfl rfl)
theorem dX4_frights_79 : decode cX4_frights 79 = .ok (.if_icmp .ge 17, 3) := dk_162 0 17 (dk_at dksX4_frights_3 9 rfl rfl)
theorem dX4_frights_82 : decode cX4_frights 82 = .ok (.lload 8, 2) := dk_22 8 (dk_at dksX4_frights_3 12 rfl rfl)
theorem dX4_frights_84 : decode cX4_frights 84 = .ok (.iload 4, 2) := dk_21 4 (dk_at dksX4_frights_3 14 rfl rfl)
theorem dX4_frights_86 : decode cX4_frights 86 = .ok (.i2l, 1) := dk_133 (dk_at dksX4_frights_3 16 rfl rfl)
theorem dX4_frights_87 : decode cX4_frights 87 = .ok (.lmul, 1) := dk_105 (dk_at dksX4_frights_3 17 rfl rfl)
theorem dX4_frights_88 : decode cX4_frights 88 = .ok (.lstore 8, 2) := dk_55 8 (dk_at dksX4_frights_3 18 rfl rfl)
theorem dX4_frights_90 : decode cX4_frights 90 = .ok (.iinc 10 1, 3) := dk_132 10 1 (dk_at dksX4_frights_3 20 rfl rfl)
theorem dX4_frights_93 : decode cX4_frights 93 = .ok (.goto (-17), 3) := dk_167 255 239 (dk_at dksX4_frights_4 0 rfl rfl)
theorem dX4_frights_96 : decode cX4_frights 96 = .ok (.iconst 0, 1) := dk_3 (dk_at dksX4_frights_4 3 rfl rfl)
theorem dX4_frights_97 : decode cX4_frights 97 = .ok (.istore 10, 2) := dk_54 10 (dk_at dksX4_frights_4 4 rfl rfl)
theorem dX4_frights_99 : decode cX4_frights 99 = .ok (.iload 10, 2) := dk_21 10 (dk_at dksX4_frights_4 6 rfl rfl)
theorem dX4_frights_101 : decode cX4_frights 101 = .ok (.iconst 1, 1) := dk_4 (dk_at dksX4_frights_4 8 rfl rfl)
theorem dX4_frights_102 : decode cX4_frights 102 = .ok (.iload_n 2, 1) := dk_28 (dk_at dksX4_frights_4 9 rfl rfl)
theorem dX4_frights_103 : decode cX4_frights 103 = .ok (.ishl, 1) := dk_120 (dk_at dksX4_frights_4 10 rfl rfl)
theorem dX4_frights_104 : decode cX4_frights 104 = .ok (.if_icmp .ge 160, 3) := dk_162 0 160 (dk_at dksX4_frights_4 11 rfl rfl)
theorem dX4_frights_107 : decode cX4_frights 107 = .ok (.lconst 1, 1) := dk_10 (dk_at dksX4_frights_4 14 rfl rfl)
theorem dX4_frights_108 : decode cX4_frights 108 = .ok (.lstore 11, 2) := dk_55 11 (dk_at dksX4_frights_4 15 rfl rfl)
theorem dX4_frights_110 : decode cX4_frights 110 = .ok (.aload_n 0, 1) := dk_42 (dk_at dksX4_frights_4 17 rfl rfl)
theorem dX4_frights_111 : decode cX4_frights 111 = .ok (.getfield 19, 3) := dk_180 0 19 (dk_at dksX4_frights_4 18 rfl rfl)
theorem dX4_frights_114 : decode cX4_frights 114 = .ok (.iload_n 1, 1) := dk_27 (dk_at dksX4_frights_4 21 rfl rfl)
theorem dX4_frights_115 : decode cX4_frights 115 = .ok (.iaload, 1) := dk_46 (dk_at dksX4_frights_4 22 rfl rfl)
theorem dX4_frights_116 : decode cX4_frights 116 = .ok (.istore 13, 2) := dk_54 13 (dk_at dksX4_frights_5 0 rfl rfl)
theorem dX4_frights_118 : decode cX4_frights 118 = .ok (.aload_n 0, 1) := dk_42 (dk_at dksX4_frights_5 2 rfl rfl)
theorem dX4_frights_119 : decode cX4_frights 119 = .ok (.getfield 16, 3) := dk_180 0 16 (dk_at dksX4_frights_5 3 rfl rfl)
theorem dX4_frights_122 : decode cX4_frights 122 = .ok (.iload_n 1, 1) := dk_27 (dk_at dksX4_frights_5 6 rfl rfl)
theorem dX4_frights_123 : decode cX4_frights 123 = .ok (.iaload, 1) := dk_46 (dk_at dksX4_frights_5 7 rfl rfl)
theorem dX4_frights_124 : decode cX4_frights 124 = .ok (.istore 14, 2) := dk_54 14 (dk_at dksX4_frights_5 8 rfl rfl)
theorem dX4_frights_126 : decode cX4_frights 126 = .ok (.iconst 0, 1) := dk_3 (dk_at dksX4_frights_5 10 rfl rfl)
theorem dX4_frights_127 : decode cX4_frights 127 = .ok (.istore 15, 2) := dk_54 15 (dk_at dksX4_frights_5 11 rfl rfl)
theorem dX4_frights_129 : decode cX4_frights 129 = .ok (.iload 15, 2) := dk_21 15 (dk_at dksX4_frights_5 13 rfl rfl)
theorem dX4_frights_131 : decode cX4_frights 131 = .ok (.iload_n 2, 1) := dk_28 (dk_at dksX4_frights_5 15 rfl rfl)
theorem dX4_frights_132 : decode cX4_frights 132 = .ok (.if_icmp .ge 102, 3) := dk_162 0 102 (dk_at dksX4_frights_5 16 rfl rfl)
theorem dX4_frights_135 : decode cX4_frights 135 = .ok (.lload 11, 2) := dk_22 11 (dk_at dksX4_frights_5 19 rfl rfl)
theorem dX4_frights_137 : decode cX4_frights 137 = .ok (.iload 10, 2) := dk_21 10 (dk_at dksX4_frights_5 21 rfl rfl)
theorem dX4_frights_139 : decode cX4_frights 139 = .ok (.iload 15, 2) := dk_21 15 (dk_at dksX4_frights_6 0 rfl rfl)
theorem dX4_frights_141 : decode cX4_frights 141 = .ok (.invokestatic 288, 3) := dk_184 1 32 (dk_at dksX4_frights_6 2 rfl rfl)
theorem dX4_frights_144 : decode cX4_frights 144 = .ok (.ifCond .eq 7, 3) := dk_153 0 7 (dk_at dksX4_frights_6 5 rfl rfl)
theorem dX4_frights_147 : decode cX4_frights 147 = .ok (.lconst 1, 1) := dk_10 (dk_at dksX4_frights_6 8 rfl rfl)
theorem dX4_frights_148 : decode cX4_frights 148 = .ok (.goto 8, 3) := dk_167 0 8 (dk_at dksX4_frights_6 9 rfl rfl)
theorem dX4_frights_151 : decode cX4_frights 151 = .ok (.iload 4, 2) := dk_21 4 (dk_at dksX4_frights_6 12 rfl rfl)
theorem dX4_frights_153 : decode cX4_frights 153 = .ok (.iconst 1, 1) := dk_4 (dk_at dksX4_frights_6 14 rfl rfl)
theorem dX4_frights_154 : decode cX4_frights 154 = .ok (.isub, 1) := dk_100 (dk_at dksX4_frights_6 15 rfl rfl)
theorem dX4_frights_155 : decode cX4_frights 155 = .ok (.i2l, 1) := dk_133 (dk_at dksX4_frights_6 16 rfl rfl)
theorem dX4_frights_156 : decode cX4_frights 156 = .ok (.lmul, 1) := dk_105 (dk_at dksX4_frights_6 17 rfl rfl)
theorem dX4_frights_157 : decode cX4_frights 157 = .ok (.lstore 11, 2) := dk_55 11 (dk_at dksX4_frights_6 18 rfl rfl)
theorem dX4_frights_159 : decode cX4_frights 159 = .ok (.iload 13, 2) := dk_21 13 (dk_at dksX4_frights_6 20 rfl rfl)
theorem dX4_frights_161 : decode cX4_frights 161 = .ok (.bipush 7, 2) := dk_16 7 (dk_at dksX4_frights_6 22 rfl rfl)
theorem dX4_frights_163 : decode cX4_frights 163 = .ok (.if_icmp .ge 19, 3) := dk_162 0 19 (dk_at dksX4_frights_7 0 rfl rfl)
theorem dX4_frights_166 : decode cX4_frights 166 = .ok (.iload 14, 2) := dk_21 14 (dk_at dksX4_frights_7 3 rfl rfl)
theorem dX4_frights_168 : decode cX4_frights 168 = .ok (.aload_n 0, 1) := dk_42 (dk_at dksX4_frights_7 5 rfl rfl)
theorem dX4_frights_169 : decode cX4_frights 169 = .ok (.iload_n 1, 1) := dk_27 (dk_at dksX4_frights_7 6 rfl rfl)
theorem dX4_frights_170 : decode cX4_frights 170 = .ok (.iload 13, 2) := dk_21 13 (dk_at dksX4_frights_7 7 rfl rfl)
theorem dX4_frights_172 : decode cX4_frights 172 = .ok (.invokevirtual 92, 3) := dk_182 0 92 (dk_at dksX4_frights_7 9 rfl rfl)
theorem dX4_frights_175 : decode cX4_frights 175 = .ok (.if_icmp .lt 7, 3) := dk_161 0 7 (dk_at dksX4_frights_7 12 rfl rfl)
theorem dX4_frights_178 : decode cX4_frights 178 = .ok (.iconst 1, 1) := dk_4 (dk_at dksX4_frights_7 15 rfl rfl)
theorem dX4_frights_179 : decode cX4_frights 179 = .ok (.goto 4, 3) := dk_167 0 4 (dk_at dksX4_frights_7 16 rfl rfl)
theorem dX4_frights_182 : decode cX4_frights 182 = .ok (.iconst 0, 1) := dk_3 (dk_at dksX4_frights_7 19 rfl rfl)
theorem dX4_frights_183 : decode cX4_frights 183 = .ok (.istore 16, 2) := dk_54 16 (dk_at dksX4_frights_7 20 rfl rfl)
theorem dX4_frights_185 : decode cX4_frights 185 = .ok (.iload 16, 2) := dk_21 16 (dk_at dksX4_frights_7 22 rfl rfl)
theorem dX4_frights_187 : decode cX4_frights 187 = .ok (.ifCond .eq 19, 3) := dk_153 0 19 (dk_at dksX4_frights_8 0 rfl rfl)
theorem dX4_frights_190 : decode cX4_frights 190 = .ok (.iload 10, 2) := dk_21 10 (dk_at dksX4_frights_8 3 rfl rfl)
theorem dX4_frights_192 : decode cX4_frights 192 = .ok (.iload 15, 2) := dk_21 15 (dk_at dksX4_frights_8 5 rfl rfl)
theorem dX4_frights_194 : decode cX4_frights 194 = .ok (.invokestatic 288, 3) := dk_184 1 32 (dk_at dksX4_frights_8 7 rfl rfl)
theorem dX4_frights_197 : decode cX4_frights 197 = .ok (.ifCond .ne 9, 3) := dk_154 0 9 (dk_at dksX4_frights_8 10 rfl rfl)
theorem dX4_frights_200 : decode cX4_frights 200 = .ok (.iinc 13 1, 3) := dk_132 13 1 (dk_at dksX4_frights_8 13 rfl rfl)
theorem dX4_frights_203 : decode cX4_frights 203 = .ok (.goto 25, 3) := dk_167 0 25 (dk_at dksX4_frights_8 16 rfl rfl)
theorem dX4_frights_206 : decode cX4_frights 206 = .ok (.iload 13, 2) := dk_21 13 (dk_at dksX4_frights_8 19 rfl rfl)
theorem dX4_frights_208 : decode cX4_frights 208 = .ok (.bipush 7, 2) := dk_16 7 (dk_at dksX4_frights_8 21 rfl rfl)
theorem dX4_frights_210 : decode cX4_frights 210 = .ok (.if_icmp .ge 18, 3) := dk_162 0 18 (dk_at dksX4_frights_9 0 rfl rfl)
theorem dX4_frights_213 : decode cX4_frights 213 = .ok (.iload 14, 2) := dk_21 14 (dk_at dksX4_frights_9 3 rfl rfl)
theorem dX4_frights_215 : decode cX4_frights 215 = .ok (.aload_n 0, 1) := dk_42 (dk_at dksX4_frights_9 5 rfl rfl)
theorem dX4_frights_216 : decode cX4_frights 216 = .ok (.iload_n 1, 1) := dk_27 (dk_at dksX4_frights_9 6 rfl rfl)
theorem dX4_frights_217 : decode cX4_frights 217 = .ok (.invokevirtual 116, 3) := dk_182 0 116 (dk_at dksX4_frights_9 7 rfl rfl)
theorem dX4_frights_220 : decode cX4_frights 220 = .ok (.isub, 1) := dk_100 (dk_at dksX4_frights_9 10 rfl rfl)
theorem dX4_frights_221 : decode cX4_frights 221 = .ok (.bipush 20, 2) := dk_16 20 (dk_at dksX4_frights_9 11 rfl rfl)
theorem dX4_frights_223 : decode cX4_frights 223 = .ok (.invokestatic 103, 3) := dk_184 0 103 (dk_at dksX4_frights_9 13 rfl rfl)
theorem dX4_frights_226 : decode cX4_frights 226 = .ok (.istore 14, 2) := dk_54 14 (dk_at dksX4_frights_9 16 rfl rfl)
theorem dX4_frights_228 : decode cX4_frights 228 = .ok (.iinc 15 1, 3) := dk_132 15 1 (dk_at dksX4_frights_9 18 rfl rfl)
theorem dX4_frights_231 : decode cX4_frights 231 = .ok (.goto (-102), 3) := dk_167 255 154 (dk_at dksX4_frights_9 21 rfl rfl)
theorem dX4_frights_234 : decode cX4_frights 234 = .ok (.lload 6, 2) := dk_22 6 (dk_at dksX4_frights_10 0 rfl rfl)
theorem dX4_frights_236 : decode cX4_frights 236 = .ok (.iload 13, 2) := dk_21 13 (dk_at dksX4_frights_10 2 rfl rfl)
theorem dX4_frights_238 : decode cX4_frights 238 = .ok (.aload_n 0, 1) := dk_42 (dk_at dksX4_frights_10 4 rfl rfl)
theorem dX4_frights_239 : decode cX4_frights 239 = .ok (.getfield 19, 3) := dk_180 0 19 (dk_at dksX4_frights_10 5 rfl rfl)
theorem dX4_frights_242 : decode cX4_frights 242 = .ok (.iload_n 1, 1) := dk_27 (dk_at dksX4_frights_10 8 rfl rfl)
theorem dX4_frights_243 : decode cX4_frights 243 = .ok (.iaload, 1) := dk_46 (dk_at dksX4_frights_10 9 rfl rfl)
theorem dX4_frights_244 : decode cX4_frights 244 = .ok (.isub, 1) := dk_100 (dk_at dksX4_frights_10 10 rfl rfl)
theorem dX4_frights_245 : decode cX4_frights 245 = .ok (.iload_n 3, 1) := dk_29 (dk_at dksX4_frights_10 11 rfl rfl)
theorem dX4_frights_246 : decode cX4_frights 246 = .ok (.if_icmp .lt 8, 3) := dk_161 0 8 (dk_at dksX4_frights_10 12 rfl rfl)
theorem dX4_frights_249 : decode cX4_frights 249 = .ok (.lload 11, 2) := dk_22 11 (dk_at dksX4_frights_10 15 rfl rfl)
theorem dX4_frights_251 : decode cX4_frights 251 = .ok (.goto 4, 3) := dk_167 0 4 (dk_at dksX4_frights_10 17 rfl rfl)
theorem dX4_frights_254 : decode cX4_frights 254 = .ok (.lconst 0, 1) := dk_9 (dk_at dksX4_frights_10 20 rfl rfl)
theorem dX4_frights_255 : decode cX4_frights 255 = .ok (.ladd, 1) := dk_97 (dk_at dksX4_frights_10 21 rfl rfl)
theorem dX4_frights_256 : decode cX4_frights 256 = .ok (.lstore 6, 2) := dk_55 6 (dk_at dksX4_frights_10 22 rfl rfl)
theorem dX4_frights_258 : decode cX4_frights 258 = .ok (.iinc 10 1, 3) := dk_132 10 1 (dk_at dksX4_frights_11 0 rfl rfl)
theorem dX4_frights_261 : decode cX4_frights 261 = .ok (.goto (-162), 3) := dk_167 255 94 (dk_at dksX4_frights_11 3 rfl rfl)
theorem dX4_frights_264 : decode cX4_frights 264 = .ok (.lload 6, 2) := dk_22 6 (dk_at dksX4_frights_11 6 rfl rfl)
theorem dX4_frights_266 : decode cX4_frights 266 = .ok (.lload 8, 2) := dk_22 8 (dk_at dksX4_frights_11 8 rfl rfl)
theorem dX4_frights_268 : decode cX4_frights 268 = .ok (.iload 5, 2) := dk_21 5 (dk_at dksX4_frights_11 10 rfl rfl)
theorem dX4_frights_270 : decode cX4_frights 270 = .ok (.invokestatic 306, 3) := dk_184 1 50 (dk_at dksX4_frights_11 12 rfl rfl)
theorem dX4_frights_273 : decode cX4_frights 273 = .ok (.lreturn, 1) := dk_173 (dk_at dksX4_frights_11 15 rfl rfl)
abbrev cX4_partOf : ByteArray := prog_21_method_71_code
def yX4_partOf : MethodName := ⟨RX4, "partOf", "(JJI)J"⟩
def dkwX4_partOf_1 : List UInt8 := [22, 5, 109, 167, 0, 7, 32, 22, 5, 109, 173]
abbrev dktX4_partOf_1 : List UInt8 := dkwX4_partOf_1 ++ []
def dkwX4_partOf_0 : List UInt8 := [30, 9, 148, 154, 0, 7, 21, 4, 133, 173, 30, 32, 184, 1, 40, 55, 5, 21, 4, 154, 0, 10, 30]
abbrev dktX4_partOf_0 : List UInt8 := dkwX4_partOf_0 ++ dktX4_partOf_1
theorem dksX4_partOf_0 : cX4_partOf.data.toList.drop 0 = dktX4_partOf_0 := by decide +kernel
theorem dksX4_partOf_1 : cX4_partOf.data.toList.drop 23 = dktX4_partOf_1 := dk_seg dksX4_partOf_0 23 rfl rfl
theorem dX4_partOf_0 : decode cX4_partOf 0 = .ok (.lload_n 0, 1) := dk_30 (dk_at dksX4_partOf_0 0 rfl rfl)
theorem dX4_partOf_1 : decode cX4_partOf 1 = .ok (.lconst 0, 1) := dk_9 (dk_at dksX4_partOf_0 1 rfl rfl)
theorem dX4_partOf_2 : decode cX4_partOf 2 = .ok (.lcmp, 1) := dk_148 (dk_at dksX4_partOf_0 2 rfl rfl)
theorem dX4_partOf_3 : decode cX4_partOf 3 = .ok (.ifCond .ne 7, 3) := dk_154 0 7 (dk_at dksX4_partOf_0 3 rfl rfl)
theorem dX4_partOf_6 : decode cX4_partOf 6 = .ok (.iload 4, 2) := dk_21 4 (dk_at dksX4_partOf_0 6 rfl rfl)
theorem dX4_partOf_8 : decode cX4_partOf 8 = .ok (.i2l, 1) := dk_133 (dk_at dksX4_partOf_0 8 rfl rfl)
theorem dX4_partOf_9 : decode cX4_partOf 9 = .ok (.lreturn, 1) := dk_173 (dk_at dksX4_partOf_0 9 rfl rfl)
theorem dX4_partOf_10 : decode cX4_partOf 10 = .ok (.lload_n 0, 1) := dk_30 (dk_at dksX4_partOf_0 10 rfl rfl)
theorem dX4_partOf_11 : decode cX4_partOf 11 = .ok (.lload_n 2, 1) := dk_32 (dk_at dksX4_partOf_0 11 rfl rfl)
theorem dX4_partOf_12 : decode cX4_partOf 12 = .ok (.invokestatic 296, 3) := dk_184 1 40 (dk_at dksX4_partOf_0 12 rfl rfl)
theorem dX4_partOf_15 : decode cX4_partOf 15 = .ok (.lstore 5, 2) := dk_55 5 (dk_at dksX4_partOf_0 15 rfl rfl)
theorem dX4_partOf_17 : decode cX4_partOf 17 = .ok (.iload 4, 2) := dk_21 4 (dk_at dksX4_partOf_0 17 rfl rfl)
theorem dX4_partOf_19 : decode cX4_partOf 19 = .ok (.ifCond .ne 10, 3) := dk_154 0 10 (dk_at dksX4_partOf_0 19 rfl rfl)
theorem dX4_partOf_22 : decode cX4_partOf 22 = .ok (.lload_n 0, 1) := dk_30 (dk_at dksX4_partOf_0 22 rfl rfl)
theorem dX4_partOf_23 : decode cX4_partOf 23 = .ok (.lload 5, 2) := dk_22 5 (dk_at dksX4_partOf_1 0 rfl rfl)
theorem dX4_partOf_25 : decode cX4_partOf 25 = .ok (.ldiv, 1) := dk_109 (dk_at dksX4_partOf_1 2 rfl rfl)
theorem dX4_partOf_26 : decode cX4_partOf 26 = .ok (.goto 7, 3) := dk_167 0 7 (dk_at dksX4_partOf_1 3 rfl rfl)
theorem dX4_partOf_29 : decode cX4_partOf 29 = .ok (.lload_n 2, 1) := dk_32 (dk_at dksX4_partOf_1 6 rfl rfl)
theorem dX4_partOf_30 : decode cX4_partOf 30 = .ok (.lload 5, 2) := dk_22 5 (dk_at dksX4_partOf_1 7 rfl rfl)
theorem dX4_partOf_32 : decode cX4_partOf 32 = .ok (.ldiv, 1) := dk_109 (dk_at dksX4_partOf_1 9 rfl rfl)
theorem dX4_partOf_33 : decode cX4_partOf 33 = .ok (.lreturn, 1) := dk_173 (dk_at dksX4_partOf_1 10 rfl rfl)
abbrev cX4_divisor : ByteArray := prog_21_method_70_code
def yX4_divisor : MethodName := ⟨RX4, "divisor", "(JJ)J"⟩
def dkwX4_divisor_1 : List UInt8 := [22, 8, 55, 6, 167, 255, 234, 22, 4, 173]
abbrev dktX4_divisor_1 : List UInt8 := dkwX4_divisor_1 ++ []
def dkwX4_divisor_0 : List UInt8 := [30, 55, 4, 32, 55, 6, 22, 6, 9, 148, 153, 0, 21, 22, 4, 22, 6, 113, 55, 8, 22, 6, 55, 4]
abbrev dktX4_divisor_0 : List UInt8 := dkwX4_divisor_0 ++ dktX4_divisor_1
theorem dksX4_divisor_0 : cX4_divisor.data.toList.drop 0 = dktX4_divisor_0 := by decide +kernel
theorem dksX4_divisor_1 : cX4_divisor.data.toList.drop 24 = dktX4_divisor_1 := dk_seg dksX4_divisor_0 24 rfl rfl
theorem dX4_divisor_0 : decode cX4_divisor 0 = .ok (.lload_n 0, 1) := dk_30 (dk_at dksX4_divisor_0 0 rfl rfl)
theorem dX4_divisor_1 : decode cX4_divisor 1 = .ok (.lstore 4, 2) := dk_55 4 (dk_at dksX4_divisor_0 1 rfl rfl)
theorem dX4_divisor_3 : decode cX4_divisor 3 = .ok (.lload_n 2, 1) := dk_32 (dk_at dksX4_divisor_0 3 rfl rfl)
theorem dX4_divisor_4 : decode cX4_divisor 4 = .ok (.lstore 6, 2) := dk_55 6 (dk_at dksX4_divisor_0 4 rfl rfl)
theorem dX4_divisor_6 : decode cX4_divisor 6 = .ok (.lload 6, 2) := dk_22 6 (dk_at dksX4_divisor_0 6 rfl rfl)
theorem dX4_divisor_8 : decode cX4_divisor 8 = .ok (.lconst 0, 1) := dk_9 (dk_at dksX4_divisor_0 8 rfl rfl)
theorem dX4_divisor_9 : decode cX4_divisor 9 = .ok (.lcmp, 1) := dk_148 (dk_at dksX4_divisor_0 9 rfl rfl)
theorem dX4_divisor_10 : decode cX4_divisor 10 = .ok (.ifCond .eq 21, 3) := dk_153 0 21 (dk_at dksX4_divisor_0 10 rfl rfl)
theorem dX4_divisor_13 : decode cX4_divisor 13 = .ok (.lload 4, 2) := dk_22 4 (dk_at dksX4_divisor_0 13 rfl rfl)
theorem dX4_divisor_15 : decode cX4_divisor 15 = .ok (.lload 6, 2) := dk_22 6 (dk_at dksX4_divisor_0 15 rfl rfl)
theorem dX4_divisor_17 : decode cX4_divisor 17 = .ok (.lrem, 1) := dk_113 (dk_at dksX4_divisor_0 17 rfl rfl)
theorem dX4_divisor_18 : decode cX4_divisor 18 = .ok (.lstore 8, 2) := dk_55 8 (dk_at dksX4_divisor_0 18 rfl rfl)
theorem dX4_divisor_20 : decode cX4_divisor 20 = .ok (.lload 6, 2) := dk_22 6 (dk_at dksX4_divisor_0 20 rfl rfl)
theorem dX4_divisor_22 : decode cX4_divisor 22 = .ok (.lstore 4, 2) := dk_55 4 (dk_at dksX4_divisor_0 22 rfl rfl)
theorem dX4_divisor_24 : decode cX4_divisor 24 = .ok (.lload 8, 2) := dk_22 8 (dk_at dksX4_divisor_1 0 rfl rfl)
theorem dX4_divisor_26 : decode cX4_divisor 26 = .ok (.lstore 6, 2) := dk_55 6 (dk_at dksX4_divisor_1 2 rfl rfl)
theorem dX4_divisor_28 : decode cX4_divisor 28 = .ok (.goto (-22), 3) := dk_167 255 234 (dk_at dksX4_divisor_1 4 rfl rfl)
theorem dX4_divisor_31 : decode cX4_divisor 31 = .ok (.lload 4, 2) := dk_22 4 (dk_at dksX4_divisor_1 7 rfl rfl)
theorem dX4_divisor_33 : decode cX4_divisor 33 = .ok (.lreturn, 1) := dk_173 (dk_at dksX4_divisor_1 9 rfl rfl)
abbrev cX4_was : ByteArray := prog_21_method_73_code
def yX4_was : MethodName := ⟨RX4, "was", "(IIII)I"⟩
def dkwX4_was_7 : List UInt8 := [167, 255, 160, 21, 4, 154, 0, 8, 21, 6, 167, 0, 8, 21, 6, 184, 1, 26, 172]
abbrev dktX4_was_7 : List UInt8 := dkwX4_was_7 ++ []
def dkwX4_was_6 : List UInt8 := [167, 255, 197, 21, 6, 21, 8, 153, 0, 10, 4, 21, 7, 120, 167, 0, 4, 3, 128, 54, 6, 132, 7, 1]
abbrev dktX4_was_6 : List UInt8 := dkwX4_was_6 ++ dktX4_was_7
def dkwX4_was_5 : List UInt8 := [104, 96, 16, 20, 184, 0, 103, 133, 148, 154, 0, 7, 4, 167, 0, 4, 3, 54, 8, 132, 9, 1]
abbrev dktX4_was_5 : List UInt8 := dkwX4_was_5 ++ dktX4_was_6
def dkwX4_was_4 : List UInt8 := [153, 0, 40, 42, 180, 0, 40, 16, 100, 27, 104, 21, 9, 96, 47, 28, 21, 9, 21, 7, 29, 184, 0, 88]
abbrev dktX4_was_4 : List UInt8 := dkwX4_was_4 ++ dktX4_was_5
def dkwX4_was_3 : List UInt8 := [162, 0, 95, 4, 54, 8, 3, 54, 9, 21, 9, 42, 180, 0, 37, 27, 46, 162, 0, 54, 21, 8]
abbrev dktX4_was_3 : List UInt8 := dkwX4_was_3 ++ dktX4_was_4
def dkwX4_was_2 : List UInt8 := [167, 0, 4, 2, 54, 5, 21, 5, 156, 0, 6, 21, 5, 172, 3, 54, 6, 3, 54, 7, 21, 7, 16, 8]
abbrev dktX4_was_2 : List UInt8 := dkwX4_was_2 ++ dktX4_was_3
def dkwX4_was_1 : List UInt8 := [184, 0, 84, 153, 0, 22, 21, 4, 133, 9, 10, 184, 0, 84, 153, 0, 11, 42, 27, 182, 0, 189]
abbrev dktX4_was_1 : List UInt8 := dkwX4_was_1 ++ dktX4_was_2
def dkwX4_was_0 : List UInt8 := [42, 3, 181, 0, 77, 28, 133, 9, 20, 0, 225, 184, 0, 84, 153, 0, 34, 29, 133, 9, 20, 0, 232]
abbrev dktX4_was_0 : List UInt8 := dkwX4_was_0 ++ dktX4_was_1
theorem dksX4_was_0 : cX4_was.data.toList.drop 0 = dktX4_was_0 := by decide +kernel
theorem dksX4_was_1 : cX4_was.data.toList.drop 23 = dktX4_was_1 := dk_seg dksX4_was_0 23 rfl rfl
theorem dksX4_was_2 : cX4_was.data.toList.drop 45 = dktX4_was_2 := dk_seg dksX4_was_1 22 rfl rfl
theorem dksX4_was_3 : cX4_was.data.toList.drop 69 = dktX4_was_3 := dk_seg dksX4_was_2 24 rfl rfl
theorem dksX4_was_4 : cX4_was.data.toList.drop 91 = dktX4_was_4 := dk_seg dksX4_was_3 22 rfl rfl
theorem dksX4_was_5 : cX4_was.data.toList.drop 115 = dktX4_was_5 := dk_seg dksX4_was_4 24 rfl rfl
theorem dksX4_was_6 : cX4_was.data.toList.drop 137 = dktX4_was_6 := dk_seg dksX4_was_5 22 rfl rfl
theorem dksX4_was_7 : cX4_was.data.toList.drop 161 = dktX4_was_7 := dk_seg dksX4_was_6 24 rfl rfl
theorem dX4_was_0 : decode cX4_was 0 = .ok (.aload_n 0, 1) := dk_42 (dk_at dksX4_was_0 0 rfl rfl)
theorem dX4_was_1 : decode cX4_was 1 = .ok (.iconst 0, 1) := dk_3 (dk_at dksX4_was_0 1 rfl rfl)
theorem dX4_was_2 : decode cX4_was 2 = .ok (.putfield 77, 3) := dk_181 0 77 (dk_at dksX4_was_0 2 rfl rfl)
theorem dX4_was_5 : decode cX4_was 5 = .ok (.iload_n 2, 1) := dk_28 (dk_at dksX4_was_0 5 rfl rfl)
theorem dX4_was_6 : decode cX4_was 6 = .ok (.i2l, 1) := dk_133 (dk_at dksX4_was_0 6 rfl rfl)
theorem dX4_was_7 : decode cX4_was 7 = .ok (.lconst 0, 1) := dk_9 (dk_at dksX4_was_0 7 rfl rfl)
theorem dX4_was_8 : decode cX4_was 8 = .ok (.ldc2_w 225, 3) := dk_20 0 225 (dk_at dksX4_was_0 8 rfl rfl)
theorem dX4_was_11 : decode cX4_was 11 = .ok (.invokestatic 84, 3) := dk_184 0 84 (dk_at dksX4_was_0 11 rfl rfl)
theorem dX4_was_14 : decode cX4_was 14 = .ok (.ifCond .eq 34, 3) := dk_153 0 34 (dk_at dksX4_was_0 14 rfl rfl)
theorem dX4_was_17 : decode cX4_was 17 = .ok (.iload_n 3, 1) := dk_29 (dk_at dksX4_was_0 17 rfl rfl)
theorem dX4_was_18 : decode cX4_was 18 = .ok (.i2l, 1) := dk_133 (dk_at dksX4_was_0 18 rfl rfl)
theorem dX4_was_19 : decode cX4_was 19 = .ok (.lconst 0, 1) := dk_9 (dk_at dksX4_was_0 19 rfl rfl)
theorem dX4_was_20 : decode cX4_was 20 = .ok (.ldc2_w 232, 3) := dk_20 0 232 (dk_at dksX4_was_0 20 rfl rfl)
theorem dX4_was_23 : decode cX4_was 23 = .ok (.invokestatic 84, 3) := dk_184 0 84 (dk_at dksX4_was_1 0 rfl rfl)
theorem dX4_was_26 : decode cX4_was 26 = .ok (.ifCond .eq 22, 3) := dk_153 0 22 (dk_at dksX4_was_1 3 rfl rfl)
theorem dX4_was_29 : decode cX4_was 29 = .ok (.iload 4, 2) := dk_21 4 (dk_at dksX4_was_1 6 rfl rfl)
theorem dX4_was_31 : decode cX4_was 31 = .ok (.i2l, 1) := dk_133 (dk_at dksX4_was_1 8 rfl rfl)
theorem dX4_was_32 : decode cX4_was 32 = .ok (.lconst 0, 1) := dk_9 (dk_at dksX4_was_1 9 rfl rfl)
theorem dX4_was_33 : decode cX4_was 33 = .ok (.lconst 1, 1) := dk_10 (dk_at dksX4_was_1 10 rfl rfl)
theorem dX4_was_34 : decode cX4_was 34 = .ok (.invokestatic 84, 3) := dk_184 0 84 (dk_at dksX4_was_1 11 rfl rfl)
theorem dX4_was_37 : decode cX4_was 37 = .ok (.ifCond .eq 11, 3) := dk_153 0 11 (dk_at dksX4_was_1 14 rfl rfl)
theorem dX4_was_40 : decode cX4_was 40 = .ok (.aload_n 0, 1) := dk_42 (dk_at dksX4_was_1 17 rfl rfl)
theorem dX4_was_41 : decode cX4_was 41 = .ok (.iload_n 1, 1) := dk_27 (dk_at dksX4_was_1 18 rfl rfl)
theorem dX4_was_42 : decode cX4_was 42 = .ok (.invokevirtual 189, 3) := dk_182 0 189 (dk_at dksX4_was_1 19 rfl rfl)
theorem dX4_was_45 : decode cX4_was 45 = .ok (.goto 4, 3) := dk_167 0 4 (dk_at dksX4_was_2 0 rfl rfl)
theorem dX4_was_48 : decode cX4_was 48 = .ok (.iconst (-1), 1) := dk_2 (dk_at dksX4_was_2 3 rfl rfl)
theorem dX4_was_49 : decode cX4_was 49 = .ok (.istore 5, 2) := dk_54 5 (dk_at dksX4_was_2 4 rfl rfl)
theorem dX4_was_51 : decode cX4_was 51 = .ok (.iload 5, 2) := dk_21 5 (dk_at dksX4_was_2 6 rfl rfl)
theorem dX4_was_53 : decode cX4_was 53 = .ok (.ifCond .ge 6, 3) := dk_156 0 6 (dk_at dksX4_was_2 8 rfl rfl)
theorem dX4_was_56 : decode cX4_was 56 = .ok (.iload 5, 2) := dk_21 5 (dk_at dksX4_was_2 11 rfl rfl)
theorem dX4_was_58 : decode cX4_was 58 = .ok (.ireturn, 1) := dk_172 (dk_at dksX4_was_2 13 rfl rfl)
theorem dX4_was_59 : decode cX4_was 59 = .ok (.iconst 0, 1) := dk_3 (dk_at dksX4_was_2 14 rfl rfl)
theorem dX4_was_60 : decode cX4_was 60 = .ok (.istore 6, 2) := dk_54 6 (dk_at dksX4_was_2 15 rfl rfl)
theorem dX4_was_62 : decode cX4_was 62 = .ok (.iconst 0, 1) := dk_3 (dk_at dksX4_was_2 17 rfl rfl)
theorem dX4_was_63 : decode cX4_was 63 = .ok (.istore 7, 2) := dk_54 7 (dk_at dksX4_was_2 18 rfl rfl)
theorem dX4_was_65 : decode cX4_was 65 = .ok (.iload 7, 2) := dk_21 7 (dk_at dksX4_was_2 20 rfl rfl)
theorem dX4_was_67 : decode cX4_was 67 = .ok (.bipush 8, 2) := dk_16 8 (dk_at dksX4_was_2 22 rfl rfl)
theorem dX4_was_69 : decode cX4_was 69 = .ok (.if_icmp .ge 95, 3) := dk_162 0 95 (dk_at dksX4_was_3 0 rfl rfl)
theorem dX4_was_72 : decode cX4_was 72 = .ok (.iconst 1, 1) := dk_4 (dk_at dksX4_was_3 3 rfl rfl)
theorem dX4_was_73 : decode cX4_was 73 = .ok (.istore 8, 2) := dk_54 8 (dk_at dksX4_was_3 4 rfl rfl)
theorem dX4_was_75 : decode cX4_was 75 = .ok (.iconst 0, 1) := dk_3 (dk_at dksX4_was_3 6 rfl rfl)
theorem dX4_was_76 : decode cX4_was 76 = .ok (.istore 9, 2) := dk_54 9 (dk_at dksX4_was_3 7 rfl rfl)
theorem dX4_was_78 : decode cX4_was 78 = .ok (.iload 9, 2) := dk_21 9 (dk_at dksX4_was_3 9 rfl rfl)
theorem dX4_was_80 : decode cX4_was 80 = .ok (.aload_n 0, 1) := dk_42 (dk_at dksX4_was_3 11 rfl rfl)
theorem dX4_was_81 : decode cX4_was 81 = .ok (.getfield 37, 3) := dk_180 0 37 (dk_at dksX4_was_3 12 rfl rfl)
theorem dX4_was_84 : decode cX4_was 84 = .ok (.iload_n 1, 1) := dk_27 (dk_at dksX4_was_3 15 rfl rfl)
theorem dX4_was_85 : decode cX4_was 85 = .ok (.iaload, 1) := dk_46 (dk_at dksX4_was_3 16 rfl rfl)
theorem dX4_was_86 : decode cX4_was 86 = .ok (.if_icmp .ge 54, 3) := dk_162 0 54 (dk_at dksX4_was_3 17 rfl rfl)
theorem dX4_was_89 : decode cX4_was 89 = .ok (.iload 8, 2) := dk_21 8 (dk_at dksX4_was_3 20 rfl rfl)
theorem dX4_was_91 : decode cX4_was 91 = .ok (.ifCond .eq 40, 3) := dk_153 0 40 (dk_at dksX4_was_4 0 rfl rfl)
theorem dX4_was_94 : decode cX4_was 94 = .ok (.aload_n 0, 1) := dk_42 (dk_at dksX4_was_4 3 rfl rfl)
theorem dX4_was_95 : decode cX4_was 95 = .ok (.getfield 40, 3) := dk_180 0 40 (dk_at dksX4_was_4 4 rfl rfl)
theorem dX4_was_98 : decode cX4_was 98 = .ok (.bipush 100, 2) := dk_16 100 (dk_at dksX4_was_4 7 rfl rfl)
theorem dX4_was_100 : decode cX4_was 100 = .ok (.iload_n 1, 1) := dk_27 (dk_at dksX4_was_4 9 rfl rfl)
theorem dX4_was_101 : decode cX4_was 101 = .ok (.imul, 1) := dk_104 (dk_at dksX4_was_4 10 rfl rfl)
theorem dX4_was_102 : decode cX4_was 102 = .ok (.iload 9, 2) := dk_21 9 (dk_at dksX4_was_4 11 rfl rfl)
theorem dX4_was_104 : decode cX4_was 104 = .ok (.iadd, 1) := dk_96 (dk_at dksX4_was_4 13 rfl rfl)
theorem dX4_was_105 : decode cX4_was 105 = .ok (.laload, 1) := dk_47 (dk_at dksX4_was_4 14 rfl rfl)
theorem dX4_was_106 : decode cX4_was 106 = .ok (.iload_n 2, 1) := dk_28 (dk_at dksX4_was_4 15 rfl rfl)
theorem dX4_was_107 : decode cX4_was 107 = .ok (.iload 9, 2) := dk_21 9 (dk_at dksX4_was_4 16 rfl rfl)
theorem dX4_was_109 : decode cX4_was 109 = .ok (.iload 7, 2) := dk_21 7 (dk_at dksX4_was_4 18 rfl rfl)
theorem dX4_was_111 : decode cX4_was 111 = .ok (.iload_n 3, 1) := dk_29 (dk_at dksX4_was_4 20 rfl rfl)
theorem dX4_was_112 : decode cX4_was 112 = .ok (.invokestatic 88, 3) := dk_184 0 88 (dk_at dksX4_was_4 21 rfl rfl)
theorem dX4_was_115 : decode cX4_was 115 = .ok (.imul, 1) := dk_104 (dk_at dksX4_was_5 0 rfl rfl)
theorem dX4_was_116 : decode cX4_was 116 = .ok (.iadd, 1) := dk_96 (dk_at dksX4_was_5 1 rfl rfl)
theorem dX4_was_117 : decode cX4_was 117 = .ok (.bipush 20, 2) := dk_16 20 (dk_at dksX4_was_5 2 rfl rfl)
theorem dX4_was_119 : decode cX4_was 119 = .ok (.invokestatic 103, 3) := dk_184 0 103 (dk_at dksX4_was_5 4 rfl rfl)
theorem dX4_was_122 : decode cX4_was 122 = .ok (.i2l, 1) := dk_133 (dk_at dksX4_was_5 7 rfl rfl)
theorem dX4_was_123 : decode cX4_was 123 = .ok (.lcmp, 1) := dk_148 (dk_at dksX4_was_5 8 rfl rfl)
theorem dX4_was_124 : decode cX4_was 124 = .ok (.ifCond .ne 7, 3) := dk_154 0 7 (dk_at dksX4_was_5 9 rfl rfl)
theorem dX4_was_127 : decode cX4_was 127 = .ok (.iconst 1, 1) := dk_4 (dk_at dksX4_was_5 12 rfl rfl)
theorem dX4_was_128 : decode cX4_was 128 = .ok (.goto 4, 3) := dk_167 0 4 (dk_at dksX4_was_5 13 rfl rfl)
theorem dX4_was_131 : decode cX4_was 131 = .ok (.iconst 0, 1) := dk_3 (dk_at dksX4_was_5 16 rfl rfl)
theorem dX4_was_132 : decode cX4_was 132 = .ok (.istore 8, 2) := dk_54 8 (dk_at dksX4_was_5 17 rfl rfl)
theorem dX4_was_134 : decode cX4_was 134 = .ok (.iinc 9 1, 3) := dk_132 9 1 (dk_at dksX4_was_5 19 rfl rfl)
theorem dX4_was_137 : decode cX4_was 137 = .ok (.goto (-59), 3) := dk_167 255 197 (dk_at dksX4_was_6 0 rfl rfl)
theorem dX4_was_140 : decode cX4_was 140 = .ok (.iload 6, 2) := dk_21 6 (dk_at dksX4_was_6 3 rfl rfl)
theorem dX4_was_142 : decode cX4_was 142 = .ok (.iload 8, 2) := dk_21 8 (dk_at dksX4_was_6 5 rfl rfl)
theorem dX4_was_144 : decode cX4_was 144 = .ok (.ifCond .eq 10, 3) := dk_153 0 10 (dk_at dksX4_was_6 7 rfl rfl)
theorem dX4_was_147 : decode cX4_was 147 = .ok (.iconst 1, 1) := dk_4 (dk_at dksX4_was_6 10 rfl rfl)
theorem dX4_was_148 : decode cX4_was 148 = .ok (.iload 7, 2) := dk_21 7 (dk_at dksX4_was_6 11 rfl rfl)
theorem dX4_was_150 : decode cX4_was 150 = .ok (.ishl, 1) := dk_120 (dk_at dksX4_was_6 13 rfl rfl)
theorem dX4_was_151 : decode cX4_was 151 = .ok (.goto 4, 3) := dk_167 0 4 (dk_at dksX4_was_6 14 rfl rfl)
theorem dX4_was_154 : decode cX4_was 154 = .ok (.iconst 0, 1) := dk_3 (dk_at dksX4_was_6 17 rfl rfl)
theorem dX4_was_155 : decode cX4_was 155 = .ok (.ior, 1) := dk_128 (dk_at dksX4_was_6 18 rfl rfl)
theorem dX4_was_156 : decode cX4_was 156 = .ok (.istore 6, 2) := dk_54 6 (dk_at dksX4_was_6 19 rfl rfl)
theorem dX4_was_158 : decode cX4_was 158 = .ok (.iinc 7 1, 3) := dk_132 7 1 (dk_at dksX4_was_6 21 rfl rfl)
theorem dX4_was_161 : decode cX4_was 161 = .ok (.goto (-96), 3) := dk_167 255 160 (dk_at dksX4_was_7 0 rfl rfl)
theorem dX4_was_164 : decode cX4_was 164 = .ok (.iload 4, 2) := dk_21 4 (dk_at dksX4_was_7 3 rfl rfl)
theorem dX4_was_166 : decode cX4_was 166 = .ok (.ifCond .ne 8, 3) := dk_154 0 8 (dk_at dksX4_was_7 5 rfl rfl)
theorem dX4_was_169 : decode cX4_was 169 = .ok (.iload 6, 2) := dk_21 6 (dk_at dksX4_was_7 8 rfl rfl)
theorem dX4_was_171 : decode cX4_was 171 = .ok (.goto 8, 3) := dk_167 0 8 (dk_at dksX4_was_7 10 rfl rfl)
theorem dX4_was_174 : decode cX4_was 174 = .ok (.iload 6, 2) := dk_21 6 (dk_at dksX4_was_7 13 rfl rfl)
theorem dX4_was_176 : decode cX4_was 176 = .ok (.invokestatic 282, 3) := dk_184 1 26 (dk_at dksX4_was_7 15 rfl rfl)
theorem dX4_was_179 : decode cX4_was 179 = .ok (.ireturn, 1) := dk_172 (dk_at dksX4_was_7 18 rfl rfl)
abbrev cX4_dare : ByteArray := prog_21_method_75_code
def yX4_dare : MethodName := ⟨RX4, "dare", "(II)I"⟩
def dkwX4_dare_5 : List UInt8 := [16, 252, 172]
abbrev dktX4_dare_5 : List UInt8 := dkwX4_dare_5 ++ []
def dkwX4_dare_4 : List UInt8 := [3, 54, 6, 21, 6, 153, 0, 12, 16, 10, 21, 4, 104, 21, 5, 96, 172, 132, 3, 1, 167, 255, 171]
abbrev dktX4_dare_4 : List UInt8 := dkwX4_dare_4 ++ dktX4_dare_5
def dkwX4_dare_3 : List UInt8 := [21, 5, 100, 21, 4, 182, 1, 54, 42, 28, 21, 5, 21, 4, 182, 1, 54, 163, 0, 7, 4, 167, 0, 4]
abbrev dktX4_dare_3 : List UInt8 := dkwX4_dare_3 ++ dktX4_dare_4
def dkwX4_dare_2 : List UInt8 := [4, 21, 4, 100, 21, 5, 182, 1, 54, 42, 27, 21, 4, 21, 5, 182, 1, 54, 163, 0, 30, 42, 28, 4]
abbrev dktX4_dare_2 : List UInt8 := dkwX4_dare_2 ++ dktX4_dare_3
def dkwX4_dare_1 : List UInt8 := [160, 0, 5, 2, 172, 3, 62, 29, 7, 162, 0, 86, 29, 5, 108, 54, 4, 29, 5, 112, 54, 5, 42, 27]
abbrev dktX4_dare_1 : List UInt8 := dkwX4_dare_1 ++ dktX4_dare_2
def dkwX4_dare_0 : List UInt8 := [42, 3, 181, 0, 77, 42, 27, 182, 0, 99, 153, 0, 16, 42, 28, 182, 0, 99, 153, 0, 8, 27, 28]
abbrev dktX4_dare_0 : List UInt8 := dkwX4_dare_0 ++ dktX4_dare_1
theorem dksX4_dare_0 : cX4_dare.data.toList.drop 0 = dktX4_dare_0 := by decide +kernel
theorem dksX4_dare_1 : cX4_dare.data.toList.drop 23 = dktX4_dare_1 := dk_seg dksX4_dare_0 23 rfl rfl
theorem dksX4_dare_2 : cX4_dare.data.toList.drop 47 = dktX4_dare_2 := dk_seg dksX4_dare_1 24 rfl rfl
theorem dksX4_dare_3 : cX4_dare.data.toList.drop 71 = dktX4_dare_3 := dk_seg dksX4_dare_2 24 rfl rfl
theorem dksX4_dare_4 : cX4_dare.data.toList.drop 95 = dktX4_dare_4 := dk_seg dksX4_dare_3 24 rfl rfl
theorem dksX4_dare_5 : cX4_dare.data.toList.drop 118 = dktX4_dare_5 := dk_seg dksX4_dare_4 23 rfl rfl
theorem dX4_dare_0 : decode cX4_dare 0 = .ok (.aload_n 0, 1) := dk_42 (dk_at dksX4_dare_0 0 rfl rfl)
theorem dX4_dare_1 : decode cX4_dare 1 = .ok (.iconst 0, 1) := dk_3 (dk_at dksX4_dare_0 1 rfl rfl)
theorem dX4_dare_2 : decode cX4_dare 2 = .ok (.putfield 77, 3) := dk_181 0 77 (dk_at dksX4_dare_0 2 rfl rfl)
theorem dX4_dare_5 : decode cX4_dare 5 = .ok (.aload_n 0, 1) := dk_42 (dk_at dksX4_dare_0 5 rfl rfl)
theorem dX4_dare_6 : decode cX4_dare 6 = .ok (.iload_n 1, 1) := dk_27 (dk_at dksX4_dare_0 6 rfl rfl)
theorem dX4_dare_7 : decode cX4_dare 7 = .ok (.invokevirtual 99, 3) := dk_182 0 99 (dk_at dksX4_dare_0 7 rfl rfl)
theorem dX4_dare_10 : decode cX4_dare 10 = .ok (.ifCond .eq 16, 3) := dk_153 0 16 (dk_at dksX4_dare_0 10 rfl rfl)
theorem dX4_dare_13 : decode cX4_dare 13 = .ok (.aload_n 0, 1) := dk_42 (dk_at dksX4_dare_0 13 rfl rfl)
theorem dX4_dare_14 : decode cX4_dare 14 = .ok (.iload_n 2, 1) := dk_28 (dk_at dksX4_dare_0 14 rfl rfl)
theorem dX4_dare_15 : decode cX4_dare 15 = .ok (.invokevirtual 99, 3) := dk_182 0 99 (dk_at dksX4_dare_0 15 rfl rfl)
theorem dX4_dare_18 : decode cX4_dare 18 = .ok (.ifCond .eq 8, 3) := dk_153 0 8 (dk_at dksX4_dare_0 18 rfl rfl)
theorem dX4_dare_21 : decode cX4_dare 21 = .ok (.iload_n 1, 1) := dk_27 (dk_at dksX4_dare_0 21 rfl rfl)
theorem dX4_dare_22 : decode cX4_dare 22 = .ok (.iload_n 2, 1) := dk_28 (dk_at dksX4_dare_0 22 rfl rfl)
theorem dX4_dare_23 : decode cX4_dare 23 = .ok (.if_icmp .ne 5, 3) := dk_160 0 5 (dk_at dksX4_dare_1 0 rfl rfl)
theorem dX4_dare_26 : decode cX4_dare 26 = .ok (.iconst (-1), 1) := dk_2 (dk_at dksX4_dare_1 3 rfl rfl)
theorem dX4_dare_27 : decode cX4_dare 27 = .ok (.ireturn, 1) := dk_172 (dk_at dksX4_dare_1 4 rfl rfl)
theorem dX4_dare_28 : decode cX4_dare 28 = .ok (.iconst 0, 1) := dk_3 (dk_at dksX4_dare_1 5 rfl rfl)
theorem dX4_dare_29 : decode cX4_dare 29 = .ok (.istore_n 3, 1) := dk_62 (dk_at dksX4_dare_1 6 rfl rfl)
theorem dX4_dare_30 : decode cX4_dare 30 = .ok (.iload_n 3, 1) := dk_29 (dk_at dksX4_dare_1 7 rfl rfl)
theorem dX4_dare_31 : decode cX4_dare 31 = .ok (.iconst 4, 1) := dk_7 (dk_at dksX4_dare_1 8 rfl rfl)
theorem dX4_dare_32 : decode cX4_dare 32 = .ok (.if_icmp .ge 86, 3) := dk_162 0 86 (dk_at dksX4_dare_1 9 rfl rfl)
theorem dX4_dare_35 : decode cX4_dare 35 = .ok (.iload_n 3, 1) := dk_29 (dk_at dksX4_dare_1 12 rfl rfl)
theorem dX4_dare_36 : decode cX4_dare 36 = .ok (.iconst 2, 1) := dk_5 (dk_at dksX4_dare_1 13 rfl rfl)
theorem dX4_dare_37 : decode cX4_dare 37 = .ok (.idiv, 1) := dk_108 (dk_at dksX4_dare_1 14 rfl rfl)
theorem dX4_dare_38 : decode cX4_dare 38 = .ok (.istore 4, 2) := dk_54 4 (dk_at dksX4_dare_1 15 rfl rfl)
theorem dX4_dare_40 : decode cX4_dare 40 = .ok (.iload_n 3, 1) := dk_29 (dk_at dksX4_dare_1 17 rfl rfl)
theorem dX4_dare_41 : decode cX4_dare 41 = .ok (.iconst 2, 1) := dk_5 (dk_at dksX4_dare_1 18 rfl rfl)
theorem dX4_dare_42 : decode cX4_dare 42 = .ok (.irem, 1) := dk_112 (dk_at dksX4_dare_1 19 rfl rfl)
theorem dX4_dare_43 : decode cX4_dare 43 = .ok (.istore 5, 2) := dk_54 5 (dk_at dksX4_dare_1 20 rfl rfl)
theorem dX4_dare_45 : decode cX4_dare 45 = .ok (.aload_n 0, 1) := dk_42 (dk_at dksX4_dare_1 22 rfl rfl)
theorem dX4_dare_46 : decode cX4_dare 46 = .ok (.iload_n 1, 1) := dk_27 (dk_at dksX4_dare_1 23 rfl rfl)
theorem dX4_dare_47 : decode cX4_dare 47 = .ok (.iconst 1, 1) := dk_4 (dk_at dksX4_dare_2 0 rfl rfl)
theorem dX4_dare_48 : decode cX4_dare 48 = .ok (.iload 4, 2) := dk_21 4 (dk_at dksX4_dare_2 1 rfl rfl)
theorem dX4_dare_50 : decode cX4_dare 50 = .ok (.isub, 1) := dk_100 (dk_at dksX4_dare_2 3 rfl rfl)
theorem dX4_dare_51 : decode cX4_dare 51 = .ok (.iload 5, 2) := dk_21 5 (dk_at dksX4_dare_2 4 rfl rfl)
theorem dX4_dare_53 : decode cX4_dare 53 = .ok (.invokevirtual 310, 3) := dk_182 1 54 (dk_at dksX4_dare_2 6 rfl rfl)
theorem dX4_dare_56 : decode cX4_dare 56 = .ok (.aload_n 0, 1) := dk_42 (dk_at dksX4_dare_2 9 rfl rfl)
theorem dX4_dare_57 : decode cX4_dare 57 = .ok (.iload_n 1, 1) := dk_27 (dk_at dksX4_dare_2 10 rfl rfl)
theorem dX4_dare_58 : decode cX4_dare 58 = .ok (.iload 4, 2) := dk_21 4 (dk_at dksX4_dare_2 11 rfl rfl)
theorem dX4_dare_60 : decode cX4_dare 60 = .ok (.iload 5, 2) := dk_21 5 (dk_at dksX4_dare_2 13 rfl rfl)
theorem dX4_dare_62 : decode cX4_dare 62 = .ok (.invokevirtual 310, 3) := dk_182 1 54 (dk_at dksX4_dare_2 15 rfl rfl)
theorem dX4_dare_65 : decode cX4_dare 65 = .ok (.if_icmp .gt 30, 3) := dk_163 0 30 (dk_at dksX4_dare_2 18 rfl rfl)
theorem dX4_dare_68 : decode cX4_dare 68 = .ok (.aload_n 0, 1) := dk_42 (dk_at dksX4_dare_2 21 rfl rfl)
theorem dX4_dare_69 : decode cX4_dare 69 = .ok (.iload_n 2, 1) := dk_28 (dk_at dksX4_dare_2 22 rfl rfl)
theorem dX4_dare_70 : decode cX4_dare 70 = .ok (.iconst 1, 1) := dk_4 (dk_at dksX4_dare_2 23 rfl rfl)
theorem dX4_dare_71 : decode cX4_dare 71 = .ok (.iload 5, 2) := dk_21 5 (dk_at dksX4_dare_3 0 rfl rfl)
theorem dX4_dare_73 : decode cX4_dare 73 = .ok (.isub, 1) := dk_100 (dk_at dksX4_dare_3 2 rfl rfl)
theorem dX4_dare_74 : decode cX4_dare 74 = .ok (.iload 4, 2) := dk_21 4 (dk_at dksX4_dare_3 3 rfl rfl)
theorem dX4_dare_76 : decode cX4_dare 76 = .ok (.invokevirtual 310, 3) := dk_182 1 54 (dk_at dksX4_dare_3 5 rfl rfl)
theorem dX4_dare_79 : decode cX4_dare 79 = .ok (.aload_n 0, 1) := dk_42 (dk_at dksX4_dare_3 8 rfl rfl)
theorem dX4_dare_80 : decode cX4_dare 80 = .ok (.iload_n 2, 1) := dk_28 (dk_at dksX4_dare_3 9 rfl rfl)
theorem dX4_dare_81 : decode cX4_dare 81 = .ok (.iload 5, 2) := dk_21 5 (dk_at dksX4_dare_3 10 rfl rfl)
theorem dX4_dare_83 : decode cX4_dare 83 = .ok (.iload 4, 2) := dk_21 4 (dk_at dksX4_dare_3 12 rfl rfl)
theorem dX4_dare_85 : decode cX4_dare 85 = .ok (.invokevirtual 310, 3) := dk_182 1 54 (dk_at dksX4_dare_3 14 rfl rfl)
theorem dX4_dare_88 : decode cX4_dare 88 = .ok (.if_icmp .gt 7, 3) := dk_163 0 7 (dk_at dksX4_dare_3 17 rfl rfl)
theorem dX4_dare_91 : decode cX4_dare 91 = .ok (.iconst 1, 1) := dk_4 (dk_at dksX4_dare_3 20 rfl rfl)
theorem dX4_dare_92 : decode cX4_dare 92 = .ok (.goto 4, 3) := dk_167 0 4 (dk_at dksX4_dare_3 21 rfl rfl)
theorem dX4_dare_95 : decode cX4_dare 95 = .ok (.iconst 0, 1) := dk_3 (dk_at dksX4_dare_4 0 rfl rfl)
theorem dX4_dare_96 : decode cX4_dare 96 = .ok (.istore 6, 2) := dk_54 6 (dk_at dksX4_dare_4 1 rfl rfl)
theorem dX4_dare_98 : decode cX4_dare 98 = .ok (.iload 6, 2) := dk_21 6 (dk_at dksX4_dare_4 3 rfl rfl)
theorem dX4_dare_100 : decode cX4_dare 100 = .ok (.ifCond .eq 12, 3) := dk_153 0 12 (dk_at dksX4_dare_4 5 rfl rfl)
theorem dX4_dare_103 : decode cX4_dare 103 = .ok (.bipush 10, 2) := dk_16 10 (dk_at dksX4_dare_4 8 rfl rfl)
theorem dX4_dare_105 : decode cX4_dare 105 = .ok (.iload 4, 2) := dk_21 4 (dk_at dksX4_dare_4 10 rfl rfl)
theorem dX4_dare_107 : decode cX4_dare 107 = .ok (.imul, 1) := dk_104 (dk_at dksX4_dare_4 12 rfl rfl)
theorem dX4_dare_108 : decode cX4_dare 108 = .ok (.iload 5, 2) := dk_21 5 (dk_at dksX4_dare_4 13 rfl rfl)
theorem dX4_dare_110 : decode cX4_dare 110 = .ok (.iadd, 1) := dk_96 (dk_at dksX4_dare_4 15 rfl rfl)
theorem dX4_dare_111 : decode cX4_dare 111 = .ok (.ireturn, 1) := dk_172 (dk_at dksX4_dare_4 16 rfl rfl)
theorem dX4_dare_112 : decode cX4_dare 112 = .ok (.iinc 3 1, 3) := dk_132 3 1 (dk_at dksX4_dare_4 17 rfl rfl)
theorem dX4_dare_115 : decode cX4_dare 115 = .ok (.goto (-85), 3) := dk_167 255 171 (dk_at dksX4_dare_4 20 rfl rfl)
theorem dX4_dare_118 : decode cX4_dare 118 = .ok (.bipush (-4), 2) := dk_16 252 (dk_at dksX4_dare_5 0 rfl rfl)
theorem dX4_dare_120 : decode cX4_dare 120 = .ok (.ireturn, 1) := dk_172 (dk_at dksX4_dare_5 2 rfl rfl)
abbrev cX4_daresOf : ByteArray := prog_21_method_74_code
def yX4_daresOf : MethodName := ⟨RX4, "daresOf", "(III)I"⟩
def dkwX4_daresOf_2 : List UInt8 := [167, 0, 4, 4, 21, 4, 153, 0, 7, 3, 167, 0, 8, 42, 27, 182, 0, 116, 100, 172]
abbrev dktX4_daresOf_2 : List UInt8 := dkwX4_daresOf_2 ++ []
def dkwX4_daresOf_1 : List UInt8 := [159, 0, 11, 42, 27, 182, 0, 109, 153, 0, 7, 4, 167, 0, 4, 3, 54, 4, 29, 4, 160, 0, 7, 5]
abbrev dktX4_daresOf_1 : List UInt8 := dkwX4_daresOf_1 ++ dktX4_daresOf_2
def dkwX4_daresOf_0 : List UInt8 := [28, 154, 0, 14, 29, 4, 160, 0, 7, 2, 167, 0, 4, 3, 172, 42, 180, 0, 19, 27, 46, 16, 7]
abbrev dktX4_daresOf_0 : List UInt8 := dkwX4_daresOf_0 ++ dktX4_daresOf_1
theorem dksX4_daresOf_0 : cX4_daresOf.data.toList.drop 0 = dktX4_daresOf_0 := by decide +kernel
theorem dksX4_daresOf_1 : cX4_daresOf.data.toList.drop 23 = dktX4_daresOf_1 := dk_seg dksX4_daresOf_0 23 rfl rfl
theorem dksX4_daresOf_2 : cX4_daresOf.data.toList.drop 47 = dktX4_daresOf_2 := dk_seg dksX4_daresOf_1 24 rfl rfl
theorem dX4_daresOf_0 : decode cX4_daresOf 0 = .ok (.iload_n 2, 1) := dk_28 (dk_at dksX4_daresOf_0 0 rfl rfl)
theorem dX4_daresOf_1 : decode cX4_daresOf 1 = .ok (.ifCond .ne 14, 3) := dk_154 0 14 (dk_at dksX4_daresOf_0 1 rfl rfl)
theorem dX4_daresOf_4 : decode cX4_daresOf 4 = .ok (.iload_n 3, 1) := dk_29 (dk_at dksX4_daresOf_0 4 rfl rfl)
theorem dX4_daresOf_5 : decode cX4_daresOf 5 = .ok (.iconst 1, 1) := dk_4 (dk_at dksX4_daresOf_0 5 rfl rfl)
theorem dX4_daresOf_6 : decode cX4_daresOf 6 = .ok (.if_icmp .ne 7, 3) := dk_160 0 7 (dk_at dksX4_daresOf_0 6 rfl rfl)
theorem dX4_daresOf_9 : decode cX4_daresOf 9 = .ok (.iconst (-1), 1) := dk_2 (dk_at dksX4_daresOf_0 9 rfl rfl)
theorem dX4_daresOf_10 : decode cX4_daresOf 10 = .ok (.goto 4, 3) := dk_167 0 4 (dk_at dksX4_daresOf_0 10 rfl rfl)
theorem dX4_daresOf_13 : decode cX4_daresOf 13 = .ok (.iconst 0, 1) := dk_3 (dk_at dksX4_daresOf_0 13 rfl rfl)
theorem dX4_daresOf_14 : decode cX4_daresOf 14 = .ok (.ireturn, 1) := dk_172 (dk_at dksX4_daresOf_0 14 rfl rfl)
theorem dX4_daresOf_15 : decode cX4_daresOf 15 = .ok (.aload_n 0, 1) := dk_42 (dk_at dksX4_daresOf_0 15 rfl rfl)
theorem dX4_daresOf_16 : decode cX4_daresOf 16 = .ok (.getfield 19, 3) := dk_180 0 19 (dk_at dksX4_daresOf_0 16 rfl rfl)
theorem dX4_daresOf_19 : decode cX4_daresOf 19 = .ok (.iload_n 1, 1) := dk_27 (dk_at dksX4_daresOf_0 19 rfl rfl)
theorem dX4_daresOf_20 : decode cX4_daresOf 20 = .ok (.iaload, 1) := dk_46 (dk_at dksX4_daresOf_0 20 rfl rfl)
theorem dX4_daresOf_21 : decode cX4_daresOf 21 = .ok (.bipush 7, 2) := dk_16 7 (dk_at dksX4_daresOf_0 21 rfl rfl)
theorem dX4_daresOf_23 : decode cX4_daresOf 23 = .ok (.if_icmp .eq 11, 3) := dk_159 0 11 (dk_at dksX4_daresOf_1 0 rfl rfl)
theorem dX4_daresOf_26 : decode cX4_daresOf 26 = .ok (.aload_n 0, 1) := dk_42 (dk_at dksX4_daresOf_1 3 rfl rfl)
theorem dX4_daresOf_27 : decode cX4_daresOf 27 = .ok (.iload_n 1, 1) := dk_27 (dk_at dksX4_daresOf_1 4 rfl rfl)
theorem dX4_daresOf_28 : decode cX4_daresOf 28 = .ok (.invokevirtual 109, 3) := dk_182 0 109 (dk_at dksX4_daresOf_1 5 rfl rfl)
theorem dX4_daresOf_31 : decode cX4_daresOf 31 = .ok (.ifCond .eq 7, 3) := dk_153 0 7 (dk_at dksX4_daresOf_1 8 rfl rfl)
theorem dX4_daresOf_34 : decode cX4_daresOf 34 = .ok (.iconst 1, 1) := dk_4 (dk_at dksX4_daresOf_1 11 rfl rfl)
theorem dX4_daresOf_35 : decode cX4_daresOf 35 = .ok (.goto 4, 3) := dk_167 0 4 (dk_at dksX4_daresOf_1 12 rfl rfl)
theorem dX4_daresOf_38 : decode cX4_daresOf 38 = .ok (.iconst 0, 1) := dk_3 (dk_at dksX4_daresOf_1 15 rfl rfl)
theorem dX4_daresOf_39 : decode cX4_daresOf 39 = .ok (.istore 4, 2) := dk_54 4 (dk_at dksX4_daresOf_1 16 rfl rfl)
theorem dX4_daresOf_41 : decode cX4_daresOf 41 = .ok (.iload_n 3, 1) := dk_29 (dk_at dksX4_daresOf_1 18 rfl rfl)
theorem dX4_daresOf_42 : decode cX4_daresOf 42 = .ok (.iconst 1, 1) := dk_4 (dk_at dksX4_daresOf_1 19 rfl rfl)
theorem dX4_daresOf_43 : decode cX4_daresOf 43 = .ok (.if_icmp .ne 7, 3) := dk_160 0 7 (dk_at dksX4_daresOf_1 20 rfl rfl)
theorem dX4_daresOf_46 : decode cX4_daresOf 46 = .ok (.iconst 2, 1) := dk_5 (dk_at dksX4_daresOf_1 23 rfl rfl)
theorem dX4_daresOf_47 : decode cX4_daresOf 47 = .ok (.goto 4, 3) := dk_167 0 4 (dk_at dksX4_daresOf_2 0 rfl rfl)
theorem dX4_daresOf_50 : decode cX4_daresOf 50 = .ok (.iconst 1, 1) := dk_4 (dk_at dksX4_daresOf_2 3 rfl rfl)
theorem dX4_daresOf_51 : decode cX4_daresOf 51 = .ok (.iload 4, 2) := dk_21 4 (dk_at dksX4_daresOf_2 4 rfl rfl)
theorem dX4_daresOf_53 : decode cX4_daresOf 53 = .ok (.ifCond .eq 7, 3) := dk_153 0 7 (dk_at dksX4_daresOf_2 6 rfl rfl)
theorem dX4_daresOf_56 : decode cX4_daresOf 56 = .ok (.iconst 0, 1) := dk_3 (dk_at dksX4_daresOf_2 9 rfl rfl)
theorem dX4_daresOf_57 : decode cX4_daresOf 57 = .ok (.goto 8, 3) := dk_167 0 8 (dk_at dksX4_daresOf_2 10 rfl rfl)
theorem dX4_daresOf_60 : decode cX4_daresOf 60 = .ok (.aload_n 0, 1) := dk_42 (dk_at dksX4_daresOf_2 13 rfl rfl)
theorem dX4_daresOf_61 : decode cX4_daresOf 61 = .ok (.iload_n 1, 1) := dk_27 (dk_at dksX4_daresOf_2 14 rfl rfl)
theorem dX4_daresOf_62 : decode cX4_daresOf 62 = .ok (.invokevirtual 116, 3) := dk_182 0 116 (dk_at dksX4_daresOf_2 15 rfl rfl)
theorem dX4_daresOf_65 : decode cX4_daresOf 65 = .ok (.isub, 1) := dk_100 (dk_at dksX4_daresOf_2 18 rfl rfl)
theorem dX4_daresOf_66 : decode cX4_daresOf 66 = .ok (.ireturn, 1) := dk_172 (dk_at dksX4_daresOf_2 19 rfl rfl)
abbrev cX4_group : ByteArray := prog_21_method_76_code
def yX4_group : MethodName := ⟨RX4, "group", "(II)I"⟩
def dkwX4_group_5 : List UInt8 := [132, 4, 1, 167, 255, 171, 28, 154, 0, 7, 29, 167, 0, 7, 29, 184, 1, 26, 172]
abbrev dktX4_group_5 : List UInt8 := dkwX4_group_5 ++ []
def dkwX4_group_4 : List UInt8 := [163, 0, 20, 21, 4, 184, 1, 26, 29, 184, 1, 26, 164, 0, 8, 21, 4, 167, 0, 4, 29, 62]
abbrev dktX4_group_4 : List UInt8 := dkwX4_group_4 ++ dktX4_group_5
def dkwX4_group_3 : List UInt8 := [42, 21, 6, 182, 0, 122, 167, 0, 4, 3, 96, 54, 5, 132, 6, 1, 167, 255, 219, 21, 5, 27]
abbrev dktX4_group_3 : List UInt8 := dkwX4_group_3 ++ dktX4_group_4
def dkwX4_group_2 : List UInt8 := [3, 54, 6, 21, 6, 42, 180, 0, 81, 162, 0, 34, 21, 5, 21, 4, 21, 6, 184, 1, 32, 153, 0, 12]
abbrev dktX4_group_2 : List UInt8 := dkwX4_group_2 ++ dktX4_group_3
def dkwX4_group_1 : List UInt8 := [154, 0, 5, 2, 172, 3, 62, 4, 54, 4, 21, 4, 4, 42, 180, 0, 81, 120, 162, 0, 80, 3, 54, 5]
abbrev dktX4_group_1 : List UInt8 := dkwX4_group_1 ++ dktX4_group_2
def dkwX4_group_0 : List UInt8 := [42, 3, 181, 0, 77, 27, 133, 9, 20, 1, 57, 184, 0, 84, 153, 0, 13, 28, 133, 9, 10, 184, 0, 84]
abbrev dktX4_group_0 : List UInt8 := dkwX4_group_0 ++ dktX4_group_1
theorem dksX4_group_0 : cX4_group.data.toList.drop 0 = dktX4_group_0 := by decide +kernel
theorem dksX4_group_1 : cX4_group.data.toList.drop 24 = dktX4_group_1 := dk_seg dksX4_group_0 24 rfl rfl
theorem dksX4_group_2 : cX4_group.data.toList.drop 48 = dktX4_group_2 := dk_seg dksX4_group_1 24 rfl rfl
theorem dksX4_group_3 : cX4_group.data.toList.drop 72 = dktX4_group_3 := dk_seg dksX4_group_2 24 rfl rfl
theorem dksX4_group_4 : cX4_group.data.toList.drop 94 = dktX4_group_4 := dk_seg dksX4_group_3 22 rfl rfl
theorem dksX4_group_5 : cX4_group.data.toList.drop 116 = dktX4_group_5 := dk_seg dksX4_group_4 22 rfl rfl
theorem dX4_group_0 : decode cX4_group 0 = .ok (.aload_n 0, 1) := dk_42 (dk_at dksX4_group_0 0 rfl rfl)
theorem dX4_group_1 : decode cX4_group 1 = .ok (.iconst 0, 1) := dk_3 (dk_at dksX4_group_0 1 rfl rfl)
theorem dX4_group_2 : decode cX4_group 2 = .ok (.putfield 77, 3) := dk_181 0 77 (dk_at dksX4_group_0 2 rfl rfl)
theorem dX4_group_5 : decode cX4_group 5 = .ok (.iload_n 1, 1) := dk_27 (dk_at dksX4_group_0 5 rfl rfl)
theorem dX4_group_6 : decode cX4_group 6 = .ok (.i2l, 1) := dk_133 (dk_at dksX4_group_0 6 rfl rfl)
theorem dX4_group_7 : decode cX4_group 7 = .ok (.lconst 0, 1) := dk_9 (dk_at dksX4_group_0 7 rfl rfl)
theorem dX4_group_8 : decode cX4_group 8 = .ok (.ldc2_w 313, 3) := dk_20 1 57 (dk_at dksX4_group_0 8 rfl rfl)
theorem dX4_group_11 : decode cX4_group 11 = .ok (.invokestatic 84, 3) := dk_184 0 84 (dk_at dksX4_group_0 11 rfl rfl)
theorem dX4_group_14 : decode cX4_group 14 = .ok (.ifCond .eq 13, 3) := dk_153 0 13 (dk_at dksX4_group_0 14 rfl rfl)
theorem dX4_group_17 : decode cX4_group 17 = .ok (.iload_n 2, 1) := dk_28 (dk_at dksX4_group_0 17 rfl rfl)
theorem dX4_group_18 : decode cX4_group 18 = .ok (.i2l, 1) := dk_133 (dk_at dksX4_group_0 18 rfl rfl)
theorem dX4_group_19 : decode cX4_group 19 = .ok (.lconst 0, 1) := dk_9 (dk_at dksX4_group_0 19 rfl rfl)
theorem dX4_group_20 : decode cX4_group 20 = .ok (.lconst 1, 1) := dk_10 (dk_at dksX4_group_0 20 rfl rfl)
theorem dX4_group_21 : decode cX4_group 21 = .ok (.invokestatic 84, 3) := dk_184 0 84 (dk_at dksX4_group_0 21 rfl rfl)
theorem dX4_group_24 : decode cX4_group 24 = .ok (.ifCond .ne 5, 3) := dk_154 0 5 (dk_at dksX4_group_1 0 rfl rfl)
theorem dX4_group_27 : decode cX4_group 27 = .ok (.iconst (-1), 1) := dk_2 (dk_at dksX4_group_1 3 rfl rfl)
theorem dX4_group_28 : decode cX4_group 28 = .ok (.ireturn, 1) := dk_172 (dk_at dksX4_group_1 4 rfl rfl)
theorem dX4_group_29 : decode cX4_group 29 = .ok (.iconst 0, 1) := dk_3 (dk_at dksX4_group_1 5 rfl rfl)
theorem dX4_group_30 : decode cX4_group 30 = .ok (.istore_n 3, 1) := dk_62 (dk_at dksX4_group_1 6 rfl rfl)
theorem dX4_group_31 : decode cX4_group 31 = .ok (.iconst 1, 1) := dk_4 (dk_at dksX4_group_1 7 rfl rfl)
theorem dX4_group_32 : decode cX4_group 32 = .ok (.istore 4, 2) := dk_54 4 (dk_at dksX4_group_1 8 rfl rfl)
theorem dX4_group_34 : decode cX4_group 34 = .ok (.iload 4, 2) := dk_21 4 (dk_at dksX4_group_1 10 rfl rfl)
theorem dX4_group_36 : decode cX4_group 36 = .ok (.iconst 1, 1) := dk_4 (dk_at dksX4_group_1 12 rfl rfl)
theorem dX4_group_37 : decode cX4_group 37 = .ok (.aload_n 0, 1) := dk_42 (dk_at dksX4_group_1 13 rfl rfl)
theorem dX4_group_38 : decode cX4_group 38 = .ok (.getfield 81, 3) := dk_180 0 81 (dk_at dksX4_group_1 14 rfl rfl)
theorem dX4_group_41 : decode cX4_group 41 = .ok (.ishl, 1) := dk_120 (dk_at dksX4_group_1 17 rfl rfl)
theorem dX4_group_42 : decode cX4_group 42 = .ok (.if_icmp .ge 80, 3) := dk_162 0 80 (dk_at dksX4_group_1 18 rfl rfl)
theorem dX4_group_45 : decode cX4_group 45 = .ok (.iconst 0, 1) := dk_3 (dk_at dksX4_group_1 21 rfl rfl)
theorem dX4_group_46 : decode cX4_group 46 = .ok (.istore 5, 2) := dk_54 5 (dk_at dksX4_group_1 22 rfl rfl)
theorem dX4_group_48 : decode cX4_group 48 = .ok (.iconst 0, 1) := dk_3 (dk_at dksX4_group_2 0 rfl rfl)
theorem dX4_group_49 : decode cX4_group 49 = .ok (.istore 6, 2) := dk_54 6 (dk_at dksX4_group_2 1 rfl rfl)
theorem dX4_group_51 : decode cX4_group 51 = .ok (.iload 6, 2) := dk_21 6 (dk_at dksX4_group_2 3 rfl rfl)
theorem dX4_group_53 : decode cX4_group 53 = .ok (.aload_n 0, 1) := dk_42 (dk_at dksX4_group_2 5 rfl rfl)
theorem dX4_group_54 : decode cX4_group 54 = .ok (.getfield 81, 3) := dk_180 0 81 (dk_at dksX4_group_2 6 rfl rfl)
theorem dX4_group_57 : decode cX4_group 57 = .ok (.if_icmp .ge 34, 3) := dk_162 0 34 (dk_at dksX4_group_2 9 rfl rfl)
theorem dX4_group_60 : decode cX4_group 60 = .ok (.iload 5, 2) := dk_21 5 (dk_at dksX4_group_2 12 rfl rfl)
theorem dX4_group_62 : decode cX4_group 62 = .ok (.iload 4, 2) := dk_21 4 (dk_at dksX4_group_2 14 rfl rfl)
theorem dX4_group_64 : decode cX4_group 64 = .ok (.iload 6, 2) := dk_21 6 (dk_at dksX4_group_2 16 rfl rfl)
theorem dX4_group_66 : decode cX4_group 66 = .ok (.invokestatic 288, 3) := dk_184 1 32 (dk_at dksX4_group_2 18 rfl rfl)
theorem dX4_group_69 : decode cX4_group 69 = .ok (.ifCond .eq 12, 3) := dk_153 0 12 (dk_at dksX4_group_2 21 rfl rfl)
theorem dX4_group_72 : decode cX4_group 72 = .ok (.aload_n 0, 1) := dk_42 (dk_at dksX4_group_3 0 rfl rfl)
theorem dX4_group_73 : decode cX4_group 73 = .ok (.iload 6, 2) := dk_21 6 (dk_at dksX4_group_3 1 rfl rfl)
theorem dX4_group_75 : decode cX4_group 75 = .ok (.invokevirtual 122, 3) := dk_182 0 122 (dk_at dksX4_group_3 3 rfl rfl)
theorem dX4_group_78 : decode cX4_group 78 = .ok (.goto 4, 3) := dk_167 0 4 (dk_at dksX4_group_3 6 rfl rfl)
theorem dX4_group_81 : decode cX4_group 81 = .ok (.iconst 0, 1) := dk_3 (dk_at dksX4_group_3 9 rfl rfl)
theorem dX4_group_82 : decode cX4_group 82 = .ok (.iadd, 1) := dk_96 (dk_at dksX4_group_3 10 rfl rfl)
theorem dX4_group_83 : decode cX4_group 83 = .ok (.istore 5, 2) := dk_54 5 (dk_at dksX4_group_3 11 rfl rfl)
theorem dX4_group_85 : decode cX4_group 85 = .ok (.iinc 6 1, 3) := dk_132 6 1 (dk_at dksX4_group_3 13 rfl rfl)
theorem dX4_group_88 : decode cX4_group 88 = .ok (.goto (-37), 3) := dk_167 255 219 (dk_at dksX4_group_3 16 rfl rfl)
theorem dX4_group_91 : decode cX4_group 91 = .ok (.iload 5, 2) := dk_21 5 (dk_at dksX4_group_3 19 rfl rfl)
theorem dX4_group_93 : decode cX4_group 93 = .ok (.iload_n 1, 1) := dk_27 (dk_at dksX4_group_3 21 rfl rfl)
theorem dX4_group_94 : decode cX4_group 94 = .ok (.if_icmp .gt 20, 3) := dk_163 0 20 (dk_at dksX4_group_4 0 rfl rfl)
theorem dX4_group_97 : decode cX4_group 97 = .ok (.iload 4, 2) := dk_21 4 (dk_at dksX4_group_4 3 rfl rfl)
theorem dX4_group_99 : decode cX4_group 99 = .ok (.invokestatic 282, 3) := dk_184 1 26 (dk_at dksX4_group_4 5 rfl rfl)
theorem dX4_group_102 : decode cX4_group 102 = .ok (.iload_n 3, 1) := dk_29 (dk_at dksX4_group_4 8 rfl rfl)
theorem dX4_group_103 : decode cX4_group 103 = .ok (.invokestatic 282, 3) := dk_184 1 26 (dk_at dksX4_group_4 9 rfl rfl)
theorem dX4_group_106 : decode cX4_group 106 = .ok (.if_icmp .le 8, 3) := dk_164 0 8 (dk_at dksX4_group_4 12 rfl rfl)
theorem dX4_group_109 : decode cX4_group 109 = .ok (.iload 4, 2) := dk_21 4 (dk_at dksX4_group_4 15 rfl rfl)
theorem dX4_group_111 : decode cX4_group 111 = .ok (.goto 4, 3) := dk_167 0 4 (dk_at dksX4_group_4 17 rfl rfl)
theorem dX4_group_114 : decode cX4_group 114 = .ok (.iload_n 3, 1) := dk_29 (dk_at dksX4_group_4 20 rfl rfl)
theorem dX4_group_115 : decode cX4_group 115 = .ok (.istore_n 3, 1) := dk_62 (dk_at dksX4_group_4 21 rfl rfl)
theorem dX4_group_116 : decode cX4_group 116 = .ok (.iinc 4 1, 3) := dk_132 4 1 (dk_at dksX4_group_5 0 rfl rfl)
theorem dX4_group_119 : decode cX4_group 119 = .ok (.goto (-85), 3) := dk_167 255 171 (dk_at dksX4_group_5 3 rfl rfl)
theorem dX4_group_122 : decode cX4_group 122 = .ok (.iload_n 2, 1) := dk_28 (dk_at dksX4_group_5 6 rfl rfl)
theorem dX4_group_123 : decode cX4_group 123 = .ok (.ifCond .ne 7, 3) := dk_154 0 7 (dk_at dksX4_group_5 7 rfl rfl)
theorem dX4_group_126 : decode cX4_group 126 = .ok (.iload_n 3, 1) := dk_29 (dk_at dksX4_group_5 10 rfl rfl)
theorem dX4_group_127 : decode cX4_group 127 = .ok (.goto 7, 3) := dk_167 0 7 (dk_at dksX4_group_5 11 rfl rfl)
theorem dX4_group_130 : decode cX4_group 130 = .ok (.iload_n 3, 1) := dk_29 (dk_at dksX4_group_5 14 rfl rfl)
theorem dX4_group_131 : decode cX4_group 131 = .ok (.invokestatic 282, 3) := dk_184 1 26 (dk_at dksX4_group_5 15 rfl rfl)
theorem dX4_group_134 : decode cX4_group 134 = .ok (.ireturn, 1) := dk_172 (dk_at dksX4_group_5 18 rfl rfl)
abbrev cX4_forget : ByteArray := prog_21_method_77_code
def yX4_forget : MethodName := ⟨RX4, "forget", "()I"⟩
def dkwX4_forget_2 : List UInt8 := [172]
abbrev dktX4_forget_2 : List UInt8 := dkwX4_forget_2 ++ []
def dkwX4_forget_1 : List UInt8 := [42, 182, 0, 237, 154, 0, 7, 28, 167, 0, 4, 27, 60, 42, 182, 0, 201, 132, 2, 255, 167, 255, 223, 27]
abbrev dktX4_forget_1 : List UInt8 := dkwX4_forget_1 ++ dktX4_forget_2
def dkwX4_forget_0 : List UInt8 := [42, 3, 181, 0, 77, 16, 252, 60, 16, 9, 61, 28, 155, 0, 35, 42, 182, 0, 195, 42, 28, 182, 0, 183]
abbrev dktX4_forget_0 : List UInt8 := dkwX4_forget_0 ++ dktX4_forget_1
theorem dksX4_forget_0 : cX4_forget.data.toList.drop 0 = dktX4_forget_0 := by decide +kernel
theorem dksX4_forget_1 : cX4_forget.data.toList.drop 24 = dktX4_forget_1 := dk_seg dksX4_forget_0 24 rfl rfl
theorem dksX4_forget_2 : cX4_forget.data.toList.drop 48 = dktX4_forget_2 := dk_seg dksX4_forget_1 24 rfl rfl
theorem dX4_forget_0 : decode cX4_forget 0 = .ok (.aload_n 0, 1) := dk_42 (dk_at dksX4_forget_0 0 rfl rfl)
theorem dX4_forget_1 : decode cX4_forget 1 = .ok (.iconst 0, 1) := dk_3 (dk_at dksX4_forget_0 1 rfl rfl)
theorem dX4_forget_2 : decode cX4_forget 2 = .ok (.putfield 77, 3) := dk_181 0 77 (dk_at dksX4_forget_0 2 rfl rfl)
theorem dX4_forget_5 : decode cX4_forget 5 = .ok (.bipush (-4), 2) := dk_16 252 (dk_at dksX4_forget_0 5 rfl rfl)
theorem dX4_forget_7 : decode cX4_forget 7 = .ok (.istore_n 1, 1) := dk_60 (dk_at dksX4_forget_0 7 rfl rfl)
theorem dX4_forget_8 : decode cX4_forget 8 = .ok (.bipush 9, 2) := dk_16 9 (dk_at dksX4_forget_0 8 rfl rfl)
theorem dX4_forget_10 : decode cX4_forget 10 = .ok (.istore_n 2, 1) := dk_61 (dk_at dksX4_forget_0 10 rfl rfl)
theorem dX4_forget_11 : decode cX4_forget 11 = .ok (.iload_n 2, 1) := dk_28 (dk_at dksX4_forget_0 11 rfl rfl)
theorem dX4_forget_12 : decode cX4_forget 12 = .ok (.ifCond .lt 35, 3) := dk_155 0 35 (dk_at dksX4_forget_0 12 rfl rfl)
theorem dX4_forget_15 : decode cX4_forget 15 = .ok (.aload_n 0, 1) := dk_42 (dk_at dksX4_forget_0 15 rfl rfl)
theorem dX4_forget_16 : decode cX4_forget 16 = .ok (.invokevirtual 195, 3) := dk_182 0 195 (dk_at dksX4_forget_0 16 rfl rfl)
theorem dX4_forget_19 : decode cX4_forget 19 = .ok (.aload_n 0, 1) := dk_42 (dk_at dksX4_forget_0 19 rfl rfl)
theorem dX4_forget_20 : decode cX4_forget 20 = .ok (.iload_n 2, 1) := dk_28 (dk_at dksX4_forget_0 20 rfl rfl)
theorem dX4_forget_21 : decode cX4_forget 21 = .ok (.invokevirtual 183, 3) := dk_182 0 183 (dk_at dksX4_forget_0 21 rfl rfl)
theorem dX4_forget_24 : decode cX4_forget 24 = .ok (.aload_n 0, 1) := dk_42 (dk_at dksX4_forget_1 0 rfl rfl)
theorem dX4_forget_25 : decode cX4_forget 25 = .ok (.invokevirtual 237, 3) := dk_182 0 237 (dk_at dksX4_forget_1 1 rfl rfl)
theorem dX4_forget_28 : decode cX4_forget 28 = .ok (.ifCond .ne 7, 3) := dk_154 0 7 (dk_at dksX4_forget_1 4 rfl rfl)
theorem dX4_forget_31 : decode cX4_forget 31 = .ok (.iload_n 2, 1) := dk_28 (dk_at dksX4_forget_1 7 rfl rfl)
theorem dX4_forget_32 : decode cX4_forget 32 = .ok (.goto 4, 3) := dk_167 0 4 (dk_at dksX4_forget_1 8 rfl rfl)
theorem dX4_forget_35 : decode cX4_forget 35 = .ok (.iload_n 1, 1) := dk_27 (dk_at dksX4_forget_1 11 rfl rfl)
theorem dX4_forget_36 : decode cX4_forget 36 = .ok (.istore_n 1, 1) := dk_60 (dk_at dksX4_forget_1 12 rfl rfl)
theorem dX4_forget_37 : decode cX4_forget 37 = .ok (.aload_n 0, 1) := dk_42 (dk_at dksX4_forget_1 13 rfl rfl)
theorem dX4_forget_38 : decode cX4_forget 38 = .ok (.invokevirtual 201, 3) := dk_182 0 201 (dk_at dksX4_forget_1 14 rfl rfl)
theorem dX4_forget_41 : decode cX4_forget 41 = .ok (.iinc 2 (-1), 3) := dk_132 2 255 (dk_at dksX4_forget_1 17 rfl rfl)
theorem dX4_forget_44 : decode cX4_forget 44 = .ok (.goto (-33), 3) := dk_167 255 223 (dk_at dksX4_forget_1 20 rfl rfl)
theorem dX4_forget_47 : decode cX4_forget 47 = .ok (.iload_n 1, 1) := dk_27 (dk_at dksX4_forget_1 23 rfl rfl)
theorem dX4_forget_48 : decode cX4_forget 48 = .ok (.ireturn, 1) := dk_172 (dk_at dksX4_forget_2 0 rfl rfl)
abbrev cX4_coldest : ByteArray := prog_21_method_78_code
def yX4_coldest : MethodName := ⟨RX4, "coldest", "(II)I"⟩
def dkwX4_coldest_4 : List UInt8 := [167, 255, 195, 29, 172]
abbrev dktX4_coldest_4 : List UInt8 := dkwX4_coldest_4 ++ []
def dkwX4_coldest_3 : List UInt8 := [16, 20, 184, 0, 103, 42, 21, 4, 182, 0, 119, 164, 0, 7, 4, 167, 0, 4, 3, 96, 62, 132, 4, 1]
abbrev dktX4_coldest_3 : List UInt8 := dkwX4_coldest_3 ++ dktX4_coldest_4
def dkwX4_coldest_2 : List UInt8 := [159, 0, 42, 42, 180, 0, 19, 21, 4, 46, 16, 7, 162, 0, 30, 42, 180, 0, 22, 21, 4, 46, 28, 96]
abbrev dktX4_coldest_2 : List UInt8 := dkwX4_coldest_2 ++ dktX4_coldest_3
def dkwX4_coldest_1 : List UInt8 := [154, 0, 5, 2, 172, 3, 62, 3, 54, 4, 21, 4, 42, 180, 0, 81, 162, 0, 58, 29, 21, 4, 27]
abbrev dktX4_coldest_1 : List UInt8 := dkwX4_coldest_1 ++ dktX4_coldest_2
def dkwX4_coldest_0 : List UInt8 := [42, 3, 181, 0, 77, 42, 27, 182, 0, 99, 153, 0, 15, 28, 133, 9, 20, 1, 59, 184, 0, 84]
abbrev dktX4_coldest_0 : List UInt8 := dkwX4_coldest_0 ++ dktX4_coldest_1
theorem dksX4_coldest_0 : cX4_coldest.data.toList.drop 0 = dktX4_coldest_0 := by decide +kernel
theorem dksX4_coldest_1 : cX4_coldest.data.toList.drop 22 = dktX4_coldest_1 := dk_seg dksX4_coldest_0 22 rfl rfl
theorem dksX4_coldest_2 : cX4_coldest.data.toList.drop 45 = dktX4_coldest_2 := dk_seg dksX4_coldest_1 23 rfl rfl
theorem dksX4_coldest_3 : cX4_coldest.data.toList.drop 69 = dktX4_coldest_3 := dk_seg dksX4_coldest_2 24 rfl rfl
theorem dksX4_coldest_4 : cX4_coldest.data.toList.drop 93 = dktX4_coldest_4 := dk_seg dksX4_coldest_3 24 rfl rfl
theorem dX4_coldest_0 : decode cX4_coldest 0 = .ok (.aload_n 0, 1) := dk_42 (dk_at dksX4_coldest_0 0 rfl rfl)
theorem dX4_coldest_1 : decode cX4_coldest 1 = .ok (.iconst 0, 1) := dk_3 (dk_at dksX4_coldest_0 1 rfl rfl)
theorem dX4_coldest_2 : decode cX4_coldest 2 = .ok (.putfield 77, 3) := dk_181 0 77 (dk_at dksX4_coldest_0 2 rfl rfl)
theorem dX4_coldest_5 : decode cX4_coldest 5 = .ok (.aload_n 0, 1) := dk_42 (dk_at dksX4_coldest_0 5 rfl rfl)
theorem dX4_coldest_6 : decode cX4_coldest 6 = .ok (.iload_n 1, 1) := dk_27 (dk_at dksX4_coldest_0 6 rfl rfl)
theorem dX4_coldest_7 : decode cX4_coldest 7 = .ok (.invokevirtual 99, 3) := dk_182 0 99 (dk_at dksX4_coldest_0 7 rfl rfl)
theorem dX4_coldest_10 : decode cX4_coldest 10 = .ok (.ifCond .eq 15, 3) := dk_153 0 15 (dk_at dksX4_coldest_0 10 rfl rfl)
theorem dX4_coldest_13 : decode cX4_coldest 13 = .ok (.iload_n 2, 1) := dk_28 (dk_at dksX4_coldest_0 13 rfl rfl)
theorem dX4_coldest_14 : decode cX4_coldest 14 = .ok (.i2l, 1) := dk_133 (dk_at dksX4_coldest_0 14 rfl rfl)
theorem dX4_coldest_15 : decode cX4_coldest 15 = .ok (.lconst 0, 1) := dk_9 (dk_at dksX4_coldest_0 15 rfl rfl)
theorem dX4_coldest_16 : decode cX4_coldest 16 = .ok (.ldc2_w 315, 3) := dk_20 1 59 (dk_at dksX4_coldest_0 16 rfl rfl)
theorem dX4_coldest_19 : decode cX4_coldest 19 = .ok (.invokestatic 84, 3) := dk_184 0 84 (dk_at dksX4_coldest_0 19 rfl rfl)
theorem dX4_coldest_22 : decode cX4_coldest 22 = .ok (.ifCond .ne 5, 3) := dk_154 0 5 (dk_at dksX4_coldest_1 0 rfl rfl)
theorem dX4_coldest_25 : decode cX4_coldest 25 = .ok (.iconst (-1), 1) := dk_2 (dk_at dksX4_coldest_1 3 rfl rfl)
theorem dX4_coldest_26 : decode cX4_coldest 26 = .ok (.ireturn, 1) := dk_172 (dk_at dksX4_coldest_1 4 rfl rfl)
theorem dX4_coldest_27 : decode cX4_coldest 27 = .ok (.iconst 0, 1) := dk_3 (dk_at dksX4_coldest_1 5 rfl rfl)
theorem dX4_coldest_28 : decode cX4_coldest 28 = .ok (.istore_n 3, 1) := dk_62 (dk_at dksX4_coldest_1 6 rfl rfl)
theorem dX4_coldest_29 : decode cX4_coldest 29 = .ok (.iconst 0, 1) := dk_3 (dk_at dksX4_coldest_1 7 rfl rfl)
theorem dX4_coldest_30 : decode cX4_coldest 30 = .ok (.istore 4, 2) := dk_54 4 (dk_at dksX4_coldest_1 8 rfl rfl)
theorem dX4_coldest_32 : decode cX4_coldest 32 = .ok (.iload 4, 2) := dk_21 4 (dk_at dksX4_coldest_1 10 rfl rfl)
theorem dX4_coldest_34 : decode cX4_coldest 34 = .ok (.aload_n 0, 1) := dk_42 (dk_at dksX4_coldest_1 12 rfl rfl)
theorem dX4_coldest_35 : decode cX4_coldest 35 = .ok (.getfield 81, 3) := dk_180 0 81 (dk_at dksX4_coldest_1 13 rfl rfl)
theorem dX4_coldest_38 : decode cX4_coldest 38 = .ok (.if_icmp .ge 58, 3) := dk_162 0 58 (dk_at dksX4_coldest_1 16 rfl rfl)
theorem dX4_coldest_41 : decode cX4_coldest 41 = .ok (.iload_n 3, 1) := dk_29 (dk_at dksX4_coldest_1 19 rfl rfl)
theorem dX4_coldest_42 : decode cX4_coldest 42 = .ok (.iload 4, 2) := dk_21 4 (dk_at dksX4_coldest_1 20 rfl rfl)
theorem dX4_coldest_44 : decode cX4_coldest 44 = .ok (.iload_n 1, 1) := dk_27 (dk_at dksX4_coldest_1 22 rfl rfl)
theorem dX4_coldest_45 : decode cX4_coldest 45 = .ok (.if_icmp .eq 42, 3) := dk_159 0 42 (dk_at dksX4_coldest_2 0 rfl rfl)
theorem dX4_coldest_48 : decode cX4_coldest 48 = .ok (.aload_n 0, 1) := dk_42 (dk_at dksX4_coldest_2 3 rfl rfl)
theorem dX4_coldest_49 : decode cX4_coldest 49 = .ok (.getfield 19, 3) := dk_180 0 19 (dk_at dksX4_coldest_2 4 rfl rfl)
theorem dX4_coldest_52 : decode cX4_coldest 52 = .ok (.iload 4, 2) := dk_21 4 (dk_at dksX4_coldest_2 7 rfl rfl)
theorem dX4_coldest_54 : decode cX4_coldest 54 = .ok (.iaload, 1) := dk_46 (dk_at dksX4_coldest_2 9 rfl rfl)
theorem dX4_coldest_55 : decode cX4_coldest 55 = .ok (.bipush 7, 2) := dk_16 7 (dk_at dksX4_coldest_2 10 rfl rfl)
theorem dX4_coldest_57 : decode cX4_coldest 57 = .ok (.if_icmp .ge 30, 3) := dk_162 0 30 (dk_at dksX4_coldest_2 12 rfl rfl)
theorem dX4_coldest_60 : decode cX4_coldest 60 = .ok (.aload_n 0, 1) := dk_42 (dk_at dksX4_coldest_2 15 rfl rfl)
theorem dX4_coldest_61 : decode cX4_coldest 61 = .ok (.getfield 22, 3) := dk_180 0 22 (dk_at dksX4_coldest_2 16 rfl rfl)
theorem dX4_coldest_64 : decode cX4_coldest 64 = .ok (.iload 4, 2) := dk_21 4 (dk_at dksX4_coldest_2 19 rfl rfl)
theorem dX4_coldest_66 : decode cX4_coldest 66 = .ok (.iaload, 1) := dk_46 (dk_at dksX4_coldest_2 21 rfl rfl)
theorem dX4_coldest_67 : decode cX4_coldest 67 = .ok (.iload_n 2, 1) := dk_28 (dk_at dksX4_coldest_2 22 rfl rfl)
theorem dX4_coldest_68 : decode cX4_coldest 68 = .ok (.iadd, 1) := dk_96 (dk_at dksX4_coldest_2 23 rfl rfl)
theorem dX4_coldest_69 : decode cX4_coldest 69 = .ok (.bipush 20, 2) := dk_16 20 (dk_at dksX4_coldest_3 0 rfl rfl)
theorem dX4_coldest_71 : decode cX4_coldest 71 = .ok (.invokestatic 103, 3) := dk_184 0 103 (dk_at dksX4_coldest_3 2 rfl rfl)
theorem dX4_coldest_74 : decode cX4_coldest 74 = .ok (.aload_n 0, 1) := dk_42 (dk_at dksX4_coldest_3 5 rfl rfl)
theorem dX4_coldest_75 : decode cX4_coldest 75 = .ok (.iload 4, 2) := dk_21 4 (dk_at dksX4_coldest_3 6 rfl rfl)
theorem dX4_coldest_77 : decode cX4_coldest 77 = .ok (.invokevirtual 119, 3) := dk_182 0 119 (dk_at dksX4_coldest_3 8 rfl rfl)
theorem dX4_coldest_80 : decode cX4_coldest 80 = .ok (.if_icmp .le 7, 3) := dk_164 0 7 (dk_at dksX4_coldest_3 11 rfl rfl)
theorem dX4_coldest_83 : decode cX4_coldest 83 = .ok (.iconst 1, 1) := dk_4 (dk_at dksX4_coldest_3 14 rfl rfl)
theorem dX4_coldest_84 : decode cX4_coldest 84 = .ok (.goto 4, 3) := dk_167 0 4 (dk_at dksX4_coldest_3 15 rfl rfl)
theorem dX4_coldest_87 : decode cX4_coldest 87 = .ok (.iconst 0, 1) := dk_3 (dk_at dksX4_coldest_3 18 rfl rfl)
theorem dX4_coldest_88 : decode cX4_coldest 88 = .ok (.iadd, 1) := dk_96 (dk_at dksX4_coldest_3 19 rfl rfl)
theorem dX4_coldest_89 : decode cX4_coldest 89 = .ok (.istore_n 3, 1) := dk_62 (dk_at dksX4_coldest_3 20 rfl rfl)
theorem dX4_coldest_90 : decode cX4_coldest 90 = .ok (.iinc 4 1, 3) := dk_132 4 1 (dk_at dksX4_coldest_3 21 rfl rfl)
theorem dX4_coldest_93 : decode cX4_coldest 93 = .ok (.goto (-61), 3) := dk_167 255 195 (dk_at dksX4_coldest_4 0 rfl rfl)
theorem dX4_coldest_96 : decode cX4_coldest 96 = .ok (.iload_n 3, 1) := dk_29 (dk_at dksX4_coldest_4 3 rfl rfl)
theorem dX4_coldest_97 : decode cX4_coldest 97 = .ok (.ireturn, 1) := dk_172 (dk_at dksX4_coldest_4 4 rfl rfl)
abbrev cX4_last : ByteArray := prog_21_method_79_code
def yX4_last : MethodName := ⟨RX4, "last", "()I"⟩
def dkwX4_last_3 : List UInt8 := [180, 0, 16, 27, 46, 162, 0, 7, 28, 167, 0, 4, 27, 60, 132, 2, 1, 167, 255, 180, 27, 172]
abbrev dktX4_last_3 : List UInt8 := dkwX4_last_3 ++ []
def dkwX4_last_2 : List UInt8 := [42, 180, 0, 19, 28, 46, 42, 180, 0, 19, 27, 46, 160, 0, 22, 42, 180, 0, 16, 28, 46, 42]
abbrev dktX4_last_2 : List UInt8 := dkwX4_last_2 ++ dktX4_last_3
def dkwX4_last_1 : List UInt8 := [180, 0, 19, 28, 46, 42, 180, 0, 19, 27, 46, 162, 0, 7, 4, 167, 0, 4, 3, 62, 29, 154, 0, 33]
abbrev dktX4_last_1 : List UInt8 := dkwX4_last_1 ++ dktX4_last_2
def dkwX4_last_0 : List UInt8 := [42, 3, 181, 0, 77, 16, 252, 60, 3, 61, 28, 42, 180, 0, 81, 162, 0, 74, 27, 155, 0, 18, 42]
abbrev dktX4_last_0 : List UInt8 := dkwX4_last_0 ++ dktX4_last_1
theorem dksX4_last_0 : cX4_last.data.toList.drop 0 = dktX4_last_0 := by decide +kernel
theorem dksX4_last_1 : cX4_last.data.toList.drop 23 = dktX4_last_1 := dk_seg dksX4_last_0 23 rfl rfl
theorem dksX4_last_2 : cX4_last.data.toList.drop 47 = dktX4_last_2 := dk_seg dksX4_last_1 24 rfl rfl
theorem dksX4_last_3 : cX4_last.data.toList.drop 69 = dktX4_last_3 := dk_seg dksX4_last_2 22 rfl rfl
theorem dX4_last_0 : decode cX4_last 0 = .ok (.aload_n 0, 1) := dk_42 (dk_at dksX4_last_0 0 rfl rfl)
theorem dX4_last_1 : decode cX4_last 1 = .ok (.iconst 0, 1) := dk_3 (dk_at dksX4_last_0 1 rfl rfl)
theorem dX4_last_2 : decode cX4_last 2 = .ok (.putfield 77, 3) := dk_181 0 77 (dk_at dksX4_last_0 2 rfl rfl)
theorem dX4_last_5 : decode cX4_last 5 = .ok (.bipush (-4), 2) := dk_16 252 (dk_at dksX4_last_0 5 rfl rfl)
theorem dX4_last_7 : decode cX4_last 7 = .ok (.istore_n 1, 1) := dk_60 (dk_at dksX4_last_0 7 rfl rfl)
theorem dX4_last_8 : decode cX4_last 8 = .ok (.iconst 0, 1) := dk_3 (dk_at dksX4_last_0 8 rfl rfl)
theorem dX4_last_9 : decode cX4_last 9 = .ok (.istore_n 2, 1) := dk_61 (dk_at dksX4_last_0 9 rfl rfl)
theorem dX4_last_10 : decode cX4_last 10 = .ok (.iload_n 2, 1) := dk_28 (dk_at dksX4_last_0 10 rfl rfl)
theorem dX4_last_11 : decode cX4_last 11 = .ok (.aload_n 0, 1) := dk_42 (dk_at dksX4_last_0 11 rfl rfl)
theorem dX4_last_12 : decode cX4_last 12 = .ok (.getfield 81, 3) := dk_180 0 81 (dk_at dksX4_last_0 12 rfl rfl)
theorem dX4_last_15 : decode cX4_last 15 = .ok (.if_icmp .ge 74, 3) := dk_162 0 74 (dk_at dksX4_last_0 15 rfl rfl)
theorem dX4_last_18 : decode cX4_last 18 = .ok (.iload_n 1, 1) := dk_27 (dk_at dksX4_last_0 18 rfl rfl)
theorem dX4_last_19 : decode cX4_last 19 = .ok (.ifCond .lt 18, 3) := dk_155 0 18 (dk_at dksX4_last_0 19 rfl rfl)
theorem dX4_last_22 : decode cX4_last 22 = .ok (.aload_n 0, 1) := dk_42 (dk_at dksX4_last_0 22 rfl rfl)
theorem dX4_last_23 : decode cX4_last 23 = .ok (.getfield 19, 3) := dk_180 0 19 (dk_at dksX4_last_1 0 rfl rfl)
theorem dX4_last_26 : decode cX4_last 26 = .ok (.iload_n 2, 1) := dk_28 (dk_at dksX4_last_1 3 rfl rfl)
theorem dX4_last_27 : decode cX4_last 27 = .ok (.iaload, 1) := dk_46 (dk_at dksX4_last_1 4 rfl rfl)
theorem dX4_last_28 : decode cX4_last 28 = .ok (.aload_n 0, 1) := dk_42 (dk_at dksX4_last_1 5 rfl rfl)
theorem dX4_last_29 : decode cX4_last 29 = .ok (.getfield 19, 3) := dk_180 0 19 (dk_at dksX4_last_1 6 rfl rfl)
theorem dX4_last_32 : decode cX4_last 32 = .ok (.iload_n 1, 1) := dk_27 (dk_at dksX4_last_1 9 rfl rfl)
theorem dX4_last_33 : decode cX4_last 33 = .ok (.iaload, 1) := dk_46 (dk_at dksX4_last_1 10 rfl rfl)
theorem dX4_last_34 : decode cX4_last 34 = .ok (.if_icmp .ge 7, 3) := dk_162 0 7 (dk_at dksX4_last_1 11 rfl rfl)
theorem dX4_last_37 : decode cX4_last 37 = .ok (.iconst 1, 1) := dk_4 (dk_at dksX4_last_1 14 rfl rfl)
theorem dX4_last_38 : decode cX4_last 38 = .ok (.goto 4, 3) := dk_167 0 4 (dk_at dksX4_last_1 15 rfl rfl)
theorem dX4_last_41 : decode cX4_last 41 = .ok (.iconst 0, 1) := dk_3 (dk_at dksX4_last_1 18 rfl rfl)
theorem dX4_last_42 : decode cX4_last 42 = .ok (.istore_n 3, 1) := dk_62 (dk_at dksX4_last_1 19 rfl rfl)
theorem dX4_last_43 : decode cX4_last 43 = .ok (.iload_n 3, 1) := dk_29 (dk_at dksX4_last_1 20 rfl rfl)
theorem dX4_last_44 : decode cX4_last 44 = .ok (.ifCond .ne 33, 3) := dk_154 0 33 (dk_at dksX4_last_1 21 rfl rfl)
theorem dX4_last_47 : decode cX4_last 47 = .ok (.aload_n 0, 1) := dk_42 (dk_at dksX4_last_2 0 rfl rfl)
theorem dX4_last_48 : decode cX4_last 48 = .ok (.getfield 19, 3) := dk_180 0 19 (dk_at dksX4_last_2 1 rfl rfl)
theorem dX4_last_51 : decode cX4_last 51 = .ok (.iload_n 2, 1) := dk_28 (dk_at dksX4_last_2 4 rfl rfl)
theorem dX4_last_52 : decode cX4_last 52 = .ok (.iaload, 1) := dk_46 (dk_at dksX4_last_2 5 rfl rfl)
theorem dX4_last_53 : decode cX4_last 53 = .ok (.aload_n 0, 1) := dk_42 (dk_at dksX4_last_2 6 rfl rfl)
theorem dX4_last_54 : decode cX4_last 54 = .ok (.getfield 19, 3) := dk_180 0 19 (dk_at dksX4_last_2 7 rfl rfl)
theorem dX4_last_57 : decode cX4_last 57 = .ok (.iload_n 1, 1) := dk_27 (dk_at dksX4_last_2 10 rfl rfl)
theorem dX4_last_58 : decode cX4_last 58 = .ok (.iaload, 1) := dk_46 (dk_at dksX4_last_2 11 rfl rfl)
theorem dX4_last_59 : decode cX4_last 59 = .ok (.if_icmp .ne 22, 3) := dk_160 0 22 (dk_at dksX4_last_2 12 rfl rfl)
theorem dX4_last_62 : decode cX4_last 62 = .ok (.aload_n 0, 1) := dk_42 (dk_at dksX4_last_2 15 rfl rfl)
theorem dX4_last_63 : decode cX4_last 63 = .ok (.getfield 16, 3) := dk_180 0 16 (dk_at dksX4_last_2 16 rfl rfl)
theorem dX4_last_66 : decode cX4_last 66 = .ok (.iload_n 2, 1) := dk_28 (dk_at dksX4_last_2 19 rfl rfl)
theorem dX4_last_67 : decode cX4_last 67 = .ok (.iaload, 1) := dk_46 (dk_at dksX4_last_2 20 rfl rfl)
theorem dX4_last_68 : decode cX4_last 68 = .ok (.aload_n 0, 1) := dk_42 (dk_at dksX4_last_2 21 rfl rfl)
theorem dX4_last_69 : decode cX4_last 69 = .ok (.getfield 16, 3) := dk_180 0 16 (dk_at dksX4_last_3 0 rfl rfl)
theorem dX4_last_72 : decode cX4_last 72 = .ok (.iload_n 1, 1) := dk_27 (dk_at dksX4_last_3 3 rfl rfl)
theorem dX4_last_73 : decode cX4_last 73 = .ok (.iaload, 1) := dk_46 (dk_at dksX4_last_3 4 rfl rfl)
theorem dX4_last_74 : decode cX4_last 74 = .ok (.if_icmp .ge 7, 3) := dk_162 0 7 (dk_at dksX4_last_3 5 rfl rfl)
theorem dX4_last_77 : decode cX4_last 77 = .ok (.iload_n 2, 1) := dk_28 (dk_at dksX4_last_3 8 rfl rfl)
theorem dX4_last_78 : decode cX4_last 78 = .ok (.goto 4, 3) := dk_167 0 4 (dk_at dksX4_last_3 9 rfl rfl)
theorem dX4_last_81 : decode cX4_last 81 = .ok (.iload_n 1, 1) := dk_27 (dk_at dksX4_last_3 12 rfl rfl)
theorem dX4_last_82 : decode cX4_last 82 = .ok (.istore_n 1, 1) := dk_60 (dk_at dksX4_last_3 13 rfl rfl)
theorem dX4_last_83 : decode cX4_last 83 = .ok (.iinc 2 1, 3) := dk_132 2 1 (dk_at dksX4_last_3 14 rfl rfl)
theorem dX4_last_86 : decode cX4_last 86 = .ok (.goto (-76), 3) := dk_167 255 180 (dk_at dksX4_last_3 17 rfl rfl)
theorem dX4_last_89 : decode cX4_last 89 = .ok (.iload_n 1, 1) := dk_27 (dk_at dksX4_last_3 20 rfl rfl)
theorem dX4_last_90 : decode cX4_last 90 = .ok (.ireturn, 1) := dk_172 (dk_at dksX4_last_3 21 rfl rfl)
abbrev cX4_mean : ByteArray := prog_21_method_80_code
def yX4_mean : MethodName := ⟨RX4, "mean", "(I)J"⟩
def dkwX4_mean_1 : List UInt8 := [133, 27, 184, 1, 50, 167, 0, 6, 20, 1, 48, 173]
abbrev dktX4_mean_1 : List UInt8 := dkwX4_mean_1 ++ []
def dkwX4_mean_0 : List UInt8 := [42, 3, 181, 0, 77, 27, 133, 9, 10, 184, 0, 84, 153, 0, 20, 42, 182, 0, 234, 133, 42, 180, 0, 81]
abbrev dktX4_mean_0 : List UInt8 := dkwX4_mean_0 ++ dktX4_mean_1
theorem dksX4_mean_0 : cX4_mean.data.toList.drop 0 = dktX4_mean_0 := by decide +kernel
theorem dksX4_mean_1 : cX4_mean.data.toList.drop 24 = dktX4_mean_1 := dk_seg dksX4_mean_0 24 rfl rfl
theorem dX4_mean_0 : decode cX4_mean 0 = .ok (.aload_n 0, 1) := dk_42 (dk_at dksX4_mean_0 0 rfl rfl)
theorem dX4_mean_1 : decode cX4_mean 1 = .ok (.iconst 0, 1) := dk_3 (dk_at dksX4_mean_0 1 rfl rfl)
theorem dX4_mean_2 : decode cX4_mean 2 = .ok (.putfield 77, 3) := dk_181 0 77 (dk_at dksX4_mean_0 2 rfl rfl)
theorem dX4_mean_5 : decode cX4_mean 5 = .ok (.iload_n 1, 1) := dk_27 (dk_at dksX4_mean_0 5 rfl rfl)
theorem dX4_mean_6 : decode cX4_mean 6 = .ok (.i2l, 1) := dk_133 (dk_at dksX4_mean_0 6 rfl rfl)
theorem dX4_mean_7 : decode cX4_mean 7 = .ok (.lconst 0, 1) := dk_9 (dk_at dksX4_mean_0 7 rfl rfl)
theorem dX4_mean_8 : decode cX4_mean 8 = .ok (.lconst 1, 1) := dk_10 (dk_at dksX4_mean_0 8 rfl rfl)
theorem dX4_mean_9 : decode cX4_mean 9 = .ok (.invokestatic 84, 3) := dk_184 0 84 (dk_at dksX4_mean_0 9 rfl rfl)
theorem dX4_mean_12 : decode cX4_mean 12 = .ok (.ifCond .eq 20, 3) := dk_153 0 20 (dk_at dksX4_mean_0 12 rfl rfl)
theorem dX4_mean_15 : decode cX4_mean 15 = .ok (.aload_n 0, 1) := dk_42 (dk_at dksX4_mean_0 15 rfl rfl)
theorem dX4_mean_16 : decode cX4_mean 16 = .ok (.invokevirtual 234, 3) := dk_182 0 234 (dk_at dksX4_mean_0 16 rfl rfl)
theorem dX4_mean_19 : decode cX4_mean 19 = .ok (.i2l, 1) := dk_133 (dk_at dksX4_mean_0 19 rfl rfl)
theorem dX4_mean_20 : decode cX4_mean 20 = .ok (.aload_n 0, 1) := dk_42 (dk_at dksX4_mean_0 20 rfl rfl)
theorem dX4_mean_21 : decode cX4_mean 21 = .ok (.getfield 81, 3) := dk_180 0 81 (dk_at dksX4_mean_0 21 rfl rfl)
theorem dX4_mean_24 : decode cX4_mean 24 = .ok (.i2l, 1) := dk_133 (dk_at dksX4_mean_1 0 rfl rfl)
theorem dX4_mean_25 : decode cX4_mean 25 = .ok (.iload_n 1, 1) := dk_27 (dk_at dksX4_mean_1 1 rfl rfl)
theorem dX4_mean_26 : decode cX4_mean 26 = .ok (.invokestatic 306, 3) := dk_184 1 50 (dk_at dksX4_mean_1 2 rfl rfl)
theorem dX4_mean_29 : decode cX4_mean 29 = .ok (.goto 6, 3) := dk_167 0 6 (dk_at dksX4_mean_1 5 rfl rfl)
theorem dX4_mean_32 : decode cX4_mean 32 = .ok (.ldc2_w 304, 3) := dk_20 1 48 (dk_at dksX4_mean_1 8 rfl rfl)
theorem dX4_mean_35 : decode cX4_mean 35 = .ok (.lreturn, 1) := dk_173 (dk_at dksX4_mean_1 11 rfl rfl)
abbrev cX4_forged : ByteArray := prog_21_method_81_code
def yX4_forged : MethodName := ⟨RX4, "forged", "(I)I"⟩
def dkwX4_forged_7 : List UInt8 := [153, 0, 8, 16, 252, 167, 0, 5, 21, 4, 62, 132, 4, 1, 167, 255, 126, 42, 182, 0, 201, 29, 172]
abbrev dktX4_forged_7 : List UInt8 := dkwX4_forged_7 ++ []
def dkwX4_forged_6 : List UInt8 := [167, 0, 4, 3, 54, 9, 21, 9, 153, 0, 13, 42, 22, 5, 136, 22, 7, 136, 182, 0, 168, 21, 9]
abbrev dktX4_forged_6 : List UInt8 := dkwX4_forged_6 ++ dktX4_forged_7
def dkwX4_forged_5 : List UInt8 := [9, 20, 0, 230, 184, 0, 84, 153, 0, 20, 42, 180, 0, 19, 22, 5, 136, 46, 16, 7, 162, 0, 7, 4]
abbrev dktX4_forged_5 : List UInt8 := dkwX4_forged_5 ++ dktX4_forged_6
def dkwX4_forged_4 : List UInt8 := [96, 4, 96, 47, 55, 7, 22, 5, 9, 42, 180, 0, 81, 4, 100, 133, 184, 0, 84, 153, 0, 32, 22, 7]
abbrev dktX4_forged_4 : List UInt8 := dkwX4_forged_4 ++ dktX4_forged_5
def dkwX4_forged_3 : List UInt8 := [16, 100, 27, 104, 5, 21, 4, 104, 96, 47, 55, 5, 42, 180, 0, 40, 16, 100, 27, 104, 5, 21, 4, 104]
abbrev dktX4_forged_3 : List UInt8 := dkwX4_forged_3 ++ dktX4_forged_4
def dkwX4_forged_2 : List UInt8 := [54, 4, 21, 4, 42, 180, 0, 37, 27, 46, 5, 108, 162, 0, 123, 29, 156, 0, 119, 42, 180, 0, 40]
abbrev dktX4_forged_2 : List UInt8 := dkwX4_forged_2 ++ dktX4_forged_3
def dkwX4_forged_1 : List UInt8 := [160, 0, 8, 16, 243, 167, 0, 4, 28, 61, 28, 156, 0, 5, 28, 172, 16, 252, 62, 42, 182, 0, 195, 3]
abbrev dktX4_forged_1 : List UInt8 := dkwX4_forged_1 ++ dktX4_forged_2
def dkwX4_forged_0 : List UInt8 := [42, 3, 181, 0, 77, 42, 27, 182, 0, 189, 61, 28, 154, 0, 20, 42, 180, 0, 37, 27, 46, 5, 112, 4]
abbrev dktX4_forged_0 : List UInt8 := dkwX4_forged_0 ++ dktX4_forged_1
theorem dksX4_forged_0 : cX4_forged.data.toList.drop 0 = dktX4_forged_0 := by decide +kernel
theorem dksX4_forged_1 : cX4_forged.data.toList.drop 24 = dktX4_forged_1 := dk_seg dksX4_forged_0 24 rfl rfl
theorem dksX4_forged_2 : cX4_forged.data.toList.drop 48 = dktX4_forged_2 := dk_seg dksX4_forged_1 24 rfl rfl
theorem dksX4_forged_3 : cX4_forged.data.toList.drop 71 = dktX4_forged_3 := dk_seg dksX4_forged_2 23 rfl rfl
theorem dksX4_forged_4 : cX4_forged.data.toList.drop 95 = dktX4_forged_4 := dk_seg dksX4_forged_3 24 rfl rfl
theorem dksX4_forged_5 : cX4_forged.data.toList.drop 119 = dktX4_forged_5 := dk_seg dksX4_forged_4 24 rfl rfl
theorem dksX4_forged_6 : cX4_forged.data.toList.drop 143 = dktX4_forged_6 := dk_seg dksX4_forged_5 24 rfl rfl
theorem dksX4_forged_7 : cX4_forged.data.toList.drop 166 = dktX4_forged_7 := dk_seg dksX4_forged_6 23 rfl rfl
theorem dX4_forged_0 : decode cX4_forged 0 = .ok (.aload_n 0, 1) := dk_42 (dk_at dksX4_forged_0 0 rfl rfl)
theorem dX4_forged_1 : decode cX4_forged 1 = .ok (.iconst 0, 1) := dk_3 (dk_at dksX4_forged_0 1 rfl rfl)
theorem dX4_forged_2 : decode cX4_forged 2 = .ok (.putfield 77, 3) := dk_181 0 77 (dk_at dksX4_forged_0 2 rfl rfl)
theorem dX4_forged_5 : decode cX4_forged 5 = .ok (.aload_n 0, 1) := dk_42 (dk_at dksX4_forged_0 5 rfl rfl)
theorem dX4_forged_6 : decode cX4_forged 6 = .ok (.iload_n 1, 1) := dk_27 (dk_at dksX4_forged_0 6 rfl rfl)
theorem dX4_forged_7 : decode cX4_forged 7 = .ok (.invokevirtual 189, 3) := dk_182 0 189 (dk_at dksX4_forged_0 7 rfl rfl)
theorem dX4_forged_10 : decode cX4_forged 10 = .ok (.istore_n 2, 1) := dk_61 (dk_at dksX4_forged_0 10 rfl rfl)
theorem dX4_forged_11 : decode cX4_forged 11 = .ok (.iload_n 2, 1) := dk_28 (dk_at dksX4_forged_0 11 rfl rfl)
theorem dX4_forged_12 : decode cX4_forged 12 = .ok (.ifCond .ne 20, 3) := dk_154 0 20 (dk_at dksX4_forged_0 12 rfl rfl)
theorem dX4_forged_15 : decode cX4_forged 15 = .ok (.aload_n 0, 1) := dk_42 (dk_at dksX4_forged_0 15 rfl rfl)
theorem dX4_forged_16 : decode cX4_forged 16 = .ok (.getfield 37, 3) := dk_180 0 37 (dk_at dksX4_forged_0 16 rfl rfl)
theorem dX4_forged_19 : decode cX4_forged 19 = .ok (.iload_n 1, 1) := dk_27 (dk_at dksX4_forged_0 19 rfl rfl)
theorem dX4_forged_20 : decode cX4_forged 20 = .ok (.iaload, 1) := dk_46 (dk_at dksX4_forged_0 20 rfl rfl)
theorem dX4_forged_21 : decode cX4_forged 21 = .ok (.iconst 2, 1) := dk_5 (dk_at dksX4_forged_0 21 rfl rfl)
theorem dX4_forged_22 : decode cX4_forged 22 = .ok (.irem, 1) := dk_112 (dk_at dksX4_forged_0 22 rfl rfl)
theorem dX4_forged_23 : decode cX4_forged 23 = .ok (.iconst 1, 1) := dk_4 (dk_at dksX4_forged_0 23 rfl rfl)
theorem dX4_forged_24 : decode cX4_forged 24 = .ok (.if_icmp .ne 8, 3) := dk_160 0 8 (dk_at dksX4_forged_1 0 rfl rfl)
theorem dX4_forged_27 : decode cX4_forged 27 = .ok (.bipush (-13), 2) := dk_16 243 (dk_at dksX4_forged_1 3 rfl rfl)
theorem dX4_forged_29 : decode cX4_forged 29 = .ok (.goto 4, 3) := dk_167 0 4 (dk_at dksX4_forged_1 5 rfl rfl)
theorem dX4_forged_32 : decode cX4_forged 32 = .ok (.iload_n 2, 1) := dk_28 (dk_at dksX4_forged_1 8 rfl rfl)
theorem dX4_forged_33 : decode cX4_forged 33 = .ok (.istore_n 2, 1) := dk_61 (dk_at dksX4_forged_1 9 rfl rfl)
theorem dX4_forged_34 : decode cX4_forged 34 = .ok (.iload_n 2, 1) := dk_28 (dk_at dksX4_forged_1 10 rfl rfl)
theorem dX4_forged_35 : decode cX4_forged 35 = .ok (.ifCond .ge 5, 3) := dk_156 0 5 (dk_at dksX4_forged_1 11 rfl rfl)
theorem dX4_forged_38 : decode cX4_forged 38 = .ok (.iload_n 2, 1) := dk_28 (dk_at dksX4_forged_1 14 rfl rfl)
theorem dX4_forged_39 : decode cX4_forged 39 = .ok (.ireturn, 1) := dk_172 (dk_at dksX4_forged_1 15 rfl rfl)
theorem dX4_forged_40 : decode cX4_forged 40 = .ok (.bipush (-4), 2) := dk_16 252 (dk_at dksX4_forged_1 16 rfl rfl)
theorem dX4_forged_42 : decode cX4_forged 42 = .ok (.istore_n 3, 1) := dk_62 (dk_at dksX4_forged_1 18 rfl rfl)
theorem dX4_forged_43 : decode cX4_forged 43 = .ok (.aload_n 0, 1) := dk_42 (dk_at dksX4_forged_1 19 rfl rfl)
theorem dX4_forged_44 : decode cX4_forged 44 = .ok (.invokevirtual 195, 3) := dk_182 0 195 (dk_at dksX4_forged_1 20 rfl rfl)
theorem dX4_forged_47 : decode cX4_forged 47 = .ok (.iconst 0, 1) := dk_3 (dk_at dksX4_forged_1 23 rfl rfl)
theorem dX4_forged_48 : decode cX4_forged 48 = .ok (.istore 4, 2) := dk_54 4 (dk_at dksX4_forged_2 0 rfl rfl)
theorem dX4_forged_50 : decode cX4_forged 50 = .ok (.iload 4, 2) := dk_21 4 (dk_at dksX4_forged_2 2 rfl rfl)
theorem dX4_forged_52 : decode cX4_forged 52 = .ok (.aload_n 0, 1) := dk_42 (dk_at dksX4_forged_2 4 rfl rfl)
theorem dX4_forged_53 : decode cX4_forged 53 = .ok (.getfield 37, 3) := dk_180 0 37 (dk_at dksX4_forged_2 5 rfl rfl)
theorem dX4_forged_56 : decode cX4_forged 56 = .ok (.iload_n 1, 1) := dk_27 (dk_at dksX4_forged_2 8 rfl rfl)
theorem dX4_forged_57 : decode cX4_forged 57 = .ok (.iaload, 1) := dk_46 (dk_at dksX4_forged_2 9 rfl rfl)
theorem dX4_forged_58 : decode cX4_forged 58 = .ok (.iconst 2, 1) := dk_5 (dk_at dksX4_forged_2 10 rfl rfl)
theorem dX4_forged_59 : decode cX4_forged 59 = .ok (.idiv, 1) := dk_108 (dk_at dksX4_forged_2 11 rfl rfl)
theorem dX4_forged_60 : decode cX4_forged 60 = .ok (.if_icmp .ge 123, 3) := dk_162 0 123 (dk_at dksX4_forged_2 12 rfl rfl)
theorem dX4_forged_63 : decode cX4_forged 63 = .ok (.iload_n 3, 1) := dk_29 (dk_at dksX4_forged_2 15 rfl rfl)
theorem dX4_forged_64 : decode cX4_forged 64 = .ok (.ifCond .ge 119, 3) := dk_156 0 119 (dk_at dksX4_forged_2 16 rfl rfl)
theorem dX4_forged_67 : decode cX4_forged 67 = .ok (.aload_n 0, 1) := dk_42 (dk_at dksX4_forged_2 19 rfl rfl)
theorem dX4_forged_68 : decode cX4_forged 68 = .ok (.getfield 40, 3) := dk_180 0 40 (dk_at dksX4_forged_2 20 rfl rfl)
theorem dX4_forged_71 : decode cX4_forged 71 = .ok (.bipush 100, 2) := dk_16 100 (dk_at dksX4_forged_3 0 rfl rfl)
theorem dX4_forged_73 : decode cX4_forged 73 = .ok (.iload_n 1, 1) := dk_27 (dk_at dksX4_forged_3 2 rfl rfl)
theorem dX4_forged_74 : decode cX4_forged 74 = .ok (.imul, 1) := dk_104 (dk_at dksX4_forged_3 3 rfl rfl)
theorem dX4_forged_75 : decode cX4_forged 75 = .ok (.iconst 2, 1) := dk_5 (dk_at dksX4_forged_3 4 rfl rfl)
theorem dX4_forged_76 : decode cX4_forged 76 = .ok (.iload 4, 2) := dk_21 4 (dk_at dksX4_forged_3 5 rfl rfl)
theorem dX4_forged_78 : decode cX4_forged 78 = .ok (.imul, 1) := dk_104 (dk_at dksX4_forged_3 7 rfl rfl)
theorem dX4_forged_79 : decode cX4_forged 79 = .ok (.iadd, 1) := dk_96 (dk_at dksX4_forged_3 8 rfl rfl)
theorem dX4_forged_80 : decode cX4_forged 80 = .ok (.laload, 1) := dk_47 (dk_at dksX4_forged_3 9 rfl rfl)
theorem dX4_forged_81 : decode cX4_forged 81 = .ok (.lstore 5, 2) := dk_55 5 (dk_at dksX4_forged_3 10 rfl rfl)
theorem dX4_forged_83 : decode cX4_forged 83 = .ok (.aload_n 0, 1) := dk_42 (dk_at dksX4_forged_3 12 rfl rfl)
theorem dX4_forged_84 : decode cX4_forged 84 = .ok (.getfield 40, 3) := dk_180 0 40 (dk_at dksX4_forged_3 13 rfl rfl)
theorem dX4_forged_87 : decode cX4_forged 87 = .ok (.bipush 100, 2) := dk_16 100 (dk_at dksX4_forged_3 16 rfl rfl)
theorem dX4_forged_89 : decode cX4_forged 89 = .ok (.iload_n 1, 1) := dk_27 (dk_at dksX4_forged_3 18 rfl rfl)
theorem dX4_forged_90 : decode cX4_forged 90 = .ok (.imul, 1) := dk_104 (dk_at dksX4_forged_3 19 rfl rfl)
theorem dX4_forged_91 : decode cX4_forged 91 = .ok (.iconst 2, 1) := dk_5 (dk_at dksX4_forged_3 20 rfl rfl)
theorem dX4_forged_92 : decode cX4_forged 92 = .ok (.iload 4, 2) := dk_21 4 (dk_at dksX4_forged_3 21 rfl rfl)
theorem dX4_forged_94 : decode cX4_forged 94 = .ok (.imul, 1) := dk_104 (dk_at dksX4_forged_3 23 rfl rfl)
theorem dX4_forged_95 : decode cX4_forged 95 = .ok (.iadd, 1) := dk_96 (dk_at dksX4_forged_4 0 rfl rfl)
theorem dX4_forged_96 : decode cX4_forged 96 = .ok (.iconst 1, 1) := dk_4 (dk_at dksX4_forged_4 1 rfl rfl)
theorem dX4_forged_97 : decode cX4_forged 97 = .ok (.iadd, 1) := dk_96 (dk_at dksX4_forged_4 2 rfl rfl)
theorem dX4_forged_98 : decode cX4_forged 98 = .ok (.laload, 1) := dk_47 (dk_at dksX4_forged_4 3 rfl rfl)
theorem dX4_forged_99 : decode cX4_forged 99 = .ok (.lstore 7, 2) := dk_55 7 (dk_at dksX4_forged_4 4 rfl rfl)
theorem dX4_forged_101 : decode cX4_forged 101 = .ok (.lload 5, 2) := dk_22 5 (dk_at dksX4_forged_4 6 rfl rfl)
theorem dX4_forged_103 : decode cX4_forged 103 = .ok (.lconst 0, 1) := dk_9 (dk_at dksX4_forged_4 8 rfl rfl)
theorem dX4_forged_104 : decode cX4_forged 104 = .ok (.aload_n 0, 1) := dk_42 (dk_at dksX4_forged_4 9 rfl rfl)
theorem dX4_forged_105 : decode cX4_forged 105 = .ok (.getfield 81, 3) := dk_180 0 81 (dk_at dksX4_forged_4 10 rfl rfl)
theorem dX4_forged_108 : decode cX4_forged 108 = .ok (.iconst 1, 1) := dk_4 (dk_at dksX4_forged_4 13 rfl rfl)
theorem dX4_forged_109 : decode cX4_forged 109 = .ok (.isub, 1) := dk_100 (dk_at dksX4_forged_4 14 rfl rfl)
theorem dX4_forged_110 : decode cX4_forged 110 = .ok (.i2l, 1) := dk_133 (dk_at dksX4_forged_4 15 rfl rfl)
theorem dX4_forged_111 : decode cX4_forged 111 = .ok (.invokestatic 84, 3) := dk_184 0 84 (dk_at dksX4_forged_4 16 rfl rfl)
theorem dX4_forged_114 : decode cX4_forged 114 = .ok (.ifCond .eq 32, 3) := dk_153 0 32 (dk_at dksX4_forged_4 19 rfl rfl)
theorem dX4_forged_117 : decode cX4_forged 117 = .ok (.lload 7, 2) := dk_22 7 (dk_at dksX4_forged_4 22 rfl rfl)
theorem dX4_forged_119 : decode cX4_forged 119 = .ok (.lconst 0, 1) := dk_9 (dk_at dksX4_forged_5 0 rfl rfl)
theorem dX4_forged_120 : decode cX4_forged 120 = .ok (.ldc2_w 230, 3) := dk_20 0 230 (dk_at dksX4_forged_5 1 rfl rfl)
theorem dX4_forged_123 : decode cX4_forged 123 = .ok (.invokestatic 84, 3) := dk_184 0 84 (dk_at dksX4_forged_5 4 rfl rfl)
theorem dX4_forged_126 : decode cX4_forged 126 = .ok (.ifCond .eq 20, 3) := dk_153 0 20 (dk_at dksX4_forged_5 7 rfl rfl)
theorem dX4_forged_129 : decode cX4_forged 129 = .ok (.aload_n 0, 1) := dk_42 (dk_at dksX4_forged_5 10 rfl rfl)
theorem dX4_forged_130 : decode cX4_forged 130 = .ok (.getfield 19, 3) := dk_180 0 19 (dk_at dksX4_forged_5 11 rfl rfl)
theorem dX4_forged_133 : decode cX4_forged 133 = .ok (.lload 5, 2) := dk_22 5 (dk_at dksX4_forged_5 14 rfl rfl)
theorem dX4_forged_135 : decode cX4_forged 135 = .ok (.l2i, 1) := dk_136 (dk_at dksX4_forged_5 16 rfl rfl)
theorem dX4_forged_136 : decode cX4_forged 136 = .ok (.iaload, 1) := dk_46 (dk_at dksX4_forged_5 17 rfl rfl)
theorem dX4_forged_137 : decode cX4_forged 137 = .ok (.bipush 7, 2) := dk_16 7 (dk_at dksX4_forged_5 18 rfl rfl)
theorem dX4_forged_139 : decode cX4_forged 139 = .ok (.if_icmp .ge 7, 3) := dk_162 0 7 (dk_at dksX4_forged_5 20 rfl rfl)
theorem dX4_forged_142 : decode cX4_forged 142 = .ok (.iconst 1, 1) := dk_4 (dk_at dksX4_forged_5 23 rfl rfl)
theorem dX4_forged_143 : decode cX4_forged 143 = .ok (.goto 4, 3) := dk_167 0 4 (dk_at dksX4_forged_6 0 rfl rfl)
theorem dX4_forged_146 : decode cX4_forged 146 = .ok (.iconst 0, 1) := dk_3 (dk_at dksX4_forged_6 3 rfl rfl)
theorem dX4_forged_147 : decode cX4_forged 147 = .ok (.istore 9, 2) := dk_54 9 (dk_at dksX4_forged_6 4 rfl rfl)
theorem dX4_forged_149 : decode cX4_forged 149 = .ok (.iload 9, 2) := dk_21 9 (dk_at dksX4_forged_6 6 rfl rfl)
theorem dX4_forged_151 : decode cX4_forged 151 = .ok (.ifCond .eq 13, 3) := dk_153 0 13 (dk_at dksX4_forged_6 8 rfl rfl)
theorem dX4_forged_154 : decode cX4_forged 154 = .ok (.aload_n 0, 1) := dk_42 (dk_at dksX4_forged_6 11 rfl rfl)
theorem dX4_forged_155 : decode cX4_forged 155 = .ok (.lload 5, 2) := dk_22 5 (dk_at dksX4_forged_6 12 rfl rfl)
theorem dX4_forged_157 : decode cX4_forged 157 = .ok (.l2i, 1) := dk_136 (dk_at dksX4_forged_6 14 rfl rfl)
theorem dX4_forged_158 : decode cX4_forged 158 = .ok (.lload 7, 2) := dk_22 7 (dk_at dksX4_forged_6 15 rfl rfl)
theorem dX4_forged_160 : decode cX4_forged 160 = .ok (.l2i, 1) := dk_136 (dk_at dksX4_forged_6 17 rfl rfl)
theorem dX4_forged_161 : decode cX4_forged 161 = .ok (.invokevirtual 168, 3) := dk_182 0 168 (dk_at dksX4_forged_6 18 rfl rfl)
theorem dX4_forged_164 : decode cX4_forged 164 = .ok (.iload 9, 2) := dk_21 9 (dk_at dksX4_forged_6 21 rfl rfl)
theorem dX4_forged_166 : decode cX4_forged 166 = .ok (.ifCond .eq 8, 3) := dk_153 0 8 (dk_at dksX4_forged_7 0 rfl rfl)
theorem dX4_forged_169 : decode cX4_forged 169 = .ok (.bipush (-4), 2) := dk_16 252 (dk_at dksX4_forged_7 3 rfl rfl)
theorem dX4_forged_171 : decode cX4_forged 171 = .ok (.goto 5, 3) := dk_167 0 5 (dk_at dksX4_forged_7 5 rfl rfl)
theorem dX4_forged_174 : decode cX4_forged 174 = .ok (.iload 4, 2) := dk_21 4 (dk_at dksX4_forged_7 8 rfl rfl)
theorem dX4_forged_176 : decode cX4_forged 176 = .ok (.istore_n 3, 1) := dk_62 (dk_at dksX4_forged_7 10 rfl rfl)
theorem dX4_forged_177 : decode cX4_forged 177 = .ok (.iinc 4 1, 3) := dk_132 4 1 (dk_at dksX4_forged_7 11 rfl rfl)
theorem dX4_forged_180 : decode cX4_forged 180 = .ok (.goto (-130), 3) := dk_167 255 126 (dk_at dksX4_forged_7 14 rfl rfl)
theorem dX4_forged_183 : decode cX4_forged 183 = .ok (.aload_n 0, 1) := dk_42 (dk_at dksX4_forged_7 17 rfl rfl)
theorem dX4_forged_184 : decode cX4_forged 184 = .ok (.invokevirtual 201, 3) := dk_182 0 201 (dk_at dksX4_forged_7 18 rfl rfl)
theorem dX4_forged_187 : decode cX4_forged 187 = .ok (.iload_n 3, 1) := dk_29 (dk_at dksX4_forged_7 21 rfl rfl)
theorem dX4_forged_188 : decode cX4_forged 188 = .ok (.ireturn, 1) := dk_172 (dk_at dksX4_forged_7 22 rfl rfl)
abbrev cX4_judge : ByteArray := prog_21_method_83_code
def yX4_judge : MethodName := ⟨RX4, "judge", "(II)I"⟩
def dkwX4_judge_5 : List UInt8 := [132, 5, 1, 167, 255, 180, 42, 182, 0, 201, 21, 4, 172]
abbrev dktX4_judge_5 : List UInt8 := dkwX4_judge_5 ++ []
def dkwX4_judge_4 : List UInt8 := [22, 6, 42, 180, 0, 16, 28, 46, 133, 148, 154, 0, 8, 16, 252, 167, 0, 5, 21, 5, 54, 4]
abbrev dktX4_judge_4 : List UInt8 := dkwX4_judge_4 ++ dktX4_judge_5
def dkwX4_judge_3 : List UInt8 := [180, 0, 40, 16, 100, 27, 104, 21, 5, 96, 47, 55, 6, 22, 6, 42, 27, 182, 1, 67, 148, 153, 0, 16]
abbrev dktX4_judge_3 : List UInt8 := dkwX4_judge_3 ++ dktX4_judge_4
def dkwX4_judge_2 : List UInt8 := [180, 0, 37, 27, 46, 162, 0, 71, 21, 4, 156, 0, 66, 21, 5, 158, 0, 8, 42, 182, 1, 20, 87, 42]
abbrev dktX4_judge_2 : List UInt8 := dkwX4_judge_2 ++ dktX4_judge_3
def dkwX4_judge_1 : List UInt8 := [156, 0, 5, 29, 172, 16, 252, 54, 4, 42, 3, 181, 1, 15, 42, 182, 0, 195, 3, 54, 5, 21, 5, 42]
abbrev dktX4_judge_1 : List UInt8 := dkwX4_judge_1 ++ dktX4_judge_2
def dkwX4_judge_0 : List UInt8 := [42, 3, 181, 0, 77, 42, 28, 182, 0, 99, 153, 0, 11, 42, 27, 182, 0, 189, 167, 0, 4, 2, 62, 29]
abbrev dktX4_judge_0 : List UInt8 := dkwX4_judge_0 ++ dktX4_judge_1
theorem dksX4_judge_0 : cX4_judge.data.toList.drop 0 = dktX4_judge_0 := by decide +kernel
theorem dksX4_judge_1 : cX4_judge.data.toList.drop 24 = dktX4_judge_1 := dk_seg dksX4_judge_0 24 rfl rfl
theorem dksX4_judge_2 : cX4_judge.data.toList.drop 48 = dktX4_judge_2 := dk_seg dksX4_judge_1 24 rfl rfl
theorem dksX4_judge_3 : cX4_judge.data.toList.drop 72 = dktX4_judge_3 := dk_seg dksX4_judge_2 24 rfl rfl
theorem dksX4_judge_4 : cX4_judge.data.toList.drop 96 = dktX4_judge_4 := dk_seg dksX4_judge_3 24 rfl rfl
theorem dksX4_judge_5 : cX4_judge.data.toList.drop 118 = dktX4_judge_5 := dk_seg dksX4_judge_4 22 rfl rfl
theorem dX4_judge_0 : decode cX4_judge 0 = .ok (.aload_n 0, 1) := dk_42 (dk_at dksX4_judge_0 0 rfl rfl)
theorem dX4_judge_1 : decode cX4_judge 1 = .ok (.iconst 0, 1) := dk_3 (dk_at dksX4_judge_0 1 rfl rfl)
theorem dX4_judge_2 : decode cX4_judge 2 = .ok (.putfield 77, 3) := dk_181 0 77 (dk_at dksX4_judge_0 2 rfl rfl)
theorem dX4_judge_5 : decode cX4_judge 5 = .ok (.aload_n 0, 1) := dk_42 (dk_at dksX4_judge_0 5 rfl rfl)
theorem dX4_judge_6 : decode cX4_judge 6 = .ok (.iload_n 2, 1) := dk_28 (dk_at dksX4_judge_0 6 rfl rfl)
theorem dX4_judge_7 : decode cX4_judge 7 = .ok (.invokevirtual 99, 3) := dk_182 0 99 (dk_at dksX4_judge_0 7 rfl rfl)
theorem dX4_judge_10 : decode cX4_judge 10 = .ok (.ifCond .eq 11, 3) := dk_153 0 11 (dk_at dksX4_judge_0 10 rfl rfl)
theorem dX4_judge_13 : decode cX4_judge 13 = .ok (.aload_n 0, 1) := dk_42 (dk_at dksX4_judge_0 13 rfl rfl)
theorem dX4_judge_14 : decode cX4_judge 14 = .ok (.iload_n 1, 1) := dk_27 (dk_at dksX4_judge_0 14 rfl rfl)
theorem dX4_judge_15 : decode cX4_judge 15 = .ok (.invokevirtual 189, 3) := dk_182 0 189 (dk_at dksX4_judge_0 15 rfl rfl)
theorem dX4_judge_18 : decode cX4_judge 18 = .ok (.goto 4, 3) := dk_167 0 4 (dk_at dksX4_judge_0 18 rfl rfl)
theorem dX4_judge_21 : decode cX4_judge 21 = .ok (.iconst (-1), 1) := dk_2 (dk_at dksX4_judge_0 21 rfl rfl)
theorem dX4_judge_22 : decode cX4_judge 22 = .ok (.istore_n 3, 1) := dk_62 (dk_at dksX4_judge_0 22 rfl rfl)
theorem dX4_judge_23 : decode cX4_judge 23 = .ok (.iload_n 3, 1) := dk_29 (dk_at dksX4_judge_0 23 rfl rfl)
theorem dX4_judge_24 : decode cX4_judge 24 = .ok (.ifCond .ge 5, 3) := dk_156 0 5 (dk_at dksX4_judge_1 0 rfl rfl)
theorem dX4_judge_27 : decode cX4_judge 27 = .ok (.iload_n 3, 1) := dk_29 (dk_at dksX4_judge_1 3 rfl rfl)
theorem dX4_judge_28 : decode cX4_judge 28 = .ok (.ireturn, 1) := dk_172 (dk_at dksX4_judge_1 4 rfl rfl)
theorem dX4_judge_29 : decode cX4_judge 29 = .ok (.bipush (-4), 2) := dk_16 252 (dk_at dksX4_judge_1 5 rfl rfl)
theorem dX4_judge_31 : decode cX4_judge 31 = .ok (.istore 4, 2) := dk_54 4 (dk_at dksX4_judge_1 7 rfl rfl)
theorem dX4_judge_33 : decode cX4_judge 33 = .ok (.aload_n 0, 1) := dk_42 (dk_at dksX4_judge_1 9 rfl rfl)
theorem dX4_judge_34 : decode cX4_judge 34 = .ok (.iconst 0, 1) := dk_3 (dk_at dksX4_judge_1 10 rfl rfl)
theorem dX4_judge_35 : decode cX4_judge 35 = .ok (.putfield 271, 3) := dk_181 1 15 (dk_at dksX4_judge_1 11 rfl rfl)
theorem dX4_judge_38 : decode cX4_judge 38 = .ok (.aload_n 0, 1) := dk_42 (dk_at dksX4_judge_1 14 rfl rfl)
theorem dX4_judge_39 : decode cX4_judge 39 = .ok (.invokevirtual 195, 3) := dk_182 0 195 (dk_at dksX4_judge_1 15 rfl rfl)
theorem dX4_judge_42 : decode cX4_judge 42 = .ok (.iconst 0, 1) := dk_3 (dk_at dksX4_judge_1 18 rfl rfl)
theorem dX4_judge_43 : decode cX4_judge 43 = .ok (.istore 5, 2) := dk_54 5 (dk_at dksX4_judge_1 19 rfl rfl)
theorem dX4_judge_45 : decode cX4_judge 45 = .ok (.iload 5, 2) := dk_21 5 (dk_at dksX4_judge_1 21 rfl rfl)
theorem dX4_judge_47 : decode cX4_judge 47 = .ok (.aload_n 0, 1) := dk_42 (dk_at dksX4_judge_1 23 rfl rfl)
theorem dX4_judge_48 : decode cX4_judge 48 = .ok (.getfield 37, 3) := dk_180 0 37 (dk_at dksX4_judge_2 0 rfl rfl)
theorem dX4_judge_51 : decode cX4_judge 51 = .ok (.iload_n 1, 1) := dk_27 (dk_at dksX4_judge_2 3 rfl rfl)
theorem dX4_judge_52 : decode cX4_judge 52 = .ok (.iaload, 1) := dk_46 (dk_at dksX4_judge_2 4 rfl rfl)
theorem dX4_judge_53 : decode cX4_judge 53 = .ok (.if_icmp .ge 71, 3) := dk_162 0 71 (dk_at dksX4_judge_2 5 rfl rfl)
theorem dX4_judge_56 : decode cX4_judge 56 = .ok (.iload 4, 2) := dk_21 4 (dk_at dksX4_judge_2 8 rfl rfl)
theorem dX4_judge_58 : decode cX4_judge 58 = .ok (.ifCond .ge 66, 3) := dk_156 0 66 (dk_at dksX4_judge_2 10 rfl rfl)
theorem dX4_judge_61 : decode cX4_judge 61 = .ok (.iload 5, 2) := dk_21 5 (dk_at dksX4_judge_2 13 rfl rfl)
theorem dX4_judge_63 : decode cX4_judge 63 = .ok (.ifCond .le 8, 3) := dk_158 0 8 (dk_at dksX4_judge_2 15 rfl rfl)
theorem dX4_judge_66 : decode cX4_judge 66 = .ok (.aload_n 0, 1) := dk_42 (dk_at dksX4_judge_2 18 rfl rfl)
theorem dX4_judge_67 : decode cX4_judge 67 = .ok (.invokevirtual 276, 3) := dk_182 1 20 (dk_at dksX4_judge_2 19 rfl rfl)
theorem dX4_judge_70 : decode cX4_judge 70 = .ok (.pop, 1) := dk_87 (dk_at dksX4_judge_2 22 rfl rfl)
theorem dX4_judge_71 : decode cX4_judge 71 = .ok (.aload_n 0, 1) := dk_42 (dk_at dksX4_judge_2 23 rfl rfl)
theorem dX4_judge_72 : decode cX4_judge 72 = .ok (.getfield 40, 3) := dk_180 0 40 (dk_at dksX4_judge_3 0 rfl rfl)
theorem dX4_judge_75 : decode cX4_judge 75 = .ok (.bipush 100, 2) := dk_16 100 (dk_at dksX4_judge_3 3 rfl rfl)
theorem dX4_judge_77 : decode cX4_judge 77 = .ok (.iload_n 1, 1) := dk_27 (dk_at dksX4_judge_3 5 rfl rfl)
theorem dX4_judge_78 : decode cX4_judge 78 = .ok (.imul, 1) := dk_104 (dk_at dksX4_judge_3 6 rfl rfl)
theorem dX4_judge_79 : decode cX4_judge 79 = .ok (.iload 5, 2) := dk_21 5 (dk_at dksX4_judge_3 7 rfl rfl)
theorem dX4_judge_81 : decode cX4_judge 81 = .ok (.iadd, 1) := dk_96 (dk_at dksX4_judge_3 9 rfl rfl)
theorem dX4_judge_82 : decode cX4_judge 82 = .ok (.laload, 1) := dk_47 (dk_at dksX4_judge_3 10 rfl rfl)
theorem dX4_judge_83 : decode cX4_judge 83 = .ok (.lstore 6, 2) := dk_55 6 (dk_at dksX4_judge_3 11 rfl rfl)
theorem dX4_judge_85 : decode cX4_judge 85 = .ok (.lload 6, 2) := dk_22 6 (dk_at dksX4_judge_3 13 rfl rfl)
theorem dX4_judge_87 : decode cX4_judge 87 = .ok (.aload_n 0, 1) := dk_42 (dk_at dksX4_judge_3 15 rfl rfl)
theorem dX4_judge_88 : decode cX4_judge 88 = .ok (.iload_n 1, 1) := dk_27 (dk_at dksX4_judge_3 16 rfl rfl)
theorem dX4_judge_89 : decode cX4_judge 89 = .ok (.invokevirtual 323, 3) := dk_182 1 67 (dk_at dksX4_judge_3 17 rfl rfl)
theorem dX4_judge_92 : decode cX4_judge 92 = .ok (.lcmp, 1) := dk_148 (dk_at dksX4_judge_3 20 rfl rfl)
theorem dX4_judge_93 : decode cX4_judge 93 = .ok (.ifCond .eq 16, 3) := dk_153 0 16 (dk_at dksX4_judge_3 21 rfl rfl)
theorem dX4_judge_96 : decode cX4_judge 96 = .ok (.lload 6, 2) := dk_22 6 (dk_at dksX4_judge_4 0 rfl rfl)
theorem dX4_judge_98 : decode cX4_judge 98 = .ok (.aload_n 0, 1) := dk_42 (dk_at dksX4_judge_4 2 rfl rfl)
theorem dX4_judge_99 : decode cX4_judge 99 = .ok (.getfield 16, 3) := dk_180 0 16 (dk_at dksX4_judge_4 3 rfl rfl)
theorem dX4_judge_102 : decode cX4_judge 102 = .ok (.iload_n 2, 1) := dk_28 (dk_at dksX4_judge_4 6 rfl rfl)
theorem dX4_judge_103 : decode cX4_judge 103 = .ok (.iaload, 1) := dk_46 (dk_at dksX4_judge_4 7 rfl rfl)
theorem dX4_judge_104 : decode cX4_judge 104 = .ok (.i2l, 1) := dk_133 (dk_at dksX4_judge_4 8 rfl rfl)
theorem dX4_judge_105 : decode cX4_judge 105 = .ok (.lcmp, 1) := dk_148 (dk_at dksX4_judge_4 9 rfl rfl)
theorem dX4_judge_106 : decode cX4_judge 106 = .ok (.ifCond .ne 8, 3) := dk_154 0 8 (dk_at dksX4_judge_4 10 rfl rfl)
theorem dX4_judge_109 : decode cX4_judge 109 = .ok (.bipush (-4), 2) := dk_16 252 (dk_at dksX4_judge_4 13 rfl rfl)
theorem dX4_judge_111 : decode cX4_judge 111 = .ok (.goto 5, 3) := dk_167 0 5 (dk_at dksX4_judge_4 15 rfl rfl)
theorem dX4_judge_114 : decode cX4_judge 114 = .ok (.iload 5, 2) := dk_21 5 (dk_at dksX4_judge_4 18 rfl rfl)
theorem dX4_judge_116 : decode cX4_judge 116 = .ok (.istore 4, 2) := dk_54 4 (dk_at dksX4_judge_4 20 rfl rfl)
theorem dX4_judge_118 : decode cX4_judge 118 = .ok (.iinc 5 1, 3) := dk_132 5 1 (dk_at dksX4_judge_5 0 rfl rfl)
theorem dX4_judge_121 : decode cX4_judge 121 = .ok (.goto (-76), 3) := dk_167 255 180 (dk_at dksX4_judge_5 3 rfl rfl)
theorem dX4_judge_124 : decode cX4_judge 124 = .ok (.aload_n 0, 1) := dk_42 (dk_at dksX4_judge_5 6 rfl rfl)
theorem dX4_judge_125 : decode cX4_judge 125 = .ok (.invokevirtual 201, 3) := dk_182 0 201 (dk_at dksX4_judge_5 7 rfl rfl)
theorem dX4_judge_128 : decode cX4_judge 128 = .ok (.iload 4, 2) := dk_21 4 (dk_at dksX4_judge_5 10 rfl rfl)
theorem dX4_judge_130 : decode cX4_judge 130 = .ok (.ireturn, 1) := dk_172 (dk_at dksX4_judge_5 12 rfl rfl)
abbrev cX4_skipped : ByteArray := prog_21_method_82_code
def yX4_skipped : MethodName := ⟨RX4, "skipped", "(I)J"⟩
def dkwX4_skipped_1 : List UInt8 := [160, 0, 9, 20, 1, 63, 167, 0, 6, 20, 1, 65, 173]
abbrev dktX4_skipped_1 : List UInt8 := dkwX4_skipped_1 ++ []
def dkwX4_skipped_0 : List UInt8 := [42, 180, 0, 34, 27, 46, 154, 0, 9, 20, 1, 61, 167, 0, 22, 42, 180, 0, 34, 27, 46, 4]
abbrev dktX4_skipped_0 : List UInt8 := dkwX4_skipped_0 ++ dktX4_skipped_1
theorem dksX4_skipped_0 : cX4_skipped.data.toList.drop 0 = dktX4_skipped_0 := by decide +kernel
theorem dksX4_skipped_1 : cX4_skipped.data.toList.drop 22 = dktX4_skipped_1 := dk_seg dksX4_skipped_0 22 rfl rfl
theorem dX4_skipped_0 : decode cX4_skipped 0 = .ok (.aload_n 0, 1) := dk_42 (dk_at dksX4_skipped_0 0 rfl rfl)
theorem dX4_skipped_1 : decode cX4_skipped 1 = .ok (.getfield 34, 3) := dk_180 0 34 (dk_at dksX4_skipped_0 1 rfl rfl)
theorem dX4_skipped_4 : decode cX4_skipped 4 = .ok (.iload_n 1, 1) := dk_27 (dk_at dksX4_skipped_0 4 rfl rfl)
theorem dX4_skipped_5 : decode cX4_skipped 5 = .ok (.iaload, 1) := dk_46 (dk_at dksX4_skipped_0 5 rfl rfl)
theorem dX4_skipped_6 : decode cX4_skipped 6 = .ok (.ifCond .ne 9, 3) := dk_154 0 9 (dk_at dksX4_skipped_0 6 rfl rfl)
theorem dX4_skipped_9 : decode cX4_skipped 9 = .ok (.ldc2_w 317, 3) := dk_20 1 61 (dk_at dksX4_skipped_0 9 rfl rfl)
theorem dX4_skipped_12 : decode cX4_skipped 12 = .ok (.goto 22, 3) := dk_167 0 22 (dk_at dksX4_skipped_0 12 rfl rfl)
theorem dX4_skipped_15 : decode cX4_skipped 15 = .ok (.aload_n 0, 1) := dk_42 (dk_at dksX4_skipped_0 15 rfl rfl)
theorem dX4_skipped_16 : decode cX4_skipped 16 = .ok (.getfield 34, 3) := dk_180 0 34 (dk_at dksX4_skipped_0 16 rfl rfl)
theorem dX4_skipped_19 : decode cX4_skipped 19 = .ok (.iload_n 1, 1) := dk_27 (dk_at dksX4_skipped_0 19 rfl rfl)
theorem dX4_skipped_20 : decode cX4_skipped 20 = .ok (.iaload, 1) := dk_46 (dk_at dksX4_skipped_0 20 rfl rfl)
theorem dX4_skipped_21 : decode cX4_skipped 21 = .ok (.iconst 1, 1) := dk_4 (dk_at dksX4_skipped_0 21 rfl rfl)
theorem dX4_skipped_22 : decode cX4_skipped 22 = .ok (.if_icmp .ne 9, 3) := dk_160 0 9 (dk_at dksX4_skipped_1 0 rfl rfl)
theorem dX4_skipped_25 : decode cX4_skipped 25 = .ok (.ldc2_w 319, 3) := dk_20 1 63 (dk_at dksX4_skipped_1 3 rfl rfl)
theorem dX4_skipped_28 : decode cX4_skipped 28 = .ok (.goto 6, 3) := dk_167 0 6 (dk_at dksX4_skipped_1 6 rfl rfl)
theorem dX4_skipped_31 : decode cX4_skipped 31 = .ok (.ldc2_w 321, 3) := dk_20 1 65 (dk_at dksX4_skipped_1 9 rfl rfl)
theorem dX4_skipped_34 : decode cX4_skipped 34 = .ok (.lreturn, 1) := dk_173 (dk_at dksX4_skipped_1 12 rfl rfl)
abbrev cX4_weeks : ByteArray := prog_21_method_85_code
def yX4_weeks : MethodName := ⟨RX4, "weeks", "(III)I"⟩
def dkwX4_weeks_7 : List UInt8 := [132, 7, 1, 167, 255, 153, 29, 154, 0, 8, 21, 4, 167, 0, 5, 21, 5, 172]
abbrev dktX4_weeks_7 : List UInt8 := dkwX4_weeks_7 ++ []
def dkwX4_weeks_6 : List UInt8 := [132, 8, 1, 167, 255, 184, 21, 4, 42, 182, 0, 234, 21, 6, 100, 96, 54, 4, 42, 182, 0, 201]
abbrev dktX4_weeks_6 : List UInt8 := dkwX4_weeks_6 ++ dktX4_weeks_7
def dkwX4_weeks_5 : List UInt8 := [182, 0, 109, 154, 0, 7, 4, 167, 0, 4, 3, 96, 54, 5, 42, 21, 9, 21, 10, 182, 0, 168]
abbrev dktX4_weeks_5 : List UInt8 := dkwX4_weeks_5 ++ dktX4_weeks_6
def dkwX4_weeks_4 : List UInt8 := [42, 180, 0, 19, 21, 9, 46, 16, 7, 162, 0, 36, 21, 5, 21, 10, 5, 160, 0, 16, 42, 21, 9]
abbrev dktX4_weeks_4 : List UInt8 := dkwX4_weeks_4 ++ dktX4_weeks_5
def dkwX4_weeks_3 : List UInt8 := [21, 8, 16, 10, 162, 0, 71, 42, 42, 180, 0, 81, 182, 1, 77, 54, 9, 42, 7, 182, 1, 77, 54, 10]
abbrev dktX4_weeks_3 : List UInt8 := dkwX4_weeks_3 ++ dktX4_weeks_4
def dkwX4_weeks_2 : List UInt8 := [54, 5, 42, 182, 0, 234, 54, 6, 42, 182, 0, 195, 3, 54, 7, 21, 7, 27, 162, 0, 103, 3, 54, 8]
abbrev dktX4_weeks_2 : List UInt8 := dkwX4_weeks_2 ++ dktX4_weeks_3
def dkwX4_weeks_1 : List UInt8 := [154, 0, 5, 2, 172, 42, 180, 0, 81, 154, 0, 6, 16, 253, 172, 42, 28, 181, 1, 71, 3, 54, 4, 3]
abbrev dktX4_weeks_1 : List UInt8 := dkwX4_weeks_1 ++ dktX4_weeks_2
def dkwX4_weeks_0 : List UInt8 := [42, 3, 181, 0, 77, 27, 133, 10, 20, 0, 225, 184, 0, 84, 153, 0, 13, 29, 133, 9, 10, 184, 0, 84]
abbrev dktX4_weeks_0 : List UInt8 := dkwX4_weeks_0 ++ dktX4_weeks_1
theorem dksX4_weeks_0 : cX4_weeks.data.toList.drop 0 = dktX4_weeks_0 := by decide +kernel
theorem dksX4_weeks_1 : cX4_weeks.data.toList.drop 24 = dktX4_weeks_1 := dk_seg dksX4_weeks_0 24 rfl rfl
theorem dksX4_weeks_2 : cX4_weeks.data.toList.drop 48 = dktX4_weeks_2 := dk_seg dksX4_weeks_1 24 rfl rfl
theorem dksX4_weeks_3 : cX4_weeks.data.toList.drop 72 = dktX4_weeks_3 := dk_seg dksX4_weeks_2 24 rfl rfl
theorem dksX4_weeks_4 : cX4_weeks.data.toList.drop 96 = dktX4_weeks_4 := dk_seg dksX4_weeks_3 24 rfl rfl
theorem dksX4_weeks_5 : cX4_weeks.data.toList.drop 119 = dktX4_weeks_5 := dk_seg dksX4_weeks_4 23 rfl rfl
theorem dksX4_weeks_6 : cX4_weeks.data.toList.drop 141 = dktX4_weeks_6 := dk_seg dksX4_weeks_5 22 rfl rfl
theorem dksX4_weeks_7 : cX4_weeks.data.toList.drop 163 = dktX4_weeks_7 := dk_seg dksX4_weeks_6 22 rfl rfl
theorem dX4_weeks_0 : decode cX4_weeks 0 = .ok (.aload_n 0, 1) := dk_42 (dk_at dksX4_weeks_0 0 rfl rfl)
theorem dX4_weeks_1 : decode cX4_weeks 1 = .ok (.iconst 0, 1) := dk_3 (dk_at dksX4_weeks_0 1 rfl rfl)
theorem dX4_weeks_2 : decode cX4_weeks 2 = .ok (.putfield 77, 3) := dk_181 0 77 (dk_at dksX4_weeks_0 2 rfl rfl)
theorem dX4_weeks_5 : decode cX4_weeks 5 = .ok (.iload_n 1, 1) := dk_27 (dk_at dksX4_weeks_0 5 rfl rfl)
theorem dX4_weeks_6 : decode cX4_weeks 6 = .ok (.i2l, 1) := dk_133 (dk_at dksX4_weeks_0 6 rfl rfl)
theorem dX4_weeks_7 : decode cX4_weeks 7 = .ok (.lconst 1, 1) := dk_10 (dk_at dksX4_weeks_0 7 rfl rfl)
theorem dX4_weeks_8 : decode cX4_weeks 8 = .ok (.ldc2_w 225, 3) := dk_20 0 225 (dk_at dksX4_weeks_0 8 rfl rfl)
theorem dX4_weeks_11 : decode cX4_weeks 11 = .ok (.invokestatic 84, 3) := dk_184 0 84 (dk_at dksX4_weeks_0 11 rfl rfl)
theorem dX4_weeks_14 : decode cX4_weeks 14 = .ok (.ifCond .eq 13, 3) := dk_153 0 13 (dk_at dksX4_weeks_0 14 rfl rfl)
theorem dX4_weeks_17 : decode cX4_weeks 17 = .ok (.iload_n 3, 1) := dk_29 (dk_at dksX4_weeks_0 17 rfl rfl)
theorem dX4_weeks_18 : decode cX4_weeks 18 = .ok (.i2l, 1) := dk_133 (dk_at dksX4_weeks_0 18 rfl rfl)
theorem dX4_weeks_19 : decode cX4_weeks 19 = .ok (.lconst 0, 1) := dk_9 (dk_at dksX4_weeks_0 19 rfl rfl)
theorem dX4_weeks_20 : decode cX4_weeks 20 = .ok (.lconst 1, 1) := dk_10 (dk_at dksX4_weeks_0 20 rfl rfl)
theorem dX4_weeks_21 : decode cX4_weeks 21 = .ok (.invokestatic 84, 3) := dk_184 0 84 (dk_at dksX4_weeks_0 21 rfl rfl)
theorem dX4_weeks_24 : decode cX4_weeks 24 = .ok (.ifCond .ne 5, 3) := dk_154 0 5 (dk_at dksX4_weeks_1 0 rfl rfl)
theorem dX4_weeks_27 : decode cX4_weeks 27 = .ok (.iconst (-1), 1) := dk_2 (dk_at dksX4_weeks_1 3 rfl rfl)
theorem dX4_weeks_28 : decode cX4_weeks 28 = .ok (.ireturn, 1) := dk_172 (dk_at dksX4_weeks_1 4 rfl rfl)
theorem dX4_weeks_29 : decode cX4_weeks 29 = .ok (.aload_n 0, 1) := dk_42 (dk_at dksX4_weeks_1 5 rfl rfl)
theorem dX4_weeks_30 : decode cX4_weeks 30 = .ok (.getfield 81, 3) := dk_180 0 81 (dk_at dksX4_weeks_1 6 rfl rfl)
theorem dX4_weeks_33 : decode cX4_weeks 33 = .ok (.ifCond .ne 6, 3) := dk_154 0 6 (dk_at dksX4_weeks_1 9 rfl rfl)
theorem dX4_weeks_36 : decode cX4_weeks 36 = .ok (.bipush (-3), 2) := dk_16 253 (dk_at dksX4_weeks_1 12 rfl rfl)
theorem dX4_weeks_38 : decode cX4_weeks 38 = .ok (.ireturn, 1) := dk_172 (dk_at dksX4_weeks_1 14 rfl rfl)
theorem dX4_weeks_39 : decode cX4_weeks 39 = .ok (.aload_n 0, 1) := dk_42 (dk_at dksX4_weeks_1 15 rfl rfl)
theorem dX4_weeks_40 : decode cX4_weeks 40 = .ok (.iload_n 2, 1) := dk_28 (dk_at dksX4_weeks_1 16 rfl rfl)
theorem dX4_weeks_41 : decode cX4_weeks 41 = .ok (.putfield 327, 3) := dk_181 1 71 (dk_at dksX4_weeks_1 17 rfl rfl)
theorem dX4_weeks_44 : decode cX4_weeks 44 = .ok (.iconst 0, 1) := dk_3 (dk_at dksX4_weeks_1 20 rfl rfl)
theorem dX4_weeks_45 : decode cX4_weeks 45 = .ok (.istore 4, 2) := dk_54 4 (dk_at dksX4_weeks_1 21 rfl rfl)
theorem dX4_weeks_47 : decode cX4_weeks 47 = .ok (.iconst 0, 1) := dk_3 (dk_at dksX4_weeks_1 23 rfl rfl)
theorem dX4_weeks_48 : decode cX4_weeks 48 = .ok (.istore 5, 2) := dk_54 5 (dk_at dksX4_weeks_2 0 rfl rfl)
theorem dX4_weeks_50 : decode cX4_weeks 50 = .ok (.aload_n 0, 1) := dk_42 (dk_at dksX4_weeks_2 2 rfl rfl)
theorem dX4_weeks_51 : decode cX4_weeks 51 = .ok (.invokevirtual 234, 3) := dk_182 0 234 (dk_at dksX4_weeks_2 3 rfl rfl)
theorem dX4_weeks_54 : decode cX4_weeks 54 = .ok (.istore 6, 2) := dk_54 6 (dk_at dksX4_weeks_2 6 rfl rfl)
theorem dX4_weeks_56 : decode cX4_weeks 56 = .ok (.aload_n 0, 1) := dk_42 (dk_at dksX4_weeks_2 8 rfl rfl)
theorem dX4_weeks_57 : decode cX4_weeks 57 = .ok (.invokevirtual 195, 3) := dk_182 0 195 (dk_at dksX4_weeks_2 9 rfl rfl)
theorem dX4_weeks_60 : decode cX4_weeks 60 = .ok (.iconst 0, 1) := dk_3 (dk_at dksX4_weeks_2 12 rfl rfl)
theorem dX4_weeks_61 : decode cX4_weeks 61 = .ok (.istore 7, 2) := dk_54 7 (dk_at dksX4_weeks_2 13 rfl rfl)
theorem dX4_weeks_63 : decode cX4_weeks 63 = .ok (.iload 7, 2) := dk_21 7 (dk_at dksX4_weeks_2 15 rfl rfl)
theorem dX4_weeks_65 : decode cX4_weeks 65 = .ok (.iload_n 1, 1) := dk_27 (dk_at dksX4_weeks_2 17 rfl rfl)
theorem dX4_weeks_66 : decode cX4_weeks 66 = .ok (.if_icmp .ge 103, 3) := dk_162 0 103 (dk_at dksX4_weeks_2 18 rfl rfl)
theorem dX4_weeks_69 : decode cX4_weeks 69 = .ok (.iconst 0, 1) := dk_3 (dk_at dksX4_weeks_2 21 rfl rfl)
theorem dX4_weeks_70 : decode cX4_weeks 70 = .ok (.istore 8, 2) := dk_54 8 (dk_at dksX4_weeks_2 22 rfl rfl)
theorem dX4_weeks_72 : decode cX4_weeks 72 = .ok (.iload 8, 2) := dk_21 8 (dk_at dksX4_weeks_3 0 rfl rfl)
theorem dX4_weeks_74 : decode cX4_weeks 74 = .ok (.bipush 10, 2) := dk_16 10 (dk_at dksX4_weeks_3 2 rfl rfl)
theorem dX4_weeks_76 : decode cX4_weeks 76 = .ok (.if_icmp .ge 71, 3) := dk_162 0 71 (dk_at dksX4_weeks_3 4 rfl rfl)
theorem dX4_weeks_79 : decode cX4_weeks 79 = .ok (.aload_n 0, 1) := dk_42 (dk_at dksX4_weeks_3 7 rfl rfl)
theorem dX4_weeks_80 : decode cX4_weeks 80 = .ok (.aload_n 0, 1) := dk_42 (dk_at dksX4_weeks_3 8 rfl rfl)
theorem dX4_weeks_81 : decode cX4_weeks 81 = .ok (.getfield 81, 3) := dk_180 0 81 (dk_at dksX4_weeks_3 9 rfl rfl)
theorem dX4_weeks_84 : decode cX4_weeks 84 = .ok (.invokevirtual 333, 3) := dk_182 1 77 (dk_at dksX4_weeks_3 12 rfl rfl)
theorem dX4_weeks_87 : decode cX4_weeks 87 = .ok (.istore 9, 2) := dk_54 9 (dk_at dksX4_weeks_3 15 rfl rfl)
theorem dX4_weeks_89 : decode cX4_weeks 89 = .ok (.aload_n 0, 1) := dk_42 (dk_at dksX4_weeks_3 17 rfl rfl)
theorem dX4_weeks_90 : decode cX4_weeks 90 = .ok (.iconst 4, 1) := dk_7 (dk_at dksX4_weeks_3 18 rfl rfl)
theorem dX4_weeks_91 : decode cX4_weeks 91 = .ok (.invokevirtual 333, 3) := dk_182 1 77 (dk_at dksX4_weeks_3 19 rfl rfl)
theorem dX4_weeks_94 : decode cX4_weeks 94 = .ok (.istore 10, 2) := dk_54 10 (dk_at dksX4_weeks_3 22 rfl rfl)
theorem dX4_weeks_96 : decode cX4_weeks 96 = .ok (.aload_n 0, 1) := dk_42 (dk_at dksX4_weeks_4 0 rfl rfl)
theorem dX4_weeks_97 : decode cX4_weeks 97 = .ok (.getfield 19, 3) := dk_180 0 19 (dk_at dksX4_weeks_4 1 rfl rfl)
theorem dX4_weeks_100 : decode cX4_weeks 100 = .ok (.iload 9, 2) := dk_21 9 (dk_at dksX4_weeks_4 4 rfl rfl)
theorem dX4_weeks_102 : decode cX4_weeks 102 = .ok (.iaload, 1) := dk_46 (dk_at dksX4_weeks_4 6 rfl rfl)
theorem dX4_weeks_103 : decode cX4_weeks 103 = .ok (.bipush 7, 2) := dk_16 7 (dk_at dksX4_weeks_4 7 rfl rfl)
theorem dX4_weeks_105 : decode cX4_weeks 105 = .ok (.if_icmp .ge 36, 3) := dk_162 0 36 (dk_at dksX4_weeks_4 9 rfl rfl)
theorem dX4_weeks_108 : decode cX4_weeks 108 = .ok (.iload 5, 2) := dk_21 5 (dk_at dksX4_weeks_4 12 rfl rfl)
theorem dX4_weeks_110 : decode cX4_weeks 110 = .ok (.iload 10, 2) := dk_21 10 (dk_at dksX4_weeks_4 14 rfl rfl)
theorem dX4_weeks_112 : decode cX4_weeks 112 = .ok (.iconst 2, 1) := dk_5 (dk_at dksX4_weeks_4 16 rfl rfl)
theorem dX4_weeks_113 : decode cX4_weeks 113 = .ok (.if_icmp .ne 16, 3) := dk_160 0 16 (dk_at dksX4_weeks_4 17 rfl rfl)
theorem dX4_weeks_116 : decode cX4_weeks 116 = .ok (.aload_n 0, 1) := dk_42 (dk_at dksX4_weeks_4 20 rfl rfl)
theorem dX4_weeks_117 : decode cX4_weeks 117 = .ok (.iload 9, 2) := dk_21 9 (dk_at dksX4_weeks_4 21 rfl rfl)
theorem dX4_weeks_119 : decode cX4_weeks 119 = .ok (.invokevirtual 109, 3) := dk_182 0 109 (dk_at dksX4_weeks_5 0 rfl rfl)
theorem dX4_weeks_122 : decode cX4_weeks 122 = .ok (.ifCond .ne 7, 3) := dk_154 0 7 (dk_at dksX4_weeks_5 3 rfl rfl)
theorem dX4_weeks_125 : decode cX4_weeks 125 = .ok (.iconst 1, 1) := dk_4 (dk_at dksX4_weeks_5 6 rfl rfl)
theorem dX4_weeks_126 : decode cX4_weeks 126 = .ok (.goto 4, 3) := dk_167 0 4 (dk_at dksX4_weeks_5 7 rfl rfl)
theorem dX4_weeks_129 : decode cX4_weeks 129 = .ok (.iconst 0, 1) := dk_3 (dk_at dksX4_weeks_5 10 rfl rfl)
theorem dX4_weeks_130 : decode cX4_weeks 130 = .ok (.iadd, 1) := dk_96 (dk_at dksX4_weeks_5 11 rfl rfl)
theorem dX4_weeks_131 : decode cX4_weeks 131 = .ok (.istore 5, 2) := dk_54 5 (dk_at dksX4_weeks_5 12 rfl rfl)
theorem dX4_weeks_133 : decode cX4_weeks 133 = .ok (.aload_n 0, 1) := dk_42 (dk_at dksX4_weeks_5 14 rfl rfl)
theorem dX4_weeks_134 : decode cX4_weeks 134 = .ok (.iload 9, 2) := dk_21 9 (dk_at dksX4_weeks_5 15 rfl rfl)
theorem dX4_weeks_136 : decode cX4_weeks 136 = .ok (.iload 10, 2) := dk_21 10 (dk_at dksX4_weeks_5 17 rfl rfl)
theorem dX4_weeks_138 : decode cX4_weeks 138 = .ok (.invokevirtual 168, 3) := dk_182 0 168 (dk_at dksX4_weeks_5 19 rfl rfl)
theorem dX4_weeks_141 : decode cX4_weeks 141 = .ok (.iinc 8 1, 3) := dk_132 8 1 (dk_at dksX4_weeks_6 0 rfl rfl)
theorem dX4_weeks_144 : decode cX4_weeks 144 = .ok (.goto (-72), 3) := dk_167 255 184 (dk_at dksX4_weeks_6 3 rfl rfl)
theorem dX4_weeks_147 : decode cX4_weeks 147 = .ok (.iload 4, 2) := dk_21 4 (dk_at dksX4_weeks_6 6 rfl rfl)
theorem dX4_weeks_149 : decode cX4_weeks 149 = .ok (.aload_n 0, 1) := dk_42 (dk_at dksX4_weeks_6 8 rfl rfl)
theorem dX4_weeks_150 : decode cX4_weeks 150 = .ok (.invokevirtual 234, 3) := dk_182 0 234 (dk_at dksX4_weeks_6 9 rfl rfl)
theorem dX4_weeks_153 : decode cX4_weeks 153 = .ok (.iload 6, 2) := dk_21 6 (dk_at dksX4_weeks_6 12 rfl rfl)
theorem dX4_weeks_155 : decode cX4_weeks 155 = .ok (.isub, 1) := dk_100 (dk_at dksX4_weeks_6 14 rfl rfl)
theorem dX4_weeks_156 : decode cX4_weeks 156 = .ok (.iadd, 1) := dk_96 (dk_at dksX4_weeks_6 15 rfl rfl)
theorem dX4_weeks_157 : decode cX4_weeks 157 = .ok (.istore 4, 2) := dk_54 4 (dk_at dksX4_weeks_6 16 rfl rfl)
theorem dX4_weeks_159 : decode cX4_weeks 159 = .ok (.aload_n 0, 1) := dk_42 (dk_at dksX4_weeks_6 18 rfl rfl)
theorem dX4_weeks_160 : decode cX4_weeks 160 = .ok (.invokevirtual 201, 3) := dk_182 0 201 (dk_at dksX4_weeks_6 19 rfl rfl)
theorem dX4_weeks_163 : decode cX4_weeks 163 = .ok (.iinc 7 1, 3) := dk_132 7 1 (dk_at dksX4_weeks_7 0 rfl rfl)
theorem dX4_weeks_166 : decode cX4_weeks 166 = .ok (.goto (-103), 3) := dk_167 255 153 (dk_at dksX4_weeks_7 3 rfl rfl)
theorem dX4_weeks_169 : decode cX4_weeks 169 = .ok (.iload_n 3, 1) := dk_29 (dk_at dksX4_weeks_7 6 rfl rfl)
theorem dX4_weeks_170 : decode cX4_weeks 170 = .ok (.ifCond .ne 8, 3) := dk_154 0 8 (dk_at dksX4_weeks_7 7 rfl rfl)
theorem dX4_weeks_173 : decode cX4_weeks 173 = .ok (.iload 4, 2) := dk_21 4 (dk_at dksX4_weeks_7 10 rfl rfl)
theorem dX4_weeks_175 : decode cX4_weeks 175 = .ok (.goto 5, 3) := dk_167 0 5 (dk_at dksX4_weeks_7 12 rfl rfl)
theorem dX4_weeks_178 : decode cX4_weeks 178 = .ok (.iload 5, 2) := dk_21 5 (dk_at dksX4_weeks_7 15 rfl rfl)
theorem dX4_weeks_180 : decode cX4_weeks 180 = .ok (.ireturn, 1) := dk_172 (dk_at dksX4_weeks_7 17 rfl rfl)
abbrev cX4_drawBelow : ByteArray := prog_21_method_84_code
def yX4_drawBelow : MethodName := ⟨RX4, "drawBelow", "(I)I"⟩
def dkwX4_drawBelow_1 : List UInt8 := [19, 1, 76, 108, 27, 112, 172]
abbrev dktX4_drawBelow_1 : List UInt8 := dkwX4_drawBelow_1 ++ []
def dkwX4_drawBelow_0 : List UInt8 := [42, 42, 180, 1, 71, 19, 1, 74, 104, 17, 48, 57, 96, 181, 1, 71, 42, 180, 1, 71, 19, 1, 75, 126]
abbrev dktX4_drawBelow_0 : List UInt8 := dkwX4_drawBelow_0 ++ dktX4_drawBelow_1
theorem dksX4_drawBelow_0 : cX4_drawBelow.data.toList.drop 0 = dktX4_drawBelow_0 := by decide +kernel
theorem dksX4_drawBelow_1 : cX4_drawBelow.data.toList.drop 24 = dktX4_drawBelow_1 := dk_seg dksX4_drawBelow_0 24 rfl rfl
theorem dX4_drawBelow_0 : decode cX4_drawBelow 0 = .ok (.aload_n 0, 1) := dk_42 (dk_at dksX4_drawBelow_0 0 rfl rfl)
theorem dX4_drawBelow_1 : decode cX4_drawBelow 1 = .ok (.aload_n 0, 1) := dk_42 (dk_at dksX4_drawBelow_0 1 rfl rfl)
theorem dX4_drawBelow_2 : decode cX4_drawBelow 2 = .ok (.getfield 327, 3) := dk_180 1 71 (dk_at dksX4_drawBelow_0 2 rfl rfl)
theorem dX4_drawBelow_5 : decode cX4_drawBelow 5 = .ok (.ldc_w 330, 3) := dk_19 1 74 (dk_at dksX4_drawBelow_0 5 rfl rfl)
theorem dX4_drawBelow_8 : decode cX4_drawBelow 8 = .ok (.imul, 1) := dk_104 (dk_at dksX4_drawBelow_0 8 rfl rfl)
theorem dX4_drawBelow_9 : decode cX4_drawBelow 9 = .ok (.sipush 12345, 3) := dk_17 48 57 (dk_at dksX4_drawBelow_0 9 rfl rfl)
theorem dX4_drawBelow_12 : decode cX4_drawBelow 12 = .ok (.iadd, 1) := dk_96 (dk_at dksX4_drawBelow_0 12 rfl rfl)
theorem dX4_drawBelow_13 : decode cX4_drawBelow 13 = .ok (.putfield 327, 3) := dk_181 1 71 (dk_at dksX4_drawBelow_0 13 rfl rfl)
theorem dX4_drawBelow_16 : decode cX4_drawBelow 16 = .ok (.aload_n 0, 1) := dk_42 (dk_at dksX4_drawBelow_0 16 rfl rfl)
theorem dX4_drawBelow_17 : decode cX4_drawBelow 17 = .ok (.getfield 327, 3) := dk_180 1 71 (dk_at dksX4_drawBelow_0 17 rfl rfl)
theorem dX4_drawBelow_20 : decode cX4_drawBelow 20 = .ok (.ldc_w 331, 3) := dk_19 1 75 (dk_at dksX4_drawBelow_0 20 rfl rfl)
theorem dX4_drawBelow_23 : decode cX4_drawBelow 23 = .ok (.iand, 1) := dk_126 (dk_at dksX4_drawBelow_0 23 rfl rfl)
theorem dX4_drawBelow_24 : decode cX4_drawBelow 24 = .ok (.ldc_w 332, 3) := dk_19 1 76 (dk_at dksX4_drawBelow_1 0 rfl rfl)
theorem dX4_drawBelow_27 : decode cX4_drawBelow 27 = .ok (.idiv, 1) := dk_108 (dk_at dksX4_drawBelow_1 3 rfl rfl)
theorem dX4_drawBelow_28 : decode cX4_drawBelow 28 = .ok (.iload_n 1, 1) := dk_27 (dk_at dksX4_drawBelow_1 4 rfl rfl)
theorem dX4_drawBelow_29 : decode cX4_drawBelow 29 = .ok (.irem, 1) := dk_112 (dk_at dksX4_drawBelow_1 5 rfl rfl)
theorem dX4_drawBelow_30 : decode cX4_drawBelow 30 = .ok (.ireturn, 1) := dk_172 (dk_at dksX4_drawBelow_1 6 rfl rfl)
abbrev cX4_count : ByteArray := prog_21_method_86_code
def yX4_count : MethodName := ⟨RX4, "count", "(I)I"⟩
def dkwX4_count_5 : List UInt8 := [182, 1, 23, 172, 2, 172]
abbrev dktX4_count_5 : List UInt8 := dkwX4_count_5 ++ []
def dkwX4_count_4 : List UInt8 := [180, 0, 81, 162, 0, 18, 28, 42, 180, 0, 22, 29, 46, 96, 61, 132, 3, 1, 167, 255, 236, 28, 172, 42]
abbrev dktX4_count_4 : List UInt8 := dkwX4_count_4 ++ dktX4_count_5
def dkwX4_count_3 : List UInt8 := [180, 0, 16, 29, 46, 96, 61, 132, 3, 1, 167, 255, 236, 28, 172, 42, 182, 0, 234, 172, 3, 62, 29, 42]
abbrev dktX4_count_3 : List UInt8 := dkwX4_count_3 ++ dktX4_count_4
def dkwX4_count_2 : List UInt8 := [42, 180, 0, 81, 172, 42, 180, 0, 135, 172, 3, 62, 29, 42, 180, 0, 81, 162, 0, 18, 28, 42]
abbrev dktX4_count_2 : List UInt8 := dkwX4_count_2 ++ dktX4_count_3
def dkwX4_count_1 : List UInt8 := [170, 0, 0, 0, 0, 0, 0, 114, 0, 0, 0, 0, 0, 0, 0, 5, 0, 0, 0, 40, 0, 0, 0, 45, 0, 0, 0, 50, 0, 0, 0, 77, 0, 0, 0, 82, 0, 0, 0, 109]
abbrev dktX4_count_1 : List UInt8 := dkwX4_count_1 ++ dktX4_count_2
def dkwX4_count_0 : List UInt8 := [42, 3, 181, 0, 77, 3, 61, 27]
abbrev dktX4_count_0 : List UInt8 := dkwX4_count_0 ++ dktX4_count_1
theorem dksX4_count_0 : cX4_count.data.toList.drop 0 = dktX4_count_0 := by decide +kernel
theorem dksX4_count_1 : cX4_count.data.toList.drop 8 = dktX4_count_1 := dk_seg dksX4_count_0 8 rfl rfl
theorem dksX4_count_2 : cX4_count.data.toList.drop 48 = dktX4_count_2 := dk_seg dksX4_count_1 40 rfl rfl
theorem dksX4_count_3 : cX4_count.data.toList.drop 70 = dktX4_count_3 := dk_seg dksX4_count_2 22 rfl rfl
theorem dksX4_count_4 : cX4_count.data.toList.drop 94 = dktX4_count_4 := dk_seg dksX4_count_3 24 rfl rfl
theorem dksX4_count_5 : cX4_count.data.toList.drop 118 = dktX4_count_5 := dk_seg dksX4_count_4 24 rfl rfl
theorem dX4_count_0 : decode cX4_count 0 = .ok (.aload_n 0, 1) := dk_42 (dk_at dksX4_count_0 0 rfl rfl)
theorem dX4_count_1 : decode cX4_count 1 = .ok (.iconst 0, 1) := dk_3 (dk_at dksX4_count_0 1 rfl rfl)
theorem dX4_count_2 : decode cX4_count 2 = .ok (.putfield 77, 3) := dk_181 0 77 (dk_at dksX4_count_0 2 rfl rfl)
theorem dX4_count_5 : decode cX4_count 5 = .ok (.iconst 0, 1) := dk_3 (dk_at dksX4_count_0 5 rfl rfl)
theorem dX4_count_6 : decode cX4_count 6 = .ok (.istore_n 2, 1) := dk_61 (dk_at dksX4_count_0 6 rfl rfl)
theorem dX4_count_7 : decode cX4_count 7 = .ok (.iload_n 1, 1) := dk_27 (dk_at dksX4_count_0 7 rfl rfl)
theorem dX4_count_8 : decode cX4_count 8 = .ok (.tableswitch 114 0 5 #[40, 45, 50, 77, 82, 109], 40) := by decide +kernel
theorem dX4_count_48 : decode cX4_count 48 = .ok (.aload_n 0, 1) := dk_42 (dk_at dksX4_count_2 0 rfl rfl)
theorem dX4_count_49 : decode cX4_count 49 = .ok (.getfield 81, 3) := dk_180 0 81 (dk_at dksX4_count_2 1 rfl rfl)
theorem dX4_count_52 : decode cX4_count 52 = .ok (.ireturn, 1) := dk_172 (dk_at dksX4_count_2 4 rfl rfl)
theorem dX4_count_53 : decode cX4_count 53 = .ok (.aload_n 0, 1) := dk_42 (dk_at dksX4_count_2 5 rfl rfl)
theorem dX4_count_54 : decode cX4_count 54 = .ok (.getfield 135, 3) := dk_180 0 135 (dk_at dksX4_count_2 6 rfl rfl)
theorem dX4_count_57 : decode cX4_count 57 = .ok (.ireturn, 1) := dk_172 (dk_at dksX4_count_2 9 rfl rfl)
theorem dX4_count_58 : decode cX4_count 58 = .ok (.iconst 0, 1) := dk_3 (dk_at dksX4_count_2 10 rfl rfl)
theorem dX4_count_59 : decode cX4_count 59 = .ok (.istore_n 3, 1) := dk_62 (dk_at dksX4_count_2 11 rfl rfl)
theorem dX4_count_60 : decode cX4_count 60 = .ok (.iload_n 3, 1) := dk_29 (dk_at dksX4_count_2 12 rfl rfl)
theorem dX4_count_61 : decode cX4_count 61 = .ok (.aload_n 0, 1) := dk_42 (dk_at dksX4_count_2 13 rfl rfl)
theorem dX4_count_62 : decode cX4_count 62 = .ok (.getfield 81, 3) := dk_180 0 81 (dk_at dksX4_count_2 14 rfl rfl)
theorem dX4_count_65 : decode cX4_count 65 = .ok (.if_icmp .ge 18, 3) := dk_162 0 18 (dk_at dksX4_count_2 17 rfl rfl)
theorem dX4_count_68 : decode cX4_count 68 = .ok (.iload_n 2, 1) := dk_28 (dk_at dksX4_count_2 20 rfl rfl)
theorem dX4_count_69 : decode cX4_count 69 = .ok (.aload_n 0, 1) := dk_42 (dk_at dksX4_count_2 21 rfl rfl)
theorem dX4_count_70 : decode cX4_count 70 = .ok (.getfield 16, 3) := dk_180 0 16 (dk_at dksX4_count_3 0 rfl rfl)
theorem dX4_count_73 : decode cX4_count 73 = .ok (.iload_n 3, 1) := dk_29 (dk_at dksX4_count_3 3 rfl rfl)
theorem dX4_count_74 : decode cX4_count 74 = .ok (.iaload, 1) := dk_46 (dk_at dksX4_count_3 4 rfl rfl)
theorem dX4_count_75 : decode cX4_count 75 = .ok (.iadd, 1) := dk_96 (dk_at dksX4_count_3 5 rfl rfl)
theorem dX4_count_76 : decode cX4_count 76 = .ok (.istore_n 2, 1) := dk_61 (dk_at dksX4_count_3 6 rfl rfl)
theorem dX4_count_77 : decode cX4_count 77 = .ok (.iinc 3 1, 3) := dk_132 3 1 (dk_at dksX4_count_3 7 rfl rfl)
theorem dX4_count_80 : decode cX4_count 80 = .ok (.goto (-20), 3) := dk_167 255 236 (dk_at dksX4_count_3 10 rfl rfl)
theorem dX4_count_83 : decode cX4_count 83 = .ok (.iload_n 2, 1) := dk_28 (dk_at dksX4_count_3 13 rfl rfl)
theorem dX4_count_84 : decode cX4_count 84 = .ok (.ireturn, 1) := dk_172 (dk_at dksX4_count_3 14 rfl rfl)
theorem dX4_count_85 : decode cX4_count 85 = .ok (.aload_n 0, 1) := dk_42 (dk_at dksX4_count_3 15 rfl rfl)
theorem dX4_count_86 : decode cX4_count 86 = .ok (.invokevirtual 234, 3) := dk_182 0 234 (dk_at dksX4_count_3 16 rfl rfl)
theorem dX4_count_89 : decode cX4_count 89 = .ok (.ireturn, 1) := dk_172 (dk_at dksX4_count_3 19 rfl rfl)
theorem dX4_count_90 : decode cX4_count 90 = .ok (.iconst 0, 1) := dk_3 (dk_at dksX4_count_3 20 rfl rfl)
theorem dX4_count_91 : decode cX4_count 91 = .ok (.istore_n 3, 1) := dk_62 (dk_at dksX4_count_3 21 rfl rfl)
theorem dX4_count_92 : decode cX4_count 92 = .ok (.iload_n 3, 1) := dk_29 (dk_at dksX4_count_3 22 rfl rfl)
theorem dX4_count_93 : decode cX4_count 93 = .ok (.aload_n 0, 1) := dk_42 (dk_at dksX4_count_3 23 rfl rfl)
theorem dX4_count_94 : decode cX4_count 94 = .ok (.getfield 81, 3) := dk_180 0 81 (dk_at dksX4_count_4 0 rfl rfl)
theorem dX4_count_97 : decode cX4_count 97 = .ok (.if_icmp .ge 18, 3) := dk_162 0 18 (dk_at dksX4_count_4 3 rfl rfl)
theorem dX4_count_100 : decode cX4_count 100 = .ok (.iload_n 2, 1) := dk_28 (dk_at dksX4_count_4 6 rfl rfl)
theorem dX4_count_101 : decode cX4_count 101 = .ok (.aload_n 0, 1) := dk_42 (dk_at dksX4_count_4 7 rfl rfl)
theorem dX4_count_102 : decode cX4_count 102 = .ok (.getfield 22, 3) := dk_180 0 22 (dk_at dksX4_count_4 8 rfl rfl)
theorem dX4_count_105 : decode cX4_count 105 = .ok (.iload_n 3, 1) := dk_29 (dk_at dksX4_count_4 11 rfl rfl)
theorem dX4_count_106 : decode cX4_count 106 = .ok (.iaload, 1) := dk_46 (dk_at dksX4_count_4 12 rfl rfl)
theorem dX4_count_107 : decode cX4_count 107 = .ok (.iadd, 1) := dk_96 (dk_at dksX4_count_4 13 rfl rfl)
theorem dX4_count_108 : decode cX4_count 108 = .ok (.istore_n 2, 1) := dk_61 (dk_at dksX4_count_4 14 rfl rfl)
theorem dX4_count_109 : decode cX4_count 109 = .ok (.iinc 3 1, 3) := dk_132 3 1 (dk_at dksX4_count_4 15 rfl rfl)
theorem dX4_count_112 : decode cX4_count 112 = .ok (.goto (-20), 3) := dk_167 255 236 (dk_at dksX4_count_4 18 rfl rfl)
theorem dX4_count_115 : decode cX4_count 115 = .ok (.iload_n 2, 1) := dk_28 (dk_at dksX4_count_4 21 rfl rfl)
theorem dX4_count_116 : decode cX4_count 116 = .ok (.ireturn, 1) := dk_172 (dk_at dksX4_count_4 22 rfl rfl)
theorem dX4_count_117 : decode cX4_count 117 = .ok (.aload_n 0, 1) := dk_42 (dk_at dksX4_count_4 23 rfl rfl)
theorem dX4_count_118 : decode cX4_count 118 = .ok (.invokevirtual 279, 3) := dk_182 1 23 (dk_at dksX4_count_5 0 rfl rfl)
theorem dX4_count_121 : decode cX4_count 121 = .ok (.ireturn, 1) := dk_172 (dk_at dksX4_count_5 3 rfl rfl)
theorem dX4_count_122 : decode cX4_count 122 = .ok (.iconst (-1), 1) := dk_2 (dk_at dksX4_count_5 4 rfl rfl)
theorem dX4_count_123 : decode cX4_count 123 = .ok (.ireturn, 1) := dk_172 (dk_at dksX4_count_5 5 rfl rfl)
abbrev cX4_keep : ByteArray := prog_21_method_87_code
def yX4_keep : MethodName := ⟨RX4, "keep", "(IIII)I"⟩
def dkwX4_keep_4 : List UInt8 := [167, 0, 4, 3, 79, 3, 172]
abbrev dktX4_keep_4 : List UInt8 := dkwX4_keep_4 ++ []
def dkwX4_keep_3 : List UInt8 := [4, 160, 0, 7, 29, 167, 0, 4, 3, 79, 42, 180, 0, 31, 27, 28, 4, 160, 0, 8, 21, 4]
abbrev dktX4_keep_3 : List UInt8 := dkwX4_keep_3 ++ dktX4_keep_4
def dkwX4_keep_2 : List UInt8 := [20, 0, 232, 184, 0, 84, 154, 0, 5, 2, 172, 42, 180, 0, 25, 27, 28, 79, 42, 180, 0, 28, 27, 28]
abbrev dktX4_keep_2 : List UInt8 := dkwX4_keep_2 ++ dktX4_keep_3
def dkwX4_keep_1 : List UInt8 := [153, 0, 33, 28, 4, 160, 0, 30, 29, 133, 9, 20, 0, 223, 184, 0, 84, 153, 0, 16, 21, 4, 133, 9]
abbrev dktX4_keep_1 : List UInt8 := dkwX4_keep_1 ++ dktX4_keep_2
def dkwX4_keep_0 : List UInt8 := [42, 3, 181, 0, 77, 27, 133, 9, 20, 0, 223, 184, 0, 84, 153, 0, 43, 28, 133, 9, 10, 184, 0, 84]
abbrev dktX4_keep_0 : List UInt8 := dkwX4_keep_0 ++ dktX4_keep_1
theorem dksX4_keep_0 : cX4_keep.data.toList.drop 0 = dktX4_keep_0 := by decide +kernel
theorem dksX4_keep_1 : cX4_keep.data.toList.drop 24 = dktX4_keep_1 := dk_seg dksX4_keep_0 24 rfl rfl
theorem dksX4_keep_2 : cX4_keep.data.toList.drop 48 = dktX4_keep_2 := dk_seg dksX4_keep_1 24 rfl rfl
theorem dksX4_keep_3 : cX4_keep.data.toList.drop 72 = dktX4_keep_3 := dk_seg dksX4_keep_2 24 rfl rfl
theorem dksX4_keep_4 : cX4_keep.data.toList.drop 94 = dktX4_keep_4 := dk_seg dksX4_keep_3 22 rfl rfl
theorem dX4_keep_0 : decode cX4_keep 0 = .ok (.aload_n 0, 1) := dk_42 (dk_at dksX4_keep_0 0 rfl rfl)
theorem dX4_keep_1 : decode cX4_keep 1 = .ok (.iconst 0, 1) := dk_3 (dk_at dksX4_keep_0 1 rfl rfl)
theorem dX4_keep_2 : decode cX4_keep 2 = .ok (.putfield 77, 3) := dk_181 0 77 (dk_at dksX4_keep_0 2 rfl rfl)
theorem dX4_keep_5 : decode cX4_keep 5 = .ok (.iload_n 1, 1) := dk_27 (dk_at dksX4_keep_0 5 rfl rfl)
theorem dX4_keep_6 : decode cX4_keep 6 = .ok (.i2l, 1) := dk_133 (dk_at dksX4_keep_0 6 rfl rfl)
theorem dX4_keep_7 : decode cX4_keep 7 = .ok (.lconst 0, 1) := dk_9 (dk_at dksX4_keep_0 7 rfl rfl)
theorem dX4_keep_8 : decode cX4_keep 8 = .ok (.ldc2_w 223, 3) := dk_20 0 223 (dk_at dksX4_keep_0 8 rfl rfl)
theorem dX4_keep_11 : decode cX4_keep 11 = .ok (.invokestatic 84, 3) := dk_184 0 84 (dk_at dksX4_keep_0 11 rfl rfl)
theorem dX4_keep_14 : decode cX4_keep 14 = .ok (.ifCond .eq 43, 3) := dk_153 0 43 (dk_at dksX4_keep_0 14 rfl rfl)
theorem dX4_keep_17 : decode cX4_keep 17 = .ok (.iload_n 2, 1) := dk_28 (dk_at dksX4_keep_0 17 rfl rfl)
theorem dX4_keep_18 : decode cX4_keep 18 = .ok (.i2l, 1) := dk_133 (dk_at dksX4_keep_0 18 rfl rfl)
theorem dX4_keep_19 : decode cX4_keep 19 = .ok (.lconst 0, 1) := dk_9 (dk_at dksX4_keep_0 19 rfl rfl)
theorem dX4_keep_20 : decode cX4_keep 20 = .ok (.lconst 1, 1) := dk_10 (dk_at dksX4_keep_0 20 rfl rfl)
theorem dX4_keep_21 : decode cX4_keep 21 = .ok (.invokestatic 84, 3) := dk_184 0 84 (dk_at dksX4_keep_0 21 rfl rfl)
theorem dX4_keep_24 : decode cX4_keep 24 = .ok (.ifCond .eq 33, 3) := dk_153 0 33 (dk_at dksX4_keep_1 0 rfl rfl)
theorem dX4_keep_27 : decode cX4_keep 27 = .ok (.iload_n 2, 1) := dk_28 (dk_at dksX4_keep_1 3 rfl rfl)
theorem dX4_keep_28 : decode cX4_keep 28 = .ok (.iconst 1, 1) := dk_4 (dk_at dksX4_keep_1 4 rfl rfl)
theorem dX4_keep_29 : decode cX4_keep 29 = .ok (.if_icmp .ne 30, 3) := dk_160 0 30 (dk_at dksX4_keep_1 5 rfl rfl)
theorem dX4_keep_32 : decode cX4_keep 32 = .ok (.iload_n 3, 1) := dk_29 (dk_at dksX4_keep_1 8 rfl rfl)
theorem dX4_keep_33 : decode cX4_keep 33 = .ok (.i2l, 1) := dk_133 (dk_at dksX4_keep_1 9 rfl rfl)
theorem dX4_keep_34 : decode cX4_keep 34 = .ok (.lconst 0, 1) := dk_9 (dk_at dksX4_keep_1 10 rfl rfl)
theorem dX4_keep_35 : decode cX4_keep 35 = .ok (.ldc2_w 223, 3) := dk_20 0 223 (dk_at dksX4_keep_1 11 rfl rfl)
theorem dX4_keep_38 : decode cX4_keep 38 = .ok (.invokestatic 84, 3) := dk_184 0 84 (dk_at dksX4_keep_1 14 rfl rfl)
theorem dX4_keep_41 : decode cX4_keep 41 = .ok (.ifCond .eq 16, 3) := dk_153 0 16 (dk_at dksX4_keep_1 17 rfl rfl)
theorem dX4_keep_44 : decode cX4_keep 44 = .ok (.iload 4, 2) := dk_21 4 (dk_at dksX4_keep_1 20 rfl rfl)
theorem dX4_keep_46 : decode cX4_keep 46 = .ok (.i2l, 1) := dk_133 (dk_at dksX4_keep_1 22 rfl rfl)
theorem dX4_keep_47 : decode cX4_keep 47 = .ok (.lconst 0, 1) := dk_9 (dk_at dksX4_keep_1 23 rfl rfl)
theorem dX4_keep_48 : decode cX4_keep 48 = .ok (.ldc2_w 232, 3) := dk_20 0 232 (dk_at dksX4_keep_2 0 rfl rfl)
theorem dX4_keep_51 : decode cX4_keep 51 = .ok (.invokestatic 84, 3) := dk_184 0 84 (dk_at dksX4_keep_2 3 rfl rfl)
theorem dX4_keep_54 : decode cX4_keep 54 = .ok (.ifCond .ne 5, 3) := dk_154 0 5 (dk_at dksX4_keep_2 6 rfl rfl)
theorem dX4_keep_57 : decode cX4_keep 57 = .ok (.iconst (-1), 1) := dk_2 (dk_at dksX4_keep_2 9 rfl rfl)
theorem dX4_keep_58 : decode cX4_keep 58 = .ok (.ireturn, 1) := dk_172 (dk_at dksX4_keep_2 10 rfl rfl)
theorem dX4_keep_59 : decode cX4_keep 59 = .ok (.aload_n 0, 1) := dk_42 (dk_at dksX4_keep_2 11 rfl rfl)
theorem dX4_keep_60 : decode cX4_keep 60 = .ok (.getfield 25, 3) := dk_180 0 25 (dk_at dksX4_keep_2 12 rfl rfl)
theorem dX4_keep_63 : decode cX4_keep 63 = .ok (.iload_n 1, 1) := dk_27 (dk_at dksX4_keep_2 15 rfl rfl)
theorem dX4_keep_64 : decode cX4_keep 64 = .ok (.iload_n 2, 1) := dk_28 (dk_at dksX4_keep_2 16 rfl rfl)
theorem dX4_keep_65 : decode cX4_keep 65 = .ok (.iastore, 1) := dk_79 (dk_at dksX4_keep_2 17 rfl rfl)
theorem dX4_keep_66 : decode cX4_keep 66 = .ok (.aload_n 0, 1) := dk_42 (dk_at dksX4_keep_2 18 rfl rfl)
theorem dX4_keep_67 : decode cX4_keep 67 = .ok (.getfield 28, 3) := dk_180 0 28 (dk_at dksX4_keep_2 19 rfl rfl)
theorem dX4_keep_70 : decode cX4_keep 70 = .ok (.iload_n 1, 1) := dk_27 (dk_at dksX4_keep_2 22 rfl rfl)
theorem dX4_keep_71 : decode cX4_keep 71 = .ok (.iload_n 2, 1) := dk_28 (dk_at dksX4_keep_2 23 rfl rfl)
theorem dX4_keep_72 : decode cX4_keep 72 = .ok (.iconst 1, 1) := dk_4 (dk_at dksX4_keep_3 0 rfl rfl)
theorem dX4_keep_73 : decode cX4_keep 73 = .ok (.if_icmp .ne 7, 3) := dk_160 0 7 (dk_at dksX4_keep_3 1 rfl rfl)
theorem dX4_keep_76 : decode cX4_keep 76 = .ok (.iload_n 3, 1) := dk_29 (dk_at dksX4_keep_3 4 rfl rfl)
theorem dX4_keep_77 : decode cX4_keep 77 = .ok (.goto 4, 3) := dk_167 0 4 (dk_at dksX4_keep_3 5 rfl rfl)
theorem dX4_keep_80 : decode cX4_keep 80 = .ok (.iconst 0, 1) := dk_3 (dk_at dksX4_keep_3 8 rfl rfl)
theorem dX4_keep_81 : decode cX4_keep 81 = .ok (.iastore, 1) := dk_79 (dk_at dksX4_keep_3 9 rfl rfl)
theorem dX4_keep_82 : decode cX4_keep 82 = .ok (.aload_n 0, 1) := dk_42 (dk_at dksX4_keep_3 10 rfl rfl)
theorem dX4_keep_83 : decode cX4_keep 83 = .ok (.getfield 31, 3) := dk_180 0 31 (dk_at dksX4_keep_3 11 rfl rfl)
theorem dX4_keep_86 : decode cX4_keep 86 = .ok (.iload_n 1, 1) := dk_27 (dk_at dksX4_keep_3 14 rfl rfl)
theorem dX4_keep_87 : decode cX4_keep 87 = .ok (.iload_n 2, 1) := dk_28 (dk_at dksX4_keep_3 15 rfl rfl)
theorem dX4_keep_88 : decode cX4_keep 88 = .ok (.iconst 1, 1) := dk_4 (dk_at dksX4_keep_3 16 rfl rfl)
theorem dX4_keep_89 : decode cX4_keep 89 = .ok (.if_icmp .ne 8, 3) := dk_160 0 8 (dk_at dksX4_keep_3 17 rfl rfl)
theorem dX4_keep_92 : decode cX4_keep 92 = .ok (.iload 4, 2) := dk_21 4 (dk_at dksX4_keep_3 20 rfl rfl)
theorem dX4_keep_94 : decode cX4_keep 94 = .ok (.goto 4, 3) := dk_167 0 4 (dk_at dksX4_keep_4 0 rfl rfl)
theorem dX4_keep_97 : decode cX4_keep 97 = .ok (.iconst 0, 1) := dk_3 (dk_at dksX4_keep_4 3 rfl rfl)
theorem dX4_keep_98 : decode cX4_keep 98 = .ok (.iastore, 1) := dk_79 (dk_at dksX4_keep_4 4 rfl rfl)
theorem dX4_keep_99 : decode cX4_keep 99 = .ok (.iconst 0, 1) := dk_3 (dk_at dksX4_keep_4 5 rfl rfl)
theorem dX4_keep_100 : decode cX4_keep 100 = .ok (.ireturn, 1) := dk_172 (dk_at dksX4_keep_4 6 rfl rfl)
abbrev cX4_row : ByteArray := prog_21_method_90_code
def yX4_row : MethodName := ⟨RX4, "row", "(III)I"⟩
def dkwX4_row_4 : List UInt8 := [167, 255, 233, 3, 172]
abbrev dktX4_row_4 : List UInt8 := dkwX4_row_4 ++ []
def dkwX4_row_3 : List UInt8 := [21, 4, 16, 100, 162, 0, 22, 42, 180, 0, 40, 16, 100, 27, 104, 21, 4, 96, 9, 80, 132, 4, 1]
abbrev dktX4_row_3 : List UInt8 := dkwX4_row_3 ++ dktX4_row_4
def dkwX4_row_2 : List UInt8 := [180, 0, 25, 27, 5, 79, 42, 180, 0, 34, 27, 28, 79, 42, 180, 0, 37, 27, 29, 79, 3, 54, 4]
abbrev dktX4_row_2 : List UInt8 := dkwX4_row_2 ++ dktX4_row_3
def dkwX4_row_1 : List UInt8 := [184, 0, 84, 153, 0, 9, 29, 16, 100, 164, 0, 5, 2, 172, 29, 156, 0, 6, 16, 242, 172, 42]
abbrev dktX4_row_1 : List UInt8 := dkwX4_row_1 ++ dktX4_row_2
def dkwX4_row_0 : List UInt8 := [42, 3, 181, 0, 77, 27, 133, 9, 20, 0, 223, 184, 0, 84, 153, 0, 21, 28, 133, 9, 20, 1, 46]
abbrev dktX4_row_0 : List UInt8 := dkwX4_row_0 ++ dktX4_row_1
theorem dksX4_row_0 : cX4_row.data.toList.drop 0 = dktX4_row_0 := by decide +kernel
theorem dksX4_row_1 : cX4_row.data.toList.drop 23 = dktX4_row_1 := dk_seg dksX4_row_0 23 rfl rfl
theorem dksX4_row_2 : cX4_row.data.toList.drop 45 = dktX4_row_2 := dk_seg dksX4_row_1 22 rfl rfl
theorem dksX4_row_3 : cX4_row.data.toList.drop 68 = dktX4_row_3 := dk_seg dksX4_row_2 23 rfl rfl
theorem dksX4_row_4 : cX4_row.data.toList.drop 91 = dktX4_row_4 := dk_seg dksX4_row_3 23 rfl rfl
theorem dX4_row_0 : decode cX4_row 0 = .ok (.aload_n 0, 1) := dk_42 (dk_at dksX4_row_0 0 rfl rfl)
theorem dX4_row_1 : decode cX4_row 1 = .ok (.iconst 0, 1) := dk_3 (dk_at dksX4_row_0 1 rfl rfl)
theorem dX4_row_2 : decode cX4_row 2 = .ok (.putfield 77, 3) := dk_181 0 77 (dk_at dksX4_row_0 2 rfl rfl)
theorem dX4_row_5 : decode cX4_row 5 = .ok (.iload_n 1, 1) := dk_27 (dk_at dksX4_row_0 5 rfl rfl)
theorem dX4_row_6 : decode cX4_row 6 = .ok (.i2l, 1) := dk_133 (dk_at dksX4_row_0 6 rfl rfl)
theorem dX4_row_7 : decode cX4_row 7 = .ok (.lconst 0, 1) := dk_9 (dk_at dksX4_row_0 7 rfl rfl)
theorem dX4_row_8 : decode cX4_row 8 = .ok (.ldc2_w 223, 3) := dk_20 0 223 (dk_at dksX4_row_0 8 rfl rfl)
theorem dX4_row_11 : decode cX4_row 11 = .ok (.invokestatic 84, 3) := dk_184 0 84 (dk_at dksX4_row_0 11 rfl rfl)
theorem dX4_row_14 : decode cX4_row 14 = .ok (.ifCond .eq 21, 3) := dk_153 0 21 (dk_at dksX4_row_0 14 rfl rfl)
theorem dX4_row_17 : decode cX4_row 17 = .ok (.iload_n 2, 1) := dk_28 (dk_at dksX4_row_0 17 rfl rfl)
theorem dX4_row_18 : decode cX4_row 18 = .ok (.i2l, 1) := dk_133 (dk_at dksX4_row_0 18 rfl rfl)
theorem dX4_row_19 : decode cX4_row 19 = .ok (.lconst 0, 1) := dk_9 (dk_at dksX4_row_0 19 rfl rfl)
theorem dX4_row_20 : decode cX4_row 20 = .ok (.ldc2_w 302, 3) := dk_20 1 46 (dk_at dksX4_row_0 20 rfl rfl)
theorem dX4_row_23 : decode cX4_row 23 = .ok (.invokestatic 84, 3) := dk_184 0 84 (dk_at dksX4_row_1 0 rfl rfl)
theorem dX4_row_26 : decode cX4_row 26 = .ok (.ifCond .eq 9, 3) := dk_153 0 9 (dk_at dksX4_row_1 3 rfl rfl)
theorem dX4_row_29 : decode cX4_row 29 = .ok (.iload_n 3, 1) := dk_29 (dk_at dksX4_row_1 6 rfl rfl)
theorem dX4_row_30 : decode cX4_row 30 = .ok (.bipush 100, 2) := dk_16 100 (dk_at dksX4_row_1 7 rfl rfl)
theorem dX4_row_32 : decode cX4_row 32 = .ok (.if_icmp .le 5, 3) := dk_164 0 5 (dk_at dksX4_row_1 9 rfl rfl)
theorem dX4_row_35 : decode cX4_row 35 = .ok (.iconst (-1), 1) := dk_2 (dk_at dksX4_row_1 12 rfl rfl)
theorem dX4_row_36 : decode cX4_row 36 = .ok (.ireturn, 1) := dk_172 (dk_at dksX4_row_1 13 rfl rfl)
theorem dX4_row_37 : decode cX4_row 37 = .ok (.iload_n 3, 1) := dk_29 (dk_at dksX4_row_1 14 rfl rfl)
theorem dX4_row_38 : decode cX4_row 38 = .ok (.ifCond .ge 6, 3) := dk_156 0 6 (dk_at dksX4_row_1 15 rfl rfl)
theorem dX4_row_41 : decode cX4_row 41 = .ok (.bipush (-14), 2) := dk_16 242 (dk_at dksX4_row_1 18 rfl rfl)
theorem dX4_row_43 : decode cX4_row 43 = .ok (.ireturn, 1) := dk_172 (dk_at dksX4_row_1 20 rfl rfl)
theorem dX4_row_44 : decode cX4_row 44 = .ok (.aload_n 0, 1) := dk_42 (dk_at dksX4_row_1 21 rfl rfl)
theorem dX4_row_45 : decode cX4_row 45 = .ok (.getfield 25, 3) := dk_180 0 25 (dk_at dksX4_row_2 0 rfl rfl)
theorem dX4_row_48 : decode cX4_row 48 = .ok (.iload_n 1, 1) := dk_27 (dk_at dksX4_row_2 3 rfl rfl)
theorem dX4_row_49 : decode cX4_row 49 = .ok (.iconst 2, 1) := dk_5 (dk_at dksX4_row_2 4 rfl rfl)
theorem dX4_row_50 : decode cX4_row 50 = .ok (.iastore, 1) := dk_79 (dk_at dksX4_row_2 5 rfl rfl)
theorem dX4_row_51 : decode cX4_row 51 = .ok (.aload_n 0, 1) := dk_42 (dk_at dksX4_row_2 6 rfl rfl)
theorem dX4_row_52 : decode cX4_row 52 = .ok (.getfield 34, 3) := dk_180 0 34 (dk_at dksX4_row_2 7 rfl rfl)
theorem dX4_row_55 : decode cX4_row 55 = .ok (.iload_n 1, 1) := dk_27 (dk_at dksX4_row_2 10 rfl rfl)
theorem dX4_row_56 : decode cX4_row 56 = .ok (.iload_n 2, 1) := dk_28 (dk_at dksX4_row_2 11 rfl rfl)
theorem dX4_row_57 : decode cX4_row 57 = .ok (.iastore, 1) := dk_79 (dk_at dksX4_row_2 12 rfl rfl)
theorem dX4_row_58 : decode cX4_row 58 = .ok (.aload_n 0, 1) := dk_42 (dk_at dksX4_row_2 13 rfl rfl)
theorem dX4_row_59 : decode cX4_row 59 = .ok (.getfield 37, 3) := dk_180 0 37 (dk_at dksX4_row_2 14 rfl rfl)
theorem dX4_row_62 : decode cX4_row 62 = .ok (.iload_n 1, 1) := dk_27 (dk_at dksX4_row_2 17 rfl rfl)
theorem dX4_row_63 : decode cX4_row 63 = .ok (.iload_n 3, 1) := dk_29 (dk_at dksX4_row_2 18 rfl rfl)
theorem dX4_row_64 : decode cX4_row 64 = .ok (.iastore, 1) := dk_79 (dk_at dksX4_row_2 19 rfl rfl)
theorem dX4_row_65 : decode cX4_row 65 = .ok (.iconst 0, 1) := dk_3 (dk_at dksX4_row_2 20 rfl rfl)
theorem dX4_row_66 : decode cX4_row 66 = .ok (.istore 4, 2) := dk_54 4 (dk_at dksX4_row_2 21 rfl rfl)
theorem dX4_row_68 : decode cX4_row 68 = .ok (.iload 4, 2) := dk_21 4 (dk_at dksX4_row_3 0 rfl rfl)
theorem dX4_row_70 : decode cX4_row 70 = .ok (.bipush 100, 2) := dk_16 100 (dk_at dksX4_row_3 2 rfl rfl)
theorem dX4_row_72 : decode cX4_row 72 = .ok (.if_icmp .ge 22, 3) := dk_162 0 22 (dk_at dksX4_row_3 4 rfl rfl)
theorem dX4_row_75 : decode cX4_row 75 = .ok (.aload_n 0, 1) := dk_42 (dk_at dksX4_row_3 7 rfl rfl)
theorem dX4_row_76 : decode cX4_row 76 = .ok (.getfield 40, 3) := dk_180 0 40 (dk_at dksX4_row_3 8 rfl rfl)
theorem dX4_row_79 : decode cX4_row 79 = .ok (.bipush 100, 2) := dk_16 100 (dk_at dksX4_row_3 11 rfl rfl)
theorem dX4_row_81 : decode cX4_row 81 = .ok (.iload_n 1, 1) := dk_27 (dk_at dksX4_row_3 13 rfl rfl)
theorem dX4_row_82 : decode cX4_row 82 = .ok (.imul, 1) := dk_104 (dk_at dksX4_row_3 14 rfl rfl)
theorem dX4_row_83 : decode cX4_row 83 = .ok (.iload 4, 2) := dk_21 4 (dk_at dksX4_row_3 15 rfl rfl)
theorem dX4_row_85 : decode cX4_row 85 = .ok (.iadd, 1) := dk_96 (dk_at dksX4_row_3 17 rfl rfl)
theorem dX4_row_86 : decode cX4_row 86 = .ok (.lconst 0, 1) := dk_9 (dk_at dksX4_row_3 18 rfl rfl)
theorem dX4_row_87 : decode cX4_row 87 = .ok (.lastore, 1) := dk_80 (dk_at dksX4_row_3 19 rfl rfl)
theorem dX4_row_88 : decode cX4_row 88 = .ok (.iinc 4 1, 3) := dk_132 4 1 (dk_at dksX4_row_3 20 rfl rfl)
theorem dX4_row_91 : decode cX4_row 91 = .ok (.goto (-23), 3) := dk_167 255 233 (dk_at dksX4_row_4 0 rfl rfl)
theorem dX4_row_94 : decode cX4_row 94 = .ok (.iconst 0, 1) := dk_3 (dk_at dksX4_row_4 3 rfl rfl)
theorem dX4_row_95 : decode cX4_row 95 = .ok (.ireturn, 1) := dk_172 (dk_at dksX4_row_4 4 rfl rfl)
abbrev cX4_put : ByteArray := prog_21_method_91_code
def yX4_put : MethodName := ⟨RX4, "put", "(III)I"⟩
def dkwX4_put_2 : List UInt8 := [104, 28, 96, 29, 42, 180, 0, 34, 27, 46, 184, 1, 80, 80, 3, 172]
abbrev dktX4_put_2 : List UInt8 := dkwX4_put_2 ++ []
def dkwX4_put_1 : List UInt8 := [180, 0, 37, 27, 46, 4, 100, 133, 184, 0, 84, 154, 0, 6, 16, 243, 172, 42, 180, 0, 40, 16, 100, 27]
abbrev dktX4_put_1 : List UInt8 := dkwX4_put_1 ++ dktX4_put_2
def dkwX4_put_0 : List UInt8 := [42, 3, 181, 0, 77, 42, 27, 182, 0, 189, 54, 4, 21, 4, 156, 0, 6, 21, 4, 172, 28, 133, 9, 42]
abbrev dktX4_put_0 : List UInt8 := dkwX4_put_0 ++ dktX4_put_1
theorem dksX4_put_0 : cX4_put.data.toList.drop 0 = dktX4_put_0 := by decide +kernel
theorem dksX4_put_1 : cX4_put.data.toList.drop 24 = dktX4_put_1 := dk_seg dksX4_put_0 24 rfl rfl
theorem dksX4_put_2 : cX4_put.data.toList.drop 48 = dktX4_put_2 := dk_seg dksX4_put_1 24 rfl rfl
theorem dX4_put_0 : decode cX4_put 0 = .ok (.aload_n 0, 1) := dk_42 (dk_at dksX4_put_0 0 rfl rfl)
theorem dX4_put_1 : decode cX4_put 1 = .ok (.iconst 0, 1) := dk_3 (dk_at dksX4_put_0 1 rfl rfl)
theorem dX4_put_2 : decode cX4_put 2 = .ok (.putfield 77, 3) := dk_181 0 77 (dk_at dksX4_put_0 2 rfl rfl)
theorem dX4_put_5 : decode cX4_put 5 = .ok (.aload_n 0, 1) := dk_42 (dk_at dksX4_put_0 5 rfl rfl)
theorem dX4_put_6 : decode cX4_put 6 = .ok (.iload_n 1, 1) := dk_27 (dk_at dksX4_put_0 6 rfl rfl)
theorem dX4_put_7 : decode cX4_put 7 = .ok (.invokevirtual 189, 3) := dk_182 0 189 (dk_at dksX4_put_0 7 rfl rfl)
theorem dX4_put_10 : decode cX4_put 10 = .ok (.istore 4, 2) := dk_54 4 (dk_at dksX4_put_0 10 rfl rfl)
theorem dX4_put_12 : decode cX4_put 12 = .ok (.iload 4, 2) := dk_21 4 (dk_at dksX4_put_0 12 rfl rfl)
theorem dX4_put_14 : decode cX4_put 14 = .ok (.ifCond .ge 6, 3) := dk_156 0 6 (dk_at dksX4_put_0 14 rfl rfl)
theorem dX4_put_17 : decode cX4_put 17 = .ok (.iload 4, 2) := dk_21 4 (dk_at dksX4_put_0 17 rfl rfl)
theorem dX4_put_19 : decode cX4_put 19 = .ok (.ireturn, 1) := dk_172 (dk_at dksX4_put_0 19 rfl rfl)
theorem dX4_put_20 : decode cX4_put 20 = .ok (.iload_n 2, 1) := dk_28 (dk_at dksX4_put_0 20 rfl rfl)
theorem dX4_put_21 : decode cX4_put 21 = .ok (.i2l, 1) := dk_133 (dk_at dksX4_put_0 21 rfl rfl)
theorem dX4_put_22 : decode cX4_put 22 = .ok (.lconst 0, 1) := dk_9 (dk_at dksX4_put_0 22 rfl rfl)
theorem dX4_put_23 : decode cX4_put 23 = .ok (.aload_n 0, 1) := dk_42 (dk_at dksX4_put_0 23 rfl rfl)
theorem dX4_put_24 : decode cX4_put 24 = .ok (.getfield 37, 3) := dk_180 0 37 (dk_at dksX4_put_1 0 rfl rfl)
theorem dX4_put_27 : decode cX4_put 27 = .ok (.iload_n 1, 1) := dk_27 (dk_at dksX4_put_1 3 rfl rfl)
theorem dX4_put_28 : decode cX4_put 28 = .ok (.iaload, 1) := dk_46 (dk_at dksX4_put_1 4 rfl rfl)
theorem dX4_put_29 : decode cX4_put 29 = .ok (.iconst 1, 1) := dk_4 (dk_at dksX4_put_1 5 rfl rfl)
theorem dX4_put_30 : decode cX4_put 30 = .ok (.isub, 1) := dk_100 (dk_at dksX4_put_1 6 rfl rfl)
theorem dX4_put_31 : decode cX4_put 31 = .ok (.i2l, 1) := dk_133 (dk_at dksX4_put_1 7 rfl rfl)
theorem dX4_put_32 : decode cX4_put 32 = .ok (.invokestatic 84, 3) := dk_184 0 84 (dk_at dksX4_put_1 8 rfl rfl)
theorem dX4_put_35 : decode cX4_put 35 = .ok (.ifCond .ne 6, 3) := dk_154 0 6 (dk_at dksX4_put_1 11 rfl rfl)
theorem dX4_put_38 : decode cX4_put 38 = .ok (.bipush (-13), 2) := dk_16 243 (dk_at dksX4_put_1 14 rfl rfl)
theorem dX4_put_40 : decode cX4_put 40 = .ok (.ireturn, 1) := dk_172 (dk_at dksX4_put_1 16 rfl rfl)
theorem dX4_put_41 : decode cX4_put 41 = .ok (.aload_n 0, 1) := dk_42 (dk_at dksX4_put_1 17 rfl rfl)
theorem dX4_put_42 : decode cX4_put 42 = .ok (.getfield 40, 3) := dk_180 0 40 (dk_at dksX4_put_1 18 rfl rfl)
theorem dX4_put_45 : decode cX4_put 45 = .ok (.bipush 100, 2) := dk_16 100 (dk_at dksX4_put_1 21 rfl rfl)
theorem dX4_put_47 : decode cX4_put 47 = .ok (.iload_n 1, 1) := dk_27 (dk_at dksX4_put_1 23 rfl rfl)
theorem dX4_put_48 : decode cX4_put 48 = .ok (.imul, 1) := dk_104 (dk_at dksX4_put_2 0 rfl rfl)
theorem dX4_put_49 : decode cX4_put 49 = .ok (.iload_n 2, 1) := dk_28 (dk_at dksX4_put_2 1 rfl rfl)
theorem dX4_put_50 : decode cX4_put 50 = .ok (.iadd, 1) := dk_96 (dk_at dksX4_put_2 2 rfl rfl)
theorem dX4_put_51 : decode cX4_put 51 = .ok (.iload_n 3, 1) := dk_29 (dk_at dksX4_put_2 3 rfl rfl)
theorem dX4_put_52 : decode cX4_put 52 = .ok (.aload_n 0, 1) := dk_42 (dk_at dksX4_put_2 4 rfl rfl)
theorem dX4_put_53 : decode cX4_put 53 = .ok (.getfield 34, 3) := dk_180 0 34 (dk_at dksX4_put_2 5 rfl rfl)
theorem dX4_put_56 : decode cX4_put 56 = .ok (.iload_n 1, 1) := dk_27 (dk_at dksX4_put_2 8 rfl rfl)
theorem dX4_put_57 : decode cX4_put 57 = .ok (.iaload, 1) := dk_46 (dk_at dksX4_put_2 9 rfl rfl)
theorem dX4_put_58 : decode cX4_put 58 = .ok (.invokestatic 336, 3) := dk_184 1 80 (dk_at dksX4_put_2 10 rfl rfl)
theorem dX4_put_61 : decode cX4_put 61 = .ok (.lastore, 1) := dk_80 (dk_at dksX4_put_2 13 rfl rfl)
theorem dX4_put_62 : decode cX4_put 62 = .ok (.iconst 0, 1) := dk_3 (dk_at dksX4_put_2 14 rfl rfl)
theorem dX4_put_63 : decode cX4_put 63 = .ok (.ireturn, 1) := dk_172 (dk_at dksX4_put_2 15 rfl rfl)
abbrev cX4_narrowed : ByteArray := prog_21_method_89_code
def yX4_narrowed : MethodName := ⟨RX4, "narrowed", "(II)J"⟩
def dkwX4_narrowed_0 : List UInt8 := [27, 154, 0, 9, 26, 145, 133, 167, 0, 16, 27, 4, 160, 0, 9, 26, 147, 133, 167, 0, 5, 26, 133, 173]
abbrev dktX4_narrowed_0 : List UInt8 := dkwX4_narrowed_0 ++ []
theorem dksX4_narrowed_0 : cX4_narrowed.data.toList.drop 0 = dktX4_narrowed_0 := by decide +kernel
theorem dX4_narrowed_0 : decode cX4_narrowed 0 = .ok (.iload_n 1, 1) := dk_27 (dk_at dksX4_narrowed_0 0 rfl rfl)
theorem dX4_narrowed_1 : decode cX4_narrowed 1 = .ok (.ifCond .ne 9, 3) := dk_154 0 9 (dk_at dksX4_narrowed_0 1 rfl rfl)
theorem dX4_narrowed_4 : decode cX4_narrowed 4 = .ok (.iload_n 0, 1) := dk_26 (dk_at dksX4_narrowed_0 4 rfl rfl)
theorem dX4_narrowed_5 : decode cX4_narrowed 5 = .ok (.i2b, 1) := dk_145 (dk_at dksX4_narrowed_0 5 rfl rfl)
theorem dX4_narrowed_6 : decode cX4_narrowed 6 = .ok (.i2l, 1) := dk_133 (dk_at dksX4_narrowed_0 6 rfl rfl)
theorem dX4_narrowed_7 : decode cX4_narrowed 7 = .ok (.goto 16, 3) := dk_167 0 16 (dk_at dksX4_narrowed_0 7 rfl rfl)
theorem dX4_narrowed_10 : decode cX4_narrowed 10 = .ok (.iload_n 1, 1) := dk_27 (dk_at dksX4_narrowed_0 10 rfl rfl)
theorem dX4_narrowed_11 : decode cX4_narrowed 11 = .ok (.iconst 1, 1) := dk_4 (dk_at dksX4_narrowed_0 11 rfl rfl)
theorem dX4_narrowed_12 : decode cX4_narrowed 12 = .ok (.if_icmp .ne 9, 3) := dk_160 0 9 (dk_at dksX4_narrowed_0 12 rfl rfl)
theorem dX4_narrowed_15 : decode cX4_narrowed 15 = .ok (.iload_n 0, 1) := dk_26 (dk_at dksX4_narrowed_0 15 rfl rfl)
theorem dX4_narrowed_16 : decode cX4_narrowed 16 = .ok (.i2s, 1) := dk_147 (dk_at dksX4_narrowed_0 16 rfl rfl)
theorem dX4_narrowed_17 : decode cX4_narrowed 17 = .ok (.i2l, 1) := dk_133 (dk_at dksX4_narrowed_0 17 rfl rfl)
theorem dX4_narrowed_18 : decode cX4_narrowed 18 = .ok (.goto 5, 3) := dk_167 0 5 (dk_at dksX4_narrowed_0 18 rfl rfl)
theorem dX4_narrowed_21 : decode cX4_narrowed 21 = .ok (.iload_n 0, 1) := dk_26 (dk_at dksX4_narrowed_0 21 rfl rfl)
theorem dX4_narrowed_22 : decode cX4_narrowed 22 = .ok (.i2l, 1) := dk_133 (dk_at dksX4_narrowed_0 22 rfl rfl)
theorem dX4_narrowed_23 : decode cX4_narrowed 23 = .ok (.lreturn, 1) := dk_173 (dk_at dksX4_narrowed_0 23 rfl rfl)
abbrev cX4_element : ByteArray := prog_21_method_92_code
def yX4_element : MethodName := ⟨RX4, "element", "(II)J"⟩
def dkwX4_element_2 : List UInt8 := [180, 0, 77, 158, 0, 7, 9, 167, 0, 14, 42, 180, 0, 40, 16, 100, 27, 104, 28, 96, 47, 173]
abbrev dktX4_element_2 : List UInt8 := dkwX4_element_2 ++ []
def dkwX4_element_1 : List UInt8 := [180, 0, 37, 27, 46, 4, 100, 133, 184, 0, 84, 154, 0, 7, 5, 167, 0, 4, 3, 181, 0, 77, 42]
abbrev dktX4_element_1 : List UInt8 := dkwX4_element_1 ++ dktX4_element_2
def dkwX4_element_0 : List UInt8 := [42, 27, 182, 0, 189, 62, 42, 29, 2, 160, 0, 7, 4, 167, 0, 30, 29, 155, 0, 21, 28, 133, 9, 42]
abbrev dktX4_element_0 : List UInt8 := dkwX4_element_0 ++ dktX4_element_1
theorem dksX4_element_0 : cX4_element.data.toList.drop 0 = dktX4_element_0 := by decide +kernel
theorem dksX4_element_1 : cX4_element.data.toList.drop 24 = dktX4_element_1 := dk_seg dksX4_element_0 24 rfl rfl
theorem dksX4_element_2 : cX4_element.data.toList.drop 47 = dktX4_element_2 := dk_seg dksX4_element_1 23 rfl rfl
theorem dX4_element_0 : decode cX4_element 0 = .ok (.aload_n 0, 1) := dk_42 (dk_at dksX4_element_0 0 rfl rfl)
theorem dX4_element_1 : decode cX4_element 1 = .ok (.iload_n 1, 1) := dk_27 (dk_at dksX4_element_0 1 rfl rfl)
theorem dX4_element_2 : decode cX4_element 2 = .ok (.invokevirtual 189, 3) := dk_182 0 189 (dk_at dksX4_element_0 2 rfl rfl)
theorem dX4_element_5 : decode cX4_element 5 = .ok (.istore_n 3, 1) := dk_62 (dk_at dksX4_element_0 5 rfl rfl)
theorem dX4_element_6 : decode cX4_element 6 = .ok (.aload_n 0, 1) := dk_42 (dk_at dksX4_element_0 6 rfl rfl)
theorem dX4_element_7 : decode cX4_element 7 = .ok (.iload_n 3, 1) := dk_29 (dk_at dksX4_element_0 7 rfl rfl)
theorem dX4_element_8 : decode cX4_element 8 = .ok (.iconst (-1), 1) := dk_2 (dk_at dksX4_element_0 8 rfl rfl)
theorem dX4_element_9 : decode cX4_element 9 = .ok (.if_icmp .ne 7, 3) := dk_160 0 7 (dk_at dksX4_element_0 9 rfl rfl)
theorem dX4_element_12 : decode cX4_element 12 = .ok (.iconst 1, 1) := dk_4 (dk_at dksX4_element_0 12 rfl rfl)
theorem dX4_element_13 : decode cX4_element 13 = .ok (.goto 30, 3) := dk_167 0 30 (dk_at dksX4_element_0 13 rfl rfl)
theorem dX4_element_16 : decode cX4_element 16 = .ok (.iload_n 3, 1) := dk_29 (dk_at dksX4_element_0 16 rfl rfl)
theorem dX4_element_17 : decode cX4_element 17 = .ok (.ifCond .lt 21, 3) := dk_155 0 21 (dk_at dksX4_element_0 17 rfl rfl)
theorem dX4_element_20 : decode cX4_element 20 = .ok (.iload_n 2, 1) := dk_28 (dk_at dksX4_element_0 20 rfl rfl)
theorem dX4_element_21 : decode cX4_element 21 = .ok (.i2l, 1) := dk_133 (dk_at dksX4_element_0 21 rfl rfl)
theorem dX4_element_22 : decode cX4_element 22 = .ok (.lconst 0, 1) := dk_9 (dk_at dksX4_element_0 22 rfl rfl)
theorem dX4_element_23 : decode cX4_element 23 = .ok (.aload_n 0, 1) := dk_42 (dk_at dksX4_element_0 23 rfl rfl)
theorem dX4_element_24 : decode cX4_element 24 = .ok (.getfield 37, 3) := dk_180 0 37 (dk_at dksX4_element_1 0 rfl rfl)
theorem dX4_element_27 : decode cX4_element 27 = .ok (.iload_n 1, 1) := dk_27 (dk_at dksX4_element_1 3 rfl rfl)
theorem dX4_element_28 : decode cX4_element 28 = .ok (.iaload, 1) := dk_46 (dk_at dksX4_element_1 4 rfl rfl)
theorem dX4_element_29 : decode cX4_element 29 = .ok (.iconst 1, 1) := dk_4 (dk_at dksX4_element_1 5 rfl rfl)
theorem dX4_element_30 : decode cX4_element 30 = .ok (.isub, 1) := dk_100 (dk_at dksX4_element_1 6 rfl rfl)
theorem dX4_element_31 : decode cX4_element 31 = .ok (.i2l, 1) := dk_133 (dk_at dksX4_element_1 7 rfl rfl)
theorem dX4_element_32 : decode cX4_element 32 = .ok (.invokestatic 84, 3) := dk_184 0 84 (dk_at dksX4_element_1 8 rfl rfl)
theorem dX4_element_35 : decode cX4_element 35 = .ok (.ifCond .ne 7, 3) := dk_154 0 7 (dk_at dksX4_element_1 11 rfl rfl)
theorem dX4_element_38 : decode cX4_element 38 = .ok (.iconst 2, 1) := dk_5 (dk_at dksX4_element_1 14 rfl rfl)
theorem dX4_element_39 : decode cX4_element 39 = .ok (.goto 4, 3) := dk_167 0 4 (dk_at dksX4_element_1 15 rfl rfl)
theorem dX4_element_42 : decode cX4_element 42 = .ok (.iconst 0, 1) := dk_3 (dk_at dksX4_element_1 18 rfl rfl)
theorem dX4_element_43 : decode cX4_element 43 = .ok (.putfield 77, 3) := dk_181 0 77 (dk_at dksX4_element_1 19 rfl rfl)
theorem dX4_element_46 : decode cX4_element 46 = .ok (.aload_n 0, 1) := dk_42 (dk_at dksX4_element_1 22 rfl rfl)
theorem dX4_element_47 : decode cX4_element 47 = .ok (.getfield 77, 3) := dk_180 0 77 (dk_at dksX4_element_2 0 rfl rfl)
theorem dX4_element_50 : decode cX4_element 50 = .ok (.ifCond .le 7, 3) := dk_158 0 7 (dk_at dksX4_element_2 3 rfl rfl)
theorem dX4_element_53 : decode cX4_element 53 = .ok (.lconst 0, 1) := dk_9 (dk_at dksX4_element_2 6 rfl rfl)
theorem dX4_element_54 : decode cX4_element 54 = .ok (.goto 14, 3) := dk_167 0 14 (dk_at dksX4_element_2 7 rfl rfl)
theorem dX4_element_57 : decode cX4_element 57 = .ok (.aload_n 0, 1) := dk_42 (dk_at dksX4_element_2 10 rfl rfl)
theorem dX4_element_58 : decode cX4_element 58 = .ok (.getfield 40, 3) := dk_180 0 40 (dk_at dksX4_element_2 11 rfl rfl)
theorem dX4_element_61 : decode cX4_element 61 = .ok (.bipush 100, 2) := dk_16 100 (dk_at dksX4_element_2 14 rfl rfl)
theorem dX4_element_63 : decode cX4_element 63 = .ok (.iload_n 1, 1) := dk_27 (dk_at dksX4_element_2 16 rfl rfl)
theorem dX4_element_64 : decode cX4_element 64 = .ok (.imul, 1) := dk_104 (dk_at dksX4_element_2 17 rfl rfl)
theorem dX4_element_65 : decode cX4_element 65 = .ok (.iload_n 2, 1) := dk_28 (dk_at dksX4_element_2 18 rfl rfl)
theorem dX4_element_66 : decode cX4_element 66 = .ok (.iadd, 1) := dk_96 (dk_at dksX4_element_2 19 rfl rfl)
theorem dX4_element_67 : decode cX4_element 67 = .ok (.laload, 1) := dk_47 (dk_at dksX4_element_2 20 rfl rfl)
theorem dX4_element_68 : decode cX4_element 68 = .ok (.lreturn, 1) := dk_173 (dk_at dksX4_element_2 21 rfl rfl)
abbrev cX4_copy : ByteArray := prog_21_method_93_code
def yX4_copy : MethodName := ⟨RX4, "copy", "(IIIII)I"⟩
def dkwX4_copy_9 : List UInt8 := [167, 255, 224, 21, 5, 172]
abbrev dktX4_copy_9 : List UInt8 := dkwX4_copy_9 ++ []
def dkwX4_copy_8 : List UInt8 := [180, 0, 40, 16, 100, 29, 104, 21, 4, 96, 21, 6, 96, 42, 180, 0, 74, 21, 6, 47, 80, 132, 6, 1]
abbrev dktX4_copy_8 : List UInt8 := dkwX4_copy_8 ++ dktX4_copy_9
def dkwX4_copy_7 : List UInt8 := [21, 6, 96, 47, 80, 132, 6, 1, 167, 255, 225, 3, 54, 6, 21, 6, 21, 5, 162, 0, 31, 42]
abbrev dktX4_copy_7 : List UInt8 := dkwX4_copy_7 ++ dktX4_copy_8
def dkwX4_copy_6 : List UInt8 := [21, 6, 21, 5, 162, 0, 30, 42, 180, 0, 74, 21, 6, 42, 180, 0, 40, 16, 100, 27, 104, 28, 96]
abbrev dktX4_copy_6 : List UInt8 := dkwX4_copy_6 ++ dktX4_copy_7
def dkwX4_copy_5 : List UInt8 := [163, 0, 17, 21, 4, 42, 180, 0, 37, 29, 46, 21, 5, 100, 164, 0, 6, 16, 243, 172, 3, 54, 6]
abbrev dktX4_copy_5 : List UInt8 := dkwX4_copy_5 ++ dktX4_copy_6
def dkwX4_copy_4 : List UInt8 := [155, 0, 39, 28, 155, 0, 35, 21, 4, 155, 0, 30, 28, 42, 180, 0, 37, 27, 46, 21, 5, 100]
abbrev dktX4_copy_4 : List UInt8 := dkwX4_copy_4 ++ dktX4_copy_5
def dkwX4_copy_3 : List UInt8 := [160, 0, 18, 42, 180, 0, 34, 27, 46, 42, 180, 0, 34, 29, 46, 159, 0, 6, 16, 244, 172, 21, 5]
abbrev dktX4_copy_3 : List UInt8 := dkwX4_copy_3 ++ dktX4_copy_4
def dkwX4_copy_2 : List UInt8 := [154, 0, 6, 16, 245, 172, 42, 180, 0, 25, 27, 46, 5, 160, 0, 28, 42, 180, 0, 25, 29, 46, 5]
abbrev dktX4_copy_2 : List UInt8 := dkwX4_copy_2 ++ dktX4_copy_3
def dkwX4_copy_1 : List UInt8 := [184, 0, 84, 154, 0, 5, 2, 172, 42, 180, 0, 25, 27, 46, 153, 0, 12, 42, 180, 0, 25, 29, 46]
abbrev dktX4_copy_1 : List UInt8 := dkwX4_copy_1 ++ dktX4_copy_2
def dkwX4_copy_0 : List UInt8 := [42, 3, 181, 0, 77, 27, 133, 9, 20, 0, 223, 184, 0, 84, 153, 0, 15, 29, 133, 9, 20, 0, 223]
abbrev dktX4_copy_0 : List UInt8 := dkwX4_copy_0 ++ dktX4_copy_1
theorem dksX4_copy_0 : cX4_copy.data.toList.drop 0 = dktX4_copy_0 := by decide +kernel
theorem dksX4_copy_1 : cX4_copy.data.toList.drop 23 = dktX4_copy_1 := dk_seg dksX4_copy_0 23 rfl rfl
theorem dksX4_copy_2 : cX4_copy.data.toList.drop 46 = dktX4_copy_2 := dk_seg dksX4_copy_1 23 rfl rfl
theorem dksX4_copy_3 : cX4_copy.data.toList.drop 69 = dktX4_copy_3 := dk_seg dksX4_copy_2 23 rfl rfl
theorem dksX4_copy_4 : cX4_copy.data.toList.drop 92 = dktX4_copy_4 := dk_seg dksX4_copy_3 23 rfl rfl
theorem dksX4_copy_5 : cX4_copy.data.toList.drop 114 = dktX4_copy_5 := dk_seg dksX4_copy_4 22 rfl rfl
theorem dksX4_copy_6 : cX4_copy.data.toList.drop 137 = dktX4_copy_6 := dk_seg dksX4_copy_5 23 rfl rfl
theorem dksX4_copy_7 : cX4_copy.data.toList.drop 160 = dktX4_copy_7 := dk_seg dksX4_copy_6 23 rfl rfl
theorem dksX4_copy_8 : cX4_copy.data.toList.drop 182 = dktX4_copy_8 := dk_seg dksX4_copy_7 22 rfl rfl
theorem dksX4_copy_9 : cX4_copy.data.toList.drop 206 = dktX4_copy_9 := dk_seg dksX4_copy_8 24 rfl rfl
theorem dX4_copy_0 : decode cX4_copy 0 = .ok (.aload_n 0, 1) := dk_42 (dk_at dksX4_copy_0 0 rfl rfl)
theorem dX4_copy_1 : decode cX4_copy 1 = .ok (.iconst 0, 1) := dk_3 (dk_at dksX4_copy_0 1 rfl rfl)
theorem dX4_copy_2 : decode cX4_copy 2 = .ok (.putfield 77, 3) := dk_181 0 77 (dk_at dksX4_copy_0 2 rfl rfl)
theorem dX4_copy_5 : decode cX4_copy 5 = .ok (.iload_n 1, 1) := dk_27 (dk_at dksX4_copy_0 5 rfl rfl)
theorem dX4_copy_6 : decode cX4_copy 6 = .ok (.i2l, 1) := dk_133 (dk_at dksX4_copy_0 6 rfl rfl)
theorem dX4_copy_7 : decode cX4_copy 7 = .ok (.lconst 0, 1) := dk_9 (dk_at dksX4_copy_0 7 rfl rfl)
theorem dX4_copy_8 : decode cX4_copy 8 = .ok (.ldc2_w 223, 3) := dk_20 0 223 (dk_at dksX4_copy_0 8 rfl rfl)
theorem dX4_copy_11 : decode cX4_copy 11 = .ok (.invokestatic 84, 3) := dk_184 0 84 (dk_at dksX4_copy_0 11 rfl rfl)
theorem dX4_copy_14 : decode cX4_copy 14 = .ok (.ifCond .eq 15, 3) := dk_153 0 15 (dk_at dksX4_copy_0 14 rfl rfl)
theorem dX4_copy_17 : decode cX4_copy 17 = .ok (.iload_n 3, 1) := dk_29 (dk_at dksX4_copy_0 17 rfl rfl)
theorem dX4_copy_18 : decode cX4_copy 18 = .ok (.i2l, 1) := dk_133 (dk_at dksX4_copy_0 18 rfl rfl)
theorem dX4_copy_19 : decode cX4_copy 19 = .ok (.lconst 0, 1) := dk_9 (dk_at dksX4_copy_0 19 rfl rfl)
theorem dX4_copy_20 : decode cX4_copy 20 = .ok (.ldc2_w 223, 3) := dk_20 0 223 (dk_at dksX4_copy_0 20 rfl rfl)
theorem dX4_copy_23 : decode cX4_copy 23 = .ok (.invokestatic 84, 3) := dk_184 0 84 (dk_at dksX4_copy_1 0 rfl rfl)
theorem dX4_copy_26 : decode cX4_copy 26 = .ok (.ifCond .ne 5, 3) := dk_154 0 5 (dk_at dksX4_copy_1 3 rfl rfl)
theorem dX4_copy_29 : decode cX4_copy 29 = .ok (.iconst (-1), 1) := dk_2 (dk_at dksX4_copy_1 6 rfl rfl)
theorem dX4_copy_30 : decode cX4_copy 30 = .ok (.ireturn, 1) := dk_172 (dk_at dksX4_copy_1 7 rfl rfl)
theorem dX4_copy_31 : decode cX4_copy 31 = .ok (.aload_n 0, 1) := dk_42 (dk_at dksX4_copy_1 8 rfl rfl)
theorem dX4_copy_32 : decode cX4_copy 32 = .ok (.getfield 25, 3) := dk_180 0 25 (dk_at dksX4_copy_1 9 rfl rfl)
theorem dX4_copy_35 : decode cX4_copy 35 = .ok (.iload_n 1, 1) := dk_27 (dk_at dksX4_copy_1 12 rfl rfl)
theorem dX4_copy_36 : decode cX4_copy 36 = .ok (.iaload, 1) := dk_46 (dk_at dksX4_copy_1 13 rfl rfl)
theorem dX4_copy_37 : decode cX4_copy 37 = .ok (.ifCond .eq 12, 3) := dk_153 0 12 (dk_at dksX4_copy_1 14 rfl rfl)
theorem dX4_copy_40 : decode cX4_copy 40 = .ok (.aload_n 0, 1) := dk_42 (dk_at dksX4_copy_1 17 rfl rfl)
theorem dX4_copy_41 : decode cX4_copy 41 = .ok (.getfield 25, 3) := dk_180 0 25 (dk_at dksX4_copy_1 18 rfl rfl)
theorem dX4_copy_44 : decode cX4_copy 44 = .ok (.iload_n 3, 1) := dk_29 (dk_at dksX4_copy_1 21 rfl rfl)
theorem dX4_copy_45 : decode cX4_copy 45 = .ok (.iaload, 1) := dk_46 (dk_at dksX4_copy_1 22 rfl rfl)
theorem dX4_copy_46 : decode cX4_copy 46 = .ok (.ifCond .ne 6, 3) := dk_154 0 6 (dk_at dksX4_copy_2 0 rfl rfl)
theorem dX4_copy_49 : decode cX4_copy 49 = .ok (.bipush (-11), 2) := dk_16 245 (dk_at dksX4_copy_2 3 rfl rfl)
theorem dX4_copy_51 : decode cX4_copy 51 = .ok (.ireturn, 1) := dk_172 (dk_at dksX4_copy_2 5 rfl rfl)
theorem dX4_copy_52 : decode cX4_copy 52 = .ok (.aload_n 0, 1) := dk_42 (dk_at dksX4_copy_2 6 rfl rfl)
theorem dX4_copy_53 : decode cX4_copy 53 = .ok (.getfield 25, 3) := dk_180 0 25 (dk_at dksX4_copy_2 7 rfl rfl)
theorem dX4_copy_56 : decode cX4_copy 56 = .ok (.iload_n 1, 1) := dk_27 (dk_at dksX4_copy_2 10 rfl rfl)
theorem dX4_copy_57 : decode cX4_copy 57 = .ok (.iaload, 1) := dk_46 (dk_at dksX4_copy_2 11 rfl rfl)
theorem dX4_copy_58 : decode cX4_copy 58 = .ok (.iconst 2, 1) := dk_5 (dk_at dksX4_copy_2 12 rfl rfl)
theorem dX4_copy_59 : decode cX4_copy 59 = .ok (.if_icmp .ne 28, 3) := dk_160 0 28 (dk_at dksX4_copy_2 13 rfl rfl)
theorem dX4_copy_62 : decode cX4_copy 62 = .ok (.aload_n 0, 1) := dk_42 (dk_at dksX4_copy_2 16 rfl rfl)
theorem dX4_copy_63 : decode cX4_copy 63 = .ok (.getfield 25, 3) := dk_180 0 25 (dk_at dksX4_copy_2 17 rfl rfl)
theorem dX4_copy_66 : decode cX4_copy 66 = .ok (.iload_n 3, 1) := dk_29 (dk_at dksX4_copy_2 20 rfl rfl)
theorem dX4_copy_67 : decode cX4_copy 67 = .ok (.iaload, 1) := dk_46 (dk_at dksX4_copy_2 21 rfl rfl)
theorem dX4_copy_68 : decode cX4_copy 68 = .ok (.iconst 2, 1) := dk_5 (dk_at dksX4_copy_2 22 rfl rfl)
theorem dX4_copy_69 : decode cX4_copy 69 = .ok (.if_icmp .ne 18, 3) := dk_160 0 18 (dk_at dksX4_copy_3 0 rfl rfl)
theorem dX4_copy_72 : decode cX4_copy 72 = .ok (.aload_n 0, 1) := dk_42 (dk_at dksX4_copy_3 3 rfl rfl)
theorem dX4_copy_73 : decode cX4_copy 73 = .ok (.getfield 34, 3) := dk_180 0 34 (dk_at dksX4_copy_3 4 rfl rfl)
theorem dX4_copy_76 : decode cX4_copy 76 = .ok (.iload_n 1, 1) := dk_27 (dk_at dksX4_copy_3 7 rfl rfl)
theorem dX4_copy_77 : decode cX4_copy 77 = .ok (.iaload, 1) := dk_46 (dk_at dksX4_copy_3 8 rfl rfl)
theorem dX4_copy_78 : decode cX4_copy 78 = .ok (.aload_n 0, 1) := dk_42 (dk_at dksX4_copy_3 9 rfl rfl)
theorem dX4_copy_79 : decode cX4_copy 79 = .ok (.getfield 34, 3) := dk_180 0 34 (dk_at dksX4_copy_3 10 rfl rfl)
theorem dX4_copy_82 : decode cX4_copy 82 = .ok (.iload_n 3, 1) := dk_29 (dk_at dksX4_copy_3 13 rfl rfl)
theorem dX4_copy_83 : decode cX4_copy 83 = .ok (.iaload, 1) := dk_46 (dk_at dksX4_copy_3 14 rfl rfl)
theorem dX4_copy_84 : decode cX4_copy 84 = .ok (.if_icmp .eq 6, 3) := dk_159 0 6 (dk_at dksX4_copy_3 15 rfl rfl)
theorem dX4_copy_87 : decode cX4_copy 87 = .ok (.bipush (-12), 2) := dk_16 244 (dk_at dksX4_copy_3 18 rfl rfl)
theorem dX4_copy_89 : decode cX4_copy 89 = .ok (.ireturn, 1) := dk_172 (dk_at dksX4_copy_3 20 rfl rfl)
theorem dX4_copy_90 : decode cX4_copy 90 = .ok (.iload 5, 2) := dk_21 5 (dk_at dksX4_copy_3 21 rfl rfl)
theorem dX4_copy_92 : decode cX4_copy 92 = .ok (.ifCond .lt 39, 3) := dk_155 0 39 (dk_at dksX4_copy_4 0 rfl rfl)
theorem dX4_copy_95 : decode cX4_copy 95 = .ok (.iload_n 2, 1) := dk_28 (dk_at dksX4_copy_4 3 rfl rfl)
theorem dX4_copy_96 : decode cX4_copy 96 = .ok (.ifCond .lt 35, 3) := dk_155 0 35 (dk_at dksX4_copy_4 4 rfl rfl)
theorem dX4_copy_99 : decode cX4_copy 99 = .ok (.iload 4, 2) := dk_21 4 (dk_at dksX4_copy_4 7 rfl rfl)
theorem dX4_copy_101 : decode cX4_copy 101 = .ok (.ifCond .lt 30, 3) := dk_155 0 30 (dk_at dksX4_copy_4 9 rfl rfl)
theorem dX4_copy_104 : decode cX4_copy 104 = .ok (.iload_n 2, 1) := dk_28 (dk_at dksX4_copy_4 12 rfl rfl)
theorem dX4_copy_105 : decode cX4_copy 105 = .ok (.aload_n 0, 1) := dk_42 (dk_at dksX4_copy_4 13 rfl rfl)
theorem dX4_copy_106 : decode cX4_copy 106 = .ok (.getfield 37, 3) := dk_180 0 37 (dk_at dksX4_copy_4 14 rfl rfl)
theorem dX4_copy_109 : decode cX4_copy 109 = .ok (.iload_n 1, 1) := dk_27 (dk_at dksX4_copy_4 17 rfl rfl)
theorem dX4_copy_110 : decode cX4_copy 110 = .ok (.iaload, 1) := dk_46 (dk_at dksX4_copy_4 18 rfl rfl)
theorem dX4_copy_111 : decode cX4_copy 111 = .ok (.iload 5, 2) := dk_21 5 (dk_at dksX4_copy_4 19 rfl rfl)
theorem dX4_copy_113 : decode cX4_copy 113 = .ok (.isub, 1) := dk_100 (dk_at dksX4_copy_4 21 rfl rfl)
theorem dX4_copy_114 : decode cX4_copy 114 = .ok (.if_icmp .gt 17, 3) := dk_163 0 17 (dk_at dksX4_copy_5 0 rfl rfl)
theorem dX4_copy_117 : decode cX4_copy 117 = .ok (.iload 4, 2) := dk_21 4 (dk_at dksX4_copy_5 3 rfl rfl)
theorem dX4_copy_119 : decode cX4_copy 119 = .ok (.aload_n 0, 1) := dk_42 (dk_at dksX4_copy_5 5 rfl rfl)
theorem dX4_copy_120 : decode cX4_copy 120 = .ok (.getfield 37, 3) := dk_180 0 37 (dk_at dksX4_copy_5 6 rfl rfl)
theorem dX4_copy_123 : decode cX4_copy 123 = .ok (.iload_n 3, 1) := dk_29 (dk_at dksX4_copy_5 9 rfl rfl)
theorem dX4_copy_124 : decode cX4_copy 124 = .ok (.iaload, 1) := dk_46 (dk_at dksX4_copy_5 10 rfl rfl)
theorem dX4_copy_125 : decode cX4_copy 125 = .ok (.iload 5, 2) := dk_21 5 (dk_at dksX4_copy_5 11 rfl rfl)
theorem dX4_copy_127 : decode cX4_copy 127 = .ok (.isub, 1) := dk_100 (dk_at dksX4_copy_5 13 rfl rfl)
theorem dX4_copy_128 : decode cX4_copy 128 = .ok (.if_icmp .le 6, 3) := dk_164 0 6 (dk_at dksX4_copy_5 14 rfl rfl)
theorem dX4_copy_131 : decode cX4_copy 131 = .ok (.bipush (-13), 2) := dk_16 243 (dk_at dksX4_copy_5 17 rfl rfl)
theorem dX4_copy_133 : decode cX4_copy 133 = .ok (.ireturn, 1) := dk_172 (dk_at dksX4_copy_5 19 rfl rfl)
theorem dX4_copy_134 : decode cX4_copy 134 = .ok (.iconst 0, 1) := dk_3 (dk_at dksX4_copy_5 20 rfl rfl)
theorem dX4_copy_135 : decode cX4_copy 135 = .ok (.istore 6, 2) := dk_54 6 (dk_at dksX4_copy_5 21 rfl rfl)
theorem dX4_copy_137 : decode cX4_copy 137 = .ok (.iload 6, 2) := dk_21 6 (dk_at dksX4_copy_6 0 rfl rfl)
theorem dX4_copy_139 : decode cX4_copy 139 = .ok (.iload 5, 2) := dk_21 5 (dk_at dksX4_copy_6 2 rfl rfl)
theorem dX4_copy_141 : decode cX4_copy 141 = .ok (.if_icmp .ge 30, 3) := dk_162 0 30 (dk_at dksX4_copy_6 4 rfl rfl)
theorem dX4_copy_144 : decode cX4_copy 144 = .ok (.aload_n 0, 1) := dk_42 (dk_at dksX4_copy_6 7 rfl rfl)
theorem dX4_copy_145 : decode cX4_copy 145 = .ok (.getfield 74, 3) := dk_180 0 74 (dk_at dksX4_copy_6 8 rfl rfl)
theorem dX4_copy_148 : decode cX4_copy 148 = .ok (.iload 6, 2) := dk_21 6 (dk_at dksX4_copy_6 11 rfl rfl)
theorem dX4_copy_150 : decode cX4_copy 150 = .ok (.aload_n 0, 1) := dk_42 (dk_at dksX4_copy_6 13 rfl rfl)
theorem dX4_copy_151 : decode cX4_copy 151 = .ok (.getfield 40, 3) := dk_180 0 40 (dk_at dksX4_copy_6 14 rfl rfl)
theorem dX4_copy_154 : decode cX4_copy 154 = .ok (.bipush 100, 2) := dk_16 100 (dk_at dksX4_copy_6 17 rfl rfl)
theorem dX4_copy_156 : decode cX4_copy 156 = .ok (.iload_n 1, 1) := dk_27 (dk_at dksX4_copy_6 19 rfl rfl)
theorem dX4_copy_157 : decode cX4_copy 157 = .ok (.imul, 1) := dk_104 (dk_at dksX4_copy_6 20 rfl rfl)
theorem dX4_copy_158 : decode cX4_copy 158 = .ok (.iload_n 2, 1) := dk_28 (dk_at dksX4_copy_6 21 rfl rfl)
theorem dX4_copy_159 : decode cX4_copy 159 = .ok (.iadd, 1) := dk_96 (dk_at dksX4_copy_6 22 rfl rfl)
theorem dX4_copy_160 : decode cX4_copy 160 = .ok (.iload 6, 2) := dk_21 6 (dk_at dksX4_copy_7 0 rfl rfl)
theorem dX4_copy_162 : decode cX4_copy 162 = .ok (.iadd, 1) := dk_96 (dk_at dksX4_copy_7 2 rfl rfl)
theorem dX4_copy_163 : decode cX4_copy 163 = .ok (.laload, 1) := dk_47 (dk_at dksX4_copy_7 3 rfl rfl)
theorem dX4_copy_164 : decode cX4_copy 164 = .ok (.lastore, 1) := dk_80 (dk_at dksX4_copy_7 4 rfl rfl)
theorem dX4_copy_165 : decode cX4_copy 165 = .ok (.iinc 6 1, 3) := dk_132 6 1 (dk_at dksX4_copy_7 5 rfl rfl)
theorem dX4_copy_168 : decode cX4_copy 168 = .ok (.goto (-31), 3) := dk_167 255 225 (dk_at dksX4_copy_7 8 rfl rfl)
theorem dX4_copy_171 : decode cX4_copy 171 = .ok (.iconst 0, 1) := dk_3 (dk_at dksX4_copy_7 11 rfl rfl)
theorem dX4_copy_172 : decode cX4_copy 172 = .ok (.istore 6, 2) := dk_54 6 (dk_at dksX4_copy_7 12 rfl rfl)
theorem dX4_copy_174 : decode cX4_copy 174 = .ok (.iload 6, 2) := dk_21 6 (dk_at dksX4_copy_7 14 rfl rfl)
theorem dX4_copy_176 : decode cX4_copy 176 = .ok (.iload 5, 2) := dk_21 5 (dk_at dksX4_copy_7 16 rfl rfl)
theorem dX4_copy_178 : decode cX4_copy 178 = .ok (.if_icmp .ge 31, 3) := dk_162 0 31 (dk_at dksX4_copy_7 18 rfl rfl)
theorem dX4_copy_181 : decode cX4_copy 181 = .ok (.aload_n 0, 1) := dk_42 (dk_at dksX4_copy_7 21 rfl rfl)
theorem dX4_copy_182 : decode cX4_copy 182 = .ok (.getfield 40, 3) := dk_180 0 40 (dk_at dksX4_copy_8 0 rfl rfl)
theorem dX4_copy_185 : decode cX4_copy 185 = .ok (.bipush 100, 2) := dk_16 100 (dk_at dksX4_copy_8 3 rfl rfl)
theorem dX4_copy_187 : decode cX4_copy 187 = .ok (.iload_n 3, 1) := dk_29 (dk_at dksX4_copy_8 5 rfl rfl)
theorem dX4_copy_188 : decode cX4_copy 188 = .ok (.imul, 1) := dk_104 (dk_at dksX4_copy_8 6 rfl rfl)
theorem dX4_copy_189 : decode cX4_copy 189 = .ok (.iload 4, 2) := dk_21 4 (dk_at dksX4_copy_8 7 rfl rfl)
theorem dX4_copy_191 : decode cX4_copy 191 = .ok (.iadd, 1) := dk_96 (dk_at dksX4_copy_8 9 rfl rfl)
theorem dX4_copy_192 : decode cX4_copy 192 = .ok (.iload 6, 2) := dk_21 6 (dk_at dksX4_copy_8 10 rfl rfl)
theorem dX4_copy_194 : decode cX4_copy 194 = .ok (.iadd, 1) := dk_96 (dk_at dksX4_copy_8 12 rfl rfl)
theorem dX4_copy_195 : decode cX4_copy 195 = .ok (.aload_n 0, 1) := dk_42 (dk_at dksX4_copy_8 13 rfl rfl)
theorem dX4_copy_196 : decode cX4_copy 196 = .ok (.getfield 74, 3) := dk_180 0 74 (dk_at dksX4_copy_8 14 rfl rfl)
theorem dX4_copy_199 : decode cX4_copy 199 = .ok (.iload 6, 2) := dk_21 6 (dk_at dksX4_copy_8 17 rfl rfl)
theorem dX4_copy_201 : decode cX4_copy 201 = .ok (.laload, 1) := dk_47 (dk_at dksX4_copy_8 19 rfl rfl)
theorem dX4_copy_202 : decode cX4_copy 202 = .ok (.lastore, 1) := dk_80 (dk_at dksX4_copy_8 20 rfl rfl)
theorem dX4_copy_203 : decode cX4_copy 203 = .ok (.iinc 6 1, 3) := dk_132 6 1 (dk_at dksX4_copy_8 21 rfl rfl)
theorem dX4_copy_206 : decode cX4_copy 206 = .ok (.goto (-32), 3) := dk_167 255 224 (dk_at dksX4_copy_9 0 rfl rfl)
theorem dX4_copy_209 : decode cX4_copy 209 = .ok (.iload 5, 2) := dk_21 5 (dk_at dksX4_copy_9 3 rfl rfl)
theorem dX4_copy_211 : decode cX4_copy 211 = .ok (.ireturn, 1) := dk_172 (dk_at dksX4_copy_9 5 rfl rfl)
abbrev cX4_cost : ByteArray := prog_21_method_95_code
def yX4_cost : MethodName := ⟨RX4, "cost", "(I)I"⟩
def dkwX4_cost_1 : List UInt8 := [180, 0, 28, 27, 46, 42, 180, 0, 31, 27, 46, 184, 1, 84, 172]
abbrev dktX4_cost_1 : List UInt8 := dkwX4_cost_1 ++ []
def dkwX4_cost_0 : List UInt8 := [42, 3, 181, 0, 77, 42, 27, 182, 0, 227, 156, 0, 11, 42, 27, 182, 0, 227, 167, 0, 18, 42]
abbrev dktX4_cost_0 : List UInt8 := dkwX4_cost_0 ++ dktX4_cost_1
theorem dksX4_cost_0 : cX4_cost.data.toList.drop 0 = dktX4_cost_0 := by decide +kernel
theorem dksX4_cost_1 : cX4_cost.data.toList.drop 22 = dktX4_cost_1 := dk_seg dksX4_cost_0 22 rfl rfl
theorem dX4_cost_0 : decode cX4_cost 0 = .ok (.aload_n 0, 1) := dk_42 (dk_at dksX4_cost_0 0 rfl rfl)
theorem dX4_cost_1 : decode cX4_cost 1 = .ok (.iconst 0, 1) := dk_3 (dk_at dksX4_cost_0 1 rfl rfl)
theorem dX4_cost_2 : decode cX4_cost 2 = .ok (.putfield 77, 3) := dk_181 0 77 (dk_at dksX4_cost_0 2 rfl rfl)
theorem dX4_cost_5 : decode cX4_cost 5 = .ok (.aload_n 0, 1) := dk_42 (dk_at dksX4_cost_0 5 rfl rfl)
theorem dX4_cost_6 : decode cX4_cost 6 = .ok (.iload_n 1, 1) := dk_27 (dk_at dksX4_cost_0 6 rfl rfl)
theorem dX4_cost_7 : decode cX4_cost 7 = .ok (.invokevirtual 227, 3) := dk_182 0 227 (dk_at dksX4_cost_0 7 rfl rfl)
theorem dX4_cost_10 : decode cX4_cost 10 = .ok (.ifCond .ge 11, 3) := dk_156 0 11 (dk_at dksX4_cost_0 10 rfl rfl)
theorem dX4_cost_13 : decode cX4_cost 13 = .ok (.aload_n 0, 1) := dk_42 (dk_at dksX4_cost_0 13 rfl rfl)
theorem dX4_cost_14 : decode cX4_cost 14 = .ok (.iload_n 1, 1) := dk_27 (dk_at dksX4_cost_0 14 rfl rfl)
theorem dX4_cost_15 : decode cX4_cost 15 = .ok (.invokevirtual 227, 3) := dk_182 0 227 (dk_at dksX4_cost_0 15 rfl rfl)
theorem dX4_cost_18 : decode cX4_cost 18 = .ok (.goto 18, 3) := dk_167 0 18 (dk_at dksX4_cost_0 18 rfl rfl)
theorem dX4_cost_21 : decode cX4_cost 21 = .ok (.aload_n 0, 1) := dk_42 (dk_at dksX4_cost_0 21 rfl rfl)
theorem dX4_cost_22 : decode cX4_cost 22 = .ok (.getfield 28, 3) := dk_180 0 28 (dk_at dksX4_cost_1 0 rfl rfl)
theorem dX4_cost_25 : decode cX4_cost 25 = .ok (.iload_n 1, 1) := dk_27 (dk_at dksX4_cost_1 3 rfl rfl)
theorem dX4_cost_26 : decode cX4_cost 26 = .ok (.iaload, 1) := dk_46 (dk_at dksX4_cost_1 4 rfl rfl)
theorem dX4_cost_27 : decode cX4_cost 27 = .ok (.aload_n 0, 1) := dk_42 (dk_at dksX4_cost_1 5 rfl rfl)
theorem dX4_cost_28 : decode cX4_cost 28 = .ok (.getfield 31, 3) := dk_180 0 31 (dk_at dksX4_cost_1 6 rfl rfl)
theorem dX4_cost_31 : decode cX4_cost 31 = .ok (.iload_n 1, 1) := dk_27 (dk_at dksX4_cost_1 9 rfl rfl)
theorem dX4_cost_32 : decode cX4_cost 32 = .ok (.iaload, 1) := dk_46 (dk_at dksX4_cost_1 10 rfl rfl)
theorem dX4_cost_33 : decode cX4_cost 33 = .ok (.invokestatic 340, 3) := dk_184 1 84 (dk_at dksX4_cost_1 11 rfl rfl)
theorem dX4_cost_36 : decode cX4_cost 36 = .ok (.ireturn, 1) := dk_172 (dk_at dksX4_cost_1 14 rfl rfl)
abbrev cX4_costOf : ByteArray := prog_21_method_94_code
def yX4_costOf : MethodName := ⟨RX4, "costOf", "(II)I"⟩
def dkwX4_costOf_3 : List UInt8 := [172]
abbrev dktX4_costOf_3 : List UInt8 := dkwX4_costOf_3 ++ []
def dkwX4_costOf_2 : List UInt8 := [8, 172, 28, 172, 6, 172, 16, 10, 172, 28, 4, 100, 172, 28, 7, 96, 172, 6, 27, 96, 172, 28, 5, 108]
abbrev dktX4_costOf_2 : List UInt8 := dkwX4_costOf_2 ++ dktX4_costOf_3
def dkwX4_costOf_1 : List UInt8 := [170, 0, 0, 0, 0, 0, 64, 0, 0, 0, 0, 0, 0, 0, 6, 0, 0, 0, 43, 0, 0, 0, 45, 0, 0, 0, 47, 0, 0, 0, 49, 0, 0, 0, 52, 0, 0, 0, 56, 0, 0, 0, 60]
abbrev dktX4_costOf_1 : List UInt8 := dkwX4_costOf_1 ++ dktX4_costOf_2
def dkwX4_costOf_0 : List UInt8 := [8, 27, 96, 61, 26]
abbrev dktX4_costOf_0 : List UInt8 := dkwX4_costOf_0 ++ dktX4_costOf_1
theorem dksX4_costOf_0 : cX4_costOf.data.toList.drop 0 = dktX4_costOf_0 := by decide +kernel
theorem dksX4_costOf_1 : cX4_costOf.data.toList.drop 5 = dktX4_costOf_1 := dk_seg dksX4_costOf_0 5 rfl rfl
theorem dksX4_costOf_2 : cX4_costOf.data.toList.drop 48 = dktX4_costOf_2 := dk_seg dksX4_costOf_1 43 rfl rfl
theorem dksX4_costOf_3 : cX4_costOf.data.toList.drop 72 = dktX4_costOf_3 := dk_seg dksX4_costOf_2 24 rfl rfl
theorem dX4_costOf_0 : decode cX4_costOf 0 = .ok (.iconst 5, 1) := dk_8 (dk_at dksX4_costOf_0 0 rfl rfl)
theorem dX4_costOf_1 : decode cX4_costOf 1 = .ok (.iload_n 1, 1) := dk_27 (dk_at dksX4_costOf_0 1 rfl rfl)
theorem dX4_costOf_2 : decode cX4_costOf 2 = .ok (.iadd, 1) := dk_96 (dk_at dksX4_costOf_0 2 rfl rfl)
theorem dX4_costOf_3 : decode cX4_costOf 3 = .ok (.istore_n 2, 1) := dk_61 (dk_at dksX4_costOf_0 3 rfl rfl)
theorem dX4_costOf_4 : decode cX4_costOf 4 = .ok (.iload_n 0, 1) := dk_26 (dk_at dksX4_costOf_0 4 rfl rfl)
theorem dX4_costOf_5 : decode cX4_costOf 5 = .ok (.tableswitch 64 0 6 #[43, 45, 47, 49, 52, 56, 60], 43) := by decide +kernel
theorem dX4_costOf_48 : decode cX4_costOf 48 = .ok (.iconst 5, 1) := dk_8 (dk_at dksX4_costOf_2 0 rfl rfl)
theorem dX4_costOf_49 : decode cX4_costOf 49 = .ok (.ireturn, 1) := dk_172 (dk_at dksX4_costOf_2 1 rfl rfl)
theorem dX4_costOf_50 : decode cX4_costOf 50 = .ok (.iload_n 2, 1) := dk_28 (dk_at dksX4_costOf_2 2 rfl rfl)
theorem dX4_costOf_51 : decode cX4_costOf 51 = .ok (.ireturn, 1) := dk_172 (dk_at dksX4_costOf_2 3 rfl rfl)
theorem dX4_costOf_52 : decode cX4_costOf 52 = .ok (.iconst 3, 1) := dk_6 (dk_at dksX4_costOf_2 4 rfl rfl)
theorem dX4_costOf_53 : decode cX4_costOf 53 = .ok (.ireturn, 1) := dk_172 (dk_at dksX4_costOf_2 5 rfl rfl)
theorem dX4_costOf_54 : decode cX4_costOf 54 = .ok (.bipush 10, 2) := dk_16 10 (dk_at dksX4_costOf_2 6 rfl rfl)
theorem dX4_costOf_56 : decode cX4_costOf 56 = .ok (.ireturn, 1) := dk_172 (dk_at dksX4_costOf_2 8 rfl rfl)
theorem dX4_costOf_57 : decode cX4_costOf 57 = .ok (.iload_n 2, 1) := dk_28 (dk_at dksX4_costOf_2 9 rfl rfl)
theorem dX4_costOf_58 : decode cX4_costOf 58 = .ok (.iconst 1, 1) := dk_4 (dk_at dksX4_costOf_2 10 rfl rfl)
theorem dX4_costOf_59 : decode cX4_costOf 59 = .ok (.isub, 1) := dk_100 (dk_at dksX4_costOf_2 11 rfl rfl)
theorem dX4_costOf_60 : decode cX4_costOf 60 = .ok (.ireturn, 1) := dk_172 (dk_at dksX4_costOf_2 12 rfl rfl)
theorem dX4_costOf_61 : decode cX4_costOf 61 = .ok (.iload_n 2, 1) := dk_28 (dk_at dksX4_costOf_2 13 rfl rfl)
theorem dX4_costOf_62 : decode cX4_costOf 62 = .ok (.iconst 4, 1) := dk_7 (dk_at dksX4_costOf_2 14 rfl rfl)
theorem dX4_costOf_63 : decode cX4_costOf 63 = .ok (.iadd, 1) := dk_96 (dk_at dksX4_costOf_2 15 rfl rfl)
theorem dX4_costOf_64 : decode cX4_costOf 64 = .ok (.ireturn, 1) := dk_172 (dk_at dksX4_costOf_2 16 rfl rfl)
theorem dX4_costOf_65 : decode cX4_costOf 65 = .ok (.iconst 3, 1) := dk_6 (dk_at dksX4_costOf_2 17 rfl rfl)
theorem dX4_costOf_66 : decode cX4_costOf 66 = .ok (.iload_n 1, 1) := dk_27 (dk_at dksX4_costOf_2 18 rfl rfl)
theorem dX4_costOf_67 : decode cX4_costOf 67 = .ok (.iadd, 1) := dk_96 (dk_at dksX4_costOf_2 19 rfl rfl)
theorem dX4_costOf_68 : decode cX4_costOf 68 = .ok (.ireturn, 1) := dk_172 (dk_at dksX4_costOf_2 20 rfl rfl)
theorem dX4_costOf_69 : decode cX4_costOf 69 = .ok (.iload_n 2, 1) := dk_28 (dk_at dksX4_costOf_2 21 rfl rfl)
theorem dX4_costOf_70 : decode cX4_costOf 70 = .ok (.iconst 2, 1) := dk_5 (dk_at dksX4_costOf_2 22 rfl rfl)
theorem dX4_costOf_71 : decode cX4_costOf 71 = .ok (.idiv, 1) := dk_108 (dk_at dksX4_costOf_2 23 rfl rfl)
theorem dX4_costOf_72 : decode cX4_costOf 72 = .ok (.ireturn, 1) := dk_172 (dk_at dksX4_costOf_3 0 rfl rfl)
abbrev cX4_toss : ByteArray := prog_21_method_96_code
def yX4_toss : MethodName := ⟨RX4, "toss", "(I)I"⟩
def dkwX4_toss_3 : List UInt8 := [17, 0, 200, 28, 29, 184, 1, 84, 96, 167, 0, 7, 16, 100, 29, 96, 172]
abbrev dktX4_toss_3 : List UInt8 := dkwX4_toss_3 ++ []
def dkwX4_toss_2 : List UInt8 := [159, 0, 7, 29, 154, 0, 6, 16, 241, 172, 28, 154, 0, 7, 29, 167, 0, 25, 28, 16, 7, 160, 0, 15]
abbrev dktX4_toss_2 : List UInt8 := dkwX4_toss_2 ++ dktX4_toss_3
def dkwX4_toss_1 : List UInt8 := [46, 61, 42, 180, 0, 31, 27, 46, 62, 28, 5, 159, 0, 18, 28, 6, 159, 0, 13, 28, 16, 6]
abbrev dktX4_toss_1 : List UInt8 := dkwX4_toss_1 ++ dktX4_toss_2
def dkwX4_toss_0 : List UInt8 := [42, 3, 181, 0, 77, 42, 27, 182, 0, 227, 156, 0, 9, 42, 27, 182, 0, 227, 172, 42, 180, 0, 28, 27]
abbrev dktX4_toss_0 : List UInt8 := dkwX4_toss_0 ++ dktX4_toss_1
theorem dksX4_toss_0 : cX4_toss.data.toList.drop 0 = dktX4_toss_0 := by decide +kernel
theorem dksX4_toss_1 : cX4_toss.data.toList.drop 24 = dktX4_toss_1 := dk_seg dksX4_toss_0 24 rfl rfl
theorem dksX4_toss_2 : cX4_toss.data.toList.drop 46 = dktX4_toss_2 := dk_seg dksX4_toss_1 22 rfl rfl
theorem dksX4_toss_3 : cX4_toss.data.toList.drop 70 = dktX4_toss_3 := dk_seg dksX4_toss_2 24 rfl rfl
theorem dX4_toss_0 : decode cX4_toss 0 = .ok (.aload_n 0, 1) := dk_42 (dk_at dksX4_toss_0 0 rfl rfl)
theorem dX4_toss_1 : decode cX4_toss 1 = .ok (.iconst 0, 1) := dk_3 (dk_at dksX4_toss_0 1 rfl rfl)
theorem dX4_toss_2 : decode cX4_toss 2 = .ok (.putfield 77, 3) := dk_181 0 77 (dk_at dksX4_toss_0 2 rfl rfl)
theorem dX4_toss_5 : decode cX4_toss 5 = .ok (.aload_n 0, 1) := dk_42 (dk_at dksX4_toss_0 5 rfl rfl)
theorem dX4_toss_6 : decode cX4_toss 6 = .ok (.iload_n 1, 1) := dk_27 (dk_at dksX4_toss_0 6 rfl rfl)
theorem dX4_toss_7 : decode cX4_toss 7 = .ok (.invokevirtual 227, 3) := dk_182 0 227 (dk_at dksX4_toss_0 7 rfl rfl)
theorem dX4_toss_10 : decode cX4_toss 10 = .ok (.ifCond .ge 9, 3) := dk_156 0 9 (dk_at dksX4_toss_0 10 rfl rfl)
theorem dX4_toss_13 : decode cX4_toss 13 = .ok (.aload_n 0, 1) := dk_42 (dk_at dksX4_toss_0 13 rfl rfl)
theorem dX4_toss_14 : decode cX4_toss 14 = .ok (.iload_n 1, 1) := dk_27 (dk_at dksX4_toss_0 14 rfl rfl)
theorem dX4_toss_15 : decode cX4_toss 15 = .ok (.invokevirtual 227, 3) := dk_182 0 227 (dk_at dksX4_toss_0 15 rfl rfl)
theorem dX4_toss_18 : decode cX4_toss 18 = .ok (.ireturn, 1) := dk_172 (dk_at dksX4_toss_0 18 rfl rfl)
theorem dX4_toss_19 : decode cX4_toss 19 = .ok (.aload_n 0, 1) := dk_42 (dk_at dksX4_toss_0 19 rfl rfl)
theorem dX4_toss_20 : decode cX4_toss 20 = .ok (.getfield 28, 3) := dk_180 0 28 (dk_at dksX4_toss_0 20 rfl rfl)
theorem dX4_toss_23 : decode cX4_toss 23 = .ok (.iload_n 1, 1) := dk_27 (dk_at dksX4_toss_0 23 rfl rfl)
theorem dX4_toss_24 : decode cX4_toss 24 = .ok (.iaload, 1) := dk_46 (dk_at dksX4_toss_1 0 rfl rfl)
theorem dX4_toss_25 : decode cX4_toss 25 = .ok (.istore_n 2, 1) := dk_61 (dk_at dksX4_toss_1 1 rfl rfl)
theorem dX4_toss_26 : decode cX4_toss 26 = .ok (.aload_n 0, 1) := dk_42 (dk_at dksX4_toss_1 2 rfl rfl)
theorem dX4_toss_27 : decode cX4_toss 27 = .ok (.getfield 31, 3) := dk_180 0 31 (dk_at dksX4_toss_1 3 rfl rfl)
theorem dX4_toss_30 : decode cX4_toss 30 = .ok (.iload_n 1, 1) := dk_27 (dk_at dksX4_toss_1 6 rfl rfl)
theorem dX4_toss_31 : decode cX4_toss 31 = .ok (.iaload, 1) := dk_46 (dk_at dksX4_toss_1 7 rfl rfl)
theorem dX4_toss_32 : decode cX4_toss 32 = .ok (.istore_n 3, 1) := dk_62 (dk_at dksX4_toss_1 8 rfl rfl)
theorem dX4_toss_33 : decode cX4_toss 33 = .ok (.iload_n 2, 1) := dk_28 (dk_at dksX4_toss_1 9 rfl rfl)
theorem dX4_toss_34 : decode cX4_toss 34 = .ok (.iconst 2, 1) := dk_5 (dk_at dksX4_toss_1 10 rfl rfl)
theorem dX4_toss_35 : decode cX4_toss 35 = .ok (.if_icmp .eq 18, 3) := dk_159 0 18 (dk_at dksX4_toss_1 11 rfl rfl)
theorem dX4_toss_38 : decode cX4_toss 38 = .ok (.iload_n 2, 1) := dk_28 (dk_at dksX4_toss_1 14 rfl rfl)
theorem dX4_toss_39 : decode cX4_toss 39 = .ok (.iconst 3, 1) := dk_6 (dk_at dksX4_toss_1 15 rfl rfl)
theorem dX4_toss_40 : decode cX4_toss 40 = .ok (.if_icmp .eq 13, 3) := dk_159 0 13 (dk_at dksX4_toss_1 16 rfl rfl)
theorem dX4_toss_43 : decode cX4_toss 43 = .ok (.iload_n 2, 1) := dk_28 (dk_at dksX4_toss_1 19 rfl rfl)
theorem dX4_toss_44 : decode cX4_toss 44 = .ok (.bipush 6, 2) := dk_16 6 (dk_at dksX4_toss_1 20 rfl rfl)
theorem dX4_toss_46 : decode cX4_toss 46 = .ok (.if_icmp .eq 7, 3) := dk_159 0 7 (dk_at dksX4_toss_2 0 rfl rfl)
theorem dX4_toss_49 : decode cX4_toss 49 = .ok (.iload_n 3, 1) := dk_29 (dk_at dksX4_toss_2 3 rfl rfl)
theorem dX4_toss_50 : decode cX4_toss 50 = .ok (.ifCond .ne 6, 3) := dk_154 0 6 (dk_at dksX4_toss_2 4 rfl rfl)
theorem dX4_toss_53 : decode cX4_toss 53 = .ok (.bipush (-15), 2) := dk_16 241 (dk_at dksX4_toss_2 7 rfl rfl)
theorem dX4_toss_55 : decode cX4_toss 55 = .ok (.ireturn, 1) := dk_172 (dk_at dksX4_toss_2 9 rfl rfl)
theorem dX4_toss_56 : decode cX4_toss 56 = .ok (.iload_n 2, 1) := dk_28 (dk_at dksX4_toss_2 10 rfl rfl)
theorem dX4_toss_57 : decode cX4_toss 57 = .ok (.ifCond .ne 7, 3) := dk_154 0 7 (dk_at dksX4_toss_2 11 rfl rfl)
theorem dX4_toss_60 : decode cX4_toss 60 = .ok (.iload_n 3, 1) := dk_29 (dk_at dksX4_toss_2 14 rfl rfl)
theorem dX4_toss_61 : decode cX4_toss 61 = .ok (.goto 25, 3) := dk_167 0 25 (dk_at dksX4_toss_2 15 rfl rfl)
theorem dX4_toss_64 : decode cX4_toss 64 = .ok (.iload_n 2, 1) := dk_28 (dk_at dksX4_toss_2 18 rfl rfl)
theorem dX4_toss_65 : decode cX4_toss 65 = .ok (.bipush 7, 2) := dk_16 7 (dk_at dksX4_toss_2 19 rfl rfl)
theorem dX4_toss_67 : decode cX4_toss 67 = .ok (.if_icmp .ne 15, 3) := dk_160 0 15 (dk_at dksX4_toss_2 21 rfl rfl)
theorem dX4_toss_70 : decode cX4_toss 70 = .ok (.sipush 200, 3) := dk_17 0 200 (dk_at dksX4_toss_3 0 rfl rfl)
theorem dX4_toss_73 : decode cX4_toss 73 = .ok (.iload_n 2, 1) := dk_28 (dk_at dksX4_toss_3 3 rfl rfl)
theorem dX4_toss_74 : decode cX4_toss 74 = .ok (.iload_n 3, 1) := dk_29 (dk_at dksX4_toss_3 4 rfl rfl)
theorem dX4_toss_75 : decode cX4_toss 75 = .ok (.invokestatic 340, 3) := dk_184 1 84 (dk_at dksX4_toss_3 5 rfl rfl)
theorem dX4_toss_78 : decode cX4_toss 78 = .ok (.iadd, 1) := dk_96 (dk_at dksX4_toss_3 8 rfl rfl)
theorem dX4_toss_79 : decode cX4_toss 79 = .ok (.goto 7, 3) := dk_167 0 7 (dk_at dksX4_toss_3 9 rfl rfl)
theorem dX4_toss_82 : decode cX4_toss 82 = .ok (.bipush 100, 2) := dk_16 100 (dk_at dksX4_toss_3 12 rfl rfl)
theorem dX4_toss_84 : decode cX4_toss 84 = .ok (.iload_n 3, 1) := dk_29 (dk_at dksX4_toss_3 14 rfl rfl)
theorem dX4_toss_85 : decode cX4_toss 85 = .ok (.iadd, 1) := dk_96 (dk_at dksX4_toss_3 15 rfl rfl)
theorem dX4_toss_86 : decode cX4_toss 86 = .ok (.ireturn, 1) := dk_172 (dk_at dksX4_toss_3 16 rfl rfl)
theorem q82 : (Jvm.Cond.initialized "HandUnderTheChinModel") ∈ lw_all := lw_g (lw_at lw_m1 4 rfl) rfl
theorem q1157 : (Jvm.Cond.instantiable "HandUnderTheChinModel" (37 : Nat)) ∈ lw_all := lw_g (lw_at lw_m5 119 rfl) rfl
theorem q1159 : (Jvm.Cond.instanceMethod ({ cls := "HandUnderTheChinModel", name := "<init>", desc := "()V" } : Jvm.MethodName)) ∈ lw_all := lw_g (lw_at lw_m5 121 rfl) rfl
theorem q1160 : (Jvm.Cond.code ({ cls := "HandUnderTheChinModel", name := "<init>", desc := "()V" } : Jvm.MethodName) prog_21_method_1_code (1 : Nat) (Option.none : Option Jvm.ClassFile.FieldType)) ∈ lw_all := lw_g (lw_at lw_m5 122 rfl) rfl
theorem q1161 : (Jvm.Cond.methodLink "HandUnderTheChinModel" (1 : Nat) ({ cls := "java/lang/Object", name := "<init>", desc := "()V" } : Jvm.MethodName)) ∈ lw_all := lw_g (lw_at lw_m5 123 rfl) rfl
theorem q1162 : (Jvm.Cond.fieldLink "HandUnderTheChinModel" (81 : Nat) "HandUnderTheChinModel" "children" "I") ∈ lw_all := lw_g (lw_at lw_m5 124 rfl) rfl
theorem q1163 : (Jvm.Cond.fieldLink "HandUnderTheChinModel" (7 : Nat) "HandUnderTheChinModel" "kinds" "[I") ∈ lw_all := lw_g (lw_at lw_m5 125 rfl) rfl
theorem q1164 : (Jvm.Cond.fieldLink "HandUnderTheChinModel" (13 : Nat) "HandUnderTheChinModel" "figures" "[I") ∈ lw_all := lw_g (lw_at lw_m5 126 rfl) rfl
theorem q1165 : (Jvm.Cond.fieldLink "HandUnderTheChinModel" (16 : Nat) "HandUnderTheChinModel" "trusts" "[I") ∈ lw_all := lw_g (lw_at lw_m5 127 rfl) rfl
theorem q1166 : (Jvm.Cond.fieldLink "HandUnderTheChinModel" (19 : Nat) "HandUnderTheChinModel" "steps" "[I") ∈ lw_all := lw_g (lw_at lw_m5 128 rfl) rfl
theorem q1167 : (Jvm.Cond.fieldLink "HandUnderTheChinModel" (22 : Nat) "HandUnderTheChinModel" "colds" "[I") ∈ lw_all := lw_g (lw_at lw_m5 129 rfl) rfl
theorem q1168 : (Jvm.Cond.fieldLink "HandUnderTheChinModel" (135 : Nat) "HandUnderTheChinModel" "minute0" "I") ∈ lw_all := lw_g (lw_at lw_m5 130 rfl) rfl
theorem q1169 : (Jvm.Cond.fieldLink "HandUnderTheChinModel" (25 : Nat) "HandUnderTheChinModel" "holdsWhat" "[I") ∈ lw_all := lw_g (lw_at lw_m5 131 rfl) rfl
theorem q1170 : (Jvm.Cond.fieldLink "HandUnderTheChinModel" (28 : Nat) "HandUnderTheChinModel" "keptKind" "[I") ∈ lw_all := lw_g (lw_at lw_m5 132 rfl) rfl
theorem q1171 : (Jvm.Cond.fieldLink "HandUnderTheChinModel" (31 : Nat) "HandUnderTheChinModel" "keptFigure" "[I") ∈ lw_all := lw_g (lw_at lw_m5 133 rfl) rfl
theorem q1172 : (Jvm.Cond.fieldLink "HandUnderTheChinModel" (34 : Nat) "HandUnderTheChinModel" "rowSort" "[I") ∈ lw_all := lw_g (lw_at lw_m5 134 rfl) rfl
theorem q1173 : (Jvm.Cond.fieldLink "HandUnderTheChinModel" (37 : Nat) "HandUnderTheChinModel" "rowMany" "[I") ∈ lw_all := lw_g (lw_at lw_m5 135 rfl) rfl
theorem q1174 : (Jvm.Cond.fieldLink "HandUnderTheChinModel" (40 : Nat) "HandUnderTheChinModel" "rows" "[J") ∈ lw_all := lw_g (lw_at lw_m5 136 rfl) rfl
theorem q1175 : (Jvm.Cond.fieldLink "HandUnderTheChinModel" (77 : Nat) "HandUnderTheChinModel" "thrown" "I") ∈ lw_all := lw_g (lw_at lw_m5 137 rfl) rfl
theorem q1176 : (Jvm.Cond.fieldLink "HandUnderTheChinModel" (141 : Nat) "HandUnderTheChinModel" "reading" "I") ∈ lw_all := lw_g (lw_at lw_m5 138 rfl) rfl
theorem q1177 : (Jvm.Cond.fieldLink "HandUnderTheChinModel" (138 : Nat) "HandUnderTheChinModel" "at" "I") ∈ lw_all := lw_g (lw_at lw_m5 139 rfl) rfl
theorem q1178 : (Jvm.Cond.fieldLink "HandUnderTheChinModel" (144 : Nat) "HandUnderTheChinModel" "isBad" "Z") ∈ lw_all := lw_g (lw_at lw_m5 140 rfl) rfl
theorem q1179 : (Jvm.Cond.fieldLink "HandUnderTheChinModel" (159 : Nat) "HandUnderTheChinModel" "statements" "I") ∈ lw_all := lw_g (lw_at lw_m5 141 rfl) rfl
theorem q1180 : (Jvm.Cond.fieldLink "HandUnderTheChinModel" (44 : Nat) "HandUnderTheChinModel" "placeIn" "[I") ∈ lw_all := lw_g (lw_at lw_m5 142 rfl) rfl
theorem q1181 : (Jvm.Cond.fieldLink "HandUnderTheChinModel" (47 : Nat) "HandUnderTheChinModel" "letterOf" "[I") ∈ lw_all := lw_g (lw_at lw_m5 143 rfl) rfl
theorem q1182 : (Jvm.Cond.fieldLink "HandUnderTheChinModel" (50 : Nat) "HandUnderTheChinModel" "told" "[I") ∈ lw_all := lw_g (lw_at lw_m5 144 rfl) rfl
theorem q1183 : (Jvm.Cond.fieldLink "HandUnderTheChinModel" (53 : Nat) "HandUnderTheChinModel" "kept" "[I") ∈ lw_all := lw_g (lw_at lw_m5 145 rfl) rfl
theorem q1184 : (Jvm.Cond.fieldLink "HandUnderTheChinModel" (56 : Nat) "HandUnderTheChinModel" "imaged" "[I") ∈ lw_all := lw_g (lw_at lw_m5 146 rfl) rfl
theorem q1185 : (Jvm.Cond.fieldLink "HandUnderTheChinModel" (220 : Nat) "HandUnderTheChinModel" "hasImage" "Z") ∈ lw_all := lw_g (lw_at lw_m5 147 rfl) rfl
theorem q1186 : (Jvm.Cond.fieldLink "HandUnderTheChinModel" (210 : Nat) "HandUnderTheChinModel" "place0" "I") ∈ lw_all := lw_g (lw_at lw_m5 148 rfl) rfl
theorem q1187 : (Jvm.Cond.fieldLink "HandUnderTheChinModel" (204 : Nat) "HandUnderTheChinModel" "isTaking" "Z") ∈ lw_all := lw_g (lw_at lw_m5 149 rfl) rfl
theorem q1188 : (Jvm.Cond.fieldLink "HandUnderTheChinModel" (207 : Nat) "HandUnderTheChinModel" "keptIn" "[I") ∈ lw_all := lw_g (lw_at lw_m5 150 rfl) rfl
theorem q1189 : (Jvm.Cond.fieldLink "HandUnderTheChinModel" (59 : Nat) "HandUnderTheChinModel" "fewest" "[I") ∈ lw_all := lw_g (lw_at lw_m5 151 rfl) rfl
theorem q1190 : (Jvm.Cond.fieldLink "HandUnderTheChinModel" (62 : Nat) "HandUnderTheChinModel" "past" "[I") ∈ lw_all := lw_g (lw_at lw_m5 152 rfl) rfl
theorem q1191 : (Jvm.Cond.fieldLink "HandUnderTheChinModel" (65 : Nat) "HandUnderTheChinModel" "stage" "[I") ∈ lw_all := lw_g (lw_at lw_m5 153 rfl) rfl
theorem q1192 : (Jvm.Cond.fieldLink "HandUnderTheChinModel" (68 : Nat) "HandUnderTheChinModel" "choices" "[I") ∈ lw_all := lw_g (lw_at lw_m5 154 rfl) rfl
theorem q1193 : (Jvm.Cond.fieldLink "HandUnderTheChinModel" (253 : Nat) "HandUnderTheChinModel" "mostAll" "I") ∈ lw_all := lw_g (lw_at lw_m5 155 rfl) rfl
theorem q1194 : (Jvm.Cond.fieldLink "HandUnderTheChinModel" (256 : Nat) "HandUnderTheChinModel" "mostFirst" "I") ∈ lw_all := lw_g (lw_at lw_m5 156 rfl) rfl
theorem q1195 : (Jvm.Cond.fieldLink "HandUnderTheChinModel" (271 : Nat) "HandUnderTheChinModel" "turnAt" "I") ∈ lw_all := lw_g (lw_at lw_m5 157 rfl) rfl
theorem q1196 : (Jvm.Cond.fieldLink "HandUnderTheChinModel" (71 : Nat) "HandUnderTheChinModel" "order0" "[I") ∈ lw_all := lw_g (lw_at lw_m5 158 rfl) rfl
theorem q1197 : (Jvm.Cond.fieldLink "HandUnderTheChinModel" (327 : Nat) "HandUnderTheChinModel" "seed" "I") ∈ lw_all := lw_g (lw_at lw_m5 159 rfl) rfl
theorem q1198 : (Jvm.Cond.fieldLink "HandUnderTheChinModel" (74 : Nat) "HandUnderTheChinModel" "between" "[J") ∈ lw_all := lw_g (lw_at lw_m5 160 rfl) rfl
theorem q1199 : (Jvm.Cond.lays "HandUnderTheChinModel" "HandUnderTheChinModel" "children" "I") ∈ lw_all := lw_g (lw_at lw_m5 161 rfl) rfl
theorem q1200 : (Jvm.Cond.soleField "HandUnderTheChinModel" "children") ∈ lw_all := lw_g (lw_at lw_m5 162 rfl) rfl
theorem q1201 : (Jvm.Cond.laysFinal "HandUnderTheChinModel" "HandUnderTheChinModel" "kinds" "[I") ∈ lw_all := lw_g (lw_at lw_m5 163 rfl) rfl
theorem q1202 : (Jvm.Cond.soleField "HandUnderTheChinModel" "kinds") ∈ lw_all := lw_g (lw_at lw_m5 164 rfl) rfl
theorem q1203 : (Jvm.Cond.laysFinal "HandUnderTheChinModel" "HandUnderTheChinModel" "figures" "[I") ∈ lw_all := lw_g (lw_at lw_m5 165 rfl) rfl
theorem q1204 : (Jvm.Cond.soleField "HandUnderTheChinModel" "figures") ∈ lw_all := lw_g (lw_at lw_m5 166 rfl) rfl
theorem q1205 : (Jvm.Cond.laysFinal "HandUnderTheChinModel" "HandUnderTheChinModel" "trusts" "[I") ∈ lw_all := lw_g (lw_at lw_m5 167 rfl) rfl
theorem q1206 : (Jvm.Cond.soleField "HandUnderTheChinModel" "trusts") ∈ lw_all := lw_g (lw_at lw_m5 168 rfl) rfl
theorem q1207 : (Jvm.Cond.laysFinal "HandUnderTheChinModel" "HandUnderTheChinModel" "steps" "[I") ∈ lw_all := lw_g (lw_at lw_m5 169 rfl) rfl
theorem q1208 : (Jvm.Cond.soleField "HandUnderTheChinModel" "steps") ∈ lw_all := lw_g (lw_at lw_m5 170 rfl) rfl
theorem q1209 : (Jvm.Cond.laysFinal "HandUnderTheChinModel" "HandUnderTheChinModel" "colds" "[I") ∈ lw_all := lw_g (lw_at lw_m5 171 rfl) rfl
theorem q1210 : (Jvm.Cond.soleField "HandUnderTheChinModel" "colds") ∈ lw_all := lw_g (lw_at lw_m5 172 rfl) rfl
theorem q1211 : (Jvm.Cond.lays "HandUnderTheChinModel" "HandUnderTheChinModel" "minute0" "I") ∈ lw_all := lw_g (lw_at lw_m5 173 rfl) rfl
theorem q1212 : (Jvm.Cond.soleField "HandUnderTheChinModel" "minute0") ∈ lw_all := lw_g (lw_at lw_m5 174 rfl) rfl
theorem q1213 : (Jvm.Cond.laysFinal "HandUnderTheChinModel" "HandUnderTheChinModel" "holdsWhat" "[I") ∈ lw_all := lw_g (lw_at lw_m5 175 rfl) rfl
theorem q1214 : (Jvm.Cond.soleField "HandUnderTheChinModel" "holdsWhat") ∈ lw_all := lw_g (lw_at lw_m5 176 rfl) rfl
theorem q1215 : (Jvm.Cond.laysFinal "HandUnderTheChinModel" "HandUnderTheChinModel" "keptKind" "[I") ∈ lw_all := lw_g (lw_at lw_m5 177 rfl) rfl
theorem q1216 : (Jvm.Cond.soleField "HandUnderTheChinModel" "keptKind") ∈ lw_all := lw_g (lw_at lw_m5 178 rfl) rfl
theorem q1217 : (Jvm.Cond.laysFinal "HandUnderTheChinModel" "HandUnderTheChinModel" "keptFigure" "[I") ∈ lw_all := lw_g (lw_at lw_m5 179 rfl) rfl
theorem q1218 : (Jvm.Cond.soleField "HandUnderTheChinModel" "keptFigure") ∈ lw_all := lw_g (lw_at lw_m5 180 rfl) rfl
theorem q1219 : (Jvm.Cond.laysFinal "HandUnderTheChinModel" "HandUnderTheChinModel" "rowSort" "[I") ∈ lw_all := lw_g (lw_at lw_m5 181 rfl) rfl
theorem q1220 : (Jvm.Cond.soleField "HandUnderTheChinModel" "rowSort") ∈ lw_all := lw_g (lw_at lw_m5 182 rfl) rfl
theorem q1221 : (Jvm.Cond.laysFinal "HandUnderTheChinModel" "HandUnderTheChinModel" "rowMany" "[I") ∈ lw_all := lw_g (lw_at lw_m5 183 rfl) rfl
theorem q1222 : (Jvm.Cond.soleField "HandUnderTheChinModel" "rowMany") ∈ lw_all := lw_g (lw_at lw_m5 184 rfl) rfl
theorem q1223 : (Jvm.Cond.laysFinal "HandUnderTheChinModel" "HandUnderTheChinModel" "rows" "[J") ∈ lw_all := lw_g (lw_at lw_m5 185 rfl) rfl
theorem q1224 : (Jvm.Cond.soleField "HandUnderTheChinModel" "rows") ∈ lw_all := lw_g (lw_at lw_m5 186 rfl) rfl
theorem q1225 : (Jvm.Cond.lays "HandUnderTheChinModel" "HandUnderTheChinModel" "thrown" "I") ∈ lw_all := lw_g (lw_at lw_m5 187 rfl) rfl
theorem q1226 : (Jvm.Cond.soleField "HandUnderTheChinModel" "thrown") ∈ lw_all := lw_g (lw_at lw_m5 188 rfl) rfl
theorem q1227 : (Jvm.Cond.lays "HandUnderTheChinModel" "HandUnderTheChinModel" "reading" "I") ∈ lw_all := lw_g (lw_at lw_m5 189 rfl) rfl
theorem q1228 : (Jvm.Cond.soleField "HandUnderTheChinModel" "reading") ∈ lw_all := lw_g (lw_at lw_m5 190 rfl) rfl
theorem q1229 : (Jvm.Cond.lays "HandUnderTheChinModel" "HandUnderTheChinModel" "at" "I") ∈ lw_all := lw_g (lw_at lw_m5 191 rfl) rfl
theorem q1230 : (Jvm.Cond.soleField "HandUnderTheChinModel" "at") ∈ lw_all := lw_g (lw_at lw_m5 192 rfl) rfl
theorem q1231 : (Jvm.Cond.lays "HandUnderTheChinModel" "HandUnderTheChinModel" "isBad" "Z") ∈ lw_all := lw_g (lw_at lw_m5 193 rfl) rfl
theorem q1232 : (Jvm.Cond.soleField "HandUnderTheChinModel" "isBad") ∈ lw_all := lw_g (lw_at lw_m5 194 rfl) rfl
theorem q1233 : (Jvm.Cond.lays "HandUnderTheChinModel" "HandUnderTheChinModel" "statements" "I") ∈ lw_all := lw_g (lw_at lw_m5 195 rfl) rfl
theorem q1234 : (Jvm.Cond.soleField "HandUnderTheChinModel" "statements") ∈ lw_all := lw_g (lw_at lw_m5 196 rfl) rfl
theorem q1235 : (Jvm.Cond.laysFinal "HandUnderTheChinModel" "HandUnderTheChinModel" "placeIn" "[I") ∈ lw_all := lw_g (lw_at lw_m5 197 rfl) rfl
theorem q1236 : (Jvm.Cond.soleField "HandUnderTheChinModel" "placeIn") ∈ lw_all := lw_g (lw_at lw_m5 198 rfl) rfl
theorem q1237 : (Jvm.Cond.laysFinal "HandUnderTheChinModel" "HandUnderTheChinModel" "letterOf" "[I") ∈ lw_all := lw_g (lw_at lw_m5 199 rfl) rfl
theorem q1238 : (Jvm.Cond.soleField "HandUnderTheChinModel" "letterOf") ∈ lw_all := lw_g (lw_at lw_m5 200 rfl) rfl
theorem q1239 : (Jvm.Cond.laysFinal "HandUnderTheChinModel" "HandUnderTheChinModel" "told" "[I") ∈ lw_all := lw_g (lw_at lw_m5 201 rfl) rfl
theorem q1240 : (Jvm.Cond.soleField "HandUnderTheChinModel" "told") ∈ lw_all := lw_g (lw_at lw_m5 202 rfl) rfl
theorem q1241 : (Jvm.Cond.laysFinal "HandUnderTheChinModel" "HandUnderTheChinModel" "kept" "[I") ∈ lw_all := lw_g (lw_at lw_m5 203 rfl) rfl
theorem q1242 : (Jvm.Cond.soleField "HandUnderTheChinModel" "kept") ∈ lw_all := lw_g (lw_at lw_m5 204 rfl) rfl
theorem q1243 : (Jvm.Cond.laysFinal "HandUnderTheChinModel" "HandUnderTheChinModel" "imaged" "[I") ∈ lw_all := lw_g (lw_at lw_m5 205 rfl) rfl
theorem q1244 : (Jvm.Cond.soleField "HandUnderTheChinModel" "imaged") ∈ lw_all := lw_g (lw_at lw_m5 206 rfl) rfl
theorem q1245 : (Jvm.Cond.lays "HandUnderTheChinModel" "HandUnderTheChinModel" "hasImage" "Z") ∈ lw_all := lw_g (lw_at lw_m5 207 rfl) rfl
theorem q1246 : (Jvm.Cond.soleField "HandUnderTheChinModel" "hasImage") ∈ lw_all := lw_g (lw_at lw_m5 208 rfl) rfl
theorem q1247 : (Jvm.Cond.lays "HandUnderTheChinModel" "HandUnderTheChinModel" "place0" "I") ∈ lw_all := lw_g (lw_at lw_m5 209 rfl) rfl
theorem q1248 : (Jvm.Cond.soleField "HandUnderTheChinModel" "place0") ∈ lw_all := lw_g (lw_at lw_m5 210 rfl) rfl
theorem q1249 : (Jvm.Cond.lays "HandUnderTheChinModel" "HandUnderTheChinModel" "isTaking" "Z") ∈ lw_all := lw_g (lw_at lw_m5 211 rfl) rfl
theorem q1250 : (Jvm.Cond.soleField "HandUnderTheChinModel" "isTaking") ∈ lw_all := lw_g (lw_at lw_m5 212 rfl) rfl
theorem q1251 : (Jvm.Cond.lays "HandUnderTheChinModel" "HandUnderTheChinModel" "keptIn" "[I") ∈ lw_all := lw_g (lw_at lw_m5 213 rfl) rfl
theorem q1252 : (Jvm.Cond.soleField "HandUnderTheChinModel" "keptIn") ∈ lw_all := lw_g (lw_at lw_m5 214 rfl) rfl
theorem q1253 : (Jvm.Cond.laysFinal "HandUnderTheChinModel" "HandUnderTheChinModel" "fewest" "[I") ∈ lw_all := lw_g (lw_at lw_m5 215 rfl) rfl
theorem q1254 : (Jvm.Cond.soleField "HandUnderTheChinModel" "fewest") ∈ lw_all := lw_g (lw_at lw_m5 216 rfl) rfl
theorem q1255 : (Jvm.Cond.laysFinal "HandUnderTheChinModel" "HandUnderTheChinModel" "past" "[I") ∈ lw_all := lw_g (lw_at lw_m5 217 rfl) rfl
theorem q1256 : (Jvm.Cond.soleField "HandUnderTheChinModel" "past") ∈ lw_all := lw_g (lw_at lw_m5 218 rfl) rfl
theorem q1257 : (Jvm.Cond.laysFinal "HandUnderTheChinModel" "HandUnderTheChinModel" "stage" "[I") ∈ lw_all := lw_g (lw_at lw_m5 219 rfl) rfl
theorem q1258 : (Jvm.Cond.soleField "HandUnderTheChinModel" "stage") ∈ lw_all := lw_g (lw_at lw_m5 220 rfl) rfl
theorem q1259 : (Jvm.Cond.laysFinal "HandUnderTheChinModel" "HandUnderTheChinModel" "choices" "[I") ∈ lw_all := lw_g (lw_at lw_m5 221 rfl) rfl
theorem q1260 : (Jvm.Cond.soleField "HandUnderTheChinModel" "choices") ∈ lw_all := lw_g (lw_at lw_m5 222 rfl) rfl
theorem q1261 : (Jvm.Cond.lays "HandUnderTheChinModel" "HandUnderTheChinModel" "mostAll" "I") ∈ lw_all := lw_g (lw_at lw_m5 223 rfl) rfl
theorem q1262 : (Jvm.Cond.soleField "HandUnderTheChinModel" "mostAll") ∈ lw_all := lw_g (lw_at lw_m5 224 rfl) rfl
theorem q1263 : (Jvm.Cond.lays "HandUnderTheChinModel" "HandUnderTheChinModel" "mostFirst" "I") ∈ lw_all := lw_g (lw_at lw_m5 225 rfl) rfl
theorem q1264 : (Jvm.Cond.soleField "HandUnderTheChinModel" "mostFirst") ∈ lw_all := lw_g (lw_at lw_m5 226 rfl) rfl
theorem q1265 : (Jvm.Cond.lays "HandUnderTheChinModel" "HandUnderTheChinModel" "turnAt" "I") ∈ lw_all := lw_g (lw_at lw_m5 227 rfl) rfl
theorem q1266 : (Jvm.Cond.soleField "HandUnderTheChinModel" "turnAt") ∈ lw_all := lw_g (lw_at lw_m5 228 rfl) rfl
theorem q1267 : (Jvm.Cond.laysFinal "HandUnderTheChinModel" "HandUnderTheChinModel" "order0" "[I") ∈ lw_all := lw_g (lw_at lw_m5 229 rfl) rfl
theorem q1268 : (Jvm.Cond.soleField "HandUnderTheChinModel" "order0") ∈ lw_all := lw_g (lw_at lw_m5 230 rfl) rfl
theorem q1269 : (Jvm.Cond.lays "HandUnderTheChinModel" "HandUnderTheChinModel" "seed" "I") ∈ lw_all := lw_g (lw_at lw_m5 231 rfl) rfl
theorem q1270 : (Jvm.Cond.soleField "HandUnderTheChinModel" "seed") ∈ lw_all := lw_g (lw_at lw_m5 232 rfl) rfl
theorem q1271 : (Jvm.Cond.laysFinal "HandUnderTheChinModel" "HandUnderTheChinModel" "between" "[J") ∈ lw_all := lw_g (lw_at lw_m5 233 rfl) rfl
theorem q1272 : (Jvm.Cond.soleField "HandUnderTheChinModel" "between") ∈ lw_all := lw_g (lw_at lw_m5 234 rfl) rfl
theorem q1273 : (Jvm.Cond.superclass "HandUnderTheChinModel" "java/lang/Object") ∈ lw_all := lw_g (lw_at lw_m5 235 rfl) rfl
theorem q1276 : (Jvm.Cond.instanceMethod ({ cls := "HandUnderTheChinModel", name := "thrown", desc := "()I" } : Jvm.MethodName)) ∈ lw_all := lw_g (lw_at lw_m5 238 rfl) rfl
theorem q1277 : (Jvm.Cond.selects "HandUnderTheChinModel" ({ cls := "HandUnderTheChinModel", name := "thrown", desc := "()I" } : Jvm.MethodName) ({ cls := "HandUnderTheChinModel", name := "thrown", desc := "()I" } : Jvm.MethodName)) ∈ lw_all := lw_g (lw_at lw_m5 239 rfl) rfl
theorem q1278 : (Jvm.Cond.code ({ cls := "HandUnderTheChinModel", name := "thrown", desc := "()I" } : Jvm.MethodName) prog_21_method_2_code (1 : Nat) (Option.some Jvm.ClassFile.FieldType.int)) ∈ lw_all := lw_g (lw_at lw_m6 0 rfl) rfl
theorem q1280 : (Jvm.Cond.instanceMethod ({ cls := "HandUnderTheChinModel", name := "bath", desc := "(I)I" } : Jvm.MethodName)) ∈ lw_all := lw_g (lw_at lw_m6 2 rfl) rfl
theorem q1281 : (Jvm.Cond.selects "HandUnderTheChinModel" ({ cls := "HandUnderTheChinModel", name := "bath", desc := "(I)I" } : Jvm.MethodName) ({ cls := "HandUnderTheChinModel", name := "bath", desc := "(I)I" } : Jvm.MethodName)) ∈ lw_all := lw_g (lw_at lw_m6 3 rfl) rfl
theorem q1282 : (Jvm.Cond.code ({ cls := "HandUnderTheChinModel", name := "bath", desc := "(I)I" } : Jvm.MethodName) prog_21_method_34_code (4 : Nat) (Option.some Jvm.ClassFile.FieldType.int)) ∈ lw_all := lw_g (lw_at lw_m6 4 rfl) rfl
theorem q1283 : (Jvm.Cond.methodLink "HandUnderTheChinModel" (189 : Nat) ({ cls := "HandUnderTheChinModel", name := "wrongRow", desc := "(I)I" } : Jvm.MethodName)) ∈ lw_all := lw_g (lw_at lw_m6 5 rfl) rfl
theorem q1284 : (Jvm.Cond.privateMethod ({ cls := "HandUnderTheChinModel", name := "wrongRow", desc := "(I)I" } : Jvm.MethodName)) ∈ lw_tbl := lw_at lw_m6 6 rfl
theorem q1285 : (Jvm.Cond.instanceMethod ({ cls := "HandUnderTheChinModel", name := "wrongRow", desc := "(I)I" } : Jvm.MethodName)) ∈ lw_all := lw_g (lw_at lw_m6 7 rfl) rfl
theorem q1286 : (Jvm.Cond.code ({ cls := "HandUnderTheChinModel", name := "wrongRow", desc := "(I)I" } : Jvm.MethodName) prog_21_method_88_code (2 : Nat) (Option.some Jvm.ClassFile.FieldType.int)) ∈ lw_all := lw_g (lw_at lw_m6 8 rfl) rfl
theorem q1287 : (Jvm.Cond.constantLong "HandUnderTheChinModel" (223 : Nat) (7 : Int64)) ∈ lw_all := lw_g (lw_at lw_m6 9 rfl) rfl
theorem q1288 : (Jvm.Cond.methodLink "HandUnderTheChinModel" (84 : Nat) ({ cls := "HandUnderTheChinModel", name := "in", desc := "(JJJ)Z" } : Jvm.MethodName)) ∈ lw_all := lw_g (lw_at lw_m6 10 rfl) rfl
theorem q1289 : (Jvm.Cond.static ({ cls := "HandUnderTheChinModel", name := "in", desc := "(JJJ)Z" } : Jvm.MethodName)) ∈ lw_all := lw_g (lw_at lw_m6 11 rfl) rfl
theorem q1290 : (Jvm.Cond.code ({ cls := "HandUnderTheChinModel", name := "in", desc := "(JJJ)Z" } : Jvm.MethodName) prog_21_method_3_code (6 : Nat) (Option.some Jvm.ClassFile.FieldType.boolean)) ∈ lw_all := lw_g (lw_at lw_m6 12 rfl) rfl
theorem q1291 : (Jvm.Cond.methodLink "HandUnderTheChinModel" (192 : Nat) ({ cls := "HandUnderTheChinModel", name := "readStatement", desc := "()V" } : Jvm.MethodName)) ∈ lw_all := lw_g (lw_at lw_m6 13 rfl) rfl
theorem q1292 : (Jvm.Cond.privateMethod ({ cls := "HandUnderTheChinModel", name := "readStatement", desc := "()V" } : Jvm.MethodName)) ∈ lw_tbl := lw_at lw_m6 14 rfl
theorem q1293 : (Jvm.Cond.instanceMethod ({ cls := "HandUnderTheChinModel", name := "readStatement", desc := "()V" } : Jvm.MethodName)) ∈ lw_all := lw_g (lw_at lw_m6 15 rfl) rfl
theorem q1294 : (Jvm.Cond.code ({ cls := "HandUnderTheChinModel", name := "readStatement", desc := "()V" } : Jvm.MethodName) prog_21_method_28_code (3 : Nat) (Option.none : Option Jvm.ClassFile.FieldType)) ∈ lw_all := lw_g (lw_at lw_m6 16 rfl) rfl
theorem q1295 : (Jvm.Cond.methodLink "HandUnderTheChinModel" (148 : Nat) ({ cls := "HandUnderTheChinModel", name := "here", desc := "()I" } : Jvm.MethodName)) ∈ lw_all := lw_g (lw_at lw_m6 17 rfl) rfl
theorem q1296 : (Jvm.Cond.privateMethod ({ cls := "HandUnderTheChinModel", name := "here", desc := "()I" } : Jvm.MethodName)) ∈ lw_tbl := lw_at lw_m6 18 rfl
theorem q1297 : (Jvm.Cond.instanceMethod ({ cls := "HandUnderTheChinModel", name := "here", desc := "()I" } : Jvm.MethodName)) ∈ lw_all := lw_g (lw_at lw_m6 19 rfl) rfl
theorem q1298 : (Jvm.Cond.code ({ cls := "HandUnderTheChinModel", name := "here", desc := "()I" } : Jvm.MethodName) prog_21_method_24_code (1 : Nat) (Option.some Jvm.ClassFile.FieldType.int)) ∈ lw_all := lw_g (lw_at lw_m6 20 rfl) rfl
theorem q1299 : (Jvm.Cond.methodLink "HandUnderTheChinModel" (162 : Nat) ({ cls := "HandUnderTheChinModel", name := "isLetter", desc := "(I)Z" } : Jvm.MethodName)) ∈ lw_all := lw_g (lw_at lw_m6 21 rfl) rfl
theorem q1300 : (Jvm.Cond.static ({ cls := "HandUnderTheChinModel", name := "isLetter", desc := "(I)Z" } : Jvm.MethodName)) ∈ lw_all := lw_g (lw_at lw_m6 22 rfl) rfl
theorem q1301 : (Jvm.Cond.code ({ cls := "HandUnderTheChinModel", name := "isLetter", desc := "(I)Z" } : Jvm.MethodName) prog_21_method_26_code (1 : Nat) (Option.some Jvm.ClassFile.FieldType.boolean)) ∈ lw_all := lw_g (lw_at lw_m6 23 rfl) rfl
theorem q1302 : (Jvm.Cond.methodLink "HandUnderTheChinModel" (165 : Nat) ({ cls := "HandUnderTheChinModel", name := "readNumbers", desc := "(II)V" } : Jvm.MethodName)) ∈ lw_all := lw_g (lw_at lw_m6 24 rfl) rfl
theorem q1303 : (Jvm.Cond.privateMethod ({ cls := "HandUnderTheChinModel", name := "readNumbers", desc := "(II)V" } : Jvm.MethodName)) ∈ lw_tbl := lw_at lw_m6 25 rfl
theorem q1304 : (Jvm.Cond.instanceMethod ({ cls := "HandUnderTheChinModel", name := "readNumbers", desc := "(II)V" } : Jvm.MethodName)) ∈ lw_all := lw_g (lw_at lw_m6 26 rfl) rfl
theorem q1305 : (Jvm.Cond.code ({ cls := "HandUnderTheChinModel", name := "readNumbers", desc := "(II)V" } : Jvm.MethodName) prog_21_method_27_code (3 : Nat) (Option.none : Option Jvm.ClassFile.FieldType)) ∈ lw_all := lw_g (lw_at lw_m6 27 rfl) rfl
theorem q1306 : (Jvm.Cond.methodLink "HandUnderTheChinModel" (156 : Nat) ({ cls := "HandUnderTheChinModel", name := "readDigits", desc := "(I)I" } : Jvm.MethodName)) ∈ lw_all := lw_g (lw_at lw_m6 28 rfl) rfl
theorem q1307 : (Jvm.Cond.privateMethod ({ cls := "HandUnderTheChinModel", name := "readDigits", desc := "(I)I" } : Jvm.MethodName)) ∈ lw_tbl := lw_at lw_m6 29 rfl
theorem q1308 : (Jvm.Cond.instanceMethod ({ cls := "HandUnderTheChinModel", name := "readDigits", desc := "(I)I" } : Jvm.MethodName)) ∈ lw_all := lw_g (lw_at lw_m6 30 rfl) rfl
theorem q1309 : (Jvm.Cond.code ({ cls := "HandUnderTheChinModel", name := "readDigits", desc := "(I)I" } : Jvm.MethodName) prog_21_method_25_code (4 : Nat) (Option.some Jvm.ClassFile.FieldType.int)) ∈ lw_all := lw_g (lw_at lw_m6 31 rfl) rfl
theorem q1310 : (Jvm.Cond.constantLong "HandUnderTheChinModel" (152 : Nat) (48 : Int64)) ∈ lw_all := lw_g (lw_at lw_m6 32 rfl) rfl
theorem q1311 : (Jvm.Cond.constantLong "HandUnderTheChinModel" (154 : Nat) (57 : Int64)) ∈ lw_all := lw_g (lw_at lw_m6 33 rfl) rfl
theorem q1312 : (Jvm.Cond.methodLink "HandUnderTheChinModel" (195 : Nat) ({ cls := "HandUnderTheChinModel", name := "open", desc := "()V" } : Jvm.MethodName)) ∈ lw_all := lw_g (lw_at lw_m6 34 rfl) rfl
theorem q1313 : (Jvm.Cond.privateMethod ({ cls := "HandUnderTheChinModel", name := "open", desc := "()V" } : Jvm.MethodName)) ∈ lw_tbl := lw_at lw_m6 35 rfl
theorem q1314 : (Jvm.Cond.instanceMethod ({ cls := "HandUnderTheChinModel", name := "open", desc := "()V" } : Jvm.MethodName)) ∈ lw_all := lw_g (lw_at lw_m6 36 rfl) rfl
theorem q1315 : (Jvm.Cond.code ({ cls := "HandUnderTheChinModel", name := "open", desc := "()V" } : Jvm.MethodName) prog_21_method_37_code (1 : Nat) (Option.none : Option Jvm.ClassFile.FieldType)) ∈ lw_all := lw_g (lw_at lw_m6 37 rfl) rfl
theorem q1316 : (Jvm.Cond.methodLink "HandUnderTheChinModel" (216 : Nat) ({ cls := "HandUnderTheChinModel", name := "carryAll", desc := "([IZ)V" } : Jvm.MethodName)) ∈ lw_all := lw_g (lw_at lw_m6 38 rfl) rfl
theorem q1317 : (Jvm.Cond.privateMethod ({ cls := "HandUnderTheChinModel", name := "carryAll", desc := "([IZ)V" } : Jvm.MethodName)) ∈ lw_tbl := lw_at lw_m6 39 rfl
theorem q1318 : (Jvm.Cond.instanceMethod ({ cls := "HandUnderTheChinModel", name := "carryAll", desc := "([IZ)V" } : Jvm.MethodName)) ∈ lw_all := lw_g (lw_at lw_m6 40 rfl) rfl
theorem q1319 : (Jvm.Cond.code ({ cls := "HandUnderTheChinModel", name := "carryAll", desc := "([IZ)V" } : Jvm.MethodName) prog_21_method_36_code (4 : Nat) (Option.none : Option Jvm.ClassFile.FieldType)) ∈ lw_all := lw_g (lw_at lw_m6 41 rfl) rfl
theorem q1320 : (Jvm.Cond.methodLink "HandUnderTheChinModel" (213 : Nat) ({ cls := "HandUnderTheChinModel", name := "carry", desc := "(I)I" } : Jvm.MethodName)) ∈ lw_all := lw_g (lw_at lw_m6 42 rfl) rfl
theorem q1321 : (Jvm.Cond.privateMethod ({ cls := "HandUnderTheChinModel", name := "carry", desc := "(I)I" } : Jvm.MethodName)) ∈ lw_tbl := lw_at lw_m6 43 rfl
theorem q1322 : (Jvm.Cond.instanceMethod ({ cls := "HandUnderTheChinModel", name := "carry", desc := "(I)I" } : Jvm.MethodName)) ∈ lw_all := lw_g (lw_at lw_m6 44 rfl) rfl
theorem q1323 : (Jvm.Cond.code ({ cls := "HandUnderTheChinModel", name := "carry", desc := "(I)I" } : Jvm.MethodName) prog_21_method_35_code (2 : Nat) (Option.some Jvm.ClassFile.FieldType.int)) ∈ lw_all := lw_g (lw_at lw_m6 45 rfl) rfl
theorem q1324 : (Jvm.Cond.methodLink "HandUnderTheChinModel" (198 : Nat) ({ cls := "HandUnderTheChinModel", name := "comesTold", desc := "(I)Z" } : Jvm.MethodName)) ∈ lw_all := lw_g (lw_at lw_m6 46 rfl) rfl
theorem q1325 : (Jvm.Cond.privateMethod ({ cls := "HandUnderTheChinModel", name := "comesTold", desc := "(I)Z" } : Jvm.MethodName)) ∈ lw_tbl := lw_at lw_m6 47 rfl
theorem q1326 : (Jvm.Cond.instanceMethod ({ cls := "HandUnderTheChinModel", name := "comesTold", desc := "(I)Z" } : Jvm.MethodName)) ∈ lw_all := lw_g (lw_at lw_m6 48 rfl) rfl
theorem q1327 : (Jvm.Cond.code ({ cls := "HandUnderTheChinModel", name := "comesTold", desc := "(I)Z" } : Jvm.MethodName) prog_21_method_33_code (5 : Nat) (Option.some Jvm.ClassFile.FieldType.boolean)) ∈ lw_all := lw_g (lw_at lw_m6 49 rfl) rfl
theorem q1328 : (Jvm.Cond.methodLink "HandUnderTheChinModel" (175 : Nat) ({ cls := "HandUnderTheChinModel", name := "childComes", desc := "(III)Z" } : Jvm.MethodName)) ∈ lw_all := lw_g (lw_at lw_m6 50 rfl) rfl
theorem q1329 : (Jvm.Cond.privateMethod ({ cls := "HandUnderTheChinModel", name := "childComes", desc := "(III)Z" } : Jvm.MethodName)) ∈ lw_tbl := lw_at lw_m6 51 rfl
theorem q1330 : (Jvm.Cond.instanceMethod ({ cls := "HandUnderTheChinModel", name := "childComes", desc := "(III)Z" } : Jvm.MethodName)) ∈ lw_all := lw_g (lw_at lw_m6 52 rfl) rfl
theorem q1331 : (Jvm.Cond.code ({ cls := "HandUnderTheChinModel", name := "childComes", desc := "(III)Z" } : Jvm.MethodName) prog_21_method_29_code (5 : Nat) (Option.some Jvm.ClassFile.FieldType.boolean)) ∈ lw_all := lw_g (lw_at lw_m6 53 rfl) rfl
theorem q1332 : (Jvm.Cond.methodLink "HandUnderTheChinModel" (179 : Nat) ({ cls := "HandUnderTheChinModel", name := "minuteComes", desc := "(II)Z" } : Jvm.MethodName)) ∈ lw_all := lw_g (lw_at lw_m6 54 rfl) rfl
theorem q1333 : (Jvm.Cond.privateMethod ({ cls := "HandUnderTheChinModel", name := "minuteComes", desc := "(II)Z" } : Jvm.MethodName)) ∈ lw_tbl := lw_at lw_m6 55 rfl
theorem q1334 : (Jvm.Cond.instanceMethod ({ cls := "HandUnderTheChinModel", name := "minuteComes", desc := "(II)Z" } : Jvm.MethodName)) ∈ lw_all := lw_g (lw_at lw_m6 56 rfl) rfl
theorem q1335 : (Jvm.Cond.code ({ cls := "HandUnderTheChinModel", name := "minuteComes", desc := "(II)Z" } : Jvm.MethodName) prog_21_method_30_code (4 : Nat) (Option.some Jvm.ClassFile.FieldType.boolean)) ∈ lw_all := lw_g (lw_at lw_m6 57 rfl) rfl
theorem q1336 : (Jvm.Cond.methodLink "HandUnderTheChinModel" (99 : Nat) ({ cls := "HandUnderTheChinModel", name := "isChild", desc := "(I)Z" } : Jvm.MethodName)) ∈ lw_all := lw_g (lw_at lw_m6 58 rfl) rfl
theorem q1337 : (Jvm.Cond.privateMethod ({ cls := "HandUnderTheChinModel", name := "isChild", desc := "(I)Z" } : Jvm.MethodName)) ∈ lw_tbl := lw_at lw_m6 59 rfl
theorem q1338 : (Jvm.Cond.instanceMethod ({ cls := "HandUnderTheChinModel", name := "isChild", desc := "(I)Z" } : Jvm.MethodName)) ∈ lw_all := lw_g (lw_at lw_m6 60 rfl) rfl
theorem q1339 : (Jvm.Cond.code ({ cls := "HandUnderTheChinModel", name := "isChild", desc := "(I)Z" } : Jvm.MethodName) prog_21_method_7_code (2 : Nat) (Option.some Jvm.ClassFile.FieldType.boolean)) ∈ lw_all := lw_g (lw_at lw_m6 61 rfl) rfl
theorem q1340 : (Jvm.Cond.methodLink "HandUnderTheChinModel" (168 : Nat) ({ cls := "HandUnderTheChinModel", name := "goMinute", desc := "(II)V" } : Jvm.MethodName)) ∈ lw_all := lw_g (lw_at lw_m6 62 rfl) rfl
theorem q1341 : (Jvm.Cond.privateMethod ({ cls := "HandUnderTheChinModel", name := "goMinute", desc := "(II)V" } : Jvm.MethodName)) ∈ lw_tbl := lw_at lw_m6 63 rfl
theorem q1342 : (Jvm.Cond.instanceMethod ({ cls := "HandUnderTheChinModel", name := "goMinute", desc := "(II)V" } : Jvm.MethodName)) ∈ lw_all := lw_g (lw_at lw_m6 64 rfl) rfl
theorem q1343 : (Jvm.Cond.code ({ cls := "HandUnderTheChinModel", name := "goMinute", desc := "(II)V" } : Jvm.MethodName) prog_21_method_20_code (3 : Nat) (Option.none : Option Jvm.ClassFile.FieldType)) ∈ lw_all := lw_g (lw_at lw_m6 65 rfl) rfl
theorem q1344 : (Jvm.Cond.methodLink "HandUnderTheChinModel" (122 : Nat) ({ cls := "HandUnderTheChinModel", name := "holdsOf", desc := "(I)I" } : Jvm.MethodName)) ∈ lw_all := lw_g (lw_at lw_m6 66 rfl) rfl
theorem q1345 : (Jvm.Cond.privateMethod ({ cls := "HandUnderTheChinModel", name := "holdsOf", desc := "(I)I" } : Jvm.MethodName)) ∈ lw_tbl := lw_at lw_m6 67 rfl
theorem q1346 : (Jvm.Cond.instanceMethod ({ cls := "HandUnderTheChinModel", name := "holdsOf", desc := "(I)I" } : Jvm.MethodName)) ∈ lw_all := lw_g (lw_at lw_m6 68 rfl) rfl
theorem q1347 : (Jvm.Cond.code ({ cls := "HandUnderTheChinModel", name := "holdsOf", desc := "(I)I" } : Jvm.MethodName) prog_21_method_9_code (2 : Nat) (Option.some Jvm.ClassFile.FieldType.int)) ∈ lw_all := lw_g (lw_at lw_m6 69 rfl) rfl
theorem q1348 : (Jvm.Cond.methodLink "HandUnderTheChinModel" (88 : Nat) ({ cls := "HandUnderTheChinModel", name := "holdsBy", desc := "(II)I" } : Jvm.MethodName)) ∈ lw_all := lw_g (lw_at lw_m6 70 rfl) rfl
theorem q1349 : (Jvm.Cond.static ({ cls := "HandUnderTheChinModel", name := "holdsBy", desc := "(II)I" } : Jvm.MethodName)) ∈ lw_all := lw_g (lw_at lw_m6 71 rfl) rfl
theorem q1350 : (Jvm.Cond.code ({ cls := "HandUnderTheChinModel", name := "holdsBy", desc := "(II)I" } : Jvm.MethodName) prog_21_method_8_code (2 : Nat) (Option.some Jvm.ClassFile.FieldType.int)) ∈ lw_all := lw_g (lw_at lw_m6 72 rfl) rfl
theorem q1351 : (Jvm.Cond.methodLink "HandUnderTheChinModel" (112 : Nat) ({ cls := "HandUnderTheChinModel", name := "gains", desc := "(II)V" } : Jvm.MethodName)) ∈ lw_all := lw_g (lw_at lw_m6 73 rfl) rfl
theorem q1352 : (Jvm.Cond.privateMethod ({ cls := "HandUnderTheChinModel", name := "gains", desc := "(II)V" } : Jvm.MethodName)) ∈ lw_tbl := lw_at lw_m6 74 rfl
theorem q1353 : (Jvm.Cond.instanceMethod ({ cls := "HandUnderTheChinModel", name := "gains", desc := "(II)V" } : Jvm.MethodName)) ∈ lw_all := lw_g (lw_at lw_m6 75 rfl) rfl
theorem q1354 : (Jvm.Cond.code ({ cls := "HandUnderTheChinModel", name := "gains", desc := "(II)V" } : Jvm.MethodName) prog_21_method_16_code (3 : Nat) (Option.none : Option Jvm.ClassFile.FieldType)) ∈ lw_all := lw_g (lw_at lw_m6 76 rfl) rfl
theorem q1355 : (Jvm.Cond.methodLink "HandUnderTheChinModel" (103 : Nat) ({ cls := "HandUnderTheChinModel", name := "held", desc := "(II)I" } : Jvm.MethodName)) ∈ lw_all := lw_g (lw_at lw_m6 77 rfl) rfl
theorem q1356 : (Jvm.Cond.static ({ cls := "HandUnderTheChinModel", name := "held", desc := "(II)I" } : Jvm.MethodName)) ∈ lw_all := lw_g (lw_at lw_m6 78 rfl) rfl
theorem q1357 : (Jvm.Cond.code ({ cls := "HandUnderTheChinModel", name := "held", desc := "(II)I" } : Jvm.MethodName) prog_21_method_6_code (2 : Nat) (Option.some Jvm.ClassFile.FieldType.int)) ∈ lw_all := lw_g (lw_at lw_m6 79 rfl) rfl
theorem q1358 : (Jvm.Cond.methodLink "HandUnderTheChinModel" (95 : Nat) ({ cls := "HandUnderTheChinModel", name := "needsOf", desc := "(I)I" } : Jvm.MethodName)) ∈ lw_all := lw_g (lw_at lw_m6 80 rfl) rfl
theorem q1359 : (Jvm.Cond.privateMethod ({ cls := "HandUnderTheChinModel", name := "needsOf", desc := "(I)I" } : Jvm.MethodName)) ∈ lw_tbl := lw_at lw_m6 81 rfl
theorem q1360 : (Jvm.Cond.instanceMethod ({ cls := "HandUnderTheChinModel", name := "needsOf", desc := "(I)I" } : Jvm.MethodName)) ∈ lw_all := lw_g (lw_at lw_m6 82 rfl) rfl
theorem q1361 : (Jvm.Cond.code ({ cls := "HandUnderTheChinModel", name := "needsOf", desc := "(I)I" } : Jvm.MethodName) prog_21_method_11_code (2 : Nat) (Option.some Jvm.ClassFile.FieldType.int)) ∈ lw_all := lw_g (lw_at lw_m6 83 rfl) rfl
theorem q1362 : (Jvm.Cond.methodLink "HandUnderTheChinModel" (92 : Nat) ({ cls := "HandUnderTheChinModel", name := "needsAt", desc := "(II)I" } : Jvm.MethodName)) ∈ lw_all := lw_g (lw_at lw_m6 84 rfl) rfl
theorem q1363 : (Jvm.Cond.privateMethod ({ cls := "HandUnderTheChinModel", name := "needsAt", desc := "(II)I" } : Jvm.MethodName)) ∈ lw_tbl := lw_at lw_m6 85 rfl
theorem q1364 : (Jvm.Cond.instanceMethod ({ cls := "HandUnderTheChinModel", name := "needsAt", desc := "(II)I" } : Jvm.MethodName)) ∈ lw_all := lw_g (lw_at lw_m6 86 rfl) rfl
theorem q1365 : (Jvm.Cond.code ({ cls := "HandUnderTheChinModel", name := "needsAt", desc := "(II)I" } : Jvm.MethodName) prog_21_method_10_code (3 : Nat) (Option.some Jvm.ClassFile.FieldType.int)) ∈ lw_all := lw_g (lw_at lw_m6 87 rfl) rfl
theorem q1366 : (Jvm.Cond.methodLink "HandUnderTheChinModel" (125 : Nat) ({ cls := "HandUnderTheChinModel", name := "letGo", desc := "(I)V" } : Jvm.MethodName)) ∈ lw_all := lw_g (lw_at lw_m6 88 rfl) rfl
theorem q1367 : (Jvm.Cond.privateMethod ({ cls := "HandUnderTheChinModel", name := "letGo", desc := "(I)V" } : Jvm.MethodName)) ∈ lw_tbl := lw_at lw_m6 89 rfl
theorem q1368 : (Jvm.Cond.instanceMethod ({ cls := "HandUnderTheChinModel", name := "letGo", desc := "(I)V" } : Jvm.MethodName)) ∈ lw_all := lw_g (lw_at lw_m6 90 rfl) rfl
theorem q1369 : (Jvm.Cond.code ({ cls := "HandUnderTheChinModel", name := "letGo", desc := "(I)V" } : Jvm.MethodName) prog_21_method_17_code (3 : Nat) (Option.none : Option Jvm.ClassFile.FieldType)) ∈ lw_all := lw_g (lw_at lw_m6 91 rfl) rfl
theorem q1370 : (Jvm.Cond.methodLink "HandUnderTheChinModel" (106 : Nat) ({ cls := "HandUnderTheChinModel", name := "passesOf", desc := "(I)I" } : Jvm.MethodName)) ∈ lw_all := lw_g (lw_at lw_m6 92 rfl) rfl
theorem q1371 : (Jvm.Cond.privateMethod ({ cls := "HandUnderTheChinModel", name := "passesOf", desc := "(I)I" } : Jvm.MethodName)) ∈ lw_tbl := lw_at lw_m6 93 rfl
theorem q1372 : (Jvm.Cond.instanceMethod ({ cls := "HandUnderTheChinModel", name := "passesOf", desc := "(I)I" } : Jvm.MethodName)) ∈ lw_all := lw_g (lw_at lw_m6 94 rfl) rfl
theorem q1373 : (Jvm.Cond.code ({ cls := "HandUnderTheChinModel", name := "passesOf", desc := "(I)I" } : Jvm.MethodName) prog_21_method_14_code (2 : Nat) (Option.some Jvm.ClassFile.FieldType.int)) ∈ lw_all := lw_g (lw_at lw_m6 95 rfl) rfl
theorem q1374 : (Jvm.Cond.methodLink "HandUnderTheChinModel" (109 : Nat) ({ cls := "HandUnderTheChinModel", name := "isReady", desc := "(I)Z" } : Jvm.MethodName)) ∈ lw_all := lw_g (lw_at lw_m6 96 rfl) rfl
theorem q1375 : (Jvm.Cond.privateMethod ({ cls := "HandUnderTheChinModel", name := "isReady", desc := "(I)Z" } : Jvm.MethodName)) ∈ lw_tbl := lw_at lw_m6 97 rfl
theorem q1376 : (Jvm.Cond.instanceMethod ({ cls := "HandUnderTheChinModel", name := "isReady", desc := "(I)Z" } : Jvm.MethodName)) ∈ lw_all := lw_g (lw_at lw_m6 98 rfl) rfl
theorem q1377 : (Jvm.Cond.code ({ cls := "HandUnderTheChinModel", name := "isReady", desc := "(I)Z" } : Jvm.MethodName) prog_21_method_15_code (2 : Nat) (Option.some Jvm.ClassFile.FieldType.boolean)) ∈ lw_all := lw_g (lw_at lw_m6 99 rfl) rfl
theorem q1378 : (Jvm.Cond.methodLink "HandUnderTheChinModel" (116 : Nat) ({ cls := "HandUnderTheChinModel", name := "frightOf", desc := "(I)I" } : Jvm.MethodName)) ∈ lw_all := lw_g (lw_at lw_m6 100 rfl) rfl
theorem q1379 : (Jvm.Cond.privateMethod ({ cls := "HandUnderTheChinModel", name := "frightOf", desc := "(I)I" } : Jvm.MethodName)) ∈ lw_tbl := lw_at lw_m6 101 rfl
theorem q1380 : (Jvm.Cond.instanceMethod ({ cls := "HandUnderTheChinModel", name := "frightOf", desc := "(I)I" } : Jvm.MethodName)) ∈ lw_all := lw_g (lw_at lw_m6 102 rfl) rfl
theorem q1381 : (Jvm.Cond.code ({ cls := "HandUnderTheChinModel", name := "frightOf", desc := "(I)I" } : Jvm.MethodName) prog_21_method_12_code (2 : Nat) (Option.some Jvm.ClassFile.FieldType.int)) ∈ lw_all := lw_g (lw_at lw_m6 103 rfl) rfl
theorem q1382 : (Jvm.Cond.methodLink "HandUnderTheChinModel" (129 : Nat) ({ cls := "HandUnderTheChinModel", name := "show", desc := "(I)V" } : Jvm.MethodName)) ∈ lw_all := lw_g (lw_at lw_m6 104 rfl) rfl
theorem q1383 : (Jvm.Cond.privateMethod ({ cls := "HandUnderTheChinModel", name := "show", desc := "(I)V" } : Jvm.MethodName)) ∈ lw_tbl := lw_at lw_m6 105 rfl
theorem q1384 : (Jvm.Cond.instanceMethod ({ cls := "HandUnderTheChinModel", name := "show", desc := "(I)V" } : Jvm.MethodName)) ∈ lw_all := lw_g (lw_at lw_m6 106 rfl) rfl
theorem q1385 : (Jvm.Cond.code ({ cls := "HandUnderTheChinModel", name := "show", desc := "(I)V" } : Jvm.MethodName) prog_21_method_18_code (6 : Nat) (Option.none : Option Jvm.ClassFile.FieldType)) ∈ lw_all := lw_g (lw_at lw_m6 107 rfl) rfl
theorem q1386 : (Jvm.Cond.methodLink "HandUnderTheChinModel" (132 : Nat) ({ cls := "HandUnderTheChinModel", name := "colder", desc := "(I)V" } : Jvm.MethodName)) ∈ lw_all := lw_g (lw_at lw_m6 108 rfl) rfl
theorem q1387 : (Jvm.Cond.privateMethod ({ cls := "HandUnderTheChinModel", name := "colder", desc := "(I)V" } : Jvm.MethodName)) ∈ lw_tbl := lw_at lw_m6 109 rfl
theorem q1388 : (Jvm.Cond.instanceMethod ({ cls := "HandUnderTheChinModel", name := "colder", desc := "(I)V" } : Jvm.MethodName)) ∈ lw_all := lw_g (lw_at lw_m6 110 rfl) rfl
theorem q1389 : (Jvm.Cond.code ({ cls := "HandUnderTheChinModel", name := "colder", desc := "(I)V" } : Jvm.MethodName) prog_21_method_19_code (3 : Nat) (Option.none : Option Jvm.ClassFile.FieldType)) ∈ lw_all := lw_g (lw_at lw_m6 111 rfl) rfl
theorem q1390 : (Jvm.Cond.methodLink "HandUnderTheChinModel" (119 : Nat) ({ cls := "HandUnderTheChinModel", name := "bearsOf", desc := "(I)I" } : Jvm.MethodName)) ∈ lw_all := lw_g (lw_at lw_m6 112 rfl) rfl
theorem q1391 : (Jvm.Cond.privateMethod ({ cls := "HandUnderTheChinModel", name := "bearsOf", desc := "(I)I" } : Jvm.MethodName)) ∈ lw_tbl := lw_at lw_m6 113 rfl
theorem q1392 : (Jvm.Cond.instanceMethod ({ cls := "HandUnderTheChinModel", name := "bearsOf", desc := "(I)I" } : Jvm.MethodName)) ∈ lw_all := lw_g (lw_at lw_m6 114 rfl) rfl
theorem q1393 : (Jvm.Cond.code ({ cls := "HandUnderTheChinModel", name := "bearsOf", desc := "(I)I" } : Jvm.MethodName) prog_21_method_13_code (2 : Nat) (Option.some Jvm.ClassFile.FieldType.int)) ∈ lw_all := lw_g (lw_at lw_m6 115 rfl) rfl
theorem q1394 : (Jvm.Cond.methodLink "HandUnderTheChinModel" (183 : Nat) ({ cls := "HandUnderTheChinModel", name := "goBreak", desc := "(I)V" } : Jvm.MethodName)) ∈ lw_all := lw_g (lw_at lw_m6 116 rfl) rfl
theorem q1395 : (Jvm.Cond.privateMethod ({ cls := "HandUnderTheChinModel", name := "goBreak", desc := "(I)V" } : Jvm.MethodName)) ∈ lw_tbl := lw_at lw_m6 117 rfl
theorem q1396 : (Jvm.Cond.instanceMethod ({ cls := "HandUnderTheChinModel", name := "goBreak", desc := "(I)V" } : Jvm.MethodName)) ∈ lw_all := lw_g (lw_at lw_m6 118 rfl) rfl
theorem q1397 : (Jvm.Cond.code ({ cls := "HandUnderTheChinModel", name := "goBreak", desc := "(I)V" } : Jvm.MethodName) prog_21_method_21_code (3 : Nat) (Option.none : Option Jvm.ClassFile.FieldType)) ∈ lw_all := lw_g (lw_at lw_m6 119 rfl) rfl
theorem q1398 : (Jvm.Cond.methodLink "HandUnderTheChinModel" (186 : Nat) ({ cls := "HandUnderTheChinModel", name := "swapAll", desc := "(II)V" } : Jvm.MethodName)) ∈ lw_all := lw_g (lw_at lw_m6 120 rfl) rfl
theorem q1399 : (Jvm.Cond.privateMethod ({ cls := "HandUnderTheChinModel", name := "swapAll", desc := "(II)V" } : Jvm.MethodName)) ∈ lw_tbl := lw_at lw_m6 121 rfl
theorem q1400 : (Jvm.Cond.instanceMethod ({ cls := "HandUnderTheChinModel", name := "swapAll", desc := "(II)V" } : Jvm.MethodName)) ∈ lw_all := lw_g (lw_at lw_m6 122 rfl) rfl
theorem q1401 : (Jvm.Cond.code ({ cls := "HandUnderTheChinModel", name := "swapAll", desc := "(II)V" } : Jvm.MethodName) prog_21_method_32_code (3 : Nat) (Option.none : Option Jvm.ClassFile.FieldType)) ∈ lw_all := lw_g (lw_at lw_m6 123 rfl) rfl
theorem q1402 : (Jvm.Cond.methodLink "HandUnderTheChinModel" (171 : Nat) ({ cls := "HandUnderTheChinModel", name := "swapNumbers", desc := "([III)V" } : Jvm.MethodName)) ∈ lw_all := lw_g (lw_at lw_m6 124 rfl) rfl
theorem q1403 : (Jvm.Cond.privateMethod ({ cls := "HandUnderTheChinModel", name := "swapNumbers", desc := "([III)V" } : Jvm.MethodName)) ∈ lw_tbl := lw_at lw_m6 125 rfl
theorem q1404 : (Jvm.Cond.instanceMethod ({ cls := "HandUnderTheChinModel", name := "swapNumbers", desc := "([III)V" } : Jvm.MethodName)) ∈ lw_all := lw_g (lw_at lw_m6 126 rfl) rfl
theorem q1405 : (Jvm.Cond.code ({ cls := "HandUnderTheChinModel", name := "swapNumbers", desc := "([III)V" } : Jvm.MethodName) prog_21_method_31_code (5 : Nat) (Option.none : Option Jvm.ClassFile.FieldType)) ∈ lw_all := lw_g (lw_at lw_m6 127 rfl) rfl
theorem q1406 : (Jvm.Cond.methodLink "HandUnderTheChinModel" (201 : Nat) ({ cls := "HandUnderTheChinModel", name := "close", desc := "()V" } : Jvm.MethodName)) ∈ lw_all := lw_g (lw_at lw_m6 128 rfl) rfl
theorem q1407 : (Jvm.Cond.privateMethod ({ cls := "HandUnderTheChinModel", name := "close", desc := "()V" } : Jvm.MethodName)) ∈ lw_tbl := lw_at lw_m6 129 rfl
theorem q1408 : (Jvm.Cond.instanceMethod ({ cls := "HandUnderTheChinModel", name := "close", desc := "()V" } : Jvm.MethodName)) ∈ lw_all := lw_g (lw_at lw_m6 130 rfl) rfl
theorem q1409 : (Jvm.Cond.code ({ cls := "HandUnderTheChinModel", name := "close", desc := "()V" } : Jvm.MethodName) prog_21_method_38_code (1 : Nat) (Option.none : Option Jvm.ClassFile.FieldType)) ∈ lw_all := lw_g (lw_at lw_m6 131 rfl) rfl
theorem q1411 : (Jvm.Cond.instanceMethod ({ cls := "HandUnderTheChinModel", name := "image", desc := "()I" } : Jvm.MethodName)) ∈ lw_all := lw_g (lw_at lw_m6 133 rfl) rfl
theorem q1412 : (Jvm.Cond.selects "HandUnderTheChinModel" ({ cls := "HandUnderTheChinModel", name := "image", desc := "()I" } : Jvm.MethodName) ({ cls := "HandUnderTheChinModel", name := "image", desc := "()I" } : Jvm.MethodName)) ∈ lw_all := lw_g (lw_at lw_m6 134 rfl) rfl
theorem q1413 : (Jvm.Cond.code ({ cls := "HandUnderTheChinModel", name := "image", desc := "()I" } : Jvm.MethodName) prog_21_method_39_code (1 : Nat) (Option.some Jvm.ClassFile.FieldType.int)) ∈ lw_all := lw_g (lw_at lw_m6 135 rfl) rfl
theorem q1415 : (Jvm.Cond.instanceMethod ({ cls := "HandUnderTheChinModel", name := "restore", desc := "()I" } : Jvm.MethodName)) ∈ lw_all := lw_g (lw_at lw_m6 137 rfl) rfl
theorem q1416 : (Jvm.Cond.selects "HandUnderTheChinModel" ({ cls := "HandUnderTheChinModel", name := "restore", desc := "()I" } : Jvm.MethodName) ({ cls := "HandUnderTheChinModel", name := "restore", desc := "()I" } : Jvm.MethodName)) ∈ lw_all := lw_g (lw_at lw_m6 138 rfl) rfl
theorem q1417 : (Jvm.Cond.code ({ cls := "HandUnderTheChinModel", name := "restore", desc := "()I" } : Jvm.MethodName) prog_21_method_40_code (1 : Nat) (Option.some Jvm.ClassFile.FieldType.int)) ∈ lw_all := lw_g (lw_at lw_m6 139 rfl) rfl
theorem q1419 : (Jvm.Cond.instanceMethod ({ cls := "HandUnderTheChinModel", name := "child", desc := "(II)I" } : Jvm.MethodName)) ∈ lw_all := lw_g (lw_at lw_m6 141 rfl) rfl
theorem q1420 : (Jvm.Cond.selects "HandUnderTheChinModel" ({ cls := "HandUnderTheChinModel", name := "child", desc := "(II)I" } : Jvm.MethodName) ({ cls := "HandUnderTheChinModel", name := "child", desc := "(II)I" } : Jvm.MethodName)) ∈ lw_all := lw_g (lw_at lw_m6 142 rfl) rfl
theorem q1421 : (Jvm.Cond.code ({ cls := "HandUnderTheChinModel", name := "child", desc := "(II)I" } : Jvm.MethodName) prog_21_method_41_code (3 : Nat) (Option.some Jvm.ClassFile.FieldType.int)) ∈ lw_all := lw_g (lw_at lw_m6 143 rfl) rfl
theorem q1423 : (Jvm.Cond.instanceMethod ({ cls := "HandUnderTheChinModel", name := "comes", desc := "(II)I" } : Jvm.MethodName)) ∈ lw_all := lw_g (lw_at lw_m6 145 rfl) rfl
theorem q1424 : (Jvm.Cond.selects "HandUnderTheChinModel" ({ cls := "HandUnderTheChinModel", name := "comes", desc := "(II)I" } : Jvm.MethodName) ({ cls := "HandUnderTheChinModel", name := "comes", desc := "(II)I" } : Jvm.MethodName)) ∈ lw_all := lw_g (lw_at lw_m6 146 rfl) rfl
theorem q1425 : (Jvm.Cond.code ({ cls := "HandUnderTheChinModel", name := "comes", desc := "(II)I" } : Jvm.MethodName) prog_21_method_43_code (4 : Nat) (Option.some Jvm.ClassFile.FieldType.int)) ∈ lw_all := lw_g (lw_at lw_m6 147 rfl) rfl
theorem q1426 : (Jvm.Cond.constantLong "HandUnderTheChinModel" (225 : Nat) (20 : Int64)) ∈ lw_all := lw_g (lw_at lw_m6 148 rfl) rfl
theorem q1427 : (Jvm.Cond.methodLink "HandUnderTheChinModel" (227 : Nat) ({ cls := "HandUnderTheChinModel", name := "wrongKept", desc := "(I)I" } : Jvm.MethodName)) ∈ lw_all := lw_g (lw_at lw_m6 149 rfl) rfl
theorem q1428 : (Jvm.Cond.privateMethod ({ cls := "HandUnderTheChinModel", name := "wrongKept", desc := "(I)I" } : Jvm.MethodName)) ∈ lw_tbl := lw_at lw_m6 150 rfl
theorem q1429 : (Jvm.Cond.instanceMethod ({ cls := "HandUnderTheChinModel", name := "wrongKept", desc := "(I)I" } : Jvm.MethodName)) ∈ lw_all := lw_g (lw_at lw_m6 151 rfl) rfl
theorem q1430 : (Jvm.Cond.code ({ cls := "HandUnderTheChinModel", name := "wrongKept", desc := "(I)I" } : Jvm.MethodName) prog_21_method_42_code (2 : Nat) (Option.some Jvm.ClassFile.FieldType.int)) ∈ lw_all := lw_g (lw_at lw_m6 152 rfl) rfl
theorem q1432 : (Jvm.Cond.instanceMethod ({ cls := "HandUnderTheChinModel", name := "feels", desc := "(III)I" } : Jvm.MethodName)) ∈ lw_all := lw_g (lw_at lw_m6 154 rfl) rfl
theorem q1433 : (Jvm.Cond.selects "HandUnderTheChinModel" ({ cls := "HandUnderTheChinModel", name := "feels", desc := "(III)I" } : Jvm.MethodName) ({ cls := "HandUnderTheChinModel", name := "feels", desc := "(III)I" } : Jvm.MethodName)) ∈ lw_all := lw_g (lw_at lw_m6 155 rfl) rfl
theorem q1434 : (Jvm.Cond.code ({ cls := "HandUnderTheChinModel", name := "feels", desc := "(III)I" } : Jvm.MethodName) prog_21_method_44_code (5 : Nat) (Option.some Jvm.ClassFile.FieldType.int)) ∈ lw_all := lw_g (lw_at lw_m6 156 rfl) rfl
theorem q1436 : (Jvm.Cond.instanceMethod ({ cls := "HandUnderTheChinModel", name := "minute", desc := "(II)I" } : Jvm.MethodName)) ∈ lw_all := lw_g (lw_at lw_m6 158 rfl) rfl
theorem q1437 : (Jvm.Cond.selects "HandUnderTheChinModel" ({ cls := "HandUnderTheChinModel", name := "minute", desc := "(II)I" } : Jvm.MethodName) ({ cls := "HandUnderTheChinModel", name := "minute", desc := "(II)I" } : Jvm.MethodName)) ∈ lw_all := lw_g (lw_at lw_m6 159 rfl) rfl
theorem q1438 : (Jvm.Cond.code ({ cls := "HandUnderTheChinModel", name := "minute", desc := "(II)I" } : Jvm.MethodName) prog_21_method_45_code (3 : Nat) (Option.some Jvm.ClassFile.FieldType.int)) ∈ lw_all := lw_g (lw_at lw_m6 160 rfl) rfl
theorem q1439 : (Jvm.Cond.constantLong "HandUnderTheChinModel" (230 : Nat) (3 : Int64)) ∈ lw_all := lw_g (lw_at lw_m6 161 rfl) rfl
theorem q1441 : (Jvm.Cond.instanceMethod ({ cls := "HandUnderTheChinModel", name := "change", desc := "(II)I" } : Jvm.MethodName)) ∈ lw_all := lw_g (lw_at lw_m6 163 rfl) rfl
theorem q1442 : (Jvm.Cond.selects "HandUnderTheChinModel" ({ cls := "HandUnderTheChinModel", name := "change", desc := "(II)I" } : Jvm.MethodName) ({ cls := "HandUnderTheChinModel", name := "change", desc := "(II)I" } : Jvm.MethodName)) ∈ lw_all := lw_g (lw_at lw_m6 164 rfl) rfl
theorem q1443 : (Jvm.Cond.code ({ cls := "HandUnderTheChinModel", name := "change", desc := "(II)I" } : Jvm.MethodName) prog_21_method_46_code (3 : Nat) (Option.some Jvm.ClassFile.FieldType.int)) ∈ lw_all := lw_g (lw_at lw_m6 165 rfl) rfl
theorem q1445 : (Jvm.Cond.instanceMethod ({ cls := "HandUnderTheChinModel", name := "rest", desc := "(I)I" } : Jvm.MethodName)) ∈ lw_all := lw_g (lw_at lw_m6 167 rfl) rfl
theorem q1446 : (Jvm.Cond.selects "HandUnderTheChinModel" ({ cls := "HandUnderTheChinModel", name := "rest", desc := "(I)I" } : Jvm.MethodName) ({ cls := "HandUnderTheChinModel", name := "rest", desc := "(I)I" } : Jvm.MethodName)) ∈ lw_all := lw_g (lw_at lw_m6 168 rfl) rfl
theorem q1447 : (Jvm.Cond.code ({ cls := "HandUnderTheChinModel", name := "rest", desc := "(I)I" } : Jvm.MethodName) prog_21_method_47_code (2 : Nat) (Option.some Jvm.ClassFile.FieldType.int)) ∈ lw_all := lw_g (lw_at lw_m6 169 rfl) rfl
theorem q1448 : (Jvm.Cond.constantLong "HandUnderTheChinModel" (232 : Nat) (9 : Int64)) ∈ lw_all := lw_g (lw_at lw_m6 170 rfl) rfl
theorem q1449 : (Jvm.Cond.methodLink "HandUnderTheChinModel" (234 : Nat) ({ cls := "HandUnderTheChinModel", name := "allSteps", desc := "()I" } : Jvm.MethodName)) ∈ lw_all := lw_g (lw_at lw_m6 171 rfl) rfl
theorem q1450 : (Jvm.Cond.privateMethod ({ cls := "HandUnderTheChinModel", name := "allSteps", desc := "()I" } : Jvm.MethodName)) ∈ lw_tbl := lw_at lw_m6 172 rfl
theorem q1451 : (Jvm.Cond.instanceMethod ({ cls := "HandUnderTheChinModel", name := "allSteps", desc := "()I" } : Jvm.MethodName)) ∈ lw_all := lw_g (lw_at lw_m6 173 rfl) rfl
theorem q1452 : (Jvm.Cond.code ({ cls := "HandUnderTheChinModel", name := "allSteps", desc := "()I" } : Jvm.MethodName) prog_21_method_22_code (3 : Nat) (Option.some Jvm.ClassFile.FieldType.int)) ∈ lw_all := lw_g (lw_at lw_m6 174 rfl) rfl
theorem q1454 : (Jvm.Cond.instanceMethod ({ cls := "HandUnderTheChinModel", name := "ready", desc := "()I" } : Jvm.MethodName)) ∈ lw_all := lw_g (lw_at lw_m6 176 rfl) rfl
theorem q1455 : (Jvm.Cond.selects "HandUnderTheChinModel" ({ cls := "HandUnderTheChinModel", name := "ready", desc := "()I" } : Jvm.MethodName) ({ cls := "HandUnderTheChinModel", name := "ready", desc := "()I" } : Jvm.MethodName)) ∈ lw_all := lw_g (lw_at lw_m6 177 rfl) rfl
theorem q1456 : (Jvm.Cond.code ({ cls := "HandUnderTheChinModel", name := "ready", desc := "()I" } : Jvm.MethodName) prog_21_method_49_code (1 : Nat) (Option.some Jvm.ClassFile.FieldType.int)) ∈ lw_all := lw_g (lw_at lw_m6 178 rfl) rfl
theorem q1457 : (Jvm.Cond.methodLink "HandUnderTheChinModel" (237 : Nat) ({ cls := "HandUnderTheChinModel", name := "readyBits", desc := "()I" } : Jvm.MethodName)) ∈ lw_all := lw_g (lw_at lw_m6 179 rfl) rfl
theorem q1458 : (Jvm.Cond.privateMethod ({ cls := "HandUnderTheChinModel", name := "readyBits", desc := "()I" } : Jvm.MethodName)) ∈ lw_tbl := lw_at lw_m6 180 rfl
theorem q1459 : (Jvm.Cond.instanceMethod ({ cls := "HandUnderTheChinModel", name := "readyBits", desc := "()I" } : Jvm.MethodName)) ∈ lw_all := lw_g (lw_at lw_m6 181 rfl) rfl
theorem q1460 : (Jvm.Cond.code ({ cls := "HandUnderTheChinModel", name := "readyBits", desc := "()I" } : Jvm.MethodName) prog_21_method_48_code (3 : Nat) (Option.some Jvm.ClassFile.FieldType.int)) ∈ lw_all := lw_g (lw_at lw_m6 182 rfl) rfl
theorem q1462 : (Jvm.Cond.instanceMethod ({ cls := "HandUnderTheChinModel", name := "alone", desc := "(II)I" } : Jvm.MethodName)) ∈ lw_all := lw_g (lw_at lw_m6 184 rfl) rfl
theorem q1463 : (Jvm.Cond.selects "HandUnderTheChinModel" ({ cls := "HandUnderTheChinModel", name := "alone", desc := "(II)I" } : Jvm.MethodName) ({ cls := "HandUnderTheChinModel", name := "alone", desc := "(II)I" } : Jvm.MethodName)) ∈ lw_all := lw_g (lw_at lw_m6 185 rfl) rfl
theorem q1464 : (Jvm.Cond.code ({ cls := "HandUnderTheChinModel", name := "alone", desc := "(II)I" } : Jvm.MethodName) prog_21_method_54_code (5 : Nat) (Option.some Jvm.ClassFile.FieldType.int)) ∈ lw_all := lw_g (lw_at lw_m6 186 rfl) rfl
theorem q1465 : (Jvm.Cond.methodLink "HandUnderTheChinModel" (244 : Nat) ({ cls := "HandUnderTheChinModel", name := "layFewest", desc := "(II)V" } : Jvm.MethodName)) ∈ lw_all := lw_g (lw_at lw_m6 187 rfl) rfl
theorem q1466 : (Jvm.Cond.privateMethod ({ cls := "HandUnderTheChinModel", name := "layFewest", desc := "(II)V" } : Jvm.MethodName)) ∈ lw_tbl := lw_at lw_m6 188 rfl
theorem q1467 : (Jvm.Cond.instanceMethod ({ cls := "HandUnderTheChinModel", name := "layFewest", desc := "(II)V" } : Jvm.MethodName)) ∈ lw_all := lw_g (lw_at lw_m6 189 rfl) rfl
theorem q1468 : (Jvm.Cond.code ({ cls := "HandUnderTheChinModel", name := "layFewest", desc := "(II)V" } : Jvm.MethodName) prog_21_method_51_code (7 : Nat) (Option.none : Option Jvm.ClassFile.FieldType)) ∈ lw_all := lw_g (lw_at lw_m6 190 rfl) rfl
theorem q1469 : (Jvm.Cond.methodLink "HandUnderTheChinModel" (240 : Nat) ({ cls := "HandUnderTheChinModel", name := "behindWay", desc := "(III)I" } : Jvm.MethodName)) ∈ lw_all := lw_g (lw_at lw_m6 191 rfl) rfl
theorem q1470 : (Jvm.Cond.privateMethod ({ cls := "HandUnderTheChinModel", name := "behindWay", desc := "(III)I" } : Jvm.MethodName)) ∈ lw_tbl := lw_at lw_m6 192 rfl
theorem q1471 : (Jvm.Cond.instanceMethod ({ cls := "HandUnderTheChinModel", name := "behindWay", desc := "(III)I" } : Jvm.MethodName)) ∈ lw_all := lw_g (lw_at lw_m6 193 rfl) rfl
theorem q1472 : (Jvm.Cond.code ({ cls := "HandUnderTheChinModel", name := "behindWay", desc := "(III)I" } : Jvm.MethodName) prog_21_method_50_code (6 : Nat) (Option.some Jvm.ClassFile.FieldType.int)) ∈ lw_all := lw_g (lw_at lw_m6 194 rfl) rfl
theorem q1473 : (Jvm.Cond.methodLink "HandUnderTheChinModel" (247 : Nat) ({ cls := "HandUnderTheChinModel", name := "aloneFrom", desc := "(II)I" } : Jvm.MethodName)) ∈ lw_all := lw_g (lw_at lw_m6 195 rfl) rfl
theorem q1474 : (Jvm.Cond.privateMethod ({ cls := "HandUnderTheChinModel", name := "aloneFrom", desc := "(II)I" } : Jvm.MethodName)) ∈ lw_tbl := lw_at lw_m6 196 rfl
theorem q1475 : (Jvm.Cond.instanceMethod ({ cls := "HandUnderTheChinModel", name := "aloneFrom", desc := "(II)I" } : Jvm.MethodName)) ∈ lw_all := lw_g (lw_at lw_m6 197 rfl) rfl
theorem q1476 : (Jvm.Cond.code ({ cls := "HandUnderTheChinModel", name := "aloneFrom", desc := "(II)I" } : Jvm.MethodName) prog_21_method_53_code (4 : Nat) (Option.some Jvm.ClassFile.FieldType.int)) ∈ lw_all := lw_g (lw_at lw_m6 198 rfl) rfl
theorem q1477 : (Jvm.Cond.methodLink "HandUnderTheChinModel" (250 : Nat) ({ cls := "HandUnderTheChinModel", name := "stateOf", desc := "(I)I" } : Jvm.MethodName)) ∈ lw_all := lw_g (lw_at lw_m6 199 rfl) rfl
theorem q1478 : (Jvm.Cond.privateMethod ({ cls := "HandUnderTheChinModel", name := "stateOf", desc := "(I)I" } : Jvm.MethodName)) ∈ lw_tbl := lw_at lw_m6 200 rfl
theorem q1479 : (Jvm.Cond.instanceMethod ({ cls := "HandUnderTheChinModel", name := "stateOf", desc := "(I)I" } : Jvm.MethodName)) ∈ lw_all := lw_g (lw_at lw_m6 201 rfl) rfl
theorem q1480 : (Jvm.Cond.code ({ cls := "HandUnderTheChinModel", name := "stateOf", desc := "(I)I" } : Jvm.MethodName) prog_21_method_52_code (2 : Nat) (Option.some Jvm.ClassFile.FieldType.int)) ∈ lw_all := lw_g (lw_at lw_m6 202 rfl) rfl
theorem q1482 : (Jvm.Cond.instanceMethod ({ cls := "HandUnderTheChinModel", name := "neverHeld", desc := "(I)I" } : Jvm.MethodName)) ∈ lw_all := lw_g (lw_at lw_m6 204 rfl) rfl
theorem q1483 : (Jvm.Cond.selects "HandUnderTheChinModel" ({ cls := "HandUnderTheChinModel", name := "neverHeld", desc := "(I)I" } : Jvm.MethodName) ({ cls := "HandUnderTheChinModel", name := "neverHeld", desc := "(I)I" } : Jvm.MethodName)) ∈ lw_all := lw_g (lw_at lw_m6 205 rfl) rfl
theorem q1484 : (Jvm.Cond.code ({ cls := "HandUnderTheChinModel", name := "neverHeld", desc := "(I)I" } : Jvm.MethodName) prog_21_method_55_code (2 : Nat) (Option.some Jvm.ClassFile.FieldType.int)) ∈ lw_all := lw_g (lw_at lw_m6 206 rfl) rfl
theorem q1486 : (Jvm.Cond.instanceMethod ({ cls := "HandUnderTheChinModel", name := "mostSteps", desc := "(II)I" } : Jvm.MethodName)) ∈ lw_all := lw_g (lw_at lw_m6 208 rfl) rfl
theorem q1487 : (Jvm.Cond.selects "HandUnderTheChinModel" ({ cls := "HandUnderTheChinModel", name := "mostSteps", desc := "(II)I" } : Jvm.MethodName) ({ cls := "HandUnderTheChinModel", name := "mostSteps", desc := "(II)I" } : Jvm.MethodName)) ∈ lw_all := lw_g (lw_at lw_m6 209 rfl) rfl
theorem q1488 : (Jvm.Cond.code ({ cls := "HandUnderTheChinModel", name := "mostSteps", desc := "(II)I" } : Jvm.MethodName) prog_21_method_60_code (3 : Nat) (Option.some Jvm.ClassFile.FieldType.int)) ∈ lw_all := lw_g (lw_at lw_m6 210 rfl) rfl
theorem q1489 : (Jvm.Cond.methodLink "HandUnderTheChinModel" (268 : Nat) ({ cls := "HandUnderTheChinModel", name := "layMost", desc := "(I)V" } : Jvm.MethodName)) ∈ lw_all := lw_g (lw_at lw_m6 211 rfl) rfl
theorem q1490 : (Jvm.Cond.privateMethod ({ cls := "HandUnderTheChinModel", name := "layMost", desc := "(I)V" } : Jvm.MethodName)) ∈ lw_tbl := lw_at lw_m6 212 rfl
theorem q1491 : (Jvm.Cond.instanceMethod ({ cls := "HandUnderTheChinModel", name := "layMost", desc := "(I)V" } : Jvm.MethodName)) ∈ lw_all := lw_g (lw_at lw_m6 213 rfl) rfl
theorem q1492 : (Jvm.Cond.code ({ cls := "HandUnderTheChinModel", name := "layMost", desc := "(I)V" } : Jvm.MethodName) prog_21_method_59_code (4 : Nat) (Option.none : Option Jvm.ClassFile.FieldType)) ∈ lw_all := lw_g (lw_at lw_m6 214 rfl) rfl
theorem q1493 : (Jvm.Cond.methodLink "HandUnderTheChinModel" (259 : Nat) ({ cls := "HandUnderTheChinModel", name := "keepStage", desc := "(I)V" } : Jvm.MethodName)) ∈ lw_all := lw_g (lw_at lw_m6 215 rfl) rfl
theorem q1494 : (Jvm.Cond.privateMethod ({ cls := "HandUnderTheChinModel", name := "keepStage", desc := "(I)V" } : Jvm.MethodName)) ∈ lw_tbl := lw_at lw_m6 216 rfl
theorem q1495 : (Jvm.Cond.instanceMethod ({ cls := "HandUnderTheChinModel", name := "keepStage", desc := "(I)V" } : Jvm.MethodName)) ∈ lw_all := lw_g (lw_at lw_m6 217 rfl) rfl
theorem q1496 : (Jvm.Cond.code ({ cls := "HandUnderTheChinModel", name := "keepStage", desc := "(I)V" } : Jvm.MethodName) prog_21_method_56_code (3 : Nat) (Option.none : Option Jvm.ClassFile.FieldType)) ∈ lw_all := lw_g (lw_at lw_m6 218 rfl) rfl
theorem q1497 : (Jvm.Cond.methodLink "HandUnderTheChinModel" (262 : Nat) ({ cls := "HandUnderTheChinModel", name := "nextChoice", desc := "(I)I" } : Jvm.MethodName)) ∈ lw_all := lw_g (lw_at lw_m6 219 rfl) rfl
theorem q1498 : (Jvm.Cond.privateMethod ({ cls := "HandUnderTheChinModel", name := "nextChoice", desc := "(I)I" } : Jvm.MethodName)) ∈ lw_tbl := lw_at lw_m6 220 rfl
theorem q1499 : (Jvm.Cond.instanceMethod ({ cls := "HandUnderTheChinModel", name := "nextChoice", desc := "(I)I" } : Jvm.MethodName)) ∈ lw_all := lw_g (lw_at lw_m6 221 rfl) rfl
theorem q1500 : (Jvm.Cond.code ({ cls := "HandUnderTheChinModel", name := "nextChoice", desc := "(I)I" } : Jvm.MethodName) prog_21_method_58_code (3 : Nat) (Option.some Jvm.ClassFile.FieldType.int)) ∈ lw_all := lw_g (lw_at lw_m6 222 rfl) rfl
theorem q1501 : (Jvm.Cond.methodLink "HandUnderTheChinModel" (265 : Nat) ({ cls := "HandUnderTheChinModel", name := "toStage", desc := "(I)V" } : Jvm.MethodName)) ∈ lw_all := lw_g (lw_at lw_m6 223 rfl) rfl
theorem q1502 : (Jvm.Cond.privateMethod ({ cls := "HandUnderTheChinModel", name := "toStage", desc := "(I)V" } : Jvm.MethodName)) ∈ lw_tbl := lw_at lw_m6 224 rfl
theorem q1503 : (Jvm.Cond.instanceMethod ({ cls := "HandUnderTheChinModel", name := "toStage", desc := "(I)V" } : Jvm.MethodName)) ∈ lw_all := lw_g (lw_at lw_m6 225 rfl) rfl
theorem q1504 : (Jvm.Cond.code ({ cls := "HandUnderTheChinModel", name := "toStage", desc := "(I)V" } : Jvm.MethodName) prog_21_method_57_code (3 : Nat) (Option.none : Option Jvm.ClassFile.FieldType)) ∈ lw_all := lw_g (lw_at lw_m6 226 rfl) rfl
theorem q1506 : (Jvm.Cond.instanceMethod ({ cls := "HandUnderTheChinModel", name := "byTurns", desc := "(II)I" } : Jvm.MethodName)) ∈ lw_all := lw_g (lw_at lw_m6 228 rfl) rfl
theorem q1507 : (Jvm.Cond.selects "HandUnderTheChinModel" ({ cls := "HandUnderTheChinModel", name := "byTurns", desc := "(II)I" } : Jvm.MethodName) ({ cls := "HandUnderTheChinModel", name := "byTurns", desc := "(II)I" } : Jvm.MethodName)) ∈ lw_all := lw_g (lw_at lw_m6 229 rfl) rfl
theorem q1508 : (Jvm.Cond.code ({ cls := "HandUnderTheChinModel", name := "byTurns", desc := "(II)I" } : Jvm.MethodName) prog_21_method_62_code (5 : Nat) (Option.some Jvm.ClassFile.FieldType.int)) ∈ lw_all := lw_g (lw_at lw_m6 230 rfl) rfl
theorem q1509 : (Jvm.Cond.constantLong "HandUnderTheChinModel" (274 : Nat) (99 : Int64)) ∈ lw_all := lw_g (lw_at lw_m6 231 rfl) rfl
theorem q1510 : (Jvm.Cond.methodLink "HandUnderTheChinModel" (276 : Nat) ({ cls := "HandUnderTheChinModel", name := "nextTurn", desc := "()I" } : Jvm.MethodName)) ∈ lw_all := lw_g (lw_at lw_m6 232 rfl) rfl
theorem q1511 : (Jvm.Cond.privateMethod ({ cls := "HandUnderTheChinModel", name := "nextTurn", desc := "()I" } : Jvm.MethodName)) ∈ lw_tbl := lw_at lw_m6 233 rfl
theorem q1512 : (Jvm.Cond.instanceMethod ({ cls := "HandUnderTheChinModel", name := "nextTurn", desc := "()I" } : Jvm.MethodName)) ∈ lw_all := lw_g (lw_at lw_m6 234 rfl) rfl
theorem q1513 : (Jvm.Cond.code ({ cls := "HandUnderTheChinModel", name := "nextTurn", desc := "()I" } : Jvm.MethodName) prog_21_method_61_code (4 : Nat) (Option.some Jvm.ClassFile.FieldType.int)) ∈ lw_all := lw_g (lw_at lw_m6 235 rfl) rfl
theorem q1514 : (Jvm.Cond.methodLink "HandUnderTheChinModel" (279 : Nat) ({ cls := "HandUnderTheChinModel", name := "swimBits", desc := "()I" } : Jvm.MethodName)) ∈ lw_all := lw_g (lw_at lw_m6 236 rfl) rfl
theorem q1515 : (Jvm.Cond.privateMethod ({ cls := "HandUnderTheChinModel", name := "swimBits", desc := "()I" } : Jvm.MethodName)) ∈ lw_tbl := lw_at lw_m6 237 rfl
theorem q1516 : (Jvm.Cond.instanceMethod ({ cls := "HandUnderTheChinModel", name := "swimBits", desc := "()I" } : Jvm.MethodName)) ∈ lw_all := lw_g (lw_at lw_m6 238 rfl) rfl
theorem q1517 : (Jvm.Cond.code ({ cls := "HandUnderTheChinModel", name := "swimBits", desc := "()I" } : Jvm.MethodName) prog_21_method_23_code (3 : Nat) (Option.some Jvm.ClassFile.FieldType.int)) ∈ lw_all := lw_g (lw_at lw_m6 239 rfl) rfl
theorem q1518 : (Jvm.Cond.methodLink "HandUnderTheChinModel" (282 : Nat) ({ cls := "HandUnderTheChinModel", name := "onesOf", desc := "(I)I" } : Jvm.MethodName)) ∈ lw_all := lw_g (lw_at lw_m7 0 rfl) rfl
theorem q1519 : (Jvm.Cond.static ({ cls := "HandUnderTheChinModel", name := "onesOf", desc := "(I)I" } : Jvm.MethodName)) ∈ lw_all := lw_g (lw_at lw_m7 1 rfl) rfl
theorem q1520 : (Jvm.Cond.code ({ cls := "HandUnderTheChinModel", name := "onesOf", desc := "(I)I" } : Jvm.MethodName) prog_21_method_5_code (3 : Nat) (Option.some Jvm.ClassFile.FieldType.int)) ∈ lw_all := lw_g (lw_at lw_m7 2 rfl) rfl
theorem q1522 : (Jvm.Cond.instanceMethod ({ cls := "HandUnderTheChinModel", name := "allSwim", desc := "()I" } : Jvm.MethodName)) ∈ lw_all := lw_g (lw_at lw_m7 4 rfl) rfl
theorem q1523 : (Jvm.Cond.selects "HandUnderTheChinModel" ({ cls := "HandUnderTheChinModel", name := "allSwim", desc := "()I" } : Jvm.MethodName) ({ cls := "HandUnderTheChinModel", name := "allSwim", desc := "()I" } : Jvm.MethodName)) ∈ lw_all := lw_g (lw_at lw_m7 5 rfl) rfl
theorem q1524 : (Jvm.Cond.code ({ cls := "HandUnderTheChinModel", name := "allSwim", desc := "()I" } : Jvm.MethodName) prog_21_method_63_code (3 : Nat) (Option.some Jvm.ClassFile.FieldType.int)) ∈ lw_all := lw_g (lw_at lw_m7 6 rfl) rfl
theorem q1526 : (Jvm.Cond.instanceMethod ({ cls := "HandUnderTheChinModel", name := "beside", desc := "(I)I" } : Jvm.MethodName)) ∈ lw_all := lw_g (lw_at lw_m7 8 rfl) rfl
theorem q1527 : (Jvm.Cond.selects "HandUnderTheChinModel" ({ cls := "HandUnderTheChinModel", name := "beside", desc := "(I)I" } : Jvm.MethodName) ({ cls := "HandUnderTheChinModel", name := "beside", desc := "(I)I" } : Jvm.MethodName)) ∈ lw_all := lw_g (lw_at lw_m7 9 rfl) rfl
theorem q1528 : (Jvm.Cond.code ({ cls := "HandUnderTheChinModel", name := "beside", desc := "(I)I" } : Jvm.MethodName) prog_21_method_66_code (8 : Nat) (Option.some Jvm.ClassFile.FieldType.int)) ∈ lw_all := lw_g (lw_at lw_m7 10 rfl) rfl
theorem q1529 : (Jvm.Cond.constantLong "HandUnderTheChinModel" (291 : Nat) (-1 : Int64)) ∈ lw_all := lw_g (lw_at lw_m7 11 rfl) rfl
theorem q1530 : (Jvm.Cond.methodLink "HandUnderTheChinModel" (285 : Nat) ({ cls := "HandUnderTheChinModel", name := "ordersOf", desc := "(I)I" } : Jvm.MethodName)) ∈ lw_all := lw_g (lw_at lw_m7 12 rfl) rfl
theorem q1531 : (Jvm.Cond.static ({ cls := "HandUnderTheChinModel", name := "ordersOf", desc := "(I)I" } : Jvm.MethodName)) ∈ lw_all := lw_g (lw_at lw_m7 13 rfl) rfl
theorem q1532 : (Jvm.Cond.code ({ cls := "HandUnderTheChinModel", name := "ordersOf", desc := "(I)I" } : Jvm.MethodName) prog_21_method_64_code (3 : Nat) (Option.some Jvm.ClassFile.FieldType.int)) ∈ lw_all := lw_g (lw_at lw_m7 14 rfl) rfl
theorem q1533 : (Jvm.Cond.methodLink "HandUnderTheChinModel" (293 : Nat) ({ cls := "HandUnderTheChinModel", name := "layOrder", desc := "(II)V" } : Jvm.MethodName)) ∈ lw_all := lw_g (lw_at lw_m7 15 rfl) rfl
theorem q1534 : (Jvm.Cond.privateMethod ({ cls := "HandUnderTheChinModel", name := "layOrder", desc := "(II)V" } : Jvm.MethodName)) ∈ lw_tbl := lw_at lw_m7 16 rfl
theorem q1535 : (Jvm.Cond.instanceMethod ({ cls := "HandUnderTheChinModel", name := "layOrder", desc := "(II)V" } : Jvm.MethodName)) ∈ lw_all := lw_g (lw_at lw_m7 17 rfl) rfl
theorem q1536 : (Jvm.Cond.code ({ cls := "HandUnderTheChinModel", name := "layOrder", desc := "(II)V" } : Jvm.MethodName) prog_21_method_65_code (9 : Nat) (Option.none : Option Jvm.ClassFile.FieldType)) ∈ lw_all := lw_g (lw_at lw_m7 18 rfl) rfl
theorem q1537 : (Jvm.Cond.methodLink "HandUnderTheChinModel" (288 : Nat) ({ cls := "HandUnderTheChinModel", name := "hasBit", desc := "(II)Z" } : Jvm.MethodName)) ∈ lw_all := lw_g (lw_at lw_m7 19 rfl) rfl
theorem q1538 : (Jvm.Cond.static ({ cls := "HandUnderTheChinModel", name := "hasBit", desc := "(II)Z" } : Jvm.MethodName)) ∈ lw_all := lw_g (lw_at lw_m7 20 rfl) rfl
theorem q1539 : (Jvm.Cond.code ({ cls := "HandUnderTheChinModel", name := "hasBit", desc := "(II)Z" } : Jvm.MethodName) prog_21_method_4_code (2 : Nat) (Option.some Jvm.ClassFile.FieldType.boolean)) ∈ lw_all := lw_g (lw_at lw_m7 21 rfl) rfl
theorem q1541 : (Jvm.Cond.instanceMethod ({ cls := "HandUnderTheChinModel", name := "helps", desc := "()I" } : Jvm.MethodName)) ∈ lw_all := lw_g (lw_at lw_m7 23 rfl) rfl
theorem q1542 : (Jvm.Cond.selects "HandUnderTheChinModel" ({ cls := "HandUnderTheChinModel", name := "helps", desc := "()I" } : Jvm.MethodName) ({ cls := "HandUnderTheChinModel", name := "helps", desc := "()I" } : Jvm.MethodName)) ∈ lw_all := lw_g (lw_at lw_m7 24 rfl) rfl
theorem q1543 : (Jvm.Cond.code ({ cls := "HandUnderTheChinModel", name := "helps", desc := "()I" } : Jvm.MethodName) prog_21_method_67_code (6 : Nat) (Option.some Jvm.ClassFile.FieldType.int)) ∈ lw_all := lw_g (lw_at lw_m7 25 rfl) rfl
theorem q1545 : (Jvm.Cond.instanceMethod ({ cls := "HandUnderTheChinModel", name := "costs", desc := "(I)I" } : Jvm.MethodName)) ∈ lw_all := lw_g (lw_at lw_m7 27 rfl) rfl
theorem q1546 : (Jvm.Cond.selects "HandUnderTheChinModel" ({ cls := "HandUnderTheChinModel", name := "costs", desc := "(I)I" } : Jvm.MethodName) ({ cls := "HandUnderTheChinModel", name := "costs", desc := "(I)I" } : Jvm.MethodName)) ∈ lw_all := lw_g (lw_at lw_m7 28 rfl) rfl
theorem q1547 : (Jvm.Cond.code ({ cls := "HandUnderTheChinModel", name := "costs", desc := "(I)I" } : Jvm.MethodName) prog_21_method_68_code (4 : Nat) (Option.some Jvm.ClassFile.FieldType.int)) ∈ lw_all := lw_g (lw_at lw_m7 29 rfl) rfl
theorem q1549 : (Jvm.Cond.instanceMethod ({ cls := "HandUnderTheChinModel", name := "bands", desc := "(III)I" } : Jvm.MethodName)) ∈ lw_all := lw_g (lw_at lw_m7 31 rfl) rfl
theorem q1550 : (Jvm.Cond.selects "HandUnderTheChinModel" ({ cls := "HandUnderTheChinModel", name := "bands", desc := "(III)I" } : Jvm.MethodName) ({ cls := "HandUnderTheChinModel", name := "bands", desc := "(III)I" } : Jvm.MethodName)) ∈ lw_all := lw_g (lw_at lw_m7 32 rfl) rfl
theorem q1551 : (Jvm.Cond.code ({ cls := "HandUnderTheChinModel", name := "bands", desc := "(III)I" } : Jvm.MethodName) prog_21_method_69_code (6 : Nat) (Option.some Jvm.ClassFile.FieldType.int)) ∈ lw_all := lw_g (lw_at lw_m7 33 rfl) rfl
theorem q1553 : (Jvm.Cond.instanceMethod ({ cls := "HandUnderTheChinModel", name := "frights", desc := "(IIIII)J" } : Jvm.MethodName)) ∈ lw_all := lw_g (lw_at lw_m7 35 rfl) rfl
theorem q1554 : (Jvm.Cond.selects "HandUnderTheChinModel" ({ cls := "HandUnderTheChinModel", name := "frights", desc := "(IIIII)J" } : Jvm.MethodName) ({ cls := "HandUnderTheChinModel", name := "frights", desc := "(IIIII)J" } : Jvm.MethodName)) ∈ lw_all := lw_g (lw_at lw_m7 36 rfl) rfl
theorem q1555 : (Jvm.Cond.code ({ cls := "HandUnderTheChinModel", name := "frights", desc := "(IIIII)J" } : Jvm.MethodName) prog_21_method_72_code (17 : Nat) (Option.some Jvm.ClassFile.FieldType.long)) ∈ lw_all := lw_g (lw_at lw_m7 37 rfl) rfl
theorem q1556 : (Jvm.Cond.constantLong "HandUnderTheChinModel" (300 : Nat) (8 : Int64)) ∈ lw_all := lw_g (lw_at lw_m7 38 rfl) rfl
theorem q1557 : (Jvm.Cond.constantLong "HandUnderTheChinModel" (302 : Nat) (2 : Int64)) ∈ lw_all := lw_g (lw_at lw_m7 39 rfl) rfl
theorem q1558 : (Jvm.Cond.constantLong "HandUnderTheChinModel" (304 : Nat) (1000000001 : Int64)) ∈ lw_all := lw_g (lw_at lw_m7 40 rfl) rfl
theorem q1559 : (Jvm.Cond.methodLink "HandUnderTheChinModel" (306 : Nat) ({ cls := "HandUnderTheChinModel", name := "partOf", desc := "(JJI)J" } : Jvm.MethodName)) ∈ lw_all := lw_g (lw_at lw_m7 41 rfl) rfl
theorem q1560 : (Jvm.Cond.static ({ cls := "HandUnderTheChinModel", name := "partOf", desc := "(JJI)J" } : Jvm.MethodName)) ∈ lw_all := lw_g (lw_at lw_m7 42 rfl) rfl
theorem q1561 : (Jvm.Cond.code ({ cls := "HandUnderTheChinModel", name := "partOf", desc := "(JJI)J" } : Jvm.MethodName) prog_21_method_71_code (7 : Nat) (Option.some Jvm.ClassFile.FieldType.long)) ∈ lw_all := lw_g (lw_at lw_m7 43 rfl) rfl
theorem q1562 : (Jvm.Cond.methodLink "HandUnderTheChinModel" (296 : Nat) ({ cls := "HandUnderTheChinModel", name := "divisor", desc := "(JJ)J" } : Jvm.MethodName)) ∈ lw_all := lw_g (lw_at lw_m7 44 rfl) rfl
theorem q1563 : (Jvm.Cond.static ({ cls := "HandUnderTheChinModel", name := "divisor", desc := "(JJ)J" } : Jvm.MethodName)) ∈ lw_all := lw_g (lw_at lw_m7 45 rfl) rfl
theorem q1564 : (Jvm.Cond.code ({ cls := "HandUnderTheChinModel", name := "divisor", desc := "(JJ)J" } : Jvm.MethodName) prog_21_method_70_code (10 : Nat) (Option.some Jvm.ClassFile.FieldType.long)) ∈ lw_all := lw_g (lw_at lw_m7 46 rfl) rfl
theorem q1566 : (Jvm.Cond.instanceMethod ({ cls := "HandUnderTheChinModel", name := "was", desc := "(IIII)I" } : Jvm.MethodName)) ∈ lw_all := lw_g (lw_at lw_m7 48 rfl) rfl
theorem q1567 : (Jvm.Cond.selects "HandUnderTheChinModel" ({ cls := "HandUnderTheChinModel", name := "was", desc := "(IIII)I" } : Jvm.MethodName) ({ cls := "HandUnderTheChinModel", name := "was", desc := "(IIII)I" } : Jvm.MethodName)) ∈ lw_all := lw_g (lw_at lw_m7 49 rfl) rfl
theorem q1568 : (Jvm.Cond.code ({ cls := "HandUnderTheChinModel", name := "was", desc := "(IIII)I" } : Jvm.MethodName) prog_21_method_73_code (10 : Nat) (Option.some Jvm.ClassFile.FieldType.int)) ∈ lw_all := lw_g (lw_at lw_m7 50 rfl) rfl
theorem q1570 : (Jvm.Cond.instanceMethod ({ cls := "HandUnderTheChinModel", name := "dare", desc := "(II)I" } : Jvm.MethodName)) ∈ lw_all := lw_g (lw_at lw_m7 52 rfl) rfl
theorem q1571 : (Jvm.Cond.selects "HandUnderTheChinModel" ({ cls := "HandUnderTheChinModel", name := "dare", desc := "(II)I" } : Jvm.MethodName) ({ cls := "HandUnderTheChinModel", name := "dare", desc := "(II)I" } : Jvm.MethodName)) ∈ lw_all := lw_g (lw_at lw_m7 53 rfl) rfl
theorem q1572 : (Jvm.Cond.code ({ cls := "HandUnderTheChinModel", name := "dare", desc := "(II)I" } : Jvm.MethodName) prog_21_method_75_code (7 : Nat) (Option.some Jvm.ClassFile.FieldType.int)) ∈ lw_all := lw_g (lw_at lw_m7 54 rfl) rfl
theorem q1573 : (Jvm.Cond.methodLink "HandUnderTheChinModel" (310 : Nat) ({ cls := "HandUnderTheChinModel", name := "daresOf", desc := "(III)I" } : Jvm.MethodName)) ∈ lw_all := lw_g (lw_at lw_m7 55 rfl) rfl
theorem q1574 : (Jvm.Cond.privateMethod ({ cls := "HandUnderTheChinModel", name := "daresOf", desc := "(III)I" } : Jvm.MethodName)) ∈ lw_tbl := lw_at lw_m7 56 rfl
theorem q1575 : (Jvm.Cond.instanceMethod ({ cls := "HandUnderTheChinModel", name := "daresOf", desc := "(III)I" } : Jvm.MethodName)) ∈ lw_all := lw_g (lw_at lw_m7 57 rfl) rfl
theorem q1576 : (Jvm.Cond.code ({ cls := "HandUnderTheChinModel", name := "daresOf", desc := "(III)I" } : Jvm.MethodName) prog_21_method_74_code (5 : Nat) (Option.some Jvm.ClassFile.FieldType.int)) ∈ lw_all := lw_g (lw_at lw_m7 58 rfl) rfl
theorem q1578 : (Jvm.Cond.instanceMethod ({ cls := "HandUnderTheChinModel", name := "group", desc := "(II)I" } : Jvm.MethodName)) ∈ lw_all := lw_g (lw_at lw_m7 60 rfl) rfl
theorem q1579 : (Jvm.Cond.selects "HandUnderTheChinModel" ({ cls := "HandUnderTheChinModel", name := "group", desc := "(II)I" } : Jvm.MethodName) ({ cls := "HandUnderTheChinModel", name := "group", desc := "(II)I" } : Jvm.MethodName)) ∈ lw_all := lw_g (lw_at lw_m7 61 rfl) rfl
theorem q1580 : (Jvm.Cond.code ({ cls := "HandUnderTheChinModel", name := "group", desc := "(II)I" } : Jvm.MethodName) prog_21_method_76_code (7 : Nat) (Option.some Jvm.ClassFile.FieldType.int)) ∈ lw_all := lw_g (lw_at lw_m7 62 rfl) rfl
theorem q1581 : (Jvm.Cond.constantLong "HandUnderTheChinModel" (313 : Nat) (30 : Int64)) ∈ lw_all := lw_g (lw_at lw_m7 63 rfl) rfl
theorem q1583 : (Jvm.Cond.instanceMethod ({ cls := "HandUnderTheChinModel", name := "forget", desc := "()I" } : Jvm.MethodName)) ∈ lw_all := lw_g (lw_at lw_m7 65 rfl) rfl
theorem q1584 : (Jvm.Cond.selects "HandUnderTheChinModel" ({ cls := "HandUnderTheChinModel", name := "forget", desc := "()I" } : Jvm.MethodName) ({ cls := "HandUnderTheChinModel", name := "forget", desc := "()I" } : Jvm.MethodName)) ∈ lw_all := lw_g (lw_at lw_m7 66 rfl) rfl
theorem q1585 : (Jvm.Cond.code ({ cls := "HandUnderTheChinModel", name := "forget", desc := "()I" } : Jvm.MethodName) prog_21_method_77_code (3 : Nat) (Option.some Jvm.ClassFile.FieldType.int)) ∈ lw_all := lw_g (lw_at lw_m7 67 rfl) rfl
theorem q1587 : (Jvm.Cond.instanceMethod ({ cls := "HandUnderTheChinModel", name := "coldest", desc := "(II)I" } : Jvm.MethodName)) ∈ lw_all := lw_g (lw_at lw_m7 69 rfl) rfl
theorem q1588 : (Jvm.Cond.selects "HandUnderTheChinModel" ({ cls := "HandUnderTheChinModel", name := "coldest", desc := "(II)I" } : Jvm.MethodName) ({ cls := "HandUnderTheChinModel", name := "coldest", desc := "(II)I" } : Jvm.MethodName)) ∈ lw_all := lw_g (lw_at lw_m7 70 rfl) rfl
theorem q1589 : (Jvm.Cond.code ({ cls := "HandUnderTheChinModel", name := "coldest", desc := "(II)I" } : Jvm.MethodName) prog_21_method_78_code (5 : Nat) (Option.some Jvm.ClassFile.FieldType.int)) ∈ lw_all := lw_g (lw_at lw_m7 71 rfl) rfl
theorem q1590 : (Jvm.Cond.constantLong "HandUnderTheChinModel" (315 : Nat) (60 : Int64)) ∈ lw_all := lw_g (lw_at lw_m7 72 rfl) rfl
theorem q1592 : (Jvm.Cond.instanceMethod ({ cls := "HandUnderTheChinModel", name := "last", desc := "()I" } : Jvm.MethodName)) ∈ lw_all := lw_g (lw_at lw_m7 74 rfl) rfl
theorem q1593 : (Jvm.Cond.selects "HandUnderTheChinModel" ({ cls := "HandUnderTheChinModel", name := "last", desc := "()I" } : Jvm.MethodName) ({ cls := "HandUnderTheChinModel", name := "last", desc := "()I" } : Jvm.MethodName)) ∈ lw_all := lw_g (lw_at lw_m7 75 rfl) rfl
theorem q1594 : (Jvm.Cond.code ({ cls := "HandUnderTheChinModel", name := "last", desc := "()I" } : Jvm.MethodName) prog_21_method_79_code (4 : Nat) (Option.some Jvm.ClassFile.FieldType.int)) ∈ lw_all := lw_g (lw_at lw_m7 76 rfl) rfl
theorem q1596 : (Jvm.Cond.instanceMethod ({ cls := "HandUnderTheChinModel", name := "mean", desc := "(I)J" } : Jvm.MethodName)) ∈ lw_all := lw_g (lw_at lw_m7 78 rfl) rfl
theorem q1597 : (Jvm.Cond.selects "HandUnderTheChinModel" ({ cls := "HandUnderTheChinModel", name := "mean", desc := "(I)J" } : Jvm.MethodName) ({ cls := "HandUnderTheChinModel", name := "mean", desc := "(I)J" } : Jvm.MethodName)) ∈ lw_all := lw_g (lw_at lw_m7 79 rfl) rfl
theorem q1598 : (Jvm.Cond.code ({ cls := "HandUnderTheChinModel", name := "mean", desc := "(I)J" } : Jvm.MethodName) prog_21_method_80_code (2 : Nat) (Option.some Jvm.ClassFile.FieldType.long)) ∈ lw_all := lw_g (lw_at lw_m7 80 rfl) rfl
theorem q1600 : (Jvm.Cond.instanceMethod ({ cls := "HandUnderTheChinModel", name := "forged", desc := "(I)I" } : Jvm.MethodName)) ∈ lw_all := lw_g (lw_at lw_m7 82 rfl) rfl
theorem q1601 : (Jvm.Cond.selects "HandUnderTheChinModel" ({ cls := "HandUnderTheChinModel", name := "forged", desc := "(I)I" } : Jvm.MethodName) ({ cls := "HandUnderTheChinModel", name := "forged", desc := "(I)I" } : Jvm.MethodName)) ∈ lw_all := lw_g (lw_at lw_m7 83 rfl) rfl
theorem q1602 : (Jvm.Cond.code ({ cls := "HandUnderTheChinModel", name := "forged", desc := "(I)I" } : Jvm.MethodName) prog_21_method_81_code (10 : Nat) (Option.some Jvm.ClassFile.FieldType.int)) ∈ lw_all := lw_g (lw_at lw_m7 84 rfl) rfl
theorem q1604 : (Jvm.Cond.instanceMethod ({ cls := "HandUnderTheChinModel", name := "judge", desc := "(II)I" } : Jvm.MethodName)) ∈ lw_all := lw_g (lw_at lw_m7 86 rfl) rfl
theorem q1605 : (Jvm.Cond.selects "HandUnderTheChinModel" ({ cls := "HandUnderTheChinModel", name := "judge", desc := "(II)I" } : Jvm.MethodName) ({ cls := "HandUnderTheChinModel", name := "judge", desc := "(II)I" } : Jvm.MethodName)) ∈ lw_all := lw_g (lw_at lw_m7 87 rfl) rfl
theorem q1606 : (Jvm.Cond.code ({ cls := "HandUnderTheChinModel", name := "judge", desc := "(II)I" } : Jvm.MethodName) prog_21_method_83_code (8 : Nat) (Option.some Jvm.ClassFile.FieldType.int)) ∈ lw_all := lw_g (lw_at lw_m7 88 rfl) rfl
theorem q1607 : (Jvm.Cond.methodLink "HandUnderTheChinModel" (323 : Nat) ({ cls := "HandUnderTheChinModel", name := "skipped", desc := "(I)J" } : Jvm.MethodName)) ∈ lw_all := lw_g (lw_at lw_m7 89 rfl) rfl
theorem q1608 : (Jvm.Cond.privateMethod ({ cls := "HandUnderTheChinModel", name := "skipped", desc := "(I)J" } : Jvm.MethodName)) ∈ lw_tbl := lw_at lw_m7 90 rfl
theorem q1609 : (Jvm.Cond.instanceMethod ({ cls := "HandUnderTheChinModel", name := "skipped", desc := "(I)J" } : Jvm.MethodName)) ∈ lw_all := lw_g (lw_at lw_m7 91 rfl) rfl
theorem q1610 : (Jvm.Cond.code ({ cls := "HandUnderTheChinModel", name := "skipped", desc := "(I)J" } : Jvm.MethodName) prog_21_method_82_code (2 : Nat) (Option.some Jvm.ClassFile.FieldType.long)) ∈ lw_all := lw_g (lw_at lw_m7 92 rfl) rfl
theorem q1611 : (Jvm.Cond.constantLong "HandUnderTheChinModel" (317 : Nat) (-128 : Int64)) ∈ lw_all := lw_g (lw_at lw_m7 93 rfl) rfl
theorem q1612 : (Jvm.Cond.constantLong "HandUnderTheChinModel" (319 : Nat) (-32768 : Int64)) ∈ lw_all := lw_g (lw_at lw_m7 94 rfl) rfl
theorem q1613 : (Jvm.Cond.constantLong "HandUnderTheChinModel" (321 : Nat) (-2147483648 : Int64)) ∈ lw_all := lw_g (lw_at lw_m7 95 rfl) rfl
theorem q1615 : (Jvm.Cond.instanceMethod ({ cls := "HandUnderTheChinModel", name := "weeks", desc := "(III)I" } : Jvm.MethodName)) ∈ lw_all := lw_g (lw_at lw_m7 97 rfl) rfl
theorem q1616 : (Jvm.Cond.selects "HandUnderTheChinModel" ({ cls := "HandUnderTheChinModel", name := "weeks", desc := "(III)I" } : Jvm.MethodName) ({ cls := "HandUnderTheChinModel", name := "weeks", desc := "(III)I" } : Jvm.MethodName)) ∈ lw_all := lw_g (lw_at lw_m7 98 rfl) rfl
theorem q1617 : (Jvm.Cond.code ({ cls := "HandUnderTheChinModel", name := "weeks", desc := "(III)I" } : Jvm.MethodName) prog_21_method_85_code (11 : Nat) (Option.some Jvm.ClassFile.FieldType.int)) ∈ lw_all := lw_g (lw_at lw_m7 99 rfl) rfl
theorem q1618 : (Jvm.Cond.methodLink "HandUnderTheChinModel" (333 : Nat) ({ cls := "HandUnderTheChinModel", name := "drawBelow", desc := "(I)I" } : Jvm.MethodName)) ∈ lw_all := lw_g (lw_at lw_m7 100 rfl) rfl
theorem q1619 : (Jvm.Cond.privateMethod ({ cls := "HandUnderTheChinModel", name := "drawBelow", desc := "(I)I" } : Jvm.MethodName)) ∈ lw_tbl := lw_at lw_m7 101 rfl
theorem q1620 : (Jvm.Cond.instanceMethod ({ cls := "HandUnderTheChinModel", name := "drawBelow", desc := "(I)I" } : Jvm.MethodName)) ∈ lw_all := lw_g (lw_at lw_m7 102 rfl) rfl
theorem q1621 : (Jvm.Cond.code ({ cls := "HandUnderTheChinModel", name := "drawBelow", desc := "(I)I" } : Jvm.MethodName) prog_21_method_84_code (2 : Nat) (Option.some Jvm.ClassFile.FieldType.int)) ∈ lw_all := lw_g (lw_at lw_m7 103 rfl) rfl
theorem q1622 : (Jvm.Cond.constant "HandUnderTheChinModel" (330 : Nat) (1103515245 : Int32)) ∈ lw_all := lw_g (lw_at lw_m7 104 rfl) rfl
theorem q1623 : (Jvm.Cond.constant "HandUnderTheChinModel" (331 : Nat) (2147483647 : Int32)) ∈ lw_all := lw_g (lw_at lw_m7 105 rfl) rfl
theorem q1624 : (Jvm.Cond.constant "HandUnderTheChinModel" (332 : Nat) (65536 : Int32)) ∈ lw_all := lw_g (lw_at lw_m7 106 rfl) rfl
theorem q1626 : (Jvm.Cond.instanceMethod ({ cls := "HandUnderTheChinModel", name := "count", desc := "(I)I" } : Jvm.MethodName)) ∈ lw_all := lw_g (lw_at lw_m7 108 rfl) rfl
theorem q1627 : (Jvm.Cond.selects "HandUnderTheChinModel" ({ cls := "HandUnderTheChinModel", name := "count", desc := "(I)I" } : Jvm.MethodName) ({ cls := "HandUnderTheChinModel", name := "count", desc := "(I)I" } : Jvm.MethodName)) ∈ lw_all := lw_g (lw_at lw_m7 109 rfl) rfl
theorem q1628 : (Jvm.Cond.code ({ cls := "HandUnderTheChinModel", name := "count", desc := "(I)I" } : Jvm.MethodName) prog_21_method_86_code (4 : Nat) (Option.some Jvm.ClassFile.FieldType.int)) ∈ lw_all := lw_g (lw_at lw_m7 110 rfl) rfl
theorem q1630 : (Jvm.Cond.instanceMethod ({ cls := "HandUnderTheChinModel", name := "keep", desc := "(IIII)I" } : Jvm.MethodName)) ∈ lw_all := lw_g (lw_at lw_m7 112 rfl) rfl
theorem q1631 : (Jvm.Cond.selects "HandUnderTheChinModel" ({ cls := "HandUnderTheChinModel", name := "keep", desc := "(IIII)I" } : Jvm.MethodName) ({ cls := "HandUnderTheChinModel", name := "keep", desc := "(IIII)I" } : Jvm.MethodName)) ∈ lw_all := lw_g (lw_at lw_m7 113 rfl) rfl
theorem q1632 : (Jvm.Cond.code ({ cls := "HandUnderTheChinModel", name := "keep", desc := "(IIII)I" } : Jvm.MethodName) prog_21_method_87_code (5 : Nat) (Option.some Jvm.ClassFile.FieldType.int)) ∈ lw_all := lw_g (lw_at lw_m7 114 rfl) rfl
theorem q1634 : (Jvm.Cond.instanceMethod ({ cls := "HandUnderTheChinModel", name := "row", desc := "(III)I" } : Jvm.MethodName)) ∈ lw_all := lw_g (lw_at lw_m7 116 rfl) rfl
theorem q1635 : (Jvm.Cond.selects "HandUnderTheChinModel" ({ cls := "HandUnderTheChinModel", name := "row", desc := "(III)I" } : Jvm.MethodName) ({ cls := "HandUnderTheChinModel", name := "row", desc := "(III)I" } : Jvm.MethodName)) ∈ lw_all := lw_g (lw_at lw_m7 117 rfl) rfl
theorem q1636 : (Jvm.Cond.code ({ cls := "HandUnderTheChinModel", name := "row", desc := "(III)I" } : Jvm.MethodName) prog_21_method_90_code (5 : Nat) (Option.some Jvm.ClassFile.FieldType.int)) ∈ lw_all := lw_g (lw_at lw_m7 118 rfl) rfl
theorem q1638 : (Jvm.Cond.instanceMethod ({ cls := "HandUnderTheChinModel", name := "put", desc := "(III)I" } : Jvm.MethodName)) ∈ lw_all := lw_g (lw_at lw_m7 120 rfl) rfl
theorem q1639 : (Jvm.Cond.selects "HandUnderTheChinModel" ({ cls := "HandUnderTheChinModel", name := "put", desc := "(III)I" } : Jvm.MethodName) ({ cls := "HandUnderTheChinModel", name := "put", desc := "(III)I" } : Jvm.MethodName)) ∈ lw_all := lw_g (lw_at lw_m7 121 rfl) rfl
theorem q1640 : (Jvm.Cond.code ({ cls := "HandUnderTheChinModel", name := "put", desc := "(III)I" } : Jvm.MethodName) prog_21_method_91_code (5 : Nat) (Option.some Jvm.ClassFile.FieldType.int)) ∈ lw_all := lw_g (lw_at lw_m7 122 rfl) rfl
theorem q1641 : (Jvm.Cond.methodLink "HandUnderTheChinModel" (336 : Nat) ({ cls := "HandUnderTheChinModel", name := "narrowed", desc := "(II)J" } : Jvm.MethodName)) ∈ lw_all := lw_g (lw_at lw_m7 123 rfl) rfl
theorem q1642 : (Jvm.Cond.static ({ cls := "HandUnderTheChinModel", name := "narrowed", desc := "(II)J" } : Jvm.MethodName)) ∈ lw_all := lw_g (lw_at lw_m7 124 rfl) rfl
theorem q1643 : (Jvm.Cond.code ({ cls := "HandUnderTheChinModel", name := "narrowed", desc := "(II)J" } : Jvm.MethodName) prog_21_method_89_code (2 : Nat) (Option.some Jvm.ClassFile.FieldType.long)) ∈ lw_all := lw_g (lw_at lw_m7 125 rfl) rfl
theorem q1645 : (Jvm.Cond.instanceMethod ({ cls := "HandUnderTheChinModel", name := "element", desc := "(II)J" } : Jvm.MethodName)) ∈ lw_all := lw_g (lw_at lw_m7 127 rfl) rfl
theorem q1646 : (Jvm.Cond.selects "HandUnderTheChinModel" ({ cls := "HandUnderTheChinModel", name := "element", desc := "(II)J" } : Jvm.MethodName) ({ cls := "HandUnderTheChinModel", name := "element", desc := "(II)J" } : Jvm.MethodName)) ∈ lw_all := lw_g (lw_at lw_m7 128 rfl) rfl
theorem q1647 : (Jvm.Cond.code ({ cls := "HandUnderTheChinModel", name := "element", desc := "(II)J" } : Jvm.MethodName) prog_21_method_92_code (4 : Nat) (Option.some Jvm.ClassFile.FieldType.long)) ∈ lw_all := lw_g (lw_at lw_m7 129 rfl) rfl
theorem q1649 : (Jvm.Cond.instanceMethod ({ cls := "HandUnderTheChinModel", name := "copy", desc := "(IIIII)I" } : Jvm.MethodName)) ∈ lw_all := lw_g (lw_at lw_m7 131 rfl) rfl
theorem q1650 : (Jvm.Cond.selects "HandUnderTheChinModel" ({ cls := "HandUnderTheChinModel", name := "copy", desc := "(IIIII)I" } : Jvm.MethodName) ({ cls := "HandUnderTheChinModel", name := "copy", desc := "(IIIII)I" } : Jvm.MethodName)) ∈ lw_all := lw_g (lw_at lw_m7 132 rfl) rfl
theorem q1651 : (Jvm.Cond.code ({ cls := "HandUnderTheChinModel", name := "copy", desc := "(IIIII)I" } : Jvm.MethodName) prog_21_method_93_code (7 : Nat) (Option.some Jvm.ClassFile.FieldType.int)) ∈ lw_all := lw_g (lw_at lw_m7 133 rfl) rfl
theorem q1653 : (Jvm.Cond.instanceMethod ({ cls := "HandUnderTheChinModel", name := "cost", desc := "(I)I" } : Jvm.MethodName)) ∈ lw_all := lw_g (lw_at lw_m7 135 rfl) rfl
theorem q1654 : (Jvm.Cond.selects "HandUnderTheChinModel" ({ cls := "HandUnderTheChinModel", name := "cost", desc := "(I)I" } : Jvm.MethodName) ({ cls := "HandUnderTheChinModel", name := "cost", desc := "(I)I" } : Jvm.MethodName)) ∈ lw_all := lw_g (lw_at lw_m7 136 rfl) rfl
theorem q1655 : (Jvm.Cond.code ({ cls := "HandUnderTheChinModel", name := "cost", desc := "(I)I" } : Jvm.MethodName) prog_21_method_95_code (2 : Nat) (Option.some Jvm.ClassFile.FieldType.int)) ∈ lw_all := lw_g (lw_at lw_m7 137 rfl) rfl
theorem q1656 : (Jvm.Cond.methodLink "HandUnderTheChinModel" (340 : Nat) ({ cls := "HandUnderTheChinModel", name := "costOf", desc := "(II)I" } : Jvm.MethodName)) ∈ lw_all := lw_g (lw_at lw_m7 138 rfl) rfl
theorem q1657 : (Jvm.Cond.static ({ cls := "HandUnderTheChinModel", name := "costOf", desc := "(II)I" } : Jvm.MethodName)) ∈ lw_all := lw_g (lw_at lw_m7 139 rfl) rfl
theorem q1658 : (Jvm.Cond.code ({ cls := "HandUnderTheChinModel", name := "costOf", desc := "(II)I" } : Jvm.MethodName) prog_21_method_94_code (3 : Nat) (Option.some Jvm.ClassFile.FieldType.int)) ∈ lw_all := lw_g (lw_at lw_m7 140 rfl) rfl
theorem q1660 : (Jvm.Cond.instanceMethod ({ cls := "HandUnderTheChinModel", name := "toss", desc := "(I)I" } : Jvm.MethodName)) ∈ lw_all := lw_g (lw_at lw_m7 142 rfl) rfl
theorem q1661 : (Jvm.Cond.selects "HandUnderTheChinModel" ({ cls := "HandUnderTheChinModel", name := "toss", desc := "(I)I" } : Jvm.MethodName) ({ cls := "HandUnderTheChinModel", name := "toss", desc := "(I)I" } : Jvm.MethodName)) ∈ lw_all := lw_g (lw_at lw_m7 143 rfl) rfl
theorem q1662 : (Jvm.Cond.code ({ cls := "HandUnderTheChinModel", name := "toss", desc := "(I)I" } : Jvm.MethodName) prog_21_method_96_code (4 : Nat) (Option.some Jvm.ClassFile.FieldType.int)) ∈ lw_all := lw_g (lw_at lw_m7 144 rfl) rfl
theorem in_X4 : ∀ w ∈ wsX40, w ∈ lw_all := lw_in wsX40 [1199, 1201, 1203, 1205, 1207, 1209, 1211, 1213, 1215, 1217, 1219, 1221, 1223, 1225, 1227, 1229, 1231, 1233, 1235, 1237, 1239, 1241, 1243, 1245, 1247, 1249, 1251, 1253, 1255, 1257, 1259, 1261, 1263, 1265, 1267, 1269, 1271] (by decide +kernel) (by decide +kernel)
