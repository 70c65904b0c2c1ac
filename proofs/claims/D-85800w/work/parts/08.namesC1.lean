/-! MatrixPress -/
set_option maxRecDepth 100000
def RX1 : String := "MatrixPress"
def TX1 : u_T := fun k => match k with
  | 0 => ("MatrixPress", "symbols", "[LMatrixPress$Symbol;", true)
  | 1 => ("MatrixPress", "plane", "LMatrixPress$Plane;", true)
  | 2 => ("MatrixPress", "field", "LMatrixPress$Field;", true)
  | 3 => ("MatrixPress", "stream", "LMatrixPress$Stream;", true)
  | 4 => ("MatrixPress", "made", "LMatrixPress$Stream;", true)
  | 5 => ("MatrixPress", "encodations", "Ljava/util/ArrayList;", true)
  | 6 => ("MatrixPress", "chooser", "LMatrixPress$Chooser;", true)
  | 7 => ("MatrixPress", "tape", "[B", true)
  | 8 => ("MatrixPress", "read", "[B", true)
  | 9 => ("MatrixPress", "modules", "[Z", true)
  | 10 => ("MatrixPress", "words", "[I", true)
  | 11 => ("MatrixPress", "taped", "I", false)
  | 12 => ("MatrixPress", "readMany", "I", false)
  | 13 => ("MatrixPress", "changed", "I", false)
  | 14 => ("MatrixPress", "length", "I", false)
  | 15 => ("MatrixPress", "closed", "I", false)
  | 16 => ("MatrixPress", "steps", "Ljava/util/ArrayList;", true)
  | _ => ("MatrixPress", "present", "LMatrixPress$Symbol;", false)
def tyX1 : Nat → FieldType := fun k => match k with
  | 0 => .array (.object "MatrixPress$Symbol")
  | 1 => .object "MatrixPress$Plane"
  | 2 => .object "MatrixPress$Field"
  | 3 => .object "MatrixPress$Stream"
  | 4 => .object "MatrixPress$Stream"
  | 5 => .object "java/util/ArrayList"
  | 6 => .object "MatrixPress$Chooser"
  | 7 => .array .byte
  | 8 => .array .byte
  | 9 => .array .boolean
  | 10 => .array .int
  | 11 => .int
  | 12 => .int
  | 13 => .int
  | 14 => .int
  | 15 => .int
  | 16 => .object "java/util/ArrayList"
  | _ => .object "MatrixPress$Symbol"
abbrev wsX10 : List Cond := u_ws RX1 TX1 18
set_option maxRecDepth 100000 in
theorem nmX1 : ∀ a, a < 18 → ∀ b, b < 18 → a ≠ b → (TX1 a).2.1 ≠ (TX1 b).2.1 := by decide +kernel
set_option maxRecDepth 100000 in
theorem tyX1_ok : ∀ k, k < 18 → parseFieldDescriptor (TX1 k).2.2.1 = some (tyX1 k) := by decide +kernel
abbrev cX1_init : ByteArray := prog_1_method_1_code
def yX1_init : MethodName := ⟨RX1, "<init>", "()V"⟩
def dkwX1_init_10 : List UInt8 := [42, 180, 0, 44, 42, 180, 0, 36, 183, 0, 88, 181, 0, 91, 177]
abbrev dktX1_init_10 : List UInt8 := dkwX1_init_10 ++ []
def dkwX1_init_9 : List UInt8 := [182, 0, 73, 87, 42, 180, 0, 44, 187, 0, 83, 89, 183, 0, 85, 182, 0, 73, 87, 42, 187, 0, 86, 89]
abbrev dktX1_init_9 : List UInt8 := dkwX1_init_9 ++ dktX1_init_10
def dkwX1_init_8 : List UInt8 := [187, 0, 77, 89, 183, 0, 79, 182, 0, 73, 87, 42, 180, 0, 44, 187, 0, 80, 89, 183, 0, 82]
abbrev dktX1_init_8 : List UInt8 := dkwX1_init_8 ++ dktX1_init_9
def dkwX1_init_7 : List UInt8 := [180, 0, 44, 187, 0, 68, 89, 17, 0, 239, 4, 183, 0, 70, 182, 0, 73, 87, 42, 180, 0, 44]
abbrev dktX1_init_7 : List UInt8 := dkwX1_init_7 ++ dktX1_init_8
def dkwX1_init_6 : List UInt8 := [167, 255, 233, 42, 180, 0, 44, 187, 0, 68, 89, 17, 0, 230, 3, 183, 0, 70, 182, 0, 73, 87, 42]
abbrev dktX1_init_6 : List UInt8 := dkwX1_init_6 ++ dktX1_init_7
def dkwX1_init_5 : List UInt8 := [60, 27, 16, 30, 162, 0, 23, 42, 180, 0, 11, 27, 187, 0, 9, 89, 27, 183, 0, 67, 83, 132, 1, 1]
abbrev dktX1_init_5 : List UInt8 := dkwX1_init_5 ++ dktX1_init_6
def dkwX1_init_4 : List UInt8 := [181, 0, 55, 42, 17, 8, 130, 188, 10, 181, 0, 59, 42, 187, 0, 39, 89, 183, 0, 63, 181, 0, 64, 3]
abbrev dktX1_init_4 : List UInt8 := dkwX1_init_4 ++ dktX1_init_5
def dkwX1_init_3 : List UInt8 := [17, 12, 128, 188, 8, 181, 0, 48, 42, 17, 12, 128, 188, 8, 181, 0, 52, 42, 17, 81, 0, 188, 4]
abbrev dktX1_init_3 : List UInt8 := dkwX1_init_3 ++ dktX1_init_4
def dkwX1_init_2 : List UInt8 := [187, 0, 29, 89, 183, 0, 31, 181, 0, 36, 42, 187, 0, 39, 89, 8, 183, 0, 41, 181, 0, 44, 42]
abbrev dktX1_init_2 : List UInt8 := dkwX1_init_2 ++ dktX1_init_3
def dkwX1_init_1 : List UInt8 := [42, 187, 0, 22, 89, 183, 0, 24, 181, 0, 25, 42, 187, 0, 29, 89, 183, 0, 31, 181, 0, 32, 42]
abbrev dktX1_init_1 : List UInt8 := dkwX1_init_1 ++ dktX1_init_2
def dkwX1_init_0 : List UInt8 := [42, 183, 0, 1, 42, 16, 30, 189, 0, 9, 181, 0, 11, 42, 187, 0, 15, 89, 183, 0, 17, 181, 0, 18]
abbrev dktX1_init_0 : List UInt8 := dkwX1_init_0 ++ dktX1_init_1
theorem dksX1_init_0 : cX1_init.data.toList.drop 0 = dktX1_init_0 := by decide +kernel
theorem dksX1_init_1 : cX1_init.data.toList.drop 24 = dktX1_init_1 := dk_seg dksX1_init_0 24 rfl rfl
theorem dksX1_init_2 : cX1_init.data.toList.drop 47 = dktX1_init_2 := dk_seg dksX1_init_1 23 rfl rfl
theorem dksX1_init_3 : cX1_init.data.toList.drop 70 = dktX1_init_3 := dk_seg dksX1_init_2 23 rfl rfl
theorem dksX1_init_4 : cX1_init.data.toList.drop 93 = dktX1_init_4 := dk_seg dksX1_init_3 23 rfl rfl
theorem dksX1_init_5 : cX1_init.data.toList.drop 117 = dktX1_init_5 := dk_seg dksX1_init_4 24 rfl rfl
theorem dksX1_init_6 : cX1_init.data.toList.drop 141 = dktX1_init_6 := dk_seg dksX1_init_5 24 rfl rfl
theorem dksX1_init_7 : cX1_init.data.toList.drop 164 = dktX1_init_7 := dk_seg dksX1_init_6 23 rfl rfl
theorem dksX1_init_8 : cX1_init.data.toList.drop 186 = dktX1_init_8 := dk_seg dksX1_init_7 22 rfl rfl
theorem dksX1_init_9 : cX1_init.data.toList.drop 208 = dktX1_init_9 := dk_seg dksX1_init_8 22 rfl rfl
theorem dksX1_init_10 : cX1_init.data.toList.drop 232 = dktX1_init_10 := dk_seg dksX1_init_9 24 rfl rfl
theorem dX1_init_0 : decode cX1_init 0 = .ok (.aload_n 0, 1) := dk_42 (dk_at dksX1_init_0 0 rfl rfl)
theorem dX1_init_1 : decode cX1_init 1 = .ok (.invokespecial 1, 3) := dk_183 0 1 (dk_at dksX1_init_0 1 rfl rfl)
theorem dX1_init_4 : decode cX1_init 4 = .ok (.aload_n 0, 1) := dk_42 (dk_at dksX1_init_0 4 rfl rfl)
theorem dX1_init_5 : decode cX1_init 5 = .ok (.bipush 30, 2) := dk_16 30 (dk_at dksX1_init_0 5 rfl rfl)
theorem dX1_init_7 : decode cX1_init 7 = .ok (.anewarray 9, 3) := dk_189 0 9 (dk_at dksX1_init_0 7 rfl rfl)
theorem dX1_init_10 : decode cX1_init 10 = .ok (.putfield 11, 3) := dk_181 0 11 (dk_at dksX1_init_0 10 rfl rfl)
theorem dX1_init_13 : decode cX1_init 13 = .ok (.aload_n 0, 1) := dk_42 (dk_at dksX1_init_0 13 rfl rfl)
theorem dX1_init_14 : decode cX1_init 14 = .ok (.new 15, 3) := dk_187 0 15 (dk_at dksX1_init_0 14 rfl rfl)
theorem dX1_init_17 : decode cX1_init 17 = .ok (.dup, 1) := dk_89 (dk_at dksX1_init_0 17 rfl rfl)
theorem dX1_init_18 : decode cX1_init 18 = .ok (.invokespecial 17, 3) := dk_183 0 17 (dk_at dksX1_init_0 18 rfl rfl)
theorem dX1_init_21 : decode cX1_init 21 = .ok (.putfield 18, 3) := dk_181 0 18 (dk_at dksX1_init_0 21 rfl rfl)
theorem dX1_init_24 : decode cX1_init 24 = .ok (.aload_n 0, 1) := dk_42 (dk_at dksX1_init_1 0 rfl rfl)
theorem dX1_init_25 : decode cX1_init 25 = .ok (.new 22, 3) := dk_187 0 22 (dk_at dksX1_init_1 1 rfl rfl)
theorem dX1_init_28 : decode cX1_init 28 = .ok (.dup, 1) := dk_89 (dk_at dksX1_init_1 4 rfl rfl)
theorem dX1_init_29 : decode cX1_init 29 = .ok (.invokespecial 24, 3) := dk_183 0 24 (dk_at dksX1_init_1 5 rfl rfl)
theorem dX1_init_32 : decode cX1_init 32 = .ok (.putfield 25, 3) := dk_181 0 25 (dk_at dksX1_init_1 8 rfl rfl)
theorem dX1_init_35 : decode cX1_init 35 = .ok (.aload_n 0, 1) := dk_42 (dk_at dksX1_init_1 11 rfl rfl)
theorem dX1_init_36 : decode cX1_init 36 = .ok (.new 29, 3) := dk_187 0 29 (dk_at dksX1_init_1 12 rfl rfl)
theorem dX1_init_39 : decode cX1_init 39 = .ok (.dup, 1) := dk_89 (dk_at dksX1_init_1 15 rfl rfl)
theorem dX1_init_40 : decode cX1_init 40 = .ok (.invokespecial 31, 3) := dk_183 0 31 (dk_at dksX1_init_1 16 rfl rfl)
theorem dX1_init_43 : decode cX1_init 43 = .ok (.putfield 32, 3) := dk_181 0 32 (dk_at dksX1_init_1 19 rfl rfl)
theorem dX1_init_46 : decode cX1_init 46 = .ok (.aload_n 0, 1) := dk_42 (dk_at dksX1_init_1 22 rfl rfl)
theorem dX1_init_47 : decode cX1_init 47 = .ok (.new 29, 3) := dk_187 0 29 (dk_at dksX1_init_2 0 rfl rfl)
theorem dX1_init_50 : decode cX1_init 50 = .ok (.dup, 1) := dk_89 (dk_at dksX1_init_2 3 rfl rfl)
theorem dX1_init_51 : decode cX1_init 51 = .ok (.invokespecial 31, 3) := dk_183 0 31 (dk_at dksX1_init_2 4 rfl rfl)
theorem dX1_init_54 : decode cX1_init 54 = .ok (.putfield 36, 3) := dk_181 0 36 (dk_at dksX1_init_2 7 rfl rfl)
theorem dX1_init_57 : decode cX1_init 57 = .ok (.aload_n 0, 1) := dk_42 (dk_at dksX1_init_2 10 rfl rfl)
theorem dX1_init_58 : decode cX1_init 58 = .ok (.new 39, 3) := dk_187 0 39 (dk_at dksX1_init_2 11 rfl rfl)
theorem dX1_init_61 : decode cX1_init 61 = .ok (.dup, 1) := dk_89 (dk_at dksX1_init_2 14 rfl rfl)
theorem dX1_init_62 : decode cX1_init 62 = .ok (.iconst 5, 1) := dk_8 (dk_at dksX1_init_2 15 rfl rfl)
theorem dX1_init_63 : decode cX1_init 63 = .ok (.invokespecial 41, 3) := dk_183 0 41 (dk_at dksX1_init_2 16 rfl rfl)
theorem dX1_init_66 : decode cX1_init 66 = .ok (.putfield 44, 3) := dk_181 0 44 (dk_at dksX1_init_2 19 rfl rfl)
theorem dX1_init_69 : decode cX1_init 69 = .ok (.aload_n 0, 1) := dk_42 (dk_at dksX1_init_2 22 rfl rfl)
theorem dX1_init_70 : decode cX1_init 70 = .ok (.sipush 3200, 3) := dk_17 12 128 (dk_at dksX1_init_3 0 rfl rfl)
theorem dX1_init_73 : decode cX1_init 73 = .ok (.newarray .byte, 2) := dk_188_8 (dk_at dksX1_init_3 3 rfl rfl)
theorem dX1_init_75 : decode cX1_init 75 = .ok (.putfield 48, 3) := dk_181 0 48 (dk_at dksX1_init_3 5 rfl rfl)
theorem dX1_init_78 : decode cX1_init 78 = .ok (.aload_n 0, 1) := dk_42 (dk_at dksX1_init_3 8 rfl rfl)
theorem dX1_init_79 : decode cX1_init 79 = .ok (.sipush 3200, 3) := dk_17 12 128 (dk_at dksX1_init_3 9 rfl rfl)
theorem dX1_init_82 : decode cX1_init 82 = .ok (.newarray .byte, 2) := dk_188_8 (dk_at dksX1_init_3 12 rfl rfl)
theorem dX1_init_84 : decode cX1_init 84 = .ok (.putfield 52, 3) := dk_181 0 52 (dk_at dksX1_init_3 14 rfl rfl)
theorem dX1_init_87 : decode cX1_init 87 = .ok (.aload_n 0, 1) := dk_42 (dk_at dksX1_init_3 17 rfl rfl)
theorem dX1_init_88 : decode cX1_init 88 = .ok (.sipush 20736, 3) := dk_17 81 0 (dk_at dksX1_init_3 18 rfl rfl)
theorem dX1_init_91 : decode cX1_init 91 = .ok (.newarray .boolean, 2) := dk_188_4 (dk_at dksX1_init_3 21 rfl rfl)
theorem dX1_init_93 : decode cX1_init 93 = .ok (.putfield 55, 3) := dk_181 0 55 (dk_at dksX1_init_4 0 rfl rfl)
theorem dX1_init_96 : decode cX1_init 96 = .ok (.aload_n 0, 1) := dk_42 (dk_at dksX1_init_4 3 rfl rfl)
theorem dX1_init_97 : decode cX1_init 97 = .ok (.sipush 2178, 3) := dk_17 8 130 (dk_at dksX1_init_4 4 rfl rfl)
theorem dX1_init_100 : decode cX1_init 100 = .ok (.newarray .int, 2) := dk_188_10 (dk_at dksX1_init_4 7 rfl rfl)
theorem dX1_init_102 : decode cX1_init 102 = .ok (.putfield 59, 3) := dk_181 0 59 (dk_at dksX1_init_4 9 rfl rfl)
theorem dX1_init_105 : decode cX1_init 105 = .ok (.aload_n 0, 1) := dk_42 (dk_at dksX1_init_4 12 rfl rfl)
theorem dX1_init_106 : decode cX1_init 106 = .ok (.new 39, 3) := dk_187 0 39 (dk_at dksX1_init_4 13 rfl rfl)
theorem dX1_init_109 : decode cX1_init 109 = .ok (.dup, 1) := dk_89 (dk_at dksX1_init_4 16 rfl rfl)
theorem dX1_init_110 : decode cX1_init 110 = .ok (.invokespecial 63, 3) := dk_183 0 63 (dk_at dksX1_init_4 17 rfl rfl)
theorem dX1_init_113 : decode cX1_init 113 = .ok (.putfield 64, 3) := dk_181 0 64 (dk_at dksX1_init_4 20 rfl rfl)
theorem dX1_init_116 : decode cX1_init 116 = .ok (.iconst 0, 1) := dk_3 (dk_at dksX1_init_4 23 rfl rfl)
theorem dX1_init_117 : decode cX1_init 117 = .ok (.istore_n 1, 1) := dk_60 (dk_at dksX1_init_5 0 rfl rfl)
theorem dX1_init_118 : decode cX1_init 118 = .ok (.iload_n 1, 1) := dk_27 (dk_at dksX1_init_5 1 rfl rfl)
theorem dX1_init_119 : decode cX1_init 119 = .ok (.bipush 30, 2) := dk_16 30 (dk_at dksX1_init_5 2 rfl rfl)
theorem dX1_init_121 : decode cX1_init 121 = .ok (.if_icmp .ge 23, 3) := dk_162 0 23 (dk_at dksX1_init_5 4 rfl rfl)
theorem dX1_init_124 : decode cX1_init 124 = .ok (.aload_n 0, 1) := dk_42 (dk_at dksX1_init_5 7 rfl rfl)
theorem dX1_init_125 : decode cX1_init 125 = .ok (.getfield 11, 3) := dk_180 0 11 (dk_at dksX1_init_5 8 rfl rfl)
theorem dX1_init_128 : decode cX1_init 128 = .ok (.iload_n 1, 1) := dk_27 (dk_at dksX1_init_5 11 rfl rfl)
theorem dX1_init_129 : decode cX1_init 129 = .ok (.new 9, 3) := dk_187 0 9 (dk_at dksX1_init_5 12 rfl rfl)
theorem dX1_init_132 : decode cX1_init 132 = .ok (.dup, 1) := dk_89 (dk_at dksX1_init_5 15 rfl rfl)
theorem dX1_init_133 : decode cX1_init 133 = .ok (.iload_n 1, 1) := dk_27 (dk_at dksX1_init_5 16 rfl rfl)
theorem dX1_init_134 : decode cX1_init 134 = .ok (.invokespecial 67, 3) := dk_183 0 67 (dk_at dksX1_init_5 17 rfl rfl)
theorem dX1_init_137 : decode cX1_init 137 = .ok (.aastore, 1) := dk_83 (dk_at dksX1_init_5 20 rfl rfl)
theorem dX1_init_138 : decode cX1_init 138 = .ok (.iinc 1 1, 3) := dk_132 1 1 (dk_at dksX1_init_5 21 rfl rfl)
theorem dX1_init_141 : decode cX1_init 141 = .ok (.goto (-23), 3) := dk_167 255 233 (dk_at dksX1_init_6 0 rfl rfl)
theorem dX1_init_144 : decode cX1_init 144 = .ok (.aload_n 0, 1) := dk_42 (dk_at dksX1_init_6 3 rfl rfl)
theorem dX1_init_145 : decode cX1_init 145 = .ok (.getfield 44, 3) := dk_180 0 44 (dk_at dksX1_init_6 4 rfl rfl)
theorem dX1_init_148 : decode cX1_init 148 = .ok (.new 68, 3) := dk_187 0 68 (dk_at dksX1_init_6 7 rfl rfl)
theorem dX1_init_151 : decode cX1_init 151 = .ok (.dup, 1) := dk_89 (dk_at dksX1_init_6 10 rfl rfl)
theorem dX1_init_152 : decode cX1_init 152 = .ok (.sipush 230, 3) := dk_17 0 230 (dk_at dksX1_init_6 11 rfl rfl)
theorem dX1_init_155 : decode cX1_init 155 = .ok (.iconst 0, 1) := dk_3 (dk_at dksX1_init_6 14 rfl rfl)
theorem dX1_init_156 : decode cX1_init 156 = .ok (.invokespecial 70, 3) := dk_183 0 70 (dk_at dksX1_init_6 15 rfl rfl)
theorem dX1_init_159 : decode cX1_init 159 = .ok (.invokevirtual 73, 3) := dk_182 0 73 (dk_at dksX1_init_6 18 rfl rfl)
theorem dX1_init_162 : decode cX1_init 162 = .ok (.pop, 1) := dk_87 (dk_at dksX1_init_6 21 rfl rfl)
theorem dX1_init_163 : decode cX1_init 163 = .ok (.aload_n 0, 1) := dk_42 (dk_at dksX1_init_6 22 rfl rfl)
theorem dX1_init_164 : decode cX1_init 164 = .ok (.getfield 44, 3) := dk_180 0 44 (dk_at dksX1_init_7 0 rfl rfl)
theorem dX1_init_167 : decode cX1_init 167 = .ok (.new 68, 3) := dk_187 0 68 (dk_at dksX1_init_7 3 rfl rfl)
theorem dX1_init_170 : decode cX1_init 170 = .ok (.dup, 1) := dk_89 (dk_at dksX1_init_7 6 rfl rfl)
theorem dX1_init_171 : decode cX1_init 171 = .ok (.sipush 239, 3) := dk_17 0 239 (dk_at dksX1_init_7 7 rfl rfl)
theorem dX1_init_174 : decode cX1_init 174 = .ok (.iconst 1, 1) := dk_4 (dk_at dksX1_init_7 10 rfl rfl)
theorem dX1_init_175 : decode cX1_init 175 = .ok (.invokespecial 70, 3) := dk_183 0 70 (dk_at dksX1_init_7 11 rfl rfl)
theorem dX1_init_178 : decode cX1_init 178 = .ok (.invokevirtual 73, 3) := dk_182 0 73 (dk_at dksX1_init_7 14 rfl rfl)
theorem dX1_init_181 : decode cX1_init 181 = .ok (.pop, 1) := dk_87 (dk_at dksX1_init_7 17 rfl rfl)
theorem dX1_init_182 : decode cX1_init 182 = .ok (.aload_n 0, 1) := dk_42 (dk_at dksX1_init_7 18 rfl rfl)
theorem dX1_init_183 : decode cX1_init 183 = .ok (.getfield 44, 3) := dk_180 0 44 (dk_at dksX1_init_7 19 rfl rfl)
theorem dX1_init_186 : decode cX1_init 186 = .ok (.new 77, 3) := dk_187 0 77 (dk_at dksX1_init_8 0 rfl rfl)
theorem dX1_init_189 : decode cX1_init 189 = .ok (.dup, 1) := dk_89 (dk_at dksX1_init_8 3 rfl rfl)
theorem dX1_init_190 : decode cX1_init 190 = .ok (.invokespecial 79, 3) := dk_183 0 79 (dk_at dksX1_init_8 4 rfl rfl)
theorem dX1_init_193 : decode cX1_init 193 = .ok (.invokevirtual 73, 3) := dk_182 0 73 (dk_at dksX1_init_8 7 rfl rfl)
theorem dX1_init_196 : decode cX1_init 196 = .ok (.pop, 1) := dk_87 (dk_at dksX1_init_8 10 rfl rfl)
theorem dX1_init_197 : decode cX1_init 197 = .ok (.aload_n 0, 1) := dk_42 (dk_at dksX1_init_8 11 rfl rfl)
theorem dX1_init_198 : decode cX1_init 198 = .ok (.getfield 44, 3) := dk_180 0 44 (dk_at dksX1_init_8 12 rfl rfl)
theorem dX1_init_201 : decode cX1_init 201 = .ok (.new 80, 3) := dk_187 0 80 (dk_at dksX1_init_8 15 rfl rfl)
theorem dX1_init_204 : decode cX1_init 204 = .ok (.dup, 1) := dk_89 (dk_at dksX1_init_8 18 rfl rfl)
theorem dX1_init_205 : decode cX1_init 205 = .ok (.invokespecial 82, 3) := dk_183 0 82 (dk_at dksX1_init_8 19 rfl rfl)
theorem dX1_init_208 : decode cX1_init 208 = .ok (.invokevirtual 73, 3) := dk_182 0 73 (dk_at dksX1_init_9 0 rfl rfl)
theorem dX1_init_211 : decode cX1_init 211 = .ok (.pop, 1) := dk_87 (dk_at dksX1_init_9 3 rfl rfl)
theorem dX1_init_212 : decode cX1_init 212 = .ok (.aload_n 0, 1) := dk_42 (dk_at dksX1_init_9 4 rfl rfl)
theorem dX1_init_213 : decode cX1_init 213 = .ok (.getfield 44, 3) := dk_180 0 44 (dk_at dksX1_init_9 5 rfl rfl)
theorem dX1_init_216 : decode cX1_init 216 = .ok (.new 83, 3) := dk_187 0 83 (dk_at dksX1_init_9 8 rfl rfl)
theorem dX1_init_219 : decode cX1_init 219 = .ok (.dup, 1) := dk_89 (dk_at dksX1_init_9 11 rfl rfl)
theorem dX1_init_220 : decode cX1_init 220 = .ok (.invokespecial 85, 3) := dk_183 0 85 (dk_at dksX1_init_9 12 rfl rfl)
theorem dX1_init_223 : decode cX1_init 223 = .ok (.invokevirtual 73, 3) := dk_182 0 73 (dk_at dksX1_init_9 15 rfl rfl)
theorem dX1_init_226 : decode cX1_init 226 = .ok (.pop, 1) := dk_87 (dk_at dksX1_init_9 18 rfl rfl)
theorem dX1_init_227 : decode cX1_init 227 = .ok (.aload_n 0, 1) := dk_42 (dk_at dksX1_init_9 19 rfl rfl)
theorem dX1_init_228 : decode cX1_init 228 = .ok (.new 86, 3) := dk_187 0 86 (dk_at dksX1_init_9 20 rfl rfl)
theorem dX1_init_231 : decode cX1_init 231 = .ok (.dup, 1) := dk_89 (dk_at dksX1_init_9 23 rfl rfl)
theorem dX1_init_232 : decode cX1_init 232 = .ok (.aload_n 0, 1) := dk_42 (dk_at dksX1_init_10 0 rfl rfl)
theorem dX1_init_233 : decode cX1_init 233 = .ok (.getfield 44, 3) := dk_180 0 44 (dk_at dksX1_init_10 1 rfl rfl)
theorem dX1_init_236 : decode cX1_init 236 = .ok (.aload_n 0, 1) := dk_42 (dk_at dksX1_init_10 4 rfl rfl)
theorem dX1_init_237 : decode cX1_init 237 = .ok (.getfield 36, 3) := dk_180 0 36 (dk_at dksX1_init_10 5 rfl rfl)
theorem dX1_init_240 : decode cX1_init 240 = .ok (.invokespecial 88, 3) := dk_183 0 88 (dk_at dksX1_init_10 8 rfl rfl)
theorem dX1_init_243 : decode cX1_init 243 = .ok (.putfield 91, 3) := dk_181 0 91 (dk_at dksX1_init_10 11 rfl rfl)
theorem dX1_init_246 : decode cX1_init 246 = .ok (.return_, 1) := dk_177 (dk_at dksX1_init_10 14 rfl rfl)
abbrev cX1_feed : ByteArray := prog_1_method_2_code
def yX1_feed : MethodName := ⟨RX1, "feed", "(IJJJ)I"⟩
def dkwX1_feed_4 : List UInt8 := [180, 0, 95, 172]
abbrev dktX1_feed_4 : List UInt8 := dkwX1_feed_4 ++ []
def dkwX1_feed_3 : List UInt8 := [167, 0, 5, 22, 6, 16, 8, 21, 8, 16, 8, 112, 104, 123, 136, 145, 84, 132, 8, 1, 167, 255, 195, 42]
abbrev dktX1_feed_3 : List UInt8 := dkwX1_feed_3 ++ dktX1_feed_4
def dkwX1_feed_2 : List UInt8 := [181, 0, 95, 21, 8, 16, 8, 162, 0, 7, 32, 167, 0, 17, 21, 8, 16, 16, 162, 0, 8, 22, 4]
abbrev dktX1_feed_2 : List UInt8 := dkwX1_feed_2 ++ dktX1_feed_3
def dkwX1_feed_1 : List UInt8 := [172, 3, 54, 8, 21, 8, 27, 162, 0, 61, 42, 180, 0, 48, 42, 89, 180, 0, 95, 90, 4, 96]
abbrev dktX1_feed_1 : List UInt8 := dkwX1_feed_1 ++ dktX1_feed_2
def dkwX1_feed_0 : List UInt8 := [27, 4, 161, 0, 21, 27, 16, 24, 163, 0, 15, 42, 180, 0, 95, 27, 96, 17, 12, 128, 164, 0, 5, 2]
abbrev dktX1_feed_0 : List UInt8 := dkwX1_feed_0 ++ dktX1_feed_1
theorem dksX1_feed_0 : cX1_feed.data.toList.drop 0 = dktX1_feed_0 := by decide +kernel
theorem dksX1_feed_1 : cX1_feed.data.toList.drop 24 = dktX1_feed_1 := dk_seg dksX1_feed_0 24 rfl rfl
theorem dksX1_feed_2 : cX1_feed.data.toList.drop 46 = dktX1_feed_2 := dk_seg dksX1_feed_1 22 rfl rfl
theorem dksX1_feed_3 : cX1_feed.data.toList.drop 69 = dktX1_feed_3 := dk_seg dksX1_feed_2 23 rfl rfl
theorem dksX1_feed_4 : cX1_feed.data.toList.drop 93 = dktX1_feed_4 := dk_seg dksX1_feed_3 24 rfl rfl
theorem dX1_feed_0 : decode cX1_feed 0 = .ok (.iload_n 1, 1) := dk_27 (dk_at dksX1_feed_0 0 rfl rfl)
theorem dX1_feed_1 : decode cX1_feed 1 = .ok (.iconst 1, 1) := dk_4 (dk_at dksX1_feed_0 1 rfl rfl)
theorem dX1_feed_2 : decode cX1_feed 2 = .ok (.if_icmp .lt 21, 3) := dk_161 0 21 (dk_at dksX1_feed_0 2 rfl rfl)
theorem dX1_feed_5 : decode cX1_feed 5 = .ok (.iload_n 1, 1) := dk_27 (dk_at dksX1_feed_0 5 rfl rfl)
theorem dX1_feed_6 : decode cX1_feed 6 = .ok (.bipush 24, 2) := dk_16 24 (dk_at dksX1_feed_0 6 rfl rfl)
theorem dX1_feed_8 : decode cX1_feed 8 = .ok (.if_icmp .gt 15, 3) := dk_163 0 15 (dk_at dksX1_feed_0 8 rfl rfl)
theorem dX1_feed_11 : decode cX1_feed 11 = .ok (.aload_n 0, 1) := dk_42 (dk_at dksX1_feed_0 11 rfl rfl)
theorem dX1_feed_12 : decode cX1_feed 12 = .ok (.getfield 95, 3) := dk_180 0 95 (dk_at dksX1_feed_0 12 rfl rfl)
theorem dX1_feed_15 : decode cX1_feed 15 = .ok (.iload_n 1, 1) := dk_27 (dk_at dksX1_feed_0 15 rfl rfl)
theorem dX1_feed_16 : decode cX1_feed 16 = .ok (.iadd, 1) := dk_96 (dk_at dksX1_feed_0 16 rfl rfl)
theorem dX1_feed_17 : decode cX1_feed 17 = .ok (.sipush 3200, 3) := dk_17 12 128 (dk_at dksX1_feed_0 17 rfl rfl)
theorem dX1_feed_20 : decode cX1_feed 20 = .ok (.if_icmp .le 5, 3) := dk_164 0 5 (dk_at dksX1_feed_0 20 rfl rfl)
theorem dX1_feed_23 : decode cX1_feed 23 = .ok (.iconst (-1), 1) := dk_2 (dk_at dksX1_feed_0 23 rfl rfl)
theorem dX1_feed_24 : decode cX1_feed 24 = .ok (.ireturn, 1) := dk_172 (dk_at dksX1_feed_1 0 rfl rfl)
theorem dX1_feed_25 : decode cX1_feed 25 = .ok (.iconst 0, 1) := dk_3 (dk_at dksX1_feed_1 1 rfl rfl)
theorem dX1_feed_26 : decode cX1_feed 26 = .ok (.istore 8, 2) := dk_54 8 (dk_at dksX1_feed_1 2 rfl rfl)
theorem dX1_feed_28 : decode cX1_feed 28 = .ok (.iload 8, 2) := dk_21 8 (dk_at dksX1_feed_1 4 rfl rfl)
theorem dX1_feed_30 : decode cX1_feed 30 = .ok (.iload_n 1, 1) := dk_27 (dk_at dksX1_feed_1 6 rfl rfl)
theorem dX1_feed_31 : decode cX1_feed 31 = .ok (.if_icmp .ge 61, 3) := dk_162 0 61 (dk_at dksX1_feed_1 7 rfl rfl)
theorem dX1_feed_34 : decode cX1_feed 34 = .ok (.aload_n 0, 1) := dk_42 (dk_at dksX1_feed_1 10 rfl rfl)
theorem dX1_feed_35 : decode cX1_feed 35 = .ok (.getfield 48, 3) := dk_180 0 48 (dk_at dksX1_feed_1 11 rfl rfl)
theorem dX1_feed_38 : decode cX1_feed 38 = .ok (.aload_n 0, 1) := dk_42 (dk_at dksX1_feed_1 14 rfl rfl)
theorem dX1_feed_39 : decode cX1_feed 39 = .ok (.dup, 1) := dk_89 (dk_at dksX1_feed_1 15 rfl rfl)
theorem dX1_feed_40 : decode cX1_feed 40 = .ok (.getfield 95, 3) := dk_180 0 95 (dk_at dksX1_feed_1 16 rfl rfl)
theorem dX1_feed_43 : decode cX1_feed 43 = .ok (.dup_x1, 1) := dk_90 (dk_at dksX1_feed_1 19 rfl rfl)
theorem dX1_feed_44 : decode cX1_feed 44 = .ok (.iconst 1, 1) := dk_4 (dk_at dksX1_feed_1 20 rfl rfl)
theorem dX1_feed_45 : decode cX1_feed 45 = .ok (.iadd, 1) := dk_96 (dk_at dksX1_feed_1 21 rfl rfl)
theorem dX1_feed_46 : decode cX1_feed 46 = .ok (.putfield 95, 3) := dk_181 0 95 (dk_at dksX1_feed_2 0 rfl rfl)
theorem dX1_feed_49 : decode cX1_feed 49 = .ok (.iload 8, 2) := dk_21 8 (dk_at dksX1_feed_2 3 rfl rfl)
theorem dX1_feed_51 : decode cX1_feed 51 = .ok (.bipush 8, 2) := dk_16 8 (dk_at dksX1_feed_2 5 rfl rfl)
theorem dX1_feed_53 : decode cX1_feed 53 = .ok (.if_icmp .ge 7, 3) := dk_162 0 7 (dk_at dksX1_feed_2 7 rfl rfl)
theorem dX1_feed_56 : decode cX1_feed 56 = .ok (.lload_n 2, 1) := dk_32 (dk_at dksX1_feed_2 10 rfl rfl)
theorem dX1_feed_57 : decode cX1_feed 57 = .ok (.goto 17, 3) := dk_167 0 17 (dk_at dksX1_feed_2 11 rfl rfl)
theorem dX1_feed_60 : decode cX1_feed 60 = .ok (.iload 8, 2) := dk_21 8 (dk_at dksX1_feed_2 14 rfl rfl)
theorem dX1_feed_62 : decode cX1_feed 62 = .ok (.bipush 16, 2) := dk_16 16 (dk_at dksX1_feed_2 16 rfl rfl)
theorem dX1_feed_64 : decode cX1_feed 64 = .ok (.if_icmp .ge 8, 3) := dk_162 0 8 (dk_at dksX1_feed_2 18 rfl rfl)
theorem dX1_feed_67 : decode cX1_feed 67 = .ok (.lload 4, 2) := dk_22 4 (dk_at dksX1_feed_2 21 rfl rfl)
theorem dX1_feed_69 : decode cX1_feed 69 = .ok (.goto 5, 3) := dk_167 0 5 (dk_at dksX1_feed_3 0 rfl rfl)
theorem dX1_feed_72 : decode cX1_feed 72 = .ok (.lload 6, 2) := dk_22 6 (dk_at dksX1_feed_3 3 rfl rfl)
theorem dX1_feed_74 : decode cX1_feed 74 = .ok (.bipush 8, 2) := dk_16 8 (dk_at dksX1_feed_3 5 rfl rfl)
theorem dX1_feed_76 : decode cX1_feed 76 = .ok (.iload 8, 2) := dk_21 8 (dk_at dksX1_feed_3 7 rfl rfl)
theorem dX1_feed_78 : decode cX1_feed 78 = .ok (.bipush 8, 2) := dk_16 8 (dk_at dksX1_feed_3 9 rfl rfl)
theorem dX1_feed_80 : decode cX1_feed 80 = .ok (.irem, 1) := dk_112 (dk_at dksX1_feed_3 11 rfl rfl)
theorem dX1_feed_81 : decode cX1_feed 81 = .ok (.imul, 1) := dk_104 (dk_at dksX1_feed_3 12 rfl rfl)
theorem dX1_feed_82 : decode cX1_feed 82 = .ok (.lshr, 1) := dk_123 (dk_at dksX1_feed_3 13 rfl rfl)
theorem dX1_feed_83 : decode cX1_feed 83 = .ok (.l2i, 1) := dk_136 (dk_at dksX1_feed_3 14 rfl rfl)
theorem dX1_feed_84 : decode cX1_feed 84 = .ok (.i2b, 1) := dk_145 (dk_at dksX1_feed_3 15 rfl rfl)
theorem dX1_feed_85 : decode cX1_feed 85 = .ok (.bastore, 1) := dk_84 (dk_at dksX1_feed_3 16 rfl rfl)
theorem dX1_feed_86 : decode cX1_feed 86 = .ok (.iinc 8 1, 3) := dk_132 8 1 (dk_at dksX1_feed_3 17 rfl rfl)
theorem dX1_feed_89 : decode cX1_feed 89 = .ok (.goto (-61), 3) := dk_167 255 195 (dk_at dksX1_feed_3 20 rfl rfl)
theorem dX1_feed_92 : decode cX1_feed 92 = .ok (.aload_n 0, 1) := dk_42 (dk_at dksX1_feed_3 23 rfl rfl)
theorem dX1_feed_93 : decode cX1_feed 93 = .ok (.getfield 95, 3) := dk_180 0 95 (dk_at dksX1_feed_4 0 rfl rfl)
theorem dX1_feed_96 : decode cX1_feed 96 = .ok (.ireturn, 1) := dk_172 (dk_at dksX1_feed_4 3 rfl rfl)
abbrev cX1_encode : ByteArray := prog_1_method_4_code
def yX1_encode : MethodName := ⟨RX1, "encode", "(I)I"⟩
def dkwX1_encode_16 : List UInt8 := [182, 0, 166, 45, 180, 0, 169, 172]
abbrev dktX1_encode_16 : List UInt8 := dkwX1_encode_16 ++ []
def dkwX1_encode_15 : List UInt8 := [182, 0, 154, 42, 45, 21, 4, 21, 5, 182, 0, 158, 132, 4, 1, 167, 255, 213, 42, 45, 181, 0, 162, 42]
abbrev dktX1_encode_15 : List UInt8 := dkwX1_encode_15 ++ dktX1_encode_16
def dkwX1_encode_14 : List UInt8 := [162, 0, 40, 42, 45, 21, 4, 182, 0, 147, 54, 5, 42, 180, 0, 25, 21, 5, 45, 182, 0, 151]
abbrev dktX1_encode_14 : List UInt8 := dkwX1_encode_14 ++ dktX1_encode_15
def dkwX1_encode_13 : List UInt8 := [180, 0, 141, 21, 4, 46, 79, 132, 4, 1, 167, 255, 227, 3, 54, 4, 21, 4, 45, 180, 0, 144]
abbrev dktX1_encode_13 : List UInt8 := dkwX1_encode_13 ++ dktX1_encode_14
def dkwX1_encode_12 : List UInt8 := [3, 54, 4, 21, 4, 45, 180, 0, 107, 162, 0, 26, 42, 180, 0, 59, 21, 4, 42, 180, 0, 36]
abbrev dktX1_encode_12 : List UInt8 := dkwX1_encode_12 ++ dktX1_encode_13
def dkwX1_encode_11 : List UInt8 := [180, 0, 91, 180, 0, 131, 21, 4, 182, 0, 135, 192, 0, 139, 182, 0, 73, 87, 132, 4, 1, 167, 255, 215]
abbrev dktX1_encode_11 : List UInt8 := dkwX1_encode_11 ++ dktX1_encode_12
def dkwX1_encode_10 : List UInt8 := [3, 54, 4, 21, 4, 42, 180, 0, 91, 180, 0, 131, 182, 0, 132, 162, 0, 32, 42, 180, 0, 64, 42]
abbrev dktX1_encode_10 : List UInt8 := dkwX1_encode_10 ++ dktX1_encode_11
def dkwX1_encode_9 : List UInt8 := [180, 0, 91, 180, 0, 121, 153, 0, 7, 4, 167, 0, 4, 3, 181, 0, 125, 42, 180, 0, 64, 182, 0, 128]
abbrev dktX1_encode_9 : List UInt8 := dkwX1_encode_9 ++ dktX1_encode_10
def dkwX1_encode_8 : List UInt8 := [182, 0, 110, 87, 42, 180, 0, 91, 182, 0, 114, 42, 42, 180, 0, 91, 180, 0, 117, 181, 0, 120, 42, 42]
abbrev dktX1_encode_8 : List UInt8 := dkwX1_encode_8 ++ dktX1_encode_9
def dkwX1_encode_7 : List UInt8 := [21, 4, 50, 78, 132, 4, 1, 167, 255, 133, 45, 199, 0, 5, 2, 172, 42, 180, 0, 91, 45, 180, 0, 107]
abbrev dktX1_encode_7 : List UInt8 := dkwX1_encode_7 ++ dktX1_encode_8
def dkwX1_encode_6 : List UInt8 := [180, 0, 91, 42, 180, 0, 11, 21, 4, 50, 180, 0, 107, 182, 0, 110, 153, 0, 11, 42, 180, 0, 11]
abbrev dktX1_encode_6 : List UInt8 := dkwX1_encode_6 ++ dktX1_encode_7
def dkwX1_encode_5 : List UInt8 := [45, 198, 0, 20, 42, 180, 0, 11, 21, 4, 50, 180, 0, 107, 45, 180, 0, 107, 162, 0, 31, 42]
abbrev dktX1_encode_5 : List UInt8 := dkwX1_encode_5 ++ dktX1_encode_6
def dkwX1_encode_4 : List UInt8 := [27, 154, 0, 7, 4, 167, 0, 4, 3, 160, 0, 7, 4, 167, 0, 4, 3, 54, 5, 21, 5, 153, 0, 52]
abbrev dktX1_encode_4 : List UInt8 := dkwX1_encode_4 ++ dktX1_encode_5
def dkwX1_encode_3 : List UInt8 := [167, 0, 41, 3, 167, 0, 37, 27, 5, 159, 0, 27, 21, 4, 16, 24, 162, 0, 7, 4, 167, 0, 4, 3]
abbrev dktX1_encode_3 : List UInt8 := dkwX1_encode_3 ++ dktX1_encode_4
def dkwX1_encode_2 : List UInt8 := [21, 4, 16, 30, 162, 0, 122, 27, 16, 100, 161, 0, 20, 21, 4, 27, 16, 100, 100, 160, 0, 7, 4]
abbrev dktX1_encode_2 : List UInt8 := dkwX1_encode_2 ++ dktX1_encode_3
def dkwX1_encode_1 : List UInt8 := [161, 0, 6, 16, 254, 172, 42, 180, 0, 91, 42, 180, 0, 48, 28, 182, 0, 103, 1, 78, 3, 54, 4]
abbrev dktX1_encode_1 : List UInt8 := dkwX1_encode_1 ++ dktX1_encode_2
def dkwX1_encode_0 : List UInt8 := [42, 182, 0, 99, 61, 27, 155, 0, 21, 27, 5, 164, 0, 9, 27, 16, 100, 161, 0, 10, 27, 17, 0, 130]
abbrev dktX1_encode_0 : List UInt8 := dkwX1_encode_0 ++ dktX1_encode_1
theorem dksX1_encode_0 : cX1_encode.data.toList.drop 0 = dktX1_encode_0 := by decide +kernel
theorem dksX1_encode_1 : cX1_encode.data.toList.drop 24 = dktX1_encode_1 := dk_seg dksX1_encode_0 24 rfl rfl
theorem dksX1_encode_2 : cX1_encode.data.toList.drop 47 = dktX1_encode_2 := dk_seg dksX1_encode_1 23 rfl rfl
theorem dksX1_encode_3 : cX1_encode.data.toList.drop 70 = dktX1_encode_3 := dk_seg dksX1_encode_2 23 rfl rfl
theorem dksX1_encode_4 : cX1_encode.data.toList.drop 94 = dktX1_encode_4 := dk_seg dksX1_encode_3 24 rfl rfl
theorem dksX1_encode_5 : cX1_encode.data.toList.drop 118 = dktX1_encode_5 := dk_seg dksX1_encode_4 24 rfl rfl
theorem dksX1_encode_6 : cX1_encode.data.toList.drop 140 = dktX1_encode_6 := dk_seg dksX1_encode_5 22 rfl rfl
theorem dksX1_encode_7 : cX1_encode.data.toList.drop 163 = dktX1_encode_7 := dk_seg dksX1_encode_6 23 rfl rfl
theorem dksX1_encode_8 : cX1_encode.data.toList.drop 187 = dktX1_encode_8 := dk_seg dksX1_encode_7 24 rfl rfl
theorem dksX1_encode_9 : cX1_encode.data.toList.drop 211 = dktX1_encode_9 := dk_seg dksX1_encode_8 24 rfl rfl
theorem dksX1_encode_10 : cX1_encode.data.toList.drop 235 = dktX1_encode_10 := dk_seg dksX1_encode_9 24 rfl rfl
theorem dksX1_encode_11 : cX1_encode.data.toList.drop 258 = dktX1_encode_11 := dk_seg dksX1_encode_10 23 rfl rfl
theorem dksX1_encode_12 : cX1_encode.data.toList.drop 282 = dktX1_encode_12 := dk_seg dksX1_encode_11 24 rfl rfl
theorem dksX1_encode_13 : cX1_encode.data.toList.drop 304 = dktX1_encode_13 := dk_seg dksX1_encode_12 22 rfl rfl
theorem dksX1_encode_14 : cX1_encode.data.toList.drop 326 = dktX1_encode_14 := dk_seg dksX1_encode_13 22 rfl rfl
theorem dksX1_encode_15 : cX1_encode.data.toList.drop 348 = dktX1_encode_15 := dk_seg dksX1_encode_14 22 rfl rfl
theorem dksX1_encode_16 : cX1_encode.data.toList.drop 372 = dktX1_encode_16 := dk_seg dksX1_encode_15 24 rfl rfl
theorem dX1_encode_0 : decode cX1_encode 0 = .ok (.aload_n 0, 1) := dk_42 (dk_at dksX1_encode_0 0 rfl rfl)
theorem dX1_encode_1 : decode cX1_encode 1 = .ok (.invokevirtual 99, 3) := dk_182 0 99 (dk_at dksX1_encode_0 1 rfl rfl)
theorem dX1_encode_4 : decode cX1_encode 4 = .ok (.istore_n 2, 1) := dk_61 (dk_at dksX1_encode_0 4 rfl rfl)
theorem dX1_encode_5 : decode cX1_encode 5 = .ok (.iload_n 1, 1) := dk_27 (dk_at dksX1_encode_0 5 rfl rfl)
theorem dX1_encode_6 : decode cX1_encode 6 = .ok (.ifCond .lt 21, 3) := dk_155 0 21 (dk_at dksX1_encode_0 6 rfl rfl)
theorem dX1_encode_9 : decode cX1_encode 9 = .ok (.iload_n 1, 1) := dk_27 (dk_at dksX1_encode_0 9 rfl rfl)
theorem dX1_encode_10 : decode cX1_encode 10 = .ok (.iconst 2, 1) := dk_5 (dk_at dksX1_encode_0 10 rfl rfl)
theorem dX1_encode_11 : decode cX1_encode 11 = .ok (.if_icmp .le 9, 3) := dk_164 0 9 (dk_at dksX1_encode_0 11 rfl rfl)
theorem dX1_encode_14 : decode cX1_encode 14 = .ok (.iload_n 1, 1) := dk_27 (dk_at dksX1_encode_0 14 rfl rfl)
theorem dX1_encode_15 : decode cX1_encode 15 = .ok (.bipush 100, 2) := dk_16 100 (dk_at dksX1_encode_0 15 rfl rfl)
theorem dX1_encode_17 : decode cX1_encode 17 = .ok (.if_icmp .lt 10, 3) := dk_161 0 10 (dk_at dksX1_encode_0 17 rfl rfl)
theorem dX1_encode_20 : decode cX1_encode 20 = .ok (.iload_n 1, 1) := dk_27 (dk_at dksX1_encode_0 20 rfl rfl)
theorem dX1_encode_21 : decode cX1_encode 21 = .ok (.sipush 130, 3) := dk_17 0 130 (dk_at dksX1_encode_0 21 rfl rfl)
theorem dX1_encode_24 : decode cX1_encode 24 = .ok (.if_icmp .lt 6, 3) := dk_161 0 6 (dk_at dksX1_encode_1 0 rfl rfl)
theorem dX1_encode_27 : decode cX1_encode 27 = .ok (.bipush (-2), 2) := dk_16 254 (dk_at dksX1_encode_1 3 rfl rfl)
theorem dX1_encode_29 : decode cX1_encode 29 = .ok (.ireturn, 1) := dk_172 (dk_at dksX1_encode_1 5 rfl rfl)
theorem dX1_encode_30 : decode cX1_encode 30 = .ok (.aload_n 0, 1) := dk_42 (dk_at dksX1_encode_1 6 rfl rfl)
theorem dX1_encode_31 : decode cX1_encode 31 = .ok (.getfield 91, 3) := dk_180 0 91 (dk_at dksX1_encode_1 7 rfl rfl)
theorem dX1_encode_34 : decode cX1_encode 34 = .ok (.aload_n 0, 1) := dk_42 (dk_at dksX1_encode_1 10 rfl rfl)
theorem dX1_encode_35 : decode cX1_encode 35 = .ok (.getfield 48, 3) := dk_180 0 48 (dk_at dksX1_encode_1 11 rfl rfl)
theorem dX1_encode_38 : decode cX1_encode 38 = .ok (.iload_n 2, 1) := dk_28 (dk_at dksX1_encode_1 14 rfl rfl)
theorem dX1_encode_39 : decode cX1_encode 39 = .ok (.invokevirtual 103, 3) := dk_182 0 103 (dk_at dksX1_encode_1 15 rfl rfl)
theorem dX1_encode_42 : decode cX1_encode 42 = .ok (.aconst_null, 1) := dk_1 (dk_at dksX1_encode_1 18 rfl rfl)
theorem dX1_encode_43 : decode cX1_encode 43 = .ok (.astore_n 3, 1) := dk_78 (dk_at dksX1_encode_1 19 rfl rfl)
theorem dX1_encode_44 : decode cX1_encode 44 = .ok (.iconst 0, 1) := dk_3 (dk_at dksX1_encode_1 20 rfl rfl)
theorem dX1_encode_45 : decode cX1_encode 45 = .ok (.istore 4, 2) := dk_54 4 (dk_at dksX1_encode_1 21 rfl rfl)
theorem dX1_encode_47 : decode cX1_encode 47 = .ok (.iload 4, 2) := dk_21 4 (dk_at dksX1_encode_2 0 rfl rfl)
theorem dX1_encode_49 : decode cX1_encode 49 = .ok (.bipush 30, 2) := dk_16 30 (dk_at dksX1_encode_2 2 rfl rfl)
theorem dX1_encode_51 : decode cX1_encode 51 = .ok (.if_icmp .ge 122, 3) := dk_162 0 122 (dk_at dksX1_encode_2 4 rfl rfl)
theorem dX1_encode_54 : decode cX1_encode 54 = .ok (.iload_n 1, 1) := dk_27 (dk_at dksX1_encode_2 7 rfl rfl)
theorem dX1_encode_55 : decode cX1_encode 55 = .ok (.bipush 100, 2) := dk_16 100 (dk_at dksX1_encode_2 8 rfl rfl)
theorem dX1_encode_57 : decode cX1_encode 57 = .ok (.if_icmp .lt 20, 3) := dk_161 0 20 (dk_at dksX1_encode_2 10 rfl rfl)
theorem dX1_encode_60 : decode cX1_encode 60 = .ok (.iload 4, 2) := dk_21 4 (dk_at dksX1_encode_2 13 rfl rfl)
theorem dX1_encode_62 : decode cX1_encode 62 = .ok (.iload_n 1, 1) := dk_27 (dk_at dksX1_encode_2 15 rfl rfl)
theorem dX1_encode_63 : decode cX1_encode 63 = .ok (.bipush 100, 2) := dk_16 100 (dk_at dksX1_encode_2 16 rfl rfl)
theorem dX1_encode_65 : decode cX1_encode 65 = .ok (.isub, 1) := dk_100 (dk_at dksX1_encode_2 18 rfl rfl)
theorem dX1_encode_66 : decode cX1_encode 66 = .ok (.if_icmp .ne 7, 3) := dk_160 0 7 (dk_at dksX1_encode_2 19 rfl rfl)
theorem dX1_encode_69 : decode cX1_encode 69 = .ok (.iconst 1, 1) := dk_4 (dk_at dksX1_encode_2 22 rfl rfl)
theorem dX1_encode_70 : decode cX1_encode 70 = .ok (.goto 41, 3) := dk_167 0 41 (dk_at dksX1_encode_3 0 rfl rfl)
theorem dX1_encode_73 : decode cX1_encode 73 = .ok (.iconst 0, 1) := dk_3 (dk_at dksX1_encode_3 3 rfl rfl)
theorem dX1_encode_74 : decode cX1_encode 74 = .ok (.goto 37, 3) := dk_167 0 37 (dk_at dksX1_encode_3 4 rfl rfl)
theorem dX1_encode_77 : decode cX1_encode 77 = .ok (.iload_n 1, 1) := dk_27 (dk_at dksX1_encode_3 7 rfl rfl)
theorem dX1_encode_78 : decode cX1_encode 78 = .ok (.iconst 2, 1) := dk_5 (dk_at dksX1_encode_3 8 rfl rfl)
theorem dX1_encode_79 : decode cX1_encode 79 = .ok (.if_icmp .eq 27, 3) := dk_159 0 27 (dk_at dksX1_encode_3 9 rfl rfl)
theorem dX1_encode_82 : decode cX1_encode 82 = .ok (.iload 4, 2) := dk_21 4 (dk_at dksX1_encode_3 12 rfl rfl)
theorem dX1_encode_84 : decode cX1_encode 84 = .ok (.bipush 24, 2) := dk_16 24 (dk_at dksX1_encode_3 14 rfl rfl)
theorem dX1_encode_86 : decode cX1_encode 86 = .ok (.if_icmp .ge 7, 3) := dk_162 0 7 (dk_at dksX1_encode_3 16 rfl rfl)
theorem dX1_encode_89 : decode cX1_encode 89 = .ok (.iconst 1, 1) := dk_4 (dk_at dksX1_encode_3 19 rfl rfl)
theorem dX1_encode_90 : decode cX1_encode 90 = .ok (.goto 4, 3) := dk_167 0 4 (dk_at dksX1_encode_3 20 rfl rfl)
theorem dX1_encode_93 : decode cX1_encode 93 = .ok (.iconst 0, 1) := dk_3 (dk_at dksX1_encode_3 23 rfl rfl)
theorem dX1_encode_94 : decode cX1_encode 94 = .ok (.iload_n 1, 1) := dk_27 (dk_at dksX1_encode_4 0 rfl rfl)
theorem dX1_encode_95 : decode cX1_encode 95 = .ok (.ifCond .ne 7, 3) := dk_154 0 7 (dk_at dksX1_encode_4 1 rfl rfl)
theorem dX1_encode_98 : decode cX1_encode 98 = .ok (.iconst 1, 1) := dk_4 (dk_at dksX1_encode_4 4 rfl rfl)
theorem dX1_encode_99 : decode cX1_encode 99 = .ok (.goto 4, 3) := dk_167 0 4 (dk_at dksX1_encode_4 5 rfl rfl)
theorem dX1_encode_102 : decode cX1_encode 102 = .ok (.iconst 0, 1) := dk_3 (dk_at dksX1_encode_4 8 rfl rfl)
theorem dX1_encode_103 : decode cX1_encode 103 = .ok (.if_icmp .ne 7, 3) := dk_160 0 7 (dk_at dksX1_encode_4 9 rfl rfl)
theorem dX1_encode_106 : decode cX1_encode 106 = .ok (.iconst 1, 1) := dk_4 (dk_at dksX1_encode_4 12 rfl rfl)
theorem dX1_encode_107 : decode cX1_encode 107 = .ok (.goto 4, 3) := dk_167 0 4 (dk_at dksX1_encode_4 13 rfl rfl)
theorem dX1_encode_110 : decode cX1_encode 110 = .ok (.iconst 0, 1) := dk_3 (dk_at dksX1_encode_4 16 rfl rfl)
theorem dX1_encode_111 : decode cX1_encode 111 = .ok (.istore 5, 2) := dk_54 5 (dk_at dksX1_encode_4 17 rfl rfl)
theorem dX1_encode_113 : decode cX1_encode 113 = .ok (.iload 5, 2) := dk_21 5 (dk_at dksX1_encode_4 19 rfl rfl)
theorem dX1_encode_115 : decode cX1_encode 115 = .ok (.ifCond .eq 52, 3) := dk_153 0 52 (dk_at dksX1_encode_4 21 rfl rfl)
theorem dX1_encode_118 : decode cX1_encode 118 = .ok (.aload_n 3, 1) := dk_45 (dk_at dksX1_encode_5 0 rfl rfl)
theorem dX1_encode_119 : decode cX1_encode 119 = .ok (.ifnull 20, 3) := dk_198 0 20 (dk_at dksX1_encode_5 1 rfl rfl)
theorem dX1_encode_122 : decode cX1_encode 122 = .ok (.aload_n 0, 1) := dk_42 (dk_at dksX1_encode_5 4 rfl rfl)
theorem dX1_encode_123 : decode cX1_encode 123 = .ok (.getfield 11, 3) := dk_180 0 11 (dk_at dksX1_encode_5 5 rfl rfl)
theorem dX1_encode_126 : decode cX1_encode 126 = .ok (.iload 4, 2) := dk_21 4 (dk_at dksX1_encode_5 8 rfl rfl)
theorem dX1_encode_128 : decode cX1_encode 128 = .ok (.aaload, 1) := dk_50 (dk_at dksX1_encode_5 10 rfl rfl)
theorem dX1_encode_129 : decode cX1_encode 129 = .ok (.getfield 107, 3) := dk_180 0 107 (dk_at dksX1_encode_5 11 rfl rfl)
theorem dX1_encode_132 : decode cX1_encode 132 = .ok (.aload_n 3, 1) := dk_45 (dk_at dksX1_encode_5 14 rfl rfl)
theorem dX1_encode_133 : decode cX1_encode 133 = .ok (.getfield 107, 3) := dk_180 0 107 (dk_at dksX1_encode_5 15 rfl rfl)
theorem dX1_encode_136 : decode cX1_encode 136 = .ok (.if_icmp .ge 31, 3) := dk_162 0 31 (dk_at dksX1_encode_5 18 rfl rfl)
theorem dX1_encode_139 : decode cX1_encode 139 = .ok (.aload_n 0, 1) := dk_42 (dk_at dksX1_encode_5 21 rfl rfl)
theorem dX1_encode_140 : decode cX1_encode 140 = .ok (.getfield 91, 3) := dk_180 0 91 (dk_at dksX1_encode_6 0 rfl rfl)
theorem dX1_encode_143 : decode cX1_encode 143 = .ok (.aload_n 0, 1) := dk_42 (dk_at dksX1_encode_6 3 rfl rfl)
theorem dX1_encode_144 : decode cX1_encode 144 = .ok (.getfield 11, 3) := dk_180 0 11 (dk_at dksX1_encode_6 4 rfl rfl)
theorem dX1_encode_147 : decode cX1_encode 147 = .ok (.iload 4, 2) := dk_21 4 (dk_at dksX1_encode_6 7 rfl rfl)
theorem dX1_encode_149 : decode cX1_encode 149 = .ok (.aaload, 1) := dk_50 (dk_at dksX1_encode_6 9 rfl rfl)
theorem dX1_encode_150 : decode cX1_encode 150 = .ok (.getfield 107, 3) := dk_180 0 107 (dk_at dksX1_encode_6 10 rfl rfl)
theorem dX1_encode_153 : decode cX1_encode 153 = .ok (.invokevirtual 110, 3) := dk_182 0 110 (dk_at dksX1_encode_6 13 rfl rfl)
theorem dX1_encode_156 : decode cX1_encode 156 = .ok (.ifCond .eq 11, 3) := dk_153 0 11 (dk_at dksX1_encode_6 16 rfl rfl)
theorem dX1_encode_159 : decode cX1_encode 159 = .ok (.aload_n 0, 1) := dk_42 (dk_at dksX1_encode_6 19 rfl rfl)
theorem dX1_encode_160 : decode cX1_encode 160 = .ok (.getfield 11, 3) := dk_180 0 11 (dk_at dksX1_encode_6 20 rfl rfl)
theorem dX1_encode_163 : decode cX1_encode 163 = .ok (.iload 4, 2) := dk_21 4 (dk_at dksX1_encode_7 0 rfl rfl)
theorem dX1_encode_165 : decode cX1_encode 165 = .ok (.aaload, 1) := dk_50 (dk_at dksX1_encode_7 2 rfl rfl)
theorem dX1_encode_166 : decode cX1_encode 166 = .ok (.astore_n 3, 1) := dk_78 (dk_at dksX1_encode_7 3 rfl rfl)
theorem dX1_encode_167 : decode cX1_encode 167 = .ok (.iinc 4 1, 3) := dk_132 4 1 (dk_at dksX1_encode_7 4 rfl rfl)
theorem dX1_encode_170 : decode cX1_encode 170 = .ok (.goto (-123), 3) := dk_167 255 133 (dk_at dksX1_encode_7 7 rfl rfl)
theorem dX1_encode_173 : decode cX1_encode 173 = .ok (.aload_n 3, 1) := dk_45 (dk_at dksX1_encode_7 10 rfl rfl)
theorem dX1_encode_174 : decode cX1_encode 174 = .ok (.ifnonnull 5, 3) := dk_199 0 5 (dk_at dksX1_encode_7 11 rfl rfl)
theorem dX1_encode_177 : decode cX1_encode 177 = .ok (.iconst (-1), 1) := dk_2 (dk_at dksX1_encode_7 14 rfl rfl)
theorem dX1_encode_178 : decode cX1_encode 178 = .ok (.ireturn, 1) := dk_172 (dk_at dksX1_encode_7 15 rfl rfl)
theorem dX1_encode_179 : decode cX1_encode 179 = .ok (.aload_n 0, 1) := dk_42 (dk_at dksX1_encode_7 16 rfl rfl)
theorem dX1_encode_180 : decode cX1_encode 180 = .ok (.getfield 91, 3) := dk_180 0 91 (dk_at dksX1_encode_7 17 rfl rfl)
theorem dX1_encode_183 : decode cX1_encode 183 = .ok (.aload_n 3, 1) := dk_45 (dk_at dksX1_encode_7 20 rfl rfl)
theorem dX1_encode_184 : decode cX1_encode 184 = .ok (.getfield 107, 3) := dk_180 0 107 (dk_at dksX1_encode_7 21 rfl rfl)
theorem dX1_encode_187 : decode cX1_encode 187 = .ok (.invokevirtual 110, 3) := dk_182 0 110 (dk_at dksX1_encode_8 0 rfl rfl)
theorem dX1_encode_190 : decode cX1_encode 190 = .ok (.pop, 1) := dk_87 (dk_at dksX1_encode_8 3 rfl rfl)
theorem dX1_encode_191 : decode cX1_encode 191 = .ok (.aload_n 0, 1) := dk_42 (dk_at dksX1_encode_8 4 rfl rfl)
theorem dX1_encode_192 : decode cX1_encode 192 = .ok (.getfield 91, 3) := dk_180 0 91 (dk_at dksX1_encode_8 5 rfl rfl)
theorem dX1_encode_195 : decode cX1_encode 195 = .ok (.invokevirtual 114, 3) := dk_182 0 114 (dk_at dksX1_encode_8 8 rfl rfl)
theorem dX1_encode_198 : decode cX1_encode 198 = .ok (.aload_n 0, 1) := dk_42 (dk_at dksX1_encode_8 11 rfl rfl)
theorem dX1_encode_199 : decode cX1_encode 199 = .ok (.aload_n 0, 1) := dk_42 (dk_at dksX1_encode_8 12 rfl rfl)
theorem dX1_encode_200 : decode cX1_encode 200 = .ok (.getfield 91, 3) := dk_180 0 91 (dk_at dksX1_encode_8 13 rfl rfl)
theorem dX1_encode_203 : decode cX1_encode 203 = .ok (.getfield 117, 3) := dk_180 0 117 (dk_at dksX1_encode_8 16 rfl rfl)
theorem dX1_encode_206 : decode cX1_encode 206 = .ok (.putfield 120, 3) := dk_181 0 120 (dk_at dksX1_encode_8 19 rfl rfl)
theorem dX1_encode_209 : decode cX1_encode 209 = .ok (.aload_n 0, 1) := dk_42 (dk_at dksX1_encode_8 22 rfl rfl)
theorem dX1_encode_210 : decode cX1_encode 210 = .ok (.aload_n 0, 1) := dk_42 (dk_at dksX1_encode_8 23 rfl rfl)
theorem dX1_encode_211 : decode cX1_encode 211 = .ok (.getfield 91, 3) := dk_180 0 91 (dk_at dksX1_encode_9 0 rfl rfl)
theorem dX1_encode_214 : decode cX1_encode 214 = .ok (.getfield 121, 3) := dk_180 0 121 (dk_at dksX1_encode_9 3 rfl rfl)
theorem dX1_encode_217 : decode cX1_encode 217 = .ok (.ifCond .eq 7, 3) := dk_153 0 7 (dk_at dksX1_encode_9 6 rfl rfl)
theorem dX1_encode_220 : decode cX1_encode 220 = .ok (.iconst 1, 1) := dk_4 (dk_at dksX1_encode_9 9 rfl rfl)
theorem dX1_encode_221 : decode cX1_encode 221 = .ok (.goto 4, 3) := dk_167 0 4 (dk_at dksX1_encode_9 10 rfl rfl)
theorem dX1_encode_224 : decode cX1_encode 224 = .ok (.iconst 0, 1) := dk_3 (dk_at dksX1_encode_9 13 rfl rfl)
theorem dX1_encode_225 : decode cX1_encode 225 = .ok (.putfield 125, 3) := dk_181 0 125 (dk_at dksX1_encode_9 14 rfl rfl)
theorem dX1_encode_228 : decode cX1_encode 228 = .ok (.aload_n 0, 1) := dk_42 (dk_at dksX1_encode_9 17 rfl rfl)
theorem dX1_encode_229 : decode cX1_encode 229 = .ok (.getfield 64, 3) := dk_180 0 64 (dk_at dksX1_encode_9 18 rfl rfl)
theorem dX1_encode_232 : decode cX1_encode 232 = .ok (.invokevirtual 128, 3) := dk_182 0 128 (dk_at dksX1_encode_9 21 rfl rfl)
theorem dX1_encode_235 : decode cX1_encode 235 = .ok (.iconst 0, 1) := dk_3 (dk_at dksX1_encode_10 0 rfl rfl)
theorem dX1_encode_236 : decode cX1_encode 236 = .ok (.istore 4, 2) := dk_54 4 (dk_at dksX1_encode_10 1 rfl rfl)
theorem dX1_encode_238 : decode cX1_encode 238 = .ok (.iload 4, 2) := dk_21 4 (dk_at dksX1_encode_10 3 rfl rfl)
theorem dX1_encode_240 : decode cX1_encode 240 = .ok (.aload_n 0, 1) := dk_42 (dk_at dksX1_encode_10 5 rfl rfl)
theorem dX1_encode_241 : decode cX1_encode 241 = .ok (.getfield 91, 3) := dk_180 0 91 (dk_at dksX1_encode_10 6 rfl rfl)
theorem dX1_encode_244 : decode cX1_encode 244 = .ok (.getfield 131, 3) := dk_180 0 131 (dk_at dksX1_encode_10 9 rfl rfl)
theorem dX1_encode_247 : decode cX1_encode 247 = .ok (.invokevirtual 132, 3) := dk_182 0 132 (dk_at dksX1_encode_10 12 rfl rfl)
theorem dX1_encode_250 : decode cX1_encode 250 = .ok (.if_icmp .ge 32, 3) := dk_162 0 32 (dk_at dksX1_encode_10 15 rfl rfl)
theorem dX1_encode_253 : decode cX1_encode 253 = .ok (.aload_n 0, 1) := dk_42 (dk_at dksX1_encode_10 18 rfl rfl)
theorem dX1_encode_254 : decode cX1_encode 254 = .ok (.getfield 64, 3) := dk_180 0 64 (dk_at dksX1_encode_10 19 rfl rfl)
theorem dX1_encode_257 : decode cX1_encode 257 = .ok (.aload_n 0, 1) := dk_42 (dk_at dksX1_encode_10 22 rfl rfl)
theorem dX1_encode_258 : decode cX1_encode 258 = .ok (.getfield 91, 3) := dk_180 0 91 (dk_at dksX1_encode_11 0 rfl rfl)
theorem dX1_encode_261 : decode cX1_encode 261 = .ok (.getfield 131, 3) := dk_180 0 131 (dk_at dksX1_encode_11 3 rfl rfl)
theorem dX1_encode_264 : decode cX1_encode 264 = .ok (.iload 4, 2) := dk_21 4 (dk_at dksX1_encode_11 6 rfl rfl)
theorem dX1_encode_266 : decode cX1_encode 266 = .ok (.invokevirtual 135, 3) := dk_182 0 135 (dk_at dksX1_encode_11 8 rfl rfl)
theorem dX1_encode_269 : decode cX1_encode 269 = .ok (.checkcast 139, 3) := dk_192 0 139 (dk_at dksX1_encode_11 11 rfl rfl)
theorem dX1_encode_272 : decode cX1_encode 272 = .ok (.invokevirtual 73, 3) := dk_182 0 73 (dk_at dksX1_encode_11 14 rfl rfl)
theorem dX1_encode_275 : decode cX1_encode 275 = .ok (.pop, 1) := dk_87 (dk_at dksX1_encode_11 17 rfl rfl)
theorem dX1_encode_276 : decode cX1_encode 276 = .ok (.iinc 4 1, 3) := dk_132 4 1 (dk_at dksX1_encode_11 18 rfl rfl)
theorem dX1_encode_279 : decode cX1_encode 279 = .ok (.goto (-41), 3) := dk_167 255 215 (dk_at dksX1_encode_11 21 rfl rfl)
theorem dX1_encode_282 : decode cX1_encode 282 = .ok (.iconst 0, 1) := dk_3 (dk_at dksX1_encode_12 0 rfl rfl)
theorem dX1_encode_283 : decode cX1_encode 283 = .ok (.istore 4, 2) := dk_54 4 (dk_at dksX1_encode_12 1 rfl rfl)
theorem dX1_encode_285 : decode cX1_encode 285 = .ok (.iload 4, 2) := dk_21 4 (dk_at dksX1_encode_12 3 rfl rfl)
theorem dX1_encode_287 : decode cX1_encode 287 = .ok (.aload_n 3, 1) := dk_45 (dk_at dksX1_encode_12 5 rfl rfl)
theorem dX1_encode_288 : decode cX1_encode 288 = .ok (.getfield 107, 3) := dk_180 0 107 (dk_at dksX1_encode_12 6 rfl rfl)
theorem dX1_encode_291 : decode cX1_encode 291 = .ok (.if_icmp .ge 26, 3) := dk_162 0 26 (dk_at dksX1_encode_12 9 rfl rfl)
theorem dX1_encode_294 : decode cX1_encode 294 = .ok (.aload_n 0, 1) := dk_42 (dk_at dksX1_encode_12 12 rfl rfl)
theorem dX1_encode_295 : decode cX1_encode 295 = .ok (.getfield 59, 3) := dk_180 0 59 (dk_at dksX1_encode_12 13 rfl rfl)
theorem dX1_encode_298 : decode cX1_encode 298 = .ok (.iload 4, 2) := dk_21 4 (dk_at dksX1_encode_12 16 rfl rfl)
theorem dX1_encode_300 : decode cX1_encode 300 = .ok (.aload_n 0, 1) := dk_42 (dk_at dksX1_encode_12 18 rfl rfl)
theorem dX1_encode_301 : decode cX1_encode 301 = .ok (.getfield 36, 3) := dk_180 0 36 (dk_at dksX1_encode_12 19 rfl rfl)
theorem dX1_encode_304 : decode cX1_encode 304 = .ok (.getfield 141, 3) := dk_180 0 141 (dk_at dksX1_encode_13 0 rfl rfl)
theorem dX1_encode_307 : decode cX1_encode 307 = .ok (.iload 4, 2) := dk_21 4 (dk_at dksX1_encode_13 3 rfl rfl)
theorem dX1_encode_309 : decode cX1_encode 309 = .ok (.iaload, 1) := dk_46 (dk_at dksX1_encode_13 5 rfl rfl)
theorem dX1_encode_310 : decode cX1_encode 310 = .ok (.iastore, 1) := dk_79 (dk_at dksX1_encode_13 6 rfl rfl)
theorem dX1_encode_311 : decode cX1_encode 311 = .ok (.iinc 4 1, 3) := dk_132 4 1 (dk_at dksX1_encode_13 7 rfl rfl)
theorem dX1_encode_314 : decode cX1_encode 314 = .ok (.goto (-29), 3) := dk_167 255 227 (dk_at dksX1_encode_13 10 rfl rfl)
theorem dX1_encode_317 : decode cX1_encode 317 = .ok (.iconst 0, 1) := dk_3 (dk_at dksX1_encode_13 13 rfl rfl)
theorem dX1_encode_318 : decode cX1_encode 318 = .ok (.istore 4, 2) := dk_54 4 (dk_at dksX1_encode_13 14 rfl rfl)
theorem dX1_encode_320 : decode cX1_encode 320 = .ok (.iload 4, 2) := dk_21 4 (dk_at dksX1_encode_13 16 rfl rfl)
theorem dX1_encode_322 : decode cX1_encode 322 = .ok (.aload_n 3, 1) := dk_45 (dk_at dksX1_encode_13 18 rfl rfl)
theorem dX1_encode_323 : decode cX1_encode 323 = .ok (.getfield 144, 3) := dk_180 0 144 (dk_at dksX1_encode_13 19 rfl rfl)
theorem dX1_encode_326 : decode cX1_encode 326 = .ok (.if_icmp .ge 40, 3) := dk_162 0 40 (dk_at dksX1_encode_14 0 rfl rfl)
theorem dX1_encode_329 : decode cX1_encode 329 = .ok (.aload_n 0, 1) := dk_42 (dk_at dksX1_encode_14 3 rfl rfl)
theorem dX1_encode_330 : decode cX1_encode 330 = .ok (.aload_n 3, 1) := dk_45 (dk_at dksX1_encode_14 4 rfl rfl)
theorem dX1_encode_331 : decode cX1_encode 331 = .ok (.iload 4, 2) := dk_21 4 (dk_at dksX1_encode_14 5 rfl rfl)
theorem dX1_encode_333 : decode cX1_encode 333 = .ok (.invokevirtual 147, 3) := dk_182 0 147 (dk_at dksX1_encode_14 7 rfl rfl)
theorem dX1_encode_336 : decode cX1_encode 336 = .ok (.istore 5, 2) := dk_54 5 (dk_at dksX1_encode_14 10 rfl rfl)
theorem dX1_encode_338 : decode cX1_encode 338 = .ok (.aload_n 0, 1) := dk_42 (dk_at dksX1_encode_14 12 rfl rfl)
theorem dX1_encode_339 : decode cX1_encode 339 = .ok (.getfield 25, 3) := dk_180 0 25 (dk_at dksX1_encode_14 13 rfl rfl)
theorem dX1_encode_342 : decode cX1_encode 342 = .ok (.iload 5, 2) := dk_21 5 (dk_at dksX1_encode_14 16 rfl rfl)
theorem dX1_encode_344 : decode cX1_encode 344 = .ok (.aload_n 3, 1) := dk_45 (dk_at dksX1_encode_14 18 rfl rfl)
theorem dX1_encode_345 : decode cX1_encode 345 = .ok (.invokevirtual 151, 3) := dk_182 0 151 (dk_at dksX1_encode_14 19 rfl rfl)
theorem dX1_encode_348 : decode cX1_encode 348 = .ok (.invokevirtual 154, 3) := dk_182 0 154 (dk_at dksX1_encode_15 0 rfl rfl)
theorem dX1_encode_351 : decode cX1_encode 351 = .ok (.aload_n 0, 1) := dk_42 (dk_at dksX1_encode_15 3 rfl rfl)
theorem dX1_encode_352 : decode cX1_encode 352 = .ok (.aload_n 3, 1) := dk_45 (dk_at dksX1_encode_15 4 rfl rfl)
theorem dX1_encode_353 : decode cX1_encode 353 = .ok (.iload 4, 2) := dk_21 4 (dk_at dksX1_encode_15 5 rfl rfl)
theorem dX1_encode_355 : decode cX1_encode 355 = .ok (.iload 5, 2) := dk_21 5 (dk_at dksX1_encode_15 7 rfl rfl)
theorem dX1_encode_357 : decode cX1_encode 357 = .ok (.invokevirtual 158, 3) := dk_182 0 158 (dk_at dksX1_encode_15 9 rfl rfl)
theorem dX1_encode_360 : decode cX1_encode 360 = .ok (.iinc 4 1, 3) := dk_132 4 1 (dk_at dksX1_encode_15 12 rfl rfl)
theorem dX1_encode_363 : decode cX1_encode 363 = .ok (.goto (-43), 3) := dk_167 255 213 (dk_at dksX1_encode_15 15 rfl rfl)
theorem dX1_encode_366 : decode cX1_encode 366 = .ok (.aload_n 0, 1) := dk_42 (dk_at dksX1_encode_15 18 rfl rfl)
theorem dX1_encode_367 : decode cX1_encode 367 = .ok (.aload_n 3, 1) := dk_45 (dk_at dksX1_encode_15 19 rfl rfl)
theorem dX1_encode_368 : decode cX1_encode 368 = .ok (.putfield 162, 3) := dk_181 0 162 (dk_at dksX1_encode_15 20 rfl rfl)
theorem dX1_encode_371 : decode cX1_encode 371 = .ok (.aload_n 0, 1) := dk_42 (dk_at dksX1_encode_15 23 rfl rfl)
theorem dX1_encode_372 : decode cX1_encode 372 = .ok (.invokevirtual 166, 3) := dk_182 0 166 (dk_at dksX1_encode_16 0 rfl rfl)
theorem dX1_encode_375 : decode cX1_encode 375 = .ok (.aload_n 3, 1) := dk_45 (dk_at dksX1_encode_16 3 rfl rfl)
theorem dX1_encode_376 : decode cX1_encode 376 = .ok (.getfield 169, 3) := dk_180 0 169 (dk_at dksX1_encode_16 4 rfl rfl)
theorem dX1_encode_379 : decode cX1_encode 379 = .ok (.ireturn, 1) := dk_172 (dk_at dksX1_encode_16 7 rfl rfl)
abbrev cX1_take : ByteArray := prog_1_method_3_code
def yX1_take : MethodName := ⟨RX1, "take", "()I"⟩
def dkwX1_take_0 : List UInt8 := [42, 180, 0, 95, 60, 42, 3, 181, 0, 95, 27, 172]
abbrev dktX1_take_0 : List UInt8 := dkwX1_take_0 ++ []
theorem dksX1_take_0 : cX1_take.data.toList.drop 0 = dktX1_take_0 := by decide +kernel
theorem dX1_take_0 : decode cX1_take 0 = .ok (.aload_n 0, 1) := dk_42 (dk_at dksX1_take_0 0 rfl rfl)
theorem dX1_take_1 : decode cX1_take 1 = .ok (.getfield 95, 3) := dk_180 0 95 (dk_at dksX1_take_0 1 rfl rfl)
theorem dX1_take_4 : decode cX1_take 4 = .ok (.istore_n 1, 1) := dk_60 (dk_at dksX1_take_0 4 rfl rfl)
theorem dX1_take_5 : decode cX1_take 5 = .ok (.aload_n 0, 1) := dk_42 (dk_at dksX1_take_0 5 rfl rfl)
theorem dX1_take_6 : decode cX1_take 6 = .ok (.iconst 0, 1) := dk_3 (dk_at dksX1_take_0 6 rfl rfl)
theorem dX1_take_7 : decode cX1_take 7 = .ok (.putfield 95, 3) := dk_181 0 95 (dk_at dksX1_take_0 7 rfl rfl)
theorem dX1_take_10 : decode cX1_take 10 = .ok (.iload_n 1, 1) := dk_27 (dk_at dksX1_take_0 10 rfl rfl)
theorem dX1_take_11 : decode cX1_take 11 = .ok (.ireturn, 1) := dk_172 (dk_at dksX1_take_0 11 rfl rfl)
abbrev cX1_gathers : ByteArray := prog_1_method_5_code
def yX1_gathers : MethodName := ⟨RX1, "gathers", "(LMatrixPress$Symbol;I)I"⟩
def dkwX1_gathers_1 : List UInt8 := [42, 180, 0, 59, 28, 21, 4, 43, 180, 0, 144, 104, 96, 46, 79, 132, 4, 1, 167, 255, 223, 29, 172]
abbrev dktX1_gathers_1 : List UInt8 := dkwX1_gathers_1 ++ []
def dkwX1_gathers_0 : List UInt8 := [43, 28, 182, 0, 172, 62, 3, 54, 4, 21, 4, 29, 162, 0, 33, 42, 180, 0, 25, 180, 0, 176, 21, 4]
abbrev dktX1_gathers_0 : List UInt8 := dkwX1_gathers_0 ++ dktX1_gathers_1
theorem dksX1_gathers_0 : cX1_gathers.data.toList.drop 0 = dktX1_gathers_0 := by decide +kernel
theorem dksX1_gathers_1 : cX1_gathers.data.toList.drop 24 = dktX1_gathers_1 := dk_seg dksX1_gathers_0 24 rfl rfl
theorem dX1_gathers_0 : decode cX1_gathers 0 = .ok (.aload_n 1, 1) := dk_43 (dk_at dksX1_gathers_0 0 rfl rfl)
theorem dX1_gathers_1 : decode cX1_gathers 1 = .ok (.iload_n 2, 1) := dk_28 (dk_at dksX1_gathers_0 1 rfl rfl)
theorem dX1_gathers_2 : decode cX1_gathers 2 = .ok (.invokevirtual 172, 3) := dk_182 0 172 (dk_at dksX1_gathers_0 2 rfl rfl)
theorem dX1_gathers_5 : decode cX1_gathers 5 = .ok (.istore_n 3, 1) := dk_62 (dk_at dksX1_gathers_0 5 rfl rfl)
theorem dX1_gathers_6 : decode cX1_gathers 6 = .ok (.iconst 0, 1) := dk_3 (dk_at dksX1_gathers_0 6 rfl rfl)
theorem dX1_gathers_7 : decode cX1_gathers 7 = .ok (.istore 4, 2) := dk_54 4 (dk_at dksX1_gathers_0 7 rfl rfl)
theorem dX1_gathers_9 : decode cX1_gathers 9 = .ok (.iload 4, 2) := dk_21 4 (dk_at dksX1_gathers_0 9 rfl rfl)
theorem dX1_gathers_11 : decode cX1_gathers 11 = .ok (.iload_n 3, 1) := dk_29 (dk_at dksX1_gathers_0 11 rfl rfl)
theorem dX1_gathers_12 : decode cX1_gathers 12 = .ok (.if_icmp .ge 33, 3) := dk_162 0 33 (dk_at dksX1_gathers_0 12 rfl rfl)
theorem dX1_gathers_15 : decode cX1_gathers 15 = .ok (.aload_n 0, 1) := dk_42 (dk_at dksX1_gathers_0 15 rfl rfl)
theorem dX1_gathers_16 : decode cX1_gathers 16 = .ok (.getfield 25, 3) := dk_180 0 25 (dk_at dksX1_gathers_0 16 rfl rfl)
theorem dX1_gathers_19 : decode cX1_gathers 19 = .ok (.getfield 176, 3) := dk_180 0 176 (dk_at dksX1_gathers_0 19 rfl rfl)
theorem dX1_gathers_22 : decode cX1_gathers 22 = .ok (.iload 4, 2) := dk_21 4 (dk_at dksX1_gathers_0 22 rfl rfl)
theorem dX1_gathers_24 : decode cX1_gathers 24 = .ok (.aload_n 0, 1) := dk_42 (dk_at dksX1_gathers_1 0 rfl rfl)
theorem dX1_gathers_25 : decode cX1_gathers 25 = .ok (.getfield 59, 3) := dk_180 0 59 (dk_at dksX1_gathers_1 1 rfl rfl)
theorem dX1_gathers_28 : decode cX1_gathers 28 = .ok (.iload_n 2, 1) := dk_28 (dk_at dksX1_gathers_1 4 rfl rfl)
theorem dX1_gathers_29 : decode cX1_gathers 29 = .ok (.iload 4, 2) := dk_21 4 (dk_at dksX1_gathers_1 5 rfl rfl)
theorem dX1_gathers_31 : decode cX1_gathers 31 = .ok (.aload_n 1, 1) := dk_43 (dk_at dksX1_gathers_1 7 rfl rfl)
theorem dX1_gathers_32 : decode cX1_gathers 32 = .ok (.getfield 144, 3) := dk_180 0 144 (dk_at dksX1_gathers_1 8 rfl rfl)
theorem dX1_gathers_35 : decode cX1_gathers 35 = .ok (.imul, 1) := dk_104 (dk_at dksX1_gathers_1 11 rfl rfl)
theorem dX1_gathers_36 : decode cX1_gathers 36 = .ok (.iadd, 1) := dk_96 (dk_at dksX1_gathers_1 12 rfl rfl)
theorem dX1_gathers_37 : decode cX1_gathers 37 = .ok (.iaload, 1) := dk_46 (dk_at dksX1_gathers_1 13 rfl rfl)
theorem dX1_gathers_38 : decode cX1_gathers 38 = .ok (.iastore, 1) := dk_79 (dk_at dksX1_gathers_1 14 rfl rfl)
theorem dX1_gathers_39 : decode cX1_gathers 39 = .ok (.iinc 4 1, 3) := dk_132 4 1 (dk_at dksX1_gathers_1 15 rfl rfl)
theorem dX1_gathers_42 : decode cX1_gathers 42 = .ok (.goto (-33), 3) := dk_167 255 223 (dk_at dksX1_gathers_1 18 rfl rfl)
theorem dX1_gathers_45 : decode cX1_gathers 45 = .ok (.iload_n 3, 1) := dk_29 (dk_at dksX1_gathers_1 21 rfl rfl)
theorem dX1_gathers_46 : decode cX1_gathers 46 = .ok (.ireturn, 1) := dk_172 (dk_at dksX1_gathers_1 22 rfl rfl)
abbrev cX1_spreads : ByteArray := prog_1_method_6_code
def yX1_spreads : MethodName := ⟨RX1, "spreads", "(LMatrixPress$Symbol;II)V"⟩
def dkwX1_spreads_1 : List UInt8 := [180, 0, 25, 180, 0, 176, 21, 4, 46, 79, 132, 4, 1, 167, 255, 223, 177]
abbrev dktX1_spreads_1 : List UInt8 := dkwX1_spreads_1 ++ []
def dkwX1_spreads_0 : List UInt8 := [3, 54, 4, 21, 4, 29, 162, 0, 33, 42, 180, 0, 59, 28, 21, 4, 43, 180, 0, 144, 104, 96, 42]
abbrev dktX1_spreads_0 : List UInt8 := dkwX1_spreads_0 ++ dktX1_spreads_1
theorem dksX1_spreads_0 : cX1_spreads.data.toList.drop 0 = dktX1_spreads_0 := by decide +kernel
theorem dksX1_spreads_1 : cX1_spreads.data.toList.drop 23 = dktX1_spreads_1 := dk_seg dksX1_spreads_0 23 rfl rfl
theorem dX1_spreads_0 : decode cX1_spreads 0 = .ok (.iconst 0, 1) := dk_3 (dk_at dksX1_spreads_0 0 rfl rfl)
theorem dX1_spreads_1 : decode cX1_spreads 1 = .ok (.istore 4, 2) := dk_54 4 (dk_at dksX1_spreads_0 1 rfl rfl)
theorem dX1_spreads_3 : decode cX1_spreads 3 = .ok (.iload 4, 2) := dk_21 4 (dk_at dksX1_spreads_0 3 rfl rfl)
theorem dX1_spreads_5 : decode cX1_spreads 5 = .ok (.iload_n 3, 1) := dk_29 (dk_at dksX1_spreads_0 5 rfl rfl)
theorem dX1_spreads_6 : decode cX1_spreads 6 = .ok (.if_icmp .ge 33, 3) := dk_162 0 33 (dk_at dksX1_spreads_0 6 rfl rfl)
theorem dX1_spreads_9 : decode cX1_spreads 9 = .ok (.aload_n 0, 1) := dk_42 (dk_at dksX1_spreads_0 9 rfl rfl)
theorem dX1_spreads_10 : decode cX1_spreads 10 = .ok (.getfield 59, 3) := dk_180 0 59 (dk_at dksX1_spreads_0 10 rfl rfl)
theorem dX1_spreads_13 : decode cX1_spreads 13 = .ok (.iload_n 2, 1) := dk_28 (dk_at dksX1_spreads_0 13 rfl rfl)
theorem dX1_spreads_14 : decode cX1_spreads 14 = .ok (.iload 4, 2) := dk_21 4 (dk_at dksX1_spreads_0 14 rfl rfl)
theorem dX1_spreads_16 : decode cX1_spreads 16 = .ok (.aload_n 1, 1) := dk_43 (dk_at dksX1_spreads_0 16 rfl rfl)
theorem dX1_spreads_17 : decode cX1_spreads 17 = .ok (.getfield 144, 3) := dk_180 0 144 (dk_at dksX1_spreads_0 17 rfl rfl)
theorem dX1_spreads_20 : decode cX1_spreads 20 = .ok (.imul, 1) := dk_104 (dk_at dksX1_spreads_0 20 rfl rfl)
theorem dX1_spreads_21 : decode cX1_spreads 21 = .ok (.iadd, 1) := dk_96 (dk_at dksX1_spreads_0 21 rfl rfl)
theorem dX1_spreads_22 : decode cX1_spreads 22 = .ok (.aload_n 0, 1) := dk_42 (dk_at dksX1_spreads_0 22 rfl rfl)
theorem dX1_spreads_23 : decode cX1_spreads 23 = .ok (.getfield 25, 3) := dk_180 0 25 (dk_at dksX1_spreads_1 0 rfl rfl)
theorem dX1_spreads_26 : decode cX1_spreads 26 = .ok (.getfield 176, 3) := dk_180 0 176 (dk_at dksX1_spreads_1 3 rfl rfl)
theorem dX1_spreads_29 : decode cX1_spreads 29 = .ok (.iload 4, 2) := dk_21 4 (dk_at dksX1_spreads_1 6 rfl rfl)
theorem dX1_spreads_31 : decode cX1_spreads 31 = .ok (.iaload, 1) := dk_46 (dk_at dksX1_spreads_1 8 rfl rfl)
theorem dX1_spreads_32 : decode cX1_spreads 32 = .ok (.iastore, 1) := dk_79 (dk_at dksX1_spreads_1 9 rfl rfl)
theorem dX1_spreads_33 : decode cX1_spreads 33 = .ok (.iinc 4 1, 3) := dk_132 4 1 (dk_at dksX1_spreads_1 10 rfl rfl)
theorem dX1_spreads_36 : decode cX1_spreads 36 = .ok (.goto (-33), 3) := dk_167 255 223 (dk_at dksX1_spreads_1 13 rfl rfl)
theorem dX1_spreads_39 : decode cX1_spreads 39 = .ok (.return_, 1) := dk_177 (dk_at dksX1_spreads_1 16 rfl rfl)
abbrev cX1_draw : ByteArray := prog_1_method_8_code
def yX1_draw : MethodName := ⟨RX1, "draw", "()V"⟩
def dkwX1_draw_7 : List UInt8 := [4, 100, 182, 0, 213, 4, 84, 177]
abbrev dktX1_draw_7 : List UInt8 := dkwX1_draw_7 ++ []
def dkwX1_draw_6 : List UInt8 := [180, 0, 55, 42, 27, 182, 0, 213, 4, 84, 42, 180, 0, 55, 42, 27, 42, 180, 0, 162, 180, 0, 179, 100]
abbrev dktX1_draw_6 : List UInt8 := dkwX1_draw_6 ++ dktX1_draw_7
def dkwX1_draw_5 : List UInt8 := [154, 0, 4, 177, 42, 180, 0, 162, 180, 0, 210, 42, 180, 0, 162, 180, 0, 179, 104, 4, 100, 60, 42]
abbrev dktX1_draw_5 : List UInt8 := dkwX1_draw_5 ++ dktX1_draw_6
def dkwX1_draw_4 : List UInt8 := [42, 180, 0, 59, 27, 46, 182, 0, 205, 132, 1, 1, 167, 255, 231, 42, 180, 0, 18, 180, 0, 207]
abbrev dktX1_draw_4 : List UInt8 := dkwX1_draw_4 ++ dktX1_draw_5
def dkwX1_draw_3 : List UInt8 := [167, 255, 212, 132, 1, 1, 167, 255, 193, 3, 60, 27, 42, 180, 0, 162, 180, 0, 202, 162, 0, 20, 42, 27]
abbrev dktX1_draw_3 : List UInt8 := dkwX1_draw_3 ++ dktX1_draw_4
def dkwX1_draw_2 : List UInt8 := [42, 180, 0, 162, 27, 28, 182, 0, 198, 4, 160, 0, 7, 4, 167, 0, 4, 3, 84, 132, 2, 1]
abbrev dktX1_draw_2 : List UInt8 := dkwX1_draw_2 ++ dktX1_draw_3
def dkwX1_draw_1 : List UInt8 := [3, 61, 28, 42, 180, 0, 162, 180, 0, 195, 162, 0, 39, 42, 180, 0, 55, 27, 17, 0, 144, 104, 28, 96]
abbrev dktX1_draw_1 : List UInt8 := dkwX1_draw_1 ++ dktX1_draw_2
def dkwX1_draw_0 : List UInt8 := [42, 180, 0, 18, 42, 180, 0, 162, 182, 0, 188, 3, 60, 27, 42, 180, 0, 162, 180, 0, 192, 162, 0, 58]
abbrev dktX1_draw_0 : List UInt8 := dkwX1_draw_0 ++ dktX1_draw_1
theorem dksX1_draw_0 : cX1_draw.data.toList.drop 0 = dktX1_draw_0 := by decide +kernel
theorem dksX1_draw_1 : cX1_draw.data.toList.drop 24 = dktX1_draw_1 := dk_seg dksX1_draw_0 24 rfl rfl
theorem dksX1_draw_2 : cX1_draw.data.toList.drop 48 = dktX1_draw_2 := dk_seg dksX1_draw_1 24 rfl rfl
theorem dksX1_draw_3 : cX1_draw.data.toList.drop 70 = dktX1_draw_3 := dk_seg dksX1_draw_2 22 rfl rfl
theorem dksX1_draw_4 : cX1_draw.data.toList.drop 94 = dktX1_draw_4 := dk_seg dksX1_draw_3 24 rfl rfl
theorem dksX1_draw_5 : cX1_draw.data.toList.drop 116 = dktX1_draw_5 := dk_seg dksX1_draw_4 22 rfl rfl
theorem dksX1_draw_6 : cX1_draw.data.toList.drop 139 = dktX1_draw_6 := dk_seg dksX1_draw_5 23 rfl rfl
theorem dksX1_draw_7 : cX1_draw.data.toList.drop 163 = dktX1_draw_7 := dk_seg dksX1_draw_6 24 rfl rfl
theorem dX1_draw_0 : decode cX1_draw 0 = .ok (.aload_n 0, 1) := dk_42 (dk_at dksX1_draw_0 0 rfl rfl)
theorem dX1_draw_1 : decode cX1_draw 1 = .ok (.getfield 18, 3) := dk_180 0 18 (dk_at dksX1_draw_0 1 rfl rfl)
theorem dX1_draw_4 : decode cX1_draw 4 = .ok (.aload_n 0, 1) := dk_42 (dk_at dksX1_draw_0 4 rfl rfl)
theorem dX1_draw_5 : decode cX1_draw 5 = .ok (.getfield 162, 3) := dk_180 0 162 (dk_at dksX1_draw_0 5 rfl rfl)
theorem dX1_draw_8 : decode cX1_draw 8 = .ok (.invokevirtual 188, 3) := dk_182 0 188 (dk_at dksX1_draw_0 8 rfl rfl)
theorem dX1_draw_11 : decode cX1_draw 11 = .ok (.iconst 0, 1) := dk_3 (dk_at dksX1_draw_0 11 rfl rfl)
theorem dX1_draw_12 : decode cX1_draw 12 = .ok (.istore_n 1, 1) := dk_60 (dk_at dksX1_draw_0 12 rfl rfl)
theorem dX1_draw_13 : decode cX1_draw 13 = .ok (.iload_n 1, 1) := dk_27 (dk_at dksX1_draw_0 13 rfl rfl)
theorem dX1_draw_14 : decode cX1_draw 14 = .ok (.aload_n 0, 1) := dk_42 (dk_at dksX1_draw_0 14 rfl rfl)
theorem dX1_draw_15 : decode cX1_draw 15 = .ok (.getfield 162, 3) := dk_180 0 162 (dk_at dksX1_draw_0 15 rfl rfl)
theorem dX1_draw_18 : decode cX1_draw 18 = .ok (.getfield 192, 3) := dk_180 0 192 (dk_at dksX1_draw_0 18 rfl rfl)
theorem dX1_draw_21 : decode cX1_draw 21 = .ok (.if_icmp .ge 58, 3) := dk_162 0 58 (dk_at dksX1_draw_0 21 rfl rfl)
theorem dX1_draw_24 : decode cX1_draw 24 = .ok (.iconst 0, 1) := dk_3 (dk_at dksX1_draw_1 0 rfl rfl)
theorem dX1_draw_25 : decode cX1_draw 25 = .ok (.istore_n 2, 1) := dk_61 (dk_at dksX1_draw_1 1 rfl rfl)
theorem dX1_draw_26 : decode cX1_draw 26 = .ok (.iload_n 2, 1) := dk_28 (dk_at dksX1_draw_1 2 rfl rfl)
theorem dX1_draw_27 : decode cX1_draw 27 = .ok (.aload_n 0, 1) := dk_42 (dk_at dksX1_draw_1 3 rfl rfl)
theorem dX1_draw_28 : decode cX1_draw 28 = .ok (.getfield 162, 3) := dk_180 0 162 (dk_at dksX1_draw_1 4 rfl rfl)
theorem dX1_draw_31 : decode cX1_draw 31 = .ok (.getfield 195, 3) := dk_180 0 195 (dk_at dksX1_draw_1 7 rfl rfl)
theorem dX1_draw_34 : decode cX1_draw 34 = .ok (.if_icmp .ge 39, 3) := dk_162 0 39 (dk_at dksX1_draw_1 10 rfl rfl)
theorem dX1_draw_37 : decode cX1_draw 37 = .ok (.aload_n 0, 1) := dk_42 (dk_at dksX1_draw_1 13 rfl rfl)
theorem dX1_draw_38 : decode cX1_draw 38 = .ok (.getfield 55, 3) := dk_180 0 55 (dk_at dksX1_draw_1 14 rfl rfl)
theorem dX1_draw_41 : decode cX1_draw 41 = .ok (.iload_n 1, 1) := dk_27 (dk_at dksX1_draw_1 17 rfl rfl)
theorem dX1_draw_42 : decode cX1_draw 42 = .ok (.sipush 144, 3) := dk_17 0 144 (dk_at dksX1_draw_1 18 rfl rfl)
theorem dX1_draw_45 : decode cX1_draw 45 = .ok (.imul, 1) := dk_104 (dk_at dksX1_draw_1 21 rfl rfl)
theorem dX1_draw_46 : decode cX1_draw 46 = .ok (.iload_n 2, 1) := dk_28 (dk_at dksX1_draw_1 22 rfl rfl)
theorem dX1_draw_47 : decode cX1_draw 47 = .ok (.iadd, 1) := dk_96 (dk_at dksX1_draw_1 23 rfl rfl)
theorem dX1_draw_48 : decode cX1_draw 48 = .ok (.aload_n 0, 1) := dk_42 (dk_at dksX1_draw_2 0 rfl rfl)
theorem dX1_draw_49 : decode cX1_draw 49 = .ok (.getfield 162, 3) := dk_180 0 162 (dk_at dksX1_draw_2 1 rfl rfl)
theorem dX1_draw_52 : decode cX1_draw 52 = .ok (.iload_n 1, 1) := dk_27 (dk_at dksX1_draw_2 4 rfl rfl)
theorem dX1_draw_53 : decode cX1_draw 53 = .ok (.iload_n 2, 1) := dk_28 (dk_at dksX1_draw_2 5 rfl rfl)
theorem dX1_draw_54 : decode cX1_draw 54 = .ok (.invokevirtual 198, 3) := dk_182 0 198 (dk_at dksX1_draw_2 6 rfl rfl)
theorem dX1_draw_57 : decode cX1_draw 57 = .ok (.iconst 1, 1) := dk_4 (dk_at dksX1_draw_2 9 rfl rfl)
theorem dX1_draw_58 : decode cX1_draw 58 = .ok (.if_icmp .ne 7, 3) := dk_160 0 7 (dk_at dksX1_draw_2 10 rfl rfl)
theorem dX1_draw_61 : decode cX1_draw 61 = .ok (.iconst 1, 1) := dk_4 (dk_at dksX1_draw_2 13 rfl rfl)
theorem dX1_draw_62 : decode cX1_draw 62 = .ok (.goto 4, 3) := dk_167 0 4 (dk_at dksX1_draw_2 14 rfl rfl)
theorem dX1_draw_65 : decode cX1_draw 65 = .ok (.iconst 0, 1) := dk_3 (dk_at dksX1_draw_2 17 rfl rfl)
theorem dX1_draw_66 : decode cX1_draw 66 = .ok (.bastore, 1) := dk_84 (dk_at dksX1_draw_2 18 rfl rfl)
theorem dX1_draw_67 : decode cX1_draw 67 = .ok (.iinc 2 1, 3) := dk_132 2 1 (dk_at dksX1_draw_2 19 rfl rfl)
theorem dX1_draw_70 : decode cX1_draw 70 = .ok (.goto (-44), 3) := dk_167 255 212 (dk_at dksX1_draw_3 0 rfl rfl)
theorem dX1_draw_73 : decode cX1_draw 73 = .ok (.iinc 1 1, 3) := dk_132 1 1 (dk_at dksX1_draw_3 3 rfl rfl)
theorem dX1_draw_76 : decode cX1_draw 76 = .ok (.goto (-63), 3) := dk_167 255 193 (dk_at dksX1_draw_3 6 rfl rfl)
theorem dX1_draw_79 : decode cX1_draw 79 = .ok (.iconst 0, 1) := dk_3 (dk_at dksX1_draw_3 9 rfl rfl)
theorem dX1_draw_80 : decode cX1_draw 80 = .ok (.istore_n 1, 1) := dk_60 (dk_at dksX1_draw_3 10 rfl rfl)
theorem dX1_draw_81 : decode cX1_draw 81 = .ok (.iload_n 1, 1) := dk_27 (dk_at dksX1_draw_3 11 rfl rfl)
theorem dX1_draw_82 : decode cX1_draw 82 = .ok (.aload_n 0, 1) := dk_42 (dk_at dksX1_draw_3 12 rfl rfl)
theorem dX1_draw_83 : decode cX1_draw 83 = .ok (.getfield 162, 3) := dk_180 0 162 (dk_at dksX1_draw_3 13 rfl rfl)
theorem dX1_draw_86 : decode cX1_draw 86 = .ok (.getfield 202, 3) := dk_180 0 202 (dk_at dksX1_draw_3 16 rfl rfl)
theorem dX1_draw_89 : decode cX1_draw 89 = .ok (.if_icmp .ge 20, 3) := dk_162 0 20 (dk_at dksX1_draw_3 19 rfl rfl)
theorem dX1_draw_92 : decode cX1_draw 92 = .ok (.aload_n 0, 1) := dk_42 (dk_at dksX1_draw_3 22 rfl rfl)
theorem dX1_draw_93 : decode cX1_draw 93 = .ok (.iload_n 1, 1) := dk_27 (dk_at dksX1_draw_3 23 rfl rfl)
theorem dX1_draw_94 : decode cX1_draw 94 = .ok (.aload_n 0, 1) := dk_42 (dk_at dksX1_draw_4 0 rfl rfl)
theorem dX1_draw_95 : decode cX1_draw 95 = .ok (.getfield 59, 3) := dk_180 0 59 (dk_at dksX1_draw_4 1 rfl rfl)
theorem dX1_draw_98 : decode cX1_draw 98 = .ok (.iload_n 1, 1) := dk_27 (dk_at dksX1_draw_4 4 rfl rfl)
theorem dX1_draw_99 : decode cX1_draw 99 = .ok (.iaload, 1) := dk_46 (dk_at dksX1_draw_4 5 rfl rfl)
theorem dX1_draw_100 : decode cX1_draw 100 = .ok (.invokevirtual 205, 3) := dk_182 0 205 (dk_at dksX1_draw_4 6 rfl rfl)
theorem dX1_draw_103 : decode cX1_draw 103 = .ok (.iinc 1 1, 3) := dk_132 1 1 (dk_at dksX1_draw_4 9 rfl rfl)
theorem dX1_draw_106 : decode cX1_draw 106 = .ok (.goto (-25), 3) := dk_167 255 231 (dk_at dksX1_draw_4 12 rfl rfl)
theorem dX1_draw_109 : decode cX1_draw 109 = .ok (.aload_n 0, 1) := dk_42 (dk_at dksX1_draw_4 15 rfl rfl)
theorem dX1_draw_110 : decode cX1_draw 110 = .ok (.getfield 18, 3) := dk_180 0 18 (dk_at dksX1_draw_4 16 rfl rfl)
theorem dX1_draw_113 : decode cX1_draw 113 = .ok (.getfield 207, 3) := dk_180 0 207 (dk_at dksX1_draw_4 19 rfl rfl)
theorem dX1_draw_116 : decode cX1_draw 116 = .ok (.ifCond .ne 4, 3) := dk_154 0 4 (dk_at dksX1_draw_5 0 rfl rfl)
theorem dX1_draw_119 : decode cX1_draw 119 = .ok (.return_, 1) := dk_177 (dk_at dksX1_draw_5 3 rfl rfl)
theorem dX1_draw_120 : decode cX1_draw 120 = .ok (.aload_n 0, 1) := dk_42 (dk_at dksX1_draw_5 4 rfl rfl)
theorem dX1_draw_121 : decode cX1_draw 121 = .ok (.getfield 162, 3) := dk_180 0 162 (dk_at dksX1_draw_5 5 rfl rfl)
theorem dX1_draw_124 : decode cX1_draw 124 = .ok (.getfield 210, 3) := dk_180 0 210 (dk_at dksX1_draw_5 8 rfl rfl)
theorem dX1_draw_127 : decode cX1_draw 127 = .ok (.aload_n 0, 1) := dk_42 (dk_at dksX1_draw_5 11 rfl rfl)
theorem dX1_draw_128 : decode cX1_draw 128 = .ok (.getfield 162, 3) := dk_180 0 162 (dk_at dksX1_draw_5 12 rfl rfl)
theorem dX1_draw_131 : decode cX1_draw 131 = .ok (.getfield 179, 3) := dk_180 0 179 (dk_at dksX1_draw_5 15 rfl rfl)
theorem dX1_draw_134 : decode cX1_draw 134 = .ok (.imul, 1) := dk_104 (dk_at dksX1_draw_5 18 rfl rfl)
theorem dX1_draw_135 : decode cX1_draw 135 = .ok (.iconst 1, 1) := dk_4 (dk_at dksX1_draw_5 19 rfl rfl)
theorem dX1_draw_136 : decode cX1_draw 136 = .ok (.isub, 1) := dk_100 (dk_at dksX1_draw_5 20 rfl rfl)
theorem dX1_draw_137 : decode cX1_draw 137 = .ok (.istore_n 1, 1) := dk_60 (dk_at dksX1_draw_5 21 rfl rfl)
theorem dX1_draw_138 : decode cX1_draw 138 = .ok (.aload_n 0, 1) := dk_42 (dk_at dksX1_draw_5 22 rfl rfl)
theorem dX1_draw_139 : decode cX1_draw 139 = .ok (.getfield 55, 3) := dk_180 0 55 (dk_at dksX1_draw_6 0 rfl rfl)
theorem dX1_draw_142 : decode cX1_draw 142 = .ok (.aload_n 0, 1) := dk_42 (dk_at dksX1_draw_6 3 rfl rfl)
theorem dX1_draw_143 : decode cX1_draw 143 = .ok (.iload_n 1, 1) := dk_27 (dk_at dksX1_draw_6 4 rfl rfl)
theorem dX1_draw_144 : decode cX1_draw 144 = .ok (.invokevirtual 213, 3) := dk_182 0 213 (dk_at dksX1_draw_6 5 rfl rfl)
theorem dX1_draw_147 : decode cX1_draw 147 = .ok (.iconst 1, 1) := dk_4 (dk_at dksX1_draw_6 8 rfl rfl)
theorem dX1_draw_148 : decode cX1_draw 148 = .ok (.bastore, 1) := dk_84 (dk_at dksX1_draw_6 9 rfl rfl)
theorem dX1_draw_149 : decode cX1_draw 149 = .ok (.aload_n 0, 1) := dk_42 (dk_at dksX1_draw_6 10 rfl rfl)
theorem dX1_draw_150 : decode cX1_draw 150 = .ok (.getfield 55, 3) := dk_180 0 55 (dk_at dksX1_draw_6 11 rfl rfl)
theorem dX1_draw_153 : decode cX1_draw 153 = .ok (.aload_n 0, 1) := dk_42 (dk_at dksX1_draw_6 14 rfl rfl)
theorem dX1_draw_154 : decode cX1_draw 154 = .ok (.iload_n 1, 1) := dk_27 (dk_at dksX1_draw_6 15 rfl rfl)
theorem dX1_draw_155 : decode cX1_draw 155 = .ok (.aload_n 0, 1) := dk_42 (dk_at dksX1_draw_6 16 rfl rfl)
theorem dX1_draw_156 : decode cX1_draw 156 = .ok (.getfield 162, 3) := dk_180 0 162 (dk_at dksX1_draw_6 17 rfl rfl)
theorem dX1_draw_159 : decode cX1_draw 159 = .ok (.getfield 179, 3) := dk_180 0 179 (dk_at dksX1_draw_6 20 rfl rfl)
theorem dX1_draw_162 : decode cX1_draw 162 = .ok (.isub, 1) := dk_100 (dk_at dksX1_draw_6 23 rfl rfl)
theorem dX1_draw_163 : decode cX1_draw 163 = .ok (.iconst 1, 1) := dk_4 (dk_at dksX1_draw_7 0 rfl rfl)
theorem dX1_draw_164 : decode cX1_draw 164 = .ok (.isub, 1) := dk_100 (dk_at dksX1_draw_7 1 rfl rfl)
theorem dX1_draw_165 : decode cX1_draw 165 = .ok (.invokevirtual 213, 3) := dk_182 0 213 (dk_at dksX1_draw_7 2 rfl rfl)
theorem dX1_draw_168 : decode cX1_draw 168 = .ok (.iconst 1, 1) := dk_4 (dk_at dksX1_draw_7 5 rfl rfl)
theorem dX1_draw_169 : decode cX1_draw 169 = .ok (.bastore, 1) := dk_84 (dk_at dksX1_draw_7 6 rfl rfl)
theorem dX1_draw_170 : decode cX1_draw 170 = .ok (.return_, 1) := dk_177 (dk_at dksX1_draw_7 7 rfl rfl)
abbrev cX1_write : ByteArray := prog_1_method_9_code
def yX1_write : MethodName := ⟨RX1, "write", "(II)V"⟩
def dkwX1_write_2 : List UInt8 := [132, 3, 1, 167, 255, 207, 177]
abbrev dktX1_write_2 : List UInt8 := dkwX1_write_2 ++ []
def dkwX1_write_1 : List UInt8 := [29, 96, 46, 182, 0, 213, 28, 16, 7, 29, 100, 122, 4, 126, 4, 160, 0, 7, 4, 167, 0, 4, 3, 84]
abbrev dktX1_write_1 : List UInt8 := dkwX1_write_1 ++ dktX1_write_2
def dkwX1_write_0 : List UInt8 := [3, 62, 29, 16, 8, 162, 0, 49, 42, 180, 0, 55, 42, 42, 180, 0, 18, 180, 0, 216, 16, 8, 27, 104]
abbrev dktX1_write_0 : List UInt8 := dkwX1_write_0 ++ dktX1_write_1
theorem dksX1_write_0 : cX1_write.data.toList.drop 0 = dktX1_write_0 := by decide +kernel
theorem dksX1_write_1 : cX1_write.data.toList.drop 24 = dktX1_write_1 := dk_seg dksX1_write_0 24 rfl rfl
theorem dksX1_write_2 : cX1_write.data.toList.drop 48 = dktX1_write_2 := dk_seg dksX1_write_1 24 rfl rfl
theorem dX1_write_0 : decode cX1_write 0 = .ok (.iconst 0, 1) := dk_3 (dk_at dksX1_write_0 0 rfl rfl)
theorem dX1_write_1 : decode cX1_write 1 = .ok (.istore_n 3, 1) := dk_62 (dk_at dksX1_write_0 1 rfl rfl)
theorem dX1_write_2 : decode cX1_write 2 = .ok (.iload_n 3, 1) := dk_29 (dk_at dksX1_write_0 2 rfl rfl)
theorem dX1_write_3 : decode cX1_write 3 = .ok (.bipush 8, 2) := dk_16 8 (dk_at dksX1_write_0 3 rfl rfl)
theorem dX1_write_5 : decode cX1_write 5 = .ok (.if_icmp .ge 49, 3) := dk_162 0 49 (dk_at dksX1_write_0 5 rfl rfl)
theorem dX1_write_8 : decode cX1_write 8 = .ok (.aload_n 0, 1) := dk_42 (dk_at dksX1_write_0 8 rfl rfl)
theorem dX1_write_9 : decode cX1_write 9 = .ok (.getfield 55, 3) := dk_180 0 55 (dk_at dksX1_write_0 9 rfl rfl)
theorem dX1_write_12 : decode cX1_write 12 = .ok (.aload_n 0, 1) := dk_42 (dk_at dksX1_write_0 12 rfl rfl)
theorem dX1_write_13 : decode cX1_write 13 = .ok (.aload_n 0, 1) := dk_42 (dk_at dksX1_write_0 13 rfl rfl)
theorem dX1_write_14 : decode cX1_write 14 = .ok (.getfield 18, 3) := dk_180 0 18 (dk_at dksX1_write_0 14 rfl rfl)
theorem dX1_write_17 : decode cX1_write 17 = .ok (.getfield 216, 3) := dk_180 0 216 (dk_at dksX1_write_0 17 rfl rfl)
theorem dX1_write_20 : decode cX1_write 20 = .ok (.bipush 8, 2) := dk_16 8 (dk_at dksX1_write_0 20 rfl rfl)
theorem dX1_write_22 : decode cX1_write 22 = .ok (.iload_n 1, 1) := dk_27 (dk_at dksX1_write_0 22 rfl rfl)
theorem dX1_write_23 : decode cX1_write 23 = .ok (.imul, 1) := dk_104 (dk_at dksX1_write_0 23 rfl rfl)
theorem dX1_write_24 : decode cX1_write 24 = .ok (.iload_n 3, 1) := dk_29 (dk_at dksX1_write_1 0 rfl rfl)
theorem dX1_write_25 : decode cX1_write 25 = .ok (.iadd, 1) := dk_96 (dk_at dksX1_write_1 1 rfl rfl)
theorem dX1_write_26 : decode cX1_write 26 = .ok (.iaload, 1) := dk_46 (dk_at dksX1_write_1 2 rfl rfl)
theorem dX1_write_27 : decode cX1_write 27 = .ok (.invokevirtual 213, 3) := dk_182 0 213 (dk_at dksX1_write_1 3 rfl rfl)
theorem dX1_write_30 : decode cX1_write 30 = .ok (.iload_n 2, 1) := dk_28 (dk_at dksX1_write_1 6 rfl rfl)
theorem dX1_write_31 : decode cX1_write 31 = .ok (.bipush 7, 2) := dk_16 7 (dk_at dksX1_write_1 7 rfl rfl)
theorem dX1_write_33 : decode cX1_write 33 = .ok (.iload_n 3, 1) := dk_29 (dk_at dksX1_write_1 9 rfl rfl)
theorem dX1_write_34 : decode cX1_write 34 = .ok (.isub, 1) := dk_100 (dk_at dksX1_write_1 10 rfl rfl)
theorem dX1_write_35 : decode cX1_write 35 = .ok (.ishr, 1) := dk_122 (dk_at dksX1_write_1 11 rfl rfl)
theorem dX1_write_36 : decode cX1_write 36 = .ok (.iconst 1, 1) := dk_4 (dk_at dksX1_write_1 12 rfl rfl)
theorem dX1_write_37 : decode cX1_write 37 = .ok (.iand, 1) := dk_126 (dk_at dksX1_write_1 13 rfl rfl)
theorem dX1_write_38 : decode cX1_write 38 = .ok (.iconst 1, 1) := dk_4 (dk_at dksX1_write_1 14 rfl rfl)
theorem dX1_write_39 : decode cX1_write 39 = .ok (.if_icmp .ne 7, 3) := dk_160 0 7 (dk_at dksX1_write_1 15 rfl rfl)
theorem dX1_write_42 : decode cX1_write 42 = .ok (.iconst 1, 1) := dk_4 (dk_at dksX1_write_1 18 rfl rfl)
theorem dX1_write_43 : decode cX1_write 43 = .ok (.goto 4, 3) := dk_167 0 4 (dk_at dksX1_write_1 19 rfl rfl)
theorem dX1_write_46 : decode cX1_write 46 = .ok (.iconst 0, 1) := dk_3 (dk_at dksX1_write_1 22 rfl rfl)
theorem dX1_write_47 : decode cX1_write 47 = .ok (.bastore, 1) := dk_84 (dk_at dksX1_write_1 23 rfl rfl)
theorem dX1_write_48 : decode cX1_write 48 = .ok (.iinc 3 1, 3) := dk_132 3 1 (dk_at dksX1_write_2 0 rfl rfl)
theorem dX1_write_51 : decode cX1_write 51 = .ok (.goto (-49), 3) := dk_167 255 207 (dk_at dksX1_write_2 3 rfl rfl)
theorem dX1_write_54 : decode cX1_write 54 = .ok (.return_, 1) := dk_177 (dk_at dksX1_write_2 6 rfl rfl)
abbrev cX1_place : ByteArray := prog_1_method_7_code
def yX1_place : MethodName := ⟨RX1, "place", "(I)I"⟩
def dkwX1_place_1 : List UInt8 := [27, 42, 180, 0, 162, 180, 0, 179, 112, 182, 0, 185, 96, 172]
abbrev dktX1_place_1 : List UInt8 := dkwX1_place_1 ++ []
def dkwX1_place_0 : List UInt8 := [42, 180, 0, 162, 27, 42, 180, 0, 162, 180, 0, 179, 108, 182, 0, 182, 17, 0, 144, 104, 42, 180, 0, 162]
abbrev dktX1_place_0 : List UInt8 := dkwX1_place_0 ++ dktX1_place_1
theorem dksX1_place_0 : cX1_place.data.toList.drop 0 = dktX1_place_0 := by decide +kernel
theorem dksX1_place_1 : cX1_place.data.toList.drop 24 = dktX1_place_1 := dk_seg dksX1_place_0 24 rfl rfl
theorem dX1_place_0 : decode cX1_place 0 = .ok (.aload_n 0, 1) := dk_42 (dk_at dksX1_place_0 0 rfl rfl)
theorem dX1_place_1 : decode cX1_place 1 = .ok (.getfield 162, 3) := dk_180 0 162 (dk_at dksX1_place_0 1 rfl rfl)
theorem dX1_place_4 : decode cX1_place 4 = .ok (.iload_n 1, 1) := dk_27 (dk_at dksX1_place_0 4 rfl rfl)
theorem dX1_place_5 : decode cX1_place 5 = .ok (.aload_n 0, 1) := dk_42 (dk_at dksX1_place_0 5 rfl rfl)
theorem dX1_place_6 : decode cX1_place 6 = .ok (.getfield 162, 3) := dk_180 0 162 (dk_at dksX1_place_0 6 rfl rfl)
theorem dX1_place_9 : decode cX1_place 9 = .ok (.getfield 179, 3) := dk_180 0 179 (dk_at dksX1_place_0 9 rfl rfl)
theorem dX1_place_12 : decode cX1_place 12 = .ok (.idiv, 1) := dk_108 (dk_at dksX1_place_0 12 rfl rfl)
theorem dX1_place_13 : decode cX1_place 13 = .ok (.invokevirtual 182, 3) := dk_182 0 182 (dk_at dksX1_place_0 13 rfl rfl)
theorem dX1_place_16 : decode cX1_place 16 = .ok (.sipush 144, 3) := dk_17 0 144 (dk_at dksX1_place_0 16 rfl rfl)
theorem dX1_place_19 : decode cX1_place 19 = .ok (.imul, 1) := dk_104 (dk_at dksX1_place_0 19 rfl rfl)
theorem dX1_place_20 : decode cX1_place 20 = .ok (.aload_n 0, 1) := dk_42 (dk_at dksX1_place_0 20 rfl rfl)
theorem dX1_place_21 : decode cX1_place 21 = .ok (.getfield 162, 3) := dk_180 0 162 (dk_at dksX1_place_0 21 rfl rfl)
theorem dX1_place_24 : decode cX1_place 24 = .ok (.iload_n 1, 1) := dk_27 (dk_at dksX1_place_1 0 rfl rfl)
theorem dX1_place_25 : decode cX1_place 25 = .ok (.aload_n 0, 1) := dk_42 (dk_at dksX1_place_1 1 rfl rfl)
theorem dX1_place_26 : decode cX1_place 26 = .ok (.getfield 162, 3) := dk_180 0 162 (dk_at dksX1_place_1 2 rfl rfl)
theorem dX1_place_29 : decode cX1_place 29 = .ok (.getfield 179, 3) := dk_180 0 179 (dk_at dksX1_place_1 5 rfl rfl)
theorem dX1_place_32 : decode cX1_place 32 = .ok (.irem, 1) := dk_112 (dk_at dksX1_place_1 8 rfl rfl)
theorem dX1_place_33 : decode cX1_place 33 = .ok (.invokevirtual 185, 3) := dk_182 0 185 (dk_at dksX1_place_1 9 rfl rfl)
theorem dX1_place_36 : decode cX1_place 36 = .ok (.iadd, 1) := dk_96 (dk_at dksX1_place_1 12 rfl rfl)
theorem dX1_place_37 : decode cX1_place 37 = .ok (.ireturn, 1) := dk_172 (dk_at dksX1_place_1 13 rfl rfl)
abbrev cX1_stream : ByteArray := prog_1_method_13_code
def yX1_stream : MethodName := ⟨RX1, "stream", "(I)I"⟩
def dkwX1_stream_3 : List UInt8 := [42, 180, 0, 244, 167, 0, 4, 2, 172]
abbrev dktX1_stream_3 : List UInt8 := dkwX1_stream_3 ++ []
def dkwX1_stream_2 : List UInt8 := [180, 0, 48, 29, 51, 17, 0, 255, 126, 79, 132, 3, 1, 167, 255, 232, 42, 28, 182, 0, 250, 153, 0, 10]
abbrev dktX1_stream_2 : List UInt8 := dkwX1_stream_2 ++ dktX1_stream_3
def dkwX1_stream_1 : List UInt8 := [50, 180, 0, 107, 159, 0, 6, 16, 254, 172, 3, 62, 29, 28, 162, 0, 25, 42, 180, 0, 59, 29, 42]
abbrev dktX1_stream_1 : List UInt8 := dkwX1_stream_1 ++ dktX1_stream_2
def dkwX1_stream_0 : List UInt8 := [42, 182, 0, 99, 61, 27, 155, 0, 9, 27, 16, 30, 161, 0, 6, 16, 253, 172, 28, 42, 180, 0, 11, 27]
abbrev dktX1_stream_0 : List UInt8 := dkwX1_stream_0 ++ dktX1_stream_1
theorem dksX1_stream_0 : cX1_stream.data.toList.drop 0 = dktX1_stream_0 := by decide +kernel
theorem dksX1_stream_1 : cX1_stream.data.toList.drop 24 = dktX1_stream_1 := dk_seg dksX1_stream_0 24 rfl rfl
theorem dksX1_stream_2 : cX1_stream.data.toList.drop 47 = dktX1_stream_2 := dk_seg dksX1_stream_1 23 rfl rfl
theorem dksX1_stream_3 : cX1_stream.data.toList.drop 71 = dktX1_stream_3 := dk_seg dksX1_stream_2 24 rfl rfl
theorem dX1_stream_0 : decode cX1_stream 0 = .ok (.aload_n 0, 1) := dk_42 (dk_at dksX1_stream_0 0 rfl rfl)
theorem dX1_stream_1 : decode cX1_stream 1 = .ok (.invokevirtual 99, 3) := dk_182 0 99 (dk_at dksX1_stream_0 1 rfl rfl)
theorem dX1_stream_4 : decode cX1_stream 4 = .ok (.istore_n 2, 1) := dk_61 (dk_at dksX1_stream_0 4 rfl rfl)
theorem dX1_stream_5 : decode cX1_stream 5 = .ok (.iload_n 1, 1) := dk_27 (dk_at dksX1_stream_0 5 rfl rfl)
theorem dX1_stream_6 : decode cX1_stream 6 = .ok (.ifCond .lt 9, 3) := dk_155 0 9 (dk_at dksX1_stream_0 6 rfl rfl)
theorem dX1_stream_9 : decode cX1_stream 9 = .ok (.iload_n 1, 1) := dk_27 (dk_at dksX1_stream_0 9 rfl rfl)
theorem dX1_stream_10 : decode cX1_stream 10 = .ok (.bipush 30, 2) := dk_16 30 (dk_at dksX1_stream_0 10 rfl rfl)
theorem dX1_stream_12 : decode cX1_stream 12 = .ok (.if_icmp .lt 6, 3) := dk_161 0 6 (dk_at dksX1_stream_0 12 rfl rfl)
theorem dX1_stream_15 : decode cX1_stream 15 = .ok (.bipush (-3), 2) := dk_16 253 (dk_at dksX1_stream_0 15 rfl rfl)
theorem dX1_stream_17 : decode cX1_stream 17 = .ok (.ireturn, 1) := dk_172 (dk_at dksX1_stream_0 17 rfl rfl)
theorem dX1_stream_18 : decode cX1_stream 18 = .ok (.iload_n 2, 1) := dk_28 (dk_at dksX1_stream_0 18 rfl rfl)
theorem dX1_stream_19 : decode cX1_stream 19 = .ok (.aload_n 0, 1) := dk_42 (dk_at dksX1_stream_0 19 rfl rfl)
theorem dX1_stream_20 : decode cX1_stream 20 = .ok (.getfield 11, 3) := dk_180 0 11 (dk_at dksX1_stream_0 20 rfl rfl)
theorem dX1_stream_23 : decode cX1_stream 23 = .ok (.iload_n 1, 1) := dk_27 (dk_at dksX1_stream_0 23 rfl rfl)
theorem dX1_stream_24 : decode cX1_stream 24 = .ok (.aaload, 1) := dk_50 (dk_at dksX1_stream_1 0 rfl rfl)
theorem dX1_stream_25 : decode cX1_stream 25 = .ok (.getfield 107, 3) := dk_180 0 107 (dk_at dksX1_stream_1 1 rfl rfl)
theorem dX1_stream_28 : decode cX1_stream 28 = .ok (.if_icmp .eq 6, 3) := dk_159 0 6 (dk_at dksX1_stream_1 4 rfl rfl)
theorem dX1_stream_31 : decode cX1_stream 31 = .ok (.bipush (-2), 2) := dk_16 254 (dk_at dksX1_stream_1 7 rfl rfl)
theorem dX1_stream_33 : decode cX1_stream 33 = .ok (.ireturn, 1) := dk_172 (dk_at dksX1_stream_1 9 rfl rfl)
theorem dX1_stream_34 : decode cX1_stream 34 = .ok (.iconst 0, 1) := dk_3 (dk_at dksX1_stream_1 10 rfl rfl)
theorem dX1_stream_35 : decode cX1_stream 35 = .ok (.istore_n 3, 1) := dk_62 (dk_at dksX1_stream_1 11 rfl rfl)
theorem dX1_stream_36 : decode cX1_stream 36 = .ok (.iload_n 3, 1) := dk_29 (dk_at dksX1_stream_1 12 rfl rfl)
theorem dX1_stream_37 : decode cX1_stream 37 = .ok (.iload_n 2, 1) := dk_28 (dk_at dksX1_stream_1 13 rfl rfl)
theorem dX1_stream_38 : decode cX1_stream 38 = .ok (.if_icmp .ge 25, 3) := dk_162 0 25 (dk_at dksX1_stream_1 14 rfl rfl)
theorem dX1_stream_41 : decode cX1_stream 41 = .ok (.aload_n 0, 1) := dk_42 (dk_at dksX1_stream_1 17 rfl rfl)
theorem dX1_stream_42 : decode cX1_stream 42 = .ok (.getfield 59, 3) := dk_180 0 59 (dk_at dksX1_stream_1 18 rfl rfl)
theorem dX1_stream_45 : decode cX1_stream 45 = .ok (.iload_n 3, 1) := dk_29 (dk_at dksX1_stream_1 21 rfl rfl)
theorem dX1_stream_46 : decode cX1_stream 46 = .ok (.aload_n 0, 1) := dk_42 (dk_at dksX1_stream_1 22 rfl rfl)
theorem dX1_stream_47 : decode cX1_stream 47 = .ok (.getfield 48, 3) := dk_180 0 48 (dk_at dksX1_stream_2 0 rfl rfl)
theorem dX1_stream_50 : decode cX1_stream 50 = .ok (.iload_n 3, 1) := dk_29 (dk_at dksX1_stream_2 3 rfl rfl)
theorem dX1_stream_51 : decode cX1_stream 51 = .ok (.baload, 1) := dk_51 (dk_at dksX1_stream_2 4 rfl rfl)
theorem dX1_stream_52 : decode cX1_stream 52 = .ok (.sipush 255, 3) := dk_17 0 255 (dk_at dksX1_stream_2 5 rfl rfl)
theorem dX1_stream_55 : decode cX1_stream 55 = .ok (.iand, 1) := dk_126 (dk_at dksX1_stream_2 8 rfl rfl)
theorem dX1_stream_56 : decode cX1_stream 56 = .ok (.iastore, 1) := dk_79 (dk_at dksX1_stream_2 9 rfl rfl)
theorem dX1_stream_57 : decode cX1_stream 57 = .ok (.iinc 3 1, 3) := dk_132 3 1 (dk_at dksX1_stream_2 10 rfl rfl)
theorem dX1_stream_60 : decode cX1_stream 60 = .ok (.goto (-24), 3) := dk_167 255 232 (dk_at dksX1_stream_2 13 rfl rfl)
theorem dX1_stream_63 : decode cX1_stream 63 = .ok (.aload_n 0, 1) := dk_42 (dk_at dksX1_stream_2 16 rfl rfl)
theorem dX1_stream_64 : decode cX1_stream 64 = .ok (.iload_n 2, 1) := dk_28 (dk_at dksX1_stream_2 17 rfl rfl)
theorem dX1_stream_65 : decode cX1_stream 65 = .ok (.invokevirtual 250, 3) := dk_182 0 250 (dk_at dksX1_stream_2 18 rfl rfl)
theorem dX1_stream_68 : decode cX1_stream 68 = .ok (.ifCond .eq 10, 3) := dk_153 0 10 (dk_at dksX1_stream_2 21 rfl rfl)
theorem dX1_stream_71 : decode cX1_stream 71 = .ok (.aload_n 0, 1) := dk_42 (dk_at dksX1_stream_3 0 rfl rfl)
theorem dX1_stream_72 : decode cX1_stream 72 = .ok (.getfield 244, 3) := dk_180 0 244 (dk_at dksX1_stream_3 1 rfl rfl)
theorem dX1_stream_75 : decode cX1_stream 75 = .ok (.goto 4, 3) := dk_167 0 4 (dk_at dksX1_stream_3 4 rfl rfl)
theorem dX1_stream_78 : decode cX1_stream 78 = .ok (.iconst (-1), 1) := dk_2 (dk_at dksX1_stream_3 7 rfl rfl)
theorem dX1_stream_79 : decode cX1_stream 79 = .ok (.ireturn, 1) := dk_172 (dk_at dksX1_stream_3 8 rfl rfl)
abbrev cX1_tells : ByteArray := prog_1_method_12_code
def yX1_tells : MethodName := ⟨RX1, "tells", "(I)Z"⟩
def dkwX1_tells_4 : List UInt8 := [4, 172]
abbrev dktX1_tells_4 : List UInt8 := dkwX1_tells_4 ++ []
def dkwX1_tells_3 : List UInt8 := [162, 0, 24, 42, 180, 0, 52, 28, 42, 180, 0, 32, 180, 0, 247, 28, 51, 84, 132, 2, 1, 167, 255, 230]
abbrev dktX1_tells_3 : List UInt8 := dkwX1_tells_3 ++ dktX1_tells_4
def dkwX1_tells_2 : List UInt8 := [167, 0, 6, 77, 3, 172, 42, 42, 180, 0, 32, 180, 0, 241, 181, 0, 244, 3, 61, 28, 42, 180, 0, 244]
abbrev dktX1_tells_2 : List UInt8 := dkwX1_tells_2 ++ dktX1_tells_3
def dkwX1_tells_1 : List UInt8 := [180, 0, 59, 28, 46, 79, 132, 2, 1, 167, 255, 233, 42, 180, 0, 32, 42, 180, 0, 44, 182, 0, 236]
abbrev dktX1_tells_1 : List UInt8 := dkwX1_tells_1 ++ dktX1_tells_2
def dkwX1_tells_0 : List UInt8 := [42, 180, 0, 32, 27, 182, 0, 234, 3, 61, 28, 27, 162, 0, 24, 42, 180, 0, 32, 180, 0, 141, 28, 42]
abbrev dktX1_tells_0 : List UInt8 := dkwX1_tells_0 ++ dktX1_tells_1
theorem dksX1_tells_0 : cX1_tells.data.toList.drop 0 = dktX1_tells_0 := by decide +kernel
theorem dksX1_tells_1 : cX1_tells.data.toList.drop 24 = dktX1_tells_1 := dk_seg dksX1_tells_0 24 rfl rfl
theorem dksX1_tells_2 : cX1_tells.data.toList.drop 47 = dktX1_tells_2 := dk_seg dksX1_tells_1 23 rfl rfl
theorem dksX1_tells_3 : cX1_tells.data.toList.drop 71 = dktX1_tells_3 := dk_seg dksX1_tells_2 24 rfl rfl
theorem dksX1_tells_4 : cX1_tells.data.toList.drop 95 = dktX1_tells_4 := dk_seg dksX1_tells_3 24 rfl rfl
theorem dX1_tells_0 : decode cX1_tells 0 = .ok (.aload_n 0, 1) := dk_42 (dk_at dksX1_tells_0 0 rfl rfl)
theorem dX1_tells_1 : decode cX1_tells 1 = .ok (.getfield 32, 3) := dk_180 0 32 (dk_at dksX1_tells_0 1 rfl rfl)
theorem dX1_tells_4 : decode cX1_tells 4 = .ok (.iload_n 1, 1) := dk_27 (dk_at dksX1_tells_0 4 rfl rfl)
theorem dX1_tells_5 : decode cX1_tells 5 = .ok (.invokevirtual 234, 3) := dk_182 0 234 (dk_at dksX1_tells_0 5 rfl rfl)
theorem dX1_tells_8 : decode cX1_tells 8 = .ok (.iconst 0, 1) := dk_3 (dk_at dksX1_tells_0 8 rfl rfl)
theorem dX1_tells_9 : decode cX1_tells 9 = .ok (.istore_n 2, 1) := dk_61 (dk_at dksX1_tells_0 9 rfl rfl)
theorem dX1_tells_10 : decode cX1_tells 10 = .ok (.iload_n 2, 1) := dk_28 (dk_at dksX1_tells_0 10 rfl rfl)
theorem dX1_tells_11 : decode cX1_tells 11 = .ok (.iload_n 1, 1) := dk_27 (dk_at dksX1_tells_0 11 rfl rfl)
theorem dX1_tells_12 : decode cX1_tells 12 = .ok (.if_icmp .ge 24, 3) := dk_162 0 24 (dk_at dksX1_tells_0 12 rfl rfl)
theorem dX1_tells_15 : decode cX1_tells 15 = .ok (.aload_n 0, 1) := dk_42 (dk_at dksX1_tells_0 15 rfl rfl)
theorem dX1_tells_16 : decode cX1_tells 16 = .ok (.getfield 32, 3) := dk_180 0 32 (dk_at dksX1_tells_0 16 rfl rfl)
theorem dX1_tells_19 : decode cX1_tells 19 = .ok (.getfield 141, 3) := dk_180 0 141 (dk_at dksX1_tells_0 19 rfl rfl)
theorem dX1_tells_22 : decode cX1_tells 22 = .ok (.iload_n 2, 1) := dk_28 (dk_at dksX1_tells_0 22 rfl rfl)
theorem dX1_tells_23 : decode cX1_tells 23 = .ok (.aload_n 0, 1) := dk_42 (dk_at dksX1_tells_0 23 rfl rfl)
theorem dX1_tells_24 : decode cX1_tells 24 = .ok (.getfield 59, 3) := dk_180 0 59 (dk_at dksX1_tells_1 0 rfl rfl)
theorem dX1_tells_27 : decode cX1_tells 27 = .ok (.iload_n 2, 1) := dk_28 (dk_at dksX1_tells_1 3 rfl rfl)
theorem dX1_tells_28 : decode cX1_tells 28 = .ok (.iaload, 1) := dk_46 (dk_at dksX1_tells_1 4 rfl rfl)
theorem dX1_tells_29 : decode cX1_tells 29 = .ok (.iastore, 1) := dk_79 (dk_at dksX1_tells_1 5 rfl rfl)
theorem dX1_tells_30 : decode cX1_tells 30 = .ok (.iinc 2 1, 3) := dk_132 2 1 (dk_at dksX1_tells_1 6 rfl rfl)
theorem dX1_tells_33 : decode cX1_tells 33 = .ok (.goto (-23), 3) := dk_167 255 233 (dk_at dksX1_tells_1 9 rfl rfl)
theorem dX1_tells_36 : decode cX1_tells 36 = .ok (.aload_n 0, 1) := dk_42 (dk_at dksX1_tells_1 12 rfl rfl)
theorem dX1_tells_37 : decode cX1_tells 37 = .ok (.getfield 32, 3) := dk_180 0 32 (dk_at dksX1_tells_1 13 rfl rfl)
theorem dX1_tells_40 : decode cX1_tells 40 = .ok (.aload_n 0, 1) := dk_42 (dk_at dksX1_tells_1 16 rfl rfl)
theorem dX1_tells_41 : decode cX1_tells 41 = .ok (.getfield 44, 3) := dk_180 0 44 (dk_at dksX1_tells_1 17 rfl rfl)
theorem dX1_tells_44 : decode cX1_tells 44 = .ok (.invokevirtual 236, 3) := dk_182 0 236 (dk_at dksX1_tells_1 20 rfl rfl)
theorem dX1_tells_47 : decode cX1_tells 47 = .ok (.goto 6, 3) := dk_167 0 6 (dk_at dksX1_tells_2 0 rfl rfl)
theorem dX1_tells_50 : decode cX1_tells 50 = .ok (.astore_n 2, 1) := dk_77 (dk_at dksX1_tells_2 3 rfl rfl)
theorem dX1_tells_51 : decode cX1_tells 51 = .ok (.iconst 0, 1) := dk_3 (dk_at dksX1_tells_2 4 rfl rfl)
theorem dX1_tells_52 : decode cX1_tells 52 = .ok (.ireturn, 1) := dk_172 (dk_at dksX1_tells_2 5 rfl rfl)
theorem dX1_tells_53 : decode cX1_tells 53 = .ok (.aload_n 0, 1) := dk_42 (dk_at dksX1_tells_2 6 rfl rfl)
theorem dX1_tells_54 : decode cX1_tells 54 = .ok (.aload_n 0, 1) := dk_42 (dk_at dksX1_tells_2 7 rfl rfl)
theorem dX1_tells_55 : decode cX1_tells 55 = .ok (.getfield 32, 3) := dk_180 0 32 (dk_at dksX1_tells_2 8 rfl rfl)
theorem dX1_tells_58 : decode cX1_tells 58 = .ok (.getfield 241, 3) := dk_180 0 241 (dk_at dksX1_tells_2 11 rfl rfl)
theorem dX1_tells_61 : decode cX1_tells 61 = .ok (.putfield 244, 3) := dk_181 0 244 (dk_at dksX1_tells_2 14 rfl rfl)
theorem dX1_tells_64 : decode cX1_tells 64 = .ok (.iconst 0, 1) := dk_3 (dk_at dksX1_tells_2 17 rfl rfl)
theorem dX1_tells_65 : decode cX1_tells 65 = .ok (.istore_n 2, 1) := dk_61 (dk_at dksX1_tells_2 18 rfl rfl)
theorem dX1_tells_66 : decode cX1_tells 66 = .ok (.iload_n 2, 1) := dk_28 (dk_at dksX1_tells_2 19 rfl rfl)
theorem dX1_tells_67 : decode cX1_tells 67 = .ok (.aload_n 0, 1) := dk_42 (dk_at dksX1_tells_2 20 rfl rfl)
theorem dX1_tells_68 : decode cX1_tells 68 = .ok (.getfield 244, 3) := dk_180 0 244 (dk_at dksX1_tells_2 21 rfl rfl)
theorem dX1_tells_71 : decode cX1_tells 71 = .ok (.if_icmp .ge 24, 3) := dk_162 0 24 (dk_at dksX1_tells_3 0 rfl rfl)
theorem dX1_tells_74 : decode cX1_tells 74 = .ok (.aload_n 0, 1) := dk_42 (dk_at dksX1_tells_3 3 rfl rfl)
theorem dX1_tells_75 : decode cX1_tells 75 = .ok (.getfield 52, 3) := dk_180 0 52 (dk_at dksX1_tells_3 4 rfl rfl)
theorem dX1_tells_78 : decode cX1_tells 78 = .ok (.iload_n 2, 1) := dk_28 (dk_at dksX1_tells_3 7 rfl rfl)
theorem dX1_tells_79 : decode cX1_tells 79 = .ok (.aload_n 0, 1) := dk_42 (dk_at dksX1_tells_3 8 rfl rfl)
theorem dX1_tells_80 : decode cX1_tells 80 = .ok (.getfield 32, 3) := dk_180 0 32 (dk_at dksX1_tells_3 9 rfl rfl)
theorem dX1_tells_83 : decode cX1_tells 83 = .ok (.getfield 247, 3) := dk_180 0 247 (dk_at dksX1_tells_3 12 rfl rfl)
theorem dX1_tells_86 : decode cX1_tells 86 = .ok (.iload_n 2, 1) := dk_28 (dk_at dksX1_tells_3 15 rfl rfl)
theorem dX1_tells_87 : decode cX1_tells 87 = .ok (.baload, 1) := dk_51 (dk_at dksX1_tells_3 16 rfl rfl)
theorem dX1_tells_88 : decode cX1_tells 88 = .ok (.bastore, 1) := dk_84 (dk_at dksX1_tells_3 17 rfl rfl)
theorem dX1_tells_89 : decode cX1_tells 89 = .ok (.iinc 2 1, 3) := dk_132 2 1 (dk_at dksX1_tells_3 18 rfl rfl)
theorem dX1_tells_92 : decode cX1_tells 92 = .ok (.goto (-26), 3) := dk_167 255 230 (dk_at dksX1_tells_3 21 rfl rfl)
theorem dX1_tells_95 : decode cX1_tells 95 = .ok (.iconst 1, 1) := dk_4 (dk_at dksX1_tells_4 0 rfl rfl)
theorem dX1_tells_96 : decode cX1_tells 96 = .ok (.ireturn, 1) := dk_172 (dk_at dksX1_tells_4 1 rfl rfl)
abbrev cX1_load : ByteArray := prog_1_method_14_code
def yX1_load : MethodName := ⟨RX1, "load", "(I)Z"⟩
def dkwX1_load_5 : List UInt8 := [112, 100, 122, 4, 126, 4, 160, 0, 7, 4, 167, 0, 4, 3, 84, 132, 3, 1, 167, 255, 178, 4, 172]
abbrev dktX1_load_5 : List UInt8 := dkwX1_load_5 ++ []
def dkwX1_load_4 : List UInt8 := [29, 42, 180, 0, 162, 180, 0, 195, 112, 96, 42, 180, 0, 48, 29, 16, 8, 108, 51, 16, 7, 29, 16, 8]
abbrev dktX1_load_4 : List UInt8 := dkwX1_load_4 ++ dktX1_load_5
def dkwX1_load_3 : List UInt8 := [180, 0, 195, 104, 162, 0, 65, 42, 180, 0, 55, 29, 42, 180, 0, 162, 180, 0, 195, 108, 17, 0, 144, 104]
abbrev dktX1_load_3 : List UInt8 := dkwX1_load_3 ++ dktX1_load_4
def dkwX1_load_2 : List UInt8 := [42, 42, 180, 0, 11, 27, 50, 181, 0, 162, 3, 62, 29, 42, 180, 0, 162, 180, 0, 192, 42, 180, 0, 162]
abbrev dktX1_load_2 : List UInt8 := dkwX1_load_2 ++ dktX1_load_3
def dkwX1_load_1 : List UInt8 := [180, 0, 192, 42, 180, 0, 11, 27, 50, 180, 0, 195, 104, 16, 7, 96, 16, 8, 108, 159, 0, 5, 3, 172]
abbrev dktX1_load_1 : List UInt8 := dkwX1_load_1 ++ dktX1_load_2
def dkwX1_load_0 : List UInt8 := [42, 182, 0, 99, 61, 27, 155, 0, 38, 27, 16, 30, 162, 0, 32, 28, 42, 180, 0, 11, 27, 50]
abbrev dktX1_load_0 : List UInt8 := dkwX1_load_0 ++ dktX1_load_1
theorem dksX1_load_0 : cX1_load.data.toList.drop 0 = dktX1_load_0 := by decide +kernel
theorem dksX1_load_1 : cX1_load.data.toList.drop 22 = dktX1_load_1 := dk_seg dksX1_load_0 22 rfl rfl
theorem dksX1_load_2 : cX1_load.data.toList.drop 46 = dktX1_load_2 := dk_seg dksX1_load_1 24 rfl rfl
theorem dksX1_load_3 : cX1_load.data.toList.drop 70 = dktX1_load_3 := dk_seg dksX1_load_2 24 rfl rfl
theorem dksX1_load_4 : cX1_load.data.toList.drop 94 = dktX1_load_4 := dk_seg dksX1_load_3 24 rfl rfl
theorem dksX1_load_5 : cX1_load.data.toList.drop 118 = dktX1_load_5 := dk_seg dksX1_load_4 24 rfl rfl
theorem dX1_load_0 : decode cX1_load 0 = .ok (.aload_n 0, 1) := dk_42 (dk_at dksX1_load_0 0 rfl rfl)
theorem dX1_load_1 : decode cX1_load 1 = .ok (.invokevirtual 99, 3) := dk_182 0 99 (dk_at dksX1_load_0 1 rfl rfl)
theorem dX1_load_4 : decode cX1_load 4 = .ok (.istore_n 2, 1) := dk_61 (dk_at dksX1_load_0 4 rfl rfl)
theorem dX1_load_5 : decode cX1_load 5 = .ok (.iload_n 1, 1) := dk_27 (dk_at dksX1_load_0 5 rfl rfl)
theorem dX1_load_6 : decode cX1_load 6 = .ok (.ifCond .lt 38, 3) := dk_155 0 38 (dk_at dksX1_load_0 6 rfl rfl)
theorem dX1_load_9 : decode cX1_load 9 = .ok (.iload_n 1, 1) := dk_27 (dk_at dksX1_load_0 9 rfl rfl)
theorem dX1_load_10 : decode cX1_load 10 = .ok (.bipush 30, 2) := dk_16 30 (dk_at dksX1_load_0 10 rfl rfl)
theorem dX1_load_12 : decode cX1_load 12 = .ok (.if_icmp .ge 32, 3) := dk_162 0 32 (dk_at dksX1_load_0 12 rfl rfl)
theorem dX1_load_15 : decode cX1_load 15 = .ok (.iload_n 2, 1) := dk_28 (dk_at dksX1_load_0 15 rfl rfl)
theorem dX1_load_16 : decode cX1_load 16 = .ok (.aload_n 0, 1) := dk_42 (dk_at dksX1_load_0 16 rfl rfl)
theorem dX1_load_17 : decode cX1_load 17 = .ok (.getfield 11, 3) := dk_180 0 11 (dk_at dksX1_load_0 17 rfl rfl)
theorem dX1_load_20 : decode cX1_load 20 = .ok (.iload_n 1, 1) := dk_27 (dk_at dksX1_load_0 20 rfl rfl)
theorem dX1_load_21 : decode cX1_load 21 = .ok (.aaload, 1) := dk_50 (dk_at dksX1_load_0 21 rfl rfl)
theorem dX1_load_22 : decode cX1_load 22 = .ok (.getfield 192, 3) := dk_180 0 192 (dk_at dksX1_load_1 0 rfl rfl)
theorem dX1_load_25 : decode cX1_load 25 = .ok (.aload_n 0, 1) := dk_42 (dk_at dksX1_load_1 3 rfl rfl)
theorem dX1_load_26 : decode cX1_load 26 = .ok (.getfield 11, 3) := dk_180 0 11 (dk_at dksX1_load_1 4 rfl rfl)
theorem dX1_load_29 : decode cX1_load 29 = .ok (.iload_n 1, 1) := dk_27 (dk_at dksX1_load_1 7 rfl rfl)
theorem dX1_load_30 : decode cX1_load 30 = .ok (.aaload, 1) := dk_50 (dk_at dksX1_load_1 8 rfl rfl)
theorem dX1_load_31 : decode cX1_load 31 = .ok (.getfield 195, 3) := dk_180 0 195 (dk_at dksX1_load_1 9 rfl rfl)
theorem dX1_load_34 : decode cX1_load 34 = .ok (.imul, 1) := dk_104 (dk_at dksX1_load_1 12 rfl rfl)
theorem dX1_load_35 : decode cX1_load 35 = .ok (.bipush 7, 2) := dk_16 7 (dk_at dksX1_load_1 13 rfl rfl)
theorem dX1_load_37 : decode cX1_load 37 = .ok (.iadd, 1) := dk_96 (dk_at dksX1_load_1 15 rfl rfl)
theorem dX1_load_38 : decode cX1_load 38 = .ok (.bipush 8, 2) := dk_16 8 (dk_at dksX1_load_1 16 rfl rfl)
theorem dX1_load_40 : decode cX1_load 40 = .ok (.idiv, 1) := dk_108 (dk_at dksX1_load_1 18 rfl rfl)
theorem dX1_load_41 : decode cX1_load 41 = .ok (.if_icmp .eq 5, 3) := dk_159 0 5 (dk_at dksX1_load_1 19 rfl rfl)
theorem dX1_load_44 : decode cX1_load 44 = .ok (.iconst 0, 1) := dk_3 (dk_at dksX1_load_1 22 rfl rfl)
theorem dX1_load_45 : decode cX1_load 45 = .ok (.ireturn, 1) := dk_172 (dk_at dksX1_load_1 23 rfl rfl)
theorem dX1_load_46 : decode cX1_load 46 = .ok (.aload_n 0, 1) := dk_42 (dk_at dksX1_load_2 0 rfl rfl)
theorem dX1_load_47 : decode cX1_load 47 = .ok (.aload_n 0, 1) := dk_42 (dk_at dksX1_load_2 1 rfl rfl)
theorem dX1_load_48 : decode cX1_load 48 = .ok (.getfield 11, 3) := dk_180 0 11 (dk_at dksX1_load_2 2 rfl rfl)
theorem dX1_load_51 : decode cX1_load 51 = .ok (.iload_n 1, 1) := dk_27 (dk_at dksX1_load_2 5 rfl rfl)
theorem dX1_load_52 : decode cX1_load 52 = .ok (.aaload, 1) := dk_50 (dk_at dksX1_load_2 6 rfl rfl)
theorem dX1_load_53 : decode cX1_load 53 = .ok (.putfield 162, 3) := dk_181 0 162 (dk_at dksX1_load_2 7 rfl rfl)
theorem dX1_load_56 : decode cX1_load 56 = .ok (.iconst 0, 1) := dk_3 (dk_at dksX1_load_2 10 rfl rfl)
theorem dX1_load_57 : decode cX1_load 57 = .ok (.istore_n 3, 1) := dk_62 (dk_at dksX1_load_2 11 rfl rfl)
theorem dX1_load_58 : decode cX1_load 58 = .ok (.iload_n 3, 1) := dk_29 (dk_at dksX1_load_2 12 rfl rfl)
theorem dX1_load_59 : decode cX1_load 59 = .ok (.aload_n 0, 1) := dk_42 (dk_at dksX1_load_2 13 rfl rfl)
theorem dX1_load_60 : decode cX1_load 60 = .ok (.getfield 162, 3) := dk_180 0 162 (dk_at dksX1_load_2 14 rfl rfl)
theorem dX1_load_63 : decode cX1_load 63 = .ok (.getfield 192, 3) := dk_180 0 192 (dk_at dksX1_load_2 17 rfl rfl)
theorem dX1_load_66 : decode cX1_load 66 = .ok (.aload_n 0, 1) := dk_42 (dk_at dksX1_load_2 20 rfl rfl)
theorem dX1_load_67 : decode cX1_load 67 = .ok (.getfield 162, 3) := dk_180 0 162 (dk_at dksX1_load_2 21 rfl rfl)
theorem dX1_load_70 : decode cX1_load 70 = .ok (.getfield 195, 3) := dk_180 0 195 (dk_at dksX1_load_3 0 rfl rfl)
theorem dX1_load_73 : decode cX1_load 73 = .ok (.imul, 1) := dk_104 (dk_at dksX1_load_3 3 rfl rfl)
theorem dX1_load_74 : decode cX1_load 74 = .ok (.if_icmp .ge 65, 3) := dk_162 0 65 (dk_at dksX1_load_3 4 rfl rfl)
theorem dX1_load_77 : decode cX1_load 77 = .ok (.aload_n 0, 1) := dk_42 (dk_at dksX1_load_3 7 rfl rfl)
theorem dX1_load_78 : decode cX1_load 78 = .ok (.getfield 55, 3) := dk_180 0 55 (dk_at dksX1_load_3 8 rfl rfl)
theorem dX1_load_81 : decode cX1_load 81 = .ok (.iload_n 3, 1) := dk_29 (dk_at dksX1_load_3 11 rfl rfl)
theorem dX1_load_82 : decode cX1_load 82 = .ok (.aload_n 0, 1) := dk_42 (dk_at dksX1_load_3 12 rfl rfl)
theorem dX1_load_83 : decode cX1_load 83 = .ok (.getfield 162, 3) := dk_180 0 162 (dk_at dksX1_load_3 13 rfl rfl)
theorem dX1_load_86 : decode cX1_load 86 = .ok (.getfield 195, 3) := dk_180 0 195 (dk_at dksX1_load_3 16 rfl rfl)
theorem dX1_load_89 : decode cX1_load 89 = .ok (.idiv, 1) := dk_108 (dk_at dksX1_load_3 19 rfl rfl)
theorem dX1_load_90 : decode cX1_load 90 = .ok (.sipush 144, 3) := dk_17 0 144 (dk_at dksX1_load_3 20 rfl rfl)
theorem dX1_load_93 : decode cX1_load 93 = .ok (.imul, 1) := dk_104 (dk_at dksX1_load_3 23 rfl rfl)
theorem dX1_load_94 : decode cX1_load 94 = .ok (.iload_n 3, 1) := dk_29 (dk_at dksX1_load_4 0 rfl rfl)
theorem dX1_load_95 : decode cX1_load 95 = .ok (.aload_n 0, 1) := dk_42 (dk_at dksX1_load_4 1 rfl rfl)
theorem dX1_load_96 : decode cX1_load 96 = .ok (.getfield 162, 3) := dk_180 0 162 (dk_at dksX1_load_4 2 rfl rfl)
theorem dX1_load_99 : decode cX1_load 99 = .ok (.getfield 195, 3) := dk_180 0 195 (dk_at dksX1_load_4 5 rfl rfl)
theorem dX1_load_102 : decode cX1_load 102 = .ok (.irem, 1) := dk_112 (dk_at dksX1_load_4 8 rfl rfl)
theorem dX1_load_103 : decode cX1_load 103 = .ok (.iadd, 1) := dk_96 (dk_at dksX1_load_4 9 rfl rfl)
theorem dX1_load_104 : decode cX1_load 104 = .ok (.aload_n 0, 1) := dk_42 (dk_at dksX1_load_4 10 rfl rfl)
theorem dX1_load_105 : decode cX1_load 105 = .ok (.getfield 48, 3) := dk_180 0 48 (dk_at dksX1_load_4 11 rfl rfl)
theorem dX1_load_108 : decode cX1_load 108 = .ok (.iload_n 3, 1) := dk_29 (dk_at dksX1_load_4 14 rfl rfl)
theorem dX1_load_109 : decode cX1_load 109 = .ok (.bipush 8, 2) := dk_16 8 (dk_at dksX1_load_4 15 rfl rfl)
theorem dX1_load_111 : decode cX1_load 111 = .ok (.idiv, 1) := dk_108 (dk_at dksX1_load_4 17 rfl rfl)
theorem dX1_load_112 : decode cX1_load 112 = .ok (.baload, 1) := dk_51 (dk_at dksX1_load_4 18 rfl rfl)
theorem dX1_load_113 : decode cX1_load 113 = .ok (.bipush 7, 2) := dk_16 7 (dk_at dksX1_load_4 19 rfl rfl)
theorem dX1_load_115 : decode cX1_load 115 = .ok (.iload_n 3, 1) := dk_29 (dk_at dksX1_load_4 21 rfl rfl)
theorem dX1_load_116 : decode cX1_load 116 = .ok (.bipush 8, 2) := dk_16 8 (dk_at dksX1_load_4 22 rfl rfl)
theorem dX1_load_118 : decode cX1_load 118 = .ok (.irem, 1) := dk_112 (dk_at dksX1_load_5 0 rfl rfl)
theorem dX1_load_119 : decode cX1_load 119 = .ok (.isub, 1) := dk_100 (dk_at dksX1_load_5 1 rfl rfl)
theorem dX1_load_120 : decode cX1_load 120 = .ok (.ishr, 1) := dk_122 (dk_at dksX1_load_5 2 rfl rfl)
theorem dX1_load_121 : decode cX1_load 121 = .ok (.iconst 1, 1) := dk_4 (dk_at dksX1_load_5 3 rfl rfl)
theorem dX1_load_122 : decode cX1_load 122 = .ok (.iand, 1) := dk_126 (dk_at dksX1_load_5 4 rfl rfl)
theorem dX1_load_123 : decode cX1_load 123 = .ok (.iconst 1, 1) := dk_4 (dk_at dksX1_load_5 5 rfl rfl)
theorem dX1_load_124 : decode cX1_load 124 = .ok (.if_icmp .ne 7, 3) := dk_160 0 7 (dk_at dksX1_load_5 6 rfl rfl)
theorem dX1_load_127 : decode cX1_load 127 = .ok (.iconst 1, 1) := dk_4 (dk_at dksX1_load_5 9 rfl rfl)
theorem dX1_load_128 : decode cX1_load 128 = .ok (.goto 4, 3) := dk_167 0 4 (dk_at dksX1_load_5 10 rfl rfl)
theorem dX1_load_131 : decode cX1_load 131 = .ok (.iconst 0, 1) := dk_3 (dk_at dksX1_load_5 13 rfl rfl)
theorem dX1_load_132 : decode cX1_load 132 = .ok (.bastore, 1) := dk_84 (dk_at dksX1_load_5 14 rfl rfl)
theorem dX1_load_133 : decode cX1_load 133 = .ok (.iinc 3 1, 3) := dk_132 3 1 (dk_at dksX1_load_5 15 rfl rfl)
theorem dX1_load_136 : decode cX1_load 136 = .ok (.goto (-78), 3) := dk_167 255 178 (dk_at dksX1_load_5 18 rfl rfl)
theorem dX1_load_139 : decode cX1_load 139 = .ok (.iconst 1, 1) := dk_4 (dk_at dksX1_load_5 21 rfl rfl)
theorem dX1_load_140 : decode cX1_load 140 = .ok (.ireturn, 1) := dk_172 (dk_at dksX1_load_5 22 rfl rfl)
abbrev cX1_decode : ByteArray := prog_1_method_15_code
def yX1_decode : MethodName := ⟨RX1, "decode", "()I"⟩
def dkwX1_decode_6 : List UInt8 := [181, 1, 3, 42, 180, 0, 244, 172]
abbrev dktX1_decode_6 : List UInt8 := dkwX1_decode_6 ++ []
def dkwX1_decode_5 : List UInt8 := [167, 255, 193, 42, 42, 180, 0, 162, 180, 0, 107, 182, 0, 250, 154, 0, 6, 16, 254, 172, 42, 27]
abbrev dktX1_decode_5 : List UInt8 := dkwX1_decode_5 ++ dktX1_decode_6
def dkwX1_decode_4 : List UInt8 := [156, 0, 5, 2, 172, 27, 21, 4, 96, 60, 42, 42, 180, 0, 162, 28, 29, 182, 0, 158, 132, 2, 1]
abbrev dktX1_decode_4 : List UInt8 := dkwX1_decode_4 ++ dktX1_decode_5
def dkwX1_decode_3 : List UInt8 := [182, 0, 147, 62, 42, 180, 0, 25, 29, 42, 180, 0, 162, 182, 0, 151, 182, 1, 0, 54, 4, 21, 4]
abbrev dktX1_decode_3 : List UInt8 := dkwX1_decode_3 ++ dktX1_decode_4
def dkwX1_decode_2 : List UInt8 := [167, 255, 231, 3, 60, 3, 61, 28, 42, 180, 0, 162, 180, 0, 144, 162, 0, 58, 42, 42, 180, 0, 162, 28]
abbrev dktX1_decode_2 : List UInt8 := dkwX1_decode_2 ++ dktX1_decode_3
def dkwX1_decode_1 : List UInt8 := [42, 180, 0, 162, 180, 0, 202, 162, 0, 20, 42, 180, 0, 59, 27, 42, 27, 182, 0, 253, 79, 132, 1, 1]
abbrev dktX1_decode_1 : List UInt8 := dkwX1_decode_1 ++ dktX1_decode_2
def dkwX1_decode_0 : List UInt8 := [42, 180, 0, 162, 199, 0, 6, 16, 253, 172, 42, 180, 0, 18, 42, 180, 0, 162, 182, 0, 188, 3, 60, 27]
abbrev dktX1_decode_0 : List UInt8 := dkwX1_decode_0 ++ dktX1_decode_1
theorem dksX1_decode_0 : cX1_decode.data.toList.drop 0 = dktX1_decode_0 := by decide +kernel
theorem dksX1_decode_1 : cX1_decode.data.toList.drop 24 = dktX1_decode_1 := dk_seg dksX1_decode_0 24 rfl rfl
theorem dksX1_decode_2 : cX1_decode.data.toList.drop 48 = dktX1_decode_2 := dk_seg dksX1_decode_1 24 rfl rfl
theorem dksX1_decode_3 : cX1_decode.data.toList.drop 72 = dktX1_decode_3 := dk_seg dksX1_decode_2 24 rfl rfl
theorem dksX1_decode_4 : cX1_decode.data.toList.drop 95 = dktX1_decode_4 := dk_seg dksX1_decode_3 23 rfl rfl
theorem dksX1_decode_5 : cX1_decode.data.toList.drop 118 = dktX1_decode_5 := dk_seg dksX1_decode_4 23 rfl rfl
theorem dksX1_decode_6 : cX1_decode.data.toList.drop 140 = dktX1_decode_6 := dk_seg dksX1_decode_5 22 rfl rfl
theorem dX1_decode_0 : decode cX1_decode 0 = .ok (.aload_n 0, 1) := dk_42 (dk_at dksX1_decode_0 0 rfl rfl)
theorem dX1_decode_1 : decode cX1_decode 1 = .ok (.getfield 162, 3) := dk_180 0 162 (dk_at dksX1_decode_0 1 rfl rfl)
theorem dX1_decode_4 : decode cX1_decode 4 = .ok (.ifnonnull 6, 3) := dk_199 0 6 (dk_at dksX1_decode_0 4 rfl rfl)
theorem dX1_decode_7 : decode cX1_decode 7 = .ok (.bipush (-3), 2) := dk_16 253 (dk_at dksX1_decode_0 7 rfl rfl)
theorem dX1_decode_9 : decode cX1_decode 9 = .ok (.ireturn, 1) := dk_172 (dk_at dksX1_decode_0 9 rfl rfl)
theorem dX1_decode_10 : decode cX1_decode 10 = .ok (.aload_n 0, 1) := dk_42 (dk_at dksX1_decode_0 10 rfl rfl)
theorem dX1_decode_11 : decode cX1_decode 11 = .ok (.getfield 18, 3) := dk_180 0 18 (dk_at dksX1_decode_0 11 rfl rfl)
theorem dX1_decode_14 : decode cX1_decode 14 = .ok (.aload_n 0, 1) := dk_42 (dk_at dksX1_decode_0 14 rfl rfl)
theorem dX1_decode_15 : decode cX1_decode 15 = .ok (.getfield 162, 3) := dk_180 0 162 (dk_at dksX1_decode_0 15 rfl rfl)
theorem dX1_decode_18 : decode cX1_decode 18 = .ok (.invokevirtual 188, 3) := dk_182 0 188 (dk_at dksX1_decode_0 18 rfl rfl)
theorem dX1_decode_21 : decode cX1_decode 21 = .ok (.iconst 0, 1) := dk_3 (dk_at dksX1_decode_0 21 rfl rfl)
theorem dX1_decode_22 : decode cX1_decode 22 = .ok (.istore_n 1, 1) := dk_60 (dk_at dksX1_decode_0 22 rfl rfl)
theorem dX1_decode_23 : decode cX1_decode 23 = .ok (.iload_n 1, 1) := dk_27 (dk_at dksX1_decode_0 23 rfl rfl)
theorem dX1_decode_24 : decode cX1_decode 24 = .ok (.aload_n 0, 1) := dk_42 (dk_at dksX1_decode_1 0 rfl rfl)
theorem dX1_decode_25 : decode cX1_decode 25 = .ok (.getfield 162, 3) := dk_180 0 162 (dk_at dksX1_decode_1 1 rfl rfl)
theorem dX1_decode_28 : decode cX1_decode 28 = .ok (.getfield 202, 3) := dk_180 0 202 (dk_at dksX1_decode_1 4 rfl rfl)
theorem dX1_decode_31 : decode cX1_decode 31 = .ok (.if_icmp .ge 20, 3) := dk_162 0 20 (dk_at dksX1_decode_1 7 rfl rfl)
theorem dX1_decode_34 : decode cX1_decode 34 = .ok (.aload_n 0, 1) := dk_42 (dk_at dksX1_decode_1 10 rfl rfl)
theorem dX1_decode_35 : decode cX1_decode 35 = .ok (.getfield 59, 3) := dk_180 0 59 (dk_at dksX1_decode_1 11 rfl rfl)
theorem dX1_decode_38 : decode cX1_decode 38 = .ok (.iload_n 1, 1) := dk_27 (dk_at dksX1_decode_1 14 rfl rfl)
theorem dX1_decode_39 : decode cX1_decode 39 = .ok (.aload_n 0, 1) := dk_42 (dk_at dksX1_decode_1 15 rfl rfl)
theorem dX1_decode_40 : decode cX1_decode 40 = .ok (.iload_n 1, 1) := dk_27 (dk_at dksX1_decode_1 16 rfl rfl)
theorem dX1_decode_41 : decode cX1_decode 41 = .ok (.invokevirtual 253, 3) := dk_182 0 253 (dk_at dksX1_decode_1 17 rfl rfl)
theorem dX1_decode_44 : decode cX1_decode 44 = .ok (.iastore, 1) := dk_79 (dk_at dksX1_decode_1 20 rfl rfl)
theorem dX1_decode_45 : decode cX1_decode 45 = .ok (.iinc 1 1, 3) := dk_132 1 1 (dk_at dksX1_decode_1 21 rfl rfl)
theorem dX1_decode_48 : decode cX1_decode 48 = .ok (.goto (-25), 3) := dk_167 255 231 (dk_at dksX1_decode_2 0 rfl rfl)
theorem dX1_decode_51 : decode cX1_decode 51 = .ok (.iconst 0, 1) := dk_3 (dk_at dksX1_decode_2 3 rfl rfl)
theorem dX1_decode_52 : decode cX1_decode 52 = .ok (.istore_n 1, 1) := dk_60 (dk_at dksX1_decode_2 4 rfl rfl)
theorem dX1_decode_53 : decode cX1_decode 53 = .ok (.iconst 0, 1) := dk_3 (dk_at dksX1_decode_2 5 rfl rfl)
theorem dX1_decode_54 : decode cX1_decode 54 = .ok (.istore_n 2, 1) := dk_61 (dk_at dksX1_decode_2 6 rfl rfl)
theorem dX1_decode_55 : decode cX1_decode 55 = .ok (.iload_n 2, 1) := dk_28 (dk_at dksX1_decode_2 7 rfl rfl)
theorem dX1_decode_56 : decode cX1_decode 56 = .ok (.aload_n 0, 1) := dk_42 (dk_at dksX1_decode_2 8 rfl rfl)
theorem dX1_decode_57 : decode cX1_decode 57 = .ok (.getfield 162, 3) := dk_180 0 162 (dk_at dksX1_decode_2 9 rfl rfl)
theorem dX1_decode_60 : decode cX1_decode 60 = .ok (.getfield 144, 3) := dk_180 0 144 (dk_at dksX1_decode_2 12 rfl rfl)
theorem dX1_decode_63 : decode cX1_decode 63 = .ok (.if_icmp .ge 58, 3) := dk_162 0 58 (dk_at dksX1_decode_2 15 rfl rfl)
theorem dX1_decode_66 : decode cX1_decode 66 = .ok (.aload_n 0, 1) := dk_42 (dk_at dksX1_decode_2 18 rfl rfl)
theorem dX1_decode_67 : decode cX1_decode 67 = .ok (.aload_n 0, 1) := dk_42 (dk_at dksX1_decode_2 19 rfl rfl)
theorem dX1_decode_68 : decode cX1_decode 68 = .ok (.getfield 162, 3) := dk_180 0 162 (dk_at dksX1_decode_2 20 rfl rfl)
theorem dX1_decode_71 : decode cX1_decode 71 = .ok (.iload_n 2, 1) := dk_28 (dk_at dksX1_decode_2 23 rfl rfl)
theorem dX1_decode_72 : decode cX1_decode 72 = .ok (.invokevirtual 147, 3) := dk_182 0 147 (dk_at dksX1_decode_3 0 rfl rfl)
theorem dX1_decode_75 : decode cX1_decode 75 = .ok (.istore_n 3, 1) := dk_62 (dk_at dksX1_decode_3 3 rfl rfl)
theorem dX1_decode_76 : decode cX1_decode 76 = .ok (.aload_n 0, 1) := dk_42 (dk_at dksX1_decode_3 4 rfl rfl)
theorem dX1_decode_77 : decode cX1_decode 77 = .ok (.getfield 25, 3) := dk_180 0 25 (dk_at dksX1_decode_3 5 rfl rfl)
theorem dX1_decode_80 : decode cX1_decode 80 = .ok (.iload_n 3, 1) := dk_29 (dk_at dksX1_decode_3 8 rfl rfl)
theorem dX1_decode_81 : decode cX1_decode 81 = .ok (.aload_n 0, 1) := dk_42 (dk_at dksX1_decode_3 9 rfl rfl)
theorem dX1_decode_82 : decode cX1_decode 82 = .ok (.getfield 162, 3) := dk_180 0 162 (dk_at dksX1_decode_3 10 rfl rfl)
theorem dX1_decode_85 : decode cX1_decode 85 = .ok (.invokevirtual 151, 3) := dk_182 0 151 (dk_at dksX1_decode_3 13 rfl rfl)
theorem dX1_decode_88 : decode cX1_decode 88 = .ok (.invokevirtual 256, 3) := dk_182 1 0 (dk_at dksX1_decode_3 16 rfl rfl)
theorem dX1_decode_91 : decode cX1_decode 91 = .ok (.istore 4, 2) := dk_54 4 (dk_at dksX1_decode_3 19 rfl rfl)
theorem dX1_decode_93 : decode cX1_decode 93 = .ok (.iload 4, 2) := dk_21 4 (dk_at dksX1_decode_3 21 rfl rfl)
theorem dX1_decode_95 : decode cX1_decode 95 = .ok (.ifCond .ge 5, 3) := dk_156 0 5 (dk_at dksX1_decode_4 0 rfl rfl)
theorem dX1_decode_98 : decode cX1_decode 98 = .ok (.iconst (-1), 1) := dk_2 (dk_at dksX1_decode_4 3 rfl rfl)
theorem dX1_decode_99 : decode cX1_decode 99 = .ok (.ireturn, 1) := dk_172 (dk_at dksX1_decode_4 4 rfl rfl)
theorem dX1_decode_100 : decode cX1_decode 100 = .ok (.iload_n 1, 1) := dk_27 (dk_at dksX1_decode_4 5 rfl rfl)
theorem dX1_decode_101 : decode cX1_decode 101 = .ok (.iload 4, 2) := dk_21 4 (dk_at dksX1_decode_4 6 rfl rfl)
theorem dX1_decode_103 : decode cX1_decode 103 = .ok (.iadd, 1) := dk_96 (dk_at dksX1_decode_4 8 rfl rfl)
theorem dX1_decode_104 : decode cX1_decode 104 = .ok (.istore_n 1, 1) := dk_60 (dk_at dksX1_decode_4 9 rfl rfl)
theorem dX1_decode_105 : decode cX1_decode 105 = .ok (.aload_n 0, 1) := dk_42 (dk_at dksX1_decode_4 10 rfl rfl)
theorem dX1_decode_106 : decode cX1_decode 106 = .ok (.aload_n 0, 1) := dk_42 (dk_at dksX1_decode_4 11 rfl rfl)
theorem dX1_decode_107 : decode cX1_decode 107 = .ok (.getfield 162, 3) := dk_180 0 162 (dk_at dksX1_decode_4 12 rfl rfl)
theorem dX1_decode_110 : decode cX1_decode 110 = .ok (.iload_n 2, 1) := dk_28 (dk_at dksX1_decode_4 15 rfl rfl)
theorem dX1_decode_111 : decode cX1_decode 111 = .ok (.iload_n 3, 1) := dk_29 (dk_at dksX1_decode_4 16 rfl rfl)
theorem dX1_decode_112 : decode cX1_decode 112 = .ok (.invokevirtual 158, 3) := dk_182 0 158 (dk_at dksX1_decode_4 17 rfl rfl)
theorem dX1_decode_115 : decode cX1_decode 115 = .ok (.iinc 2 1, 3) := dk_132 2 1 (dk_at dksX1_decode_4 20 rfl rfl)
theorem dX1_decode_118 : decode cX1_decode 118 = .ok (.goto (-63), 3) := dk_167 255 193 (dk_at dksX1_decode_5 0 rfl rfl)
theorem dX1_decode_121 : decode cX1_decode 121 = .ok (.aload_n 0, 1) := dk_42 (dk_at dksX1_decode_5 3 rfl rfl)
theorem dX1_decode_122 : decode cX1_decode 122 = .ok (.aload_n 0, 1) := dk_42 (dk_at dksX1_decode_5 4 rfl rfl)
theorem dX1_decode_123 : decode cX1_decode 123 = .ok (.getfield 162, 3) := dk_180 0 162 (dk_at dksX1_decode_5 5 rfl rfl)
theorem dX1_decode_126 : decode cX1_decode 126 = .ok (.getfield 107, 3) := dk_180 0 107 (dk_at dksX1_decode_5 8 rfl rfl)
theorem dX1_decode_129 : decode cX1_decode 129 = .ok (.invokevirtual 250, 3) := dk_182 0 250 (dk_at dksX1_decode_5 11 rfl rfl)
theorem dX1_decode_132 : decode cX1_decode 132 = .ok (.ifCond .ne 6, 3) := dk_154 0 6 (dk_at dksX1_decode_5 14 rfl rfl)
theorem dX1_decode_135 : decode cX1_decode 135 = .ok (.bipush (-2), 2) := dk_16 254 (dk_at dksX1_decode_5 17 rfl rfl)
theorem dX1_decode_137 : decode cX1_decode 137 = .ok (.ireturn, 1) := dk_172 (dk_at dksX1_decode_5 19 rfl rfl)
theorem dX1_decode_138 : decode cX1_decode 138 = .ok (.aload_n 0, 1) := dk_42 (dk_at dksX1_decode_5 20 rfl rfl)
theorem dX1_decode_139 : decode cX1_decode 139 = .ok (.iload_n 1, 1) := dk_27 (dk_at dksX1_decode_5 21 rfl rfl)
theorem dX1_decode_140 : decode cX1_decode 140 = .ok (.putfield 259, 3) := dk_181 1 3 (dk_at dksX1_decode_6 0 rfl rfl)
theorem dX1_decode_143 : decode cX1_decode 143 = .ok (.aload_n 0, 1) := dk_42 (dk_at dksX1_decode_6 3 rfl rfl)
theorem dX1_decode_144 : decode cX1_decode 144 = .ok (.getfield 244, 3) := dk_180 0 244 (dk_at dksX1_decode_6 4 rfl rfl)
theorem dX1_decode_147 : decode cX1_decode 147 = .ok (.ireturn, 1) := dk_172 (dk_at dksX1_decode_6 7 rfl rfl)
abbrev cX1_wordAt : ByteArray := prog_1_method_10_code
def yX1_wordAt : MethodName := ⟨RX1, "wordAt", "(I)I"⟩
def dkwX1_wordAt_2 : List UInt8 := [132, 3, 1, 167, 255, 211, 28, 172]
abbrev dktX1_wordAt_2 : List UInt8 := dkwX1_wordAt_2 ++ []
def dkwX1_wordAt_1 : List UInt8 := [180, 0, 216, 16, 8, 27, 104, 29, 96, 46, 182, 0, 213, 51, 153, 0, 7, 4, 167, 0, 4, 3, 96, 61]
abbrev dktX1_wordAt_1 : List UInt8 := dkwX1_wordAt_1 ++ dktX1_wordAt_2
def dkwX1_wordAt_0 : List UInt8 := [3, 61, 3, 62, 29, 16, 8, 162, 0, 45, 5, 28, 104, 42, 180, 0, 55, 42, 42, 180, 0, 18]
abbrev dktX1_wordAt_0 : List UInt8 := dkwX1_wordAt_0 ++ dktX1_wordAt_1
theorem dksX1_wordAt_0 : cX1_wordAt.data.toList.drop 0 = dktX1_wordAt_0 := by decide +kernel
theorem dksX1_wordAt_1 : cX1_wordAt.data.toList.drop 22 = dktX1_wordAt_1 := dk_seg dksX1_wordAt_0 22 rfl rfl
theorem dksX1_wordAt_2 : cX1_wordAt.data.toList.drop 46 = dktX1_wordAt_2 := dk_seg dksX1_wordAt_1 24 rfl rfl
theorem dX1_wordAt_0 : decode cX1_wordAt 0 = .ok (.iconst 0, 1) := dk_3 (dk_at dksX1_wordAt_0 0 rfl rfl)
theorem dX1_wordAt_1 : decode cX1_wordAt 1 = .ok (.istore_n 2, 1) := dk_61 (dk_at dksX1_wordAt_0 1 rfl rfl)
theorem dX1_wordAt_2 : decode cX1_wordAt 2 = .ok (.iconst 0, 1) := dk_3 (dk_at dksX1_wordAt_0 2 rfl rfl)
theorem dX1_wordAt_3 : decode cX1_wordAt 3 = .ok (.istore_n 3, 1) := dk_62 (dk_at dksX1_wordAt_0 3 rfl rfl)
theorem dX1_wordAt_4 : decode cX1_wordAt 4 = .ok (.iload_n 3, 1) := dk_29 (dk_at dksX1_wordAt_0 4 rfl rfl)
theorem dX1_wordAt_5 : decode cX1_wordAt 5 = .ok (.bipush 8, 2) := dk_16 8 (dk_at dksX1_wordAt_0 5 rfl rfl)
theorem dX1_wordAt_7 : decode cX1_wordAt 7 = .ok (.if_icmp .ge 45, 3) := dk_162 0 45 (dk_at dksX1_wordAt_0 7 rfl rfl)
theorem dX1_wordAt_10 : decode cX1_wordAt 10 = .ok (.iconst 2, 1) := dk_5 (dk_at dksX1_wordAt_0 10 rfl rfl)
theorem dX1_wordAt_11 : decode cX1_wordAt 11 = .ok (.iload_n 2, 1) := dk_28 (dk_at dksX1_wordAt_0 11 rfl rfl)
theorem dX1_wordAt_12 : decode cX1_wordAt 12 = .ok (.imul, 1) := dk_104 (dk_at dksX1_wordAt_0 12 rfl rfl)
theorem dX1_wordAt_13 : decode cX1_wordAt 13 = .ok (.aload_n 0, 1) := dk_42 (dk_at dksX1_wordAt_0 13 rfl rfl)
theorem dX1_wordAt_14 : decode cX1_wordAt 14 = .ok (.getfield 55, 3) := dk_180 0 55 (dk_at dksX1_wordAt_0 14 rfl rfl)
theorem dX1_wordAt_17 : decode cX1_wordAt 17 = .ok (.aload_n 0, 1) := dk_42 (dk_at dksX1_wordAt_0 17 rfl rfl)
theorem dX1_wordAt_18 : decode cX1_wordAt 18 = .ok (.aload_n 0, 1) := dk_42 (dk_at dksX1_wordAt_0 18 rfl rfl)
theorem dX1_wordAt_19 : decode cX1_wordAt 19 = .ok (.getfield 18, 3) := dk_180 0 18 (dk_at dksX1_wordAt_0 19 rfl rfl)
theorem dX1_wordAt_22 : decode cX1_wordAt 22 = .ok (.getfield 216, 3) := dk_180 0 216 (dk_at dksX1_wordAt_1 0 rfl rfl)
theorem dX1_wordAt_25 : decode cX1_wordAt 25 = .ok (.bipush 8, 2) := dk_16 8 (dk_at dksX1_wordAt_1 3 rfl rfl)
theorem dX1_wordAt_27 : decode cX1_wordAt 27 = .ok (.iload_n 1, 1) := dk_27 (dk_at dksX1_wordAt_1 5 rfl rfl)
theorem dX1_wordAt_28 : decode cX1_wordAt 28 = .ok (.imul, 1) := dk_104 (dk_at dksX1_wordAt_1 6 rfl rfl)
theorem dX1_wordAt_29 : decode cX1_wordAt 29 = .ok (.iload_n 3, 1) := dk_29 (dk_at dksX1_wordAt_1 7 rfl rfl)
theorem dX1_wordAt_30 : decode cX1_wordAt 30 = .ok (.iadd, 1) := dk_96 (dk_at dksX1_wordAt_1 8 rfl rfl)
theorem dX1_wordAt_31 : decode cX1_wordAt 31 = .ok (.iaload, 1) := dk_46 (dk_at dksX1_wordAt_1 9 rfl rfl)
theorem dX1_wordAt_32 : decode cX1_wordAt 32 = .ok (.invokevirtual 213, 3) := dk_182 0 213 (dk_at dksX1_wordAt_1 10 rfl rfl)
theorem dX1_wordAt_35 : decode cX1_wordAt 35 = .ok (.baload, 1) := dk_51 (dk_at dksX1_wordAt_1 13 rfl rfl)
theorem dX1_wordAt_36 : decode cX1_wordAt 36 = .ok (.ifCond .eq 7, 3) := dk_153 0 7 (dk_at dksX1_wordAt_1 14 rfl rfl)
theorem dX1_wordAt_39 : decode cX1_wordAt 39 = .ok (.iconst 1, 1) := dk_4 (dk_at dksX1_wordAt_1 17 rfl rfl)
theorem dX1_wordAt_40 : decode cX1_wordAt 40 = .ok (.goto 4, 3) := dk_167 0 4 (dk_at dksX1_wordAt_1 18 rfl rfl)
theorem dX1_wordAt_43 : decode cX1_wordAt 43 = .ok (.iconst 0, 1) := dk_3 (dk_at dksX1_wordAt_1 21 rfl rfl)
theorem dX1_wordAt_44 : decode cX1_wordAt 44 = .ok (.iadd, 1) := dk_96 (dk_at dksX1_wordAt_1 22 rfl rfl)
theorem dX1_wordAt_45 : decode cX1_wordAt 45 = .ok (.istore_n 2, 1) := dk_61 (dk_at dksX1_wordAt_1 23 rfl rfl)
theorem dX1_wordAt_46 : decode cX1_wordAt 46 = .ok (.iinc 3 1, 3) := dk_132 3 1 (dk_at dksX1_wordAt_2 0 rfl rfl)
theorem dX1_wordAt_49 : decode cX1_wordAt 49 = .ok (.goto (-45), 3) := dk_167 255 211 (dk_at dksX1_wordAt_2 3 rfl rfl)
theorem dX1_wordAt_52 : decode cX1_wordAt 52 = .ok (.iload_n 2, 1) := dk_28 (dk_at dksX1_wordAt_2 6 rfl rfl)
theorem dX1_wordAt_53 : decode cX1_wordAt 53 = .ok (.ireturn, 1) := dk_172 (dk_at dksX1_wordAt_2 7 rfl rfl)
abbrev cX1_letter : ByteArray := prog_1_method_16_code
def yX1_letter : MethodName := ⟨RX1, "letter", "(I)I"⟩
def dkwX1_letter_1 : List UInt8 := [17, 0, 255, 126, 172]
abbrev dktX1_letter_1 : List UInt8 := dkwX1_letter_1 ++ []
def dkwX1_letter_0 : List UInt8 := [27, 155, 0, 11, 27, 42, 180, 0, 244, 161, 0, 7, 2, 167, 0, 13, 42, 180, 0, 52, 27, 51]
abbrev dktX1_letter_0 : List UInt8 := dkwX1_letter_0 ++ dktX1_letter_1
theorem dksX1_letter_0 : cX1_letter.data.toList.drop 0 = dktX1_letter_0 := by decide +kernel
theorem dksX1_letter_1 : cX1_letter.data.toList.drop 22 = dktX1_letter_1 := dk_seg dksX1_letter_0 22 rfl rfl
theorem dX1_letter_0 : decode cX1_letter 0 = .ok (.iload_n 1, 1) := dk_27 (dk_at dksX1_letter_0 0 rfl rfl)
theorem dX1_letter_1 : decode cX1_letter 1 = .ok (.ifCond .lt 11, 3) := dk_155 0 11 (dk_at dksX1_letter_0 1 rfl rfl)
theorem dX1_letter_4 : decode cX1_letter 4 = .ok (.iload_n 1, 1) := dk_27 (dk_at dksX1_letter_0 4 rfl rfl)
theorem dX1_letter_5 : decode cX1_letter 5 = .ok (.aload_n 0, 1) := dk_42 (dk_at dksX1_letter_0 5 rfl rfl)
theorem dX1_letter_6 : decode cX1_letter 6 = .ok (.getfield 244, 3) := dk_180 0 244 (dk_at dksX1_letter_0 6 rfl rfl)
theorem dX1_letter_9 : decode cX1_letter 9 = .ok (.if_icmp .lt 7, 3) := dk_161 0 7 (dk_at dksX1_letter_0 9 rfl rfl)
theorem dX1_letter_12 : decode cX1_letter 12 = .ok (.iconst (-1), 1) := dk_2 (dk_at dksX1_letter_0 12 rfl rfl)
theorem dX1_letter_13 : decode cX1_letter 13 = .ok (.goto 13, 3) := dk_167 0 13 (dk_at dksX1_letter_0 13 rfl rfl)
theorem dX1_letter_16 : decode cX1_letter 16 = .ok (.aload_n 0, 1) := dk_42 (dk_at dksX1_letter_0 16 rfl rfl)
theorem dX1_letter_17 : decode cX1_letter 17 = .ok (.getfield 52, 3) := dk_180 0 52 (dk_at dksX1_letter_0 17 rfl rfl)
theorem dX1_letter_20 : decode cX1_letter 20 = .ok (.iload_n 1, 1) := dk_27 (dk_at dksX1_letter_0 20 rfl rfl)
theorem dX1_letter_21 : decode cX1_letter 21 = .ok (.baload, 1) := dk_51 (dk_at dksX1_letter_0 21 rfl rfl)
theorem dX1_letter_22 : decode cX1_letter 22 = .ok (.sipush 255, 3) := dk_17 0 255 (dk_at dksX1_letter_1 0 rfl rfl)
theorem dX1_letter_25 : decode cX1_letter 25 = .ok (.iand, 1) := dk_126 (dk_at dksX1_letter_1 3 rfl rfl)
theorem dX1_letter_26 : decode cX1_letter 26 = .ok (.ireturn, 1) := dk_172 (dk_at dksX1_letter_1 4 rfl rfl)
abbrev cX1_module : ByteArray := prog_1_method_18_code
def yX1_module : MethodName := ⟨RX1, "module", "(II)I"⟩
def dkwX1_module_1 : List UInt8 := [51, 153, 0, 7, 4, 167, 0, 4, 3, 172]
abbrev dktX1_module_1 : List UInt8 := dkwX1_module_1 ++ []
def dkwX1_module_0 : List UInt8 := [42, 27, 28, 182, 1, 6, 154, 0, 7, 2, 167, 0, 23, 42, 180, 0, 55, 27, 17, 0, 144, 104, 28, 96]
abbrev dktX1_module_0 : List UInt8 := dkwX1_module_0 ++ dktX1_module_1
theorem dksX1_module_0 : cX1_module.data.toList.drop 0 = dktX1_module_0 := by decide +kernel
theorem dksX1_module_1 : cX1_module.data.toList.drop 24 = dktX1_module_1 := dk_seg dksX1_module_0 24 rfl rfl
theorem dX1_module_0 : decode cX1_module 0 = .ok (.aload_n 0, 1) := dk_42 (dk_at dksX1_module_0 0 rfl rfl)
theorem dX1_module_1 : decode cX1_module 1 = .ok (.iload_n 1, 1) := dk_27 (dk_at dksX1_module_0 1 rfl rfl)
theorem dX1_module_2 : decode cX1_module 2 = .ok (.iload_n 2, 1) := dk_28 (dk_at dksX1_module_0 2 rfl rfl)
theorem dX1_module_3 : decode cX1_module 3 = .ok (.invokevirtual 262, 3) := dk_182 1 6 (dk_at dksX1_module_0 3 rfl rfl)
theorem dX1_module_6 : decode cX1_module 6 = .ok (.ifCond .ne 7, 3) := dk_154 0 7 (dk_at dksX1_module_0 6 rfl rfl)
theorem dX1_module_9 : decode cX1_module 9 = .ok (.iconst (-1), 1) := dk_2 (dk_at dksX1_module_0 9 rfl rfl)
theorem dX1_module_10 : decode cX1_module 10 = .ok (.goto 23, 3) := dk_167 0 23 (dk_at dksX1_module_0 10 rfl rfl)
theorem dX1_module_13 : decode cX1_module 13 = .ok (.aload_n 0, 1) := dk_42 (dk_at dksX1_module_0 13 rfl rfl)
theorem dX1_module_14 : decode cX1_module 14 = .ok (.getfield 55, 3) := dk_180 0 55 (dk_at dksX1_module_0 14 rfl rfl)
theorem dX1_module_17 : decode cX1_module 17 = .ok (.iload_n 1, 1) := dk_27 (dk_at dksX1_module_0 17 rfl rfl)
theorem dX1_module_18 : decode cX1_module 18 = .ok (.sipush 144, 3) := dk_17 0 144 (dk_at dksX1_module_0 18 rfl rfl)
theorem dX1_module_21 : decode cX1_module 21 = .ok (.imul, 1) := dk_104 (dk_at dksX1_module_0 21 rfl rfl)
theorem dX1_module_22 : decode cX1_module 22 = .ok (.iload_n 2, 1) := dk_28 (dk_at dksX1_module_0 22 rfl rfl)
theorem dX1_module_23 : decode cX1_module 23 = .ok (.iadd, 1) := dk_96 (dk_at dksX1_module_0 23 rfl rfl)
theorem dX1_module_24 : decode cX1_module 24 = .ok (.baload, 1) := dk_51 (dk_at dksX1_module_1 0 rfl rfl)
theorem dX1_module_25 : decode cX1_module 25 = .ok (.ifCond .eq 7, 3) := dk_153 0 7 (dk_at dksX1_module_1 1 rfl rfl)
theorem dX1_module_28 : decode cX1_module 28 = .ok (.iconst 1, 1) := dk_4 (dk_at dksX1_module_1 4 rfl rfl)
theorem dX1_module_29 : decode cX1_module 29 = .ok (.goto 4, 3) := dk_167 0 4 (dk_at dksX1_module_1 5 rfl rfl)
theorem dX1_module_32 : decode cX1_module 32 = .ok (.iconst 0, 1) := dk_3 (dk_at dksX1_module_1 8 rfl rfl)
theorem dX1_module_33 : decode cX1_module 33 = .ok (.ireturn, 1) := dk_172 (dk_at dksX1_module_1 9 rfl rfl)
abbrev cX1_isModule : ByteArray := prog_1_method_17_code
def yX1_isModule : MethodName := ⟨RX1, "isModule", "(II)Z"⟩
def dkwX1_isModule_1 : List UInt8 := [162, 0, 18, 28, 42, 180, 0, 162, 180, 0, 195, 162, 0, 7, 4, 167, 0, 4, 3, 172]
abbrev dktX1_isModule_1 : List UInt8 := dkwX1_isModule_1 ++ []
def dkwX1_isModule_0 : List UInt8 := [42, 180, 0, 162, 198, 0, 37, 27, 155, 0, 33, 28, 155, 0, 29, 27, 42, 180, 0, 162, 180, 0, 192]
abbrev dktX1_isModule_0 : List UInt8 := dkwX1_isModule_0 ++ dktX1_isModule_1
theorem dksX1_isModule_0 : cX1_isModule.data.toList.drop 0 = dktX1_isModule_0 := by decide +kernel
theorem dksX1_isModule_1 : cX1_isModule.data.toList.drop 23 = dktX1_isModule_1 := dk_seg dksX1_isModule_0 23 rfl rfl
theorem dX1_isModule_0 : decode cX1_isModule 0 = .ok (.aload_n 0, 1) := dk_42 (dk_at dksX1_isModule_0 0 rfl rfl)
theorem dX1_isModule_1 : decode cX1_isModule 1 = .ok (.getfield 162, 3) := dk_180 0 162 (dk_at dksX1_isModule_0 1 rfl rfl)
theorem dX1_isModule_4 : decode cX1_isModule 4 = .ok (.ifnull 37, 3) := dk_198 0 37 (dk_at dksX1_isModule_0 4 rfl rfl)
theorem dX1_isModule_7 : decode cX1_isModule 7 = .ok (.iload_n 1, 1) := dk_27 (dk_at dksX1_isModule_0 7 rfl rfl)
theorem dX1_isModule_8 : decode cX1_isModule 8 = .ok (.ifCond .lt 33, 3) := dk_155 0 33 (dk_at dksX1_isModule_0 8 rfl rfl)
theorem dX1_isModule_11 : decode cX1_isModule 11 = .ok (.iload_n 2, 1) := dk_28 (dk_at dksX1_isModule_0 11 rfl rfl)
theorem dX1_isModule_12 : decode cX1_isModule 12 = .ok (.ifCond .lt 29, 3) := dk_155 0 29 (dk_at dksX1_isModule_0 12 rfl rfl)
theorem dX1_isModule_15 : decode cX1_isModule 15 = .ok (.iload_n 1, 1) := dk_27 (dk_at dksX1_isModule_0 15 rfl rfl)
theorem dX1_isModule_16 : decode cX1_isModule 16 = .ok (.aload_n 0, 1) := dk_42 (dk_at dksX1_isModule_0 16 rfl rfl)
theorem dX1_isModule_17 : decode cX1_isModule 17 = .ok (.getfield 162, 3) := dk_180 0 162 (dk_at dksX1_isModule_0 17 rfl rfl)
theorem dX1_isModule_20 : decode cX1_isModule 20 = .ok (.getfield 192, 3) := dk_180 0 192 (dk_at dksX1_isModule_0 20 rfl rfl)
theorem dX1_isModule_23 : decode cX1_isModule 23 = .ok (.if_icmp .ge 18, 3) := dk_162 0 18 (dk_at dksX1_isModule_1 0 rfl rfl)
theorem dX1_isModule_26 : decode cX1_isModule 26 = .ok (.iload_n 2, 1) := dk_28 (dk_at dksX1_isModule_1 3 rfl rfl)
theorem dX1_isModule_27 : decode cX1_isModule 27 = .ok (.aload_n 0, 1) := dk_42 (dk_at dksX1_isModule_1 4 rfl rfl)
theorem dX1_isModule_28 : decode cX1_isModule 28 = .ok (.getfield 162, 3) := dk_180 0 162 (dk_at dksX1_isModule_1 5 rfl rfl)
theorem dX1_isModule_31 : decode cX1_isModule 31 = .ok (.getfield 195, 3) := dk_180 0 195 (dk_at dksX1_isModule_1 8 rfl rfl)
theorem dX1_isModule_34 : decode cX1_isModule 34 = .ok (.if_icmp .ge 7, 3) := dk_162 0 7 (dk_at dksX1_isModule_1 11 rfl rfl)
theorem dX1_isModule_37 : decode cX1_isModule 37 = .ok (.iconst 1, 1) := dk_4 (dk_at dksX1_isModule_1 14 rfl rfl)
theorem dX1_isModule_38 : decode cX1_isModule 38 = .ok (.goto 4, 3) := dk_167 0 4 (dk_at dksX1_isModule_1 15 rfl rfl)
theorem dX1_isModule_41 : decode cX1_isModule 41 = .ok (.iconst 0, 1) := dk_3 (dk_at dksX1_isModule_1 18 rfl rfl)
theorem dX1_isModule_42 : decode cX1_isModule 42 = .ok (.ireturn, 1) := dk_172 (dk_at dksX1_isModule_1 19 rfl rfl)
abbrev cX1_flip : ByteArray := prog_1_method_19_code
def yX1_flip : MethodName := ⟨RX1, "flip", "(II)Z"⟩
def dkwX1_flip_1 : List UInt8 := [180, 0, 55, 27, 17, 0, 144, 104, 28, 96, 51, 154, 0, 7, 4, 167, 0, 4, 3, 84, 4, 172]
abbrev dktX1_flip_1 : List UInt8 := dkwX1_flip_1 ++ []
def dkwX1_flip_0 : List UInt8 := [42, 27, 28, 182, 1, 6, 154, 0, 5, 3, 172, 42, 180, 0, 55, 27, 17, 0, 144, 104, 28, 96, 42]
abbrev dktX1_flip_0 : List UInt8 := dkwX1_flip_0 ++ dktX1_flip_1
theorem dksX1_flip_0 : cX1_flip.data.toList.drop 0 = dktX1_flip_0 := by decide +kernel
theorem dksX1_flip_1 : cX1_flip.data.toList.drop 23 = dktX1_flip_1 := dk_seg dksX1_flip_0 23 rfl rfl
theorem dX1_flip_0 : decode cX1_flip 0 = .ok (.aload_n 0, 1) := dk_42 (dk_at dksX1_flip_0 0 rfl rfl)
theorem dX1_flip_1 : decode cX1_flip 1 = .ok (.iload_n 1, 1) := dk_27 (dk_at dksX1_flip_0 1 rfl rfl)
theorem dX1_flip_2 : decode cX1_flip 2 = .ok (.iload_n 2, 1) := dk_28 (dk_at dksX1_flip_0 2 rfl rfl)
theorem dX1_flip_3 : decode cX1_flip 3 = .ok (.invokevirtual 262, 3) := dk_182 1 6 (dk_at dksX1_flip_0 3 rfl rfl)
theorem dX1_flip_6 : decode cX1_flip 6 = .ok (.ifCond .ne 5, 3) := dk_154 0 5 (dk_at dksX1_flip_0 6 rfl rfl)
theorem dX1_flip_9 : decode cX1_flip 9 = .ok (.iconst 0, 1) := dk_3 (dk_at dksX1_flip_0 9 rfl rfl)
theorem dX1_flip_10 : decode cX1_flip 10 = .ok (.ireturn, 1) := dk_172 (dk_at dksX1_flip_0 10 rfl rfl)
theorem dX1_flip_11 : decode cX1_flip 11 = .ok (.aload_n 0, 1) := dk_42 (dk_at dksX1_flip_0 11 rfl rfl)
theorem dX1_flip_12 : decode cX1_flip 12 = .ok (.getfield 55, 3) := dk_180 0 55 (dk_at dksX1_flip_0 12 rfl rfl)
theorem dX1_flip_15 : decode cX1_flip 15 = .ok (.iload_n 1, 1) := dk_27 (dk_at dksX1_flip_0 15 rfl rfl)
theorem dX1_flip_16 : decode cX1_flip 16 = .ok (.sipush 144, 3) := dk_17 0 144 (dk_at dksX1_flip_0 16 rfl rfl)
theorem dX1_flip_19 : decode cX1_flip 19 = .ok (.imul, 1) := dk_104 (dk_at dksX1_flip_0 19 rfl rfl)
theorem dX1_flip_20 : decode cX1_flip 20 = .ok (.iload_n 2, 1) := dk_28 (dk_at dksX1_flip_0 20 rfl rfl)
theorem dX1_flip_21 : decode cX1_flip 21 = .ok (.iadd, 1) := dk_96 (dk_at dksX1_flip_0 21 rfl rfl)
theorem dX1_flip_22 : decode cX1_flip 22 = .ok (.aload_n 0, 1) := dk_42 (dk_at dksX1_flip_0 22 rfl rfl)
theorem dX1_flip_23 : decode cX1_flip 23 = .ok (.getfield 55, 3) := dk_180 0 55 (dk_at dksX1_flip_1 0 rfl rfl)
theorem dX1_flip_26 : decode cX1_flip 26 = .ok (.iload_n 1, 1) := dk_27 (dk_at dksX1_flip_1 3 rfl rfl)
theorem dX1_flip_27 : decode cX1_flip 27 = .ok (.sipush 144, 3) := dk_17 0 144 (dk_at dksX1_flip_1 4 rfl rfl)
theorem dX1_flip_30 : decode cX1_flip 30 = .ok (.imul, 1) := dk_104 (dk_at dksX1_flip_1 7 rfl rfl)
theorem dX1_flip_31 : decode cX1_flip 31 = .ok (.iload_n 2, 1) := dk_28 (dk_at dksX1_flip_1 8 rfl rfl)
theorem dX1_flip_32 : decode cX1_flip 32 = .ok (.iadd, 1) := dk_96 (dk_at dksX1_flip_1 9 rfl rfl)
theorem dX1_flip_33 : decode cX1_flip 33 = .ok (.baload, 1) := dk_51 (dk_at dksX1_flip_1 10 rfl rfl)
theorem dX1_flip_34 : decode cX1_flip 34 = .ok (.ifCond .ne 7, 3) := dk_154 0 7 (dk_at dksX1_flip_1 11 rfl rfl)
theorem dX1_flip_37 : decode cX1_flip 37 = .ok (.iconst 1, 1) := dk_4 (dk_at dksX1_flip_1 14 rfl rfl)
theorem dX1_flip_38 : decode cX1_flip 38 = .ok (.goto 4, 3) := dk_167 0 4 (dk_at dksX1_flip_1 15 rfl rfl)
theorem dX1_flip_41 : decode cX1_flip 41 = .ok (.iconst 0, 1) := dk_3 (dk_at dksX1_flip_1 18 rfl rfl)
theorem dX1_flip_42 : decode cX1_flip 42 = .ok (.bastore, 1) := dk_84 (dk_at dksX1_flip_1 19 rfl rfl)
theorem dX1_flip_43 : decode cX1_flip 43 = .ok (.iconst 1, 1) := dk_4 (dk_at dksX1_flip_1 20 rfl rfl)
theorem dX1_flip_44 : decode cX1_flip 44 = .ok (.ireturn, 1) := dk_172 (dk_at dksX1_flip_1 21 rfl rfl)
abbrev cX1_codeword : ByteArray := prog_1_method_20_code
def yX1_codeword : MethodName := ⟨RX1, "codeword", "(I)I"⟩
def dkwX1_codeword_1 : List UInt8 := [42, 180, 0, 18, 42, 180, 0, 162, 182, 0, 188, 42, 27, 182, 0, 253, 172]
abbrev dktX1_codeword_1 : List UInt8 := dkwX1_codeword_1 ++ []
def dkwX1_codeword_0 : List UInt8 := [42, 180, 0, 162, 198, 0, 18, 27, 155, 0, 14, 27, 42, 180, 0, 162, 180, 0, 202, 161, 0, 5, 2, 172]
abbrev dktX1_codeword_0 : List UInt8 := dkwX1_codeword_0 ++ dktX1_codeword_1
theorem dksX1_codeword_0 : cX1_codeword.data.toList.drop 0 = dktX1_codeword_0 := by decide +kernel
theorem dksX1_codeword_1 : cX1_codeword.data.toList.drop 24 = dktX1_codeword_1 := dk_seg dksX1_codeword_0 24 rfl rfl
theorem dX1_codeword_0 : decode cX1_codeword 0 = .ok (.aload_n 0, 1) := dk_42 (dk_at dksX1_codeword_0 0 rfl rfl)
theorem dX1_codeword_1 : decode cX1_codeword 1 = .ok (.getfield 162, 3) := dk_180 0 162 (dk_at dksX1_codeword_0 1 rfl rfl)
theorem dX1_codeword_4 : decode cX1_codeword 4 = .ok (.ifnull 18, 3) := dk_198 0 18 (dk_at dksX1_codeword_0 4 rfl rfl)
theorem dX1_codeword_7 : decode cX1_codeword 7 = .ok (.iload_n 1, 1) := dk_27 (dk_at dksX1_codeword_0 7 rfl rfl)
theorem dX1_codeword_8 : decode cX1_codeword 8 = .ok (.ifCond .lt 14, 3) := dk_155 0 14 (dk_at dksX1_codeword_0 8 rfl rfl)
theorem dX1_codeword_11 : decode cX1_codeword 11 = .ok (.iload_n 1, 1) := dk_27 (dk_at dksX1_codeword_0 11 rfl rfl)
theorem dX1_codeword_12 : decode cX1_codeword 12 = .ok (.aload_n 0, 1) := dk_42 (dk_at dksX1_codeword_0 12 rfl rfl)
theorem dX1_codeword_13 : decode cX1_codeword 13 = .ok (.getfield 162, 3) := dk_180 0 162 (dk_at dksX1_codeword_0 13 rfl rfl)
theorem dX1_codeword_16 : decode cX1_codeword 16 = .ok (.getfield 202, 3) := dk_180 0 202 (dk_at dksX1_codeword_0 16 rfl rfl)
theorem dX1_codeword_19 : decode cX1_codeword 19 = .ok (.if_icmp .lt 5, 3) := dk_161 0 5 (dk_at dksX1_codeword_0 19 rfl rfl)
theorem dX1_codeword_22 : decode cX1_codeword 22 = .ok (.iconst (-1), 1) := dk_2 (dk_at dksX1_codeword_0 22 rfl rfl)
theorem dX1_codeword_23 : decode cX1_codeword 23 = .ok (.ireturn, 1) := dk_172 (dk_at dksX1_codeword_0 23 rfl rfl)
theorem dX1_codeword_24 : decode cX1_codeword 24 = .ok (.aload_n 0, 1) := dk_42 (dk_at dksX1_codeword_1 0 rfl rfl)
theorem dX1_codeword_25 : decode cX1_codeword 25 = .ok (.getfield 18, 3) := dk_180 0 18 (dk_at dksX1_codeword_1 1 rfl rfl)
theorem dX1_codeword_28 : decode cX1_codeword 28 = .ok (.aload_n 0, 1) := dk_42 (dk_at dksX1_codeword_1 4 rfl rfl)
theorem dX1_codeword_29 : decode cX1_codeword 29 = .ok (.getfield 162, 3) := dk_180 0 162 (dk_at dksX1_codeword_1 5 rfl rfl)
theorem dX1_codeword_32 : decode cX1_codeword 32 = .ok (.invokevirtual 188, 3) := dk_182 0 188 (dk_at dksX1_codeword_1 8 rfl rfl)
theorem dX1_codeword_35 : decode cX1_codeword 35 = .ok (.aload_n 0, 1) := dk_42 (dk_at dksX1_codeword_1 11 rfl rfl)
theorem dX1_codeword_36 : decode cX1_codeword 36 = .ok (.iload_n 1, 1) := dk_27 (dk_at dksX1_codeword_1 12 rfl rfl)
theorem dX1_codeword_37 : decode cX1_codeword 37 = .ok (.invokevirtual 253, 3) := dk_182 0 253 (dk_at dksX1_codeword_1 13 rfl rfl)
theorem dX1_codeword_40 : decode cX1_codeword 40 = .ok (.ireturn, 1) := dk_172 (dk_at dksX1_codeword_1 16 rfl rfl)
abbrev cX1_set : ByteArray := prog_1_method_21_code
def yX1_set : MethodName := ⟨RX1, "set", "(II)Z"⟩
def dkwX1_set_1 : List UInt8 := [42, 180, 0, 18, 42, 180, 0, 162, 182, 0, 188, 42, 27, 28, 182, 0, 205, 4, 172]
abbrev dktX1_set_1 : List UInt8 := dkwX1_set_1 ++ []
def dkwX1_set_0 : List UInt8 := [42, 180, 0, 162, 198, 0, 18, 27, 155, 0, 14, 27, 42, 180, 0, 162, 180, 0, 202, 161, 0, 5, 3, 172]
abbrev dktX1_set_0 : List UInt8 := dkwX1_set_0 ++ dktX1_set_1
theorem dksX1_set_0 : cX1_set.data.toList.drop 0 = dktX1_set_0 := by decide +kernel
theorem dksX1_set_1 : cX1_set.data.toList.drop 24 = dktX1_set_1 := dk_seg dksX1_set_0 24 rfl rfl
theorem dX1_set_0 : decode cX1_set 0 = .ok (.aload_n 0, 1) := dk_42 (dk_at dksX1_set_0 0 rfl rfl)
theorem dX1_set_1 : decode cX1_set 1 = .ok (.getfield 162, 3) := dk_180 0 162 (dk_at dksX1_set_0 1 rfl rfl)
theorem dX1_set_4 : decode cX1_set 4 = .ok (.ifnull 18, 3) := dk_198 0 18 (dk_at dksX1_set_0 4 rfl rfl)
theorem dX1_set_7 : decode cX1_set 7 = .ok (.iload_n 1, 1) := dk_27 (dk_at dksX1_set_0 7 rfl rfl)
theorem dX1_set_8 : decode cX1_set 8 = .ok (.ifCond .lt 14, 3) := dk_155 0 14 (dk_at dksX1_set_0 8 rfl rfl)
theorem dX1_set_11 : decode cX1_set 11 = .ok (.iload_n 1, 1) := dk_27 (dk_at dksX1_set_0 11 rfl rfl)
theorem dX1_set_12 : decode cX1_set 12 = .ok (.aload_n 0, 1) := dk_42 (dk_at dksX1_set_0 12 rfl rfl)
theorem dX1_set_13 : decode cX1_set 13 = .ok (.getfield 162, 3) := dk_180 0 162 (dk_at dksX1_set_0 13 rfl rfl)
theorem dX1_set_16 : decode cX1_set 16 = .ok (.getfield 202, 3) := dk_180 0 202 (dk_at dksX1_set_0 16 rfl rfl)
theorem dX1_set_19 : decode cX1_set 19 = .ok (.if_icmp .lt 5, 3) := dk_161 0 5 (dk_at dksX1_set_0 19 rfl rfl)
theorem dX1_set_22 : decode cX1_set 22 = .ok (.iconst 0, 1) := dk_3 (dk_at dksX1_set_0 22 rfl rfl)
theorem dX1_set_23 : decode cX1_set 23 = .ok (.ireturn, 1) := dk_172 (dk_at dksX1_set_0 23 rfl rfl)
theorem dX1_set_24 : decode cX1_set 24 = .ok (.aload_n 0, 1) := dk_42 (dk_at dksX1_set_1 0 rfl rfl)
theorem dX1_set_25 : decode cX1_set 25 = .ok (.getfield 18, 3) := dk_180 0 18 (dk_at dksX1_set_1 1 rfl rfl)
theorem dX1_set_28 : decode cX1_set 28 = .ok (.aload_n 0, 1) := dk_42 (dk_at dksX1_set_1 4 rfl rfl)
theorem dX1_set_29 : decode cX1_set 29 = .ok (.getfield 162, 3) := dk_180 0 162 (dk_at dksX1_set_1 5 rfl rfl)
theorem dX1_set_32 : decode cX1_set 32 = .ok (.invokevirtual 188, 3) := dk_182 0 188 (dk_at dksX1_set_1 8 rfl rfl)
theorem dX1_set_35 : decode cX1_set 35 = .ok (.aload_n 0, 1) := dk_42 (dk_at dksX1_set_1 11 rfl rfl)
theorem dX1_set_36 : decode cX1_set 36 = .ok (.iload_n 1, 1) := dk_27 (dk_at dksX1_set_1 12 rfl rfl)
theorem dX1_set_37 : decode cX1_set 37 = .ok (.iload_n 2, 1) := dk_28 (dk_at dksX1_set_1 13 rfl rfl)
theorem dX1_set_38 : decode cX1_set 38 = .ok (.invokevirtual 205, 3) := dk_182 0 205 (dk_at dksX1_set_1 14 rfl rfl)
theorem dX1_set_41 : decode cX1_set 41 = .ok (.iconst 1, 1) := dk_4 (dk_at dksX1_set_1 17 rfl rfl)
theorem dX1_set_42 : decode cX1_set 42 = .ok (.ireturn, 1) := dk_172 (dk_at dksX1_set_1 18 rfl rfl)
abbrev cX1_size : ByteArray := prog_1_method_22_code
def yX1_size : MethodName := ⟨RX1, "size", "(II)I"⟩
def dkwX1_size_3 : List UInt8 := [172, 45, 180, 0, 210, 172, 45, 180, 0, 179, 172, 2, 172]
abbrev dktX1_size_3 : List UInt8 := dkwX1_size_3 ++ []
def dkwX1_size_2 : List UInt8 := [45, 180, 0, 192, 172, 45, 180, 0, 195, 172, 45, 180, 0, 107, 172, 45, 180, 1, 10, 172, 45, 180, 0, 144]
abbrev dktX1_size_2 : List UInt8 := dkwX1_size_2 ++ dktX1_size_3
def dkwX1_size_1 : List UInt8 := [170, 0, 0, 0, 0, 0, 0, 79, 0, 0, 0, 0, 0, 0, 0, 6, 0, 0, 0, 44, 0, 0, 0, 49, 0, 0, 0, 54, 0, 0, 0, 59, 0, 0, 0, 64, 0, 0, 0, 69, 0, 0, 0, 74]
abbrev dktX1_size_1 : List UInt8 := dkwX1_size_1 ++ dktX1_size_2
def dkwX1_size_0 : List UInt8 := [27, 155, 0, 9, 27, 16, 30, 161, 0, 5, 2, 172, 42, 180, 0, 11, 27, 50, 78, 28]
abbrev dktX1_size_0 : List UInt8 := dkwX1_size_0 ++ dktX1_size_1
theorem dksX1_size_0 : cX1_size.data.toList.drop 0 = dktX1_size_0 := by decide +kernel
theorem dksX1_size_1 : cX1_size.data.toList.drop 20 = dktX1_size_1 := dk_seg dksX1_size_0 20 rfl rfl
theorem dksX1_size_2 : cX1_size.data.toList.drop 64 = dktX1_size_2 := dk_seg dksX1_size_1 44 rfl rfl
theorem dksX1_size_3 : cX1_size.data.toList.drop 88 = dktX1_size_3 := dk_seg dksX1_size_2 24 rfl rfl
theorem dX1_size_0 : decode cX1_size 0 = .ok (.iload_n 1, 1) := dk_27 (dk_at dksX1_size_0 0 rfl rfl)
theorem dX1_size_1 : decode cX1_size 1 = .ok (.ifCond .lt 9, 3) := dk_155 0 9 (dk_at dksX1_size_0 1 rfl rfl)
theorem dX1_size_4 : decode cX1_size 4 = .ok (.iload_n 1, 1) := dk_27 (dk_at dksX1_size_0 4 rfl rfl)
theorem dX1_size_5 : decode cX1_size 5 = .ok (.bipush 30, 2) := dk_16 30 (dk_at dksX1_size_0 5 rfl rfl)
theorem dX1_size_7 : decode cX1_size 7 = .ok (.if_icmp .lt 5, 3) := dk_161 0 5 (dk_at dksX1_size_0 7 rfl rfl)
theorem dX1_size_10 : decode cX1_size 10 = .ok (.iconst (-1), 1) := dk_2 (dk_at dksX1_size_0 10 rfl rfl)
theorem dX1_size_11 : decode cX1_size 11 = .ok (.ireturn, 1) := dk_172 (dk_at dksX1_size_0 11 rfl rfl)
theorem dX1_size_12 : decode cX1_size 12 = .ok (.aload_n 0, 1) := dk_42 (dk_at dksX1_size_0 12 rfl rfl)
theorem dX1_size_13 : decode cX1_size 13 = .ok (.getfield 11, 3) := dk_180 0 11 (dk_at dksX1_size_0 13 rfl rfl)
theorem dX1_size_16 : decode cX1_size 16 = .ok (.iload_n 1, 1) := dk_27 (dk_at dksX1_size_0 16 rfl rfl)
theorem dX1_size_17 : decode cX1_size 17 = .ok (.aaload, 1) := dk_50 (dk_at dksX1_size_0 17 rfl rfl)
theorem dX1_size_18 : decode cX1_size 18 = .ok (.astore_n 3, 1) := dk_78 (dk_at dksX1_size_0 18 rfl rfl)
theorem dX1_size_19 : decode cX1_size 19 = .ok (.iload_n 2, 1) := dk_28 (dk_at dksX1_size_0 19 rfl rfl)
theorem dX1_size_20 : decode cX1_size 20 = .ok (.tableswitch 79 0 6 #[44, 49, 54, 59, 64, 69, 74], 44) := by decide +kernel
theorem dX1_size_64 : decode cX1_size 64 = .ok (.aload_n 3, 1) := dk_45 (dk_at dksX1_size_2 0 rfl rfl)
theorem dX1_size_65 : decode cX1_size 65 = .ok (.getfield 192, 3) := dk_180 0 192 (dk_at dksX1_size_2 1 rfl rfl)
theorem dX1_size_68 : decode cX1_size 68 = .ok (.ireturn, 1) := dk_172 (dk_at dksX1_size_2 4 rfl rfl)
theorem dX1_size_69 : decode cX1_size 69 = .ok (.aload_n 3, 1) := dk_45 (dk_at dksX1_size_2 5 rfl rfl)
theorem dX1_size_70 : decode cX1_size 70 = .ok (.getfield 195, 3) := dk_180 0 195 (dk_at dksX1_size_2 6 rfl rfl)
theorem dX1_size_73 : decode cX1_size 73 = .ok (.ireturn, 1) := dk_172 (dk_at dksX1_size_2 9 rfl rfl)
theorem dX1_size_74 : decode cX1_size 74 = .ok (.aload_n 3, 1) := dk_45 (dk_at dksX1_size_2 10 rfl rfl)
theorem dX1_size_75 : decode cX1_size 75 = .ok (.getfield 107, 3) := dk_180 0 107 (dk_at dksX1_size_2 11 rfl rfl)
theorem dX1_size_78 : decode cX1_size 78 = .ok (.ireturn, 1) := dk_172 (dk_at dksX1_size_2 14 rfl rfl)
theorem dX1_size_79 : decode cX1_size 79 = .ok (.aload_n 3, 1) := dk_45 (dk_at dksX1_size_2 15 rfl rfl)
theorem dX1_size_80 : decode cX1_size 80 = .ok (.getfield 266, 3) := dk_180 1 10 (dk_at dksX1_size_2 16 rfl rfl)
theorem dX1_size_83 : decode cX1_size 83 = .ok (.ireturn, 1) := dk_172 (dk_at dksX1_size_2 19 rfl rfl)
theorem dX1_size_84 : decode cX1_size 84 = .ok (.aload_n 3, 1) := dk_45 (dk_at dksX1_size_2 20 rfl rfl)
theorem dX1_size_85 : decode cX1_size 85 = .ok (.getfield 144, 3) := dk_180 0 144 (dk_at dksX1_size_2 21 rfl rfl)
theorem dX1_size_88 : decode cX1_size 88 = .ok (.ireturn, 1) := dk_172 (dk_at dksX1_size_3 0 rfl rfl)
theorem dX1_size_89 : decode cX1_size 89 = .ok (.aload_n 3, 1) := dk_45 (dk_at dksX1_size_3 1 rfl rfl)
theorem dX1_size_90 : decode cX1_size 90 = .ok (.getfield 210, 3) := dk_180 0 210 (dk_at dksX1_size_3 2 rfl rfl)
theorem dX1_size_93 : decode cX1_size 93 = .ok (.ireturn, 1) := dk_172 (dk_at dksX1_size_3 5 rfl rfl)
theorem dX1_size_94 : decode cX1_size 94 = .ok (.aload_n 3, 1) := dk_45 (dk_at dksX1_size_3 6 rfl rfl)
theorem dX1_size_95 : decode cX1_size 95 = .ok (.getfield 179, 3) := dk_180 0 179 (dk_at dksX1_size_3 7 rfl rfl)
theorem dX1_size_98 : decode cX1_size 98 = .ok (.ireturn, 1) := dk_172 (dk_at dksX1_size_3 10 rfl rfl)
theorem dX1_size_99 : decode cX1_size 99 = .ok (.iconst (-1), 1) := dk_2 (dk_at dksX1_size_3 11 rfl rfl)
theorem dX1_size_100 : decode cX1_size 100 = .ok (.ireturn, 1) := dk_172 (dk_at dksX1_size_3 12 rfl rfl)
abbrev cX1_about : ByteArray := prog_1_method_23_code
def yX1_about : MethodName := ⟨RX1, "about", "(I)I"⟩
def dkwX1_about_4 : List UInt8 := [180, 1, 3, 172, 3, 172]
abbrev dktX1_about_4 : List UInt8 := dkwX1_about_4 ++ []
def dkwX1_about_3 : List UInt8 := [42, 180, 0, 64, 182, 0, 132, 172, 42, 180, 0, 125, 172, 42, 180, 0, 95, 172, 42, 180, 0, 244, 172, 42]
abbrev dktX1_about_3 : List UInt8 := dkwX1_about_3 ++ dktX1_about_4
def dkwX1_about_2 : List UInt8 := [42, 180, 0, 162, 199, 0, 7, 2, 167, 0, 10, 42, 180, 0, 162, 180, 0, 169, 172, 42, 180, 0, 120, 172]
abbrev dktX1_about_2 : List UInt8 := dkwX1_about_2 ++ dktX1_about_3
def dkwX1_about_1 : List UInt8 := [170, 0, 0, 0, 0, 0, 95, 0, 0, 0, 0, 0, 0, 0, 6, 0, 0, 0, 43, 0, 0, 0, 62, 0, 0, 0, 67, 0, 0, 0, 75, 0, 0, 0, 80, 0, 0, 0, 85, 0, 0, 0, 90]
abbrev dktX1_about_1 : List UInt8 := dkwX1_about_1 ++ dktX1_about_2
def dkwX1_about_0 : List UInt8 := [27]
abbrev dktX1_about_0 : List UInt8 := dkwX1_about_0 ++ dktX1_about_1
theorem dksX1_about_0 : cX1_about.data.toList.drop 0 = dktX1_about_0 := by decide +kernel
theorem dksX1_about_1 : cX1_about.data.toList.drop 1 = dktX1_about_1 := dk_seg dksX1_about_0 1 rfl rfl
theorem dksX1_about_2 : cX1_about.data.toList.drop 44 = dktX1_about_2 := dk_seg dksX1_about_1 43 rfl rfl
theorem dksX1_about_3 : cX1_about.data.toList.drop 68 = dktX1_about_3 := dk_seg dksX1_about_2 24 rfl rfl
theorem dksX1_about_4 : cX1_about.data.toList.drop 92 = dktX1_about_4 := dk_seg dksX1_about_3 24 rfl rfl
theorem dX1_about_0 : decode cX1_about 0 = .ok (.iload_n 1, 1) := dk_27 (dk_at dksX1_about_0 0 rfl rfl)
theorem dX1_about_1 : decode cX1_about 1 = .ok (.tableswitch 95 0 6 #[43, 62, 67, 75, 80, 85, 90], 43) := by decide +kernel
theorem dX1_about_44 : decode cX1_about 44 = .ok (.aload_n 0, 1) := dk_42 (dk_at dksX1_about_2 0 rfl rfl)
theorem dX1_about_45 : decode cX1_about 45 = .ok (.getfield 162, 3) := dk_180 0 162 (dk_at dksX1_about_2 1 rfl rfl)
theorem dX1_about_48 : decode cX1_about 48 = .ok (.ifnonnull 7, 3) := dk_199 0 7 (dk_at dksX1_about_2 4 rfl rfl)
theorem dX1_about_51 : decode cX1_about 51 = .ok (.iconst (-1), 1) := dk_2 (dk_at dksX1_about_2 7 rfl rfl)
theorem dX1_about_52 : decode cX1_about 52 = .ok (.goto 10, 3) := dk_167 0 10 (dk_at dksX1_about_2 8 rfl rfl)
theorem dX1_about_55 : decode cX1_about 55 = .ok (.aload_n 0, 1) := dk_42 (dk_at dksX1_about_2 11 rfl rfl)
theorem dX1_about_56 : decode cX1_about 56 = .ok (.getfield 162, 3) := dk_180 0 162 (dk_at dksX1_about_2 12 rfl rfl)
theorem dX1_about_59 : decode cX1_about 59 = .ok (.getfield 169, 3) := dk_180 0 169 (dk_at dksX1_about_2 15 rfl rfl)
theorem dX1_about_62 : decode cX1_about 62 = .ok (.ireturn, 1) := dk_172 (dk_at dksX1_about_2 18 rfl rfl)
theorem dX1_about_63 : decode cX1_about 63 = .ok (.aload_n 0, 1) := dk_42 (dk_at dksX1_about_2 19 rfl rfl)
theorem dX1_about_64 : decode cX1_about 64 = .ok (.getfield 120, 3) := dk_180 0 120 (dk_at dksX1_about_2 20 rfl rfl)
theorem dX1_about_67 : decode cX1_about 67 = .ok (.ireturn, 1) := dk_172 (dk_at dksX1_about_2 23 rfl rfl)
theorem dX1_about_68 : decode cX1_about 68 = .ok (.aload_n 0, 1) := dk_42 (dk_at dksX1_about_3 0 rfl rfl)
theorem dX1_about_69 : decode cX1_about 69 = .ok (.getfield 64, 3) := dk_180 0 64 (dk_at dksX1_about_3 1 rfl rfl)
theorem dX1_about_72 : decode cX1_about 72 = .ok (.invokevirtual 132, 3) := dk_182 0 132 (dk_at dksX1_about_3 4 rfl rfl)
theorem dX1_about_75 : decode cX1_about 75 = .ok (.ireturn, 1) := dk_172 (dk_at dksX1_about_3 7 rfl rfl)
theorem dX1_about_76 : decode cX1_about 76 = .ok (.aload_n 0, 1) := dk_42 (dk_at dksX1_about_3 8 rfl rfl)
theorem dX1_about_77 : decode cX1_about 77 = .ok (.getfield 125, 3) := dk_180 0 125 (dk_at dksX1_about_3 9 rfl rfl)
theorem dX1_about_80 : decode cX1_about 80 = .ok (.ireturn, 1) := dk_172 (dk_at dksX1_about_3 12 rfl rfl)
theorem dX1_about_81 : decode cX1_about 81 = .ok (.aload_n 0, 1) := dk_42 (dk_at dksX1_about_3 13 rfl rfl)
theorem dX1_about_82 : decode cX1_about 82 = .ok (.getfield 95, 3) := dk_180 0 95 (dk_at dksX1_about_3 14 rfl rfl)
theorem dX1_about_85 : decode cX1_about 85 = .ok (.ireturn, 1) := dk_172 (dk_at dksX1_about_3 17 rfl rfl)
theorem dX1_about_86 : decode cX1_about 86 = .ok (.aload_n 0, 1) := dk_42 (dk_at dksX1_about_3 18 rfl rfl)
theorem dX1_about_87 : decode cX1_about 87 = .ok (.getfield 244, 3) := dk_180 0 244 (dk_at dksX1_about_3 19 rfl rfl)
theorem dX1_about_90 : decode cX1_about 90 = .ok (.ireturn, 1) := dk_172 (dk_at dksX1_about_3 22 rfl rfl)
theorem dX1_about_91 : decode cX1_about 91 = .ok (.aload_n 0, 1) := dk_42 (dk_at dksX1_about_3 23 rfl rfl)
theorem dX1_about_92 : decode cX1_about 92 = .ok (.getfield 259, 3) := dk_180 1 3 (dk_at dksX1_about_4 0 rfl rfl)
theorem dX1_about_95 : decode cX1_about 95 = .ok (.ireturn, 1) := dk_172 (dk_at dksX1_about_4 3 rfl rfl)
theorem dX1_about_96 : decode cX1_about 96 = .ok (.iconst 0, 1) := dk_3 (dk_at dksX1_about_4 4 rfl rfl)
theorem dX1_about_97 : decode cX1_about 97 = .ok (.ireturn, 1) := dk_172 (dk_at dksX1_about_4 5 rfl rfl)
abbrev cX1_step : ByteArray := prog_1_method_11_code
def yX1_step : MethodName := ⟨RX1, "step", "(II)I"⟩
def dkwX1_step_3 : List UInt8 := [45, 180, 0, 228, 167, 0, 7, 45, 180, 0, 231, 172]
abbrev dktX1_step_3 : List UInt8 := dkwX1_step_3 ++ []
def dkwX1_step_2 : List UInt8 := [45, 180, 0, 222, 167, 0, 31, 28, 4, 160, 0, 10, 45, 180, 0, 225, 167, 0, 19, 28, 5, 160, 0, 10]
abbrev dktX1_step_2 : List UInt8 := dkwX1_step_2 ++ dktX1_step_3
def dkwX1_step_1 : List UInt8 := [187, 0, 219, 89, 183, 0, 221, 191, 42, 180, 0, 64, 27, 182, 0, 135, 192, 0, 139, 78, 28, 154, 0, 10]
abbrev dktX1_step_1 : List UInt8 := dkwX1_step_1 ++ dktX1_step_2
def dkwX1_step_0 : List UInt8 := [27, 155, 0, 23, 27, 42, 180, 0, 64, 182, 0, 132, 162, 0, 12, 28, 155, 0, 8, 28, 6, 164, 0, 11]
abbrev dktX1_step_0 : List UInt8 := dkwX1_step_0 ++ dktX1_step_1
theorem dksX1_step_0 : cX1_step.data.toList.drop 0 = dktX1_step_0 := by decide +kernel
theorem dksX1_step_1 : cX1_step.data.toList.drop 24 = dktX1_step_1 := dk_seg dksX1_step_0 24 rfl rfl
theorem dksX1_step_2 : cX1_step.data.toList.drop 48 = dktX1_step_2 := dk_seg dksX1_step_1 24 rfl rfl
theorem dksX1_step_3 : cX1_step.data.toList.drop 72 = dktX1_step_3 := dk_seg dksX1_step_2 24 rfl rfl
theorem dX1_step_0 : decode cX1_step 0 = .ok (.iload_n 1, 1) := dk_27 (dk_at dksX1_step_0 0 rfl rfl)
theorem dX1_step_1 : decode cX1_step 1 = .ok (.ifCond .lt 23, 3) := dk_155 0 23 (dk_at dksX1_step_0 1 rfl rfl)
theorem dX1_step_4 : decode cX1_step 4 = .ok (.iload_n 1, 1) := dk_27 (dk_at dksX1_step_0 4 rfl rfl)
theorem dX1_step_5 : decode cX1_step 5 = .ok (.aload_n 0, 1) := dk_42 (dk_at dksX1_step_0 5 rfl rfl)
theorem dX1_step_6 : decode cX1_step 6 = .ok (.getfield 64, 3) := dk_180 0 64 (dk_at dksX1_step_0 6 rfl rfl)
theorem dX1_step_9 : decode cX1_step 9 = .ok (.invokevirtual 132, 3) := dk_182 0 132 (dk_at dksX1_step_0 9 rfl rfl)
theorem dX1_step_12 : decode cX1_step 12 = .ok (.if_icmp .ge 12, 3) := dk_162 0 12 (dk_at dksX1_step_0 12 rfl rfl)
theorem dX1_step_15 : decode cX1_step 15 = .ok (.iload_n 2, 1) := dk_28 (dk_at dksX1_step_0 15 rfl rfl)
theorem dX1_step_16 : decode cX1_step 16 = .ok (.ifCond .lt 8, 3) := dk_155 0 8 (dk_at dksX1_step_0 16 rfl rfl)
theorem dX1_step_19 : decode cX1_step 19 = .ok (.iload_n 2, 1) := dk_28 (dk_at dksX1_step_0 19 rfl rfl)
theorem dX1_step_20 : decode cX1_step 20 = .ok (.iconst 3, 1) := dk_6 (dk_at dksX1_step_0 20 rfl rfl)
theorem dX1_step_21 : decode cX1_step 21 = .ok (.if_icmp .le 11, 3) := dk_164 0 11 (dk_at dksX1_step_0 21 rfl rfl)
theorem dX1_step_24 : decode cX1_step 24 = .ok (.new 219, 3) := dk_187 0 219 (dk_at dksX1_step_1 0 rfl rfl)
theorem dX1_step_27 : decode cX1_step 27 = .ok (.dup, 1) := dk_89 (dk_at dksX1_step_1 3 rfl rfl)
theorem dX1_step_28 : decode cX1_step 28 = .ok (.invokespecial 221, 3) := dk_183 0 221 (dk_at dksX1_step_1 4 rfl rfl)
theorem dX1_step_31 : decode cX1_step 31 = .ok (.athrow, 1) := dk_191 (dk_at dksX1_step_1 7 rfl rfl)
theorem dX1_step_32 : decode cX1_step 32 = .ok (.aload_n 0, 1) := dk_42 (dk_at dksX1_step_1 8 rfl rfl)
theorem dX1_step_33 : decode cX1_step 33 = .ok (.getfield 64, 3) := dk_180 0 64 (dk_at dksX1_step_1 9 rfl rfl)
theorem dX1_step_36 : decode cX1_step 36 = .ok (.iload_n 1, 1) := dk_27 (dk_at dksX1_step_1 12 rfl rfl)
theorem dX1_step_37 : decode cX1_step 37 = .ok (.invokevirtual 135, 3) := dk_182 0 135 (dk_at dksX1_step_1 13 rfl rfl)
theorem dX1_step_40 : decode cX1_step 40 = .ok (.checkcast 139, 3) := dk_192 0 139 (dk_at dksX1_step_1 16 rfl rfl)
theorem dX1_step_43 : decode cX1_step 43 = .ok (.astore_n 3, 1) := dk_78 (dk_at dksX1_step_1 19 rfl rfl)
theorem dX1_step_44 : decode cX1_step 44 = .ok (.iload_n 2, 1) := dk_28 (dk_at dksX1_step_1 20 rfl rfl)
theorem dX1_step_45 : decode cX1_step 45 = .ok (.ifCond .ne 10, 3) := dk_154 0 10 (dk_at dksX1_step_1 21 rfl rfl)
theorem dX1_step_48 : decode cX1_step 48 = .ok (.aload_n 3, 1) := dk_45 (dk_at dksX1_step_2 0 rfl rfl)
theorem dX1_step_49 : decode cX1_step 49 = .ok (.getfield 222, 3) := dk_180 0 222 (dk_at dksX1_step_2 1 rfl rfl)
theorem dX1_step_52 : decode cX1_step 52 = .ok (.goto 31, 3) := dk_167 0 31 (dk_at dksX1_step_2 4 rfl rfl)
theorem dX1_step_55 : decode cX1_step 55 = .ok (.iload_n 2, 1) := dk_28 (dk_at dksX1_step_2 7 rfl rfl)
theorem dX1_step_56 : decode cX1_step 56 = .ok (.iconst 1, 1) := dk_4 (dk_at dksX1_step_2 8 rfl rfl)
theorem dX1_step_57 : decode cX1_step 57 = .ok (.if_icmp .ne 10, 3) := dk_160 0 10 (dk_at dksX1_step_2 9 rfl rfl)
theorem dX1_step_60 : decode cX1_step 60 = .ok (.aload_n 3, 1) := dk_45 (dk_at dksX1_step_2 12 rfl rfl)
theorem dX1_step_61 : decode cX1_step 61 = .ok (.getfield 225, 3) := dk_180 0 225 (dk_at dksX1_step_2 13 rfl rfl)
theorem dX1_step_64 : decode cX1_step 64 = .ok (.goto 19, 3) := dk_167 0 19 (dk_at dksX1_step_2 16 rfl rfl)
theorem dX1_step_67 : decode cX1_step 67 = .ok (.iload_n 2, 1) := dk_28 (dk_at dksX1_step_2 19 rfl rfl)
theorem dX1_step_68 : decode cX1_step 68 = .ok (.iconst 2, 1) := dk_5 (dk_at dksX1_step_2 20 rfl rfl)
theorem dX1_step_69 : decode cX1_step 69 = .ok (.if_icmp .ne 10, 3) := dk_160 0 10 (dk_at dksX1_step_2 21 rfl rfl)
theorem dX1_step_72 : decode cX1_step 72 = .ok (.aload_n 3, 1) := dk_45 (dk_at dksX1_step_3 0 rfl rfl)
theorem dX1_step_73 : decode cX1_step 73 = .ok (.getfield 228, 3) := dk_180 0 228 (dk_at dksX1_step_3 1 rfl rfl)
theorem dX1_step_76 : decode cX1_step 76 = .ok (.goto 7, 3) := dk_167 0 7 (dk_at dksX1_step_3 4 rfl rfl)
theorem dX1_step_79 : decode cX1_step 79 = .ok (.aload_n 3, 1) := dk_45 (dk_at dksX1_step_3 7 rfl rfl)
theorem dX1_step_80 : decode cX1_step 80 = .ok (.getfield 231, 3) := dk_180 0 231 (dk_at dksX1_step_3 8 rfl rfl)
theorem dX1_step_83 : decode cX1_step 83 = .ok (.ireturn, 1) := dk_172 (dk_at dksX1_step_3 11 rfl rfl)
theorem q108 : (Jvm.Cond.initialized "MatrixPress") ∈ lw_all := lw_g (lw_at lw_m1 1 rfl) rfl
theorem q138 : (Jvm.Cond.instantiable "MatrixPress" (18 : Nat)) ∈ lw_all := lw_g (lw_at lw_m1 31 rfl) rfl
theorem q140 : (Jvm.Cond.instanceMethod ({ cls := "MatrixPress", name := "<init>", desc := "()V" } : Jvm.MethodName)) ∈ lw_all := lw_g (lw_at lw_m1 33 rfl) rfl
theorem q141 : (Jvm.Cond.code ({ cls := "MatrixPress", name := "<init>", desc := "()V" } : Jvm.MethodName) prog_1_method_1_code (2 : Nat) (Option.none : Option Jvm.ClassFile.FieldType)) ∈ lw_all := lw_g (lw_at lw_m1 34 rfl) rfl
theorem q142 : (Jvm.Cond.methodLink "MatrixPress" (1 : Nat) ({ cls := "java/lang/Object", name := "<init>", desc := "()V" } : Jvm.MethodName)) ∈ lw_all := lw_g (lw_at lw_m1 35 rfl) rfl
theorem q145 : (Jvm.Cond.classLink "MatrixPress" (9 : Nat) "MatrixPress$Symbol") ∈ lw_all := lw_g (lw_at lw_m1 38 rfl) rfl
theorem q147 : (Jvm.Cond.classLink "MatrixPress" (15 : Nat) "MatrixPress$Plane") ∈ lw_all := lw_g (lw_at lw_m1 40 rfl) rfl
theorem q149 : (Jvm.Cond.methodLinkNest "MatrixPress" (17 : Nat) ({ cls := "MatrixPress$Plane", name := "<init>", desc := "()V" } : Jvm.MethodName) "MatrixPress") ∈ lw_tbl := lw_at lw_m1 42 rfl
theorem q154 : (Jvm.Cond.fieldLinkNest "MatrixPress" (216 : Nat) "MatrixPress$Plane" "at" "[I" "MatrixPress") ∈ lw_tbl := lw_at lw_m1 47 rfl
theorem q160 : (Jvm.Cond.fieldLinkNest "MatrixPress" (207 : Nat) "MatrixPress$Plane" "rest" "Z" "MatrixPress") ∈ lw_tbl := lw_at lw_m1 53 rfl
theorem q179 : (Jvm.Cond.classLink "MatrixPress" (22 : Nat) "MatrixPress$Field") ∈ lw_all := lw_g (lw_at lw_m1 72 rfl) rfl
theorem q181 : (Jvm.Cond.methodLink "MatrixPress" (24 : Nat) ({ cls := "MatrixPress$Field", name := "<init>", desc := "()V" } : Jvm.MethodName)) ∈ lw_all := lw_g (lw_at lw_m1 74 rfl) rfl
theorem q189 : (Jvm.Cond.fieldLinkNest "MatrixPress" (176 : Nat) "MatrixPress$Field" "word" "[I" "MatrixPress") ∈ lw_tbl := lw_at lw_m1 82 rfl
theorem q214 : (Jvm.Cond.classLink "MatrixPress" (29 : Nat) "MatrixPress$Stream") ∈ lw_all := lw_g (lw_at lw_m1 107 rfl) rfl
theorem q216 : (Jvm.Cond.methodLinkNest "MatrixPress" (31 : Nat) ({ cls := "MatrixPress$Stream", name := "<init>", desc := "()V" } : Jvm.MethodName) "MatrixPress") ∈ lw_tbl := lw_at lw_m1 109 rfl
theorem q221 : (Jvm.Cond.fieldLinkNest "MatrixPress" (141 : Nat) "MatrixPress$Stream" "code" "[I" "MatrixPress") ∈ lw_tbl := lw_at lw_m1 114 rfl
theorem q223 : (Jvm.Cond.fieldLinkNest "MatrixPress" (247 : Nat) "MatrixPress$Stream" "told" "[B" "MatrixPress") ∈ lw_tbl := lw_at lw_m1 116 rfl
theorem q230 : (Jvm.Cond.fieldLinkNest "MatrixPress" (241 : Nat) "MatrixPress$Stream" "many" "I" "MatrixPress") ∈ lw_tbl := lw_at lw_m1 123 rfl
theorem q243 : (Jvm.Cond.classLink "MatrixPress" (39 : Nat) "java/util/ArrayList") ∈ lw_all := lw_g (lw_at lw_m1 136 rfl) rfl
theorem q245 : (Jvm.Cond.methodLink "MatrixPress" (41 : Nat) ({ cls := "java/util/ArrayList", name := "<init>", desc := "(I)V" } : Jvm.MethodName)) ∈ lw_all := lw_g (lw_at lw_m1 138 rfl) rfl
theorem q271 : (Jvm.Cond.methodLink "MatrixPress" (63 : Nat) ({ cls := "java/util/ArrayList", name := "<init>", desc := "()V" } : Jvm.MethodName)) ∈ lw_all := lw_g (lw_at lw_m1 164 rfl) rfl
theorem q277 : (Jvm.Cond.methodLink "MatrixPress" (67 : Nat) ({ cls := "MatrixPress$Symbol", name := "<init>", desc := "(I)V" } : Jvm.MethodName)) ∈ lw_all := lw_g (lw_at lw_m1 170 rfl) rfl
theorem q282 : (Jvm.Cond.laysStatic "MatrixPress" "ROWS" "[I") ∈ lw_tbl := lw_at lw_m1 175 rfl
theorem q284 : (Jvm.Cond.laysStatic "MatrixPress" "WIDE" "[I") ∈ lw_tbl := lw_at lw_m1 177 rfl
theorem q286 : (Jvm.Cond.laysStatic "MatrixPress" "BESIDE" "[I") ∈ lw_tbl := lw_at lw_m1 179 rfl
theorem q288 : (Jvm.Cond.laysStatic "MatrixPress" "CHECKS" "[I") ∈ lw_tbl := lw_at lw_m1 181 rfl
theorem q290 : (Jvm.Cond.fieldLinkNest "MatrixPress" (169 : Nat) "MatrixPress$Symbol" "number" "I" "MatrixPress") ∈ lw_tbl := lw_at lw_m1 183 rfl
theorem q292 : (Jvm.Cond.fieldLinkNest "MatrixPress" (192 : Nat) "MatrixPress$Symbol" "rows" "I" "MatrixPress") ∈ lw_tbl := lw_at lw_m1 185 rfl
theorem q294 : (Jvm.Cond.fieldLinkNest "MatrixPress" (195 : Nat) "MatrixPress$Symbol" "columns" "I" "MatrixPress") ∈ lw_tbl := lw_at lw_m1 187 rfl
theorem q299 : (Jvm.Cond.fieldLinkNest "MatrixPress" (210 : Nat) "MatrixPress$Symbol" "planeRows" "I" "MatrixPress") ∈ lw_tbl := lw_at lw_m1 192 rfl
theorem q302 : (Jvm.Cond.fieldLinkNest "MatrixPress" (179 : Nat) "MatrixPress$Symbol" "planeColumns" "I" "MatrixPress") ∈ lw_tbl := lw_at lw_m1 195 rfl
theorem q304 : (Jvm.Cond.fieldLinkNest "MatrixPress" (202 : Nat) "MatrixPress$Symbol" "all" "I" "MatrixPress") ∈ lw_tbl := lw_at lw_m1 197 rfl
theorem q306 : (Jvm.Cond.fieldLinkNest "MatrixPress" (266 : Nat) "MatrixPress$Symbol" "checks" "I" "MatrixPress") ∈ lw_tbl := lw_at lw_m1 199 rfl
theorem q308 : (Jvm.Cond.fieldLinkNest "MatrixPress" (107 : Nat) "MatrixPress$Symbol" "data" "I" "MatrixPress") ∈ lw_tbl := lw_at lw_m1 201 rfl
theorem q310 : (Jvm.Cond.fieldLinkNest "MatrixPress" (144 : Nat) "MatrixPress$Symbol" "blocks" "I" "MatrixPress") ∈ lw_tbl := lw_at lw_m1 203 rfl
theorem q334 : (Jvm.Cond.classLink "MatrixPress" (68 : Nat) "MatrixPress$Sets") ∈ lw_all := lw_g (lw_at lw_m1 227 rfl) rfl
theorem q336 : (Jvm.Cond.methodLink "MatrixPress" (70 : Nat) ({ cls := "MatrixPress$Sets", name := "<init>", desc := "(IZ)V" } : Jvm.MethodName)) ∈ lw_all := lw_g (lw_at lw_m1 229 rfl) rfl
theorem q370 : (Jvm.Cond.methodLink "MatrixPress" (73 : Nat) ({ cls := "java/util/ArrayList", name := "add", desc := "(Ljava/lang/Object;)Z" } : Jvm.MethodName)) ∈ lw_all := lw_g (lw_at lw_m2 23 rfl) rfl
theorem q402 : (Jvm.Cond.selects "MatrixPress" ({ cls := "java/lang/Object", name := "getClass", desc := "()Ljava/lang/Class;" } : Jvm.MethodName) ({ cls := "java/lang/Object", name := "getClass", desc := "()Ljava/lang/Class;" } : Jvm.MethodName)) ∈ lw_all := lw_g (lw_at lw_m2 55 rfl) rfl
theorem q431 : (Jvm.Cond.classLink "MatrixPress" (77 : Nat) "MatrixPress$X12") ∈ lw_all := lw_g (lw_at lw_m2 84 rfl) rfl
theorem q433 : (Jvm.Cond.methodLink "MatrixPress" (79 : Nat) ({ cls := "MatrixPress$X12", name := "<init>", desc := "()V" } : Jvm.MethodName)) ∈ lw_all := lw_g (lw_at lw_m2 86 rfl) rfl
theorem q444 : (Jvm.Cond.classLink "MatrixPress" (80 : Nat) "MatrixPress$Edifact") ∈ lw_all := lw_g (lw_at lw_m2 97 rfl) rfl
theorem q446 : (Jvm.Cond.methodLink "MatrixPress" (82 : Nat) ({ cls := "MatrixPress$Edifact", name := "<init>", desc := "()V" } : Jvm.MethodName)) ∈ lw_all := lw_g (lw_at lw_m2 99 rfl) rfl
theorem q461 : (Jvm.Cond.classLink "MatrixPress" (83 : Nat) "MatrixPress$Base") ∈ lw_all := lw_g (lw_at lw_m2 114 rfl) rfl
theorem q463 : (Jvm.Cond.methodLink "MatrixPress" (85 : Nat) ({ cls := "MatrixPress$Base", name := "<init>", desc := "()V" } : Jvm.MethodName)) ∈ lw_all := lw_g (lw_at lw_m2 116 rfl) rfl
theorem q472 : (Jvm.Cond.classLink "MatrixPress" (86 : Nat) "MatrixPress$Chooser") ∈ lw_all := lw_g (lw_at lw_m2 125 rfl) rfl
theorem q474 : (Jvm.Cond.methodLink "MatrixPress" (88 : Nat) ({ cls := "MatrixPress$Chooser", name := "<init>", desc := "(Ljava/util/ArrayList;LMatrixPress$Stream;)V" } : Jvm.MethodName)) ∈ lw_all := lw_g (lw_at lw_m2 127 rfl) rfl
theorem q489 : (Jvm.Cond.fieldLinkNest "MatrixPress" (131 : Nat) "MatrixPress$Chooser" "steps" "Ljava/util/ArrayList;" "MatrixPress") ∈ lw_tbl := lw_at lw_m2 142 rfl
theorem q490 : (Jvm.Cond.fieldLinkNest "MatrixPress" (117 : Nat) "MatrixPress$Chooser" "length" "I" "MatrixPress") ∈ lw_tbl := lw_at lw_m2 143 rfl
theorem q493 : (Jvm.Cond.fieldLinkNest "MatrixPress" (121 : Nat) "MatrixPress$Chooser" "isClosed" "Z" "MatrixPress") ∈ lw_tbl := lw_at lw_m2 146 rfl
theorem q520 : (Jvm.Cond.fieldLink "MatrixPress" (11 : Nat) "MatrixPress" "symbols" "[LMatrixPress$Symbol;") ∈ lw_all := lw_g (lw_at lw_m2 173 rfl) rfl
theorem q521 : (Jvm.Cond.fieldLink "MatrixPress" (18 : Nat) "MatrixPress" "plane" "LMatrixPress$Plane;") ∈ lw_all := lw_g (lw_at lw_m2 174 rfl) rfl
theorem q522 : (Jvm.Cond.fieldLink "MatrixPress" (25 : Nat) "MatrixPress" "field" "LMatrixPress$Field;") ∈ lw_all := lw_g (lw_at lw_m2 175 rfl) rfl
theorem q523 : (Jvm.Cond.fieldLink "MatrixPress" (32 : Nat) "MatrixPress" "stream" "LMatrixPress$Stream;") ∈ lw_all := lw_g (lw_at lw_m2 176 rfl) rfl
theorem q524 : (Jvm.Cond.fieldLink "MatrixPress" (36 : Nat) "MatrixPress" "made" "LMatrixPress$Stream;") ∈ lw_all := lw_g (lw_at lw_m2 177 rfl) rfl
theorem q525 : (Jvm.Cond.fieldLink "MatrixPress" (44 : Nat) "MatrixPress" "encodations" "Ljava/util/ArrayList;") ∈ lw_all := lw_g (lw_at lw_m2 178 rfl) rfl
theorem q526 : (Jvm.Cond.fieldLink "MatrixPress" (91 : Nat) "MatrixPress" "chooser" "LMatrixPress$Chooser;") ∈ lw_all := lw_g (lw_at lw_m2 179 rfl) rfl
theorem q527 : (Jvm.Cond.fieldLink "MatrixPress" (48 : Nat) "MatrixPress" "tape" "[B") ∈ lw_all := lw_g (lw_at lw_m2 180 rfl) rfl
theorem q528 : (Jvm.Cond.fieldLink "MatrixPress" (52 : Nat) "MatrixPress" "read" "[B") ∈ lw_all := lw_g (lw_at lw_m2 181 rfl) rfl
theorem q529 : (Jvm.Cond.fieldLink "MatrixPress" (55 : Nat) "MatrixPress" "modules" "[Z") ∈ lw_all := lw_g (lw_at lw_m2 182 rfl) rfl
theorem q530 : (Jvm.Cond.fieldLink "MatrixPress" (59 : Nat) "MatrixPress" "words" "[I") ∈ lw_all := lw_g (lw_at lw_m2 183 rfl) rfl
theorem q531 : (Jvm.Cond.fieldLink "MatrixPress" (95 : Nat) "MatrixPress" "taped" "I") ∈ lw_all := lw_g (lw_at lw_m2 184 rfl) rfl
theorem q532 : (Jvm.Cond.fieldLink "MatrixPress" (244 : Nat) "MatrixPress" "readMany" "I") ∈ lw_all := lw_g (lw_at lw_m2 185 rfl) rfl
theorem q533 : (Jvm.Cond.fieldLink "MatrixPress" (259 : Nat) "MatrixPress" "changed" "I") ∈ lw_all := lw_g (lw_at lw_m2 186 rfl) rfl
theorem q534 : (Jvm.Cond.fieldLink "MatrixPress" (120 : Nat) "MatrixPress" "length" "I") ∈ lw_all := lw_g (lw_at lw_m2 187 rfl) rfl
theorem q535 : (Jvm.Cond.fieldLink "MatrixPress" (125 : Nat) "MatrixPress" "closed" "I") ∈ lw_all := lw_g (lw_at lw_m2 188 rfl) rfl
theorem q536 : (Jvm.Cond.fieldLink "MatrixPress" (64 : Nat) "MatrixPress" "steps" "Ljava/util/ArrayList;") ∈ lw_all := lw_g (lw_at lw_m2 189 rfl) rfl
theorem q537 : (Jvm.Cond.fieldLink "MatrixPress" (162 : Nat) "MatrixPress" "present" "LMatrixPress$Symbol;") ∈ lw_all := lw_g (lw_at lw_m2 190 rfl) rfl
theorem q538 : (Jvm.Cond.laysFinal "MatrixPress" "MatrixPress" "symbols" "[LMatrixPress$Symbol;") ∈ lw_all := lw_g (lw_at lw_m2 191 rfl) rfl
theorem q539 : (Jvm.Cond.soleField "MatrixPress" "symbols") ∈ lw_all := lw_g (lw_at lw_m2 192 rfl) rfl
theorem q540 : (Jvm.Cond.laysFinal "MatrixPress" "MatrixPress" "plane" "LMatrixPress$Plane;") ∈ lw_all := lw_g (lw_at lw_m2 193 rfl) rfl
theorem q541 : (Jvm.Cond.soleField "MatrixPress" "plane") ∈ lw_all := lw_g (lw_at lw_m2 194 rfl) rfl
theorem q542 : (Jvm.Cond.laysFinal "MatrixPress" "MatrixPress" "field" "LMatrixPress$Field;") ∈ lw_all := lw_g (lw_at lw_m2 195 rfl) rfl
theorem q543 : (Jvm.Cond.soleField "MatrixPress" "field") ∈ lw_all := lw_g (lw_at lw_m2 196 rfl) rfl
theorem q544 : (Jvm.Cond.laysFinal "MatrixPress" "MatrixPress" "stream" "LMatrixPress$Stream;") ∈ lw_all := lw_g (lw_at lw_m2 197 rfl) rfl
theorem q545 : (Jvm.Cond.soleField "MatrixPress" "stream") ∈ lw_all := lw_g (lw_at lw_m2 198 rfl) rfl
theorem q546 : (Jvm.Cond.laysFinal "MatrixPress" "MatrixPress" "made" "LMatrixPress$Stream;") ∈ lw_all := lw_g (lw_at lw_m2 199 rfl) rfl
theorem q547 : (Jvm.Cond.soleField "MatrixPress" "made") ∈ lw_all := lw_g (lw_at lw_m2 200 rfl) rfl
theorem q548 : (Jvm.Cond.laysFinal "MatrixPress" "MatrixPress" "encodations" "Ljava/util/ArrayList;") ∈ lw_all := lw_g (lw_at lw_m2 201 rfl) rfl
theorem q549 : (Jvm.Cond.soleField "MatrixPress" "encodations") ∈ lw_all := lw_g (lw_at lw_m2 202 rfl) rfl
theorem q550 : (Jvm.Cond.laysFinal "MatrixPress" "MatrixPress" "chooser" "LMatrixPress$Chooser;") ∈ lw_all := lw_g (lw_at lw_m2 203 rfl) rfl
theorem q551 : (Jvm.Cond.soleField "MatrixPress" "chooser") ∈ lw_all := lw_g (lw_at lw_m2 204 rfl) rfl
theorem q552 : (Jvm.Cond.laysFinal "MatrixPress" "MatrixPress" "tape" "[B") ∈ lw_all := lw_g (lw_at lw_m2 205 rfl) rfl
theorem q553 : (Jvm.Cond.soleField "MatrixPress" "tape") ∈ lw_all := lw_g (lw_at lw_m2 206 rfl) rfl
theorem q554 : (Jvm.Cond.laysFinal "MatrixPress" "MatrixPress" "read" "[B") ∈ lw_all := lw_g (lw_at lw_m2 207 rfl) rfl
theorem q555 : (Jvm.Cond.soleField "MatrixPress" "read") ∈ lw_all := lw_g (lw_at lw_m2 208 rfl) rfl
theorem q556 : (Jvm.Cond.laysFinal "MatrixPress" "MatrixPress" "modules" "[Z") ∈ lw_all := lw_g (lw_at lw_m2 209 rfl) rfl
theorem q557 : (Jvm.Cond.soleField "MatrixPress" "modules") ∈ lw_all := lw_g (lw_at lw_m2 210 rfl) rfl
theorem q558 : (Jvm.Cond.laysFinal "MatrixPress" "MatrixPress" "words" "[I") ∈ lw_all := lw_g (lw_at lw_m2 211 rfl) rfl
theorem q559 : (Jvm.Cond.soleField "MatrixPress" "words") ∈ lw_all := lw_g (lw_at lw_m2 212 rfl) rfl
theorem q560 : (Jvm.Cond.lays "MatrixPress" "MatrixPress" "taped" "I") ∈ lw_all := lw_g (lw_at lw_m2 213 rfl) rfl
theorem q561 : (Jvm.Cond.soleField "MatrixPress" "taped") ∈ lw_all := lw_g (lw_at lw_m2 214 rfl) rfl
theorem q562 : (Jvm.Cond.lays "MatrixPress" "MatrixPress" "readMany" "I") ∈ lw_all := lw_g (lw_at lw_m2 215 rfl) rfl
theorem q563 : (Jvm.Cond.soleField "MatrixPress" "readMany") ∈ lw_all := lw_g (lw_at lw_m2 216 rfl) rfl
theorem q564 : (Jvm.Cond.lays "MatrixPress" "MatrixPress" "changed" "I") ∈ lw_all := lw_g (lw_at lw_m2 217 rfl) rfl
theorem q565 : (Jvm.Cond.soleField "MatrixPress" "changed") ∈ lw_all := lw_g (lw_at lw_m2 218 rfl) rfl
theorem q566 : (Jvm.Cond.lays "MatrixPress" "MatrixPress" "length" "I") ∈ lw_all := lw_g (lw_at lw_m2 219 rfl) rfl
theorem q567 : (Jvm.Cond.soleField "MatrixPress" "length") ∈ lw_all := lw_g (lw_at lw_m2 220 rfl) rfl
theorem q568 : (Jvm.Cond.lays "MatrixPress" "MatrixPress" "closed" "I") ∈ lw_all := lw_g (lw_at lw_m2 221 rfl) rfl
theorem q569 : (Jvm.Cond.soleField "MatrixPress" "closed") ∈ lw_all := lw_g (lw_at lw_m2 222 rfl) rfl
theorem q570 : (Jvm.Cond.laysFinal "MatrixPress" "MatrixPress" "steps" "Ljava/util/ArrayList;") ∈ lw_all := lw_g (lw_at lw_m2 223 rfl) rfl
theorem q571 : (Jvm.Cond.soleField "MatrixPress" "steps") ∈ lw_all := lw_g (lw_at lw_m2 224 rfl) rfl
theorem q572 : (Jvm.Cond.lays "MatrixPress" "MatrixPress" "present" "LMatrixPress$Symbol;") ∈ lw_all := lw_g (lw_at lw_m2 225 rfl) rfl
theorem q573 : (Jvm.Cond.soleField "MatrixPress" "present") ∈ lw_all := lw_g (lw_at lw_m2 226 rfl) rfl
theorem q574 : (Jvm.Cond.superclass "MatrixPress" "java/lang/Object") ∈ lw_all := lw_g (lw_at lw_m2 227 rfl) rfl
theorem q576 : (Jvm.Cond.instanceMethod ({ cls := "MatrixPress", name := "feed", desc := "(IJJJ)I" } : Jvm.MethodName)) ∈ lw_all := lw_g (lw_at lw_m2 229 rfl) rfl
theorem q577 : (Jvm.Cond.selects "MatrixPress" ({ cls := "MatrixPress", name := "feed", desc := "(IJJJ)I" } : Jvm.MethodName) ({ cls := "MatrixPress", name := "feed", desc := "(IJJJ)I" } : Jvm.MethodName)) ∈ lw_all := lw_g (lw_at lw_m2 230 rfl) rfl
theorem q578 : (Jvm.Cond.code ({ cls := "MatrixPress", name := "feed", desc := "(IJJJ)I" } : Jvm.MethodName) prog_1_method_2_code (9 : Nat) (Option.some Jvm.ClassFile.FieldType.int)) ∈ lw_all := lw_g (lw_at lw_m2 231 rfl) rfl
theorem q580 : (Jvm.Cond.instanceMethod ({ cls := "MatrixPress", name := "encode", desc := "(I)I" } : Jvm.MethodName)) ∈ lw_all := lw_g (lw_at lw_m2 233 rfl) rfl
theorem q581 : (Jvm.Cond.selects "MatrixPress" ({ cls := "MatrixPress", name := "encode", desc := "(I)I" } : Jvm.MethodName) ({ cls := "MatrixPress", name := "encode", desc := "(I)I" } : Jvm.MethodName)) ∈ lw_all := lw_g (lw_at lw_m2 234 rfl) rfl
theorem q582 : (Jvm.Cond.code ({ cls := "MatrixPress", name := "encode", desc := "(I)I" } : Jvm.MethodName) prog_1_method_4_code (6 : Nat) (Option.some Jvm.ClassFile.FieldType.int)) ∈ lw_all := lw_g (lw_at lw_m2 235 rfl) rfl
theorem q583 : (Jvm.Cond.methodLink "MatrixPress" (99 : Nat) ({ cls := "MatrixPress", name := "take", desc := "()I" } : Jvm.MethodName)) ∈ lw_all := lw_g (lw_at lw_m2 236 rfl) rfl
theorem q584 : (Jvm.Cond.privateMethod ({ cls := "MatrixPress", name := "take", desc := "()I" } : Jvm.MethodName)) ∈ lw_tbl := lw_at lw_m2 237 rfl
theorem q585 : (Jvm.Cond.instanceMethod ({ cls := "MatrixPress", name := "take", desc := "()I" } : Jvm.MethodName)) ∈ lw_all := lw_g (lw_at lw_m2 238 rfl) rfl
theorem q586 : (Jvm.Cond.code ({ cls := "MatrixPress", name := "take", desc := "()I" } : Jvm.MethodName) prog_1_method_3_code (2 : Nat) (Option.some Jvm.ClassFile.FieldType.int)) ∈ lw_all := lw_g (lw_at lw_m2 239 rfl) rfl
theorem q587 : (Jvm.Cond.methodLink "MatrixPress" (103 : Nat) ({ cls := "MatrixPress$Chooser", name := "begin", desc := "([BI)V" } : Jvm.MethodName)) ∈ lw_all := lw_g (lw_at lw_m3 0 rfl) rfl
theorem q670 : (Jvm.Cond.methodLink "MatrixPress" (110 : Nat) ({ cls := "MatrixPress$Chooser", name := "fits", desc := "(I)Z" } : Jvm.MethodName)) ∈ lw_all := lw_g (lw_at lw_m3 83 rfl) rfl
theorem q707 : (Jvm.Cond.methodLink "MatrixPress" (114 : Nat) ({ cls := "MatrixPress$Chooser", name := "write", desc := "()V" } : Jvm.MethodName)) ∈ lw_all := lw_g (lw_at lw_m3 120 rfl) rfl
theorem q754 : (Jvm.Cond.fieldLinkNest "MatrixPress" (222 : Nat) "MatrixPress$Step" "sort" "I" "MatrixPress") ∈ lw_tbl := lw_at lw_m3 167 rfl
theorem q757 : (Jvm.Cond.fieldLinkNest "MatrixPress" (225 : Nat) "MatrixPress$Step" "from" "I" "MatrixPress") ∈ lw_tbl := lw_at lw_m3 170 rfl
theorem q758 : (Jvm.Cond.fieldLinkNest "MatrixPress" (228 : Nat) "MatrixPress$Step" "bytes" "I" "MatrixPress") ∈ lw_tbl := lw_at lw_m3 171 rfl
theorem q760 : (Jvm.Cond.fieldLinkNest "MatrixPress" (231 : Nat) "MatrixPress$Step" "codewords" "I" "MatrixPress") ∈ lw_tbl := lw_at lw_m3 173 rfl
theorem q905 : (Jvm.Cond.methodLink "MatrixPress" (128 : Nat) ({ cls := "java/util/ArrayList", name := "clear", desc := "()V" } : Jvm.MethodName)) ∈ lw_all := lw_g (lw_at lw_m4 78 rfl) rfl
theorem q906 : (Jvm.Cond.methodLink "MatrixPress" (132 : Nat) ({ cls := "java/util/ArrayList", name := "size", desc := "()I" } : Jvm.MethodName)) ∈ lw_all := lw_g (lw_at lw_m4 79 rfl) rfl
theorem q907 : (Jvm.Cond.methodLink "MatrixPress" (135 : Nat) ({ cls := "java/util/ArrayList", name := "get", desc := "(I)Ljava/lang/Object;" } : Jvm.MethodName)) ∈ lw_all := lw_g (lw_at lw_m4 80 rfl) rfl
theorem q908 : (Jvm.Cond.classLink "MatrixPress" (139 : Nat) "MatrixPress$Step") ∈ lw_all := lw_g (lw_at lw_m4 81 rfl) rfl
theorem q909 : (Jvm.Cond.methodLink "MatrixPress" (147 : Nat) ({ cls := "MatrixPress", name := "gathers", desc := "(LMatrixPress$Symbol;I)I" } : Jvm.MethodName)) ∈ lw_all := lw_g (lw_at lw_m4 82 rfl) rfl
theorem q910 : (Jvm.Cond.privateMethod ({ cls := "MatrixPress", name := "gathers", desc := "(LMatrixPress$Symbol;I)I" } : Jvm.MethodName)) ∈ lw_tbl := lw_at lw_m4 83 rfl
theorem q911 : (Jvm.Cond.instanceMethod ({ cls := "MatrixPress", name := "gathers", desc := "(LMatrixPress$Symbol;I)I" } : Jvm.MethodName)) ∈ lw_all := lw_g (lw_at lw_m4 84 rfl) rfl
theorem q912 : (Jvm.Cond.code ({ cls := "MatrixPress", name := "gathers", desc := "(LMatrixPress$Symbol;I)I" } : Jvm.MethodName) prog_1_method_5_code (5 : Nat) (Option.some Jvm.ClassFile.FieldType.int)) ∈ lw_all := lw_g (lw_at lw_m4 85 rfl) rfl
theorem q913 : (Jvm.Cond.methodLink "MatrixPress" (172 : Nat) ({ cls := "MatrixPress$Symbol", name := "of", desc := "(I)I" } : Jvm.MethodName)) ∈ lw_all := lw_g (lw_at lw_m4 86 rfl) rfl
theorem q917 : (Jvm.Cond.methodLink "MatrixPress" (151 : Nat) ({ cls := "MatrixPress$Symbol", name := "checksOf", desc := "()I" } : Jvm.MethodName)) ∈ lw_all := lw_g (lw_at lw_m4 90 rfl) rfl
theorem q921 : (Jvm.Cond.methodLink "MatrixPress" (154 : Nat) ({ cls := "MatrixPress$Field", name := "check", desc := "(II)V" } : Jvm.MethodName)) ∈ lw_all := lw_g (lw_at lw_m4 94 rfl) rfl
theorem q929 : (Jvm.Cond.methodLink "MatrixPress" (158 : Nat) ({ cls := "MatrixPress", name := "spreads", desc := "(LMatrixPress$Symbol;II)V" } : Jvm.MethodName)) ∈ lw_all := lw_g (lw_at lw_m4 102 rfl) rfl
theorem q930 : (Jvm.Cond.privateMethod ({ cls := "MatrixPress", name := "spreads", desc := "(LMatrixPress$Symbol;II)V" } : Jvm.MethodName)) ∈ lw_tbl := lw_at lw_m4 103 rfl
theorem q931 : (Jvm.Cond.instanceMethod ({ cls := "MatrixPress", name := "spreads", desc := "(LMatrixPress$Symbol;II)V" } : Jvm.MethodName)) ∈ lw_all := lw_g (lw_at lw_m4 104 rfl) rfl
theorem q932 : (Jvm.Cond.code ({ cls := "MatrixPress", name := "spreads", desc := "(LMatrixPress$Symbol;II)V" } : Jvm.MethodName) prog_1_method_6_code (5 : Nat) (Option.none : Option Jvm.ClassFile.FieldType)) ∈ lw_all := lw_g (lw_at lw_m4 105 rfl) rfl
theorem q933 : (Jvm.Cond.methodLink "MatrixPress" (166 : Nat) ({ cls := "MatrixPress", name := "draw", desc := "()V" } : Jvm.MethodName)) ∈ lw_all := lw_g (lw_at lw_m4 106 rfl) rfl
theorem q934 : (Jvm.Cond.privateMethod ({ cls := "MatrixPress", name := "draw", desc := "()V" } : Jvm.MethodName)) ∈ lw_tbl := lw_at lw_m4 107 rfl
theorem q935 : (Jvm.Cond.instanceMethod ({ cls := "MatrixPress", name := "draw", desc := "()V" } : Jvm.MethodName)) ∈ lw_all := lw_g (lw_at lw_m4 108 rfl) rfl
theorem q936 : (Jvm.Cond.code ({ cls := "MatrixPress", name := "draw", desc := "()V" } : Jvm.MethodName) prog_1_method_8_code (3 : Nat) (Option.none : Option Jvm.ClassFile.FieldType)) ∈ lw_all := lw_g (lw_at lw_m4 109 rfl) rfl
theorem q937 : (Jvm.Cond.methodLink "MatrixPress" (188 : Nat) ({ cls := "MatrixPress$Plane", name := "lay", desc := "(LMatrixPress$Symbol;)V" } : Jvm.MethodName)) ∈ lw_all := lw_g (lw_at lw_m4 110 rfl) rfl
theorem q957 : (Jvm.Cond.methodLink "MatrixPress" (198 : Nat) ({ cls := "MatrixPress$Symbol", name := "border", desc := "(II)I" } : Jvm.MethodName)) ∈ lw_all := lw_g (lw_at lw_m4 130 rfl) rfl
theorem q961 : (Jvm.Cond.methodLink "MatrixPress" (205 : Nat) ({ cls := "MatrixPress", name := "write", desc := "(II)V" } : Jvm.MethodName)) ∈ lw_all := lw_g (lw_at lw_m4 134 rfl) rfl
theorem q962 : (Jvm.Cond.privateMethod ({ cls := "MatrixPress", name := "write", desc := "(II)V" } : Jvm.MethodName)) ∈ lw_tbl := lw_at lw_m4 135 rfl
theorem q963 : (Jvm.Cond.instanceMethod ({ cls := "MatrixPress", name := "write", desc := "(II)V" } : Jvm.MethodName)) ∈ lw_all := lw_g (lw_at lw_m4 136 rfl) rfl
theorem q964 : (Jvm.Cond.code ({ cls := "MatrixPress", name := "write", desc := "(II)V" } : Jvm.MethodName) prog_1_method_9_code (4 : Nat) (Option.none : Option Jvm.ClassFile.FieldType)) ∈ lw_all := lw_g (lw_at lw_m4 137 rfl) rfl
theorem q965 : (Jvm.Cond.methodLink "MatrixPress" (213 : Nat) ({ cls := "MatrixPress", name := "place", desc := "(I)I" } : Jvm.MethodName)) ∈ lw_all := lw_g (lw_at lw_m4 138 rfl) rfl
theorem q966 : (Jvm.Cond.privateMethod ({ cls := "MatrixPress", name := "place", desc := "(I)I" } : Jvm.MethodName)) ∈ lw_tbl := lw_at lw_m4 139 rfl
theorem q967 : (Jvm.Cond.instanceMethod ({ cls := "MatrixPress", name := "place", desc := "(I)I" } : Jvm.MethodName)) ∈ lw_all := lw_g (lw_at lw_m4 140 rfl) rfl
theorem q968 : (Jvm.Cond.code ({ cls := "MatrixPress", name := "place", desc := "(I)I" } : Jvm.MethodName) prog_1_method_7_code (2 : Nat) (Option.some Jvm.ClassFile.FieldType.int)) ∈ lw_all := lw_g (lw_at lw_m4 141 rfl) rfl
theorem q969 : (Jvm.Cond.methodLink "MatrixPress" (182 : Nat) ({ cls := "MatrixPress$Symbol", name := "row", desc := "(I)I" } : Jvm.MethodName)) ∈ lw_all := lw_g (lw_at lw_m4 142 rfl) rfl
theorem q973 : (Jvm.Cond.methodLink "MatrixPress" (185 : Nat) ({ cls := "MatrixPress$Symbol", name := "column", desc := "(I)I" } : Jvm.MethodName)) ∈ lw_all := lw_g (lw_at lw_m4 146 rfl) rfl
theorem q978 : (Jvm.Cond.instanceMethod ({ cls := "MatrixPress", name := "stream", desc := "(I)I" } : Jvm.MethodName)) ∈ lw_all := lw_g (lw_at lw_m4 151 rfl) rfl
theorem q979 : (Jvm.Cond.selects "MatrixPress" ({ cls := "MatrixPress", name := "stream", desc := "(I)I" } : Jvm.MethodName) ({ cls := "MatrixPress", name := "stream", desc := "(I)I" } : Jvm.MethodName)) ∈ lw_all := lw_g (lw_at lw_m4 152 rfl) rfl
theorem q980 : (Jvm.Cond.code ({ cls := "MatrixPress", name := "stream", desc := "(I)I" } : Jvm.MethodName) prog_1_method_13_code (4 : Nat) (Option.some Jvm.ClassFile.FieldType.int)) ∈ lw_all := lw_g (lw_at lw_m4 153 rfl) rfl
theorem q981 : (Jvm.Cond.methodLink "MatrixPress" (250 : Nat) ({ cls := "MatrixPress", name := "tells", desc := "(I)Z" } : Jvm.MethodName)) ∈ lw_all := lw_g (lw_at lw_m4 154 rfl) rfl
theorem q982 : (Jvm.Cond.privateMethod ({ cls := "MatrixPress", name := "tells", desc := "(I)Z" } : Jvm.MethodName)) ∈ lw_tbl := lw_at lw_m4 155 rfl
theorem q983 : (Jvm.Cond.instanceMethod ({ cls := "MatrixPress", name := "tells", desc := "(I)Z" } : Jvm.MethodName)) ∈ lw_all := lw_g (lw_at lw_m4 156 rfl) rfl
theorem q984 : (Jvm.Cond.codeWith ({ cls := "MatrixPress", name := "tells", desc := "(I)Z" } : Jvm.MethodName) prog_1_method_12_code (3 : Nat) (Option.some Jvm.ClassFile.FieldType.boolean) [((36 : Nat), (47 : Nat), (50 : Nat), (239 : Nat))]) ∈ lw_all := lw_g (lw_at lw_m4 157 rfl) rfl
theorem q985 : (Jvm.Cond.classLink "MatrixPress" (239 : Nat) "MatrixPress$NoStream") ∈ lw_all := lw_g (lw_at lw_m4 158 rfl) rfl
theorem q986 : (Jvm.Cond.methodLink "MatrixPress" (234 : Nat) ({ cls := "MatrixPress$Stream", name := "begin", desc := "(I)V" } : Jvm.MethodName)) ∈ lw_all := lw_g (lw_at lw_m4 159 rfl) rfl
theorem q987 : (Jvm.Cond.methodLink "MatrixPress" (236 : Nat) ({ cls := "MatrixPress$Stream", name := "read", desc := "(Ljava/util/ArrayList;)V" } : Jvm.MethodName)) ∈ lw_all := lw_g (lw_at lw_m4 160 rfl) rfl
theorem q1104 : (Jvm.Cond.instanceMethod ({ cls := "MatrixPress", name := "load", desc := "(I)Z" } : Jvm.MethodName)) ∈ lw_all := lw_g (lw_at lw_m5 37 rfl) rfl
theorem q1105 : (Jvm.Cond.selects "MatrixPress" ({ cls := "MatrixPress", name := "load", desc := "(I)Z" } : Jvm.MethodName) ({ cls := "MatrixPress", name := "load", desc := "(I)Z" } : Jvm.MethodName)) ∈ lw_all := lw_g (lw_at lw_m5 38 rfl) rfl
theorem q1106 : (Jvm.Cond.code ({ cls := "MatrixPress", name := "load", desc := "(I)Z" } : Jvm.MethodName) prog_1_method_14_code (4 : Nat) (Option.some Jvm.ClassFile.FieldType.boolean)) ∈ lw_all := lw_g (lw_at lw_m5 39 rfl) rfl
theorem q1108 : (Jvm.Cond.instanceMethod ({ cls := "MatrixPress", name := "decode", desc := "()I" } : Jvm.MethodName)) ∈ lw_all := lw_g (lw_at lw_m5 41 rfl) rfl
theorem q1109 : (Jvm.Cond.selects "MatrixPress" ({ cls := "MatrixPress", name := "decode", desc := "()I" } : Jvm.MethodName) ({ cls := "MatrixPress", name := "decode", desc := "()I" } : Jvm.MethodName)) ∈ lw_all := lw_g (lw_at lw_m5 42 rfl) rfl
theorem q1110 : (Jvm.Cond.code ({ cls := "MatrixPress", name := "decode", desc := "()I" } : Jvm.MethodName) prog_1_method_15_code (5 : Nat) (Option.some Jvm.ClassFile.FieldType.int)) ∈ lw_all := lw_g (lw_at lw_m5 43 rfl) rfl
theorem q1111 : (Jvm.Cond.methodLink "MatrixPress" (253 : Nat) ({ cls := "MatrixPress", name := "wordAt", desc := "(I)I" } : Jvm.MethodName)) ∈ lw_all := lw_g (lw_at lw_m5 44 rfl) rfl
theorem q1112 : (Jvm.Cond.privateMethod ({ cls := "MatrixPress", name := "wordAt", desc := "(I)I" } : Jvm.MethodName)) ∈ lw_tbl := lw_at lw_m5 45 rfl
theorem q1113 : (Jvm.Cond.instanceMethod ({ cls := "MatrixPress", name := "wordAt", desc := "(I)I" } : Jvm.MethodName)) ∈ lw_all := lw_g (lw_at lw_m5 46 rfl) rfl
theorem q1114 : (Jvm.Cond.code ({ cls := "MatrixPress", name := "wordAt", desc := "(I)I" } : Jvm.MethodName) prog_1_method_10_code (4 : Nat) (Option.some Jvm.ClassFile.FieldType.int)) ∈ lw_all := lw_g (lw_at lw_m5 47 rfl) rfl
theorem q1115 : (Jvm.Cond.methodLink "MatrixPress" (256 : Nat) ({ cls := "MatrixPress$Field", name := "mend", desc := "(II)I" } : Jvm.MethodName)) ∈ lw_all := lw_g (lw_at lw_m5 48 rfl) rfl
theorem q1136 : (Jvm.Cond.instanceMethod ({ cls := "MatrixPress", name := "letter", desc := "(I)I" } : Jvm.MethodName)) ∈ lw_all := lw_g (lw_at lw_m5 69 rfl) rfl
theorem q1137 : (Jvm.Cond.selects "MatrixPress" ({ cls := "MatrixPress", name := "letter", desc := "(I)I" } : Jvm.MethodName) ({ cls := "MatrixPress", name := "letter", desc := "(I)I" } : Jvm.MethodName)) ∈ lw_all := lw_g (lw_at lw_m5 70 rfl) rfl
theorem q1138 : (Jvm.Cond.code ({ cls := "MatrixPress", name := "letter", desc := "(I)I" } : Jvm.MethodName) prog_1_method_16_code (2 : Nat) (Option.some Jvm.ClassFile.FieldType.int)) ∈ lw_all := lw_g (lw_at lw_m5 71 rfl) rfl
theorem q1140 : (Jvm.Cond.instanceMethod ({ cls := "MatrixPress", name := "module", desc := "(II)I" } : Jvm.MethodName)) ∈ lw_all := lw_g (lw_at lw_m5 73 rfl) rfl
theorem q1141 : (Jvm.Cond.selects "MatrixPress" ({ cls := "MatrixPress", name := "module", desc := "(II)I" } : Jvm.MethodName) ({ cls := "MatrixPress", name := "module", desc := "(II)I" } : Jvm.MethodName)) ∈ lw_all := lw_g (lw_at lw_m5 74 rfl) rfl
theorem q1142 : (Jvm.Cond.code ({ cls := "MatrixPress", name := "module", desc := "(II)I" } : Jvm.MethodName) prog_1_method_18_code (3 : Nat) (Option.some Jvm.ClassFile.FieldType.int)) ∈ lw_all := lw_g (lw_at lw_m5 75 rfl) rfl
theorem q1143 : (Jvm.Cond.methodLink "MatrixPress" (262 : Nat) ({ cls := "MatrixPress", name := "isModule", desc := "(II)Z" } : Jvm.MethodName)) ∈ lw_all := lw_g (lw_at lw_m5 76 rfl) rfl
theorem q1144 : (Jvm.Cond.privateMethod ({ cls := "MatrixPress", name := "isModule", desc := "(II)Z" } : Jvm.MethodName)) ∈ lw_tbl := lw_at lw_m5 77 rfl
theorem q1145 : (Jvm.Cond.instanceMethod ({ cls := "MatrixPress", name := "isModule", desc := "(II)Z" } : Jvm.MethodName)) ∈ lw_all := lw_g (lw_at lw_m5 78 rfl) rfl
theorem q1146 : (Jvm.Cond.code ({ cls := "MatrixPress", name := "isModule", desc := "(II)Z" } : Jvm.MethodName) prog_1_method_17_code (3 : Nat) (Option.some Jvm.ClassFile.FieldType.boolean)) ∈ lw_all := lw_g (lw_at lw_m5 79 rfl) rfl
theorem q1148 : (Jvm.Cond.instanceMethod ({ cls := "MatrixPress", name := "flip", desc := "(II)Z" } : Jvm.MethodName)) ∈ lw_all := lw_g (lw_at lw_m5 81 rfl) rfl
theorem q1149 : (Jvm.Cond.selects "MatrixPress" ({ cls := "MatrixPress", name := "flip", desc := "(II)Z" } : Jvm.MethodName) ({ cls := "MatrixPress", name := "flip", desc := "(II)Z" } : Jvm.MethodName)) ∈ lw_all := lw_g (lw_at lw_m5 82 rfl) rfl
theorem q1150 : (Jvm.Cond.code ({ cls := "MatrixPress", name := "flip", desc := "(II)Z" } : Jvm.MethodName) prog_1_method_19_code (3 : Nat) (Option.some Jvm.ClassFile.FieldType.boolean)) ∈ lw_all := lw_g (lw_at lw_m5 83 rfl) rfl
theorem q1152 : (Jvm.Cond.instanceMethod ({ cls := "MatrixPress", name := "codeword", desc := "(I)I" } : Jvm.MethodName)) ∈ lw_all := lw_g (lw_at lw_m5 85 rfl) rfl
theorem q1153 : (Jvm.Cond.selects "MatrixPress" ({ cls := "MatrixPress", name := "codeword", desc := "(I)I" } : Jvm.MethodName) ({ cls := "MatrixPress", name := "codeword", desc := "(I)I" } : Jvm.MethodName)) ∈ lw_all := lw_g (lw_at lw_m5 86 rfl) rfl
theorem q1154 : (Jvm.Cond.code ({ cls := "MatrixPress", name := "codeword", desc := "(I)I" } : Jvm.MethodName) prog_1_method_20_code (2 : Nat) (Option.some Jvm.ClassFile.FieldType.int)) ∈ lw_all := lw_g (lw_at lw_m5 87 rfl) rfl
theorem q1156 : (Jvm.Cond.instanceMethod ({ cls := "MatrixPress", name := "set", desc := "(II)Z" } : Jvm.MethodName)) ∈ lw_all := lw_g (lw_at lw_m5 89 rfl) rfl
theorem q1157 : (Jvm.Cond.selects "MatrixPress" ({ cls := "MatrixPress", name := "set", desc := "(II)Z" } : Jvm.MethodName) ({ cls := "MatrixPress", name := "set", desc := "(II)Z" } : Jvm.MethodName)) ∈ lw_all := lw_g (lw_at lw_m5 90 rfl) rfl
theorem q1158 : (Jvm.Cond.code ({ cls := "MatrixPress", name := "set", desc := "(II)Z" } : Jvm.MethodName) prog_1_method_21_code (3 : Nat) (Option.some Jvm.ClassFile.FieldType.boolean)) ∈ lw_all := lw_g (lw_at lw_m5 91 rfl) rfl
theorem q1160 : (Jvm.Cond.instanceMethod ({ cls := "MatrixPress", name := "size", desc := "(II)I" } : Jvm.MethodName)) ∈ lw_all := lw_g (lw_at lw_m5 93 rfl) rfl
theorem q1161 : (Jvm.Cond.selects "MatrixPress" ({ cls := "MatrixPress", name := "size", desc := "(II)I" } : Jvm.MethodName) ({ cls := "MatrixPress", name := "size", desc := "(II)I" } : Jvm.MethodName)) ∈ lw_all := lw_g (lw_at lw_m5 94 rfl) rfl
theorem q1162 : (Jvm.Cond.code ({ cls := "MatrixPress", name := "size", desc := "(II)I" } : Jvm.MethodName) prog_1_method_22_code (4 : Nat) (Option.some Jvm.ClassFile.FieldType.int)) ∈ lw_all := lw_g (lw_at lw_m5 95 rfl) rfl
theorem q1164 : (Jvm.Cond.instanceMethod ({ cls := "MatrixPress", name := "about", desc := "(I)I" } : Jvm.MethodName)) ∈ lw_all := lw_g (lw_at lw_m5 97 rfl) rfl
theorem q1165 : (Jvm.Cond.selects "MatrixPress" ({ cls := "MatrixPress", name := "about", desc := "(I)I" } : Jvm.MethodName) ({ cls := "MatrixPress", name := "about", desc := "(I)I" } : Jvm.MethodName)) ∈ lw_all := lw_g (lw_at lw_m5 98 rfl) rfl
theorem q1166 : (Jvm.Cond.code ({ cls := "MatrixPress", name := "about", desc := "(I)I" } : Jvm.MethodName) prog_1_method_23_code (2 : Nat) (Option.some Jvm.ClassFile.FieldType.int)) ∈ lw_all := lw_g (lw_at lw_m5 99 rfl) rfl
theorem q1172 : (Jvm.Cond.instanceMethod ({ cls := "MatrixPress", name := "step", desc := "(II)I" } : Jvm.MethodName)) ∈ lw_all := lw_g (lw_at lw_m5 105 rfl) rfl
theorem q1173 : (Jvm.Cond.selects "MatrixPress" ({ cls := "MatrixPress", name := "step", desc := "(II)I" } : Jvm.MethodName) ({ cls := "MatrixPress", name := "step", desc := "(II)I" } : Jvm.MethodName)) ∈ lw_all := lw_g (lw_at lw_m5 106 rfl) rfl
theorem q1174 : (Jvm.Cond.code ({ cls := "MatrixPress", name := "step", desc := "(II)I" } : Jvm.MethodName) prog_1_method_11_code (4 : Nat) (Option.some Jvm.ClassFile.FieldType.int)) ∈ lw_all := lw_g (lw_at lw_m5 107 rfl) rfl
theorem q1175 : (Jvm.Cond.classLink "MatrixPress" (219 : Nat) "java/util/NoSuchElementException") ∈ lw_all := lw_g (lw_at lw_m5 108 rfl) rfl
theorem q1184 : (Jvm.Cond.methodLink "MatrixPress" (221 : Nat) ({ cls := "java/util/NoSuchElementException", name := "<init>", desc := "()V" } : Jvm.MethodName)) ∈ lw_all := lw_g (lw_at lw_m5 117 rfl) rfl
theorem q1745 : (Jvm.Cond.castable "MatrixPress" "java/lang/Object") ∈ lw_tbl := lw_at lw_m7 198 rfl
theorem in_X1 : ∀ w ∈ wsX10, w ∈ lw_all := lw_in wsX10 [538, 540, 542, 544, 546, 548, 550, 552, 554, 556, 558, 560, 562, 564, 566, 568, 570, 572] (by decide +kernel) (by decide +kernel)
/-! MatrixPress$Plane -/
set_option maxRecDepth 100000
def RX2 : String := "MatrixPress$Plane"
def TX2 : u_T := fun k => match k with
  | 0 => ("MatrixPress$Plane", "at", "[I", true)
  | 1 => ("MatrixPress$Plane", "taken", "[Z", true)
  | 2 => ("MatrixPress$Plane", "rows", "I", false)
  | 3 => ("MatrixPress$Plane", "columns", "I", false)
  | 4 => ("MatrixPress$Plane", "n", "I", false)
  | 5 => ("MatrixPress$Plane", "rest", "Z", false)
  | _ => ("MatrixPress$Plane", "laid", "LMatrixPress$Symbol;", false)
def tyX2 : Nat → FieldType := fun k => match k with
  | 0 => .array .int
  | 1 => .array .boolean
  | 2 => .int
  | 3 => .int
  | 4 => .int
  | 5 => .boolean
  | _ => .object "MatrixPress$Symbol"
abbrev wsX20 : List Cond := u_ws RX2 TX2 7
theorem nmX2 : ∀ a, a < 7 → ∀ b, b < 7 → a ≠ b → (TX2 a).2.1 ≠ (TX2 b).2.1 := by decide +kernel
theorem tyX2_ok : ∀ k, k < 7 → parseFieldDescriptor (TX2 k).2.2.1 = some (tyX2 k) := by decide +kernel
abbrev cX2_init : ByteArray := prog_8_method_1_code
def yX2_init : MethodName := ⟨RX2, "<init>", "()V"⟩
def dkwX2_init_0 : List UInt8 := [42, 183, 0, 3, 42, 17, 68, 16, 188, 10, 181, 0, 9, 42, 17, 81, 0, 188, 4, 181, 0, 15, 177]
abbrev dktX2_init_0 : List UInt8 := dkwX2_init_0 ++ []
theorem dksX2_init_0 : cX2_init.data.toList.drop 0 = dktX2_init_0 := by decide +kernel
theorem dX2_init_0 : decode cX2_init 0 = .ok (.aload_n 0, 1) := dk_42 (dk_at dksX2_init_0 0 rfl rfl)
theorem dX2_init_1 : decode cX2_init 1 = .ok (.invokespecial 3, 3) := dk_183 0 3 (dk_at dksX2_init_0 1 rfl rfl)
theorem dX2_init_4 : decode cX2_init 4 = .ok (.aload_n 0, 1) := dk_42 (dk_at dksX2_init_0 4 rfl rfl)
theorem dX2_init_5 : decode cX2_init 5 = .ok (.sipush 17424, 3) := dk_17 68 16 (dk_at dksX2_init_0 5 rfl rfl)
theorem dX2_init_8 : decode cX2_init 8 = .ok (.newarray .int, 2) := dk_188_10 (dk_at dksX2_init_0 8 rfl rfl)
theorem dX2_init_10 : decode cX2_init 10 = .ok (.putfield 9, 3) := dk_181 0 9 (dk_at dksX2_init_0 10 rfl rfl)
theorem dX2_init_13 : decode cX2_init 13 = .ok (.aload_n 0, 1) := dk_42 (dk_at dksX2_init_0 13 rfl rfl)
theorem dX2_init_14 : decode cX2_init 14 = .ok (.sipush 20736, 3) := dk_17 81 0 (dk_at dksX2_init_0 14 rfl rfl)
theorem dX2_init_17 : decode cX2_init 17 = .ok (.newarray .boolean, 2) := dk_188_4 (dk_at dksX2_init_0 17 rfl rfl)
theorem dX2_init_19 : decode cX2_init 19 = .ok (.putfield 15, 3) := dk_181 0 15 (dk_at dksX2_init_0 19 rfl rfl)
theorem dX2_init_22 : decode cX2_init 22 = .ok (.return_, 1) := dk_177 (dk_at dksX2_init_0 22 rfl rfl)
abbrev cX2_lay : ByteArray := prog_8_method_2_code
def yX2_lay : MethodName := ⟨RX2, "lay", "(LMatrixPress$Symbol;)V"⟩
def dkwX2_lay_34 : List UInt8 := [181, 0, 49, 177]
abbrev dktX2_lay_34 : List UInt8 := dkwX2_lay_34 ++ []
def dkwX2_lay_33 : List UInt8 := [180, 0, 15, 42, 180, 0, 29, 42, 180, 0, 35, 104, 4, 100, 51, 154, 0, 7, 4, 167, 0, 4, 3]
abbrev dktX2_lay_33 : List UInt8 := dkwX2_lay_33 ++ dktX2_lay_34
def dkwX2_lay_32 : List UInt8 := [132, 2, 3, 132, 3, 1, 28, 42, 180, 0, 29, 161, 253, 69, 29, 42, 180, 0, 35, 161, 253, 61, 42, 42]
abbrev dktX2_lay_32 : List UInt8 := dkwX2_lay_32 ++ dktX2_lay_33
def dkwX2_lay_31 : List UInt8 := [29, 182, 0, 45, 132, 2, 2, 132, 3, 254, 28, 42, 180, 0, 29, 162, 0, 7, 29, 156, 255, 207]
abbrev dktX2_lay_31 : List UInt8 := dkwX2_lay_31 ++ dktX2_lay_32
def dkwX2_lay_30 : List UInt8 := [180, 0, 35, 162, 0, 25, 42, 180, 0, 15, 28, 42, 180, 0, 35, 104, 29, 96, 51, 154, 0, 9, 42, 28]
abbrev dktX2_lay_30 : List UInt8 := dkwX2_lay_30 ++ dktX2_lay_31
def dkwX2_lay_29 : List UInt8 := [155, 0, 11, 29, 42, 180, 0, 35, 161, 255, 207, 132, 2, 1, 132, 3, 3, 28, 155, 0, 33, 29, 42]
abbrev dktX2_lay_29 : List UInt8 := dkwX2_lay_29 ++ dktX2_lay_30
def dkwX2_lay_28 : List UInt8 := [180, 0, 35, 104, 29, 96, 51, 154, 0, 9, 42, 28, 29, 182, 0, 45, 132, 2, 254, 132, 3, 2, 28]
abbrev dktX2_lay_28 : List UInt8 := dkwX2_lay_28 ++ dktX2_lay_29
def dkwX2_lay_27 : List UInt8 := [4, 100, 79, 182, 0, 41, 28, 42, 180, 0, 29, 162, 0, 29, 29, 155, 0, 25, 42, 180, 0, 15, 28, 42]
abbrev dktX2_lay_27 : List UInt8 := dkwX2_lay_27 ++ dktX2_lay_28
def dkwX2_lay_26 : List UInt8 := [4, 79, 89, 16, 13, 42, 180, 0, 35, 5, 100, 79, 89, 16, 14, 4, 79, 89, 16, 15, 42, 180, 0, 35]
abbrev dktX2_lay_26 : List UInt8 := dkwX2_lay_26 ++ dktX2_lay_27
def dkwX2_lay_25 : List UInt8 := [180, 0, 35, 4, 100, 79, 89, 16, 10, 4, 79, 89, 16, 11, 42, 180, 0, 35, 6, 100, 79, 89, 16, 12]
abbrev dktX2_lay_25 : List UInt8 := dkwX2_lay_25 ++ dktX2_lay_26
def dkwX2_lay_24 : List UInt8 := [89, 16, 6, 3, 79, 89, 16, 7, 42, 180, 0, 35, 5, 100, 79, 89, 16, 8, 3, 79, 89, 16, 9, 42]
abbrev dktX2_lay_24 : List UInt8 := dkwX2_lay_24 ++ dktX2_lay_25
def dkwX2_lay_23 : List UInt8 := [100, 79, 89, 6, 42, 180, 0, 35, 4, 100, 79, 89, 7, 3, 79, 89, 8, 42, 180, 0, 35, 6, 100, 79]
abbrev dktX2_lay_23 : List UInt8 := dkwX2_lay_23 ++ dktX2_lay_24
def dkwX2_lay_22 : List UInt8 := [16, 16, 188, 10, 89, 3, 42, 180, 0, 29, 4, 100, 79, 89, 4, 3, 79, 89, 5, 42, 180, 0, 29, 4]
abbrev dktX2_lay_22 : List UInt8 := dkwX2_lay_22 ++ dktX2_lay_23
def dkwX2_lay_21 : List UInt8 := [180, 0, 29, 7, 96, 160, 0, 145, 29, 5, 160, 0, 140, 42, 180, 0, 35, 16, 8, 112, 154, 0, 130, 42]
abbrev dktX2_lay_21 : List UInt8 := dkwX2_lay_21 ++ dktX2_lay_22
def dkwX2_lay_20 : List UInt8 := [4, 100, 79, 89, 16, 14, 6, 79, 89, 16, 15, 42, 180, 0, 35, 4, 100, 79, 182, 0, 41, 28, 42]
abbrev dktX2_lay_20 : List UInt8 := dkwX2_lay_20 ++ dktX2_lay_21
def dkwX2_lay_19 : List UInt8 := [4, 79, 89, 16, 11, 42, 180, 0, 35, 4, 100, 79, 89, 16, 12, 5, 79, 89, 16, 13, 42, 180, 0, 35]
abbrev dktX2_lay_19 : List UInt8 := dkwX2_lay_19 ++ dktX2_lay_20
def dkwX2_lay_18 : List UInt8 := [180, 0, 35, 5, 100, 79, 89, 16, 8, 3, 79, 89, 16, 9, 42, 180, 0, 35, 4, 100, 79, 89, 16, 10]
abbrev dktX2_lay_18 : List UInt8 := dkwX2_lay_18 ++ dktX2_lay_19
def dkwX2_lay_17 : List UInt8 := [79, 89, 7, 42, 180, 0, 29, 4, 100, 79, 89, 8, 3, 79, 89, 16, 6, 3, 79, 89, 16, 7, 42]
abbrev dktX2_lay_17 : List UInt8 := dkwX2_lay_17 ++ dktX2_lay_18
def dkwX2_lay_16 : List UInt8 := [3, 42, 180, 0, 29, 6, 100, 79, 89, 4, 3, 79, 89, 5, 42, 180, 0, 29, 5, 100, 79, 89, 6, 3]
abbrev dktX2_lay_16 : List UInt8 := dkwX2_lay_16 ++ dktX2_lay_17
def dkwX2_lay_15 : List UInt8 := [160, 0, 140, 29, 154, 0, 136, 42, 180, 0, 35, 16, 8, 112, 7, 160, 0, 125, 42, 16, 16, 188, 10, 89]
abbrev dktX2_lay_15 : List UInt8 := dkwX2_lay_15 ++ dktX2_lay_16
def dkwX2_lay_14 : List UInt8 := [16, 14, 4, 79, 89, 16, 15, 42, 180, 0, 35, 4, 100, 79, 182, 0, 41, 28, 42, 180, 0, 29, 5, 100]
abbrev dktX2_lay_14 : List UInt8 := dkwX2_lay_14 ++ dktX2_lay_15
def dkwX2_lay_13 : List UInt8 := [42, 180, 0, 35, 5, 100, 79, 89, 16, 12, 3, 79, 89, 16, 13, 42, 180, 0, 35, 4, 100, 79, 89]
abbrev dktX2_lay_13 : List UInt8 := dkwX2_lay_13 ++ dktX2_lay_14
def dkwX2_lay_12 : List UInt8 := [79, 89, 16, 8, 3, 79, 89, 16, 9, 42, 180, 0, 35, 6, 100, 79, 89, 16, 10, 3, 79, 89, 16, 11]
abbrev dktX2_lay_12 : List UInt8 := dkwX2_lay_12 ++ dktX2_lay_13
def dkwX2_lay_11 : List UInt8 := [180, 0, 29, 4, 100, 79, 89, 8, 3, 79, 89, 16, 6, 3, 79, 89, 16, 7, 42, 180, 0, 35, 7, 100]
abbrev dktX2_lay_11 : List UInt8 := dkwX2_lay_11 ++ dktX2_lay_12
def dkwX2_lay_10 : List UInt8 := [100, 79, 89, 4, 3, 79, 89, 5, 42, 180, 0, 29, 5, 100, 79, 89, 6, 3, 79, 89, 7, 42]
abbrev dktX2_lay_10 : List UInt8 := dkwX2_lay_10 ++ dktX2_lay_11
def dkwX2_lay_9 : List UInt8 := [154, 0, 134, 42, 180, 0, 35, 7, 112, 153, 0, 125, 42, 16, 16, 188, 10, 89, 3, 42, 180, 0, 29, 6]
abbrev dktX2_lay_9 : List UInt8 := dkwX2_lay_9 ++ dktX2_lay_10
def dkwX2_lay_8 : List UInt8 := [16, 15, 42, 180, 0, 35, 4, 100, 79, 182, 0, 41, 28, 42, 180, 0, 29, 5, 100, 160, 0, 138, 29]
abbrev dktX2_lay_8 : List UInt8 := dkwX2_lay_8 ++ dktX2_lay_9
def dkwX2_lay_7 : List UInt8 := [4, 100, 79, 89, 16, 12, 5, 79, 89, 16, 13, 42, 180, 0, 35, 4, 100, 79, 89, 16, 14, 6, 79, 89]
abbrev dktX2_lay_7 : List UInt8 := dkwX2_lay_7 ++ dktX2_lay_8
def dkwX2_lay_6 : List UInt8 := [3, 79, 89, 16, 9, 42, 180, 0, 35, 4, 100, 79, 89, 16, 10, 4, 79, 89, 16, 11, 42, 180, 0, 35]
abbrev dktX2_lay_6 : List UInt8 := dkwX2_lay_6 ++ dktX2_lay_7
def dkwX2_lay_5 : List UInt8 := [100, 79, 89, 8, 5, 79, 89, 16, 6, 3, 79, 89, 16, 7, 42, 180, 0, 35, 5, 100, 79, 89, 16, 8]
abbrev dktX2_lay_5 : List UInt8 := dkwX2_lay_5 ++ dktX2_lay_6
def dkwX2_lay_4 : List UInt8 := [89, 4, 3, 79, 89, 5, 42, 180, 0, 29, 4, 100, 79, 89, 6, 4, 79, 89, 7, 42, 180, 0, 29, 4]
abbrev dktX2_lay_4 : List UInt8 := dkwX2_lay_4 ++ dktX2_lay_5
def dkwX2_lay_3 : List UInt8 := [180, 0, 29, 160, 0, 129, 29, 154, 0, 125, 42, 16, 16, 188, 10, 89, 3, 42, 180, 0, 29, 4, 100, 79]
abbrev dktX2_lay_3 : List UInt8 := dkwX2_lay_3 ++ dktX2_lay_4
def dkwX2_lay_2 : List UInt8 := [162, 0, 16, 42, 180, 0, 15, 28, 3, 84, 132, 2, 1, 167, 255, 233, 7, 61, 3, 62, 28, 42]
abbrev dktX2_lay_2 : List UInt8 := dkwX2_lay_2 ++ dktX2_lay_3
def dkwX2_lay_1 : List UInt8 := [180, 0, 32, 181, 0, 35, 42, 3, 181, 0, 38, 3, 61, 28, 42, 180, 0, 29, 42, 180, 0, 35, 104]
abbrev dktX2_lay_1 : List UInt8 := dkwX2_lay_1 ++ dktX2_lay_2
def dkwX2_lay_0 : List UInt8 := [42, 180, 0, 19, 43, 166, 0, 4, 177, 42, 43, 181, 0, 19, 42, 43, 180, 0, 23, 181, 0, 29, 42, 43]
abbrev dktX2_lay_0 : List UInt8 := dkwX2_lay_0 ++ dktX2_lay_1
theorem dksX2_lay_0 : cX2_lay.data.toList.drop 0 = dktX2_lay_0 := by decide +kernel
theorem dksX2_lay_1 : cX2_lay.data.toList.drop 24 = dktX2_lay_1 := dk_seg dksX2_lay_0 24 rfl rfl
theorem dksX2_lay_2 : cX2_lay.data.toList.drop 47 = dktX2_lay_2 := dk_seg dksX2_lay_1 23 rfl rfl
theorem dksX2_lay_3 : cX2_lay.data.toList.drop 69 = dktX2_lay_3 := dk_seg dksX2_lay_2 22 rfl rfl
theorem dksX2_lay_4 : cX2_lay.data.toList.drop 93 = dktX2_lay_4 := dk_seg dksX2_lay_3 24 rfl rfl
theorem dksX2_lay_5 : cX2_lay.data.toList.drop 117 = dktX2_lay_5 := dk_seg dksX2_lay_4 24 rfl rfl
theorem dksX2_lay_6 : cX2_lay.data.toList.drop 141 = dktX2_lay_6 := dk_seg dksX2_lay_5 24 rfl rfl
theorem dksX2_lay_7 : cX2_lay.data.toList.drop 165 = dktX2_lay_7 := dk_seg dksX2_lay_6 24 rfl rfl
theorem dksX2_lay_8 : cX2_lay.data.toList.drop 189 = dktX2_lay_8 := dk_seg dksX2_lay_7 24 rfl rfl
theorem dksX2_lay_9 : cX2_lay.data.toList.drop 212 = dktX2_lay_9 := dk_seg dksX2_lay_8 23 rfl rfl
theorem dksX2_lay_10 : cX2_lay.data.toList.drop 236 = dktX2_lay_10 := dk_seg dksX2_lay_9 24 rfl rfl
theorem dksX2_lay_11 : cX2_lay.data.toList.drop 258 = dktX2_lay_11 := dk_seg dksX2_lay_10 22 rfl rfl
theorem dksX2_lay_12 : cX2_lay.data.toList.drop 282 = dktX2_lay_12 := dk_seg dksX2_lay_11 24 rfl rfl
theorem dksX2_lay_13 : cX2_lay.data.toList.drop 306 = dktX2_lay_13 := dk_seg dksX2_lay_12 24 rfl rfl
theorem dksX2_lay_14 : cX2_lay.data.toList.drop 329 = dktX2_lay_14 := dk_seg dksX2_lay_13 23 rfl rfl
theorem dksX2_lay_15 : cX2_lay.data.toList.drop 353 = dktX2_lay_15 := dk_seg dksX2_lay_14 24 rfl rfl
theorem dksX2_lay_16 : cX2_lay.data.toList.drop 377 = dktX2_lay_16 := dk_seg dksX2_lay_15 24 rfl rfl
theorem dksX2_lay_17 : cX2_lay.data.toList.drop 401 = dktX2_lay_17 := dk_seg dksX2_lay_16 24 rfl rfl
theorem dksX2_lay_18 : cX2_lay.data.toList.drop 424 = dktX2_lay_18 := dk_seg dksX2_lay_17 23 rfl rfl
theorem dksX2_lay_19 : cX2_lay.data.toList.drop 448 = dktX2_lay_19 := dk_seg dksX2_lay_18 24 rfl rfl
theorem dksX2_lay_20 : cX2_lay.data.toList.drop 472 = dktX2_lay_20 := dk_seg dksX2_lay_19 24 rfl rfl
theorem dksX2_lay_21 : cX2_lay.data.toList.drop 495 = dktX2_lay_21 := dk_seg dksX2_lay_20 23 rfl rfl
theorem dksX2_lay_22 : cX2_lay.data.toList.drop 519 = dktX2_lay_22 := dk_seg dksX2_lay_21 24 rfl rfl
theorem dksX2_lay_23 : cX2_lay.data.toList.drop 543 = dktX2_lay_23 := dk_seg dksX2_lay_22 24 rfl rfl
theorem dksX2_lay_24 : cX2_lay.data.toList.drop 567 = dktX2_lay_24 := dk_seg dksX2_lay_23 24 rfl rfl
theorem dksX2_lay_25 : cX2_lay.data.toList.drop 591 = dktX2_lay_25 := dk_seg dksX2_lay_24 24 rfl rfl
theorem dksX2_lay_26 : cX2_lay.data.toList.drop 615 = dktX2_lay_26 := dk_seg dksX2_lay_25 24 rfl rfl
theorem dksX2_lay_27 : cX2_lay.data.toList.drop 639 = dktX2_lay_27 := dk_seg dksX2_lay_26 24 rfl rfl
theorem dksX2_lay_28 : cX2_lay.data.toList.drop 663 = dktX2_lay_28 := dk_seg dksX2_lay_27 24 rfl rfl
theorem dksX2_lay_29 : cX2_lay.data.toList.drop 686 = dktX2_lay_29 := dk_seg dksX2_lay_28 23 rfl rfl
theorem dksX2_lay_30 : cX2_lay.data.toList.drop 709 = dktX2_lay_30 := dk_seg dksX2_lay_29 23 rfl rfl
theorem dksX2_lay_31 : cX2_lay.data.toList.drop 733 = dktX2_lay_31 := dk_seg dksX2_lay_30 24 rfl rfl
theorem dksX2_lay_32 : cX2_lay.data.toList.drop 755 = dktX2_lay_32 := dk_seg dksX2_lay_31 22 rfl rfl
theorem dksX2_lay_33 : cX2_lay.data.toList.drop 779 = dktX2_lay_33 := dk_seg dksX2_lay_32 24 rfl rfl
theorem dksX2_lay_34 : cX2_lay.data.toList.drop 802 = dktX2_lay_34 := dk_seg dksX2_lay_33 23 rfl rfl
theorem dX2_lay_0 : decode cX2_lay 0 = .ok (.aload_n 0, 1) := dk_42 (dk_at dksX2_lay_0 0 rfl rfl)
theorem dX2_lay_1 : decode cX2_lay 1 = .ok (.getfield 19, 3) := dk_180 0 19 (dk_at dksX2_lay_0 1 rfl rfl)
theorem dX2_lay_4 : decode cX2_lay 4 = .ok (.aload_n 1, 1) := dk_43 (dk_at dksX2_lay_0 4 rfl rfl)
theorem dX2_lay_5 : decode cX2_lay 5 = .ok (.if_acmp .ne 4, 3) := dk_166 0 4 (dk_at dksX2_lay_0 5 rfl rfl)
theorem dX2_lay_8 : decode cX2_lay 8 = .ok (.return_, 1) := dk_177 (dk_at dksX2_lay_0 8 rfl rfl)
theorem dX2_lay_9 : decode cX2_lay 9 = .ok (.aload_n 0, 1) := dk_42 (dk_at dksX2_lay_0 9 rfl rfl)
theorem dX2_lay_10 : decode cX2_lay 10 = .ok (.aload_n 1, 1) := dk_43 (dk_at dksX2_lay_0 10 rfl rfl)
theorem dX2_lay_11 : decode cX2_lay 11 = .ok (.putfield 19, 3) := dk_181 0 19 (dk_at dksX2_lay_0 11 rfl rfl)
theorem dX2_lay_14 : decode cX2_lay 14 = .ok (.aload_n 0, 1) := dk_42 (dk_at dksX2_lay_0 14 rfl rfl)
theorem dX2_lay_15 : decode cX2_lay 15 = .ok (.aload_n 1, 1) := dk_43 (dk_at dksX2_lay_0 15 rfl rfl)
theorem dX2_lay_16 : decode cX2_lay 16 = .ok (.getfield 23, 3) := dk_180 0 23 (dk_at dksX2_lay_0 16 rfl rfl)
theorem dX2_lay_19 : decode cX2_lay 19 = .ok (.putfield 29, 3) := dk_181 0 29 (dk_at dksX2_lay_0 19 rfl rfl)
theorem dX2_lay_22 : decode cX2_lay 22 = .ok (.aload_n 0, 1) := dk_42 (dk_at dksX2_lay_0 22 rfl rfl)
theorem dX2_lay_23 : decode cX2_lay 23 = .ok (.aload_n 1, 1) := dk_43 (dk_at dksX2_lay_0 23 rfl rfl)
theorem dX2_lay_24 : decode cX2_lay 24 = .ok (.getfield 32, 3) := dk_180 0 32 (dk_at dksX2_lay_1 0 rfl rfl)
theorem dX2_lay_27 : decode cX2_lay 27 = .ok (.putfield 35, 3) := dk_181 0 35 (dk_at dksX2_lay_1 3 rfl rfl)
theorem dX2_lay_30 : decode cX2_lay 30 = .ok (.aload_n 0, 1) := dk_42 (dk_at dksX2_lay_1 6 rfl rfl)
theorem dX2_lay_31 : decode cX2_lay 31 = .ok (.iconst 0, 1) := dk_3 (dk_at dksX2_lay_1 7 rfl rfl)
theorem dX2_lay_32 : decode cX2_lay 32 = .ok (.putfield 38, 3) := dk_181 0 38 (dk_at dksX2_lay_1 8 rfl rfl)
theorem dX2_lay_35 : decode cX2_lay 35 = .ok (.iconst 0, 1) := dk_3 (dk_at dksX2_lay_1 11 rfl rfl)
theorem dX2_lay_36 : decode cX2_lay 36 = .ok (.istore_n 2, 1) := dk_61 (dk_at dksX2_lay_1 12 rfl rfl)
theorem dX2_lay_37 : decode cX2_lay 37 = .ok (.iload_n 2, 1) := dk_28 (dk_at dksX2_lay_1 13 rfl rfl)
theorem dX2_lay_38 : decode cX2_lay 38 = .ok (.aload_n 0, 1) := dk_42 (dk_at dksX2_lay_1 14 rfl rfl)
theorem dX2_lay_39 : decode cX2_lay 39 = .ok (.getfield 29, 3) := dk_180 0 29 (dk_at dksX2_lay_1 15 rfl rfl)
theorem dX2_lay_42 : decode cX2_lay 42 = .ok (.aload_n 0, 1) := dk_42 (dk_at dksX2_lay_1 18 rfl rfl)
theorem dX2_lay_43 : decode cX2_lay 43 = .ok (.getfield 35, 3) := dk_180 0 35 (dk_at dksX2_lay_1 19 rfl rfl)
theorem dX2_lay_46 : decode cX2_lay 46 = .ok (.imul, 1) := dk_104 (dk_at dksX2_lay_1 22 rfl rfl)
theorem dX2_lay_47 : decode cX2_lay 47 = .ok (.if_icmp .ge 16, 3) := dk_162 0 16 (dk_at dksX2_lay_2 0 rfl rfl)
theorem dX2_lay_50 : decode cX2_lay 50 = .ok (.aload_n 0, 1) := dk_42 (dk_at dksX2_lay_2 3 rfl rfl)
theorem dX2_lay_51 : decode cX2_lay 51 = .ok (.getfield 15, 3) := dk_180 0 15 (dk_at dksX2_lay_2 4 rfl rfl)
theorem dX2_lay_54 : decode cX2_lay 54 = .ok (.iload_n 2, 1) := dk_28 (dk_at dksX2_lay_2 7 rfl rfl)
theorem dX2_lay_55 : decode cX2_lay 55 = .ok (.iconst 0, 1) := dk_3 (dk_at dksX2_lay_2 8 rfl rfl)
theorem dX2_lay_56 : decode cX2_lay 56 = .ok (.bastore, 1) := dk_84 (dk_at dksX2_lay_2 9 rfl rfl)
theorem dX2_lay_57 : decode cX2_lay 57 = .ok (.iinc 2 1, 3) := dk_132 2 1 (dk_at dksX2_lay_2 10 rfl rfl)
theorem dX2_lay_60 : decode cX2_lay 60 = .ok (.goto (-23), 3) := dk_167 255 233 (dk_at dksX2_lay_2 13 rfl rfl)
theorem dX2_lay_63 : decode cX2_lay 63 = .ok (.iconst 4, 1) := dk_7 (dk_at dksX2_lay_2 16 rfl rfl)
theorem dX2_lay_64 : decode cX2_lay 64 = .ok (.istore_n 2, 1) := dk_61 (dk_at dksX2_lay_2 17 rfl rfl)
theorem dX2_lay_65 : decode cX2_lay 65 = .ok (.iconst 0, 1) := dk_3 (dk_at dksX2_lay_2 18 rfl rfl)
theorem dX2_lay_66 : decode cX2_lay 66 = .ok (.istore_n 3, 1) := dk_62 (dk_at dksX2_lay_2 19 rfl rfl)
theorem dX2_lay_67 : decode cX2_lay 67 = .ok (.iload_n 2, 1) := dk_28 (dk_at dksX2_lay_2 20 rfl rfl)
theorem dX2_lay_68 : decode cX2_lay 68 = .ok (.aload_n 0, 1) := dk_42 (dk_at dksX2_lay_2 21 rfl rfl)
theorem dX2_lay_69 : decode cX2_lay 69 = .ok (.getfield 29, 3) := dk_180 0 29 (dk_at dksX2_lay_3 0 rfl rfl)
theorem dX2_lay_72 : decode cX2_lay 72 = .ok (.if_icmp .ne 129, 3) := dk_160 0 129 (dk_at dksX2_lay_3 3 rfl rfl)
theorem dX2_lay_75 : decode cX2_lay 75 = .ok (.iload_n 3, 1) := dk_29 (dk_at dksX2_lay_3 6 rfl rfl)
theorem dX2_lay_76 : decode cX2_lay 76 = .ok (.ifCond .ne 125, 3) := dk_154 0 125 (dk_at dksX2_lay_3 7 rfl rfl)
theorem dX2_lay_79 : decode cX2_lay 79 = .ok (.aload_n 0, 1) := dk_42 (dk_at dksX2_lay_3 10 rfl rfl)
theorem dX2_lay_80 : decode cX2_lay 80 = .ok (.bipush 16, 2) := dk_16 16 (dk_at dksX2_lay_3 11 rfl rfl)
theorem dX2_lay_82 : decode cX2_lay 82 = .ok (.newarray .int, 2) := dk_188_10 (dk_at dksX2_lay_3 13 rfl rfl)
theorem dX2_lay_84 : decode cX2_lay 84 = .ok (.dup, 1) := dk_89 (dk_at dksX2_lay_3 15 rfl rfl)
theorem dX2_lay_85 : decode cX2_lay 85 = .ok (.iconst 0, 1) := dk_3 (dk_at dksX2_lay_3 16 rfl rfl)
theorem dX2_lay_86 : decode cX2_lay 86 = .ok (.aload_n 0, 1) := dk_42 (dk_at dksX2_lay_3 17 rfl rfl)
theorem dX2_lay_87 : decode cX2_lay 87 = .ok (.getfield 29, 3) := dk_180 0 29 (dk_at dksX2_lay_3 18 rfl rfl)
theorem dX2_lay_90 : decode cX2_lay 90 = .ok (.iconst 1, 1) := dk_4 (dk_at dksX2_lay_3 21 rfl rfl)
theorem dX2_lay_91 : decode cX2_lay 91 = .ok (.isub, 1) := dk_100 (dk_at dksX2_lay_3 22 rfl rfl)
theorem dX2_lay_92 : decode cX2_lay 92 = .ok (.iastore, 1) := dk_79 (dk_at dksX2_lay_3 23 rfl rfl)
theorem dX2_lay_93 : decode cX2_lay 93 = .ok (.dup, 1) := dk_89 (dk_at dksX2_lay_4 0 rfl rfl)
theorem dX2_lay_94 : decode cX2_lay 94 = .ok (.iconst 1, 1) := dk_4 (dk_at dksX2_lay_4 1 rfl rfl)
theorem dX2_lay_95 : decode cX2_lay 95 = .ok (.iconst 0, 1) := dk_3 (dk_at dksX2_lay_4 2 rfl rfl)
theorem dX2_lay_96 : decode cX2_lay 96 = .ok (.iastore, 1) := dk_79 (dk_at dksX2_lay_4 3 rfl rfl)
theorem dX2_lay_97 : decode cX2_lay 97 = .ok (.dup, 1) := dk_89 (dk_at dksX2_lay_4 4 rfl rfl)
theorem dX2_lay_98 : decode cX2_lay 98 = .ok (.iconst 2, 1) := dk_5 (dk_at dksX2_lay_4 5 rfl rfl)
theorem dX2_lay_99 : decode cX2_lay 99 = .ok (.aload_n 0, 1) := dk_42 (dk_at dksX2_lay_4 6 rfl rfl)
theorem dX2_lay_100 : decode cX2_lay 100 = .ok (.getfield 29, 3) := dk_180 0 29 (dk_at dksX2_lay_4 7 rfl rfl)
theorem dX2_lay_103 : decode cX2_lay 103 = .ok (.iconst 1, 1) := dk_4 (dk_at dksX2_lay_4 10 rfl rfl)
theorem dX2_lay_104 : decode cX2_lay 104 = .ok (.isub, 1) := dk_100 (dk_at dksX2_lay_4 11 rfl rfl)
theorem dX2_lay_105 : decode cX2_lay 105 = .ok (.iastore, 1) := dk_79 (dk_at dksX2_lay_4 12 rfl rfl)
theorem dX2_lay_106 : decode cX2_lay 106 = .ok (.dup, 1) := dk_89 (dk_at dksX2_lay_4 13 rfl rfl)
theorem dX2_lay_107 : decode cX2_lay 107 = .ok (.iconst 3, 1) := dk_6 (dk_at dksX2_lay_4 14 rfl rfl)
theorem dX2_lay_108 : decode cX2_lay 108 = .ok (.iconst 1, 1) := dk_4 (dk_at dksX2_lay_4 15 rfl rfl)
theorem dX2_lay_109 : decode cX2_lay 109 = .ok (.iastore, 1) := dk_79 (dk_at dksX2_lay_4 16 rfl rfl)
theorem dX2_lay_110 : decode cX2_lay 110 = .ok (.dup, 1) := dk_89 (dk_at dksX2_lay_4 17 rfl rfl)
theorem dX2_lay_111 : decode cX2_lay 111 = .ok (.iconst 4, 1) := dk_7 (dk_at dksX2_lay_4 18 rfl rfl)
theorem dX2_lay_112 : decode cX2_lay 112 = .ok (.aload_n 0, 1) := dk_42 (dk_at dksX2_lay_4 19 rfl rfl)
theorem dX2_lay_113 : decode cX2_lay 113 = .ok (.getfield 29, 3) := dk_180 0 29 (dk_at dksX2_lay_4 20 rfl rfl)
theorem dX2_lay_116 : decode cX2_lay 116 = .ok (.iconst 1, 1) := dk_4 (dk_at dksX2_lay_4 23 rfl rfl)
theorem dX2_lay_117 : decode cX2_lay 117 = .ok (.isub, 1) := dk_100 (dk_at dksX2_lay_5 0 rfl rfl)
theorem dX2_lay_118 : decode cX2_lay 118 = .ok (.iastore, 1) := dk_79 (dk_at dksX2_lay_5 1 rfl rfl)
theorem dX2_lay_119 : decode cX2_lay 119 = .ok (.dup, 1) := dk_89 (dk_at dksX2_lay_5 2 rfl rfl)
theorem dX2_lay_120 : decode cX2_lay 120 = .ok (.iconst 5, 1) := dk_8 (dk_at dksX2_lay_5 3 rfl rfl)
theorem dX2_lay_121 : decode cX2_lay 121 = .ok (.iconst 2, 1) := dk_5 (dk_at dksX2_lay_5 4 rfl rfl)
theorem dX2_lay_122 : decode cX2_lay 122 = .ok (.iastore, 1) := dk_79 (dk_at dksX2_lay_5 5 rfl rfl)
theorem dX2_lay_123 : decode cX2_lay 123 = .ok (.dup, 1) := dk_89 (dk_at dksX2_lay_5 6 rfl rfl)
theorem dX2_lay_124 : decode cX2_lay 124 = .ok (.bipush 6, 2) := dk_16 6 (dk_at dksX2_lay_5 7 rfl rfl)
theorem dX2_lay_126 : decode cX2_lay 126 = .ok (.iconst 0, 1) := dk_3 (dk_at dksX2_lay_5 9 rfl rfl)
theorem dX2_lay_127 : decode cX2_lay 127 = .ok (.iastore, 1) := dk_79 (dk_at dksX2_lay_5 10 rfl rfl)
theorem dX2_lay_128 : decode cX2_lay 128 = .ok (.dup, 1) := dk_89 (dk_at dksX2_lay_5 11 rfl rfl)
theorem dX2_lay_129 : decode cX2_lay 129 = .ok (.bipush 7, 2) := dk_16 7 (dk_at dksX2_lay_5 12 rfl rfl)
theorem dX2_lay_131 : decode cX2_lay 131 = .ok (.aload_n 0, 1) := dk_42 (dk_at dksX2_lay_5 14 rfl rfl)
theorem dX2_lay_132 : decode cX2_lay 132 = .ok (.getfield 35, 3) := dk_180 0 35 (dk_at dksX2_lay_5 15 rfl rfl)
theorem dX2_lay_135 : decode cX2_lay 135 = .ok (.iconst 2, 1) := dk_5 (dk_at dksX2_lay_5 18 rfl rfl)
theorem dX2_lay_136 : decode cX2_lay 136 = .ok (.isub, 1) := dk_100 (dk_at dksX2_lay_5 19 rfl rfl)
theorem dX2_lay_137 : decode cX2_lay 137 = .ok (.iastore, 1) := dk_79 (dk_at dksX2_lay_5 20 rfl rfl)
theorem dX2_lay_138 : decode cX2_lay 138 = .ok (.dup, 1) := dk_89 (dk_at dksX2_lay_5 21 rfl rfl)
theorem dX2_lay_139 : decode cX2_lay 139 = .ok (.bipush 8, 2) := dk_16 8 (dk_at dksX2_lay_5 22 rfl rfl)
theorem dX2_lay_141 : decode cX2_lay 141 = .ok (.iconst 0, 1) := dk_3 (dk_at dksX2_lay_6 0 rfl rfl)
theorem dX2_lay_142 : decode cX2_lay 142 = .ok (.iastore, 1) := dk_79 (dk_at dksX2_lay_6 1 rfl rfl)
theorem dX2_lay_143 : decode cX2_lay 143 = .ok (.dup, 1) := dk_89 (dk_at dksX2_lay_6 2 rfl rfl)
theorem dX2_lay_144 : decode cX2_lay 144 = .ok (.bipush 9, 2) := dk_16 9 (dk_at dksX2_lay_6 3 rfl rfl)
theorem dX2_lay_146 : decode cX2_lay 146 = .ok (.aload_n 0, 1) := dk_42 (dk_at dksX2_lay_6 5 rfl rfl)
theorem dX2_lay_147 : decode cX2_lay 147 = .ok (.getfield 35, 3) := dk_180 0 35 (dk_at dksX2_lay_6 6 rfl rfl)
theorem dX2_lay_150 : decode cX2_lay 150 = .ok (.iconst 1, 1) := dk_4 (dk_at dksX2_lay_6 9 rfl rfl)
theorem dX2_lay_151 : decode cX2_lay 151 = .ok (.isub, 1) := dk_100 (dk_at dksX2_lay_6 10 rfl rfl)
theorem dX2_lay_152 : decode cX2_lay 152 = .ok (.iastore, 1) := dk_79 (dk_at dksX2_lay_6 11 rfl rfl)
theorem dX2_lay_153 : decode cX2_lay 153 = .ok (.dup, 1) := dk_89 (dk_at dksX2_lay_6 12 rfl rfl)
theorem dX2_lay_154 : decode cX2_lay 154 = .ok (.bipush 10, 2) := dk_16 10 (dk_at dksX2_lay_6 13 rfl rfl)
theorem dX2_lay_156 : decode cX2_lay 156 = .ok (.iconst 1, 1) := dk_4 (dk_at dksX2_lay_6 15 rfl rfl)
theorem dX2_lay_157 : decode cX2_lay 157 = .ok (.iastore, 1) := dk_79 (dk_at dksX2_lay_6 16 rfl rfl)
theorem dX2_lay_158 : decode cX2_lay 158 = .ok (.dup, 1) := dk_89 (dk_at dksX2_lay_6 17 rfl rfl)
theorem dX2_lay_159 : decode cX2_lay 159 = .ok (.bipush 11, 2) := dk_16 11 (dk_at dksX2_lay_6 18 rfl rfl)
theorem dX2_lay_161 : decode cX2_lay 161 = .ok (.aload_n 0, 1) := dk_42 (dk_at dksX2_lay_6 20 rfl rfl)
theorem dX2_lay_162 : decode cX2_lay 162 = .ok (.getfield 35, 3) := dk_180 0 35 (dk_at dksX2_lay_6 21 rfl rfl)
theorem dX2_lay_165 : decode cX2_lay 165 = .ok (.iconst 1, 1) := dk_4 (dk_at dksX2_lay_7 0 rfl rfl)
theorem dX2_lay_166 : decode cX2_lay 166 = .ok (.isub, 1) := dk_100 (dk_at dksX2_lay_7 1 rfl rfl)
theorem dX2_lay_167 : decode cX2_lay 167 = .ok (.iastore, 1) := dk_79 (dk_at dksX2_lay_7 2 rfl rfl)
theorem dX2_lay_168 : decode cX2_lay 168 = .ok (.dup, 1) := dk_89 (dk_at dksX2_lay_7 3 rfl rfl)
theorem dX2_lay_169 : decode cX2_lay 169 = .ok (.bipush 12, 2) := dk_16 12 (dk_at dksX2_lay_7 4 rfl rfl)
theorem dX2_lay_171 : decode cX2_lay 171 = .ok (.iconst 2, 1) := dk_5 (dk_at dksX2_lay_7 6 rfl rfl)
theorem dX2_lay_172 : decode cX2_lay 172 = .ok (.iastore, 1) := dk_79 (dk_at dksX2_lay_7 7 rfl rfl)
theorem dX2_lay_173 : decode cX2_lay 173 = .ok (.dup, 1) := dk_89 (dk_at dksX2_lay_7 8 rfl rfl)
theorem dX2_lay_174 : decode cX2_lay 174 = .ok (.bipush 13, 2) := dk_16 13 (dk_at dksX2_lay_7 9 rfl rfl)
theorem dX2_lay_176 : decode cX2_lay 176 = .ok (.aload_n 0, 1) := dk_42 (dk_at dksX2_lay_7 11 rfl rfl)
theorem dX2_lay_177 : decode cX2_lay 177 = .ok (.getfield 35, 3) := dk_180 0 35 (dk_at dksX2_lay_7 12 rfl rfl)
theorem dX2_lay_180 : decode cX2_lay 180 = .ok (.iconst 1, 1) := dk_4 (dk_at dksX2_lay_7 15 rfl rfl)
theorem dX2_lay_181 : decode cX2_lay 181 = .ok (.isub, 1) := dk_100 (dk_at dksX2_lay_7 16 rfl rfl)
theorem dX2_lay_182 : decode cX2_lay 182 = .ok (.iastore, 1) := dk_79 (dk_at dksX2_lay_7 17 rfl rfl)
theorem dX2_lay_183 : decode cX2_lay 183 = .ok (.dup, 1) := dk_89 (dk_at dksX2_lay_7 18 rfl rfl)
theorem dX2_lay_184 : decode cX2_lay 184 = .ok (.bipush 14, 2) := dk_16 14 (dk_at dksX2_lay_7 19 rfl rfl)
theorem dX2_lay_186 : decode cX2_lay 186 = .ok (.iconst 3, 1) := dk_6 (dk_at dksX2_lay_7 21 rfl rfl)
theorem dX2_lay_187 : decode cX2_lay 187 = .ok (.iastore, 1) := dk_79 (dk_at dksX2_lay_7 22 rfl rfl)
theorem dX2_lay_188 : decode cX2_lay 188 = .ok (.dup, 1) := dk_89 (dk_at dksX2_lay_7 23 rfl rfl)
theorem dX2_lay_189 : decode cX2_lay 189 = .ok (.bipush 15, 2) := dk_16 15 (dk_at dksX2_lay_8 0 rfl rfl)
theorem dX2_lay_191 : decode cX2_lay 191 = .ok (.aload_n 0, 1) := dk_42 (dk_at dksX2_lay_8 2 rfl rfl)
theorem dX2_lay_192 : decode cX2_lay 192 = .ok (.getfield 35, 3) := dk_180 0 35 (dk_at dksX2_lay_8 3 rfl rfl)
theorem dX2_lay_195 : decode cX2_lay 195 = .ok (.iconst 1, 1) := dk_4 (dk_at dksX2_lay_8 6 rfl rfl)
theorem dX2_lay_196 : decode cX2_lay 196 = .ok (.isub, 1) := dk_100 (dk_at dksX2_lay_8 7 rfl rfl)
theorem dX2_lay_197 : decode cX2_lay 197 = .ok (.iastore, 1) := dk_79 (dk_at dksX2_lay_8 8 rfl rfl)
theorem dX2_lay_198 : decode cX2_lay 198 = .ok (.invokevirtual 41, 3) := dk_182 0 41 (dk_at dksX2_lay_8 9 rfl rfl)
theorem dX2_lay_201 : decode cX2_lay 201 = .ok (.iload_n 2, 1) := dk_28 (dk_at dksX2_lay_8 12 rfl rfl)
theorem dX2_lay_202 : decode cX2_lay 202 = .ok (.aload_n 0, 1) := dk_42 (dk_at dksX2_lay_8 13 rfl rfl)
theorem dX2_lay_203 : decode cX2_lay 203 = .ok (.getfield 29, 3) := dk_180 0 29 (dk_at dksX2_lay_8 14 rfl rfl)
theorem dX2_lay_206 : decode cX2_lay 206 = .ok (.iconst 2, 1) := dk_5 (dk_at dksX2_lay_8 17 rfl rfl)
theorem dX2_lay_207 : decode cX2_lay 207 = .ok (.isub, 1) := dk_100 (dk_at dksX2_lay_8 18 rfl rfl)
theorem dX2_lay_208 : decode cX2_lay 208 = .ok (.if_icmp .ne 138, 3) := dk_160 0 138 (dk_at dksX2_lay_8 19 rfl rfl)
theorem dX2_lay_211 : decode cX2_lay 211 = .ok (.iload_n 3, 1) := dk_29 (dk_at dksX2_lay_8 22 rfl rfl)
theorem dX2_lay_212 : decode cX2_lay 212 = .ok (.ifCond .ne 134, 3) := dk_154 0 134 (dk_at dksX2_lay_9 0 rfl rfl)
theorem dX2_lay_215 : decode cX2_lay 215 = .ok (.aload_n 0, 1) := dk_42 (dk_at dksX2_lay_9 3 rfl rfl)
theorem dX2_lay_216 : decode cX2_lay 216 = .ok (.getfield 35, 3) := dk_180 0 35 (dk_at dksX2_lay_9 4 rfl rfl)
theorem dX2_lay_219 : decode cX2_lay 219 = .ok (.iconst 4, 1) := dk_7 (dk_at dksX2_lay_9 7 rfl rfl)
theorem dX2_lay_220 : decode cX2_lay 220 = .ok (.irem, 1) := dk_112 (dk_at dksX2_lay_9 8 rfl rfl)
theorem dX2_lay_221 : decode cX2_lay 221 = .ok (.ifCond .eq 125, 3) := dk_153 0 125 (dk_at dksX2_lay_9 9 rfl rfl)
theorem dX2_lay_224 : decode cX2_lay 224 = .ok (.aload_n 0, 1) := dk_42 (dk_at dksX2_lay_9 12 rfl rfl)
theorem dX2_lay_225 : decode cX2_lay 225 = .ok (.bipush 16, 2) := dk_16 16 (dk_at dksX2_lay_9 13 rfl rfl)
theorem dX2_lay_227 : decode cX2_lay 227 = .ok (.newarray .int, 2) := dk_188_10 (dk_at dksX2_lay_9 15 rfl rfl)
theorem dX2_lay_229 : decode cX2_lay 229 = .ok (.dup, 1) := dk_89 (dk_at dksX2_lay_9 17 rfl rfl)
theorem dX2_lay_230 : decode cX2_lay 230 = .ok (.iconst 0, 1) := dk_3 (dk_at dksX2_lay_9 18 rfl rfl)
theorem dX2_lay_231 : decode cX2_lay 231 = .ok (.aload_n 0, 1) := dk_42 (dk_at dksX2_lay_9 19 rfl rfl)
theorem dX2_lay_232 : decode cX2_lay 232 = .ok (.getfield 29, 3) := dk_180 0 29 (dk_at dksX2_lay_9 20 rfl rfl)
theorem dX2_lay_235 : decode cX2_lay 235 = .ok (.iconst 3, 1) := dk_6 (dk_at dksX2_lay_9 23 rfl rfl)
theorem dX2_lay_236 : decode cX2_lay 236 = .ok (.isub, 1) := dk_100 (dk_at dksX2_lay_10 0 rfl rfl)
theorem dX2_lay_237 : decode cX2_lay 237 = .ok (.iastore, 1) := dk_79 (dk_at dksX2_lay_10 1 rfl rfl)
theorem dX2_lay_238 : decode cX2_lay 238 = .ok (.dup, 1) := dk_89 (dk_at dksX2_lay_10 2 rfl rfl)
theorem dX2_lay_239 : decode cX2_lay 239 = .ok (.iconst 1, 1) := dk_4 (dk_at dksX2_lay_10 3 rfl rfl)
theorem dX2_lay_240 : decode cX2_lay 240 = .ok (.iconst 0, 1) := dk_3 (dk_at dksX2_lay_10 4 rfl rfl)
theorem dX2_lay_241 : decode cX2_lay 241 = .ok (.iastore, 1) := dk_79 (dk_at dksX2_lay_10 5 rfl rfl)
theorem dX2_lay_242 : decode cX2_lay 242 = .ok (.dup, 1) := dk_89 (dk_at dksX2_lay_10 6 rfl rfl)
theorem dX2_lay_243 : decode cX2_lay 243 = .ok (.iconst 2, 1) := dk_5 (dk_at dksX2_lay_10 7 rfl rfl)
theorem dX2_lay_244 : decode cX2_lay 244 = .ok (.aload_n 0, 1) := dk_42 (dk_at dksX2_lay_10 8 rfl rfl)
theorem dX2_lay_245 : decode cX2_lay 245 = .ok (.getfield 29, 3) := dk_180 0 29 (dk_at dksX2_lay_10 9 rfl rfl)
theorem dX2_lay_248 : decode cX2_lay 248 = .ok (.iconst 2, 1) := dk_5 (dk_at dksX2_lay_10 12 rfl rfl)
theorem dX2_lay_249 : decode cX2_lay 249 = .ok (.isub, 1) := dk_100 (dk_at dksX2_lay_10 13 rfl rfl)
theorem dX2_lay_250 : decode cX2_lay 250 = .ok (.iastore, 1) := dk_79 (dk_at dksX2_lay_10 14 rfl rfl)
theorem dX2_lay_251 : decode cX2_lay 251 = .ok (.dup, 1) := dk_89 (dk_at dksX2_lay_10 15 rfl rfl)
theorem dX2_lay_252 : decode cX2_lay 252 = .ok (.iconst 3, 1) := dk_6 (dk_at dksX2_lay_10 16 rfl rfl)
theorem dX2_lay_253 : decode cX2_lay 253 = .ok (.iconst 0, 1) := dk_3 (dk_at dksX2_lay_10 17 rfl rfl)
theorem dX2_lay_254 : decode cX2_lay 254 = .ok (.iastore, 1) := dk_79 (dk_at dksX2_lay_10 18 rfl rfl)
theorem dX2_lay_255 : decode cX2_lay 255 = .ok (.dup, 1) := dk_89 (dk_at dksX2_lay_10 19 rfl rfl)
theorem dX2_lay_256 : decode cX2_lay 256 = .ok (.iconst 4, 1) := dk_7 (dk_at dksX2_lay_10 20 rfl rfl)
theorem dX2_lay_257 : decode cX2_lay 257 = .ok (.aload_n 0, 1) := dk_42 (dk_at dksX2_lay_10 21 rfl rfl)
theorem dX2_lay_258 : decode cX2_lay 258 = .ok (.getfield 29, 3) := dk_180 0 29 (dk_at dksX2_lay_11 0 rfl rfl)
theorem dX2_lay_261 : decode cX2_lay 261 = .ok (.iconst 1, 1) := dk_4 (dk_at dksX2_lay_11 3 rfl rfl)
theorem dX2_lay_262 : decode cX2_lay 262 = .ok (.isub, 1) := dk_100 (dk_at dksX2_lay_11 4 rfl rfl)
theorem dX2_lay_263 : decode cX2_lay 263 = .ok (.iastore, 1) := dk_79 (dk_at dksX2_lay_11 5 rfl rfl)
theorem dX2_lay_264 : decode cX2_lay 264 = .ok (.dup, 1) := dk_89 (dk_at dksX2_lay_11 6 rfl rfl)
theorem dX2_lay_265 : decode cX2_lay 265 = .ok (.iconst 5, 1) := dk_8 (dk_at dksX2_lay_11 7 rfl rfl)
theorem dX2_lay_266 : decode cX2_lay 266 = .ok (.iconst 0, 1) := dk_3 (dk_at dksX2_lay_11 8 rfl rfl)
theorem dX2_lay_267 : decode cX2_lay 267 = .ok (.iastore, 1) := dk_79 (dk_at dksX2_lay_11 9 rfl rfl)
theorem dX2_lay_268 : decode cX2_lay 268 = .ok (.dup, 1) := dk_89 (dk_at dksX2_lay_11 10 rfl rfl)
theorem dX2_lay_269 : decode cX2_lay 269 = .ok (.bipush 6, 2) := dk_16 6 (dk_at dksX2_lay_11 11 rfl rfl)
theorem dX2_lay_271 : decode cX2_lay 271 = .ok (.iconst 0, 1) := dk_3 (dk_at dksX2_lay_11 13 rfl rfl)
theorem dX2_lay_272 : decode cX2_lay 272 = .ok (.iastore, 1) := dk_79 (dk_at dksX2_lay_11 14 rfl rfl)
theorem dX2_lay_273 : decode cX2_lay 273 = .ok (.dup, 1) := dk_89 (dk_at dksX2_lay_11 15 rfl rfl)
theorem dX2_lay_274 : decode cX2_lay 274 = .ok (.bipush 7, 2) := dk_16 7 (dk_at dksX2_lay_11 16 rfl rfl)
theorem dX2_lay_276 : decode cX2_lay 276 = .ok (.aload_n 0, 1) := dk_42 (dk_at dksX2_lay_11 18 rfl rfl)
theorem dX2_lay_277 : decode cX2_lay 277 = .ok (.getfield 35, 3) := dk_180 0 35 (dk_at dksX2_lay_11 19 rfl rfl)
theorem dX2_lay_280 : decode cX2_lay 280 = .ok (.iconst 4, 1) := dk_7 (dk_at dksX2_lay_11 22 rfl rfl)
theorem dX2_lay_281 : decode cX2_lay 281 = .ok (.isub, 1) := dk_100 (dk_at dksX2_lay_11 23 rfl rfl)
theorem dX2_lay_282 : decode cX2_lay 282 = .ok (.iastore, 1) := dk_79 (dk_at dksX2_lay_12 0 rfl rfl)
theorem dX2_lay_283 : decode cX2_lay 283 = .ok (.dup, 1) := dk_89 (dk_at dksX2_lay_12 1 rfl rfl)
theorem dX2_lay_284 : decode cX2_lay 284 = .ok (.bipush 8, 2) := dk_16 8 (dk_at dksX2_lay_12 2 rfl rfl)
theorem dX2_lay_286 : decode cX2_lay 286 = .ok (.iconst 0, 1) := dk_3 (dk_at dksX2_lay_12 4 rfl rfl)
theorem dX2_lay_287 : decode cX2_lay 287 = .ok (.iastore, 1) := dk_79 (dk_at dksX2_lay_12 5 rfl rfl)
theorem dX2_lay_288 : decode cX2_lay 288 = .ok (.dup, 1) := dk_89 (dk_at dksX2_lay_12 6 rfl rfl)
theorem dX2_lay_289 : decode cX2_lay 289 = .ok (.bipush 9, 2) := dk_16 9 (dk_at dksX2_lay_12 7 rfl rfl)
theorem dX2_lay_291 : decode cX2_lay 291 = .ok (.aload_n 0, 1) := dk_42 (dk_at dksX2_lay_12 9 rfl rfl)
theorem dX2_lay_292 : decode cX2_lay 292 = .ok (.getfield 35, 3) := dk_180 0 35 (dk_at dksX2_lay_12 10 rfl rfl)
theorem dX2_lay_295 : decode cX2_lay 295 = .ok (.iconst 3, 1) := dk_6 (dk_at dksX2_lay_12 13 rfl rfl)
theorem dX2_lay_296 : decode cX2_lay 296 = .ok (.isub, 1) := dk_100 (dk_at dksX2_lay_12 14 rfl rfl)
theorem dX2_lay_297 : decode cX2_lay 297 = .ok (.iastore, 1) := dk_79 (dk_at dksX2_lay_12 15 rfl rfl)
theorem dX2_lay_298 : decode cX2_lay 298 = .ok (.dup, 1) := dk_89 (dk_at dksX2_lay_12 16 rfl rfl)
theorem dX2_lay_299 : decode cX2_lay 299 = .ok (.bipush 10, 2) := dk_16 10 (dk_at dksX2_lay_12 17 rfl rfl)
theorem dX2_lay_301 : decode cX2_lay 301 = .ok (.iconst 0, 1) := dk_3 (dk_at dksX2_lay_12 19 rfl rfl)
theorem dX2_lay_302 : decode cX2_lay 302 = .ok (.iastore, 1) := dk_79 (dk_at dksX2_lay_12 20 rfl rfl)
theorem dX2_lay_303 : decode cX2_lay 303 = .ok (.dup, 1) := dk_89 (dk_at dksX2_lay_12 21 rfl rfl)
theorem dX2_lay_304 : decode cX2_lay 304 = .ok (.bipush 11, 2) := dk_16 11 (dk_at dksX2_lay_12 22 rfl rfl)
theorem dX2_lay_306 : decode cX2_lay 306 = .ok (.aload_n 0, 1) := dk_42 (dk_at dksX2_lay_13 0 rfl rfl)
theorem dX2_lay_307 : decode cX2_lay 307 = .ok (.getfield 35, 3) := dk_180 0 35 (dk_at dksX2_lay_13 1 rfl rfl)
theorem dX2_lay_310 : decode cX2_lay 310 = .ok (.iconst 2, 1) := dk_5 (dk_at dksX2_lay_13 4 rfl rfl)
theorem dX2_lay_311 : decode cX2_lay 311 = .ok (.isub, 1) := dk_100 (dk_at dksX2_lay_13 5 rfl rfl)
theorem dX2_lay_312 : decode cX2_lay 312 = .ok (.iastore, 1) := dk_79 (dk_at dksX2_lay_13 6 rfl rfl)
theorem dX2_lay_313 : decode cX2_lay 313 = .ok (.dup, 1) := dk_89 (dk_at dksX2_lay_13 7 rfl rfl)
theorem dX2_lay_314 : decode cX2_lay 314 = .ok (.bipush 12, 2) := dk_16 12 (dk_at dksX2_lay_13 8 rfl rfl)
theorem dX2_lay_316 : decode cX2_lay 316 = .ok (.iconst 0, 1) := dk_3 (dk_at dksX2_lay_13 10 rfl rfl)
theorem dX2_lay_317 : decode cX2_lay 317 = .ok (.iastore, 1) := dk_79 (dk_at dksX2_lay_13 11 rfl rfl)
theorem dX2_lay_318 : decode cX2_lay 318 = .ok (.dup, 1) := dk_89 (dk_at dksX2_lay_13 12 rfl rfl)
theorem dX2_lay_319 : decode cX2_lay 319 = .ok (.bipush 13, 2) := dk_16 13 (dk_at dksX2_lay_13 13 rfl rfl)
theorem dX2_lay_321 : decode cX2_lay 321 = .ok (.aload_n 0, 1) := dk_42 (dk_at dksX2_lay_13 15 rfl rfl)
theorem dX2_lay_322 : decode cX2_lay 322 = .ok (.getfield 35, 3) := dk_180 0 35 (dk_at dksX2_lay_13 16 rfl rfl)
theorem dX2_lay_325 : decode cX2_lay 325 = .ok (.iconst 1, 1) := dk_4 (dk_at dksX2_lay_13 19 rfl rfl)
theorem dX2_lay_326 : decode cX2_lay 326 = .ok (.isub, 1) := dk_100 (dk_at dksX2_lay_13 20 rfl rfl)
theorem dX2_lay_327 : decode cX2_lay 327 = .ok (.iastore, 1) := dk_79 (dk_at dksX2_lay_13 21 rfl rfl)
theorem dX2_lay_328 : decode cX2_lay 328 = .ok (.dup, 1) := dk_89 (dk_at dksX2_lay_13 22 rfl rfl)
theorem dX2_lay_329 : decode cX2_lay 329 = .ok (.bipush 14, 2) := dk_16 14 (dk_at dksX2_lay_14 0 rfl rfl)
theorem dX2_lay_331 : decode cX2_lay 331 = .ok (.iconst 1, 1) := dk_4 (dk_at dksX2_lay_14 2 rfl rfl)
theorem dX2_lay_332 : decode cX2_lay 332 = .ok (.iastore, 1) := dk_79 (dk_at dksX2_lay_14 3 rfl rfl)
theorem dX2_lay_333 : decode cX2_lay 333 = .ok (.dup, 1) := dk_89 (dk_at dksX2_lay_14 4 rfl rfl)
theorem dX2_lay_334 : decode cX2_lay 334 = .ok (.bipush 15, 2) := dk_16 15 (dk_at dksX2_lay_14 5 rfl rfl)
theorem dX2_lay_336 : decode cX2_lay 336 = .ok (.aload_n 0, 1) := dk_42 (dk_at dksX2_lay_14 7 rfl rfl)
theorem dX2_lay_337 : decode cX2_lay 337 = .ok (.getfield 35, 3) := dk_180 0 35 (dk_at dksX2_lay_14 8 rfl rfl)
theorem dX2_lay_340 : decode cX2_lay 340 = .ok (.iconst 1, 1) := dk_4 (dk_at dksX2_lay_14 11 rfl rfl)
theorem dX2_lay_341 : decode cX2_lay 341 = .ok (.isub, 1) := dk_100 (dk_at dksX2_lay_14 12 rfl rfl)
theorem dX2_lay_342 : decode cX2_lay 342 = .ok (.iastore, 1) := dk_79 (dk_at dksX2_lay_14 13 rfl rfl)
theorem dX2_lay_343 : decode cX2_lay 343 = .ok (.invokevirtual 41, 3) := dk_182 0 41 (dk_at dksX2_lay_14 14 rfl rfl)
theorem dX2_lay_346 : decode cX2_lay 346 = .ok (.iload_n 2, 1) := dk_28 (dk_at dksX2_lay_14 17 rfl rfl)
theorem dX2_lay_347 : decode cX2_lay 347 = .ok (.aload_n 0, 1) := dk_42 (dk_at dksX2_lay_14 18 rfl rfl)
theorem dX2_lay_348 : decode cX2_lay 348 = .ok (.getfield 29, 3) := dk_180 0 29 (dk_at dksX2_lay_14 19 rfl rfl)
theorem dX2_lay_351 : decode cX2_lay 351 = .ok (.iconst 2, 1) := dk_5 (dk_at dksX2_lay_14 22 rfl rfl)
theorem dX2_lay_352 : decode cX2_lay 352 = .ok (.isub, 1) := dk_100 (dk_at dksX2_lay_14 23 rfl rfl)
theorem dX2_lay_353 : decode cX2_lay 353 = .ok (.if_icmp .ne 140, 3) := dk_160 0 140 (dk_at dksX2_lay_15 0 rfl rfl)
theorem dX2_lay_356 : decode cX2_lay 356 = .ok (.iload_n 3, 1) := dk_29 (dk_at dksX2_lay_15 3 rfl rfl)
theorem dX2_lay_357 : decode cX2_lay 357 = .ok (.ifCond .ne 136, 3) := dk_154 0 136 (dk_at dksX2_lay_15 4 rfl rfl)
theorem dX2_lay_360 : decode cX2_lay 360 = .ok (.aload_n 0, 1) := dk_42 (dk_at dksX2_lay_15 7 rfl rfl)
theorem dX2_lay_361 : decode cX2_lay 361 = .ok (.getfield 35, 3) := dk_180 0 35 (dk_at dksX2_lay_15 8 rfl rfl)
theorem dX2_lay_364 : decode cX2_lay 364 = .ok (.bipush 8, 2) := dk_16 8 (dk_at dksX2_lay_15 11 rfl rfl)
theorem dX2_lay_366 : decode cX2_lay 366 = .ok (.irem, 1) := dk_112 (dk_at dksX2_lay_15 13 rfl rfl)
theorem dX2_lay_367 : decode cX2_lay 367 = .ok (.iconst 4, 1) := dk_7 (dk_at dksX2_lay_15 14 rfl rfl)
theorem dX2_lay_368 : decode cX2_lay 368 = .ok (.if_icmp .ne 125, 3) := dk_160 0 125 (dk_at dksX2_lay_15 15 rfl rfl)
theorem dX2_lay_371 : decode cX2_lay 371 = .ok (.aload_n 0, 1) := dk_42 (dk_at dksX2_lay_15 18 rfl rfl)
theorem dX2_lay_372 : decode cX2_lay 372 = .ok (.bipush 16, 2) := dk_16 16 (dk_at dksX2_lay_15 19 rfl rfl)
theorem dX2_lay_374 : decode cX2_lay 374 = .ok (.newarray .int, 2) := dk_188_10 (dk_at dksX2_lay_15 21 rfl rfl)
theorem dX2_lay_376 : decode cX2_lay 376 = .ok (.dup, 1) := dk_89 (dk_at dksX2_lay_15 23 rfl rfl)
theorem dX2_lay_377 : decode cX2_lay 377 = .ok (.iconst 0, 1) := dk_3 (dk_at dksX2_lay_16 0 rfl rfl)
theorem dX2_lay_378 : decode cX2_lay 378 = .ok (.aload_n 0, 1) := dk_42 (dk_at dksX2_lay_16 1 rfl rfl)
theorem dX2_lay_379 : decode cX2_lay 379 = .ok (.getfield 29, 3) := dk_180 0 29 (dk_at dksX2_lay_16 2 rfl rfl)
theorem dX2_lay_382 : decode cX2_lay 382 = .ok (.iconst 3, 1) := dk_6 (dk_at dksX2_lay_16 5 rfl rfl)
theorem dX2_lay_383 : decode cX2_lay 383 = .ok (.isub, 1) := dk_100 (dk_at dksX2_lay_16 6 rfl rfl)
theorem dX2_lay_384 : decode cX2_lay 384 = .ok (.iastore, 1) := dk_79 (dk_at dksX2_lay_16 7 rfl rfl)
theorem dX2_lay_385 : decode cX2_lay 385 = .ok (.dup, 1) := dk_89 (dk_at dksX2_lay_16 8 rfl rfl)
theorem dX2_lay_386 : decode cX2_lay 386 = .ok (.iconst 1, 1) := dk_4 (dk_at dksX2_lay_16 9 rfl rfl)
theorem dX2_lay_387 : decode cX2_lay 387 = .ok (.iconst 0, 1) := dk_3 (dk_at dksX2_lay_16 10 rfl rfl)
theorem dX2_lay_388 : decode cX2_lay 388 = .ok (.iastore, 1) := dk_79 (dk_at dksX2_lay_16 11 rfl rfl)
theorem dX2_lay_389 : decode cX2_lay 389 = .ok (.dup, 1) := dk_89 (dk_at dksX2_lay_16 12 rfl rfl)
theorem dX2_lay_390 : decode cX2_lay 390 = .ok (.iconst 2, 1) := dk_5 (dk_at dksX2_lay_16 13 rfl rfl)
theorem dX2_lay_391 : decode cX2_lay 391 = .ok (.aload_n 0, 1) := dk_42 (dk_at dksX2_lay_16 14 rfl rfl)
theorem dX2_lay_392 : decode cX2_lay 392 = .ok (.getfield 29, 3) := dk_180 0 29 (dk_at dksX2_lay_16 15 rfl rfl)
theorem dX2_lay_395 : decode cX2_lay 395 = .ok (.iconst 2, 1) := dk_5 (dk_at dksX2_lay_16 18 rfl rfl)
theorem dX2_lay_396 : decode cX2_lay 396 = .ok (.isub, 1) := dk_100 (dk_at dksX2_lay_16 19 rfl rfl)
theorem dX2_lay_397 : decode cX2_lay 397 = .ok (.iastore, 1) := dk_79 (dk_at dksX2_lay_16 20 rfl rfl)
theorem dX2_lay_398 : decode cX2_lay 398 = .ok (.dup, 1) := dk_89 (dk_at dksX2_lay_16 21 rfl rfl)
theorem dX2_lay_399 : decode cX2_lay 399 = .ok (.iconst 3, 1) := dk_6 (dk_at dksX2_lay_16 22 rfl rfl)
theorem dX2_lay_400 : decode cX2_lay 400 = .ok (.iconst 0, 1) := dk_3 (dk_at dksX2_lay_16 23 rfl rfl)
theorem dX2_lay_401 : decode cX2_lay 401 = .ok (.iastore, 1) := dk_79 (dk_at dksX2_lay_17 0 rfl rfl)
theorem dX2_lay_402 : decode cX2_lay 402 = .ok (.dup, 1) := dk_89 (dk_at dksX2_lay_17 1 rfl rfl)
theorem dX2_lay_403 : decode cX2_lay 403 = .ok (.iconst 4, 1) := dk_7 (dk_at dksX2_lay_17 2 rfl rfl)
theorem dX2_lay_404 : decode cX2_lay 404 = .ok (.aload_n 0, 1) := dk_42 (dk_at dksX2_lay_17 3 rfl rfl)
theorem dX2_lay_405 : decode cX2_lay 405 = .ok (.getfield 29, 3) := dk_180 0 29 (dk_at dksX2_lay_17 4 rfl rfl)
theorem dX2_lay_408 : decode cX2_lay 408 = .ok (.iconst 1, 1) := dk_4 (dk_at dksX2_lay_17 7 rfl rfl)
theorem dX2_lay_409 : decode cX2_lay 409 = .ok (.isub, 1) := dk_100 (dk_at dksX2_lay_17 8 rfl rfl)
theorem dX2_lay_410 : decode cX2_lay 410 = .ok (.iastore, 1) := dk_79 (dk_at dksX2_lay_17 9 rfl rfl)
theorem dX2_lay_411 : decode cX2_lay 411 = .ok (.dup, 1) := dk_89 (dk_at dksX2_lay_17 10 rfl rfl)
theorem dX2_lay_412 : decode cX2_lay 412 = .ok (.iconst 5, 1) := dk_8 (dk_at dksX2_lay_17 11 rfl rfl)
theorem dX2_lay_413 : decode cX2_lay 413 = .ok (.iconst 0, 1) := dk_3 (dk_at dksX2_lay_17 12 rfl rfl)
theorem dX2_lay_414 : decode cX2_lay 414 = .ok (.iastore, 1) := dk_79 (dk_at dksX2_lay_17 13 rfl rfl)
theorem dX2_lay_415 : decode cX2_lay 415 = .ok (.dup, 1) := dk_89 (dk_at dksX2_lay_17 14 rfl rfl)
theorem dX2_lay_416 : decode cX2_lay 416 = .ok (.bipush 6, 2) := dk_16 6 (dk_at dksX2_lay_17 15 rfl rfl)
theorem dX2_lay_418 : decode cX2_lay 418 = .ok (.iconst 0, 1) := dk_3 (dk_at dksX2_lay_17 17 rfl rfl)
theorem dX2_lay_419 : decode cX2_lay 419 = .ok (.iastore, 1) := dk_79 (dk_at dksX2_lay_17 18 rfl rfl)
theorem dX2_lay_420 : decode cX2_lay 420 = .ok (.dup, 1) := dk_89 (dk_at dksX2_lay_17 19 rfl rfl)
theorem dX2_lay_421 : decode cX2_lay 421 = .ok (.bipush 7, 2) := dk_16 7 (dk_at dksX2_lay_17 20 rfl rfl)
theorem dX2_lay_423 : decode cX2_lay 423 = .ok (.aload_n 0, 1) := dk_42 (dk_at dksX2_lay_17 22 rfl rfl)
theorem dX2_lay_424 : decode cX2_lay 424 = .ok (.getfield 35, 3) := dk_180 0 35 (dk_at dksX2_lay_18 0 rfl rfl)
theorem dX2_lay_427 : decode cX2_lay 427 = .ok (.iconst 2, 1) := dk_5 (dk_at dksX2_lay_18 3 rfl rfl)
theorem dX2_lay_428 : decode cX2_lay 428 = .ok (.isub, 1) := dk_100 (dk_at dksX2_lay_18 4 rfl rfl)
theorem dX2_lay_429 : decode cX2_lay 429 = .ok (.iastore, 1) := dk_79 (dk_at dksX2_lay_18 5 rfl rfl)
theorem dX2_lay_430 : decode cX2_lay 430 = .ok (.dup, 1) := dk_89 (dk_at dksX2_lay_18 6 rfl rfl)
theorem dX2_lay_431 : decode cX2_lay 431 = .ok (.bipush 8, 2) := dk_16 8 (dk_at dksX2_lay_18 7 rfl rfl)
theorem dX2_lay_433 : decode cX2_lay 433 = .ok (.iconst 0, 1) := dk_3 (dk_at dksX2_lay_18 9 rfl rfl)
theorem dX2_lay_434 : decode cX2_lay 434 = .ok (.iastore, 1) := dk_79 (dk_at dksX2_lay_18 10 rfl rfl)
theorem dX2_lay_435 : decode cX2_lay 435 = .ok (.dup, 1) := dk_89 (dk_at dksX2_lay_18 11 rfl rfl)
theorem dX2_lay_436 : decode cX2_lay 436 = .ok (.bipush 9, 2) := dk_16 9 (dk_at dksX2_lay_18 12 rfl rfl)
theorem dX2_lay_438 : decode cX2_lay 438 = .ok (.aload_n 0, 1) := dk_42 (dk_at dksX2_lay_18 14 rfl rfl)
theorem dX2_lay_439 : decode cX2_lay 439 = .ok (.getfield 35, 3) := dk_180 0 35 (dk_at dksX2_lay_18 15 rfl rfl)
theorem dX2_lay_442 : decode cX2_lay 442 = .ok (.iconst 1, 1) := dk_4 (dk_at dksX2_lay_18 18 rfl rfl)
theorem dX2_lay_443 : decode cX2_lay 443 = .ok (.isub, 1) := dk_100 (dk_at dksX2_lay_18 19 rfl rfl)
theorem dX2_lay_444 : decode cX2_lay 444 = .ok (.iastore, 1) := dk_79 (dk_at dksX2_lay_18 20 rfl rfl)
theorem dX2_lay_445 : decode cX2_lay 445 = .ok (.dup, 1) := dk_89 (dk_at dksX2_lay_18 21 rfl rfl)
theorem dX2_lay_446 : decode cX2_lay 446 = .ok (.bipush 10, 2) := dk_16 10 (dk_at dksX2_lay_18 22 rfl rfl)
theorem dX2_lay_448 : decode cX2_lay 448 = .ok (.iconst 1, 1) := dk_4 (dk_at dksX2_lay_19 0 rfl rfl)
theorem dX2_lay_449 : decode cX2_lay 449 = .ok (.iastore, 1) := dk_79 (dk_at dksX2_lay_19 1 rfl rfl)
theorem dX2_lay_450 : decode cX2_lay 450 = .ok (.dup, 1) := dk_89 (dk_at dksX2_lay_19 2 rfl rfl)
theorem dX2_lay_451 : decode cX2_lay 451 = .ok (.bipush 11, 2) := dk_16 11 (dk_at dksX2_lay_19 3 rfl rfl)
theorem dX2_lay_453 : decode cX2_lay 453 = .ok (.aload_n 0, 1) := dk_42 (dk_at dksX2_lay_19 5 rfl rfl)
theorem dX2_lay_454 : decode cX2_lay 454 = .ok (.getfield 35, 3) := dk_180 0 35 (dk_at dksX2_lay_19 6 rfl rfl)
theorem dX2_lay_457 : decode cX2_lay 457 = .ok (.iconst 1, 1) := dk_4 (dk_at dksX2_lay_19 9 rfl rfl)
theorem dX2_lay_458 : decode cX2_lay 458 = .ok (.isub, 1) := dk_100 (dk_at dksX2_lay_19 10 rfl rfl)
theorem dX2_lay_459 : decode cX2_lay 459 = .ok (.iastore, 1) := dk_79 (dk_at dksX2_lay_19 11 rfl rfl)
theorem dX2_lay_460 : decode cX2_lay 460 = .ok (.dup, 1) := dk_89 (dk_at dksX2_lay_19 12 rfl rfl)
theorem dX2_lay_461 : decode cX2_lay 461 = .ok (.bipush 12, 2) := dk_16 12 (dk_at dksX2_lay_19 13 rfl rfl)
theorem dX2_lay_463 : decode cX2_lay 463 = .ok (.iconst 2, 1) := dk_5 (dk_at dksX2_lay_19 15 rfl rfl)
theorem dX2_lay_464 : decode cX2_lay 464 = .ok (.iastore, 1) := dk_79 (dk_at dksX2_lay_19 16 rfl rfl)
theorem dX2_lay_465 : decode cX2_lay 465 = .ok (.dup, 1) := dk_89 (dk_at dksX2_lay_19 17 rfl rfl)
theorem dX2_lay_466 : decode cX2_lay 466 = .ok (.bipush 13, 2) := dk_16 13 (dk_at dksX2_lay_19 18 rfl rfl)
theorem dX2_lay_468 : decode cX2_lay 468 = .ok (.aload_n 0, 1) := dk_42 (dk_at dksX2_lay_19 20 rfl rfl)
theorem dX2_lay_469 : decode cX2_lay 469 = .ok (.getfield 35, 3) := dk_180 0 35 (dk_at dksX2_lay_19 21 rfl rfl)
theorem dX2_lay_472 : decode cX2_lay 472 = .ok (.iconst 1, 1) := dk_4 (dk_at dksX2_lay_20 0 rfl rfl)
theorem dX2_lay_473 : decode cX2_lay 473 = .ok (.isub, 1) := dk_100 (dk_at dksX2_lay_20 1 rfl rfl)
theorem dX2_lay_474 : decode cX2_lay 474 = .ok (.iastore, 1) := dk_79 (dk_at dksX2_lay_20 2 rfl rfl)
theorem dX2_lay_475 : decode cX2_lay 475 = .ok (.dup, 1) := dk_89 (dk_at dksX2_lay_20 3 rfl rfl)
theorem dX2_lay_476 : decode cX2_lay 476 = .ok (.bipush 14, 2) := dk_16 14 (dk_at dksX2_lay_20 4 rfl rfl)
theorem dX2_lay_478 : decode cX2_lay 478 = .ok (.iconst 3, 1) := dk_6 (dk_at dksX2_lay_20 6 rfl rfl)
theorem dX2_lay_479 : decode cX2_lay 479 = .ok (.iastore, 1) := dk_79 (dk_at dksX2_lay_20 7 rfl rfl)
theorem dX2_lay_480 : decode cX2_lay 480 = .ok (.dup, 1) := dk_89 (dk_at dksX2_lay_20 8 rfl rfl)
theorem dX2_lay_481 : decode cX2_lay 481 = .ok (.bipush 15, 2) := dk_16 15 (dk_at dksX2_lay_20 9 rfl rfl)
theorem dX2_lay_483 : decode cX2_lay 483 = .ok (.aload_n 0, 1) := dk_42 (dk_at dksX2_lay_20 11 rfl rfl)
theorem dX2_lay_484 : decode cX2_lay 484 = .ok (.getfield 35, 3) := dk_180 0 35 (dk_at dksX2_lay_20 12 rfl rfl)
theorem dX2_lay_487 : decode cX2_lay 487 = .ok (.iconst 1, 1) := dk_4 (dk_at dksX2_lay_20 15 rfl rfl)
theorem dX2_lay_488 : decode cX2_lay 488 = .ok (.isub, 1) := dk_100 (dk_at dksX2_lay_20 16 rfl rfl)
theorem dX2_lay_489 : decode cX2_lay 489 = .ok (.iastore, 1) := dk_79 (dk_at dksX2_lay_20 17 rfl rfl)
theorem dX2_lay_490 : decode cX2_lay 490 = .ok (.invokevirtual 41, 3) := dk_182 0 41 (dk_at dksX2_lay_20 18 rfl rfl)
theorem dX2_lay_493 : decode cX2_lay 493 = .ok (.iload_n 2, 1) := dk_28 (dk_at dksX2_lay_20 21 rfl rfl)
theorem dX2_lay_494 : decode cX2_lay 494 = .ok (.aload_n 0, 1) := dk_42 (dk_at dksX2_lay_20 22 rfl rfl)
theorem dX2_lay_495 : decode cX2_lay 495 = .ok (.getfield 29, 3) := dk_180 0 29 (dk_at dksX2_lay_21 0 rfl rfl)
theorem dX2_lay_498 : decode cX2_lay 498 = .ok (.iconst 4, 1) := dk_7 (dk_at dksX2_lay_21 3 rfl rfl)
theorem dX2_lay_499 : decode cX2_lay 499 = .ok (.iadd, 1) := dk_96 (dk_at dksX2_lay_21 4 rfl rfl)
theorem dX2_lay_500 : decode cX2_lay 500 = .ok (.if_icmp .ne 145, 3) := dk_160 0 145 (dk_at dksX2_lay_21 5 rfl rfl)
theorem dX2_lay_503 : decode cX2_lay 503 = .ok (.iload_n 3, 1) := dk_29 (dk_at dksX2_lay_21 8 rfl rfl)
theorem dX2_lay_504 : decode cX2_lay 504 = .ok (.iconst 2, 1) := dk_5 (dk_at dksX2_lay_21 9 rfl rfl)
theorem dX2_lay_505 : decode cX2_lay 505 = .ok (.if_icmp .ne 140, 3) := dk_160 0 140 (dk_at dksX2_lay_21 10 rfl rfl)
theorem dX2_lay_508 : decode cX2_lay 508 = .ok (.aload_n 0, 1) := dk_42 (dk_at dksX2_lay_21 13 rfl rfl)
theorem dX2_lay_509 : decode cX2_lay 509 = .ok (.getfield 35, 3) := dk_180 0 35 (dk_at dksX2_lay_21 14 rfl rfl)
theorem dX2_lay_512 : decode cX2_lay 512 = .ok (.bipush 8, 2) := dk_16 8 (dk_at dksX2_lay_21 17 rfl rfl)
theorem dX2_lay_514 : decode cX2_lay 514 = .ok (.irem, 1) := dk_112 (dk_at dksX2_lay_21 19 rfl rfl)
theorem dX2_lay_515 : decode cX2_lay 515 = .ok (.ifCond .ne 130, 3) := dk_154 0 130 (dk_at dksX2_lay_21 20 rfl rfl)
theorem dX2_lay_518 : decode cX2_lay 518 = .ok (.aload_n 0, 1) := dk_42 (dk_at dksX2_lay_21 23 rfl rfl)
theorem dX2_lay_519 : decode cX2_lay 519 = .ok (.bipush 16, 2) := dk_16 16 (dk_at dksX2_lay_22 0 rfl rfl)
theorem dX2_lay_521 : decode cX2_lay 521 = .ok (.newarray .int, 2) := dk_188_10 (dk_at dksX2_lay_22 2 rfl rfl)
theorem dX2_lay_523 : decode cX2_lay 523 = .ok (.dup, 1) := dk_89 (dk_at dksX2_lay_22 4 rfl rfl)
theorem dX2_lay_524 : decode cX2_lay 524 = .ok (.iconst 0, 1) := dk_3 (dk_at dksX2_lay_22 5 rfl rfl)
theorem dX2_lay_525 : decode cX2_lay 525 = .ok (.aload_n 0, 1) := dk_42 (dk_at dksX2_lay_22 6 rfl rfl)
theorem dX2_lay_526 : decode cX2_lay 526 = .ok (.getfield 29, 3) := dk_180 0 29 (dk_at dksX2_lay_22 7 rfl rfl)
theorem dX2_lay_529 : decode cX2_lay 529 = .ok (.iconst 1, 1) := dk_4 (dk_at dksX2_lay_22 10 rfl rfl)
theorem dX2_lay_530 : decode cX2_lay 530 = .ok (.isub, 1) := dk_100 (dk_at dksX2_lay_22 11 rfl rfl)
theorem dX2_lay_531 : decode cX2_lay 531 = .ok (.iastore, 1) := dk_79 (dk_at dksX2_lay_22 12 rfl rfl)
theorem dX2_lay_532 : decode cX2_lay 532 = .ok (.dup, 1) := dk_89 (dk_at dksX2_lay_22 13 rfl rfl)
theorem dX2_lay_533 : decode cX2_lay 533 = .ok (.iconst 1, 1) := dk_4 (dk_at dksX2_lay_22 14 rfl rfl)
theorem dX2_lay_534 : decode cX2_lay 534 = .ok (.iconst 0, 1) := dk_3 (dk_at dksX2_lay_22 15 rfl rfl)
theorem dX2_lay_535 : decode cX2_lay 535 = .ok (.iastore, 1) := dk_79 (dk_at dksX2_lay_22 16 rfl rfl)
theorem dX2_lay_536 : decode cX2_lay 536 = .ok (.dup, 1) := dk_89 (dk_at dksX2_lay_22 17 rfl rfl)
theorem dX2_lay_537 : decode cX2_lay 537 = .ok (.iconst 2, 1) := dk_5 (dk_at dksX2_lay_22 18 rfl rfl)
theorem dX2_lay_538 : decode cX2_lay 538 = .ok (.aload_n 0, 1) := dk_42 (dk_at dksX2_lay_22 19 rfl rfl)
theorem dX2_lay_539 : decode cX2_lay 539 = .ok (.getfield 29, 3) := dk_180 0 29 (dk_at dksX2_lay_22 20 rfl rfl)
theorem dX2_lay_542 : decode cX2_lay 542 = .ok (.iconst 1, 1) := dk_4 (dk_at dksX2_lay_22 23 rfl rfl)
theorem dX2_lay_543 : decode cX2_lay 543 = .ok (.isub, 1) := dk_100 (dk_at dksX2_lay_23 0 rfl rfl)
theorem dX2_lay_544 : decode cX2_lay 544 = .ok (.iastore, 1) := dk_79 (dk_at dksX2_lay_23 1 rfl rfl)
theorem dX2_lay_545 : decode cX2_lay 545 = .ok (.dup, 1) := dk_89 (dk_at dksX2_lay_23 2 rfl rfl)
theorem dX2_lay_546 : decode cX2_lay 546 = .ok (.iconst 3, 1) := dk_6 (dk_at dksX2_lay_23 3 rfl rfl)
theorem dX2_lay_547 : decode cX2_lay 547 = .ok (.aload_n 0, 1) := dk_42 (dk_at dksX2_lay_23 4 rfl rfl)
theorem dX2_lay_548 : decode cX2_lay 548 = .ok (.getfield 35, 3) := dk_180 0 35 (dk_at dksX2_lay_23 5 rfl rfl)
theorem dX2_lay_551 : decode cX2_lay 551 = .ok (.iconst 1, 1) := dk_4 (dk_at dksX2_lay_23 8 rfl rfl)
theorem dX2_lay_552 : decode cX2_lay 552 = .ok (.isub, 1) := dk_100 (dk_at dksX2_lay_23 9 rfl rfl)
theorem dX2_lay_553 : decode cX2_lay 553 = .ok (.iastore, 1) := dk_79 (dk_at dksX2_lay_23 10 rfl rfl)
theorem dX2_lay_554 : decode cX2_lay 554 = .ok (.dup, 1) := dk_89 (dk_at dksX2_lay_23 11 rfl rfl)
theorem dX2_lay_555 : decode cX2_lay 555 = .ok (.iconst 4, 1) := dk_7 (dk_at dksX2_lay_23 12 rfl rfl)
theorem dX2_lay_556 : decode cX2_lay 556 = .ok (.iconst 0, 1) := dk_3 (dk_at dksX2_lay_23 13 rfl rfl)
theorem dX2_lay_557 : decode cX2_lay 557 = .ok (.iastore, 1) := dk_79 (dk_at dksX2_lay_23 14 rfl rfl)
theorem dX2_lay_558 : decode cX2_lay 558 = .ok (.dup, 1) := dk_89 (dk_at dksX2_lay_23 15 rfl rfl)
theorem dX2_lay_559 : decode cX2_lay 559 = .ok (.iconst 5, 1) := dk_8 (dk_at dksX2_lay_23 16 rfl rfl)
theorem dX2_lay_560 : decode cX2_lay 560 = .ok (.aload_n 0, 1) := dk_42 (dk_at dksX2_lay_23 17 rfl rfl)
theorem dX2_lay_561 : decode cX2_lay 561 = .ok (.getfield 35, 3) := dk_180 0 35 (dk_at dksX2_lay_23 18 rfl rfl)
theorem dX2_lay_564 : decode cX2_lay 564 = .ok (.iconst 3, 1) := dk_6 (dk_at dksX2_lay_23 21 rfl rfl)
theorem dX2_lay_565 : decode cX2_lay 565 = .ok (.isub, 1) := dk_100 (dk_at dksX2_lay_23 22 rfl rfl)
theorem dX2_lay_566 : decode cX2_lay 566 = .ok (.iastore, 1) := dk_79 (dk_at dksX2_lay_23 23 rfl rfl)
theorem dX2_lay_567 : decode cX2_lay 567 = .ok (.dup, 1) := dk_89 (dk_at dksX2_lay_24 0 rfl rfl)
theorem dX2_lay_568 : decode cX2_lay 568 = .ok (.bipush 6, 2) := dk_16 6 (dk_at dksX2_lay_24 1 rfl rfl)
theorem dX2_lay_570 : decode cX2_lay 570 = .ok (.iconst 0, 1) := dk_3 (dk_at dksX2_lay_24 3 rfl rfl)
theorem dX2_lay_571 : decode cX2_lay 571 = .ok (.iastore, 1) := dk_79 (dk_at dksX2_lay_24 4 rfl rfl)
theorem dX2_lay_572 : decode cX2_lay 572 = .ok (.dup, 1) := dk_89 (dk_at dksX2_lay_24 5 rfl rfl)
theorem dX2_lay_573 : decode cX2_lay 573 = .ok (.bipush 7, 2) := dk_16 7 (dk_at dksX2_lay_24 6 rfl rfl)
theorem dX2_lay_575 : decode cX2_lay 575 = .ok (.aload_n 0, 1) := dk_42 (dk_at dksX2_lay_24 8 rfl rfl)
theorem dX2_lay_576 : decode cX2_lay 576 = .ok (.getfield 35, 3) := dk_180 0 35 (dk_at dksX2_lay_24 9 rfl rfl)
theorem dX2_lay_579 : decode cX2_lay 579 = .ok (.iconst 2, 1) := dk_5 (dk_at dksX2_lay_24 12 rfl rfl)
theorem dX2_lay_580 : decode cX2_lay 580 = .ok (.isub, 1) := dk_100 (dk_at dksX2_lay_24 13 rfl rfl)
theorem dX2_lay_581 : decode cX2_lay 581 = .ok (.iastore, 1) := dk_79 (dk_at dksX2_lay_24 14 rfl rfl)
theorem dX2_lay_582 : decode cX2_lay 582 = .ok (.dup, 1) := dk_89 (dk_at dksX2_lay_24 15 rfl rfl)
theorem dX2_lay_583 : decode cX2_lay 583 = .ok (.bipush 8, 2) := dk_16 8 (dk_at dksX2_lay_24 16 rfl rfl)
theorem dX2_lay_585 : decode cX2_lay 585 = .ok (.iconst 0, 1) := dk_3 (dk_at dksX2_lay_24 18 rfl rfl)
theorem dX2_lay_586 : decode cX2_lay 586 = .ok (.iastore, 1) := dk_79 (dk_at dksX2_lay_24 19 rfl rfl)
theorem dX2_lay_587 : decode cX2_lay 587 = .ok (.dup, 1) := dk_89 (dk_at dksX2_lay_24 20 rfl rfl)
theorem dX2_lay_588 : decode cX2_lay 588 = .ok (.bipush 9, 2) := dk_16 9 (dk_at dksX2_lay_24 21 rfl rfl)
theorem dX2_lay_590 : decode cX2_lay 590 = .ok (.aload_n 0, 1) := dk_42 (dk_at dksX2_lay_24 23 rfl rfl)
theorem dX2_lay_591 : decode cX2_lay 591 = .ok (.getfield 35, 3) := dk_180 0 35 (dk_at dksX2_lay_25 0 rfl rfl)
theorem dX2_lay_594 : decode cX2_lay 594 = .ok (.iconst 1, 1) := dk_4 (dk_at dksX2_lay_25 3 rfl rfl)
theorem dX2_lay_595 : decode cX2_lay 595 = .ok (.isub, 1) := dk_100 (dk_at dksX2_lay_25 4 rfl rfl)
theorem dX2_lay_596 : decode cX2_lay 596 = .ok (.iastore, 1) := dk_79 (dk_at dksX2_lay_25 5 rfl rfl)
theorem dX2_lay_597 : decode cX2_lay 597 = .ok (.dup, 1) := dk_89 (dk_at dksX2_lay_25 6 rfl rfl)
theorem dX2_lay_598 : decode cX2_lay 598 = .ok (.bipush 10, 2) := dk_16 10 (dk_at dksX2_lay_25 7 rfl rfl)
theorem dX2_lay_600 : decode cX2_lay 600 = .ok (.iconst 1, 1) := dk_4 (dk_at dksX2_lay_25 9 rfl rfl)
theorem dX2_lay_601 : decode cX2_lay 601 = .ok (.iastore, 1) := dk_79 (dk_at dksX2_lay_25 10 rfl rfl)
theorem dX2_lay_602 : decode cX2_lay 602 = .ok (.dup, 1) := dk_89 (dk_at dksX2_lay_25 11 rfl rfl)
theorem dX2_lay_603 : decode cX2_lay 603 = .ok (.bipush 11, 2) := dk_16 11 (dk_at dksX2_lay_25 12 rfl rfl)
theorem dX2_lay_605 : decode cX2_lay 605 = .ok (.aload_n 0, 1) := dk_42 (dk_at dksX2_lay_25 14 rfl rfl)
theorem dX2_lay_606 : decode cX2_lay 606 = .ok (.getfield 35, 3) := dk_180 0 35 (dk_at dksX2_lay_25 15 rfl rfl)
theorem dX2_lay_609 : decode cX2_lay 609 = .ok (.iconst 3, 1) := dk_6 (dk_at dksX2_lay_25 18 rfl rfl)
theorem dX2_lay_610 : decode cX2_lay 610 = .ok (.isub, 1) := dk_100 (dk_at dksX2_lay_25 19 rfl rfl)
theorem dX2_lay_611 : decode cX2_lay 611 = .ok (.iastore, 1) := dk_79 (dk_at dksX2_lay_25 20 rfl rfl)
theorem dX2_lay_612 : decode cX2_lay 612 = .ok (.dup, 1) := dk_89 (dk_at dksX2_lay_25 21 rfl rfl)
theorem dX2_lay_613 : decode cX2_lay 613 = .ok (.bipush 12, 2) := dk_16 12 (dk_at dksX2_lay_25 22 rfl rfl)
theorem dX2_lay_615 : decode cX2_lay 615 = .ok (.iconst 1, 1) := dk_4 (dk_at dksX2_lay_26 0 rfl rfl)
theorem dX2_lay_616 : decode cX2_lay 616 = .ok (.iastore, 1) := dk_79 (dk_at dksX2_lay_26 1 rfl rfl)
theorem dX2_lay_617 : decode cX2_lay 617 = .ok (.dup, 1) := dk_89 (dk_at dksX2_lay_26 2 rfl rfl)
theorem dX2_lay_618 : decode cX2_lay 618 = .ok (.bipush 13, 2) := dk_16 13 (dk_at dksX2_lay_26 3 rfl rfl)
theorem dX2_lay_620 : decode cX2_lay 620 = .ok (.aload_n 0, 1) := dk_42 (dk_at dksX2_lay_26 5 rfl rfl)
theorem dX2_lay_621 : decode cX2_lay 621 = .ok (.getfield 35, 3) := dk_180 0 35 (dk_at dksX2_lay_26 6 rfl rfl)
theorem dX2_lay_624 : decode cX2_lay 624 = .ok (.iconst 2, 1) := dk_5 (dk_at dksX2_lay_26 9 rfl rfl)
theorem dX2_lay_625 : decode cX2_lay 625 = .ok (.isub, 1) := dk_100 (dk_at dksX2_lay_26 10 rfl rfl)
theorem dX2_lay_626 : decode cX2_lay 626 = .ok (.iastore, 1) := dk_79 (dk_at dksX2_lay_26 11 rfl rfl)
theorem dX2_lay_627 : decode cX2_lay 627 = .ok (.dup, 1) := dk_89 (dk_at dksX2_lay_26 12 rfl rfl)
theorem dX2_lay_628 : decode cX2_lay 628 = .ok (.bipush 14, 2) := dk_16 14 (dk_at dksX2_lay_26 13 rfl rfl)
theorem dX2_lay_630 : decode cX2_lay 630 = .ok (.iconst 1, 1) := dk_4 (dk_at dksX2_lay_26 15 rfl rfl)
theorem dX2_lay_631 : decode cX2_lay 631 = .ok (.iastore, 1) := dk_79 (dk_at dksX2_lay_26 16 rfl rfl)
theorem dX2_lay_632 : decode cX2_lay 632 = .ok (.dup, 1) := dk_89 (dk_at dksX2_lay_26 17 rfl rfl)
theorem dX2_lay_633 : decode cX2_lay 633 = .ok (.bipush 15, 2) := dk_16 15 (dk_at dksX2_lay_26 18 rfl rfl)
theorem dX2_lay_635 : decode cX2_lay 635 = .ok (.aload_n 0, 1) := dk_42 (dk_at dksX2_lay_26 20 rfl rfl)
theorem dX2_lay_636 : decode cX2_lay 636 = .ok (.getfield 35, 3) := dk_180 0 35 (dk_at dksX2_lay_26 21 rfl rfl)
theorem dX2_lay_639 : decode cX2_lay 639 = .ok (.iconst 1, 1) := dk_4 (dk_at dksX2_lay_27 0 rfl rfl)
theorem dX2_lay_640 : decode cX2_lay 640 = .ok (.isub, 1) := dk_100 (dk_at dksX2_lay_27 1 rfl rfl)
theorem dX2_lay_641 : decode cX2_lay 641 = .ok (.iastore, 1) := dk_79 (dk_at dksX2_lay_27 2 rfl rfl)
theorem dX2_lay_642 : decode cX2_lay 642 = .ok (.invokevirtual 41, 3) := dk_182 0 41 (dk_at dksX2_lay_27 3 rfl rfl)
theorem dX2_lay_645 : decode cX2_lay 645 = .ok (.iload_n 2, 1) := dk_28 (dk_at dksX2_lay_27 6 rfl rfl)
theorem dX2_lay_646 : decode cX2_lay 646 = .ok (.aload_n 0, 1) := dk_42 (dk_at dksX2_lay_27 7 rfl rfl)
theorem dX2_lay_647 : decode cX2_lay 647 = .ok (.getfield 29, 3) := dk_180 0 29 (dk_at dksX2_lay_27 8 rfl rfl)
theorem dX2_lay_650 : decode cX2_lay 650 = .ok (.if_icmp .ge 29, 3) := dk_162 0 29 (dk_at dksX2_lay_27 11 rfl rfl)
theorem dX2_lay_653 : decode cX2_lay 653 = .ok (.iload_n 3, 1) := dk_29 (dk_at dksX2_lay_27 14 rfl rfl)
theorem dX2_lay_654 : decode cX2_lay 654 = .ok (.ifCond .lt 25, 3) := dk_155 0 25 (dk_at dksX2_lay_27 15 rfl rfl)
theorem dX2_lay_657 : decode cX2_lay 657 = .ok (.aload_n 0, 1) := dk_42 (dk_at dksX2_lay_27 18 rfl rfl)
theorem dX2_lay_658 : decode cX2_lay 658 = .ok (.getfield 15, 3) := dk_180 0 15 (dk_at dksX2_lay_27 19 rfl rfl)
theorem dX2_lay_661 : decode cX2_lay 661 = .ok (.iload_n 2, 1) := dk_28 (dk_at dksX2_lay_27 22 rfl rfl)
theorem dX2_lay_662 : decode cX2_lay 662 = .ok (.aload_n 0, 1) := dk_42 (dk_at dksX2_lay_27 23 rfl rfl)
theorem dX2_lay_663 : decode cX2_lay 663 = .ok (.getfield 35, 3) := dk_180 0 35 (dk_at dksX2_lay_28 0 rfl rfl)
theorem dX2_lay_666 : decode cX2_lay 666 = .ok (.imul, 1) := dk_104 (dk_at dksX2_lay_28 3 rfl rfl)
theorem dX2_lay_667 : decode cX2_lay 667 = .ok (.iload_n 3, 1) := dk_29 (dk_at dksX2_lay_28 4 rfl rfl)
theorem dX2_lay_668 : decode cX2_lay 668 = .ok (.iadd, 1) := dk_96 (dk_at dksX2_lay_28 5 rfl rfl)
theorem dX2_lay_669 : decode cX2_lay 669 = .ok (.baload, 1) := dk_51 (dk_at dksX2_lay_28 6 rfl rfl)
theorem dX2_lay_670 : decode cX2_lay 670 = .ok (.ifCond .ne 9, 3) := dk_154 0 9 (dk_at dksX2_lay_28 7 rfl rfl)
theorem dX2_lay_673 : decode cX2_lay 673 = .ok (.aload_n 0, 1) := dk_42 (dk_at dksX2_lay_28 10 rfl rfl)
theorem dX2_lay_674 : decode cX2_lay 674 = .ok (.iload_n 2, 1) := dk_28 (dk_at dksX2_lay_28 11 rfl rfl)
theorem dX2_lay_675 : decode cX2_lay 675 = .ok (.iload_n 3, 1) := dk_29 (dk_at dksX2_lay_28 12 rfl rfl)
theorem dX2_lay_676 : decode cX2_lay 676 = .ok (.invokevirtual 45, 3) := dk_182 0 45 (dk_at dksX2_lay_28 13 rfl rfl)
theorem dX2_lay_679 : decode cX2_lay 679 = .ok (.iinc 2 (-2), 3) := dk_132 2 254 (dk_at dksX2_lay_28 16 rfl rfl)
theorem dX2_lay_682 : decode cX2_lay 682 = .ok (.iinc 3 2, 3) := dk_132 3 2 (dk_at dksX2_lay_28 19 rfl rfl)
theorem dX2_lay_685 : decode cX2_lay 685 = .ok (.iload_n 2, 1) := dk_28 (dk_at dksX2_lay_28 22 rfl rfl)
theorem dX2_lay_686 : decode cX2_lay 686 = .ok (.ifCond .lt 11, 3) := dk_155 0 11 (dk_at dksX2_lay_29 0 rfl rfl)
theorem dX2_lay_689 : decode cX2_lay 689 = .ok (.iload_n 3, 1) := dk_29 (dk_at dksX2_lay_29 3 rfl rfl)
theorem dX2_lay_690 : decode cX2_lay 690 = .ok (.aload_n 0, 1) := dk_42 (dk_at dksX2_lay_29 4 rfl rfl)
theorem dX2_lay_691 : decode cX2_lay 691 = .ok (.getfield 35, 3) := dk_180 0 35 (dk_at dksX2_lay_29 5 rfl rfl)
theorem dX2_lay_694 : decode cX2_lay 694 = .ok (.if_icmp .lt (-49), 3) := dk_161 255 207 (dk_at dksX2_lay_29 8 rfl rfl)
theorem dX2_lay_697 : decode cX2_lay 697 = .ok (.iinc 2 1, 3) := dk_132 2 1 (dk_at dksX2_lay_29 11 rfl rfl)
theorem dX2_lay_700 : decode cX2_lay 700 = .ok (.iinc 3 3, 3) := dk_132 3 3 (dk_at dksX2_lay_29 14 rfl rfl)
theorem dX2_lay_703 : decode cX2_lay 703 = .ok (.iload_n 2, 1) := dk_28 (dk_at dksX2_lay_29 17 rfl rfl)
theorem dX2_lay_704 : decode cX2_lay 704 = .ok (.ifCond .lt 33, 3) := dk_155 0 33 (dk_at dksX2_lay_29 18 rfl rfl)
theorem dX2_lay_707 : decode cX2_lay 707 = .ok (.iload_n 3, 1) := dk_29 (dk_at dksX2_lay_29 21 rfl rfl)
theorem dX2_lay_708 : decode cX2_lay 708 = .ok (.aload_n 0, 1) := dk_42 (dk_at dksX2_lay_29 22 rfl rfl)
theorem dX2_lay_709 : decode cX2_lay 709 = .ok (.getfield 35, 3) := dk_180 0 35 (dk_at dksX2_lay_30 0 rfl rfl)
theorem dX2_lay_712 : decode cX2_lay 712 = .ok (.if_icmp .ge 25, 3) := dk_162 0 25 (dk_at dksX2_lay_30 3 rfl rfl)
theorem dX2_lay_715 : decode cX2_lay 715 = .ok (.aload_n 0, 1) := dk_42 (dk_at dksX2_lay_30 6 rfl rfl)
theorem dX2_lay_716 : decode cX2_lay 716 = .ok (.getfield 15, 3) := dk_180 0 15 (dk_at dksX2_lay_30 7 rfl rfl)
theorem dX2_lay_719 : decode cX2_lay 719 = .ok (.iload_n 2, 1) := dk_28 (dk_at dksX2_lay_30 10 rfl rfl)
theorem dX2_lay_720 : decode cX2_lay 720 = .ok (.aload_n 0, 1) := dk_42 (dk_at dksX2_lay_30 11 rfl rfl)
theorem dX2_lay_721 : decode cX2_lay 721 = .ok (.getfield 35, 3) := dk_180 0 35 (dk_at dksX2_lay_30 12 rfl rfl)
theorem dX2_lay_724 : decode cX2_lay 724 = .ok (.imul, 1) := dk_104 (dk_at dksX2_lay_30 15 rfl rfl)
theorem dX2_lay_725 : decode cX2_lay 725 = .ok (.iload_n 3, 1) := dk_29 (dk_at dksX2_lay_30 16 rfl rfl)
theorem dX2_lay_726 : decode cX2_lay 726 = .ok (.iadd, 1) := dk_96 (dk_at dksX2_lay_30 17 rfl rfl)
theorem dX2_lay_727 : decode cX2_lay 727 = .ok (.baload, 1) := dk_51 (dk_at dksX2_lay_30 18 rfl rfl)
theorem dX2_lay_728 : decode cX2_lay 728 = .ok (.ifCond .ne 9, 3) := dk_154 0 9 (dk_at dksX2_lay_30 19 rfl rfl)
theorem dX2_lay_731 : decode cX2_lay 731 = .ok (.aload_n 0, 1) := dk_42 (dk_at dksX2_lay_30 22 rfl rfl)
theorem dX2_lay_732 : decode cX2_lay 732 = .ok (.iload_n 2, 1) := dk_28 (dk_at dksX2_lay_30 23 rfl rfl)
theorem dX2_lay_733 : decode cX2_lay 733 = .ok (.iload_n 3, 1) := dk_29 (dk_at dksX2_lay_31 0 rfl rfl)
theorem dX2_lay_734 : decode cX2_lay 734 = .ok (.invokevirtual 45, 3) := dk_182 0 45 (dk_at dksX2_lay_31 1 rfl rfl)
theorem dX2_lay_737 : decode cX2_lay 737 = .ok (.iinc 2 2, 3) := dk_132 2 2 (dk_at dksX2_lay_31 4 rfl rfl)
theorem dX2_lay_740 : decode cX2_lay 740 = .ok (.iinc 3 (-2), 3) := dk_132 3 254 (dk_at dksX2_lay_31 7 rfl rfl)
theorem dX2_lay_743 : decode cX2_lay 743 = .ok (.iload_n 2, 1) := dk_28 (dk_at dksX2_lay_31 10 rfl rfl)
theorem dX2_lay_744 : decode cX2_lay 744 = .ok (.aload_n 0, 1) := dk_42 (dk_at dksX2_lay_31 11 rfl rfl)
theorem dX2_lay_745 : decode cX2_lay 745 = .ok (.getfield 29, 3) := dk_180 0 29 (dk_at dksX2_lay_31 12 rfl rfl)
theorem dX2_lay_748 : decode cX2_lay 748 = .ok (.if_icmp .ge 7, 3) := dk_162 0 7 (dk_at dksX2_lay_31 15 rfl rfl)
theorem dX2_lay_751 : decode cX2_lay 751 = .ok (.iload_n 3, 1) := dk_29 (dk_at dksX2_lay_31 18 rfl rfl)
theorem dX2_lay_752 : decode cX2_lay 752 = .ok (.ifCond .ge (-49), 3) := dk_156 255 207 (dk_at dksX2_lay_31 19 rfl rfl)
theorem dX2_lay_755 : decode cX2_lay 755 = .ok (.iinc 2 3, 3) := dk_132 2 3 (dk_at dksX2_lay_32 0 rfl rfl)
theorem dX2_lay_758 : decode cX2_lay 758 = .ok (.iinc 3 1, 3) := dk_132 3 1 (dk_at dksX2_lay_32 3 rfl rfl)
theorem dX2_lay_761 : decode cX2_lay 761 = .ok (.iload_n 2, 1) := dk_28 (dk_at dksX2_lay_32 6 rfl rfl)
theorem dX2_lay_762 : decode cX2_lay 762 = .ok (.aload_n 0, 1) := dk_42 (dk_at dksX2_lay_32 7 rfl rfl)
theorem dX2_lay_763 : decode cX2_lay 763 = .ok (.getfield 29, 3) := dk_180 0 29 (dk_at dksX2_lay_32 8 rfl rfl)
theorem dX2_lay_766 : decode cX2_lay 766 = .ok (.if_icmp .lt (-699), 3) := dk_161 253 69 (dk_at dksX2_lay_32 11 rfl rfl)
theorem dX2_lay_769 : decode cX2_lay 769 = .ok (.iload_n 3, 1) := dk_29 (dk_at dksX2_lay_32 14 rfl rfl)
theorem dX2_lay_770 : decode cX2_lay 770 = .ok (.aload_n 0, 1) := dk_42 (dk_at dksX2_lay_32 15 rfl rfl)
theorem dX2_lay_771 : decode cX2_lay 771 = .ok (.getfield 35, 3) := dk_180 0 35 (dk_at dksX2_lay_32 16 rfl rfl)
theorem dX2_lay_774 : decode cX2_lay 774 = .ok (.if_icmp .lt (-707), 3) := dk_161 253 61 (dk_at dksX2_lay_32 19 rfl rfl)
theorem dX2_lay_777 : decode cX2_lay 777 = .ok (.aload_n 0, 1) := dk_42 (dk_at dksX2_lay_32 22 rfl rfl)
theorem dX2_lay_778 : decode cX2_lay 778 = .ok (.aload_n 0, 1) := dk_42 (dk_at dksX2_lay_32 23 rfl rfl)
theorem dX2_lay_779 : decode cX2_lay 779 = .ok (.getfield 15, 3) := dk_180 0 15 (dk_at dksX2_lay_33 0 rfl rfl)
theorem dX2_lay_782 : decode cX2_lay 782 = .ok (.aload_n 0, 1) := dk_42 (dk_at dksX2_lay_33 3 rfl rfl)
theorem dX2_lay_783 : decode cX2_lay 783 = .ok (.getfield 29, 3) := dk_180 0 29 (dk_at dksX2_lay_33 4 rfl rfl)
theorem dX2_lay_786 : decode cX2_lay 786 = .ok (.aload_n 0, 1) := dk_42 (dk_at dksX2_lay_33 7 rfl rfl)
theorem dX2_lay_787 : decode cX2_lay 787 = .ok (.getfield 35, 3) := dk_180 0 35 (dk_at dksX2_lay_33 8 rfl rfl)
theorem dX2_lay_790 : decode cX2_lay 790 = .ok (.imul, 1) := dk_104 (dk_at dksX2_lay_33 11 rfl rfl)
theorem dX2_lay_791 : decode cX2_lay 791 = .ok (.iconst 1, 1) := dk_4 (dk_at dksX2_lay_33 12 rfl rfl)
theorem dX2_lay_792 : decode cX2_lay 792 = .ok (.isub, 1) := dk_100 (dk_at dksX2_lay_33 13 rfl rfl)
theorem dX2_lay_793 : decode cX2_lay 793 = .ok (.baload, 1) := dk_51 (dk_at dksX2_lay_33 14 rfl rfl)
theorem dX2_lay_794 : decode cX2_lay 794 = .ok (.ifCond .ne 7, 3) := dk_154 0 7 (dk_at dksX2_lay_33 15 rfl rfl)
theorem dX2_lay_797 : decode cX2_lay 797 = .ok (.iconst 1, 1) := dk_4 (dk_at dksX2_lay_33 18 rfl rfl)
theorem dX2_lay_798 : decode cX2_lay 798 = .ok (.goto 4, 3) := dk_167 0 4 (dk_at dksX2_lay_33 19 rfl rfl)
theorem dX2_lay_801 : decode cX2_lay 801 = .ok (.iconst 0, 1) := dk_3 (dk_at dksX2_lay_33 22 rfl rfl)
theorem dX2_lay_802 : decode cX2_lay 802 = .ok (.putfield 49, 3) := dk_181 0 49 (dk_at dksX2_lay_34 0 rfl rfl)
theorem dX2_lay_805 : decode cX2_lay 805 = .ok (.return_, 1) := dk_177 (dk_at dksX2_lay_34 3 rfl rfl)
abbrev cX2_corner : ByteArray := prog_8_method_6_code
def yX2_corner : MethodName := ⟨RX2, "corner", "([I)V"⟩
def dkwX2_corner_1 : List UInt8 := [167, 255, 235, 177]
abbrev dktX2_corner_1 : List UInt8 := dkwX2_corner_1 ++ []
def dkwX2_corner_0 : List UInt8 := [3, 61, 28, 43, 190, 162, 0, 21, 42, 43, 28, 46, 43, 28, 4, 96, 46, 182, 0, 56, 132, 2, 2]
abbrev dktX2_corner_0 : List UInt8 := dkwX2_corner_0 ++ dktX2_corner_1
theorem dksX2_corner_0 : cX2_corner.data.toList.drop 0 = dktX2_corner_0 := by decide +kernel
theorem dksX2_corner_1 : cX2_corner.data.toList.drop 23 = dktX2_corner_1 := dk_seg dksX2_corner_0 23 rfl rfl
theorem dX2_corner_0 : decode cX2_corner 0 = .ok (.iconst 0, 1) := dk_3 (dk_at dksX2_corner_0 0 rfl rfl)
theorem dX2_corner_1 : decode cX2_corner 1 = .ok (.istore_n 2, 1) := dk_61 (dk_at dksX2_corner_0 1 rfl rfl)
theorem dX2_corner_2 : decode cX2_corner 2 = .ok (.iload_n 2, 1) := dk_28 (dk_at dksX2_corner_0 2 rfl rfl)
theorem dX2_corner_3 : decode cX2_corner 3 = .ok (.aload_n 1, 1) := dk_43 (dk_at dksX2_corner_0 3 rfl rfl)
theorem dX2_corner_4 : decode cX2_corner 4 = .ok (.arraylength, 1) := dk_190 (dk_at dksX2_corner_0 4 rfl rfl)
theorem dX2_corner_5 : decode cX2_corner 5 = .ok (.if_icmp .ge 21, 3) := dk_162 0 21 (dk_at dksX2_corner_0 5 rfl rfl)
theorem dX2_corner_8 : decode cX2_corner 8 = .ok (.aload_n 0, 1) := dk_42 (dk_at dksX2_corner_0 8 rfl rfl)
theorem dX2_corner_9 : decode cX2_corner 9 = .ok (.aload_n 1, 1) := dk_43 (dk_at dksX2_corner_0 9 rfl rfl)
theorem dX2_corner_10 : decode cX2_corner 10 = .ok (.iload_n 2, 1) := dk_28 (dk_at dksX2_corner_0 10 rfl rfl)
theorem dX2_corner_11 : decode cX2_corner 11 = .ok (.iaload, 1) := dk_46 (dk_at dksX2_corner_0 11 rfl rfl)
theorem dX2_corner_12 : decode cX2_corner 12 = .ok (.aload_n 1, 1) := dk_43 (dk_at dksX2_corner_0 12 rfl rfl)
theorem dX2_corner_13 : decode cX2_corner 13 = .ok (.iload_n 2, 1) := dk_28 (dk_at dksX2_corner_0 13 rfl rfl)
theorem dX2_corner_14 : decode cX2_corner 14 = .ok (.iconst 1, 1) := dk_4 (dk_at dksX2_corner_0 14 rfl rfl)
theorem dX2_corner_15 : decode cX2_corner 15 = .ok (.iadd, 1) := dk_96 (dk_at dksX2_corner_0 15 rfl rfl)
theorem dX2_corner_16 : decode cX2_corner 16 = .ok (.iaload, 1) := dk_46 (dk_at dksX2_corner_0 16 rfl rfl)
theorem dX2_corner_17 : decode cX2_corner 17 = .ok (.invokevirtual 56, 3) := dk_182 0 56 (dk_at dksX2_corner_0 17 rfl rfl)
theorem dX2_corner_20 : decode cX2_corner 20 = .ok (.iinc 2 2, 3) := dk_132 2 2 (dk_at dksX2_corner_0 20 rfl rfl)
theorem dX2_corner_23 : decode cX2_corner 23 = .ok (.goto (-21), 3) := dk_167 255 235 (dk_at dksX2_corner_1 0 rfl rfl)
theorem dX2_corner_26 : decode cX2_corner 26 = .ok (.return_, 1) := dk_177 (dk_at dksX2_corner_1 3 rfl rfl)
abbrev cX2_put : ByteArray := prog_8_method_5_code
def yX2_put : MethodName := ⟨RX2, "put", "(II)V"⟩
def dkwX2_put_1 : List UInt8 := [180, 0, 35, 104, 28, 96, 79, 42, 89, 180, 0, 38, 4, 96, 181, 0, 38, 177]
abbrev dktX2_put_1 : List UInt8 := dkwX2_put_1 ++ []
def dkwX2_put_0 : List UInt8 := [42, 180, 0, 15, 27, 42, 180, 0, 35, 104, 28, 96, 4, 84, 42, 180, 0, 9, 42, 180, 0, 38, 27, 42]
abbrev dktX2_put_0 : List UInt8 := dkwX2_put_0 ++ dktX2_put_1
theorem dksX2_put_0 : cX2_put.data.toList.drop 0 = dktX2_put_0 := by decide +kernel
theorem dksX2_put_1 : cX2_put.data.toList.drop 24 = dktX2_put_1 := dk_seg dksX2_put_0 24 rfl rfl
theorem dX2_put_0 : decode cX2_put 0 = .ok (.aload_n 0, 1) := dk_42 (dk_at dksX2_put_0 0 rfl rfl)
theorem dX2_put_1 : decode cX2_put 1 = .ok (.getfield 15, 3) := dk_180 0 15 (dk_at dksX2_put_0 1 rfl rfl)
theorem dX2_put_4 : decode cX2_put 4 = .ok (.iload_n 1, 1) := dk_27 (dk_at dksX2_put_0 4 rfl rfl)
theorem dX2_put_5 : decode cX2_put 5 = .ok (.aload_n 0, 1) := dk_42 (dk_at dksX2_put_0 5 rfl rfl)
theorem dX2_put_6 : decode cX2_put 6 = .ok (.getfield 35, 3) := dk_180 0 35 (dk_at dksX2_put_0 6 rfl rfl)
theorem dX2_put_9 : decode cX2_put 9 = .ok (.imul, 1) := dk_104 (dk_at dksX2_put_0 9 rfl rfl)
theorem dX2_put_10 : decode cX2_put 10 = .ok (.iload_n 2, 1) := dk_28 (dk_at dksX2_put_0 10 rfl rfl)
theorem dX2_put_11 : decode cX2_put 11 = .ok (.iadd, 1) := dk_96 (dk_at dksX2_put_0 11 rfl rfl)
theorem dX2_put_12 : decode cX2_put 12 = .ok (.iconst 1, 1) := dk_4 (dk_at dksX2_put_0 12 rfl rfl)
theorem dX2_put_13 : decode cX2_put 13 = .ok (.bastore, 1) := dk_84 (dk_at dksX2_put_0 13 rfl rfl)
theorem dX2_put_14 : decode cX2_put 14 = .ok (.aload_n 0, 1) := dk_42 (dk_at dksX2_put_0 14 rfl rfl)
theorem dX2_put_15 : decode cX2_put 15 = .ok (.getfield 9, 3) := dk_180 0 9 (dk_at dksX2_put_0 15 rfl rfl)
theorem dX2_put_18 : decode cX2_put 18 = .ok (.aload_n 0, 1) := dk_42 (dk_at dksX2_put_0 18 rfl rfl)
theorem dX2_put_19 : decode cX2_put 19 = .ok (.getfield 38, 3) := dk_180 0 38 (dk_at dksX2_put_0 19 rfl rfl)
theorem dX2_put_22 : decode cX2_put 22 = .ok (.iload_n 1, 1) := dk_27 (dk_at dksX2_put_0 22 rfl rfl)
theorem dX2_put_23 : decode cX2_put 23 = .ok (.aload_n 0, 1) := dk_42 (dk_at dksX2_put_0 23 rfl rfl)
theorem dX2_put_24 : decode cX2_put 24 = .ok (.getfield 35, 3) := dk_180 0 35 (dk_at dksX2_put_1 0 rfl rfl)
theorem dX2_put_27 : decode cX2_put 27 = .ok (.imul, 1) := dk_104 (dk_at dksX2_put_1 3 rfl rfl)
theorem dX2_put_28 : decode cX2_put 28 = .ok (.iload_n 2, 1) := dk_28 (dk_at dksX2_put_1 4 rfl rfl)
theorem dX2_put_29 : decode cX2_put 29 = .ok (.iadd, 1) := dk_96 (dk_at dksX2_put_1 5 rfl rfl)
theorem dX2_put_30 : decode cX2_put 30 = .ok (.iastore, 1) := dk_79 (dk_at dksX2_put_1 6 rfl rfl)
theorem dX2_put_31 : decode cX2_put 31 = .ok (.aload_n 0, 1) := dk_42 (dk_at dksX2_put_1 7 rfl rfl)
theorem dX2_put_32 : decode cX2_put 32 = .ok (.dup, 1) := dk_89 (dk_at dksX2_put_1 8 rfl rfl)
theorem dX2_put_33 : decode cX2_put 33 = .ok (.getfield 38, 3) := dk_180 0 38 (dk_at dksX2_put_1 9 rfl rfl)
theorem dX2_put_36 : decode cX2_put 36 = .ok (.iconst 1, 1) := dk_4 (dk_at dksX2_put_1 12 rfl rfl)
theorem dX2_put_37 : decode cX2_put 37 = .ok (.iadd, 1) := dk_96 (dk_at dksX2_put_1 13 rfl rfl)
theorem dX2_put_38 : decode cX2_put 38 = .ok (.putfield 38, 3) := dk_181 0 38 (dk_at dksX2_put_1 14 rfl rfl)
theorem dX2_put_41 : decode cX2_put 41 = .ok (.return_, 1) := dk_177 (dk_at dksX2_put_1 17 rfl rfl)
abbrev cX2_utah : ByteArray := prog_8_method_3_code
def yX2_utah : MethodName := ⟨RX2, "utah", "(II)V"⟩
def dkwX2_utah_2 : List UInt8 := [42, 27, 28, 5, 100, 182, 0, 53, 42, 27, 28, 4, 100, 182, 0, 53, 42, 27, 28, 182, 0, 53, 177]
abbrev dktX2_utah_2 : List UInt8 := dkwX2_utah_2 ++ []
def dkwX2_utah_1 : List UInt8 := [28, 5, 100, 182, 0, 53, 42, 27, 4, 100, 28, 4, 100, 182, 0, 53, 42, 27, 4, 100, 28, 182, 0, 53]
abbrev dktX2_utah_1 : List UInt8 := dkwX2_utah_1 ++ dktX2_utah_2
def dkwX2_utah_0 : List UInt8 := [42, 27, 5, 100, 28, 5, 100, 182, 0, 53, 42, 27, 5, 100, 28, 4, 100, 182, 0, 53, 42, 27, 4, 100]
abbrev dktX2_utah_0 : List UInt8 := dkwX2_utah_0 ++ dktX2_utah_1
theorem dksX2_utah_0 : cX2_utah.data.toList.drop 0 = dktX2_utah_0 := by decide +kernel
theorem dksX2_utah_1 : cX2_utah.data.toList.drop 24 = dktX2_utah_1 := dk_seg dksX2_utah_0 24 rfl rfl
theorem dksX2_utah_2 : cX2_utah.data.toList.drop 48 = dktX2_utah_2 := dk_seg dksX2_utah_1 24 rfl rfl
theorem dX2_utah_0 : decode cX2_utah 0 = .ok (.aload_n 0, 1) := dk_42 (dk_at dksX2_utah_0 0 rfl rfl)
theorem dX2_utah_1 : decode cX2_utah 1 = .ok (.iload_n 1, 1) := dk_27 (dk_at dksX2_utah_0 1 rfl rfl)
theorem dX2_utah_2 : decode cX2_utah 2 = .ok (.iconst 2, 1) := dk_5 (dk_at dksX2_utah_0 2 rfl rfl)
theorem dX2_utah_3 : decode cX2_utah 3 = .ok (.isub, 1) := dk_100 (dk_at dksX2_utah_0 3 rfl rfl)
theorem dX2_utah_4 : decode cX2_utah 4 = .ok (.iload_n 2, 1) := dk_28 (dk_at dksX2_utah_0 4 rfl rfl)
theorem dX2_utah_5 : decode cX2_utah 5 = .ok (.iconst 2, 1) := dk_5 (dk_at dksX2_utah_0 5 rfl rfl)
theorem dX2_utah_6 : decode cX2_utah 6 = .ok (.isub, 1) := dk_100 (dk_at dksX2_utah_0 6 rfl rfl)
theorem dX2_utah_7 : decode cX2_utah 7 = .ok (.invokevirtual 53, 3) := dk_182 0 53 (dk_at dksX2_utah_0 7 rfl rfl)
theorem dX2_utah_10 : decode cX2_utah 10 = .ok (.aload_n 0, 1) := dk_42 (dk_at dksX2_utah_0 10 rfl rfl)
theorem dX2_utah_11 : decode cX2_utah 11 = .ok (.iload_n 1, 1) := dk_27 (dk_at dksX2_utah_0 11 rfl rfl)
theorem dX2_utah_12 : decode cX2_utah 12 = .ok (.iconst 2, 1) := dk_5 (dk_at dksX2_utah_0 12 rfl rfl)
theorem dX2_utah_13 : decode cX2_utah 13 = .ok (.isub, 1) := dk_100 (dk_at dksX2_utah_0 13 rfl rfl)
theorem dX2_utah_14 : decode cX2_utah 14 = .ok (.iload_n 2, 1) := dk_28 (dk_at dksX2_utah_0 14 rfl rfl)
theorem dX2_utah_15 : decode cX2_utah 15 = .ok (.iconst 1, 1) := dk_4 (dk_at dksX2_utah_0 15 rfl rfl)
theorem dX2_utah_16 : decode cX2_utah 16 = .ok (.isub, 1) := dk_100 (dk_at dksX2_utah_0 16 rfl rfl)
theorem dX2_utah_17 : decode cX2_utah 17 = .ok (.invokevirtual 53, 3) := dk_182 0 53 (dk_at dksX2_utah_0 17 rfl rfl)
theorem dX2_utah_20 : decode cX2_utah 20 = .ok (.aload_n 0, 1) := dk_42 (dk_at dksX2_utah_0 20 rfl rfl)
theorem dX2_utah_21 : decode cX2_utah 21 = .ok (.iload_n 1, 1) := dk_27 (dk_at dksX2_utah_0 21 rfl rfl)
theorem dX2_utah_22 : decode cX2_utah 22 = .ok (.iconst 1, 1) := dk_4 (dk_at dksX2_utah_0 22 rfl rfl)
theorem dX2_utah_23 : decode cX2_utah 23 = .ok (.isub, 1) := dk_100 (dk_at dksX2_utah_0 23 rfl rfl)
theorem dX2_utah_24 : decode cX2_utah 24 = .ok (.iload_n 2, 1) := dk_28 (dk_at dksX2_utah_1 0 rfl rfl)
theorem dX2_utah_25 : decode cX2_utah 25 = .ok (.iconst 2, 1) := dk_5 (dk_at dksX2_utah_1 1 rfl rfl)
theorem dX2_utah_26 : decode cX2_utah 26 = .ok (.isub, 1) := dk_100 (dk_at dksX2_utah_1 2 rfl rfl)
theorem dX2_utah_27 : decode cX2_utah 27 = .ok (.invokevirtual 53, 3) := dk_182 0 53 (dk_at dksX2_utah_1 3 rfl rfl)
theorem dX2_utah_30 : decode cX2_utah 30 = .ok (.aload_n 0, 1) := dk_42 (dk_at dksX2_utah_1 6 rfl rfl)
theorem dX2_utah_31 : decode cX2_utah 31 = .ok (.iload_n 1, 1) := dk_27 (dk_at dksX2_utah_1 7 rfl rfl)
theorem dX2_utah_32 : decode cX2_utah 32 = .ok (.iconst 1, 1) := dk_4 (dk_at dksX2_utah_1 8 rfl rfl)
theorem dX2_utah_33 : decode cX2_utah 33 = .ok (.isub, 1) := dk_100 (dk_at dksX2_utah_1 9 rfl rfl)
theorem dX2_utah_34 : decode cX2_utah 34 = .ok (.iload_n 2, 1) := dk_28 (dk_at dksX2_utah_1 10 rfl rfl)
theorem dX2_utah_35 : decode cX2_utah 35 = .ok (.iconst 1, 1) := dk_4 (dk_at dksX2_utah_1 11 rfl rfl)
theorem dX2_utah_36 : decode cX2_utah 36 = .ok (.isub, 1) := dk_100 (dk_at dksX2_utah_1 12 rfl rfl)
theorem dX2_utah_37 : decode cX2_utah 37 = .ok (.invokevirtual 53, 3) := dk_182 0 53 (dk_at dksX2_utah_1 13 rfl rfl)
theorem dX2_utah_40 : decode cX2_utah 40 = .ok (.aload_n 0, 1) := dk_42 (dk_at dksX2_utah_1 16 rfl rfl)
theorem dX2_utah_41 : decode cX2_utah 41 = .ok (.iload_n 1, 1) := dk_27 (dk_at dksX2_utah_1 17 rfl rfl)
theorem dX2_utah_42 : decode cX2_utah 42 = .ok (.iconst 1, 1) := dk_4 (dk_at dksX2_utah_1 18 rfl rfl)
theorem dX2_utah_43 : decode cX2_utah 43 = .ok (.isub, 1) := dk_100 (dk_at dksX2_utah_1 19 rfl rfl)
theorem dX2_utah_44 : decode cX2_utah 44 = .ok (.iload_n 2, 1) := dk_28 (dk_at dksX2_utah_1 20 rfl rfl)
theorem dX2_utah_45 : decode cX2_utah 45 = .ok (.invokevirtual 53, 3) := dk_182 0 53 (dk_at dksX2_utah_1 21 rfl rfl)
theorem dX2_utah_48 : decode cX2_utah 48 = .ok (.aload_n 0, 1) := dk_42 (dk_at dksX2_utah_2 0 rfl rfl)
theorem dX2_utah_49 : decode cX2_utah 49 = .ok (.iload_n 1, 1) := dk_27 (dk_at dksX2_utah_2 1 rfl rfl)
theorem dX2_utah_50 : decode cX2_utah 50 = .ok (.iload_n 2, 1) := dk_28 (dk_at dksX2_utah_2 2 rfl rfl)
theorem dX2_utah_51 : decode cX2_utah 51 = .ok (.iconst 2, 1) := dk_5 (dk_at dksX2_utah_2 3 rfl rfl)
theorem dX2_utah_52 : decode cX2_utah 52 = .ok (.isub, 1) := dk_100 (dk_at dksX2_utah_2 4 rfl rfl)
theorem dX2_utah_53 : decode cX2_utah 53 = .ok (.invokevirtual 53, 3) := dk_182 0 53 (dk_at dksX2_utah_2 5 rfl rfl)
theorem dX2_utah_56 : decode cX2_utah 56 = .ok (.aload_n 0, 1) := dk_42 (dk_at dksX2_utah_2 8 rfl rfl)
theorem dX2_utah_57 : decode cX2_utah 57 = .ok (.iload_n 1, 1) := dk_27 (dk_at dksX2_utah_2 9 rfl rfl)
theorem dX2_utah_58 : decode cX2_utah 58 = .ok (.iload_n 2, 1) := dk_28 (dk_at dksX2_utah_2 10 rfl rfl)
theorem dX2_utah_59 : decode cX2_utah 59 = .ok (.iconst 1, 1) := dk_4 (dk_at dksX2_utah_2 11 rfl rfl)
theorem dX2_utah_60 : decode cX2_utah 60 = .ok (.isub, 1) := dk_100 (dk_at dksX2_utah_2 12 rfl rfl)
theorem dX2_utah_61 : decode cX2_utah 61 = .ok (.invokevirtual 53, 3) := dk_182 0 53 (dk_at dksX2_utah_2 13 rfl rfl)
theorem dX2_utah_64 : decode cX2_utah 64 = .ok (.aload_n 0, 1) := dk_42 (dk_at dksX2_utah_2 16 rfl rfl)
theorem dX2_utah_65 : decode cX2_utah 65 = .ok (.iload_n 1, 1) := dk_27 (dk_at dksX2_utah_2 17 rfl rfl)
theorem dX2_utah_66 : decode cX2_utah 66 = .ok (.iload_n 2, 1) := dk_28 (dk_at dksX2_utah_2 18 rfl rfl)
theorem dX2_utah_67 : decode cX2_utah 67 = .ok (.invokevirtual 53, 3) := dk_182 0 53 (dk_at dksX2_utah_2 19 rfl rfl)
theorem dX2_utah_70 : decode cX2_utah 70 = .ok (.return_, 1) := dk_177 (dk_at dksX2_utah_2 22 rfl rfl)
abbrev cX2_bit : ByteArray := prog_8_method_4_code
def yX2_bit : MethodName := ⟨RX2, "bit", "(II)V"⟩
def dkwX2_bit_2 : List UInt8 := [42, 180, 0, 35, 7, 96, 16, 8, 112, 100, 96, 62, 42, 29, 21, 4, 182, 0, 56, 177]
abbrev dktX2_bit_2 : List UInt8 := dkwX2_bit_2 ++ []
def dkwX2_bit_1 : List UInt8 := [96, 16, 8, 112, 100, 96, 54, 4, 21, 4, 156, 0, 26, 21, 4, 42, 180, 0, 35, 96, 54, 4, 29, 7]
abbrev dktX2_bit_1 : List UInt8 := dkwX2_bit_1 ++ dktX2_bit_2
def dkwX2_bit_0 : List UInt8 := [27, 62, 28, 54, 4, 29, 156, 0, 26, 29, 42, 180, 0, 29, 96, 62, 21, 4, 7, 42, 180, 0, 29, 7]
abbrev dktX2_bit_0 : List UInt8 := dkwX2_bit_0 ++ dktX2_bit_1
theorem dksX2_bit_0 : cX2_bit.data.toList.drop 0 = dktX2_bit_0 := by decide +kernel
theorem dksX2_bit_1 : cX2_bit.data.toList.drop 24 = dktX2_bit_1 := dk_seg dksX2_bit_0 24 rfl rfl
theorem dksX2_bit_2 : cX2_bit.data.toList.drop 48 = dktX2_bit_2 := dk_seg dksX2_bit_1 24 rfl rfl
theorem dX2_bit_0 : decode cX2_bit 0 = .ok (.iload_n 1, 1) := dk_27 (dk_at dksX2_bit_0 0 rfl rfl)
theorem dX2_bit_1 : decode cX2_bit 1 = .ok (.istore_n 3, 1) := dk_62 (dk_at dksX2_bit_0 1 rfl rfl)
theorem dX2_bit_2 : decode cX2_bit 2 = .ok (.iload_n 2, 1) := dk_28 (dk_at dksX2_bit_0 2 rfl rfl)
theorem dX2_bit_3 : decode cX2_bit 3 = .ok (.istore 4, 2) := dk_54 4 (dk_at dksX2_bit_0 3 rfl rfl)
theorem dX2_bit_5 : decode cX2_bit 5 = .ok (.iload_n 3, 1) := dk_29 (dk_at dksX2_bit_0 5 rfl rfl)
theorem dX2_bit_6 : decode cX2_bit 6 = .ok (.ifCond .ge 26, 3) := dk_156 0 26 (dk_at dksX2_bit_0 6 rfl rfl)
theorem dX2_bit_9 : decode cX2_bit 9 = .ok (.iload_n 3, 1) := dk_29 (dk_at dksX2_bit_0 9 rfl rfl)
theorem dX2_bit_10 : decode cX2_bit 10 = .ok (.aload_n 0, 1) := dk_42 (dk_at dksX2_bit_0 10 rfl rfl)
theorem dX2_bit_11 : decode cX2_bit 11 = .ok (.getfield 29, 3) := dk_180 0 29 (dk_at dksX2_bit_0 11 rfl rfl)
theorem dX2_bit_14 : decode cX2_bit 14 = .ok (.iadd, 1) := dk_96 (dk_at dksX2_bit_0 14 rfl rfl)
theorem dX2_bit_15 : decode cX2_bit 15 = .ok (.istore_n 3, 1) := dk_62 (dk_at dksX2_bit_0 15 rfl rfl)
theorem dX2_bit_16 : decode cX2_bit 16 = .ok (.iload 4, 2) := dk_21 4 (dk_at dksX2_bit_0 16 rfl rfl)
theorem dX2_bit_18 : decode cX2_bit 18 = .ok (.iconst 4, 1) := dk_7 (dk_at dksX2_bit_0 18 rfl rfl)
theorem dX2_bit_19 : decode cX2_bit 19 = .ok (.aload_n 0, 1) := dk_42 (dk_at dksX2_bit_0 19 rfl rfl)
theorem dX2_bit_20 : decode cX2_bit 20 = .ok (.getfield 29, 3) := dk_180 0 29 (dk_at dksX2_bit_0 20 rfl rfl)
theorem dX2_bit_23 : decode cX2_bit 23 = .ok (.iconst 4, 1) := dk_7 (dk_at dksX2_bit_0 23 rfl rfl)
theorem dX2_bit_24 : decode cX2_bit 24 = .ok (.iadd, 1) := dk_96 (dk_at dksX2_bit_1 0 rfl rfl)
theorem dX2_bit_25 : decode cX2_bit 25 = .ok (.bipush 8, 2) := dk_16 8 (dk_at dksX2_bit_1 1 rfl rfl)
theorem dX2_bit_27 : decode cX2_bit 27 = .ok (.irem, 1) := dk_112 (dk_at dksX2_bit_1 3 rfl rfl)
theorem dX2_bit_28 : decode cX2_bit 28 = .ok (.isub, 1) := dk_100 (dk_at dksX2_bit_1 4 rfl rfl)
theorem dX2_bit_29 : decode cX2_bit 29 = .ok (.iadd, 1) := dk_96 (dk_at dksX2_bit_1 5 rfl rfl)
theorem dX2_bit_30 : decode cX2_bit 30 = .ok (.istore 4, 2) := dk_54 4 (dk_at dksX2_bit_1 6 rfl rfl)
theorem dX2_bit_32 : decode cX2_bit 32 = .ok (.iload 4, 2) := dk_21 4 (dk_at dksX2_bit_1 8 rfl rfl)
theorem dX2_bit_34 : decode cX2_bit 34 = .ok (.ifCond .ge 26, 3) := dk_156 0 26 (dk_at dksX2_bit_1 10 rfl rfl)
theorem dX2_bit_37 : decode cX2_bit 37 = .ok (.iload 4, 2) := dk_21 4 (dk_at dksX2_bit_1 13 rfl rfl)
theorem dX2_bit_39 : decode cX2_bit 39 = .ok (.aload_n 0, 1) := dk_42 (dk_at dksX2_bit_1 15 rfl rfl)
theorem dX2_bit_40 : decode cX2_bit 40 = .ok (.getfield 35, 3) := dk_180 0 35 (dk_at dksX2_bit_1 16 rfl rfl)
theorem dX2_bit_43 : decode cX2_bit 43 = .ok (.iadd, 1) := dk_96 (dk_at dksX2_bit_1 19 rfl rfl)
theorem dX2_bit_44 : decode cX2_bit 44 = .ok (.istore 4, 2) := dk_54 4 (dk_at dksX2_bit_1 20 rfl rfl)
theorem dX2_bit_46 : decode cX2_bit 46 = .ok (.iload_n 3, 1) := dk_29 (dk_at dksX2_bit_1 22 rfl rfl)
theorem dX2_bit_47 : decode cX2_bit 47 = .ok (.iconst 4, 1) := dk_7 (dk_at dksX2_bit_1 23 rfl rfl)
theorem dX2_bit_48 : decode cX2_bit 48 = .ok (.aload_n 0, 1) := dk_42 (dk_at dksX2_bit_2 0 rfl rfl)
theorem dX2_bit_49 : decode cX2_bit 49 = .ok (.getfield 35, 3) := dk_180 0 35 (dk_at dksX2_bit_2 1 rfl rfl)
theorem dX2_bit_52 : decode cX2_bit 52 = .ok (.iconst 4, 1) := dk_7 (dk_at dksX2_bit_2 4 rfl rfl)
theorem dX2_bit_53 : decode cX2_bit 53 = .ok (.iadd, 1) := dk_96 (dk_at dksX2_bit_2 5 rfl rfl)
theorem dX2_bit_54 : decode cX2_bit 54 = .ok (.bipush 8, 2) := dk_16 8 (dk_at dksX2_bit_2 6 rfl rfl)
theorem dX2_bit_56 : decode cX2_bit 56 = .ok (.irem, 1) := dk_112 (dk_at dksX2_bit_2 8 rfl rfl)
theorem dX2_bit_57 : decode cX2_bit 57 = .ok (.isub, 1) := dk_100 (dk_at dksX2_bit_2 9 rfl rfl)
theorem dX2_bit_58 : decode cX2_bit 58 = .ok (.iadd, 1) := dk_96 (dk_at dksX2_bit_2 10 rfl rfl)
theorem dX2_bit_59 : decode cX2_bit 59 = .ok (.istore_n 3, 1) := dk_62 (dk_at dksX2_bit_2 11 rfl rfl)
theorem dX2_bit_60 : decode cX2_bit 60 = .ok (.aload_n 0, 1) := dk_42 (dk_at dksX2_bit_2 12 rfl rfl)
theorem dX2_bit_61 : decode cX2_bit 61 = .ok (.iload_n 3, 1) := dk_29 (dk_at dksX2_bit_2 13 rfl rfl)
theorem dX2_bit_62 : decode cX2_bit 62 = .ok (.iload 4, 2) := dk_21 4 (dk_at dksX2_bit_2 14 rfl rfl)
theorem dX2_bit_64 : decode cX2_bit 64 = .ok (.invokevirtual 56, 3) := dk_182 0 56 (dk_at dksX2_bit_2 16 rfl rfl)
theorem dX2_bit_67 : decode cX2_bit 67 = .ok (.return_, 1) := dk_177 (dk_at dksX2_bit_2 19 rfl rfl)
theorem q109 : (Jvm.Cond.initialized "MatrixPress$Plane") ∈ lw_all := lw_g (lw_at lw_m1 2 rfl) rfl
theorem q148 : (Jvm.Cond.instantiable "MatrixPress$Plane" (7 : Nat)) ∈ lw_all := lw_g (lw_at lw_m1 41 rfl) rfl
theorem q150 : (Jvm.Cond.instanceMethod ({ cls := "MatrixPress$Plane", name := "<init>", desc := "()V" } : Jvm.MethodName)) ∈ lw_all := lw_g (lw_at lw_m1 43 rfl) rfl
theorem q151 : (Jvm.Cond.code ({ cls := "MatrixPress$Plane", name := "<init>", desc := "()V" } : Jvm.MethodName) prog_8_method_1_code (1 : Nat) (Option.none : Option Jvm.ClassFile.FieldType)) ∈ lw_all := lw_g (lw_at lw_m1 44 rfl) rfl
theorem q152 : (Jvm.Cond.methodLink "MatrixPress$Plane" (3 : Nat) ({ cls := "java/lang/Object", name := "<init>", desc := "()V" } : Jvm.MethodName)) ∈ lw_all := lw_g (lw_at lw_m1 45 rfl) rfl
theorem q153 : (Jvm.Cond.fieldLink "MatrixPress$Plane" (9 : Nat) "MatrixPress$Plane" "at" "[I") ∈ lw_all := lw_g (lw_at lw_m1 46 rfl) rfl
theorem q155 : (Jvm.Cond.fieldLink "MatrixPress$Plane" (15 : Nat) "MatrixPress$Plane" "taken" "[Z") ∈ lw_all := lw_g (lw_at lw_m1 48 rfl) rfl
theorem q156 : (Jvm.Cond.fieldLink "MatrixPress$Plane" (29 : Nat) "MatrixPress$Plane" "rows" "I") ∈ lw_all := lw_g (lw_at lw_m1 49 rfl) rfl
theorem q157 : (Jvm.Cond.fieldLink "MatrixPress$Plane" (35 : Nat) "MatrixPress$Plane" "columns" "I") ∈ lw_all := lw_g (lw_at lw_m1 50 rfl) rfl
theorem q158 : (Jvm.Cond.fieldLink "MatrixPress$Plane" (38 : Nat) "MatrixPress$Plane" "n" "I") ∈ lw_all := lw_g (lw_at lw_m1 51 rfl) rfl
theorem q159 : (Jvm.Cond.fieldLink "MatrixPress$Plane" (49 : Nat) "MatrixPress$Plane" "rest" "Z") ∈ lw_all := lw_g (lw_at lw_m1 52 rfl) rfl
theorem q161 : (Jvm.Cond.fieldLink "MatrixPress$Plane" (19 : Nat) "MatrixPress$Plane" "laid" "LMatrixPress$Symbol;") ∈ lw_all := lw_g (lw_at lw_m1 54 rfl) rfl
theorem q162 : (Jvm.Cond.laysFinal "MatrixPress$Plane" "MatrixPress$Plane" "at" "[I") ∈ lw_all := lw_g (lw_at lw_m1 55 rfl) rfl
theorem q163 : (Jvm.Cond.soleField "MatrixPress$Plane" "at") ∈ lw_all := lw_g (lw_at lw_m1 56 rfl) rfl
theorem q164 : (Jvm.Cond.laysFinal "MatrixPress$Plane" "MatrixPress$Plane" "taken" "[Z") ∈ lw_all := lw_g (lw_at lw_m1 57 rfl) rfl
theorem q165 : (Jvm.Cond.soleField "MatrixPress$Plane" "taken") ∈ lw_all := lw_g (lw_at lw_m1 58 rfl) rfl
theorem q166 : (Jvm.Cond.lays "MatrixPress$Plane" "MatrixPress$Plane" "rows" "I") ∈ lw_all := lw_g (lw_at lw_m1 59 rfl) rfl
theorem q167 : (Jvm.Cond.soleField "MatrixPress$Plane" "rows") ∈ lw_all := lw_g (lw_at lw_m1 60 rfl) rfl
theorem q168 : (Jvm.Cond.lays "MatrixPress$Plane" "MatrixPress$Plane" "columns" "I") ∈ lw_all := lw_g (lw_at lw_m1 61 rfl) rfl
theorem q169 : (Jvm.Cond.soleField "MatrixPress$Plane" "columns") ∈ lw_all := lw_g (lw_at lw_m1 62 rfl) rfl
theorem q170 : (Jvm.Cond.lays "MatrixPress$Plane" "MatrixPress$Plane" "n" "I") ∈ lw_all := lw_g (lw_at lw_m1 63 rfl) rfl
theorem q171 : (Jvm.Cond.soleField "MatrixPress$Plane" "n") ∈ lw_all := lw_g (lw_at lw_m1 64 rfl) rfl
theorem q172 : (Jvm.Cond.lays "MatrixPress$Plane" "MatrixPress$Plane" "rest" "Z") ∈ lw_all := lw_g (lw_at lw_m1 65 rfl) rfl
theorem q173 : (Jvm.Cond.soleField "MatrixPress$Plane" "rest") ∈ lw_all := lw_g (lw_at lw_m1 66 rfl) rfl
theorem q174 : (Jvm.Cond.lays "MatrixPress$Plane" "MatrixPress$Plane" "laid" "LMatrixPress$Symbol;") ∈ lw_all := lw_g (lw_at lw_m1 67 rfl) rfl
theorem q175 : (Jvm.Cond.soleField "MatrixPress$Plane" "laid") ∈ lw_all := lw_g (lw_at lw_m1 68 rfl) rfl
theorem q176 : (Jvm.Cond.superclass "MatrixPress$Plane" "java/lang/Object") ∈ lw_all := lw_g (lw_at lw_m1 69 rfl) rfl
theorem q298 : (Jvm.Cond.fieldLinkNest "MatrixPress$Plane" (23 : Nat) "MatrixPress$Symbol" "planeRows" "I" "MatrixPress") ∈ lw_tbl := lw_at lw_m1 191 rfl
theorem q301 : (Jvm.Cond.fieldLinkNest "MatrixPress$Plane" (32 : Nat) "MatrixPress$Symbol" "planeColumns" "I" "MatrixPress") ∈ lw_tbl := lw_at lw_m1 194 rfl
theorem q408 : (Jvm.Cond.selects "MatrixPress$Plane" ({ cls := "java/lang/Object", name := "getClass", desc := "()Ljava/lang/Class;" } : Jvm.MethodName) ({ cls := "java/lang/Object", name := "getClass", desc := "()Ljava/lang/Class;" } : Jvm.MethodName)) ∈ lw_all := lw_g (lw_at lw_m2 61 rfl) rfl
theorem q938 : (Jvm.Cond.instanceMethod ({ cls := "MatrixPress$Plane", name := "lay", desc := "(LMatrixPress$Symbol;)V" } : Jvm.MethodName)) ∈ lw_all := lw_g (lw_at lw_m4 111 rfl) rfl
theorem q939 : (Jvm.Cond.selects "MatrixPress$Plane" ({ cls := "MatrixPress$Plane", name := "lay", desc := "(LMatrixPress$Symbol;)V" } : Jvm.MethodName) ({ cls := "MatrixPress$Plane", name := "lay", desc := "(LMatrixPress$Symbol;)V" } : Jvm.MethodName)) ∈ lw_all := lw_g (lw_at lw_m4 112 rfl) rfl
theorem q940 : (Jvm.Cond.code ({ cls := "MatrixPress$Plane", name := "lay", desc := "(LMatrixPress$Symbol;)V" } : Jvm.MethodName) prog_8_method_2_code (4 : Nat) (Option.none : Option Jvm.ClassFile.FieldType)) ∈ lw_all := lw_g (lw_at lw_m4 113 rfl) rfl
theorem q941 : (Jvm.Cond.methodLink "MatrixPress$Plane" (41 : Nat) ({ cls := "MatrixPress$Plane", name := "corner", desc := "([I)V" } : Jvm.MethodName)) ∈ lw_all := lw_g (lw_at lw_m4 114 rfl) rfl
theorem q942 : (Jvm.Cond.privateMethod ({ cls := "MatrixPress$Plane", name := "corner", desc := "([I)V" } : Jvm.MethodName)) ∈ lw_tbl := lw_at lw_m4 115 rfl
theorem q943 : (Jvm.Cond.instanceMethod ({ cls := "MatrixPress$Plane", name := "corner", desc := "([I)V" } : Jvm.MethodName)) ∈ lw_all := lw_g (lw_at lw_m4 116 rfl) rfl
theorem q944 : (Jvm.Cond.code ({ cls := "MatrixPress$Plane", name := "corner", desc := "([I)V" } : Jvm.MethodName) prog_8_method_6_code (3 : Nat) (Option.none : Option Jvm.ClassFile.FieldType)) ∈ lw_all := lw_g (lw_at lw_m4 117 rfl) rfl
theorem q945 : (Jvm.Cond.methodLink "MatrixPress$Plane" (56 : Nat) ({ cls := "MatrixPress$Plane", name := "put", desc := "(II)V" } : Jvm.MethodName)) ∈ lw_all := lw_g (lw_at lw_m4 118 rfl) rfl
theorem q946 : (Jvm.Cond.privateMethod ({ cls := "MatrixPress$Plane", name := "put", desc := "(II)V" } : Jvm.MethodName)) ∈ lw_tbl := lw_at lw_m4 119 rfl
theorem q947 : (Jvm.Cond.instanceMethod ({ cls := "MatrixPress$Plane", name := "put", desc := "(II)V" } : Jvm.MethodName)) ∈ lw_all := lw_g (lw_at lw_m4 120 rfl) rfl
theorem q948 : (Jvm.Cond.code ({ cls := "MatrixPress$Plane", name := "put", desc := "(II)V" } : Jvm.MethodName) prog_8_method_5_code (3 : Nat) (Option.none : Option Jvm.ClassFile.FieldType)) ∈ lw_all := lw_g (lw_at lw_m4 121 rfl) rfl
theorem q949 : (Jvm.Cond.methodLink "MatrixPress$Plane" (45 : Nat) ({ cls := "MatrixPress$Plane", name := "utah", desc := "(II)V" } : Jvm.MethodName)) ∈ lw_all := lw_g (lw_at lw_m4 122 rfl) rfl
theorem q950 : (Jvm.Cond.privateMethod ({ cls := "MatrixPress$Plane", name := "utah", desc := "(II)V" } : Jvm.MethodName)) ∈ lw_tbl := lw_at lw_m4 123 rfl
theorem q951 : (Jvm.Cond.instanceMethod ({ cls := "MatrixPress$Plane", name := "utah", desc := "(II)V" } : Jvm.MethodName)) ∈ lw_all := lw_g (lw_at lw_m4 124 rfl) rfl
theorem q952 : (Jvm.Cond.code ({ cls := "MatrixPress$Plane", name := "utah", desc := "(II)V" } : Jvm.MethodName) prog_8_method_3_code (3 : Nat) (Option.none : Option Jvm.ClassFile.FieldType)) ∈ lw_all := lw_g (lw_at lw_m4 125 rfl) rfl
theorem q953 : (Jvm.Cond.methodLink "MatrixPress$Plane" (53 : Nat) ({ cls := "MatrixPress$Plane", name := "bit", desc := "(II)V" } : Jvm.MethodName)) ∈ lw_all := lw_g (lw_at lw_m4 126 rfl) rfl
theorem q954 : (Jvm.Cond.privateMethod ({ cls := "MatrixPress$Plane", name := "bit", desc := "(II)V" } : Jvm.MethodName)) ∈ lw_tbl := lw_at lw_m4 127 rfl
theorem q955 : (Jvm.Cond.instanceMethod ({ cls := "MatrixPress$Plane", name := "bit", desc := "(II)V" } : Jvm.MethodName)) ∈ lw_all := lw_g (lw_at lw_m4 128 rfl) rfl
theorem q956 : (Jvm.Cond.code ({ cls := "MatrixPress$Plane", name := "bit", desc := "(II)V" } : Jvm.MethodName) prog_8_method_4_code (5 : Nat) (Option.none : Option Jvm.ClassFile.FieldType)) ∈ lw_all := lw_g (lw_at lw_m4 129 rfl) rfl
theorem q1746 : (Jvm.Cond.castable "MatrixPress$Plane" "java/lang/Object") ∈ lw_tbl := lw_at lw_m7 199 rfl
theorem in_X2 : ∀ w ∈ wsX20, w ∈ lw_all := lw_in wsX20 [162, 164, 166, 168, 170, 172, 174] (by decide +kernel) (by decide +kernel)
/-! MatrixPress$Field -/
set_option maxRecDepth 100000
def RX3 : String := "MatrixPress$Field"
def TX3 : u_T := fun k => match k with
  | 0 => ("MatrixPress$Field", "power", "[I", true)
  | 1 => ("MatrixPress$Field", "log", "[I", true)
  | 2 => ("MatrixPress$Field", "generator", "[I", true)
  | 3 => ("MatrixPress$Field", "word", "[I", true)
  | 4 => ("MatrixPress$Field", "sums", "[I", true)
  | 5 => ("MatrixPress$Field", "near", "[I", true)
  | 6 => ("MatrixPress$Field", "old", "[I", true)
  | 7 => ("MatrixPress$Field", "spare", "[I", true)
  | _ => ("MatrixPress$Field", "value", "[I", true)
def tyX3 : Nat → FieldType := fun k => match k with
  | 0 => .array .int
  | 1 => .array .int
  | 2 => .array .int
  | 3 => .array .int
  | 4 => .array .int
  | 5 => .array .int
  | 6 => .array .int
  | 7 => .array .int
  | _ => .array .int
abbrev wsX30 : List Cond := u_ws RX3 TX3 9
theorem nmX3 : ∀ a, a < 9 → ∀ b, b < 9 → a ≠ b → (TX3 a).2.1 ≠ (TX3 b).2.1 := by decide +kernel
theorem tyX3_ok : ∀ k, k < 9 → parseFieldDescriptor (TX3 k).2.2.1 = some (tyX3 k) := by decide +kernel
abbrev cX3_init : ByteArray := prog_6_method_1_code
def yX3_init : MethodName := ⟨RX3, "<init>", "()V"⟩
def dkwX3_init_5 : List UInt8 := [17, 0, 128, 161, 0, 9, 17, 1, 45, 167, 0, 4, 3, 130, 60, 132, 2, 1, 167, 255, 202, 177]
abbrev dktX3_init_5 : List UInt8 := dkwX3_init_5 ++ []
def dkwX3_init_4 : List UInt8 := [27, 79, 42, 180, 0, 9, 28, 17, 0, 255, 96, 27, 79, 42, 180, 0, 15, 27, 28, 79, 27, 4, 120, 27]
abbrev dktX3_init_4 : List UInt8 := dkwX3_init_4 ++ dktX3_init_5
def dkwX3_init_3 : List UInt8 := [42, 16, 70, 188, 10, 181, 0, 36, 4, 60, 3, 61, 28, 17, 0, 255, 162, 0, 53, 42, 180, 0, 9, 28]
abbrev dktX3_init_3 : List UInt8 := dkwX3_init_3 ++ dktX3_init_4
def dkwX3_init_2 : List UInt8 := [42, 16, 70, 188, 10, 181, 0, 27, 42, 16, 70, 188, 10, 181, 0, 30, 42, 16, 70, 188, 10, 181, 0, 33]
abbrev dktX3_init_2 : List UInt8 := dkwX3_init_2 ++ dktX3_init_3
def dkwX3_init_1 : List UInt8 := [16, 69, 188, 10, 181, 0, 18, 42, 17, 1, 0, 188, 10, 181, 0, 21, 42, 16, 68, 188, 10, 181, 0, 24]
abbrev dktX3_init_1 : List UInt8 := dkwX3_init_1 ++ dktX3_init_2
def dkwX3_init_0 : List UInt8 := [42, 183, 0, 3, 42, 17, 1, 254, 188, 10, 181, 0, 9, 42, 17, 1, 0, 188, 10, 181, 0, 15, 42]
abbrev dktX3_init_0 : List UInt8 := dkwX3_init_0 ++ dktX3_init_1
theorem dksX3_init_0 : cX3_init.data.toList.drop 0 = dktX3_init_0 := by decide +kernel
theorem dksX3_init_1 : cX3_init.data.toList.drop 23 = dktX3_init_1 := dk_seg dksX3_init_0 23 rfl rfl
theorem dksX3_init_2 : cX3_init.data.toList.drop 47 = dktX3_init_2 := dk_seg dksX3_init_1 24 rfl rfl
theorem dksX3_init_3 : cX3_init.data.toList.drop 71 = dktX3_init_3 := dk_seg dksX3_init_2 24 rfl rfl
theorem dksX3_init_4 : cX3_init.data.toList.drop 95 = dktX3_init_4 := dk_seg dksX3_init_3 24 rfl rfl
theorem dksX3_init_5 : cX3_init.data.toList.drop 119 = dktX3_init_5 := dk_seg dksX3_init_4 24 rfl rfl
theorem dX3_init_0 : decode cX3_init 0 = .ok (.aload_n 0, 1) := dk_42 (dk_at dksX3_init_0 0 rfl rfl)
theorem dX3_init_1 : decode cX3_init 1 = .ok (.invokespecial 3, 3) := dk_183 0 3 (dk_at dksX3_init_0 1 rfl rfl)
theorem dX3_init_4 : decode cX3_init 4 = .ok (.aload_n 0, 1) := dk_42 (dk_at dksX3_init_0 4 rfl rfl)
theorem dX3_init_5 : decode cX3_init 5 = .ok (.sipush 510, 3) := dk_17 1 254 (dk_at dksX3_init_0 5 rfl rfl)
theorem dX3_init_8 : decode cX3_init 8 = .ok (.newarray .int, 2) := dk_188_10 (dk_at dksX3_init_0 8 rfl rfl)
theorem dX3_init_10 : decode cX3_init 10 = .ok (.putfield 9, 3) := dk_181 0 9 (dk_at dksX3_init_0 10 rfl rfl)
theorem dX3_init_13 : decode cX3_init 13 = .ok (.aload_n 0, 1) := dk_42 (dk_at dksX3_init_0 13 rfl rfl)
theorem dX3_init_14 : decode cX3_init 14 = .ok (.sipush 256, 3) := dk_17 1 0 (dk_at dksX3_init_0 14 rfl rfl)
theorem dX3_init_17 : decode cX3_init 17 = .ok (.newarray .int, 2) := dk_188_10 (dk_at dksX3_init_0 17 rfl rfl)
theorem dX3_init_19 : decode cX3_init 19 = .ok (.putfield 15, 3) := dk_181 0 15 (dk_at dksX3_init_0 19 rfl rfl)
theorem dX3_init_22 : decode cX3_init 22 = .ok (.aload_n 0, 1) := dk_42 (dk_at dksX3_init_0 22 rfl rfl)
theorem dX3_init_23 : decode cX3_init 23 = .ok (.bipush 69, 2) := dk_16 69 (dk_at dksX3_init_1 0 rfl rfl)
theorem dX3_init_25 : decode cX3_init 25 = .ok (.newarray .int, 2) := dk_188_10 (dk_at dksX3_init_1 2 rfl rfl)
theorem dX3_init_27 : decode cX3_init 27 = .ok (.putfield 18, 3) := dk_181 0 18 (dk_at dksX3_init_1 4 rfl rfl)
theorem dX3_init_30 : decode cX3_init 30 = .ok (.aload_n 0, 1) := dk_42 (dk_at dksX3_init_1 7 rfl rfl)
theorem dX3_init_31 : decode cX3_init 31 = .ok (.sipush 256, 3) := dk_17 1 0 (dk_at dksX3_init_1 8 rfl rfl)
theorem dX3_init_34 : decode cX3_init 34 = .ok (.newarray .int, 2) := dk_188_10 (dk_at dksX3_init_1 11 rfl rfl)
theorem dX3_init_36 : decode cX3_init 36 = .ok (.putfield 21, 3) := dk_181 0 21 (dk_at dksX3_init_1 13 rfl rfl)
theorem dX3_init_39 : decode cX3_init 39 = .ok (.aload_n 0, 1) := dk_42 (dk_at dksX3_init_1 16 rfl rfl)
theorem dX3_init_40 : decode cX3_init 40 = .ok (.bipush 68, 2) := dk_16 68 (dk_at dksX3_init_1 17 rfl rfl)
theorem dX3_init_42 : decode cX3_init 42 = .ok (.newarray .int, 2) := dk_188_10 (dk_at dksX3_init_1 19 rfl rfl)
theorem dX3_init_44 : decode cX3_init 44 = .ok (.putfield 24, 3) := dk_181 0 24 (dk_at dksX3_init_1 21 rfl rfl)
theorem dX3_init_47 : decode cX3_init 47 = .ok (.aload_n 0, 1) := dk_42 (dk_at dksX3_init_2 0 rfl rfl)
theorem dX3_init_48 : decode cX3_init 48 = .ok (.bipush 70, 2) := dk_16 70 (dk_at dksX3_init_2 1 rfl rfl)
theorem dX3_init_50 : decode cX3_init 50 = .ok (.newarray .int, 2) := dk_188_10 (dk_at dksX3_init_2 3 rfl rfl)
theorem dX3_init_52 : decode cX3_init 52 = .ok (.putfield 27, 3) := dk_181 0 27 (dk_at dksX3_init_2 5 rfl rfl)
theorem dX3_init_55 : decode cX3_init 55 = .ok (.aload_n 0, 1) := dk_42 (dk_at dksX3_init_2 8 rfl rfl)
theorem dX3_init_56 : decode cX3_init 56 = .ok (.bipush 70, 2) := dk_16 70 (dk_at dksX3_init_2 9 rfl rfl)
theorem dX3_init_58 : decode cX3_init 58 = .ok (.newarray .int, 2) := dk_188_10 (dk_at dksX3_init_2 11 rfl rfl)
theorem dX3_init_60 : decode cX3_init 60 = .ok (.putfield 30, 3) := dk_181 0 30 (dk_at dksX3_init_2 13 rfl rfl)
theorem dX3_init_63 : decode cX3_init 63 = .ok (.aload_n 0, 1) := dk_42 (dk_at dksX3_init_2 16 rfl rfl)
theorem dX3_init_64 : decode cX3_init 64 = .ok (.bipush 70, 2) := dk_16 70 (dk_at dksX3_init_2 17 rfl rfl)
theorem dX3_init_66 : decode cX3_init 66 = .ok (.newarray .int, 2) := dk_188_10 (dk_at dksX3_init_2 19 rfl rfl)
theorem dX3_init_68 : decode cX3_init 68 = .ok (.putfield 33, 3) := dk_181 0 33 (dk_at dksX3_init_2 21 rfl rfl)
theorem dX3_init_71 : decode cX3_init 71 = .ok (.aload_n 0, 1) := dk_42 (dk_at dksX3_init_3 0 rfl rfl)
theorem dX3_init_72 : decode cX3_init 72 = .ok (.bipush 70, 2) := dk_16 70 (dk_at dksX3_init_3 1 rfl rfl)
theorem dX3_init_74 : decode cX3_init 74 = .ok (.newarray .int, 2) := dk_188_10 (dk_at dksX3_init_3 3 rfl rfl)
theorem dX3_init_76 : decode cX3_init 76 = .ok (.putfield 36, 3) := dk_181 0 36 (dk_at dksX3_init_3 5 rfl rfl)
theorem dX3_init_79 : decode cX3_init 79 = .ok (.iconst 1, 1) := dk_4 (dk_at dksX3_init_3 8 rfl rfl)
theorem dX3_init_80 : decode cX3_init 80 = .ok (.istore_n 1, 1) := dk_60 (dk_at dksX3_init_3 9 rfl rfl)
theorem dX3_init_81 : decode cX3_init 81 = .ok (.iconst 0, 1) := dk_3 (dk_at dksX3_init_3 10 rfl rfl)
theorem dX3_init_82 : decode cX3_init 82 = .ok (.istore_n 2, 1) := dk_61 (dk_at dksX3_init_3 11 rfl rfl)
theorem dX3_init_83 : decode cX3_init 83 = .ok (.iload_n 2, 1) := dk_28 (dk_at dksX3_init_3 12 rfl rfl)
theorem dX3_init_84 : decode cX3_init 84 = .ok (.sipush 255, 3) := dk_17 0 255 (dk_at dksX3_init_3 13 rfl rfl)
theorem dX3_init_87 : decode cX3_init 87 = .ok (.if_icmp .ge 53, 3) := dk_162 0 53 (dk_at dksX3_init_3 16 rfl rfl)
theorem dX3_init_90 : decode cX3_init 90 = .ok (.aload_n 0, 1) := dk_42 (dk_at dksX3_init_3 19 rfl rfl)
theorem dX3_init_91 : decode cX3_init 91 = .ok (.getfield 9, 3) := dk_180 0 9 (dk_at dksX3_init_3 20 rfl rfl)
theorem dX3_init_94 : decode cX3_init 94 = .ok (.iload_n 2, 1) := dk_28 (dk_at dksX3_init_3 23 rfl rfl)
theorem dX3_init_95 : decode cX3_init 95 = .ok (.iload_n 1, 1) := dk_27 (dk_at dksX3_init_4 0 rfl rfl)
theorem dX3_init_96 : decode cX3_init 96 = .ok (.iastore, 1) := dk_79 (dk_at dksX3_init_4 1 rfl rfl)
theorem dX3_init_97 : decode cX3_init 97 = .ok (.aload_n 0, 1) := dk_42 (dk_at dksX3_init_4 2 rfl rfl)
theorem dX3_init_98 : decode cX3_init 98 = .ok (.getfield 9, 3) := dk_180 0 9 (dk_at dksX3_init_4 3 rfl rfl)
theorem dX3_init_101 : decode cX3_init 101 = .ok (.iload_n 2, 1) := dk_28 (dk_at dksX3_init_4 6 rfl rfl)
theorem dX3_init_102 : decode cX3_init 102 = .ok (.sipush 255, 3) := dk_17 0 255 (dk_at dksX3_init_4 7 rfl rfl)
theorem dX3_init_105 : decode cX3_init 105 = .ok (.iadd, 1) := dk_96 (dk_at dksX3_init_4 10 rfl rfl)
theorem dX3_init_106 : decode cX3_init 106 = .ok (.iload_n 1, 1) := dk_27 (dk_at dksX3_init_4 11 rfl rfl)
theorem dX3_init_107 : decode cX3_init 107 = .ok (.iastore, 1) := dk_79 (dk_at dksX3_init_4 12 rfl rfl)
theorem dX3_init_108 : decode cX3_init 108 = .ok (.aload_n 0, 1) := dk_42 (dk_at dksX3_init_4 13 rfl rfl)
theorem dX3_init_109 : decode cX3_init 109 = .ok (.getfield 15, 3) := dk_180 0 15 (dk_at dksX3_init_4 14 rfl rfl)
theorem dX3_init_112 : decode cX3_init 112 = .ok (.iload_n 1, 1) := dk_27 (dk_at dksX3_init_4 17 rfl rfl)
theorem dX3_init_113 : decode cX3_init 113 = .ok (.iload_n 2, 1) := dk_28 (dk_at dksX3_init_4 18 rfl rfl)
theorem dX3_init_114 : decode cX3_init 114 = .ok (.iastore, 1) := dk_79 (dk_at dksX3_init_4 19 rfl rfl)
theorem dX3_init_115 : decode cX3_init 115 = .ok (.iload_n 1, 1) := dk_27 (dk_at dksX3_init_4 20 rfl rfl)
theorem dX3_init_116 : decode cX3_init 116 = .ok (.iconst 1, 1) := dk_4 (dk_at dksX3_init_4 21 rfl rfl)
theorem dX3_init_117 : decode cX3_init 117 = .ok (.ishl, 1) := dk_120 (dk_at dksX3_init_4 22 rfl rfl)
theorem dX3_init_118 : decode cX3_init 118 = .ok (.iload_n 1, 1) := dk_27 (dk_at dksX3_init_4 23 rfl rfl)
theorem dX3_init_119 : decode cX3_init 119 = .ok (.sipush 128, 3) := dk_17 0 128 (dk_at dksX3_init_5 0 rfl rfl)
theorem dX3_init_122 : decode cX3_init 122 = .ok (.if_icmp .lt 9, 3) := dk_161 0 9 (dk_at dksX3_init_5 3 rfl rfl)
theorem dX3_init_125 : decode cX3_init 125 = .ok (.sipush 301, 3) := dk_17 1 45 (dk_at dksX3_init_5 6 rfl rfl)
theorem dX3_init_128 : decode cX3_init 128 = .ok (.goto 4, 3) := dk_167 0 4 (dk_at dksX3_init_5 9 rfl rfl)
theorem dX3_init_131 : decode cX3_init 131 = .ok (.iconst 0, 1) := dk_3 (dk_at dksX3_init_5 12 rfl rfl)
theorem dX3_init_132 : decode cX3_init 132 = .ok (.ixor, 1) := dk_130 (dk_at dksX3_init_5 13 rfl rfl)
theorem dX3_init_133 : decode cX3_init 133 = .ok (.istore_n 1, 1) := dk_60 (dk_at dksX3_init_5 14 rfl rfl)
theorem dX3_init_134 : decode cX3_init 134 = .ok (.iinc 2 1, 3) := dk_132 2 1 (dk_at dksX3_init_5 15 rfl rfl)
theorem dX3_init_137 : decode cX3_init 137 = .ok (.goto (-54), 3) := dk_167 255 202 (dk_at dksX3_init_5 18 rfl rfl)
theorem dX3_init_140 : decode cX3_init 140 = .ok (.return_, 1) := dk_177 (dk_at dksX3_init_5 21 rfl rfl)
abbrev cX3_check : ByteArray := prog_6_method_4_code
def yX3_check : MethodName := ⟨RX3, "check", "(II)V"⟩
def dkwX3_check_10 : List UInt8 := [96, 42, 180, 0, 33, 29, 46, 79, 132, 3, 1, 167, 255, 232, 177]
abbrev dktX3_check_10 : List UInt8 := dkwX3_check_10 ++ []
def dkwX3_check_9 : List UInt8 := [167, 255, 203, 132, 3, 1, 167, 255, 172, 3, 62, 29, 28, 162, 0, 25, 42, 180, 0, 21, 27, 28, 100, 29]
abbrev dktX3_check_9 : List UInt8 := dkwX3_check_9 ++ dktX3_check_10
def dkwX3_check_8 : List UInt8 := [167, 0, 4, 3, 42, 21, 4, 42, 180, 0, 18, 21, 5, 4, 96, 46, 182, 0, 39, 130, 79, 132, 5, 1]
abbrev dktX3_check_8 : List UInt8 := dkwX3_check_8 ++ dktX3_check_9
def dkwX3_check_7 : List UInt8 := [180, 0, 33, 21, 5, 21, 5, 4, 96, 28, 162, 0, 15, 42, 180, 0, 33, 21, 5, 4, 96, 46]
abbrev dktX3_check_7 : List UInt8 := dkwX3_check_7 ++ dktX3_check_8
def dkwX3_check_6 : List UInt8 := [180, 0, 21, 29, 46, 42, 180, 0, 33, 3, 46, 130, 54, 4, 3, 54, 5, 21, 5, 28, 162, 0, 53, 42]
abbrev dktX3_check_6 : List UInt8 := dkwX3_check_6 ++ dktX3_check_7
def dkwX3_check_5 : List UInt8 := [180, 0, 33, 29, 3, 79, 132, 3, 1, 167, 255, 241, 3, 62, 29, 27, 28, 100, 162, 0, 83, 42]
abbrev dktX3_check_5 : List UInt8 := dkwX3_check_5 ++ dktX3_check_6
def dkwX3_check_4 : List UInt8 := [162, 0, 16, 42, 180, 0, 21, 29, 3, 79, 132, 3, 1, 167, 255, 241, 3, 62, 29, 28, 162, 0, 16, 42]
abbrev dktX3_check_4 : List UInt8 := dkwX3_check_4 ++ dktX3_check_5
def dkwX3_check_3 : List UInt8 := [182, 0, 39, 130, 79, 132, 4, 255, 167, 255, 219, 132, 3, 1, 167, 255, 205, 27, 28, 100, 62, 29, 27]
abbrev dktX3_check_3 : List UInt8 := dkwX3_check_3 ++ dktX3_check_4
def dkwX3_check_2 : List UInt8 := [180, 0, 18, 21, 4, 92, 46, 42, 42, 180, 0, 18, 21, 4, 4, 100, 46, 42, 180, 0, 9, 29, 46]
abbrev dktX3_check_2 : List UInt8 := dkwX3_check_2 ++ dktX3_check_3
def dkwX3_check_1 : List UInt8 := [132, 3, 1, 167, 255, 233, 4, 62, 29, 28, 163, 0, 52, 29, 54, 4, 21, 4, 158, 0, 38, 42]
abbrev dktX3_check_1 : List UInt8 := dkwX3_check_1 ++ dktX3_check_2
def dkwX3_check_0 : List UInt8 := [3, 62, 29, 28, 163, 0, 24, 42, 180, 0, 18, 29, 29, 154, 0, 7, 4, 167, 0, 4, 3, 79]
abbrev dktX3_check_0 : List UInt8 := dkwX3_check_0 ++ dktX3_check_1
theorem dksX3_check_0 : cX3_check.data.toList.drop 0 = dktX3_check_0 := by decide +kernel
theorem dksX3_check_1 : cX3_check.data.toList.drop 22 = dktX3_check_1 := dk_seg dksX3_check_0 22 rfl rfl
theorem dksX3_check_2 : cX3_check.data.toList.drop 44 = dktX3_check_2 := dk_seg dksX3_check_1 22 rfl rfl
theorem dksX3_check_3 : cX3_check.data.toList.drop 67 = dktX3_check_3 := dk_seg dksX3_check_2 23 rfl rfl
theorem dksX3_check_4 : cX3_check.data.toList.drop 90 = dktX3_check_4 := dk_seg dksX3_check_3 23 rfl rfl
theorem dksX3_check_5 : cX3_check.data.toList.drop 114 = dktX3_check_5 := dk_seg dksX3_check_4 24 rfl rfl
theorem dksX3_check_6 : cX3_check.data.toList.drop 136 = dktX3_check_6 := dk_seg dksX3_check_5 22 rfl rfl
theorem dksX3_check_7 : cX3_check.data.toList.drop 160 = dktX3_check_7 := dk_seg dksX3_check_6 24 rfl rfl
theorem dksX3_check_8 : cX3_check.data.toList.drop 182 = dktX3_check_8 := dk_seg dksX3_check_7 22 rfl rfl
theorem dksX3_check_9 : cX3_check.data.toList.drop 206 = dktX3_check_9 := dk_seg dksX3_check_8 24 rfl rfl
theorem dksX3_check_10 : cX3_check.data.toList.drop 230 = dktX3_check_10 := dk_seg dksX3_check_9 24 rfl rfl
theorem dX3_check_0 : decode cX3_check 0 = .ok (.iconst 0, 1) := dk_3 (dk_at dksX3_check_0 0 rfl rfl)
theorem dX3_check_1 : decode cX3_check 1 = .ok (.istore_n 3, 1) := dk_62 (dk_at dksX3_check_0 1 rfl rfl)
theorem dX3_check_2 : decode cX3_check 2 = .ok (.iload_n 3, 1) := dk_29 (dk_at dksX3_check_0 2 rfl rfl)
theorem dX3_check_3 : decode cX3_check 3 = .ok (.iload_n 2, 1) := dk_28 (dk_at dksX3_check_0 3 rfl rfl)
theorem dX3_check_4 : decode cX3_check 4 = .ok (.if_icmp .gt 24, 3) := dk_163 0 24 (dk_at dksX3_check_0 4 rfl rfl)
theorem dX3_check_7 : decode cX3_check 7 = .ok (.aload_n 0, 1) := dk_42 (dk_at dksX3_check_0 7 rfl rfl)
theorem dX3_check_8 : decode cX3_check 8 = .ok (.getfield 18, 3) := dk_180 0 18 (dk_at dksX3_check_0 8 rfl rfl)
theorem dX3_check_11 : decode cX3_check 11 = .ok (.iload_n 3, 1) := dk_29 (dk_at dksX3_check_0 11 rfl rfl)
theorem dX3_check_12 : decode cX3_check 12 = .ok (.iload_n 3, 1) := dk_29 (dk_at dksX3_check_0 12 rfl rfl)
theorem dX3_check_13 : decode cX3_check 13 = .ok (.ifCond .ne 7, 3) := dk_154 0 7 (dk_at dksX3_check_0 13 rfl rfl)
theorem dX3_check_16 : decode cX3_check 16 = .ok (.iconst 1, 1) := dk_4 (dk_at dksX3_check_0 16 rfl rfl)
theorem dX3_check_17 : decode cX3_check 17 = .ok (.goto 4, 3) := dk_167 0 4 (dk_at dksX3_check_0 17 rfl rfl)
theorem dX3_check_20 : decode cX3_check 20 = .ok (.iconst 0, 1) := dk_3 (dk_at dksX3_check_0 20 rfl rfl)
theorem dX3_check_21 : decode cX3_check 21 = .ok (.iastore, 1) := dk_79 (dk_at dksX3_check_0 21 rfl rfl)
theorem dX3_check_22 : decode cX3_check 22 = .ok (.iinc 3 1, 3) := dk_132 3 1 (dk_at dksX3_check_1 0 rfl rfl)
theorem dX3_check_25 : decode cX3_check 25 = .ok (.goto (-23), 3) := dk_167 255 233 (dk_at dksX3_check_1 3 rfl rfl)
theorem dX3_check_28 : decode cX3_check 28 = .ok (.iconst 1, 1) := dk_4 (dk_at dksX3_check_1 6 rfl rfl)
theorem dX3_check_29 : decode cX3_check 29 = .ok (.istore_n 3, 1) := dk_62 (dk_at dksX3_check_1 7 rfl rfl)
theorem dX3_check_30 : decode cX3_check 30 = .ok (.iload_n 3, 1) := dk_29 (dk_at dksX3_check_1 8 rfl rfl)
theorem dX3_check_31 : decode cX3_check 31 = .ok (.iload_n 2, 1) := dk_28 (dk_at dksX3_check_1 9 rfl rfl)
theorem dX3_check_32 : decode cX3_check 32 = .ok (.if_icmp .gt 52, 3) := dk_163 0 52 (dk_at dksX3_check_1 10 rfl rfl)
theorem dX3_check_35 : decode cX3_check 35 = .ok (.iload_n 3, 1) := dk_29 (dk_at dksX3_check_1 13 rfl rfl)
theorem dX3_check_36 : decode cX3_check 36 = .ok (.istore 4, 2) := dk_54 4 (dk_at dksX3_check_1 14 rfl rfl)
theorem dX3_check_38 : decode cX3_check 38 = .ok (.iload 4, 2) := dk_21 4 (dk_at dksX3_check_1 16 rfl rfl)
theorem dX3_check_40 : decode cX3_check 40 = .ok (.ifCond .le 38, 3) := dk_158 0 38 (dk_at dksX3_check_1 18 rfl rfl)
theorem dX3_check_43 : decode cX3_check 43 = .ok (.aload_n 0, 1) := dk_42 (dk_at dksX3_check_1 21 rfl rfl)
theorem dX3_check_44 : decode cX3_check 44 = .ok (.getfield 18, 3) := dk_180 0 18 (dk_at dksX3_check_2 0 rfl rfl)
theorem dX3_check_47 : decode cX3_check 47 = .ok (.iload 4, 2) := dk_21 4 (dk_at dksX3_check_2 3 rfl rfl)
theorem dX3_check_49 : decode cX3_check 49 = .ok (.dup2, 1) := dk_92 (dk_at dksX3_check_2 5 rfl rfl)
theorem dX3_check_50 : decode cX3_check 50 = .ok (.iaload, 1) := dk_46 (dk_at dksX3_check_2 6 rfl rfl)
theorem dX3_check_51 : decode cX3_check 51 = .ok (.aload_n 0, 1) := dk_42 (dk_at dksX3_check_2 7 rfl rfl)
theorem dX3_check_52 : decode cX3_check 52 = .ok (.aload_n 0, 1) := dk_42 (dk_at dksX3_check_2 8 rfl rfl)
theorem dX3_check_53 : decode cX3_check 53 = .ok (.getfield 18, 3) := dk_180 0 18 (dk_at dksX3_check_2 9 rfl rfl)
theorem dX3_check_56 : decode cX3_check 56 = .ok (.iload 4, 2) := dk_21 4 (dk_at dksX3_check_2 12 rfl rfl)
theorem dX3_check_58 : decode cX3_check 58 = .ok (.iconst 1, 1) := dk_4 (dk_at dksX3_check_2 14 rfl rfl)
theorem dX3_check_59 : decode cX3_check 59 = .ok (.isub, 1) := dk_100 (dk_at dksX3_check_2 15 rfl rfl)
theorem dX3_check_60 : decode cX3_check 60 = .ok (.iaload, 1) := dk_46 (dk_at dksX3_check_2 16 rfl rfl)
theorem dX3_check_61 : decode cX3_check 61 = .ok (.aload_n 0, 1) := dk_42 (dk_at dksX3_check_2 17 rfl rfl)
theorem dX3_check_62 : decode cX3_check 62 = .ok (.getfield 9, 3) := dk_180 0 9 (dk_at dksX3_check_2 18 rfl rfl)
theorem dX3_check_65 : decode cX3_check 65 = .ok (.iload_n 3, 1) := dk_29 (dk_at dksX3_check_2 21 rfl rfl)
theorem dX3_check_66 : decode cX3_check 66 = .ok (.iaload, 1) := dk_46 (dk_at dksX3_check_2 22 rfl rfl)
theorem dX3_check_67 : decode cX3_check 67 = .ok (.invokevirtual 39, 3) := dk_182 0 39 (dk_at dksX3_check_3 0 rfl rfl)
theorem dX3_check_70 : decode cX3_check 70 = .ok (.ixor, 1) := dk_130 (dk_at dksX3_check_3 3 rfl rfl)
theorem dX3_check_71 : decode cX3_check 71 = .ok (.iastore, 1) := dk_79 (dk_at dksX3_check_3 4 rfl rfl)
theorem dX3_check_72 : decode cX3_check 72 = .ok (.iinc 4 (-1), 3) := dk_132 4 255 (dk_at dksX3_check_3 5 rfl rfl)
theorem dX3_check_75 : decode cX3_check 75 = .ok (.goto (-37), 3) := dk_167 255 219 (dk_at dksX3_check_3 8 rfl rfl)
theorem dX3_check_78 : decode cX3_check 78 = .ok (.iinc 3 1, 3) := dk_132 3 1 (dk_at dksX3_check_3 11 rfl rfl)
theorem dX3_check_81 : decode cX3_check 81 = .ok (.goto (-51), 3) := dk_167 255 205 (dk_at dksX3_check_3 14 rfl rfl)
theorem dX3_check_84 : decode cX3_check 84 = .ok (.iload_n 1, 1) := dk_27 (dk_at dksX3_check_3 17 rfl rfl)
theorem dX3_check_85 : decode cX3_check 85 = .ok (.iload_n 2, 1) := dk_28 (dk_at dksX3_check_3 18 rfl rfl)
theorem dX3_check_86 : decode cX3_check 86 = .ok (.isub, 1) := dk_100 (dk_at dksX3_check_3 19 rfl rfl)
theorem dX3_check_87 : decode cX3_check 87 = .ok (.istore_n 3, 1) := dk_62 (dk_at dksX3_check_3 20 rfl rfl)
theorem dX3_check_88 : decode cX3_check 88 = .ok (.iload_n 3, 1) := dk_29 (dk_at dksX3_check_3 21 rfl rfl)
theorem dX3_check_89 : decode cX3_check 89 = .ok (.iload_n 1, 1) := dk_27 (dk_at dksX3_check_3 22 rfl rfl)
theorem dX3_check_90 : decode cX3_check 90 = .ok (.if_icmp .ge 16, 3) := dk_162 0 16 (dk_at dksX3_check_4 0 rfl rfl)
theorem dX3_check_93 : decode cX3_check 93 = .ok (.aload_n 0, 1) := dk_42 (dk_at dksX3_check_4 3 rfl rfl)
theorem dX3_check_94 : decode cX3_check 94 = .ok (.getfield 21, 3) := dk_180 0 21 (dk_at dksX3_check_4 4 rfl rfl)
theorem dX3_check_97 : decode cX3_check 97 = .ok (.iload_n 3, 1) := dk_29 (dk_at dksX3_check_4 7 rfl rfl)
theorem dX3_check_98 : decode cX3_check 98 = .ok (.iconst 0, 1) := dk_3 (dk_at dksX3_check_4 8 rfl rfl)
theorem dX3_check_99 : decode cX3_check 99 = .ok (.iastore, 1) := dk_79 (dk_at dksX3_check_4 9 rfl rfl)
theorem dX3_check_100 : decode cX3_check 100 = .ok (.iinc 3 1, 3) := dk_132 3 1 (dk_at dksX3_check_4 10 rfl rfl)
theorem dX3_check_103 : decode cX3_check 103 = .ok (.goto (-15), 3) := dk_167 255 241 (dk_at dksX3_check_4 13 rfl rfl)
theorem dX3_check_106 : decode cX3_check 106 = .ok (.iconst 0, 1) := dk_3 (dk_at dksX3_check_4 16 rfl rfl)
theorem dX3_check_107 : decode cX3_check 107 = .ok (.istore_n 3, 1) := dk_62 (dk_at dksX3_check_4 17 rfl rfl)
theorem dX3_check_108 : decode cX3_check 108 = .ok (.iload_n 3, 1) := dk_29 (dk_at dksX3_check_4 18 rfl rfl)
theorem dX3_check_109 : decode cX3_check 109 = .ok (.iload_n 2, 1) := dk_28 (dk_at dksX3_check_4 19 rfl rfl)
theorem dX3_check_110 : decode cX3_check 110 = .ok (.if_icmp .ge 16, 3) := dk_162 0 16 (dk_at dksX3_check_4 20 rfl rfl)
theorem dX3_check_113 : decode cX3_check 113 = .ok (.aload_n 0, 1) := dk_42 (dk_at dksX3_check_4 23 rfl rfl)
theorem dX3_check_114 : decode cX3_check 114 = .ok (.getfield 33, 3) := dk_180 0 33 (dk_at dksX3_check_5 0 rfl rfl)
theorem dX3_check_117 : decode cX3_check 117 = .ok (.iload_n 3, 1) := dk_29 (dk_at dksX3_check_5 3 rfl rfl)
theorem dX3_check_118 : decode cX3_check 118 = .ok (.iconst 0, 1) := dk_3 (dk_at dksX3_check_5 4 rfl rfl)
theorem dX3_check_119 : decode cX3_check 119 = .ok (.iastore, 1) := dk_79 (dk_at dksX3_check_5 5 rfl rfl)
theorem dX3_check_120 : decode cX3_check 120 = .ok (.iinc 3 1, 3) := dk_132 3 1 (dk_at dksX3_check_5 6 rfl rfl)
theorem dX3_check_123 : decode cX3_check 123 = .ok (.goto (-15), 3) := dk_167 255 241 (dk_at dksX3_check_5 9 rfl rfl)
theorem dX3_check_126 : decode cX3_check 126 = .ok (.iconst 0, 1) := dk_3 (dk_at dksX3_check_5 12 rfl rfl)
theorem dX3_check_127 : decode cX3_check 127 = .ok (.istore_n 3, 1) := dk_62 (dk_at dksX3_check_5 13 rfl rfl)
theorem dX3_check_128 : decode cX3_check 128 = .ok (.iload_n 3, 1) := dk_29 (dk_at dksX3_check_5 14 rfl rfl)
theorem dX3_check_129 : decode cX3_check 129 = .ok (.iload_n 1, 1) := dk_27 (dk_at dksX3_check_5 15 rfl rfl)
theorem dX3_check_130 : decode cX3_check 130 = .ok (.iload_n 2, 1) := dk_28 (dk_at dksX3_check_5 16 rfl rfl)
theorem dX3_check_131 : decode cX3_check 131 = .ok (.isub, 1) := dk_100 (dk_at dksX3_check_5 17 rfl rfl)
theorem dX3_check_132 : decode cX3_check 132 = .ok (.if_icmp .ge 83, 3) := dk_162 0 83 (dk_at dksX3_check_5 18 rfl rfl)
theorem dX3_check_135 : decode cX3_check 135 = .ok (.aload_n 0, 1) := dk_42 (dk_at dksX3_check_5 21 rfl rfl)
theorem dX3_check_136 : decode cX3_check 136 = .ok (.getfield 21, 3) := dk_180 0 21 (dk_at dksX3_check_6 0 rfl rfl)
theorem dX3_check_139 : decode cX3_check 139 = .ok (.iload_n 3, 1) := dk_29 (dk_at dksX3_check_6 3 rfl rfl)
theorem dX3_check_140 : decode cX3_check 140 = .ok (.iaload, 1) := dk_46 (dk_at dksX3_check_6 4 rfl rfl)
theorem dX3_check_141 : decode cX3_check 141 = .ok (.aload_n 0, 1) := dk_42 (dk_at dksX3_check_6 5 rfl rfl)
theorem dX3_check_142 : decode cX3_check 142 = .ok (.getfield 33, 3) := dk_180 0 33 (dk_at dksX3_check_6 6 rfl rfl)
theorem dX3_check_145 : decode cX3_check 145 = .ok (.iconst 0, 1) := dk_3 (dk_at dksX3_check_6 9 rfl rfl)
theorem dX3_check_146 : decode cX3_check 146 = .ok (.iaload, 1) := dk_46 (dk_at dksX3_check_6 10 rfl rfl)
theorem dX3_check_147 : decode cX3_check 147 = .ok (.ixor, 1) := dk_130 (dk_at dksX3_check_6 11 rfl rfl)
theorem dX3_check_148 : decode cX3_check 148 = .ok (.istore 4, 2) := dk_54 4 (dk_at dksX3_check_6 12 rfl rfl)
theorem dX3_check_150 : decode cX3_check 150 = .ok (.iconst 0, 1) := dk_3 (dk_at dksX3_check_6 14 rfl rfl)
theorem dX3_check_151 : decode cX3_check 151 = .ok (.istore 5, 2) := dk_54 5 (dk_at dksX3_check_6 15 rfl rfl)
theorem dX3_check_153 : decode cX3_check 153 = .ok (.iload 5, 2) := dk_21 5 (dk_at dksX3_check_6 17 rfl rfl)
theorem dX3_check_155 : decode cX3_check 155 = .ok (.iload_n 2, 1) := dk_28 (dk_at dksX3_check_6 19 rfl rfl)
theorem dX3_check_156 : decode cX3_check 156 = .ok (.if_icmp .ge 53, 3) := dk_162 0 53 (dk_at dksX3_check_6 20 rfl rfl)
theorem dX3_check_159 : decode cX3_check 159 = .ok (.aload_n 0, 1) := dk_42 (dk_at dksX3_check_6 23 rfl rfl)
theorem dX3_check_160 : decode cX3_check 160 = .ok (.getfield 33, 3) := dk_180 0 33 (dk_at dksX3_check_7 0 rfl rfl)
theorem dX3_check_163 : decode cX3_check 163 = .ok (.iload 5, 2) := dk_21 5 (dk_at dksX3_check_7 3 rfl rfl)
theorem dX3_check_165 : decode cX3_check 165 = .ok (.iload 5, 2) := dk_21 5 (dk_at dksX3_check_7 5 rfl rfl)
theorem dX3_check_167 : decode cX3_check 167 = .ok (.iconst 1, 1) := dk_4 (dk_at dksX3_check_7 7 rfl rfl)
theorem dX3_check_168 : decode cX3_check 168 = .ok (.iadd, 1) := dk_96 (dk_at dksX3_check_7 8 rfl rfl)
theorem dX3_check_169 : decode cX3_check 169 = .ok (.iload_n 2, 1) := dk_28 (dk_at dksX3_check_7 9 rfl rfl)
theorem dX3_check_170 : decode cX3_check 170 = .ok (.if_icmp .ge 15, 3) := dk_162 0 15 (dk_at dksX3_check_7 10 rfl rfl)
theorem dX3_check_173 : decode cX3_check 173 = .ok (.aload_n 0, 1) := dk_42 (dk_at dksX3_check_7 13 rfl rfl)
theorem dX3_check_174 : decode cX3_check 174 = .ok (.getfield 33, 3) := dk_180 0 33 (dk_at dksX3_check_7 14 rfl rfl)
theorem dX3_check_177 : decode cX3_check 177 = .ok (.iload 5, 2) := dk_21 5 (dk_at dksX3_check_7 17 rfl rfl)
theorem dX3_check_179 : decode cX3_check 179 = .ok (.iconst 1, 1) := dk_4 (dk_at dksX3_check_7 19 rfl rfl)
theorem dX3_check_180 : decode cX3_check 180 = .ok (.iadd, 1) := dk_96 (dk_at dksX3_check_7 20 rfl rfl)
theorem dX3_check_181 : decode cX3_check 181 = .ok (.iaload, 1) := dk_46 (dk_at dksX3_check_7 21 rfl rfl)
theorem dX3_check_182 : decode cX3_check 182 = .ok (.goto 4, 3) := dk_167 0 4 (dk_at dksX3_check_8 0 rfl rfl)
theorem dX3_check_185 : decode cX3_check 185 = .ok (.iconst 0, 1) := dk_3 (dk_at dksX3_check_8 3 rfl rfl)
theorem dX3_check_186 : decode cX3_check 186 = .ok (.aload_n 0, 1) := dk_42 (dk_at dksX3_check_8 4 rfl rfl)
theorem dX3_check_187 : decode cX3_check 187 = .ok (.iload 4, 2) := dk_21 4 (dk_at dksX3_check_8 5 rfl rfl)
theorem dX3_check_189 : decode cX3_check 189 = .ok (.aload_n 0, 1) := dk_42 (dk_at dksX3_check_8 7 rfl rfl)
theorem dX3_check_190 : decode cX3_check 190 = .ok (.getfield 18, 3) := dk_180 0 18 (dk_at dksX3_check_8 8 rfl rfl)
theorem dX3_check_193 : decode cX3_check 193 = .ok (.iload 5, 2) := dk_21 5 (dk_at dksX3_check_8 11 rfl rfl)
theorem dX3_check_195 : decode cX3_check 195 = .ok (.iconst 1, 1) := dk_4 (dk_at dksX3_check_8 13 rfl rfl)
theorem dX3_check_196 : decode cX3_check 196 = .ok (.iadd, 1) := dk_96 (dk_at dksX3_check_8 14 rfl rfl)
theorem dX3_check_197 : decode cX3_check 197 = .ok (.iaload, 1) := dk_46 (dk_at dksX3_check_8 15 rfl rfl)
theorem dX3_check_198 : decode cX3_check 198 = .ok (.invokevirtual 39, 3) := dk_182 0 39 (dk_at dksX3_check_8 16 rfl rfl)
theorem dX3_check_201 : decode cX3_check 201 = .ok (.ixor, 1) := dk_130 (dk_at dksX3_check_8 19 rfl rfl)
theorem dX3_check_202 : decode cX3_check 202 = .ok (.iastore, 1) := dk_79 (dk_at dksX3_check_8 20 rfl rfl)
theorem dX3_check_203 : decode cX3_check 203 = .ok (.iinc 5 1, 3) := dk_132 5 1 (dk_at dksX3_check_8 21 rfl rfl)
theorem dX3_check_206 : decode cX3_check 206 = .ok (.goto (-53), 3) := dk_167 255 203 (dk_at dksX3_check_9 0 rfl rfl)
theorem dX3_check_209 : decode cX3_check 209 = .ok (.iinc 3 1, 3) := dk_132 3 1 (dk_at dksX3_check_9 3 rfl rfl)
theorem dX3_check_212 : decode cX3_check 212 = .ok (.goto (-84), 3) := dk_167 255 172 (dk_at dksX3_check_9 6 rfl rfl)
theorem dX3_check_215 : decode cX3_check 215 = .ok (.iconst 0, 1) := dk_3 (dk_at dksX3_check_9 9 rfl rfl)
theorem dX3_check_216 : decode cX3_check 216 = .ok (.istore_n 3, 1) := dk_62 (dk_at dksX3_check_9 10 rfl rfl)
theorem dX3_check_217 : decode cX3_check 217 = .ok (.iload_n 3, 1) := dk_29 (dk_at dksX3_check_9 11 rfl rfl)
theorem dX3_check_218 : decode cX3_check 218 = .ok (.iload_n 2, 1) := dk_28 (dk_at dksX3_check_9 12 rfl rfl)
theorem dX3_check_219 : decode cX3_check 219 = .ok (.if_icmp .ge 25, 3) := dk_162 0 25 (dk_at dksX3_check_9 13 rfl rfl)
theorem dX3_check_222 : decode cX3_check 222 = .ok (.aload_n 0, 1) := dk_42 (dk_at dksX3_check_9 16 rfl rfl)
theorem dX3_check_223 : decode cX3_check 223 = .ok (.getfield 21, 3) := dk_180 0 21 (dk_at dksX3_check_9 17 rfl rfl)
theorem dX3_check_226 : decode cX3_check 226 = .ok (.iload_n 1, 1) := dk_27 (dk_at dksX3_check_9 20 rfl rfl)
theorem dX3_check_227 : decode cX3_check 227 = .ok (.iload_n 2, 1) := dk_28 (dk_at dksX3_check_9 21 rfl rfl)
theorem dX3_check_228 : decode cX3_check 228 = .ok (.isub, 1) := dk_100 (dk_at dksX3_check_9 22 rfl rfl)
theorem dX3_check_229 : decode cX3_check 229 = .ok (.iload_n 3, 1) := dk_29 (dk_at dksX3_check_9 23 rfl rfl)
theorem dX3_check_230 : decode cX3_check 230 = .ok (.iadd, 1) := dk_96 (dk_at dksX3_check_10 0 rfl rfl)
theorem dX3_check_231 : decode cX3_check 231 = .ok (.aload_n 0, 1) := dk_42 (dk_at dksX3_check_10 1 rfl rfl)
theorem dX3_check_232 : decode cX3_check 232 = .ok (.getfield 33, 3) := dk_180 0 33 (dk_at dksX3_check_10 2 rfl rfl)
theorem dX3_check_235 : decode cX3_check 235 = .ok (.iload_n 3, 1) := dk_29 (dk_at dksX3_check_10 5 rfl rfl)
theorem dX3_check_236 : decode cX3_check 236 = .ok (.iaload, 1) := dk_46 (dk_at dksX3_check_10 6 rfl rfl)
theorem dX3_check_237 : decode cX3_check 237 = .ok (.iastore, 1) := dk_79 (dk_at dksX3_check_10 7 rfl rfl)
theorem dX3_check_238 : decode cX3_check 238 = .ok (.iinc 3 1, 3) := dk_132 3 1 (dk_at dksX3_check_10 8 rfl rfl)
theorem dX3_check_241 : decode cX3_check 241 = .ok (.goto (-24), 3) := dk_167 255 232 (dk_at dksX3_check_10 11 rfl rfl)
theorem dX3_check_244 : decode cX3_check 244 = .ok (.return_, 1) := dk_177 (dk_at dksX3_check_10 14 rfl rfl)
abbrev cX3_times : ByteArray := prog_6_method_2_code
def yX3_times : MethodName := ⟨RX3, "times", "(II)I"⟩
def dkwX3_times_1 : List UInt8 := [180, 0, 15, 28, 46, 96, 46, 172]
abbrev dktX3_times_1 : List UInt8 := dkwX3_times_1 ++ []
def dkwX3_times_0 : List UInt8 := [27, 153, 0, 7, 28, 154, 0, 7, 3, 167, 0, 21, 42, 180, 0, 9, 42, 180, 0, 15, 27, 46, 42]
abbrev dktX3_times_0 : List UInt8 := dkwX3_times_0 ++ dktX3_times_1
theorem dksX3_times_0 : cX3_times.data.toList.drop 0 = dktX3_times_0 := by decide +kernel
theorem dksX3_times_1 : cX3_times.data.toList.drop 23 = dktX3_times_1 := dk_seg dksX3_times_0 23 rfl rfl
theorem dX3_times_0 : decode cX3_times 0 = .ok (.iload_n 1, 1) := dk_27 (dk_at dksX3_times_0 0 rfl rfl)
theorem dX3_times_1 : decode cX3_times 1 = .ok (.ifCond .eq 7, 3) := dk_153 0 7 (dk_at dksX3_times_0 1 rfl rfl)
theorem dX3_times_4 : decode cX3_times 4 = .ok (.iload_n 2, 1) := dk_28 (dk_at dksX3_times_0 4 rfl rfl)
theorem dX3_times_5 : decode cX3_times 5 = .ok (.ifCond .ne 7, 3) := dk_154 0 7 (dk_at dksX3_times_0 5 rfl rfl)
theorem dX3_times_8 : decode cX3_times 8 = .ok (.iconst 0, 1) := dk_3 (dk_at dksX3_times_0 8 rfl rfl)
theorem dX3_times_9 : decode cX3_times 9 = .ok (.goto 21, 3) := dk_167 0 21 (dk_at dksX3_times_0 9 rfl rfl)
theorem dX3_times_12 : decode cX3_times 12 = .ok (.aload_n 0, 1) := dk_42 (dk_at dksX3_times_0 12 rfl rfl)
theorem dX3_times_13 : decode cX3_times 13 = .ok (.getfield 9, 3) := dk_180 0 9 (dk_at dksX3_times_0 13 rfl rfl)
theorem dX3_times_16 : decode cX3_times 16 = .ok (.aload_n 0, 1) := dk_42 (dk_at dksX3_times_0 16 rfl rfl)
theorem dX3_times_17 : decode cX3_times 17 = .ok (.getfield 15, 3) := dk_180 0 15 (dk_at dksX3_times_0 17 rfl rfl)
theorem dX3_times_20 : decode cX3_times 20 = .ok (.iload_n 1, 1) := dk_27 (dk_at dksX3_times_0 20 rfl rfl)
theorem dX3_times_21 : decode cX3_times 21 = .ok (.iaload, 1) := dk_46 (dk_at dksX3_times_0 21 rfl rfl)
theorem dX3_times_22 : decode cX3_times 22 = .ok (.aload_n 0, 1) := dk_42 (dk_at dksX3_times_0 22 rfl rfl)
theorem dX3_times_23 : decode cX3_times 23 = .ok (.getfield 15, 3) := dk_180 0 15 (dk_at dksX3_times_1 0 rfl rfl)
theorem dX3_times_26 : decode cX3_times 26 = .ok (.iload_n 2, 1) := dk_28 (dk_at dksX3_times_1 3 rfl rfl)
theorem dX3_times_27 : decode cX3_times 27 = .ok (.iaload, 1) := dk_46 (dk_at dksX3_times_1 4 rfl rfl)
theorem dX3_times_28 : decode cX3_times 28 = .ok (.iadd, 1) := dk_96 (dk_at dksX3_times_1 5 rfl rfl)
theorem dX3_times_29 : decode cX3_times 29 = .ok (.iaload, 1) := dk_46 (dk_at dksX3_times_1 6 rfl rfl)
theorem dX3_times_30 : decode cX3_times 30 = .ok (.ireturn, 1) := dk_172 (dk_at dksX3_times_1 7 rfl rfl)
abbrev cX3_mend : ByteArray := prog_6_method_6_code
def yX3_mend : MethodName := ⟨RX3, "mend", "(II)I"⟩
def dkwX3_mend_6 : List UInt8 := [28, 182, 0, 43, 153, 0, 7, 29, 167, 0, 4, 2, 172]
abbrev dktX3_mend_6 : List UInt8 := dkwX3_mend_6 ++ []
def dkwX3_mend_5 : List UInt8 := [46, 42, 21, 6, 29, 182, 0, 51, 130, 79, 132, 5, 1, 167, 255, 159, 21, 4, 29, 160, 0, 16, 42, 27]
abbrev dktX3_mend_5 : List UInt8 := dkwX3_mend_5 ++ dktX3_mend_6
def dkwX3_mend_4 : List UInt8 := [132, 8, 255, 167, 255, 213, 21, 7, 153, 0, 6, 167, 0, 23, 132, 4, 1, 42, 180, 0, 21, 21, 5, 92]
abbrev dktX3_mend_4 : List UInt8 := dkwX3_mend_4 ++ dktX3_mend_5
def dkwX3_mend_3 : List UInt8 := [17, 0, 255, 112, 100, 17, 0, 255, 112, 46, 182, 0, 39, 42, 180, 0, 27, 21, 8, 46, 130, 54, 7]
abbrev dktX3_mend_3 : List UInt8 := dkwX3_mend_3 ++ dktX3_mend_4
def dkwX3_mend_2 : List UInt8 := [54, 7, 29, 54, 8, 21, 8, 155, 0, 44, 42, 21, 7, 42, 180, 0, 9, 17, 0, 255, 21, 6]
abbrev dktX3_mend_2 : List UInt8 := dkwX3_mend_2 ++ dktX3_mend_3
def dkwX3_mend_1 : List UInt8 := [2, 172, 3, 54, 4, 3, 54, 5, 21, 5, 27, 162, 0, 97, 27, 4, 100, 21, 5, 100, 54, 6, 3]
abbrev dktX3_mend_1 : List UInt8 := dkwX3_mend_1 ++ dktX3_mend_2
def dkwX3_mend_0 : List UInt8 := [42, 27, 28, 182, 0, 43, 153, 0, 5, 3, 172, 42, 28, 182, 0, 47, 62, 29, 28, 5, 108, 164, 0, 5]
abbrev dktX3_mend_0 : List UInt8 := dkwX3_mend_0 ++ dktX3_mend_1
theorem dksX3_mend_0 : cX3_mend.data.toList.drop 0 = dktX3_mend_0 := by decide +kernel
theorem dksX3_mend_1 : cX3_mend.data.toList.drop 24 = dktX3_mend_1 := dk_seg dksX3_mend_0 24 rfl rfl
theorem dksX3_mend_2 : cX3_mend.data.toList.drop 47 = dktX3_mend_2 := dk_seg dksX3_mend_1 23 rfl rfl
theorem dksX3_mend_3 : cX3_mend.data.toList.drop 69 = dktX3_mend_3 := dk_seg dksX3_mend_2 22 rfl rfl
theorem dksX3_mend_4 : cX3_mend.data.toList.drop 92 = dktX3_mend_4 := dk_seg dksX3_mend_3 23 rfl rfl
theorem dksX3_mend_5 : cX3_mend.data.toList.drop 116 = dktX3_mend_5 := dk_seg dksX3_mend_4 24 rfl rfl
theorem dksX3_mend_6 : cX3_mend.data.toList.drop 140 = dktX3_mend_6 := dk_seg dksX3_mend_5 24 rfl rfl
theorem dX3_mend_0 : decode cX3_mend 0 = .ok (.aload_n 0, 1) := dk_42 (dk_at dksX3_mend_0 0 rfl rfl)
theorem dX3_mend_1 : decode cX3_mend 1 = .ok (.iload_n 1, 1) := dk_27 (dk_at dksX3_mend_0 1 rfl rfl)
theorem dX3_mend_2 : decode cX3_mend 2 = .ok (.iload_n 2, 1) := dk_28 (dk_at dksX3_mend_0 2 rfl rfl)
theorem dX3_mend_3 : decode cX3_mend 3 = .ok (.invokevirtual 43, 3) := dk_182 0 43 (dk_at dksX3_mend_0 3 rfl rfl)
theorem dX3_mend_6 : decode cX3_mend 6 = .ok (.ifCond .eq 5, 3) := dk_153 0 5 (dk_at dksX3_mend_0 6 rfl rfl)
theorem dX3_mend_9 : decode cX3_mend 9 = .ok (.iconst 0, 1) := dk_3 (dk_at dksX3_mend_0 9 rfl rfl)
theorem dX3_mend_10 : decode cX3_mend 10 = .ok (.ireturn, 1) := dk_172 (dk_at dksX3_mend_0 10 rfl rfl)
theorem dX3_mend_11 : decode cX3_mend 11 = .ok (.aload_n 0, 1) := dk_42 (dk_at dksX3_mend_0 11 rfl rfl)
theorem dX3_mend_12 : decode cX3_mend 12 = .ok (.iload_n 2, 1) := dk_28 (dk_at dksX3_mend_0 12 rfl rfl)
theorem dX3_mend_13 : decode cX3_mend 13 = .ok (.invokevirtual 47, 3) := dk_182 0 47 (dk_at dksX3_mend_0 13 rfl rfl)
theorem dX3_mend_16 : decode cX3_mend 16 = .ok (.istore_n 3, 1) := dk_62 (dk_at dksX3_mend_0 16 rfl rfl)
theorem dX3_mend_17 : decode cX3_mend 17 = .ok (.iload_n 3, 1) := dk_29 (dk_at dksX3_mend_0 17 rfl rfl)
theorem dX3_mend_18 : decode cX3_mend 18 = .ok (.iload_n 2, 1) := dk_28 (dk_at dksX3_mend_0 18 rfl rfl)
theorem dX3_mend_19 : decode cX3_mend 19 = .ok (.iconst 2, 1) := dk_5 (dk_at dksX3_mend_0 19 rfl rfl)
theorem dX3_mend_20 : decode cX3_mend 20 = .ok (.idiv, 1) := dk_108 (dk_at dksX3_mend_0 20 rfl rfl)
theorem dX3_mend_21 : decode cX3_mend 21 = .ok (.if_icmp .le 5, 3) := dk_164 0 5 (dk_at dksX3_mend_0 21 rfl rfl)
theorem dX3_mend_24 : decode cX3_mend 24 = .ok (.iconst (-1), 1) := dk_2 (dk_at dksX3_mend_1 0 rfl rfl)
theorem dX3_mend_25 : decode cX3_mend 25 = .ok (.ireturn, 1) := dk_172 (dk_at dksX3_mend_1 1 rfl rfl)
theorem dX3_mend_26 : decode cX3_mend 26 = .ok (.iconst 0, 1) := dk_3 (dk_at dksX3_mend_1 2 rfl rfl)
theorem dX3_mend_27 : decode cX3_mend 27 = .ok (.istore 4, 2) := dk_54 4 (dk_at dksX3_mend_1 3 rfl rfl)
theorem dX3_mend_29 : decode cX3_mend 29 = .ok (.iconst 0, 1) := dk_3 (dk_at dksX3_mend_1 5 rfl rfl)
theorem dX3_mend_30 : decode cX3_mend 30 = .ok (.istore 5, 2) := dk_54 5 (dk_at dksX3_mend_1 6 rfl rfl)
theorem dX3_mend_32 : decode cX3_mend 32 = .ok (.iload 5, 2) := dk_21 5 (dk_at dksX3_mend_1 8 rfl rfl)
theorem dX3_mend_34 : decode cX3_mend 34 = .ok (.iload_n 1, 1) := dk_27 (dk_at dksX3_mend_1 10 rfl rfl)
theorem dX3_mend_35 : decode cX3_mend 35 = .ok (.if_icmp .ge 97, 3) := dk_162 0 97 (dk_at dksX3_mend_1 11 rfl rfl)
theorem dX3_mend_38 : decode cX3_mend 38 = .ok (.iload_n 1, 1) := dk_27 (dk_at dksX3_mend_1 14 rfl rfl)
theorem dX3_mend_39 : decode cX3_mend 39 = .ok (.iconst 1, 1) := dk_4 (dk_at dksX3_mend_1 15 rfl rfl)
theorem dX3_mend_40 : decode cX3_mend 40 = .ok (.isub, 1) := dk_100 (dk_at dksX3_mend_1 16 rfl rfl)
theorem dX3_mend_41 : decode cX3_mend 41 = .ok (.iload 5, 2) := dk_21 5 (dk_at dksX3_mend_1 17 rfl rfl)
theorem dX3_mend_43 : decode cX3_mend 43 = .ok (.isub, 1) := dk_100 (dk_at dksX3_mend_1 19 rfl rfl)
theorem dX3_mend_44 : decode cX3_mend 44 = .ok (.istore 6, 2) := dk_54 6 (dk_at dksX3_mend_1 20 rfl rfl)
theorem dX3_mend_46 : decode cX3_mend 46 = .ok (.iconst 0, 1) := dk_3 (dk_at dksX3_mend_1 22 rfl rfl)
theorem dX3_mend_47 : decode cX3_mend 47 = .ok (.istore 7, 2) := dk_54 7 (dk_at dksX3_mend_2 0 rfl rfl)
theorem dX3_mend_49 : decode cX3_mend 49 = .ok (.iload_n 3, 1) := dk_29 (dk_at dksX3_mend_2 2 rfl rfl)
theorem dX3_mend_50 : decode cX3_mend 50 = .ok (.istore 8, 2) := dk_54 8 (dk_at dksX3_mend_2 3 rfl rfl)
theorem dX3_mend_52 : decode cX3_mend 52 = .ok (.iload 8, 2) := dk_21 8 (dk_at dksX3_mend_2 5 rfl rfl)
theorem dX3_mend_54 : decode cX3_mend 54 = .ok (.ifCond .lt 44, 3) := dk_155 0 44 (dk_at dksX3_mend_2 7 rfl rfl)
theorem dX3_mend_57 : decode cX3_mend 57 = .ok (.aload_n 0, 1) := dk_42 (dk_at dksX3_mend_2 10 rfl rfl)
theorem dX3_mend_58 : decode cX3_mend 58 = .ok (.iload 7, 2) := dk_21 7 (dk_at dksX3_mend_2 11 rfl rfl)
theorem dX3_mend_60 : decode cX3_mend 60 = .ok (.aload_n 0, 1) := dk_42 (dk_at dksX3_mend_2 13 rfl rfl)
theorem dX3_mend_61 : decode cX3_mend 61 = .ok (.getfield 9, 3) := dk_180 0 9 (dk_at dksX3_mend_2 14 rfl rfl)
theorem dX3_mend_64 : decode cX3_mend 64 = .ok (.sipush 255, 3) := dk_17 0 255 (dk_at dksX3_mend_2 17 rfl rfl)
theorem dX3_mend_67 : decode cX3_mend 67 = .ok (.iload 6, 2) := dk_21 6 (dk_at dksX3_mend_2 20 rfl rfl)
theorem dX3_mend_69 : decode cX3_mend 69 = .ok (.sipush 255, 3) := dk_17 0 255 (dk_at dksX3_mend_3 0 rfl rfl)
theorem dX3_mend_72 : decode cX3_mend 72 = .ok (.irem, 1) := dk_112 (dk_at dksX3_mend_3 3 rfl rfl)
theorem dX3_mend_73 : decode cX3_mend 73 = .ok (.isub, 1) := dk_100 (dk_at dksX3_mend_3 4 rfl rfl)
theorem dX3_mend_74 : decode cX3_mend 74 = .ok (.sipush 255, 3) := dk_17 0 255 (dk_at dksX3_mend_3 5 rfl rfl)
theorem dX3_mend_77 : decode cX3_mend 77 = .ok (.irem, 1) := dk_112 (dk_at dksX3_mend_3 8 rfl rfl)
theorem dX3_mend_78 : decode cX3_mend 78 = .ok (.iaload, 1) := dk_46 (dk_at dksX3_mend_3 9 rfl rfl)
theorem dX3_mend_79 : decode cX3_mend 79 = .ok (.invokevirtual 39, 3) := dk_182 0 39 (dk_at dksX3_mend_3 10 rfl rfl)
theorem dX3_mend_82 : decode cX3_mend 82 = .ok (.aload_n 0, 1) := dk_42 (dk_at dksX3_mend_3 13 rfl rfl)
theorem dX3_mend_83 : decode cX3_mend 83 = .ok (.getfield 27, 3) := dk_180 0 27 (dk_at dksX3_mend_3 14 rfl rfl)
theorem dX3_mend_86 : decode cX3_mend 86 = .ok (.iload 8, 2) := dk_21 8 (dk_at dksX3_mend_3 17 rfl rfl)
theorem dX3_mend_88 : decode cX3_mend 88 = .ok (.iaload, 1) := dk_46 (dk_at dksX3_mend_3 19 rfl rfl)
theorem dX3_mend_89 : decode cX3_mend 89 = .ok (.ixor, 1) := dk_130 (dk_at dksX3_mend_3 20 rfl rfl)
theorem dX3_mend_90 : decode cX3_mend 90 = .ok (.istore 7, 2) := dk_54 7 (dk_at dksX3_mend_3 21 rfl rfl)
theorem dX3_mend_92 : decode cX3_mend 92 = .ok (.iinc 8 (-1), 3) := dk_132 8 255 (dk_at dksX3_mend_4 0 rfl rfl)
theorem dX3_mend_95 : decode cX3_mend 95 = .ok (.goto (-43), 3) := dk_167 255 213 (dk_at dksX3_mend_4 3 rfl rfl)
theorem dX3_mend_98 : decode cX3_mend 98 = .ok (.iload 7, 2) := dk_21 7 (dk_at dksX3_mend_4 6 rfl rfl)
theorem dX3_mend_100 : decode cX3_mend 100 = .ok (.ifCond .eq 6, 3) := dk_153 0 6 (dk_at dksX3_mend_4 8 rfl rfl)
theorem dX3_mend_103 : decode cX3_mend 103 = .ok (.goto 23, 3) := dk_167 0 23 (dk_at dksX3_mend_4 11 rfl rfl)
theorem dX3_mend_106 : decode cX3_mend 106 = .ok (.iinc 4 1, 3) := dk_132 4 1 (dk_at dksX3_mend_4 14 rfl rfl)
theorem dX3_mend_109 : decode cX3_mend 109 = .ok (.aload_n 0, 1) := dk_42 (dk_at dksX3_mend_4 17 rfl rfl)
theorem dX3_mend_110 : decode cX3_mend 110 = .ok (.getfield 21, 3) := dk_180 0 21 (dk_at dksX3_mend_4 18 rfl rfl)
theorem dX3_mend_113 : decode cX3_mend 113 = .ok (.iload 5, 2) := dk_21 5 (dk_at dksX3_mend_4 21 rfl rfl)
theorem dX3_mend_115 : decode cX3_mend 115 = .ok (.dup2, 1) := dk_92 (dk_at dksX3_mend_4 23 rfl rfl)
theorem dX3_mend_116 : decode cX3_mend 116 = .ok (.iaload, 1) := dk_46 (dk_at dksX3_mend_5 0 rfl rfl)
theorem dX3_mend_117 : decode cX3_mend 117 = .ok (.aload_n 0, 1) := dk_42 (dk_at dksX3_mend_5 1 rfl rfl)
theorem dX3_mend_118 : decode cX3_mend 118 = .ok (.iload 6, 2) := dk_21 6 (dk_at dksX3_mend_5 2 rfl rfl)
theorem dX3_mend_120 : decode cX3_mend 120 = .ok (.iload_n 3, 1) := dk_29 (dk_at dksX3_mend_5 4 rfl rfl)
theorem dX3_mend_121 : decode cX3_mend 121 = .ok (.invokevirtual 51, 3) := dk_182 0 51 (dk_at dksX3_mend_5 5 rfl rfl)
theorem dX3_mend_124 : decode cX3_mend 124 = .ok (.ixor, 1) := dk_130 (dk_at dksX3_mend_5 8 rfl rfl)
theorem dX3_mend_125 : decode cX3_mend 125 = .ok (.iastore, 1) := dk_79 (dk_at dksX3_mend_5 9 rfl rfl)
theorem dX3_mend_126 : decode cX3_mend 126 = .ok (.iinc 5 1, 3) := dk_132 5 1 (dk_at dksX3_mend_5 10 rfl rfl)
theorem dX3_mend_129 : decode cX3_mend 129 = .ok (.goto (-97), 3) := dk_167 255 159 (dk_at dksX3_mend_5 13 rfl rfl)
theorem dX3_mend_132 : decode cX3_mend 132 = .ok (.iload 4, 2) := dk_21 4 (dk_at dksX3_mend_5 16 rfl rfl)
theorem dX3_mend_134 : decode cX3_mend 134 = .ok (.iload_n 3, 1) := dk_29 (dk_at dksX3_mend_5 18 rfl rfl)
theorem dX3_mend_135 : decode cX3_mend 135 = .ok (.if_icmp .ne 16, 3) := dk_160 0 16 (dk_at dksX3_mend_5 19 rfl rfl)
theorem dX3_mend_138 : decode cX3_mend 138 = .ok (.aload_n 0, 1) := dk_42 (dk_at dksX3_mend_5 22 rfl rfl)
theorem dX3_mend_139 : decode cX3_mend 139 = .ok (.iload_n 1, 1) := dk_27 (dk_at dksX3_mend_5 23 rfl rfl)
theorem dX3_mend_140 : decode cX3_mend 140 = .ok (.iload_n 2, 1) := dk_28 (dk_at dksX3_mend_6 0 rfl rfl)
theorem dX3_mend_141 : decode cX3_mend 141 = .ok (.invokevirtual 43, 3) := dk_182 0 43 (dk_at dksX3_mend_6 1 rfl rfl)
theorem dX3_mend_144 : decode cX3_mend 144 = .ok (.ifCond .eq 7, 3) := dk_153 0 7 (dk_at dksX3_mend_6 4 rfl rfl)
theorem dX3_mend_147 : decode cX3_mend 147 = .ok (.iload_n 3, 1) := dk_29 (dk_at dksX3_mend_6 7 rfl rfl)
theorem dX3_mend_148 : decode cX3_mend 148 = .ok (.goto 4, 3) := dk_167 0 4 (dk_at dksX3_mend_6 8 rfl rfl)
theorem dX3_mend_151 : decode cX3_mend 151 = .ok (.iconst (-1), 1) := dk_2 (dk_at dksX3_mend_6 11 rfl rfl)
theorem dX3_mend_152 : decode cX3_mend 152 = .ok (.ireturn, 1) := dk_172 (dk_at dksX3_mend_6 12 rfl rfl)
abbrev cX3_isRight : ByteArray := prog_6_method_5_code
def yX3_isRight : MethodName := ⟨RX3, "isRight", "(II)Z"⟩
def dkwX3_isRight_3 : List UInt8 := [4, 167, 0, 4, 3, 62, 132, 4, 1, 167, 255, 180, 29, 172]
abbrev dktX3_isRight_3 : List UInt8 := dkwX3_isRight_3 ++ []
def dkwX3_isRight_2 : List UInt8 := [132, 6, 1, 167, 255, 222, 42, 180, 0, 24, 21, 4, 21, 5, 79, 29, 153, 0, 12, 21, 5, 154, 0, 7]
abbrev dktX3_isRight_2 : List UInt8 := dkwX3_isRight_2 ++ dktX3_isRight_3
def dkwX3_isRight_1 : List UInt8 := [21, 5, 42, 180, 0, 9, 21, 4, 4, 96, 46, 182, 0, 39, 42, 180, 0, 21, 21, 6, 46, 130, 54, 5]
abbrev dktX3_isRight_1 : List UInt8 := dkwX3_isRight_1 ++ dktX3_isRight_2
def dkwX3_isRight_0 : List UInt8 := [4, 62, 3, 54, 4, 21, 4, 28, 162, 0, 76, 3, 54, 5, 3, 54, 6, 21, 6, 27, 162, 0, 34, 42]
abbrev dktX3_isRight_0 : List UInt8 := dkwX3_isRight_0 ++ dktX3_isRight_1
theorem dksX3_isRight_0 : cX3_isRight.data.toList.drop 0 = dktX3_isRight_0 := by decide +kernel
theorem dksX3_isRight_1 : cX3_isRight.data.toList.drop 24 = dktX3_isRight_1 := dk_seg dksX3_isRight_0 24 rfl rfl
theorem dksX3_isRight_2 : cX3_isRight.data.toList.drop 48 = dktX3_isRight_2 := dk_seg dksX3_isRight_1 24 rfl rfl
theorem dksX3_isRight_3 : cX3_isRight.data.toList.drop 72 = dktX3_isRight_3 := dk_seg dksX3_isRight_2 24 rfl rfl
theorem dX3_isRight_0 : decode cX3_isRight 0 = .ok (.iconst 1, 1) := dk_4 (dk_at dksX3_isRight_0 0 rfl rfl)
theorem dX3_isRight_1 : decode cX3_isRight 1 = .ok (.istore_n 3, 1) := dk_62 (dk_at dksX3_isRight_0 1 rfl rfl)
theorem dX3_isRight_2 : decode cX3_isRight 2 = .ok (.iconst 0, 1) := dk_3 (dk_at dksX3_isRight_0 2 rfl rfl)
theorem dX3_isRight_3 : decode cX3_isRight 3 = .ok (.istore 4, 2) := dk_54 4 (dk_at dksX3_isRight_0 3 rfl rfl)
theorem dX3_isRight_5 : decode cX3_isRight 5 = .ok (.iload 4, 2) := dk_21 4 (dk_at dksX3_isRight_0 5 rfl rfl)
theorem dX3_isRight_7 : decode cX3_isRight 7 = .ok (.iload_n 2, 1) := dk_28 (dk_at dksX3_isRight_0 7 rfl rfl)
theorem dX3_isRight_8 : decode cX3_isRight 8 = .ok (.if_icmp .ge 76, 3) := dk_162 0 76 (dk_at dksX3_isRight_0 8 rfl rfl)
theorem dX3_isRight_11 : decode cX3_isRight 11 = .ok (.iconst 0, 1) := dk_3 (dk_at dksX3_isRight_0 11 rfl rfl)
theorem dX3_isRight_12 : decode cX3_isRight 12 = .ok (.istore 5, 2) := dk_54 5 (dk_at dksX3_isRight_0 12 rfl rfl)
theorem dX3_isRight_14 : decode cX3_isRight 14 = .ok (.iconst 0, 1) := dk_3 (dk_at dksX3_isRight_0 14 rfl rfl)
theorem dX3_isRight_15 : decode cX3_isRight 15 = .ok (.istore 6, 2) := dk_54 6 (dk_at dksX3_isRight_0 15 rfl rfl)
theorem dX3_isRight_17 : decode cX3_isRight 17 = .ok (.iload 6, 2) := dk_21 6 (dk_at dksX3_isRight_0 17 rfl rfl)
theorem dX3_isRight_19 : decode cX3_isRight 19 = .ok (.iload_n 1, 1) := dk_27 (dk_at dksX3_isRight_0 19 rfl rfl)
theorem dX3_isRight_20 : decode cX3_isRight 20 = .ok (.if_icmp .ge 34, 3) := dk_162 0 34 (dk_at dksX3_isRight_0 20 rfl rfl)
theorem dX3_isRight_23 : decode cX3_isRight 23 = .ok (.aload_n 0, 1) := dk_42 (dk_at dksX3_isRight_0 23 rfl rfl)
theorem dX3_isRight_24 : decode cX3_isRight 24 = .ok (.iload 5, 2) := dk_21 5 (dk_at dksX3_isRight_1 0 rfl rfl)
theorem dX3_isRight_26 : decode cX3_isRight 26 = .ok (.aload_n 0, 1) := dk_42 (dk_at dksX3_isRight_1 2 rfl rfl)
theorem dX3_isRight_27 : decode cX3_isRight 27 = .ok (.getfield 9, 3) := dk_180 0 9 (dk_at dksX3_isRight_1 3 rfl rfl)
theorem dX3_isRight_30 : decode cX3_isRight 30 = .ok (.iload 4, 2) := dk_21 4 (dk_at dksX3_isRight_1 6 rfl rfl)
theorem dX3_isRight_32 : decode cX3_isRight 32 = .ok (.iconst 1, 1) := dk_4 (dk_at dksX3_isRight_1 8 rfl rfl)
theorem dX3_isRight_33 : decode cX3_isRight 33 = .ok (.iadd, 1) := dk_96 (dk_at dksX3_isRight_1 9 rfl rfl)
theorem dX3_isRight_34 : decode cX3_isRight 34 = .ok (.iaload, 1) := dk_46 (dk_at dksX3_isRight_1 10 rfl rfl)
theorem dX3_isRight_35 : decode cX3_isRight 35 = .ok (.invokevirtual 39, 3) := dk_182 0 39 (dk_at dksX3_isRight_1 11 rfl rfl)
theorem dX3_isRight_38 : decode cX3_isRight 38 = .ok (.aload_n 0, 1) := dk_42 (dk_at dksX3_isRight_1 14 rfl rfl)
theorem dX3_isRight_39 : decode cX3_isRight 39 = .ok (.getfield 21, 3) := dk_180 0 21 (dk_at dksX3_isRight_1 15 rfl rfl)
theorem dX3_isRight_42 : decode cX3_isRight 42 = .ok (.iload 6, 2) := dk_21 6 (dk_at dksX3_isRight_1 18 rfl rfl)
theorem dX3_isRight_44 : decode cX3_isRight 44 = .ok (.iaload, 1) := dk_46 (dk_at dksX3_isRight_1 20 rfl rfl)
theorem dX3_isRight_45 : decode cX3_isRight 45 = .ok (.ixor, 1) := dk_130 (dk_at dksX3_isRight_1 21 rfl rfl)
theorem dX3_isRight_46 : decode cX3_isRight 46 = .ok (.istore 5, 2) := dk_54 5 (dk_at dksX3_isRight_1 22 rfl rfl)
theorem dX3_isRight_48 : decode cX3_isRight 48 = .ok (.iinc 6 1, 3) := dk_132 6 1 (dk_at dksX3_isRight_2 0 rfl rfl)
theorem dX3_isRight_51 : decode cX3_isRight 51 = .ok (.goto (-34), 3) := dk_167 255 222 (dk_at dksX3_isRight_2 3 rfl rfl)
theorem dX3_isRight_54 : decode cX3_isRight 54 = .ok (.aload_n 0, 1) := dk_42 (dk_at dksX3_isRight_2 6 rfl rfl)
theorem dX3_isRight_55 : decode cX3_isRight 55 = .ok (.getfield 24, 3) := dk_180 0 24 (dk_at dksX3_isRight_2 7 rfl rfl)
theorem dX3_isRight_58 : decode cX3_isRight 58 = .ok (.iload 4, 2) := dk_21 4 (dk_at dksX3_isRight_2 10 rfl rfl)
theorem dX3_isRight_60 : decode cX3_isRight 60 = .ok (.iload 5, 2) := dk_21 5 (dk_at dksX3_isRight_2 12 rfl rfl)
theorem dX3_isRight_62 : decode cX3_isRight 62 = .ok (.iastore, 1) := dk_79 (dk_at dksX3_isRight_2 14 rfl rfl)
theorem dX3_isRight_63 : decode cX3_isRight 63 = .ok (.iload_n 3, 1) := dk_29 (dk_at dksX3_isRight_2 15 rfl rfl)
theorem dX3_isRight_64 : decode cX3_isRight 64 = .ok (.ifCond .eq 12, 3) := dk_153 0 12 (dk_at dksX3_isRight_2 16 rfl rfl)
theorem dX3_isRight_67 : decode cX3_isRight 67 = .ok (.iload 5, 2) := dk_21 5 (dk_at dksX3_isRight_2 19 rfl rfl)
theorem dX3_isRight_69 : decode cX3_isRight 69 = .ok (.ifCond .ne 7, 3) := dk_154 0 7 (dk_at dksX3_isRight_2 21 rfl rfl)
theorem dX3_isRight_72 : decode cX3_isRight 72 = .ok (.iconst 1, 1) := dk_4 (dk_at dksX3_isRight_3 0 rfl rfl)
theorem dX3_isRight_73 : decode cX3_isRight 73 = .ok (.goto 4, 3) := dk_167 0 4 (dk_at dksX3_isRight_3 1 rfl rfl)
theorem dX3_isRight_76 : decode cX3_isRight 76 = .ok (.iconst 0, 1) := dk_3 (dk_at dksX3_isRight_3 4 rfl rfl)
theorem dX3_isRight_77 : decode cX3_isRight 77 = .ok (.istore_n 3, 1) := dk_62 (dk_at dksX3_isRight_3 5 rfl rfl)
theorem dX3_isRight_78 : decode cX3_isRight 78 = .ok (.iinc 4 1, 3) := dk_132 4 1 (dk_at dksX3_isRight_3 6 rfl rfl)
theorem dX3_isRight_81 : decode cX3_isRight 81 = .ok (.goto (-76), 3) := dk_167 255 180 (dk_at dksX3_isRight_3 9 rfl rfl)
theorem dX3_isRight_84 : decode cX3_isRight 84 = .ok (.iload_n 3, 1) := dk_29 (dk_at dksX3_isRight_3 12 rfl rfl)
theorem dX3_isRight_85 : decode cX3_isRight 85 = .ok (.ireturn, 1) := dk_172 (dk_at dksX3_isRight_3 13 rfl rfl)
abbrev cX3_locator : ByteArray := prog_6_method_7_code
def yX3_locator : MethodName := ⟨RX3, "locator", "(I)I"⟩
def dkwX3_locator_12 : List UInt8 := [132, 3, 1, 132, 5, 1, 167, 255, 27, 28, 172]
abbrev dktX3_locator_12 : List UInt8 := dkwX3_locator_12 ++ []
def dkwX3_locator_11 : List UInt8 := [132, 9, 1, 167, 255, 229, 21, 5, 4, 96, 28, 100, 61, 21, 6, 54, 4, 4, 62, 167, 0, 6]
abbrev dktX3_locator_11 : List UInt8 := dkwX3_locator_11 ++ dktX3_locator_12
def dkwX3_locator_10 : List UInt8 := [42, 180, 0, 27, 190, 162, 0, 23, 42, 180, 0, 30, 21, 9, 42, 180, 0, 33, 21, 9, 46, 79]
abbrev dktX3_locator_10 : List UInt8 := dkwX3_locator_10 ++ dktX3_locator_11
def dkwX3_locator_9 : List UInt8 := [29, 100, 46, 182, 0, 39, 130, 79, 132, 9, 1, 167, 255, 218, 21, 8, 153, 0, 52, 3, 54, 9, 21, 9]
abbrev dktX3_locator_9 : List UInt8 := dkwX3_locator_9 ++ dktX3_locator_10
def dkwX3_locator_8 : List UInt8 := [180, 0, 27, 190, 162, 0, 34, 42, 180, 0, 27, 21, 9, 92, 46, 42, 21, 7, 42, 180, 0, 30, 21, 9]
abbrev dktX3_locator_8 : List UInt8 := dkwX3_locator_8 ++ dktX3_locator_9
def dkwX3_locator_7 : List UInt8 := [21, 9, 42, 180, 0, 27, 21, 9, 46, 79, 132, 9, 1, 167, 255, 229, 29, 54, 9, 21, 9, 42]
abbrev dktX3_locator_7 : List UInt8 := dkwX3_locator_7 ++ dktX3_locator_8
def dkwX3_locator_6 : List UInt8 := [4, 167, 0, 4, 3, 54, 8, 3, 54, 9, 21, 9, 42, 180, 0, 27, 190, 162, 0, 23, 42, 180, 0, 33]
abbrev dktX3_locator_6 : List UInt8 := dkwX3_locator_6 ++ dktX3_locator_7
def dkwX3_locator_5 : List UInt8 := [132, 3, 1, 167, 0, 162, 42, 21, 6, 21, 4, 182, 0, 54, 54, 7, 5, 28, 104, 21, 5, 163, 0, 7]
abbrev dktX3_locator_5 : List UInt8 := dkwX3_locator_5 ++ dktX3_locator_6
def dkwX3_locator_4 : List UInt8 := [21, 5, 21, 7, 100, 46, 182, 0, 39, 130, 54, 6, 132, 7, 1, 167, 255, 221, 21, 6, 154, 0, 9]
abbrev dktX3_locator_4 : List UInt8 := dkwX3_locator_4 ++ dktX3_locator_5
def dkwX3_locator_3 : List UInt8 := [4, 54, 7, 21, 7, 28, 163, 0, 35, 21, 6, 42, 42, 180, 0, 27, 21, 7, 46, 42, 180, 0, 24]
abbrev dktX3_locator_3 : List UInt8 := dkwX3_locator_3 ++ dktX3_locator_4
def dkwX3_locator_2 : List UInt8 := [61, 4, 62, 4, 54, 4, 3, 54, 5, 21, 5, 27, 162, 0, 229, 42, 180, 0, 24, 21, 5, 46, 54, 6]
abbrev dktX3_locator_2 : List UInt8 := dkwX3_locator_2 ++ dktX3_locator_3
def dkwX3_locator_1 : List UInt8 := [3, 79, 42, 180, 0, 30, 28, 28, 154, 0, 7, 4, 167, 0, 4, 3, 79, 132, 2, 1, 167, 255, 214, 3]
abbrev dktX3_locator_1 : List UInt8 := dkwX3_locator_1 ++ dktX3_locator_2
def dkwX3_locator_0 : List UInt8 := [3, 61, 28, 42, 180, 0, 27, 190, 162, 0, 39, 42, 180, 0, 27, 28, 28, 154, 0, 7, 4, 167, 0, 4]
abbrev dktX3_locator_0 : List UInt8 := dkwX3_locator_0 ++ dktX3_locator_1
theorem dksX3_locator_0 : cX3_locator.data.toList.drop 0 = dktX3_locator_0 := by decide +kernel
theorem dksX3_locator_1 : cX3_locator.data.toList.drop 24 = dktX3_locator_1 := dk_seg dksX3_locator_0 24 rfl rfl
theorem dksX3_locator_2 : cX3_locator.data.toList.drop 48 = dktX3_locator_2 := dk_seg dksX3_locator_1 24 rfl rfl
theorem dksX3_locator_3 : cX3_locator.data.toList.drop 72 = dktX3_locator_3 := dk_seg dksX3_locator_2 24 rfl rfl
theorem dksX3_locator_4 : cX3_locator.data.toList.drop 95 = dktX3_locator_4 := dk_seg dksX3_locator_3 23 rfl rfl
theorem dksX3_locator_5 : cX3_locator.data.toList.drop 118 = dktX3_locator_5 := dk_seg dksX3_locator_4 23 rfl rfl
theorem dksX3_locator_6 : cX3_locator.data.toList.drop 142 = dktX3_locator_6 := dk_seg dksX3_locator_5 24 rfl rfl
theorem dksX3_locator_7 : cX3_locator.data.toList.drop 166 = dktX3_locator_7 := dk_seg dksX3_locator_6 24 rfl rfl
theorem dksX3_locator_8 : cX3_locator.data.toList.drop 188 = dktX3_locator_8 := dk_seg dksX3_locator_7 22 rfl rfl
theorem dksX3_locator_9 : cX3_locator.data.toList.drop 212 = dktX3_locator_9 := dk_seg dksX3_locator_8 24 rfl rfl
theorem dksX3_locator_10 : cX3_locator.data.toList.drop 236 = dktX3_locator_10 := dk_seg dksX3_locator_9 24 rfl rfl
theorem dksX3_locator_11 : cX3_locator.data.toList.drop 258 = dktX3_locator_11 := dk_seg dksX3_locator_10 22 rfl rfl
theorem dksX3_locator_12 : cX3_locator.data.toList.drop 280 = dktX3_locator_12 := dk_seg dksX3_locator_11 22 rfl rfl
theorem dX3_locator_0 : decode cX3_locator 0 = .ok (.iconst 0, 1) := dk_3 (dk_at dksX3_locator_0 0 rfl rfl)
theorem dX3_locator_1 : decode cX3_locator 1 = .ok (.istore_n 2, 1) := dk_61 (dk_at dksX3_locator_0 1 rfl rfl)
theorem dX3_locator_2 : decode cX3_locator 2 = .ok (.iload_n 2, 1) := dk_28 (dk_at dksX3_locator_0 2 rfl rfl)
theorem dX3_locator_3 : decode cX3_locator 3 = .ok (.aload_n 0, 1) := dk_42 (dk_at dksX3_locator_0 3 rfl rfl)
theorem dX3_locator_4 : decode cX3_locator 4 = .ok (.getfield 27, 3) := dk_180 0 27 (dk_at dksX3_locator_0 4 rfl rfl)
theorem dX3_locator_7 : decode cX3_locator 7 = .ok (.arraylength, 1) := dk_190 (dk_at dksX3_locator_0 7 rfl rfl)
theorem dX3_locator_8 : decode cX3_locator 8 = .ok (.if_icmp .ge 39, 3) := dk_162 0 39 (dk_at dksX3_locator_0 8 rfl rfl)
theorem dX3_locator_11 : decode cX3_locator 11 = .ok (.aload_n 0, 1) := dk_42 (dk_at dksX3_locator_0 11 rfl rfl)
theorem dX3_locator_12 : decode cX3_locator 12 = .ok (.getfield 27, 3) := dk_180 0 27 (dk_at dksX3_locator_0 12 rfl rfl)
theorem dX3_locator_15 : decode cX3_locator 15 = .ok (.iload_n 2, 1) := dk_28 (dk_at dksX3_locator_0 15 rfl rfl)
theorem dX3_locator_16 : decode cX3_locator 16 = .ok (.iload_n 2, 1) := dk_28 (dk_at dksX3_locator_0 16 rfl rfl)
theorem dX3_locator_17 : decode cX3_locator 17 = .ok (.ifCond .ne 7, 3) := dk_154 0 7 (dk_at dksX3_locator_0 17 rfl rfl)
theorem dX3_locator_20 : decode cX3_locator 20 = .ok (.iconst 1, 1) := dk_4 (dk_at dksX3_locator_0 20 rfl rfl)
theorem dX3_locator_21 : decode cX3_locator 21 = .ok (.goto 4, 3) := dk_167 0 4 (dk_at dksX3_locator_0 21 rfl rfl)
theorem dX3_locator_24 : decode cX3_locator 24 = .ok (.iconst 0, 1) := dk_3 (dk_at dksX3_locator_1 0 rfl rfl)
theorem dX3_locator_25 : decode cX3_locator 25 = .ok (.iastore, 1) := dk_79 (dk_at dksX3_locator_1 1 rfl rfl)
theorem dX3_locator_26 : decode cX3_locator 26 = .ok (.aload_n 0, 1) := dk_42 (dk_at dksX3_locator_1 2 rfl rfl)
theorem dX3_locator_27 : decode cX3_locator 27 = .ok (.getfield 30, 3) := dk_180 0 30 (dk_at dksX3_locator_1 3 rfl rfl)
theorem dX3_locator_30 : decode cX3_locator 30 = .ok (.iload_n 2, 1) := dk_28 (dk_at dksX3_locator_1 6 rfl rfl)
theorem dX3_locator_31 : decode cX3_locator 31 = .ok (.iload_n 2, 1) := dk_28 (dk_at dksX3_locator_1 7 rfl rfl)
theorem dX3_locator_32 : decode cX3_locator 32 = .ok (.ifCond .ne 7, 3) := dk_154 0 7 (dk_at dksX3_locator_1 8 rfl rfl)
theorem dX3_locator_35 : decode cX3_locator 35 = .ok (.iconst 1, 1) := dk_4 (dk_at dksX3_locator_1 11 rfl rfl)
theorem dX3_locator_36 : decode cX3_locator 36 = .ok (.goto 4, 3) := dk_167 0 4 (dk_at dksX3_locator_1 12 rfl rfl)
theorem dX3_locator_39 : decode cX3_locator 39 = .ok (.iconst 0, 1) := dk_3 (dk_at dksX3_locator_1 15 rfl rfl)
theorem dX3_locator_40 : decode cX3_locator 40 = .ok (.iastore, 1) := dk_79 (dk_at dksX3_locator_1 16 rfl rfl)
theorem dX3_locator_41 : decode cX3_locator 41 = .ok (.iinc 2 1, 3) := dk_132 2 1 (dk_at dksX3_locator_1 17 rfl rfl)
theorem dX3_locator_44 : decode cX3_locator 44 = .ok (.goto (-42), 3) := dk_167 255 214 (dk_at dksX3_locator_1 20 rfl rfl)
theorem dX3_locator_47 : decode cX3_locator 47 = .ok (.iconst 0, 1) := dk_3 (dk_at dksX3_locator_1 23 rfl rfl)
theorem dX3_locator_48 : decode cX3_locator 48 = .ok (.istore_n 2, 1) := dk_61 (dk_at dksX3_locator_2 0 rfl rfl)
theorem dX3_locator_49 : decode cX3_locator 49 = .ok (.iconst 1, 1) := dk_4 (dk_at dksX3_locator_2 1 rfl rfl)
theorem dX3_locator_50 : decode cX3_locator 50 = .ok (.istore_n 3, 1) := dk_62 (dk_at dksX3_locator_2 2 rfl rfl)
theorem dX3_locator_51 : decode cX3_locator 51 = .ok (.iconst 1, 1) := dk_4 (dk_at dksX3_locator_2 3 rfl rfl)
theorem dX3_locator_52 : decode cX3_locator 52 = .ok (.istore 4, 2) := dk_54 4 (dk_at dksX3_locator_2 4 rfl rfl)
theorem dX3_locator_54 : decode cX3_locator 54 = .ok (.iconst 0, 1) := dk_3 (dk_at dksX3_locator_2 6 rfl rfl)
theorem dX3_locator_55 : decode cX3_locator 55 = .ok (.istore 5, 2) := dk_54 5 (dk_at dksX3_locator_2 7 rfl rfl)
theorem dX3_locator_57 : decode cX3_locator 57 = .ok (.iload 5, 2) := dk_21 5 (dk_at dksX3_locator_2 9 rfl rfl)
theorem dX3_locator_59 : decode cX3_locator 59 = .ok (.iload_n 1, 1) := dk_27 (dk_at dksX3_locator_2 11 rfl rfl)
theorem dX3_locator_60 : decode cX3_locator 60 = .ok (.if_icmp .ge 229, 3) := dk_162 0 229 (dk_at dksX3_locator_2 12 rfl rfl)
theorem dX3_locator_63 : decode cX3_locator 63 = .ok (.aload_n 0, 1) := dk_42 (dk_at dksX3_locator_2 15 rfl rfl)
theorem dX3_locator_64 : decode cX3_locator 64 = .ok (.getfield 24, 3) := dk_180 0 24 (dk_at dksX3_locator_2 16 rfl rfl)
theorem dX3_locator_67 : decode cX3_locator 67 = .ok (.iload 5, 2) := dk_21 5 (dk_at dksX3_locator_2 19 rfl rfl)
theorem dX3_locator_69 : decode cX3_locator 69 = .ok (.iaload, 1) := dk_46 (dk_at dksX3_locator_2 21 rfl rfl)
theorem dX3_locator_70 : decode cX3_locator 70 = .ok (.istore 6, 2) := dk_54 6 (dk_at dksX3_locator_2 22 rfl rfl)
theorem dX3_locator_72 : decode cX3_locator 72 = .ok (.iconst 1, 1) := dk_4 (dk_at dksX3_locator_3 0 rfl rfl)
theorem dX3_locator_73 : decode cX3_locator 73 = .ok (.istore 7, 2) := dk_54 7 (dk_at dksX3_locator_3 1 rfl rfl)
theorem dX3_locator_75 : decode cX3_locator 75 = .ok (.iload 7, 2) := dk_21 7 (dk_at dksX3_locator_3 3 rfl rfl)
theorem dX3_locator_77 : decode cX3_locator 77 = .ok (.iload_n 2, 1) := dk_28 (dk_at dksX3_locator_3 5 rfl rfl)
theorem dX3_locator_78 : decode cX3_locator 78 = .ok (.if_icmp .gt 35, 3) := dk_163 0 35 (dk_at dksX3_locator_3 6 rfl rfl)
theorem dX3_locator_81 : decode cX3_locator 81 = .ok (.iload 6, 2) := dk_21 6 (dk_at dksX3_locator_3 9 rfl rfl)
theorem dX3_locator_83 : decode cX3_locator 83 = .ok (.aload_n 0, 1) := dk_42 (dk_at dksX3_locator_3 11 rfl rfl)
theorem dX3_locator_84 : decode cX3_locator 84 = .ok (.aload_n 0, 1) := dk_42 (dk_at dksX3_locator_3 12 rfl rfl)
theorem dX3_locator_85 : decode cX3_locator 85 = .ok (.getfield 27, 3) := dk_180 0 27 (dk_at dksX3_locator_3 13 rfl rfl)
theorem dX3_locator_88 : decode cX3_locator 88 = .ok (.iload 7, 2) := dk_21 7 (dk_at dksX3_locator_3 16 rfl rfl)
theorem dX3_locator_90 : decode cX3_locator 90 = .ok (.iaload, 1) := dk_46 (dk_at dksX3_locator_3 18 rfl rfl)
theorem dX3_locator_91 : decode cX3_locator 91 = .ok (.aload_n 0, 1) := dk_42 (dk_at dksX3_locator_3 19 rfl rfl)
theorem dX3_locator_92 : decode cX3_locator 92 = .ok (.getfield 24, 3) := dk_180 0 24 (dk_at dksX3_locator_3 20 rfl rfl)
theorem dX3_locator_95 : decode cX3_locator 95 = .ok (.iload 5, 2) := dk_21 5 (dk_at dksX3_locator_4 0 rfl rfl)
theorem dX3_locator_97 : decode cX3_locator 97 = .ok (.iload 7, 2) := dk_21 7 (dk_at dksX3_locator_4 2 rfl rfl)
theorem dX3_locator_99 : decode cX3_locator 99 = .ok (.isub, 1) := dk_100 (dk_at dksX3_locator_4 4 rfl rfl)
theorem dX3_locator_100 : decode cX3_locator 100 = .ok (.iaload, 1) := dk_46 (dk_at dksX3_locator_4 5 rfl rfl)
theorem dX3_locator_101 : decode cX3_locator 101 = .ok (.invokevirtual 39, 3) := dk_182 0 39 (dk_at dksX3_locator_4 6 rfl rfl)
theorem dX3_locator_104 : decode cX3_locator 104 = .ok (.ixor, 1) := dk_130 (dk_at dksX3_locator_4 9 rfl rfl)
theorem dX3_locator_105 : decode cX3_locator 105 = .ok (.istore 6, 2) := dk_54 6 (dk_at dksX3_locator_4 10 rfl rfl)
theorem dX3_locator_107 : decode cX3_locator 107 = .ok (.iinc 7 1, 3) := dk_132 7 1 (dk_at dksX3_locator_4 12 rfl rfl)
theorem dX3_locator_110 : decode cX3_locator 110 = .ok (.goto (-35), 3) := dk_167 255 221 (dk_at dksX3_locator_4 15 rfl rfl)
theorem dX3_locator_113 : decode cX3_locator 113 = .ok (.iload 6, 2) := dk_21 6 (dk_at dksX3_locator_4 18 rfl rfl)
theorem dX3_locator_115 : decode cX3_locator 115 = .ok (.ifCond .ne 9, 3) := dk_154 0 9 (dk_at dksX3_locator_4 20 rfl rfl)
theorem dX3_locator_118 : decode cX3_locator 118 = .ok (.iinc 3 1, 3) := dk_132 3 1 (dk_at dksX3_locator_5 0 rfl rfl)
theorem dX3_locator_121 : decode cX3_locator 121 = .ok (.goto 162, 3) := dk_167 0 162 (dk_at dksX3_locator_5 3 rfl rfl)
theorem dX3_locator_124 : decode cX3_locator 124 = .ok (.aload_n 0, 1) := dk_42 (dk_at dksX3_locator_5 6 rfl rfl)
theorem dX3_locator_125 : decode cX3_locator 125 = .ok (.iload 6, 2) := dk_21 6 (dk_at dksX3_locator_5 7 rfl rfl)
theorem dX3_locator_127 : decode cX3_locator 127 = .ok (.iload 4, 2) := dk_21 4 (dk_at dksX3_locator_5 9 rfl rfl)
theorem dX3_locator_129 : decode cX3_locator 129 = .ok (.invokevirtual 54, 3) := dk_182 0 54 (dk_at dksX3_locator_5 11 rfl rfl)
theorem dX3_locator_132 : decode cX3_locator 132 = .ok (.istore 7, 2) := dk_54 7 (dk_at dksX3_locator_5 14 rfl rfl)
theorem dX3_locator_134 : decode cX3_locator 134 = .ok (.iconst 2, 1) := dk_5 (dk_at dksX3_locator_5 16 rfl rfl)
theorem dX3_locator_135 : decode cX3_locator 135 = .ok (.iload_n 2, 1) := dk_28 (dk_at dksX3_locator_5 17 rfl rfl)
theorem dX3_locator_136 : decode cX3_locator 136 = .ok (.imul, 1) := dk_104 (dk_at dksX3_locator_5 18 rfl rfl)
theorem dX3_locator_137 : decode cX3_locator 137 = .ok (.iload 5, 2) := dk_21 5 (dk_at dksX3_locator_5 19 rfl rfl)
theorem dX3_locator_139 : decode cX3_locator 139 = .ok (.if_icmp .gt 7, 3) := dk_163 0 7 (dk_at dksX3_locator_5 21 rfl rfl)
theorem dX3_locator_142 : decode cX3_locator 142 = .ok (.iconst 1, 1) := dk_4 (dk_at dksX3_locator_6 0 rfl rfl)
theorem dX3_locator_143 : decode cX3_locator 143 = .ok (.goto 4, 3) := dk_167 0 4 (dk_at dksX3_locator_6 1 rfl rfl)
theorem dX3_locator_146 : decode cX3_locator 146 = .ok (.iconst 0, 1) := dk_3 (dk_at dksX3_locator_6 4 rfl rfl)
theorem dX3_locator_147 : decode cX3_locator 147 = .ok (.istore 8, 2) := dk_54 8 (dk_at dksX3_locator_6 5 rfl rfl)
theorem dX3_locator_149 : decode cX3_locator 149 = .ok (.iconst 0, 1) := dk_3 (dk_at dksX3_locator_6 7 rfl rfl)
theorem dX3_locator_150 : decode cX3_locator 150 = .ok (.istore 9, 2) := dk_54 9 (dk_at dksX3_locator_6 8 rfl rfl)
theorem dX3_locator_152 : decode cX3_locator 152 = .ok (.iload 9, 2) := dk_21 9 (dk_at dksX3_locator_6 10 rfl rfl)
theorem dX3_locator_154 : decode cX3_locator 154 = .ok (.aload_n 0, 1) := dk_42 (dk_at dksX3_locator_6 12 rfl rfl)
theorem dX3_locator_155 : decode cX3_locator 155 = .ok (.getfield 27, 3) := dk_180 0 27 (dk_at dksX3_locator_6 13 rfl rfl)
theorem dX3_locator_158 : decode cX3_locator 158 = .ok (.arraylength, 1) := dk_190 (dk_at dksX3_locator_6 16 rfl rfl)
theorem dX3_locator_159 : decode cX3_locator 159 = .ok (.if_icmp .ge 23, 3) := dk_162 0 23 (dk_at dksX3_locator_6 17 rfl rfl)
theorem dX3_locator_162 : decode cX3_locator 162 = .ok (.aload_n 0, 1) := dk_42 (dk_at dksX3_locator_6 20 rfl rfl)
theorem dX3_locator_163 : decode cX3_locator 163 = .ok (.getfield 33, 3) := dk_180 0 33 (dk_at dksX3_locator_6 21 rfl rfl)
theorem dX3_locator_166 : decode cX3_locator 166 = .ok (.iload 9, 2) := dk_21 9 (dk_at dksX3_locator_7 0 rfl rfl)
theorem dX3_locator_168 : decode cX3_locator 168 = .ok (.aload_n 0, 1) := dk_42 (dk_at dksX3_locator_7 2 rfl rfl)
theorem dX3_locator_169 : decode cX3_locator 169 = .ok (.getfield 27, 3) := dk_180 0 27 (dk_at dksX3_locator_7 3 rfl rfl)
theorem dX3_locator_172 : decode cX3_locator 172 = .ok (.iload 9, 2) := dk_21 9 (dk_at dksX3_locator_7 6 rfl rfl)
theorem dX3_locator_174 : decode cX3_locator 174 = .ok (.iaload, 1) := dk_46 (dk_at dksX3_locator_7 8 rfl rfl)
theorem dX3_locator_175 : decode cX3_locator 175 = .ok (.iastore, 1) := dk_79 (dk_at dksX3_locator_7 9 rfl rfl)
theorem dX3_locator_176 : decode cX3_locator 176 = .ok (.iinc 9 1, 3) := dk_132 9 1 (dk_at dksX3_locator_7 10 rfl rfl)
theorem dX3_locator_179 : decode cX3_locator 179 = .ok (.goto (-27), 3) := dk_167 255 229 (dk_at dksX3_locator_7 13 rfl rfl)
theorem dX3_locator_182 : decode cX3_locator 182 = .ok (.iload_n 3, 1) := dk_29 (dk_at dksX3_locator_7 16 rfl rfl)
theorem dX3_locator_183 : decode cX3_locator 183 = .ok (.istore 9, 2) := dk_54 9 (dk_at dksX3_locator_7 17 rfl rfl)
theorem dX3_locator_185 : decode cX3_locator 185 = .ok (.iload 9, 2) := dk_21 9 (dk_at dksX3_locator_7 19 rfl rfl)
theorem dX3_locator_187 : decode cX3_locator 187 = .ok (.aload_n 0, 1) := dk_42 (dk_at dksX3_locator_7 21 rfl rfl)
theorem dX3_locator_188 : decode cX3_locator 188 = .ok (.getfield 27, 3) := dk_180 0 27 (dk_at dksX3_locator_8 0 rfl rfl)
theorem dX3_locator_191 : decode cX3_locator 191 = .ok (.arraylength, 1) := dk_190 (dk_at dksX3_locator_8 3 rfl rfl)
theorem dX3_locator_192 : decode cX3_locator 192 = .ok (.if_icmp .ge 34, 3) := dk_162 0 34 (dk_at dksX3_locator_8 4 rfl rfl)
theorem dX3_locator_195 : decode cX3_locator 195 = .ok (.aload_n 0, 1) := dk_42 (dk_at dksX3_locator_8 7 rfl rfl)
theorem dX3_locator_196 : decode cX3_locator 196 = .ok (.getfield 27, 3) := dk_180 0 27 (dk_at dksX3_locator_8 8 rfl rfl)
theorem dX3_locator_199 : decode cX3_locator 199 = .ok (.iload 9, 2) := dk_21 9 (dk_at dksX3_locator_8 11 rfl rfl)
theorem dX3_locator_201 : decode cX3_locator 201 = .ok (.dup2, 1) := dk_92 (dk_at dksX3_locator_8 13 rfl rfl)
theorem dX3_locator_202 : decode cX3_locator 202 = .ok (.iaload, 1) := dk_46 (dk_at dksX3_locator_8 14 rfl rfl)
theorem dX3_locator_203 : decode cX3_locator 203 = .ok (.aload_n 0, 1) := dk_42 (dk_at dksX3_locator_8 15 rfl rfl)
theorem dX3_locator_204 : decode cX3_locator 204 = .ok (.iload 7, 2) := dk_21 7 (dk_at dksX3_locator_8 16 rfl rfl)
theorem dX3_locator_206 : decode cX3_locator 206 = .ok (.aload_n 0, 1) := dk_42 (dk_at dksX3_locator_8 18 rfl rfl)
theorem dX3_locator_207 : decode cX3_locator 207 = .ok (.getfield 30, 3) := dk_180 0 30 (dk_at dksX3_locator_8 19 rfl rfl)
theorem dX3_locator_210 : decode cX3_locator 210 = .ok (.iload 9, 2) := dk_21 9 (dk_at dksX3_locator_8 22 rfl rfl)
theorem dX3_locator_212 : decode cX3_locator 212 = .ok (.iload_n 3, 1) := dk_29 (dk_at dksX3_locator_9 0 rfl rfl)
theorem dX3_locator_213 : decode cX3_locator 213 = .ok (.isub, 1) := dk_100 (dk_at dksX3_locator_9 1 rfl rfl)
theorem dX3_locator_214 : decode cX3_locator 214 = .ok (.iaload, 1) := dk_46 (dk_at dksX3_locator_9 2 rfl rfl)
theorem dX3_locator_215 : decode cX3_locator 215 = .ok (.invokevirtual 39, 3) := dk_182 0 39 (dk_at dksX3_locator_9 3 rfl rfl)
theorem dX3_locator_218 : decode cX3_locator 218 = .ok (.ixor, 1) := dk_130 (dk_at dksX3_locator_9 6 rfl rfl)
theorem dX3_locator_219 : decode cX3_locator 219 = .ok (.iastore, 1) := dk_79 (dk_at dksX3_locator_9 7 rfl rfl)
theorem dX3_locator_220 : decode cX3_locator 220 = .ok (.iinc 9 1, 3) := dk_132 9 1 (dk_at dksX3_locator_9 8 rfl rfl)
theorem dX3_locator_223 : decode cX3_locator 223 = .ok (.goto (-38), 3) := dk_167 255 218 (dk_at dksX3_locator_9 11 rfl rfl)
theorem dX3_locator_226 : decode cX3_locator 226 = .ok (.iload 8, 2) := dk_21 8 (dk_at dksX3_locator_9 14 rfl rfl)
theorem dX3_locator_228 : decode cX3_locator 228 = .ok (.ifCond .eq 52, 3) := dk_153 0 52 (dk_at dksX3_locator_9 16 rfl rfl)
theorem dX3_locator_231 : decode cX3_locator 231 = .ok (.iconst 0, 1) := dk_3 (dk_at dksX3_locator_9 19 rfl rfl)
theorem dX3_locator_232 : decode cX3_locator 232 = .ok (.istore 9, 2) := dk_54 9 (dk_at dksX3_locator_9 20 rfl rfl)
theorem dX3_locator_234 : decode cX3_locator 234 = .ok (.iload 9, 2) := dk_21 9 (dk_at dksX3_locator_9 22 rfl rfl)
theorem dX3_locator_236 : decode cX3_locator 236 = .ok (.aload_n 0, 1) := dk_42 (dk_at dksX3_locator_10 0 rfl rfl)
theorem dX3_locator_237 : decode cX3_locator 237 = .ok (.getfield 27, 3) := dk_180 0 27 (dk_at dksX3_locator_10 1 rfl rfl)
theorem dX3_locator_240 : decode cX3_locator 240 = .ok (.arraylength, 1) := dk_190 (dk_at dksX3_locator_10 4 rfl rfl)
theorem dX3_locator_241 : decode cX3_locator 241 = .ok (.if_icmp .ge 23, 3) := dk_162 0 23 (dk_at dksX3_locator_10 5 rfl rfl)
theorem dX3_locator_244 : decode cX3_locator 244 = .ok (.aload_n 0, 1) := dk_42 (dk_at dksX3_locator_10 8 rfl rfl)
theorem dX3_locator_245 : decode cX3_locator 245 = .ok (.getfield 30, 3) := dk_180 0 30 (dk_at dksX3_locator_10 9 rfl rfl)
theorem dX3_locator_248 : decode cX3_locator 248 = .ok (.iload 9, 2) := dk_21 9 (dk_at dksX3_locator_10 12 rfl rfl)
theorem dX3_locator_250 : decode cX3_locator 250 = .ok (.aload_n 0, 1) := dk_42 (dk_at dksX3_locator_10 14 rfl rfl)
theorem dX3_locator_251 : decode cX3_locator 251 = .ok (.getfield 33, 3) := dk_180 0 33 (dk_at dksX3_locator_10 15 rfl rfl)
theorem dX3_locator_254 : decode cX3_locator 254 = .ok (.iload 9, 2) := dk_21 9 (dk_at dksX3_locator_10 18 rfl rfl)
theorem dX3_locator_256 : decode cX3_locator 256 = .ok (.iaload, 1) := dk_46 (dk_at dksX3_locator_10 20 rfl rfl)
theorem dX3_locator_257 : decode cX3_locator 257 = .ok (.iastore, 1) := dk_79 (dk_at dksX3_locator_10 21 rfl rfl)
theorem dX3_locator_258 : decode cX3_locator 258 = .ok (.iinc 9 1, 3) := dk_132 9 1 (dk_at dksX3_locator_11 0 rfl rfl)
theorem dX3_locator_261 : decode cX3_locator 261 = .ok (.goto (-27), 3) := dk_167 255 229 (dk_at dksX3_locator_11 3 rfl rfl)
theorem dX3_locator_264 : decode cX3_locator 264 = .ok (.iload 5, 2) := dk_21 5 (dk_at dksX3_locator_11 6 rfl rfl)
theorem dX3_locator_266 : decode cX3_locator 266 = .ok (.iconst 1, 1) := dk_4 (dk_at dksX3_locator_11 8 rfl rfl)
theorem dX3_locator_267 : decode cX3_locator 267 = .ok (.iadd, 1) := dk_96 (dk_at dksX3_locator_11 9 rfl rfl)
theorem dX3_locator_268 : decode cX3_locator 268 = .ok (.iload_n 2, 1) := dk_28 (dk_at dksX3_locator_11 10 rfl rfl)
theorem dX3_locator_269 : decode cX3_locator 269 = .ok (.isub, 1) := dk_100 (dk_at dksX3_locator_11 11 rfl rfl)
theorem dX3_locator_270 : decode cX3_locator 270 = .ok (.istore_n 2, 1) := dk_61 (dk_at dksX3_locator_11 12 rfl rfl)
theorem dX3_locator_271 : decode cX3_locator 271 = .ok (.iload 6, 2) := dk_21 6 (dk_at dksX3_locator_11 13 rfl rfl)
theorem dX3_locator_273 : decode cX3_locator 273 = .ok (.istore 4, 2) := dk_54 4 (dk_at dksX3_locator_11 15 rfl rfl)
theorem dX3_locator_275 : decode cX3_locator 275 = .ok (.iconst 1, 1) := dk_4 (dk_at dksX3_locator_11 17 rfl rfl)
theorem dX3_locator_276 : decode cX3_locator 276 = .ok (.istore_n 3, 1) := dk_62 (dk_at dksX3_locator_11 18 rfl rfl)
theorem dX3_locator_277 : decode cX3_locator 277 = .ok (.goto 6, 3) := dk_167 0 6 (dk_at dksX3_locator_11 19 rfl rfl)
theorem dX3_locator_280 : decode cX3_locator 280 = .ok (.iinc 3 1, 3) := dk_132 3 1 (dk_at dksX3_locator_12 0 rfl rfl)
theorem dX3_locator_283 : decode cX3_locator 283 = .ok (.iinc 5 1, 3) := dk_132 5 1 (dk_at dksX3_locator_12 3 rfl rfl)
theorem dX3_locator_286 : decode cX3_locator 286 = .ok (.goto (-229), 3) := dk_167 255 27 (dk_at dksX3_locator_12 6 rfl rfl)
theorem dX3_locator_289 : decode cX3_locator 289 = .ok (.iload_n 2, 1) := dk_28 (dk_at dksX3_locator_12 9 rfl rfl)
theorem dX3_locator_290 : decode cX3_locator 290 = .ok (.ireturn, 1) := dk_172 (dk_at dksX3_locator_12 10 rfl rfl)
abbrev cX3_over : ByteArray := prog_6_method_3_code
def yX3_over : MethodName := ⟨RX3, "over", "(II)I"⟩
def dkwX3_over_1 : List UInt8 := [180, 0, 15, 28, 46, 100, 46, 172]
abbrev dktX3_over_1 : List UInt8 := dkwX3_over_1 ++ []
def dkwX3_over_0 : List UInt8 := [27, 154, 0, 7, 3, 167, 0, 25, 42, 180, 0, 9, 42, 180, 0, 15, 27, 46, 17, 0, 255, 96, 42]
abbrev dktX3_over_0 : List UInt8 := dkwX3_over_0 ++ dktX3_over_1
theorem dksX3_over_0 : cX3_over.data.toList.drop 0 = dktX3_over_0 := by decide +kernel
theorem dksX3_over_1 : cX3_over.data.toList.drop 23 = dktX3_over_1 := dk_seg dksX3_over_0 23 rfl rfl
theorem dX3_over_0 : decode cX3_over 0 = .ok (.iload_n 1, 1) := dk_27 (dk_at dksX3_over_0 0 rfl rfl)
theorem dX3_over_1 : decode cX3_over 1 = .ok (.ifCond .ne 7, 3) := dk_154 0 7 (dk_at dksX3_over_0 1 rfl rfl)
theorem dX3_over_4 : decode cX3_over 4 = .ok (.iconst 0, 1) := dk_3 (dk_at dksX3_over_0 4 rfl rfl)
theorem dX3_over_5 : decode cX3_over 5 = .ok (.goto 25, 3) := dk_167 0 25 (dk_at dksX3_over_0 5 rfl rfl)
theorem dX3_over_8 : decode cX3_over 8 = .ok (.aload_n 0, 1) := dk_42 (dk_at dksX3_over_0 8 rfl rfl)
theorem dX3_over_9 : decode cX3_over 9 = .ok (.getfield 9, 3) := dk_180 0 9 (dk_at dksX3_over_0 9 rfl rfl)
theorem dX3_over_12 : decode cX3_over 12 = .ok (.aload_n 0, 1) := dk_42 (dk_at dksX3_over_0 12 rfl rfl)
theorem dX3_over_13 : decode cX3_over 13 = .ok (.getfield 15, 3) := dk_180 0 15 (dk_at dksX3_over_0 13 rfl rfl)
theorem dX3_over_16 : decode cX3_over 16 = .ok (.iload_n 1, 1) := dk_27 (dk_at dksX3_over_0 16 rfl rfl)
theorem dX3_over_17 : decode cX3_over 17 = .ok (.iaload, 1) := dk_46 (dk_at dksX3_over_0 17 rfl rfl)
theorem dX3_over_18 : decode cX3_over 18 = .ok (.sipush 255, 3) := dk_17 0 255 (dk_at dksX3_over_0 18 rfl rfl)
theorem dX3_over_21 : decode cX3_over 21 = .ok (.iadd, 1) := dk_96 (dk_at dksX3_over_0 21 rfl rfl)
theorem dX3_over_22 : decode cX3_over 22 = .ok (.aload_n 0, 1) := dk_42 (dk_at dksX3_over_0 22 rfl rfl)
theorem dX3_over_23 : decode cX3_over 23 = .ok (.getfield 15, 3) := dk_180 0 15 (dk_at dksX3_over_1 0 rfl rfl)
theorem dX3_over_26 : decode cX3_over 26 = .ok (.iload_n 2, 1) := dk_28 (dk_at dksX3_over_1 3 rfl rfl)
theorem dX3_over_27 : decode cX3_over 27 = .ok (.iaload, 1) := dk_46 (dk_at dksX3_over_1 4 rfl rfl)
theorem dX3_over_28 : decode cX3_over 28 = .ok (.isub, 1) := dk_100 (dk_at dksX3_over_1 5 rfl rfl)
theorem dX3_over_29 : decode cX3_over 29 = .ok (.iaload, 1) := dk_46 (dk_at dksX3_over_1 6 rfl rfl)
theorem dX3_over_30 : decode cX3_over 30 = .ok (.ireturn, 1) := dk_172 (dk_at dksX3_over_1 7 rfl rfl)
abbrev cX3_error : ByteArray := prog_6_method_8_code
def yX3_error : MethodName := ⟨RX3, "error", "(II)I"⟩
def dkwX3_error_8 : List UInt8 := [167, 0, 11, 42, 21, 4, 21, 5, 182, 0, 54, 172]
abbrev dktX3_error_8 : List UInt8 := dkwX3_error_8 ++ []
def dkwX3_error_7 : List UInt8 := [17, 0, 255, 112, 46, 182, 0, 39, 130, 54, 5, 132, 6, 2, 167, 255, 208, 21, 5, 154, 0, 7, 3]
abbrev dktX3_error_7 : List UInt8 := dkwX3_error_7 ++ dktX3_error_8
def dkwX3_error_6 : List UInt8 := [180, 0, 27, 21, 6, 46, 42, 180, 0, 9, 17, 0, 255, 27, 17, 0, 255, 112, 100, 21, 6, 4, 100, 104]
abbrev dktX3_error_6 : List UInt8 := dkwX3_error_6 ++ dktX3_error_7
def dkwX3_error_5 : List UInt8 := [130, 54, 4, 132, 6, 255, 167, 255, 231, 4, 54, 6, 21, 6, 28, 163, 0, 48, 21, 5, 42, 42]
abbrev dktX3_error_5 : List UInt8 := dkwX3_error_5 ++ dktX3_error_6
def dkwX3_error_4 : List UInt8 := [28, 4, 100, 54, 6, 21, 6, 155, 0, 26, 42, 21, 4, 29, 182, 0, 39, 42, 180, 0, 36, 21, 6, 46]
abbrev dktX3_error_4 : List UInt8 := dkwX3_error_4 ++ dktX3_error_5
def dkwX3_error_3 : List UInt8 := [42, 180, 0, 27, 21, 7, 46, 182, 0, 39, 130, 79, 132, 7, 1, 167, 255, 215, 132, 6, 1, 167, 255, 192]
abbrev dktX3_error_3 : List UInt8 := dkwX3_error_3 ++ dktX3_error_4
def dkwX3_error_2 : List UInt8 := [21, 6, 163, 0, 40, 42, 180, 0, 36, 21, 6, 92, 46, 42, 42, 180, 0, 24, 21, 6, 21, 7, 100, 46]
abbrev dktX3_error_2 : List UInt8 := dkwX3_error_2 ++ dktX3_error_3
def dkwX3_error_1 : List UInt8 := [54, 5, 3, 54, 6, 21, 6, 28, 162, 0, 64, 42, 180, 0, 36, 21, 6, 3, 79, 3, 54, 7, 21, 7]
abbrev dktX3_error_1 : List UInt8 := dkwX3_error_1 ++ dktX3_error_2
def dkwX3_error_0 : List UInt8 := [42, 180, 0, 9, 17, 0, 255, 27, 17, 0, 255, 112, 100, 17, 0, 255, 112, 46, 62, 3, 54, 4, 3]
abbrev dktX3_error_0 : List UInt8 := dkwX3_error_0 ++ dktX3_error_1
theorem dksX3_error_0 : cX3_error.data.toList.drop 0 = dktX3_error_0 := by decide +kernel
theorem dksX3_error_1 : cX3_error.data.toList.drop 23 = dktX3_error_1 := dk_seg dksX3_error_0 23 rfl rfl
theorem dksX3_error_2 : cX3_error.data.toList.drop 47 = dktX3_error_2 := dk_seg dksX3_error_1 24 rfl rfl
theorem dksX3_error_3 : cX3_error.data.toList.drop 71 = dktX3_error_3 := dk_seg dksX3_error_2 24 rfl rfl
theorem dksX3_error_4 : cX3_error.data.toList.drop 95 = dktX3_error_4 := dk_seg dksX3_error_3 24 rfl rfl
theorem dksX3_error_5 : cX3_error.data.toList.drop 119 = dktX3_error_5 := dk_seg dksX3_error_4 24 rfl rfl
theorem dksX3_error_6 : cX3_error.data.toList.drop 141 = dktX3_error_6 := dk_seg dksX3_error_5 22 rfl rfl
theorem dksX3_error_7 : cX3_error.data.toList.drop 165 = dktX3_error_7 := dk_seg dksX3_error_6 24 rfl rfl
theorem dksX3_error_8 : cX3_error.data.toList.drop 188 = dktX3_error_8 := dk_seg dksX3_error_7 23 rfl rfl
theorem dX3_error_0 : decode cX3_error 0 = .ok (.aload_n 0, 1) := dk_42 (dk_at dksX3_error_0 0 rfl rfl)
theorem dX3_error_1 : decode cX3_error 1 = .ok (.getfield 9, 3) := dk_180 0 9 (dk_at dksX3_error_0 1 rfl rfl)
theorem dX3_error_4 : decode cX3_error 4 = .ok (.sipush 255, 3) := dk_17 0 255 (dk_at dksX3_error_0 4 rfl rfl)
theorem dX3_error_7 : decode cX3_error 7 = .ok (.iload_n 1, 1) := dk_27 (dk_at dksX3_error_0 7 rfl rfl)
theorem dX3_error_8 : decode cX3_error 8 = .ok (.sipush 255, 3) := dk_17 0 255 (dk_at dksX3_error_0 8 rfl rfl)
theorem dX3_error_11 : decode cX3_error 11 = .ok (.irem, 1) := dk_112 (dk_at dksX3_error_0 11 rfl rfl)
theorem dX3_error_12 : decode cX3_error 12 = .ok (.isub, 1) := dk_100 (dk_at dksX3_error_0 12 rfl rfl)
theorem dX3_error_13 : decode cX3_error 13 = .ok (.sipush 255, 3) := dk_17 0 255 (dk_at dksX3_error_0 13 rfl rfl)
theorem dX3_error_16 : decode cX3_error 16 = .ok (.irem, 1) := dk_112 (dk_at dksX3_error_0 16 rfl rfl)
theorem dX3_error_17 : decode cX3_error 17 = .ok (.iaload, 1) := dk_46 (dk_at dksX3_error_0 17 rfl rfl)
theorem dX3_error_18 : decode cX3_error 18 = .ok (.istore_n 3, 1) := dk_62 (dk_at dksX3_error_0 18 rfl rfl)
theorem dX3_error_19 : decode cX3_error 19 = .ok (.iconst 0, 1) := dk_3 (dk_at dksX3_error_0 19 rfl rfl)
theorem dX3_error_20 : decode cX3_error 20 = .ok (.istore 4, 2) := dk_54 4 (dk_at dksX3_error_0 20 rfl rfl)
theorem dX3_error_22 : decode cX3_error 22 = .ok (.iconst 0, 1) := dk_3 (dk_at dksX3_error_0 22 rfl rfl)
theorem dX3_error_23 : decode cX3_error 23 = .ok (.istore 5, 2) := dk_54 5 (dk_at dksX3_error_1 0 rfl rfl)
theorem dX3_error_25 : decode cX3_error 25 = .ok (.iconst 0, 1) := dk_3 (dk_at dksX3_error_1 2 rfl rfl)
theorem dX3_error_26 : decode cX3_error 26 = .ok (.istore 6, 2) := dk_54 6 (dk_at dksX3_error_1 3 rfl rfl)
theorem dX3_error_28 : decode cX3_error 28 = .ok (.iload 6, 2) := dk_21 6 (dk_at dksX3_error_1 5 rfl rfl)
theorem dX3_error_30 : decode cX3_error 30 = .ok (.iload_n 2, 1) := dk_28 (dk_at dksX3_error_1 7 rfl rfl)
theorem dX3_error_31 : decode cX3_error 31 = .ok (.if_icmp .ge 64, 3) := dk_162 0 64 (dk_at dksX3_error_1 8 rfl rfl)
theorem dX3_error_34 : decode cX3_error 34 = .ok (.aload_n 0, 1) := dk_42 (dk_at dksX3_error_1 11 rfl rfl)
theorem dX3_error_35 : decode cX3_error 35 = .ok (.getfield 36, 3) := dk_180 0 36 (dk_at dksX3_error_1 12 rfl rfl)
theorem dX3_error_38 : decode cX3_error 38 = .ok (.iload 6, 2) := dk_21 6 (dk_at dksX3_error_1 15 rfl rfl)
theorem dX3_error_40 : decode cX3_error 40 = .ok (.iconst 0, 1) := dk_3 (dk_at dksX3_error_1 17 rfl rfl)
theorem dX3_error_41 : decode cX3_error 41 = .ok (.iastore, 1) := dk_79 (dk_at dksX3_error_1 18 rfl rfl)
theorem dX3_error_42 : decode cX3_error 42 = .ok (.iconst 0, 1) := dk_3 (dk_at dksX3_error_1 19 rfl rfl)
theorem dX3_error_43 : decode cX3_error 43 = .ok (.istore 7, 2) := dk_54 7 (dk_at dksX3_error_1 20 rfl rfl)
theorem dX3_error_45 : decode cX3_error 45 = .ok (.iload 7, 2) := dk_21 7 (dk_at dksX3_error_1 22 rfl rfl)
theorem dX3_error_47 : decode cX3_error 47 = .ok (.iload 6, 2) := dk_21 6 (dk_at dksX3_error_2 0 rfl rfl)
theorem dX3_error_49 : decode cX3_error 49 = .ok (.if_icmp .gt 40, 3) := dk_163 0 40 (dk_at dksX3_error_2 2 rfl rfl)
theorem dX3_error_52 : decode cX3_error 52 = .ok (.aload_n 0, 1) := dk_42 (dk_at dksX3_error_2 5 rfl rfl)
theorem dX3_error_53 : decode cX3_error 53 = .ok (.getfield 36, 3) := dk_180 0 36 (dk_at dksX3_error_2 6 rfl rfl)
theorem dX3_error_56 : decode cX3_error 56 = .ok (.iload 6, 2) := dk_21 6 (dk_at dksX3_error_2 9 rfl rfl)
theorem dX3_error_58 : decode cX3_error 58 = .ok (.dup2, 1) := dk_92 (dk_at dksX3_error_2 11 rfl rfl)
theorem dX3_error_59 : decode cX3_error 59 = .ok (.iaload, 1) := dk_46 (dk_at dksX3_error_2 12 rfl rfl)
theorem dX3_error_60 : decode cX3_error 60 = .ok (.aload_n 0, 1) := dk_42 (dk_at dksX3_error_2 13 rfl rfl)
theorem dX3_error_61 : decode cX3_error 61 = .ok (.aload_n 0, 1) := dk_42 (dk_at dksX3_error_2 14 rfl rfl)
theorem dX3_error_62 : decode cX3_error 62 = .ok (.getfield 24, 3) := dk_180 0 24 (dk_at dksX3_error_2 15 rfl rfl)
theorem dX3_error_65 : decode cX3_error 65 = .ok (.iload 6, 2) := dk_21 6 (dk_at dksX3_error_2 18 rfl rfl)
theorem dX3_error_67 : decode cX3_error 67 = .ok (.iload 7, 2) := dk_21 7 (dk_at dksX3_error_2 20 rfl rfl)
theorem dX3_error_69 : decode cX3_error 69 = .ok (.isub, 1) := dk_100 (dk_at dksX3_error_2 22 rfl rfl)
theorem dX3_error_70 : decode cX3_error 70 = .ok (.iaload, 1) := dk_46 (dk_at dksX3_error_2 23 rfl rfl)
theorem dX3_error_71 : decode cX3_error 71 = .ok (.aload_n 0, 1) := dk_42 (dk_at dksX3_error_3 0 rfl rfl)
theorem dX3_error_72 : decode cX3_error 72 = .ok (.getfield 27, 3) := dk_180 0 27 (dk_at dksX3_error_3 1 rfl rfl)
theorem dX3_error_75 : decode cX3_error 75 = .ok (.iload 7, 2) := dk_21 7 (dk_at dksX3_error_3 4 rfl rfl)
theorem dX3_error_77 : decode cX3_error 77 = .ok (.iaload, 1) := dk_46 (dk_at dksX3_error_3 6 rfl rfl)
theorem dX3_error_78 : decode cX3_error 78 = .ok (.invokevirtual 39, 3) := dk_182 0 39 (dk_at dksX3_error_3 7 rfl rfl)
theorem dX3_error_81 : decode cX3_error 81 = .ok (.ixor, 1) := dk_130 (dk_at dksX3_error_3 10 rfl rfl)
theorem dX3_error_82 : decode cX3_error 82 = .ok (.iastore, 1) := dk_79 (dk_at dksX3_error_3 11 rfl rfl)
theorem dX3_error_83 : decode cX3_error 83 = .ok (.iinc 7 1, 3) := dk_132 7 1 (dk_at dksX3_error_3 12 rfl rfl)
theorem dX3_error_86 : decode cX3_error 86 = .ok (.goto (-41), 3) := dk_167 255 215 (dk_at dksX3_error_3 15 rfl rfl)
theorem dX3_error_89 : decode cX3_error 89 = .ok (.iinc 6 1, 3) := dk_132 6 1 (dk_at dksX3_error_3 18 rfl rfl)
theorem dX3_error_92 : decode cX3_error 92 = .ok (.goto (-64), 3) := dk_167 255 192 (dk_at dksX3_error_3 21 rfl rfl)
theorem dX3_error_95 : decode cX3_error 95 = .ok (.iload_n 2, 1) := dk_28 (dk_at dksX3_error_4 0 rfl rfl)
theorem dX3_error_96 : decode cX3_error 96 = .ok (.iconst 1, 1) := dk_4 (dk_at dksX3_error_4 1 rfl rfl)
theorem dX3_error_97 : decode cX3_error 97 = .ok (.isub, 1) := dk_100 (dk_at dksX3_error_4 2 rfl rfl)
theorem dX3_error_98 : decode cX3_error 98 = .ok (.istore 6, 2) := dk_54 6 (dk_at dksX3_error_4 3 rfl rfl)
theorem dX3_error_100 : decode cX3_error 100 = .ok (.iload 6, 2) := dk_21 6 (dk_at dksX3_error_4 5 rfl rfl)
theorem dX3_error_102 : decode cX3_error 102 = .ok (.ifCond .lt 26, 3) := dk_155 0 26 (dk_at dksX3_error_4 7 rfl rfl)
theorem dX3_error_105 : decode cX3_error 105 = .ok (.aload_n 0, 1) := dk_42 (dk_at dksX3_error_4 10 rfl rfl)
theorem dX3_error_106 : decode cX3_error 106 = .ok (.iload 4, 2) := dk_21 4 (dk_at dksX3_error_4 11 rfl rfl)
theorem dX3_error_108 : decode cX3_error 108 = .ok (.iload_n 3, 1) := dk_29 (dk_at dksX3_error_4 13 rfl rfl)
theorem dX3_error_109 : decode cX3_error 109 = .ok (.invokevirtual 39, 3) := dk_182 0 39 (dk_at dksX3_error_4 14 rfl rfl)
theorem dX3_error_112 : decode cX3_error 112 = .ok (.aload_n 0, 1) := dk_42 (dk_at dksX3_error_4 17 rfl rfl)
theorem dX3_error_113 : decode cX3_error 113 = .ok (.getfield 36, 3) := dk_180 0 36 (dk_at dksX3_error_4 18 rfl rfl)
theorem dX3_error_116 : decode cX3_error 116 = .ok (.iload 6, 2) := dk_21 6 (dk_at dksX3_error_4 21 rfl rfl)
theorem dX3_error_118 : decode cX3_error 118 = .ok (.iaload, 1) := dk_46 (dk_at dksX3_error_4 23 rfl rfl)
theorem dX3_error_119 : decode cX3_error 119 = .ok (.ixor, 1) := dk_130 (dk_at dksX3_error_5 0 rfl rfl)
theorem dX3_error_120 : decode cX3_error 120 = .ok (.istore 4, 2) := dk_54 4 (dk_at dksX3_error_5 1 rfl rfl)
theorem dX3_error_122 : decode cX3_error 122 = .ok (.iinc 6 (-1), 3) := dk_132 6 255 (dk_at dksX3_error_5 3 rfl rfl)
theorem dX3_error_125 : decode cX3_error 125 = .ok (.goto (-25), 3) := dk_167 255 231 (dk_at dksX3_error_5 6 rfl rfl)
theorem dX3_error_128 : decode cX3_error 128 = .ok (.iconst 1, 1) := dk_4 (dk_at dksX3_error_5 9 rfl rfl)
theorem dX3_error_129 : decode cX3_error 129 = .ok (.istore 6, 2) := dk_54 6 (dk_at dksX3_error_5 10 rfl rfl)
theorem dX3_error_131 : decode cX3_error 131 = .ok (.iload 6, 2) := dk_21 6 (dk_at dksX3_error_5 12 rfl rfl)
theorem dX3_error_133 : decode cX3_error 133 = .ok (.iload_n 2, 1) := dk_28 (dk_at dksX3_error_5 14 rfl rfl)
theorem dX3_error_134 : decode cX3_error 134 = .ok (.if_icmp .gt 48, 3) := dk_163 0 48 (dk_at dksX3_error_5 15 rfl rfl)
theorem dX3_error_137 : decode cX3_error 137 = .ok (.iload 5, 2) := dk_21 5 (dk_at dksX3_error_5 18 rfl rfl)
theorem dX3_error_139 : decode cX3_error 139 = .ok (.aload_n 0, 1) := dk_42 (dk_at dksX3_error_5 20 rfl rfl)
theorem dX3_error_140 : decode cX3_error 140 = .ok (.aload_n 0, 1) := dk_42 (dk_at dksX3_error_5 21 rfl rfl)
theorem dX3_error_141 : decode cX3_error 141 = .ok (.getfield 27, 3) := dk_180 0 27 (dk_at dksX3_error_6 0 rfl rfl)
theorem dX3_error_144 : decode cX3_error 144 = .ok (.iload 6, 2) := dk_21 6 (dk_at dksX3_error_6 3 rfl rfl)
theorem dX3_error_146 : decode cX3_error 146 = .ok (.iaload, 1) := dk_46 (dk_at dksX3_error_6 5 rfl rfl)
theorem dX3_error_147 : decode cX3_error 147 = .ok (.aload_n 0, 1) := dk_42 (dk_at dksX3_error_6 6 rfl rfl)
theorem dX3_error_148 : decode cX3_error 148 = .ok (.getfield 9, 3) := dk_180 0 9 (dk_at dksX3_error_6 7 rfl rfl)
theorem dX3_error_151 : decode cX3_error 151 = .ok (.sipush 255, 3) := dk_17 0 255 (dk_at dksX3_error_6 10 rfl rfl)
theorem dX3_error_154 : decode cX3_error 154 = .ok (.iload_n 1, 1) := dk_27 (dk_at dksX3_error_6 13 rfl rfl)
theorem dX3_error_155 : decode cX3_error 155 = .ok (.sipush 255, 3) := dk_17 0 255 (dk_at dksX3_error_6 14 rfl rfl)
theorem dX3_error_158 : decode cX3_error 158 = .ok (.irem, 1) := dk_112 (dk_at dksX3_error_6 17 rfl rfl)
theorem dX3_error_159 : decode cX3_error 159 = .ok (.isub, 1) := dk_100 (dk_at dksX3_error_6 18 rfl rfl)
theorem dX3_error_160 : decode cX3_error 160 = .ok (.iload 6, 2) := dk_21 6 (dk_at dksX3_error_6 19 rfl rfl)
theorem dX3_error_162 : decode cX3_error 162 = .ok (.iconst 1, 1) := dk_4 (dk_at dksX3_error_6 21 rfl rfl)
theorem dX3_error_163 : decode cX3_error 163 = .ok (.isub, 1) := dk_100 (dk_at dksX3_error_6 22 rfl rfl)
theorem dX3_error_164 : decode cX3_error 164 = .ok (.imul, 1) := dk_104 (dk_at dksX3_error_6 23 rfl rfl)
theorem dX3_error_165 : decode cX3_error 165 = .ok (.sipush 255, 3) := dk_17 0 255 (dk_at dksX3_error_7 0 rfl rfl)
theorem dX3_error_168 : decode cX3_error 168 = .ok (.irem, 1) := dk_112 (dk_at dksX3_error_7 3 rfl rfl)
theorem dX3_error_169 : decode cX3_error 169 = .ok (.iaload, 1) := dk_46 (dk_at dksX3_error_7 4 rfl rfl)
theorem dX3_error_170 : decode cX3_error 170 = .ok (.invokevirtual 39, 3) := dk_182 0 39 (dk_at dksX3_error_7 5 rfl rfl)
theorem dX3_error_173 : decode cX3_error 173 = .ok (.ixor, 1) := dk_130 (dk_at dksX3_error_7 8 rfl rfl)
theorem dX3_error_174 : decode cX3_error 174 = .ok (.istore 5, 2) := dk_54 5 (dk_at dksX3_error_7 9 rfl rfl)
theorem dX3_error_176 : decode cX3_error 176 = .ok (.iinc 6 2, 3) := dk_132 6 2 (dk_at dksX3_error_7 11 rfl rfl)
theorem dX3_error_179 : decode cX3_error 179 = .ok (.goto (-48), 3) := dk_167 255 208 (dk_at dksX3_error_7 14 rfl rfl)
theorem dX3_error_182 : decode cX3_error 182 = .ok (.iload 5, 2) := dk_21 5 (dk_at dksX3_error_7 17 rfl rfl)
theorem dX3_error_184 : decode cX3_error 184 = .ok (.ifCond .ne 7, 3) := dk_154 0 7 (dk_at dksX3_error_7 19 rfl rfl)
theorem dX3_error_187 : decode cX3_error 187 = .ok (.iconst 0, 1) := dk_3 (dk_at dksX3_error_7 22 rfl rfl)
theorem dX3_error_188 : decode cX3_error 188 = .ok (.goto 11, 3) := dk_167 0 11 (dk_at dksX3_error_8 0 rfl rfl)
theorem dX3_error_191 : decode cX3_error 191 = .ok (.aload_n 0, 1) := dk_42 (dk_at dksX3_error_8 3 rfl rfl)
theorem dX3_error_192 : decode cX3_error 192 = .ok (.iload 4, 2) := dk_21 4 (dk_at dksX3_error_8 4 rfl rfl)
theorem dX3_error_194 : decode cX3_error 194 = .ok (.iload 5, 2) := dk_21 5 (dk_at dksX3_error_8 6 rfl rfl)
theorem dX3_error_196 : decode cX3_error 196 = .ok (.invokevirtual 54, 3) := dk_182 0 54 (dk_at dksX3_error_8 8 rfl rfl)
theorem dX3_error_199 : decode cX3_error 199 = .ok (.ireturn, 1) := dk_172 (dk_at dksX3_error_8 11 rfl rfl)
theorem q110 : (Jvm.Cond.initialized "MatrixPress$Field") ∈ lw_all := lw_g (lw_at lw_m1 3 rfl) rfl
theorem q180 : (Jvm.Cond.instantiable "MatrixPress$Field" (9 : Nat)) ∈ lw_all := lw_g (lw_at lw_m1 73 rfl) rfl
theorem q182 : (Jvm.Cond.instanceMethod ({ cls := "MatrixPress$Field", name := "<init>", desc := "()V" } : Jvm.MethodName)) ∈ lw_all := lw_g (lw_at lw_m1 75 rfl) rfl
theorem q183 : (Jvm.Cond.code ({ cls := "MatrixPress$Field", name := "<init>", desc := "()V" } : Jvm.MethodName) prog_6_method_1_code (3 : Nat) (Option.none : Option Jvm.ClassFile.FieldType)) ∈ lw_all := lw_g (lw_at lw_m1 76 rfl) rfl
theorem q184 : (Jvm.Cond.methodLink "MatrixPress$Field" (3 : Nat) ({ cls := "java/lang/Object", name := "<init>", desc := "()V" } : Jvm.MethodName)) ∈ lw_all := lw_g (lw_at lw_m1 77 rfl) rfl
theorem q185 : (Jvm.Cond.fieldLink "MatrixPress$Field" (9 : Nat) "MatrixPress$Field" "power" "[I") ∈ lw_all := lw_g (lw_at lw_m1 78 rfl) rfl
theorem q186 : (Jvm.Cond.fieldLink "MatrixPress$Field" (15 : Nat) "MatrixPress$Field" "log" "[I") ∈ lw_all := lw_g (lw_at lw_m1 79 rfl) rfl
theorem q187 : (Jvm.Cond.fieldLink "MatrixPress$Field" (18 : Nat) "MatrixPress$Field" "generator" "[I") ∈ lw_all := lw_g (lw_at lw_m1 80 rfl) rfl
theorem q188 : (Jvm.Cond.fieldLink "MatrixPress$Field" (21 : Nat) "MatrixPress$Field" "word" "[I") ∈ lw_all := lw_g (lw_at lw_m1 81 rfl) rfl
theorem q190 : (Jvm.Cond.fieldLink "MatrixPress$Field" (24 : Nat) "MatrixPress$Field" "sums" "[I") ∈ lw_all := lw_g (lw_at lw_m1 83 rfl) rfl
theorem q191 : (Jvm.Cond.fieldLink "MatrixPress$Field" (27 : Nat) "MatrixPress$Field" "near" "[I") ∈ lw_all := lw_g (lw_at lw_m1 84 rfl) rfl
theorem q192 : (Jvm.Cond.fieldLink "MatrixPress$Field" (30 : Nat) "MatrixPress$Field" "old" "[I") ∈ lw_all := lw_g (lw_at lw_m1 85 rfl) rfl
theorem q193 : (Jvm.Cond.fieldLink "MatrixPress$Field" (33 : Nat) "MatrixPress$Field" "spare" "[I") ∈ lw_all := lw_g (lw_at lw_m1 86 rfl) rfl
theorem q194 : (Jvm.Cond.fieldLink "MatrixPress$Field" (36 : Nat) "MatrixPress$Field" "value" "[I") ∈ lw_all := lw_g (lw_at lw_m1 87 rfl) rfl
theorem q195 : (Jvm.Cond.laysFinal "MatrixPress$Field" "MatrixPress$Field" "power" "[I") ∈ lw_all := lw_g (lw_at lw_m1 88 rfl) rfl
theorem q196 : (Jvm.Cond.soleField "MatrixPress$Field" "power") ∈ lw_all := lw_g (lw_at lw_m1 89 rfl) rfl
theorem q197 : (Jvm.Cond.laysFinal "MatrixPress$Field" "MatrixPress$Field" "log" "[I") ∈ lw_all := lw_g (lw_at lw_m1 90 rfl) rfl
theorem q198 : (Jvm.Cond.soleField "MatrixPress$Field" "log") ∈ lw_all := lw_g (lw_at lw_m1 91 rfl) rfl
theorem q199 : (Jvm.Cond.laysFinal "MatrixPress$Field" "MatrixPress$Field" "generator" "[I") ∈ lw_all := lw_g (lw_at lw_m1 92 rfl) rfl
theorem q200 : (Jvm.Cond.soleField "MatrixPress$Field" "generator") ∈ lw_all := lw_g (lw_at lw_m1 93 rfl) rfl
theorem q201 : (Jvm.Cond.laysFinal "MatrixPress$Field" "MatrixPress$Field" "word" "[I") ∈ lw_all := lw_g (lw_at lw_m1 94 rfl) rfl
theorem q202 : (Jvm.Cond.soleField "MatrixPress$Field" "word") ∈ lw_all := lw_g (lw_at lw_m1 95 rfl) rfl
theorem q203 : (Jvm.Cond.laysFinal "MatrixPress$Field" "MatrixPress$Field" "sums" "[I") ∈ lw_all := lw_g (lw_at lw_m1 96 rfl) rfl
theorem q204 : (Jvm.Cond.soleField "MatrixPress$Field" "sums") ∈ lw_all := lw_g (lw_at lw_m1 97 rfl) rfl
theorem q205 : (Jvm.Cond.laysFinal "MatrixPress$Field" "MatrixPress$Field" "near" "[I") ∈ lw_all := lw_g (lw_at lw_m1 98 rfl) rfl
theorem q206 : (Jvm.Cond.soleField "MatrixPress$Field" "near") ∈ lw_all := lw_g (lw_at lw_m1 99 rfl) rfl
theorem q207 : (Jvm.Cond.laysFinal "MatrixPress$Field" "MatrixPress$Field" "old" "[I") ∈ lw_all := lw_g (lw_at lw_m1 100 rfl) rfl
theorem q208 : (Jvm.Cond.soleField "MatrixPress$Field" "old") ∈ lw_all := lw_g (lw_at lw_m1 101 rfl) rfl
theorem q209 : (Jvm.Cond.laysFinal "MatrixPress$Field" "MatrixPress$Field" "spare" "[I") ∈ lw_all := lw_g (lw_at lw_m1 102 rfl) rfl
theorem q210 : (Jvm.Cond.soleField "MatrixPress$Field" "spare") ∈ lw_all := lw_g (lw_at lw_m1 103 rfl) rfl
theorem q211 : (Jvm.Cond.laysFinal "MatrixPress$Field" "MatrixPress$Field" "value" "[I") ∈ lw_all := lw_g (lw_at lw_m1 104 rfl) rfl
theorem q212 : (Jvm.Cond.soleField "MatrixPress$Field" "value") ∈ lw_all := lw_g (lw_at lw_m1 105 rfl) rfl
theorem q213 : (Jvm.Cond.superclass "MatrixPress$Field" "java/lang/Object") ∈ lw_all := lw_g (lw_at lw_m1 106 rfl) rfl
theorem q406 : (Jvm.Cond.selects "MatrixPress$Field" ({ cls := "java/lang/Object", name := "getClass", desc := "()Ljava/lang/Class;" } : Jvm.MethodName) ({ cls := "java/lang/Object", name := "getClass", desc := "()Ljava/lang/Class;" } : Jvm.MethodName)) ∈ lw_all := lw_g (lw_at lw_m2 59 rfl) rfl
theorem q922 : (Jvm.Cond.instanceMethod ({ cls := "MatrixPress$Field", name := "check", desc := "(II)V" } : Jvm.MethodName)) ∈ lw_all := lw_g (lw_at lw_m4 95 rfl) rfl
theorem q923 : (Jvm.Cond.selects "MatrixPress$Field" ({ cls := "MatrixPress$Field", name := "check", desc := "(II)V" } : Jvm.MethodName) ({ cls := "MatrixPress$Field", name := "check", desc := "(II)V" } : Jvm.MethodName)) ∈ lw_all := lw_g (lw_at lw_m4 96 rfl) rfl
theorem q924 : (Jvm.Cond.code ({ cls := "MatrixPress$Field", name := "check", desc := "(II)V" } : Jvm.MethodName) prog_6_method_4_code (6 : Nat) (Option.none : Option Jvm.ClassFile.FieldType)) ∈ lw_all := lw_g (lw_at lw_m4 97 rfl) rfl
theorem q925 : (Jvm.Cond.methodLink "MatrixPress$Field" (39 : Nat) ({ cls := "MatrixPress$Field", name := "times", desc := "(II)I" } : Jvm.MethodName)) ∈ lw_all := lw_g (lw_at lw_m4 98 rfl) rfl
theorem q926 : (Jvm.Cond.privateMethod ({ cls := "MatrixPress$Field", name := "times", desc := "(II)I" } : Jvm.MethodName)) ∈ lw_tbl := lw_at lw_m4 99 rfl
theorem q927 : (Jvm.Cond.instanceMethod ({ cls := "MatrixPress$Field", name := "times", desc := "(II)I" } : Jvm.MethodName)) ∈ lw_all := lw_g (lw_at lw_m4 100 rfl) rfl
theorem q928 : (Jvm.Cond.code ({ cls := "MatrixPress$Field", name := "times", desc := "(II)I" } : Jvm.MethodName) prog_6_method_2_code (3 : Nat) (Option.some Jvm.ClassFile.FieldType.int)) ∈ lw_all := lw_g (lw_at lw_m4 101 rfl) rfl
theorem q1116 : (Jvm.Cond.instanceMethod ({ cls := "MatrixPress$Field", name := "mend", desc := "(II)I" } : Jvm.MethodName)) ∈ lw_all := lw_g (lw_at lw_m5 49 rfl) rfl
theorem q1117 : (Jvm.Cond.selects "MatrixPress$Field" ({ cls := "MatrixPress$Field", name := "mend", desc := "(II)I" } : Jvm.MethodName) ({ cls := "MatrixPress$Field", name := "mend", desc := "(II)I" } : Jvm.MethodName)) ∈ lw_all := lw_g (lw_at lw_m5 50 rfl) rfl
theorem q1118 : (Jvm.Cond.code ({ cls := "MatrixPress$Field", name := "mend", desc := "(II)I" } : Jvm.MethodName) prog_6_method_6_code (9 : Nat) (Option.some Jvm.ClassFile.FieldType.int)) ∈ lw_all := lw_g (lw_at lw_m5 51 rfl) rfl
theorem q1119 : (Jvm.Cond.methodLink "MatrixPress$Field" (43 : Nat) ({ cls := "MatrixPress$Field", name := "isRight", desc := "(II)Z" } : Jvm.MethodName)) ∈ lw_all := lw_g (lw_at lw_m5 52 rfl) rfl
theorem q1120 : (Jvm.Cond.privateMethod ({ cls := "MatrixPress$Field", name := "isRight", desc := "(II)Z" } : Jvm.MethodName)) ∈ lw_tbl := lw_at lw_m5 53 rfl
theorem q1121 : (Jvm.Cond.instanceMethod ({ cls := "MatrixPress$Field", name := "isRight", desc := "(II)Z" } : Jvm.MethodName)) ∈ lw_all := lw_g (lw_at lw_m5 54 rfl) rfl
theorem q1122 : (Jvm.Cond.code ({ cls := "MatrixPress$Field", name := "isRight", desc := "(II)Z" } : Jvm.MethodName) prog_6_method_5_code (7 : Nat) (Option.some Jvm.ClassFile.FieldType.boolean)) ∈ lw_all := lw_g (lw_at lw_m5 55 rfl) rfl
theorem q1123 : (Jvm.Cond.methodLink "MatrixPress$Field" (47 : Nat) ({ cls := "MatrixPress$Field", name := "locator", desc := "(I)I" } : Jvm.MethodName)) ∈ lw_all := lw_g (lw_at lw_m5 56 rfl) rfl
theorem q1124 : (Jvm.Cond.privateMethod ({ cls := "MatrixPress$Field", name := "locator", desc := "(I)I" } : Jvm.MethodName)) ∈ lw_tbl := lw_at lw_m5 57 rfl
theorem q1125 : (Jvm.Cond.instanceMethod ({ cls := "MatrixPress$Field", name := "locator", desc := "(I)I" } : Jvm.MethodName)) ∈ lw_all := lw_g (lw_at lw_m5 58 rfl) rfl
theorem q1126 : (Jvm.Cond.code ({ cls := "MatrixPress$Field", name := "locator", desc := "(I)I" } : Jvm.MethodName) prog_6_method_7_code (10 : Nat) (Option.some Jvm.ClassFile.FieldType.int)) ∈ lw_all := lw_g (lw_at lw_m5 59 rfl) rfl
theorem q1127 : (Jvm.Cond.methodLink "MatrixPress$Field" (54 : Nat) ({ cls := "MatrixPress$Field", name := "over", desc := "(II)I" } : Jvm.MethodName)) ∈ lw_all := lw_g (lw_at lw_m5 60 rfl) rfl
theorem q1128 : (Jvm.Cond.privateMethod ({ cls := "MatrixPress$Field", name := "over", desc := "(II)I" } : Jvm.MethodName)) ∈ lw_tbl := lw_at lw_m5 61 rfl
theorem q1129 : (Jvm.Cond.instanceMethod ({ cls := "MatrixPress$Field", name := "over", desc := "(II)I" } : Jvm.MethodName)) ∈ lw_all := lw_g (lw_at lw_m5 62 rfl) rfl
theorem q1130 : (Jvm.Cond.code ({ cls := "MatrixPress$Field", name := "over", desc := "(II)I" } : Jvm.MethodName) prog_6_method_3_code (3 : Nat) (Option.some Jvm.ClassFile.FieldType.int)) ∈ lw_all := lw_g (lw_at lw_m5 63 rfl) rfl
theorem q1131 : (Jvm.Cond.methodLink "MatrixPress$Field" (51 : Nat) ({ cls := "MatrixPress$Field", name := "error", desc := "(II)I" } : Jvm.MethodName)) ∈ lw_all := lw_g (lw_at lw_m5 64 rfl) rfl
theorem q1132 : (Jvm.Cond.privateMethod ({ cls := "MatrixPress$Field", name := "error", desc := "(II)I" } : Jvm.MethodName)) ∈ lw_tbl := lw_at lw_m5 65 rfl
theorem q1133 : (Jvm.Cond.instanceMethod ({ cls := "MatrixPress$Field", name := "error", desc := "(II)I" } : Jvm.MethodName)) ∈ lw_all := lw_g (lw_at lw_m5 66 rfl) rfl
theorem q1134 : (Jvm.Cond.code ({ cls := "MatrixPress$Field", name := "error", desc := "(II)I" } : Jvm.MethodName) prog_6_method_8_code (8 : Nat) (Option.some Jvm.ClassFile.FieldType.int)) ∈ lw_all := lw_g (lw_at lw_m5 67 rfl) rfl
theorem q1747 : (Jvm.Cond.castable "MatrixPress$Field" "java/lang/Object") ∈ lw_tbl := lw_at lw_m7 200 rfl
theorem in_X3 : ∀ w ∈ wsX30, w ∈ lw_all := lw_in wsX30 [195, 197, 199, 201, 203, 205, 207, 209, 211] (by decide +kernel) (by decide +kernel)
/-! MatrixPress$Stream -/
set_option maxRecDepth 100000
def RX4 : String := "MatrixPress$Stream"
def TX4 : u_T := fun k => match k with
  | 0 => ("MatrixPress$Stream", "code", "[I", true)
  | 1 => ("MatrixPress$Stream", "told", "[B", true)
  | 2 => ("MatrixPress$Stream", "size", "I", false)
  | 3 => ("MatrixPress$Stream", "at", "I", false)
  | _ => ("MatrixPress$Stream", "many", "I", false)
def tyX4 : Nat → FieldType := fun k => match k with
  | 0 => .array .int
  | 1 => .array .byte
  | 2 => .int
  | 3 => .int
  | _ => .int
abbrev wsX40 : List Cond := u_ws RX4 TX4 5
theorem nmX4 : ∀ a, a < 5 → ∀ b, b < 5 → a ≠ b → (TX4 a).2.1 ≠ (TX4 b).2.1 := by decide +kernel
theorem tyX4_ok : ∀ k, k < 5 → parseFieldDescriptor (TX4 k).2.2.1 = some (tyX4 k) := by decide +kernel
abbrev cX4_init : ByteArray := prog_11_method_1_code
def yX4_init : MethodName := ⟨RX4, "<init>", "()V"⟩
def dkwX4_init_0 : List UInt8 := [42, 183, 0, 3, 42, 17, 8, 130, 188, 10, 181, 0, 9, 42, 17, 12, 128, 188, 8, 181, 0, 15, 177]
abbrev dktX4_init_0 : List UInt8 := dkwX4_init_0 ++ []
theorem dksX4_init_0 : cX4_init.data.toList.drop 0 = dktX4_init_0 := by decide +kernel
theorem dX4_init_0 : decode cX4_init 0 = .ok (.aload_n 0, 1) := dk_42 (dk_at dksX4_init_0 0 rfl rfl)
theorem dX4_init_1 : decode cX4_init 1 = .ok (.invokespecial 3, 3) := dk_183 0 3 (dk_at dksX4_init_0 1 rfl rfl)
theorem dX4_init_4 : decode cX4_init 4 = .ok (.aload_n 0, 1) := dk_42 (dk_at dksX4_init_0 4 rfl rfl)
theorem dX4_init_5 : decode cX4_init 5 = .ok (.sipush 2178, 3) := dk_17 8 130 (dk_at dksX4_init_0 5 rfl rfl)
theorem dX4_init_8 : decode cX4_init 8 = .ok (.newarray .int, 2) := dk_188_10 (dk_at dksX4_init_0 8 rfl rfl)
theorem dX4_init_10 : decode cX4_init 10 = .ok (.putfield 9, 3) := dk_181 0 9 (dk_at dksX4_init_0 10 rfl rfl)
theorem dX4_init_13 : decode cX4_init 13 = .ok (.aload_n 0, 1) := dk_42 (dk_at dksX4_init_0 13 rfl rfl)
theorem dX4_init_14 : decode cX4_init 14 = .ok (.sipush 3200, 3) := dk_17 12 128 (dk_at dksX4_init_0 14 rfl rfl)
theorem dX4_init_17 : decode cX4_init 17 = .ok (.newarray .byte, 2) := dk_188_8 (dk_at dksX4_init_0 17 rfl rfl)
theorem dX4_init_19 : decode cX4_init 19 = .ok (.putfield 15, 3) := dk_181 0 15 (dk_at dksX4_init_0 19 rfl rfl)
theorem dX4_init_22 : decode cX4_init 22 = .ok (.return_, 1) := dk_177 (dk_at dksX4_init_0 22 rfl rfl)
abbrev cX4_begin : ByteArray := prog_11_method_2_code
def yX4_begin : MethodName := ⟨RX4, "begin", "(I)V"⟩
def dkwX4_begin_0 : List UInt8 := [42, 27, 181, 0, 19, 42, 3, 181, 0, 23, 42, 3, 181, 0, 26, 177]
abbrev dktX4_begin_0 : List UInt8 := dkwX4_begin_0 ++ []
theorem dksX4_begin_0 : cX4_begin.data.toList.drop 0 = dktX4_begin_0 := by decide +kernel
theorem dX4_begin_0 : decode cX4_begin 0 = .ok (.aload_n 0, 1) := dk_42 (dk_at dksX4_begin_0 0 rfl rfl)
theorem dX4_begin_1 : decode cX4_begin 1 = .ok (.iload_n 1, 1) := dk_27 (dk_at dksX4_begin_0 1 rfl rfl)
theorem dX4_begin_2 : decode cX4_begin 2 = .ok (.putfield 19, 3) := dk_181 0 19 (dk_at dksX4_begin_0 2 rfl rfl)
theorem dX4_begin_5 : decode cX4_begin 5 = .ok (.aload_n 0, 1) := dk_42 (dk_at dksX4_begin_0 5 rfl rfl)
theorem dX4_begin_6 : decode cX4_begin 6 = .ok (.iconst 0, 1) := dk_3 (dk_at dksX4_begin_0 6 rfl rfl)
theorem dX4_begin_7 : decode cX4_begin 7 = .ok (.putfield 23, 3) := dk_181 0 23 (dk_at dksX4_begin_0 7 rfl rfl)
theorem dX4_begin_10 : decode cX4_begin 10 = .ok (.aload_n 0, 1) := dk_42 (dk_at dksX4_begin_0 10 rfl rfl)
theorem dX4_begin_11 : decode cX4_begin 11 = .ok (.iconst 0, 1) := dk_3 (dk_at dksX4_begin_0 11 rfl rfl)
theorem dX4_begin_12 : decode cX4_begin 12 = .ok (.putfield 26, 3) := dk_181 0 26 (dk_at dksX4_begin_0 12 rfl rfl)
theorem dX4_begin_15 : decode cX4_begin 15 = .ok (.return_, 1) := dk_177 (dk_at dksX4_begin_0 15 rfl rfl)
abbrev cX4_put : ByteArray := prog_11_method_6_code
def yX4_put : MethodName := ⟨RX4, "put", "(I)V"⟩
def dkwX4_put_0 : List UInt8 := [42, 180, 0, 9, 42, 89, 180, 0, 23, 90, 4, 96, 181, 0, 23, 27, 79, 177]
abbrev dktX4_put_0 : List UInt8 := dkwX4_put_0 ++ []
theorem dksX4_put_0 : cX4_put.data.toList.drop 0 = dktX4_put_0 := by decide +kernel
theorem dX4_put_0 : decode cX4_put 0 = .ok (.aload_n 0, 1) := dk_42 (dk_at dksX4_put_0 0 rfl rfl)
theorem dX4_put_1 : decode cX4_put 1 = .ok (.getfield 9, 3) := dk_180 0 9 (dk_at dksX4_put_0 1 rfl rfl)
theorem dX4_put_4 : decode cX4_put 4 = .ok (.aload_n 0, 1) := dk_42 (dk_at dksX4_put_0 4 rfl rfl)
theorem dX4_put_5 : decode cX4_put 5 = .ok (.dup, 1) := dk_89 (dk_at dksX4_put_0 5 rfl rfl)
theorem dX4_put_6 : decode cX4_put 6 = .ok (.getfield 23, 3) := dk_180 0 23 (dk_at dksX4_put_0 6 rfl rfl)
theorem dX4_put_9 : decode cX4_put 9 = .ok (.dup_x1, 1) := dk_90 (dk_at dksX4_put_0 9 rfl rfl)
theorem dX4_put_10 : decode cX4_put 10 = .ok (.iconst 1, 1) := dk_4 (dk_at dksX4_put_0 10 rfl rfl)
theorem dX4_put_11 : decode cX4_put 11 = .ok (.iadd, 1) := dk_96 (dk_at dksX4_put_0 11 rfl rfl)
theorem dX4_put_12 : decode cX4_put 12 = .ok (.putfield 23, 3) := dk_181 0 23 (dk_at dksX4_put_0 12 rfl rfl)
theorem dX4_put_15 : decode cX4_put 15 = .ok (.iload_n 1, 1) := dk_27 (dk_at dksX4_put_0 15 rfl rfl)
theorem dX4_put_16 : decode cX4_put 16 = .ok (.iastore, 1) := dk_79 (dk_at dksX4_put_0 16 rfl rfl)
theorem dX4_put_17 : decode cX4_put 17 = .ok (.return_, 1) := dk_177 (dk_at dksX4_put_0 17 rfl rfl)
abbrev cX4_pads : ByteArray := prog_11_method_8_code
def yX4_pads : MethodName := ⟨RX4, "pads", "()V"⟩
def dkwX4_pads_1 : List UInt8 := [167, 255, 232, 177]
abbrev dktX4_pads_1 : List UInt8 := dkwX4_pads_1 ++ []
def dkwX4_pads_0 : List UInt8 := [42, 180, 0, 23, 42, 180, 0, 19, 162, 0, 19, 42, 42, 180, 0, 23, 4, 96, 184, 0, 32, 182, 0, 36]
abbrev dktX4_pads_0 : List UInt8 := dkwX4_pads_0 ++ dktX4_pads_1
theorem dksX4_pads_0 : cX4_pads.data.toList.drop 0 = dktX4_pads_0 := by decide +kernel
theorem dksX4_pads_1 : cX4_pads.data.toList.drop 24 = dktX4_pads_1 := dk_seg dksX4_pads_0 24 rfl rfl
theorem dX4_pads_0 : decode cX4_pads 0 = .ok (.aload_n 0, 1) := dk_42 (dk_at dksX4_pads_0 0 rfl rfl)
theorem dX4_pads_1 : decode cX4_pads 1 = .ok (.getfield 23, 3) := dk_180 0 23 (dk_at dksX4_pads_0 1 rfl rfl)
theorem dX4_pads_4 : decode cX4_pads 4 = .ok (.aload_n 0, 1) := dk_42 (dk_at dksX4_pads_0 4 rfl rfl)
theorem dX4_pads_5 : decode cX4_pads 5 = .ok (.getfield 19, 3) := dk_180 0 19 (dk_at dksX4_pads_0 5 rfl rfl)
theorem dX4_pads_8 : decode cX4_pads 8 = .ok (.if_icmp .ge 19, 3) := dk_162 0 19 (dk_at dksX4_pads_0 8 rfl rfl)
theorem dX4_pads_11 : decode cX4_pads 11 = .ok (.aload_n 0, 1) := dk_42 (dk_at dksX4_pads_0 11 rfl rfl)
theorem dX4_pads_12 : decode cX4_pads 12 = .ok (.aload_n 0, 1) := dk_42 (dk_at dksX4_pads_0 12 rfl rfl)
theorem dX4_pads_13 : decode cX4_pads 13 = .ok (.getfield 23, 3) := dk_180 0 23 (dk_at dksX4_pads_0 13 rfl rfl)
theorem dX4_pads_16 : decode cX4_pads 16 = .ok (.iconst 1, 1) := dk_4 (dk_at dksX4_pads_0 16 rfl rfl)
theorem dX4_pads_17 : decode cX4_pads 17 = .ok (.iadd, 1) := dk_96 (dk_at dksX4_pads_0 17 rfl rfl)
theorem dX4_pads_18 : decode cX4_pads 18 = .ok (.invokestatic 32, 3) := dk_184 0 32 (dk_at dksX4_pads_0 18 rfl rfl)
theorem dX4_pads_21 : decode cX4_pads 21 = .ok (.invokevirtual 36, 3) := dk_182 0 36 (dk_at dksX4_pads_0 21 rfl rfl)
theorem dX4_pads_24 : decode cX4_pads 24 = .ok (.goto (-24), 3) := dk_167 255 232 (dk_at dksX4_pads_1 0 rfl rfl)
theorem dX4_pads_27 : decode cX4_pads 27 = .ok (.return_, 1) := dk_177 (dk_at dksX4_pads_1 3 rfl rfl)
abbrev cX4_pad : ByteArray := prog_11_method_7_code
def yX4_pad : MethodName := ⟨RX4, "pad", "(I)I"⟩
def dkwX4_pad_1 : List UInt8 := [17, 0, 254, 100, 167, 0, 4, 27, 172]
abbrev dktX4_pad_1 : List UInt8 := dkwX4_pad_1 ++ []
def dkwX4_pad_0 : List UInt8 := [17, 0, 130, 17, 0, 149, 26, 104, 17, 0, 253, 112, 96, 60, 27, 17, 0, 254, 164, 0, 11, 27]
abbrev dktX4_pad_0 : List UInt8 := dkwX4_pad_0 ++ dktX4_pad_1
theorem dksX4_pad_0 : cX4_pad.data.toList.drop 0 = dktX4_pad_0 := by decide +kernel
theorem dksX4_pad_1 : cX4_pad.data.toList.drop 22 = dktX4_pad_1 := dk_seg dksX4_pad_0 22 rfl rfl
theorem dX4_pad_0 : decode cX4_pad 0 = .ok (.sipush 130, 3) := dk_17 0 130 (dk_at dksX4_pad_0 0 rfl rfl)
theorem dX4_pad_3 : decode cX4_pad 3 = .ok (.sipush 149, 3) := dk_17 0 149 (dk_at dksX4_pad_0 3 rfl rfl)
theorem dX4_pad_6 : decode cX4_pad 6 = .ok (.iload_n 0, 1) := dk_26 (dk_at dksX4_pad_0 6 rfl rfl)
theorem dX4_pad_7 : decode cX4_pad 7 = .ok (.imul, 1) := dk_104 (dk_at dksX4_pad_0 7 rfl rfl)
theorem dX4_pad_8 : decode cX4_pad 8 = .ok (.sipush 253, 3) := dk_17 0 253 (dk_at dksX4_pad_0 8 rfl rfl)
theorem dX4_pad_11 : decode cX4_pad 11 = .ok (.irem, 1) := dk_112 (dk_at dksX4_pad_0 11 rfl rfl)
theorem dX4_pad_12 : decode cX4_pad 12 = .ok (.iadd, 1) := dk_96 (dk_at dksX4_pad_0 12 rfl rfl)
theorem dX4_pad_13 : decode cX4_pad 13 = .ok (.istore_n 1, 1) := dk_60 (dk_at dksX4_pad_0 13 rfl rfl)
theorem dX4_pad_14 : decode cX4_pad 14 = .ok (.iload_n 1, 1) := dk_27 (dk_at dksX4_pad_0 14 rfl rfl)
theorem dX4_pad_15 : decode cX4_pad 15 = .ok (.sipush 254, 3) := dk_17 0 254 (dk_at dksX4_pad_0 15 rfl rfl)
theorem dX4_pad_18 : decode cX4_pad 18 = .ok (.if_icmp .le 11, 3) := dk_164 0 11 (dk_at dksX4_pad_0 18 rfl rfl)
theorem dX4_pad_21 : decode cX4_pad 21 = .ok (.iload_n 1, 1) := dk_27 (dk_at dksX4_pad_0 21 rfl rfl)
theorem dX4_pad_22 : decode cX4_pad 22 = .ok (.sipush 254, 3) := dk_17 0 254 (dk_at dksX4_pad_1 0 rfl rfl)
theorem dX4_pad_25 : decode cX4_pad 25 = .ok (.isub, 1) := dk_100 (dk_at dksX4_pad_1 3 rfl rfl)
theorem dX4_pad_26 : decode cX4_pad 26 = .ok (.goto 4, 3) := dk_167 0 4 (dk_at dksX4_pad_1 4 rfl rfl)
theorem dX4_pad_29 : decode cX4_pad 29 = .ok (.iload_n 1, 1) := dk_27 (dk_at dksX4_pad_1 7 rfl rfl)
theorem dX4_pad_30 : decode cX4_pad 30 = .ok (.ireturn, 1) := dk_172 (dk_at dksX4_pad_1 8 rfl rfl)
abbrev cX4_read : ByteArray := prog_11_method_9_code
def yX4_read : MethodName := ⟨RX4, "read", "(Ljava/util/ArrayList;)V"⟩
def dkwX4_read_7 : List UInt8 := [42, 29, 16, 127, 96, 182, 0, 44, 167, 0, 12, 43, 28, 184, 0, 47, 42, 182, 0, 51, 167, 255, 72, 177]
abbrev dktX4_read_7 : List UInt8 := dkwX4_read_7 ++ []
def dkwX4_read_6 : List UInt8 := [182, 0, 40, 62, 29, 4, 161, 0, 10, 29, 17, 0, 128, 164, 0, 11, 187, 0, 29, 89, 183, 0, 31, 191]
abbrev dktX4_read_6 : List UInt8 := dkwX4_read_6 ++ dktX4_read_7
def dkwX4_read_5 : List UInt8 := [17, 0, 130, 100, 16, 10, 112, 96, 182, 0, 44, 167, 0, 55, 28, 17, 0, 235, 160, 0, 39, 42]
abbrev dktX4_read_5 : List UInt8 := dkwX4_read_5 ++ dktX4_read_6
def dkwX4_read_4 : List UInt8 := [163, 0, 36, 42, 16, 48, 28, 17, 0, 130, 100, 16, 10, 108, 96, 182, 0, 44, 42, 16, 48, 28]
abbrev dktX4_read_4 : List UInt8 := dkwX4_read_4 ++ dktX4_read_5
def dkwX4_read_3 : List UInt8 := [163, 0, 13, 42, 28, 4, 100, 182, 0, 44, 167, 0, 102, 28, 17, 0, 130, 161, 0, 43, 28, 17, 0, 229]
abbrev dktX4_read_3 : List UInt8 := dkwX4_read_3 ++ dktX4_read_4
def dkwX4_read_2 : List UInt8 := [29, 159, 0, 11, 187, 0, 29, 89, 183, 0, 31, 191, 167, 255, 219, 28, 4, 161, 0, 20, 28, 17, 0, 128]
abbrev dktX4_read_2 : List UInt8 := dkwX4_read_2 ++ dktX4_read_3
def dkwX4_read_1 : List UInt8 := [180, 0, 23, 42, 180, 0, 19, 162, 0, 153, 42, 180, 0, 23, 4, 96, 184, 0, 32, 62, 42, 182, 0, 40]
abbrev dktX4_read_1 : List UInt8 := dkwX4_read_1 ++ dktX4_read_2
def dkwX4_read_0 : List UInt8 := [42, 180, 0, 23, 42, 180, 0, 19, 162, 0, 179, 42, 182, 0, 40, 61, 28, 17, 0, 129, 160, 0, 43, 42]
abbrev dktX4_read_0 : List UInt8 := dkwX4_read_0 ++ dktX4_read_1
theorem dksX4_read_0 : cX4_read.data.toList.drop 0 = dktX4_read_0 := by decide +kernel
theorem dksX4_read_1 : cX4_read.data.toList.drop 24 = dktX4_read_1 := dk_seg dksX4_read_0 24 rfl rfl
theorem dksX4_read_2 : cX4_read.data.toList.drop 48 = dktX4_read_2 := dk_seg dksX4_read_1 24 rfl rfl
theorem dksX4_read_3 : cX4_read.data.toList.drop 72 = dktX4_read_3 := dk_seg dksX4_read_2 24 rfl rfl
theorem dksX4_read_4 : cX4_read.data.toList.drop 96 = dktX4_read_4 := dk_seg dksX4_read_3 24 rfl rfl
theorem dksX4_read_5 : cX4_read.data.toList.drop 118 = dktX4_read_5 := dk_seg dksX4_read_4 22 rfl rfl
theorem dksX4_read_6 : cX4_read.data.toList.drop 140 = dktX4_read_6 := dk_seg dksX4_read_5 22 rfl rfl
theorem dksX4_read_7 : cX4_read.data.toList.drop 164 = dktX4_read_7 := dk_seg dksX4_read_6 24 rfl rfl
theorem dX4_read_0 : decode cX4_read 0 = .ok (.aload_n 0, 1) := dk_42 (dk_at dksX4_read_0 0 rfl rfl)
theorem dX4_read_1 : decode cX4_read 1 = .ok (.getfield 23, 3) := dk_180 0 23 (dk_at dksX4_read_0 1 rfl rfl)
theorem dX4_read_4 : decode cX4_read 4 = .ok (.aload_n 0, 1) := dk_42 (dk_at dksX4_read_0 4 rfl rfl)
theorem dX4_read_5 : decode cX4_read 5 = .ok (.getfield 19, 3) := dk_180 0 19 (dk_at dksX4_read_0 5 rfl rfl)
theorem dX4_read_8 : decode cX4_read 8 = .ok (.if_icmp .ge 179, 3) := dk_162 0 179 (dk_at dksX4_read_0 8 rfl rfl)
theorem dX4_read_11 : decode cX4_read 11 = .ok (.aload_n 0, 1) := dk_42 (dk_at dksX4_read_0 11 rfl rfl)
theorem dX4_read_12 : decode cX4_read 12 = .ok (.invokevirtual 40, 3) := dk_182 0 40 (dk_at dksX4_read_0 12 rfl rfl)
theorem dX4_read_15 : decode cX4_read 15 = .ok (.istore_n 2, 1) := dk_61 (dk_at dksX4_read_0 15 rfl rfl)
theorem dX4_read_16 : decode cX4_read 16 = .ok (.iload_n 2, 1) := dk_28 (dk_at dksX4_read_0 16 rfl rfl)
theorem dX4_read_17 : decode cX4_read 17 = .ok (.sipush 129, 3) := dk_17 0 129 (dk_at dksX4_read_0 17 rfl rfl)
theorem dX4_read_20 : decode cX4_read 20 = .ok (.if_icmp .ne 43, 3) := dk_160 0 43 (dk_at dksX4_read_0 20 rfl rfl)
theorem dX4_read_23 : decode cX4_read 23 = .ok (.aload_n 0, 1) := dk_42 (dk_at dksX4_read_0 23 rfl rfl)
theorem dX4_read_24 : decode cX4_read 24 = .ok (.getfield 23, 3) := dk_180 0 23 (dk_at dksX4_read_1 0 rfl rfl)
theorem dX4_read_27 : decode cX4_read 27 = .ok (.aload_n 0, 1) := dk_42 (dk_at dksX4_read_1 3 rfl rfl)
theorem dX4_read_28 : decode cX4_read 28 = .ok (.getfield 19, 3) := dk_180 0 19 (dk_at dksX4_read_1 4 rfl rfl)
theorem dX4_read_31 : decode cX4_read 31 = .ok (.if_icmp .ge 153, 3) := dk_162 0 153 (dk_at dksX4_read_1 7 rfl rfl)
theorem dX4_read_34 : decode cX4_read 34 = .ok (.aload_n 0, 1) := dk_42 (dk_at dksX4_read_1 10 rfl rfl)
theorem dX4_read_35 : decode cX4_read 35 = .ok (.getfield 23, 3) := dk_180 0 23 (dk_at dksX4_read_1 11 rfl rfl)
theorem dX4_read_38 : decode cX4_read 38 = .ok (.iconst 1, 1) := dk_4 (dk_at dksX4_read_1 14 rfl rfl)
theorem dX4_read_39 : decode cX4_read 39 = .ok (.iadd, 1) := dk_96 (dk_at dksX4_read_1 15 rfl rfl)
theorem dX4_read_40 : decode cX4_read 40 = .ok (.invokestatic 32, 3) := dk_184 0 32 (dk_at dksX4_read_1 16 rfl rfl)
theorem dX4_read_43 : decode cX4_read 43 = .ok (.istore_n 3, 1) := dk_62 (dk_at dksX4_read_1 19 rfl rfl)
theorem dX4_read_44 : decode cX4_read 44 = .ok (.aload_n 0, 1) := dk_42 (dk_at dksX4_read_1 20 rfl rfl)
theorem dX4_read_45 : decode cX4_read 45 = .ok (.invokevirtual 40, 3) := dk_182 0 40 (dk_at dksX4_read_1 21 rfl rfl)
theorem dX4_read_48 : decode cX4_read 48 = .ok (.iload_n 3, 1) := dk_29 (dk_at dksX4_read_2 0 rfl rfl)
theorem dX4_read_49 : decode cX4_read 49 = .ok (.if_icmp .eq 11, 3) := dk_159 0 11 (dk_at dksX4_read_2 1 rfl rfl)
theorem dX4_read_52 : decode cX4_read 52 = .ok (.new 29, 3) := dk_187 0 29 (dk_at dksX4_read_2 4 rfl rfl)
theorem dX4_read_55 : decode cX4_read 55 = .ok (.dup, 1) := dk_89 (dk_at dksX4_read_2 7 rfl rfl)
theorem dX4_read_56 : decode cX4_read 56 = .ok (.invokespecial 31, 3) := dk_183 0 31 (dk_at dksX4_read_2 8 rfl rfl)
theorem dX4_read_59 : decode cX4_read 59 = .ok (.athrow, 1) := dk_191 (dk_at dksX4_read_2 11 rfl rfl)
theorem dX4_read_60 : decode cX4_read 60 = .ok (.goto (-37), 3) := dk_167 255 219 (dk_at dksX4_read_2 12 rfl rfl)
theorem dX4_read_63 : decode cX4_read 63 = .ok (.iload_n 2, 1) := dk_28 (dk_at dksX4_read_2 15 rfl rfl)
theorem dX4_read_64 : decode cX4_read 64 = .ok (.iconst 1, 1) := dk_4 (dk_at dksX4_read_2 16 rfl rfl)
theorem dX4_read_65 : decode cX4_read 65 = .ok (.if_icmp .lt 20, 3) := dk_161 0 20 (dk_at dksX4_read_2 17 rfl rfl)
theorem dX4_read_68 : decode cX4_read 68 = .ok (.iload_n 2, 1) := dk_28 (dk_at dksX4_read_2 20 rfl rfl)
theorem dX4_read_69 : decode cX4_read 69 = .ok (.sipush 128, 3) := dk_17 0 128 (dk_at dksX4_read_2 21 rfl rfl)
theorem dX4_read_72 : decode cX4_read 72 = .ok (.if_icmp .gt 13, 3) := dk_163 0 13 (dk_at dksX4_read_3 0 rfl rfl)
theorem dX4_read_75 : decode cX4_read 75 = .ok (.aload_n 0, 1) := dk_42 (dk_at dksX4_read_3 3 rfl rfl)
theorem dX4_read_76 : decode cX4_read 76 = .ok (.iload_n 2, 1) := dk_28 (dk_at dksX4_read_3 4 rfl rfl)
theorem dX4_read_77 : decode cX4_read 77 = .ok (.iconst 1, 1) := dk_4 (dk_at dksX4_read_3 5 rfl rfl)
theorem dX4_read_78 : decode cX4_read 78 = .ok (.isub, 1) := dk_100 (dk_at dksX4_read_3 6 rfl rfl)
theorem dX4_read_79 : decode cX4_read 79 = .ok (.invokevirtual 44, 3) := dk_182 0 44 (dk_at dksX4_read_3 7 rfl rfl)
theorem dX4_read_82 : decode cX4_read 82 = .ok (.goto 102, 3) := dk_167 0 102 (dk_at dksX4_read_3 10 rfl rfl)
theorem dX4_read_85 : decode cX4_read 85 = .ok (.iload_n 2, 1) := dk_28 (dk_at dksX4_read_3 13 rfl rfl)
theorem dX4_read_86 : decode cX4_read 86 = .ok (.sipush 130, 3) := dk_17 0 130 (dk_at dksX4_read_3 14 rfl rfl)
theorem dX4_read_89 : decode cX4_read 89 = .ok (.if_icmp .lt 43, 3) := dk_161 0 43 (dk_at dksX4_read_3 17 rfl rfl)
theorem dX4_read_92 : decode cX4_read 92 = .ok (.iload_n 2, 1) := dk_28 (dk_at dksX4_read_3 20 rfl rfl)
theorem dX4_read_93 : decode cX4_read 93 = .ok (.sipush 229, 3) := dk_17 0 229 (dk_at dksX4_read_3 21 rfl rfl)
theorem dX4_read_96 : decode cX4_read 96 = .ok (.if_icmp .gt 36, 3) := dk_163 0 36 (dk_at dksX4_read_4 0 rfl rfl)
theorem dX4_read_99 : decode cX4_read 99 = .ok (.aload_n 0, 1) := dk_42 (dk_at dksX4_read_4 3 rfl rfl)
theorem dX4_read_100 : decode cX4_read 100 = .ok (.bipush 48, 2) := dk_16 48 (dk_at dksX4_read_4 4 rfl rfl)
theorem dX4_read_102 : decode cX4_read 102 = .ok (.iload_n 2, 1) := dk_28 (dk_at dksX4_read_4 6 rfl rfl)
theorem dX4_read_103 : decode cX4_read 103 = .ok (.sipush 130, 3) := dk_17 0 130 (dk_at dksX4_read_4 7 rfl rfl)
theorem dX4_read_106 : decode cX4_read 106 = .ok (.isub, 1) := dk_100 (dk_at dksX4_read_4 10 rfl rfl)
theorem dX4_read_107 : decode cX4_read 107 = .ok (.bipush 10, 2) := dk_16 10 (dk_at dksX4_read_4 11 rfl rfl)
theorem dX4_read_109 : decode cX4_read 109 = .ok (.idiv, 1) := dk_108 (dk_at dksX4_read_4 13 rfl rfl)
theorem dX4_read_110 : decode cX4_read 110 = .ok (.iadd, 1) := dk_96 (dk_at dksX4_read_4 14 rfl rfl)
theorem dX4_read_111 : decode cX4_read 111 = .ok (.invokevirtual 44, 3) := dk_182 0 44 (dk_at dksX4_read_4 15 rfl rfl)
theorem dX4_read_114 : decode cX4_read 114 = .ok (.aload_n 0, 1) := dk_42 (dk_at dksX4_read_4 18 rfl rfl)
theorem dX4_read_115 : decode cX4_read 115 = .ok (.bipush 48, 2) := dk_16 48 (dk_at dksX4_read_4 19 rfl rfl)
theorem dX4_read_117 : decode cX4_read 117 = .ok (.iload_n 2, 1) := dk_28 (dk_at dksX4_read_4 21 rfl rfl)
theorem dX4_read_118 : decode cX4_read 118 = .ok (.sipush 130, 3) := dk_17 0 130 (dk_at dksX4_read_5 0 rfl rfl)
theorem dX4_read_121 : decode cX4_read 121 = .ok (.isub, 1) := dk_100 (dk_at dksX4_read_5 3 rfl rfl)
theorem dX4_read_122 : decode cX4_read 122 = .ok (.bipush 10, 2) := dk_16 10 (dk_at dksX4_read_5 4 rfl rfl)
theorem dX4_read_124 : decode cX4_read 124 = .ok (.irem, 1) := dk_112 (dk_at dksX4_read_5 6 rfl rfl)
theorem dX4_read_125 : decode cX4_read 125 = .ok (.iadd, 1) := dk_96 (dk_at dksX4_read_5 7 rfl rfl)
theorem dX4_read_126 : decode cX4_read 126 = .ok (.invokevirtual 44, 3) := dk_182 0 44 (dk_at dksX4_read_5 8 rfl rfl)
theorem dX4_read_129 : decode cX4_read 129 = .ok (.goto 55, 3) := dk_167 0 55 (dk_at dksX4_read_5 11 rfl rfl)
theorem dX4_read_132 : decode cX4_read 132 = .ok (.iload_n 2, 1) := dk_28 (dk_at dksX4_read_5 14 rfl rfl)
theorem dX4_read_133 : decode cX4_read 133 = .ok (.sipush 235, 3) := dk_17 0 235 (dk_at dksX4_read_5 15 rfl rfl)
theorem dX4_read_136 : decode cX4_read 136 = .ok (.if_icmp .ne 39, 3) := dk_160 0 39 (dk_at dksX4_read_5 18 rfl rfl)
theorem dX4_read_139 : decode cX4_read 139 = .ok (.aload_n 0, 1) := dk_42 (dk_at dksX4_read_5 21 rfl rfl)
theorem dX4_read_140 : decode cX4_read 140 = .ok (.invokevirtual 40, 3) := dk_182 0 40 (dk_at dksX4_read_6 0 rfl rfl)
theorem dX4_read_143 : decode cX4_read 143 = .ok (.istore_n 3, 1) := dk_62 (dk_at dksX4_read_6 3 rfl rfl)
theorem dX4_read_144 : decode cX4_read 144 = .ok (.iload_n 3, 1) := dk_29 (dk_at dksX4_read_6 4 rfl rfl)
theorem dX4_read_145 : decode cX4_read 145 = .ok (.iconst 1, 1) := dk_4 (dk_at dksX4_read_6 5 rfl rfl)
theorem dX4_read_146 : decode cX4_read 146 = .ok (.if_icmp .lt 10, 3) := dk_161 0 10 (dk_at dksX4_read_6 6 rfl rfl)
theorem dX4_read_149 : decode cX4_read 149 = .ok (.iload_n 3, 1) := dk_29 (dk_at dksX4_read_6 9 rfl rfl)
theorem dX4_read_150 : decode cX4_read 150 = .ok (.sipush 128, 3) := dk_17 0 128 (dk_at dksX4_read_6 10 rfl rfl)
theorem dX4_read_153 : decode cX4_read 153 = .ok (.if_icmp .le 11, 3) := dk_164 0 11 (dk_at dksX4_read_6 13 rfl rfl)
theorem dX4_read_156 : decode cX4_read 156 = .ok (.new 29, 3) := dk_187 0 29 (dk_at dksX4_read_6 16 rfl rfl)
theorem dX4_read_159 : decode cX4_read 159 = .ok (.dup, 1) := dk_89 (dk_at dksX4_read_6 19 rfl rfl)
theorem dX4_read_160 : decode cX4_read 160 = .ok (.invokespecial 31, 3) := dk_183 0 31 (dk_at dksX4_read_6 20 rfl rfl)
theorem dX4_read_163 : decode cX4_read 163 = .ok (.athrow, 1) := dk_191 (dk_at dksX4_read_6 23 rfl rfl)
theorem dX4_read_164 : decode cX4_read 164 = .ok (.aload_n 0, 1) := dk_42 (dk_at dksX4_read_7 0 rfl rfl)
theorem dX4_read_165 : decode cX4_read 165 = .ok (.iload_n 3, 1) := dk_29 (dk_at dksX4_read_7 1 rfl rfl)
theorem dX4_read_166 : decode cX4_read 166 = .ok (.bipush 127, 2) := dk_16 127 (dk_at dksX4_read_7 2 rfl rfl)
theorem dX4_read_168 : decode cX4_read 168 = .ok (.iadd, 1) := dk_96 (dk_at dksX4_read_7 4 rfl rfl)
theorem dX4_read_169 : decode cX4_read 169 = .ok (.invokevirtual 44, 3) := dk_182 0 44 (dk_at dksX4_read_7 5 rfl rfl)
theorem dX4_read_172 : decode cX4_read 172 = .ok (.goto 12, 3) := dk_167 0 12 (dk_at dksX4_read_7 8 rfl rfl)
theorem dX4_read_175 : decode cX4_read 175 = .ok (.aload_n 1, 1) := dk_43 (dk_at dksX4_read_7 11 rfl rfl)
theorem dX4_read_176 : decode cX4_read 176 = .ok (.iload_n 2, 1) := dk_28 (dk_at dksX4_read_7 12 rfl rfl)
theorem dX4_read_177 : decode cX4_read 177 = .ok (.invokestatic 47, 3) := dk_184 0 47 (dk_at dksX4_read_7 13 rfl rfl)
theorem dX4_read_180 : decode cX4_read 180 = .ok (.aload_n 0, 1) := dk_42 (dk_at dksX4_read_7 16 rfl rfl)
theorem dX4_read_181 : decode cX4_read 181 = .ok (.invokevirtual 51, 3) := dk_182 0 51 (dk_at dksX4_read_7 17 rfl rfl)
theorem dX4_read_184 : decode cX4_read 184 = .ok (.goto (-184), 3) := dk_167 255 72 (dk_at dksX4_read_7 20 rfl rfl)
theorem dX4_read_187 : decode cX4_read 187 = .ok (.return_, 1) := dk_177 (dk_at dksX4_read_7 23 rfl rfl)
abbrev cX4_next : ByteArray := prog_11_method_4_code
def yX4_next : MethodName := ⟨RX4, "next", "()I"⟩
def dkwX4_next_1 : List UInt8 := [89, 180, 0, 23, 90, 4, 96, 181, 0, 23, 46, 172]
abbrev dktX4_next_1 : List UInt8 := dkwX4_next_1 ++ []
def dkwX4_next_0 : List UInt8 := [42, 180, 0, 23, 42, 180, 0, 19, 160, 0, 11, 187, 0, 29, 89, 183, 0, 31, 191, 42, 180, 0, 9, 42]
abbrev dktX4_next_0 : List UInt8 := dkwX4_next_0 ++ dktX4_next_1
theorem dksX4_next_0 : cX4_next.data.toList.drop 0 = dktX4_next_0 := by decide +kernel
theorem dksX4_next_1 : cX4_next.data.toList.drop 24 = dktX4_next_1 := dk_seg dksX4_next_0 24 rfl rfl
theorem dX4_next_0 : decode cX4_next 0 = .ok (.aload_n 0, 1) := dk_42 (dk_at dksX4_next_0 0 rfl rfl)
theorem dX4_next_1 : decode cX4_next 1 = .ok (.getfield 23, 3) := dk_180 0 23 (dk_at dksX4_next_0 1 rfl rfl)
theorem dX4_next_4 : decode cX4_next 4 = .ok (.aload_n 0, 1) := dk_42 (dk_at dksX4_next_0 4 rfl rfl)
theorem dX4_next_5 : decode cX4_next 5 = .ok (.getfield 19, 3) := dk_180 0 19 (dk_at dksX4_next_0 5 rfl rfl)
theorem dX4_next_8 : decode cX4_next 8 = .ok (.if_icmp .ne 11, 3) := dk_160 0 11 (dk_at dksX4_next_0 8 rfl rfl)
theorem dX4_next_11 : decode cX4_next 11 = .ok (.new 29, 3) := dk_187 0 29 (dk_at dksX4_next_0 11 rfl rfl)
theorem dX4_next_14 : decode cX4_next 14 = .ok (.dup, 1) := dk_89 (dk_at dksX4_next_0 14 rfl rfl)
theorem dX4_next_15 : decode cX4_next 15 = .ok (.invokespecial 31, 3) := dk_183 0 31 (dk_at dksX4_next_0 15 rfl rfl)
theorem dX4_next_18 : decode cX4_next 18 = .ok (.athrow, 1) := dk_191 (dk_at dksX4_next_0 18 rfl rfl)
theorem dX4_next_19 : decode cX4_next 19 = .ok (.aload_n 0, 1) := dk_42 (dk_at dksX4_next_0 19 rfl rfl)
theorem dX4_next_20 : decode cX4_next 20 = .ok (.getfield 9, 3) := dk_180 0 9 (dk_at dksX4_next_0 20 rfl rfl)
theorem dX4_next_23 : decode cX4_next 23 = .ok (.aload_n 0, 1) := dk_42 (dk_at dksX4_next_0 23 rfl rfl)
theorem dX4_next_24 : decode cX4_next 24 = .ok (.dup, 1) := dk_89 (dk_at dksX4_next_1 0 rfl rfl)
theorem dX4_next_25 : decode cX4_next 25 = .ok (.getfield 23, 3) := dk_180 0 23 (dk_at dksX4_next_1 1 rfl rfl)
theorem dX4_next_28 : decode cX4_next 28 = .ok (.dup_x1, 1) := dk_90 (dk_at dksX4_next_1 4 rfl rfl)
theorem dX4_next_29 : decode cX4_next 29 = .ok (.iconst 1, 1) := dk_4 (dk_at dksX4_next_1 5 rfl rfl)
theorem dX4_next_30 : decode cX4_next 30 = .ok (.iadd, 1) := dk_96 (dk_at dksX4_next_1 6 rfl rfl)
theorem dX4_next_31 : decode cX4_next 31 = .ok (.putfield 23, 3) := dk_181 0 23 (dk_at dksX4_next_1 7 rfl rfl)
theorem dX4_next_34 : decode cX4_next 34 = .ok (.iaload, 1) := dk_46 (dk_at dksX4_next_1 10 rfl rfl)
theorem dX4_next_35 : decode cX4_next 35 = .ok (.ireturn, 1) := dk_172 (dk_at dksX4_next_1 11 rfl rfl)
abbrev cX4_tell : ByteArray := prog_11_method_5_code
def yX4_tell : MethodName := ⟨RX4, "tell", "(I)V"⟩
def dkwX4_tell_0 : List UInt8 := [42, 180, 0, 15, 42, 89, 180, 0, 26, 90, 4, 96, 181, 0, 26, 27, 145, 84, 177]
abbrev dktX4_tell_0 : List UInt8 := dkwX4_tell_0 ++ []
theorem dksX4_tell_0 : cX4_tell.data.toList.drop 0 = dktX4_tell_0 := by decide +kernel
theorem dX4_tell_0 : decode cX4_tell 0 = .ok (.aload_n 0, 1) := dk_42 (dk_at dksX4_tell_0 0 rfl rfl)
theorem dX4_tell_1 : decode cX4_tell 1 = .ok (.getfield 15, 3) := dk_180 0 15 (dk_at dksX4_tell_0 1 rfl rfl)
theorem dX4_tell_4 : decode cX4_tell 4 = .ok (.aload_n 0, 1) := dk_42 (dk_at dksX4_tell_0 4 rfl rfl)
theorem dX4_tell_5 : decode cX4_tell 5 = .ok (.dup, 1) := dk_89 (dk_at dksX4_tell_0 5 rfl rfl)
theorem dX4_tell_6 : decode cX4_tell 6 = .ok (.getfield 26, 3) := dk_180 0 26 (dk_at dksX4_tell_0 6 rfl rfl)
theorem dX4_tell_9 : decode cX4_tell 9 = .ok (.dup_x1, 1) := dk_90 (dk_at dksX4_tell_0 9 rfl rfl)
theorem dX4_tell_10 : decode cX4_tell 10 = .ok (.iconst 1, 1) := dk_4 (dk_at dksX4_tell_0 10 rfl rfl)
theorem dX4_tell_11 : decode cX4_tell 11 = .ok (.iadd, 1) := dk_96 (dk_at dksX4_tell_0 11 rfl rfl)
theorem dX4_tell_12 : decode cX4_tell 12 = .ok (.putfield 26, 3) := dk_181 0 26 (dk_at dksX4_tell_0 12 rfl rfl)
theorem dX4_tell_15 : decode cX4_tell 15 = .ok (.iload_n 1, 1) := dk_27 (dk_at dksX4_tell_0 15 rfl rfl)
theorem dX4_tell_16 : decode cX4_tell 16 = .ok (.i2b, 1) := dk_145 (dk_at dksX4_tell_0 16 rfl rfl)
theorem dX4_tell_17 : decode cX4_tell 17 = .ok (.bastore, 1) := dk_84 (dk_at dksX4_tell_0 17 rfl rfl)
theorem dX4_tell_18 : decode cX4_tell 18 = .ok (.return_, 1) := dk_177 (dk_at dksX4_tell_0 18 rfl rfl)
abbrev cX4_latched : ByteArray := prog_11_method_10_code
def yX4_latched : MethodName := ⟨RX4, "latched", "(Ljava/util/ArrayList;I)LMatrixPress$Encodation;"⟩
def dkwX4_latched_2 : List UInt8 := [183, 0, 31, 191]
abbrev dktX4_latched_2 : List UInt8 := dkwX4_latched_2 ++ []
def dkwX4_latched_1 : List UInt8 := [160, 0, 12, 42, 28, 182, 0, 61, 192, 0, 52, 176, 132, 2, 1, 167, 255, 221, 187, 0, 29, 89]
abbrev dktX4_latched_1 : List UInt8 := dkwX4_latched_1 ++ dktX4_latched_2
def dkwX4_latched_0 : List UInt8 := [3, 61, 28, 42, 182, 0, 57, 162, 0, 33, 42, 28, 182, 0, 61, 192, 0, 52, 180, 0, 65, 27]
abbrev dktX4_latched_0 : List UInt8 := dkwX4_latched_0 ++ dktX4_latched_1
theorem dksX4_latched_0 : cX4_latched.data.toList.drop 0 = dktX4_latched_0 := by decide +kernel
theorem dksX4_latched_1 : cX4_latched.data.toList.drop 22 = dktX4_latched_1 := dk_seg dksX4_latched_0 22 rfl rfl
theorem dksX4_latched_2 : cX4_latched.data.toList.drop 44 = dktX4_latched_2 := dk_seg dksX4_latched_1 22 rfl rfl
theorem dX4_latched_0 : decode cX4_latched 0 = .ok (.iconst 0, 1) := dk_3 (dk_at dksX4_latched_0 0 rfl rfl)
theorem dX4_latched_1 : decode cX4_latched 1 = .ok (.istore_n 2, 1) := dk_61 (dk_at dksX4_latched_0 1 rfl rfl)
theorem dX4_latched_2 : decode cX4_latched 2 = .ok (.iload_n 2, 1) := dk_28 (dk_at dksX4_latched_0 2 rfl rfl)
theorem dX4_latched_3 : decode cX4_latched 3 = .ok (.aload_n 0, 1) := dk_42 (dk_at dksX4_latched_0 3 rfl rfl)
theorem dX4_latched_4 : decode cX4_latched 4 = .ok (.invokevirtual 57, 3) := dk_182 0 57 (dk_at dksX4_latched_0 4 rfl rfl)
theorem dX4_latched_7 : decode cX4_latched 7 = .ok (.if_icmp .ge 33, 3) := dk_162 0 33 (dk_at dksX4_latched_0 7 rfl rfl)
theorem dX4_latched_10 : decode cX4_latched 10 = .ok (.aload_n 0, 1) := dk_42 (dk_at dksX4_latched_0 10 rfl rfl)
theorem dX4_latched_11 : decode cX4_latched 11 = .ok (.iload_n 2, 1) := dk_28 (dk_at dksX4_latched_0 11 rfl rfl)
theorem dX4_latched_12 : decode cX4_latched 12 = .ok (.invokevirtual 61, 3) := dk_182 0 61 (dk_at dksX4_latched_0 12 rfl rfl)
theorem dX4_latched_15 : decode cX4_latched 15 = .ok (.checkcast 52, 3) := dk_192 0 52 (dk_at dksX4_latched_0 15 rfl rfl)
theorem dX4_latched_18 : decode cX4_latched 18 = .ok (.getfield 65, 3) := dk_180 0 65 (dk_at dksX4_latched_0 18 rfl rfl)
theorem dX4_latched_21 : decode cX4_latched 21 = .ok (.iload_n 1, 1) := dk_27 (dk_at dksX4_latched_0 21 rfl rfl)
theorem dX4_latched_22 : decode cX4_latched 22 = .ok (.if_icmp .ne 12, 3) := dk_160 0 12 (dk_at dksX4_latched_1 0 rfl rfl)
theorem dX4_latched_25 : decode cX4_latched 25 = .ok (.aload_n 0, 1) := dk_42 (dk_at dksX4_latched_1 3 rfl rfl)
theorem dX4_latched_26 : decode cX4_latched 26 = .ok (.iload_n 2, 1) := dk_28 (dk_at dksX4_latched_1 4 rfl rfl)
theorem dX4_latched_27 : decode cX4_latched 27 = .ok (.invokevirtual 61, 3) := dk_182 0 61 (dk_at dksX4_latched_1 5 rfl rfl)
theorem dX4_latched_30 : decode cX4_latched 30 = .ok (.checkcast 52, 3) := dk_192 0 52 (dk_at dksX4_latched_1 8 rfl rfl)
theorem dX4_latched_33 : decode cX4_latched 33 = .ok (.areturn, 1) := dk_176 (dk_at dksX4_latched_1 11 rfl rfl)
theorem dX4_latched_34 : decode cX4_latched 34 = .ok (.iinc 2 1, 3) := dk_132 2 1 (dk_at dksX4_latched_1 12 rfl rfl)
theorem dX4_latched_37 : decode cX4_latched 37 = .ok (.goto (-35), 3) := dk_167 255 221 (dk_at dksX4_latched_1 15 rfl rfl)
theorem dX4_latched_40 : decode cX4_latched 40 = .ok (.new 29, 3) := dk_187 0 29 (dk_at dksX4_latched_1 18 rfl rfl)
theorem dX4_latched_43 : decode cX4_latched 43 = .ok (.dup, 1) := dk_89 (dk_at dksX4_latched_1 21 rfl rfl)
theorem dX4_latched_44 : decode cX4_latched 44 = .ok (.invokespecial 31, 3) := dk_183 0 31 (dk_at dksX4_latched_2 0 rfl rfl)
theorem dX4_latched_47 : decode cX4_latched 47 = .ok (.athrow, 1) := dk_191 (dk_at dksX4_latched_2 3 rfl rfl)
abbrev cX4_left : ByteArray := prog_11_method_3_code
def yX4_left : MethodName := ⟨RX4, "left", "()I"⟩
def dkwX4_left_0 : List UInt8 := [42, 180, 0, 19, 42, 180, 0, 23, 100, 172]
abbrev dktX4_left_0 : List UInt8 := dkwX4_left_0 ++ []
theorem dksX4_left_0 : cX4_left.data.toList.drop 0 = dktX4_left_0 := by decide +kernel
theorem dX4_left_0 : decode cX4_left 0 = .ok (.aload_n 0, 1) := dk_42 (dk_at dksX4_left_0 0 rfl rfl)
theorem dX4_left_1 : decode cX4_left 1 = .ok (.getfield 19, 3) := dk_180 0 19 (dk_at dksX4_left_0 1 rfl rfl)
theorem dX4_left_4 : decode cX4_left 4 = .ok (.aload_n 0, 1) := dk_42 (dk_at dksX4_left_0 4 rfl rfl)
theorem dX4_left_5 : decode cX4_left 5 = .ok (.getfield 23, 3) := dk_180 0 23 (dk_at dksX4_left_0 5 rfl rfl)
theorem dX4_left_8 : decode cX4_left 8 = .ok (.isub, 1) := dk_100 (dk_at dksX4_left_0 8 rfl rfl)
theorem dX4_left_9 : decode cX4_left 9 = .ok (.ireturn, 1) := dk_172 (dk_at dksX4_left_0 9 rfl rfl)
theorem q111 : (Jvm.Cond.initialized "MatrixPress$Stream") ∈ lw_all := lw_g (lw_at lw_m1 4 rfl) rfl
theorem q215 : (Jvm.Cond.instantiable "MatrixPress$Stream" (5 : Nat)) ∈ lw_all := lw_g (lw_at lw_m1 108 rfl) rfl
theorem q217 : (Jvm.Cond.instanceMethod ({ cls := "MatrixPress$Stream", name := "<init>", desc := "()V" } : Jvm.MethodName)) ∈ lw_all := lw_g (lw_at lw_m1 110 rfl) rfl
theorem q218 : (Jvm.Cond.code ({ cls := "MatrixPress$Stream", name := "<init>", desc := "()V" } : Jvm.MethodName) prog_11_method_1_code (1 : Nat) (Option.none : Option Jvm.ClassFile.FieldType)) ∈ lw_all := lw_g (lw_at lw_m1 111 rfl) rfl
theorem q219 : (Jvm.Cond.methodLink "MatrixPress$Stream" (3 : Nat) ({ cls := "java/lang/Object", name := "<init>", desc := "()V" } : Jvm.MethodName)) ∈ lw_all := lw_g (lw_at lw_m1 112 rfl) rfl
theorem q220 : (Jvm.Cond.fieldLink "MatrixPress$Stream" (9 : Nat) "MatrixPress$Stream" "code" "[I") ∈ lw_all := lw_g (lw_at lw_m1 113 rfl) rfl
theorem q222 : (Jvm.Cond.fieldLink "MatrixPress$Stream" (15 : Nat) "MatrixPress$Stream" "told" "[B") ∈ lw_all := lw_g (lw_at lw_m1 115 rfl) rfl
theorem q224 : (Jvm.Cond.fieldLink "MatrixPress$Stream" (19 : Nat) "MatrixPress$Stream" "size" "I") ∈ lw_all := lw_g (lw_at lw_m1 117 rfl) rfl
theorem q225 : (Jvm.Cond.fieldLink "MatrixPress$Stream" (23 : Nat) "MatrixPress$Stream" "at" "I") ∈ lw_all := lw_g (lw_at lw_m1 118 rfl) rfl
theorem q229 : (Jvm.Cond.fieldLink "MatrixPress$Stream" (26 : Nat) "MatrixPress$Stream" "many" "I") ∈ lw_all := lw_g (lw_at lw_m1 122 rfl) rfl
theorem q231 : (Jvm.Cond.laysFinal "MatrixPress$Stream" "MatrixPress$Stream" "code" "[I") ∈ lw_all := lw_g (lw_at lw_m1 124 rfl) rfl
theorem q232 : (Jvm.Cond.soleField "MatrixPress$Stream" "code") ∈ lw_all := lw_g (lw_at lw_m1 125 rfl) rfl
theorem q233 : (Jvm.Cond.laysFinal "MatrixPress$Stream" "MatrixPress$Stream" "told" "[B") ∈ lw_all := lw_g (lw_at lw_m1 126 rfl) rfl
theorem q234 : (Jvm.Cond.soleField "MatrixPress$Stream" "told") ∈ lw_all := lw_g (lw_at lw_m1 127 rfl) rfl
theorem q235 : (Jvm.Cond.lays "MatrixPress$Stream" "MatrixPress$Stream" "size" "I") ∈ lw_all := lw_g (lw_at lw_m1 128 rfl) rfl
theorem q236 : (Jvm.Cond.soleField "MatrixPress$Stream" "size") ∈ lw_all := lw_g (lw_at lw_m1 129 rfl) rfl
theorem q237 : (Jvm.Cond.lays "MatrixPress$Stream" "MatrixPress$Stream" "at" "I") ∈ lw_all := lw_g (lw_at lw_m1 130 rfl) rfl
theorem q238 : (Jvm.Cond.soleField "MatrixPress$Stream" "at") ∈ lw_all := lw_g (lw_at lw_m1 131 rfl) rfl
theorem q239 : (Jvm.Cond.lays "MatrixPress$Stream" "MatrixPress$Stream" "many" "I") ∈ lw_all := lw_g (lw_at lw_m1 132 rfl) rfl
theorem q240 : (Jvm.Cond.soleField "MatrixPress$Stream" "many") ∈ lw_all := lw_g (lw_at lw_m1 133 rfl) rfl
theorem q241 : (Jvm.Cond.superclass "MatrixPress$Stream" "java/lang/Object") ∈ lw_all := lw_g (lw_at lw_m1 134 rfl) rfl
theorem q353 : (Jvm.Cond.fieldLinkNest "MatrixPress$Stream" (65 : Nat) "MatrixPress$Encodation" "latch" "I" "MatrixPress") ∈ lw_tbl := lw_at lw_m2 6 rfl
theorem q411 : (Jvm.Cond.selects "MatrixPress$Stream" ({ cls := "java/lang/Object", name := "getClass", desc := "()Ljava/lang/Class;" } : Jvm.MethodName) ({ cls := "java/lang/Object", name := "getClass", desc := "()Ljava/lang/Class;" } : Jvm.MethodName)) ∈ lw_all := lw_g (lw_at lw_m2 64 rfl) rfl
theorem q716 : (Jvm.Cond.instanceMethod ({ cls := "MatrixPress$Stream", name := "begin", desc := "(I)V" } : Jvm.MethodName)) ∈ lw_all := lw_g (lw_at lw_m3 129 rfl) rfl
theorem q717 : (Jvm.Cond.selects "MatrixPress$Stream" ({ cls := "MatrixPress$Stream", name := "begin", desc := "(I)V" } : Jvm.MethodName) ({ cls := "MatrixPress$Stream", name := "begin", desc := "(I)V" } : Jvm.MethodName)) ∈ lw_all := lw_g (lw_at lw_m3 130 rfl) rfl
theorem q718 : (Jvm.Cond.code ({ cls := "MatrixPress$Stream", name := "begin", desc := "(I)V" } : Jvm.MethodName) prog_11_method_2_code (2 : Nat) (Option.none : Option Jvm.ClassFile.FieldType)) ∈ lw_all := lw_g (lw_at lw_m3 131 rfl) rfl
theorem q773 : (Jvm.Cond.instanceMethod ({ cls := "MatrixPress$Stream", name := "put", desc := "(I)V" } : Jvm.MethodName)) ∈ lw_all := lw_g (lw_at lw_m3 186 rfl) rfl
theorem q774 : (Jvm.Cond.selects "MatrixPress$Stream" ({ cls := "MatrixPress$Stream", name := "put", desc := "(I)V" } : Jvm.MethodName) ({ cls := "MatrixPress$Stream", name := "put", desc := "(I)V" } : Jvm.MethodName)) ∈ lw_all := lw_g (lw_at lw_m3 187 rfl) rfl
theorem q775 : (Jvm.Cond.code ({ cls := "MatrixPress$Stream", name := "put", desc := "(I)V" } : Jvm.MethodName) prog_11_method_6_code (2 : Nat) (Option.none : Option Jvm.ClassFile.FieldType)) ∈ lw_all := lw_g (lw_at lw_m3 188 rfl) rfl
theorem q898 : (Jvm.Cond.instanceMethod ({ cls := "MatrixPress$Stream", name := "pads", desc := "()V" } : Jvm.MethodName)) ∈ lw_all := lw_g (lw_at lw_m4 71 rfl) rfl
theorem q899 : (Jvm.Cond.selects "MatrixPress$Stream" ({ cls := "MatrixPress$Stream", name := "pads", desc := "()V" } : Jvm.MethodName) ({ cls := "MatrixPress$Stream", name := "pads", desc := "()V" } : Jvm.MethodName)) ∈ lw_all := lw_g (lw_at lw_m4 72 rfl) rfl
theorem q900 : (Jvm.Cond.code ({ cls := "MatrixPress$Stream", name := "pads", desc := "()V" } : Jvm.MethodName) prog_11_method_8_code (1 : Nat) (Option.none : Option Jvm.ClassFile.FieldType)) ∈ lw_all := lw_g (lw_at lw_m4 73 rfl) rfl
theorem q901 : (Jvm.Cond.methodLink "MatrixPress$Stream" (32 : Nat) ({ cls := "MatrixPress$Stream", name := "pad", desc := "(I)I" } : Jvm.MethodName)) ∈ lw_all := lw_g (lw_at lw_m4 74 rfl) rfl
theorem q902 : (Jvm.Cond.static ({ cls := "MatrixPress$Stream", name := "pad", desc := "(I)I" } : Jvm.MethodName)) ∈ lw_all := lw_g (lw_at lw_m4 75 rfl) rfl
theorem q903 : (Jvm.Cond.code ({ cls := "MatrixPress$Stream", name := "pad", desc := "(I)I" } : Jvm.MethodName) prog_11_method_7_code (2 : Nat) (Option.some Jvm.ClassFile.FieldType.int)) ∈ lw_all := lw_g (lw_at lw_m4 76 rfl) rfl
theorem q904 : (Jvm.Cond.methodLink "MatrixPress$Stream" (36 : Nat) ({ cls := "MatrixPress$Stream", name := "put", desc := "(I)V" } : Jvm.MethodName)) ∈ lw_all := lw_g (lw_at lw_m4 77 rfl) rfl
theorem q988 : (Jvm.Cond.instanceMethod ({ cls := "MatrixPress$Stream", name := "read", desc := "(Ljava/util/ArrayList;)V" } : Jvm.MethodName)) ∈ lw_all := lw_g (lw_at lw_m4 161 rfl) rfl
theorem q989 : (Jvm.Cond.selects "MatrixPress$Stream" ({ cls := "MatrixPress$Stream", name := "read", desc := "(Ljava/util/ArrayList;)V" } : Jvm.MethodName) ({ cls := "MatrixPress$Stream", name := "read", desc := "(Ljava/util/ArrayList;)V" } : Jvm.MethodName)) ∈ lw_all := lw_g (lw_at lw_m4 162 rfl) rfl
theorem q990 : (Jvm.Cond.code ({ cls := "MatrixPress$Stream", name := "read", desc := "(Ljava/util/ArrayList;)V" } : Jvm.MethodName) prog_11_method_9_code (4 : Nat) (Option.none : Option Jvm.ClassFile.FieldType)) ∈ lw_all := lw_g (lw_at lw_m4 163 rfl) rfl
theorem q991 : (Jvm.Cond.methodLink "MatrixPress$Stream" (40 : Nat) ({ cls := "MatrixPress$Stream", name := "next", desc := "()I" } : Jvm.MethodName)) ∈ lw_all := lw_g (lw_at lw_m4 164 rfl) rfl
theorem q992 : (Jvm.Cond.instanceMethod ({ cls := "MatrixPress$Stream", name := "next", desc := "()I" } : Jvm.MethodName)) ∈ lw_all := lw_g (lw_at lw_m4 165 rfl) rfl
theorem q993 : (Jvm.Cond.selects "MatrixPress$Stream" ({ cls := "MatrixPress$Stream", name := "next", desc := "()I" } : Jvm.MethodName) ({ cls := "MatrixPress$Stream", name := "next", desc := "()I" } : Jvm.MethodName)) ∈ lw_all := lw_g (lw_at lw_m4 166 rfl) rfl
theorem q994 : (Jvm.Cond.code ({ cls := "MatrixPress$Stream", name := "next", desc := "()I" } : Jvm.MethodName) prog_11_method_4_code (1 : Nat) (Option.some Jvm.ClassFile.FieldType.int)) ∈ lw_all := lw_g (lw_at lw_m4 167 rfl) rfl
theorem q995 : (Jvm.Cond.classLink "MatrixPress$Stream" (29 : Nat) "MatrixPress$NoStream") ∈ lw_all := lw_g (lw_at lw_m4 168 rfl) rfl
theorem q1004 : (Jvm.Cond.methodLink "MatrixPress$Stream" (31 : Nat) ({ cls := "MatrixPress$NoStream", name := "<init>", desc := "()V" } : Jvm.MethodName)) ∈ lw_all := lw_g (lw_at lw_m4 177 rfl) rfl
theorem q1018 : (Jvm.Cond.methodLink "MatrixPress$Stream" (44 : Nat) ({ cls := "MatrixPress$Stream", name := "tell", desc := "(I)V" } : Jvm.MethodName)) ∈ lw_all := lw_g (lw_at lw_m4 191 rfl) rfl
theorem q1019 : (Jvm.Cond.instanceMethod ({ cls := "MatrixPress$Stream", name := "tell", desc := "(I)V" } : Jvm.MethodName)) ∈ lw_all := lw_g (lw_at lw_m4 192 rfl) rfl
theorem q1020 : (Jvm.Cond.selects "MatrixPress$Stream" ({ cls := "MatrixPress$Stream", name := "tell", desc := "(I)V" } : Jvm.MethodName) ({ cls := "MatrixPress$Stream", name := "tell", desc := "(I)V" } : Jvm.MethodName)) ∈ lw_all := lw_g (lw_at lw_m4 193 rfl) rfl
theorem q1021 : (Jvm.Cond.code ({ cls := "MatrixPress$Stream", name := "tell", desc := "(I)V" } : Jvm.MethodName) prog_11_method_5_code (2 : Nat) (Option.none : Option Jvm.ClassFile.FieldType)) ∈ lw_all := lw_g (lw_at lw_m4 194 rfl) rfl
theorem q1022 : (Jvm.Cond.methodLink "MatrixPress$Stream" (47 : Nat) ({ cls := "MatrixPress$Stream", name := "latched", desc := "(Ljava/util/ArrayList;I)LMatrixPress$Encodation;" } : Jvm.MethodName)) ∈ lw_all := lw_g (lw_at lw_m4 195 rfl) rfl
theorem q1023 : (Jvm.Cond.static ({ cls := "MatrixPress$Stream", name := "latched", desc := "(Ljava/util/ArrayList;I)LMatrixPress$Encodation;" } : Jvm.MethodName)) ∈ lw_all := lw_g (lw_at lw_m4 196 rfl) rfl
theorem q1024 : (Jvm.Cond.code ({ cls := "MatrixPress$Stream", name := "latched", desc := "(Ljava/util/ArrayList;I)LMatrixPress$Encodation;" } : Jvm.MethodName) prog_11_method_10_code (3 : Nat) (Option.some (Jvm.ClassFile.FieldType.object "MatrixPress$Encodation"))) ∈ lw_all := lw_g (lw_at lw_m4 197 rfl) rfl
theorem q1025 : (Jvm.Cond.methodLink "MatrixPress$Stream" (57 : Nat) ({ cls := "java/util/ArrayList", name := "size", desc := "()I" } : Jvm.MethodName)) ∈ lw_all := lw_g (lw_at lw_m4 198 rfl) rfl
theorem q1026 : (Jvm.Cond.methodLink "MatrixPress$Stream" (61 : Nat) ({ cls := "java/util/ArrayList", name := "get", desc := "(I)Ljava/lang/Object;" } : Jvm.MethodName)) ∈ lw_all := lw_g (lw_at lw_m4 199 rfl) rfl
theorem q1027 : (Jvm.Cond.classLink "MatrixPress$Stream" (52 : Nat) "MatrixPress$Encodation") ∈ lw_all := lw_g (lw_at lw_m4 200 rfl) rfl
theorem q1028 : (Jvm.Cond.methodLink "MatrixPress$Stream" (51 : Nat) ({ cls := "MatrixPress$Encodation", name := "read", desc := "(LMatrixPress$Stream;)V" } : Jvm.MethodName)) ∈ lw_all := lw_g (lw_at lw_m4 201 rfl) rfl
theorem q1039 : (Jvm.Cond.instanceMethod ({ cls := "MatrixPress$Stream", name := "left", desc := "()I" } : Jvm.MethodName)) ∈ lw_all := lw_g (lw_at lw_m4 212 rfl) rfl
theorem q1040 : (Jvm.Cond.selects "MatrixPress$Stream" ({ cls := "MatrixPress$Stream", name := "left", desc := "()I" } : Jvm.MethodName) ({ cls := "MatrixPress$Stream", name := "left", desc := "()I" } : Jvm.MethodName)) ∈ lw_all := lw_g (lw_at lw_m4 213 rfl) rfl
theorem q1041 : (Jvm.Cond.code ({ cls := "MatrixPress$Stream", name := "left", desc := "()I" } : Jvm.MethodName) prog_11_method_3_code (1 : Nat) (Option.some Jvm.ClassFile.FieldType.int)) ∈ lw_all := lw_g (lw_at lw_m4 214 rfl) rfl
theorem q1748 : (Jvm.Cond.castable "MatrixPress$Stream" "java/lang/Object") ∈ lw_tbl := lw_at lw_m7 201 rfl
theorem in_X4 : ∀ w ∈ wsX40, w ∈ lw_all := lw_in wsX40 [231, 233, 235, 237, 239] (by decide +kernel) (by decide +kernel)
/-! MatrixPress$Symbol -/
set_option maxRecDepth 100000
def RX5 : String := "MatrixPress$Symbol"
def TX5 : u_T := fun k => match k with
  | 0 => ("MatrixPress$Symbol", "number", "I", true)
  | 1 => ("MatrixPress$Symbol", "rows", "I", true)
  | 2 => ("MatrixPress$Symbol", "columns", "I", true)
  | 3 => ("MatrixPress$Symbol", "down", "I", true)
  | 4 => ("MatrixPress$Symbol", "across", "I", true)
  | 5 => ("MatrixPress$Symbol", "planeRows", "I", true)
  | 6 => ("MatrixPress$Symbol", "planeColumns", "I", true)
  | 7 => ("MatrixPress$Symbol", "all", "I", true)
  | 8 => ("MatrixPress$Symbol", "checks", "I", true)
  | 9 => ("MatrixPress$Symbol", "data", "I", true)
  | _ => ("MatrixPress$Symbol", "blocks", "I", true)
def tyX5 : Nat → FieldType := fun k => match k with
  | 0 => .int
  | 1 => .int
  | 2 => .int
  | 3 => .int
  | 4 => .int
  | 5 => .int
  | 6 => .int
  | 7 => .int
  | 8 => .int
  | 9 => .int
  | _ => .int
abbrev wsX50 : List Cond := u_ws RX5 TX5 11
theorem nmX5 : ∀ a, a < 11 → ∀ b, b < 11 → a ≠ b → (TX5 a).2.1 ≠ (TX5 b).2.1 := by decide +kernel
theorem tyX5_ok : ∀ k, k < 11 → parseFieldDescriptor (TX5 k).2.2.1 = some (tyX5 k) := by decide +kernel
abbrev cX5_init : ByteArray := prog_12_method_1_code
def yX5_init : MethodName := ⟨RX5, "<init>", "(I)V"⟩
def dkwX5_init_11 : List UInt8 := [160, 0, 7, 5, 167, 0, 4, 4, 181, 0, 55, 177]
abbrev dktX5_init_11 : List UInt8 := dkwX5_init_11 ++ []
def dkwX5_init_10 : List UInt8 := [161, 0, 13, 27, 16, 19, 163, 0, 7, 7, 167, 0, 20, 27, 16, 14, 159, 0, 9, 27, 16, 15]
abbrev dktX5_init_10 : List UInt8 := dkwX5_init_10 ++ dktX5_init_11
def dkwX5_init_9 : List UInt8 := [167, 0, 53, 27, 16, 20, 159, 0, 9, 27, 16, 21, 160, 0, 8, 16, 6, 167, 0, 36, 27, 16, 16]
abbrev dktX5_init_9 : List UInt8 := dkwX5_init_9 ++ dktX5_init_10
def dkwX5_init_8 : List UInt8 := [181, 0, 52, 42, 27, 16, 23, 160, 0, 8, 16, 10, 167, 0, 64, 27, 16, 22, 160, 0, 8, 16, 8]
abbrev dktX5_init_8 : List UInt8 := dkwX5_init_8 ++ dktX5_init_9
def dkwX5_init_7 : List UInt8 := [181, 0, 43, 42, 178, 0, 46, 27, 46, 181, 0, 49, 42, 42, 180, 0, 43, 42, 180, 0, 49, 100]
abbrev dktX5_init_7 : List UInt8 := dkwX5_init_7 ++ dktX5_init_8
def dkwX5_init_6 : List UInt8 := [5, 42, 180, 0, 34, 104, 100, 181, 0, 40, 42, 42, 180, 0, 37, 42, 180, 0, 40, 104, 16, 8, 108]
abbrev dktX5_init_6 : List UInt8 := dkwX5_init_6 ++ dktX5_init_7
def dkwX5_init_5 : List UInt8 := [46, 181, 0, 34, 42, 42, 180, 0, 19, 5, 42, 180, 0, 28, 104, 100, 181, 0, 37, 42, 42, 180, 0, 25]
abbrev dktX5_init_5 : List UInt8 := dkwX5_init_5 ++ dktX5_init_6
def dkwX5_init_4 : List UInt8 := [181, 0, 28, 42, 27, 16, 24, 162, 0, 10, 42, 180, 0, 28, 167, 0, 11, 178, 0, 31, 27, 16, 24, 100]
abbrev dktX5_init_4 : List UInt8 := dkwX5_init_4 ++ dktX5_init_5
def dkwX5_init_3 : List UInt8 := [162, 0, 7, 5, 167, 0, 18, 42, 180, 0, 19, 16, 120, 162, 0, 7, 7, 167, 0, 5, 16, 6]
abbrev dktX5_init_3 : List UInt8 := dkwX5_init_3 ++ dktX5_init_4
def dkwX5_init_2 : List UInt8 := [16, 24, 162, 0, 12, 42, 180, 0, 19, 16, 32, 162, 0, 7, 4, 167, 0, 31, 42, 180, 0, 19, 16, 64]
abbrev dktX5_init_2 : List UInt8 := dkwX5_init_2 ++ dktX5_init_3
def dkwX5_init_1 : List UInt8 := [162, 0, 10, 42, 180, 0, 19, 167, 0, 11, 178, 0, 22, 27, 16, 24, 100, 46, 181, 0, 25, 42, 27]
abbrev dktX5_init_1 : List UInt8 := dkwX5_init_1 ++ dktX5_init_2
def dkwX5_init_0 : List UInt8 := [42, 183, 0, 3, 42, 27, 181, 0, 9, 42, 178, 0, 15, 27, 46, 181, 0, 19, 42, 27, 16, 24]
abbrev dktX5_init_0 : List UInt8 := dkwX5_init_0 ++ dktX5_init_1
theorem dksX5_init_0 : cX5_init.data.toList.drop 0 = dktX5_init_0 := by decide +kernel
theorem dksX5_init_1 : cX5_init.data.toList.drop 22 = dktX5_init_1 := dk_seg dksX5_init_0 22 rfl rfl
theorem dksX5_init_2 : cX5_init.data.toList.drop 45 = dktX5_init_2 := dk_seg dksX5_init_1 23 rfl rfl
theorem dksX5_init_3 : cX5_init.data.toList.drop 69 = dktX5_init_3 := dk_seg dksX5_init_2 24 rfl rfl
theorem dksX5_init_4 : cX5_init.data.toList.drop 91 = dktX5_init_4 := dk_seg dksX5_init_3 22 rfl rfl
theorem dksX5_init_5 : cX5_init.data.toList.drop 115 = dktX5_init_5 := dk_seg dksX5_init_4 24 rfl rfl
theorem dksX5_init_6 : cX5_init.data.toList.drop 139 = dktX5_init_6 := dk_seg dksX5_init_5 24 rfl rfl
theorem dksX5_init_7 : cX5_init.data.toList.drop 162 = dktX5_init_7 := dk_seg dksX5_init_6 23 rfl rfl
theorem dksX5_init_8 : cX5_init.data.toList.drop 184 = dktX5_init_8 := dk_seg dksX5_init_7 22 rfl rfl
theorem dksX5_init_9 : cX5_init.data.toList.drop 207 = dktX5_init_9 := dk_seg dksX5_init_8 23 rfl rfl
theorem dksX5_init_10 : cX5_init.data.toList.drop 230 = dktX5_init_10 := dk_seg dksX5_init_9 23 rfl rfl
theorem dksX5_init_11 : cX5_init.data.toList.drop 252 = dktX5_init_11 := dk_seg dksX5_init_10 22 rfl rfl
theorem dX5_init_0 : decode cX5_init 0 = .ok (.aload_n 0, 1) := dk_42 (dk_at dksX5_init_0 0 rfl rfl)
theorem dX5_init_1 : decode cX5_init 1 = .ok (.invokespecial 3, 3) := dk_183 0 3 (dk_at dksX5_init_0 1 rfl rfl)
theorem dX5_init_4 : decode cX5_init 4 = .ok (.aload_n 0, 1) := dk_42 (dk_at dksX5_init_0 4 rfl rfl)
theorem dX5_init_5 : decode cX5_init 5 = .ok (.iload_n 1, 1) := dk_27 (dk_at dksX5_init_0 5 rfl rfl)
theorem dX5_init_6 : decode cX5_init 6 = .ok (.putfield 9, 3) := dk_181 0 9 (dk_at dksX5_init_0 6 rfl rfl)
theorem dX5_init_9 : decode cX5_init 9 = .ok (.aload_n 0, 1) := dk_42 (dk_at dksX5_init_0 9 rfl rfl)
theorem dX5_init_10 : decode cX5_init 10 = .ok (.getstatic 15, 3) := dk_178 0 15 (dk_at dksX5_init_0 10 rfl rfl)
theorem dX5_init_13 : decode cX5_init 13 = .ok (.iload_n 1, 1) := dk_27 (dk_at dksX5_init_0 13 rfl rfl)
theorem dX5_init_14 : decode cX5_init 14 = .ok (.iaload, 1) := dk_46 (dk_at dksX5_init_0 14 rfl rfl)
theorem dX5_init_15 : decode cX5_init 15 = .ok (.putfield 19, 3) := dk_181 0 19 (dk_at dksX5_init_0 15 rfl rfl)
theorem dX5_init_18 : decode cX5_init 18 = .ok (.aload_n 0, 1) := dk_42 (dk_at dksX5_init_0 18 rfl rfl)
theorem dX5_init_19 : decode cX5_init 19 = .ok (.iload_n 1, 1) := dk_27 (dk_at dksX5_init_0 19 rfl rfl)
theorem dX5_init_20 : decode cX5_init 20 = .ok (.bipush 24, 2) := dk_16 24 (dk_at dksX5_init_0 20 rfl rfl)
theorem dX5_init_22 : decode cX5_init 22 = .ok (.if_icmp .ge 10, 3) := dk_162 0 10 (dk_at dksX5_init_1 0 rfl rfl)
theorem dX5_init_25 : decode cX5_init 25 = .ok (.aload_n 0, 1) := dk_42 (dk_at dksX5_init_1 3 rfl rfl)
theorem dX5_init_26 : decode cX5_init 26 = .ok (.getfield 19, 3) := dk_180 0 19 (dk_at dksX5_init_1 4 rfl rfl)
theorem dX5_init_29 : decode cX5_init 29 = .ok (.goto 11, 3) := dk_167 0 11 (dk_at dksX5_init_1 7 rfl rfl)
theorem dX5_init_32 : decode cX5_init 32 = .ok (.getstatic 22, 3) := dk_178 0 22 (dk_at dksX5_init_1 10 rfl rfl)
theorem dX5_init_35 : decode cX5_init 35 = .ok (.iload_n 1, 1) := dk_27 (dk_at dksX5_init_1 13 rfl rfl)
theorem dX5_init_36 : decode cX5_init 36 = .ok (.bipush 24, 2) := dk_16 24 (dk_at dksX5_init_1 14 rfl rfl)
theorem dX5_init_38 : decode cX5_init 38 = .ok (.isub, 1) := dk_100 (dk_at dksX5_init_1 16 rfl rfl)
theorem dX5_init_39 : decode cX5_init 39 = .ok (.iaload, 1) := dk_46 (dk_at dksX5_init_1 17 rfl rfl)
theorem dX5_init_40 : decode cX5_init 40 = .ok (.putfield 25, 3) := dk_181 0 25 (dk_at dksX5_init_1 18 rfl rfl)
theorem dX5_init_43 : decode cX5_init 43 = .ok (.aload_n 0, 1) := dk_42 (dk_at dksX5_init_1 21 rfl rfl)
theorem dX5_init_44 : decode cX5_init 44 = .ok (.iload_n 1, 1) := dk_27 (dk_at dksX5_init_1 22 rfl rfl)
theorem dX5_init_45 : decode cX5_init 45 = .ok (.bipush 24, 2) := dk_16 24 (dk_at dksX5_init_2 0 rfl rfl)
theorem dX5_init_47 : decode cX5_init 47 = .ok (.if_icmp .ge 12, 3) := dk_162 0 12 (dk_at dksX5_init_2 2 rfl rfl)
theorem dX5_init_50 : decode cX5_init 50 = .ok (.aload_n 0, 1) := dk_42 (dk_at dksX5_init_2 5 rfl rfl)
theorem dX5_init_51 : decode cX5_init 51 = .ok (.getfield 19, 3) := dk_180 0 19 (dk_at dksX5_init_2 6 rfl rfl)
theorem dX5_init_54 : decode cX5_init 54 = .ok (.bipush 32, 2) := dk_16 32 (dk_at dksX5_init_2 9 rfl rfl)
theorem dX5_init_56 : decode cX5_init 56 = .ok (.if_icmp .ge 7, 3) := dk_162 0 7 (dk_at dksX5_init_2 11 rfl rfl)
theorem dX5_init_59 : decode cX5_init 59 = .ok (.iconst 1, 1) := dk_4 (dk_at dksX5_init_2 14 rfl rfl)
theorem dX5_init_60 : decode cX5_init 60 = .ok (.goto 31, 3) := dk_167 0 31 (dk_at dksX5_init_2 15 rfl rfl)
theorem dX5_init_63 : decode cX5_init 63 = .ok (.aload_n 0, 1) := dk_42 (dk_at dksX5_init_2 18 rfl rfl)
theorem dX5_init_64 : decode cX5_init 64 = .ok (.getfield 19, 3) := dk_180 0 19 (dk_at dksX5_init_2 19 rfl rfl)
theorem dX5_init_67 : decode cX5_init 67 = .ok (.bipush 64, 2) := dk_16 64 (dk_at dksX5_init_2 22 rfl rfl)
theorem dX5_init_69 : decode cX5_init 69 = .ok (.if_icmp .ge 7, 3) := dk_162 0 7 (dk_at dksX5_init_3 0 rfl rfl)
theorem dX5_init_72 : decode cX5_init 72 = .ok (.iconst 2, 1) := dk_5 (dk_at dksX5_init_3 3 rfl rfl)
theorem dX5_init_73 : decode cX5_init 73 = .ok (.goto 18, 3) := dk_167 0 18 (dk_at dksX5_init_3 4 rfl rfl)
theorem dX5_init_76 : decode cX5_init 76 = .ok (.aload_n 0, 1) := dk_42 (dk_at dksX5_init_3 7 rfl rfl)
theorem dX5_init_77 : decode cX5_init 77 = .ok (.getfield 19, 3) := dk_180 0 19 (dk_at dksX5_init_3 8 rfl rfl)
theorem dX5_init_80 : decode cX5_init 80 = .ok (.bipush 120, 2) := dk_16 120 (dk_at dksX5_init_3 11 rfl rfl)
theorem dX5_init_82 : decode cX5_init 82 = .ok (.if_icmp .ge 7, 3) := dk_162 0 7 (dk_at dksX5_init_3 13 rfl rfl)
theorem dX5_init_85 : decode cX5_init 85 = .ok (.iconst 4, 1) := dk_7 (dk_at dksX5_init_3 16 rfl rfl)
theorem dX5_init_86 : decode cX5_init 86 = .ok (.goto 5, 3) := dk_167 0 5 (dk_at dksX5_init_3 17 rfl rfl)
theorem dX5_init_89 : decode cX5_init 89 = .ok (.bipush 6, 2) := dk_16 6 (dk_at dksX5_init_3 20 rfl rfl)
theorem dX5_init_91 : decode cX5_init 91 = .ok (.putfield 28, 3) := dk_181 0 28 (dk_at dksX5_init_4 0 rfl rfl)
theorem dX5_init_94 : decode cX5_init 94 = .ok (.aload_n 0, 1) := dk_42 (dk_at dksX5_init_4 3 rfl rfl)
theorem dX5_init_95 : decode cX5_init 95 = .ok (.iload_n 1, 1) := dk_27 (dk_at dksX5_init_4 4 rfl rfl)
theorem dX5_init_96 : decode cX5_init 96 = .ok (.bipush 24, 2) := dk_16 24 (dk_at dksX5_init_4 5 rfl rfl)
theorem dX5_init_98 : decode cX5_init 98 = .ok (.if_icmp .ge 10, 3) := dk_162 0 10 (dk_at dksX5_init_4 7 rfl rfl)
theorem dX5_init_101 : decode cX5_init 101 = .ok (.aload_n 0, 1) := dk_42 (dk_at dksX5_init_4 10 rfl rfl)
theorem dX5_init_102 : decode cX5_init 102 = .ok (.getfield 28, 3) := dk_180 0 28 (dk_at dksX5_init_4 11 rfl rfl)
theorem dX5_init_105 : decode cX5_init 105 = .ok (.goto 11, 3) := dk_167 0 11 (dk_at dksX5_init_4 14 rfl rfl)
theorem dX5_init_108 : decode cX5_init 108 = .ok (.getstatic 31, 3) := dk_178 0 31 (dk_at dksX5_init_4 17 rfl rfl)
theorem dX5_init_111 : decode cX5_init 111 = .ok (.iload_n 1, 1) := dk_27 (dk_at dksX5_init_4 20 rfl rfl)
theorem dX5_init_112 : decode cX5_init 112 = .ok (.bipush 24, 2) := dk_16 24 (dk_at dksX5_init_4 21 rfl rfl)
theorem dX5_init_114 : decode cX5_init 114 = .ok (.isub, 1) := dk_100 (dk_at dksX5_init_4 23 rfl rfl)
theorem dX5_init_115 : decode cX5_init 115 = .ok (.iaload, 1) := dk_46 (dk_at dksX5_init_5 0 rfl rfl)
theorem dX5_init_116 : decode cX5_init 116 = .ok (.putfield 34, 3) := dk_181 0 34 (dk_at dksX5_init_5 1 rfl rfl)
theorem dX5_init_119 : decode cX5_init 119 = .ok (.aload_n 0, 1) := dk_42 (dk_at dksX5_init_5 4 rfl rfl)
theorem dX5_init_120 : decode cX5_init 120 = .ok (.aload_n 0, 1) := dk_42 (dk_at dksX5_init_5 5 rfl rfl)
theorem dX5_init_121 : decode cX5_init 121 = .ok (.getfield 19, 3) := dk_180 0 19 (dk_at dksX5_init_5 6 rfl rfl)
theorem dX5_init_124 : decode cX5_init 124 = .ok (.iconst 2, 1) := dk_5 (dk_at dksX5_init_5 9 rfl rfl)
theorem dX5_init_125 : decode cX5_init 125 = .ok (.aload_n 0, 1) := dk_42 (dk_at dksX5_init_5 10 rfl rfl)
theorem dX5_init_126 : decode cX5_init 126 = .ok (.getfield 28, 3) := dk_180 0 28 (dk_at dksX5_init_5 11 rfl rfl)
theorem dX5_init_129 : decode cX5_init 129 = .ok (.imul, 1) := dk_104 (dk_at dksX5_init_5 14 rfl rfl)
theorem dX5_init_130 : decode cX5_init 130 = .ok (.isub, 1) := dk_100 (dk_at dksX5_init_5 15 rfl rfl)
theorem dX5_init_131 : decode cX5_init 131 = .ok (.putfield 37, 3) := dk_181 0 37 (dk_at dksX5_init_5 16 rfl rfl)
theorem dX5_init_134 : decode cX5_init 134 = .ok (.aload_n 0, 1) := dk_42 (dk_at dksX5_init_5 19 rfl rfl)
theorem dX5_init_135 : decode cX5_init 135 = .ok (.aload_n 0, 1) := dk_42 (dk_at dksX5_init_5 20 rfl rfl)
theorem dX5_init_136 : decode cX5_init 136 = .ok (.getfield 25, 3) := dk_180 0 25 (dk_at dksX5_init_5 21 rfl rfl)
theorem dX5_init_139 : decode cX5_init 139 = .ok (.iconst 2, 1) := dk_5 (dk_at dksX5_init_6 0 rfl rfl)
theorem dX5_init_140 : decode cX5_init 140 = .ok (.aload_n 0, 1) := dk_42 (dk_at dksX5_init_6 1 rfl rfl)
theorem dX5_init_141 : decode cX5_init 141 = .ok (.getfield 34, 3) := dk_180 0 34 (dk_at dksX5_init_6 2 rfl rfl)
theorem dX5_init_144 : decode cX5_init 144 = .ok (.imul, 1) := dk_104 (dk_at dksX5_init_6 5 rfl rfl)
theorem dX5_init_145 : decode cX5_init 145 = .ok (.isub, 1) := dk_100 (dk_at dksX5_init_6 6 rfl rfl)
theorem dX5_init_146 : decode cX5_init 146 = .ok (.putfield 40, 3) := dk_181 0 40 (dk_at dksX5_init_6 7 rfl rfl)
theorem dX5_init_149 : decode cX5_init 149 = .ok (.aload_n 0, 1) := dk_42 (dk_at dksX5_init_6 10 rfl rfl)
theorem dX5_init_150 : decode cX5_init 150 = .ok (.aload_n 0, 1) := dk_42 (dk_at dksX5_init_6 11 rfl rfl)
theorem dX5_init_151 : decode cX5_init 151 = .ok (.getfield 37, 3) := dk_180 0 37 (dk_at dksX5_init_6 12 rfl rfl)
theorem dX5_init_154 : decode cX5_init 154 = .ok (.aload_n 0, 1) := dk_42 (dk_at dksX5_init_6 15 rfl rfl)
theorem dX5_init_155 : decode cX5_init 155 = .ok (.getfield 40, 3) := dk_180 0 40 (dk_at dksX5_init_6 16 rfl rfl)
theorem dX5_init_158 : decode cX5_init 158 = .ok (.imul, 1) := dk_104 (dk_at dksX5_init_6 19 rfl rfl)
theorem dX5_init_159 : decode cX5_init 159 = .ok (.bipush 8, 2) := dk_16 8 (dk_at dksX5_init_6 20 rfl rfl)
theorem dX5_init_161 : decode cX5_init 161 = .ok (.idiv, 1) := dk_108 (dk_at dksX5_init_6 22 rfl rfl)
theorem dX5_init_162 : decode cX5_init 162 = .ok (.putfield 43, 3) := dk_181 0 43 (dk_at dksX5_init_7 0 rfl rfl)
theorem dX5_init_165 : decode cX5_init 165 = .ok (.aload_n 0, 1) := dk_42 (dk_at dksX5_init_7 3 rfl rfl)
theorem dX5_init_166 : decode cX5_init 166 = .ok (.getstatic 46, 3) := dk_178 0 46 (dk_at dksX5_init_7 4 rfl rfl)
theorem dX5_init_169 : decode cX5_init 169 = .ok (.iload_n 1, 1) := dk_27 (dk_at dksX5_init_7 7 rfl rfl)
theorem dX5_init_170 : decode cX5_init 170 = .ok (.iaload, 1) := dk_46 (dk_at dksX5_init_7 8 rfl rfl)
theorem dX5_init_171 : decode cX5_init 171 = .ok (.putfield 49, 3) := dk_181 0 49 (dk_at dksX5_init_7 9 rfl rfl)
theorem dX5_init_174 : decode cX5_init 174 = .ok (.aload_n 0, 1) := dk_42 (dk_at dksX5_init_7 12 rfl rfl)
theorem dX5_init_175 : decode cX5_init 175 = .ok (.aload_n 0, 1) := dk_42 (dk_at dksX5_init_7 13 rfl rfl)
theorem dX5_init_176 : decode cX5_init 176 = .ok (.getfield 43, 3) := dk_180 0 43 (dk_at dksX5_init_7 14 rfl rfl)
theorem dX5_init_179 : decode cX5_init 179 = .ok (.aload_n 0, 1) := dk_42 (dk_at dksX5_init_7 17 rfl rfl)
theorem dX5_init_180 : decode cX5_init 180 = .ok (.getfield 49, 3) := dk_180 0 49 (dk_at dksX5_init_7 18 rfl rfl)
theorem dX5_init_183 : decode cX5_init 183 = .ok (.isub, 1) := dk_100 (dk_at dksX5_init_7 21 rfl rfl)
theorem dX5_init_184 : decode cX5_init 184 = .ok (.putfield 52, 3) := dk_181 0 52 (dk_at dksX5_init_8 0 rfl rfl)
theorem dX5_init_187 : decode cX5_init 187 = .ok (.aload_n 0, 1) := dk_42 (dk_at dksX5_init_8 3 rfl rfl)
theorem dX5_init_188 : decode cX5_init 188 = .ok (.iload_n 1, 1) := dk_27 (dk_at dksX5_init_8 4 rfl rfl)
theorem dX5_init_189 : decode cX5_init 189 = .ok (.bipush 23, 2) := dk_16 23 (dk_at dksX5_init_8 5 rfl rfl)
theorem dX5_init_191 : decode cX5_init 191 = .ok (.if_icmp .ne 8, 3) := dk_160 0 8 (dk_at dksX5_init_8 7 rfl rfl)
theorem dX5_init_194 : decode cX5_init 194 = .ok (.bipush 10, 2) := dk_16 10 (dk_at dksX5_init_8 10 rfl rfl)
theorem dX5_init_196 : decode cX5_init 196 = .ok (.goto 64, 3) := dk_167 0 64 (dk_at dksX5_init_8 12 rfl rfl)
theorem dX5_init_199 : decode cX5_init 199 = .ok (.iload_n 1, 1) := dk_27 (dk_at dksX5_init_8 15 rfl rfl)
theorem dX5_init_200 : decode cX5_init 200 = .ok (.bipush 22, 2) := dk_16 22 (dk_at dksX5_init_8 16 rfl rfl)
theorem dX5_init_202 : decode cX5_init 202 = .ok (.if_icmp .ne 8, 3) := dk_160 0 8 (dk_at dksX5_init_8 18 rfl rfl)
theorem dX5_init_205 : decode cX5_init 205 = .ok (.bipush 8, 2) := dk_16 8 (dk_at dksX5_init_8 21 rfl rfl)
theorem dX5_init_207 : decode cX5_init 207 = .ok (.goto 53, 3) := dk_167 0 53 (dk_at dksX5_init_9 0 rfl rfl)
theorem dX5_init_210 : decode cX5_init 210 = .ok (.iload_n 1, 1) := dk_27 (dk_at dksX5_init_9 3 rfl rfl)
theorem dX5_init_211 : decode cX5_init 211 = .ok (.bipush 20, 2) := dk_16 20 (dk_at dksX5_init_9 4 rfl rfl)
theorem dX5_init_213 : decode cX5_init 213 = .ok (.if_icmp .eq 9, 3) := dk_159 0 9 (dk_at dksX5_init_9 6 rfl rfl)
theorem dX5_init_216 : decode cX5_init 216 = .ok (.iload_n 1, 1) := dk_27 (dk_at dksX5_init_9 9 rfl rfl)
theorem dX5_init_217 : decode cX5_init 217 = .ok (.bipush 21, 2) := dk_16 21 (dk_at dksX5_init_9 10 rfl rfl)
theorem dX5_init_219 : decode cX5_init 219 = .ok (.if_icmp .ne 8, 3) := dk_160 0 8 (dk_at dksX5_init_9 12 rfl rfl)
theorem dX5_init_222 : decode cX5_init 222 = .ok (.bipush 6, 2) := dk_16 6 (dk_at dksX5_init_9 15 rfl rfl)
theorem dX5_init_224 : decode cX5_init 224 = .ok (.goto 36, 3) := dk_167 0 36 (dk_at dksX5_init_9 17 rfl rfl)
theorem dX5_init_227 : decode cX5_init 227 = .ok (.iload_n 1, 1) := dk_27 (dk_at dksX5_init_9 20 rfl rfl)
theorem dX5_init_228 : decode cX5_init 228 = .ok (.bipush 16, 2) := dk_16 16 (dk_at dksX5_init_9 21 rfl rfl)
theorem dX5_init_230 : decode cX5_init 230 = .ok (.if_icmp .lt 13, 3) := dk_161 0 13 (dk_at dksX5_init_10 0 rfl rfl)
theorem dX5_init_233 : decode cX5_init 233 = .ok (.iload_n 1, 1) := dk_27 (dk_at dksX5_init_10 3 rfl rfl)
theorem dX5_init_234 : decode cX5_init 234 = .ok (.bipush 19, 2) := dk_16 19 (dk_at dksX5_init_10 4 rfl rfl)
theorem dX5_init_236 : decode cX5_init 236 = .ok (.if_icmp .gt 7, 3) := dk_163 0 7 (dk_at dksX5_init_10 6 rfl rfl)
theorem dX5_init_239 : decode cX5_init 239 = .ok (.iconst 4, 1) := dk_7 (dk_at dksX5_init_10 9 rfl rfl)
theorem dX5_init_240 : decode cX5_init 240 = .ok (.goto 20, 3) := dk_167 0 20 (dk_at dksX5_init_10 10 rfl rfl)
theorem dX5_init_243 : decode cX5_init 243 = .ok (.iload_n 1, 1) := dk_27 (dk_at dksX5_init_10 13 rfl rfl)
theorem dX5_init_244 : decode cX5_init 244 = .ok (.bipush 14, 2) := dk_16 14 (dk_at dksX5_init_10 14 rfl rfl)
theorem dX5_init_246 : decode cX5_init 246 = .ok (.if_icmp .eq 9, 3) := dk_159 0 9 (dk_at dksX5_init_10 16 rfl rfl)
theorem dX5_init_249 : decode cX5_init 249 = .ok (.iload_n 1, 1) := dk_27 (dk_at dksX5_init_10 19 rfl rfl)
theorem dX5_init_250 : decode cX5_init 250 = .ok (.bipush 15, 2) := dk_16 15 (dk_at dksX5_init_10 20 rfl rfl)
theorem dX5_init_252 : decode cX5_init 252 = .ok (.if_icmp .ne 7, 3) := dk_160 0 7 (dk_at dksX5_init_11 0 rfl rfl)
theorem dX5_init_255 : decode cX5_init 255 = .ok (.iconst 2, 1) := dk_5 (dk_at dksX5_init_11 3 rfl rfl)
theorem dX5_init_256 : decode cX5_init 256 = .ok (.goto 4, 3) := dk_167 0 4 (dk_at dksX5_init_11 4 rfl rfl)
theorem dX5_init_259 : decode cX5_init 259 = .ok (.iconst 1, 1) := dk_4 (dk_at dksX5_init_11 7 rfl rfl)
theorem dX5_init_260 : decode cX5_init 260 = .ok (.putfield 55, 3) := dk_181 0 55 (dk_at dksX5_init_11 8 rfl rfl)
theorem dX5_init_263 : decode cX5_init 263 = .ok (.return_, 1) := dk_177 (dk_at dksX5_init_11 11 rfl rfl)
abbrev cX5_of : ByteArray := prog_12_method_5_code
def yX5_of : MethodName := ⟨RX5, "of", "(I)I"⟩
def dkwX5_of_0 : List UInt8 := [42, 180, 0, 43, 27, 100, 42, 180, 0, 55, 96, 4, 100, 42, 180, 0, 55, 108, 172]
abbrev dktX5_of_0 : List UInt8 := dkwX5_of_0 ++ []
theorem dksX5_of_0 : cX5_of.data.toList.drop 0 = dktX5_of_0 := by decide +kernel
theorem dX5_of_0 : decode cX5_of 0 = .ok (.aload_n 0, 1) := dk_42 (dk_at dksX5_of_0 0 rfl rfl)
theorem dX5_of_1 : decode cX5_of 1 = .ok (.getfield 43, 3) := dk_180 0 43 (dk_at dksX5_of_0 1 rfl rfl)
theorem dX5_of_4 : decode cX5_of 4 = .ok (.iload_n 1, 1) := dk_27 (dk_at dksX5_of_0 4 rfl rfl)
theorem dX5_of_5 : decode cX5_of 5 = .ok (.isub, 1) := dk_100 (dk_at dksX5_of_0 5 rfl rfl)
theorem dX5_of_6 : decode cX5_of 6 = .ok (.aload_n 0, 1) := dk_42 (dk_at dksX5_of_0 6 rfl rfl)
theorem dX5_of_7 : decode cX5_of 7 = .ok (.getfield 55, 3) := dk_180 0 55 (dk_at dksX5_of_0 7 rfl rfl)
theorem dX5_of_10 : decode cX5_of 10 = .ok (.iadd, 1) := dk_96 (dk_at dksX5_of_0 10 rfl rfl)
theorem dX5_of_11 : decode cX5_of 11 = .ok (.iconst 1, 1) := dk_4 (dk_at dksX5_of_0 11 rfl rfl)
theorem dX5_of_12 : decode cX5_of 12 = .ok (.isub, 1) := dk_100 (dk_at dksX5_of_0 12 rfl rfl)
theorem dX5_of_13 : decode cX5_of 13 = .ok (.aload_n 0, 1) := dk_42 (dk_at dksX5_of_0 13 rfl rfl)
theorem dX5_of_14 : decode cX5_of 14 = .ok (.getfield 55, 3) := dk_180 0 55 (dk_at dksX5_of_0 14 rfl rfl)
theorem dX5_of_17 : decode cX5_of 17 = .ok (.idiv, 1) := dk_108 (dk_at dksX5_of_0 17 rfl rfl)
theorem dX5_of_18 : decode cX5_of 18 = .ok (.ireturn, 1) := dk_172 (dk_at dksX5_of_0 18 rfl rfl)
abbrev cX5_checksOf : ByteArray := prog_12_method_6_code
def yX5_checksOf : MethodName := ⟨RX5, "checksOf", "()I"⟩
def dkwX5_checksOf_0 : List UInt8 := [42, 180, 0, 49, 42, 180, 0, 55, 108, 172]
abbrev dktX5_checksOf_0 : List UInt8 := dkwX5_checksOf_0 ++ []
theorem dksX5_checksOf_0 : cX5_checksOf.data.toList.drop 0 = dktX5_checksOf_0 := by decide +kernel
theorem dX5_checksOf_0 : decode cX5_checksOf 0 = .ok (.aload_n 0, 1) := dk_42 (dk_at dksX5_checksOf_0 0 rfl rfl)
theorem dX5_checksOf_1 : decode cX5_checksOf 1 = .ok (.getfield 49, 3) := dk_180 0 49 (dk_at dksX5_checksOf_0 1 rfl rfl)
theorem dX5_checksOf_4 : decode cX5_checksOf 4 = .ok (.aload_n 0, 1) := dk_42 (dk_at dksX5_checksOf_0 4 rfl rfl)
theorem dX5_checksOf_5 : decode cX5_checksOf 5 = .ok (.getfield 55, 3) := dk_180 0 55 (dk_at dksX5_checksOf_0 5 rfl rfl)
theorem dX5_checksOf_8 : decode cX5_checksOf 8 = .ok (.idiv, 1) := dk_108 (dk_at dksX5_checksOf_0 8 rfl rfl)
theorem dX5_checksOf_9 : decode cX5_checksOf 9 = .ok (.ireturn, 1) := dk_172 (dk_at dksX5_checksOf_0 9 rfl rfl)
abbrev cX5_border : ByteArray := prog_12_method_4_code
def yX5_border : MethodName := ⟨RX5, "border", "(II)I"⟩
def dkwX5_border_3 : List UInt8 := [100, 21, 5, 100, 5, 112, 100, 167, 0, 4, 2, 172]
abbrev dktX5_border_3 : List UInt8 := dkwX5_border_3 ++ []
def dkwX5_border_2 : List UInt8 := [21, 5, 154, 0, 10, 4, 21, 6, 5, 112, 100, 172, 21, 6, 21, 4, 4, 100, 160, 0, 16, 4, 29, 4]
abbrev dktX5_border_2 : List UInt8 := dkwX5_border_2 ++ dktX5_border_3
def dkwX5_border_1 : List UInt8 := [54, 5, 28, 21, 4, 112, 54, 6, 21, 6, 153, 0, 11, 21, 5, 29, 4, 100, 160, 0, 5, 4, 172]
abbrev dktX5_border_1 : List UInt8 := dkwX5_border_1 ++ dktX5_border_2
def dkwX5_border_0 : List UInt8 := [42, 180, 0, 19, 42, 180, 0, 28, 108, 62, 42, 180, 0, 25, 42, 180, 0, 34, 108, 54, 4, 27, 29, 112]
abbrev dktX5_border_0 : List UInt8 := dkwX5_border_0 ++ dktX5_border_1
theorem dksX5_border_0 : cX5_border.data.toList.drop 0 = dktX5_border_0 := by decide +kernel
theorem dksX5_border_1 : cX5_border.data.toList.drop 24 = dktX5_border_1 := dk_seg dksX5_border_0 24 rfl rfl
theorem dksX5_border_2 : cX5_border.data.toList.drop 47 = dktX5_border_2 := dk_seg dksX5_border_1 23 rfl rfl
theorem dksX5_border_3 : cX5_border.data.toList.drop 71 = dktX5_border_3 := dk_seg dksX5_border_2 24 rfl rfl
theorem dX5_border_0 : decode cX5_border 0 = .ok (.aload_n 0, 1) := dk_42 (dk_at dksX5_border_0 0 rfl rfl)
theorem dX5_border_1 : decode cX5_border 1 = .ok (.getfield 19, 3) := dk_180 0 19 (dk_at dksX5_border_0 1 rfl rfl)
theorem dX5_border_4 : decode cX5_border 4 = .ok (.aload_n 0, 1) := dk_42 (dk_at dksX5_border_0 4 rfl rfl)
theorem dX5_border_5 : decode cX5_border 5 = .ok (.getfield 28, 3) := dk_180 0 28 (dk_at dksX5_border_0 5 rfl rfl)
theorem dX5_border_8 : decode cX5_border 8 = .ok (.idiv, 1) := dk_108 (dk_at dksX5_border_0 8 rfl rfl)
theorem dX5_border_9 : decode cX5_border 9 = .ok (.istore_n 3, 1) := dk_62 (dk_at dksX5_border_0 9 rfl rfl)
theorem dX5_border_10 : decode cX5_border 10 = .ok (.aload_n 0, 1) := dk_42 (dk_at dksX5_border_0 10 rfl rfl)
theorem dX5_border_11 : decode cX5_border 11 = .ok (.getfield 25, 3) := dk_180 0 25 (dk_at dksX5_border_0 11 rfl rfl)
theorem dX5_border_14 : decode cX5_border 14 = .ok (.aload_n 0, 1) := dk_42 (dk_at dksX5_border_0 14 rfl rfl)
theorem dX5_border_15 : decode cX5_border 15 = .ok (.getfield 34, 3) := dk_180 0 34 (dk_at dksX5_border_0 15 rfl rfl)
theorem dX5_border_18 : decode cX5_border 18 = .ok (.idiv, 1) := dk_108 (dk_at dksX5_border_0 18 rfl rfl)
theorem dX5_border_19 : decode cX5_border 19 = .ok (.istore 4, 2) := dk_54 4 (dk_at dksX5_border_0 19 rfl rfl)
theorem dX5_border_21 : decode cX5_border 21 = .ok (.iload_n 1, 1) := dk_27 (dk_at dksX5_border_0 21 rfl rfl)
theorem dX5_border_22 : decode cX5_border 22 = .ok (.iload_n 3, 1) := dk_29 (dk_at dksX5_border_0 22 rfl rfl)
theorem dX5_border_23 : decode cX5_border 23 = .ok (.irem, 1) := dk_112 (dk_at dksX5_border_0 23 rfl rfl)
theorem dX5_border_24 : decode cX5_border 24 = .ok (.istore 5, 2) := dk_54 5 (dk_at dksX5_border_1 0 rfl rfl)
theorem dX5_border_26 : decode cX5_border 26 = .ok (.iload_n 2, 1) := dk_28 (dk_at dksX5_border_1 2 rfl rfl)
theorem dX5_border_27 : decode cX5_border 27 = .ok (.iload 4, 2) := dk_21 4 (dk_at dksX5_border_1 3 rfl rfl)
theorem dX5_border_29 : decode cX5_border 29 = .ok (.irem, 1) := dk_112 (dk_at dksX5_border_1 5 rfl rfl)
theorem dX5_border_30 : decode cX5_border 30 = .ok (.istore 6, 2) := dk_54 6 (dk_at dksX5_border_1 6 rfl rfl)
theorem dX5_border_32 : decode cX5_border 32 = .ok (.iload 6, 2) := dk_21 6 (dk_at dksX5_border_1 8 rfl rfl)
theorem dX5_border_34 : decode cX5_border 34 = .ok (.ifCond .eq 11, 3) := dk_153 0 11 (dk_at dksX5_border_1 10 rfl rfl)
theorem dX5_border_37 : decode cX5_border 37 = .ok (.iload 5, 2) := dk_21 5 (dk_at dksX5_border_1 13 rfl rfl)
theorem dX5_border_39 : decode cX5_border 39 = .ok (.iload_n 3, 1) := dk_29 (dk_at dksX5_border_1 15 rfl rfl)
theorem dX5_border_40 : decode cX5_border 40 = .ok (.iconst 1, 1) := dk_4 (dk_at dksX5_border_1 16 rfl rfl)
theorem dX5_border_41 : decode cX5_border 41 = .ok (.isub, 1) := dk_100 (dk_at dksX5_border_1 17 rfl rfl)
theorem dX5_border_42 : decode cX5_border 42 = .ok (.if_icmp .ne 5, 3) := dk_160 0 5 (dk_at dksX5_border_1 18 rfl rfl)
theorem dX5_border_45 : decode cX5_border 45 = .ok (.iconst 1, 1) := dk_4 (dk_at dksX5_border_1 21 rfl rfl)
theorem dX5_border_46 : decode cX5_border 46 = .ok (.ireturn, 1) := dk_172 (dk_at dksX5_border_1 22 rfl rfl)
theorem dX5_border_47 : decode cX5_border 47 = .ok (.iload 5, 2) := dk_21 5 (dk_at dksX5_border_2 0 rfl rfl)
theorem dX5_border_49 : decode cX5_border 49 = .ok (.ifCond .ne 10, 3) := dk_154 0 10 (dk_at dksX5_border_2 2 rfl rfl)
theorem dX5_border_52 : decode cX5_border 52 = .ok (.iconst 1, 1) := dk_4 (dk_at dksX5_border_2 5 rfl rfl)
theorem dX5_border_53 : decode cX5_border 53 = .ok (.iload 6, 2) := dk_21 6 (dk_at dksX5_border_2 6 rfl rfl)
theorem dX5_border_55 : decode cX5_border 55 = .ok (.iconst 2, 1) := dk_5 (dk_at dksX5_border_2 8 rfl rfl)
theorem dX5_border_56 : decode cX5_border 56 = .ok (.irem, 1) := dk_112 (dk_at dksX5_border_2 9 rfl rfl)
theorem dX5_border_57 : decode cX5_border 57 = .ok (.isub, 1) := dk_100 (dk_at dksX5_border_2 10 rfl rfl)
theorem dX5_border_58 : decode cX5_border 58 = .ok (.ireturn, 1) := dk_172 (dk_at dksX5_border_2 11 rfl rfl)
theorem dX5_border_59 : decode cX5_border 59 = .ok (.iload 6, 2) := dk_21 6 (dk_at dksX5_border_2 12 rfl rfl)
theorem dX5_border_61 : decode cX5_border 61 = .ok (.iload 4, 2) := dk_21 4 (dk_at dksX5_border_2 14 rfl rfl)
theorem dX5_border_63 : decode cX5_border 63 = .ok (.iconst 1, 1) := dk_4 (dk_at dksX5_border_2 16 rfl rfl)
theorem dX5_border_64 : decode cX5_border 64 = .ok (.isub, 1) := dk_100 (dk_at dksX5_border_2 17 rfl rfl)
theorem dX5_border_65 : decode cX5_border 65 = .ok (.if_icmp .ne 16, 3) := dk_160 0 16 (dk_at dksX5_border_2 18 rfl rfl)
theorem dX5_border_68 : decode cX5_border 68 = .ok (.iconst 1, 1) := dk_4 (dk_at dksX5_border_2 21 rfl rfl)
theorem dX5_border_69 : decode cX5_border 69 = .ok (.iload_n 3, 1) := dk_29 (dk_at dksX5_border_2 22 rfl rfl)
theorem dX5_border_70 : decode cX5_border 70 = .ok (.iconst 1, 1) := dk_4 (dk_at dksX5_border_2 23 rfl rfl)
theorem dX5_border_71 : decode cX5_border 71 = .ok (.isub, 1) := dk_100 (dk_at dksX5_border_3 0 rfl rfl)
theorem dX5_border_72 : decode cX5_border 72 = .ok (.iload 5, 2) := dk_21 5 (dk_at dksX5_border_3 1 rfl rfl)
theorem dX5_border_74 : decode cX5_border 74 = .ok (.isub, 1) := dk_100 (dk_at dksX5_border_3 3 rfl rfl)
theorem dX5_border_75 : decode cX5_border 75 = .ok (.iconst 2, 1) := dk_5 (dk_at dksX5_border_3 4 rfl rfl)
theorem dX5_border_76 : decode cX5_border 76 = .ok (.irem, 1) := dk_112 (dk_at dksX5_border_3 5 rfl rfl)
theorem dX5_border_77 : decode cX5_border 77 = .ok (.isub, 1) := dk_100 (dk_at dksX5_border_3 6 rfl rfl)
theorem dX5_border_78 : decode cX5_border 78 = .ok (.goto 4, 3) := dk_167 0 4 (dk_at dksX5_border_3 7 rfl rfl)
theorem dX5_border_81 : decode cX5_border 81 = .ok (.iconst (-1), 1) := dk_2 (dk_at dksX5_border_3 10 rfl rfl)
theorem dX5_border_82 : decode cX5_border 82 = .ok (.ireturn, 1) := dk_172 (dk_at dksX5_border_3 11 rfl rfl)
abbrev cX5_row : ByteArray := prog_12_method_2_code
def yX5_row : MethodName := ⟨RX5, "row", "(I)I"⟩
def dkwX5_row_0 : List UInt8 := [27, 5, 27, 42, 180, 0, 37, 42, 180, 0, 28, 108, 108, 104, 96, 4, 96, 172]
abbrev dktX5_row_0 : List UInt8 := dkwX5_row_0 ++ []
theorem dksX5_row_0 : cX5_row.data.toList.drop 0 = dktX5_row_0 := by decide +kernel
theorem dX5_row_0 : decode cX5_row 0 = .ok (.iload_n 1, 1) := dk_27 (dk_at dksX5_row_0 0 rfl rfl)
theorem dX5_row_1 : decode cX5_row 1 = .ok (.iconst 2, 1) := dk_5 (dk_at dksX5_row_0 1 rfl rfl)
theorem dX5_row_2 : decode cX5_row 2 = .ok (.iload_n 1, 1) := dk_27 (dk_at dksX5_row_0 2 rfl rfl)
theorem dX5_row_3 : decode cX5_row 3 = .ok (.aload_n 0, 1) := dk_42 (dk_at dksX5_row_0 3 rfl rfl)
theorem dX5_row_4 : decode cX5_row 4 = .ok (.getfield 37, 3) := dk_180 0 37 (dk_at dksX5_row_0 4 rfl rfl)
theorem dX5_row_7 : decode cX5_row 7 = .ok (.aload_n 0, 1) := dk_42 (dk_at dksX5_row_0 7 rfl rfl)
theorem dX5_row_8 : decode cX5_row 8 = .ok (.getfield 28, 3) := dk_180 0 28 (dk_at dksX5_row_0 8 rfl rfl)
theorem dX5_row_11 : decode cX5_row 11 = .ok (.idiv, 1) := dk_108 (dk_at dksX5_row_0 11 rfl rfl)
theorem dX5_row_12 : decode cX5_row 12 = .ok (.idiv, 1) := dk_108 (dk_at dksX5_row_0 12 rfl rfl)
theorem dX5_row_13 : decode cX5_row 13 = .ok (.imul, 1) := dk_104 (dk_at dksX5_row_0 13 rfl rfl)
theorem dX5_row_14 : decode cX5_row 14 = .ok (.iadd, 1) := dk_96 (dk_at dksX5_row_0 14 rfl rfl)
theorem dX5_row_15 : decode cX5_row 15 = .ok (.iconst 1, 1) := dk_4 (dk_at dksX5_row_0 15 rfl rfl)
theorem dX5_row_16 : decode cX5_row 16 = .ok (.iadd, 1) := dk_96 (dk_at dksX5_row_0 16 rfl rfl)
theorem dX5_row_17 : decode cX5_row 17 = .ok (.ireturn, 1) := dk_172 (dk_at dksX5_row_0 17 rfl rfl)
abbrev cX5_column : ByteArray := prog_12_method_3_code
def yX5_column : MethodName := ⟨RX5, "column", "(I)I"⟩
def dkwX5_column_0 : List UInt8 := [27, 5, 27, 42, 180, 0, 40, 42, 180, 0, 34, 108, 108, 104, 96, 4, 96, 172]
abbrev dktX5_column_0 : List UInt8 := dkwX5_column_0 ++ []
theorem dksX5_column_0 : cX5_column.data.toList.drop 0 = dktX5_column_0 := by decide +kernel
theorem dX5_column_0 : decode cX5_column 0 = .ok (.iload_n 1, 1) := dk_27 (dk_at dksX5_column_0 0 rfl rfl)
theorem dX5_column_1 : decode cX5_column 1 = .ok (.iconst 2, 1) := dk_5 (dk_at dksX5_column_0 1 rfl rfl)
theorem dX5_column_2 : decode cX5_column 2 = .ok (.iload_n 1, 1) := dk_27 (dk_at dksX5_column_0 2 rfl rfl)
theorem dX5_column_3 : decode cX5_column 3 = .ok (.aload_n 0, 1) := dk_42 (dk_at dksX5_column_0 3 rfl rfl)
theorem dX5_column_4 : decode cX5_column 4 = .ok (.getfield 40, 3) := dk_180 0 40 (dk_at dksX5_column_0 4 rfl rfl)
theorem dX5_column_7 : decode cX5_column 7 = .ok (.aload_n 0, 1) := dk_42 (dk_at dksX5_column_0 7 rfl rfl)
theorem dX5_column_8 : decode cX5_column 8 = .ok (.getfield 34, 3) := dk_180 0 34 (dk_at dksX5_column_0 8 rfl rfl)
theorem dX5_column_11 : decode cX5_column 11 = .ok (.idiv, 1) := dk_108 (dk_at dksX5_column_0 11 rfl rfl)
theorem dX5_column_12 : decode cX5_column 12 = .ok (.idiv, 1) := dk_108 (dk_at dksX5_column_0 12 rfl rfl)
theorem dX5_column_13 : decode cX5_column 13 = .ok (.imul, 1) := dk_104 (dk_at dksX5_column_0 13 rfl rfl)
theorem dX5_column_14 : decode cX5_column 14 = .ok (.iadd, 1) := dk_96 (dk_at dksX5_column_0 14 rfl rfl)
theorem dX5_column_15 : decode cX5_column 15 = .ok (.iconst 1, 1) := dk_4 (dk_at dksX5_column_0 15 rfl rfl)
theorem dX5_column_16 : decode cX5_column 16 = .ok (.iadd, 1) := dk_96 (dk_at dksX5_column_0 16 rfl rfl)
theorem dX5_column_17 : decode cX5_column 17 = .ok (.ireturn, 1) := dk_172 (dk_at dksX5_column_0 17 rfl rfl)
theorem q115 : (Jvm.Cond.initialized "MatrixPress$Symbol") ∈ lw_all := lw_g (lw_at lw_m1 8 rfl) rfl
theorem q276 : (Jvm.Cond.instantiable "MatrixPress$Symbol" (11 : Nat)) ∈ lw_all := lw_g (lw_at lw_m1 169 rfl) rfl
theorem q278 : (Jvm.Cond.instanceMethod ({ cls := "MatrixPress$Symbol", name := "<init>", desc := "(I)V" } : Jvm.MethodName)) ∈ lw_all := lw_g (lw_at lw_m1 171 rfl) rfl
theorem q279 : (Jvm.Cond.code ({ cls := "MatrixPress$Symbol", name := "<init>", desc := "(I)V" } : Jvm.MethodName) prog_12_method_1_code (2 : Nat) (Option.none : Option Jvm.ClassFile.FieldType)) ∈ lw_all := lw_g (lw_at lw_m1 172 rfl) rfl
theorem q280 : (Jvm.Cond.methodLink "MatrixPress$Symbol" (3 : Nat) ({ cls := "java/lang/Object", name := "<init>", desc := "()V" } : Jvm.MethodName)) ∈ lw_all := lw_g (lw_at lw_m1 173 rfl) rfl
theorem q281 : (Jvm.Cond.fieldLinkNest "MatrixPress$Symbol" (15 : Nat) "MatrixPress" "ROWS" "[I" "MatrixPress") ∈ lw_tbl := lw_at lw_m1 174 rfl
theorem q283 : (Jvm.Cond.fieldLinkNest "MatrixPress$Symbol" (22 : Nat) "MatrixPress" "WIDE" "[I" "MatrixPress") ∈ lw_tbl := lw_at lw_m1 176 rfl
theorem q285 : (Jvm.Cond.fieldLinkNest "MatrixPress$Symbol" (31 : Nat) "MatrixPress" "BESIDE" "[I" "MatrixPress") ∈ lw_tbl := lw_at lw_m1 178 rfl
theorem q287 : (Jvm.Cond.fieldLinkNest "MatrixPress$Symbol" (46 : Nat) "MatrixPress" "CHECKS" "[I" "MatrixPress") ∈ lw_tbl := lw_at lw_m1 180 rfl
theorem q289 : (Jvm.Cond.fieldLink "MatrixPress$Symbol" (9 : Nat) "MatrixPress$Symbol" "number" "I") ∈ lw_all := lw_g (lw_at lw_m1 182 rfl) rfl
theorem q291 : (Jvm.Cond.fieldLink "MatrixPress$Symbol" (19 : Nat) "MatrixPress$Symbol" "rows" "I") ∈ lw_all := lw_g (lw_at lw_m1 184 rfl) rfl
theorem q293 : (Jvm.Cond.fieldLink "MatrixPress$Symbol" (25 : Nat) "MatrixPress$Symbol" "columns" "I") ∈ lw_all := lw_g (lw_at lw_m1 186 rfl) rfl
theorem q295 : (Jvm.Cond.fieldLink "MatrixPress$Symbol" (28 : Nat) "MatrixPress$Symbol" "down" "I") ∈ lw_all := lw_g (lw_at lw_m1 188 rfl) rfl
theorem q296 : (Jvm.Cond.fieldLink "MatrixPress$Symbol" (34 : Nat) "MatrixPress$Symbol" "across" "I") ∈ lw_all := lw_g (lw_at lw_m1 189 rfl) rfl
theorem q297 : (Jvm.Cond.fieldLink "MatrixPress$Symbol" (37 : Nat) "MatrixPress$Symbol" "planeRows" "I") ∈ lw_all := lw_g (lw_at lw_m1 190 rfl) rfl
theorem q300 : (Jvm.Cond.fieldLink "MatrixPress$Symbol" (40 : Nat) "MatrixPress$Symbol" "planeColumns" "I") ∈ lw_all := lw_g (lw_at lw_m1 193 rfl) rfl
theorem q303 : (Jvm.Cond.fieldLink "MatrixPress$Symbol" (43 : Nat) "MatrixPress$Symbol" "all" "I") ∈ lw_all := lw_g (lw_at lw_m1 196 rfl) rfl
theorem q305 : (Jvm.Cond.fieldLink "MatrixPress$Symbol" (49 : Nat) "MatrixPress$Symbol" "checks" "I") ∈ lw_all := lw_g (lw_at lw_m1 198 rfl) rfl
theorem q307 : (Jvm.Cond.fieldLink "MatrixPress$Symbol" (52 : Nat) "MatrixPress$Symbol" "data" "I") ∈ lw_all := lw_g (lw_at lw_m1 200 rfl) rfl
theorem q309 : (Jvm.Cond.fieldLink "MatrixPress$Symbol" (55 : Nat) "MatrixPress$Symbol" "blocks" "I") ∈ lw_all := lw_g (lw_at lw_m1 202 rfl) rfl
theorem q311 : (Jvm.Cond.laysFinal "MatrixPress$Symbol" "MatrixPress$Symbol" "number" "I") ∈ lw_all := lw_g (lw_at lw_m1 204 rfl) rfl
theorem q312 : (Jvm.Cond.soleField "MatrixPress$Symbol" "number") ∈ lw_all := lw_g (lw_at lw_m1 205 rfl) rfl
theorem q313 : (Jvm.Cond.laysFinal "MatrixPress$Symbol" "MatrixPress$Symbol" "rows" "I") ∈ lw_all := lw_g (lw_at lw_m1 206 rfl) rfl
theorem q314 : (Jvm.Cond.soleField "MatrixPress$Symbol" "rows") ∈ lw_all := lw_g (lw_at lw_m1 207 rfl) rfl
theorem q315 : (Jvm.Cond.laysFinal "MatrixPress$Symbol" "MatrixPress$Symbol" "columns" "I") ∈ lw_all := lw_g (lw_at lw_m1 208 rfl) rfl
theorem q316 : (Jvm.Cond.soleField "MatrixPress$Symbol" "columns") ∈ lw_all := lw_g (lw_at lw_m1 209 rfl) rfl
theorem q317 : (Jvm.Cond.laysFinal "MatrixPress$Symbol" "MatrixPress$Symbol" "down" "I") ∈ lw_all := lw_g (lw_at lw_m1 210 rfl) rfl
theorem q318 : (Jvm.Cond.soleField "MatrixPress$Symbol" "down") ∈ lw_all := lw_g (lw_at lw_m1 211 rfl) rfl
theorem q319 : (Jvm.Cond.laysFinal "MatrixPress$Symbol" "MatrixPress$Symbol" "across" "I") ∈ lw_all := lw_g (lw_at lw_m1 212 rfl) rfl
theorem q320 : (Jvm.Cond.soleField "MatrixPress$Symbol" "across") ∈ lw_all := lw_g (lw_at lw_m1 213 rfl) rfl
theorem q321 : (Jvm.Cond.laysFinal "MatrixPress$Symbol" "MatrixPress$Symbol" "planeRows" "I") ∈ lw_all := lw_g (lw_at lw_m1 214 rfl) rfl
theorem q322 : (Jvm.Cond.soleField "MatrixPress$Symbol" "planeRows") ∈ lw_all := lw_g (lw_at lw_m1 215 rfl) rfl
theorem q323 : (Jvm.Cond.laysFinal "MatrixPress$Symbol" "MatrixPress$Symbol" "planeColumns" "I") ∈ lw_all := lw_g (lw_at lw_m1 216 rfl) rfl
theorem q324 : (Jvm.Cond.soleField "MatrixPress$Symbol" "planeColumns") ∈ lw_all := lw_g (lw_at lw_m1 217 rfl) rfl
theorem q325 : (Jvm.Cond.laysFinal "MatrixPress$Symbol" "MatrixPress$Symbol" "all" "I") ∈ lw_all := lw_g (lw_at lw_m1 218 rfl) rfl
theorem q326 : (Jvm.Cond.soleField "MatrixPress$Symbol" "all") ∈ lw_all := lw_g (lw_at lw_m1 219 rfl) rfl
theorem q327 : (Jvm.Cond.laysFinal "MatrixPress$Symbol" "MatrixPress$Symbol" "checks" "I") ∈ lw_all := lw_g (lw_at lw_m1 220 rfl) rfl
theorem q328 : (Jvm.Cond.soleField "MatrixPress$Symbol" "checks") ∈ lw_all := lw_g (lw_at lw_m1 221 rfl) rfl
theorem q329 : (Jvm.Cond.laysFinal "MatrixPress$Symbol" "MatrixPress$Symbol" "data" "I") ∈ lw_all := lw_g (lw_at lw_m1 222 rfl) rfl
theorem q330 : (Jvm.Cond.soleField "MatrixPress$Symbol" "data") ∈ lw_all := lw_g (lw_at lw_m1 223 rfl) rfl
theorem q331 : (Jvm.Cond.laysFinal "MatrixPress$Symbol" "MatrixPress$Symbol" "blocks" "I") ∈ lw_all := lw_g (lw_at lw_m1 224 rfl) rfl
theorem q332 : (Jvm.Cond.soleField "MatrixPress$Symbol" "blocks") ∈ lw_all := lw_g (lw_at lw_m1 225 rfl) rfl
theorem q333 : (Jvm.Cond.superclass "MatrixPress$Symbol" "java/lang/Object") ∈ lw_all := lw_g (lw_at lw_m1 226 rfl) rfl
theorem q412 : (Jvm.Cond.selects "MatrixPress$Symbol" ({ cls := "java/lang/Object", name := "getClass", desc := "()Ljava/lang/Class;" } : Jvm.MethodName) ({ cls := "java/lang/Object", name := "getClass", desc := "()Ljava/lang/Class;" } : Jvm.MethodName)) ∈ lw_all := lw_g (lw_at lw_m2 65 rfl) rfl
theorem q914 : (Jvm.Cond.instanceMethod ({ cls := "MatrixPress$Symbol", name := "of", desc := "(I)I" } : Jvm.MethodName)) ∈ lw_all := lw_g (lw_at lw_m4 87 rfl) rfl
theorem q915 : (Jvm.Cond.selects "MatrixPress$Symbol" ({ cls := "MatrixPress$Symbol", name := "of", desc := "(I)I" } : Jvm.MethodName) ({ cls := "MatrixPress$Symbol", name := "of", desc := "(I)I" } : Jvm.MethodName)) ∈ lw_all := lw_g (lw_at lw_m4 88 rfl) rfl
theorem q916 : (Jvm.Cond.code ({ cls := "MatrixPress$Symbol", name := "of", desc := "(I)I" } : Jvm.MethodName) prog_12_method_5_code (2 : Nat) (Option.some Jvm.ClassFile.FieldType.int)) ∈ lw_all := lw_g (lw_at lw_m4 89 rfl) rfl
theorem q918 : (Jvm.Cond.instanceMethod ({ cls := "MatrixPress$Symbol", name := "checksOf", desc := "()I" } : Jvm.MethodName)) ∈ lw_all := lw_g (lw_at lw_m4 91 rfl) rfl
theorem q919 : (Jvm.Cond.selects "MatrixPress$Symbol" ({ cls := "MatrixPress$Symbol", name := "checksOf", desc := "()I" } : Jvm.MethodName) ({ cls := "MatrixPress$Symbol", name := "checksOf", desc := "()I" } : Jvm.MethodName)) ∈ lw_all := lw_g (lw_at lw_m4 92 rfl) rfl
theorem q920 : (Jvm.Cond.code ({ cls := "MatrixPress$Symbol", name := "checksOf", desc := "()I" } : Jvm.MethodName) prog_12_method_6_code (1 : Nat) (Option.some Jvm.ClassFile.FieldType.int)) ∈ lw_all := lw_g (lw_at lw_m4 93 rfl) rfl
theorem q958 : (Jvm.Cond.instanceMethod ({ cls := "MatrixPress$Symbol", name := "border", desc := "(II)I" } : Jvm.MethodName)) ∈ lw_all := lw_g (lw_at lw_m4 131 rfl) rfl
theorem q959 : (Jvm.Cond.selects "MatrixPress$Symbol" ({ cls := "MatrixPress$Symbol", name := "border", desc := "(II)I" } : Jvm.MethodName) ({ cls := "MatrixPress$Symbol", name := "border", desc := "(II)I" } : Jvm.MethodName)) ∈ lw_all := lw_g (lw_at lw_m4 132 rfl) rfl
theorem q960 : (Jvm.Cond.code ({ cls := "MatrixPress$Symbol", name := "border", desc := "(II)I" } : Jvm.MethodName) prog_12_method_4_code (7 : Nat) (Option.some Jvm.ClassFile.FieldType.int)) ∈ lw_all := lw_g (lw_at lw_m4 133 rfl) rfl
theorem q970 : (Jvm.Cond.instanceMethod ({ cls := "MatrixPress$Symbol", name := "row", desc := "(I)I" } : Jvm.MethodName)) ∈ lw_all := lw_g (lw_at lw_m4 143 rfl) rfl
theorem q971 : (Jvm.Cond.selects "MatrixPress$Symbol" ({ cls := "MatrixPress$Symbol", name := "row", desc := "(I)I" } : Jvm.MethodName) ({ cls := "MatrixPress$Symbol", name := "row", desc := "(I)I" } : Jvm.MethodName)) ∈ lw_all := lw_g (lw_at lw_m4 144 rfl) rfl
theorem q972 : (Jvm.Cond.code ({ cls := "MatrixPress$Symbol", name := "row", desc := "(I)I" } : Jvm.MethodName) prog_12_method_2_code (2 : Nat) (Option.some Jvm.ClassFile.FieldType.int)) ∈ lw_all := lw_g (lw_at lw_m4 145 rfl) rfl
theorem q974 : (Jvm.Cond.instanceMethod ({ cls := "MatrixPress$Symbol", name := "column", desc := "(I)I" } : Jvm.MethodName)) ∈ lw_all := lw_g (lw_at lw_m4 147 rfl) rfl
theorem q975 : (Jvm.Cond.selects "MatrixPress$Symbol" ({ cls := "MatrixPress$Symbol", name := "column", desc := "(I)I" } : Jvm.MethodName) ({ cls := "MatrixPress$Symbol", name := "column", desc := "(I)I" } : Jvm.MethodName)) ∈ lw_all := lw_g (lw_at lw_m4 148 rfl) rfl
theorem q976 : (Jvm.Cond.code ({ cls := "MatrixPress$Symbol", name := "column", desc := "(I)I" } : Jvm.MethodName) prog_12_method_3_code (2 : Nat) (Option.some Jvm.ClassFile.FieldType.int)) ∈ lw_all := lw_g (lw_at lw_m4 149 rfl) rfl
theorem q1744 : (Jvm.Cond.castable "MatrixPress$Symbol" "java/lang/Object") ∈ lw_tbl := lw_at lw_m7 197 rfl
theorem in_X5 : ∀ w ∈ wsX50, w ∈ lw_all := lw_in wsX50 [311, 313, 315, 317, 319, 321, 323, 325, 327, 329, 331] (by decide +kernel) (by decide +kernel)
/-! MatrixPress$Encodation -/
set_option maxRecDepth 100000
def RX6 : String := "MatrixPress$Encodation"
abbrev cX6_init : ByteArray := prog_5_method_1_code
def yX6_init : MethodName := ⟨RX6, "<init>", "(I)V"⟩
def dkwX6_init_0 : List UInt8 := [42, 183, 0, 1, 42, 27, 181, 0, 7, 177]
abbrev dktX6_init_0 : List UInt8 := dkwX6_init_0 ++ []
theorem dksX6_init_0 : cX6_init.data.toList.drop 0 = dktX6_init_0 := by decide +kernel
theorem dX6_init_0 : decode cX6_init 0 = .ok (.aload_n 0, 1) := dk_42 (dk_at dksX6_init_0 0 rfl rfl)
theorem dX6_init_1 : decode cX6_init 1 = .ok (.invokespecial 1, 3) := dk_183 0 1 (dk_at dksX6_init_0 1 rfl rfl)
theorem dX6_init_4 : decode cX6_init 4 = .ok (.aload_n 0, 1) := dk_42 (dk_at dksX6_init_0 4 rfl rfl)
theorem dX6_init_5 : decode cX6_init 5 = .ok (.iload_n 1, 1) := dk_27 (dk_at dksX6_init_0 5 rfl rfl)
theorem dX6_init_6 : decode cX6_init 6 = .ok (.putfield 7, 3) := dk_181 0 7 (dk_at dksX6_init_0 6 rfl rfl)
theorem dX6_init_9 : decode cX6_init 9 = .ok (.return_, 1) := dk_177 (dk_at dksX6_init_0 9 rfl rfl)
abbrev cX6_prepare : ByteArray := prog_5_method_7_code
def yX6_prepare : MethodName := ⟨RX6, "prepare", "([BI)V"⟩
theorem dX6_prepare_0 : decode cX6_prepare 0 = .ok (.return_, 1) := by decide +kernel
theorem q116 : (Jvm.Cond.initialized "MatrixPress$Encodation") ∈ lw_all := lw_g (lw_at lw_m1 9 rfl) rfl
theorem q343 : (Jvm.Cond.instanceMethod ({ cls := "MatrixPress$Encodation", name := "<init>", desc := "(I)V" } : Jvm.MethodName)) ∈ lw_all := lw_g (lw_at lw_m1 236 rfl) rfl
theorem q344 : (Jvm.Cond.code ({ cls := "MatrixPress$Encodation", name := "<init>", desc := "(I)V" } : Jvm.MethodName) prog_5_method_1_code (2 : Nat) (Option.none : Option Jvm.ClassFile.FieldType)) ∈ lw_all := lw_g (lw_at lw_m1 237 rfl) rfl
theorem q345 : (Jvm.Cond.methodLink "MatrixPress$Encodation" (1 : Nat) ({ cls := "java/lang/Object", name := "<init>", desc := "()V" } : Jvm.MethodName)) ∈ lw_all := lw_g (lw_at lw_m1 238 rfl) rfl
theorem q352 : (Jvm.Cond.fieldLink "MatrixPress$Encodation" (7 : Nat) "MatrixPress$Encodation" "latch" "I") ∈ lw_all := lw_g (lw_at lw_m2 5 rfl) rfl
theorem q368 : (Jvm.Cond.soleField "MatrixPress$Encodation" "latch") ∈ lw_all := lw_g (lw_at lw_m2 21 rfl) rfl
theorem q611 : (Jvm.Cond.instanceMethod ({ cls := "MatrixPress$Encodation", name := "prepare", desc := "([BI)V" } : Jvm.MethodName)) ∈ lw_all := lw_g (lw_at lw_m3 24 rfl) rfl
theorem q612 : (Jvm.Cond.sameMethod "MatrixPress$Encodation" "MatrixPress$Encodation" "prepare" "([BI)V") ∈ lw_all := lw_g (lw_at lw_m3 25 rfl) rfl
theorem q632 : (Jvm.Cond.code ({ cls := "MatrixPress$Encodation", name := "prepare", desc := "([BI)V" } : Jvm.MethodName) prog_5_method_7_code (3 : Nat) (Option.none : Option Jvm.ClassFile.FieldType)) ∈ lw_all := lw_g (lw_at lw_m3 45 rfl) rfl
theorem q644 : (Jvm.Cond.declares ({ cls := "MatrixPress$Encodation", name := "closed", desc := "(II)I" } : Jvm.MethodName)) ∈ lw_tbl := lw_at lw_m3 57 rfl
theorem q645 : (Jvm.Cond.sameMethod "MatrixPress$Encodation" "MatrixPress$Encodation" "closed" "(II)I") ∈ lw_all := lw_g (lw_at lw_m3 58 rfl) rfl
theorem q684 : (Jvm.Cond.declares ({ cls := "MatrixPress$Encodation", name := "open", desc := "(II)I" } : Jvm.MethodName)) ∈ lw_tbl := lw_at lw_m3 97 rfl
theorem q685 : (Jvm.Cond.sameMethod "MatrixPress$Encodation" "MatrixPress$Encodation" "open" "(II)I") ∈ lw_all := lw_g (lw_at lw_m3 98 rfl) rfl
theorem q695 : (Jvm.Cond.declares ({ cls := "MatrixPress$Encodation", name := "leaves", desc := "()I" } : Jvm.MethodName)) ∈ lw_tbl := lw_at lw_m3 108 rfl
theorem q696 : (Jvm.Cond.sameMethod "MatrixPress$Encodation" "MatrixPress$Encodation" "leaves" "()I") ∈ lw_all := lw_g (lw_at lw_m3 109 rfl) rfl
theorem q781 : (Jvm.Cond.declares ({ cls := "MatrixPress$Encodation", name := "write", desc := "(LMatrixPress$Stream;[BIIZ)V" } : Jvm.MethodName)) ∈ lw_tbl := lw_at lw_m3 194 rfl
theorem q782 : (Jvm.Cond.sameMethod "MatrixPress$Encodation" "MatrixPress$Encodation" "write" "(LMatrixPress$Stream;[BIIZ)V") ∈ lw_all := lw_g (lw_at lw_m3 195 rfl) rfl
theorem q1029 : (Jvm.Cond.declares ({ cls := "MatrixPress$Encodation", name := "read", desc := "(LMatrixPress$Stream;)V" } : Jvm.MethodName)) ∈ lw_tbl := lw_at lw_m4 202 rfl
theorem q1030 : (Jvm.Cond.sameMethod "MatrixPress$Encodation" "MatrixPress$Encodation" "read" "(LMatrixPress$Stream;)V") ∈ lw_all := lw_g (lw_at lw_m4 203 rfl) rfl
/-! MatrixPress$Threes -/
set_option maxRecDepth 100000
def RX7 : String := "MatrixPress$Threes"
abbrev cX7_init : ByteArray := prog_13_method_1_code
def yX7_init : MethodName := ⟨RX7, "<init>", "(I)V"⟩
def dkwX7_init_0 : List UInt8 := [42, 27, 183, 0, 3, 42, 17, 50, 4, 188, 10, 181, 0, 9, 177]
abbrev dktX7_init_0 : List UInt8 := dkwX7_init_0 ++ []
theorem dksX7_init_0 : cX7_init.data.toList.drop 0 = dktX7_init_0 := by decide +kernel
theorem dX7_init_0 : decode cX7_init 0 = .ok (.aload_n 0, 1) := dk_42 (dk_at dksX7_init_0 0 rfl rfl)
theorem dX7_init_1 : decode cX7_init 1 = .ok (.iload_n 1, 1) := dk_27 (dk_at dksX7_init_0 1 rfl rfl)
theorem dX7_init_2 : decode cX7_init 2 = .ok (.invokespecial 3, 3) := dk_183 0 3 (dk_at dksX7_init_0 2 rfl rfl)
theorem dX7_init_5 : decode cX7_init 5 = .ok (.aload_n 0, 1) := dk_42 (dk_at dksX7_init_0 5 rfl rfl)
theorem dX7_init_6 : decode cX7_init 6 = .ok (.sipush 12804, 3) := dk_17 50 4 (dk_at dksX7_init_0 6 rfl rfl)
theorem dX7_init_9 : decode cX7_init 9 = .ok (.newarray .int, 2) := dk_188_10 (dk_at dksX7_init_0 9 rfl rfl)
theorem dX7_init_11 : decode cX7_init 11 = .ok (.putfield 9, 3) := dk_181 0 9 (dk_at dksX7_init_0 11 rfl rfl)
theorem dX7_init_14 : decode cX7_init 14 = .ok (.return_, 1) := dk_177 (dk_at dksX7_init_0 14 rfl rfl)
abbrev cX7_leaves : ByteArray := prog_13_method_9_code
def yX7_leaves : MethodName := ⟨RX7, "leaves", "()I"⟩
theorem dX7_leaves_0 : decode cX7_leaves 0 = .ok (.iconst 1, 1) := by decide +kernel
theorem dX7_leaves_1 : decode cX7_leaves 1 = .ok (.ireturn, 1) := by decide +kernel
abbrev cX7_write : ByteArray := prog_13_method_8_code
def yX7_write : MethodName := ⟨RX7, "write", "(LMatrixPress$Stream;[BIIZ)V"⟩
def dkwX7_write_5 : List UInt8 := [182, 0, 50, 132, 6, 3, 167, 255, 186, 21, 5, 153, 0, 10, 43, 17, 0, 254, 182, 0, 50, 177]
abbrev dktX7_write_5 : List UInt8 := dkwX7_write_5 ++ []
def dkwX7_write_4 : List UInt8 := [96, 46, 96, 4, 96, 54, 7, 43, 21, 7, 17, 1, 0, 108, 182, 0, 50, 43, 21, 7, 17, 1, 0, 112]
abbrev dktX7_write_4 : List UInt8 := dkwX7_write_4 ++ dktX7_write_5
def dkwX7_write_3 : List UInt8 := [21, 6, 46, 104, 16, 40, 42, 180, 0, 9, 21, 6, 4, 96, 46, 104, 96, 42, 180, 0, 9, 21, 6, 5]
abbrev dktX7_write_3 : List UInt8 := dkwX7_write_3 ++ dktX7_write_4
def dkwX7_write_2 : List UInt8 := [3, 182, 0, 47, 3, 54, 6, 21, 6, 42, 180, 0, 40, 162, 0, 67, 17, 6, 64, 42, 180, 0, 9]
abbrev dktX7_write_2 : List UInt8 := dkwX7_write_2 ++ dktX7_write_3
def dkwX7_write_1 : List UInt8 := [17, 0, 255, 126, 182, 0, 44, 132, 6, 1, 167, 255, 232, 42, 180, 0, 40, 6, 112, 5, 160, 0, 8, 42]
abbrev dktX7_write_1 : List UInt8 := dkwX7_write_1 ++ dktX7_write_2
def dkwX7_write_0 : List UInt8 := [42, 3, 181, 0, 40, 29, 54, 6, 21, 6, 29, 21, 4, 96, 162, 0, 21, 42, 44, 21, 6, 51]
abbrev dktX7_write_0 : List UInt8 := dkwX7_write_0 ++ dktX7_write_1
theorem dksX7_write_0 : cX7_write.data.toList.drop 0 = dktX7_write_0 := by decide +kernel
theorem dksX7_write_1 : cX7_write.data.toList.drop 22 = dktX7_write_1 := dk_seg dksX7_write_0 22 rfl rfl
theorem dksX7_write_2 : cX7_write.data.toList.drop 46 = dktX7_write_2 := dk_seg dksX7_write_1 24 rfl rfl
theorem dksX7_write_3 : cX7_write.data.toList.drop 69 = dktX7_write_3 := dk_seg dksX7_write_2 23 rfl rfl
theorem dksX7_write_4 : cX7_write.data.toList.drop 93 = dktX7_write_4 := dk_seg dksX7_write_3 24 rfl rfl
theorem dksX7_write_5 : cX7_write.data.toList.drop 117 = dktX7_write_5 := dk_seg dksX7_write_4 24 rfl rfl
theorem dX7_write_0 : decode cX7_write 0 = .ok (.aload_n 0, 1) := dk_42 (dk_at dksX7_write_0 0 rfl rfl)
theorem dX7_write_1 : decode cX7_write 1 = .ok (.iconst 0, 1) := dk_3 (dk_at dksX7_write_0 1 rfl rfl)
theorem dX7_write_2 : decode cX7_write 2 = .ok (.putfield 40, 3) := dk_181 0 40 (dk_at dksX7_write_0 2 rfl rfl)
theorem dX7_write_5 : decode cX7_write 5 = .ok (.iload_n 3, 1) := dk_29 (dk_at dksX7_write_0 5 rfl rfl)
theorem dX7_write_6 : decode cX7_write 6 = .ok (.istore 6, 2) := dk_54 6 (dk_at dksX7_write_0 6 rfl rfl)
theorem dX7_write_8 : decode cX7_write 8 = .ok (.iload 6, 2) := dk_21 6 (dk_at dksX7_write_0 8 rfl rfl)
theorem dX7_write_10 : decode cX7_write 10 = .ok (.iload_n 3, 1) := dk_29 (dk_at dksX7_write_0 10 rfl rfl)
theorem dX7_write_11 : decode cX7_write 11 = .ok (.iload 4, 2) := dk_21 4 (dk_at dksX7_write_0 11 rfl rfl)
theorem dX7_write_13 : decode cX7_write 13 = .ok (.iadd, 1) := dk_96 (dk_at dksX7_write_0 13 rfl rfl)
theorem dX7_write_14 : decode cX7_write 14 = .ok (.if_icmp .ge 21, 3) := dk_162 0 21 (dk_at dksX7_write_0 14 rfl rfl)
theorem dX7_write_17 : decode cX7_write 17 = .ok (.aload_n 0, 1) := dk_42 (dk_at dksX7_write_0 17 rfl rfl)
theorem dX7_write_18 : decode cX7_write 18 = .ok (.aload_n 2, 1) := dk_44 (dk_at dksX7_write_0 18 rfl rfl)
theorem dX7_write_19 : decode cX7_write 19 = .ok (.iload 6, 2) := dk_21 6 (dk_at dksX7_write_0 19 rfl rfl)
theorem dX7_write_21 : decode cX7_write 21 = .ok (.baload, 1) := dk_51 (dk_at dksX7_write_0 21 rfl rfl)
theorem dX7_write_22 : decode cX7_write 22 = .ok (.sipush 255, 3) := dk_17 0 255 (dk_at dksX7_write_1 0 rfl rfl)
theorem dX7_write_25 : decode cX7_write 25 = .ok (.iand, 1) := dk_126 (dk_at dksX7_write_1 3 rfl rfl)
theorem dX7_write_26 : decode cX7_write 26 = .ok (.invokevirtual 44, 3) := dk_182 0 44 (dk_at dksX7_write_1 4 rfl rfl)
theorem dX7_write_29 : decode cX7_write 29 = .ok (.iinc 6 1, 3) := dk_132 6 1 (dk_at dksX7_write_1 7 rfl rfl)
theorem dX7_write_32 : decode cX7_write 32 = .ok (.goto (-24), 3) := dk_167 255 232 (dk_at dksX7_write_1 10 rfl rfl)
theorem dX7_write_35 : decode cX7_write 35 = .ok (.aload_n 0, 1) := dk_42 (dk_at dksX7_write_1 13 rfl rfl)
theorem dX7_write_36 : decode cX7_write 36 = .ok (.getfield 40, 3) := dk_180 0 40 (dk_at dksX7_write_1 14 rfl rfl)
theorem dX7_write_39 : decode cX7_write 39 = .ok (.iconst 3, 1) := dk_6 (dk_at dksX7_write_1 17 rfl rfl)
theorem dX7_write_40 : decode cX7_write 40 = .ok (.irem, 1) := dk_112 (dk_at dksX7_write_1 18 rfl rfl)
theorem dX7_write_41 : decode cX7_write 41 = .ok (.iconst 2, 1) := dk_5 (dk_at dksX7_write_1 19 rfl rfl)
theorem dX7_write_42 : decode cX7_write 42 = .ok (.if_icmp .ne 8, 3) := dk_160 0 8 (dk_at dksX7_write_1 20 rfl rfl)
theorem dX7_write_45 : decode cX7_write 45 = .ok (.aload_n 0, 1) := dk_42 (dk_at dksX7_write_1 23 rfl rfl)
theorem dX7_write_46 : decode cX7_write 46 = .ok (.iconst 0, 1) := dk_3 (dk_at dksX7_write_2 0 rfl rfl)
theorem dX7_write_47 : decode cX7_write 47 = .ok (.invokevirtual 47, 3) := dk_182 0 47 (dk_at dksX7_write_2 1 rfl rfl)
theorem dX7_write_50 : decode cX7_write 50 = .ok (.iconst 0, 1) := dk_3 (dk_at dksX7_write_2 4 rfl rfl)
theorem dX7_write_51 : decode cX7_write 51 = .ok (.istore 6, 2) := dk_54 6 (dk_at dksX7_write_2 5 rfl rfl)
theorem dX7_write_53 : decode cX7_write 53 = .ok (.iload 6, 2) := dk_21 6 (dk_at dksX7_write_2 7 rfl rfl)
theorem dX7_write_55 : decode cX7_write 55 = .ok (.aload_n 0, 1) := dk_42 (dk_at dksX7_write_2 9 rfl rfl)
theorem dX7_write_56 : decode cX7_write 56 = .ok (.getfield 40, 3) := dk_180 0 40 (dk_at dksX7_write_2 10 rfl rfl)
theorem dX7_write_59 : decode cX7_write 59 = .ok (.if_icmp .ge 67, 3) := dk_162 0 67 (dk_at dksX7_write_2 13 rfl rfl)
theorem dX7_write_62 : decode cX7_write 62 = .ok (.sipush 1600, 3) := dk_17 6 64 (dk_at dksX7_write_2 16 rfl rfl)
theorem dX7_write_65 : decode cX7_write 65 = .ok (.aload_n 0, 1) := dk_42 (dk_at dksX7_write_2 19 rfl rfl)
theorem dX7_write_66 : decode cX7_write 66 = .ok (.getfield 9, 3) := dk_180 0 9 (dk_at dksX7_write_2 20 rfl rfl)
theorem dX7_write_69 : decode cX7_write 69 = .ok (.iload 6, 2) := dk_21 6 (dk_at dksX7_write_3 0 rfl rfl)
theorem dX7_write_71 : decode cX7_write 71 = .ok (.iaload, 1) := dk_46 (dk_at dksX7_write_3 2 rfl rfl)
theorem dX7_write_72 : decode cX7_write 72 = .ok (.imul, 1) := dk_104 (dk_at dksX7_write_3 3 rfl rfl)
theorem dX7_write_73 : decode cX7_write 73 = .ok (.bipush 40, 2) := dk_16 40 (dk_at dksX7_write_3 4 rfl rfl)
theorem dX7_write_75 : decode cX7_write 75 = .ok (.aload_n 0, 1) := dk_42 (dk_at dksX7_write_3 6 rfl rfl)
theorem dX7_write_76 : decode cX7_write 76 = .ok (.getfield 9, 3) := dk_180 0 9 (dk_at dksX7_write_3 7 rfl rfl)
theorem dX7_write_79 : decode cX7_write 79 = .ok (.iload 6, 2) := dk_21 6 (dk_at dksX7_write_3 10 rfl rfl)
theorem dX7_write_81 : decode cX7_write 81 = .ok (.iconst 1, 1) := dk_4 (dk_at dksX7_write_3 12 rfl rfl)
theorem dX7_write_82 : decode cX7_write 82 = .ok (.iadd, 1) := dk_96 (dk_at dksX7_write_3 13 rfl rfl)
theorem dX7_write_83 : decode cX7_write 83 = .ok (.iaload, 1) := dk_46 (dk_at dksX7_write_3 14 rfl rfl)
theorem dX7_write_84 : decode cX7_write 84 = .ok (.imul, 1) := dk_104 (dk_at dksX7_write_3 15 rfl rfl)
theorem dX7_write_85 : decode cX7_write 85 = .ok (.iadd, 1) := dk_96 (dk_at dksX7_write_3 16 rfl rfl)
theorem dX7_write_86 : decode cX7_write 86 = .ok (.aload_n 0, 1) := dk_42 (dk_at dksX7_write_3 17 rfl rfl)
theorem dX7_write_87 : decode cX7_write 87 = .ok (.getfield 9, 3) := dk_180 0 9 (dk_at dksX7_write_3 18 rfl rfl)
theorem dX7_write_90 : decode cX7_write 90 = .ok (.iload 6, 2) := dk_21 6 (dk_at dksX7_write_3 21 rfl rfl)
theorem dX7_write_92 : decode cX7_write 92 = .ok (.iconst 2, 1) := dk_5 (dk_at dksX7_write_3 23 rfl rfl)
theorem dX7_write_93 : decode cX7_write 93 = .ok (.iadd, 1) := dk_96 (dk_at dksX7_write_4 0 rfl rfl)
theorem dX7_write_94 : decode cX7_write 94 = .ok (.iaload, 1) := dk_46 (dk_at dksX7_write_4 1 rfl rfl)
theorem dX7_write_95 : decode cX7_write 95 = .ok (.iadd, 1) := dk_96 (dk_at dksX7_write_4 2 rfl rfl)
theorem dX7_write_96 : decode cX7_write 96 = .ok (.iconst 1, 1) := dk_4 (dk_at dksX7_write_4 3 rfl rfl)
theorem dX7_write_97 : decode cX7_write 97 = .ok (.iadd, 1) := dk_96 (dk_at dksX7_write_4 4 rfl rfl)
theorem dX7_write_98 : decode cX7_write 98 = .ok (.istore 7, 2) := dk_54 7 (dk_at dksX7_write_4 5 rfl rfl)
theorem dX7_write_100 : decode cX7_write 100 = .ok (.aload_n 1, 1) := dk_43 (dk_at dksX7_write_4 7 rfl rfl)
theorem dX7_write_101 : decode cX7_write 101 = .ok (.iload 7, 2) := dk_21 7 (dk_at dksX7_write_4 8 rfl rfl)
theorem dX7_write_103 : decode cX7_write 103 = .ok (.sipush 256, 3) := dk_17 1 0 (dk_at dksX7_write_4 10 rfl rfl)
theorem dX7_write_106 : decode cX7_write 106 = .ok (.idiv, 1) := dk_108 (dk_at dksX7_write_4 13 rfl rfl)
theorem dX7_write_107 : decode cX7_write 107 = .ok (.invokevirtual 50, 3) := dk_182 0 50 (dk_at dksX7_write_4 14 rfl rfl)
theorem dX7_write_110 : decode cX7_write 110 = .ok (.aload_n 1, 1) := dk_43 (dk_at dksX7_write_4 17 rfl rfl)
theorem dX7_write_111 : decode cX7_write 111 = .ok (.iload 7, 2) := dk_21 7 (dk_at dksX7_write_4 18 rfl rfl)
theorem dX7_write_113 : decode cX7_write 113 = .ok (.sipush 256, 3) := dk_17 1 0 (dk_at dksX7_write_4 20 rfl rfl)
theorem dX7_write_116 : decode cX7_write 116 = .ok (.irem, 1) := dk_112 (dk_at dksX7_write_4 23 rfl rfl)
theorem dX7_write_117 : decode cX7_write 117 = .ok (.invokevirtual 50, 3) := dk_182 0 50 (dk_at dksX7_write_5 0 rfl rfl)
theorem dX7_write_120 : decode cX7_write 120 = .ok (.iinc 6 3, 3) := dk_132 6 3 (dk_at dksX7_write_5 3 rfl rfl)
theorem dX7_write_123 : decode cX7_write 123 = .ok (.goto (-70), 3) := dk_167 255 186 (dk_at dksX7_write_5 6 rfl rfl)
theorem dX7_write_126 : decode cX7_write 126 = .ok (.iload 5, 2) := dk_21 5 (dk_at dksX7_write_5 9 rfl rfl)
theorem dX7_write_128 : decode cX7_write 128 = .ok (.ifCond .eq 10, 3) := dk_153 0 10 (dk_at dksX7_write_5 11 rfl rfl)
theorem dX7_write_131 : decode cX7_write 131 = .ok (.aload_n 1, 1) := dk_43 (dk_at dksX7_write_5 14 rfl rfl)
theorem dX7_write_132 : decode cX7_write 132 = .ok (.sipush 254, 3) := dk_17 0 254 (dk_at dksX7_write_5 15 rfl rfl)
theorem dX7_write_135 : decode cX7_write 135 = .ok (.invokevirtual 50, 3) := dk_182 0 50 (dk_at dksX7_write_5 18 rfl rfl)
theorem dX7_write_138 : decode cX7_write 138 = .ok (.return_, 1) := dk_177 (dk_at dksX7_write_5 21 rfl rfl)
abbrev cX7_add : ByteArray := prog_13_method_6_code
def yX7_add : MethodName := ⟨RX7, "add", "(I)V"⟩
def dkwX7_add_0 : List UInt8 := [42, 180, 0, 9, 42, 89, 180, 0, 40, 90, 4, 96, 181, 0, 40, 27, 79, 177]
abbrev dktX7_add_0 : List UInt8 := dkwX7_add_0 ++ []
theorem dksX7_add_0 : cX7_add.data.toList.drop 0 = dktX7_add_0 := by decide +kernel
theorem dX7_add_0 : decode cX7_add 0 = .ok (.aload_n 0, 1) := dk_42 (dk_at dksX7_add_0 0 rfl rfl)
theorem dX7_add_1 : decode cX7_add 1 = .ok (.getfield 9, 3) := dk_180 0 9 (dk_at dksX7_add_0 1 rfl rfl)
theorem dX7_add_4 : decode cX7_add 4 = .ok (.aload_n 0, 1) := dk_42 (dk_at dksX7_add_0 4 rfl rfl)
theorem dX7_add_5 : decode cX7_add 5 = .ok (.dup, 1) := dk_89 (dk_at dksX7_add_0 5 rfl rfl)
theorem dX7_add_6 : decode cX7_add 6 = .ok (.getfield 40, 3) := dk_180 0 40 (dk_at dksX7_add_0 6 rfl rfl)
theorem dX7_add_9 : decode cX7_add 9 = .ok (.dup_x1, 1) := dk_90 (dk_at dksX7_add_0 9 rfl rfl)
theorem dX7_add_10 : decode cX7_add 10 = .ok (.iconst 1, 1) := dk_4 (dk_at dksX7_add_0 10 rfl rfl)
theorem dX7_add_11 : decode cX7_add 11 = .ok (.iadd, 1) := dk_96 (dk_at dksX7_add_0 11 rfl rfl)
theorem dX7_add_12 : decode cX7_add 12 = .ok (.putfield 40, 3) := dk_181 0 40 (dk_at dksX7_add_0 12 rfl rfl)
theorem dX7_add_15 : decode cX7_add 15 = .ok (.iload_n 1, 1) := dk_27 (dk_at dksX7_add_0 15 rfl rfl)
theorem dX7_add_16 : decode cX7_add 16 = .ok (.iastore, 1) := dk_79 (dk_at dksX7_add_0 16 rfl rfl)
theorem dX7_add_17 : decode cX7_add 17 = .ok (.return_, 1) := dk_177 (dk_at dksX7_add_0 17 rfl rfl)
abbrev cX7_read : ByteArray := prog_13_method_5_code
def yX7_read : MethodName := ⟨RX7, "read", "(LMatrixPress$Stream;)V"⟩
def dkwX7_read_4 : List UInt8 := [42, 182, 0, 37, 177]
abbrev dktX7_read_4 : List UInt8 := dkwX7_read_4 ++ []
def dkwX7_read_3 : List UInt8 := [29, 16, 40, 108, 16, 40, 112, 3, 182, 0, 33, 42, 43, 29, 16, 40, 112, 4, 182, 0, 33, 167, 255, 168]
abbrev dktX7_read_3 : List UInt8 := dkwX7_read_3 ++ dktX7_read_4
def dkwX7_read_2 : List UInt8 := [161, 0, 11, 187, 0, 29, 89, 183, 0, 31, 191, 42, 43, 29, 17, 6, 64, 108, 3, 182, 0, 33, 42, 43]
abbrev dktX7_read_2 : List UInt8 := dkwX7_read_2 ++ dktX7_read_3
def dkwX7_read_1 : List UInt8 := [167, 0, 71, 17, 1, 0, 28, 104, 43, 182, 0, 25, 96, 4, 100, 62, 29, 155, 0, 9, 29, 18, 28]
abbrev dktX7_read_1 : List UInt8 := dkwX7_read_1 ++ dktX7_read_2
def dkwX7_read_0 : List UInt8 := [42, 182, 0, 15, 43, 182, 0, 19, 5, 161, 0, 86, 43, 182, 0, 25, 61, 28, 17, 0, 254, 160, 0, 6]
abbrev dktX7_read_0 : List UInt8 := dkwX7_read_0 ++ dktX7_read_1
theorem dksX7_read_0 : cX7_read.data.toList.drop 0 = dktX7_read_0 := by decide +kernel
theorem dksX7_read_1 : cX7_read.data.toList.drop 24 = dktX7_read_1 := dk_seg dksX7_read_0 24 rfl rfl
theorem dksX7_read_2 : cX7_read.data.toList.drop 47 = dktX7_read_2 := dk_seg dksX7_read_1 23 rfl rfl
theorem dksX7_read_3 : cX7_read.data.toList.drop 71 = dktX7_read_3 := dk_seg dksX7_read_2 24 rfl rfl
theorem dksX7_read_4 : cX7_read.data.toList.drop 95 = dktX7_read_4 := dk_seg dksX7_read_3 24 rfl rfl
theorem dX7_read_0 : decode cX7_read 0 = .ok (.aload_n 0, 1) := dk_42 (dk_at dksX7_read_0 0 rfl rfl)
theorem dX7_read_1 : decode cX7_read 1 = .ok (.invokevirtual 15, 3) := dk_182 0 15 (dk_at dksX7_read_0 1 rfl rfl)
theorem dX7_read_4 : decode cX7_read 4 = .ok (.aload_n 1, 1) := dk_43 (dk_at dksX7_read_0 4 rfl rfl)
theorem dX7_read_5 : decode cX7_read 5 = .ok (.invokevirtual 19, 3) := dk_182 0 19 (dk_at dksX7_read_0 5 rfl rfl)
theorem dX7_read_8 : decode cX7_read 8 = .ok (.iconst 2, 1) := dk_5 (dk_at dksX7_read_0 8 rfl rfl)
theorem dX7_read_9 : decode cX7_read 9 = .ok (.if_icmp .lt 86, 3) := dk_161 0 86 (dk_at dksX7_read_0 9 rfl rfl)
theorem dX7_read_12 : decode cX7_read 12 = .ok (.aload_n 1, 1) := dk_43 (dk_at dksX7_read_0 12 rfl rfl)
theorem dX7_read_13 : decode cX7_read 13 = .ok (.invokevirtual 25, 3) := dk_182 0 25 (dk_at dksX7_read_0 13 rfl rfl)
theorem dX7_read_16 : decode cX7_read 16 = .ok (.istore_n 2, 1) := dk_61 (dk_at dksX7_read_0 16 rfl rfl)
theorem dX7_read_17 : decode cX7_read 17 = .ok (.iload_n 2, 1) := dk_28 (dk_at dksX7_read_0 17 rfl rfl)
theorem dX7_read_18 : decode cX7_read 18 = .ok (.sipush 254, 3) := dk_17 0 254 (dk_at dksX7_read_0 18 rfl rfl)
theorem dX7_read_21 : decode cX7_read 21 = .ok (.if_icmp .ne 6, 3) := dk_160 0 6 (dk_at dksX7_read_0 21 rfl rfl)
theorem dX7_read_24 : decode cX7_read 24 = .ok (.goto 71, 3) := dk_167 0 71 (dk_at dksX7_read_1 0 rfl rfl)
theorem dX7_read_27 : decode cX7_read 27 = .ok (.sipush 256, 3) := dk_17 1 0 (dk_at dksX7_read_1 3 rfl rfl)
theorem dX7_read_30 : decode cX7_read 30 = .ok (.iload_n 2, 1) := dk_28 (dk_at dksX7_read_1 6 rfl rfl)
theorem dX7_read_31 : decode cX7_read 31 = .ok (.imul, 1) := dk_104 (dk_at dksX7_read_1 7 rfl rfl)
theorem dX7_read_32 : decode cX7_read 32 = .ok (.aload_n 1, 1) := dk_43 (dk_at dksX7_read_1 8 rfl rfl)
theorem dX7_read_33 : decode cX7_read 33 = .ok (.invokevirtual 25, 3) := dk_182 0 25 (dk_at dksX7_read_1 9 rfl rfl)
theorem dX7_read_36 : decode cX7_read 36 = .ok (.iadd, 1) := dk_96 (dk_at dksX7_read_1 12 rfl rfl)
theorem dX7_read_37 : decode cX7_read 37 = .ok (.iconst 1, 1) := dk_4 (dk_at dksX7_read_1 13 rfl rfl)
theorem dX7_read_38 : decode cX7_read 38 = .ok (.isub, 1) := dk_100 (dk_at dksX7_read_1 14 rfl rfl)
theorem dX7_read_39 : decode cX7_read 39 = .ok (.istore_n 3, 1) := dk_62 (dk_at dksX7_read_1 15 rfl rfl)
theorem dX7_read_40 : decode cX7_read 40 = .ok (.iload_n 3, 1) := dk_29 (dk_at dksX7_read_1 16 rfl rfl)
theorem dX7_read_41 : decode cX7_read 41 = .ok (.ifCond .lt 9, 3) := dk_155 0 9 (dk_at dksX7_read_1 17 rfl rfl)
theorem dX7_read_44 : decode cX7_read 44 = .ok (.iload_n 3, 1) := dk_29 (dk_at dksX7_read_1 20 rfl rfl)
theorem dX7_read_45 : decode cX7_read 45 = .ok (.ldc 28, 2) := dk_18 28 (dk_at dksX7_read_1 21 rfl rfl)
theorem dX7_read_47 : decode cX7_read 47 = .ok (.if_icmp .lt 11, 3) := dk_161 0 11 (dk_at dksX7_read_2 0 rfl rfl)
theorem dX7_read_50 : decode cX7_read 50 = .ok (.new 29, 3) := dk_187 0 29 (dk_at dksX7_read_2 3 rfl rfl)
theorem dX7_read_53 : decode cX7_read 53 = .ok (.dup, 1) := dk_89 (dk_at dksX7_read_2 6 rfl rfl)
theorem dX7_read_54 : decode cX7_read 54 = .ok (.invokespecial 31, 3) := dk_183 0 31 (dk_at dksX7_read_2 7 rfl rfl)
theorem dX7_read_57 : decode cX7_read 57 = .ok (.athrow, 1) := dk_191 (dk_at dksX7_read_2 10 rfl rfl)
theorem dX7_read_58 : decode cX7_read 58 = .ok (.aload_n 0, 1) := dk_42 (dk_at dksX7_read_2 11 rfl rfl)
theorem dX7_read_59 : decode cX7_read 59 = .ok (.aload_n 1, 1) := dk_43 (dk_at dksX7_read_2 12 rfl rfl)
theorem dX7_read_60 : decode cX7_read 60 = .ok (.iload_n 3, 1) := dk_29 (dk_at dksX7_read_2 13 rfl rfl)
theorem dX7_read_61 : decode cX7_read 61 = .ok (.sipush 1600, 3) := dk_17 6 64 (dk_at dksX7_read_2 14 rfl rfl)
theorem dX7_read_64 : decode cX7_read 64 = .ok (.idiv, 1) := dk_108 (dk_at dksX7_read_2 17 rfl rfl)
theorem dX7_read_65 : decode cX7_read 65 = .ok (.iconst 0, 1) := dk_3 (dk_at dksX7_read_2 18 rfl rfl)
theorem dX7_read_66 : decode cX7_read 66 = .ok (.invokevirtual 33, 3) := dk_182 0 33 (dk_at dksX7_read_2 19 rfl rfl)
theorem dX7_read_69 : decode cX7_read 69 = .ok (.aload_n 0, 1) := dk_42 (dk_at dksX7_read_2 22 rfl rfl)
theorem dX7_read_70 : decode cX7_read 70 = .ok (.aload_n 1, 1) := dk_43 (dk_at dksX7_read_2 23 rfl rfl)
theorem dX7_read_71 : decode cX7_read 71 = .ok (.iload_n 3, 1) := dk_29 (dk_at dksX7_read_3 0 rfl rfl)
theorem dX7_read_72 : decode cX7_read 72 = .ok (.bipush 40, 2) := dk_16 40 (dk_at dksX7_read_3 1 rfl rfl)
theorem dX7_read_74 : decode cX7_read 74 = .ok (.idiv, 1) := dk_108 (dk_at dksX7_read_3 3 rfl rfl)
theorem dX7_read_75 : decode cX7_read 75 = .ok (.bipush 40, 2) := dk_16 40 (dk_at dksX7_read_3 4 rfl rfl)
theorem dX7_read_77 : decode cX7_read 77 = .ok (.irem, 1) := dk_112 (dk_at dksX7_read_3 6 rfl rfl)
theorem dX7_read_78 : decode cX7_read 78 = .ok (.iconst 0, 1) := dk_3 (dk_at dksX7_read_3 7 rfl rfl)
theorem dX7_read_79 : decode cX7_read 79 = .ok (.invokevirtual 33, 3) := dk_182 0 33 (dk_at dksX7_read_3 8 rfl rfl)
theorem dX7_read_82 : decode cX7_read 82 = .ok (.aload_n 0, 1) := dk_42 (dk_at dksX7_read_3 11 rfl rfl)
theorem dX7_read_83 : decode cX7_read 83 = .ok (.aload_n 1, 1) := dk_43 (dk_at dksX7_read_3 12 rfl rfl)
theorem dX7_read_84 : decode cX7_read 84 = .ok (.iload_n 3, 1) := dk_29 (dk_at dksX7_read_3 13 rfl rfl)
theorem dX7_read_85 : decode cX7_read 85 = .ok (.bipush 40, 2) := dk_16 40 (dk_at dksX7_read_3 14 rfl rfl)
theorem dX7_read_87 : decode cX7_read 87 = .ok (.irem, 1) := dk_112 (dk_at dksX7_read_3 16 rfl rfl)
theorem dX7_read_88 : decode cX7_read 88 = .ok (.iconst 1, 1) := dk_4 (dk_at dksX7_read_3 17 rfl rfl)
theorem dX7_read_89 : decode cX7_read 89 = .ok (.invokevirtual 33, 3) := dk_182 0 33 (dk_at dksX7_read_3 18 rfl rfl)
theorem dX7_read_92 : decode cX7_read 92 = .ok (.goto (-88), 3) := dk_167 255 168 (dk_at dksX7_read_3 21 rfl rfl)
theorem dX7_read_95 : decode cX7_read 95 = .ok (.aload_n 0, 1) := dk_42 (dk_at dksX7_read_4 0 rfl rfl)
theorem dX7_read_96 : decode cX7_read 96 = .ok (.invokevirtual 37, 3) := dk_182 0 37 (dk_at dksX7_read_4 1 rfl rfl)
theorem dX7_read_99 : decode cX7_read 99 = .ok (.return_, 1) := dk_177 (dk_at dksX7_read_4 4 rfl rfl)
theorem q117 : (Jvm.Cond.initialized "MatrixPress$Threes") ∈ lw_all := lw_g (lw_at lw_m1 10 rfl) rfl
theorem q340 : (Jvm.Cond.instanceMethod ({ cls := "MatrixPress$Threes", name := "<init>", desc := "(I)V" } : Jvm.MethodName)) ∈ lw_all := lw_g (lw_at lw_m1 233 rfl) rfl
theorem q341 : (Jvm.Cond.code ({ cls := "MatrixPress$Threes", name := "<init>", desc := "(I)V" } : Jvm.MethodName) prog_13_method_1_code (2 : Nat) (Option.none : Option Jvm.ClassFile.FieldType)) ∈ lw_all := lw_g (lw_at lw_m1 234 rfl) rfl
theorem q342 : (Jvm.Cond.methodLink "MatrixPress$Threes" (3 : Nat) ({ cls := "MatrixPress$Encodation", name := "<init>", desc := "(I)V" } : Jvm.MethodName)) ∈ lw_all := lw_g (lw_at lw_m1 235 rfl) rfl
theorem q350 : (Jvm.Cond.fieldLink "MatrixPress$Threes" (9 : Nat) "MatrixPress$Threes" "value" "[I") ∈ lw_all := lw_g (lw_at lw_m2 3 rfl) rfl
theorem q351 : (Jvm.Cond.fieldLink "MatrixPress$Threes" (40 : Nat) "MatrixPress$Threes" "many" "I") ∈ lw_all := lw_g (lw_at lw_m2 4 rfl) rfl
theorem q364 : (Jvm.Cond.soleField "MatrixPress$Threes" "value") ∈ lw_all := lw_g (lw_at lw_m2 17 rfl) rfl
theorem q366 : (Jvm.Cond.soleField "MatrixPress$Threes" "many") ∈ lw_all := lw_g (lw_at lw_m2 19 rfl) rfl
theorem q704 : (Jvm.Cond.instanceMethod ({ cls := "MatrixPress$Threes", name := "leaves", desc := "()I" } : Jvm.MethodName)) ∈ lw_all := lw_g (lw_at lw_m3 117 rfl) rfl
theorem q705 : (Jvm.Cond.code ({ cls := "MatrixPress$Threes", name := "leaves", desc := "()I" } : Jvm.MethodName) prog_13_method_9_code (1 : Nat) (Option.some Jvm.ClassFile.FieldType.int)) ∈ lw_all := lw_g (lw_at lw_m3 118 rfl) rfl
theorem q802 : (Jvm.Cond.instanceMethod ({ cls := "MatrixPress$Threes", name := "write", desc := "(LMatrixPress$Stream;[BIIZ)V" } : Jvm.MethodName)) ∈ lw_all := lw_g (lw_at lw_m3 215 rfl) rfl
theorem q803 : (Jvm.Cond.code ({ cls := "MatrixPress$Threes", name := "write", desc := "(LMatrixPress$Stream;[BIIZ)V" } : Jvm.MethodName) prog_13_method_8_code (8 : Nat) (Option.none : Option Jvm.ClassFile.FieldType)) ∈ lw_all := lw_g (lw_at lw_m3 216 rfl) rfl
theorem q804 : (Jvm.Cond.methodLink "MatrixPress$Threes" (44 : Nat) ({ cls := "MatrixPress$Threes", name := "values", desc := "(I)V" } : Jvm.MethodName)) ∈ lw_all := lw_g (lw_at lw_m3 217 rfl) rfl
theorem q805 : (Jvm.Cond.declares ({ cls := "MatrixPress$Threes", name := "values", desc := "(I)V" } : Jvm.MethodName)) ∈ lw_tbl := lw_at lw_m3 218 rfl
theorem q806 : (Jvm.Cond.sameMethod "MatrixPress$Threes" "MatrixPress$Threes" "values" "(I)V") ∈ lw_all := lw_g (lw_at lw_m3 219 rfl) rfl
theorem q812 : (Jvm.Cond.declares ({ cls := "MatrixPress$Threes", name := "add", desc := "(I)V" } : Jvm.MethodName)) ∈ lw_tbl := lw_at lw_m3 225 rfl
theorem q814 : (Jvm.Cond.instanceMethod ({ cls := "MatrixPress$Threes", name := "add", desc := "(I)V" } : Jvm.MethodName)) ∈ lw_all := lw_g (lw_at lw_m3 227 rfl) rfl
theorem q815 : (Jvm.Cond.code ({ cls := "MatrixPress$Threes", name := "add", desc := "(I)V" } : Jvm.MethodName) prog_13_method_6_code (2 : Nat) (Option.none : Option Jvm.ClassFile.FieldType)) ∈ lw_all := lw_g (lw_at lw_m3 228 rfl) rfl
theorem q826 : (Jvm.Cond.methodLink "MatrixPress$Threes" (47 : Nat) ({ cls := "MatrixPress$Threes", name := "add", desc := "(I)V" } : Jvm.MethodName)) ∈ lw_all := lw_g (lw_at lw_m3 239 rfl) rfl
theorem q827 : (Jvm.Cond.methodLink "MatrixPress$Threes" (50 : Nat) ({ cls := "MatrixPress$Stream", name := "put", desc := "(I)V" } : Jvm.MethodName)) ∈ lw_all := lw_g (lw_at lw_m4 0 rfl) rfl
theorem q1056 : (Jvm.Cond.instanceMethod ({ cls := "MatrixPress$Threes", name := "read", desc := "(LMatrixPress$Stream;)V" } : Jvm.MethodName)) ∈ lw_all := lw_g (lw_at lw_m4 229 rfl) rfl
theorem q1057 : (Jvm.Cond.code ({ cls := "MatrixPress$Threes", name := "read", desc := "(LMatrixPress$Stream;)V" } : Jvm.MethodName) prog_13_method_5_code (4 : Nat) (Option.none : Option Jvm.ClassFile.FieldType)) ∈ lw_all := lw_g (lw_at lw_m4 230 rfl) rfl
theorem q1058 : (Jvm.Cond.methodLink "MatrixPress$Threes" (15 : Nat) ({ cls := "MatrixPress$Threes", name := "begin", desc := "()V" } : Jvm.MethodName)) ∈ lw_all := lw_g (lw_at lw_m4 231 rfl) rfl
theorem q1059 : (Jvm.Cond.declares ({ cls := "MatrixPress$Threes", name := "begin", desc := "()V" } : Jvm.MethodName)) ∈ lw_tbl := lw_at lw_m4 232 rfl
theorem q1060 : (Jvm.Cond.sameMethod "MatrixPress$Threes" "MatrixPress$Threes" "begin" "()V") ∈ lw_all := lw_g (lw_at lw_m4 233 rfl) rfl
theorem q1067 : (Jvm.Cond.methodLink "MatrixPress$Threes" (19 : Nat) ({ cls := "MatrixPress$Stream", name := "left", desc := "()I" } : Jvm.MethodName)) ∈ lw_all := lw_g (lw_at lw_m5 0 rfl) rfl
theorem q1068 : (Jvm.Cond.methodLink "MatrixPress$Threes" (25 : Nat) ({ cls := "MatrixPress$Stream", name := "next", desc := "()I" } : Jvm.MethodName)) ∈ lw_all := lw_g (lw_at lw_m5 1 rfl) rfl
theorem q1069 : (Jvm.Cond.constant "MatrixPress$Threes" (28 : Nat) (64000 : Int32)) ∈ lw_all := lw_g (lw_at lw_m5 2 rfl) rfl
theorem q1070 : (Jvm.Cond.classLink "MatrixPress$Threes" (29 : Nat) "MatrixPress$NoStream") ∈ lw_all := lw_g (lw_at lw_m5 3 rfl) rfl
theorem q1071 : (Jvm.Cond.methodLink "MatrixPress$Threes" (31 : Nat) ({ cls := "MatrixPress$NoStream", name := "<init>", desc := "()V" } : Jvm.MethodName)) ∈ lw_all := lw_g (lw_at lw_m5 4 rfl) rfl
theorem q1072 : (Jvm.Cond.methodLink "MatrixPress$Threes" (33 : Nat) ({ cls := "MatrixPress$Threes", name := "take", desc := "(LMatrixPress$Stream;IZ)V" } : Jvm.MethodName)) ∈ lw_all := lw_g (lw_at lw_m5 5 rfl) rfl
theorem q1073 : (Jvm.Cond.declares ({ cls := "MatrixPress$Threes", name := "take", desc := "(LMatrixPress$Stream;IZ)V" } : Jvm.MethodName)) ∈ lw_tbl := lw_at lw_m5 6 rfl
theorem q1074 : (Jvm.Cond.sameMethod "MatrixPress$Threes" "MatrixPress$Threes" "take" "(LMatrixPress$Stream;IZ)V") ∈ lw_all := lw_g (lw_at lw_m5 7 rfl) rfl
theorem q1093 : (Jvm.Cond.methodLink "MatrixPress$Threes" (37 : Nat) ({ cls := "MatrixPress$Threes", name := "end", desc := "()V" } : Jvm.MethodName)) ∈ lw_all := lw_g (lw_at lw_m5 26 rfl) rfl
theorem q1094 : (Jvm.Cond.declares ({ cls := "MatrixPress$Threes", name := "end", desc := "()V" } : Jvm.MethodName)) ∈ lw_tbl := lw_at lw_m5 27 rfl
theorem q1095 : (Jvm.Cond.sameMethod "MatrixPress$Threes" "MatrixPress$Threes" "end" "()V") ∈ lw_all := lw_g (lw_at lw_m5 28 rfl) rfl
theorem q1735 : (Jvm.Cond.sameMethod "MatrixPress$Threes" "MatrixPress$Threes" "add" "(I)V") ∈ lw_all := lw_g (lw_at lw_m7 188 rfl) rfl
/-! MatrixPress$Sets -/
set_option maxRecDepth 100000
def RX8 : String := "MatrixPress$Sets"
def TX8 : u_T := fun k => match k with
  | 0 => ("MatrixPress$Threes", "value", "[I", true)
  | 1 => ("MatrixPress$Threes", "many", "I", false)
  | 2 => ("MatrixPress$Encodation", "latch", "I", true)
  | 3 => ("MatrixPress$Sets", "small", "Z", true)
  | 4 => ("MatrixPress$Sets", "shift", "I", false)
  | 5 => ("MatrixPress$Sets", "high", "I", false)
  | _ => ("MatrixPress$Sets", "sum", "[I", true)
def tyX8 : Nat → FieldType := fun k => match k with
  | 0 => .array .int
  | 1 => .int
  | 2 => .int
  | 3 => .boolean
  | 4 => .int
  | 5 => .int
  | _ => .array .int
abbrev wsX80 : List Cond := u_ws RX8 TX8 7
theorem nmX8 : ∀ a, a < 7 → ∀ b, b < 7 → a ≠ b → (TX8 a).2.1 ≠ (TX8 b).2.1 := by decide +kernel
theorem tyX8_ok : ∀ k, k < 7 → parseFieldDescriptor (TX8 k).2.2.1 = some (tyX8 k) := by decide +kernel
abbrev cX8_init : ByteArray := prog_9_method_1_code
def yX8_init : MethodName := ⟨RX8, "<init>", "(IZ)V"⟩
def dkwX8_init_0 : List UInt8 := [42, 27, 183, 0, 3, 42, 17, 12, 129, 188, 10, 181, 0, 9, 42, 28, 181, 0, 15, 177]
abbrev dktX8_init_0 : List UInt8 := dkwX8_init_0 ++ []
theorem dksX8_init_0 : cX8_init.data.toList.drop 0 = dktX8_init_0 := by decide +kernel
theorem dX8_init_0 : decode cX8_init 0 = .ok (.aload_n 0, 1) := dk_42 (dk_at dksX8_init_0 0 rfl rfl)
theorem dX8_init_1 : decode cX8_init 1 = .ok (.iload_n 1, 1) := dk_27 (dk_at dksX8_init_0 1 rfl rfl)
theorem dX8_init_2 : decode cX8_init 2 = .ok (.invokespecial 3, 3) := dk_183 0 3 (dk_at dksX8_init_0 2 rfl rfl)
theorem dX8_init_5 : decode cX8_init 5 = .ok (.aload_n 0, 1) := dk_42 (dk_at dksX8_init_0 5 rfl rfl)
theorem dX8_init_6 : decode cX8_init 6 = .ok (.sipush 3201, 3) := dk_17 12 129 (dk_at dksX8_init_0 6 rfl rfl)
theorem dX8_init_9 : decode cX8_init 9 = .ok (.newarray .int, 2) := dk_188_10 (dk_at dksX8_init_0 9 rfl rfl)
theorem dX8_init_11 : decode cX8_init 11 = .ok (.putfield 9, 3) := dk_181 0 9 (dk_at dksX8_init_0 11 rfl rfl)
theorem dX8_init_14 : decode cX8_init 14 = .ok (.aload_n 0, 1) := dk_42 (dk_at dksX8_init_0 14 rfl rfl)
theorem dX8_init_15 : decode cX8_init 15 = .ok (.iload_n 2, 1) := dk_28 (dk_at dksX8_init_0 15 rfl rfl)
theorem dX8_init_16 : decode cX8_init 16 = .ok (.putfield 15, 3) := dk_181 0 15 (dk_at dksX8_init_0 16 rfl rfl)
theorem dX8_init_19 : decode cX8_init 19 = .ok (.return_, 1) := dk_177 (dk_at dksX8_init_0 19 rfl rfl)
abbrev cX8_prepare : ByteArray := prog_9_method_10_code
def yX8_prepare : MethodName := ⟨RX8, "prepare", "([BI)V"⟩
def dkwX8_prepare_2 : List UInt8 := [177]
abbrev dktX8_prepare_2 : List UInt8 := dkwX8_prepare_2 ++ []
def dkwX8_prepare_1 : List UInt8 := [180, 0, 9, 29, 46, 42, 43, 29, 51, 17, 0, 255, 126, 182, 0, 49, 96, 79, 132, 3, 1, 167, 255, 222]
abbrev dktX8_prepare_1 : List UInt8 := dkwX8_prepare_1 ++ dktX8_prepare_2
def dkwX8_prepare_0 : List UInt8 := [42, 180, 0, 9, 3, 3, 79, 3, 62, 29, 28, 162, 0, 35, 42, 180, 0, 9, 29, 4, 96, 42]
abbrev dktX8_prepare_0 : List UInt8 := dkwX8_prepare_0 ++ dktX8_prepare_1
theorem dksX8_prepare_0 : cX8_prepare.data.toList.drop 0 = dktX8_prepare_0 := by decide +kernel
theorem dksX8_prepare_1 : cX8_prepare.data.toList.drop 22 = dktX8_prepare_1 := dk_seg dksX8_prepare_0 22 rfl rfl
theorem dksX8_prepare_2 : cX8_prepare.data.toList.drop 46 = dktX8_prepare_2 := dk_seg dksX8_prepare_1 24 rfl rfl
theorem dX8_prepare_0 : decode cX8_prepare 0 = .ok (.aload_n 0, 1) := dk_42 (dk_at dksX8_prepare_0 0 rfl rfl)
theorem dX8_prepare_1 : decode cX8_prepare 1 = .ok (.getfield 9, 3) := dk_180 0 9 (dk_at dksX8_prepare_0 1 rfl rfl)
theorem dX8_prepare_4 : decode cX8_prepare 4 = .ok (.iconst 0, 1) := dk_3 (dk_at dksX8_prepare_0 4 rfl rfl)
theorem dX8_prepare_5 : decode cX8_prepare 5 = .ok (.iconst 0, 1) := dk_3 (dk_at dksX8_prepare_0 5 rfl rfl)
theorem dX8_prepare_6 : decode cX8_prepare 6 = .ok (.iastore, 1) := dk_79 (dk_at dksX8_prepare_0 6 rfl rfl)
theorem dX8_prepare_7 : decode cX8_prepare 7 = .ok (.iconst 0, 1) := dk_3 (dk_at dksX8_prepare_0 7 rfl rfl)
theorem dX8_prepare_8 : decode cX8_prepare 8 = .ok (.istore_n 3, 1) := dk_62 (dk_at dksX8_prepare_0 8 rfl rfl)
theorem dX8_prepare_9 : decode cX8_prepare 9 = .ok (.iload_n 3, 1) := dk_29 (dk_at dksX8_prepare_0 9 rfl rfl)
theorem dX8_prepare_10 : decode cX8_prepare 10 = .ok (.iload_n 2, 1) := dk_28 (dk_at dksX8_prepare_0 10 rfl rfl)
theorem dX8_prepare_11 : decode cX8_prepare 11 = .ok (.if_icmp .ge 35, 3) := dk_162 0 35 (dk_at dksX8_prepare_0 11 rfl rfl)
theorem dX8_prepare_14 : decode cX8_prepare 14 = .ok (.aload_n 0, 1) := dk_42 (dk_at dksX8_prepare_0 14 rfl rfl)
theorem dX8_prepare_15 : decode cX8_prepare 15 = .ok (.getfield 9, 3) := dk_180 0 9 (dk_at dksX8_prepare_0 15 rfl rfl)
theorem dX8_prepare_18 : decode cX8_prepare 18 = .ok (.iload_n 3, 1) := dk_29 (dk_at dksX8_prepare_0 18 rfl rfl)
theorem dX8_prepare_19 : decode cX8_prepare 19 = .ok (.iconst 1, 1) := dk_4 (dk_at dksX8_prepare_0 19 rfl rfl)
theorem dX8_prepare_20 : decode cX8_prepare 20 = .ok (.iadd, 1) := dk_96 (dk_at dksX8_prepare_0 20 rfl rfl)
theorem dX8_prepare_21 : decode cX8_prepare 21 = .ok (.aload_n 0, 1) := dk_42 (dk_at dksX8_prepare_0 21 rfl rfl)
theorem dX8_prepare_22 : decode cX8_prepare 22 = .ok (.getfield 9, 3) := dk_180 0 9 (dk_at dksX8_prepare_1 0 rfl rfl)
theorem dX8_prepare_25 : decode cX8_prepare 25 = .ok (.iload_n 3, 1) := dk_29 (dk_at dksX8_prepare_1 3 rfl rfl)
theorem dX8_prepare_26 : decode cX8_prepare 26 = .ok (.iaload, 1) := dk_46 (dk_at dksX8_prepare_1 4 rfl rfl)
theorem dX8_prepare_27 : decode cX8_prepare 27 = .ok (.aload_n 0, 1) := dk_42 (dk_at dksX8_prepare_1 5 rfl rfl)
theorem dX8_prepare_28 : decode cX8_prepare 28 = .ok (.aload_n 1, 1) := dk_43 (dk_at dksX8_prepare_1 6 rfl rfl)
theorem dX8_prepare_29 : decode cX8_prepare 29 = .ok (.iload_n 3, 1) := dk_29 (dk_at dksX8_prepare_1 7 rfl rfl)
theorem dX8_prepare_30 : decode cX8_prepare 30 = .ok (.baload, 1) := dk_51 (dk_at dksX8_prepare_1 8 rfl rfl)
theorem dX8_prepare_31 : decode cX8_prepare 31 = .ok (.sipush 255, 3) := dk_17 0 255 (dk_at dksX8_prepare_1 9 rfl rfl)
theorem dX8_prepare_34 : decode cX8_prepare 34 = .ok (.iand, 1) := dk_126 (dk_at dksX8_prepare_1 12 rfl rfl)
theorem dX8_prepare_35 : decode cX8_prepare 35 = .ok (.invokevirtual 49, 3) := dk_182 0 49 (dk_at dksX8_prepare_1 13 rfl rfl)
theorem dX8_prepare_38 : decode cX8_prepare 38 = .ok (.iadd, 1) := dk_96 (dk_at dksX8_prepare_1 16 rfl rfl)
theorem dX8_prepare_39 : decode cX8_prepare 39 = .ok (.iastore, 1) := dk_79 (dk_at dksX8_prepare_1 17 rfl rfl)
theorem dX8_prepare_40 : decode cX8_prepare 40 = .ok (.iinc 3 1, 3) := dk_132 3 1 (dk_at dksX8_prepare_1 18 rfl rfl)
theorem dX8_prepare_43 : decode cX8_prepare 43 = .ok (.goto (-34), 3) := dk_167 255 222 (dk_at dksX8_prepare_1 21 rfl rfl)
theorem dX8_prepare_46 : decode cX8_prepare 46 = .ok (.return_, 1) := dk_177 (dk_at dksX8_prepare_2 0 rfl rfl)
abbrev cX8_size : ByteArray := prog_9_method_9_code
def yX8_size : MethodName := ⟨RX8, "size", "(I)I"⟩
def dkwX8_size_3 : List UInt8 := [27, 17, 0, 128, 161, 0, 7, 5, 167, 0, 4, 3, 96, 172]
abbrev dktX8_size_3 : List UInt8 := dkwX8_size_3 ++ []
def dkwX8_size_2 : List UInt8 := [161, 0, 13, 28, 16, 90, 163, 0, 7, 4, 167, 0, 4, 3, 62, 29, 153, 0, 7, 4, 167, 0, 4, 5]
abbrev dktX8_size_2 : List UInt8 := dkwX8_size_2 ++ dktX8_size_3
def dkwX8_size_1 : List UInt8 := [180, 0, 15, 153, 0, 18, 28, 16, 97, 161, 0, 28, 28, 16, 122, 163, 0, 22, 167, 0, 15, 28, 16, 65]
abbrev dktX8_size_1 : List UInt8 := dkwX8_size_1 ++ dktX8_size_2
def dkwX8_size_0 : List UInt8 := [27, 16, 127, 126, 61, 28, 16, 32, 159, 0, 49, 28, 16, 48, 161, 0, 9, 28, 16, 57, 164, 0, 37, 42]
abbrev dktX8_size_0 : List UInt8 := dkwX8_size_0 ++ dktX8_size_1
theorem dksX8_size_0 : cX8_size.data.toList.drop 0 = dktX8_size_0 := by decide +kernel
theorem dksX8_size_1 : cX8_size.data.toList.drop 24 = dktX8_size_1 := dk_seg dksX8_size_0 24 rfl rfl
theorem dksX8_size_2 : cX8_size.data.toList.drop 48 = dktX8_size_2 := dk_seg dksX8_size_1 24 rfl rfl
theorem dksX8_size_3 : cX8_size.data.toList.drop 72 = dktX8_size_3 := dk_seg dksX8_size_2 24 rfl rfl
theorem dX8_size_0 : decode cX8_size 0 = .ok (.iload_n 1, 1) := dk_27 (dk_at dksX8_size_0 0 rfl rfl)
theorem dX8_size_1 : decode cX8_size 1 = .ok (.bipush 127, 2) := dk_16 127 (dk_at dksX8_size_0 1 rfl rfl)
theorem dX8_size_3 : decode cX8_size 3 = .ok (.iand, 1) := dk_126 (dk_at dksX8_size_0 3 rfl rfl)
theorem dX8_size_4 : decode cX8_size 4 = .ok (.istore_n 2, 1) := dk_61 (dk_at dksX8_size_0 4 rfl rfl)
theorem dX8_size_5 : decode cX8_size 5 = .ok (.iload_n 2, 1) := dk_28 (dk_at dksX8_size_0 5 rfl rfl)
theorem dX8_size_6 : decode cX8_size 6 = .ok (.bipush 32, 2) := dk_16 32 (dk_at dksX8_size_0 6 rfl rfl)
theorem dX8_size_8 : decode cX8_size 8 = .ok (.if_icmp .eq 49, 3) := dk_159 0 49 (dk_at dksX8_size_0 8 rfl rfl)
theorem dX8_size_11 : decode cX8_size 11 = .ok (.iload_n 2, 1) := dk_28 (dk_at dksX8_size_0 11 rfl rfl)
theorem dX8_size_12 : decode cX8_size 12 = .ok (.bipush 48, 2) := dk_16 48 (dk_at dksX8_size_0 12 rfl rfl)
theorem dX8_size_14 : decode cX8_size 14 = .ok (.if_icmp .lt 9, 3) := dk_161 0 9 (dk_at dksX8_size_0 14 rfl rfl)
theorem dX8_size_17 : decode cX8_size 17 = .ok (.iload_n 2, 1) := dk_28 (dk_at dksX8_size_0 17 rfl rfl)
theorem dX8_size_18 : decode cX8_size 18 = .ok (.bipush 57, 2) := dk_16 57 (dk_at dksX8_size_0 18 rfl rfl)
theorem dX8_size_20 : decode cX8_size 20 = .ok (.if_icmp .le 37, 3) := dk_164 0 37 (dk_at dksX8_size_0 20 rfl rfl)
theorem dX8_size_23 : decode cX8_size 23 = .ok (.aload_n 0, 1) := dk_42 (dk_at dksX8_size_0 23 rfl rfl)
theorem dX8_size_24 : decode cX8_size 24 = .ok (.getfield 15, 3) := dk_180 0 15 (dk_at dksX8_size_1 0 rfl rfl)
theorem dX8_size_27 : decode cX8_size 27 = .ok (.ifCond .eq 18, 3) := dk_153 0 18 (dk_at dksX8_size_1 3 rfl rfl)
theorem dX8_size_30 : decode cX8_size 30 = .ok (.iload_n 2, 1) := dk_28 (dk_at dksX8_size_1 6 rfl rfl)
theorem dX8_size_31 : decode cX8_size 31 = .ok (.bipush 97, 2) := dk_16 97 (dk_at dksX8_size_1 7 rfl rfl)
theorem dX8_size_33 : decode cX8_size 33 = .ok (.if_icmp .lt 28, 3) := dk_161 0 28 (dk_at dksX8_size_1 9 rfl rfl)
theorem dX8_size_36 : decode cX8_size 36 = .ok (.iload_n 2, 1) := dk_28 (dk_at dksX8_size_1 12 rfl rfl)
theorem dX8_size_37 : decode cX8_size 37 = .ok (.bipush 122, 2) := dk_16 122 (dk_at dksX8_size_1 13 rfl rfl)
theorem dX8_size_39 : decode cX8_size 39 = .ok (.if_icmp .gt 22, 3) := dk_163 0 22 (dk_at dksX8_size_1 15 rfl rfl)
theorem dX8_size_42 : decode cX8_size 42 = .ok (.goto 15, 3) := dk_167 0 15 (dk_at dksX8_size_1 18 rfl rfl)
theorem dX8_size_45 : decode cX8_size 45 = .ok (.iload_n 2, 1) := dk_28 (dk_at dksX8_size_1 21 rfl rfl)
theorem dX8_size_46 : decode cX8_size 46 = .ok (.bipush 65, 2) := dk_16 65 (dk_at dksX8_size_1 22 rfl rfl)
theorem dX8_size_48 : decode cX8_size 48 = .ok (.if_icmp .lt 13, 3) := dk_161 0 13 (dk_at dksX8_size_2 0 rfl rfl)
theorem dX8_size_51 : decode cX8_size 51 = .ok (.iload_n 2, 1) := dk_28 (dk_at dksX8_size_2 3 rfl rfl)
theorem dX8_size_52 : decode cX8_size 52 = .ok (.bipush 90, 2) := dk_16 90 (dk_at dksX8_size_2 4 rfl rfl)
theorem dX8_size_54 : decode cX8_size 54 = .ok (.if_icmp .gt 7, 3) := dk_163 0 7 (dk_at dksX8_size_2 6 rfl rfl)
theorem dX8_size_57 : decode cX8_size 57 = .ok (.iconst 1, 1) := dk_4 (dk_at dksX8_size_2 9 rfl rfl)
theorem dX8_size_58 : decode cX8_size 58 = .ok (.goto 4, 3) := dk_167 0 4 (dk_at dksX8_size_2 10 rfl rfl)
theorem dX8_size_61 : decode cX8_size 61 = .ok (.iconst 0, 1) := dk_3 (dk_at dksX8_size_2 13 rfl rfl)
theorem dX8_size_62 : decode cX8_size 62 = .ok (.istore_n 3, 1) := dk_62 (dk_at dksX8_size_2 14 rfl rfl)
theorem dX8_size_63 : decode cX8_size 63 = .ok (.iload_n 3, 1) := dk_29 (dk_at dksX8_size_2 15 rfl rfl)
theorem dX8_size_64 : decode cX8_size 64 = .ok (.ifCond .eq 7, 3) := dk_153 0 7 (dk_at dksX8_size_2 16 rfl rfl)
theorem dX8_size_67 : decode cX8_size 67 = .ok (.iconst 1, 1) := dk_4 (dk_at dksX8_size_2 19 rfl rfl)
theorem dX8_size_68 : decode cX8_size 68 = .ok (.goto 4, 3) := dk_167 0 4 (dk_at dksX8_size_2 20 rfl rfl)
theorem dX8_size_71 : decode cX8_size 71 = .ok (.iconst 2, 1) := dk_5 (dk_at dksX8_size_2 23 rfl rfl)
theorem dX8_size_72 : decode cX8_size 72 = .ok (.iload_n 1, 1) := dk_27 (dk_at dksX8_size_3 0 rfl rfl)
theorem dX8_size_73 : decode cX8_size 73 = .ok (.sipush 128, 3) := dk_17 0 128 (dk_at dksX8_size_3 1 rfl rfl)
theorem dX8_size_76 : decode cX8_size 76 = .ok (.if_icmp .lt 7, 3) := dk_161 0 7 (dk_at dksX8_size_3 4 rfl rfl)
theorem dX8_size_79 : decode cX8_size 79 = .ok (.iconst 2, 1) := dk_5 (dk_at dksX8_size_3 7 rfl rfl)
theorem dX8_size_80 : decode cX8_size 80 = .ok (.goto 4, 3) := dk_167 0 4 (dk_at dksX8_size_3 8 rfl rfl)
theorem dX8_size_83 : decode cX8_size 83 = .ok (.iconst 0, 1) := dk_3 (dk_at dksX8_size_3 11 rfl rfl)
theorem dX8_size_84 : decode cX8_size 84 = .ok (.iadd, 1) := dk_96 (dk_at dksX8_size_3 12 rfl rfl)
theorem dX8_size_85 : decode cX8_size 85 = .ok (.ireturn, 1) := dk_172 (dk_at dksX8_size_3 13 rfl rfl)
abbrev cX8_closed : ByteArray := prog_9_method_12_code
def yX8_closed : MethodName := ⟨RX8, "closed", "(II)I"⟩
def dkwX8_closed_0 : List UInt8 := [42, 27, 28, 182, 0, 54, 4, 96, 172]
abbrev dktX8_closed_0 : List UInt8 := dkwX8_closed_0 ++ []
theorem dksX8_closed_0 : cX8_closed.data.toList.drop 0 = dktX8_closed_0 := by decide +kernel
theorem dX8_closed_0 : decode cX8_closed 0 = .ok (.aload_n 0, 1) := dk_42 (dk_at dksX8_closed_0 0 rfl rfl)
theorem dX8_closed_1 : decode cX8_closed 1 = .ok (.iload_n 1, 1) := dk_27 (dk_at dksX8_closed_0 1 rfl rfl)
theorem dX8_closed_2 : decode cX8_closed 2 = .ok (.iload_n 2, 1) := dk_28 (dk_at dksX8_closed_0 2 rfl rfl)
theorem dX8_closed_3 : decode cX8_closed 3 = .ok (.invokevirtual 54, 3) := dk_182 0 54 (dk_at dksX8_closed_0 3 rfl rfl)
theorem dX8_closed_6 : decode cX8_closed 6 = .ok (.iconst 1, 1) := dk_4 (dk_at dksX8_closed_0 6 rfl rfl)
theorem dX8_closed_7 : decode cX8_closed 7 = .ok (.iadd, 1) := dk_96 (dk_at dksX8_closed_0 7 rfl rfl)
theorem dX8_closed_8 : decode cX8_closed 8 = .ok (.ireturn, 1) := dk_172 (dk_at dksX8_closed_0 8 rfl rfl)
abbrev cX8_open : ByteArray := prog_9_method_11_code
def yX8_open : MethodName := ⟨RX8, "open", "(II)I"⟩
def dkwX8_open_1 : List UInt8 := [18, 53, 167, 0, 12, 4, 29, 5, 96, 6, 108, 5, 104, 96, 172]
abbrev dktX8_open_1 : List UInt8 := dkwX8_open_1 ++ []
def dkwX8_open_0 : List UInt8 := [42, 180, 0, 9, 27, 28, 96, 46, 42, 180, 0, 9, 27, 46, 100, 62, 29, 6, 112, 4, 160, 0, 8]
abbrev dktX8_open_0 : List UInt8 := dkwX8_open_0 ++ dktX8_open_1
theorem dksX8_open_0 : cX8_open.data.toList.drop 0 = dktX8_open_0 := by decide +kernel
theorem dksX8_open_1 : cX8_open.data.toList.drop 23 = dktX8_open_1 := dk_seg dksX8_open_0 23 rfl rfl
theorem dX8_open_0 : decode cX8_open 0 = .ok (.aload_n 0, 1) := dk_42 (dk_at dksX8_open_0 0 rfl rfl)
theorem dX8_open_1 : decode cX8_open 1 = .ok (.getfield 9, 3) := dk_180 0 9 (dk_at dksX8_open_0 1 rfl rfl)
theorem dX8_open_4 : decode cX8_open 4 = .ok (.iload_n 1, 1) := dk_27 (dk_at dksX8_open_0 4 rfl rfl)
theorem dX8_open_5 : decode cX8_open 5 = .ok (.iload_n 2, 1) := dk_28 (dk_at dksX8_open_0 5 rfl rfl)
theorem dX8_open_6 : decode cX8_open 6 = .ok (.iadd, 1) := dk_96 (dk_at dksX8_open_0 6 rfl rfl)
theorem dX8_open_7 : decode cX8_open 7 = .ok (.iaload, 1) := dk_46 (dk_at dksX8_open_0 7 rfl rfl)
theorem dX8_open_8 : decode cX8_open 8 = .ok (.aload_n 0, 1) := dk_42 (dk_at dksX8_open_0 8 rfl rfl)
theorem dX8_open_9 : decode cX8_open 9 = .ok (.getfield 9, 3) := dk_180 0 9 (dk_at dksX8_open_0 9 rfl rfl)
theorem dX8_open_12 : decode cX8_open 12 = .ok (.iload_n 1, 1) := dk_27 (dk_at dksX8_open_0 12 rfl rfl)
theorem dX8_open_13 : decode cX8_open 13 = .ok (.iaload, 1) := dk_46 (dk_at dksX8_open_0 13 rfl rfl)
theorem dX8_open_14 : decode cX8_open 14 = .ok (.isub, 1) := dk_100 (dk_at dksX8_open_0 14 rfl rfl)
theorem dX8_open_15 : decode cX8_open 15 = .ok (.istore_n 3, 1) := dk_62 (dk_at dksX8_open_0 15 rfl rfl)
theorem dX8_open_16 : decode cX8_open 16 = .ok (.iload_n 3, 1) := dk_29 (dk_at dksX8_open_0 16 rfl rfl)
theorem dX8_open_17 : decode cX8_open 17 = .ok (.iconst 3, 1) := dk_6 (dk_at dksX8_open_0 17 rfl rfl)
theorem dX8_open_18 : decode cX8_open 18 = .ok (.irem, 1) := dk_112 (dk_at dksX8_open_0 18 rfl rfl)
theorem dX8_open_19 : decode cX8_open 19 = .ok (.iconst 1, 1) := dk_4 (dk_at dksX8_open_0 19 rfl rfl)
theorem dX8_open_20 : decode cX8_open 20 = .ok (.if_icmp .ne 8, 3) := dk_160 0 8 (dk_at dksX8_open_0 20 rfl rfl)
theorem dX8_open_23 : decode cX8_open 23 = .ok (.ldc 53, 2) := dk_18 53 (dk_at dksX8_open_1 0 rfl rfl)
theorem dX8_open_25 : decode cX8_open 25 = .ok (.goto 12, 3) := dk_167 0 12 (dk_at dksX8_open_1 2 rfl rfl)
theorem dX8_open_28 : decode cX8_open 28 = .ok (.iconst 1, 1) := dk_4 (dk_at dksX8_open_1 5 rfl rfl)
theorem dX8_open_29 : decode cX8_open 29 = .ok (.iload_n 3, 1) := dk_29 (dk_at dksX8_open_1 6 rfl rfl)
theorem dX8_open_30 : decode cX8_open 30 = .ok (.iconst 2, 1) := dk_5 (dk_at dksX8_open_1 7 rfl rfl)
theorem dX8_open_31 : decode cX8_open 31 = .ok (.iadd, 1) := dk_96 (dk_at dksX8_open_1 8 rfl rfl)
theorem dX8_open_32 : decode cX8_open 32 = .ok (.iconst 3, 1) := dk_6 (dk_at dksX8_open_1 9 rfl rfl)
theorem dX8_open_33 : decode cX8_open 33 = .ok (.idiv, 1) := dk_108 (dk_at dksX8_open_1 10 rfl rfl)
theorem dX8_open_34 : decode cX8_open 34 = .ok (.iconst 2, 1) := dk_5 (dk_at dksX8_open_1 11 rfl rfl)
theorem dX8_open_35 : decode cX8_open 35 = .ok (.imul, 1) := dk_104 (dk_at dksX8_open_1 12 rfl rfl)
theorem dX8_open_36 : decode cX8_open 36 = .ok (.iadd, 1) := dk_96 (dk_at dksX8_open_1 13 rfl rfl)
theorem dX8_open_37 : decode cX8_open 37 = .ok (.ireturn, 1) := dk_172 (dk_at dksX8_open_1 14 rfl rfl)
abbrev cX8_values : ByteArray := prog_9_method_7_code
def yX8_values : MethodName := ⟨RX8, "values", "(I)V"⟩
def dkwX8_values_5 : List UInt8 := [16, 83, 167, 0, 5, 16, 51, 100, 182, 0, 44, 167, 0, 8, 42, 28, 182, 0, 47, 177]
abbrev dktX8_values_5 : List UInt8 := dkwX8_values_5 ++ []
def dkwX8_values_4 : List UInt8 := [28, 16, 44, 100, 182, 0, 44, 167, 0, 35, 29, 153, 0, 26, 42, 28, 42, 180, 0, 15, 153, 0, 8]
abbrev dktX8_values_4 : List UInt8 := dkwX8_values_4 ++ dktX8_values_5
def dkwX8_values_3 : List UInt8 := [160, 0, 11, 42, 6, 182, 0, 44, 167, 0, 58, 28, 16, 48, 161, 0, 20, 28, 16, 57, 163, 0, 14, 42]
abbrev dktX8_values_3 : List UInt8 := dkwX8_values_3 ++ dktX8_values_4
def dkwX8_values_2 : List UInt8 := [167, 0, 20, 28, 16, 65, 161, 0, 13, 28, 16, 90, 163, 0, 7, 4, 167, 0, 4, 3, 62, 28, 16, 32]
abbrev dktX8_values_2 : List UInt8 := dkwX8_values_2 ++ dktX8_values_3
def dkwX8_values_1 : List UInt8 := [180, 0, 15, 153, 0, 23, 28, 16, 97, 161, 0, 13, 28, 16, 122, 163, 0, 7, 4, 167, 0, 24, 3]
abbrev dktX8_values_1 : List UInt8 := dkwX8_values_1 ++ dktX8_values_2
def dkwX8_values_0 : List UInt8 := [27, 17, 0, 128, 161, 0, 14, 42, 4, 182, 0, 44, 42, 16, 30, 182, 0, 44, 27, 16, 127, 126, 61, 42]
abbrev dktX8_values_0 : List UInt8 := dkwX8_values_0 ++ dktX8_values_1
theorem dksX8_values_0 : cX8_values.data.toList.drop 0 = dktX8_values_0 := by decide +kernel
theorem dksX8_values_1 : cX8_values.data.toList.drop 24 = dktX8_values_1 := dk_seg dksX8_values_0 24 rfl rfl
theorem dksX8_values_2 : cX8_values.data.toList.drop 47 = dktX8_values_2 := dk_seg dksX8_values_1 23 rfl rfl
theorem dksX8_values_3 : cX8_values.data.toList.drop 71 = dktX8_values_3 := dk_seg dksX8_values_2 24 rfl rfl
theorem dksX8_values_4 : cX8_values.data.toList.drop 95 = dktX8_values_4 := dk_seg dksX8_values_3 24 rfl rfl
theorem dksX8_values_5 : cX8_values.data.toList.drop 118 = dktX8_values_5 := dk_seg dksX8_values_4 23 rfl rfl
theorem dX8_values_0 : decode cX8_values 0 = .ok (.iload_n 1, 1) := dk_27 (dk_at dksX8_values_0 0 rfl rfl)
theorem dX8_values_1 : decode cX8_values 1 = .ok (.sipush 128, 3) := dk_17 0 128 (dk_at dksX8_values_0 1 rfl rfl)
theorem dX8_values_4 : decode cX8_values 4 = .ok (.if_icmp .lt 14, 3) := dk_161 0 14 (dk_at dksX8_values_0 4 rfl rfl)
theorem dX8_values_7 : decode cX8_values 7 = .ok (.aload_n 0, 1) := dk_42 (dk_at dksX8_values_0 7 rfl rfl)
theorem dX8_values_8 : decode cX8_values 8 = .ok (.iconst 1, 1) := dk_4 (dk_at dksX8_values_0 8 rfl rfl)
theorem dX8_values_9 : decode cX8_values 9 = .ok (.invokevirtual 44, 3) := dk_182 0 44 (dk_at dksX8_values_0 9 rfl rfl)
theorem dX8_values_12 : decode cX8_values 12 = .ok (.aload_n 0, 1) := dk_42 (dk_at dksX8_values_0 12 rfl rfl)
theorem dX8_values_13 : decode cX8_values 13 = .ok (.bipush 30, 2) := dk_16 30 (dk_at dksX8_values_0 13 rfl rfl)
theorem dX8_values_15 : decode cX8_values 15 = .ok (.invokevirtual 44, 3) := dk_182 0 44 (dk_at dksX8_values_0 15 rfl rfl)
theorem dX8_values_18 : decode cX8_values 18 = .ok (.iload_n 1, 1) := dk_27 (dk_at dksX8_values_0 18 rfl rfl)
theorem dX8_values_19 : decode cX8_values 19 = .ok (.bipush 127, 2) := dk_16 127 (dk_at dksX8_values_0 19 rfl rfl)
theorem dX8_values_21 : decode cX8_values 21 = .ok (.iand, 1) := dk_126 (dk_at dksX8_values_0 21 rfl rfl)
theorem dX8_values_22 : decode cX8_values 22 = .ok (.istore_n 2, 1) := dk_61 (dk_at dksX8_values_0 22 rfl rfl)
theorem dX8_values_23 : decode cX8_values 23 = .ok (.aload_n 0, 1) := dk_42 (dk_at dksX8_values_0 23 rfl rfl)
theorem dX8_values_24 : decode cX8_values 24 = .ok (.getfield 15, 3) := dk_180 0 15 (dk_at dksX8_values_1 0 rfl rfl)
theorem dX8_values_27 : decode cX8_values 27 = .ok (.ifCond .eq 23, 3) := dk_153 0 23 (dk_at dksX8_values_1 3 rfl rfl)
theorem dX8_values_30 : decode cX8_values 30 = .ok (.iload_n 2, 1) := dk_28 (dk_at dksX8_values_1 6 rfl rfl)
theorem dX8_values_31 : decode cX8_values 31 = .ok (.bipush 97, 2) := dk_16 97 (dk_at dksX8_values_1 7 rfl rfl)
theorem dX8_values_33 : decode cX8_values 33 = .ok (.if_icmp .lt 13, 3) := dk_161 0 13 (dk_at dksX8_values_1 9 rfl rfl)
theorem dX8_values_36 : decode cX8_values 36 = .ok (.iload_n 2, 1) := dk_28 (dk_at dksX8_values_1 12 rfl rfl)
theorem dX8_values_37 : decode cX8_values 37 = .ok (.bipush 122, 2) := dk_16 122 (dk_at dksX8_values_1 13 rfl rfl)
theorem dX8_values_39 : decode cX8_values 39 = .ok (.if_icmp .gt 7, 3) := dk_163 0 7 (dk_at dksX8_values_1 15 rfl rfl)
theorem dX8_values_42 : decode cX8_values 42 = .ok (.iconst 1, 1) := dk_4 (dk_at dksX8_values_1 18 rfl rfl)
theorem dX8_values_43 : decode cX8_values 43 = .ok (.goto 24, 3) := dk_167 0 24 (dk_at dksX8_values_1 19 rfl rfl)
theorem dX8_values_46 : decode cX8_values 46 = .ok (.iconst 0, 1) := dk_3 (dk_at dksX8_values_1 22 rfl rfl)
theorem dX8_values_47 : decode cX8_values 47 = .ok (.goto 20, 3) := dk_167 0 20 (dk_at dksX8_values_2 0 rfl rfl)
theorem dX8_values_50 : decode cX8_values 50 = .ok (.iload_n 2, 1) := dk_28 (dk_at dksX8_values_2 3 rfl rfl)
theorem dX8_values_51 : decode cX8_values 51 = .ok (.bipush 65, 2) := dk_16 65 (dk_at dksX8_values_2 4 rfl rfl)
theorem dX8_values_53 : decode cX8_values 53 = .ok (.if_icmp .lt 13, 3) := dk_161 0 13 (dk_at dksX8_values_2 6 rfl rfl)
theorem dX8_values_56 : decode cX8_values 56 = .ok (.iload_n 2, 1) := dk_28 (dk_at dksX8_values_2 9 rfl rfl)
theorem dX8_values_57 : decode cX8_values 57 = .ok (.bipush 90, 2) := dk_16 90 (dk_at dksX8_values_2 10 rfl rfl)
theorem dX8_values_59 : decode cX8_values 59 = .ok (.if_icmp .gt 7, 3) := dk_163 0 7 (dk_at dksX8_values_2 12 rfl rfl)
theorem dX8_values_62 : decode cX8_values 62 = .ok (.iconst 1, 1) := dk_4 (dk_at dksX8_values_2 15 rfl rfl)
theorem dX8_values_63 : decode cX8_values 63 = .ok (.goto 4, 3) := dk_167 0 4 (dk_at dksX8_values_2 16 rfl rfl)
theorem dX8_values_66 : decode cX8_values 66 = .ok (.iconst 0, 1) := dk_3 (dk_at dksX8_values_2 19 rfl rfl)
theorem dX8_values_67 : decode cX8_values 67 = .ok (.istore_n 3, 1) := dk_62 (dk_at dksX8_values_2 20 rfl rfl)
theorem dX8_values_68 : decode cX8_values 68 = .ok (.iload_n 2, 1) := dk_28 (dk_at dksX8_values_2 21 rfl rfl)
theorem dX8_values_69 : decode cX8_values 69 = .ok (.bipush 32, 2) := dk_16 32 (dk_at dksX8_values_2 22 rfl rfl)
theorem dX8_values_71 : decode cX8_values 71 = .ok (.if_icmp .ne 11, 3) := dk_160 0 11 (dk_at dksX8_values_3 0 rfl rfl)
theorem dX8_values_74 : decode cX8_values 74 = .ok (.aload_n 0, 1) := dk_42 (dk_at dksX8_values_3 3 rfl rfl)
theorem dX8_values_75 : decode cX8_values 75 = .ok (.iconst 3, 1) := dk_6 (dk_at dksX8_values_3 4 rfl rfl)
theorem dX8_values_76 : decode cX8_values 76 = .ok (.invokevirtual 44, 3) := dk_182 0 44 (dk_at dksX8_values_3 5 rfl rfl)
theorem dX8_values_79 : decode cX8_values 79 = .ok (.goto 58, 3) := dk_167 0 58 (dk_at dksX8_values_3 8 rfl rfl)
theorem dX8_values_82 : decode cX8_values 82 = .ok (.iload_n 2, 1) := dk_28 (dk_at dksX8_values_3 11 rfl rfl)
theorem dX8_values_83 : decode cX8_values 83 = .ok (.bipush 48, 2) := dk_16 48 (dk_at dksX8_values_3 12 rfl rfl)
theorem dX8_values_85 : decode cX8_values 85 = .ok (.if_icmp .lt 20, 3) := dk_161 0 20 (dk_at dksX8_values_3 14 rfl rfl)
theorem dX8_values_88 : decode cX8_values 88 = .ok (.iload_n 2, 1) := dk_28 (dk_at dksX8_values_3 17 rfl rfl)
theorem dX8_values_89 : decode cX8_values 89 = .ok (.bipush 57, 2) := dk_16 57 (dk_at dksX8_values_3 18 rfl rfl)
theorem dX8_values_91 : decode cX8_values 91 = .ok (.if_icmp .gt 14, 3) := dk_163 0 14 (dk_at dksX8_values_3 20 rfl rfl)
theorem dX8_values_94 : decode cX8_values 94 = .ok (.aload_n 0, 1) := dk_42 (dk_at dksX8_values_3 23 rfl rfl)
theorem dX8_values_95 : decode cX8_values 95 = .ok (.iload_n 2, 1) := dk_28 (dk_at dksX8_values_4 0 rfl rfl)
theorem dX8_values_96 : decode cX8_values 96 = .ok (.bipush 44, 2) := dk_16 44 (dk_at dksX8_values_4 1 rfl rfl)
theorem dX8_values_98 : decode cX8_values 98 = .ok (.isub, 1) := dk_100 (dk_at dksX8_values_4 3 rfl rfl)
theorem dX8_values_99 : decode cX8_values 99 = .ok (.invokevirtual 44, 3) := dk_182 0 44 (dk_at dksX8_values_4 4 rfl rfl)
theorem dX8_values_102 : decode cX8_values 102 = .ok (.goto 35, 3) := dk_167 0 35 (dk_at dksX8_values_4 7 rfl rfl)
theorem dX8_values_105 : decode cX8_values 105 = .ok (.iload_n 3, 1) := dk_29 (dk_at dksX8_values_4 10 rfl rfl)
theorem dX8_values_106 : decode cX8_values 106 = .ok (.ifCond .eq 26, 3) := dk_153 0 26 (dk_at dksX8_values_4 11 rfl rfl)
theorem dX8_values_109 : decode cX8_values 109 = .ok (.aload_n 0, 1) := dk_42 (dk_at dksX8_values_4 14 rfl rfl)
theorem dX8_values_110 : decode cX8_values 110 = .ok (.iload_n 2, 1) := dk_28 (dk_at dksX8_values_4 15 rfl rfl)
theorem dX8_values_111 : decode cX8_values 111 = .ok (.aload_n 0, 1) := dk_42 (dk_at dksX8_values_4 16 rfl rfl)
theorem dX8_values_112 : decode cX8_values 112 = .ok (.getfield 15, 3) := dk_180 0 15 (dk_at dksX8_values_4 17 rfl rfl)
theorem dX8_values_115 : decode cX8_values 115 = .ok (.ifCond .eq 8, 3) := dk_153 0 8 (dk_at dksX8_values_4 20 rfl rfl)
theorem dX8_values_118 : decode cX8_values 118 = .ok (.bipush 83, 2) := dk_16 83 (dk_at dksX8_values_5 0 rfl rfl)
theorem dX8_values_120 : decode cX8_values 120 = .ok (.goto 5, 3) := dk_167 0 5 (dk_at dksX8_values_5 2 rfl rfl)
theorem dX8_values_123 : decode cX8_values 123 = .ok (.bipush 51, 2) := dk_16 51 (dk_at dksX8_values_5 5 rfl rfl)
theorem dX8_values_125 : decode cX8_values 125 = .ok (.isub, 1) := dk_100 (dk_at dksX8_values_5 7 rfl rfl)
theorem dX8_values_126 : decode cX8_values 126 = .ok (.invokevirtual 44, 3) := dk_182 0 44 (dk_at dksX8_values_5 8 rfl rfl)
theorem dX8_values_129 : decode cX8_values 129 = .ok (.goto 8, 3) := dk_167 0 8 (dk_at dksX8_values_5 11 rfl rfl)
theorem dX8_values_132 : decode cX8_values 132 = .ok (.aload_n 0, 1) := dk_42 (dk_at dksX8_values_5 14 rfl rfl)
theorem dX8_values_133 : decode cX8_values 133 = .ok (.iload_n 2, 1) := dk_28 (dk_at dksX8_values_5 15 rfl rfl)
theorem dX8_values_134 : decode cX8_values 134 = .ok (.invokevirtual 47, 3) := dk_182 0 47 (dk_at dksX8_values_5 16 rfl rfl)
theorem dX8_values_137 : decode cX8_values 137 = .ok (.return_, 1) := dk_177 (dk_at dksX8_values_5 19 rfl rfl)
abbrev cX8_shift : ByteArray := prog_9_method_8_code
def yX8_shift : MethodName := ⟨RX8, "shift", "(I)V"⟩
def dkwX8_shift_6 : List UInt8 := [182, 0, 44, 177]
abbrev dktX8_shift_6 : List UInt8 := dkwX8_shift_6 ++ []
def dkwX8_shift_5 : List UInt8 := [161, 0, 10, 27, 16, 96, 100, 167, 0, 17, 27, 16, 96, 160, 0, 7, 3, 167, 0, 7, 27, 16, 64, 100]
abbrev dktX8_shift_5 : List UInt8 := dkwX8_shift_5 ++ dktX8_shift_6
def dkwX8_shift_4 : List UInt8 := [167, 0, 7, 27, 16, 69, 100, 182, 0, 44, 167, 0, 41, 42, 42, 180, 0, 15, 153, 0, 9, 27, 16, 123]
abbrev dktX8_shift_4 : List UInt8 := dkwX8_shift_4 ++ dktX8_shift_5
def dkwX8_shift_3 : List UInt8 := [16, 48, 162, 0, 10, 27, 16, 33, 100, 167, 0, 20, 27, 16, 65, 162, 0, 10, 27, 16, 43, 100]
abbrev dktX8_shift_3 : List UInt8 := dkwX8_shift_3 ++ dktX8_shift_4
def dkwX8_shift_2 : List UInt8 := [28, 182, 0, 44, 28, 154, 0, 11, 42, 27, 182, 0, 44, 167, 0, 83, 28, 4, 160, 0, 40, 42, 27]
abbrev dktX8_shift_2 : List UInt8 := dkwX8_shift_2 ++ dktX8_shift_3
def dkwX8_shift_1 : List UInt8 := [16, 64, 164, 0, 15, 27, 16, 91, 161, 0, 13, 27, 16, 95, 163, 0, 7, 4, 167, 0, 4, 5, 61, 42]
abbrev dktX8_shift_1 : List UInt8 := dkwX8_shift_1 ++ dktX8_shift_2
def dkwX8_shift_0 : List UInt8 := [27, 16, 32, 162, 0, 7, 3, 167, 0, 38, 27, 16, 48, 161, 0, 27, 27, 16, 58, 161, 0, 9, 27]
abbrev dktX8_shift_0 : List UInt8 := dkwX8_shift_0 ++ dktX8_shift_1
theorem dksX8_shift_0 : cX8_shift.data.toList.drop 0 = dktX8_shift_0 := by decide +kernel
theorem dksX8_shift_1 : cX8_shift.data.toList.drop 23 = dktX8_shift_1 := dk_seg dksX8_shift_0 23 rfl rfl
theorem dksX8_shift_2 : cX8_shift.data.toList.drop 47 = dktX8_shift_2 := dk_seg dksX8_shift_1 24 rfl rfl
theorem dksX8_shift_3 : cX8_shift.data.toList.drop 70 = dktX8_shift_3 := dk_seg dksX8_shift_2 23 rfl rfl
theorem dksX8_shift_4 : cX8_shift.data.toList.drop 92 = dktX8_shift_4 := dk_seg dksX8_shift_3 22 rfl rfl
theorem dksX8_shift_5 : cX8_shift.data.toList.drop 116 = dktX8_shift_5 := dk_seg dksX8_shift_4 24 rfl rfl
theorem dksX8_shift_6 : cX8_shift.data.toList.drop 140 = dktX8_shift_6 := dk_seg dksX8_shift_5 24 rfl rfl
theorem dX8_shift_0 : decode cX8_shift 0 = .ok (.iload_n 1, 1) := dk_27 (dk_at dksX8_shift_0 0 rfl rfl)
theorem dX8_shift_1 : decode cX8_shift 1 = .ok (.bipush 32, 2) := dk_16 32 (dk_at dksX8_shift_0 1 rfl rfl)
theorem dX8_shift_3 : decode cX8_shift 3 = .ok (.if_icmp .ge 7, 3) := dk_162 0 7 (dk_at dksX8_shift_0 3 rfl rfl)
theorem dX8_shift_6 : decode cX8_shift 6 = .ok (.iconst 0, 1) := dk_3 (dk_at dksX8_shift_0 6 rfl rfl)
theorem dX8_shift_7 : decode cX8_shift 7 = .ok (.goto 38, 3) := dk_167 0 38 (dk_at dksX8_shift_0 7 rfl rfl)
theorem dX8_shift_10 : decode cX8_shift 10 = .ok (.iload_n 1, 1) := dk_27 (dk_at dksX8_shift_0 10 rfl rfl)
theorem dX8_shift_11 : decode cX8_shift 11 = .ok (.bipush 48, 2) := dk_16 48 (dk_at dksX8_shift_0 11 rfl rfl)
theorem dX8_shift_13 : decode cX8_shift 13 = .ok (.if_icmp .lt 27, 3) := dk_161 0 27 (dk_at dksX8_shift_0 13 rfl rfl)
theorem dX8_shift_16 : decode cX8_shift 16 = .ok (.iload_n 1, 1) := dk_27 (dk_at dksX8_shift_0 16 rfl rfl)
theorem dX8_shift_17 : decode cX8_shift 17 = .ok (.bipush 58, 2) := dk_16 58 (dk_at dksX8_shift_0 17 rfl rfl)
theorem dX8_shift_19 : decode cX8_shift 19 = .ok (.if_icmp .lt 9, 3) := dk_161 0 9 (dk_at dksX8_shift_0 19 rfl rfl)
theorem dX8_shift_22 : decode cX8_shift 22 = .ok (.iload_n 1, 1) := dk_27 (dk_at dksX8_shift_0 22 rfl rfl)
theorem dX8_shift_23 : decode cX8_shift 23 = .ok (.bipush 64, 2) := dk_16 64 (dk_at dksX8_shift_1 0 rfl rfl)
theorem dX8_shift_25 : decode cX8_shift 25 = .ok (.if_icmp .le 15, 3) := dk_164 0 15 (dk_at dksX8_shift_1 2 rfl rfl)
theorem dX8_shift_28 : decode cX8_shift 28 = .ok (.iload_n 1, 1) := dk_27 (dk_at dksX8_shift_1 5 rfl rfl)
theorem dX8_shift_29 : decode cX8_shift 29 = .ok (.bipush 91, 2) := dk_16 91 (dk_at dksX8_shift_1 6 rfl rfl)
theorem dX8_shift_31 : decode cX8_shift 31 = .ok (.if_icmp .lt 13, 3) := dk_161 0 13 (dk_at dksX8_shift_1 8 rfl rfl)
theorem dX8_shift_34 : decode cX8_shift 34 = .ok (.iload_n 1, 1) := dk_27 (dk_at dksX8_shift_1 11 rfl rfl)
theorem dX8_shift_35 : decode cX8_shift 35 = .ok (.bipush 95, 2) := dk_16 95 (dk_at dksX8_shift_1 12 rfl rfl)
theorem dX8_shift_37 : decode cX8_shift 37 = .ok (.if_icmp .gt 7, 3) := dk_163 0 7 (dk_at dksX8_shift_1 14 rfl rfl)
theorem dX8_shift_40 : decode cX8_shift 40 = .ok (.iconst 1, 1) := dk_4 (dk_at dksX8_shift_1 17 rfl rfl)
theorem dX8_shift_41 : decode cX8_shift 41 = .ok (.goto 4, 3) := dk_167 0 4 (dk_at dksX8_shift_1 18 rfl rfl)
theorem dX8_shift_44 : decode cX8_shift 44 = .ok (.iconst 2, 1) := dk_5 (dk_at dksX8_shift_1 21 rfl rfl)
theorem dX8_shift_45 : decode cX8_shift 45 = .ok (.istore_n 2, 1) := dk_61 (dk_at dksX8_shift_1 22 rfl rfl)
theorem dX8_shift_46 : decode cX8_shift 46 = .ok (.aload_n 0, 1) := dk_42 (dk_at dksX8_shift_1 23 rfl rfl)
theorem dX8_shift_47 : decode cX8_shift 47 = .ok (.iload_n 2, 1) := dk_28 (dk_at dksX8_shift_2 0 rfl rfl)
theorem dX8_shift_48 : decode cX8_shift 48 = .ok (.invokevirtual 44, 3) := dk_182 0 44 (dk_at dksX8_shift_2 1 rfl rfl)
theorem dX8_shift_51 : decode cX8_shift 51 = .ok (.iload_n 2, 1) := dk_28 (dk_at dksX8_shift_2 4 rfl rfl)
theorem dX8_shift_52 : decode cX8_shift 52 = .ok (.ifCond .ne 11, 3) := dk_154 0 11 (dk_at dksX8_shift_2 5 rfl rfl)
theorem dX8_shift_55 : decode cX8_shift 55 = .ok (.aload_n 0, 1) := dk_42 (dk_at dksX8_shift_2 8 rfl rfl)
theorem dX8_shift_56 : decode cX8_shift 56 = .ok (.iload_n 1, 1) := dk_27 (dk_at dksX8_shift_2 9 rfl rfl)
theorem dX8_shift_57 : decode cX8_shift 57 = .ok (.invokevirtual 44, 3) := dk_182 0 44 (dk_at dksX8_shift_2 10 rfl rfl)
theorem dX8_shift_60 : decode cX8_shift 60 = .ok (.goto 83, 3) := dk_167 0 83 (dk_at dksX8_shift_2 13 rfl rfl)
theorem dX8_shift_63 : decode cX8_shift 63 = .ok (.iload_n 2, 1) := dk_28 (dk_at dksX8_shift_2 16 rfl rfl)
theorem dX8_shift_64 : decode cX8_shift 64 = .ok (.iconst 1, 1) := dk_4 (dk_at dksX8_shift_2 17 rfl rfl)
theorem dX8_shift_65 : decode cX8_shift 65 = .ok (.if_icmp .ne 40, 3) := dk_160 0 40 (dk_at dksX8_shift_2 18 rfl rfl)
theorem dX8_shift_68 : decode cX8_shift 68 = .ok (.aload_n 0, 1) := dk_42 (dk_at dksX8_shift_2 21 rfl rfl)
theorem dX8_shift_69 : decode cX8_shift 69 = .ok (.iload_n 1, 1) := dk_27 (dk_at dksX8_shift_2 22 rfl rfl)
theorem dX8_shift_70 : decode cX8_shift 70 = .ok (.bipush 48, 2) := dk_16 48 (dk_at dksX8_shift_3 0 rfl rfl)
theorem dX8_shift_72 : decode cX8_shift 72 = .ok (.if_icmp .ge 10, 3) := dk_162 0 10 (dk_at dksX8_shift_3 2 rfl rfl)
theorem dX8_shift_75 : decode cX8_shift 75 = .ok (.iload_n 1, 1) := dk_27 (dk_at dksX8_shift_3 5 rfl rfl)
theorem dX8_shift_76 : decode cX8_shift 76 = .ok (.bipush 33, 2) := dk_16 33 (dk_at dksX8_shift_3 6 rfl rfl)
theorem dX8_shift_78 : decode cX8_shift 78 = .ok (.isub, 1) := dk_100 (dk_at dksX8_shift_3 8 rfl rfl)
theorem dX8_shift_79 : decode cX8_shift 79 = .ok (.goto 20, 3) := dk_167 0 20 (dk_at dksX8_shift_3 9 rfl rfl)
theorem dX8_shift_82 : decode cX8_shift 82 = .ok (.iload_n 1, 1) := dk_27 (dk_at dksX8_shift_3 12 rfl rfl)
theorem dX8_shift_83 : decode cX8_shift 83 = .ok (.bipush 65, 2) := dk_16 65 (dk_at dksX8_shift_3 13 rfl rfl)
theorem dX8_shift_85 : decode cX8_shift 85 = .ok (.if_icmp .ge 10, 3) := dk_162 0 10 (dk_at dksX8_shift_3 15 rfl rfl)
theorem dX8_shift_88 : decode cX8_shift 88 = .ok (.iload_n 1, 1) := dk_27 (dk_at dksX8_shift_3 18 rfl rfl)
theorem dX8_shift_89 : decode cX8_shift 89 = .ok (.bipush 43, 2) := dk_16 43 (dk_at dksX8_shift_3 19 rfl rfl)
theorem dX8_shift_91 : decode cX8_shift 91 = .ok (.isub, 1) := dk_100 (dk_at dksX8_shift_3 21 rfl rfl)
theorem dX8_shift_92 : decode cX8_shift 92 = .ok (.goto 7, 3) := dk_167 0 7 (dk_at dksX8_shift_4 0 rfl rfl)
theorem dX8_shift_95 : decode cX8_shift 95 = .ok (.iload_n 1, 1) := dk_27 (dk_at dksX8_shift_4 3 rfl rfl)
theorem dX8_shift_96 : decode cX8_shift 96 = .ok (.bipush 69, 2) := dk_16 69 (dk_at dksX8_shift_4 4 rfl rfl)
theorem dX8_shift_98 : decode cX8_shift 98 = .ok (.isub, 1) := dk_100 (dk_at dksX8_shift_4 6 rfl rfl)
theorem dX8_shift_99 : decode cX8_shift 99 = .ok (.invokevirtual 44, 3) := dk_182 0 44 (dk_at dksX8_shift_4 7 rfl rfl)
theorem dX8_shift_102 : decode cX8_shift 102 = .ok (.goto 41, 3) := dk_167 0 41 (dk_at dksX8_shift_4 10 rfl rfl)
theorem dX8_shift_105 : decode cX8_shift 105 = .ok (.aload_n 0, 1) := dk_42 (dk_at dksX8_shift_4 13 rfl rfl)
theorem dX8_shift_106 : decode cX8_shift 106 = .ok (.aload_n 0, 1) := dk_42 (dk_at dksX8_shift_4 14 rfl rfl)
theorem dX8_shift_107 : decode cX8_shift 107 = .ok (.getfield 15, 3) := dk_180 0 15 (dk_at dksX8_shift_4 15 rfl rfl)
theorem dX8_shift_110 : decode cX8_shift 110 = .ok (.ifCond .eq 9, 3) := dk_153 0 9 (dk_at dksX8_shift_4 18 rfl rfl)
theorem dX8_shift_113 : decode cX8_shift 113 = .ok (.iload_n 1, 1) := dk_27 (dk_at dksX8_shift_4 21 rfl rfl)
theorem dX8_shift_114 : decode cX8_shift 114 = .ok (.bipush 123, 2) := dk_16 123 (dk_at dksX8_shift_4 22 rfl rfl)
theorem dX8_shift_116 : decode cX8_shift 116 = .ok (.if_icmp .lt 10, 3) := dk_161 0 10 (dk_at dksX8_shift_5 0 rfl rfl)
theorem dX8_shift_119 : decode cX8_shift 119 = .ok (.iload_n 1, 1) := dk_27 (dk_at dksX8_shift_5 3 rfl rfl)
theorem dX8_shift_120 : decode cX8_shift 120 = .ok (.bipush 96, 2) := dk_16 96 (dk_at dksX8_shift_5 4 rfl rfl)
theorem dX8_shift_122 : decode cX8_shift 122 = .ok (.isub, 1) := dk_100 (dk_at dksX8_shift_5 6 rfl rfl)
theorem dX8_shift_123 : decode cX8_shift 123 = .ok (.goto 17, 3) := dk_167 0 17 (dk_at dksX8_shift_5 7 rfl rfl)
theorem dX8_shift_126 : decode cX8_shift 126 = .ok (.iload_n 1, 1) := dk_27 (dk_at dksX8_shift_5 10 rfl rfl)
theorem dX8_shift_127 : decode cX8_shift 127 = .ok (.bipush 96, 2) := dk_16 96 (dk_at dksX8_shift_5 11 rfl rfl)
theorem dX8_shift_129 : decode cX8_shift 129 = .ok (.if_icmp .ne 7, 3) := dk_160 0 7 (dk_at dksX8_shift_5 13 rfl rfl)
theorem dX8_shift_132 : decode cX8_shift 132 = .ok (.iconst 0, 1) := dk_3 (dk_at dksX8_shift_5 16 rfl rfl)
theorem dX8_shift_133 : decode cX8_shift 133 = .ok (.goto 7, 3) := dk_167 0 7 (dk_at dksX8_shift_5 17 rfl rfl)
theorem dX8_shift_136 : decode cX8_shift 136 = .ok (.iload_n 1, 1) := dk_27 (dk_at dksX8_shift_5 20 rfl rfl)
theorem dX8_shift_137 : decode cX8_shift 137 = .ok (.bipush 64, 2) := dk_16 64 (dk_at dksX8_shift_5 21 rfl rfl)
theorem dX8_shift_139 : decode cX8_shift 139 = .ok (.isub, 1) := dk_100 (dk_at dksX8_shift_5 23 rfl rfl)
theorem dX8_shift_140 : decode cX8_shift 140 = .ok (.invokevirtual 44, 3) := dk_182 0 44 (dk_at dksX8_shift_6 0 rfl rfl)
theorem dX8_shift_143 : decode cX8_shift 143 = .ok (.return_, 1) := dk_177 (dk_at dksX8_shift_6 3 rfl rfl)
abbrev cX8_begin : ByteArray := prog_9_method_2_code
def yX8_begin : MethodName := ⟨RX8, "begin", "()V"⟩
def dkwX8_begin_0 : List UInt8 := [42, 2, 181, 0, 19, 42, 3, 181, 0, 23, 177]
abbrev dktX8_begin_0 : List UInt8 := dkwX8_begin_0 ++ []
theorem dksX8_begin_0 : cX8_begin.data.toList.drop 0 = dktX8_begin_0 := by decide +kernel
theorem dX8_begin_0 : decode cX8_begin 0 = .ok (.aload_n 0, 1) := dk_42 (dk_at dksX8_begin_0 0 rfl rfl)
theorem dX8_begin_1 : decode cX8_begin 1 = .ok (.iconst (-1), 1) := dk_2 (dk_at dksX8_begin_0 1 rfl rfl)
theorem dX8_begin_2 : decode cX8_begin 2 = .ok (.putfield 19, 3) := dk_181 0 19 (dk_at dksX8_begin_0 2 rfl rfl)
theorem dX8_begin_5 : decode cX8_begin 5 = .ok (.aload_n 0, 1) := dk_42 (dk_at dksX8_begin_0 5 rfl rfl)
theorem dX8_begin_6 : decode cX8_begin 6 = .ok (.iconst 0, 1) := dk_3 (dk_at dksX8_begin_0 6 rfl rfl)
theorem dX8_begin_7 : decode cX8_begin 7 = .ok (.putfield 23, 3) := dk_181 0 23 (dk_at dksX8_begin_0 7 rfl rfl)
theorem dX8_begin_10 : decode cX8_begin 10 = .ok (.return_, 1) := dk_177 (dk_at dksX8_begin_0 10 rfl rfl)
abbrev cX8_take : ByteArray := prog_9_method_3_code
def yX8_take : MethodName := ⟨RX8, "take", "(LMatrixPress$Stream;IZ)V"⟩
def dkwX8_take_5 : List UInt8 := [181, 0, 23, 167, 0, 15, 42, 43, 42, 21, 4, 28, 182, 0, 35, 182, 0, 26, 177]
abbrev dktX8_take_5 : List UInt8 := dkwX8_take_5 ++ []
def dkwX8_take_4 : List UInt8 := [16, 30, 160, 0, 28, 42, 180, 0, 23, 158, 0, 11, 187, 0, 30, 89, 183, 0, 32, 191, 42, 17, 0, 128]
abbrev dktX8_take_4 : List UInt8 := dkwX8_take_4 ++ dktX8_take_5
def dkwX8_take_3 : List UInt8 := [182, 0, 26, 177, 42, 180, 0, 19, 6, 112, 54, 4, 42, 2, 181, 0, 19, 21, 4, 4, 160, 0, 34, 28]
abbrev dktX8_take_3 : List UInt8 := dkwX8_take_3 ++ dktX8_take_4
def dkwX8_take_2 : List UInt8 := [16, 44, 96, 167, 0, 19, 28, 42, 180, 0, 15, 153, 0, 8, 16, 83, 167, 0, 5, 16, 51, 96]
abbrev dktX8_take_2 : List UInt8 := dkwX8_take_2 ++ dktX8_take_3
def dkwX8_take_1 : List UInt8 := [181, 0, 19, 177, 42, 43, 28, 6, 160, 0, 8, 16, 32, 167, 0, 32, 28, 16, 14, 162, 0, 10, 28]
abbrev dktX8_take_1 : List UInt8 := dkwX8_take_1 ++ dktX8_take_2
def dkwX8_take_0 : List UInt8 := [42, 180, 0, 19, 156, 0, 69, 28, 6, 162, 0, 19, 42, 29, 153, 0, 9, 28, 6, 96, 167, 0, 4, 28]
abbrev dktX8_take_0 : List UInt8 := dkwX8_take_0 ++ dktX8_take_1
theorem dksX8_take_0 : cX8_take.data.toList.drop 0 = dktX8_take_0 := by decide +kernel
theorem dksX8_take_1 : cX8_take.data.toList.drop 24 = dktX8_take_1 := dk_seg dksX8_take_0 24 rfl rfl
theorem dksX8_take_2 : cX8_take.data.toList.drop 47 = dktX8_take_2 := dk_seg dksX8_take_1 23 rfl rfl
theorem dksX8_take_3 : cX8_take.data.toList.drop 69 = dktX8_take_3 := dk_seg dksX8_take_2 22 rfl rfl
theorem dksX8_take_4 : cX8_take.data.toList.drop 93 = dktX8_take_4 := dk_seg dksX8_take_3 24 rfl rfl
theorem dksX8_take_5 : cX8_take.data.toList.drop 117 = dktX8_take_5 := dk_seg dksX8_take_4 24 rfl rfl
theorem dX8_take_0 : decode cX8_take 0 = .ok (.aload_n 0, 1) := dk_42 (dk_at dksX8_take_0 0 rfl rfl)
theorem dX8_take_1 : decode cX8_take 1 = .ok (.getfield 19, 3) := dk_180 0 19 (dk_at dksX8_take_0 1 rfl rfl)
theorem dX8_take_4 : decode cX8_take 4 = .ok (.ifCond .ge 69, 3) := dk_156 0 69 (dk_at dksX8_take_0 4 rfl rfl)
theorem dX8_take_7 : decode cX8_take 7 = .ok (.iload_n 2, 1) := dk_28 (dk_at dksX8_take_0 7 rfl rfl)
theorem dX8_take_8 : decode cX8_take 8 = .ok (.iconst 3, 1) := dk_6 (dk_at dksX8_take_0 8 rfl rfl)
theorem dX8_take_9 : decode cX8_take 9 = .ok (.if_icmp .ge 19, 3) := dk_162 0 19 (dk_at dksX8_take_0 9 rfl rfl)
theorem dX8_take_12 : decode cX8_take 12 = .ok (.aload_n 0, 1) := dk_42 (dk_at dksX8_take_0 12 rfl rfl)
theorem dX8_take_13 : decode cX8_take 13 = .ok (.iload_n 3, 1) := dk_29 (dk_at dksX8_take_0 13 rfl rfl)
theorem dX8_take_14 : decode cX8_take 14 = .ok (.ifCond .eq 9, 3) := dk_153 0 9 (dk_at dksX8_take_0 14 rfl rfl)
theorem dX8_take_17 : decode cX8_take 17 = .ok (.iload_n 2, 1) := dk_28 (dk_at dksX8_take_0 17 rfl rfl)
theorem dX8_take_18 : decode cX8_take 18 = .ok (.iconst 3, 1) := dk_6 (dk_at dksX8_take_0 18 rfl rfl)
theorem dX8_take_19 : decode cX8_take 19 = .ok (.iadd, 1) := dk_96 (dk_at dksX8_take_0 19 rfl rfl)
theorem dX8_take_20 : decode cX8_take 20 = .ok (.goto 4, 3) := dk_167 0 4 (dk_at dksX8_take_0 20 rfl rfl)
theorem dX8_take_23 : decode cX8_take 23 = .ok (.iload_n 2, 1) := dk_28 (dk_at dksX8_take_0 23 rfl rfl)
theorem dX8_take_24 : decode cX8_take 24 = .ok (.putfield 19, 3) := dk_181 0 19 (dk_at dksX8_take_1 0 rfl rfl)
theorem dX8_take_27 : decode cX8_take 27 = .ok (.return_, 1) := dk_177 (dk_at dksX8_take_1 3 rfl rfl)
theorem dX8_take_28 : decode cX8_take 28 = .ok (.aload_n 0, 1) := dk_42 (dk_at dksX8_take_1 4 rfl rfl)
theorem dX8_take_29 : decode cX8_take 29 = .ok (.aload_n 1, 1) := dk_43 (dk_at dksX8_take_1 5 rfl rfl)
theorem dX8_take_30 : decode cX8_take 30 = .ok (.iload_n 2, 1) := dk_28 (dk_at dksX8_take_1 6 rfl rfl)
theorem dX8_take_31 : decode cX8_take 31 = .ok (.iconst 3, 1) := dk_6 (dk_at dksX8_take_1 7 rfl rfl)
theorem dX8_take_32 : decode cX8_take 32 = .ok (.if_icmp .ne 8, 3) := dk_160 0 8 (dk_at dksX8_take_1 8 rfl rfl)
theorem dX8_take_35 : decode cX8_take 35 = .ok (.bipush 32, 2) := dk_16 32 (dk_at dksX8_take_1 11 rfl rfl)
theorem dX8_take_37 : decode cX8_take 37 = .ok (.goto 32, 3) := dk_167 0 32 (dk_at dksX8_take_1 13 rfl rfl)
theorem dX8_take_40 : decode cX8_take 40 = .ok (.iload_n 2, 1) := dk_28 (dk_at dksX8_take_1 16 rfl rfl)
theorem dX8_take_41 : decode cX8_take 41 = .ok (.bipush 14, 2) := dk_16 14 (dk_at dksX8_take_1 17 rfl rfl)
theorem dX8_take_43 : decode cX8_take 43 = .ok (.if_icmp .ge 10, 3) := dk_162 0 10 (dk_at dksX8_take_1 19 rfl rfl)
theorem dX8_take_46 : decode cX8_take 46 = .ok (.iload_n 2, 1) := dk_28 (dk_at dksX8_take_1 22 rfl rfl)
theorem dX8_take_47 : decode cX8_take 47 = .ok (.bipush 44, 2) := dk_16 44 (dk_at dksX8_take_2 0 rfl rfl)
theorem dX8_take_49 : decode cX8_take 49 = .ok (.iadd, 1) := dk_96 (dk_at dksX8_take_2 2 rfl rfl)
theorem dX8_take_50 : decode cX8_take 50 = .ok (.goto 19, 3) := dk_167 0 19 (dk_at dksX8_take_2 3 rfl rfl)
theorem dX8_take_53 : decode cX8_take 53 = .ok (.iload_n 2, 1) := dk_28 (dk_at dksX8_take_2 6 rfl rfl)
theorem dX8_take_54 : decode cX8_take 54 = .ok (.aload_n 0, 1) := dk_42 (dk_at dksX8_take_2 7 rfl rfl)
theorem dX8_take_55 : decode cX8_take 55 = .ok (.getfield 15, 3) := dk_180 0 15 (dk_at dksX8_take_2 8 rfl rfl)
theorem dX8_take_58 : decode cX8_take 58 = .ok (.ifCond .eq 8, 3) := dk_153 0 8 (dk_at dksX8_take_2 11 rfl rfl)
theorem dX8_take_61 : decode cX8_take 61 = .ok (.bipush 83, 2) := dk_16 83 (dk_at dksX8_take_2 14 rfl rfl)
theorem dX8_take_63 : decode cX8_take 63 = .ok (.goto 5, 3) := dk_167 0 5 (dk_at dksX8_take_2 16 rfl rfl)
theorem dX8_take_66 : decode cX8_take 66 = .ok (.bipush 51, 2) := dk_16 51 (dk_at dksX8_take_2 19 rfl rfl)
theorem dX8_take_68 : decode cX8_take 68 = .ok (.iadd, 1) := dk_96 (dk_at dksX8_take_2 21 rfl rfl)
theorem dX8_take_69 : decode cX8_take 69 = .ok (.invokevirtual 26, 3) := dk_182 0 26 (dk_at dksX8_take_3 0 rfl rfl)
theorem dX8_take_72 : decode cX8_take 72 = .ok (.return_, 1) := dk_177 (dk_at dksX8_take_3 3 rfl rfl)
theorem dX8_take_73 : decode cX8_take 73 = .ok (.aload_n 0, 1) := dk_42 (dk_at dksX8_take_3 4 rfl rfl)
theorem dX8_take_74 : decode cX8_take 74 = .ok (.getfield 19, 3) := dk_180 0 19 (dk_at dksX8_take_3 5 rfl rfl)
theorem dX8_take_77 : decode cX8_take 77 = .ok (.iconst 3, 1) := dk_6 (dk_at dksX8_take_3 8 rfl rfl)
theorem dX8_take_78 : decode cX8_take 78 = .ok (.irem, 1) := dk_112 (dk_at dksX8_take_3 9 rfl rfl)
theorem dX8_take_79 : decode cX8_take 79 = .ok (.istore 4, 2) := dk_54 4 (dk_at dksX8_take_3 10 rfl rfl)
theorem dX8_take_81 : decode cX8_take 81 = .ok (.aload_n 0, 1) := dk_42 (dk_at dksX8_take_3 12 rfl rfl)
theorem dX8_take_82 : decode cX8_take 82 = .ok (.iconst (-1), 1) := dk_2 (dk_at dksX8_take_3 13 rfl rfl)
theorem dX8_take_83 : decode cX8_take 83 = .ok (.putfield 19, 3) := dk_181 0 19 (dk_at dksX8_take_3 14 rfl rfl)
theorem dX8_take_86 : decode cX8_take 86 = .ok (.iload 4, 2) := dk_21 4 (dk_at dksX8_take_3 17 rfl rfl)
theorem dX8_take_88 : decode cX8_take 88 = .ok (.iconst 1, 1) := dk_4 (dk_at dksX8_take_3 19 rfl rfl)
theorem dX8_take_89 : decode cX8_take 89 = .ok (.if_icmp .ne 34, 3) := dk_160 0 34 (dk_at dksX8_take_3 20 rfl rfl)
theorem dX8_take_92 : decode cX8_take 92 = .ok (.iload_n 2, 1) := dk_28 (dk_at dksX8_take_3 23 rfl rfl)
theorem dX8_take_93 : decode cX8_take 93 = .ok (.bipush 30, 2) := dk_16 30 (dk_at dksX8_take_4 0 rfl rfl)
theorem dX8_take_95 : decode cX8_take 95 = .ok (.if_icmp .ne 28, 3) := dk_160 0 28 (dk_at dksX8_take_4 2 rfl rfl)
theorem dX8_take_98 : decode cX8_take 98 = .ok (.aload_n 0, 1) := dk_42 (dk_at dksX8_take_4 5 rfl rfl)
theorem dX8_take_99 : decode cX8_take 99 = .ok (.getfield 23, 3) := dk_180 0 23 (dk_at dksX8_take_4 6 rfl rfl)
theorem dX8_take_102 : decode cX8_take 102 = .ok (.ifCond .le 11, 3) := dk_158 0 11 (dk_at dksX8_take_4 9 rfl rfl)
theorem dX8_take_105 : decode cX8_take 105 = .ok (.new 30, 3) := dk_187 0 30 (dk_at dksX8_take_4 12 rfl rfl)
theorem dX8_take_108 : decode cX8_take 108 = .ok (.dup, 1) := dk_89 (dk_at dksX8_take_4 15 rfl rfl)
theorem dX8_take_109 : decode cX8_take 109 = .ok (.invokespecial 32, 3) := dk_183 0 32 (dk_at dksX8_take_4 16 rfl rfl)
theorem dX8_take_112 : decode cX8_take 112 = .ok (.athrow, 1) := dk_191 (dk_at dksX8_take_4 19 rfl rfl)
theorem dX8_take_113 : decode cX8_take 113 = .ok (.aload_n 0, 1) := dk_42 (dk_at dksX8_take_4 20 rfl rfl)
theorem dX8_take_114 : decode cX8_take 114 = .ok (.sipush 128, 3) := dk_17 0 128 (dk_at dksX8_take_4 21 rfl rfl)
theorem dX8_take_117 : decode cX8_take 117 = .ok (.putfield 23, 3) := dk_181 0 23 (dk_at dksX8_take_5 0 rfl rfl)
theorem dX8_take_120 : decode cX8_take 120 = .ok (.goto 15, 3) := dk_167 0 15 (dk_at dksX8_take_5 3 rfl rfl)
theorem dX8_take_123 : decode cX8_take 123 = .ok (.aload_n 0, 1) := dk_42 (dk_at dksX8_take_5 6 rfl rfl)
theorem dX8_take_124 : decode cX8_take 124 = .ok (.aload_n 1, 1) := dk_43 (dk_at dksX8_take_5 7 rfl rfl)
theorem dX8_take_125 : decode cX8_take 125 = .ok (.aload_n 0, 1) := dk_42 (dk_at dksX8_take_5 8 rfl rfl)
theorem dX8_take_126 : decode cX8_take 126 = .ok (.iload 4, 2) := dk_21 4 (dk_at dksX8_take_5 9 rfl rfl)
theorem dX8_take_128 : decode cX8_take 128 = .ok (.iload_n 2, 1) := dk_28 (dk_at dksX8_take_5 11 rfl rfl)
theorem dX8_take_129 : decode cX8_take 129 = .ok (.invokevirtual 35, 3) := dk_182 0 35 (dk_at dksX8_take_5 12 rfl rfl)
theorem dX8_take_132 : decode cX8_take 132 = .ok (.invokevirtual 26, 3) := dk_182 0 26 (dk_at dksX8_take_5 15 rfl rfl)
theorem dX8_take_135 : decode cX8_take 135 = .ok (.return_, 1) := dk_177 (dk_at dksX8_take_5 18 rfl rfl)
abbrev cX8_tells : ByteArray := prog_9_method_5_code
def yX8_tells : MethodName := ⟨RX8, "tells", "(LMatrixPress$Stream;I)V"⟩
def dkwX8_tells_0 : List UInt8 := [43, 28, 42, 180, 0, 23, 96, 182, 0, 39, 42, 3, 181, 0, 23, 177]
abbrev dktX8_tells_0 : List UInt8 := dkwX8_tells_0 ++ []
theorem dksX8_tells_0 : cX8_tells.data.toList.drop 0 = dktX8_tells_0 := by decide +kernel
theorem dX8_tells_0 : decode cX8_tells 0 = .ok (.aload_n 1, 1) := dk_43 (dk_at dksX8_tells_0 0 rfl rfl)
theorem dX8_tells_1 : decode cX8_tells 1 = .ok (.iload_n 2, 1) := dk_28 (dk_at dksX8_tells_0 1 rfl rfl)
theorem dX8_tells_2 : decode cX8_tells 2 = .ok (.aload_n 0, 1) := dk_42 (dk_at dksX8_tells_0 2 rfl rfl)
theorem dX8_tells_3 : decode cX8_tells 3 = .ok (.getfield 23, 3) := dk_180 0 23 (dk_at dksX8_tells_0 3 rfl rfl)
theorem dX8_tells_6 : decode cX8_tells 6 = .ok (.iadd, 1) := dk_96 (dk_at dksX8_tells_0 6 rfl rfl)
theorem dX8_tells_7 : decode cX8_tells 7 = .ok (.invokevirtual 39, 3) := dk_182 0 39 (dk_at dksX8_tells_0 7 rfl rfl)
theorem dX8_tells_10 : decode cX8_tells 10 = .ok (.aload_n 0, 1) := dk_42 (dk_at dksX8_tells_0 10 rfl rfl)
theorem dX8_tells_11 : decode cX8_tells 11 = .ok (.iconst 0, 1) := dk_3 (dk_at dksX8_tells_0 11 rfl rfl)
theorem dX8_tells_12 : decode cX8_tells 12 = .ok (.putfield 23, 3) := dk_181 0 23 (dk_at dksX8_tells_0 12 rfl rfl)
theorem dX8_tells_15 : decode cX8_tells 15 = .ok (.return_, 1) := dk_177 (dk_at dksX8_tells_0 15 rfl rfl)
abbrev cX8_shifted : ByteArray := prog_9_method_4_code
def yX8_shifted : MethodName := ⟨RX8, "shifted", "(II)I"⟩
def dkwX8_shifted_4 : List UInt8 := [167, 0, 20, 28, 16, 27, 162, 0, 10, 28, 16, 64, 96, 167, 0, 7, 28, 16, 96, 96, 172]
abbrev dktX8_shifted_4 : List UInt8 := dkwX8_shifted_4 ++ []
def dkwX8_shifted_3 : List UInt8 := [183, 0, 32, 191, 42, 180, 0, 15, 154, 0, 10, 28, 16, 96, 96, 167, 0, 29, 28, 154, 0, 8, 16, 96]
abbrev dktX8_shifted_3 : List UInt8 := dkwX8_shifted_3 ++ dktX8_shifted_4
def dkwX8_shifted_2 : List UInt8 := [167, 0, 7, 28, 16, 69, 96, 172, 27, 5, 160, 0, 9, 28, 16, 32, 161, 0, 11, 187, 0, 30, 89]
abbrev dktX8_shifted_2 : List UInt8 := dkwX8_shifted_2 ++ dktX8_shifted_3
def dkwX8_shifted_1 : List UInt8 := [16, 15, 162, 0, 10, 28, 16, 33, 96, 167, 0, 20, 28, 16, 22, 162, 0, 10, 28, 16, 43, 96]
abbrev dktX8_shifted_1 : List UInt8 := dkwX8_shifted_1 ++ dktX8_shifted_2
def dkwX8_shifted_0 : List UInt8 := [27, 154, 0, 11, 28, 16, 32, 162, 0, 5, 28, 172, 27, 4, 160, 0, 40, 28, 16, 27, 162, 0, 34, 28]
abbrev dktX8_shifted_0 : List UInt8 := dkwX8_shifted_0 ++ dktX8_shifted_1
theorem dksX8_shifted_0 : cX8_shifted.data.toList.drop 0 = dktX8_shifted_0 := by decide +kernel
theorem dksX8_shifted_1 : cX8_shifted.data.toList.drop 24 = dktX8_shifted_1 := dk_seg dksX8_shifted_0 24 rfl rfl
theorem dksX8_shifted_2 : cX8_shifted.data.toList.drop 46 = dktX8_shifted_2 := dk_seg dksX8_shifted_1 22 rfl rfl
theorem dksX8_shifted_3 : cX8_shifted.data.toList.drop 69 = dktX8_shifted_3 := dk_seg dksX8_shifted_2 23 rfl rfl
theorem dksX8_shifted_4 : cX8_shifted.data.toList.drop 93 = dktX8_shifted_4 := dk_seg dksX8_shifted_3 24 rfl rfl
theorem dX8_shifted_0 : decode cX8_shifted 0 = .ok (.iload_n 1, 1) := dk_27 (dk_at dksX8_shifted_0 0 rfl rfl)
theorem dX8_shifted_1 : decode cX8_shifted 1 = .ok (.ifCond .ne 11, 3) := dk_154 0 11 (dk_at dksX8_shifted_0 1 rfl rfl)
theorem dX8_shifted_4 : decode cX8_shifted 4 = .ok (.iload_n 2, 1) := dk_28 (dk_at dksX8_shifted_0 4 rfl rfl)
theorem dX8_shifted_5 : decode cX8_shifted 5 = .ok (.bipush 32, 2) := dk_16 32 (dk_at dksX8_shifted_0 5 rfl rfl)
theorem dX8_shifted_7 : decode cX8_shifted 7 = .ok (.if_icmp .ge 5, 3) := dk_162 0 5 (dk_at dksX8_shifted_0 7 rfl rfl)
theorem dX8_shifted_10 : decode cX8_shifted 10 = .ok (.iload_n 2, 1) := dk_28 (dk_at dksX8_shifted_0 10 rfl rfl)
theorem dX8_shifted_11 : decode cX8_shifted 11 = .ok (.ireturn, 1) := dk_172 (dk_at dksX8_shifted_0 11 rfl rfl)
theorem dX8_shifted_12 : decode cX8_shifted 12 = .ok (.iload_n 1, 1) := dk_27 (dk_at dksX8_shifted_0 12 rfl rfl)
theorem dX8_shifted_13 : decode cX8_shifted 13 = .ok (.iconst 1, 1) := dk_4 (dk_at dksX8_shifted_0 13 rfl rfl)
theorem dX8_shifted_14 : decode cX8_shifted 14 = .ok (.if_icmp .ne 40, 3) := dk_160 0 40 (dk_at dksX8_shifted_0 14 rfl rfl)
theorem dX8_shifted_17 : decode cX8_shifted 17 = .ok (.iload_n 2, 1) := dk_28 (dk_at dksX8_shifted_0 17 rfl rfl)
theorem dX8_shifted_18 : decode cX8_shifted 18 = .ok (.bipush 27, 2) := dk_16 27 (dk_at dksX8_shifted_0 18 rfl rfl)
theorem dX8_shifted_20 : decode cX8_shifted 20 = .ok (.if_icmp .ge 34, 3) := dk_162 0 34 (dk_at dksX8_shifted_0 20 rfl rfl)
theorem dX8_shifted_23 : decode cX8_shifted 23 = .ok (.iload_n 2, 1) := dk_28 (dk_at dksX8_shifted_0 23 rfl rfl)
theorem dX8_shifted_24 : decode cX8_shifted 24 = .ok (.bipush 15, 2) := dk_16 15 (dk_at dksX8_shifted_1 0 rfl rfl)
theorem dX8_shifted_26 : decode cX8_shifted 26 = .ok (.if_icmp .ge 10, 3) := dk_162 0 10 (dk_at dksX8_shifted_1 2 rfl rfl)
theorem dX8_shifted_29 : decode cX8_shifted 29 = .ok (.iload_n 2, 1) := dk_28 (dk_at dksX8_shifted_1 5 rfl rfl)
theorem dX8_shifted_30 : decode cX8_shifted 30 = .ok (.bipush 33, 2) := dk_16 33 (dk_at dksX8_shifted_1 6 rfl rfl)
theorem dX8_shifted_32 : decode cX8_shifted 32 = .ok (.iadd, 1) := dk_96 (dk_at dksX8_shifted_1 8 rfl rfl)
theorem dX8_shifted_33 : decode cX8_shifted 33 = .ok (.goto 20, 3) := dk_167 0 20 (dk_at dksX8_shifted_1 9 rfl rfl)
theorem dX8_shifted_36 : decode cX8_shifted 36 = .ok (.iload_n 2, 1) := dk_28 (dk_at dksX8_shifted_1 12 rfl rfl)
theorem dX8_shifted_37 : decode cX8_shifted 37 = .ok (.bipush 22, 2) := dk_16 22 (dk_at dksX8_shifted_1 13 rfl rfl)
theorem dX8_shifted_39 : decode cX8_shifted 39 = .ok (.if_icmp .ge 10, 3) := dk_162 0 10 (dk_at dksX8_shifted_1 15 rfl rfl)
theorem dX8_shifted_42 : decode cX8_shifted 42 = .ok (.iload_n 2, 1) := dk_28 (dk_at dksX8_shifted_1 18 rfl rfl)
theorem dX8_shifted_43 : decode cX8_shifted 43 = .ok (.bipush 43, 2) := dk_16 43 (dk_at dksX8_shifted_1 19 rfl rfl)
theorem dX8_shifted_45 : decode cX8_shifted 45 = .ok (.iadd, 1) := dk_96 (dk_at dksX8_shifted_1 21 rfl rfl)
theorem dX8_shifted_46 : decode cX8_shifted 46 = .ok (.goto 7, 3) := dk_167 0 7 (dk_at dksX8_shifted_2 0 rfl rfl)
theorem dX8_shifted_49 : decode cX8_shifted 49 = .ok (.iload_n 2, 1) := dk_28 (dk_at dksX8_shifted_2 3 rfl rfl)
theorem dX8_shifted_50 : decode cX8_shifted 50 = .ok (.bipush 69, 2) := dk_16 69 (dk_at dksX8_shifted_2 4 rfl rfl)
theorem dX8_shifted_52 : decode cX8_shifted 52 = .ok (.iadd, 1) := dk_96 (dk_at dksX8_shifted_2 6 rfl rfl)
theorem dX8_shifted_53 : decode cX8_shifted 53 = .ok (.ireturn, 1) := dk_172 (dk_at dksX8_shifted_2 7 rfl rfl)
theorem dX8_shifted_54 : decode cX8_shifted 54 = .ok (.iload_n 1, 1) := dk_27 (dk_at dksX8_shifted_2 8 rfl rfl)
theorem dX8_shifted_55 : decode cX8_shifted 55 = .ok (.iconst 2, 1) := dk_5 (dk_at dksX8_shifted_2 9 rfl rfl)
theorem dX8_shifted_56 : decode cX8_shifted 56 = .ok (.if_icmp .ne 9, 3) := dk_160 0 9 (dk_at dksX8_shifted_2 10 rfl rfl)
theorem dX8_shifted_59 : decode cX8_shifted 59 = .ok (.iload_n 2, 1) := dk_28 (dk_at dksX8_shifted_2 13 rfl rfl)
theorem dX8_shifted_60 : decode cX8_shifted 60 = .ok (.bipush 32, 2) := dk_16 32 (dk_at dksX8_shifted_2 14 rfl rfl)
theorem dX8_shifted_62 : decode cX8_shifted 62 = .ok (.if_icmp .lt 11, 3) := dk_161 0 11 (dk_at dksX8_shifted_2 16 rfl rfl)
theorem dX8_shifted_65 : decode cX8_shifted 65 = .ok (.new 30, 3) := dk_187 0 30 (dk_at dksX8_shifted_2 19 rfl rfl)
theorem dX8_shifted_68 : decode cX8_shifted 68 = .ok (.dup, 1) := dk_89 (dk_at dksX8_shifted_2 22 rfl rfl)
theorem dX8_shifted_69 : decode cX8_shifted 69 = .ok (.invokespecial 32, 3) := dk_183 0 32 (dk_at dksX8_shifted_3 0 rfl rfl)
theorem dX8_shifted_72 : decode cX8_shifted 72 = .ok (.athrow, 1) := dk_191 (dk_at dksX8_shifted_3 3 rfl rfl)
theorem dX8_shifted_73 : decode cX8_shifted 73 = .ok (.aload_n 0, 1) := dk_42 (dk_at dksX8_shifted_3 4 rfl rfl)
theorem dX8_shifted_74 : decode cX8_shifted 74 = .ok (.getfield 15, 3) := dk_180 0 15 (dk_at dksX8_shifted_3 5 rfl rfl)
theorem dX8_shifted_77 : decode cX8_shifted 77 = .ok (.ifCond .ne 10, 3) := dk_154 0 10 (dk_at dksX8_shifted_3 8 rfl rfl)
theorem dX8_shifted_80 : decode cX8_shifted 80 = .ok (.iload_n 2, 1) := dk_28 (dk_at dksX8_shifted_3 11 rfl rfl)
theorem dX8_shifted_81 : decode cX8_shifted 81 = .ok (.bipush 96, 2) := dk_16 96 (dk_at dksX8_shifted_3 12 rfl rfl)
theorem dX8_shifted_83 : decode cX8_shifted 83 = .ok (.iadd, 1) := dk_96 (dk_at dksX8_shifted_3 14 rfl rfl)
theorem dX8_shifted_84 : decode cX8_shifted 84 = .ok (.goto 29, 3) := dk_167 0 29 (dk_at dksX8_shifted_3 15 rfl rfl)
theorem dX8_shifted_87 : decode cX8_shifted 87 = .ok (.iload_n 2, 1) := dk_28 (dk_at dksX8_shifted_3 18 rfl rfl)
theorem dX8_shifted_88 : decode cX8_shifted 88 = .ok (.ifCond .ne 8, 3) := dk_154 0 8 (dk_at dksX8_shifted_3 19 rfl rfl)
theorem dX8_shifted_91 : decode cX8_shifted 91 = .ok (.bipush 96, 2) := dk_16 96 (dk_at dksX8_shifted_3 22 rfl rfl)
theorem dX8_shifted_93 : decode cX8_shifted 93 = .ok (.goto 20, 3) := dk_167 0 20 (dk_at dksX8_shifted_4 0 rfl rfl)
theorem dX8_shifted_96 : decode cX8_shifted 96 = .ok (.iload_n 2, 1) := dk_28 (dk_at dksX8_shifted_4 3 rfl rfl)
theorem dX8_shifted_97 : decode cX8_shifted 97 = .ok (.bipush 27, 2) := dk_16 27 (dk_at dksX8_shifted_4 4 rfl rfl)
theorem dX8_shifted_99 : decode cX8_shifted 99 = .ok (.if_icmp .ge 10, 3) := dk_162 0 10 (dk_at dksX8_shifted_4 6 rfl rfl)
theorem dX8_shifted_102 : decode cX8_shifted 102 = .ok (.iload_n 2, 1) := dk_28 (dk_at dksX8_shifted_4 9 rfl rfl)
theorem dX8_shifted_103 : decode cX8_shifted 103 = .ok (.bipush 64, 2) := dk_16 64 (dk_at dksX8_shifted_4 10 rfl rfl)
theorem dX8_shifted_105 : decode cX8_shifted 105 = .ok (.iadd, 1) := dk_96 (dk_at dksX8_shifted_4 12 rfl rfl)
theorem dX8_shifted_106 : decode cX8_shifted 106 = .ok (.goto 7, 3) := dk_167 0 7 (dk_at dksX8_shifted_4 13 rfl rfl)
theorem dX8_shifted_109 : decode cX8_shifted 109 = .ok (.iload_n 2, 1) := dk_28 (dk_at dksX8_shifted_4 16 rfl rfl)
theorem dX8_shifted_110 : decode cX8_shifted 110 = .ok (.bipush 96, 2) := dk_16 96 (dk_at dksX8_shifted_4 17 rfl rfl)
theorem dX8_shifted_112 : decode cX8_shifted 112 = .ok (.iadd, 1) := dk_96 (dk_at dksX8_shifted_4 19 rfl rfl)
theorem dX8_shifted_113 : decode cX8_shifted 113 = .ok (.ireturn, 1) := dk_172 (dk_at dksX8_shifted_4 20 rfl rfl)
abbrev cX8_end : ByteArray := prog_9_method_6_code
def yX8_end : MethodName := ⟨RX8, "end", "()V"⟩
def dkwX8_end_1 : List UInt8 := [187, 0, 30, 89, 183, 0, 32, 191, 177]
abbrev dktX8_end_1 : List UInt8 := dkwX8_end_1 ++ []
def dkwX8_end_0 : List UInt8 := [42, 180, 0, 23, 157, 0, 18, 42, 180, 0, 19, 155, 0, 19, 42, 180, 0, 19, 6, 159, 0, 11]
abbrev dktX8_end_0 : List UInt8 := dkwX8_end_0 ++ dktX8_end_1
theorem dksX8_end_0 : cX8_end.data.toList.drop 0 = dktX8_end_0 := by decide +kernel
theorem dksX8_end_1 : cX8_end.data.toList.drop 22 = dktX8_end_1 := dk_seg dksX8_end_0 22 rfl rfl
theorem dX8_end_0 : decode cX8_end 0 = .ok (.aload_n 0, 1) := dk_42 (dk_at dksX8_end_0 0 rfl rfl)
theorem dX8_end_1 : decode cX8_end 1 = .ok (.getfield 23, 3) := dk_180 0 23 (dk_at dksX8_end_0 1 rfl rfl)
theorem dX8_end_4 : decode cX8_end 4 = .ok (.ifCond .gt 18, 3) := dk_157 0 18 (dk_at dksX8_end_0 4 rfl rfl)
theorem dX8_end_7 : decode cX8_end 7 = .ok (.aload_n 0, 1) := dk_42 (dk_at dksX8_end_0 7 rfl rfl)
theorem dX8_end_8 : decode cX8_end 8 = .ok (.getfield 19, 3) := dk_180 0 19 (dk_at dksX8_end_0 8 rfl rfl)
theorem dX8_end_11 : decode cX8_end 11 = .ok (.ifCond .lt 19, 3) := dk_155 0 19 (dk_at dksX8_end_0 11 rfl rfl)
theorem dX8_end_14 : decode cX8_end 14 = .ok (.aload_n 0, 1) := dk_42 (dk_at dksX8_end_0 14 rfl rfl)
theorem dX8_end_15 : decode cX8_end 15 = .ok (.getfield 19, 3) := dk_180 0 19 (dk_at dksX8_end_0 15 rfl rfl)
theorem dX8_end_18 : decode cX8_end 18 = .ok (.iconst 3, 1) := dk_6 (dk_at dksX8_end_0 18 rfl rfl)
theorem dX8_end_19 : decode cX8_end 19 = .ok (.if_icmp .eq 11, 3) := dk_159 0 11 (dk_at dksX8_end_0 19 rfl rfl)
theorem dX8_end_22 : decode cX8_end 22 = .ok (.new 30, 3) := dk_187 0 30 (dk_at dksX8_end_1 0 rfl rfl)
theorem dX8_end_25 : decode cX8_end 25 = .ok (.dup, 1) := dk_89 (dk_at dksX8_end_1 3 rfl rfl)
theorem dX8_end_26 : decode cX8_end 26 = .ok (.invokespecial 32, 3) := dk_183 0 32 (dk_at dksX8_end_1 4 rfl rfl)
theorem dX8_end_29 : decode cX8_end 29 = .ok (.athrow, 1) := dk_191 (dk_at dksX8_end_1 7 rfl rfl)
theorem dX8_end_30 : decode cX8_end 30 = .ok (.return_, 1) := dk_177 (dk_at dksX8_end_1 8 rfl rfl)
theorem q118 : (Jvm.Cond.initialized "MatrixPress$Sets") ∈ lw_all := lw_g (lw_at lw_m1 11 rfl) rfl
theorem q335 : (Jvm.Cond.instantiable "MatrixPress$Sets" (7 : Nat)) ∈ lw_all := lw_g (lw_at lw_m1 228 rfl) rfl
theorem q337 : (Jvm.Cond.instanceMethod ({ cls := "MatrixPress$Sets", name := "<init>", desc := "(IZ)V" } : Jvm.MethodName)) ∈ lw_all := lw_g (lw_at lw_m1 230 rfl) rfl
theorem q338 : (Jvm.Cond.code ({ cls := "MatrixPress$Sets", name := "<init>", desc := "(IZ)V" } : Jvm.MethodName) prog_9_method_1_code (3 : Nat) (Option.none : Option Jvm.ClassFile.FieldType)) ∈ lw_all := lw_g (lw_at lw_m1 231 rfl) rfl
theorem q339 : (Jvm.Cond.methodLink "MatrixPress$Sets" (3 : Nat) ({ cls := "MatrixPress$Threes", name := "<init>", desc := "(I)V" } : Jvm.MethodName)) ∈ lw_all := lw_g (lw_at lw_m1 232 rfl) rfl
theorem q346 : (Jvm.Cond.fieldLink "MatrixPress$Sets" (15 : Nat) "MatrixPress$Sets" "small" "Z") ∈ lw_all := lw_g (lw_at lw_m1 239 rfl) rfl
theorem q347 : (Jvm.Cond.fieldLink "MatrixPress$Sets" (19 : Nat) "MatrixPress$Sets" "shift" "I") ∈ lw_all := lw_g (lw_at lw_m2 0 rfl) rfl
theorem q348 : (Jvm.Cond.fieldLink "MatrixPress$Sets" (23 : Nat) "MatrixPress$Sets" "high" "I") ∈ lw_all := lw_g (lw_at lw_m2 1 rfl) rfl
theorem q349 : (Jvm.Cond.fieldLink "MatrixPress$Sets" (9 : Nat) "MatrixPress$Sets" "sum" "[I") ∈ lw_all := lw_g (lw_at lw_m2 2 rfl) rfl
theorem q355 : (Jvm.Cond.laysFinal "MatrixPress$Sets" "MatrixPress$Sets" "small" "Z") ∈ lw_all := lw_g (lw_at lw_m2 8 rfl) rfl
theorem q356 : (Jvm.Cond.soleField "MatrixPress$Sets" "small") ∈ lw_all := lw_g (lw_at lw_m2 9 rfl) rfl
theorem q357 : (Jvm.Cond.lays "MatrixPress$Sets" "MatrixPress$Sets" "shift" "I") ∈ lw_all := lw_g (lw_at lw_m2 10 rfl) rfl
theorem q358 : (Jvm.Cond.soleField "MatrixPress$Sets" "shift") ∈ lw_all := lw_g (lw_at lw_m2 11 rfl) rfl
theorem q359 : (Jvm.Cond.lays "MatrixPress$Sets" "MatrixPress$Sets" "high" "I") ∈ lw_all := lw_g (lw_at lw_m2 12 rfl) rfl
theorem q360 : (Jvm.Cond.soleField "MatrixPress$Sets" "high") ∈ lw_all := lw_g (lw_at lw_m2 13 rfl) rfl
theorem q361 : (Jvm.Cond.laysFinal "MatrixPress$Sets" "MatrixPress$Sets" "sum" "[I") ∈ lw_all := lw_g (lw_at lw_m2 14 rfl) rfl
theorem q362 : (Jvm.Cond.soleField "MatrixPress$Sets" "sum") ∈ lw_all := lw_g (lw_at lw_m2 15 rfl) rfl
theorem q363 : (Jvm.Cond.laysFinal "MatrixPress$Sets" "MatrixPress$Threes" "value" "[I") ∈ lw_all := lw_g (lw_at lw_m2 16 rfl) rfl
theorem q365 : (Jvm.Cond.lays "MatrixPress$Sets" "MatrixPress$Threes" "many" "I") ∈ lw_all := lw_g (lw_at lw_m2 18 rfl) rfl
theorem q367 : (Jvm.Cond.laysFinal "MatrixPress$Sets" "MatrixPress$Encodation" "latch" "I") ∈ lw_all := lw_g (lw_at lw_m2 20 rfl) rfl
theorem q369 : (Jvm.Cond.superclass "MatrixPress$Sets" "MatrixPress$Threes") ∈ lw_all := lw_g (lw_at lw_m2 22 rfl) rfl
theorem q409 : (Jvm.Cond.selects "MatrixPress$Sets" ({ cls := "java/lang/Object", name := "getClass", desc := "()Ljava/lang/Class;" } : Jvm.MethodName) ({ cls := "java/lang/Object", name := "getClass", desc := "()Ljava/lang/Class;" } : Jvm.MethodName)) ∈ lw_all := lw_g (lw_at lw_m2 62 rfl) rfl
theorem q619 : (Jvm.Cond.selects "MatrixPress$Sets" ({ cls := "MatrixPress$Encodation", name := "prepare", desc := "([BI)V" } : Jvm.MethodName) ({ cls := "MatrixPress$Sets", name := "prepare", desc := "([BI)V" } : Jvm.MethodName)) ∈ lw_all := lw_g (lw_at lw_m3 32 rfl) rfl
theorem q620 : (Jvm.Cond.instanceMethod ({ cls := "MatrixPress$Sets", name := "prepare", desc := "([BI)V" } : Jvm.MethodName)) ∈ lw_all := lw_g (lw_at lw_m3 33 rfl) rfl
theorem q621 : (Jvm.Cond.code ({ cls := "MatrixPress$Sets", name := "prepare", desc := "([BI)V" } : Jvm.MethodName) prog_9_method_10_code (4 : Nat) (Option.none : Option Jvm.ClassFile.FieldType)) ∈ lw_all := lw_g (lw_at lw_m3 34 rfl) rfl
theorem q622 : (Jvm.Cond.methodLink "MatrixPress$Sets" (49 : Nat) ({ cls := "MatrixPress$Sets", name := "size", desc := "(I)I" } : Jvm.MethodName)) ∈ lw_all := lw_g (lw_at lw_m3 35 rfl) rfl
theorem q623 : (Jvm.Cond.privateMethod ({ cls := "MatrixPress$Sets", name := "size", desc := "(I)I" } : Jvm.MethodName)) ∈ lw_tbl := lw_at lw_m3 36 rfl
theorem q624 : (Jvm.Cond.instanceMethod ({ cls := "MatrixPress$Sets", name := "size", desc := "(I)I" } : Jvm.MethodName)) ∈ lw_all := lw_g (lw_at lw_m3 37 rfl) rfl
theorem q625 : (Jvm.Cond.code ({ cls := "MatrixPress$Sets", name := "size", desc := "(I)I" } : Jvm.MethodName) prog_9_method_9_code (4 : Nat) (Option.some Jvm.ClassFile.FieldType.int)) ∈ lw_all := lw_g (lw_at lw_m3 38 rfl) rfl
theorem q654 : (Jvm.Cond.selects "MatrixPress$Sets" ({ cls := "MatrixPress$Encodation", name := "closed", desc := "(II)I" } : Jvm.MethodName) ({ cls := "MatrixPress$Sets", name := "closed", desc := "(II)I" } : Jvm.MethodName)) ∈ lw_all := lw_g (lw_at lw_m3 67 rfl) rfl
theorem q655 : (Jvm.Cond.instanceMethod ({ cls := "MatrixPress$Sets", name := "closed", desc := "(II)I" } : Jvm.MethodName)) ∈ lw_all := lw_g (lw_at lw_m3 68 rfl) rfl
theorem q656 : (Jvm.Cond.code ({ cls := "MatrixPress$Sets", name := "closed", desc := "(II)I" } : Jvm.MethodName) prog_9_method_12_code (3 : Nat) (Option.some Jvm.ClassFile.FieldType.int)) ∈ lw_all := lw_g (lw_at lw_m3 69 rfl) rfl
theorem q657 : (Jvm.Cond.methodLink "MatrixPress$Sets" (54 : Nat) ({ cls := "MatrixPress$Sets", name := "open", desc := "(II)I" } : Jvm.MethodName)) ∈ lw_all := lw_g (lw_at lw_m3 70 rfl) rfl
theorem q658 : (Jvm.Cond.instanceMethod ({ cls := "MatrixPress$Sets", name := "open", desc := "(II)I" } : Jvm.MethodName)) ∈ lw_all := lw_g (lw_at lw_m3 71 rfl) rfl
theorem q659 : (Jvm.Cond.selects "MatrixPress$Sets" ({ cls := "MatrixPress$Sets", name := "open", desc := "(II)I" } : Jvm.MethodName) ({ cls := "MatrixPress$Sets", name := "open", desc := "(II)I" } : Jvm.MethodName)) ∈ lw_all := lw_g (lw_at lw_m3 72 rfl) rfl
theorem q660 : (Jvm.Cond.code ({ cls := "MatrixPress$Sets", name := "open", desc := "(II)I" } : Jvm.MethodName) prog_9_method_11_code (4 : Nat) (Option.some Jvm.ClassFile.FieldType.int)) ∈ lw_all := lw_g (lw_at lw_m3 73 rfl) rfl
theorem q661 : (Jvm.Cond.constant "MatrixPress$Sets" (53 : Nat) (1000000 : Int32)) ∈ lw_all := lw_g (lw_at lw_m3 74 rfl) rfl
theorem q692 : (Jvm.Cond.selects "MatrixPress$Sets" ({ cls := "MatrixPress$Encodation", name := "open", desc := "(II)I" } : Jvm.MethodName) ({ cls := "MatrixPress$Sets", name := "open", desc := "(II)I" } : Jvm.MethodName)) ∈ lw_all := lw_g (lw_at lw_m3 105 rfl) rfl
theorem q703 : (Jvm.Cond.selects "MatrixPress$Sets" ({ cls := "MatrixPress$Encodation", name := "leaves", desc := "()I" } : Jvm.MethodName) ({ cls := "MatrixPress$Threes", name := "leaves", desc := "()I" } : Jvm.MethodName)) ∈ lw_all := lw_g (lw_at lw_m3 116 rfl) rfl
theorem q801 : (Jvm.Cond.selects "MatrixPress$Sets" ({ cls := "MatrixPress$Encodation", name := "write", desc := "(LMatrixPress$Stream;[BIIZ)V" } : Jvm.MethodName) ({ cls := "MatrixPress$Threes", name := "write", desc := "(LMatrixPress$Stream;[BIIZ)V" } : Jvm.MethodName)) ∈ lw_all := lw_g (lw_at lw_m3 214 rfl) rfl
theorem q807 : (Jvm.Cond.selects "MatrixPress$Sets" ({ cls := "MatrixPress$Threes", name := "values", desc := "(I)V" } : Jvm.MethodName) ({ cls := "MatrixPress$Sets", name := "values", desc := "(I)V" } : Jvm.MethodName)) ∈ lw_all := lw_g (lw_at lw_m3 220 rfl) rfl
theorem q808 : (Jvm.Cond.instanceMethod ({ cls := "MatrixPress$Sets", name := "values", desc := "(I)V" } : Jvm.MethodName)) ∈ lw_all := lw_g (lw_at lw_m3 221 rfl) rfl
theorem q809 : (Jvm.Cond.code ({ cls := "MatrixPress$Sets", name := "values", desc := "(I)V" } : Jvm.MethodName) prog_9_method_7_code (4 : Nat) (Option.none : Option Jvm.ClassFile.FieldType)) ∈ lw_all := lw_g (lw_at lw_m3 222 rfl) rfl
theorem q810 : (Jvm.Cond.methodLink "MatrixPress$Sets" (44 : Nat) ({ cls := "MatrixPress$Sets", name := "add", desc := "(I)V" } : Jvm.MethodName)) ∈ lw_all := lw_g (lw_at lw_m3 223 rfl) rfl
theorem q811 : (Jvm.Cond.sameMethod "MatrixPress$Sets" "MatrixPress$Threes" "add" "(I)V") ∈ lw_all := lw_g (lw_at lw_m3 224 rfl) rfl
theorem q813 : (Jvm.Cond.selects "MatrixPress$Sets" ({ cls := "MatrixPress$Sets", name := "add", desc := "(I)V" } : Jvm.MethodName) ({ cls := "MatrixPress$Threes", name := "add", desc := "(I)V" } : Jvm.MethodName)) ∈ lw_all := lw_g (lw_at lw_m3 226 rfl) rfl
theorem q816 : (Jvm.Cond.methodLink "MatrixPress$Sets" (47 : Nat) ({ cls := "MatrixPress$Sets", name := "shift", desc := "(I)V" } : Jvm.MethodName)) ∈ lw_all := lw_g (lw_at lw_m3 229 rfl) rfl
theorem q817 : (Jvm.Cond.privateMethod ({ cls := "MatrixPress$Sets", name := "shift", desc := "(I)V" } : Jvm.MethodName)) ∈ lw_tbl := lw_at lw_m3 230 rfl
theorem q818 : (Jvm.Cond.instanceMethod ({ cls := "MatrixPress$Sets", name := "shift", desc := "(I)V" } : Jvm.MethodName)) ∈ lw_all := lw_g (lw_at lw_m3 231 rfl) rfl
theorem q819 : (Jvm.Cond.code ({ cls := "MatrixPress$Sets", name := "shift", desc := "(I)V" } : Jvm.MethodName) prog_9_method_8_code (3 : Nat) (Option.none : Option Jvm.ClassFile.FieldType)) ∈ lw_all := lw_g (lw_at lw_m3 232 rfl) rfl
theorem q1055 : (Jvm.Cond.selects "MatrixPress$Sets" ({ cls := "MatrixPress$Encodation", name := "read", desc := "(LMatrixPress$Stream;)V" } : Jvm.MethodName) ({ cls := "MatrixPress$Threes", name := "read", desc := "(LMatrixPress$Stream;)V" } : Jvm.MethodName)) ∈ lw_all := lw_g (lw_at lw_m4 228 rfl) rfl
theorem q1061 : (Jvm.Cond.selects "MatrixPress$Sets" ({ cls := "MatrixPress$Threes", name := "begin", desc := "()V" } : Jvm.MethodName) ({ cls := "MatrixPress$Sets", name := "begin", desc := "()V" } : Jvm.MethodName)) ∈ lw_all := lw_g (lw_at lw_m4 234 rfl) rfl
theorem q1062 : (Jvm.Cond.instanceMethod ({ cls := "MatrixPress$Sets", name := "begin", desc := "()V" } : Jvm.MethodName)) ∈ lw_all := lw_g (lw_at lw_m4 235 rfl) rfl
theorem q1063 : (Jvm.Cond.code ({ cls := "MatrixPress$Sets", name := "begin", desc := "()V" } : Jvm.MethodName) prog_9_method_2_code (1 : Nat) (Option.none : Option Jvm.ClassFile.FieldType)) ∈ lw_all := lw_g (lw_at lw_m4 236 rfl) rfl
theorem q1075 : (Jvm.Cond.selects "MatrixPress$Sets" ({ cls := "MatrixPress$Threes", name := "take", desc := "(LMatrixPress$Stream;IZ)V" } : Jvm.MethodName) ({ cls := "MatrixPress$Sets", name := "take", desc := "(LMatrixPress$Stream;IZ)V" } : Jvm.MethodName)) ∈ lw_all := lw_g (lw_at lw_m5 8 rfl) rfl
theorem q1076 : (Jvm.Cond.instanceMethod ({ cls := "MatrixPress$Sets", name := "take", desc := "(LMatrixPress$Stream;IZ)V" } : Jvm.MethodName)) ∈ lw_all := lw_g (lw_at lw_m5 9 rfl) rfl
theorem q1077 : (Jvm.Cond.code ({ cls := "MatrixPress$Sets", name := "take", desc := "(LMatrixPress$Stream;IZ)V" } : Jvm.MethodName) prog_9_method_3_code (5 : Nat) (Option.none : Option Jvm.ClassFile.FieldType)) ∈ lw_all := lw_g (lw_at lw_m5 10 rfl) rfl
theorem q1078 : (Jvm.Cond.methodLink "MatrixPress$Sets" (26 : Nat) ({ cls := "MatrixPress$Sets", name := "tells", desc := "(LMatrixPress$Stream;I)V" } : Jvm.MethodName)) ∈ lw_all := lw_g (lw_at lw_m5 11 rfl) rfl
theorem q1079 : (Jvm.Cond.privateMethod ({ cls := "MatrixPress$Sets", name := "tells", desc := "(LMatrixPress$Stream;I)V" } : Jvm.MethodName)) ∈ lw_tbl := lw_at lw_m5 12 rfl
theorem q1080 : (Jvm.Cond.instanceMethod ({ cls := "MatrixPress$Sets", name := "tells", desc := "(LMatrixPress$Stream;I)V" } : Jvm.MethodName)) ∈ lw_all := lw_g (lw_at lw_m5 13 rfl) rfl
theorem q1081 : (Jvm.Cond.code ({ cls := "MatrixPress$Sets", name := "tells", desc := "(LMatrixPress$Stream;I)V" } : Jvm.MethodName) prog_9_method_5_code (3 : Nat) (Option.none : Option Jvm.ClassFile.FieldType)) ∈ lw_all := lw_g (lw_at lw_m5 14 rfl) rfl
theorem q1082 : (Jvm.Cond.methodLink "MatrixPress$Sets" (39 : Nat) ({ cls := "MatrixPress$Stream", name := "tell", desc := "(I)V" } : Jvm.MethodName)) ∈ lw_all := lw_g (lw_at lw_m5 15 rfl) rfl
theorem q1083 : (Jvm.Cond.classLink "MatrixPress$Sets" (30 : Nat) "MatrixPress$NoStream") ∈ lw_all := lw_g (lw_at lw_m5 16 rfl) rfl
theorem q1084 : (Jvm.Cond.methodLink "MatrixPress$Sets" (32 : Nat) ({ cls := "MatrixPress$NoStream", name := "<init>", desc := "()V" } : Jvm.MethodName)) ∈ lw_all := lw_g (lw_at lw_m5 17 rfl) rfl
theorem q1085 : (Jvm.Cond.methodLink "MatrixPress$Sets" (35 : Nat) ({ cls := "MatrixPress$Sets", name := "shifted", desc := "(II)I" } : Jvm.MethodName)) ∈ lw_all := lw_g (lw_at lw_m5 18 rfl) rfl
theorem q1086 : (Jvm.Cond.privateMethod ({ cls := "MatrixPress$Sets", name := "shifted", desc := "(II)I" } : Jvm.MethodName)) ∈ lw_tbl := lw_at lw_m5 19 rfl
theorem q1087 : (Jvm.Cond.instanceMethod ({ cls := "MatrixPress$Sets", name := "shifted", desc := "(II)I" } : Jvm.MethodName)) ∈ lw_all := lw_g (lw_at lw_m5 20 rfl) rfl
theorem q1088 : (Jvm.Cond.code ({ cls := "MatrixPress$Sets", name := "shifted", desc := "(II)I" } : Jvm.MethodName) prog_9_method_4_code (3 : Nat) (Option.some Jvm.ClassFile.FieldType.int)) ∈ lw_all := lw_g (lw_at lw_m5 21 rfl) rfl
theorem q1096 : (Jvm.Cond.selects "MatrixPress$Sets" ({ cls := "MatrixPress$Threes", name := "end", desc := "()V" } : Jvm.MethodName) ({ cls := "MatrixPress$Sets", name := "end", desc := "()V" } : Jvm.MethodName)) ∈ lw_all := lw_g (lw_at lw_m5 29 rfl) rfl
theorem q1097 : (Jvm.Cond.instanceMethod ({ cls := "MatrixPress$Sets", name := "end", desc := "()V" } : Jvm.MethodName)) ∈ lw_all := lw_g (lw_at lw_m5 30 rfl) rfl
theorem q1098 : (Jvm.Cond.code ({ cls := "MatrixPress$Sets", name := "end", desc := "()V" } : Jvm.MethodName) prog_9_method_6_code (1 : Nat) (Option.none : Option Jvm.ClassFile.FieldType)) ∈ lw_all := lw_g (lw_at lw_m5 31 rfl) rfl
theorem q1736 : (Jvm.Cond.selects "MatrixPress$Sets" ({ cls := "MatrixPress$Threes", name := "add", desc := "(I)V" } : Jvm.MethodName) ({ cls := "MatrixPress$Threes", name := "add", desc := "(I)V" } : Jvm.MethodName)) ∈ lw_all := lw_g (lw_at lw_m7 189 rfl) rfl
theorem q1742 : (Jvm.Cond.castable "MatrixPress$Sets" "MatrixPress$Encodation") ∈ lw_tbl := lw_at lw_m7 195 rfl
theorem q1750 : (Jvm.Cond.castable "MatrixPress$Sets" "java/lang/Object") ∈ lw_tbl := lw_at lw_m7 203 rfl
theorem in_X8 : ∀ w ∈ wsX80, w ∈ lw_all := lw_in wsX80 [363, 365, 367, 355, 357, 359, 361] (by decide +kernel) (by decide +kernel)
/-! MatrixPress$X12 -/
set_option maxRecDepth 100000
def RX9 : String := "MatrixPress$X12"
def TX9 : u_T := fun k => match k with
  | 0 => ("MatrixPress$Threes", "value", "[I", true)
  | 1 => ("MatrixPress$Threes", "many", "I", false)
  | 2 => ("MatrixPress$Encodation", "latch", "I", true)
  | _ => ("MatrixPress$X12", "run", "[I", true)
def tyX9 : Nat → FieldType := fun k => match k with
  | 0 => .array .int
  | 1 => .int
  | 2 => .int
  | _ => .array .int
abbrev wsX90 : List Cond := u_ws RX9 TX9 4
theorem nmX9 : ∀ a, a < 4 → ∀ b, b < 4 → a ≠ b → (TX9 a).2.1 ≠ (TX9 b).2.1 := by decide +kernel
theorem tyX9_ok : ∀ k, k < 4 → parseFieldDescriptor (TX9 k).2.2.1 = some (tyX9 k) := by decide +kernel
abbrev cX9_init : ByteArray := prog_14_method_1_code
def yX9_init : MethodName := ⟨RX9, "<init>", "()V"⟩
def dkwX9_init_0 : List UInt8 := [42, 17, 0, 238, 183, 0, 3, 42, 17, 12, 129, 188, 10, 181, 0, 9, 177]
abbrev dktX9_init_0 : List UInt8 := dkwX9_init_0 ++ []
theorem dksX9_init_0 : cX9_init.data.toList.drop 0 = dktX9_init_0 := by decide +kernel
theorem dX9_init_0 : decode cX9_init 0 = .ok (.aload_n 0, 1) := dk_42 (dk_at dksX9_init_0 0 rfl rfl)
theorem dX9_init_1 : decode cX9_init 1 = .ok (.sipush 238, 3) := dk_17 0 238 (dk_at dksX9_init_0 1 rfl rfl)
theorem dX9_init_4 : decode cX9_init 4 = .ok (.invokespecial 3, 3) := dk_183 0 3 (dk_at dksX9_init_0 4 rfl rfl)
theorem dX9_init_7 : decode cX9_init 7 = .ok (.aload_n 0, 1) := dk_42 (dk_at dksX9_init_0 7 rfl rfl)
theorem dX9_init_8 : decode cX9_init 8 = .ok (.sipush 3201, 3) := dk_17 12 129 (dk_at dksX9_init_0 8 rfl rfl)
theorem dX9_init_11 : decode cX9_init 11 = .ok (.newarray .int, 2) := dk_188_10 (dk_at dksX9_init_0 11 rfl rfl)
theorem dX9_init_13 : decode cX9_init 13 = .ok (.putfield 9, 3) := dk_181 0 9 (dk_at dksX9_init_0 13 rfl rfl)
theorem dX9_init_16 : decode cX9_init 16 = .ok (.return_, 1) := dk_177 (dk_at dksX9_init_0 16 rfl rfl)
abbrev cX9_prepare : ByteArray := prog_14_method_7_code
def yX9_prepare : MethodName := ⟨RX9, "prepare", "([BI)V"⟩
def dkwX9_prepare_2 : List UInt8 := [79, 132, 3, 255, 167, 255, 216, 177]
abbrev dktX9_prepare_2 : List UInt8 := dkwX9_prepare_2 ++ []
def dkwX9_prepare_1 : List UInt8 := [17, 0, 255, 126, 184, 0, 20, 156, 0, 7, 3, 167, 0, 13, 42, 180, 0, 9, 29, 4, 96, 46, 4, 96]
abbrev dktX9_prepare_1 : List UInt8 := dkwX9_prepare_1 ++ dktX9_prepare_2
def dkwX9_prepare_0 : List UInt8 := [42, 180, 0, 9, 28, 3, 79, 28, 4, 100, 62, 29, 155, 0, 42, 42, 180, 0, 9, 29, 43, 29, 51]
abbrev dktX9_prepare_0 : List UInt8 := dkwX9_prepare_0 ++ dktX9_prepare_1
theorem dksX9_prepare_0 : cX9_prepare.data.toList.drop 0 = dktX9_prepare_0 := by decide +kernel
theorem dksX9_prepare_1 : cX9_prepare.data.toList.drop 23 = dktX9_prepare_1 := dk_seg dksX9_prepare_0 23 rfl rfl
theorem dksX9_prepare_2 : cX9_prepare.data.toList.drop 47 = dktX9_prepare_2 := dk_seg dksX9_prepare_1 24 rfl rfl
theorem dX9_prepare_0 : decode cX9_prepare 0 = .ok (.aload_n 0, 1) := dk_42 (dk_at dksX9_prepare_0 0 rfl rfl)
theorem dX9_prepare_1 : decode cX9_prepare 1 = .ok (.getfield 9, 3) := dk_180 0 9 (dk_at dksX9_prepare_0 1 rfl rfl)
theorem dX9_prepare_4 : decode cX9_prepare 4 = .ok (.iload_n 2, 1) := dk_28 (dk_at dksX9_prepare_0 4 rfl rfl)
theorem dX9_prepare_5 : decode cX9_prepare 5 = .ok (.iconst 0, 1) := dk_3 (dk_at dksX9_prepare_0 5 rfl rfl)
theorem dX9_prepare_6 : decode cX9_prepare 6 = .ok (.iastore, 1) := dk_79 (dk_at dksX9_prepare_0 6 rfl rfl)
theorem dX9_prepare_7 : decode cX9_prepare 7 = .ok (.iload_n 2, 1) := dk_28 (dk_at dksX9_prepare_0 7 rfl rfl)
theorem dX9_prepare_8 : decode cX9_prepare 8 = .ok (.iconst 1, 1) := dk_4 (dk_at dksX9_prepare_0 8 rfl rfl)
theorem dX9_prepare_9 : decode cX9_prepare 9 = .ok (.isub, 1) := dk_100 (dk_at dksX9_prepare_0 9 rfl rfl)
theorem dX9_prepare_10 : decode cX9_prepare 10 = .ok (.istore_n 3, 1) := dk_62 (dk_at dksX9_prepare_0 10 rfl rfl)
theorem dX9_prepare_11 : decode cX9_prepare 11 = .ok (.iload_n 3, 1) := dk_29 (dk_at dksX9_prepare_0 11 rfl rfl)
theorem dX9_prepare_12 : decode cX9_prepare 12 = .ok (.ifCond .lt 42, 3) := dk_155 0 42 (dk_at dksX9_prepare_0 12 rfl rfl)
theorem dX9_prepare_15 : decode cX9_prepare 15 = .ok (.aload_n 0, 1) := dk_42 (dk_at dksX9_prepare_0 15 rfl rfl)
theorem dX9_prepare_16 : decode cX9_prepare 16 = .ok (.getfield 9, 3) := dk_180 0 9 (dk_at dksX9_prepare_0 16 rfl rfl)
theorem dX9_prepare_19 : decode cX9_prepare 19 = .ok (.iload_n 3, 1) := dk_29 (dk_at dksX9_prepare_0 19 rfl rfl)
theorem dX9_prepare_20 : decode cX9_prepare 20 = .ok (.aload_n 1, 1) := dk_43 (dk_at dksX9_prepare_0 20 rfl rfl)
theorem dX9_prepare_21 : decode cX9_prepare 21 = .ok (.iload_n 3, 1) := dk_29 (dk_at dksX9_prepare_0 21 rfl rfl)
theorem dX9_prepare_22 : decode cX9_prepare 22 = .ok (.baload, 1) := dk_51 (dk_at dksX9_prepare_0 22 rfl rfl)
theorem dX9_prepare_23 : decode cX9_prepare 23 = .ok (.sipush 255, 3) := dk_17 0 255 (dk_at dksX9_prepare_1 0 rfl rfl)
theorem dX9_prepare_26 : decode cX9_prepare 26 = .ok (.iand, 1) := dk_126 (dk_at dksX9_prepare_1 3 rfl rfl)
theorem dX9_prepare_27 : decode cX9_prepare 27 = .ok (.invokestatic 20, 3) := dk_184 0 20 (dk_at dksX9_prepare_1 4 rfl rfl)
theorem dX9_prepare_30 : decode cX9_prepare 30 = .ok (.ifCond .ge 7, 3) := dk_156 0 7 (dk_at dksX9_prepare_1 7 rfl rfl)
theorem dX9_prepare_33 : decode cX9_prepare 33 = .ok (.iconst 0, 1) := dk_3 (dk_at dksX9_prepare_1 10 rfl rfl)
theorem dX9_prepare_34 : decode cX9_prepare 34 = .ok (.goto 13, 3) := dk_167 0 13 (dk_at dksX9_prepare_1 11 rfl rfl)
theorem dX9_prepare_37 : decode cX9_prepare 37 = .ok (.aload_n 0, 1) := dk_42 (dk_at dksX9_prepare_1 14 rfl rfl)
theorem dX9_prepare_38 : decode cX9_prepare 38 = .ok (.getfield 9, 3) := dk_180 0 9 (dk_at dksX9_prepare_1 15 rfl rfl)
theorem dX9_prepare_41 : decode cX9_prepare 41 = .ok (.iload_n 3, 1) := dk_29 (dk_at dksX9_prepare_1 18 rfl rfl)
theorem dX9_prepare_42 : decode cX9_prepare 42 = .ok (.iconst 1, 1) := dk_4 (dk_at dksX9_prepare_1 19 rfl rfl)
theorem dX9_prepare_43 : decode cX9_prepare 43 = .ok (.iadd, 1) := dk_96 (dk_at dksX9_prepare_1 20 rfl rfl)
theorem dX9_prepare_44 : decode cX9_prepare 44 = .ok (.iaload, 1) := dk_46 (dk_at dksX9_prepare_1 21 rfl rfl)
theorem dX9_prepare_45 : decode cX9_prepare 45 = .ok (.iconst 1, 1) := dk_4 (dk_at dksX9_prepare_1 22 rfl rfl)
theorem dX9_prepare_46 : decode cX9_prepare 46 = .ok (.iadd, 1) := dk_96 (dk_at dksX9_prepare_1 23 rfl rfl)
theorem dX9_prepare_47 : decode cX9_prepare 47 = .ok (.iastore, 1) := dk_79 (dk_at dksX9_prepare_2 0 rfl rfl)
theorem dX9_prepare_48 : decode cX9_prepare 48 = .ok (.iinc 3 (-1), 3) := dk_132 3 255 (dk_at dksX9_prepare_2 1 rfl rfl)
theorem dX9_prepare_51 : decode cX9_prepare 51 = .ok (.goto (-40), 3) := dk_167 255 216 (dk_at dksX9_prepare_2 4 rfl rfl)
theorem dX9_prepare_54 : decode cX9_prepare 54 = .ok (.return_, 1) := dk_177 (dk_at dksX9_prepare_2 7 rfl rfl)
abbrev cX9_valueOf : ByteArray := prog_14_method_5_code
def yX9_valueOf : MethodName := ⟨RX9, "valueOf", "(I)I"⟩
def dkwX9_valueOf_3 : List UInt8 := [26, 16, 51, 100, 167, 0, 4, 2, 172]
abbrev dktX9_valueOf_3 : List UInt8 := dkwX9_valueOf_3 ++ []
def dkwX9_valueOf_2 : List UInt8 := [16, 57, 163, 0, 10, 26, 16, 44, 100, 167, 0, 23, 26, 16, 65, 161, 0, 16, 26, 16, 90, 163, 0, 10]
abbrev dktX9_valueOf_2 : List UInt8 := dkwX9_valueOf_2 ++ dktX9_valueOf_3
def dkwX9_valueOf_1 : List UInt8 := [160, 0, 7, 5, 167, 0, 52, 26, 16, 32, 160, 0, 7, 6, 167, 0, 42, 26, 16, 48, 161, 0, 16, 26]
abbrev dktX9_valueOf_1 : List UInt8 := dkwX9_valueOf_1 ++ dktX9_valueOf_2
def dkwX9_valueOf_0 : List UInt8 := [26, 16, 13, 160, 0, 7, 3, 167, 0, 72, 26, 16, 42, 160, 0, 7, 4, 167, 0, 62, 26, 16, 62]
abbrev dktX9_valueOf_0 : List UInt8 := dkwX9_valueOf_0 ++ dktX9_valueOf_1
theorem dksX9_valueOf_0 : cX9_valueOf.data.toList.drop 0 = dktX9_valueOf_0 := by decide +kernel
theorem dksX9_valueOf_1 : cX9_valueOf.data.toList.drop 23 = dktX9_valueOf_1 := dk_seg dksX9_valueOf_0 23 rfl rfl
theorem dksX9_valueOf_2 : cX9_valueOf.data.toList.drop 47 = dktX9_valueOf_2 := dk_seg dksX9_valueOf_1 24 rfl rfl
theorem dksX9_valueOf_3 : cX9_valueOf.data.toList.drop 71 = dktX9_valueOf_3 := dk_seg dksX9_valueOf_2 24 rfl rfl
theorem dX9_valueOf_0 : decode cX9_valueOf 0 = .ok (.iload_n 0, 1) := dk_26 (dk_at dksX9_valueOf_0 0 rfl rfl)
theorem dX9_valueOf_1 : decode cX9_valueOf 1 = .ok (.bipush 13, 2) := dk_16 13 (dk_at dksX9_valueOf_0 1 rfl rfl)
theorem dX9_valueOf_3 : decode cX9_valueOf 3 = .ok (.if_icmp .ne 7, 3) := dk_160 0 7 (dk_at dksX9_valueOf_0 3 rfl rfl)
theorem dX9_valueOf_6 : decode cX9_valueOf 6 = .ok (.iconst 0, 1) := dk_3 (dk_at dksX9_valueOf_0 6 rfl rfl)
theorem dX9_valueOf_7 : decode cX9_valueOf 7 = .ok (.goto 72, 3) := dk_167 0 72 (dk_at dksX9_valueOf_0 7 rfl rfl)
theorem dX9_valueOf_10 : decode cX9_valueOf 10 = .ok (.iload_n 0, 1) := dk_26 (dk_at dksX9_valueOf_0 10 rfl rfl)
theorem dX9_valueOf_11 : decode cX9_valueOf 11 = .ok (.bipush 42, 2) := dk_16 42 (dk_at dksX9_valueOf_0 11 rfl rfl)
theorem dX9_valueOf_13 : decode cX9_valueOf 13 = .ok (.if_icmp .ne 7, 3) := dk_160 0 7 (dk_at dksX9_valueOf_0 13 rfl rfl)
theorem dX9_valueOf_16 : decode cX9_valueOf 16 = .ok (.iconst 1, 1) := dk_4 (dk_at dksX9_valueOf_0 16 rfl rfl)
theorem dX9_valueOf_17 : decode cX9_valueOf 17 = .ok (.goto 62, 3) := dk_167 0 62 (dk_at dksX9_valueOf_0 17 rfl rfl)
theorem dX9_valueOf_20 : decode cX9_valueOf 20 = .ok (.iload_n 0, 1) := dk_26 (dk_at dksX9_valueOf_0 20 rfl rfl)
theorem dX9_valueOf_21 : decode cX9_valueOf 21 = .ok (.bipush 62, 2) := dk_16 62 (dk_at dksX9_valueOf_0 21 rfl rfl)
theorem dX9_valueOf_23 : decode cX9_valueOf 23 = .ok (.if_icmp .ne 7, 3) := dk_160 0 7 (dk_at dksX9_valueOf_1 0 rfl rfl)
theorem dX9_valueOf_26 : decode cX9_valueOf 26 = .ok (.iconst 2, 1) := dk_5 (dk_at dksX9_valueOf_1 3 rfl rfl)
theorem dX9_valueOf_27 : decode cX9_valueOf 27 = .ok (.goto 52, 3) := dk_167 0 52 (dk_at dksX9_valueOf_1 4 rfl rfl)
theorem dX9_valueOf_30 : decode cX9_valueOf 30 = .ok (.iload_n 0, 1) := dk_26 (dk_at dksX9_valueOf_1 7 rfl rfl)
theorem dX9_valueOf_31 : decode cX9_valueOf 31 = .ok (.bipush 32, 2) := dk_16 32 (dk_at dksX9_valueOf_1 8 rfl rfl)
theorem dX9_valueOf_33 : decode cX9_valueOf 33 = .ok (.if_icmp .ne 7, 3) := dk_160 0 7 (dk_at dksX9_valueOf_1 10 rfl rfl)
theorem dX9_valueOf_36 : decode cX9_valueOf 36 = .ok (.iconst 3, 1) := dk_6 (dk_at dksX9_valueOf_1 13 rfl rfl)
theorem dX9_valueOf_37 : decode cX9_valueOf 37 = .ok (.goto 42, 3) := dk_167 0 42 (dk_at dksX9_valueOf_1 14 rfl rfl)
theorem dX9_valueOf_40 : decode cX9_valueOf 40 = .ok (.iload_n 0, 1) := dk_26 (dk_at dksX9_valueOf_1 17 rfl rfl)
theorem dX9_valueOf_41 : decode cX9_valueOf 41 = .ok (.bipush 48, 2) := dk_16 48 (dk_at dksX9_valueOf_1 18 rfl rfl)
theorem dX9_valueOf_43 : decode cX9_valueOf 43 = .ok (.if_icmp .lt 16, 3) := dk_161 0 16 (dk_at dksX9_valueOf_1 20 rfl rfl)
theorem dX9_valueOf_46 : decode cX9_valueOf 46 = .ok (.iload_n 0, 1) := dk_26 (dk_at dksX9_valueOf_1 23 rfl rfl)
theorem dX9_valueOf_47 : decode cX9_valueOf 47 = .ok (.bipush 57, 2) := dk_16 57 (dk_at dksX9_valueOf_2 0 rfl rfl)
theorem dX9_valueOf_49 : decode cX9_valueOf 49 = .ok (.if_icmp .gt 10, 3) := dk_163 0 10 (dk_at dksX9_valueOf_2 2 rfl rfl)
theorem dX9_valueOf_52 : decode cX9_valueOf 52 = .ok (.iload_n 0, 1) := dk_26 (dk_at dksX9_valueOf_2 5 rfl rfl)
theorem dX9_valueOf_53 : decode cX9_valueOf 53 = .ok (.bipush 44, 2) := dk_16 44 (dk_at dksX9_valueOf_2 6 rfl rfl)
theorem dX9_valueOf_55 : decode cX9_valueOf 55 = .ok (.isub, 1) := dk_100 (dk_at dksX9_valueOf_2 8 rfl rfl)
theorem dX9_valueOf_56 : decode cX9_valueOf 56 = .ok (.goto 23, 3) := dk_167 0 23 (dk_at dksX9_valueOf_2 9 rfl rfl)
theorem dX9_valueOf_59 : decode cX9_valueOf 59 = .ok (.iload_n 0, 1) := dk_26 (dk_at dksX9_valueOf_2 12 rfl rfl)
theorem dX9_valueOf_60 : decode cX9_valueOf 60 = .ok (.bipush 65, 2) := dk_16 65 (dk_at dksX9_valueOf_2 13 rfl rfl)
theorem dX9_valueOf_62 : decode cX9_valueOf 62 = .ok (.if_icmp .lt 16, 3) := dk_161 0 16 (dk_at dksX9_valueOf_2 15 rfl rfl)
theorem dX9_valueOf_65 : decode cX9_valueOf 65 = .ok (.iload_n 0, 1) := dk_26 (dk_at dksX9_valueOf_2 18 rfl rfl)
theorem dX9_valueOf_66 : decode cX9_valueOf 66 = .ok (.bipush 90, 2) := dk_16 90 (dk_at dksX9_valueOf_2 19 rfl rfl)
theorem dX9_valueOf_68 : decode cX9_valueOf 68 = .ok (.if_icmp .gt 10, 3) := dk_163 0 10 (dk_at dksX9_valueOf_2 21 rfl rfl)
theorem dX9_valueOf_71 : decode cX9_valueOf 71 = .ok (.iload_n 0, 1) := dk_26 (dk_at dksX9_valueOf_3 0 rfl rfl)
theorem dX9_valueOf_72 : decode cX9_valueOf 72 = .ok (.bipush 51, 2) := dk_16 51 (dk_at dksX9_valueOf_3 1 rfl rfl)
theorem dX9_valueOf_74 : decode cX9_valueOf 74 = .ok (.isub, 1) := dk_100 (dk_at dksX9_valueOf_3 3 rfl rfl)
theorem dX9_valueOf_75 : decode cX9_valueOf 75 = .ok (.goto 4, 3) := dk_167 0 4 (dk_at dksX9_valueOf_3 4 rfl rfl)
theorem dX9_valueOf_78 : decode cX9_valueOf 78 = .ok (.iconst (-1), 1) := dk_2 (dk_at dksX9_valueOf_3 7 rfl rfl)
theorem dX9_valueOf_79 : decode cX9_valueOf 79 = .ok (.ireturn, 1) := dk_172 (dk_at dksX9_valueOf_3 8 rfl rfl)
abbrev cX9_closed : ByteArray := prog_14_method_9_code
def yX9_closed : MethodName := ⟨RX9, "closed", "(II)I"⟩
def dkwX9_closed_0 : List UInt8 := [42, 27, 28, 182, 0, 28, 4, 96, 172]
abbrev dktX9_closed_0 : List UInt8 := dkwX9_closed_0 ++ []
theorem dksX9_closed_0 : cX9_closed.data.toList.drop 0 = dktX9_closed_0 := by decide +kernel
theorem dX9_closed_0 : decode cX9_closed 0 = .ok (.aload_n 0, 1) := dk_42 (dk_at dksX9_closed_0 0 rfl rfl)
theorem dX9_closed_1 : decode cX9_closed 1 = .ok (.iload_n 1, 1) := dk_27 (dk_at dksX9_closed_0 1 rfl rfl)
theorem dX9_closed_2 : decode cX9_closed 2 = .ok (.iload_n 2, 1) := dk_28 (dk_at dksX9_closed_0 2 rfl rfl)
theorem dX9_closed_3 : decode cX9_closed 3 = .ok (.invokevirtual 28, 3) := dk_182 0 28 (dk_at dksX9_closed_0 3 rfl rfl)
theorem dX9_closed_6 : decode cX9_closed 6 = .ok (.iconst 1, 1) := dk_4 (dk_at dksX9_closed_0 6 rfl rfl)
theorem dX9_closed_7 : decode cX9_closed 7 = .ok (.iadd, 1) := dk_96 (dk_at dksX9_closed_0 7 rfl rfl)
theorem dX9_closed_8 : decode cX9_closed 8 = .ok (.ireturn, 1) := dk_172 (dk_at dksX9_closed_0 8 rfl rfl)
abbrev cX9_open : ByteArray := prog_14_method_8_code
def yX9_open : MethodName := ⟨RX9, "open", "(II)I"⟩
def dkwX9_open_1 : List UInt8 := [167, 0, 5, 18, 27, 172]
abbrev dktX9_open_1 : List UInt8 := dkwX9_open_1 ++ []
def dkwX9_open_0 : List UInt8 := [28, 6, 112, 154, 0, 23, 28, 42, 180, 0, 9, 27, 46, 163, 0, 13, 4, 28, 6, 108, 5, 104, 96]
abbrev dktX9_open_0 : List UInt8 := dkwX9_open_0 ++ dktX9_open_1
theorem dksX9_open_0 : cX9_open.data.toList.drop 0 = dktX9_open_0 := by decide +kernel
theorem dksX9_open_1 : cX9_open.data.toList.drop 23 = dktX9_open_1 := dk_seg dksX9_open_0 23 rfl rfl
theorem dX9_open_0 : decode cX9_open 0 = .ok (.iload_n 2, 1) := dk_28 (dk_at dksX9_open_0 0 rfl rfl)
theorem dX9_open_1 : decode cX9_open 1 = .ok (.iconst 3, 1) := dk_6 (dk_at dksX9_open_0 1 rfl rfl)
theorem dX9_open_2 : decode cX9_open 2 = .ok (.irem, 1) := dk_112 (dk_at dksX9_open_0 2 rfl rfl)
theorem dX9_open_3 : decode cX9_open 3 = .ok (.ifCond .ne 23, 3) := dk_154 0 23 (dk_at dksX9_open_0 3 rfl rfl)
theorem dX9_open_6 : decode cX9_open 6 = .ok (.iload_n 2, 1) := dk_28 (dk_at dksX9_open_0 6 rfl rfl)
theorem dX9_open_7 : decode cX9_open 7 = .ok (.aload_n 0, 1) := dk_42 (dk_at dksX9_open_0 7 rfl rfl)
theorem dX9_open_8 : decode cX9_open 8 = .ok (.getfield 9, 3) := dk_180 0 9 (dk_at dksX9_open_0 8 rfl rfl)
theorem dX9_open_11 : decode cX9_open 11 = .ok (.iload_n 1, 1) := dk_27 (dk_at dksX9_open_0 11 rfl rfl)
theorem dX9_open_12 : decode cX9_open 12 = .ok (.iaload, 1) := dk_46 (dk_at dksX9_open_0 12 rfl rfl)
theorem dX9_open_13 : decode cX9_open 13 = .ok (.if_icmp .gt 13, 3) := dk_163 0 13 (dk_at dksX9_open_0 13 rfl rfl)
theorem dX9_open_16 : decode cX9_open 16 = .ok (.iconst 1, 1) := dk_4 (dk_at dksX9_open_0 16 rfl rfl)
theorem dX9_open_17 : decode cX9_open 17 = .ok (.iload_n 2, 1) := dk_28 (dk_at dksX9_open_0 17 rfl rfl)
theorem dX9_open_18 : decode cX9_open 18 = .ok (.iconst 3, 1) := dk_6 (dk_at dksX9_open_0 18 rfl rfl)
theorem dX9_open_19 : decode cX9_open 19 = .ok (.idiv, 1) := dk_108 (dk_at dksX9_open_0 19 rfl rfl)
theorem dX9_open_20 : decode cX9_open 20 = .ok (.iconst 2, 1) := dk_5 (dk_at dksX9_open_0 20 rfl rfl)
theorem dX9_open_21 : decode cX9_open 21 = .ok (.imul, 1) := dk_104 (dk_at dksX9_open_0 21 rfl rfl)
theorem dX9_open_22 : decode cX9_open 22 = .ok (.iadd, 1) := dk_96 (dk_at dksX9_open_0 22 rfl rfl)
theorem dX9_open_23 : decode cX9_open 23 = .ok (.goto 5, 3) := dk_167 0 5 (dk_at dksX9_open_1 0 rfl rfl)
theorem dX9_open_26 : decode cX9_open 26 = .ok (.ldc 27, 2) := dk_18 27 (dk_at dksX9_open_1 3 rfl rfl)
theorem dX9_open_28 : decode cX9_open 28 = .ok (.ireturn, 1) := dk_172 (dk_at dksX9_open_1 5 rfl rfl)
abbrev cX9_values : ByteArray := prog_14_method_6_code
def yX9_values : MethodName := ⟨RX9, "values", "(I)V"⟩
def dkwX9_values_0 : List UInt8 := [42, 27, 184, 0, 20, 182, 0, 24, 177]
abbrev dktX9_values_0 : List UInt8 := dkwX9_values_0 ++ []
theorem dksX9_values_0 : cX9_values.data.toList.drop 0 = dktX9_values_0 := by decide +kernel
theorem dX9_values_0 : decode cX9_values 0 = .ok (.aload_n 0, 1) := dk_42 (dk_at dksX9_values_0 0 rfl rfl)
theorem dX9_values_1 : decode cX9_values 1 = .ok (.iload_n 1, 1) := dk_27 (dk_at dksX9_values_0 1 rfl rfl)
theorem dX9_values_2 : decode cX9_values 2 = .ok (.invokestatic 20, 3) := dk_184 0 20 (dk_at dksX9_values_0 2 rfl rfl)
theorem dX9_values_5 : decode cX9_values 5 = .ok (.invokevirtual 24, 3) := dk_182 0 24 (dk_at dksX9_values_0 5 rfl rfl)
theorem dX9_values_8 : decode cX9_values 8 = .ok (.return_, 1) := dk_177 (dk_at dksX9_values_0 8 rfl rfl)
abbrev cX9_begin : ByteArray := prog_14_method_2_code
def yX9_begin : MethodName := ⟨RX9, "begin", "()V"⟩
theorem dX9_begin_0 : decode cX9_begin 0 = .ok (.return_, 1) := by decide +kernel
abbrev cX9_take : ByteArray := prog_14_method_4_code
def yX9_take : MethodName := ⟨RX9, "take", "(LMatrixPress$Stream;IZ)V"⟩
def dkwX9_take_2 : List UInt8 := [28, 16, 44, 96, 167, 0, 7, 28, 16, 51, 96, 182, 0, 15, 177]
abbrev dktX9_take_2 : List UInt8 := dkwX9_take_2 ++ []
def dkwX9_take_1 : List UInt8 := [160, 0, 8, 16, 62, 167, 0, 30, 28, 6, 160, 0, 8, 16, 32, 167, 0, 20, 28, 16, 14, 162, 0, 10]
abbrev dktX9_take_1 : List UInt8 := dkwX9_take_1 ++ dktX9_take_2
def dkwX9_take_0 : List UInt8 := [43, 28, 154, 0, 8, 16, 13, 167, 0, 50, 28, 4, 160, 0, 8, 16, 42, 167, 0, 40, 28, 5]
abbrev dktX9_take_0 : List UInt8 := dkwX9_take_0 ++ dktX9_take_1
theorem dksX9_take_0 : cX9_take.data.toList.drop 0 = dktX9_take_0 := by decide +kernel
theorem dksX9_take_1 : cX9_take.data.toList.drop 22 = dktX9_take_1 := dk_seg dksX9_take_0 22 rfl rfl
theorem dksX9_take_2 : cX9_take.data.toList.drop 46 = dktX9_take_2 := dk_seg dksX9_take_1 24 rfl rfl
theorem dX9_take_0 : decode cX9_take 0 = .ok (.aload_n 1, 1) := dk_43 (dk_at dksX9_take_0 0 rfl rfl)
theorem dX9_take_1 : decode cX9_take 1 = .ok (.iload_n 2, 1) := dk_28 (dk_at dksX9_take_0 1 rfl rfl)
theorem dX9_take_2 : decode cX9_take 2 = .ok (.ifCond .ne 8, 3) := dk_154 0 8 (dk_at dksX9_take_0 2 rfl rfl)
theorem dX9_take_5 : decode cX9_take 5 = .ok (.bipush 13, 2) := dk_16 13 (dk_at dksX9_take_0 5 rfl rfl)
theorem dX9_take_7 : decode cX9_take 7 = .ok (.goto 50, 3) := dk_167 0 50 (dk_at dksX9_take_0 7 rfl rfl)
theorem dX9_take_10 : decode cX9_take 10 = .ok (.iload_n 2, 1) := dk_28 (dk_at dksX9_take_0 10 rfl rfl)
theorem dX9_take_11 : decode cX9_take 11 = .ok (.iconst 1, 1) := dk_4 (dk_at dksX9_take_0 11 rfl rfl)
theorem dX9_take_12 : decode cX9_take 12 = .ok (.if_icmp .ne 8, 3) := dk_160 0 8 (dk_at dksX9_take_0 12 rfl rfl)
theorem dX9_take_15 : decode cX9_take 15 = .ok (.bipush 42, 2) := dk_16 42 (dk_at dksX9_take_0 15 rfl rfl)
theorem dX9_take_17 : decode cX9_take 17 = .ok (.goto 40, 3) := dk_167 0 40 (dk_at dksX9_take_0 17 rfl rfl)
theorem dX9_take_20 : decode cX9_take 20 = .ok (.iload_n 2, 1) := dk_28 (dk_at dksX9_take_0 20 rfl rfl)
theorem dX9_take_21 : decode cX9_take 21 = .ok (.iconst 2, 1) := dk_5 (dk_at dksX9_take_0 21 rfl rfl)
theorem dX9_take_22 : decode cX9_take 22 = .ok (.if_icmp .ne 8, 3) := dk_160 0 8 (dk_at dksX9_take_1 0 rfl rfl)
theorem dX9_take_25 : decode cX9_take 25 = .ok (.bipush 62, 2) := dk_16 62 (dk_at dksX9_take_1 3 rfl rfl)
theorem dX9_take_27 : decode cX9_take 27 = .ok (.goto 30, 3) := dk_167 0 30 (dk_at dksX9_take_1 5 rfl rfl)
theorem dX9_take_30 : decode cX9_take 30 = .ok (.iload_n 2, 1) := dk_28 (dk_at dksX9_take_1 8 rfl rfl)
theorem dX9_take_31 : decode cX9_take 31 = .ok (.iconst 3, 1) := dk_6 (dk_at dksX9_take_1 9 rfl rfl)
theorem dX9_take_32 : decode cX9_take 32 = .ok (.if_icmp .ne 8, 3) := dk_160 0 8 (dk_at dksX9_take_1 10 rfl rfl)
theorem dX9_take_35 : decode cX9_take 35 = .ok (.bipush 32, 2) := dk_16 32 (dk_at dksX9_take_1 13 rfl rfl)
theorem dX9_take_37 : decode cX9_take 37 = .ok (.goto 20, 3) := dk_167 0 20 (dk_at dksX9_take_1 15 rfl rfl)
theorem dX9_take_40 : decode cX9_take 40 = .ok (.iload_n 2, 1) := dk_28 (dk_at dksX9_take_1 18 rfl rfl)
theorem dX9_take_41 : decode cX9_take 41 = .ok (.bipush 14, 2) := dk_16 14 (dk_at dksX9_take_1 19 rfl rfl)
theorem dX9_take_43 : decode cX9_take 43 = .ok (.if_icmp .ge 10, 3) := dk_162 0 10 (dk_at dksX9_take_1 21 rfl rfl)
theorem dX9_take_46 : decode cX9_take 46 = .ok (.iload_n 2, 1) := dk_28 (dk_at dksX9_take_2 0 rfl rfl)
theorem dX9_take_47 : decode cX9_take 47 = .ok (.bipush 44, 2) := dk_16 44 (dk_at dksX9_take_2 1 rfl rfl)
theorem dX9_take_49 : decode cX9_take 49 = .ok (.iadd, 1) := dk_96 (dk_at dksX9_take_2 3 rfl rfl)
theorem dX9_take_50 : decode cX9_take 50 = .ok (.goto 7, 3) := dk_167 0 7 (dk_at dksX9_take_2 4 rfl rfl)
theorem dX9_take_53 : decode cX9_take 53 = .ok (.iload_n 2, 1) := dk_28 (dk_at dksX9_take_2 7 rfl rfl)
theorem dX9_take_54 : decode cX9_take 54 = .ok (.bipush 51, 2) := dk_16 51 (dk_at dksX9_take_2 8 rfl rfl)
theorem dX9_take_56 : decode cX9_take 56 = .ok (.iadd, 1) := dk_96 (dk_at dksX9_take_2 10 rfl rfl)
theorem dX9_take_57 : decode cX9_take 57 = .ok (.invokevirtual 15, 3) := dk_182 0 15 (dk_at dksX9_take_2 11 rfl rfl)
theorem dX9_take_60 : decode cX9_take 60 = .ok (.return_, 1) := dk_177 (dk_at dksX9_take_2 14 rfl rfl)
abbrev cX9_end : ByteArray := prog_14_method_3_code
def yX9_end : MethodName := ⟨RX9, "end", "()V"⟩
theorem dX9_end_0 : decode cX9_end 0 = .ok (.return_, 1) := by decide +kernel
theorem q123 : (Jvm.Cond.initialized "MatrixPress$X12") ∈ lw_all := lw_g (lw_at lw_m1 16 rfl) rfl
theorem q413 : (Jvm.Cond.selects "MatrixPress$X12" ({ cls := "java/lang/Object", name := "getClass", desc := "()Ljava/lang/Class;" } : Jvm.MethodName) ({ cls := "java/lang/Object", name := "getClass", desc := "()Ljava/lang/Class;" } : Jvm.MethodName)) ∈ lw_all := lw_g (lw_at lw_m2 66 rfl) rfl
theorem q432 : (Jvm.Cond.instantiable "MatrixPress$X12" (4 : Nat)) ∈ lw_all := lw_g (lw_at lw_m2 85 rfl) rfl
theorem q434 : (Jvm.Cond.instanceMethod ({ cls := "MatrixPress$X12", name := "<init>", desc := "()V" } : Jvm.MethodName)) ∈ lw_all := lw_g (lw_at lw_m2 87 rfl) rfl
theorem q435 : (Jvm.Cond.code ({ cls := "MatrixPress$X12", name := "<init>", desc := "()V" } : Jvm.MethodName) prog_14_method_1_code (1 : Nat) (Option.none : Option Jvm.ClassFile.FieldType)) ∈ lw_all := lw_g (lw_at lw_m2 88 rfl) rfl
theorem q436 : (Jvm.Cond.methodLink "MatrixPress$X12" (3 : Nat) ({ cls := "MatrixPress$Threes", name := "<init>", desc := "(I)V" } : Jvm.MethodName)) ∈ lw_all := lw_g (lw_at lw_m2 89 rfl) rfl
theorem q437 : (Jvm.Cond.fieldLink "MatrixPress$X12" (9 : Nat) "MatrixPress$X12" "run" "[I") ∈ lw_all := lw_g (lw_at lw_m2 90 rfl) rfl
theorem q438 : (Jvm.Cond.laysFinal "MatrixPress$X12" "MatrixPress$X12" "run" "[I") ∈ lw_all := lw_g (lw_at lw_m2 91 rfl) rfl
theorem q439 : (Jvm.Cond.soleField "MatrixPress$X12" "run") ∈ lw_all := lw_g (lw_at lw_m2 92 rfl) rfl
theorem q440 : (Jvm.Cond.laysFinal "MatrixPress$X12" "MatrixPress$Threes" "value" "[I") ∈ lw_all := lw_g (lw_at lw_m2 93 rfl) rfl
theorem q441 : (Jvm.Cond.lays "MatrixPress$X12" "MatrixPress$Threes" "many" "I") ∈ lw_all := lw_g (lw_at lw_m2 94 rfl) rfl
theorem q442 : (Jvm.Cond.laysFinal "MatrixPress$X12" "MatrixPress$Encodation" "latch" "I") ∈ lw_all := lw_g (lw_at lw_m2 95 rfl) rfl
theorem q443 : (Jvm.Cond.superclass "MatrixPress$X12" "MatrixPress$Threes") ∈ lw_all := lw_g (lw_at lw_m2 96 rfl) rfl
theorem q626 : (Jvm.Cond.selects "MatrixPress$X12" ({ cls := "MatrixPress$Encodation", name := "prepare", desc := "([BI)V" } : Jvm.MethodName) ({ cls := "MatrixPress$X12", name := "prepare", desc := "([BI)V" } : Jvm.MethodName)) ∈ lw_all := lw_g (lw_at lw_m3 39 rfl) rfl
theorem q627 : (Jvm.Cond.instanceMethod ({ cls := "MatrixPress$X12", name := "prepare", desc := "([BI)V" } : Jvm.MethodName)) ∈ lw_all := lw_g (lw_at lw_m3 40 rfl) rfl
theorem q628 : (Jvm.Cond.code ({ cls := "MatrixPress$X12", name := "prepare", desc := "([BI)V" } : Jvm.MethodName) prog_14_method_7_code (4 : Nat) (Option.none : Option Jvm.ClassFile.FieldType)) ∈ lw_all := lw_g (lw_at lw_m3 41 rfl) rfl
theorem q629 : (Jvm.Cond.methodLink "MatrixPress$X12" (20 : Nat) ({ cls := "MatrixPress$X12", name := "valueOf", desc := "(I)I" } : Jvm.MethodName)) ∈ lw_all := lw_g (lw_at lw_m3 42 rfl) rfl
theorem q630 : (Jvm.Cond.static ({ cls := "MatrixPress$X12", name := "valueOf", desc := "(I)I" } : Jvm.MethodName)) ∈ lw_all := lw_g (lw_at lw_m3 43 rfl) rfl
theorem q631 : (Jvm.Cond.code ({ cls := "MatrixPress$X12", name := "valueOf", desc := "(I)I" } : Jvm.MethodName) prog_14_method_5_code (1 : Nat) (Option.some Jvm.ClassFile.FieldType.int)) ∈ lw_all := lw_g (lw_at lw_m3 44 rfl) rfl
theorem q662 : (Jvm.Cond.selects "MatrixPress$X12" ({ cls := "MatrixPress$Encodation", name := "closed", desc := "(II)I" } : Jvm.MethodName) ({ cls := "MatrixPress$X12", name := "closed", desc := "(II)I" } : Jvm.MethodName)) ∈ lw_all := lw_g (lw_at lw_m3 75 rfl) rfl
theorem q663 : (Jvm.Cond.instanceMethod ({ cls := "MatrixPress$X12", name := "closed", desc := "(II)I" } : Jvm.MethodName)) ∈ lw_all := lw_g (lw_at lw_m3 76 rfl) rfl
theorem q664 : (Jvm.Cond.code ({ cls := "MatrixPress$X12", name := "closed", desc := "(II)I" } : Jvm.MethodName) prog_14_method_9_code (3 : Nat) (Option.some Jvm.ClassFile.FieldType.int)) ∈ lw_all := lw_g (lw_at lw_m3 77 rfl) rfl
theorem q665 : (Jvm.Cond.methodLink "MatrixPress$X12" (28 : Nat) ({ cls := "MatrixPress$X12", name := "open", desc := "(II)I" } : Jvm.MethodName)) ∈ lw_all := lw_g (lw_at lw_m3 78 rfl) rfl
theorem q666 : (Jvm.Cond.instanceMethod ({ cls := "MatrixPress$X12", name := "open", desc := "(II)I" } : Jvm.MethodName)) ∈ lw_all := lw_g (lw_at lw_m3 79 rfl) rfl
theorem q667 : (Jvm.Cond.selects "MatrixPress$X12" ({ cls := "MatrixPress$X12", name := "open", desc := "(II)I" } : Jvm.MethodName) ({ cls := "MatrixPress$X12", name := "open", desc := "(II)I" } : Jvm.MethodName)) ∈ lw_all := lw_g (lw_at lw_m3 80 rfl) rfl
theorem q668 : (Jvm.Cond.code ({ cls := "MatrixPress$X12", name := "open", desc := "(II)I" } : Jvm.MethodName) prog_14_method_8_code (3 : Nat) (Option.some Jvm.ClassFile.FieldType.int)) ∈ lw_all := lw_g (lw_at lw_m3 81 rfl) rfl
theorem q669 : (Jvm.Cond.constant "MatrixPress$X12" (27 : Nat) (1000000 : Int32)) ∈ lw_all := lw_g (lw_at lw_m3 82 rfl) rfl
theorem q693 : (Jvm.Cond.selects "MatrixPress$X12" ({ cls := "MatrixPress$Encodation", name := "open", desc := "(II)I" } : Jvm.MethodName) ({ cls := "MatrixPress$X12", name := "open", desc := "(II)I" } : Jvm.MethodName)) ∈ lw_all := lw_g (lw_at lw_m3 106 rfl) rfl
theorem q706 : (Jvm.Cond.selects "MatrixPress$X12" ({ cls := "MatrixPress$Encodation", name := "leaves", desc := "()I" } : Jvm.MethodName) ({ cls := "MatrixPress$Threes", name := "leaves", desc := "()I" } : Jvm.MethodName)) ∈ lw_all := lw_g (lw_at lw_m3 119 rfl) rfl
theorem q820 : (Jvm.Cond.selects "MatrixPress$X12" ({ cls := "MatrixPress$Threes", name := "values", desc := "(I)V" } : Jvm.MethodName) ({ cls := "MatrixPress$X12", name := "values", desc := "(I)V" } : Jvm.MethodName)) ∈ lw_all := lw_g (lw_at lw_m3 233 rfl) rfl
theorem q821 : (Jvm.Cond.instanceMethod ({ cls := "MatrixPress$X12", name := "values", desc := "(I)V" } : Jvm.MethodName)) ∈ lw_all := lw_g (lw_at lw_m3 234 rfl) rfl
theorem q822 : (Jvm.Cond.code ({ cls := "MatrixPress$X12", name := "values", desc := "(I)V" } : Jvm.MethodName) prog_14_method_6_code (2 : Nat) (Option.none : Option Jvm.ClassFile.FieldType)) ∈ lw_all := lw_g (lw_at lw_m3 235 rfl) rfl
theorem q823 : (Jvm.Cond.methodLink "MatrixPress$X12" (24 : Nat) ({ cls := "MatrixPress$X12", name := "add", desc := "(I)V" } : Jvm.MethodName)) ∈ lw_all := lw_g (lw_at lw_m3 236 rfl) rfl
theorem q824 : (Jvm.Cond.sameMethod "MatrixPress$X12" "MatrixPress$Threes" "add" "(I)V") ∈ lw_all := lw_g (lw_at lw_m3 237 rfl) rfl
theorem q825 : (Jvm.Cond.selects "MatrixPress$X12" ({ cls := "MatrixPress$X12", name := "add", desc := "(I)V" } : Jvm.MethodName) ({ cls := "MatrixPress$Threes", name := "add", desc := "(I)V" } : Jvm.MethodName)) ∈ lw_all := lw_g (lw_at lw_m3 238 rfl) rfl
theorem q828 : (Jvm.Cond.selects "MatrixPress$X12" ({ cls := "MatrixPress$Encodation", name := "write", desc := "(LMatrixPress$Stream;[BIIZ)V" } : Jvm.MethodName) ({ cls := "MatrixPress$Threes", name := "write", desc := "(LMatrixPress$Stream;[BIIZ)V" } : Jvm.MethodName)) ∈ lw_all := lw_g (lw_at lw_m4 1 rfl) rfl
theorem q1064 : (Jvm.Cond.selects "MatrixPress$X12" ({ cls := "MatrixPress$Threes", name := "begin", desc := "()V" } : Jvm.MethodName) ({ cls := "MatrixPress$X12", name := "begin", desc := "()V" } : Jvm.MethodName)) ∈ lw_all := lw_g (lw_at lw_m4 237 rfl) rfl
theorem q1065 : (Jvm.Cond.instanceMethod ({ cls := "MatrixPress$X12", name := "begin", desc := "()V" } : Jvm.MethodName)) ∈ lw_all := lw_g (lw_at lw_m4 238 rfl) rfl
theorem q1066 : (Jvm.Cond.code ({ cls := "MatrixPress$X12", name := "begin", desc := "()V" } : Jvm.MethodName) prog_14_method_2_code (1 : Nat) (Option.none : Option Jvm.ClassFile.FieldType)) ∈ lw_all := lw_g (lw_at lw_m4 239 rfl) rfl
theorem q1089 : (Jvm.Cond.selects "MatrixPress$X12" ({ cls := "MatrixPress$Threes", name := "take", desc := "(LMatrixPress$Stream;IZ)V" } : Jvm.MethodName) ({ cls := "MatrixPress$X12", name := "take", desc := "(LMatrixPress$Stream;IZ)V" } : Jvm.MethodName)) ∈ lw_all := lw_g (lw_at lw_m5 22 rfl) rfl
theorem q1090 : (Jvm.Cond.instanceMethod ({ cls := "MatrixPress$X12", name := "take", desc := "(LMatrixPress$Stream;IZ)V" } : Jvm.MethodName)) ∈ lw_all := lw_g (lw_at lw_m5 23 rfl) rfl
theorem q1091 : (Jvm.Cond.code ({ cls := "MatrixPress$X12", name := "take", desc := "(LMatrixPress$Stream;IZ)V" } : Jvm.MethodName) prog_14_method_4_code (4 : Nat) (Option.none : Option Jvm.ClassFile.FieldType)) ∈ lw_all := lw_g (lw_at lw_m5 24 rfl) rfl
theorem q1092 : (Jvm.Cond.methodLink "MatrixPress$X12" (15 : Nat) ({ cls := "MatrixPress$Stream", name := "tell", desc := "(I)V" } : Jvm.MethodName)) ∈ lw_all := lw_g (lw_at lw_m5 25 rfl) rfl
theorem q1099 : (Jvm.Cond.selects "MatrixPress$X12" ({ cls := "MatrixPress$Threes", name := "end", desc := "()V" } : Jvm.MethodName) ({ cls := "MatrixPress$X12", name := "end", desc := "()V" } : Jvm.MethodName)) ∈ lw_all := lw_g (lw_at lw_m5 32 rfl) rfl
theorem q1100 : (Jvm.Cond.instanceMethod ({ cls := "MatrixPress$X12", name := "end", desc := "()V" } : Jvm.MethodName)) ∈ lw_all := lw_g (lw_at lw_m5 33 rfl) rfl
theorem q1101 : (Jvm.Cond.code ({ cls := "MatrixPress$X12", name := "end", desc := "()V" } : Jvm.MethodName) prog_14_method_3_code (1 : Nat) (Option.none : Option Jvm.ClassFile.FieldType)) ∈ lw_all := lw_g (lw_at lw_m5 34 rfl) rfl
theorem q1102 : (Jvm.Cond.selects "MatrixPress$X12" ({ cls := "MatrixPress$Encodation", name := "read", desc := "(LMatrixPress$Stream;)V" } : Jvm.MethodName) ({ cls := "MatrixPress$Threes", name := "read", desc := "(LMatrixPress$Stream;)V" } : Jvm.MethodName)) ∈ lw_all := lw_g (lw_at lw_m5 35 rfl) rfl
theorem q1737 : (Jvm.Cond.selects "MatrixPress$X12" ({ cls := "MatrixPress$Threes", name := "add", desc := "(I)V" } : Jvm.MethodName) ({ cls := "MatrixPress$Threes", name := "add", desc := "(I)V" } : Jvm.MethodName)) ∈ lw_all := lw_g (lw_at lw_m7 190 rfl) rfl
theorem q1743 : (Jvm.Cond.castable "MatrixPress$X12" "MatrixPress$Encodation") ∈ lw_tbl := lw_at lw_m7 196 rfl
theorem q1751 : (Jvm.Cond.castable "MatrixPress$X12" "java/lang/Object") ∈ lw_tbl := lw_at lw_m7 204 rfl
theorem in_X9 : ∀ w ∈ wsX90, w ∈ lw_all := lw_in wsX90 [440, 441, 442, 438] (by decide +kernel) (by decide +kernel)
/-! MatrixPress$Edifact -/
set_option maxRecDepth 100000
def RX10 : String := "MatrixPress$Edifact"
def TX10 : u_T := fun k => match k with
  | 0 => ("MatrixPress$Encodation", "latch", "I", true)
  | 1 => ("MatrixPress$Edifact", "run", "[I", true)
  | 2 => ("MatrixPress$Edifact", "bits", "I", false)
  | _ => ("MatrixPress$Edifact", "many", "I", false)
def tyX10 : Nat → FieldType := fun k => match k with
  | 0 => .int
  | 1 => .array .int
  | 2 => .int
  | _ => .int
abbrev wsX100 : List Cond := u_ws RX10 TX10 4
theorem nmX10 : ∀ a, a < 4 → ∀ b, b < 4 → a ≠ b → (TX10 a).2.1 ≠ (TX10 b).2.1 := by decide +kernel
theorem tyX10_ok : ∀ k, k < 4 → parseFieldDescriptor (TX10 k).2.2.1 = some (tyX10 k) := by decide +kernel
abbrev cX10_init : ByteArray := prog_4_method_1_code
def yX10_init : MethodName := ⟨RX10, "<init>", "()V"⟩
def dkwX10_init_0 : List UInt8 := [42, 17, 0, 240, 183, 0, 3, 42, 17, 12, 129, 188, 10, 181, 0, 9, 177]
abbrev dktX10_init_0 : List UInt8 := dkwX10_init_0 ++ []
theorem dksX10_init_0 : cX10_init.data.toList.drop 0 = dktX10_init_0 := by decide +kernel
theorem dX10_init_0 : decode cX10_init 0 = .ok (.aload_n 0, 1) := dk_42 (dk_at dksX10_init_0 0 rfl rfl)
theorem dX10_init_1 : decode cX10_init 1 = .ok (.sipush 240, 3) := dk_17 0 240 (dk_at dksX10_init_0 1 rfl rfl)
theorem dX10_init_4 : decode cX10_init 4 = .ok (.invokespecial 3, 3) := dk_183 0 3 (dk_at dksX10_init_0 4 rfl rfl)
theorem dX10_init_7 : decode cX10_init 7 = .ok (.aload_n 0, 1) := dk_42 (dk_at dksX10_init_0 7 rfl rfl)
theorem dX10_init_8 : decode cX10_init 8 = .ok (.sipush 3201, 3) := dk_17 12 129 (dk_at dksX10_init_0 8 rfl rfl)
theorem dX10_init_11 : decode cX10_init 11 = .ok (.newarray .int, 2) := dk_188_10 (dk_at dksX10_init_0 11 rfl rfl)
theorem dX10_init_13 : decode cX10_init 13 = .ok (.putfield 9, 3) := dk_181 0 9 (dk_at dksX10_init_0 13 rfl rfl)
theorem dX10_init_16 : decode cX10_init 16 = .ok (.return_, 1) := dk_177 (dk_at dksX10_init_0 16 rfl rfl)
abbrev cX10_prepare : ByteArray := prog_4_method_4_code
def yX10_prepare : MethodName := ⟨RX10, "prepare", "([BI)V"⟩
def dkwX10_prepare_2 : List UInt8 := [167, 0, 4, 3, 79, 132, 3, 255, 167, 255, 213, 177]
abbrev dktX10_prepare_2 : List UInt8 := dkwX10_prepare_2 ++ []
def dkwX10_prepare_1 : List UInt8 := [16, 32, 161, 0, 24, 43, 29, 51, 16, 94, 163, 0, 16, 42, 180, 0, 9, 29, 4, 96, 46, 4, 96]
abbrev dktX10_prepare_1 : List UInt8 := dkwX10_prepare_1 ++ dktX10_prepare_2
def dkwX10_prepare_0 : List UInt8 := [42, 180, 0, 9, 28, 3, 79, 28, 4, 100, 62, 29, 155, 0, 45, 42, 180, 0, 9, 29, 43, 29, 51]
abbrev dktX10_prepare_0 : List UInt8 := dkwX10_prepare_0 ++ dktX10_prepare_1
theorem dksX10_prepare_0 : cX10_prepare.data.toList.drop 0 = dktX10_prepare_0 := by decide +kernel
theorem dksX10_prepare_1 : cX10_prepare.data.toList.drop 23 = dktX10_prepare_1 := dk_seg dksX10_prepare_0 23 rfl rfl
theorem dksX10_prepare_2 : cX10_prepare.data.toList.drop 46 = dktX10_prepare_2 := dk_seg dksX10_prepare_1 23 rfl rfl
theorem dX10_prepare_0 : decode cX10_prepare 0 = .ok (.aload_n 0, 1) := dk_42 (dk_at dksX10_prepare_0 0 rfl rfl)
theorem dX10_prepare_1 : decode cX10_prepare 1 = .ok (.getfield 9, 3) := dk_180 0 9 (dk_at dksX10_prepare_0 1 rfl rfl)
theorem dX10_prepare_4 : decode cX10_prepare 4 = .ok (.iload_n 2, 1) := dk_28 (dk_at dksX10_prepare_0 4 rfl rfl)
theorem dX10_prepare_5 : decode cX10_prepare 5 = .ok (.iconst 0, 1) := dk_3 (dk_at dksX10_prepare_0 5 rfl rfl)
theorem dX10_prepare_6 : decode cX10_prepare 6 = .ok (.iastore, 1) := dk_79 (dk_at dksX10_prepare_0 6 rfl rfl)
theorem dX10_prepare_7 : decode cX10_prepare 7 = .ok (.iload_n 2, 1) := dk_28 (dk_at dksX10_prepare_0 7 rfl rfl)
theorem dX10_prepare_8 : decode cX10_prepare 8 = .ok (.iconst 1, 1) := dk_4 (dk_at dksX10_prepare_0 8 rfl rfl)
theorem dX10_prepare_9 : decode cX10_prepare 9 = .ok (.isub, 1) := dk_100 (dk_at dksX10_prepare_0 9 rfl rfl)
theorem dX10_prepare_10 : decode cX10_prepare 10 = .ok (.istore_n 3, 1) := dk_62 (dk_at dksX10_prepare_0 10 rfl rfl)
theorem dX10_prepare_11 : decode cX10_prepare 11 = .ok (.iload_n 3, 1) := dk_29 (dk_at dksX10_prepare_0 11 rfl rfl)
theorem dX10_prepare_12 : decode cX10_prepare 12 = .ok (.ifCond .lt 45, 3) := dk_155 0 45 (dk_at dksX10_prepare_0 12 rfl rfl)
theorem dX10_prepare_15 : decode cX10_prepare 15 = .ok (.aload_n 0, 1) := dk_42 (dk_at dksX10_prepare_0 15 rfl rfl)
theorem dX10_prepare_16 : decode cX10_prepare 16 = .ok (.getfield 9, 3) := dk_180 0 9 (dk_at dksX10_prepare_0 16 rfl rfl)
theorem dX10_prepare_19 : decode cX10_prepare 19 = .ok (.iload_n 3, 1) := dk_29 (dk_at dksX10_prepare_0 19 rfl rfl)
theorem dX10_prepare_20 : decode cX10_prepare 20 = .ok (.aload_n 1, 1) := dk_43 (dk_at dksX10_prepare_0 20 rfl rfl)
theorem dX10_prepare_21 : decode cX10_prepare 21 = .ok (.iload_n 3, 1) := dk_29 (dk_at dksX10_prepare_0 21 rfl rfl)
theorem dX10_prepare_22 : decode cX10_prepare 22 = .ok (.baload, 1) := dk_51 (dk_at dksX10_prepare_0 22 rfl rfl)
theorem dX10_prepare_23 : decode cX10_prepare 23 = .ok (.bipush 32, 2) := dk_16 32 (dk_at dksX10_prepare_1 0 rfl rfl)
theorem dX10_prepare_25 : decode cX10_prepare 25 = .ok (.if_icmp .lt 24, 3) := dk_161 0 24 (dk_at dksX10_prepare_1 2 rfl rfl)
theorem dX10_prepare_28 : decode cX10_prepare 28 = .ok (.aload_n 1, 1) := dk_43 (dk_at dksX10_prepare_1 5 rfl rfl)
theorem dX10_prepare_29 : decode cX10_prepare 29 = .ok (.iload_n 3, 1) := dk_29 (dk_at dksX10_prepare_1 6 rfl rfl)
theorem dX10_prepare_30 : decode cX10_prepare 30 = .ok (.baload, 1) := dk_51 (dk_at dksX10_prepare_1 7 rfl rfl)
theorem dX10_prepare_31 : decode cX10_prepare 31 = .ok (.bipush 94, 2) := dk_16 94 (dk_at dksX10_prepare_1 8 rfl rfl)
theorem dX10_prepare_33 : decode cX10_prepare 33 = .ok (.if_icmp .gt 16, 3) := dk_163 0 16 (dk_at dksX10_prepare_1 10 rfl rfl)
theorem dX10_prepare_36 : decode cX10_prepare 36 = .ok (.aload_n 0, 1) := dk_42 (dk_at dksX10_prepare_1 13 rfl rfl)
theorem dX10_prepare_37 : decode cX10_prepare 37 = .ok (.getfield 9, 3) := dk_180 0 9 (dk_at dksX10_prepare_1 14 rfl rfl)
theorem dX10_prepare_40 : decode cX10_prepare 40 = .ok (.iload_n 3, 1) := dk_29 (dk_at dksX10_prepare_1 17 rfl rfl)
theorem dX10_prepare_41 : decode cX10_prepare 41 = .ok (.iconst 1, 1) := dk_4 (dk_at dksX10_prepare_1 18 rfl rfl)
theorem dX10_prepare_42 : decode cX10_prepare 42 = .ok (.iadd, 1) := dk_96 (dk_at dksX10_prepare_1 19 rfl rfl)
theorem dX10_prepare_43 : decode cX10_prepare 43 = .ok (.iaload, 1) := dk_46 (dk_at dksX10_prepare_1 20 rfl rfl)
theorem dX10_prepare_44 : decode cX10_prepare 44 = .ok (.iconst 1, 1) := dk_4 (dk_at dksX10_prepare_1 21 rfl rfl)
theorem dX10_prepare_45 : decode cX10_prepare 45 = .ok (.iadd, 1) := dk_96 (dk_at dksX10_prepare_1 22 rfl rfl)
theorem dX10_prepare_46 : decode cX10_prepare 46 = .ok (.goto 4, 3) := dk_167 0 4 (dk_at dksX10_prepare_2 0 rfl rfl)
theorem dX10_prepare_49 : decode cX10_prepare 49 = .ok (.iconst 0, 1) := dk_3 (dk_at dksX10_prepare_2 3 rfl rfl)
theorem dX10_prepare_50 : decode cX10_prepare 50 = .ok (.iastore, 1) := dk_79 (dk_at dksX10_prepare_2 4 rfl rfl)
theorem dX10_prepare_51 : decode cX10_prepare 51 = .ok (.iinc 3 (-1), 3) := dk_132 3 255 (dk_at dksX10_prepare_2 5 rfl rfl)
theorem dX10_prepare_54 : decode cX10_prepare 54 = .ok (.goto (-43), 3) := dk_167 255 213 (dk_at dksX10_prepare_2 8 rfl rfl)
theorem dX10_prepare_57 : decode cX10_prepare 57 = .ok (.return_, 1) := dk_177 (dk_at dksX10_prepare_2 11 rfl rfl)
abbrev cX10_closed : ByteArray := prog_4_method_6_code
def yX10_closed : MethodName := ⟨RX10, "closed", "(II)I"⟩
def dkwX10_closed_1 : List UInt8 := [167, 0, 5, 18, 40, 172]
abbrev dktX10_closed_1 : List UInt8 := dkwX10_closed_1 ++ []
def dkwX10_closed_0 : List UInt8 := [28, 42, 180, 0, 9, 27, 46, 163, 0, 20, 4, 16, 6, 28, 4, 96, 104, 16, 7, 96, 16, 8, 108, 96]
abbrev dktX10_closed_0 : List UInt8 := dkwX10_closed_0 ++ dktX10_closed_1
theorem dksX10_closed_0 : cX10_closed.data.toList.drop 0 = dktX10_closed_0 := by decide +kernel
theorem dksX10_closed_1 : cX10_closed.data.toList.drop 24 = dktX10_closed_1 := dk_seg dksX10_closed_0 24 rfl rfl
theorem dX10_closed_0 : decode cX10_closed 0 = .ok (.iload_n 2, 1) := dk_28 (dk_at dksX10_closed_0 0 rfl rfl)
theorem dX10_closed_1 : decode cX10_closed 1 = .ok (.aload_n 0, 1) := dk_42 (dk_at dksX10_closed_0 1 rfl rfl)
theorem dX10_closed_2 : decode cX10_closed 2 = .ok (.getfield 9, 3) := dk_180 0 9 (dk_at dksX10_closed_0 2 rfl rfl)
theorem dX10_closed_5 : decode cX10_closed 5 = .ok (.iload_n 1, 1) := dk_27 (dk_at dksX10_closed_0 5 rfl rfl)
theorem dX10_closed_6 : decode cX10_closed 6 = .ok (.iaload, 1) := dk_46 (dk_at dksX10_closed_0 6 rfl rfl)
theorem dX10_closed_7 : decode cX10_closed 7 = .ok (.if_icmp .gt 20, 3) := dk_163 0 20 (dk_at dksX10_closed_0 7 rfl rfl)
theorem dX10_closed_10 : decode cX10_closed 10 = .ok (.iconst 1, 1) := dk_4 (dk_at dksX10_closed_0 10 rfl rfl)
theorem dX10_closed_11 : decode cX10_closed 11 = .ok (.bipush 6, 2) := dk_16 6 (dk_at dksX10_closed_0 11 rfl rfl)
theorem dX10_closed_13 : decode cX10_closed 13 = .ok (.iload_n 2, 1) := dk_28 (dk_at dksX10_closed_0 13 rfl rfl)
theorem dX10_closed_14 : decode cX10_closed 14 = .ok (.iconst 1, 1) := dk_4 (dk_at dksX10_closed_0 14 rfl rfl)
theorem dX10_closed_15 : decode cX10_closed 15 = .ok (.iadd, 1) := dk_96 (dk_at dksX10_closed_0 15 rfl rfl)
theorem dX10_closed_16 : decode cX10_closed 16 = .ok (.imul, 1) := dk_104 (dk_at dksX10_closed_0 16 rfl rfl)
theorem dX10_closed_17 : decode cX10_closed 17 = .ok (.bipush 7, 2) := dk_16 7 (dk_at dksX10_closed_0 17 rfl rfl)
theorem dX10_closed_19 : decode cX10_closed 19 = .ok (.iadd, 1) := dk_96 (dk_at dksX10_closed_0 19 rfl rfl)
theorem dX10_closed_20 : decode cX10_closed 20 = .ok (.bipush 8, 2) := dk_16 8 (dk_at dksX10_closed_0 20 rfl rfl)
theorem dX10_closed_22 : decode cX10_closed 22 = .ok (.idiv, 1) := dk_108 (dk_at dksX10_closed_0 22 rfl rfl)
theorem dX10_closed_23 : decode cX10_closed 23 = .ok (.iadd, 1) := dk_96 (dk_at dksX10_closed_0 23 rfl rfl)
theorem dX10_closed_24 : decode cX10_closed 24 = .ok (.goto 5, 3) := dk_167 0 5 (dk_at dksX10_closed_1 0 rfl rfl)
theorem dX10_closed_27 : decode cX10_closed 27 = .ok (.ldc 40, 2) := dk_18 40 (dk_at dksX10_closed_1 3 rfl rfl)
theorem dX10_closed_29 : decode cX10_closed 29 = .ok (.ireturn, 1) := dk_172 (dk_at dksX10_closed_1 5 rfl rfl)
abbrev cX10_open : ByteArray := prog_4_method_5_code
def yX10_open : MethodName := ⟨RX10, "open", "(II)I"⟩
def dkwX10_open_1 : List UInt8 := [167, 0, 5, 18, 40, 172]
abbrev dktX10_open_1 : List UInt8 := dkwX10_open_1 ++ []
def dkwX10_open_0 : List UInt8 := [28, 7, 112, 154, 0, 23, 28, 42, 180, 0, 9, 27, 46, 163, 0, 13, 4, 28, 7, 108, 6, 104, 96]
abbrev dktX10_open_0 : List UInt8 := dkwX10_open_0 ++ dktX10_open_1
theorem dksX10_open_0 : cX10_open.data.toList.drop 0 = dktX10_open_0 := by decide +kernel
theorem dksX10_open_1 : cX10_open.data.toList.drop 23 = dktX10_open_1 := dk_seg dksX10_open_0 23 rfl rfl
theorem dX10_open_0 : decode cX10_open 0 = .ok (.iload_n 2, 1) := dk_28 (dk_at dksX10_open_0 0 rfl rfl)
theorem dX10_open_1 : decode cX10_open 1 = .ok (.iconst 4, 1) := dk_7 (dk_at dksX10_open_0 1 rfl rfl)
theorem dX10_open_2 : decode cX10_open 2 = .ok (.irem, 1) := dk_112 (dk_at dksX10_open_0 2 rfl rfl)
theorem dX10_open_3 : decode cX10_open 3 = .ok (.ifCond .ne 23, 3) := dk_154 0 23 (dk_at dksX10_open_0 3 rfl rfl)
theorem dX10_open_6 : decode cX10_open 6 = .ok (.iload_n 2, 1) := dk_28 (dk_at dksX10_open_0 6 rfl rfl)
theorem dX10_open_7 : decode cX10_open 7 = .ok (.aload_n 0, 1) := dk_42 (dk_at dksX10_open_0 7 rfl rfl)
theorem dX10_open_8 : decode cX10_open 8 = .ok (.getfield 9, 3) := dk_180 0 9 (dk_at dksX10_open_0 8 rfl rfl)
theorem dX10_open_11 : decode cX10_open 11 = .ok (.iload_n 1, 1) := dk_27 (dk_at dksX10_open_0 11 rfl rfl)
theorem dX10_open_12 : decode cX10_open 12 = .ok (.iaload, 1) := dk_46 (dk_at dksX10_open_0 12 rfl rfl)
theorem dX10_open_13 : decode cX10_open 13 = .ok (.if_icmp .gt 13, 3) := dk_163 0 13 (dk_at dksX10_open_0 13 rfl rfl)
theorem dX10_open_16 : decode cX10_open 16 = .ok (.iconst 1, 1) := dk_4 (dk_at dksX10_open_0 16 rfl rfl)
theorem dX10_open_17 : decode cX10_open 17 = .ok (.iload_n 2, 1) := dk_28 (dk_at dksX10_open_0 17 rfl rfl)
theorem dX10_open_18 : decode cX10_open 18 = .ok (.iconst 4, 1) := dk_7 (dk_at dksX10_open_0 18 rfl rfl)
theorem dX10_open_19 : decode cX10_open 19 = .ok (.idiv, 1) := dk_108 (dk_at dksX10_open_0 19 rfl rfl)
theorem dX10_open_20 : decode cX10_open 20 = .ok (.iconst 3, 1) := dk_6 (dk_at dksX10_open_0 20 rfl rfl)
theorem dX10_open_21 : decode cX10_open 21 = .ok (.imul, 1) := dk_104 (dk_at dksX10_open_0 21 rfl rfl)
theorem dX10_open_22 : decode cX10_open 22 = .ok (.iadd, 1) := dk_96 (dk_at dksX10_open_0 22 rfl rfl)
theorem dX10_open_23 : decode cX10_open 23 = .ok (.goto 5, 3) := dk_167 0 5 (dk_at dksX10_open_1 0 rfl rfl)
theorem dX10_open_26 : decode cX10_open 26 = .ok (.ldc 40, 2) := dk_18 40 (dk_at dksX10_open_1 3 rfl rfl)
theorem dX10_open_28 : decode cX10_open 28 = .ok (.ireturn, 1) := dk_172 (dk_at dksX10_open_1 5 rfl rfl)
abbrev cX10_leaves : ByteArray := prog_4_method_7_code
def yX10_leaves : MethodName := ⟨RX10, "leaves", "()I"⟩
theorem dX10_leaves_0 : decode cX10_leaves 0 = .ok (.iconst 2, 1) := by decide +kernel
theorem dX10_leaves_1 : decode cX10_leaves 1 = .ok (.ireturn, 1) := by decide +kernel
abbrev cX10_write : ByteArray := prog_4_method_9_code
def yX10_write : MethodName := ⟨RX10, "write", "(LMatrixPress$Stream;[BIIZ)V"⟩
def dkwX10_write_3 : List UInt8 := [180, 0, 44, 158, 0, 19, 43, 42, 180, 0, 41, 16, 8, 42, 180, 0, 44, 100, 120, 182, 0, 47, 177]
abbrev dktX10_write_3 : List UInt8 := dkwX10_write_3 ++ []
def dkwX10_write_2 : List UInt8 := [182, 0, 50, 132, 6, 1, 167, 255, 216, 21, 5, 153, 0, 10, 42, 43, 16, 31, 182, 0, 50, 42]
abbrev dktX10_write_2 : List UInt8 := dkwX10_write_2 ++ dktX10_write_3
def dkwX10_write_1 : List UInt8 := [44, 21, 6, 51, 16, 64, 161, 0, 13, 44, 21, 6, 51, 16, 64, 100, 167, 0, 7, 44, 21, 6, 51]
abbrev dktX10_write_1 : List UInt8 := dkwX10_write_1 ++ dktX10_write_2
def dkwX10_write_0 : List UInt8 := [42, 3, 181, 0, 41, 42, 3, 181, 0, 44, 29, 54, 6, 21, 6, 29, 21, 4, 96, 162, 0, 37, 42, 43]
abbrev dktX10_write_0 : List UInt8 := dkwX10_write_0 ++ dktX10_write_1
theorem dksX10_write_0 : cX10_write.data.toList.drop 0 = dktX10_write_0 := by decide +kernel
theorem dksX10_write_1 : cX10_write.data.toList.drop 24 = dktX10_write_1 := dk_seg dksX10_write_0 24 rfl rfl
theorem dksX10_write_2 : cX10_write.data.toList.drop 47 = dktX10_write_2 := dk_seg dksX10_write_1 23 rfl rfl
theorem dksX10_write_3 : cX10_write.data.toList.drop 69 = dktX10_write_3 := dk_seg dksX10_write_2 22 rfl rfl
theorem dX10_write_0 : decode cX10_write 0 = .ok (.aload_n 0, 1) := dk_42 (dk_at dksX10_write_0 0 rfl rfl)
theorem dX10_write_1 : decode cX10_write 1 = .ok (.iconst 0, 1) := dk_3 (dk_at dksX10_write_0 1 rfl rfl)
theorem dX10_write_2 : decode cX10_write 2 = .ok (.putfield 41, 3) := dk_181 0 41 (dk_at dksX10_write_0 2 rfl rfl)
theorem dX10_write_5 : decode cX10_write 5 = .ok (.aload_n 0, 1) := dk_42 (dk_at dksX10_write_0 5 rfl rfl)
theorem dX10_write_6 : decode cX10_write 6 = .ok (.iconst 0, 1) := dk_3 (dk_at dksX10_write_0 6 rfl rfl)
theorem dX10_write_7 : decode cX10_write 7 = .ok (.putfield 44, 3) := dk_181 0 44 (dk_at dksX10_write_0 7 rfl rfl)
theorem dX10_write_10 : decode cX10_write 10 = .ok (.iload_n 3, 1) := dk_29 (dk_at dksX10_write_0 10 rfl rfl)
theorem dX10_write_11 : decode cX10_write 11 = .ok (.istore 6, 2) := dk_54 6 (dk_at dksX10_write_0 11 rfl rfl)
theorem dX10_write_13 : decode cX10_write 13 = .ok (.iload 6, 2) := dk_21 6 (dk_at dksX10_write_0 13 rfl rfl)
theorem dX10_write_15 : decode cX10_write 15 = .ok (.iload_n 3, 1) := dk_29 (dk_at dksX10_write_0 15 rfl rfl)
theorem dX10_write_16 : decode cX10_write 16 = .ok (.iload 4, 2) := dk_21 4 (dk_at dksX10_write_0 16 rfl rfl)
theorem dX10_write_18 : decode cX10_write 18 = .ok (.iadd, 1) := dk_96 (dk_at dksX10_write_0 18 rfl rfl)
theorem dX10_write_19 : decode cX10_write 19 = .ok (.if_icmp .ge 37, 3) := dk_162 0 37 (dk_at dksX10_write_0 19 rfl rfl)
theorem dX10_write_22 : decode cX10_write 22 = .ok (.aload_n 0, 1) := dk_42 (dk_at dksX10_write_0 22 rfl rfl)
theorem dX10_write_23 : decode cX10_write 23 = .ok (.aload_n 1, 1) := dk_43 (dk_at dksX10_write_0 23 rfl rfl)
theorem dX10_write_24 : decode cX10_write 24 = .ok (.aload_n 2, 1) := dk_44 (dk_at dksX10_write_1 0 rfl rfl)
theorem dX10_write_25 : decode cX10_write 25 = .ok (.iload 6, 2) := dk_21 6 (dk_at dksX10_write_1 1 rfl rfl)
theorem dX10_write_27 : decode cX10_write 27 = .ok (.baload, 1) := dk_51 (dk_at dksX10_write_1 3 rfl rfl)
theorem dX10_write_28 : decode cX10_write 28 = .ok (.bipush 64, 2) := dk_16 64 (dk_at dksX10_write_1 4 rfl rfl)
theorem dX10_write_30 : decode cX10_write 30 = .ok (.if_icmp .lt 13, 3) := dk_161 0 13 (dk_at dksX10_write_1 6 rfl rfl)
theorem dX10_write_33 : decode cX10_write 33 = .ok (.aload_n 2, 1) := dk_44 (dk_at dksX10_write_1 9 rfl rfl)
theorem dX10_write_34 : decode cX10_write 34 = .ok (.iload 6, 2) := dk_21 6 (dk_at dksX10_write_1 10 rfl rfl)
theorem dX10_write_36 : decode cX10_write 36 = .ok (.baload, 1) := dk_51 (dk_at dksX10_write_1 12 rfl rfl)
theorem dX10_write_37 : decode cX10_write 37 = .ok (.bipush 64, 2) := dk_16 64 (dk_at dksX10_write_1 13 rfl rfl)
theorem dX10_write_39 : decode cX10_write 39 = .ok (.isub, 1) := dk_100 (dk_at dksX10_write_1 15 rfl rfl)
theorem dX10_write_40 : decode cX10_write 40 = .ok (.goto 7, 3) := dk_167 0 7 (dk_at dksX10_write_1 16 rfl rfl)
theorem dX10_write_43 : decode cX10_write 43 = .ok (.aload_n 2, 1) := dk_44 (dk_at dksX10_write_1 19 rfl rfl)
theorem dX10_write_44 : decode cX10_write 44 = .ok (.iload 6, 2) := dk_21 6 (dk_at dksX10_write_1 20 rfl rfl)
theorem dX10_write_46 : decode cX10_write 46 = .ok (.baload, 1) := dk_51 (dk_at dksX10_write_1 22 rfl rfl)
theorem dX10_write_47 : decode cX10_write 47 = .ok (.invokevirtual 50, 3) := dk_182 0 50 (dk_at dksX10_write_2 0 rfl rfl)
theorem dX10_write_50 : decode cX10_write 50 = .ok (.iinc 6 1, 3) := dk_132 6 1 (dk_at dksX10_write_2 3 rfl rfl)
theorem dX10_write_53 : decode cX10_write 53 = .ok (.goto (-40), 3) := dk_167 255 216 (dk_at dksX10_write_2 6 rfl rfl)
theorem dX10_write_56 : decode cX10_write 56 = .ok (.iload 5, 2) := dk_21 5 (dk_at dksX10_write_2 9 rfl rfl)
theorem dX10_write_58 : decode cX10_write 58 = .ok (.ifCond .eq 10, 3) := dk_153 0 10 (dk_at dksX10_write_2 11 rfl rfl)
theorem dX10_write_61 : decode cX10_write 61 = .ok (.aload_n 0, 1) := dk_42 (dk_at dksX10_write_2 14 rfl rfl)
theorem dX10_write_62 : decode cX10_write 62 = .ok (.aload_n 1, 1) := dk_43 (dk_at dksX10_write_2 15 rfl rfl)
theorem dX10_write_63 : decode cX10_write 63 = .ok (.bipush 31, 2) := dk_16 31 (dk_at dksX10_write_2 16 rfl rfl)
theorem dX10_write_65 : decode cX10_write 65 = .ok (.invokevirtual 50, 3) := dk_182 0 50 (dk_at dksX10_write_2 18 rfl rfl)
theorem dX10_write_68 : decode cX10_write 68 = .ok (.aload_n 0, 1) := dk_42 (dk_at dksX10_write_2 21 rfl rfl)
theorem dX10_write_69 : decode cX10_write 69 = .ok (.getfield 44, 3) := dk_180 0 44 (dk_at dksX10_write_3 0 rfl rfl)
theorem dX10_write_72 : decode cX10_write 72 = .ok (.ifCond .le 19, 3) := dk_158 0 19 (dk_at dksX10_write_3 3 rfl rfl)
theorem dX10_write_75 : decode cX10_write 75 = .ok (.aload_n 1, 1) := dk_43 (dk_at dksX10_write_3 6 rfl rfl)
theorem dX10_write_76 : decode cX10_write 76 = .ok (.aload_n 0, 1) := dk_42 (dk_at dksX10_write_3 7 rfl rfl)
theorem dX10_write_77 : decode cX10_write 77 = .ok (.getfield 41, 3) := dk_180 0 41 (dk_at dksX10_write_3 8 rfl rfl)
theorem dX10_write_80 : decode cX10_write 80 = .ok (.bipush 8, 2) := dk_16 8 (dk_at dksX10_write_3 11 rfl rfl)
theorem dX10_write_82 : decode cX10_write 82 = .ok (.aload_n 0, 1) := dk_42 (dk_at dksX10_write_3 13 rfl rfl)
theorem dX10_write_83 : decode cX10_write 83 = .ok (.getfield 44, 3) := dk_180 0 44 (dk_at dksX10_write_3 14 rfl rfl)
theorem dX10_write_86 : decode cX10_write 86 = .ok (.isub, 1) := dk_100 (dk_at dksX10_write_3 17 rfl rfl)
theorem dX10_write_87 : decode cX10_write 87 = .ok (.ishl, 1) := dk_120 (dk_at dksX10_write_3 18 rfl rfl)
theorem dX10_write_88 : decode cX10_write 88 = .ok (.invokevirtual 47, 3) := dk_182 0 47 (dk_at dksX10_write_3 19 rfl rfl)
theorem dX10_write_91 : decode cX10_write 91 = .ok (.return_, 1) := dk_177 (dk_at dksX10_write_3 22 rfl rfl)
abbrev cX10_add : ByteArray := prog_4_method_8_code
def yX10_add : MethodName := ⟨RX10, "add", "(LMatrixPress$Stream;I)V"⟩
def dkwX10_add_3 : List UInt8 := [126, 181, 0, 41, 177]
abbrev dktX10_add_3 : List UInt8 := dkwX10_add_3 ++ []
def dkwX10_add_2 : List UInt8 := [180, 0, 41, 42, 180, 0, 44, 122, 182, 0, 47, 42, 89, 180, 0, 41, 4, 42, 180, 0, 44, 120, 4, 100]
abbrev dktX10_add_2 : List UInt8 := dkwX10_add_2 ++ dktX10_add_3
def dkwX10_add_1 : List UInt8 := [42, 180, 0, 44, 16, 8, 162, 0, 4, 177, 42, 89, 180, 0, 44, 16, 8, 100, 181, 0, 44, 43, 42]
abbrev dktX10_add_1 : List UInt8 := dkwX10_add_1 ++ dktX10_add_2
def dkwX10_add_0 : List UInt8 := [42, 42, 180, 0, 41, 16, 6, 120, 28, 128, 181, 0, 41, 42, 89, 180, 0, 44, 16, 6, 96, 181, 0, 44]
abbrev dktX10_add_0 : List UInt8 := dkwX10_add_0 ++ dktX10_add_1
theorem dksX10_add_0 : cX10_add.data.toList.drop 0 = dktX10_add_0 := by decide +kernel
theorem dksX10_add_1 : cX10_add.data.toList.drop 24 = dktX10_add_1 := dk_seg dksX10_add_0 24 rfl rfl
theorem dksX10_add_2 : cX10_add.data.toList.drop 47 = dktX10_add_2 := dk_seg dksX10_add_1 23 rfl rfl
theorem dksX10_add_3 : cX10_add.data.toList.drop 71 = dktX10_add_3 := dk_seg dksX10_add_2 24 rfl rfl
theorem dX10_add_0 : decode cX10_add 0 = .ok (.aload_n 0, 1) := dk_42 (dk_at dksX10_add_0 0 rfl rfl)
theorem dX10_add_1 : decode cX10_add 1 = .ok (.aload_n 0, 1) := dk_42 (dk_at dksX10_add_0 1 rfl rfl)
theorem dX10_add_2 : decode cX10_add 2 = .ok (.getfield 41, 3) := dk_180 0 41 (dk_at dksX10_add_0 2 rfl rfl)
theorem dX10_add_5 : decode cX10_add 5 = .ok (.bipush 6, 2) := dk_16 6 (dk_at dksX10_add_0 5 rfl rfl)
theorem dX10_add_7 : decode cX10_add 7 = .ok (.ishl, 1) := dk_120 (dk_at dksX10_add_0 7 rfl rfl)
theorem dX10_add_8 : decode cX10_add 8 = .ok (.iload_n 2, 1) := dk_28 (dk_at dksX10_add_0 8 rfl rfl)
theorem dX10_add_9 : decode cX10_add 9 = .ok (.ior, 1) := dk_128 (dk_at dksX10_add_0 9 rfl rfl)
theorem dX10_add_10 : decode cX10_add 10 = .ok (.putfield 41, 3) := dk_181 0 41 (dk_at dksX10_add_0 10 rfl rfl)
theorem dX10_add_13 : decode cX10_add 13 = .ok (.aload_n 0, 1) := dk_42 (dk_at dksX10_add_0 13 rfl rfl)
theorem dX10_add_14 : decode cX10_add 14 = .ok (.dup, 1) := dk_89 (dk_at dksX10_add_0 14 rfl rfl)
theorem dX10_add_15 : decode cX10_add 15 = .ok (.getfield 44, 3) := dk_180 0 44 (dk_at dksX10_add_0 15 rfl rfl)
theorem dX10_add_18 : decode cX10_add 18 = .ok (.bipush 6, 2) := dk_16 6 (dk_at dksX10_add_0 18 rfl rfl)
theorem dX10_add_20 : decode cX10_add 20 = .ok (.iadd, 1) := dk_96 (dk_at dksX10_add_0 20 rfl rfl)
theorem dX10_add_21 : decode cX10_add 21 = .ok (.putfield 44, 3) := dk_181 0 44 (dk_at dksX10_add_0 21 rfl rfl)
theorem dX10_add_24 : decode cX10_add 24 = .ok (.aload_n 0, 1) := dk_42 (dk_at dksX10_add_1 0 rfl rfl)
theorem dX10_add_25 : decode cX10_add 25 = .ok (.getfield 44, 3) := dk_180 0 44 (dk_at dksX10_add_1 1 rfl rfl)
theorem dX10_add_28 : decode cX10_add 28 = .ok (.bipush 8, 2) := dk_16 8 (dk_at dksX10_add_1 4 rfl rfl)
theorem dX10_add_30 : decode cX10_add 30 = .ok (.if_icmp .ge 4, 3) := dk_162 0 4 (dk_at dksX10_add_1 6 rfl rfl)
theorem dX10_add_33 : decode cX10_add 33 = .ok (.return_, 1) := dk_177 (dk_at dksX10_add_1 9 rfl rfl)
theorem dX10_add_34 : decode cX10_add 34 = .ok (.aload_n 0, 1) := dk_42 (dk_at dksX10_add_1 10 rfl rfl)
theorem dX10_add_35 : decode cX10_add 35 = .ok (.dup, 1) := dk_89 (dk_at dksX10_add_1 11 rfl rfl)
theorem dX10_add_36 : decode cX10_add 36 = .ok (.getfield 44, 3) := dk_180 0 44 (dk_at dksX10_add_1 12 rfl rfl)
theorem dX10_add_39 : decode cX10_add 39 = .ok (.bipush 8, 2) := dk_16 8 (dk_at dksX10_add_1 15 rfl rfl)
theorem dX10_add_41 : decode cX10_add 41 = .ok (.isub, 1) := dk_100 (dk_at dksX10_add_1 17 rfl rfl)
theorem dX10_add_42 : decode cX10_add 42 = .ok (.putfield 44, 3) := dk_181 0 44 (dk_at dksX10_add_1 18 rfl rfl)
theorem dX10_add_45 : decode cX10_add 45 = .ok (.aload_n 1, 1) := dk_43 (dk_at dksX10_add_1 21 rfl rfl)
theorem dX10_add_46 : decode cX10_add 46 = .ok (.aload_n 0, 1) := dk_42 (dk_at dksX10_add_1 22 rfl rfl)
theorem dX10_add_47 : decode cX10_add 47 = .ok (.getfield 41, 3) := dk_180 0 41 (dk_at dksX10_add_2 0 rfl rfl)
theorem dX10_add_50 : decode cX10_add 50 = .ok (.aload_n 0, 1) := dk_42 (dk_at dksX10_add_2 3 rfl rfl)
theorem dX10_add_51 : decode cX10_add 51 = .ok (.getfield 44, 3) := dk_180 0 44 (dk_at dksX10_add_2 4 rfl rfl)
theorem dX10_add_54 : decode cX10_add 54 = .ok (.ishr, 1) := dk_122 (dk_at dksX10_add_2 7 rfl rfl)
theorem dX10_add_55 : decode cX10_add 55 = .ok (.invokevirtual 47, 3) := dk_182 0 47 (dk_at dksX10_add_2 8 rfl rfl)
theorem dX10_add_58 : decode cX10_add 58 = .ok (.aload_n 0, 1) := dk_42 (dk_at dksX10_add_2 11 rfl rfl)
theorem dX10_add_59 : decode cX10_add 59 = .ok (.dup, 1) := dk_89 (dk_at dksX10_add_2 12 rfl rfl)
theorem dX10_add_60 : decode cX10_add 60 = .ok (.getfield 41, 3) := dk_180 0 41 (dk_at dksX10_add_2 13 rfl rfl)
theorem dX10_add_63 : decode cX10_add 63 = .ok (.iconst 1, 1) := dk_4 (dk_at dksX10_add_2 16 rfl rfl)
theorem dX10_add_64 : decode cX10_add 64 = .ok (.aload_n 0, 1) := dk_42 (dk_at dksX10_add_2 17 rfl rfl)
theorem dX10_add_65 : decode cX10_add 65 = .ok (.getfield 44, 3) := dk_180 0 44 (dk_at dksX10_add_2 18 rfl rfl)
theorem dX10_add_68 : decode cX10_add 68 = .ok (.ishl, 1) := dk_120 (dk_at dksX10_add_2 21 rfl rfl)
theorem dX10_add_69 : decode cX10_add 69 = .ok (.iconst 1, 1) := dk_4 (dk_at dksX10_add_2 22 rfl rfl)
theorem dX10_add_70 : decode cX10_add 70 = .ok (.isub, 1) := dk_100 (dk_at dksX10_add_2 23 rfl rfl)
theorem dX10_add_71 : decode cX10_add 71 = .ok (.iand, 1) := dk_126 (dk_at dksX10_add_3 0 rfl rfl)
theorem dX10_add_72 : decode cX10_add 72 = .ok (.putfield 41, 3) := dk_181 0 41 (dk_at dksX10_add_3 1 rfl rfl)
theorem dX10_add_75 : decode cX10_add 75 = .ok (.return_, 1) := dk_177 (dk_at dksX10_add_3 4 rfl rfl)
abbrev cX10_read : ByteArray := prog_4_method_2_code
def yX10_read : MethodName := ⟨RX10, "read", "(LMatrixPress$Stream;)V"⟩
def dkwX10_read_4 : List UInt8 := [21, 5, 182, 0, 32, 132, 4, 1, 167, 255, 194, 167, 255, 150, 177]
abbrev dktX10_read_4 : List UInt8 := dkwX10_read_4 ++ []
def dkwX10_read_3 : List UInt8 := [28, 29, 21, 4, 182, 0, 28, 177, 43, 21, 5, 16, 31, 162, 0, 11, 21, 5, 16, 64, 96, 167, 0, 5]
abbrev dktX10_read_3 : List UInt8 := dkwX10_read_3 ++ dktX10_read_4
def dkwX10_read_2 : List UInt8 := [29, 16, 18, 16, 6, 21, 4, 104, 100, 122, 16, 63, 126, 54, 5, 21, 5, 16, 31, 160, 0, 13, 42, 43]
abbrev dktX10_read_2 : List UInt8 := dkwX10_read_2 ++ dktX10_read_3
def dkwX10_read_1 : List UInt8 := [182, 0, 25, 16, 8, 120, 128, 62, 29, 43, 182, 0, 25, 128, 62, 3, 54, 4, 21, 4, 7, 162, 0, 62]
abbrev dktX10_read_1 : List UInt8 := dkwX10_read_1 ++ dktX10_read_2
def dkwX10_read_0 : List UInt8 := [43, 182, 0, 15, 6, 161, 0, 104, 43, 180, 0, 21, 61, 43, 182, 0, 25, 16, 16, 120, 62, 29, 43]
abbrev dktX10_read_0 : List UInt8 := dkwX10_read_0 ++ dktX10_read_1
theorem dksX10_read_0 : cX10_read.data.toList.drop 0 = dktX10_read_0 := by decide +kernel
theorem dksX10_read_1 : cX10_read.data.toList.drop 23 = dktX10_read_1 := dk_seg dksX10_read_0 23 rfl rfl
theorem dksX10_read_2 : cX10_read.data.toList.drop 47 = dktX10_read_2 := dk_seg dksX10_read_1 24 rfl rfl
theorem dksX10_read_3 : cX10_read.data.toList.drop 71 = dktX10_read_3 := dk_seg dksX10_read_2 24 rfl rfl
theorem dksX10_read_4 : cX10_read.data.toList.drop 95 = dktX10_read_4 := dk_seg dksX10_read_3 24 rfl rfl
theorem dX10_read_0 : decode cX10_read 0 = .ok (.aload_n 1, 1) := dk_43 (dk_at dksX10_read_0 0 rfl rfl)
theorem dX10_read_1 : decode cX10_read 1 = .ok (.invokevirtual 15, 3) := dk_182 0 15 (dk_at dksX10_read_0 1 rfl rfl)
theorem dX10_read_4 : decode cX10_read 4 = .ok (.iconst 3, 1) := dk_6 (dk_at dksX10_read_0 4 rfl rfl)
theorem dX10_read_5 : decode cX10_read 5 = .ok (.if_icmp .lt 104, 3) := dk_161 0 104 (dk_at dksX10_read_0 5 rfl rfl)
theorem dX10_read_8 : decode cX10_read 8 = .ok (.aload_n 1, 1) := dk_43 (dk_at dksX10_read_0 8 rfl rfl)
theorem dX10_read_9 : decode cX10_read 9 = .ok (.getfield 21, 3) := dk_180 0 21 (dk_at dksX10_read_0 9 rfl rfl)
theorem dX10_read_12 : decode cX10_read 12 = .ok (.istore_n 2, 1) := dk_61 (dk_at dksX10_read_0 12 rfl rfl)
theorem dX10_read_13 : decode cX10_read 13 = .ok (.aload_n 1, 1) := dk_43 (dk_at dksX10_read_0 13 rfl rfl)
theorem dX10_read_14 : decode cX10_read 14 = .ok (.invokevirtual 25, 3) := dk_182 0 25 (dk_at dksX10_read_0 14 rfl rfl)
theorem dX10_read_17 : decode cX10_read 17 = .ok (.bipush 16, 2) := dk_16 16 (dk_at dksX10_read_0 17 rfl rfl)
theorem dX10_read_19 : decode cX10_read 19 = .ok (.ishl, 1) := dk_120 (dk_at dksX10_read_0 19 rfl rfl)
theorem dX10_read_20 : decode cX10_read 20 = .ok (.istore_n 3, 1) := dk_62 (dk_at dksX10_read_0 20 rfl rfl)
theorem dX10_read_21 : decode cX10_read 21 = .ok (.iload_n 3, 1) := dk_29 (dk_at dksX10_read_0 21 rfl rfl)
theorem dX10_read_22 : decode cX10_read 22 = .ok (.aload_n 1, 1) := dk_43 (dk_at dksX10_read_0 22 rfl rfl)
theorem dX10_read_23 : decode cX10_read 23 = .ok (.invokevirtual 25, 3) := dk_182 0 25 (dk_at dksX10_read_1 0 rfl rfl)
theorem dX10_read_26 : decode cX10_read 26 = .ok (.bipush 8, 2) := dk_16 8 (dk_at dksX10_read_1 3 rfl rfl)
theorem dX10_read_28 : decode cX10_read 28 = .ok (.ishl, 1) := dk_120 (dk_at dksX10_read_1 5 rfl rfl)
theorem dX10_read_29 : decode cX10_read 29 = .ok (.ior, 1) := dk_128 (dk_at dksX10_read_1 6 rfl rfl)
theorem dX10_read_30 : decode cX10_read 30 = .ok (.istore_n 3, 1) := dk_62 (dk_at dksX10_read_1 7 rfl rfl)
theorem dX10_read_31 : decode cX10_read 31 = .ok (.iload_n 3, 1) := dk_29 (dk_at dksX10_read_1 8 rfl rfl)
theorem dX10_read_32 : decode cX10_read 32 = .ok (.aload_n 1, 1) := dk_43 (dk_at dksX10_read_1 9 rfl rfl)
theorem dX10_read_33 : decode cX10_read 33 = .ok (.invokevirtual 25, 3) := dk_182 0 25 (dk_at dksX10_read_1 10 rfl rfl)
theorem dX10_read_36 : decode cX10_read 36 = .ok (.ior, 1) := dk_128 (dk_at dksX10_read_1 13 rfl rfl)
theorem dX10_read_37 : decode cX10_read 37 = .ok (.istore_n 3, 1) := dk_62 (dk_at dksX10_read_1 14 rfl rfl)
theorem dX10_read_38 : decode cX10_read 38 = .ok (.iconst 0, 1) := dk_3 (dk_at dksX10_read_1 15 rfl rfl)
theorem dX10_read_39 : decode cX10_read 39 = .ok (.istore 4, 2) := dk_54 4 (dk_at dksX10_read_1 16 rfl rfl)
theorem dX10_read_41 : decode cX10_read 41 = .ok (.iload 4, 2) := dk_21 4 (dk_at dksX10_read_1 18 rfl rfl)
theorem dX10_read_43 : decode cX10_read 43 = .ok (.iconst 4, 1) := dk_7 (dk_at dksX10_read_1 20 rfl rfl)
theorem dX10_read_44 : decode cX10_read 44 = .ok (.if_icmp .ge 62, 3) := dk_162 0 62 (dk_at dksX10_read_1 21 rfl rfl)
theorem dX10_read_47 : decode cX10_read 47 = .ok (.iload_n 3, 1) := dk_29 (dk_at dksX10_read_2 0 rfl rfl)
theorem dX10_read_48 : decode cX10_read 48 = .ok (.bipush 18, 2) := dk_16 18 (dk_at dksX10_read_2 1 rfl rfl)
theorem dX10_read_50 : decode cX10_read 50 = .ok (.bipush 6, 2) := dk_16 6 (dk_at dksX10_read_2 3 rfl rfl)
theorem dX10_read_52 : decode cX10_read 52 = .ok (.iload 4, 2) := dk_21 4 (dk_at dksX10_read_2 5 rfl rfl)
theorem dX10_read_54 : decode cX10_read 54 = .ok (.imul, 1) := dk_104 (dk_at dksX10_read_2 7 rfl rfl)
theorem dX10_read_55 : decode cX10_read 55 = .ok (.isub, 1) := dk_100 (dk_at dksX10_read_2 8 rfl rfl)
theorem dX10_read_56 : decode cX10_read 56 = .ok (.ishr, 1) := dk_122 (dk_at dksX10_read_2 9 rfl rfl)
theorem dX10_read_57 : decode cX10_read 57 = .ok (.bipush 63, 2) := dk_16 63 (dk_at dksX10_read_2 10 rfl rfl)
theorem dX10_read_59 : decode cX10_read 59 = .ok (.iand, 1) := dk_126 (dk_at dksX10_read_2 12 rfl rfl)
theorem dX10_read_60 : decode cX10_read 60 = .ok (.istore 5, 2) := dk_54 5 (dk_at dksX10_read_2 13 rfl rfl)
theorem dX10_read_62 : decode cX10_read 62 = .ok (.iload 5, 2) := dk_21 5 (dk_at dksX10_read_2 15 rfl rfl)
theorem dX10_read_64 : decode cX10_read 64 = .ok (.bipush 31, 2) := dk_16 31 (dk_at dksX10_read_2 17 rfl rfl)
theorem dX10_read_66 : decode cX10_read 66 = .ok (.if_icmp .ne 13, 3) := dk_160 0 13 (dk_at dksX10_read_2 19 rfl rfl)
theorem dX10_read_69 : decode cX10_read 69 = .ok (.aload_n 0, 1) := dk_42 (dk_at dksX10_read_2 22 rfl rfl)
theorem dX10_read_70 : decode cX10_read 70 = .ok (.aload_n 1, 1) := dk_43 (dk_at dksX10_read_2 23 rfl rfl)
theorem dX10_read_71 : decode cX10_read 71 = .ok (.iload_n 2, 1) := dk_28 (dk_at dksX10_read_3 0 rfl rfl)
theorem dX10_read_72 : decode cX10_read 72 = .ok (.iload_n 3, 1) := dk_29 (dk_at dksX10_read_3 1 rfl rfl)
theorem dX10_read_73 : decode cX10_read 73 = .ok (.iload 4, 2) := dk_21 4 (dk_at dksX10_read_3 2 rfl rfl)
theorem dX10_read_75 : decode cX10_read 75 = .ok (.invokevirtual 28, 3) := dk_182 0 28 (dk_at dksX10_read_3 4 rfl rfl)
theorem dX10_read_78 : decode cX10_read 78 = .ok (.return_, 1) := dk_177 (dk_at dksX10_read_3 7 rfl rfl)
theorem dX10_read_79 : decode cX10_read 79 = .ok (.aload_n 1, 1) := dk_43 (dk_at dksX10_read_3 8 rfl rfl)
theorem dX10_read_80 : decode cX10_read 80 = .ok (.iload 5, 2) := dk_21 5 (dk_at dksX10_read_3 9 rfl rfl)
theorem dX10_read_82 : decode cX10_read 82 = .ok (.bipush 31, 2) := dk_16 31 (dk_at dksX10_read_3 11 rfl rfl)
theorem dX10_read_84 : decode cX10_read 84 = .ok (.if_icmp .ge 11, 3) := dk_162 0 11 (dk_at dksX10_read_3 13 rfl rfl)
theorem dX10_read_87 : decode cX10_read 87 = .ok (.iload 5, 2) := dk_21 5 (dk_at dksX10_read_3 16 rfl rfl)
theorem dX10_read_89 : decode cX10_read 89 = .ok (.bipush 64, 2) := dk_16 64 (dk_at dksX10_read_3 18 rfl rfl)
theorem dX10_read_91 : decode cX10_read 91 = .ok (.iadd, 1) := dk_96 (dk_at dksX10_read_3 20 rfl rfl)
theorem dX10_read_92 : decode cX10_read 92 = .ok (.goto 5, 3) := dk_167 0 5 (dk_at dksX10_read_3 21 rfl rfl)
theorem dX10_read_95 : decode cX10_read 95 = .ok (.iload 5, 2) := dk_21 5 (dk_at dksX10_read_4 0 rfl rfl)
theorem dX10_read_97 : decode cX10_read 97 = .ok (.invokevirtual 32, 3) := dk_182 0 32 (dk_at dksX10_read_4 2 rfl rfl)
theorem dX10_read_100 : decode cX10_read 100 = .ok (.iinc 4 1, 3) := dk_132 4 1 (dk_at dksX10_read_4 5 rfl rfl)
theorem dX10_read_103 : decode cX10_read 103 = .ok (.goto (-62), 3) := dk_167 255 194 (dk_at dksX10_read_4 8 rfl rfl)
theorem dX10_read_106 : decode cX10_read 106 = .ok (.goto (-106), 3) := dk_167 255 150 (dk_at dksX10_read_4 11 rfl rfl)
theorem dX10_read_109 : decode cX10_read 109 = .ok (.return_, 1) := dk_177 (dk_at dksX10_read_4 14 rfl rfl)
abbrev cX10_ends : ByteArray := prog_4_method_3_code
def yX10_ends : MethodName := ⟨RX10, "ends", "(LMatrixPress$Stream;III)V"⟩
def dkwX10_ends_2 : List UInt8 := [100, 126, 153, 0, 11, 187, 0, 35, 89, 183, 0, 37, 191, 43, 28, 21, 5, 96, 181, 0, 21, 177]
abbrev dktX10_ends_2 : List UInt8 := dkwX10_ends_2 ++ []
def dkwX10_ends_1 : List UInt8 := [21, 4, 104, 100, 16, 6, 100, 54, 6, 29, 16, 24, 16, 8, 21, 5, 104, 100, 122, 4, 21, 6, 120, 4]
abbrev dktX10_ends_1 : List UInt8 := dkwX10_ends_1 ++ dktX10_ends_2
def dkwX10_ends_0 : List UInt8 := [16, 6, 21, 4, 104, 16, 6, 96, 16, 7, 96, 16, 8, 108, 54, 5, 16, 8, 21, 5, 104, 16, 6]
abbrev dktX10_ends_0 : List UInt8 := dkwX10_ends_0 ++ dktX10_ends_1
theorem dksX10_ends_0 : cX10_ends.data.toList.drop 0 = dktX10_ends_0 := by decide +kernel
theorem dksX10_ends_1 : cX10_ends.data.toList.drop 23 = dktX10_ends_1 := dk_seg dksX10_ends_0 23 rfl rfl
theorem dksX10_ends_2 : cX10_ends.data.toList.drop 47 = dktX10_ends_2 := dk_seg dksX10_ends_1 24 rfl rfl
theorem dX10_ends_0 : decode cX10_ends 0 = .ok (.bipush 6, 2) := dk_16 6 (dk_at dksX10_ends_0 0 rfl rfl)
theorem dX10_ends_2 : decode cX10_ends 2 = .ok (.iload 4, 2) := dk_21 4 (dk_at dksX10_ends_0 2 rfl rfl)
theorem dX10_ends_4 : decode cX10_ends 4 = .ok (.imul, 1) := dk_104 (dk_at dksX10_ends_0 4 rfl rfl)
theorem dX10_ends_5 : decode cX10_ends 5 = .ok (.bipush 6, 2) := dk_16 6 (dk_at dksX10_ends_0 5 rfl rfl)
theorem dX10_ends_7 : decode cX10_ends 7 = .ok (.iadd, 1) := dk_96 (dk_at dksX10_ends_0 7 rfl rfl)
theorem dX10_ends_8 : decode cX10_ends 8 = .ok (.bipush 7, 2) := dk_16 7 (dk_at dksX10_ends_0 8 rfl rfl)
theorem dX10_ends_10 : decode cX10_ends 10 = .ok (.iadd, 1) := dk_96 (dk_at dksX10_ends_0 10 rfl rfl)
theorem dX10_ends_11 : decode cX10_ends 11 = .ok (.bipush 8, 2) := dk_16 8 (dk_at dksX10_ends_0 11 rfl rfl)
theorem dX10_ends_13 : decode cX10_ends 13 = .ok (.idiv, 1) := dk_108 (dk_at dksX10_ends_0 13 rfl rfl)
theorem dX10_ends_14 : decode cX10_ends 14 = .ok (.istore 5, 2) := dk_54 5 (dk_at dksX10_ends_0 14 rfl rfl)
theorem dX10_ends_16 : decode cX10_ends 16 = .ok (.bipush 8, 2) := dk_16 8 (dk_at dksX10_ends_0 16 rfl rfl)
theorem dX10_ends_18 : decode cX10_ends 18 = .ok (.iload 5, 2) := dk_21 5 (dk_at dksX10_ends_0 18 rfl rfl)
theorem dX10_ends_20 : decode cX10_ends 20 = .ok (.imul, 1) := dk_104 (dk_at dksX10_ends_0 20 rfl rfl)
theorem dX10_ends_21 : decode cX10_ends 21 = .ok (.bipush 6, 2) := dk_16 6 (dk_at dksX10_ends_0 21 rfl rfl)
theorem dX10_ends_23 : decode cX10_ends 23 = .ok (.iload 4, 2) := dk_21 4 (dk_at dksX10_ends_1 0 rfl rfl)
theorem dX10_ends_25 : decode cX10_ends 25 = .ok (.imul, 1) := dk_104 (dk_at dksX10_ends_1 2 rfl rfl)
theorem dX10_ends_26 : decode cX10_ends 26 = .ok (.isub, 1) := dk_100 (dk_at dksX10_ends_1 3 rfl rfl)
theorem dX10_ends_27 : decode cX10_ends 27 = .ok (.bipush 6, 2) := dk_16 6 (dk_at dksX10_ends_1 4 rfl rfl)
theorem dX10_ends_29 : decode cX10_ends 29 = .ok (.isub, 1) := dk_100 (dk_at dksX10_ends_1 6 rfl rfl)
theorem dX10_ends_30 : decode cX10_ends 30 = .ok (.istore 6, 2) := dk_54 6 (dk_at dksX10_ends_1 7 rfl rfl)
theorem dX10_ends_32 : decode cX10_ends 32 = .ok (.iload_n 3, 1) := dk_29 (dk_at dksX10_ends_1 9 rfl rfl)
theorem dX10_ends_33 : decode cX10_ends 33 = .ok (.bipush 24, 2) := dk_16 24 (dk_at dksX10_ends_1 10 rfl rfl)
theorem dX10_ends_35 : decode cX10_ends 35 = .ok (.bipush 8, 2) := dk_16 8 (dk_at dksX10_ends_1 12 rfl rfl)
theorem dX10_ends_37 : decode cX10_ends 37 = .ok (.iload 5, 2) := dk_21 5 (dk_at dksX10_ends_1 14 rfl rfl)
theorem dX10_ends_39 : decode cX10_ends 39 = .ok (.imul, 1) := dk_104 (dk_at dksX10_ends_1 16 rfl rfl)
theorem dX10_ends_40 : decode cX10_ends 40 = .ok (.isub, 1) := dk_100 (dk_at dksX10_ends_1 17 rfl rfl)
theorem dX10_ends_41 : decode cX10_ends 41 = .ok (.ishr, 1) := dk_122 (dk_at dksX10_ends_1 18 rfl rfl)
theorem dX10_ends_42 : decode cX10_ends 42 = .ok (.iconst 1, 1) := dk_4 (dk_at dksX10_ends_1 19 rfl rfl)
theorem dX10_ends_43 : decode cX10_ends 43 = .ok (.iload 6, 2) := dk_21 6 (dk_at dksX10_ends_1 20 rfl rfl)
theorem dX10_ends_45 : decode cX10_ends 45 = .ok (.ishl, 1) := dk_120 (dk_at dksX10_ends_1 22 rfl rfl)
theorem dX10_ends_46 : decode cX10_ends 46 = .ok (.iconst 1, 1) := dk_4 (dk_at dksX10_ends_1 23 rfl rfl)
theorem dX10_ends_47 : decode cX10_ends 47 = .ok (.isub, 1) := dk_100 (dk_at dksX10_ends_2 0 rfl rfl)
theorem dX10_ends_48 : decode cX10_ends 48 = .ok (.iand, 1) := dk_126 (dk_at dksX10_ends_2 1 rfl rfl)
theorem dX10_ends_49 : decode cX10_ends 49 = .ok (.ifCond .eq 11, 3) := dk_153 0 11 (dk_at dksX10_ends_2 2 rfl rfl)
theorem dX10_ends_52 : decode cX10_ends 52 = .ok (.new 35, 3) := dk_187 0 35 (dk_at dksX10_ends_2 5 rfl rfl)
theorem dX10_ends_55 : decode cX10_ends 55 = .ok (.dup, 1) := dk_89 (dk_at dksX10_ends_2 8 rfl rfl)
theorem dX10_ends_56 : decode cX10_ends 56 = .ok (.invokespecial 37, 3) := dk_183 0 37 (dk_at dksX10_ends_2 9 rfl rfl)
theorem dX10_ends_59 : decode cX10_ends 59 = .ok (.athrow, 1) := dk_191 (dk_at dksX10_ends_2 12 rfl rfl)
theorem dX10_ends_60 : decode cX10_ends 60 = .ok (.aload_n 1, 1) := dk_43 (dk_at dksX10_ends_2 13 rfl rfl)
theorem dX10_ends_61 : decode cX10_ends 61 = .ok (.iload_n 2, 1) := dk_28 (dk_at dksX10_ends_2 14 rfl rfl)
theorem dX10_ends_62 : decode cX10_ends 62 = .ok (.iload 5, 2) := dk_21 5 (dk_at dksX10_ends_2 15 rfl rfl)
theorem dX10_ends_64 : decode cX10_ends 64 = .ok (.iadd, 1) := dk_96 (dk_at dksX10_ends_2 17 rfl rfl)
theorem dX10_ends_65 : decode cX10_ends 65 = .ok (.putfield 21, 3) := dk_181 0 21 (dk_at dksX10_ends_2 18 rfl rfl)
theorem dX10_ends_68 : decode cX10_ends 68 = .ok (.return_, 1) := dk_177 (dk_at dksX10_ends_2 21 rfl rfl)
theorem q124 : (Jvm.Cond.initialized "MatrixPress$Edifact") ∈ lw_all := lw_g (lw_at lw_m1 17 rfl) rfl
theorem q226 : (Jvm.Cond.fieldLinkNest "MatrixPress$Edifact" (21 : Nat) "MatrixPress$Stream" "at" "I" "MatrixPress") ∈ lw_tbl := lw_at lw_m1 119 rfl
theorem q405 : (Jvm.Cond.selects "MatrixPress$Edifact" ({ cls := "java/lang/Object", name := "getClass", desc := "()Ljava/lang/Class;" } : Jvm.MethodName) ({ cls := "java/lang/Object", name := "getClass", desc := "()Ljava/lang/Class;" } : Jvm.MethodName)) ∈ lw_all := lw_g (lw_at lw_m2 58 rfl) rfl
theorem q445 : (Jvm.Cond.instantiable "MatrixPress$Edifact" (4 : Nat)) ∈ lw_all := lw_g (lw_at lw_m2 98 rfl) rfl
theorem q447 : (Jvm.Cond.instanceMethod ({ cls := "MatrixPress$Edifact", name := "<init>", desc := "()V" } : Jvm.MethodName)) ∈ lw_all := lw_g (lw_at lw_m2 100 rfl) rfl
theorem q448 : (Jvm.Cond.code ({ cls := "MatrixPress$Edifact", name := "<init>", desc := "()V" } : Jvm.MethodName) prog_4_method_1_code (1 : Nat) (Option.none : Option Jvm.ClassFile.FieldType)) ∈ lw_all := lw_g (lw_at lw_m2 101 rfl) rfl
theorem q449 : (Jvm.Cond.methodLink "MatrixPress$Edifact" (3 : Nat) ({ cls := "MatrixPress$Encodation", name := "<init>", desc := "(I)V" } : Jvm.MethodName)) ∈ lw_all := lw_g (lw_at lw_m2 102 rfl) rfl
theorem q450 : (Jvm.Cond.fieldLink "MatrixPress$Edifact" (9 : Nat) "MatrixPress$Edifact" "run" "[I") ∈ lw_all := lw_g (lw_at lw_m2 103 rfl) rfl
theorem q451 : (Jvm.Cond.fieldLink "MatrixPress$Edifact" (41 : Nat) "MatrixPress$Edifact" "bits" "I") ∈ lw_all := lw_g (lw_at lw_m2 104 rfl) rfl
theorem q452 : (Jvm.Cond.fieldLink "MatrixPress$Edifact" (44 : Nat) "MatrixPress$Edifact" "many" "I") ∈ lw_all := lw_g (lw_at lw_m2 105 rfl) rfl
theorem q453 : (Jvm.Cond.laysFinal "MatrixPress$Edifact" "MatrixPress$Edifact" "run" "[I") ∈ lw_all := lw_g (lw_at lw_m2 106 rfl) rfl
theorem q454 : (Jvm.Cond.soleField "MatrixPress$Edifact" "run") ∈ lw_all := lw_g (lw_at lw_m2 107 rfl) rfl
theorem q455 : (Jvm.Cond.lays "MatrixPress$Edifact" "MatrixPress$Edifact" "bits" "I") ∈ lw_all := lw_g (lw_at lw_m2 108 rfl) rfl
theorem q456 : (Jvm.Cond.soleField "MatrixPress$Edifact" "bits") ∈ lw_all := lw_g (lw_at lw_m2 109 rfl) rfl
theorem q457 : (Jvm.Cond.lays "MatrixPress$Edifact" "MatrixPress$Edifact" "many" "I") ∈ lw_all := lw_g (lw_at lw_m2 110 rfl) rfl
theorem q458 : (Jvm.Cond.soleField "MatrixPress$Edifact" "many") ∈ lw_all := lw_g (lw_at lw_m2 111 rfl) rfl
theorem q459 : (Jvm.Cond.laysFinal "MatrixPress$Edifact" "MatrixPress$Encodation" "latch" "I") ∈ lw_all := lw_g (lw_at lw_m2 112 rfl) rfl
theorem q460 : (Jvm.Cond.superclass "MatrixPress$Edifact" "MatrixPress$Encodation") ∈ lw_all := lw_g (lw_at lw_m2 113 rfl) rfl
theorem q616 : (Jvm.Cond.selects "MatrixPress$Edifact" ({ cls := "MatrixPress$Encodation", name := "prepare", desc := "([BI)V" } : Jvm.MethodName) ({ cls := "MatrixPress$Edifact", name := "prepare", desc := "([BI)V" } : Jvm.MethodName)) ∈ lw_all := lw_g (lw_at lw_m3 29 rfl) rfl
theorem q617 : (Jvm.Cond.instanceMethod ({ cls := "MatrixPress$Edifact", name := "prepare", desc := "([BI)V" } : Jvm.MethodName)) ∈ lw_all := lw_g (lw_at lw_m3 30 rfl) rfl
theorem q618 : (Jvm.Cond.code ({ cls := "MatrixPress$Edifact", name := "prepare", desc := "([BI)V" } : Jvm.MethodName) prog_4_method_4_code (4 : Nat) (Option.none : Option Jvm.ClassFile.FieldType)) ∈ lw_all := lw_g (lw_at lw_m3 31 rfl) rfl
theorem q650 : (Jvm.Cond.selects "MatrixPress$Edifact" ({ cls := "MatrixPress$Encodation", name := "closed", desc := "(II)I" } : Jvm.MethodName) ({ cls := "MatrixPress$Edifact", name := "closed", desc := "(II)I" } : Jvm.MethodName)) ∈ lw_all := lw_g (lw_at lw_m3 63 rfl) rfl
theorem q651 : (Jvm.Cond.instanceMethod ({ cls := "MatrixPress$Edifact", name := "closed", desc := "(II)I" } : Jvm.MethodName)) ∈ lw_all := lw_g (lw_at lw_m3 64 rfl) rfl
theorem q652 : (Jvm.Cond.code ({ cls := "MatrixPress$Edifact", name := "closed", desc := "(II)I" } : Jvm.MethodName) prog_4_method_6_code (3 : Nat) (Option.some Jvm.ClassFile.FieldType.int)) ∈ lw_all := lw_g (lw_at lw_m3 65 rfl) rfl
theorem q653 : (Jvm.Cond.constant "MatrixPress$Edifact" (40 : Nat) (1000000 : Int32)) ∈ lw_all := lw_g (lw_at lw_m3 66 rfl) rfl
theorem q689 : (Jvm.Cond.selects "MatrixPress$Edifact" ({ cls := "MatrixPress$Encodation", name := "open", desc := "(II)I" } : Jvm.MethodName) ({ cls := "MatrixPress$Edifact", name := "open", desc := "(II)I" } : Jvm.MethodName)) ∈ lw_all := lw_g (lw_at lw_m3 102 rfl) rfl
theorem q690 : (Jvm.Cond.instanceMethod ({ cls := "MatrixPress$Edifact", name := "open", desc := "(II)I" } : Jvm.MethodName)) ∈ lw_all := lw_g (lw_at lw_m3 103 rfl) rfl
theorem q691 : (Jvm.Cond.code ({ cls := "MatrixPress$Edifact", name := "open", desc := "(II)I" } : Jvm.MethodName) prog_4_method_5_code (3 : Nat) (Option.some Jvm.ClassFile.FieldType.int)) ∈ lw_all := lw_g (lw_at lw_m3 104 rfl) rfl
theorem q700 : (Jvm.Cond.selects "MatrixPress$Edifact" ({ cls := "MatrixPress$Encodation", name := "leaves", desc := "()I" } : Jvm.MethodName) ({ cls := "MatrixPress$Edifact", name := "leaves", desc := "()I" } : Jvm.MethodName)) ∈ lw_all := lw_g (lw_at lw_m3 113 rfl) rfl
theorem q701 : (Jvm.Cond.instanceMethod ({ cls := "MatrixPress$Edifact", name := "leaves", desc := "()I" } : Jvm.MethodName)) ∈ lw_all := lw_g (lw_at lw_m3 114 rfl) rfl
theorem q702 : (Jvm.Cond.code ({ cls := "MatrixPress$Edifact", name := "leaves", desc := "()I" } : Jvm.MethodName) prog_4_method_7_code (1 : Nat) (Option.some Jvm.ClassFile.FieldType.int)) ∈ lw_all := lw_g (lw_at lw_m3 115 rfl) rfl
theorem q793 : (Jvm.Cond.selects "MatrixPress$Edifact" ({ cls := "MatrixPress$Encodation", name := "write", desc := "(LMatrixPress$Stream;[BIIZ)V" } : Jvm.MethodName) ({ cls := "MatrixPress$Edifact", name := "write", desc := "(LMatrixPress$Stream;[BIIZ)V" } : Jvm.MethodName)) ∈ lw_all := lw_g (lw_at lw_m3 206 rfl) rfl
theorem q794 : (Jvm.Cond.instanceMethod ({ cls := "MatrixPress$Edifact", name := "write", desc := "(LMatrixPress$Stream;[BIIZ)V" } : Jvm.MethodName)) ∈ lw_all := lw_g (lw_at lw_m3 207 rfl) rfl
theorem q795 : (Jvm.Cond.code ({ cls := "MatrixPress$Edifact", name := "write", desc := "(LMatrixPress$Stream;[BIIZ)V" } : Jvm.MethodName) prog_4_method_9_code (7 : Nat) (Option.none : Option Jvm.ClassFile.FieldType)) ∈ lw_all := lw_g (lw_at lw_m3 208 rfl) rfl
theorem q796 : (Jvm.Cond.methodLink "MatrixPress$Edifact" (50 : Nat) ({ cls := "MatrixPress$Edifact", name := "add", desc := "(LMatrixPress$Stream;I)V" } : Jvm.MethodName)) ∈ lw_all := lw_g (lw_at lw_m3 209 rfl) rfl
theorem q797 : (Jvm.Cond.privateMethod ({ cls := "MatrixPress$Edifact", name := "add", desc := "(LMatrixPress$Stream;I)V" } : Jvm.MethodName)) ∈ lw_tbl := lw_at lw_m3 210 rfl
theorem q798 : (Jvm.Cond.instanceMethod ({ cls := "MatrixPress$Edifact", name := "add", desc := "(LMatrixPress$Stream;I)V" } : Jvm.MethodName)) ∈ lw_all := lw_g (lw_at lw_m3 211 rfl) rfl
theorem q799 : (Jvm.Cond.code ({ cls := "MatrixPress$Edifact", name := "add", desc := "(LMatrixPress$Stream;I)V" } : Jvm.MethodName) prog_4_method_8_code (3 : Nat) (Option.none : Option Jvm.ClassFile.FieldType)) ∈ lw_all := lw_g (lw_at lw_m3 212 rfl) rfl
theorem q800 : (Jvm.Cond.methodLink "MatrixPress$Edifact" (47 : Nat) ({ cls := "MatrixPress$Stream", name := "put", desc := "(I)V" } : Jvm.MethodName)) ∈ lw_all := lw_g (lw_at lw_m3 213 rfl) rfl
theorem q1043 : (Jvm.Cond.selects "MatrixPress$Edifact" ({ cls := "MatrixPress$Encodation", name := "read", desc := "(LMatrixPress$Stream;)V" } : Jvm.MethodName) ({ cls := "MatrixPress$Edifact", name := "read", desc := "(LMatrixPress$Stream;)V" } : Jvm.MethodName)) ∈ lw_all := lw_g (lw_at lw_m4 216 rfl) rfl
theorem q1044 : (Jvm.Cond.instanceMethod ({ cls := "MatrixPress$Edifact", name := "read", desc := "(LMatrixPress$Stream;)V" } : Jvm.MethodName)) ∈ lw_all := lw_g (lw_at lw_m4 217 rfl) rfl
theorem q1045 : (Jvm.Cond.code ({ cls := "MatrixPress$Edifact", name := "read", desc := "(LMatrixPress$Stream;)V" } : Jvm.MethodName) prog_4_method_2_code (6 : Nat) (Option.none : Option Jvm.ClassFile.FieldType)) ∈ lw_all := lw_g (lw_at lw_m4 218 rfl) rfl
theorem q1046 : (Jvm.Cond.methodLink "MatrixPress$Edifact" (15 : Nat) ({ cls := "MatrixPress$Stream", name := "left", desc := "()I" } : Jvm.MethodName)) ∈ lw_all := lw_g (lw_at lw_m4 219 rfl) rfl
theorem q1047 : (Jvm.Cond.methodLink "MatrixPress$Edifact" (25 : Nat) ({ cls := "MatrixPress$Stream", name := "next", desc := "()I" } : Jvm.MethodName)) ∈ lw_all := lw_g (lw_at lw_m4 220 rfl) rfl
theorem q1048 : (Jvm.Cond.methodLink "MatrixPress$Edifact" (28 : Nat) ({ cls := "MatrixPress$Edifact", name := "ends", desc := "(LMatrixPress$Stream;III)V" } : Jvm.MethodName)) ∈ lw_all := lw_g (lw_at lw_m4 221 rfl) rfl
theorem q1049 : (Jvm.Cond.privateMethod ({ cls := "MatrixPress$Edifact", name := "ends", desc := "(LMatrixPress$Stream;III)V" } : Jvm.MethodName)) ∈ lw_tbl := lw_at lw_m4 222 rfl
theorem q1050 : (Jvm.Cond.instanceMethod ({ cls := "MatrixPress$Edifact", name := "ends", desc := "(LMatrixPress$Stream;III)V" } : Jvm.MethodName)) ∈ lw_all := lw_g (lw_at lw_m4 223 rfl) rfl
theorem q1051 : (Jvm.Cond.code ({ cls := "MatrixPress$Edifact", name := "ends", desc := "(LMatrixPress$Stream;III)V" } : Jvm.MethodName) prog_4_method_3_code (7 : Nat) (Option.none : Option Jvm.ClassFile.FieldType)) ∈ lw_all := lw_g (lw_at lw_m4 224 rfl) rfl
theorem q1052 : (Jvm.Cond.classLink "MatrixPress$Edifact" (35 : Nat) "MatrixPress$NoStream") ∈ lw_all := lw_g (lw_at lw_m4 225 rfl) rfl
theorem q1053 : (Jvm.Cond.methodLink "MatrixPress$Edifact" (37 : Nat) ({ cls := "MatrixPress$NoStream", name := "<init>", desc := "()V" } : Jvm.MethodName)) ∈ lw_all := lw_g (lw_at lw_m4 226 rfl) rfl
theorem q1054 : (Jvm.Cond.methodLink "MatrixPress$Edifact" (32 : Nat) ({ cls := "MatrixPress$Stream", name := "tell", desc := "(I)V" } : Jvm.MethodName)) ∈ lw_all := lw_g (lw_at lw_m4 227 rfl) rfl
theorem q1741 : (Jvm.Cond.castable "MatrixPress$Edifact" "MatrixPress$Encodation") ∈ lw_tbl := lw_at lw_m7 194 rfl
theorem q1752 : (Jvm.Cond.castable "MatrixPress$Edifact" "java/lang/Object") ∈ lw_tbl := lw_at lw_m7 205 rfl
theorem in_X10 : ∀ w ∈ wsX100, w ∈ lw_all := lw_in wsX100 [459, 453, 455, 457] (by decide +kernel) (by decide +kernel)
/-! MatrixPress$Base -/
set_option maxRecDepth 100000
def RX11 : String := "MatrixPress$Base"
def TX11 : u_T := fun k => match k with
  | 0 => ("MatrixPress$Encodation", "latch", "I", true)
  | _ => ("MatrixPress$Base", "behind", "I", false)
def tyX11 : Nat → FieldType := fun k => match k with
  | 0 => .int
  | _ => .int
abbrev wsX110 : List Cond := u_ws RX11 TX11 2
theorem nmX11 : ∀ a, a < 2 → ∀ b, b < 2 → a ≠ b → (TX11 a).2.1 ≠ (TX11 b).2.1 := by decide +kernel
theorem tyX11_ok : ∀ k, k < 2 → parseFieldDescriptor (TX11 k).2.2.1 = some (tyX11 k) := by decide +kernel
abbrev cX11_init : ByteArray := prog_2_method_1_code
def yX11_init : MethodName := ⟨RX11, "<init>", "()V"⟩
def dkwX11_init_0 : List UInt8 := [42, 17, 0, 231, 183, 0, 3, 177]
abbrev dktX11_init_0 : List UInt8 := dkwX11_init_0 ++ []
theorem dksX11_init_0 : cX11_init.data.toList.drop 0 = dktX11_init_0 := by decide +kernel
theorem dX11_init_0 : decode cX11_init 0 = .ok (.aload_n 0, 1) := dk_42 (dk_at dksX11_init_0 0 rfl rfl)
theorem dX11_init_1 : decode cX11_init 1 = .ok (.sipush 231, 3) := dk_17 0 231 (dk_at dksX11_init_0 1 rfl rfl)
theorem dX11_init_4 : decode cX11_init 4 = .ok (.invokespecial 3, 3) := dk_183 0 3 (dk_at dksX11_init_0 4 rfl rfl)
theorem dX11_init_7 : decode cX11_init 7 = .ok (.return_, 1) := dk_177 (dk_at dksX11_init_0 7 rfl rfl)
abbrev cX11_prepare : ByteArray := prog_2_method_5_code
def yX11_prepare : MethodName := ⟨RX11, "prepare", "([BI)V"⟩
def dkwX11_prepare_0 : List UInt8 := [42, 28, 181, 0, 35, 177]
abbrev dktX11_prepare_0 : List UInt8 := dkwX11_prepare_0 ++ []
theorem dksX11_prepare_0 : cX11_prepare.data.toList.drop 0 = dktX11_prepare_0 := by decide +kernel
theorem dX11_prepare_0 : decode cX11_prepare 0 = .ok (.aload_n 0, 1) := dk_42 (dk_at dksX11_prepare_0 0 rfl rfl)
theorem dX11_prepare_1 : decode cX11_prepare 1 = .ok (.iload_n 2, 1) := dk_28 (dk_at dksX11_prepare_0 1 rfl rfl)
theorem dX11_prepare_2 : decode cX11_prepare 2 = .ok (.putfield 35, 3) := dk_181 0 35 (dk_at dksX11_prepare_0 2 rfl rfl)
theorem dX11_prepare_5 : decode cX11_prepare 5 = .ok (.return_, 1) := dk_177 (dk_at dksX11_prepare_0 5 rfl rfl)
abbrev cX11_closed : ByteArray := prog_2_method_7_code
def yX11_closed : MethodName := ⟨RX11, "closed", "(II)I"⟩
def dkwX11_closed_1 : List UInt8 := [167, 0, 5, 18, 38, 172]
abbrev dktX11_closed_1 : List UInt8 := dkwX11_closed_1 ++ []
def dkwX11_closed_0 : List UInt8 := [28, 17, 0, 249, 163, 0, 9, 5, 28, 96, 167, 0, 18, 28, 17, 6, 213, 163, 0, 9, 6, 28, 96]
abbrev dktX11_closed_0 : List UInt8 := dkwX11_closed_0 ++ dktX11_closed_1
theorem dksX11_closed_0 : cX11_closed.data.toList.drop 0 = dktX11_closed_0 := by decide +kernel
theorem dksX11_closed_1 : cX11_closed.data.toList.drop 23 = dktX11_closed_1 := dk_seg dksX11_closed_0 23 rfl rfl
theorem dX11_closed_0 : decode cX11_closed 0 = .ok (.iload_n 2, 1) := dk_28 (dk_at dksX11_closed_0 0 rfl rfl)
theorem dX11_closed_1 : decode cX11_closed 1 = .ok (.sipush 249, 3) := dk_17 0 249 (dk_at dksX11_closed_0 1 rfl rfl)
theorem dX11_closed_4 : decode cX11_closed 4 = .ok (.if_icmp .gt 9, 3) := dk_163 0 9 (dk_at dksX11_closed_0 4 rfl rfl)
theorem dX11_closed_7 : decode cX11_closed 7 = .ok (.iconst 2, 1) := dk_5 (dk_at dksX11_closed_0 7 rfl rfl)
theorem dX11_closed_8 : decode cX11_closed 8 = .ok (.iload_n 2, 1) := dk_28 (dk_at dksX11_closed_0 8 rfl rfl)
theorem dX11_closed_9 : decode cX11_closed 9 = .ok (.iadd, 1) := dk_96 (dk_at dksX11_closed_0 9 rfl rfl)
theorem dX11_closed_10 : decode cX11_closed 10 = .ok (.goto 18, 3) := dk_167 0 18 (dk_at dksX11_closed_0 10 rfl rfl)
theorem dX11_closed_13 : decode cX11_closed 13 = .ok (.iload_n 2, 1) := dk_28 (dk_at dksX11_closed_0 13 rfl rfl)
theorem dX11_closed_14 : decode cX11_closed 14 = .ok (.sipush 1749, 3) := dk_17 6 213 (dk_at dksX11_closed_0 14 rfl rfl)
theorem dX11_closed_17 : decode cX11_closed 17 = .ok (.if_icmp .gt 9, 3) := dk_163 0 9 (dk_at dksX11_closed_0 17 rfl rfl)
theorem dX11_closed_20 : decode cX11_closed 20 = .ok (.iconst 3, 1) := dk_6 (dk_at dksX11_closed_0 20 rfl rfl)
theorem dX11_closed_21 : decode cX11_closed 21 = .ok (.iload_n 2, 1) := dk_28 (dk_at dksX11_closed_0 21 rfl rfl)
theorem dX11_closed_22 : decode cX11_closed 22 = .ok (.iadd, 1) := dk_96 (dk_at dksX11_closed_0 22 rfl rfl)
theorem dX11_closed_23 : decode cX11_closed 23 = .ok (.goto 5, 3) := dk_167 0 5 (dk_at dksX11_closed_1 0 rfl rfl)
theorem dX11_closed_26 : decode cX11_closed 26 = .ok (.ldc 38, 2) := dk_18 38 (dk_at dksX11_closed_1 3 rfl rfl)
theorem dX11_closed_28 : decode cX11_closed 28 = .ok (.ireturn, 1) := dk_172 (dk_at dksX11_closed_1 5 rfl rfl)
abbrev cX11_open : ByteArray := prog_2_method_6_code
def yX11_open : MethodName := ⟨RX11, "open", "(II)I"⟩
def dkwX11_open_0 : List UInt8 := [27, 28, 96, 42, 180, 0, 35, 160, 0, 9, 5, 28, 96, 167, 0, 5, 18, 38, 172]
abbrev dktX11_open_0 : List UInt8 := dkwX11_open_0 ++ []
theorem dksX11_open_0 : cX11_open.data.toList.drop 0 = dktX11_open_0 := by decide +kernel
theorem dX11_open_0 : decode cX11_open 0 = .ok (.iload_n 1, 1) := dk_27 (dk_at dksX11_open_0 0 rfl rfl)
theorem dX11_open_1 : decode cX11_open 1 = .ok (.iload_n 2, 1) := dk_28 (dk_at dksX11_open_0 1 rfl rfl)
theorem dX11_open_2 : decode cX11_open 2 = .ok (.iadd, 1) := dk_96 (dk_at dksX11_open_0 2 rfl rfl)
theorem dX11_open_3 : decode cX11_open 3 = .ok (.aload_n 0, 1) := dk_42 (dk_at dksX11_open_0 3 rfl rfl)
theorem dX11_open_4 : decode cX11_open 4 = .ok (.getfield 35, 3) := dk_180 0 35 (dk_at dksX11_open_0 4 rfl rfl)
theorem dX11_open_7 : decode cX11_open 7 = .ok (.if_icmp .ne 9, 3) := dk_160 0 9 (dk_at dksX11_open_0 7 rfl rfl)
theorem dX11_open_10 : decode cX11_open 10 = .ok (.iconst 2, 1) := dk_5 (dk_at dksX11_open_0 10 rfl rfl)
theorem dX11_open_11 : decode cX11_open 11 = .ok (.iload_n 2, 1) := dk_28 (dk_at dksX11_open_0 11 rfl rfl)
theorem dX11_open_12 : decode cX11_open 12 = .ok (.iadd, 1) := dk_96 (dk_at dksX11_open_0 12 rfl rfl)
theorem dX11_open_13 : decode cX11_open 13 = .ok (.goto 5, 3) := dk_167 0 5 (dk_at dksX11_open_0 13 rfl rfl)
theorem dX11_open_16 : decode cX11_open 16 = .ok (.ldc 38, 2) := dk_18 38 (dk_at dksX11_open_0 16 rfl rfl)
theorem dX11_open_18 : decode cX11_open 18 = .ok (.ireturn, 1) := dk_172 (dk_at dksX11_open_0 18 rfl rfl)
abbrev cX11_leaves : ByteArray := prog_2_method_8_code
def yX11_leaves : MethodName := ⟨RX11, "leaves", "()I"⟩
theorem dX11_leaves_0 : decode cX11_leaves 0 = .ok (.iconst 0, 1) := by decide +kernel
theorem dX11_leaves_1 : decode cX11_leaves 1 = .ok (.ireturn, 1) := by decide +kernel
abbrev cX11_write : ByteArray := prog_2_method_10_code
def yX11_write : MethodName := ⟨RX11, "write", "(LMatrixPress$Stream;[BIIZ)V"⟩
def dkwX11_write_3 : List UInt8 := [184, 0, 42, 132, 6, 1, 167, 255, 236, 177]
abbrev dktX11_write_3 : List UInt8 := dkwX11_write_3 ++ []
def dkwX11_write_2 : List UInt8 := [17, 0, 250, 112, 184, 0, 42, 29, 54, 6, 21, 6, 29, 21, 4, 96, 162, 0, 17, 43, 44, 21, 6, 51]
abbrev dktX11_write_2 : List UInt8 := dkwX11_write_2 ++ dktX11_write_3
def dkwX11_write_1 : List UInt8 := [184, 0, 42, 167, 0, 27, 43, 21, 4, 17, 0, 250, 108, 17, 0, 249, 96, 184, 0, 42, 43, 21, 4]
abbrev dktX11_write_1 : List UInt8 := dkwX11_write_1 ++ dktX11_write_2
def dkwX11_write_0 : List UInt8 := [21, 5, 154, 0, 11, 43, 3, 184, 0, 42, 167, 0, 44, 21, 4, 17, 0, 249, 163, 0, 12, 43, 21, 4]
abbrev dktX11_write_0 : List UInt8 := dkwX11_write_0 ++ dktX11_write_1
theorem dksX11_write_0 : cX11_write.data.toList.drop 0 = dktX11_write_0 := by decide +kernel
theorem dksX11_write_1 : cX11_write.data.toList.drop 24 = dktX11_write_1 := dk_seg dksX11_write_0 24 rfl rfl
theorem dksX11_write_2 : cX11_write.data.toList.drop 47 = dktX11_write_2 := dk_seg dksX11_write_1 23 rfl rfl
theorem dksX11_write_3 : cX11_write.data.toList.drop 71 = dktX11_write_3 := dk_seg dksX11_write_2 24 rfl rfl
theorem dX11_write_0 : decode cX11_write 0 = .ok (.iload 5, 2) := dk_21 5 (dk_at dksX11_write_0 0 rfl rfl)
theorem dX11_write_2 : decode cX11_write 2 = .ok (.ifCond .ne 11, 3) := dk_154 0 11 (dk_at dksX11_write_0 2 rfl rfl)
theorem dX11_write_5 : decode cX11_write 5 = .ok (.aload_n 1, 1) := dk_43 (dk_at dksX11_write_0 5 rfl rfl)
theorem dX11_write_6 : decode cX11_write 6 = .ok (.iconst 0, 1) := dk_3 (dk_at dksX11_write_0 6 rfl rfl)
theorem dX11_write_7 : decode cX11_write 7 = .ok (.invokestatic 42, 3) := dk_184 0 42 (dk_at dksX11_write_0 7 rfl rfl)
theorem dX11_write_10 : decode cX11_write 10 = .ok (.goto 44, 3) := dk_167 0 44 (dk_at dksX11_write_0 10 rfl rfl)
theorem dX11_write_13 : decode cX11_write 13 = .ok (.iload 4, 2) := dk_21 4 (dk_at dksX11_write_0 13 rfl rfl)
theorem dX11_write_15 : decode cX11_write 15 = .ok (.sipush 249, 3) := dk_17 0 249 (dk_at dksX11_write_0 15 rfl rfl)
theorem dX11_write_18 : decode cX11_write 18 = .ok (.if_icmp .gt 12, 3) := dk_163 0 12 (dk_at dksX11_write_0 18 rfl rfl)
theorem dX11_write_21 : decode cX11_write 21 = .ok (.aload_n 1, 1) := dk_43 (dk_at dksX11_write_0 21 rfl rfl)
theorem dX11_write_22 : decode cX11_write 22 = .ok (.iload 4, 2) := dk_21 4 (dk_at dksX11_write_0 22 rfl rfl)
theorem dX11_write_24 : decode cX11_write 24 = .ok (.invokestatic 42, 3) := dk_184 0 42 (dk_at dksX11_write_1 0 rfl rfl)
theorem dX11_write_27 : decode cX11_write 27 = .ok (.goto 27, 3) := dk_167 0 27 (dk_at dksX11_write_1 3 rfl rfl)
theorem dX11_write_30 : decode cX11_write 30 = .ok (.aload_n 1, 1) := dk_43 (dk_at dksX11_write_1 6 rfl rfl)
theorem dX11_write_31 : decode cX11_write 31 = .ok (.iload 4, 2) := dk_21 4 (dk_at dksX11_write_1 7 rfl rfl)
theorem dX11_write_33 : decode cX11_write 33 = .ok (.sipush 250, 3) := dk_17 0 250 (dk_at dksX11_write_1 9 rfl rfl)
theorem dX11_write_36 : decode cX11_write 36 = .ok (.idiv, 1) := dk_108 (dk_at dksX11_write_1 12 rfl rfl)
theorem dX11_write_37 : decode cX11_write 37 = .ok (.sipush 249, 3) := dk_17 0 249 (dk_at dksX11_write_1 13 rfl rfl)
theorem dX11_write_40 : decode cX11_write 40 = .ok (.iadd, 1) := dk_96 (dk_at dksX11_write_1 16 rfl rfl)
theorem dX11_write_41 : decode cX11_write 41 = .ok (.invokestatic 42, 3) := dk_184 0 42 (dk_at dksX11_write_1 17 rfl rfl)
theorem dX11_write_44 : decode cX11_write 44 = .ok (.aload_n 1, 1) := dk_43 (dk_at dksX11_write_1 20 rfl rfl)
theorem dX11_write_45 : decode cX11_write 45 = .ok (.iload 4, 2) := dk_21 4 (dk_at dksX11_write_1 21 rfl rfl)
theorem dX11_write_47 : decode cX11_write 47 = .ok (.sipush 250, 3) := dk_17 0 250 (dk_at dksX11_write_2 0 rfl rfl)
theorem dX11_write_50 : decode cX11_write 50 = .ok (.irem, 1) := dk_112 (dk_at dksX11_write_2 3 rfl rfl)
theorem dX11_write_51 : decode cX11_write 51 = .ok (.invokestatic 42, 3) := dk_184 0 42 (dk_at dksX11_write_2 4 rfl rfl)
theorem dX11_write_54 : decode cX11_write 54 = .ok (.iload_n 3, 1) := dk_29 (dk_at dksX11_write_2 7 rfl rfl)
theorem dX11_write_55 : decode cX11_write 55 = .ok (.istore 6, 2) := dk_54 6 (dk_at dksX11_write_2 8 rfl rfl)
theorem dX11_write_57 : decode cX11_write 57 = .ok (.iload 6, 2) := dk_21 6 (dk_at dksX11_write_2 10 rfl rfl)
theorem dX11_write_59 : decode cX11_write 59 = .ok (.iload_n 3, 1) := dk_29 (dk_at dksX11_write_2 12 rfl rfl)
theorem dX11_write_60 : decode cX11_write 60 = .ok (.iload 4, 2) := dk_21 4 (dk_at dksX11_write_2 13 rfl rfl)
theorem dX11_write_62 : decode cX11_write 62 = .ok (.iadd, 1) := dk_96 (dk_at dksX11_write_2 15 rfl rfl)
theorem dX11_write_63 : decode cX11_write 63 = .ok (.if_icmp .ge 17, 3) := dk_162 0 17 (dk_at dksX11_write_2 16 rfl rfl)
theorem dX11_write_66 : decode cX11_write 66 = .ok (.aload_n 1, 1) := dk_43 (dk_at dksX11_write_2 19 rfl rfl)
theorem dX11_write_67 : decode cX11_write 67 = .ok (.aload_n 2, 1) := dk_44 (dk_at dksX11_write_2 20 rfl rfl)
theorem dX11_write_68 : decode cX11_write 68 = .ok (.iload 6, 2) := dk_21 6 (dk_at dksX11_write_2 21 rfl rfl)
theorem dX11_write_70 : decode cX11_write 70 = .ok (.baload, 1) := dk_51 (dk_at dksX11_write_2 23 rfl rfl)
theorem dX11_write_71 : decode cX11_write 71 = .ok (.invokestatic 42, 3) := dk_184 0 42 (dk_at dksX11_write_3 0 rfl rfl)
theorem dX11_write_74 : decode cX11_write 74 = .ok (.iinc 6 1, 3) := dk_132 6 1 (dk_at dksX11_write_3 3 rfl rfl)
theorem dX11_write_77 : decode cX11_write 77 = .ok (.goto (-20), 3) := dk_167 255 236 (dk_at dksX11_write_3 6 rfl rfl)
theorem dX11_write_80 : decode cX11_write 80 = .ok (.return_, 1) := dk_177 (dk_at dksX11_write_3 9 rfl rfl)
abbrev cX11_put : ByteArray := prog_2_method_9_code
def yX11_put : MethodName := ⟨RX11, "put", "(LMatrixPress$Stream;I)V"⟩
def dkwX11_put_0 : List UInt8 := [42, 27, 42, 180, 0, 15, 4, 96, 184, 0, 19, 96, 17, 0, 255, 126, 182, 0, 39, 177]
abbrev dktX11_put_0 : List UInt8 := dkwX11_put_0 ++ []
theorem dksX11_put_0 : cX11_put.data.toList.drop 0 = dktX11_put_0 := by decide +kernel
theorem dX11_put_0 : decode cX11_put 0 = .ok (.aload_n 0, 1) := dk_42 (dk_at dksX11_put_0 0 rfl rfl)
theorem dX11_put_1 : decode cX11_put 1 = .ok (.iload_n 1, 1) := dk_27 (dk_at dksX11_put_0 1 rfl rfl)
theorem dX11_put_2 : decode cX11_put 2 = .ok (.aload_n 0, 1) := dk_42 (dk_at dksX11_put_0 2 rfl rfl)
theorem dX11_put_3 : decode cX11_put 3 = .ok (.getfield 15, 3) := dk_180 0 15 (dk_at dksX11_put_0 3 rfl rfl)
theorem dX11_put_6 : decode cX11_put 6 = .ok (.iconst 1, 1) := dk_4 (dk_at dksX11_put_0 6 rfl rfl)
theorem dX11_put_7 : decode cX11_put 7 = .ok (.iadd, 1) := dk_96 (dk_at dksX11_put_0 7 rfl rfl)
theorem dX11_put_8 : decode cX11_put 8 = .ok (.invokestatic 19, 3) := dk_184 0 19 (dk_at dksX11_put_0 8 rfl rfl)
theorem dX11_put_11 : decode cX11_put 11 = .ok (.iadd, 1) := dk_96 (dk_at dksX11_put_0 11 rfl rfl)
theorem dX11_put_12 : decode cX11_put 12 = .ok (.sipush 255, 3) := dk_17 0 255 (dk_at dksX11_put_0 12 rfl rfl)
theorem dX11_put_15 : decode cX11_put 15 = .ok (.iand, 1) := dk_126 (dk_at dksX11_put_0 15 rfl rfl)
theorem dX11_put_16 : decode cX11_put 16 = .ok (.invokevirtual 39, 3) := dk_182 0 39 (dk_at dksX11_put_0 16 rfl rfl)
theorem dX11_put_19 : decode cX11_put 19 = .ok (.return_, 1) := dk_177 (dk_at dksX11_put_0 19 rfl rfl)
abbrev cX11_mask : ByteArray := prog_2_method_2_code
def yX11_mask : MethodName := ⟨RX11, "mask", "(I)I"⟩
def dkwX11_mask_0 : List UInt8 := [17, 0, 149, 26, 104, 17, 0, 255, 112, 4, 96, 172]
abbrev dktX11_mask_0 : List UInt8 := dkwX11_mask_0 ++ []
theorem dksX11_mask_0 : cX11_mask.data.toList.drop 0 = dktX11_mask_0 := by decide +kernel
theorem dX11_mask_0 : decode cX11_mask 0 = .ok (.sipush 149, 3) := dk_17 0 149 (dk_at dksX11_mask_0 0 rfl rfl)
theorem dX11_mask_3 : decode cX11_mask 3 = .ok (.iload_n 0, 1) := dk_26 (dk_at dksX11_mask_0 3 rfl rfl)
theorem dX11_mask_4 : decode cX11_mask 4 = .ok (.imul, 1) := dk_104 (dk_at dksX11_mask_0 4 rfl rfl)
theorem dX11_mask_5 : decode cX11_mask 5 = .ok (.sipush 255, 3) := dk_17 0 255 (dk_at dksX11_mask_0 5 rfl rfl)
theorem dX11_mask_8 : decode cX11_mask 8 = .ok (.irem, 1) := dk_112 (dk_at dksX11_mask_0 8 rfl rfl)
theorem dX11_mask_9 : decode cX11_mask 9 = .ok (.iconst 1, 1) := dk_4 (dk_at dksX11_mask_0 9 rfl rfl)
theorem dX11_mask_10 : decode cX11_mask 10 = .ok (.iadd, 1) := dk_96 (dk_at dksX11_mask_0 10 rfl rfl)
theorem dX11_mask_11 : decode cX11_mask 11 = .ok (.ireturn, 1) := dk_172 (dk_at dksX11_mask_0 11 rfl rfl)
abbrev cX11_read : ByteArray := prog_2_method_4_code
def yX11_read : MethodName := ⟨RX11, "read", "(LMatrixPress$Stream;)V"⟩
def dkwX11_read_2 : List UInt8 := [162, 0, 17, 43, 43, 184, 0, 25, 182, 0, 32, 132, 4, 1, 167, 255, 239, 177]
abbrev dktX11_read_2 : List UInt8 := dkwX11_read_2 ++ []
def dkwX11_read_1 : List UInt8 := [167, 0, 17, 17, 0, 250, 28, 17, 0, 249, 100, 104, 43, 184, 0, 25, 96, 62, 3, 54, 4, 21, 4, 29]
abbrev dktX11_read_1 : List UInt8 := dkwX11_read_1 ++ dktX11_read_2
def dkwX11_read_0 : List UInt8 := [43, 184, 0, 25, 61, 28, 154, 0, 10, 43, 182, 0, 29, 167, 0, 28, 28, 17, 0, 249, 163, 0, 7, 28]
abbrev dktX11_read_0 : List UInt8 := dkwX11_read_0 ++ dktX11_read_1
theorem dksX11_read_0 : cX11_read.data.toList.drop 0 = dktX11_read_0 := by decide +kernel
theorem dksX11_read_1 : cX11_read.data.toList.drop 24 = dktX11_read_1 := dk_seg dksX11_read_0 24 rfl rfl
theorem dksX11_read_2 : cX11_read.data.toList.drop 48 = dktX11_read_2 := dk_seg dksX11_read_1 24 rfl rfl
theorem dX11_read_0 : decode cX11_read 0 = .ok (.aload_n 1, 1) := dk_43 (dk_at dksX11_read_0 0 rfl rfl)
theorem dX11_read_1 : decode cX11_read 1 = .ok (.invokestatic 25, 3) := dk_184 0 25 (dk_at dksX11_read_0 1 rfl rfl)
theorem dX11_read_4 : decode cX11_read 4 = .ok (.istore_n 2, 1) := dk_61 (dk_at dksX11_read_0 4 rfl rfl)
theorem dX11_read_5 : decode cX11_read 5 = .ok (.iload_n 2, 1) := dk_28 (dk_at dksX11_read_0 5 rfl rfl)
theorem dX11_read_6 : decode cX11_read 6 = .ok (.ifCond .ne 10, 3) := dk_154 0 10 (dk_at dksX11_read_0 6 rfl rfl)
theorem dX11_read_9 : decode cX11_read 9 = .ok (.aload_n 1, 1) := dk_43 (dk_at dksX11_read_0 9 rfl rfl)
theorem dX11_read_10 : decode cX11_read 10 = .ok (.invokevirtual 29, 3) := dk_182 0 29 (dk_at dksX11_read_0 10 rfl rfl)
theorem dX11_read_13 : decode cX11_read 13 = .ok (.goto 28, 3) := dk_167 0 28 (dk_at dksX11_read_0 13 rfl rfl)
theorem dX11_read_16 : decode cX11_read 16 = .ok (.iload_n 2, 1) := dk_28 (dk_at dksX11_read_0 16 rfl rfl)
theorem dX11_read_17 : decode cX11_read 17 = .ok (.sipush 249, 3) := dk_17 0 249 (dk_at dksX11_read_0 17 rfl rfl)
theorem dX11_read_20 : decode cX11_read 20 = .ok (.if_icmp .gt 7, 3) := dk_163 0 7 (dk_at dksX11_read_0 20 rfl rfl)
theorem dX11_read_23 : decode cX11_read 23 = .ok (.iload_n 2, 1) := dk_28 (dk_at dksX11_read_0 23 rfl rfl)
theorem dX11_read_24 : decode cX11_read 24 = .ok (.goto 17, 3) := dk_167 0 17 (dk_at dksX11_read_1 0 rfl rfl)
theorem dX11_read_27 : decode cX11_read 27 = .ok (.sipush 250, 3) := dk_17 0 250 (dk_at dksX11_read_1 3 rfl rfl)
theorem dX11_read_30 : decode cX11_read 30 = .ok (.iload_n 2, 1) := dk_28 (dk_at dksX11_read_1 6 rfl rfl)
theorem dX11_read_31 : decode cX11_read 31 = .ok (.sipush 249, 3) := dk_17 0 249 (dk_at dksX11_read_1 7 rfl rfl)
theorem dX11_read_34 : decode cX11_read 34 = .ok (.isub, 1) := dk_100 (dk_at dksX11_read_1 10 rfl rfl)
theorem dX11_read_35 : decode cX11_read 35 = .ok (.imul, 1) := dk_104 (dk_at dksX11_read_1 11 rfl rfl)
theorem dX11_read_36 : decode cX11_read 36 = .ok (.aload_n 1, 1) := dk_43 (dk_at dksX11_read_1 12 rfl rfl)
theorem dX11_read_37 : decode cX11_read 37 = .ok (.invokestatic 25, 3) := dk_184 0 25 (dk_at dksX11_read_1 13 rfl rfl)
theorem dX11_read_40 : decode cX11_read 40 = .ok (.iadd, 1) := dk_96 (dk_at dksX11_read_1 16 rfl rfl)
theorem dX11_read_41 : decode cX11_read 41 = .ok (.istore_n 3, 1) := dk_62 (dk_at dksX11_read_1 17 rfl rfl)
theorem dX11_read_42 : decode cX11_read 42 = .ok (.iconst 0, 1) := dk_3 (dk_at dksX11_read_1 18 rfl rfl)
theorem dX11_read_43 : decode cX11_read 43 = .ok (.istore 4, 2) := dk_54 4 (dk_at dksX11_read_1 19 rfl rfl)
theorem dX11_read_45 : decode cX11_read 45 = .ok (.iload 4, 2) := dk_21 4 (dk_at dksX11_read_1 21 rfl rfl)
theorem dX11_read_47 : decode cX11_read 47 = .ok (.iload_n 3, 1) := dk_29 (dk_at dksX11_read_1 23 rfl rfl)
theorem dX11_read_48 : decode cX11_read 48 = .ok (.if_icmp .ge 17, 3) := dk_162 0 17 (dk_at dksX11_read_2 0 rfl rfl)
theorem dX11_read_51 : decode cX11_read 51 = .ok (.aload_n 1, 1) := dk_43 (dk_at dksX11_read_2 3 rfl rfl)
theorem dX11_read_52 : decode cX11_read 52 = .ok (.aload_n 1, 1) := dk_43 (dk_at dksX11_read_2 4 rfl rfl)
theorem dX11_read_53 : decode cX11_read 53 = .ok (.invokestatic 25, 3) := dk_184 0 25 (dk_at dksX11_read_2 5 rfl rfl)
theorem dX11_read_56 : decode cX11_read 56 = .ok (.invokevirtual 32, 3) := dk_182 0 32 (dk_at dksX11_read_2 8 rfl rfl)
theorem dX11_read_59 : decode cX11_read 59 = .ok (.iinc 4 1, 3) := dk_132 4 1 (dk_at dksX11_read_2 11 rfl rfl)
theorem dX11_read_62 : decode cX11_read 62 = .ok (.goto (-17), 3) := dk_167 255 239 (dk_at dksX11_read_2 14 rfl rfl)
theorem dX11_read_65 : decode cX11_read 65 = .ok (.return_, 1) := dk_177 (dk_at dksX11_read_2 17 rfl rfl)
abbrev cX11_told : ByteArray := prog_2_method_3_code
def yX11_told : MethodName := ⟨RX11, "told", "(LMatrixPress$Stream;)I"⟩
def dkwX11_told_0 : List UInt8 := [42, 182, 0, 9, 60, 27, 42, 180, 0, 15, 184, 0, 19, 100, 17, 0, 255, 126, 172]
abbrev dktX11_told_0 : List UInt8 := dkwX11_told_0 ++ []
theorem dksX11_told_0 : cX11_told.data.toList.drop 0 = dktX11_told_0 := by decide +kernel
theorem dX11_told_0 : decode cX11_told 0 = .ok (.aload_n 0, 1) := dk_42 (dk_at dksX11_told_0 0 rfl rfl)
theorem dX11_told_1 : decode cX11_told 1 = .ok (.invokevirtual 9, 3) := dk_182 0 9 (dk_at dksX11_told_0 1 rfl rfl)
theorem dX11_told_4 : decode cX11_told 4 = .ok (.istore_n 1, 1) := dk_60 (dk_at dksX11_told_0 4 rfl rfl)
theorem dX11_told_5 : decode cX11_told 5 = .ok (.iload_n 1, 1) := dk_27 (dk_at dksX11_told_0 5 rfl rfl)
theorem dX11_told_6 : decode cX11_told 6 = .ok (.aload_n 0, 1) := dk_42 (dk_at dksX11_told_0 6 rfl rfl)
theorem dX11_told_7 : decode cX11_told 7 = .ok (.getfield 15, 3) := dk_180 0 15 (dk_at dksX11_told_0 7 rfl rfl)
theorem dX11_told_10 : decode cX11_told 10 = .ok (.invokestatic 19, 3) := dk_184 0 19 (dk_at dksX11_told_0 10 rfl rfl)
theorem dX11_told_13 : decode cX11_told 13 = .ok (.isub, 1) := dk_100 (dk_at dksX11_told_0 13 rfl rfl)
theorem dX11_told_14 : decode cX11_told 14 = .ok (.sipush 255, 3) := dk_17 0 255 (dk_at dksX11_told_0 14 rfl rfl)
theorem dX11_told_17 : decode cX11_told 17 = .ok (.iand, 1) := dk_126 (dk_at dksX11_told_0 17 rfl rfl)
theorem dX11_told_18 : decode cX11_told 18 = .ok (.ireturn, 1) := dk_172 (dk_at dksX11_told_0 18 rfl rfl)
theorem q125 : (Jvm.Cond.initialized "MatrixPress$Base") ∈ lw_all := lw_g (lw_at lw_m1 18 rfl) rfl
theorem q227 : (Jvm.Cond.fieldLinkNest "MatrixPress$Base" (15 : Nat) "MatrixPress$Stream" "at" "I" "MatrixPress") ∈ lw_tbl := lw_at lw_m1 120 rfl
theorem q403 : (Jvm.Cond.selects "MatrixPress$Base" ({ cls := "java/lang/Object", name := "getClass", desc := "()Ljava/lang/Class;" } : Jvm.MethodName) ({ cls := "java/lang/Object", name := "getClass", desc := "()Ljava/lang/Class;" } : Jvm.MethodName)) ∈ lw_all := lw_g (lw_at lw_m2 56 rfl) rfl
theorem q462 : (Jvm.Cond.instantiable "MatrixPress$Base" (2 : Nat)) ∈ lw_all := lw_g (lw_at lw_m2 115 rfl) rfl
theorem q464 : (Jvm.Cond.instanceMethod ({ cls := "MatrixPress$Base", name := "<init>", desc := "()V" } : Jvm.MethodName)) ∈ lw_all := lw_g (lw_at lw_m2 117 rfl) rfl
theorem q465 : (Jvm.Cond.code ({ cls := "MatrixPress$Base", name := "<init>", desc := "()V" } : Jvm.MethodName) prog_2_method_1_code (1 : Nat) (Option.none : Option Jvm.ClassFile.FieldType)) ∈ lw_all := lw_g (lw_at lw_m2 118 rfl) rfl
theorem q466 : (Jvm.Cond.methodLink "MatrixPress$Base" (3 : Nat) ({ cls := "MatrixPress$Encodation", name := "<init>", desc := "(I)V" } : Jvm.MethodName)) ∈ lw_all := lw_g (lw_at lw_m2 119 rfl) rfl
theorem q467 : (Jvm.Cond.fieldLink "MatrixPress$Base" (35 : Nat) "MatrixPress$Base" "behind" "I") ∈ lw_all := lw_g (lw_at lw_m2 120 rfl) rfl
theorem q468 : (Jvm.Cond.lays "MatrixPress$Base" "MatrixPress$Base" "behind" "I") ∈ lw_all := lw_g (lw_at lw_m2 121 rfl) rfl
theorem q469 : (Jvm.Cond.soleField "MatrixPress$Base" "behind") ∈ lw_all := lw_g (lw_at lw_m2 122 rfl) rfl
theorem q470 : (Jvm.Cond.laysFinal "MatrixPress$Base" "MatrixPress$Encodation" "latch" "I") ∈ lw_all := lw_g (lw_at lw_m2 123 rfl) rfl
theorem q471 : (Jvm.Cond.superclass "MatrixPress$Base" "MatrixPress$Encodation") ∈ lw_all := lw_g (lw_at lw_m2 124 rfl) rfl
theorem q613 : (Jvm.Cond.selects "MatrixPress$Base" ({ cls := "MatrixPress$Encodation", name := "prepare", desc := "([BI)V" } : Jvm.MethodName) ({ cls := "MatrixPress$Base", name := "prepare", desc := "([BI)V" } : Jvm.MethodName)) ∈ lw_all := lw_g (lw_at lw_m3 26 rfl) rfl
theorem q614 : (Jvm.Cond.instanceMethod ({ cls := "MatrixPress$Base", name := "prepare", desc := "([BI)V" } : Jvm.MethodName)) ∈ lw_all := lw_g (lw_at lw_m3 27 rfl) rfl
theorem q615 : (Jvm.Cond.code ({ cls := "MatrixPress$Base", name := "prepare", desc := "([BI)V" } : Jvm.MethodName) prog_2_method_5_code (3 : Nat) (Option.none : Option Jvm.ClassFile.FieldType)) ∈ lw_all := lw_g (lw_at lw_m3 28 rfl) rfl
theorem q646 : (Jvm.Cond.selects "MatrixPress$Base" ({ cls := "MatrixPress$Encodation", name := "closed", desc := "(II)I" } : Jvm.MethodName) ({ cls := "MatrixPress$Base", name := "closed", desc := "(II)I" } : Jvm.MethodName)) ∈ lw_all := lw_g (lw_at lw_m3 59 rfl) rfl
theorem q647 : (Jvm.Cond.instanceMethod ({ cls := "MatrixPress$Base", name := "closed", desc := "(II)I" } : Jvm.MethodName)) ∈ lw_all := lw_g (lw_at lw_m3 60 rfl) rfl
theorem q648 : (Jvm.Cond.code ({ cls := "MatrixPress$Base", name := "closed", desc := "(II)I" } : Jvm.MethodName) prog_2_method_7_code (3 : Nat) (Option.some Jvm.ClassFile.FieldType.int)) ∈ lw_all := lw_g (lw_at lw_m3 61 rfl) rfl
theorem q649 : (Jvm.Cond.constant "MatrixPress$Base" (38 : Nat) (1000000 : Int32)) ∈ lw_all := lw_g (lw_at lw_m3 62 rfl) rfl
theorem q686 : (Jvm.Cond.selects "MatrixPress$Base" ({ cls := "MatrixPress$Encodation", name := "open", desc := "(II)I" } : Jvm.MethodName) ({ cls := "MatrixPress$Base", name := "open", desc := "(II)I" } : Jvm.MethodName)) ∈ lw_all := lw_g (lw_at lw_m3 99 rfl) rfl
theorem q687 : (Jvm.Cond.instanceMethod ({ cls := "MatrixPress$Base", name := "open", desc := "(II)I" } : Jvm.MethodName)) ∈ lw_all := lw_g (lw_at lw_m3 100 rfl) rfl
theorem q688 : (Jvm.Cond.code ({ cls := "MatrixPress$Base", name := "open", desc := "(II)I" } : Jvm.MethodName) prog_2_method_6_code (3 : Nat) (Option.some Jvm.ClassFile.FieldType.int)) ∈ lw_all := lw_g (lw_at lw_m3 101 rfl) rfl
theorem q697 : (Jvm.Cond.selects "MatrixPress$Base" ({ cls := "MatrixPress$Encodation", name := "leaves", desc := "()I" } : Jvm.MethodName) ({ cls := "MatrixPress$Base", name := "leaves", desc := "()I" } : Jvm.MethodName)) ∈ lw_all := lw_g (lw_at lw_m3 110 rfl) rfl
theorem q698 : (Jvm.Cond.instanceMethod ({ cls := "MatrixPress$Base", name := "leaves", desc := "()I" } : Jvm.MethodName)) ∈ lw_all := lw_g (lw_at lw_m3 111 rfl) rfl
theorem q699 : (Jvm.Cond.code ({ cls := "MatrixPress$Base", name := "leaves", desc := "()I" } : Jvm.MethodName) prog_2_method_8_code (1 : Nat) (Option.some Jvm.ClassFile.FieldType.int)) ∈ lw_all := lw_g (lw_at lw_m3 112 rfl) rfl
theorem q783 : (Jvm.Cond.selects "MatrixPress$Base" ({ cls := "MatrixPress$Encodation", name := "write", desc := "(LMatrixPress$Stream;[BIIZ)V" } : Jvm.MethodName) ({ cls := "MatrixPress$Base", name := "write", desc := "(LMatrixPress$Stream;[BIIZ)V" } : Jvm.MethodName)) ∈ lw_all := lw_g (lw_at lw_m3 196 rfl) rfl
theorem q784 : (Jvm.Cond.instanceMethod ({ cls := "MatrixPress$Base", name := "write", desc := "(LMatrixPress$Stream;[BIIZ)V" } : Jvm.MethodName)) ∈ lw_all := lw_g (lw_at lw_m3 197 rfl) rfl
theorem q785 : (Jvm.Cond.code ({ cls := "MatrixPress$Base", name := "write", desc := "(LMatrixPress$Stream;[BIIZ)V" } : Jvm.MethodName) prog_2_method_10_code (7 : Nat) (Option.none : Option Jvm.ClassFile.FieldType)) ∈ lw_all := lw_g (lw_at lw_m3 198 rfl) rfl
theorem q786 : (Jvm.Cond.methodLink "MatrixPress$Base" (42 : Nat) ({ cls := "MatrixPress$Base", name := "put", desc := "(LMatrixPress$Stream;I)V" } : Jvm.MethodName)) ∈ lw_all := lw_g (lw_at lw_m3 199 rfl) rfl
theorem q787 : (Jvm.Cond.static ({ cls := "MatrixPress$Base", name := "put", desc := "(LMatrixPress$Stream;I)V" } : Jvm.MethodName)) ∈ lw_all := lw_g (lw_at lw_m3 200 rfl) rfl
theorem q788 : (Jvm.Cond.code ({ cls := "MatrixPress$Base", name := "put", desc := "(LMatrixPress$Stream;I)V" } : Jvm.MethodName) prog_2_method_9_code (2 : Nat) (Option.none : Option Jvm.ClassFile.FieldType)) ∈ lw_all := lw_g (lw_at lw_m3 201 rfl) rfl
theorem q789 : (Jvm.Cond.methodLink "MatrixPress$Base" (19 : Nat) ({ cls := "MatrixPress$Base", name := "mask", desc := "(I)I" } : Jvm.MethodName)) ∈ lw_all := lw_g (lw_at lw_m3 202 rfl) rfl
theorem q790 : (Jvm.Cond.static ({ cls := "MatrixPress$Base", name := "mask", desc := "(I)I" } : Jvm.MethodName)) ∈ lw_all := lw_g (lw_at lw_m3 203 rfl) rfl
theorem q791 : (Jvm.Cond.code ({ cls := "MatrixPress$Base", name := "mask", desc := "(I)I" } : Jvm.MethodName) prog_2_method_2_code (1 : Nat) (Option.some Jvm.ClassFile.FieldType.int)) ∈ lw_all := lw_g (lw_at lw_m3 204 rfl) rfl
theorem q792 : (Jvm.Cond.methodLink "MatrixPress$Base" (39 : Nat) ({ cls := "MatrixPress$Stream", name := "put", desc := "(I)V" } : Jvm.MethodName)) ∈ lw_all := lw_g (lw_at lw_m3 205 rfl) rfl
theorem q1031 : (Jvm.Cond.selects "MatrixPress$Base" ({ cls := "MatrixPress$Encodation", name := "read", desc := "(LMatrixPress$Stream;)V" } : Jvm.MethodName) ({ cls := "MatrixPress$Base", name := "read", desc := "(LMatrixPress$Stream;)V" } : Jvm.MethodName)) ∈ lw_all := lw_g (lw_at lw_m4 204 rfl) rfl
theorem q1032 : (Jvm.Cond.instanceMethod ({ cls := "MatrixPress$Base", name := "read", desc := "(LMatrixPress$Stream;)V" } : Jvm.MethodName)) ∈ lw_all := lw_g (lw_at lw_m4 205 rfl) rfl
theorem q1033 : (Jvm.Cond.code ({ cls := "MatrixPress$Base", name := "read", desc := "(LMatrixPress$Stream;)V" } : Jvm.MethodName) prog_2_method_4_code (5 : Nat) (Option.none : Option Jvm.ClassFile.FieldType)) ∈ lw_all := lw_g (lw_at lw_m4 206 rfl) rfl
theorem q1034 : (Jvm.Cond.methodLink "MatrixPress$Base" (25 : Nat) ({ cls := "MatrixPress$Base", name := "told", desc := "(LMatrixPress$Stream;)I" } : Jvm.MethodName)) ∈ lw_all := lw_g (lw_at lw_m4 207 rfl) rfl
theorem q1035 : (Jvm.Cond.static ({ cls := "MatrixPress$Base", name := "told", desc := "(LMatrixPress$Stream;)I" } : Jvm.MethodName)) ∈ lw_all := lw_g (lw_at lw_m4 208 rfl) rfl
theorem q1036 : (Jvm.Cond.code ({ cls := "MatrixPress$Base", name := "told", desc := "(LMatrixPress$Stream;)I" } : Jvm.MethodName) prog_2_method_3_code (2 : Nat) (Option.some Jvm.ClassFile.FieldType.int)) ∈ lw_all := lw_g (lw_at lw_m4 209 rfl) rfl
theorem q1037 : (Jvm.Cond.methodLink "MatrixPress$Base" (9 : Nat) ({ cls := "MatrixPress$Stream", name := "next", desc := "()I" } : Jvm.MethodName)) ∈ lw_all := lw_g (lw_at lw_m4 210 rfl) rfl
theorem q1038 : (Jvm.Cond.methodLink "MatrixPress$Base" (29 : Nat) ({ cls := "MatrixPress$Stream", name := "left", desc := "()I" } : Jvm.MethodName)) ∈ lw_all := lw_g (lw_at lw_m4 211 rfl) rfl
theorem q1042 : (Jvm.Cond.methodLink "MatrixPress$Base" (32 : Nat) ({ cls := "MatrixPress$Stream", name := "tell", desc := "(I)V" } : Jvm.MethodName)) ∈ lw_all := lw_g (lw_at lw_m4 215 rfl) rfl
theorem q1740 : (Jvm.Cond.castable "MatrixPress$Base" "MatrixPress$Encodation") ∈ lw_tbl := lw_at lw_m7 193 rfl
theorem q1753 : (Jvm.Cond.castable "MatrixPress$Base" "java/lang/Object") ∈ lw_tbl := lw_at lw_m7 206 rfl
theorem in_X11 : ∀ w ∈ wsX110, w ∈ lw_all := lw_in wsX110 [470, 468] (by decide +kernel) (by decide +kernel)
