/-! MatrixPress$Chooser -/
set_option maxRecDepth 100000
def RX12 : String := "MatrixPress$Chooser"
def TX12 : u_T := fun k => match k with
  | 0 => ("MatrixPress$Chooser", "all", "Ljava/util/ArrayList;", true)
  | 1 => ("MatrixPress$Chooser", "out", "LMatrixPress$Stream;", true)
  | 2 => ("MatrixPress$Chooser", "row", "[B", true)
  | 3 => ("MatrixPress$Chooser", "n", "I", false)
  | 4 => ("MatrixPress$Chooser", "onward", "[I", true)
  | 5 => ("MatrixPress$Chooser", "upto", "[I", true)
  | 6 => ("MatrixPress$Chooser", "plain", "[I", true)
  | 7 => ("MatrixPress$Chooser", "leads", "[Z", true)
  | 8 => ("MatrixPress$Chooser", "steps", "Ljava/util/ArrayList;", true)
  | 9 => ("MatrixPress$Chooser", "length", "I", false)
  | 10 => ("MatrixPress$Chooser", "data", "I", false)
  | _ => ("MatrixPress$Chooser", "isClosed", "Z", false)
def tyX12 : Nat → FieldType := fun k => match k with
  | 0 => .object "java/util/ArrayList"
  | 1 => .object "MatrixPress$Stream"
  | 2 => .array .byte
  | 3 => .int
  | 4 => .array .int
  | 5 => .array .int
  | 6 => .array .int
  | 7 => .array .boolean
  | 8 => .object "java/util/ArrayList"
  | 9 => .int
  | 10 => .int
  | _ => .boolean
abbrev wsX120 : List Cond := u_ws RX12 TX12 12
theorem nmX12 : ∀ a, a < 12 → ∀ b, b < 12 → a ≠ b → (TX12 a).2.1 ≠ (TX12 b).2.1 := by decide +kernel
theorem tyX12_ok : ∀ k, k < 12 → parseFieldDescriptor (TX12 k).2.2.1 = some (tyX12 k) := by decide +kernel
abbrev cX12_init : ByteArray := prog_3_method_1_code
def yX12_init : MethodName := ⟨RX12, "<init>", "(Ljava/util/ArrayList;LMatrixPress$Stream;)V"⟩
def dkwX12_init_3 : List UInt8 := [177]
abbrev dktX12_init_3 : List UInt8 := dkwX12_init_3 ++ []
def dkwX12_init_2 : List UInt8 := [181, 0, 25, 42, 187, 0, 29, 89, 183, 0, 31, 181, 0, 32, 42, 43, 181, 0, 36, 42, 44, 181, 0, 39]
abbrev dktX12_init_2 : List UInt8 := dkwX12_init_2 ++ dktX12_init_3
def dkwX12_init_1 : List UInt8 := [17, 12, 129, 188, 10, 181, 0, 19, 42, 17, 12, 129, 188, 10, 181, 0, 22, 42, 17, 12, 129, 188, 4]
abbrev dktX12_init_1 : List UInt8 := dkwX12_init_1 ++ dktX12_init_2
def dkwX12_init_0 : List UInt8 := [42, 183, 0, 3, 42, 17, 12, 128, 188, 8, 181, 0, 9, 42, 17, 12, 129, 188, 10, 181, 0, 15, 42]
abbrev dktX12_init_0 : List UInt8 := dkwX12_init_0 ++ dktX12_init_1
theorem dksX12_init_0 : cX12_init.data.toList.drop 0 = dktX12_init_0 := by decide +kernel
theorem dksX12_init_1 : cX12_init.data.toList.drop 23 = dktX12_init_1 := dk_seg dksX12_init_0 23 rfl rfl
theorem dksX12_init_2 : cX12_init.data.toList.drop 46 = dktX12_init_2 := dk_seg dksX12_init_1 23 rfl rfl
theorem dksX12_init_3 : cX12_init.data.toList.drop 70 = dktX12_init_3 := dk_seg dksX12_init_2 24 rfl rfl
theorem dX12_init_0 : decode cX12_init 0 = .ok (.aload_n 0, 1) := dk_42 (dk_at dksX12_init_0 0 rfl rfl)
theorem dX12_init_1 : decode cX12_init 1 = .ok (.invokespecial 3, 3) := dk_183 0 3 (dk_at dksX12_init_0 1 rfl rfl)
theorem dX12_init_4 : decode cX12_init 4 = .ok (.aload_n 0, 1) := dk_42 (dk_at dksX12_init_0 4 rfl rfl)
theorem dX12_init_5 : decode cX12_init 5 = .ok (.sipush 3200, 3) := dk_17 12 128 (dk_at dksX12_init_0 5 rfl rfl)
theorem dX12_init_8 : decode cX12_init 8 = .ok (.newarray .byte, 2) := dk_188_8 (dk_at dksX12_init_0 8 rfl rfl)
theorem dX12_init_10 : decode cX12_init 10 = .ok (.putfield 9, 3) := dk_181 0 9 (dk_at dksX12_init_0 10 rfl rfl)
theorem dX12_init_13 : decode cX12_init 13 = .ok (.aload_n 0, 1) := dk_42 (dk_at dksX12_init_0 13 rfl rfl)
theorem dX12_init_14 : decode cX12_init 14 = .ok (.sipush 3201, 3) := dk_17 12 129 (dk_at dksX12_init_0 14 rfl rfl)
theorem dX12_init_17 : decode cX12_init 17 = .ok (.newarray .int, 2) := dk_188_10 (dk_at dksX12_init_0 17 rfl rfl)
theorem dX12_init_19 : decode cX12_init 19 = .ok (.putfield 15, 3) := dk_181 0 15 (dk_at dksX12_init_0 19 rfl rfl)
theorem dX12_init_22 : decode cX12_init 22 = .ok (.aload_n 0, 1) := dk_42 (dk_at dksX12_init_0 22 rfl rfl)
theorem dX12_init_23 : decode cX12_init 23 = .ok (.sipush 3201, 3) := dk_17 12 129 (dk_at dksX12_init_1 0 rfl rfl)
theorem dX12_init_26 : decode cX12_init 26 = .ok (.newarray .int, 2) := dk_188_10 (dk_at dksX12_init_1 3 rfl rfl)
theorem dX12_init_28 : decode cX12_init 28 = .ok (.putfield 19, 3) := dk_181 0 19 (dk_at dksX12_init_1 5 rfl rfl)
theorem dX12_init_31 : decode cX12_init 31 = .ok (.aload_n 0, 1) := dk_42 (dk_at dksX12_init_1 8 rfl rfl)
theorem dX12_init_32 : decode cX12_init 32 = .ok (.sipush 3201, 3) := dk_17 12 129 (dk_at dksX12_init_1 9 rfl rfl)
theorem dX12_init_35 : decode cX12_init 35 = .ok (.newarray .int, 2) := dk_188_10 (dk_at dksX12_init_1 12 rfl rfl)
theorem dX12_init_37 : decode cX12_init 37 = .ok (.putfield 22, 3) := dk_181 0 22 (dk_at dksX12_init_1 14 rfl rfl)
theorem dX12_init_40 : decode cX12_init 40 = .ok (.aload_n 0, 1) := dk_42 (dk_at dksX12_init_1 17 rfl rfl)
theorem dX12_init_41 : decode cX12_init 41 = .ok (.sipush 3201, 3) := dk_17 12 129 (dk_at dksX12_init_1 18 rfl rfl)
theorem dX12_init_44 : decode cX12_init 44 = .ok (.newarray .boolean, 2) := dk_188_4 (dk_at dksX12_init_1 21 rfl rfl)
theorem dX12_init_46 : decode cX12_init 46 = .ok (.putfield 25, 3) := dk_181 0 25 (dk_at dksX12_init_2 0 rfl rfl)
theorem dX12_init_49 : decode cX12_init 49 = .ok (.aload_n 0, 1) := dk_42 (dk_at dksX12_init_2 3 rfl rfl)
theorem dX12_init_50 : decode cX12_init 50 = .ok (.new 29, 3) := dk_187 0 29 (dk_at dksX12_init_2 4 rfl rfl)
theorem dX12_init_53 : decode cX12_init 53 = .ok (.dup, 1) := dk_89 (dk_at dksX12_init_2 7 rfl rfl)
theorem dX12_init_54 : decode cX12_init 54 = .ok (.invokespecial 31, 3) := dk_183 0 31 (dk_at dksX12_init_2 8 rfl rfl)
theorem dX12_init_57 : decode cX12_init 57 = .ok (.putfield 32, 3) := dk_181 0 32 (dk_at dksX12_init_2 11 rfl rfl)
theorem dX12_init_60 : decode cX12_init 60 = .ok (.aload_n 0, 1) := dk_42 (dk_at dksX12_init_2 14 rfl rfl)
theorem dX12_init_61 : decode cX12_init 61 = .ok (.aload_n 1, 1) := dk_43 (dk_at dksX12_init_2 15 rfl rfl)
theorem dX12_init_62 : decode cX12_init 62 = .ok (.putfield 36, 3) := dk_181 0 36 (dk_at dksX12_init_2 16 rfl rfl)
theorem dX12_init_65 : decode cX12_init 65 = .ok (.aload_n 0, 1) := dk_42 (dk_at dksX12_init_2 19 rfl rfl)
theorem dX12_init_66 : decode cX12_init 66 = .ok (.aload_n 2, 1) := dk_44 (dk_at dksX12_init_2 20 rfl rfl)
theorem dX12_init_67 : decode cX12_init 67 = .ok (.putfield 39, 3) := dk_181 0 39 (dk_at dksX12_init_2 21 rfl rfl)
theorem dX12_init_70 : decode cX12_init 70 = .ok (.return_, 1) := dk_177 (dk_at dksX12_init_3 0 rfl rfl)
abbrev cX12_begin : ByteArray := prog_3_method_4_code
def yX12_begin : MethodName := ⟨RX12, "begin", "([BI)V"⟩
def dkwX12_begin_21 : List UInt8 := [184, 0, 70, 79, 132, 6, 1, 167, 255, 206, 132, 4, 1, 167, 255, 171, 132, 3, 1, 167, 255, 78, 177]
abbrev dktX12_begin_21 : List UInt8 := dkwX12_begin_21 ++ []
def dkwX12_begin_20 : List UInt8 := [180, 0, 19, 29, 21, 6, 96, 46, 42, 180, 0, 19, 29, 46, 25, 5, 29, 21, 6, 182, 0, 76, 96]
abbrev dktX12_begin_20 : List UInt8 := dkwX12_begin_20 ++ dktX12_begin_21
def dkwX12_begin_19 : List UInt8 := [4, 54, 6, 21, 6, 42, 180, 0, 43, 29, 100, 163, 0, 45, 42, 180, 0, 19, 29, 21, 6, 96, 42]
abbrev dktX12_begin_19 : List UInt8 := dkwX12_begin_19 ++ dktX12_begin_20
def dkwX12_begin_18 : List UInt8 := [42, 180, 0, 36, 182, 0, 47, 162, 0, 79, 42, 180, 0, 36, 21, 4, 182, 0, 51, 192, 0, 55, 58, 5]
abbrev dktX12_begin_18 : List UInt8 := dkwX12_begin_18 ++ dktX12_begin_19
def dkwX12_begin_17 : List UInt8 := [180, 0, 19, 29, 5, 96, 46, 42, 180, 0, 19, 29, 46, 4, 96, 184, 0, 70, 79, 3, 54, 4, 21, 4]
abbrev dktX12_begin_17 : List UInt8 := dkwX12_begin_17 ++ dktX12_begin_18
def dkwX12_begin_16 : List UInt8 := [182, 0, 61, 153, 0, 40, 42, 29, 4, 96, 182, 0, 61, 153, 0, 30, 42, 180, 0, 19, 29, 5, 96, 42]
abbrev dktX12_begin_16 : List UInt8 := dkwX12_begin_16 ++ dktX12_begin_17
def dkwX12_begin_15 : List UInt8 := [29, 4, 96, 46, 42, 180, 0, 19, 29, 46, 42, 29, 182, 0, 65, 96, 184, 0, 70, 79, 42, 29]
abbrev dktX12_begin_15 : List UInt8 := dkwX12_begin_15 ++ dktX12_begin_16
def dkwX12_begin_14 : List UInt8 := [167, 255, 229, 3, 62, 29, 42, 180, 0, 43, 162, 0, 176, 42, 180, 0, 19, 29, 4, 96, 42, 180, 0, 19]
abbrev dktX12_begin_14 : List UInt8 := dkwX12_begin_14 ++ dktX12_begin_15
def dkwX12_begin_13 : List UInt8 := [163, 0, 25, 42, 180, 0, 19, 29, 29, 154, 0, 7, 3, 167, 0, 5, 18, 69, 79, 132, 3, 1]
abbrev dktX12_begin_13 : List UInt8 := dkwX12_begin_13 ++ dktX12_begin_14
def dkwX12_begin_12 : List UInt8 := [167, 255, 182, 42, 180, 0, 15, 29, 21, 5, 79, 132, 3, 255, 167, 255, 54, 3, 62, 29, 42, 180, 0, 43]
abbrev dktX12_begin_12 : List UInt8 := dkwX12_begin_12 ++ dktX12_begin_13
def dkwX12_begin_11 : List UInt8 := [42, 180, 0, 15, 29, 21, 8, 96, 46, 96, 184, 0, 70, 54, 5, 132, 8, 1, 167, 255, 217, 132, 6, 1]
abbrev dktX12_begin_11 : List UInt8 := dkwX12_begin_11 ++ dktX12_begin_12
def dkwX12_begin_10 : List UInt8 := [4, 54, 8, 21, 8, 42, 180, 0, 43, 29, 100, 163, 0, 34, 21, 5, 25, 7, 29, 21, 8, 182, 0, 76]
abbrev dktX12_begin_10 : List UInt8 := dkwX12_begin_10 ++ dktX12_begin_11
def dkwX12_begin_9 : List UInt8 := [42, 180, 0, 36, 182, 0, 47, 162, 0, 68, 42, 180, 0, 36, 21, 6, 182, 0, 51, 192, 0, 55, 58, 7]
abbrev dktX12_begin_9 : List UInt8 := dkwX12_begin_9 ++ dktX12_begin_10
def dkwX12_begin_8 : List UInt8 := [42, 180, 0, 15, 29, 5, 96, 46, 96, 167, 0, 5, 18, 69, 184, 0, 70, 54, 5, 3, 54, 6, 21, 6]
abbrev dktX12_begin_8 : List UInt8 := dkwX12_begin_8 ++ dktX12_begin_9
def dkwX12_begin_7 : List UInt8 := [184, 0, 70, 79, 42, 29, 182, 0, 65, 42, 180, 0, 15, 29, 4, 96, 46, 96, 21, 4, 153, 0, 16, 4]
abbrev dktX12_begin_7 : List UInt8 := dkwX12_begin_7 ++ dktX12_begin_8
def dkwX12_begin_6 : List UInt8 := [46, 96, 21, 4, 153, 0, 16, 4, 42, 180, 0, 22, 29, 5, 96, 46, 96, 167, 0, 5, 18, 69]
abbrev dktX12_begin_6 : List UInt8 := dkwX12_begin_6 ++ dktX12_begin_7
def dkwX12_begin_5 : List UInt8 := [4, 167, 0, 4, 3, 54, 4, 42, 180, 0, 22, 29, 42, 29, 182, 0, 65, 42, 180, 0, 22, 29, 4, 96]
abbrev dktX12_begin_5 : List UInt8 := dkwX12_begin_5 ++ dktX12_begin_6
def dkwX12_begin_4 : List UInt8 := [100, 62, 29, 155, 0, 204, 42, 29, 182, 0, 61, 153, 0, 17, 42, 29, 4, 96, 182, 0, 61, 153, 0, 7]
abbrev dktX12_begin_4 : List UInt8 := dkwX12_begin_4 ++ dktX12_begin_5
def dkwX12_begin_3 : List UInt8 := [180, 0, 22, 42, 180, 0, 43, 3, 79, 42, 180, 0, 15, 42, 180, 0, 43, 3, 79, 42, 180, 0, 43, 4]
abbrev dktX12_begin_3 : List UInt8 := dkwX12_begin_3 ++ dktX12_begin_4
def dkwX12_begin_2 : List UInt8 := [182, 0, 51, 192, 0, 55, 42, 180, 0, 9, 42, 180, 0, 43, 182, 0, 57, 132, 3, 1, 167, 255, 220, 42]
abbrev dktX12_begin_2 : List UInt8 := dkwX12_begin_2 ++ dktX12_begin_3
def dkwX12_begin_1 : List UInt8 := [132, 3, 1, 167, 255, 236, 3, 62, 29, 42, 180, 0, 36, 182, 0, 47, 162, 0, 31, 42, 180, 0, 36, 29]
abbrev dktX12_begin_1 : List UInt8 := dkwX12_begin_1 ++ dktX12_begin_2
def dkwX12_begin_0 : List UInt8 := [42, 28, 181, 0, 43, 3, 62, 29, 42, 180, 0, 43, 162, 0, 18, 42, 180, 0, 9, 29, 43, 29, 51, 84]
abbrev dktX12_begin_0 : List UInt8 := dkwX12_begin_0 ++ dktX12_begin_1
theorem dksX12_begin_0 : cX12_begin.data.toList.drop 0 = dktX12_begin_0 := by decide +kernel
theorem dksX12_begin_1 : cX12_begin.data.toList.drop 24 = dktX12_begin_1 := dk_seg dksX12_begin_0 24 rfl rfl
theorem dksX12_begin_2 : cX12_begin.data.toList.drop 48 = dktX12_begin_2 := dk_seg dksX12_begin_1 24 rfl rfl
theorem dksX12_begin_3 : cX12_begin.data.toList.drop 72 = dktX12_begin_3 := dk_seg dksX12_begin_2 24 rfl rfl
theorem dksX12_begin_4 : cX12_begin.data.toList.drop 96 = dktX12_begin_4 := dk_seg dksX12_begin_3 24 rfl rfl
theorem dksX12_begin_5 : cX12_begin.data.toList.drop 120 = dktX12_begin_5 := dk_seg dksX12_begin_4 24 rfl rfl
theorem dksX12_begin_6 : cX12_begin.data.toList.drop 144 = dktX12_begin_6 := dk_seg dksX12_begin_5 24 rfl rfl
theorem dksX12_begin_7 : cX12_begin.data.toList.drop 166 = dktX12_begin_7 := dk_seg dksX12_begin_6 22 rfl rfl
theorem dksX12_begin_8 : cX12_begin.data.toList.drop 190 = dktX12_begin_8 := dk_seg dksX12_begin_7 24 rfl rfl
theorem dksX12_begin_9 : cX12_begin.data.toList.drop 214 = dktX12_begin_9 := dk_seg dksX12_begin_8 24 rfl rfl
theorem dksX12_begin_10 : cX12_begin.data.toList.drop 238 = dktX12_begin_10 := dk_seg dksX12_begin_9 24 rfl rfl
theorem dksX12_begin_11 : cX12_begin.data.toList.drop 262 = dktX12_begin_11 := dk_seg dksX12_begin_10 24 rfl rfl
theorem dksX12_begin_12 : cX12_begin.data.toList.drop 286 = dktX12_begin_12 := dk_seg dksX12_begin_11 24 rfl rfl
theorem dksX12_begin_13 : cX12_begin.data.toList.drop 310 = dktX12_begin_13 := dk_seg dksX12_begin_12 24 rfl rfl
theorem dksX12_begin_14 : cX12_begin.data.toList.drop 332 = dktX12_begin_14 := dk_seg dksX12_begin_13 22 rfl rfl
theorem dksX12_begin_15 : cX12_begin.data.toList.drop 356 = dktX12_begin_15 := dk_seg dksX12_begin_14 24 rfl rfl
theorem dksX12_begin_16 : cX12_begin.data.toList.drop 378 = dktX12_begin_16 := dk_seg dksX12_begin_15 22 rfl rfl
theorem dksX12_begin_17 : cX12_begin.data.toList.drop 402 = dktX12_begin_17 := dk_seg dksX12_begin_16 24 rfl rfl
theorem dksX12_begin_18 : cX12_begin.data.toList.drop 426 = dktX12_begin_18 := dk_seg dksX12_begin_17 24 rfl rfl
theorem dksX12_begin_19 : cX12_begin.data.toList.drop 450 = dktX12_begin_19 := dk_seg dksX12_begin_18 24 rfl rfl
theorem dksX12_begin_20 : cX12_begin.data.toList.drop 473 = dktX12_begin_20 := dk_seg dksX12_begin_19 23 rfl rfl
theorem dksX12_begin_21 : cX12_begin.data.toList.drop 496 = dktX12_begin_21 := dk_seg dksX12_begin_20 23 rfl rfl
theorem dX12_begin_0 : decode cX12_begin 0 = .ok (.aload_n 0, 1) := dk_42 (dk_at dksX12_begin_0 0 rfl rfl)
theorem dX12_begin_1 : decode cX12_begin 1 = .ok (.iload_n 2, 1) := dk_28 (dk_at dksX12_begin_0 1 rfl rfl)
theorem dX12_begin_2 : decode cX12_begin 2 = .ok (.putfield 43, 3) := dk_181 0 43 (dk_at dksX12_begin_0 2 rfl rfl)
theorem dX12_begin_5 : decode cX12_begin 5 = .ok (.iconst 0, 1) := dk_3 (dk_at dksX12_begin_0 5 rfl rfl)
theorem dX12_begin_6 : decode cX12_begin 6 = .ok (.istore_n 3, 1) := dk_62 (dk_at dksX12_begin_0 6 rfl rfl)
theorem dX12_begin_7 : decode cX12_begin 7 = .ok (.iload_n 3, 1) := dk_29 (dk_at dksX12_begin_0 7 rfl rfl)
theorem dX12_begin_8 : decode cX12_begin 8 = .ok (.aload_n 0, 1) := dk_42 (dk_at dksX12_begin_0 8 rfl rfl)
theorem dX12_begin_9 : decode cX12_begin 9 = .ok (.getfield 43, 3) := dk_180 0 43 (dk_at dksX12_begin_0 9 rfl rfl)
theorem dX12_begin_12 : decode cX12_begin 12 = .ok (.if_icmp .ge 18, 3) := dk_162 0 18 (dk_at dksX12_begin_0 12 rfl rfl)
theorem dX12_begin_15 : decode cX12_begin 15 = .ok (.aload_n 0, 1) := dk_42 (dk_at dksX12_begin_0 15 rfl rfl)
theorem dX12_begin_16 : decode cX12_begin 16 = .ok (.getfield 9, 3) := dk_180 0 9 (dk_at dksX12_begin_0 16 rfl rfl)
theorem dX12_begin_19 : decode cX12_begin 19 = .ok (.iload_n 3, 1) := dk_29 (dk_at dksX12_begin_0 19 rfl rfl)
theorem dX12_begin_20 : decode cX12_begin 20 = .ok (.aload_n 1, 1) := dk_43 (dk_at dksX12_begin_0 20 rfl rfl)
theorem dX12_begin_21 : decode cX12_begin 21 = .ok (.iload_n 3, 1) := dk_29 (dk_at dksX12_begin_0 21 rfl rfl)
theorem dX12_begin_22 : decode cX12_begin 22 = .ok (.baload, 1) := dk_51 (dk_at dksX12_begin_0 22 rfl rfl)
theorem dX12_begin_23 : decode cX12_begin 23 = .ok (.bastore, 1) := dk_84 (dk_at dksX12_begin_0 23 rfl rfl)
theorem dX12_begin_24 : decode cX12_begin 24 = .ok (.iinc 3 1, 3) := dk_132 3 1 (dk_at dksX12_begin_1 0 rfl rfl)
theorem dX12_begin_27 : decode cX12_begin 27 = .ok (.goto (-20), 3) := dk_167 255 236 (dk_at dksX12_begin_1 3 rfl rfl)
theorem dX12_begin_30 : decode cX12_begin 30 = .ok (.iconst 0, 1) := dk_3 (dk_at dksX12_begin_1 6 rfl rfl)
theorem dX12_begin_31 : decode cX12_begin 31 = .ok (.istore_n 3, 1) := dk_62 (dk_at dksX12_begin_1 7 rfl rfl)
theorem dX12_begin_32 : decode cX12_begin 32 = .ok (.iload_n 3, 1) := dk_29 (dk_at dksX12_begin_1 8 rfl rfl)
theorem dX12_begin_33 : decode cX12_begin 33 = .ok (.aload_n 0, 1) := dk_42 (dk_at dksX12_begin_1 9 rfl rfl)
theorem dX12_begin_34 : decode cX12_begin 34 = .ok (.getfield 36, 3) := dk_180 0 36 (dk_at dksX12_begin_1 10 rfl rfl)
theorem dX12_begin_37 : decode cX12_begin 37 = .ok (.invokevirtual 47, 3) := dk_182 0 47 (dk_at dksX12_begin_1 13 rfl rfl)
theorem dX12_begin_40 : decode cX12_begin 40 = .ok (.if_icmp .ge 31, 3) := dk_162 0 31 (dk_at dksX12_begin_1 16 rfl rfl)
theorem dX12_begin_43 : decode cX12_begin 43 = .ok (.aload_n 0, 1) := dk_42 (dk_at dksX12_begin_1 19 rfl rfl)
theorem dX12_begin_44 : decode cX12_begin 44 = .ok (.getfield 36, 3) := dk_180 0 36 (dk_at dksX12_begin_1 20 rfl rfl)
theorem dX12_begin_47 : decode cX12_begin 47 = .ok (.iload_n 3, 1) := dk_29 (dk_at dksX12_begin_1 23 rfl rfl)
theorem dX12_begin_48 : decode cX12_begin 48 = .ok (.invokevirtual 51, 3) := dk_182 0 51 (dk_at dksX12_begin_2 0 rfl rfl)
theorem dX12_begin_51 : decode cX12_begin 51 = .ok (.checkcast 55, 3) := dk_192 0 55 (dk_at dksX12_begin_2 3 rfl rfl)
theorem dX12_begin_54 : decode cX12_begin 54 = .ok (.aload_n 0, 1) := dk_42 (dk_at dksX12_begin_2 6 rfl rfl)
theorem dX12_begin_55 : decode cX12_begin 55 = .ok (.getfield 9, 3) := dk_180 0 9 (dk_at dksX12_begin_2 7 rfl rfl)
theorem dX12_begin_58 : decode cX12_begin 58 = .ok (.aload_n 0, 1) := dk_42 (dk_at dksX12_begin_2 10 rfl rfl)
theorem dX12_begin_59 : decode cX12_begin 59 = .ok (.getfield 43, 3) := dk_180 0 43 (dk_at dksX12_begin_2 11 rfl rfl)
theorem dX12_begin_62 : decode cX12_begin 62 = .ok (.invokevirtual 57, 3) := dk_182 0 57 (dk_at dksX12_begin_2 14 rfl rfl)
theorem dX12_begin_65 : decode cX12_begin 65 = .ok (.iinc 3 1, 3) := dk_132 3 1 (dk_at dksX12_begin_2 17 rfl rfl)
theorem dX12_begin_68 : decode cX12_begin 68 = .ok (.goto (-36), 3) := dk_167 255 220 (dk_at dksX12_begin_2 20 rfl rfl)
theorem dX12_begin_71 : decode cX12_begin 71 = .ok (.aload_n 0, 1) := dk_42 (dk_at dksX12_begin_2 23 rfl rfl)
theorem dX12_begin_72 : decode cX12_begin 72 = .ok (.getfield 22, 3) := dk_180 0 22 (dk_at dksX12_begin_3 0 rfl rfl)
theorem dX12_begin_75 : decode cX12_begin 75 = .ok (.aload_n 0, 1) := dk_42 (dk_at dksX12_begin_3 3 rfl rfl)
theorem dX12_begin_76 : decode cX12_begin 76 = .ok (.getfield 43, 3) := dk_180 0 43 (dk_at dksX12_begin_3 4 rfl rfl)
theorem dX12_begin_79 : decode cX12_begin 79 = .ok (.iconst 0, 1) := dk_3 (dk_at dksX12_begin_3 7 rfl rfl)
theorem dX12_begin_80 : decode cX12_begin 80 = .ok (.iastore, 1) := dk_79 (dk_at dksX12_begin_3 8 rfl rfl)
theorem dX12_begin_81 : decode cX12_begin 81 = .ok (.aload_n 0, 1) := dk_42 (dk_at dksX12_begin_3 9 rfl rfl)
theorem dX12_begin_82 : decode cX12_begin 82 = .ok (.getfield 15, 3) := dk_180 0 15 (dk_at dksX12_begin_3 10 rfl rfl)
theorem dX12_begin_85 : decode cX12_begin 85 = .ok (.aload_n 0, 1) := dk_42 (dk_at dksX12_begin_3 13 rfl rfl)
theorem dX12_begin_86 : decode cX12_begin 86 = .ok (.getfield 43, 3) := dk_180 0 43 (dk_at dksX12_begin_3 14 rfl rfl)
theorem dX12_begin_89 : decode cX12_begin 89 = .ok (.iconst 0, 1) := dk_3 (dk_at dksX12_begin_3 17 rfl rfl)
theorem dX12_begin_90 : decode cX12_begin 90 = .ok (.iastore, 1) := dk_79 (dk_at dksX12_begin_3 18 rfl rfl)
theorem dX12_begin_91 : decode cX12_begin 91 = .ok (.aload_n 0, 1) := dk_42 (dk_at dksX12_begin_3 19 rfl rfl)
theorem dX12_begin_92 : decode cX12_begin 92 = .ok (.getfield 43, 3) := dk_180 0 43 (dk_at dksX12_begin_3 20 rfl rfl)
theorem dX12_begin_95 : decode cX12_begin 95 = .ok (.iconst 1, 1) := dk_4 (dk_at dksX12_begin_3 23 rfl rfl)
theorem dX12_begin_96 : decode cX12_begin 96 = .ok (.isub, 1) := dk_100 (dk_at dksX12_begin_4 0 rfl rfl)
theorem dX12_begin_97 : decode cX12_begin 97 = .ok (.istore_n 3, 1) := dk_62 (dk_at dksX12_begin_4 1 rfl rfl)
theorem dX12_begin_98 : decode cX12_begin 98 = .ok (.iload_n 3, 1) := dk_29 (dk_at dksX12_begin_4 2 rfl rfl)
theorem dX12_begin_99 : decode cX12_begin 99 = .ok (.ifCond .lt 204, 3) := dk_155 0 204 (dk_at dksX12_begin_4 3 rfl rfl)
theorem dX12_begin_102 : decode cX12_begin 102 = .ok (.aload_n 0, 1) := dk_42 (dk_at dksX12_begin_4 6 rfl rfl)
theorem dX12_begin_103 : decode cX12_begin 103 = .ok (.iload_n 3, 1) := dk_29 (dk_at dksX12_begin_4 7 rfl rfl)
theorem dX12_begin_104 : decode cX12_begin 104 = .ok (.invokevirtual 61, 3) := dk_182 0 61 (dk_at dksX12_begin_4 8 rfl rfl)
theorem dX12_begin_107 : decode cX12_begin 107 = .ok (.ifCond .eq 17, 3) := dk_153 0 17 (dk_at dksX12_begin_4 11 rfl rfl)
theorem dX12_begin_110 : decode cX12_begin 110 = .ok (.aload_n 0, 1) := dk_42 (dk_at dksX12_begin_4 14 rfl rfl)
theorem dX12_begin_111 : decode cX12_begin 111 = .ok (.iload_n 3, 1) := dk_29 (dk_at dksX12_begin_4 15 rfl rfl)
theorem dX12_begin_112 : decode cX12_begin 112 = .ok (.iconst 1, 1) := dk_4 (dk_at dksX12_begin_4 16 rfl rfl)
theorem dX12_begin_113 : decode cX12_begin 113 = .ok (.iadd, 1) := dk_96 (dk_at dksX12_begin_4 17 rfl rfl)
theorem dX12_begin_114 : decode cX12_begin 114 = .ok (.invokevirtual 61, 3) := dk_182 0 61 (dk_at dksX12_begin_4 18 rfl rfl)
theorem dX12_begin_117 : decode cX12_begin 117 = .ok (.ifCond .eq 7, 3) := dk_153 0 7 (dk_at dksX12_begin_4 21 rfl rfl)
theorem dX12_begin_120 : decode cX12_begin 120 = .ok (.iconst 1, 1) := dk_4 (dk_at dksX12_begin_5 0 rfl rfl)
theorem dX12_begin_121 : decode cX12_begin 121 = .ok (.goto 4, 3) := dk_167 0 4 (dk_at dksX12_begin_5 1 rfl rfl)
theorem dX12_begin_124 : decode cX12_begin 124 = .ok (.iconst 0, 1) := dk_3 (dk_at dksX12_begin_5 4 rfl rfl)
theorem dX12_begin_125 : decode cX12_begin 125 = .ok (.istore 4, 2) := dk_54 4 (dk_at dksX12_begin_5 5 rfl rfl)
theorem dX12_begin_127 : decode cX12_begin 127 = .ok (.aload_n 0, 1) := dk_42 (dk_at dksX12_begin_5 7 rfl rfl)
theorem dX12_begin_128 : decode cX12_begin 128 = .ok (.getfield 22, 3) := dk_180 0 22 (dk_at dksX12_begin_5 8 rfl rfl)
theorem dX12_begin_131 : decode cX12_begin 131 = .ok (.iload_n 3, 1) := dk_29 (dk_at dksX12_begin_5 11 rfl rfl)
theorem dX12_begin_132 : decode cX12_begin 132 = .ok (.aload_n 0, 1) := dk_42 (dk_at dksX12_begin_5 12 rfl rfl)
theorem dX12_begin_133 : decode cX12_begin 133 = .ok (.iload_n 3, 1) := dk_29 (dk_at dksX12_begin_5 13 rfl rfl)
theorem dX12_begin_134 : decode cX12_begin 134 = .ok (.invokevirtual 65, 3) := dk_182 0 65 (dk_at dksX12_begin_5 14 rfl rfl)
theorem dX12_begin_137 : decode cX12_begin 137 = .ok (.aload_n 0, 1) := dk_42 (dk_at dksX12_begin_5 17 rfl rfl)
theorem dX12_begin_138 : decode cX12_begin 138 = .ok (.getfield 22, 3) := dk_180 0 22 (dk_at dksX12_begin_5 18 rfl rfl)
theorem dX12_begin_141 : decode cX12_begin 141 = .ok (.iload_n 3, 1) := dk_29 (dk_at dksX12_begin_5 21 rfl rfl)
theorem dX12_begin_142 : decode cX12_begin 142 = .ok (.iconst 1, 1) := dk_4 (dk_at dksX12_begin_5 22 rfl rfl)
theorem dX12_begin_143 : decode cX12_begin 143 = .ok (.iadd, 1) := dk_96 (dk_at dksX12_begin_5 23 rfl rfl)
theorem dX12_begin_144 : decode cX12_begin 144 = .ok (.iaload, 1) := dk_46 (dk_at dksX12_begin_6 0 rfl rfl)
theorem dX12_begin_145 : decode cX12_begin 145 = .ok (.iadd, 1) := dk_96 (dk_at dksX12_begin_6 1 rfl rfl)
theorem dX12_begin_146 : decode cX12_begin 146 = .ok (.iload 4, 2) := dk_21 4 (dk_at dksX12_begin_6 2 rfl rfl)
theorem dX12_begin_148 : decode cX12_begin 148 = .ok (.ifCond .eq 16, 3) := dk_153 0 16 (dk_at dksX12_begin_6 4 rfl rfl)
theorem dX12_begin_151 : decode cX12_begin 151 = .ok (.iconst 1, 1) := dk_4 (dk_at dksX12_begin_6 7 rfl rfl)
theorem dX12_begin_152 : decode cX12_begin 152 = .ok (.aload_n 0, 1) := dk_42 (dk_at dksX12_begin_6 8 rfl rfl)
theorem dX12_begin_153 : decode cX12_begin 153 = .ok (.getfield 22, 3) := dk_180 0 22 (dk_at dksX12_begin_6 9 rfl rfl)
theorem dX12_begin_156 : decode cX12_begin 156 = .ok (.iload_n 3, 1) := dk_29 (dk_at dksX12_begin_6 12 rfl rfl)
theorem dX12_begin_157 : decode cX12_begin 157 = .ok (.iconst 2, 1) := dk_5 (dk_at dksX12_begin_6 13 rfl rfl)
theorem dX12_begin_158 : decode cX12_begin 158 = .ok (.iadd, 1) := dk_96 (dk_at dksX12_begin_6 14 rfl rfl)
theorem dX12_begin_159 : decode cX12_begin 159 = .ok (.iaload, 1) := dk_46 (dk_at dksX12_begin_6 15 rfl rfl)
theorem dX12_begin_160 : decode cX12_begin 160 = .ok (.iadd, 1) := dk_96 (dk_at dksX12_begin_6 16 rfl rfl)
theorem dX12_begin_161 : decode cX12_begin 161 = .ok (.goto 5, 3) := dk_167 0 5 (dk_at dksX12_begin_6 17 rfl rfl)
theorem dX12_begin_164 : decode cX12_begin 164 = .ok (.ldc 69, 2) := dk_18 69 (dk_at dksX12_begin_6 20 rfl rfl)
theorem dX12_begin_166 : decode cX12_begin 166 = .ok (.invokestatic 70, 3) := dk_184 0 70 (dk_at dksX12_begin_7 0 rfl rfl)
theorem dX12_begin_169 : decode cX12_begin 169 = .ok (.iastore, 1) := dk_79 (dk_at dksX12_begin_7 3 rfl rfl)
theorem dX12_begin_170 : decode cX12_begin 170 = .ok (.aload_n 0, 1) := dk_42 (dk_at dksX12_begin_7 4 rfl rfl)
theorem dX12_begin_171 : decode cX12_begin 171 = .ok (.iload_n 3, 1) := dk_29 (dk_at dksX12_begin_7 5 rfl rfl)
theorem dX12_begin_172 : decode cX12_begin 172 = .ok (.invokevirtual 65, 3) := dk_182 0 65 (dk_at dksX12_begin_7 6 rfl rfl)
theorem dX12_begin_175 : decode cX12_begin 175 = .ok (.aload_n 0, 1) := dk_42 (dk_at dksX12_begin_7 9 rfl rfl)
theorem dX12_begin_176 : decode cX12_begin 176 = .ok (.getfield 15, 3) := dk_180 0 15 (dk_at dksX12_begin_7 10 rfl rfl)
theorem dX12_begin_179 : decode cX12_begin 179 = .ok (.iload_n 3, 1) := dk_29 (dk_at dksX12_begin_7 13 rfl rfl)
theorem dX12_begin_180 : decode cX12_begin 180 = .ok (.iconst 1, 1) := dk_4 (dk_at dksX12_begin_7 14 rfl rfl)
theorem dX12_begin_181 : decode cX12_begin 181 = .ok (.iadd, 1) := dk_96 (dk_at dksX12_begin_7 15 rfl rfl)
theorem dX12_begin_182 : decode cX12_begin 182 = .ok (.iaload, 1) := dk_46 (dk_at dksX12_begin_7 16 rfl rfl)
theorem dX12_begin_183 : decode cX12_begin 183 = .ok (.iadd, 1) := dk_96 (dk_at dksX12_begin_7 17 rfl rfl)
theorem dX12_begin_184 : decode cX12_begin 184 = .ok (.iload 4, 2) := dk_21 4 (dk_at dksX12_begin_7 18 rfl rfl)
theorem dX12_begin_186 : decode cX12_begin 186 = .ok (.ifCond .eq 16, 3) := dk_153 0 16 (dk_at dksX12_begin_7 20 rfl rfl)
theorem dX12_begin_189 : decode cX12_begin 189 = .ok (.iconst 1, 1) := dk_4 (dk_at dksX12_begin_7 23 rfl rfl)
theorem dX12_begin_190 : decode cX12_begin 190 = .ok (.aload_n 0, 1) := dk_42 (dk_at dksX12_begin_8 0 rfl rfl)
theorem dX12_begin_191 : decode cX12_begin 191 = .ok (.getfield 15, 3) := dk_180 0 15 (dk_at dksX12_begin_8 1 rfl rfl)
theorem dX12_begin_194 : decode cX12_begin 194 = .ok (.iload_n 3, 1) := dk_29 (dk_at dksX12_begin_8 4 rfl rfl)
theorem dX12_begin_195 : decode cX12_begin 195 = .ok (.iconst 2, 1) := dk_5 (dk_at dksX12_begin_8 5 rfl rfl)
theorem dX12_begin_196 : decode cX12_begin 196 = .ok (.iadd, 1) := dk_96 (dk_at dksX12_begin_8 6 rfl rfl)
theorem dX12_begin_197 : decode cX12_begin 197 = .ok (.iaload, 1) := dk_46 (dk_at dksX12_begin_8 7 rfl rfl)
theorem dX12_begin_198 : decode cX12_begin 198 = .ok (.iadd, 1) := dk_96 (dk_at dksX12_begin_8 8 rfl rfl)
theorem dX12_begin_199 : decode cX12_begin 199 = .ok (.goto 5, 3) := dk_167 0 5 (dk_at dksX12_begin_8 9 rfl rfl)
theorem dX12_begin_202 : decode cX12_begin 202 = .ok (.ldc 69, 2) := dk_18 69 (dk_at dksX12_begin_8 12 rfl rfl)
theorem dX12_begin_204 : decode cX12_begin 204 = .ok (.invokestatic 70, 3) := dk_184 0 70 (dk_at dksX12_begin_8 14 rfl rfl)
theorem dX12_begin_207 : decode cX12_begin 207 = .ok (.istore 5, 2) := dk_54 5 (dk_at dksX12_begin_8 17 rfl rfl)
theorem dX12_begin_209 : decode cX12_begin 209 = .ok (.iconst 0, 1) := dk_3 (dk_at dksX12_begin_8 19 rfl rfl)
theorem dX12_begin_210 : decode cX12_begin 210 = .ok (.istore 6, 2) := dk_54 6 (dk_at dksX12_begin_8 20 rfl rfl)
theorem dX12_begin_212 : decode cX12_begin 212 = .ok (.iload 6, 2) := dk_21 6 (dk_at dksX12_begin_8 22 rfl rfl)
theorem dX12_begin_214 : decode cX12_begin 214 = .ok (.aload_n 0, 1) := dk_42 (dk_at dksX12_begin_9 0 rfl rfl)
theorem dX12_begin_215 : decode cX12_begin 215 = .ok (.getfield 36, 3) := dk_180 0 36 (dk_at dksX12_begin_9 1 rfl rfl)
theorem dX12_begin_218 : decode cX12_begin 218 = .ok (.invokevirtual 47, 3) := dk_182 0 47 (dk_at dksX12_begin_9 4 rfl rfl)
theorem dX12_begin_221 : decode cX12_begin 221 = .ok (.if_icmp .ge 68, 3) := dk_162 0 68 (dk_at dksX12_begin_9 7 rfl rfl)
theorem dX12_begin_224 : decode cX12_begin 224 = .ok (.aload_n 0, 1) := dk_42 (dk_at dksX12_begin_9 10 rfl rfl)
theorem dX12_begin_225 : decode cX12_begin 225 = .ok (.getfield 36, 3) := dk_180 0 36 (dk_at dksX12_begin_9 11 rfl rfl)
theorem dX12_begin_228 : decode cX12_begin 228 = .ok (.iload 6, 2) := dk_21 6 (dk_at dksX12_begin_9 14 rfl rfl)
theorem dX12_begin_230 : decode cX12_begin 230 = .ok (.invokevirtual 51, 3) := dk_182 0 51 (dk_at dksX12_begin_9 16 rfl rfl)
theorem dX12_begin_233 : decode cX12_begin 233 = .ok (.checkcast 55, 3) := dk_192 0 55 (dk_at dksX12_begin_9 19 rfl rfl)
theorem dX12_begin_236 : decode cX12_begin 236 = .ok (.astore 7, 2) := dk_58 7 (dk_at dksX12_begin_9 22 rfl rfl)
theorem dX12_begin_238 : decode cX12_begin 238 = .ok (.iconst 1, 1) := dk_4 (dk_at dksX12_begin_10 0 rfl rfl)
theorem dX12_begin_239 : decode cX12_begin 239 = .ok (.istore 8, 2) := dk_54 8 (dk_at dksX12_begin_10 1 rfl rfl)
theorem dX12_begin_241 : decode cX12_begin 241 = .ok (.iload 8, 2) := dk_21 8 (dk_at dksX12_begin_10 3 rfl rfl)
theorem dX12_begin_243 : decode cX12_begin 243 = .ok (.aload_n 0, 1) := dk_42 (dk_at dksX12_begin_10 5 rfl rfl)
theorem dX12_begin_244 : decode cX12_begin 244 = .ok (.getfield 43, 3) := dk_180 0 43 (dk_at dksX12_begin_10 6 rfl rfl)
theorem dX12_begin_247 : decode cX12_begin 247 = .ok (.iload_n 3, 1) := dk_29 (dk_at dksX12_begin_10 9 rfl rfl)
theorem dX12_begin_248 : decode cX12_begin 248 = .ok (.isub, 1) := dk_100 (dk_at dksX12_begin_10 10 rfl rfl)
theorem dX12_begin_249 : decode cX12_begin 249 = .ok (.if_icmp .gt 34, 3) := dk_163 0 34 (dk_at dksX12_begin_10 11 rfl rfl)
theorem dX12_begin_252 : decode cX12_begin 252 = .ok (.iload 5, 2) := dk_21 5 (dk_at dksX12_begin_10 14 rfl rfl)
theorem dX12_begin_254 : decode cX12_begin 254 = .ok (.aload 7, 2) := dk_25 7 (dk_at dksX12_begin_10 16 rfl rfl)
theorem dX12_begin_256 : decode cX12_begin 256 = .ok (.iload_n 3, 1) := dk_29 (dk_at dksX12_begin_10 18 rfl rfl)
theorem dX12_begin_257 : decode cX12_begin 257 = .ok (.iload 8, 2) := dk_21 8 (dk_at dksX12_begin_10 19 rfl rfl)
theorem dX12_begin_259 : decode cX12_begin 259 = .ok (.invokevirtual 76, 3) := dk_182 0 76 (dk_at dksX12_begin_10 21 rfl rfl)
theorem dX12_begin_262 : decode cX12_begin 262 = .ok (.aload_n 0, 1) := dk_42 (dk_at dksX12_begin_11 0 rfl rfl)
theorem dX12_begin_263 : decode cX12_begin 263 = .ok (.getfield 15, 3) := dk_180 0 15 (dk_at dksX12_begin_11 1 rfl rfl)
theorem dX12_begin_266 : decode cX12_begin 266 = .ok (.iload_n 3, 1) := dk_29 (dk_at dksX12_begin_11 4 rfl rfl)
theorem dX12_begin_267 : decode cX12_begin 267 = .ok (.iload 8, 2) := dk_21 8 (dk_at dksX12_begin_11 5 rfl rfl)
theorem dX12_begin_269 : decode cX12_begin 269 = .ok (.iadd, 1) := dk_96 (dk_at dksX12_begin_11 7 rfl rfl)
theorem dX12_begin_270 : decode cX12_begin 270 = .ok (.iaload, 1) := dk_46 (dk_at dksX12_begin_11 8 rfl rfl)
theorem dX12_begin_271 : decode cX12_begin 271 = .ok (.iadd, 1) := dk_96 (dk_at dksX12_begin_11 9 rfl rfl)
theorem dX12_begin_272 : decode cX12_begin 272 = .ok (.invokestatic 70, 3) := dk_184 0 70 (dk_at dksX12_begin_11 10 rfl rfl)
theorem dX12_begin_275 : decode cX12_begin 275 = .ok (.istore 5, 2) := dk_54 5 (dk_at dksX12_begin_11 13 rfl rfl)
theorem dX12_begin_277 : decode cX12_begin 277 = .ok (.iinc 8 1, 3) := dk_132 8 1 (dk_at dksX12_begin_11 15 rfl rfl)
theorem dX12_begin_280 : decode cX12_begin 280 = .ok (.goto (-39), 3) := dk_167 255 217 (dk_at dksX12_begin_11 18 rfl rfl)
theorem dX12_begin_283 : decode cX12_begin 283 = .ok (.iinc 6 1, 3) := dk_132 6 1 (dk_at dksX12_begin_11 21 rfl rfl)
theorem dX12_begin_286 : decode cX12_begin 286 = .ok (.goto (-74), 3) := dk_167 255 182 (dk_at dksX12_begin_12 0 rfl rfl)
theorem dX12_begin_289 : decode cX12_begin 289 = .ok (.aload_n 0, 1) := dk_42 (dk_at dksX12_begin_12 3 rfl rfl)
theorem dX12_begin_290 : decode cX12_begin 290 = .ok (.getfield 15, 3) := dk_180 0 15 (dk_at dksX12_begin_12 4 rfl rfl)
theorem dX12_begin_293 : decode cX12_begin 293 = .ok (.iload_n 3, 1) := dk_29 (dk_at dksX12_begin_12 7 rfl rfl)
theorem dX12_begin_294 : decode cX12_begin 294 = .ok (.iload 5, 2) := dk_21 5 (dk_at dksX12_begin_12 8 rfl rfl)
theorem dX12_begin_296 : decode cX12_begin 296 = .ok (.iastore, 1) := dk_79 (dk_at dksX12_begin_12 10 rfl rfl)
theorem dX12_begin_297 : decode cX12_begin 297 = .ok (.iinc 3 (-1), 3) := dk_132 3 255 (dk_at dksX12_begin_12 11 rfl rfl)
theorem dX12_begin_300 : decode cX12_begin 300 = .ok (.goto (-202), 3) := dk_167 255 54 (dk_at dksX12_begin_12 14 rfl rfl)
theorem dX12_begin_303 : decode cX12_begin 303 = .ok (.iconst 0, 1) := dk_3 (dk_at dksX12_begin_12 17 rfl rfl)
theorem dX12_begin_304 : decode cX12_begin 304 = .ok (.istore_n 3, 1) := dk_62 (dk_at dksX12_begin_12 18 rfl rfl)
theorem dX12_begin_305 : decode cX12_begin 305 = .ok (.iload_n 3, 1) := dk_29 (dk_at dksX12_begin_12 19 rfl rfl)
theorem dX12_begin_306 : decode cX12_begin 306 = .ok (.aload_n 0, 1) := dk_42 (dk_at dksX12_begin_12 20 rfl rfl)
theorem dX12_begin_307 : decode cX12_begin 307 = .ok (.getfield 43, 3) := dk_180 0 43 (dk_at dksX12_begin_12 21 rfl rfl)
theorem dX12_begin_310 : decode cX12_begin 310 = .ok (.if_icmp .gt 25, 3) := dk_163 0 25 (dk_at dksX12_begin_13 0 rfl rfl)
theorem dX12_begin_313 : decode cX12_begin 313 = .ok (.aload_n 0, 1) := dk_42 (dk_at dksX12_begin_13 3 rfl rfl)
theorem dX12_begin_314 : decode cX12_begin 314 = .ok (.getfield 19, 3) := dk_180 0 19 (dk_at dksX12_begin_13 4 rfl rfl)
theorem dX12_begin_317 : decode cX12_begin 317 = .ok (.iload_n 3, 1) := dk_29 (dk_at dksX12_begin_13 7 rfl rfl)
theorem dX12_begin_318 : decode cX12_begin 318 = .ok (.iload_n 3, 1) := dk_29 (dk_at dksX12_begin_13 8 rfl rfl)
theorem dX12_begin_319 : decode cX12_begin 319 = .ok (.ifCond .ne 7, 3) := dk_154 0 7 (dk_at dksX12_begin_13 9 rfl rfl)
theorem dX12_begin_322 : decode cX12_begin 322 = .ok (.iconst 0, 1) := dk_3 (dk_at dksX12_begin_13 12 rfl rfl)
theorem dX12_begin_323 : decode cX12_begin 323 = .ok (.goto 5, 3) := dk_167 0 5 (dk_at dksX12_begin_13 13 rfl rfl)
theorem dX12_begin_326 : decode cX12_begin 326 = .ok (.ldc 69, 2) := dk_18 69 (dk_at dksX12_begin_13 16 rfl rfl)
theorem dX12_begin_328 : decode cX12_begin 328 = .ok (.iastore, 1) := dk_79 (dk_at dksX12_begin_13 18 rfl rfl)
theorem dX12_begin_329 : decode cX12_begin 329 = .ok (.iinc 3 1, 3) := dk_132 3 1 (dk_at dksX12_begin_13 19 rfl rfl)
theorem dX12_begin_332 : decode cX12_begin 332 = .ok (.goto (-27), 3) := dk_167 255 229 (dk_at dksX12_begin_14 0 rfl rfl)
theorem dX12_begin_335 : decode cX12_begin 335 = .ok (.iconst 0, 1) := dk_3 (dk_at dksX12_begin_14 3 rfl rfl)
theorem dX12_begin_336 : decode cX12_begin 336 = .ok (.istore_n 3, 1) := dk_62 (dk_at dksX12_begin_14 4 rfl rfl)
theorem dX12_begin_337 : decode cX12_begin 337 = .ok (.iload_n 3, 1) := dk_29 (dk_at dksX12_begin_14 5 rfl rfl)
theorem dX12_begin_338 : decode cX12_begin 338 = .ok (.aload_n 0, 1) := dk_42 (dk_at dksX12_begin_14 6 rfl rfl)
theorem dX12_begin_339 : decode cX12_begin 339 = .ok (.getfield 43, 3) := dk_180 0 43 (dk_at dksX12_begin_14 7 rfl rfl)
theorem dX12_begin_342 : decode cX12_begin 342 = .ok (.if_icmp .ge 176, 3) := dk_162 0 176 (dk_at dksX12_begin_14 10 rfl rfl)
theorem dX12_begin_345 : decode cX12_begin 345 = .ok (.aload_n 0, 1) := dk_42 (dk_at dksX12_begin_14 13 rfl rfl)
theorem dX12_begin_346 : decode cX12_begin 346 = .ok (.getfield 19, 3) := dk_180 0 19 (dk_at dksX12_begin_14 14 rfl rfl)
theorem dX12_begin_349 : decode cX12_begin 349 = .ok (.iload_n 3, 1) := dk_29 (dk_at dksX12_begin_14 17 rfl rfl)
theorem dX12_begin_350 : decode cX12_begin 350 = .ok (.iconst 1, 1) := dk_4 (dk_at dksX12_begin_14 18 rfl rfl)
theorem dX12_begin_351 : decode cX12_begin 351 = .ok (.iadd, 1) := dk_96 (dk_at dksX12_begin_14 19 rfl rfl)
theorem dX12_begin_352 : decode cX12_begin 352 = .ok (.aload_n 0, 1) := dk_42 (dk_at dksX12_begin_14 20 rfl rfl)
theorem dX12_begin_353 : decode cX12_begin 353 = .ok (.getfield 19, 3) := dk_180 0 19 (dk_at dksX12_begin_14 21 rfl rfl)
theorem dX12_begin_356 : decode cX12_begin 356 = .ok (.iload_n 3, 1) := dk_29 (dk_at dksX12_begin_15 0 rfl rfl)
theorem dX12_begin_357 : decode cX12_begin 357 = .ok (.iconst 1, 1) := dk_4 (dk_at dksX12_begin_15 1 rfl rfl)
theorem dX12_begin_358 : decode cX12_begin 358 = .ok (.iadd, 1) := dk_96 (dk_at dksX12_begin_15 2 rfl rfl)
theorem dX12_begin_359 : decode cX12_begin 359 = .ok (.iaload, 1) := dk_46 (dk_at dksX12_begin_15 3 rfl rfl)
theorem dX12_begin_360 : decode cX12_begin 360 = .ok (.aload_n 0, 1) := dk_42 (dk_at dksX12_begin_15 4 rfl rfl)
theorem dX12_begin_361 : decode cX12_begin 361 = .ok (.getfield 19, 3) := dk_180 0 19 (dk_at dksX12_begin_15 5 rfl rfl)
theorem dX12_begin_364 : decode cX12_begin 364 = .ok (.iload_n 3, 1) := dk_29 (dk_at dksX12_begin_15 8 rfl rfl)
theorem dX12_begin_365 : decode cX12_begin 365 = .ok (.iaload, 1) := dk_46 (dk_at dksX12_begin_15 9 rfl rfl)
theorem dX12_begin_366 : decode cX12_begin 366 = .ok (.aload_n 0, 1) := dk_42 (dk_at dksX12_begin_15 10 rfl rfl)
theorem dX12_begin_367 : decode cX12_begin 367 = .ok (.iload_n 3, 1) := dk_29 (dk_at dksX12_begin_15 11 rfl rfl)
theorem dX12_begin_368 : decode cX12_begin 368 = .ok (.invokevirtual 65, 3) := dk_182 0 65 (dk_at dksX12_begin_15 12 rfl rfl)
theorem dX12_begin_371 : decode cX12_begin 371 = .ok (.iadd, 1) := dk_96 (dk_at dksX12_begin_15 15 rfl rfl)
theorem dX12_begin_372 : decode cX12_begin 372 = .ok (.invokestatic 70, 3) := dk_184 0 70 (dk_at dksX12_begin_15 16 rfl rfl)
theorem dX12_begin_375 : decode cX12_begin 375 = .ok (.iastore, 1) := dk_79 (dk_at dksX12_begin_15 19 rfl rfl)
theorem dX12_begin_376 : decode cX12_begin 376 = .ok (.aload_n 0, 1) := dk_42 (dk_at dksX12_begin_15 20 rfl rfl)
theorem dX12_begin_377 : decode cX12_begin 377 = .ok (.iload_n 3, 1) := dk_29 (dk_at dksX12_begin_15 21 rfl rfl)
theorem dX12_begin_378 : decode cX12_begin 378 = .ok (.invokevirtual 61, 3) := dk_182 0 61 (dk_at dksX12_begin_16 0 rfl rfl)
theorem dX12_begin_381 : decode cX12_begin 381 = .ok (.ifCond .eq 40, 3) := dk_153 0 40 (dk_at dksX12_begin_16 3 rfl rfl)
theorem dX12_begin_384 : decode cX12_begin 384 = .ok (.aload_n 0, 1) := dk_42 (dk_at dksX12_begin_16 6 rfl rfl)
theorem dX12_begin_385 : decode cX12_begin 385 = .ok (.iload_n 3, 1) := dk_29 (dk_at dksX12_begin_16 7 rfl rfl)
theorem dX12_begin_386 : decode cX12_begin 386 = .ok (.iconst 1, 1) := dk_4 (dk_at dksX12_begin_16 8 rfl rfl)
theorem dX12_begin_387 : decode cX12_begin 387 = .ok (.iadd, 1) := dk_96 (dk_at dksX12_begin_16 9 rfl rfl)
theorem dX12_begin_388 : decode cX12_begin 388 = .ok (.invokevirtual 61, 3) := dk_182 0 61 (dk_at dksX12_begin_16 10 rfl rfl)
theorem dX12_begin_391 : decode cX12_begin 391 = .ok (.ifCond .eq 30, 3) := dk_153 0 30 (dk_at dksX12_begin_16 13 rfl rfl)
theorem dX12_begin_394 : decode cX12_begin 394 = .ok (.aload_n 0, 1) := dk_42 (dk_at dksX12_begin_16 16 rfl rfl)
theorem dX12_begin_395 : decode cX12_begin 395 = .ok (.getfield 19, 3) := dk_180 0 19 (dk_at dksX12_begin_16 17 rfl rfl)
theorem dX12_begin_398 : decode cX12_begin 398 = .ok (.iload_n 3, 1) := dk_29 (dk_at dksX12_begin_16 20 rfl rfl)
theorem dX12_begin_399 : decode cX12_begin 399 = .ok (.iconst 2, 1) := dk_5 (dk_at dksX12_begin_16 21 rfl rfl)
theorem dX12_begin_400 : decode cX12_begin 400 = .ok (.iadd, 1) := dk_96 (dk_at dksX12_begin_16 22 rfl rfl)
theorem dX12_begin_401 : decode cX12_begin 401 = .ok (.aload_n 0, 1) := dk_42 (dk_at dksX12_begin_16 23 rfl rfl)
theorem dX12_begin_402 : decode cX12_begin 402 = .ok (.getfield 19, 3) := dk_180 0 19 (dk_at dksX12_begin_17 0 rfl rfl)
theorem dX12_begin_405 : decode cX12_begin 405 = .ok (.iload_n 3, 1) := dk_29 (dk_at dksX12_begin_17 3 rfl rfl)
theorem dX12_begin_406 : decode cX12_begin 406 = .ok (.iconst 2, 1) := dk_5 (dk_at dksX12_begin_17 4 rfl rfl)
theorem dX12_begin_407 : decode cX12_begin 407 = .ok (.iadd, 1) := dk_96 (dk_at dksX12_begin_17 5 rfl rfl)
theorem dX12_begin_408 : decode cX12_begin 408 = .ok (.iaload, 1) := dk_46 (dk_at dksX12_begin_17 6 rfl rfl)
theorem dX12_begin_409 : decode cX12_begin 409 = .ok (.aload_n 0, 1) := dk_42 (dk_at dksX12_begin_17 7 rfl rfl)
theorem dX12_begin_410 : decode cX12_begin 410 = .ok (.getfield 19, 3) := dk_180 0 19 (dk_at dksX12_begin_17 8 rfl rfl)
theorem dX12_begin_413 : decode cX12_begin 413 = .ok (.iload_n 3, 1) := dk_29 (dk_at dksX12_begin_17 11 rfl rfl)
theorem dX12_begin_414 : decode cX12_begin 414 = .ok (.iaload, 1) := dk_46 (dk_at dksX12_begin_17 12 rfl rfl)
theorem dX12_begin_415 : decode cX12_begin 415 = .ok (.iconst 1, 1) := dk_4 (dk_at dksX12_begin_17 13 rfl rfl)
theorem dX12_begin_416 : decode cX12_begin 416 = .ok (.iadd, 1) := dk_96 (dk_at dksX12_begin_17 14 rfl rfl)
theorem dX12_begin_417 : decode cX12_begin 417 = .ok (.invokestatic 70, 3) := dk_184 0 70 (dk_at dksX12_begin_17 15 rfl rfl)
theorem dX12_begin_420 : decode cX12_begin 420 = .ok (.iastore, 1) := dk_79 (dk_at dksX12_begin_17 18 rfl rfl)
theorem dX12_begin_421 : decode cX12_begin 421 = .ok (.iconst 0, 1) := dk_3 (dk_at dksX12_begin_17 19 rfl rfl)
theorem dX12_begin_422 : decode cX12_begin 422 = .ok (.istore 4, 2) := dk_54 4 (dk_at dksX12_begin_17 20 rfl rfl)
theorem dX12_begin_424 : decode cX12_begin 424 = .ok (.iload 4, 2) := dk_21 4 (dk_at dksX12_begin_17 22 rfl rfl)
theorem dX12_begin_426 : decode cX12_begin 426 = .ok (.aload_n 0, 1) := dk_42 (dk_at dksX12_begin_18 0 rfl rfl)
theorem dX12_begin_427 : decode cX12_begin 427 = .ok (.getfield 36, 3) := dk_180 0 36 (dk_at dksX12_begin_18 1 rfl rfl)
theorem dX12_begin_430 : decode cX12_begin 430 = .ok (.invokevirtual 47, 3) := dk_182 0 47 (dk_at dksX12_begin_18 4 rfl rfl)
theorem dX12_begin_433 : decode cX12_begin 433 = .ok (.if_icmp .ge 79, 3) := dk_162 0 79 (dk_at dksX12_begin_18 7 rfl rfl)
theorem dX12_begin_436 : decode cX12_begin 436 = .ok (.aload_n 0, 1) := dk_42 (dk_at dksX12_begin_18 10 rfl rfl)
theorem dX12_begin_437 : decode cX12_begin 437 = .ok (.getfield 36, 3) := dk_180 0 36 (dk_at dksX12_begin_18 11 rfl rfl)
theorem dX12_begin_440 : decode cX12_begin 440 = .ok (.iload 4, 2) := dk_21 4 (dk_at dksX12_begin_18 14 rfl rfl)
theorem dX12_begin_442 : decode cX12_begin 442 = .ok (.invokevirtual 51, 3) := dk_182 0 51 (dk_at dksX12_begin_18 16 rfl rfl)
theorem dX12_begin_445 : decode cX12_begin 445 = .ok (.checkcast 55, 3) := dk_192 0 55 (dk_at dksX12_begin_18 19 rfl rfl)
theorem dX12_begin_448 : decode cX12_begin 448 = .ok (.astore 5, 2) := dk_58 5 (dk_at dksX12_begin_18 22 rfl rfl)
theorem dX12_begin_450 : decode cX12_begin 450 = .ok (.iconst 1, 1) := dk_4 (dk_at dksX12_begin_19 0 rfl rfl)
theorem dX12_begin_451 : decode cX12_begin 451 = .ok (.istore 6, 2) := dk_54 6 (dk_at dksX12_begin_19 1 rfl rfl)
theorem dX12_begin_453 : decode cX12_begin 453 = .ok (.iload 6, 2) := dk_21 6 (dk_at dksX12_begin_19 3 rfl rfl)
theorem dX12_begin_455 : decode cX12_begin 455 = .ok (.aload_n 0, 1) := dk_42 (dk_at dksX12_begin_19 5 rfl rfl)
theorem dX12_begin_456 : decode cX12_begin 456 = .ok (.getfield 43, 3) := dk_180 0 43 (dk_at dksX12_begin_19 6 rfl rfl)
theorem dX12_begin_459 : decode cX12_begin 459 = .ok (.iload_n 3, 1) := dk_29 (dk_at dksX12_begin_19 9 rfl rfl)
theorem dX12_begin_460 : decode cX12_begin 460 = .ok (.isub, 1) := dk_100 (dk_at dksX12_begin_19 10 rfl rfl)
theorem dX12_begin_461 : decode cX12_begin 461 = .ok (.if_icmp .gt 45, 3) := dk_163 0 45 (dk_at dksX12_begin_19 11 rfl rfl)
theorem dX12_begin_464 : decode cX12_begin 464 = .ok (.aload_n 0, 1) := dk_42 (dk_at dksX12_begin_19 14 rfl rfl)
theorem dX12_begin_465 : decode cX12_begin 465 = .ok (.getfield 19, 3) := dk_180 0 19 (dk_at dksX12_begin_19 15 rfl rfl)
theorem dX12_begin_468 : decode cX12_begin 468 = .ok (.iload_n 3, 1) := dk_29 (dk_at dksX12_begin_19 18 rfl rfl)
theorem dX12_begin_469 : decode cX12_begin 469 = .ok (.iload 6, 2) := dk_21 6 (dk_at dksX12_begin_19 19 rfl rfl)
theorem dX12_begin_471 : decode cX12_begin 471 = .ok (.iadd, 1) := dk_96 (dk_at dksX12_begin_19 21 rfl rfl)
theorem dX12_begin_472 : decode cX12_begin 472 = .ok (.aload_n 0, 1) := dk_42 (dk_at dksX12_begin_19 22 rfl rfl)
theorem dX12_begin_473 : decode cX12_begin 473 = .ok (.getfield 19, 3) := dk_180 0 19 (dk_at dksX12_begin_20 0 rfl rfl)
theorem dX12_begin_476 : decode cX12_begin 476 = .ok (.iload_n 3, 1) := dk_29 (dk_at dksX12_begin_20 3 rfl rfl)
theorem dX12_begin_477 : decode cX12_begin 477 = .ok (.iload 6, 2) := dk_21 6 (dk_at dksX12_begin_20 4 rfl rfl)
theorem dX12_begin_479 : decode cX12_begin 479 = .ok (.iadd, 1) := dk_96 (dk_at dksX12_begin_20 6 rfl rfl)
theorem dX12_begin_480 : decode cX12_begin 480 = .ok (.iaload, 1) := dk_46 (dk_at dksX12_begin_20 7 rfl rfl)
theorem dX12_begin_481 : decode cX12_begin 481 = .ok (.aload_n 0, 1) := dk_42 (dk_at dksX12_begin_20 8 rfl rfl)
theorem dX12_begin_482 : decode cX12_begin 482 = .ok (.getfield 19, 3) := dk_180 0 19 (dk_at dksX12_begin_20 9 rfl rfl)
theorem dX12_begin_485 : decode cX12_begin 485 = .ok (.iload_n 3, 1) := dk_29 (dk_at dksX12_begin_20 12 rfl rfl)
theorem dX12_begin_486 : decode cX12_begin 486 = .ok (.iaload, 1) := dk_46 (dk_at dksX12_begin_20 13 rfl rfl)
theorem dX12_begin_487 : decode cX12_begin 487 = .ok (.aload 5, 2) := dk_25 5 (dk_at dksX12_begin_20 14 rfl rfl)
theorem dX12_begin_489 : decode cX12_begin 489 = .ok (.iload_n 3, 1) := dk_29 (dk_at dksX12_begin_20 16 rfl rfl)
theorem dX12_begin_490 : decode cX12_begin 490 = .ok (.iload 6, 2) := dk_21 6 (dk_at dksX12_begin_20 17 rfl rfl)
theorem dX12_begin_492 : decode cX12_begin 492 = .ok (.invokevirtual 76, 3) := dk_182 0 76 (dk_at dksX12_begin_20 19 rfl rfl)
theorem dX12_begin_495 : decode cX12_begin 495 = .ok (.iadd, 1) := dk_96 (dk_at dksX12_begin_20 22 rfl rfl)
theorem dX12_begin_496 : decode cX12_begin 496 = .ok (.invokestatic 70, 3) := dk_184 0 70 (dk_at dksX12_begin_21 0 rfl rfl)
theorem dX12_begin_499 : decode cX12_begin 499 = .ok (.iastore, 1) := dk_79 (dk_at dksX12_begin_21 3 rfl rfl)
theorem dX12_begin_500 : decode cX12_begin 500 = .ok (.iinc 6 1, 3) := dk_132 6 1 (dk_at dksX12_begin_21 4 rfl rfl)
theorem dX12_begin_503 : decode cX12_begin 503 = .ok (.goto (-50), 3) := dk_167 255 206 (dk_at dksX12_begin_21 7 rfl rfl)
theorem dX12_begin_506 : decode cX12_begin 506 = .ok (.iinc 4 1, 3) := dk_132 4 1 (dk_at dksX12_begin_21 10 rfl rfl)
theorem dX12_begin_509 : decode cX12_begin 509 = .ok (.goto (-85), 3) := dk_167 255 171 (dk_at dksX12_begin_21 13 rfl rfl)
theorem dX12_begin_512 : decode cX12_begin 512 = .ok (.iinc 3 1, 3) := dk_132 3 1 (dk_at dksX12_begin_21 16 rfl rfl)
theorem dX12_begin_515 : decode cX12_begin 515 = .ok (.goto (-178), 3) := dk_167 255 78 (dk_at dksX12_begin_21 19 rfl rfl)
theorem dX12_begin_518 : decode cX12_begin 518 = .ok (.return_, 1) := dk_177 (dk_at dksX12_begin_21 22 rfl rfl)
abbrev cX12_isDigit : ByteArray := prog_3_method_2_code
def yX12_isDigit : MethodName := ⟨RX12, "isDigit", "(I)Z"⟩
def dkwX12_isDigit_1 : List UInt8 := [51, 16, 57, 163, 0, 7, 4, 167, 0, 4, 3, 172]
abbrev dktX12_isDigit_1 : List UInt8 := dkwX12_isDigit_1 ++ []
def dkwX12_isDigit_0 : List UInt8 := [27, 42, 180, 0, 43, 162, 0, 29, 42, 180, 0, 9, 27, 51, 16, 48, 161, 0, 18, 42, 180, 0, 9, 27]
abbrev dktX12_isDigit_0 : List UInt8 := dkwX12_isDigit_0 ++ dktX12_isDigit_1
theorem dksX12_isDigit_0 : cX12_isDigit.data.toList.drop 0 = dktX12_isDigit_0 := by decide +kernel
theorem dksX12_isDigit_1 : cX12_isDigit.data.toList.drop 24 = dktX12_isDigit_1 := dk_seg dksX12_isDigit_0 24 rfl rfl
theorem dX12_isDigit_0 : decode cX12_isDigit 0 = .ok (.iload_n 1, 1) := dk_27 (dk_at dksX12_isDigit_0 0 rfl rfl)
theorem dX12_isDigit_1 : decode cX12_isDigit 1 = .ok (.aload_n 0, 1) := dk_42 (dk_at dksX12_isDigit_0 1 rfl rfl)
theorem dX12_isDigit_2 : decode cX12_isDigit 2 = .ok (.getfield 43, 3) := dk_180 0 43 (dk_at dksX12_isDigit_0 2 rfl rfl)
theorem dX12_isDigit_5 : decode cX12_isDigit 5 = .ok (.if_icmp .ge 29, 3) := dk_162 0 29 (dk_at dksX12_isDigit_0 5 rfl rfl)
theorem dX12_isDigit_8 : decode cX12_isDigit 8 = .ok (.aload_n 0, 1) := dk_42 (dk_at dksX12_isDigit_0 8 rfl rfl)
theorem dX12_isDigit_9 : decode cX12_isDigit 9 = .ok (.getfield 9, 3) := dk_180 0 9 (dk_at dksX12_isDigit_0 9 rfl rfl)
theorem dX12_isDigit_12 : decode cX12_isDigit 12 = .ok (.iload_n 1, 1) := dk_27 (dk_at dksX12_isDigit_0 12 rfl rfl)
theorem dX12_isDigit_13 : decode cX12_isDigit 13 = .ok (.baload, 1) := dk_51 (dk_at dksX12_isDigit_0 13 rfl rfl)
theorem dX12_isDigit_14 : decode cX12_isDigit 14 = .ok (.bipush 48, 2) := dk_16 48 (dk_at dksX12_isDigit_0 14 rfl rfl)
theorem dX12_isDigit_16 : decode cX12_isDigit 16 = .ok (.if_icmp .lt 18, 3) := dk_161 0 18 (dk_at dksX12_isDigit_0 16 rfl rfl)
theorem dX12_isDigit_19 : decode cX12_isDigit 19 = .ok (.aload_n 0, 1) := dk_42 (dk_at dksX12_isDigit_0 19 rfl rfl)
theorem dX12_isDigit_20 : decode cX12_isDigit 20 = .ok (.getfield 9, 3) := dk_180 0 9 (dk_at dksX12_isDigit_0 20 rfl rfl)
theorem dX12_isDigit_23 : decode cX12_isDigit 23 = .ok (.iload_n 1, 1) := dk_27 (dk_at dksX12_isDigit_0 23 rfl rfl)
theorem dX12_isDigit_24 : decode cX12_isDigit 24 = .ok (.baload, 1) := dk_51 (dk_at dksX12_isDigit_1 0 rfl rfl)
theorem dX12_isDigit_25 : decode cX12_isDigit 25 = .ok (.bipush 57, 2) := dk_16 57 (dk_at dksX12_isDigit_1 1 rfl rfl)
theorem dX12_isDigit_27 : decode cX12_isDigit 27 = .ok (.if_icmp .gt 7, 3) := dk_163 0 7 (dk_at dksX12_isDigit_1 3 rfl rfl)
theorem dX12_isDigit_30 : decode cX12_isDigit 30 = .ok (.iconst 1, 1) := dk_4 (dk_at dksX12_isDigit_1 6 rfl rfl)
theorem dX12_isDigit_31 : decode cX12_isDigit 31 = .ok (.goto 4, 3) := dk_167 0 4 (dk_at dksX12_isDigit_1 7 rfl rfl)
theorem dX12_isDigit_34 : decode cX12_isDigit 34 = .ok (.iconst 0, 1) := dk_3 (dk_at dksX12_isDigit_1 10 rfl rfl)
theorem dX12_isDigit_35 : decode cX12_isDigit 35 = .ok (.ireturn, 1) := dk_172 (dk_at dksX12_isDigit_1 11 rfl rfl)
abbrev cX12_one : ByteArray := prog_3_method_3_code
def yX12_one : MethodName := ⟨RX12, "one", "(I)I"⟩
def dkwX12_one_0 : List UInt8 := [42, 180, 0, 9, 27, 51, 155, 0, 7, 4, 167, 0, 4, 5, 172]
abbrev dktX12_one_0 : List UInt8 := dkwX12_one_0 ++ []
theorem dksX12_one_0 : cX12_one.data.toList.drop 0 = dktX12_one_0 := by decide +kernel
theorem dX12_one_0 : decode cX12_one 0 = .ok (.aload_n 0, 1) := dk_42 (dk_at dksX12_one_0 0 rfl rfl)
theorem dX12_one_1 : decode cX12_one 1 = .ok (.getfield 9, 3) := dk_180 0 9 (dk_at dksX12_one_0 1 rfl rfl)
theorem dX12_one_4 : decode cX12_one 4 = .ok (.iload_n 1, 1) := dk_27 (dk_at dksX12_one_0 4 rfl rfl)
theorem dX12_one_5 : decode cX12_one 5 = .ok (.baload, 1) := dk_51 (dk_at dksX12_one_0 5 rfl rfl)
theorem dX12_one_6 : decode cX12_one 6 = .ok (.ifCond .lt 7, 3) := dk_155 0 7 (dk_at dksX12_one_0 6 rfl rfl)
theorem dX12_one_9 : decode cX12_one 9 = .ok (.iconst 1, 1) := dk_4 (dk_at dksX12_one_0 9 rfl rfl)
theorem dX12_one_10 : decode cX12_one 10 = .ok (.goto 4, 3) := dk_167 0 4 (dk_at dksX12_one_0 10 rfl rfl)
theorem dX12_one_13 : decode cX12_one 13 = .ok (.iconst 2, 1) := dk_5 (dk_at dksX12_one_0 13 rfl rfl)
theorem dX12_one_14 : decode cX12_one 14 = .ok (.ireturn, 1) := dk_172 (dk_at dksX12_one_0 14 rfl rfl)
abbrev cX12_fits : ByteArray := prog_3_method_7_code
def yX12_fits : MethodName := ⟨RX12, "fits", "(I)Z"⟩
def dkwX12_fits_4 : List UInt8 := [162, 0, 7, 4, 167, 0, 4, 3, 172]
abbrev dktX12_fits_4 : List UInt8 := dkwX12_fits_4 ++ []
def dkwX12_fits_3 : List UInt8 := [153, 0, 12, 42, 180, 0, 15, 3, 46, 167, 0, 4, 28, 181, 0, 101, 42, 180, 0, 101, 18, 69]
abbrev dktX12_fits_3 : List UInt8 := dkwX12_fits_3 ++ dktX12_fits_4
def dkwX12_fits_2 : List UInt8 := [42, 180, 0, 15, 3, 46, 28, 163, 0, 7, 4, 167, 0, 4, 3, 181, 0, 97, 42, 42, 180, 0, 97]
abbrev dktX12_fits_2 : List UInt8 := dkwX12_fits_2 ++ dktX12_fits_3
def dkwX12_fits_1 : List UInt8 := [184, 0, 70, 61, 132, 3, 1, 167, 255, 235, 42, 42, 180, 0, 15, 3, 46, 42, 180, 0, 79, 163, 0, 17]
abbrev dktX12_fits_1 : List UInt8 := dkwX12_fits_1 ++ dktX12_fits_2
def dkwX12_fits_0 : List UInt8 := [42, 27, 181, 0, 79, 18, 69, 61, 3, 62, 29, 42, 180, 0, 43, 162, 0, 19, 28, 42, 29, 182, 0, 94]
abbrev dktX12_fits_0 : List UInt8 := dkwX12_fits_0 ++ dktX12_fits_1
theorem dksX12_fits_0 : cX12_fits.data.toList.drop 0 = dktX12_fits_0 := by decide +kernel
theorem dksX12_fits_1 : cX12_fits.data.toList.drop 24 = dktX12_fits_1 := dk_seg dksX12_fits_0 24 rfl rfl
theorem dksX12_fits_2 : cX12_fits.data.toList.drop 48 = dktX12_fits_2 := dk_seg dksX12_fits_1 24 rfl rfl
theorem dksX12_fits_3 : cX12_fits.data.toList.drop 71 = dktX12_fits_3 := dk_seg dksX12_fits_2 23 rfl rfl
theorem dksX12_fits_4 : cX12_fits.data.toList.drop 93 = dktX12_fits_4 := dk_seg dksX12_fits_3 22 rfl rfl
theorem dX12_fits_0 : decode cX12_fits 0 = .ok (.aload_n 0, 1) := dk_42 (dk_at dksX12_fits_0 0 rfl rfl)
theorem dX12_fits_1 : decode cX12_fits 1 = .ok (.iload_n 1, 1) := dk_27 (dk_at dksX12_fits_0 1 rfl rfl)
theorem dX12_fits_2 : decode cX12_fits 2 = .ok (.putfield 79, 3) := dk_181 0 79 (dk_at dksX12_fits_0 2 rfl rfl)
theorem dX12_fits_5 : decode cX12_fits 5 = .ok (.ldc 69, 2) := dk_18 69 (dk_at dksX12_fits_0 5 rfl rfl)
theorem dX12_fits_7 : decode cX12_fits 7 = .ok (.istore_n 2, 1) := dk_61 (dk_at dksX12_fits_0 7 rfl rfl)
theorem dX12_fits_8 : decode cX12_fits 8 = .ok (.iconst 0, 1) := dk_3 (dk_at dksX12_fits_0 8 rfl rfl)
theorem dX12_fits_9 : decode cX12_fits 9 = .ok (.istore_n 3, 1) := dk_62 (dk_at dksX12_fits_0 9 rfl rfl)
theorem dX12_fits_10 : decode cX12_fits 10 = .ok (.iload_n 3, 1) := dk_29 (dk_at dksX12_fits_0 10 rfl rfl)
theorem dX12_fits_11 : decode cX12_fits 11 = .ok (.aload_n 0, 1) := dk_42 (dk_at dksX12_fits_0 11 rfl rfl)
theorem dX12_fits_12 : decode cX12_fits 12 = .ok (.getfield 43, 3) := dk_180 0 43 (dk_at dksX12_fits_0 12 rfl rfl)
theorem dX12_fits_15 : decode cX12_fits 15 = .ok (.if_icmp .ge 19, 3) := dk_162 0 19 (dk_at dksX12_fits_0 15 rfl rfl)
theorem dX12_fits_18 : decode cX12_fits 18 = .ok (.iload_n 2, 1) := dk_28 (dk_at dksX12_fits_0 18 rfl rfl)
theorem dX12_fits_19 : decode cX12_fits 19 = .ok (.aload_n 0, 1) := dk_42 (dk_at dksX12_fits_0 19 rfl rfl)
theorem dX12_fits_20 : decode cX12_fits 20 = .ok (.iload_n 3, 1) := dk_29 (dk_at dksX12_fits_0 20 rfl rfl)
theorem dX12_fits_21 : decode cX12_fits 21 = .ok (.invokevirtual 94, 3) := dk_182 0 94 (dk_at dksX12_fits_0 21 rfl rfl)
theorem dX12_fits_24 : decode cX12_fits 24 = .ok (.invokestatic 70, 3) := dk_184 0 70 (dk_at dksX12_fits_1 0 rfl rfl)
theorem dX12_fits_27 : decode cX12_fits 27 = .ok (.istore_n 2, 1) := dk_61 (dk_at dksX12_fits_1 3 rfl rfl)
theorem dX12_fits_28 : decode cX12_fits 28 = .ok (.iinc 3 1, 3) := dk_132 3 1 (dk_at dksX12_fits_1 4 rfl rfl)
theorem dX12_fits_31 : decode cX12_fits 31 = .ok (.goto (-21), 3) := dk_167 255 235 (dk_at dksX12_fits_1 7 rfl rfl)
theorem dX12_fits_34 : decode cX12_fits 34 = .ok (.aload_n 0, 1) := dk_42 (dk_at dksX12_fits_1 10 rfl rfl)
theorem dX12_fits_35 : decode cX12_fits 35 = .ok (.aload_n 0, 1) := dk_42 (dk_at dksX12_fits_1 11 rfl rfl)
theorem dX12_fits_36 : decode cX12_fits 36 = .ok (.getfield 15, 3) := dk_180 0 15 (dk_at dksX12_fits_1 12 rfl rfl)
theorem dX12_fits_39 : decode cX12_fits 39 = .ok (.iconst 0, 1) := dk_3 (dk_at dksX12_fits_1 15 rfl rfl)
theorem dX12_fits_40 : decode cX12_fits 40 = .ok (.iaload, 1) := dk_46 (dk_at dksX12_fits_1 16 rfl rfl)
theorem dX12_fits_41 : decode cX12_fits 41 = .ok (.aload_n 0, 1) := dk_42 (dk_at dksX12_fits_1 17 rfl rfl)
theorem dX12_fits_42 : decode cX12_fits 42 = .ok (.getfield 79, 3) := dk_180 0 79 (dk_at dksX12_fits_1 18 rfl rfl)
theorem dX12_fits_45 : decode cX12_fits 45 = .ok (.if_icmp .gt 17, 3) := dk_163 0 17 (dk_at dksX12_fits_1 21 rfl rfl)
theorem dX12_fits_48 : decode cX12_fits 48 = .ok (.aload_n 0, 1) := dk_42 (dk_at dksX12_fits_2 0 rfl rfl)
theorem dX12_fits_49 : decode cX12_fits 49 = .ok (.getfield 15, 3) := dk_180 0 15 (dk_at dksX12_fits_2 1 rfl rfl)
theorem dX12_fits_52 : decode cX12_fits 52 = .ok (.iconst 0, 1) := dk_3 (dk_at dksX12_fits_2 4 rfl rfl)
theorem dX12_fits_53 : decode cX12_fits 53 = .ok (.iaload, 1) := dk_46 (dk_at dksX12_fits_2 5 rfl rfl)
theorem dX12_fits_54 : decode cX12_fits 54 = .ok (.iload_n 2, 1) := dk_28 (dk_at dksX12_fits_2 6 rfl rfl)
theorem dX12_fits_55 : decode cX12_fits 55 = .ok (.if_icmp .gt 7, 3) := dk_163 0 7 (dk_at dksX12_fits_2 7 rfl rfl)
theorem dX12_fits_58 : decode cX12_fits 58 = .ok (.iconst 1, 1) := dk_4 (dk_at dksX12_fits_2 10 rfl rfl)
theorem dX12_fits_59 : decode cX12_fits 59 = .ok (.goto 4, 3) := dk_167 0 4 (dk_at dksX12_fits_2 11 rfl rfl)
theorem dX12_fits_62 : decode cX12_fits 62 = .ok (.iconst 0, 1) := dk_3 (dk_at dksX12_fits_2 14 rfl rfl)
theorem dX12_fits_63 : decode cX12_fits 63 = .ok (.putfield 97, 3) := dk_181 0 97 (dk_at dksX12_fits_2 15 rfl rfl)
theorem dX12_fits_66 : decode cX12_fits 66 = .ok (.aload_n 0, 1) := dk_42 (dk_at dksX12_fits_2 18 rfl rfl)
theorem dX12_fits_67 : decode cX12_fits 67 = .ok (.aload_n 0, 1) := dk_42 (dk_at dksX12_fits_2 19 rfl rfl)
theorem dX12_fits_68 : decode cX12_fits 68 = .ok (.getfield 97, 3) := dk_180 0 97 (dk_at dksX12_fits_2 20 rfl rfl)
theorem dX12_fits_71 : decode cX12_fits 71 = .ok (.ifCond .eq 12, 3) := dk_153 0 12 (dk_at dksX12_fits_3 0 rfl rfl)
theorem dX12_fits_74 : decode cX12_fits 74 = .ok (.aload_n 0, 1) := dk_42 (dk_at dksX12_fits_3 3 rfl rfl)
theorem dX12_fits_75 : decode cX12_fits 75 = .ok (.getfield 15, 3) := dk_180 0 15 (dk_at dksX12_fits_3 4 rfl rfl)
theorem dX12_fits_78 : decode cX12_fits 78 = .ok (.iconst 0, 1) := dk_3 (dk_at dksX12_fits_3 7 rfl rfl)
theorem dX12_fits_79 : decode cX12_fits 79 = .ok (.iaload, 1) := dk_46 (dk_at dksX12_fits_3 8 rfl rfl)
theorem dX12_fits_80 : decode cX12_fits 80 = .ok (.goto 4, 3) := dk_167 0 4 (dk_at dksX12_fits_3 9 rfl rfl)
theorem dX12_fits_83 : decode cX12_fits 83 = .ok (.iload_n 2, 1) := dk_28 (dk_at dksX12_fits_3 12 rfl rfl)
theorem dX12_fits_84 : decode cX12_fits 84 = .ok (.putfield 101, 3) := dk_181 0 101 (dk_at dksX12_fits_3 13 rfl rfl)
theorem dX12_fits_87 : decode cX12_fits 87 = .ok (.aload_n 0, 1) := dk_42 (dk_at dksX12_fits_3 16 rfl rfl)
theorem dX12_fits_88 : decode cX12_fits 88 = .ok (.getfield 101, 3) := dk_180 0 101 (dk_at dksX12_fits_3 17 rfl rfl)
theorem dX12_fits_91 : decode cX12_fits 91 = .ok (.ldc 69, 2) := dk_18 69 (dk_at dksX12_fits_3 20 rfl rfl)
theorem dX12_fits_93 : decode cX12_fits 93 = .ok (.if_icmp .ge 7, 3) := dk_162 0 7 (dk_at dksX12_fits_4 0 rfl rfl)
theorem dX12_fits_96 : decode cX12_fits 96 = .ok (.iconst 1, 1) := dk_4 (dk_at dksX12_fits_4 3 rfl rfl)
theorem dX12_fits_97 : decode cX12_fits 97 = .ok (.goto 4, 3) := dk_167 0 4 (dk_at dksX12_fits_4 4 rfl rfl)
theorem dX12_fits_100 : decode cX12_fits 100 = .ok (.iconst 0, 1) := dk_3 (dk_at dksX12_fits_4 7 rfl rfl)
theorem dX12_fits_101 : decode cX12_fits 101 = .ok (.ireturn, 1) := dk_172 (dk_at dksX12_fits_4 8 rfl rfl)
abbrev cX12_leastOpen : ByteArray := prog_3_method_6_code
def yX12_leastOpen : MethodName := ⟨RX12, "leastOpen", "(I)I"⟩
def dkwX12_leastOpen_3 : List UInt8 := [132, 3, 1, 167, 255, 188, 28, 172]
abbrev dktX12_leastOpen_3 : List UInt8 := dkwX12_leastOpen_3 ++ []
def dkwX12_leastOpen_2 : List UInt8 := [182, 0, 51, 192, 0, 55, 27, 21, 4, 182, 0, 91, 184, 0, 70, 61, 132, 4, 1, 167, 255, 219]
abbrev dktX12_leastOpen_2 : List UInt8 := dkwX12_leastOpen_2 ++ dktX12_leastOpen_3
def dkwX12_leastOpen_1 : List UInt8 := [100, 184, 0, 88, 54, 4, 21, 4, 42, 180, 0, 43, 27, 100, 163, 0, 32, 28, 42, 42, 180, 0, 36, 29]
abbrev dktX12_leastOpen_1 : List UInt8 := dkwX12_leastOpen_1 ++ dktX12_leastOpen_2
def dkwX12_leastOpen_0 : List UInt8 := [18, 69, 61, 3, 62, 29, 42, 180, 0, 36, 182, 0, 47, 162, 0, 63, 4, 42, 180, 0, 43, 27, 100, 7]
abbrev dktX12_leastOpen_0 : List UInt8 := dkwX12_leastOpen_0 ++ dktX12_leastOpen_1
theorem dksX12_leastOpen_0 : cX12_leastOpen.data.toList.drop 0 = dktX12_leastOpen_0 := by decide +kernel
theorem dksX12_leastOpen_1 : cX12_leastOpen.data.toList.drop 24 = dktX12_leastOpen_1 := dk_seg dksX12_leastOpen_0 24 rfl rfl
theorem dksX12_leastOpen_2 : cX12_leastOpen.data.toList.drop 48 = dktX12_leastOpen_2 := dk_seg dksX12_leastOpen_1 24 rfl rfl
theorem dksX12_leastOpen_3 : cX12_leastOpen.data.toList.drop 70 = dktX12_leastOpen_3 := dk_seg dksX12_leastOpen_2 22 rfl rfl
theorem dX12_leastOpen_0 : decode cX12_leastOpen 0 = .ok (.ldc 69, 2) := dk_18 69 (dk_at dksX12_leastOpen_0 0 rfl rfl)
theorem dX12_leastOpen_2 : decode cX12_leastOpen 2 = .ok (.istore_n 2, 1) := dk_61 (dk_at dksX12_leastOpen_0 2 rfl rfl)
theorem dX12_leastOpen_3 : decode cX12_leastOpen 3 = .ok (.iconst 0, 1) := dk_3 (dk_at dksX12_leastOpen_0 3 rfl rfl)
theorem dX12_leastOpen_4 : decode cX12_leastOpen 4 = .ok (.istore_n 3, 1) := dk_62 (dk_at dksX12_leastOpen_0 4 rfl rfl)
theorem dX12_leastOpen_5 : decode cX12_leastOpen 5 = .ok (.iload_n 3, 1) := dk_29 (dk_at dksX12_leastOpen_0 5 rfl rfl)
theorem dX12_leastOpen_6 : decode cX12_leastOpen 6 = .ok (.aload_n 0, 1) := dk_42 (dk_at dksX12_leastOpen_0 6 rfl rfl)
theorem dX12_leastOpen_7 : decode cX12_leastOpen 7 = .ok (.getfield 36, 3) := dk_180 0 36 (dk_at dksX12_leastOpen_0 7 rfl rfl)
theorem dX12_leastOpen_10 : decode cX12_leastOpen 10 = .ok (.invokevirtual 47, 3) := dk_182 0 47 (dk_at dksX12_leastOpen_0 10 rfl rfl)
theorem dX12_leastOpen_13 : decode cX12_leastOpen 13 = .ok (.if_icmp .ge 63, 3) := dk_162 0 63 (dk_at dksX12_leastOpen_0 13 rfl rfl)
theorem dX12_leastOpen_16 : decode cX12_leastOpen 16 = .ok (.iconst 1, 1) := dk_4 (dk_at dksX12_leastOpen_0 16 rfl rfl)
theorem dX12_leastOpen_17 : decode cX12_leastOpen 17 = .ok (.aload_n 0, 1) := dk_42 (dk_at dksX12_leastOpen_0 17 rfl rfl)
theorem dX12_leastOpen_18 : decode cX12_leastOpen 18 = .ok (.getfield 43, 3) := dk_180 0 43 (dk_at dksX12_leastOpen_0 18 rfl rfl)
theorem dX12_leastOpen_21 : decode cX12_leastOpen 21 = .ok (.iload_n 1, 1) := dk_27 (dk_at dksX12_leastOpen_0 21 rfl rfl)
theorem dX12_leastOpen_22 : decode cX12_leastOpen 22 = .ok (.isub, 1) := dk_100 (dk_at dksX12_leastOpen_0 22 rfl rfl)
theorem dX12_leastOpen_23 : decode cX12_leastOpen 23 = .ok (.iconst 4, 1) := dk_7 (dk_at dksX12_leastOpen_0 23 rfl rfl)
theorem dX12_leastOpen_24 : decode cX12_leastOpen 24 = .ok (.isub, 1) := dk_100 (dk_at dksX12_leastOpen_1 0 rfl rfl)
theorem dX12_leastOpen_25 : decode cX12_leastOpen 25 = .ok (.invokestatic 88, 3) := dk_184 0 88 (dk_at dksX12_leastOpen_1 1 rfl rfl)
theorem dX12_leastOpen_28 : decode cX12_leastOpen 28 = .ok (.istore 4, 2) := dk_54 4 (dk_at dksX12_leastOpen_1 4 rfl rfl)
theorem dX12_leastOpen_30 : decode cX12_leastOpen 30 = .ok (.iload 4, 2) := dk_21 4 (dk_at dksX12_leastOpen_1 6 rfl rfl)
theorem dX12_leastOpen_32 : decode cX12_leastOpen 32 = .ok (.aload_n 0, 1) := dk_42 (dk_at dksX12_leastOpen_1 8 rfl rfl)
theorem dX12_leastOpen_33 : decode cX12_leastOpen 33 = .ok (.getfield 43, 3) := dk_180 0 43 (dk_at dksX12_leastOpen_1 9 rfl rfl)
theorem dX12_leastOpen_36 : decode cX12_leastOpen 36 = .ok (.iload_n 1, 1) := dk_27 (dk_at dksX12_leastOpen_1 12 rfl rfl)
theorem dX12_leastOpen_37 : decode cX12_leastOpen 37 = .ok (.isub, 1) := dk_100 (dk_at dksX12_leastOpen_1 13 rfl rfl)
theorem dX12_leastOpen_38 : decode cX12_leastOpen 38 = .ok (.if_icmp .gt 32, 3) := dk_163 0 32 (dk_at dksX12_leastOpen_1 14 rfl rfl)
theorem dX12_leastOpen_41 : decode cX12_leastOpen 41 = .ok (.iload_n 2, 1) := dk_28 (dk_at dksX12_leastOpen_1 17 rfl rfl)
theorem dX12_leastOpen_42 : decode cX12_leastOpen 42 = .ok (.aload_n 0, 1) := dk_42 (dk_at dksX12_leastOpen_1 18 rfl rfl)
theorem dX12_leastOpen_43 : decode cX12_leastOpen 43 = .ok (.aload_n 0, 1) := dk_42 (dk_at dksX12_leastOpen_1 19 rfl rfl)
theorem dX12_leastOpen_44 : decode cX12_leastOpen 44 = .ok (.getfield 36, 3) := dk_180 0 36 (dk_at dksX12_leastOpen_1 20 rfl rfl)
theorem dX12_leastOpen_47 : decode cX12_leastOpen 47 = .ok (.iload_n 3, 1) := dk_29 (dk_at dksX12_leastOpen_1 23 rfl rfl)
theorem dX12_leastOpen_48 : decode cX12_leastOpen 48 = .ok (.invokevirtual 51, 3) := dk_182 0 51 (dk_at dksX12_leastOpen_2 0 rfl rfl)
theorem dX12_leastOpen_51 : decode cX12_leastOpen 51 = .ok (.checkcast 55, 3) := dk_192 0 55 (dk_at dksX12_leastOpen_2 3 rfl rfl)
theorem dX12_leastOpen_54 : decode cX12_leastOpen 54 = .ok (.iload_n 1, 1) := dk_27 (dk_at dksX12_leastOpen_2 6 rfl rfl)
theorem dX12_leastOpen_55 : decode cX12_leastOpen 55 = .ok (.iload 4, 2) := dk_21 4 (dk_at dksX12_leastOpen_2 7 rfl rfl)
theorem dX12_leastOpen_57 : decode cX12_leastOpen 57 = .ok (.invokevirtual 91, 3) := dk_182 0 91 (dk_at dksX12_leastOpen_2 9 rfl rfl)
theorem dX12_leastOpen_60 : decode cX12_leastOpen 60 = .ok (.invokestatic 70, 3) := dk_184 0 70 (dk_at dksX12_leastOpen_2 12 rfl rfl)
theorem dX12_leastOpen_63 : decode cX12_leastOpen 63 = .ok (.istore_n 2, 1) := dk_61 (dk_at dksX12_leastOpen_2 15 rfl rfl)
theorem dX12_leastOpen_64 : decode cX12_leastOpen 64 = .ok (.iinc 4 1, 3) := dk_132 4 1 (dk_at dksX12_leastOpen_2 16 rfl rfl)
theorem dX12_leastOpen_67 : decode cX12_leastOpen 67 = .ok (.goto (-37), 3) := dk_167 255 219 (dk_at dksX12_leastOpen_2 19 rfl rfl)
theorem dX12_leastOpen_70 : decode cX12_leastOpen 70 = .ok (.iinc 3 1, 3) := dk_132 3 1 (dk_at dksX12_leastOpen_3 0 rfl rfl)
theorem dX12_leastOpen_73 : decode cX12_leastOpen 73 = .ok (.goto (-68), 3) := dk_167 255 188 (dk_at dksX12_leastOpen_3 3 rfl rfl)
theorem dX12_leastOpen_76 : decode cX12_leastOpen 76 = .ok (.iload_n 2, 1) := dk_28 (dk_at dksX12_leastOpen_3 6 rfl rfl)
theorem dX12_leastOpen_77 : decode cX12_leastOpen 77 = .ok (.ireturn, 1) := dk_172 (dk_at dksX12_leastOpen_3 7 rfl rfl)
abbrev cX12_open : ByteArray := prog_3_method_5_code
def yX12_open : MethodName := ⟨RX12, "open", "(LMatrixPress$Encodation;II)I"⟩
def dkwX12_open_2 : List UInt8 := [164, 0, 8, 18, 69, 167, 0, 13, 42, 180, 0, 79, 21, 4, 100, 21, 5, 96, 172]
abbrev dktX12_open_2 : List UInt8 := dkwX12_open_2 ++ []
def dkwX12_open_1 : List UInt8 := [28, 29, 96, 46, 54, 5, 21, 4, 155, 0, 19, 21, 4, 43, 182, 0, 85, 163, 0, 10, 21, 5, 21, 4]
abbrev dktX12_open_1 : List UInt8 := dkwX12_open_1 ++ dktX12_open_2
def dkwX12_open_0 : List UInt8 := [42, 180, 0, 79, 42, 180, 0, 19, 28, 46, 100, 43, 28, 29, 182, 0, 82, 100, 54, 4, 42, 180, 0, 22]
abbrev dktX12_open_0 : List UInt8 := dkwX12_open_0 ++ dktX12_open_1
theorem dksX12_open_0 : cX12_open.data.toList.drop 0 = dktX12_open_0 := by decide +kernel
theorem dksX12_open_1 : cX12_open.data.toList.drop 24 = dktX12_open_1 := dk_seg dksX12_open_0 24 rfl rfl
theorem dksX12_open_2 : cX12_open.data.toList.drop 48 = dktX12_open_2 := dk_seg dksX12_open_1 24 rfl rfl
theorem dX12_open_0 : decode cX12_open 0 = .ok (.aload_n 0, 1) := dk_42 (dk_at dksX12_open_0 0 rfl rfl)
theorem dX12_open_1 : decode cX12_open 1 = .ok (.getfield 79, 3) := dk_180 0 79 (dk_at dksX12_open_0 1 rfl rfl)
theorem dX12_open_4 : decode cX12_open 4 = .ok (.aload_n 0, 1) := dk_42 (dk_at dksX12_open_0 4 rfl rfl)
theorem dX12_open_5 : decode cX12_open 5 = .ok (.getfield 19, 3) := dk_180 0 19 (dk_at dksX12_open_0 5 rfl rfl)
theorem dX12_open_8 : decode cX12_open 8 = .ok (.iload_n 2, 1) := dk_28 (dk_at dksX12_open_0 8 rfl rfl)
theorem dX12_open_9 : decode cX12_open 9 = .ok (.iaload, 1) := dk_46 (dk_at dksX12_open_0 9 rfl rfl)
theorem dX12_open_10 : decode cX12_open 10 = .ok (.isub, 1) := dk_100 (dk_at dksX12_open_0 10 rfl rfl)
theorem dX12_open_11 : decode cX12_open 11 = .ok (.aload_n 1, 1) := dk_43 (dk_at dksX12_open_0 11 rfl rfl)
theorem dX12_open_12 : decode cX12_open 12 = .ok (.iload_n 2, 1) := dk_28 (dk_at dksX12_open_0 12 rfl rfl)
theorem dX12_open_13 : decode cX12_open 13 = .ok (.iload_n 3, 1) := dk_29 (dk_at dksX12_open_0 13 rfl rfl)
theorem dX12_open_14 : decode cX12_open 14 = .ok (.invokevirtual 82, 3) := dk_182 0 82 (dk_at dksX12_open_0 14 rfl rfl)
theorem dX12_open_17 : decode cX12_open 17 = .ok (.isub, 1) := dk_100 (dk_at dksX12_open_0 17 rfl rfl)
theorem dX12_open_18 : decode cX12_open 18 = .ok (.istore 4, 2) := dk_54 4 (dk_at dksX12_open_0 18 rfl rfl)
theorem dX12_open_20 : decode cX12_open 20 = .ok (.aload_n 0, 1) := dk_42 (dk_at dksX12_open_0 20 rfl rfl)
theorem dX12_open_21 : decode cX12_open 21 = .ok (.getfield 22, 3) := dk_180 0 22 (dk_at dksX12_open_0 21 rfl rfl)
theorem dX12_open_24 : decode cX12_open 24 = .ok (.iload_n 2, 1) := dk_28 (dk_at dksX12_open_1 0 rfl rfl)
theorem dX12_open_25 : decode cX12_open 25 = .ok (.iload_n 3, 1) := dk_29 (dk_at dksX12_open_1 1 rfl rfl)
theorem dX12_open_26 : decode cX12_open 26 = .ok (.iadd, 1) := dk_96 (dk_at dksX12_open_1 2 rfl rfl)
theorem dX12_open_27 : decode cX12_open 27 = .ok (.iaload, 1) := dk_46 (dk_at dksX12_open_1 3 rfl rfl)
theorem dX12_open_28 : decode cX12_open 28 = .ok (.istore 5, 2) := dk_54 5 (dk_at dksX12_open_1 4 rfl rfl)
theorem dX12_open_30 : decode cX12_open 30 = .ok (.iload 4, 2) := dk_21 4 (dk_at dksX12_open_1 6 rfl rfl)
theorem dX12_open_32 : decode cX12_open 32 = .ok (.ifCond .lt 19, 3) := dk_155 0 19 (dk_at dksX12_open_1 8 rfl rfl)
theorem dX12_open_35 : decode cX12_open 35 = .ok (.iload 4, 2) := dk_21 4 (dk_at dksX12_open_1 11 rfl rfl)
theorem dX12_open_37 : decode cX12_open 37 = .ok (.aload_n 1, 1) := dk_43 (dk_at dksX12_open_1 13 rfl rfl)
theorem dX12_open_38 : decode cX12_open 38 = .ok (.invokevirtual 85, 3) := dk_182 0 85 (dk_at dksX12_open_1 14 rfl rfl)
theorem dX12_open_41 : decode cX12_open 41 = .ok (.if_icmp .gt 10, 3) := dk_163 0 10 (dk_at dksX12_open_1 17 rfl rfl)
theorem dX12_open_44 : decode cX12_open 44 = .ok (.iload 5, 2) := dk_21 5 (dk_at dksX12_open_1 20 rfl rfl)
theorem dX12_open_46 : decode cX12_open 46 = .ok (.iload 4, 2) := dk_21 4 (dk_at dksX12_open_1 22 rfl rfl)
theorem dX12_open_48 : decode cX12_open 48 = .ok (.if_icmp .le 8, 3) := dk_164 0 8 (dk_at dksX12_open_2 0 rfl rfl)
theorem dX12_open_51 : decode cX12_open 51 = .ok (.ldc 69, 2) := dk_18 69 (dk_at dksX12_open_2 3 rfl rfl)
theorem dX12_open_53 : decode cX12_open 53 = .ok (.goto 13, 3) := dk_167 0 13 (dk_at dksX12_open_2 5 rfl rfl)
theorem dX12_open_56 : decode cX12_open 56 = .ok (.aload_n 0, 1) := dk_42 (dk_at dksX12_open_2 8 rfl rfl)
theorem dX12_open_57 : decode cX12_open 57 = .ok (.getfield 79, 3) := dk_180 0 79 (dk_at dksX12_open_2 9 rfl rfl)
theorem dX12_open_60 : decode cX12_open 60 = .ok (.iload 4, 2) := dk_21 4 (dk_at dksX12_open_2 12 rfl rfl)
theorem dX12_open_62 : decode cX12_open 62 = .ok (.isub, 1) := dk_100 (dk_at dksX12_open_2 14 rfl rfl)
theorem dX12_open_63 : decode cX12_open 63 = .ok (.iload 5, 2) := dk_21 5 (dk_at dksX12_open_2 15 rfl rfl)
theorem dX12_open_65 : decode cX12_open 65 = .ok (.iadd, 1) := dk_96 (dk_at dksX12_open_2 17 rfl rfl)
theorem dX12_open_66 : decode cX12_open 66 = .ok (.ireturn, 1) := dk_172 (dk_at dksX12_open_2 18 rfl rfl)
abbrev cX12_write : ByteArray := prog_3_method_8_code
def yX12_write : MethodName := ⟨RX12, "write", "()V"⟩
def dkwX12_write_3 : List UInt8 := [42, 180, 0, 39, 182, 0, 124, 177]
abbrev dktX12_write_3 : List UInt8 := dkwX12_write_3 ++ []
def dkwX12_write_2 : List UInt8 := [42, 180, 0, 39, 180, 0, 118, 42, 180, 0, 79, 162, 0, 20, 42, 180, 0, 39, 17, 0, 129, 182, 0, 121]
abbrev dktX12_write_2 : List UInt8 := dkwX12_write_2 ++ dktX12_write_3
def dkwX12_write_1 : List UInt8 := [154, 0, 7, 42, 182, 0, 113, 27, 42, 180, 0, 43, 162, 0, 12, 42, 27, 182, 0, 115, 60, 167, 255, 242]
abbrev dktX12_write_1 : List UInt8 := dkwX12_write_1 ++ dktX12_write_2
def dkwX12_write_0 : List UInt8 := [42, 180, 0, 32, 182, 0, 104, 42, 180, 0, 39, 42, 180, 0, 79, 182, 0, 107, 3, 60, 42, 180, 0, 97]
abbrev dktX12_write_0 : List UInt8 := dkwX12_write_0 ++ dktX12_write_1
theorem dksX12_write_0 : cX12_write.data.toList.drop 0 = dktX12_write_0 := by decide +kernel
theorem dksX12_write_1 : cX12_write.data.toList.drop 24 = dktX12_write_1 := dk_seg dksX12_write_0 24 rfl rfl
theorem dksX12_write_2 : cX12_write.data.toList.drop 48 = dktX12_write_2 := dk_seg dksX12_write_1 24 rfl rfl
theorem dksX12_write_3 : cX12_write.data.toList.drop 72 = dktX12_write_3 := dk_seg dksX12_write_2 24 rfl rfl
theorem dX12_write_0 : decode cX12_write 0 = .ok (.aload_n 0, 1) := dk_42 (dk_at dksX12_write_0 0 rfl rfl)
theorem dX12_write_1 : decode cX12_write 1 = .ok (.getfield 32, 3) := dk_180 0 32 (dk_at dksX12_write_0 1 rfl rfl)
theorem dX12_write_4 : decode cX12_write 4 = .ok (.invokevirtual 104, 3) := dk_182 0 104 (dk_at dksX12_write_0 4 rfl rfl)
theorem dX12_write_7 : decode cX12_write 7 = .ok (.aload_n 0, 1) := dk_42 (dk_at dksX12_write_0 7 rfl rfl)
theorem dX12_write_8 : decode cX12_write 8 = .ok (.getfield 39, 3) := dk_180 0 39 (dk_at dksX12_write_0 8 rfl rfl)
theorem dX12_write_11 : decode cX12_write 11 = .ok (.aload_n 0, 1) := dk_42 (dk_at dksX12_write_0 11 rfl rfl)
theorem dX12_write_12 : decode cX12_write 12 = .ok (.getfield 79, 3) := dk_180 0 79 (dk_at dksX12_write_0 12 rfl rfl)
theorem dX12_write_15 : decode cX12_write 15 = .ok (.invokevirtual 107, 3) := dk_182 0 107 (dk_at dksX12_write_0 15 rfl rfl)
theorem dX12_write_18 : decode cX12_write 18 = .ok (.iconst 0, 1) := dk_3 (dk_at dksX12_write_0 18 rfl rfl)
theorem dX12_write_19 : decode cX12_write 19 = .ok (.istore_n 1, 1) := dk_60 (dk_at dksX12_write_0 19 rfl rfl)
theorem dX12_write_20 : decode cX12_write 20 = .ok (.aload_n 0, 1) := dk_42 (dk_at dksX12_write_0 20 rfl rfl)
theorem dX12_write_21 : decode cX12_write 21 = .ok (.getfield 97, 3) := dk_180 0 97 (dk_at dksX12_write_0 21 rfl rfl)
theorem dX12_write_24 : decode cX12_write 24 = .ok (.ifCond .ne 7, 3) := dk_154 0 7 (dk_at dksX12_write_1 0 rfl rfl)
theorem dX12_write_27 : decode cX12_write 27 = .ok (.aload_n 0, 1) := dk_42 (dk_at dksX12_write_1 3 rfl rfl)
theorem dX12_write_28 : decode cX12_write 28 = .ok (.invokevirtual 113, 3) := dk_182 0 113 (dk_at dksX12_write_1 4 rfl rfl)
theorem dX12_write_31 : decode cX12_write 31 = .ok (.iload_n 1, 1) := dk_27 (dk_at dksX12_write_1 7 rfl rfl)
theorem dX12_write_32 : decode cX12_write 32 = .ok (.aload_n 0, 1) := dk_42 (dk_at dksX12_write_1 8 rfl rfl)
theorem dX12_write_33 : decode cX12_write 33 = .ok (.getfield 43, 3) := dk_180 0 43 (dk_at dksX12_write_1 9 rfl rfl)
theorem dX12_write_36 : decode cX12_write 36 = .ok (.if_icmp .ge 12, 3) := dk_162 0 12 (dk_at dksX12_write_1 12 rfl rfl)
theorem dX12_write_39 : decode cX12_write 39 = .ok (.aload_n 0, 1) := dk_42 (dk_at dksX12_write_1 15 rfl rfl)
theorem dX12_write_40 : decode cX12_write 40 = .ok (.iload_n 1, 1) := dk_27 (dk_at dksX12_write_1 16 rfl rfl)
theorem dX12_write_41 : decode cX12_write 41 = .ok (.invokevirtual 115, 3) := dk_182 0 115 (dk_at dksX12_write_1 17 rfl rfl)
theorem dX12_write_44 : decode cX12_write 44 = .ok (.istore_n 1, 1) := dk_60 (dk_at dksX12_write_1 20 rfl rfl)
theorem dX12_write_45 : decode cX12_write 45 = .ok (.goto (-14), 3) := dk_167 255 242 (dk_at dksX12_write_1 21 rfl rfl)
theorem dX12_write_48 : decode cX12_write 48 = .ok (.aload_n 0, 1) := dk_42 (dk_at dksX12_write_2 0 rfl rfl)
theorem dX12_write_49 : decode cX12_write 49 = .ok (.getfield 39, 3) := dk_180 0 39 (dk_at dksX12_write_2 1 rfl rfl)
theorem dX12_write_52 : decode cX12_write 52 = .ok (.getfield 118, 3) := dk_180 0 118 (dk_at dksX12_write_2 4 rfl rfl)
theorem dX12_write_55 : decode cX12_write 55 = .ok (.aload_n 0, 1) := dk_42 (dk_at dksX12_write_2 7 rfl rfl)
theorem dX12_write_56 : decode cX12_write 56 = .ok (.getfield 79, 3) := dk_180 0 79 (dk_at dksX12_write_2 8 rfl rfl)
theorem dX12_write_59 : decode cX12_write 59 = .ok (.if_icmp .ge 20, 3) := dk_162 0 20 (dk_at dksX12_write_2 11 rfl rfl)
theorem dX12_write_62 : decode cX12_write 62 = .ok (.aload_n 0, 1) := dk_42 (dk_at dksX12_write_2 14 rfl rfl)
theorem dX12_write_63 : decode cX12_write 63 = .ok (.getfield 39, 3) := dk_180 0 39 (dk_at dksX12_write_2 15 rfl rfl)
theorem dX12_write_66 : decode cX12_write 66 = .ok (.sipush 129, 3) := dk_17 0 129 (dk_at dksX12_write_2 18 rfl rfl)
theorem dX12_write_69 : decode cX12_write 69 = .ok (.invokevirtual 121, 3) := dk_182 0 121 (dk_at dksX12_write_2 21 rfl rfl)
theorem dX12_write_72 : decode cX12_write 72 = .ok (.aload_n 0, 1) := dk_42 (dk_at dksX12_write_3 0 rfl rfl)
theorem dX12_write_73 : decode cX12_write 73 = .ok (.getfield 39, 3) := dk_180 0 39 (dk_at dksX12_write_3 1 rfl rfl)
theorem dX12_write_76 : decode cX12_write 76 = .ok (.invokevirtual 124, 3) := dk_182 0 124 (dk_at dksX12_write_3 4 rfl rfl)
theorem dX12_write_79 : decode cX12_write 79 = .ok (.return_, 1) := dk_177 (dk_at dksX12_write_3 7 rfl rfl)
abbrev cX12_leads : ByteArray := prog_3_method_9_code
def yX12_leads : MethodName := ⟨RX12, "leads", "()V"⟩
def dkwX12_leads_7 : List UInt8 := [132, 1, 255, 167, 255, 110, 177]
abbrev dktX12_leads_7 : List UInt8 := dkwX12_leads_7 ++ []
def dkwX12_leads_6 : List UInt8 := [182, 0, 127, 61, 132, 4, 1, 167, 255, 213, 132, 3, 1, 167, 255, 189, 42, 180, 0, 25, 27, 28, 84]
abbrev dktX12_leads_6 : List UInt8 := dkwX12_leads_6 ++ dktX12_leads_7
def dkwX12_leads_5 : List UInt8 := [154, 0, 34, 42, 27, 21, 4, 42, 180, 0, 36, 29, 182, 0, 51, 192, 0, 55, 27, 21, 4, 182, 0, 76]
abbrev dktX12_leads_5 : List UInt8 := dkwX12_leads_5 ++ dktX12_leads_6
def dkwX12_leads_4 : List UInt8 := [162, 0, 62, 28, 154, 0, 58, 4, 54, 4, 21, 4, 42, 180, 0, 43, 27, 100, 163, 0, 38, 28]
abbrev dktX12_leads_4 : List UInt8 := dkwX12_leads_4 ++ dktX12_leads_5
def dkwX12_leads_3 : List UInt8 := [182, 0, 127, 153, 0, 7, 4, 167, 0, 4, 3, 61, 3, 62, 29, 42, 180, 0, 36, 182, 0, 47]
abbrev dktX12_leads_3 : List UInt8 := dkwX12_leads_3 ++ dktX12_leads_4
def dkwX12_leads_2 : List UInt8 := [42, 27, 182, 0, 61, 153, 0, 27, 42, 27, 4, 96, 182, 0, 61, 153, 0, 17, 42, 27, 5, 4]
abbrev dktX12_leads_2 : List UInt8 := dkwX12_leads_2 ++ dktX12_leads_3
def dkwX12_leads_1 : List UInt8 := [182, 0, 94, 42, 180, 0, 101, 159, 0, 45, 42, 27, 4, 42, 27, 182, 0, 65, 182, 0, 127, 154, 0, 31]
abbrev dktX12_leads_1 : List UInt8 := dkwX12_leads_1 ++ dktX12_leads_2
def dkwX12_leads_0 : List UInt8 := [42, 180, 0, 25, 42, 180, 0, 43, 3, 84, 42, 180, 0, 43, 4, 100, 60, 27, 155, 0, 148, 42, 27]
abbrev dktX12_leads_0 : List UInt8 := dkwX12_leads_0 ++ dktX12_leads_1
theorem dksX12_leads_0 : cX12_leads.data.toList.drop 0 = dktX12_leads_0 := by decide +kernel
theorem dksX12_leads_1 : cX12_leads.data.toList.drop 23 = dktX12_leads_1 := dk_seg dksX12_leads_0 23 rfl rfl
theorem dksX12_leads_2 : cX12_leads.data.toList.drop 47 = dktX12_leads_2 := dk_seg dksX12_leads_1 24 rfl rfl
theorem dksX12_leads_3 : cX12_leads.data.toList.drop 69 = dktX12_leads_3 := dk_seg dksX12_leads_2 22 rfl rfl
theorem dksX12_leads_4 : cX12_leads.data.toList.drop 91 = dktX12_leads_4 := dk_seg dksX12_leads_3 22 rfl rfl
theorem dksX12_leads_5 : cX12_leads.data.toList.drop 113 = dktX12_leads_5 := dk_seg dksX12_leads_4 22 rfl rfl
theorem dksX12_leads_6 : cX12_leads.data.toList.drop 137 = dktX12_leads_6 := dk_seg dksX12_leads_5 24 rfl rfl
theorem dksX12_leads_7 : cX12_leads.data.toList.drop 160 = dktX12_leads_7 := dk_seg dksX12_leads_6 23 rfl rfl
theorem dX12_leads_0 : decode cX12_leads 0 = .ok (.aload_n 0, 1) := dk_42 (dk_at dksX12_leads_0 0 rfl rfl)
theorem dX12_leads_1 : decode cX12_leads 1 = .ok (.getfield 25, 3) := dk_180 0 25 (dk_at dksX12_leads_0 1 rfl rfl)
theorem dX12_leads_4 : decode cX12_leads 4 = .ok (.aload_n 0, 1) := dk_42 (dk_at dksX12_leads_0 4 rfl rfl)
theorem dX12_leads_5 : decode cX12_leads 5 = .ok (.getfield 43, 3) := dk_180 0 43 (dk_at dksX12_leads_0 5 rfl rfl)
theorem dX12_leads_8 : decode cX12_leads 8 = .ok (.iconst 0, 1) := dk_3 (dk_at dksX12_leads_0 8 rfl rfl)
theorem dX12_leads_9 : decode cX12_leads 9 = .ok (.bastore, 1) := dk_84 (dk_at dksX12_leads_0 9 rfl rfl)
theorem dX12_leads_10 : decode cX12_leads 10 = .ok (.aload_n 0, 1) := dk_42 (dk_at dksX12_leads_0 10 rfl rfl)
theorem dX12_leads_11 : decode cX12_leads 11 = .ok (.getfield 43, 3) := dk_180 0 43 (dk_at dksX12_leads_0 11 rfl rfl)
theorem dX12_leads_14 : decode cX12_leads 14 = .ok (.iconst 1, 1) := dk_4 (dk_at dksX12_leads_0 14 rfl rfl)
theorem dX12_leads_15 : decode cX12_leads 15 = .ok (.isub, 1) := dk_100 (dk_at dksX12_leads_0 15 rfl rfl)
theorem dX12_leads_16 : decode cX12_leads 16 = .ok (.istore_n 1, 1) := dk_60 (dk_at dksX12_leads_0 16 rfl rfl)
theorem dX12_leads_17 : decode cX12_leads 17 = .ok (.iload_n 1, 1) := dk_27 (dk_at dksX12_leads_0 17 rfl rfl)
theorem dX12_leads_18 : decode cX12_leads 18 = .ok (.ifCond .lt 148, 3) := dk_155 0 148 (dk_at dksX12_leads_0 18 rfl rfl)
theorem dX12_leads_21 : decode cX12_leads 21 = .ok (.aload_n 0, 1) := dk_42 (dk_at dksX12_leads_0 21 rfl rfl)
theorem dX12_leads_22 : decode cX12_leads 22 = .ok (.iload_n 1, 1) := dk_27 (dk_at dksX12_leads_0 22 rfl rfl)
theorem dX12_leads_23 : decode cX12_leads 23 = .ok (.invokevirtual 94, 3) := dk_182 0 94 (dk_at dksX12_leads_1 0 rfl rfl)
theorem dX12_leads_26 : decode cX12_leads 26 = .ok (.aload_n 0, 1) := dk_42 (dk_at dksX12_leads_1 3 rfl rfl)
theorem dX12_leads_27 : decode cX12_leads 27 = .ok (.getfield 101, 3) := dk_180 0 101 (dk_at dksX12_leads_1 4 rfl rfl)
theorem dX12_leads_30 : decode cX12_leads 30 = .ok (.if_icmp .eq 45, 3) := dk_159 0 45 (dk_at dksX12_leads_1 7 rfl rfl)
theorem dX12_leads_33 : decode cX12_leads 33 = .ok (.aload_n 0, 1) := dk_42 (dk_at dksX12_leads_1 10 rfl rfl)
theorem dX12_leads_34 : decode cX12_leads 34 = .ok (.iload_n 1, 1) := dk_27 (dk_at dksX12_leads_1 11 rfl rfl)
theorem dX12_leads_35 : decode cX12_leads 35 = .ok (.iconst 1, 1) := dk_4 (dk_at dksX12_leads_1 12 rfl rfl)
theorem dX12_leads_36 : decode cX12_leads 36 = .ok (.aload_n 0, 1) := dk_42 (dk_at dksX12_leads_1 13 rfl rfl)
theorem dX12_leads_37 : decode cX12_leads 37 = .ok (.iload_n 1, 1) := dk_27 (dk_at dksX12_leads_1 14 rfl rfl)
theorem dX12_leads_38 : decode cX12_leads 38 = .ok (.invokevirtual 65, 3) := dk_182 0 65 (dk_at dksX12_leads_1 15 rfl rfl)
theorem dX12_leads_41 : decode cX12_leads 41 = .ok (.invokevirtual 127, 3) := dk_182 0 127 (dk_at dksX12_leads_1 18 rfl rfl)
theorem dX12_leads_44 : decode cX12_leads 44 = .ok (.ifCond .ne 31, 3) := dk_154 0 31 (dk_at dksX12_leads_1 21 rfl rfl)
theorem dX12_leads_47 : decode cX12_leads 47 = .ok (.aload_n 0, 1) := dk_42 (dk_at dksX12_leads_2 0 rfl rfl)
theorem dX12_leads_48 : decode cX12_leads 48 = .ok (.iload_n 1, 1) := dk_27 (dk_at dksX12_leads_2 1 rfl rfl)
theorem dX12_leads_49 : decode cX12_leads 49 = .ok (.invokevirtual 61, 3) := dk_182 0 61 (dk_at dksX12_leads_2 2 rfl rfl)
theorem dX12_leads_52 : decode cX12_leads 52 = .ok (.ifCond .eq 27, 3) := dk_153 0 27 (dk_at dksX12_leads_2 5 rfl rfl)
theorem dX12_leads_55 : decode cX12_leads 55 = .ok (.aload_n 0, 1) := dk_42 (dk_at dksX12_leads_2 8 rfl rfl)
theorem dX12_leads_56 : decode cX12_leads 56 = .ok (.iload_n 1, 1) := dk_27 (dk_at dksX12_leads_2 9 rfl rfl)
theorem dX12_leads_57 : decode cX12_leads 57 = .ok (.iconst 1, 1) := dk_4 (dk_at dksX12_leads_2 10 rfl rfl)
theorem dX12_leads_58 : decode cX12_leads 58 = .ok (.iadd, 1) := dk_96 (dk_at dksX12_leads_2 11 rfl rfl)
theorem dX12_leads_59 : decode cX12_leads 59 = .ok (.invokevirtual 61, 3) := dk_182 0 61 (dk_at dksX12_leads_2 12 rfl rfl)
theorem dX12_leads_62 : decode cX12_leads 62 = .ok (.ifCond .eq 17, 3) := dk_153 0 17 (dk_at dksX12_leads_2 15 rfl rfl)
theorem dX12_leads_65 : decode cX12_leads 65 = .ok (.aload_n 0, 1) := dk_42 (dk_at dksX12_leads_2 18 rfl rfl)
theorem dX12_leads_66 : decode cX12_leads 66 = .ok (.iload_n 1, 1) := dk_27 (dk_at dksX12_leads_2 19 rfl rfl)
theorem dX12_leads_67 : decode cX12_leads 67 = .ok (.iconst 2, 1) := dk_5 (dk_at dksX12_leads_2 20 rfl rfl)
theorem dX12_leads_68 : decode cX12_leads 68 = .ok (.iconst 1, 1) := dk_4 (dk_at dksX12_leads_2 21 rfl rfl)
theorem dX12_leads_69 : decode cX12_leads 69 = .ok (.invokevirtual 127, 3) := dk_182 0 127 (dk_at dksX12_leads_3 0 rfl rfl)
theorem dX12_leads_72 : decode cX12_leads 72 = .ok (.ifCond .eq 7, 3) := dk_153 0 7 (dk_at dksX12_leads_3 3 rfl rfl)
theorem dX12_leads_75 : decode cX12_leads 75 = .ok (.iconst 1, 1) := dk_4 (dk_at dksX12_leads_3 6 rfl rfl)
theorem dX12_leads_76 : decode cX12_leads 76 = .ok (.goto 4, 3) := dk_167 0 4 (dk_at dksX12_leads_3 7 rfl rfl)
theorem dX12_leads_79 : decode cX12_leads 79 = .ok (.iconst 0, 1) := dk_3 (dk_at dksX12_leads_3 10 rfl rfl)
theorem dX12_leads_80 : decode cX12_leads 80 = .ok (.istore_n 2, 1) := dk_61 (dk_at dksX12_leads_3 11 rfl rfl)
theorem dX12_leads_81 : decode cX12_leads 81 = .ok (.iconst 0, 1) := dk_3 (dk_at dksX12_leads_3 12 rfl rfl)
theorem dX12_leads_82 : decode cX12_leads 82 = .ok (.istore_n 3, 1) := dk_62 (dk_at dksX12_leads_3 13 rfl rfl)
theorem dX12_leads_83 : decode cX12_leads 83 = .ok (.iload_n 3, 1) := dk_29 (dk_at dksX12_leads_3 14 rfl rfl)
theorem dX12_leads_84 : decode cX12_leads 84 = .ok (.aload_n 0, 1) := dk_42 (dk_at dksX12_leads_3 15 rfl rfl)
theorem dX12_leads_85 : decode cX12_leads 85 = .ok (.getfield 36, 3) := dk_180 0 36 (dk_at dksX12_leads_3 16 rfl rfl)
theorem dX12_leads_88 : decode cX12_leads 88 = .ok (.invokevirtual 47, 3) := dk_182 0 47 (dk_at dksX12_leads_3 19 rfl rfl)
theorem dX12_leads_91 : decode cX12_leads 91 = .ok (.if_icmp .ge 62, 3) := dk_162 0 62 (dk_at dksX12_leads_4 0 rfl rfl)
theorem dX12_leads_94 : decode cX12_leads 94 = .ok (.iload_n 2, 1) := dk_28 (dk_at dksX12_leads_4 3 rfl rfl)
theorem dX12_leads_95 : decode cX12_leads 95 = .ok (.ifCond .ne 58, 3) := dk_154 0 58 (dk_at dksX12_leads_4 4 rfl rfl)
theorem dX12_leads_98 : decode cX12_leads 98 = .ok (.iconst 1, 1) := dk_4 (dk_at dksX12_leads_4 7 rfl rfl)
theorem dX12_leads_99 : decode cX12_leads 99 = .ok (.istore 4, 2) := dk_54 4 (dk_at dksX12_leads_4 8 rfl rfl)
theorem dX12_leads_101 : decode cX12_leads 101 = .ok (.iload 4, 2) := dk_21 4 (dk_at dksX12_leads_4 10 rfl rfl)
theorem dX12_leads_103 : decode cX12_leads 103 = .ok (.aload_n 0, 1) := dk_42 (dk_at dksX12_leads_4 12 rfl rfl)
theorem dX12_leads_104 : decode cX12_leads 104 = .ok (.getfield 43, 3) := dk_180 0 43 (dk_at dksX12_leads_4 13 rfl rfl)
theorem dX12_leads_107 : decode cX12_leads 107 = .ok (.iload_n 1, 1) := dk_27 (dk_at dksX12_leads_4 16 rfl rfl)
theorem dX12_leads_108 : decode cX12_leads 108 = .ok (.isub, 1) := dk_100 (dk_at dksX12_leads_4 17 rfl rfl)
theorem dX12_leads_109 : decode cX12_leads 109 = .ok (.if_icmp .gt 38, 3) := dk_163 0 38 (dk_at dksX12_leads_4 18 rfl rfl)
theorem dX12_leads_112 : decode cX12_leads 112 = .ok (.iload_n 2, 1) := dk_28 (dk_at dksX12_leads_4 21 rfl rfl)
theorem dX12_leads_113 : decode cX12_leads 113 = .ok (.ifCond .ne 34, 3) := dk_154 0 34 (dk_at dksX12_leads_5 0 rfl rfl)
theorem dX12_leads_116 : decode cX12_leads 116 = .ok (.aload_n 0, 1) := dk_42 (dk_at dksX12_leads_5 3 rfl rfl)
theorem dX12_leads_117 : decode cX12_leads 117 = .ok (.iload_n 1, 1) := dk_27 (dk_at dksX12_leads_5 4 rfl rfl)
theorem dX12_leads_118 : decode cX12_leads 118 = .ok (.iload 4, 2) := dk_21 4 (dk_at dksX12_leads_5 5 rfl rfl)
theorem dX12_leads_120 : decode cX12_leads 120 = .ok (.aload_n 0, 1) := dk_42 (dk_at dksX12_leads_5 7 rfl rfl)
theorem dX12_leads_121 : decode cX12_leads 121 = .ok (.getfield 36, 3) := dk_180 0 36 (dk_at dksX12_leads_5 8 rfl rfl)
theorem dX12_leads_124 : decode cX12_leads 124 = .ok (.iload_n 3, 1) := dk_29 (dk_at dksX12_leads_5 11 rfl rfl)
theorem dX12_leads_125 : decode cX12_leads 125 = .ok (.invokevirtual 51, 3) := dk_182 0 51 (dk_at dksX12_leads_5 12 rfl rfl)
theorem dX12_leads_128 : decode cX12_leads 128 = .ok (.checkcast 55, 3) := dk_192 0 55 (dk_at dksX12_leads_5 15 rfl rfl)
theorem dX12_leads_131 : decode cX12_leads 131 = .ok (.iload_n 1, 1) := dk_27 (dk_at dksX12_leads_5 18 rfl rfl)
theorem dX12_leads_132 : decode cX12_leads 132 = .ok (.iload 4, 2) := dk_21 4 (dk_at dksX12_leads_5 19 rfl rfl)
theorem dX12_leads_134 : decode cX12_leads 134 = .ok (.invokevirtual 76, 3) := dk_182 0 76 (dk_at dksX12_leads_5 21 rfl rfl)
theorem dX12_leads_137 : decode cX12_leads 137 = .ok (.invokevirtual 127, 3) := dk_182 0 127 (dk_at dksX12_leads_6 0 rfl rfl)
theorem dX12_leads_140 : decode cX12_leads 140 = .ok (.istore_n 2, 1) := dk_61 (dk_at dksX12_leads_6 3 rfl rfl)
theorem dX12_leads_141 : decode cX12_leads 141 = .ok (.iinc 4 1, 3) := dk_132 4 1 (dk_at dksX12_leads_6 4 rfl rfl)
theorem dX12_leads_144 : decode cX12_leads 144 = .ok (.goto (-43), 3) := dk_167 255 213 (dk_at dksX12_leads_6 7 rfl rfl)
theorem dX12_leads_147 : decode cX12_leads 147 = .ok (.iinc 3 1, 3) := dk_132 3 1 (dk_at dksX12_leads_6 10 rfl rfl)
theorem dX12_leads_150 : decode cX12_leads 150 = .ok (.goto (-67), 3) := dk_167 255 189 (dk_at dksX12_leads_6 13 rfl rfl)
theorem dX12_leads_153 : decode cX12_leads 153 = .ok (.aload_n 0, 1) := dk_42 (dk_at dksX12_leads_6 16 rfl rfl)
theorem dX12_leads_154 : decode cX12_leads 154 = .ok (.getfield 25, 3) := dk_180 0 25 (dk_at dksX12_leads_6 17 rfl rfl)
theorem dX12_leads_157 : decode cX12_leads 157 = .ok (.iload_n 1, 1) := dk_27 (dk_at dksX12_leads_6 20 rfl rfl)
theorem dX12_leads_158 : decode cX12_leads 158 = .ok (.iload_n 2, 1) := dk_28 (dk_at dksX12_leads_6 21 rfl rfl)
theorem dX12_leads_159 : decode cX12_leads 159 = .ok (.bastore, 1) := dk_84 (dk_at dksX12_leads_6 22 rfl rfl)
theorem dX12_leads_160 : decode cX12_leads 160 = .ok (.iinc 1 (-1), 3) := dk_132 1 255 (dk_at dksX12_leads_7 0 rfl rfl)
theorem dX12_leads_163 : decode cX12_leads 163 = .ok (.goto (-146), 3) := dk_167 255 110 (dk_at dksX12_leads_7 3 rfl rfl)
theorem dX12_leads_166 : decode cX12_leads 166 = .ok (.return_, 1) := dk_177 (dk_at dksX12_leads_7 6 rfl rfl)
abbrev cX12_goes : ByteArray := prog_3_method_10_code
def yX12_goes : MethodName := ⟨RX12, "goes", "(III)Z"⟩
def dkwX12_goes_1 : List UInt8 := [28, 96, 51, 153, 0, 7, 4, 167, 0, 4, 3, 172]
abbrev dktX12_goes_1 : List UInt8 := dkwX12_goes_1 ++ []
def dkwX12_goes_0 : List UInt8 := [42, 180, 0, 19, 27, 46, 29, 96, 42, 180, 0, 19, 27, 28, 96, 46, 160, 0, 18, 42, 180, 0, 25, 27]
abbrev dktX12_goes_0 : List UInt8 := dkwX12_goes_0 ++ dktX12_goes_1
theorem dksX12_goes_0 : cX12_goes.data.toList.drop 0 = dktX12_goes_0 := by decide +kernel
theorem dksX12_goes_1 : cX12_goes.data.toList.drop 24 = dktX12_goes_1 := dk_seg dksX12_goes_0 24 rfl rfl
theorem dX12_goes_0 : decode cX12_goes 0 = .ok (.aload_n 0, 1) := dk_42 (dk_at dksX12_goes_0 0 rfl rfl)
theorem dX12_goes_1 : decode cX12_goes 1 = .ok (.getfield 19, 3) := dk_180 0 19 (dk_at dksX12_goes_0 1 rfl rfl)
theorem dX12_goes_4 : decode cX12_goes 4 = .ok (.iload_n 1, 1) := dk_27 (dk_at dksX12_goes_0 4 rfl rfl)
theorem dX12_goes_5 : decode cX12_goes 5 = .ok (.iaload, 1) := dk_46 (dk_at dksX12_goes_0 5 rfl rfl)
theorem dX12_goes_6 : decode cX12_goes 6 = .ok (.iload_n 3, 1) := dk_29 (dk_at dksX12_goes_0 6 rfl rfl)
theorem dX12_goes_7 : decode cX12_goes 7 = .ok (.iadd, 1) := dk_96 (dk_at dksX12_goes_0 7 rfl rfl)
theorem dX12_goes_8 : decode cX12_goes 8 = .ok (.aload_n 0, 1) := dk_42 (dk_at dksX12_goes_0 8 rfl rfl)
theorem dX12_goes_9 : decode cX12_goes 9 = .ok (.getfield 19, 3) := dk_180 0 19 (dk_at dksX12_goes_0 9 rfl rfl)
theorem dX12_goes_12 : decode cX12_goes 12 = .ok (.iload_n 1, 1) := dk_27 (dk_at dksX12_goes_0 12 rfl rfl)
theorem dX12_goes_13 : decode cX12_goes 13 = .ok (.iload_n 2, 1) := dk_28 (dk_at dksX12_goes_0 13 rfl rfl)
theorem dX12_goes_14 : decode cX12_goes 14 = .ok (.iadd, 1) := dk_96 (dk_at dksX12_goes_0 14 rfl rfl)
theorem dX12_goes_15 : decode cX12_goes 15 = .ok (.iaload, 1) := dk_46 (dk_at dksX12_goes_0 15 rfl rfl)
theorem dX12_goes_16 : decode cX12_goes 16 = .ok (.if_icmp .ne 18, 3) := dk_160 0 18 (dk_at dksX12_goes_0 16 rfl rfl)
theorem dX12_goes_19 : decode cX12_goes 19 = .ok (.aload_n 0, 1) := dk_42 (dk_at dksX12_goes_0 19 rfl rfl)
theorem dX12_goes_20 : decode cX12_goes 20 = .ok (.getfield 25, 3) := dk_180 0 25 (dk_at dksX12_goes_0 20 rfl rfl)
theorem dX12_goes_23 : decode cX12_goes 23 = .ok (.iload_n 1, 1) := dk_27 (dk_at dksX12_goes_0 23 rfl rfl)
theorem dX12_goes_24 : decode cX12_goes 24 = .ok (.iload_n 2, 1) := dk_28 (dk_at dksX12_goes_1 0 rfl rfl)
theorem dX12_goes_25 : decode cX12_goes 25 = .ok (.iadd, 1) := dk_96 (dk_at dksX12_goes_1 1 rfl rfl)
theorem dX12_goes_26 : decode cX12_goes 26 = .ok (.baload, 1) := dk_51 (dk_at dksX12_goes_1 2 rfl rfl)
theorem dX12_goes_27 : decode cX12_goes 27 = .ok (.ifCond .eq 7, 3) := dk_153 0 7 (dk_at dksX12_goes_1 3 rfl rfl)
theorem dX12_goes_30 : decode cX12_goes 30 = .ok (.iconst 1, 1) := dk_4 (dk_at dksX12_goes_1 6 rfl rfl)
theorem dX12_goes_31 : decode cX12_goes 31 = .ok (.goto 4, 3) := dk_167 0 4 (dk_at dksX12_goes_1 7 rfl rfl)
theorem dX12_goes_34 : decode cX12_goes 34 = .ok (.iconst 0, 1) := dk_3 (dk_at dksX12_goes_1 10 rfl rfl)
theorem dX12_goes_35 : decode cX12_goes 35 = .ok (.ireturn, 1) := dk_172 (dk_at dksX12_goes_1 11 rfl rfl)
abbrev cX12_step : ByteArray := prog_3_method_12_code
def yX12_step : MethodName := ⟨RX12, "step", "(I)I"⟩
def dkwX12_step_7 : List UInt8 := [167, 255, 179, 132, 2, 1, 167, 255, 147, 187, 0, 144, 89, 183, 0, 146, 191]
abbrev dktX12_step_7 : List UInt8 := dkwX12_step_7 ++ []
def dkwX12_step_6 : List UInt8 := [180, 0, 101, 160, 0, 17, 42, 42, 28, 27, 21, 4, 3, 182, 0, 137, 182, 0, 141, 172, 132, 4, 1]
abbrev dktX12_step_6 : List UInt8 := dkwX12_step_6 ++ dktX12_step_7
def dkwX12_step_5 : List UInt8 := [21, 4, 4, 182, 0, 137, 172, 42, 180, 0, 97, 154, 0, 32, 42, 45, 27, 21, 4, 182, 0, 91, 42]
abbrev dktX12_step_5 : List UInt8 := dkwX12_step_5 ++ dktX12_step_6
def dkwX12_step_4 : List UInt8 := [163, 0, 72, 42, 27, 21, 4, 45, 27, 21, 4, 182, 0, 76, 182, 0, 131, 153, 0, 13, 42, 28, 27]
abbrev dktX12_step_4 : List UInt8 := dkwX12_step_4 ++ dktX12_step_5
def dkwX12_step_3 : List UInt8 := [180, 0, 36, 28, 182, 0, 51, 192, 0, 55, 78, 4, 54, 4, 21, 4, 42, 180, 0, 43, 27, 100]
abbrev dktX12_step_3 : List UInt8 := dkwX12_step_3 ++ dktX12_step_4
def dkwX12_step_2 : List UInt8 := [153, 0, 10, 42, 27, 4, 182, 0, 134, 172, 3, 61, 28, 42, 180, 0, 36, 182, 0, 47, 162, 0, 104, 42]
abbrev dktX12_step_2 : List UInt8 := dkwX12_step_2 ++ dktX12_step_3
def dkwX12_step_1 : List UInt8 := [182, 0, 131, 153, 0, 10, 42, 27, 5, 182, 0, 134, 172, 42, 27, 4, 42, 27, 182, 0, 65, 182, 0, 131]
abbrev dktX12_step_1 : List UInt8 := dkwX12_step_1 ++ dktX12_step_2
def dkwX12_step_0 : List UInt8 := [42, 27, 182, 0, 61, 153, 0, 30, 42, 27, 4, 96, 182, 0, 61, 153, 0, 20, 42, 27, 5, 4]
abbrev dktX12_step_0 : List UInt8 := dkwX12_step_0 ++ dktX12_step_1
theorem dksX12_step_0 : cX12_step.data.toList.drop 0 = dktX12_step_0 := by decide +kernel
theorem dksX12_step_1 : cX12_step.data.toList.drop 22 = dktX12_step_1 := dk_seg dksX12_step_0 22 rfl rfl
theorem dksX12_step_2 : cX12_step.data.toList.drop 46 = dktX12_step_2 := dk_seg dksX12_step_1 24 rfl rfl
theorem dksX12_step_3 : cX12_step.data.toList.drop 70 = dktX12_step_3 := dk_seg dksX12_step_2 24 rfl rfl
theorem dksX12_step_4 : cX12_step.data.toList.drop 92 = dktX12_step_4 := dk_seg dksX12_step_3 22 rfl rfl
theorem dksX12_step_5 : cX12_step.data.toList.drop 115 = dktX12_step_5 := dk_seg dksX12_step_4 23 rfl rfl
theorem dksX12_step_6 : cX12_step.data.toList.drop 138 = dktX12_step_6 := dk_seg dksX12_step_5 23 rfl rfl
theorem dksX12_step_7 : cX12_step.data.toList.drop 161 = dktX12_step_7 := dk_seg dksX12_step_6 23 rfl rfl
theorem dX12_step_0 : decode cX12_step 0 = .ok (.aload_n 0, 1) := dk_42 (dk_at dksX12_step_0 0 rfl rfl)
theorem dX12_step_1 : decode cX12_step 1 = .ok (.iload_n 1, 1) := dk_27 (dk_at dksX12_step_0 1 rfl rfl)
theorem dX12_step_2 : decode cX12_step 2 = .ok (.invokevirtual 61, 3) := dk_182 0 61 (dk_at dksX12_step_0 2 rfl rfl)
theorem dX12_step_5 : decode cX12_step 5 = .ok (.ifCond .eq 30, 3) := dk_153 0 30 (dk_at dksX12_step_0 5 rfl rfl)
theorem dX12_step_8 : decode cX12_step 8 = .ok (.aload_n 0, 1) := dk_42 (dk_at dksX12_step_0 8 rfl rfl)
theorem dX12_step_9 : decode cX12_step 9 = .ok (.iload_n 1, 1) := dk_27 (dk_at dksX12_step_0 9 rfl rfl)
theorem dX12_step_10 : decode cX12_step 10 = .ok (.iconst 1, 1) := dk_4 (dk_at dksX12_step_0 10 rfl rfl)
theorem dX12_step_11 : decode cX12_step 11 = .ok (.iadd, 1) := dk_96 (dk_at dksX12_step_0 11 rfl rfl)
theorem dX12_step_12 : decode cX12_step 12 = .ok (.invokevirtual 61, 3) := dk_182 0 61 (dk_at dksX12_step_0 12 rfl rfl)
theorem dX12_step_15 : decode cX12_step 15 = .ok (.ifCond .eq 20, 3) := dk_153 0 20 (dk_at dksX12_step_0 15 rfl rfl)
theorem dX12_step_18 : decode cX12_step 18 = .ok (.aload_n 0, 1) := dk_42 (dk_at dksX12_step_0 18 rfl rfl)
theorem dX12_step_19 : decode cX12_step 19 = .ok (.iload_n 1, 1) := dk_27 (dk_at dksX12_step_0 19 rfl rfl)
theorem dX12_step_20 : decode cX12_step 20 = .ok (.iconst 2, 1) := dk_5 (dk_at dksX12_step_0 20 rfl rfl)
theorem dX12_step_21 : decode cX12_step 21 = .ok (.iconst 1, 1) := dk_4 (dk_at dksX12_step_0 21 rfl rfl)
theorem dX12_step_22 : decode cX12_step 22 = .ok (.invokevirtual 131, 3) := dk_182 0 131 (dk_at dksX12_step_1 0 rfl rfl)
theorem dX12_step_25 : decode cX12_step 25 = .ok (.ifCond .eq 10, 3) := dk_153 0 10 (dk_at dksX12_step_1 3 rfl rfl)
theorem dX12_step_28 : decode cX12_step 28 = .ok (.aload_n 0, 1) := dk_42 (dk_at dksX12_step_1 6 rfl rfl)
theorem dX12_step_29 : decode cX12_step 29 = .ok (.iload_n 1, 1) := dk_27 (dk_at dksX12_step_1 7 rfl rfl)
theorem dX12_step_30 : decode cX12_step 30 = .ok (.iconst 2, 1) := dk_5 (dk_at dksX12_step_1 8 rfl rfl)
theorem dX12_step_31 : decode cX12_step 31 = .ok (.invokevirtual 134, 3) := dk_182 0 134 (dk_at dksX12_step_1 9 rfl rfl)
theorem dX12_step_34 : decode cX12_step 34 = .ok (.ireturn, 1) := dk_172 (dk_at dksX12_step_1 12 rfl rfl)
theorem dX12_step_35 : decode cX12_step 35 = .ok (.aload_n 0, 1) := dk_42 (dk_at dksX12_step_1 13 rfl rfl)
theorem dX12_step_36 : decode cX12_step 36 = .ok (.iload_n 1, 1) := dk_27 (dk_at dksX12_step_1 14 rfl rfl)
theorem dX12_step_37 : decode cX12_step 37 = .ok (.iconst 1, 1) := dk_4 (dk_at dksX12_step_1 15 rfl rfl)
theorem dX12_step_38 : decode cX12_step 38 = .ok (.aload_n 0, 1) := dk_42 (dk_at dksX12_step_1 16 rfl rfl)
theorem dX12_step_39 : decode cX12_step 39 = .ok (.iload_n 1, 1) := dk_27 (dk_at dksX12_step_1 17 rfl rfl)
theorem dX12_step_40 : decode cX12_step 40 = .ok (.invokevirtual 65, 3) := dk_182 0 65 (dk_at dksX12_step_1 18 rfl rfl)
theorem dX12_step_43 : decode cX12_step 43 = .ok (.invokevirtual 131, 3) := dk_182 0 131 (dk_at dksX12_step_1 21 rfl rfl)
theorem dX12_step_46 : decode cX12_step 46 = .ok (.ifCond .eq 10, 3) := dk_153 0 10 (dk_at dksX12_step_2 0 rfl rfl)
theorem dX12_step_49 : decode cX12_step 49 = .ok (.aload_n 0, 1) := dk_42 (dk_at dksX12_step_2 3 rfl rfl)
theorem dX12_step_50 : decode cX12_step 50 = .ok (.iload_n 1, 1) := dk_27 (dk_at dksX12_step_2 4 rfl rfl)
theorem dX12_step_51 : decode cX12_step 51 = .ok (.iconst 1, 1) := dk_4 (dk_at dksX12_step_2 5 rfl rfl)
theorem dX12_step_52 : decode cX12_step 52 = .ok (.invokevirtual 134, 3) := dk_182 0 134 (dk_at dksX12_step_2 6 rfl rfl)
theorem dX12_step_55 : decode cX12_step 55 = .ok (.ireturn, 1) := dk_172 (dk_at dksX12_step_2 9 rfl rfl)
theorem dX12_step_56 : decode cX12_step 56 = .ok (.iconst 0, 1) := dk_3 (dk_at dksX12_step_2 10 rfl rfl)
theorem dX12_step_57 : decode cX12_step 57 = .ok (.istore_n 2, 1) := dk_61 (dk_at dksX12_step_2 11 rfl rfl)
theorem dX12_step_58 : decode cX12_step 58 = .ok (.iload_n 2, 1) := dk_28 (dk_at dksX12_step_2 12 rfl rfl)
theorem dX12_step_59 : decode cX12_step 59 = .ok (.aload_n 0, 1) := dk_42 (dk_at dksX12_step_2 13 rfl rfl)
theorem dX12_step_60 : decode cX12_step 60 = .ok (.getfield 36, 3) := dk_180 0 36 (dk_at dksX12_step_2 14 rfl rfl)
theorem dX12_step_63 : decode cX12_step 63 = .ok (.invokevirtual 47, 3) := dk_182 0 47 (dk_at dksX12_step_2 17 rfl rfl)
theorem dX12_step_66 : decode cX12_step 66 = .ok (.if_icmp .ge 104, 3) := dk_162 0 104 (dk_at dksX12_step_2 20 rfl rfl)
theorem dX12_step_69 : decode cX12_step 69 = .ok (.aload_n 0, 1) := dk_42 (dk_at dksX12_step_2 23 rfl rfl)
theorem dX12_step_70 : decode cX12_step 70 = .ok (.getfield 36, 3) := dk_180 0 36 (dk_at dksX12_step_3 0 rfl rfl)
theorem dX12_step_73 : decode cX12_step 73 = .ok (.iload_n 2, 1) := dk_28 (dk_at dksX12_step_3 3 rfl rfl)
theorem dX12_step_74 : decode cX12_step 74 = .ok (.invokevirtual 51, 3) := dk_182 0 51 (dk_at dksX12_step_3 4 rfl rfl)
theorem dX12_step_77 : decode cX12_step 77 = .ok (.checkcast 55, 3) := dk_192 0 55 (dk_at dksX12_step_3 7 rfl rfl)
theorem dX12_step_80 : decode cX12_step 80 = .ok (.astore_n 3, 1) := dk_78 (dk_at dksX12_step_3 10 rfl rfl)
theorem dX12_step_81 : decode cX12_step 81 = .ok (.iconst 1, 1) := dk_4 (dk_at dksX12_step_3 11 rfl rfl)
theorem dX12_step_82 : decode cX12_step 82 = .ok (.istore 4, 2) := dk_54 4 (dk_at dksX12_step_3 12 rfl rfl)
theorem dX12_step_84 : decode cX12_step 84 = .ok (.iload 4, 2) := dk_21 4 (dk_at dksX12_step_3 14 rfl rfl)
theorem dX12_step_86 : decode cX12_step 86 = .ok (.aload_n 0, 1) := dk_42 (dk_at dksX12_step_3 16 rfl rfl)
theorem dX12_step_87 : decode cX12_step 87 = .ok (.getfield 43, 3) := dk_180 0 43 (dk_at dksX12_step_3 17 rfl rfl)
theorem dX12_step_90 : decode cX12_step 90 = .ok (.iload_n 1, 1) := dk_27 (dk_at dksX12_step_3 20 rfl rfl)
theorem dX12_step_91 : decode cX12_step 91 = .ok (.isub, 1) := dk_100 (dk_at dksX12_step_3 21 rfl rfl)
theorem dX12_step_92 : decode cX12_step 92 = .ok (.if_icmp .gt 72, 3) := dk_163 0 72 (dk_at dksX12_step_4 0 rfl rfl)
theorem dX12_step_95 : decode cX12_step 95 = .ok (.aload_n 0, 1) := dk_42 (dk_at dksX12_step_4 3 rfl rfl)
theorem dX12_step_96 : decode cX12_step 96 = .ok (.iload_n 1, 1) := dk_27 (dk_at dksX12_step_4 4 rfl rfl)
theorem dX12_step_97 : decode cX12_step 97 = .ok (.iload 4, 2) := dk_21 4 (dk_at dksX12_step_4 5 rfl rfl)
theorem dX12_step_99 : decode cX12_step 99 = .ok (.aload_n 3, 1) := dk_45 (dk_at dksX12_step_4 7 rfl rfl)
theorem dX12_step_100 : decode cX12_step 100 = .ok (.iload_n 1, 1) := dk_27 (dk_at dksX12_step_4 8 rfl rfl)
theorem dX12_step_101 : decode cX12_step 101 = .ok (.iload 4, 2) := dk_21 4 (dk_at dksX12_step_4 9 rfl rfl)
theorem dX12_step_103 : decode cX12_step 103 = .ok (.invokevirtual 76, 3) := dk_182 0 76 (dk_at dksX12_step_4 11 rfl rfl)
theorem dX12_step_106 : decode cX12_step 106 = .ok (.invokevirtual 131, 3) := dk_182 0 131 (dk_at dksX12_step_4 14 rfl rfl)
theorem dX12_step_109 : decode cX12_step 109 = .ok (.ifCond .eq 13, 3) := dk_153 0 13 (dk_at dksX12_step_4 17 rfl rfl)
theorem dX12_step_112 : decode cX12_step 112 = .ok (.aload_n 0, 1) := dk_42 (dk_at dksX12_step_4 20 rfl rfl)
theorem dX12_step_113 : decode cX12_step 113 = .ok (.iload_n 2, 1) := dk_28 (dk_at dksX12_step_4 21 rfl rfl)
theorem dX12_step_114 : decode cX12_step 114 = .ok (.iload_n 1, 1) := dk_27 (dk_at dksX12_step_4 22 rfl rfl)
theorem dX12_step_115 : decode cX12_step 115 = .ok (.iload 4, 2) := dk_21 4 (dk_at dksX12_step_5 0 rfl rfl)
theorem dX12_step_117 : decode cX12_step 117 = .ok (.iconst 1, 1) := dk_4 (dk_at dksX12_step_5 2 rfl rfl)
theorem dX12_step_118 : decode cX12_step 118 = .ok (.invokevirtual 137, 3) := dk_182 0 137 (dk_at dksX12_step_5 3 rfl rfl)
theorem dX12_step_121 : decode cX12_step 121 = .ok (.ireturn, 1) := dk_172 (dk_at dksX12_step_5 6 rfl rfl)
theorem dX12_step_122 : decode cX12_step 122 = .ok (.aload_n 0, 1) := dk_42 (dk_at dksX12_step_5 7 rfl rfl)
theorem dX12_step_123 : decode cX12_step 123 = .ok (.getfield 97, 3) := dk_180 0 97 (dk_at dksX12_step_5 8 rfl rfl)
theorem dX12_step_126 : decode cX12_step 126 = .ok (.ifCond .ne 32, 3) := dk_154 0 32 (dk_at dksX12_step_5 11 rfl rfl)
theorem dX12_step_129 : decode cX12_step 129 = .ok (.aload_n 0, 1) := dk_42 (dk_at dksX12_step_5 14 rfl rfl)
theorem dX12_step_130 : decode cX12_step 130 = .ok (.aload_n 3, 1) := dk_45 (dk_at dksX12_step_5 15 rfl rfl)
theorem dX12_step_131 : decode cX12_step 131 = .ok (.iload_n 1, 1) := dk_27 (dk_at dksX12_step_5 16 rfl rfl)
theorem dX12_step_132 : decode cX12_step 132 = .ok (.iload 4, 2) := dk_21 4 (dk_at dksX12_step_5 17 rfl rfl)
theorem dX12_step_134 : decode cX12_step 134 = .ok (.invokevirtual 91, 3) := dk_182 0 91 (dk_at dksX12_step_5 19 rfl rfl)
theorem dX12_step_137 : decode cX12_step 137 = .ok (.aload_n 0, 1) := dk_42 (dk_at dksX12_step_5 22 rfl rfl)
theorem dX12_step_138 : decode cX12_step 138 = .ok (.getfield 101, 3) := dk_180 0 101 (dk_at dksX12_step_6 0 rfl rfl)
theorem dX12_step_141 : decode cX12_step 141 = .ok (.if_icmp .ne 17, 3) := dk_160 0 17 (dk_at dksX12_step_6 3 rfl rfl)
theorem dX12_step_144 : decode cX12_step 144 = .ok (.aload_n 0, 1) := dk_42 (dk_at dksX12_step_6 6 rfl rfl)
theorem dX12_step_145 : decode cX12_step 145 = .ok (.aload_n 0, 1) := dk_42 (dk_at dksX12_step_6 7 rfl rfl)
theorem dX12_step_146 : decode cX12_step 146 = .ok (.iload_n 2, 1) := dk_28 (dk_at dksX12_step_6 8 rfl rfl)
theorem dX12_step_147 : decode cX12_step 147 = .ok (.iload_n 1, 1) := dk_27 (dk_at dksX12_step_6 9 rfl rfl)
theorem dX12_step_148 : decode cX12_step 148 = .ok (.iload 4, 2) := dk_21 4 (dk_at dksX12_step_6 10 rfl rfl)
theorem dX12_step_150 : decode cX12_step 150 = .ok (.iconst 0, 1) := dk_3 (dk_at dksX12_step_6 12 rfl rfl)
theorem dX12_step_151 : decode cX12_step 151 = .ok (.invokevirtual 137, 3) := dk_182 0 137 (dk_at dksX12_step_6 13 rfl rfl)
theorem dX12_step_154 : decode cX12_step 154 = .ok (.invokevirtual 141, 3) := dk_182 0 141 (dk_at dksX12_step_6 16 rfl rfl)
theorem dX12_step_157 : decode cX12_step 157 = .ok (.ireturn, 1) := dk_172 (dk_at dksX12_step_6 19 rfl rfl)
theorem dX12_step_158 : decode cX12_step 158 = .ok (.iinc 4 1, 3) := dk_132 4 1 (dk_at dksX12_step_6 20 rfl rfl)
theorem dX12_step_161 : decode cX12_step 161 = .ok (.goto (-77), 3) := dk_167 255 179 (dk_at dksX12_step_7 0 rfl rfl)
theorem dX12_step_164 : decode cX12_step 164 = .ok (.iinc 2 1, 3) := dk_132 2 1 (dk_at dksX12_step_7 3 rfl rfl)
theorem dX12_step_167 : decode cX12_step 167 = .ok (.goto (-109), 3) := dk_167 255 147 (dk_at dksX12_step_7 6 rfl rfl)
theorem dX12_step_170 : decode cX12_step 170 = .ok (.new 144, 3) := dk_187 0 144 (dk_at dksX12_step_7 9 rfl rfl)
theorem dX12_step_173 : decode cX12_step 173 = .ok (.dup, 1) := dk_89 (dk_at dksX12_step_7 12 rfl rfl)
theorem dX12_step_174 : decode cX12_step 174 = .ok (.invokespecial 146, 3) := dk_183 0 146 (dk_at dksX12_step_7 13 rfl rfl)
theorem dX12_step_177 : decode cX12_step 177 = .ok (.athrow, 1) := dk_191 (dk_at dksX12_step_7 16 rfl rfl)
abbrev cX12_may : ByteArray := prog_3_method_11_code
def yX12_may : MethodName := ⟨RX12, "may", "(III)Z"⟩
def dkwX12_may_1 : List UInt8 := [160, 0, 7, 4, 167, 0, 14, 3, 167, 0, 10, 42, 27, 28, 29, 182, 0, 127, 172]
abbrev dktX12_may_1 : List UInt8 := dkwX12_may_1 ++ []
def dkwX12_may_0 : List UInt8 := [42, 180, 0, 97, 153, 0, 30, 29, 42, 180, 0, 15, 27, 28, 96, 46, 96, 42, 180, 0, 15, 27, 46]
abbrev dktX12_may_0 : List UInt8 := dkwX12_may_0 ++ dktX12_may_1
theorem dksX12_may_0 : cX12_may.data.toList.drop 0 = dktX12_may_0 := by decide +kernel
theorem dksX12_may_1 : cX12_may.data.toList.drop 23 = dktX12_may_1 := dk_seg dksX12_may_0 23 rfl rfl
theorem dX12_may_0 : decode cX12_may 0 = .ok (.aload_n 0, 1) := dk_42 (dk_at dksX12_may_0 0 rfl rfl)
theorem dX12_may_1 : decode cX12_may 1 = .ok (.getfield 97, 3) := dk_180 0 97 (dk_at dksX12_may_0 1 rfl rfl)
theorem dX12_may_4 : decode cX12_may 4 = .ok (.ifCond .eq 30, 3) := dk_153 0 30 (dk_at dksX12_may_0 4 rfl rfl)
theorem dX12_may_7 : decode cX12_may 7 = .ok (.iload_n 3, 1) := dk_29 (dk_at dksX12_may_0 7 rfl rfl)
theorem dX12_may_8 : decode cX12_may 8 = .ok (.aload_n 0, 1) := dk_42 (dk_at dksX12_may_0 8 rfl rfl)
theorem dX12_may_9 : decode cX12_may 9 = .ok (.getfield 15, 3) := dk_180 0 15 (dk_at dksX12_may_0 9 rfl rfl)
theorem dX12_may_12 : decode cX12_may 12 = .ok (.iload_n 1, 1) := dk_27 (dk_at dksX12_may_0 12 rfl rfl)
theorem dX12_may_13 : decode cX12_may 13 = .ok (.iload_n 2, 1) := dk_28 (dk_at dksX12_may_0 13 rfl rfl)
theorem dX12_may_14 : decode cX12_may 14 = .ok (.iadd, 1) := dk_96 (dk_at dksX12_may_0 14 rfl rfl)
theorem dX12_may_15 : decode cX12_may 15 = .ok (.iaload, 1) := dk_46 (dk_at dksX12_may_0 15 rfl rfl)
theorem dX12_may_16 : decode cX12_may 16 = .ok (.iadd, 1) := dk_96 (dk_at dksX12_may_0 16 rfl rfl)
theorem dX12_may_17 : decode cX12_may 17 = .ok (.aload_n 0, 1) := dk_42 (dk_at dksX12_may_0 17 rfl rfl)
theorem dX12_may_18 : decode cX12_may 18 = .ok (.getfield 15, 3) := dk_180 0 15 (dk_at dksX12_may_0 18 rfl rfl)
theorem dX12_may_21 : decode cX12_may 21 = .ok (.iload_n 1, 1) := dk_27 (dk_at dksX12_may_0 21 rfl rfl)
theorem dX12_may_22 : decode cX12_may 22 = .ok (.iaload, 1) := dk_46 (dk_at dksX12_may_0 22 rfl rfl)
theorem dX12_may_23 : decode cX12_may 23 = .ok (.if_icmp .ne 7, 3) := dk_160 0 7 (dk_at dksX12_may_1 0 rfl rfl)
theorem dX12_may_26 : decode cX12_may 26 = .ok (.iconst 1, 1) := dk_4 (dk_at dksX12_may_1 3 rfl rfl)
theorem dX12_may_27 : decode cX12_may 27 = .ok (.goto 14, 3) := dk_167 0 14 (dk_at dksX12_may_1 4 rfl rfl)
theorem dX12_may_30 : decode cX12_may 30 = .ok (.iconst 0, 1) := dk_3 (dk_at dksX12_may_1 7 rfl rfl)
theorem dX12_may_31 : decode cX12_may 31 = .ok (.goto 10, 3) := dk_167 0 10 (dk_at dksX12_may_1 8 rfl rfl)
theorem dX12_may_34 : decode cX12_may 34 = .ok (.aload_n 0, 1) := dk_42 (dk_at dksX12_may_1 11 rfl rfl)
theorem dX12_may_35 : decode cX12_may 35 = .ok (.iload_n 1, 1) := dk_27 (dk_at dksX12_may_1 12 rfl rfl)
theorem dX12_may_36 : decode cX12_may 36 = .ok (.iload_n 2, 1) := dk_28 (dk_at dksX12_may_1 13 rfl rfl)
theorem dX12_may_37 : decode cX12_may 37 = .ok (.iload_n 3, 1) := dk_29 (dk_at dksX12_may_1 14 rfl rfl)
theorem dX12_may_38 : decode cX12_may 38 = .ok (.invokevirtual 127, 3) := dk_182 0 127 (dk_at dksX12_may_1 15 rfl rfl)
theorem dX12_may_41 : decode cX12_may 41 = .ok (.ireturn, 1) := dk_172 (dk_at dksX12_may_1 18 rfl rfl)
abbrev cX12_ascii : ByteArray := prog_3_method_14_code
def yX12_ascii : MethodName := ⟨RX12, "ascii", "(II)I"⟩
def dkwX12_ascii_6 : List UInt8 := [96, 181, 0, 170, 27, 28, 96, 172]
abbrev dktX12_ascii_6 : List UInt8 := dkwX12_ascii_6 ++ []
def dkwX12_ascii_5 : List UInt8 := [89, 180, 0, 167, 28, 96, 181, 0, 167, 45, 89, 180, 0, 170, 42, 180, 0, 39, 180, 0, 118, 21, 4, 100]
abbrev dktX12_ascii_5 : List UInt8 := dkwX12_ascii_5 ++ dktX12_ascii_6
def dkwX12_ascii_4 : List UInt8 := [182, 0, 121, 42, 180, 0, 39, 42, 180, 0, 9, 27, 51, 17, 0, 255, 126, 16, 127, 100, 182, 0, 121, 45]
abbrev dktX12_ascii_4 : List UInt8 := dkwX12_ascii_4 ++ dktX12_ascii_5
def dkwX12_ascii_3 : List UInt8 := [180, 0, 39, 42, 180, 0, 9, 27, 51, 4, 96, 182, 0, 121, 167, 0, 33, 42, 180, 0, 39, 17, 0, 235]
abbrev dktX12_ascii_3 : List UInt8 := dkwX12_ascii_3 ++ dktX12_ascii_4
def dkwX12_ascii_2 : List UInt8 := [4, 96, 51, 96, 16, 48, 100, 182, 0, 121, 167, 0, 60, 42, 180, 0, 9, 27, 51, 155, 0, 21, 42]
abbrev dktX12_ascii_2 : List UInt8 := dkwX12_ascii_2 ++ dktX12_ascii_3
def dkwX12_ascii_1 : List UInt8 := [180, 0, 39, 17, 0, 130, 16, 10, 42, 180, 0, 9, 27, 51, 16, 48, 100, 104, 96, 42, 180, 0, 9, 27]
abbrev dktX12_ascii_1 : List UInt8 := dkwX12_ascii_1 ++ dktX12_ascii_2
def dkwX12_ascii_0 : List UInt8 := [42, 3, 27, 182, 0, 163, 78, 42, 180, 0, 39, 180, 0, 118, 54, 4, 28, 5, 160, 0, 41, 42]
abbrev dktX12_ascii_0 : List UInt8 := dkwX12_ascii_0 ++ dktX12_ascii_1
theorem dksX12_ascii_0 : cX12_ascii.data.toList.drop 0 = dktX12_ascii_0 := by decide +kernel
theorem dksX12_ascii_1 : cX12_ascii.data.toList.drop 22 = dktX12_ascii_1 := dk_seg dksX12_ascii_0 22 rfl rfl
theorem dksX12_ascii_2 : cX12_ascii.data.toList.drop 46 = dktX12_ascii_2 := dk_seg dksX12_ascii_1 24 rfl rfl
theorem dksX12_ascii_3 : cX12_ascii.data.toList.drop 69 = dktX12_ascii_3 := dk_seg dksX12_ascii_2 23 rfl rfl
theorem dksX12_ascii_4 : cX12_ascii.data.toList.drop 93 = dktX12_ascii_4 := dk_seg dksX12_ascii_3 24 rfl rfl
theorem dksX12_ascii_5 : cX12_ascii.data.toList.drop 117 = dktX12_ascii_5 := dk_seg dksX12_ascii_4 24 rfl rfl
theorem dksX12_ascii_6 : cX12_ascii.data.toList.drop 141 = dktX12_ascii_6 := dk_seg dksX12_ascii_5 24 rfl rfl
theorem dX12_ascii_0 : decode cX12_ascii 0 = .ok (.aload_n 0, 1) := dk_42 (dk_at dksX12_ascii_0 0 rfl rfl)
theorem dX12_ascii_1 : decode cX12_ascii 1 = .ok (.iconst 0, 1) := dk_3 (dk_at dksX12_ascii_0 1 rfl rfl)
theorem dX12_ascii_2 : decode cX12_ascii 2 = .ok (.iload_n 1, 1) := dk_27 (dk_at dksX12_ascii_0 2 rfl rfl)
theorem dX12_ascii_3 : decode cX12_ascii 3 = .ok (.invokevirtual 163, 3) := dk_182 0 163 (dk_at dksX12_ascii_0 3 rfl rfl)
theorem dX12_ascii_6 : decode cX12_ascii 6 = .ok (.astore_n 3, 1) := dk_78 (dk_at dksX12_ascii_0 6 rfl rfl)
theorem dX12_ascii_7 : decode cX12_ascii 7 = .ok (.aload_n 0, 1) := dk_42 (dk_at dksX12_ascii_0 7 rfl rfl)
theorem dX12_ascii_8 : decode cX12_ascii 8 = .ok (.getfield 39, 3) := dk_180 0 39 (dk_at dksX12_ascii_0 8 rfl rfl)
theorem dX12_ascii_11 : decode cX12_ascii 11 = .ok (.getfield 118, 3) := dk_180 0 118 (dk_at dksX12_ascii_0 11 rfl rfl)
theorem dX12_ascii_14 : decode cX12_ascii 14 = .ok (.istore 4, 2) := dk_54 4 (dk_at dksX12_ascii_0 14 rfl rfl)
theorem dX12_ascii_16 : decode cX12_ascii 16 = .ok (.iload_n 2, 1) := dk_28 (dk_at dksX12_ascii_0 16 rfl rfl)
theorem dX12_ascii_17 : decode cX12_ascii 17 = .ok (.iconst 2, 1) := dk_5 (dk_at dksX12_ascii_0 17 rfl rfl)
theorem dX12_ascii_18 : decode cX12_ascii 18 = .ok (.if_icmp .ne 41, 3) := dk_160 0 41 (dk_at dksX12_ascii_0 18 rfl rfl)
theorem dX12_ascii_21 : decode cX12_ascii 21 = .ok (.aload_n 0, 1) := dk_42 (dk_at dksX12_ascii_0 21 rfl rfl)
theorem dX12_ascii_22 : decode cX12_ascii 22 = .ok (.getfield 39, 3) := dk_180 0 39 (dk_at dksX12_ascii_1 0 rfl rfl)
theorem dX12_ascii_25 : decode cX12_ascii 25 = .ok (.sipush 130, 3) := dk_17 0 130 (dk_at dksX12_ascii_1 3 rfl rfl)
theorem dX12_ascii_28 : decode cX12_ascii 28 = .ok (.bipush 10, 2) := dk_16 10 (dk_at dksX12_ascii_1 6 rfl rfl)
theorem dX12_ascii_30 : decode cX12_ascii 30 = .ok (.aload_n 0, 1) := dk_42 (dk_at dksX12_ascii_1 8 rfl rfl)
theorem dX12_ascii_31 : decode cX12_ascii 31 = .ok (.getfield 9, 3) := dk_180 0 9 (dk_at dksX12_ascii_1 9 rfl rfl)
theorem dX12_ascii_34 : decode cX12_ascii 34 = .ok (.iload_n 1, 1) := dk_27 (dk_at dksX12_ascii_1 12 rfl rfl)
theorem dX12_ascii_35 : decode cX12_ascii 35 = .ok (.baload, 1) := dk_51 (dk_at dksX12_ascii_1 13 rfl rfl)
theorem dX12_ascii_36 : decode cX12_ascii 36 = .ok (.bipush 48, 2) := dk_16 48 (dk_at dksX12_ascii_1 14 rfl rfl)
theorem dX12_ascii_38 : decode cX12_ascii 38 = .ok (.isub, 1) := dk_100 (dk_at dksX12_ascii_1 16 rfl rfl)
theorem dX12_ascii_39 : decode cX12_ascii 39 = .ok (.imul, 1) := dk_104 (dk_at dksX12_ascii_1 17 rfl rfl)
theorem dX12_ascii_40 : decode cX12_ascii 40 = .ok (.iadd, 1) := dk_96 (dk_at dksX12_ascii_1 18 rfl rfl)
theorem dX12_ascii_41 : decode cX12_ascii 41 = .ok (.aload_n 0, 1) := dk_42 (dk_at dksX12_ascii_1 19 rfl rfl)
theorem dX12_ascii_42 : decode cX12_ascii 42 = .ok (.getfield 9, 3) := dk_180 0 9 (dk_at dksX12_ascii_1 20 rfl rfl)
theorem dX12_ascii_45 : decode cX12_ascii 45 = .ok (.iload_n 1, 1) := dk_27 (dk_at dksX12_ascii_1 23 rfl rfl)
theorem dX12_ascii_46 : decode cX12_ascii 46 = .ok (.iconst 1, 1) := dk_4 (dk_at dksX12_ascii_2 0 rfl rfl)
theorem dX12_ascii_47 : decode cX12_ascii 47 = .ok (.iadd, 1) := dk_96 (dk_at dksX12_ascii_2 1 rfl rfl)
theorem dX12_ascii_48 : decode cX12_ascii 48 = .ok (.baload, 1) := dk_51 (dk_at dksX12_ascii_2 2 rfl rfl)
theorem dX12_ascii_49 : decode cX12_ascii 49 = .ok (.iadd, 1) := dk_96 (dk_at dksX12_ascii_2 3 rfl rfl)
theorem dX12_ascii_50 : decode cX12_ascii 50 = .ok (.bipush 48, 2) := dk_16 48 (dk_at dksX12_ascii_2 4 rfl rfl)
theorem dX12_ascii_52 : decode cX12_ascii 52 = .ok (.isub, 1) := dk_100 (dk_at dksX12_ascii_2 6 rfl rfl)
theorem dX12_ascii_53 : decode cX12_ascii 53 = .ok (.invokevirtual 121, 3) := dk_182 0 121 (dk_at dksX12_ascii_2 7 rfl rfl)
theorem dX12_ascii_56 : decode cX12_ascii 56 = .ok (.goto 60, 3) := dk_167 0 60 (dk_at dksX12_ascii_2 10 rfl rfl)
theorem dX12_ascii_59 : decode cX12_ascii 59 = .ok (.aload_n 0, 1) := dk_42 (dk_at dksX12_ascii_2 13 rfl rfl)
theorem dX12_ascii_60 : decode cX12_ascii 60 = .ok (.getfield 9, 3) := dk_180 0 9 (dk_at dksX12_ascii_2 14 rfl rfl)
theorem dX12_ascii_63 : decode cX12_ascii 63 = .ok (.iload_n 1, 1) := dk_27 (dk_at dksX12_ascii_2 17 rfl rfl)
theorem dX12_ascii_64 : decode cX12_ascii 64 = .ok (.baload, 1) := dk_51 (dk_at dksX12_ascii_2 18 rfl rfl)
theorem dX12_ascii_65 : decode cX12_ascii 65 = .ok (.ifCond .lt 21, 3) := dk_155 0 21 (dk_at dksX12_ascii_2 19 rfl rfl)
theorem dX12_ascii_68 : decode cX12_ascii 68 = .ok (.aload_n 0, 1) := dk_42 (dk_at dksX12_ascii_2 22 rfl rfl)
theorem dX12_ascii_69 : decode cX12_ascii 69 = .ok (.getfield 39, 3) := dk_180 0 39 (dk_at dksX12_ascii_3 0 rfl rfl)
theorem dX12_ascii_72 : decode cX12_ascii 72 = .ok (.aload_n 0, 1) := dk_42 (dk_at dksX12_ascii_3 3 rfl rfl)
theorem dX12_ascii_73 : decode cX12_ascii 73 = .ok (.getfield 9, 3) := dk_180 0 9 (dk_at dksX12_ascii_3 4 rfl rfl)
theorem dX12_ascii_76 : decode cX12_ascii 76 = .ok (.iload_n 1, 1) := dk_27 (dk_at dksX12_ascii_3 7 rfl rfl)
theorem dX12_ascii_77 : decode cX12_ascii 77 = .ok (.baload, 1) := dk_51 (dk_at dksX12_ascii_3 8 rfl rfl)
theorem dX12_ascii_78 : decode cX12_ascii 78 = .ok (.iconst 1, 1) := dk_4 (dk_at dksX12_ascii_3 9 rfl rfl)
theorem dX12_ascii_79 : decode cX12_ascii 79 = .ok (.iadd, 1) := dk_96 (dk_at dksX12_ascii_3 10 rfl rfl)
theorem dX12_ascii_80 : decode cX12_ascii 80 = .ok (.invokevirtual 121, 3) := dk_182 0 121 (dk_at dksX12_ascii_3 11 rfl rfl)
theorem dX12_ascii_83 : decode cX12_ascii 83 = .ok (.goto 33, 3) := dk_167 0 33 (dk_at dksX12_ascii_3 14 rfl rfl)
theorem dX12_ascii_86 : decode cX12_ascii 86 = .ok (.aload_n 0, 1) := dk_42 (dk_at dksX12_ascii_3 17 rfl rfl)
theorem dX12_ascii_87 : decode cX12_ascii 87 = .ok (.getfield 39, 3) := dk_180 0 39 (dk_at dksX12_ascii_3 18 rfl rfl)
theorem dX12_ascii_90 : decode cX12_ascii 90 = .ok (.sipush 235, 3) := dk_17 0 235 (dk_at dksX12_ascii_3 21 rfl rfl)
theorem dX12_ascii_93 : decode cX12_ascii 93 = .ok (.invokevirtual 121, 3) := dk_182 0 121 (dk_at dksX12_ascii_4 0 rfl rfl)
theorem dX12_ascii_96 : decode cX12_ascii 96 = .ok (.aload_n 0, 1) := dk_42 (dk_at dksX12_ascii_4 3 rfl rfl)
theorem dX12_ascii_97 : decode cX12_ascii 97 = .ok (.getfield 39, 3) := dk_180 0 39 (dk_at dksX12_ascii_4 4 rfl rfl)
theorem dX12_ascii_100 : decode cX12_ascii 100 = .ok (.aload_n 0, 1) := dk_42 (dk_at dksX12_ascii_4 7 rfl rfl)
theorem dX12_ascii_101 : decode cX12_ascii 101 = .ok (.getfield 9, 3) := dk_180 0 9 (dk_at dksX12_ascii_4 8 rfl rfl)
theorem dX12_ascii_104 : decode cX12_ascii 104 = .ok (.iload_n 1, 1) := dk_27 (dk_at dksX12_ascii_4 11 rfl rfl)
theorem dX12_ascii_105 : decode cX12_ascii 105 = .ok (.baload, 1) := dk_51 (dk_at dksX12_ascii_4 12 rfl rfl)
theorem dX12_ascii_106 : decode cX12_ascii 106 = .ok (.sipush 255, 3) := dk_17 0 255 (dk_at dksX12_ascii_4 13 rfl rfl)
theorem dX12_ascii_109 : decode cX12_ascii 109 = .ok (.iand, 1) := dk_126 (dk_at dksX12_ascii_4 16 rfl rfl)
theorem dX12_ascii_110 : decode cX12_ascii 110 = .ok (.bipush 127, 2) := dk_16 127 (dk_at dksX12_ascii_4 17 rfl rfl)
theorem dX12_ascii_112 : decode cX12_ascii 112 = .ok (.isub, 1) := dk_100 (dk_at dksX12_ascii_4 19 rfl rfl)
theorem dX12_ascii_113 : decode cX12_ascii 113 = .ok (.invokevirtual 121, 3) := dk_182 0 121 (dk_at dksX12_ascii_4 20 rfl rfl)
theorem dX12_ascii_116 : decode cX12_ascii 116 = .ok (.aload_n 3, 1) := dk_45 (dk_at dksX12_ascii_4 23 rfl rfl)
theorem dX12_ascii_117 : decode cX12_ascii 117 = .ok (.dup, 1) := dk_89 (dk_at dksX12_ascii_5 0 rfl rfl)
theorem dX12_ascii_118 : decode cX12_ascii 118 = .ok (.getfield 167, 3) := dk_180 0 167 (dk_at dksX12_ascii_5 1 rfl rfl)
theorem dX12_ascii_121 : decode cX12_ascii 121 = .ok (.iload_n 2, 1) := dk_28 (dk_at dksX12_ascii_5 4 rfl rfl)
theorem dX12_ascii_122 : decode cX12_ascii 122 = .ok (.iadd, 1) := dk_96 (dk_at dksX12_ascii_5 5 rfl rfl)
theorem dX12_ascii_123 : decode cX12_ascii 123 = .ok (.putfield 167, 3) := dk_181 0 167 (dk_at dksX12_ascii_5 6 rfl rfl)
theorem dX12_ascii_126 : decode cX12_ascii 126 = .ok (.aload_n 3, 1) := dk_45 (dk_at dksX12_ascii_5 9 rfl rfl)
theorem dX12_ascii_127 : decode cX12_ascii 127 = .ok (.dup, 1) := dk_89 (dk_at dksX12_ascii_5 10 rfl rfl)
theorem dX12_ascii_128 : decode cX12_ascii 128 = .ok (.getfield 170, 3) := dk_180 0 170 (dk_at dksX12_ascii_5 11 rfl rfl)
theorem dX12_ascii_131 : decode cX12_ascii 131 = .ok (.aload_n 0, 1) := dk_42 (dk_at dksX12_ascii_5 14 rfl rfl)
theorem dX12_ascii_132 : decode cX12_ascii 132 = .ok (.getfield 39, 3) := dk_180 0 39 (dk_at dksX12_ascii_5 15 rfl rfl)
theorem dX12_ascii_135 : decode cX12_ascii 135 = .ok (.getfield 118, 3) := dk_180 0 118 (dk_at dksX12_ascii_5 18 rfl rfl)
theorem dX12_ascii_138 : decode cX12_ascii 138 = .ok (.iload 4, 2) := dk_21 4 (dk_at dksX12_ascii_5 21 rfl rfl)
theorem dX12_ascii_140 : decode cX12_ascii 140 = .ok (.isub, 1) := dk_100 (dk_at dksX12_ascii_5 23 rfl rfl)
theorem dX12_ascii_141 : decode cX12_ascii 141 = .ok (.iadd, 1) := dk_96 (dk_at dksX12_ascii_6 0 rfl rfl)
theorem dX12_ascii_142 : decode cX12_ascii 142 = .ok (.putfield 170, 3) := dk_181 0 170 (dk_at dksX12_ascii_6 1 rfl rfl)
theorem dX12_ascii_145 : decode cX12_ascii 145 = .ok (.iload_n 1, 1) := dk_27 (dk_at dksX12_ascii_6 4 rfl rfl)
theorem dX12_ascii_146 : decode cX12_ascii 146 = .ok (.iload_n 2, 1) := dk_28 (dk_at dksX12_ascii_6 5 rfl rfl)
theorem dX12_ascii_147 : decode cX12_ascii 147 = .ok (.iadd, 1) := dk_96 (dk_at dksX12_ascii_6 6 rfl rfl)
theorem dX12_ascii_148 : decode cX12_ascii 148 = .ok (.ireturn, 1) := dk_172 (dk_at dksX12_ascii_6 7 rfl rfl)
abbrev cX12_last : ByteArray := prog_3_method_13_code
def yX12_last : MethodName := ⟨RX12, "last", "(II)LMatrixPress$Step;"⟩
def dkwX12_last_3 : List UInt8 := [45, 176]
abbrev dktX12_last_3 : List UInt8 := dkwX12_last_3 ++ []
def dkwX12_last_2 : List UInt8 := [154, 0, 5, 45, 176, 187, 0, 151, 89, 27, 28, 183, 0, 156, 78, 42, 180, 0, 32, 45, 182, 0, 159, 87]
abbrev dktX12_last_2 : List UInt8 := dkwX12_last_2 ++ dktX12_last_3
def dkwX12_last_1 : List UInt8 := [182, 0, 47, 4, 100, 182, 0, 51, 192, 0, 151, 78, 45, 198, 0, 16, 45, 180, 0, 153, 154, 0, 9, 27]
abbrev dktX12_last_1 : List UInt8 := dkwX12_last_1 ++ dktX12_last_2
def dkwX12_last_0 : List UInt8 := [42, 180, 0, 32, 182, 0, 147, 153, 0, 7, 1, 167, 0, 22, 42, 180, 0, 32, 42, 180, 0, 32]
abbrev dktX12_last_0 : List UInt8 := dkwX12_last_0 ++ dktX12_last_1
theorem dksX12_last_0 : cX12_last.data.toList.drop 0 = dktX12_last_0 := by decide +kernel
theorem dksX12_last_1 : cX12_last.data.toList.drop 22 = dktX12_last_1 := dk_seg dksX12_last_0 22 rfl rfl
theorem dksX12_last_2 : cX12_last.data.toList.drop 46 = dktX12_last_2 := dk_seg dksX12_last_1 24 rfl rfl
theorem dksX12_last_3 : cX12_last.data.toList.drop 70 = dktX12_last_3 := dk_seg dksX12_last_2 24 rfl rfl
theorem dX12_last_0 : decode cX12_last 0 = .ok (.aload_n 0, 1) := dk_42 (dk_at dksX12_last_0 0 rfl rfl)
theorem dX12_last_1 : decode cX12_last 1 = .ok (.getfield 32, 3) := dk_180 0 32 (dk_at dksX12_last_0 1 rfl rfl)
theorem dX12_last_4 : decode cX12_last 4 = .ok (.invokevirtual 147, 3) := dk_182 0 147 (dk_at dksX12_last_0 4 rfl rfl)
theorem dX12_last_7 : decode cX12_last 7 = .ok (.ifCond .eq 7, 3) := dk_153 0 7 (dk_at dksX12_last_0 7 rfl rfl)
theorem dX12_last_10 : decode cX12_last 10 = .ok (.aconst_null, 1) := dk_1 (dk_at dksX12_last_0 10 rfl rfl)
theorem dX12_last_11 : decode cX12_last 11 = .ok (.goto 22, 3) := dk_167 0 22 (dk_at dksX12_last_0 11 rfl rfl)
theorem dX12_last_14 : decode cX12_last 14 = .ok (.aload_n 0, 1) := dk_42 (dk_at dksX12_last_0 14 rfl rfl)
theorem dX12_last_15 : decode cX12_last 15 = .ok (.getfield 32, 3) := dk_180 0 32 (dk_at dksX12_last_0 15 rfl rfl)
theorem dX12_last_18 : decode cX12_last 18 = .ok (.aload_n 0, 1) := dk_42 (dk_at dksX12_last_0 18 rfl rfl)
theorem dX12_last_19 : decode cX12_last 19 = .ok (.getfield 32, 3) := dk_180 0 32 (dk_at dksX12_last_0 19 rfl rfl)
theorem dX12_last_22 : decode cX12_last 22 = .ok (.invokevirtual 47, 3) := dk_182 0 47 (dk_at dksX12_last_1 0 rfl rfl)
theorem dX12_last_25 : decode cX12_last 25 = .ok (.iconst 1, 1) := dk_4 (dk_at dksX12_last_1 3 rfl rfl)
theorem dX12_last_26 : decode cX12_last 26 = .ok (.isub, 1) := dk_100 (dk_at dksX12_last_1 4 rfl rfl)
theorem dX12_last_27 : decode cX12_last 27 = .ok (.invokevirtual 51, 3) := dk_182 0 51 (dk_at dksX12_last_1 5 rfl rfl)
theorem dX12_last_30 : decode cX12_last 30 = .ok (.checkcast 151, 3) := dk_192 0 151 (dk_at dksX12_last_1 8 rfl rfl)
theorem dX12_last_33 : decode cX12_last 33 = .ok (.astore_n 3, 1) := dk_78 (dk_at dksX12_last_1 11 rfl rfl)
theorem dX12_last_34 : decode cX12_last 34 = .ok (.aload_n 3, 1) := dk_45 (dk_at dksX12_last_1 12 rfl rfl)
theorem dX12_last_35 : decode cX12_last 35 = .ok (.ifnull 16, 3) := dk_198 0 16 (dk_at dksX12_last_1 13 rfl rfl)
theorem dX12_last_38 : decode cX12_last 38 = .ok (.aload_n 3, 1) := dk_45 (dk_at dksX12_last_1 16 rfl rfl)
theorem dX12_last_39 : decode cX12_last 39 = .ok (.getfield 153, 3) := dk_180 0 153 (dk_at dksX12_last_1 17 rfl rfl)
theorem dX12_last_42 : decode cX12_last 42 = .ok (.ifCond .ne 9, 3) := dk_154 0 9 (dk_at dksX12_last_1 20 rfl rfl)
theorem dX12_last_45 : decode cX12_last 45 = .ok (.iload_n 1, 1) := dk_27 (dk_at dksX12_last_1 23 rfl rfl)
theorem dX12_last_46 : decode cX12_last 46 = .ok (.ifCond .ne 5, 3) := dk_154 0 5 (dk_at dksX12_last_2 0 rfl rfl)
theorem dX12_last_49 : decode cX12_last 49 = .ok (.aload_n 3, 1) := dk_45 (dk_at dksX12_last_2 3 rfl rfl)
theorem dX12_last_50 : decode cX12_last 50 = .ok (.areturn, 1) := dk_176 (dk_at dksX12_last_2 4 rfl rfl)
theorem dX12_last_51 : decode cX12_last 51 = .ok (.new 151, 3) := dk_187 0 151 (dk_at dksX12_last_2 5 rfl rfl)
theorem dX12_last_54 : decode cX12_last 54 = .ok (.dup, 1) := dk_89 (dk_at dksX12_last_2 8 rfl rfl)
theorem dX12_last_55 : decode cX12_last 55 = .ok (.iload_n 1, 1) := dk_27 (dk_at dksX12_last_2 9 rfl rfl)
theorem dX12_last_56 : decode cX12_last 56 = .ok (.iload_n 2, 1) := dk_28 (dk_at dksX12_last_2 10 rfl rfl)
theorem dX12_last_57 : decode cX12_last 57 = .ok (.invokespecial 156, 3) := dk_183 0 156 (dk_at dksX12_last_2 11 rfl rfl)
theorem dX12_last_60 : decode cX12_last 60 = .ok (.astore_n 3, 1) := dk_78 (dk_at dksX12_last_2 14 rfl rfl)
theorem dX12_last_61 : decode cX12_last 61 = .ok (.aload_n 0, 1) := dk_42 (dk_at dksX12_last_2 15 rfl rfl)
theorem dX12_last_62 : decode cX12_last 62 = .ok (.getfield 32, 3) := dk_180 0 32 (dk_at dksX12_last_2 16 rfl rfl)
theorem dX12_last_65 : decode cX12_last 65 = .ok (.aload_n 3, 1) := dk_45 (dk_at dksX12_last_2 19 rfl rfl)
theorem dX12_last_66 : decode cX12_last 66 = .ok (.invokevirtual 159, 3) := dk_182 0 159 (dk_at dksX12_last_2 20 rfl rfl)
theorem dX12_last_69 : decode cX12_last 69 = .ok (.pop, 1) := dk_87 (dk_at dksX12_last_2 23 rfl rfl)
theorem dX12_last_70 : decode cX12_last 70 = .ok (.aload_n 3, 1) := dk_45 (dk_at dksX12_last_3 0 rfl rfl)
theorem dX12_last_71 : decode cX12_last 71 = .ok (.areturn, 1) := dk_176 (dk_at dksX12_last_3 1 rfl rfl)
abbrev cX12_run : ByteArray := prog_3_method_15_code
def yX12_run : MethodName := ⟨RX12, "run", "(IIIZ)I"⟩
def dkwX12_run_3 : List UInt8 := [25, 5, 42, 180, 0, 39, 180, 0, 118, 21, 6, 100, 181, 0, 170, 28, 29, 96, 172]
abbrev dktX12_run_3 : List UInt8 := dkwX12_run_3 ++ []
def dkwX12_run_2 : List UInt8 := [192, 0, 55, 42, 180, 0, 39, 42, 180, 0, 9, 28, 29, 21, 4, 182, 0, 176, 25, 5, 29, 181, 0, 167]
abbrev dktX12_run_2 : List UInt8 := dkwX12_run_2 ++ dktX12_run_3
def dkwX12_run_1 : List UInt8 := [180, 0, 36, 27, 182, 0, 51, 192, 0, 55, 180, 0, 173, 182, 0, 121, 42, 180, 0, 36, 27, 182, 0, 51]
abbrev dktX12_run_1 : List UInt8 := dkwX12_run_1 ++ dktX12_run_2
def dkwX12_run_0 : List UInt8 := [42, 7, 27, 96, 28, 182, 0, 163, 58, 5, 42, 180, 0, 39, 180, 0, 118, 54, 6, 42, 180, 0, 39, 42]
abbrev dktX12_run_0 : List UInt8 := dkwX12_run_0 ++ dktX12_run_1
theorem dksX12_run_0 : cX12_run.data.toList.drop 0 = dktX12_run_0 := by decide +kernel
theorem dksX12_run_1 : cX12_run.data.toList.drop 24 = dktX12_run_1 := dk_seg dksX12_run_0 24 rfl rfl
theorem dksX12_run_2 : cX12_run.data.toList.drop 48 = dktX12_run_2 := dk_seg dksX12_run_1 24 rfl rfl
theorem dksX12_run_3 : cX12_run.data.toList.drop 72 = dktX12_run_3 := dk_seg dksX12_run_2 24 rfl rfl
theorem dX12_run_0 : decode cX12_run 0 = .ok (.aload_n 0, 1) := dk_42 (dk_at dksX12_run_0 0 rfl rfl)
theorem dX12_run_1 : decode cX12_run 1 = .ok (.iconst 4, 1) := dk_7 (dk_at dksX12_run_0 1 rfl rfl)
theorem dX12_run_2 : decode cX12_run 2 = .ok (.iload_n 1, 1) := dk_27 (dk_at dksX12_run_0 2 rfl rfl)
theorem dX12_run_3 : decode cX12_run 3 = .ok (.iadd, 1) := dk_96 (dk_at dksX12_run_0 3 rfl rfl)
theorem dX12_run_4 : decode cX12_run 4 = .ok (.iload_n 2, 1) := dk_28 (dk_at dksX12_run_0 4 rfl rfl)
theorem dX12_run_5 : decode cX12_run 5 = .ok (.invokevirtual 163, 3) := dk_182 0 163 (dk_at dksX12_run_0 5 rfl rfl)
theorem dX12_run_8 : decode cX12_run 8 = .ok (.astore 5, 2) := dk_58 5 (dk_at dksX12_run_0 8 rfl rfl)
theorem dX12_run_10 : decode cX12_run 10 = .ok (.aload_n 0, 1) := dk_42 (dk_at dksX12_run_0 10 rfl rfl)
theorem dX12_run_11 : decode cX12_run 11 = .ok (.getfield 39, 3) := dk_180 0 39 (dk_at dksX12_run_0 11 rfl rfl)
theorem dX12_run_14 : decode cX12_run 14 = .ok (.getfield 118, 3) := dk_180 0 118 (dk_at dksX12_run_0 14 rfl rfl)
theorem dX12_run_17 : decode cX12_run 17 = .ok (.istore 6, 2) := dk_54 6 (dk_at dksX12_run_0 17 rfl rfl)
theorem dX12_run_19 : decode cX12_run 19 = .ok (.aload_n 0, 1) := dk_42 (dk_at dksX12_run_0 19 rfl rfl)
theorem dX12_run_20 : decode cX12_run 20 = .ok (.getfield 39, 3) := dk_180 0 39 (dk_at dksX12_run_0 20 rfl rfl)
theorem dX12_run_23 : decode cX12_run 23 = .ok (.aload_n 0, 1) := dk_42 (dk_at dksX12_run_0 23 rfl rfl)
theorem dX12_run_24 : decode cX12_run 24 = .ok (.getfield 36, 3) := dk_180 0 36 (dk_at dksX12_run_1 0 rfl rfl)
theorem dX12_run_27 : decode cX12_run 27 = .ok (.iload_n 1, 1) := dk_27 (dk_at dksX12_run_1 3 rfl rfl)
theorem dX12_run_28 : decode cX12_run 28 = .ok (.invokevirtual 51, 3) := dk_182 0 51 (dk_at dksX12_run_1 4 rfl rfl)
theorem dX12_run_31 : decode cX12_run 31 = .ok (.checkcast 55, 3) := dk_192 0 55 (dk_at dksX12_run_1 7 rfl rfl)
theorem dX12_run_34 : decode cX12_run 34 = .ok (.getfield 173, 3) := dk_180 0 173 (dk_at dksX12_run_1 10 rfl rfl)
theorem dX12_run_37 : decode cX12_run 37 = .ok (.invokevirtual 121, 3) := dk_182 0 121 (dk_at dksX12_run_1 13 rfl rfl)
theorem dX12_run_40 : decode cX12_run 40 = .ok (.aload_n 0, 1) := dk_42 (dk_at dksX12_run_1 16 rfl rfl)
theorem dX12_run_41 : decode cX12_run 41 = .ok (.getfield 36, 3) := dk_180 0 36 (dk_at dksX12_run_1 17 rfl rfl)
theorem dX12_run_44 : decode cX12_run 44 = .ok (.iload_n 1, 1) := dk_27 (dk_at dksX12_run_1 20 rfl rfl)
theorem dX12_run_45 : decode cX12_run 45 = .ok (.invokevirtual 51, 3) := dk_182 0 51 (dk_at dksX12_run_1 21 rfl rfl)
theorem dX12_run_48 : decode cX12_run 48 = .ok (.checkcast 55, 3) := dk_192 0 55 (dk_at dksX12_run_2 0 rfl rfl)
theorem dX12_run_51 : decode cX12_run 51 = .ok (.aload_n 0, 1) := dk_42 (dk_at dksX12_run_2 3 rfl rfl)
theorem dX12_run_52 : decode cX12_run 52 = .ok (.getfield 39, 3) := dk_180 0 39 (dk_at dksX12_run_2 4 rfl rfl)
theorem dX12_run_55 : decode cX12_run 55 = .ok (.aload_n 0, 1) := dk_42 (dk_at dksX12_run_2 7 rfl rfl)
theorem dX12_run_56 : decode cX12_run 56 = .ok (.getfield 9, 3) := dk_180 0 9 (dk_at dksX12_run_2 8 rfl rfl)
theorem dX12_run_59 : decode cX12_run 59 = .ok (.iload_n 2, 1) := dk_28 (dk_at dksX12_run_2 11 rfl rfl)
theorem dX12_run_60 : decode cX12_run 60 = .ok (.iload_n 3, 1) := dk_29 (dk_at dksX12_run_2 12 rfl rfl)
theorem dX12_run_61 : decode cX12_run 61 = .ok (.iload 4, 2) := dk_21 4 (dk_at dksX12_run_2 13 rfl rfl)
theorem dX12_run_63 : decode cX12_run 63 = .ok (.invokevirtual 176, 3) := dk_182 0 176 (dk_at dksX12_run_2 15 rfl rfl)
theorem dX12_run_66 : decode cX12_run 66 = .ok (.aload 5, 2) := dk_25 5 (dk_at dksX12_run_2 18 rfl rfl)
theorem dX12_run_68 : decode cX12_run 68 = .ok (.iload_n 3, 1) := dk_29 (dk_at dksX12_run_2 20 rfl rfl)
theorem dX12_run_69 : decode cX12_run 69 = .ok (.putfield 167, 3) := dk_181 0 167 (dk_at dksX12_run_2 21 rfl rfl)
theorem dX12_run_72 : decode cX12_run 72 = .ok (.aload 5, 2) := dk_25 5 (dk_at dksX12_run_3 0 rfl rfl)
theorem dX12_run_74 : decode cX12_run 74 = .ok (.aload_n 0, 1) := dk_42 (dk_at dksX12_run_3 2 rfl rfl)
theorem dX12_run_75 : decode cX12_run 75 = .ok (.getfield 39, 3) := dk_180 0 39 (dk_at dksX12_run_3 3 rfl rfl)
theorem dX12_run_78 : decode cX12_run 78 = .ok (.getfield 118, 3) := dk_180 0 118 (dk_at dksX12_run_3 6 rfl rfl)
theorem dX12_run_81 : decode cX12_run 81 = .ok (.iload 6, 2) := dk_21 6 (dk_at dksX12_run_3 9 rfl rfl)
theorem dX12_run_83 : decode cX12_run 83 = .ok (.isub, 1) := dk_100 (dk_at dksX12_run_3 11 rfl rfl)
theorem dX12_run_84 : decode cX12_run 84 = .ok (.putfield 170, 3) := dk_181 0 170 (dk_at dksX12_run_3 12 rfl rfl)
theorem dX12_run_87 : decode cX12_run 87 = .ok (.iload_n 2, 1) := dk_28 (dk_at dksX12_run_3 15 rfl rfl)
theorem dX12_run_88 : decode cX12_run 88 = .ok (.iload_n 3, 1) := dk_29 (dk_at dksX12_run_3 16 rfl rfl)
theorem dX12_run_89 : decode cX12_run 89 = .ok (.iadd, 1) := dk_96 (dk_at dksX12_run_3 17 rfl rfl)
theorem dX12_run_90 : decode cX12_run 90 = .ok (.ireturn, 1) := dk_172 (dk_at dksX12_run_3 18 rfl rfl)
abbrev cX12_tail : ByteArray := prog_3_method_16_code
def yX12_tail : MethodName := ⟨RX12, "tail", "(I)I"⟩
def dkwX12_tail_2 : List UInt8 := [160, 0, 7, 5, 167, 0, 4, 4, 182, 0, 134, 61, 167, 255, 200, 28, 172]
abbrev dktX12_tail_2 : List UInt8 := dkwX12_tail_2 ++ []
def dkwX12_tail_1 : List UInt8 := [182, 0, 61, 153, 0, 26, 4, 42, 180, 0, 22, 28, 5, 96, 46, 96, 42, 180, 0, 22, 28, 46]
abbrev dktX12_tail_1 : List UInt8 := dkwX12_tail_1 ++ dktX12_tail_2
def dkwX12_tail_0 : List UInt8 := [27, 61, 28, 42, 180, 0, 43, 162, 0, 54, 42, 28, 42, 28, 182, 0, 61, 153, 0, 36, 42, 28, 4, 96]
abbrev dktX12_tail_0 : List UInt8 := dkwX12_tail_0 ++ dktX12_tail_1
theorem dksX12_tail_0 : cX12_tail.data.toList.drop 0 = dktX12_tail_0 := by decide +kernel
theorem dksX12_tail_1 : cX12_tail.data.toList.drop 24 = dktX12_tail_1 := dk_seg dksX12_tail_0 24 rfl rfl
theorem dksX12_tail_2 : cX12_tail.data.toList.drop 46 = dktX12_tail_2 := dk_seg dksX12_tail_1 22 rfl rfl
theorem dX12_tail_0 : decode cX12_tail 0 = .ok (.iload_n 1, 1) := dk_27 (dk_at dksX12_tail_0 0 rfl rfl)
theorem dX12_tail_1 : decode cX12_tail 1 = .ok (.istore_n 2, 1) := dk_61 (dk_at dksX12_tail_0 1 rfl rfl)
theorem dX12_tail_2 : decode cX12_tail 2 = .ok (.iload_n 2, 1) := dk_28 (dk_at dksX12_tail_0 2 rfl rfl)
theorem dX12_tail_3 : decode cX12_tail 3 = .ok (.aload_n 0, 1) := dk_42 (dk_at dksX12_tail_0 3 rfl rfl)
theorem dX12_tail_4 : decode cX12_tail 4 = .ok (.getfield 43, 3) := dk_180 0 43 (dk_at dksX12_tail_0 4 rfl rfl)
theorem dX12_tail_7 : decode cX12_tail 7 = .ok (.if_icmp .ge 54, 3) := dk_162 0 54 (dk_at dksX12_tail_0 7 rfl rfl)
theorem dX12_tail_10 : decode cX12_tail 10 = .ok (.aload_n 0, 1) := dk_42 (dk_at dksX12_tail_0 10 rfl rfl)
theorem dX12_tail_11 : decode cX12_tail 11 = .ok (.iload_n 2, 1) := dk_28 (dk_at dksX12_tail_0 11 rfl rfl)
theorem dX12_tail_12 : decode cX12_tail 12 = .ok (.aload_n 0, 1) := dk_42 (dk_at dksX12_tail_0 12 rfl rfl)
theorem dX12_tail_13 : decode cX12_tail 13 = .ok (.iload_n 2, 1) := dk_28 (dk_at dksX12_tail_0 13 rfl rfl)
theorem dX12_tail_14 : decode cX12_tail 14 = .ok (.invokevirtual 61, 3) := dk_182 0 61 (dk_at dksX12_tail_0 14 rfl rfl)
theorem dX12_tail_17 : decode cX12_tail 17 = .ok (.ifCond .eq 36, 3) := dk_153 0 36 (dk_at dksX12_tail_0 17 rfl rfl)
theorem dX12_tail_20 : decode cX12_tail 20 = .ok (.aload_n 0, 1) := dk_42 (dk_at dksX12_tail_0 20 rfl rfl)
theorem dX12_tail_21 : decode cX12_tail 21 = .ok (.iload_n 2, 1) := dk_28 (dk_at dksX12_tail_0 21 rfl rfl)
theorem dX12_tail_22 : decode cX12_tail 22 = .ok (.iconst 1, 1) := dk_4 (dk_at dksX12_tail_0 22 rfl rfl)
theorem dX12_tail_23 : decode cX12_tail 23 = .ok (.iadd, 1) := dk_96 (dk_at dksX12_tail_0 23 rfl rfl)
theorem dX12_tail_24 : decode cX12_tail 24 = .ok (.invokevirtual 61, 3) := dk_182 0 61 (dk_at dksX12_tail_1 0 rfl rfl)
theorem dX12_tail_27 : decode cX12_tail 27 = .ok (.ifCond .eq 26, 3) := dk_153 0 26 (dk_at dksX12_tail_1 3 rfl rfl)
theorem dX12_tail_30 : decode cX12_tail 30 = .ok (.iconst 1, 1) := dk_4 (dk_at dksX12_tail_1 6 rfl rfl)
theorem dX12_tail_31 : decode cX12_tail 31 = .ok (.aload_n 0, 1) := dk_42 (dk_at dksX12_tail_1 7 rfl rfl)
theorem dX12_tail_32 : decode cX12_tail 32 = .ok (.getfield 22, 3) := dk_180 0 22 (dk_at dksX12_tail_1 8 rfl rfl)
theorem dX12_tail_35 : decode cX12_tail 35 = .ok (.iload_n 2, 1) := dk_28 (dk_at dksX12_tail_1 11 rfl rfl)
theorem dX12_tail_36 : decode cX12_tail 36 = .ok (.iconst 2, 1) := dk_5 (dk_at dksX12_tail_1 12 rfl rfl)
theorem dX12_tail_37 : decode cX12_tail 37 = .ok (.iadd, 1) := dk_96 (dk_at dksX12_tail_1 13 rfl rfl)
theorem dX12_tail_38 : decode cX12_tail 38 = .ok (.iaload, 1) := dk_46 (dk_at dksX12_tail_1 14 rfl rfl)
theorem dX12_tail_39 : decode cX12_tail 39 = .ok (.iadd, 1) := dk_96 (dk_at dksX12_tail_1 15 rfl rfl)
theorem dX12_tail_40 : decode cX12_tail 40 = .ok (.aload_n 0, 1) := dk_42 (dk_at dksX12_tail_1 16 rfl rfl)
theorem dX12_tail_41 : decode cX12_tail 41 = .ok (.getfield 22, 3) := dk_180 0 22 (dk_at dksX12_tail_1 17 rfl rfl)
theorem dX12_tail_44 : decode cX12_tail 44 = .ok (.iload_n 2, 1) := dk_28 (dk_at dksX12_tail_1 20 rfl rfl)
theorem dX12_tail_45 : decode cX12_tail 45 = .ok (.iaload, 1) := dk_46 (dk_at dksX12_tail_1 21 rfl rfl)
theorem dX12_tail_46 : decode cX12_tail 46 = .ok (.if_icmp .ne 7, 3) := dk_160 0 7 (dk_at dksX12_tail_2 0 rfl rfl)
theorem dX12_tail_49 : decode cX12_tail 49 = .ok (.iconst 2, 1) := dk_5 (dk_at dksX12_tail_2 3 rfl rfl)
theorem dX12_tail_50 : decode cX12_tail 50 = .ok (.goto 4, 3) := dk_167 0 4 (dk_at dksX12_tail_2 4 rfl rfl)
theorem dX12_tail_53 : decode cX12_tail 53 = .ok (.iconst 1, 1) := dk_4 (dk_at dksX12_tail_2 7 rfl rfl)
theorem dX12_tail_54 : decode cX12_tail 54 = .ok (.invokevirtual 134, 3) := dk_182 0 134 (dk_at dksX12_tail_2 8 rfl rfl)
theorem dX12_tail_57 : decode cX12_tail 57 = .ok (.istore_n 2, 1) := dk_61 (dk_at dksX12_tail_2 11 rfl rfl)
theorem dX12_tail_58 : decode cX12_tail 58 = .ok (.goto (-56), 3) := dk_167 255 200 (dk_at dksX12_tail_2 12 rfl rfl)
theorem dX12_tail_61 : decode cX12_tail 61 = .ok (.iload_n 2, 1) := dk_28 (dk_at dksX12_tail_2 15 rfl rfl)
theorem dX12_tail_62 : decode cX12_tail 62 = .ok (.ireturn, 1) := dk_172 (dk_at dksX12_tail_2 16 rfl rfl)
theorem q126 : (Jvm.Cond.initialized "MatrixPress$Chooser") ∈ lw_all := lw_g (lw_at lw_m1 19 rfl) rfl
theorem q228 : (Jvm.Cond.fieldLinkNest "MatrixPress$Chooser" (118 : Nat) "MatrixPress$Stream" "at" "I" "MatrixPress") ∈ lw_tbl := lw_at lw_m1 121 rfl
theorem q354 : (Jvm.Cond.fieldLinkNest "MatrixPress$Chooser" (173 : Nat) "MatrixPress$Encodation" "latch" "I" "MatrixPress") ∈ lw_tbl := lw_at lw_m2 7 rfl
theorem q404 : (Jvm.Cond.selects "MatrixPress$Chooser" ({ cls := "java/lang/Object", name := "getClass", desc := "()Ljava/lang/Class;" } : Jvm.MethodName) ({ cls := "java/lang/Object", name := "getClass", desc := "()Ljava/lang/Class;" } : Jvm.MethodName)) ∈ lw_all := lw_g (lw_at lw_m2 57 rfl) rfl
theorem q473 : (Jvm.Cond.instantiable "MatrixPress$Chooser" (12 : Nat)) ∈ lw_all := lw_g (lw_at lw_m2 126 rfl) rfl
theorem q475 : (Jvm.Cond.instanceMethod ({ cls := "MatrixPress$Chooser", name := "<init>", desc := "(Ljava/util/ArrayList;LMatrixPress$Stream;)V" } : Jvm.MethodName)) ∈ lw_all := lw_g (lw_at lw_m2 128 rfl) rfl
theorem q476 : (Jvm.Cond.code ({ cls := "MatrixPress$Chooser", name := "<init>", desc := "(Ljava/util/ArrayList;LMatrixPress$Stream;)V" } : Jvm.MethodName) prog_3_method_1_code (3 : Nat) (Option.none : Option Jvm.ClassFile.FieldType)) ∈ lw_all := lw_g (lw_at lw_m2 129 rfl) rfl
theorem q477 : (Jvm.Cond.methodLink "MatrixPress$Chooser" (3 : Nat) ({ cls := "java/lang/Object", name := "<init>", desc := "()V" } : Jvm.MethodName)) ∈ lw_all := lw_g (lw_at lw_m2 130 rfl) rfl
theorem q478 : (Jvm.Cond.classLink "MatrixPress$Chooser" (29 : Nat) "java/util/ArrayList") ∈ lw_all := lw_g (lw_at lw_m2 131 rfl) rfl
theorem q479 : (Jvm.Cond.methodLink "MatrixPress$Chooser" (31 : Nat) ({ cls := "java/util/ArrayList", name := "<init>", desc := "()V" } : Jvm.MethodName)) ∈ lw_all := lw_g (lw_at lw_m2 132 rfl) rfl
theorem q480 : (Jvm.Cond.fieldLink "MatrixPress$Chooser" (36 : Nat) "MatrixPress$Chooser" "all" "Ljava/util/ArrayList;") ∈ lw_all := lw_g (lw_at lw_m2 133 rfl) rfl
theorem q481 : (Jvm.Cond.fieldLink "MatrixPress$Chooser" (39 : Nat) "MatrixPress$Chooser" "out" "LMatrixPress$Stream;") ∈ lw_all := lw_g (lw_at lw_m2 134 rfl) rfl
theorem q482 : (Jvm.Cond.fieldLink "MatrixPress$Chooser" (9 : Nat) "MatrixPress$Chooser" "row" "[B") ∈ lw_all := lw_g (lw_at lw_m2 135 rfl) rfl
theorem q483 : (Jvm.Cond.fieldLink "MatrixPress$Chooser" (43 : Nat) "MatrixPress$Chooser" "n" "I") ∈ lw_all := lw_g (lw_at lw_m2 136 rfl) rfl
theorem q484 : (Jvm.Cond.fieldLink "MatrixPress$Chooser" (15 : Nat) "MatrixPress$Chooser" "onward" "[I") ∈ lw_all := lw_g (lw_at lw_m2 137 rfl) rfl
theorem q485 : (Jvm.Cond.fieldLink "MatrixPress$Chooser" (19 : Nat) "MatrixPress$Chooser" "upto" "[I") ∈ lw_all := lw_g (lw_at lw_m2 138 rfl) rfl
theorem q486 : (Jvm.Cond.fieldLink "MatrixPress$Chooser" (22 : Nat) "MatrixPress$Chooser" "plain" "[I") ∈ lw_all := lw_g (lw_at lw_m2 139 rfl) rfl
theorem q487 : (Jvm.Cond.fieldLink "MatrixPress$Chooser" (25 : Nat) "MatrixPress$Chooser" "leads" "[Z") ∈ lw_all := lw_g (lw_at lw_m2 140 rfl) rfl
theorem q488 : (Jvm.Cond.fieldLink "MatrixPress$Chooser" (32 : Nat) "MatrixPress$Chooser" "steps" "Ljava/util/ArrayList;") ∈ lw_all := lw_g (lw_at lw_m2 141 rfl) rfl
theorem q491 : (Jvm.Cond.fieldLink "MatrixPress$Chooser" (101 : Nat) "MatrixPress$Chooser" "length" "I") ∈ lw_all := lw_g (lw_at lw_m2 144 rfl) rfl
theorem q492 : (Jvm.Cond.fieldLink "MatrixPress$Chooser" (79 : Nat) "MatrixPress$Chooser" "data" "I") ∈ lw_all := lw_g (lw_at lw_m2 145 rfl) rfl
theorem q494 : (Jvm.Cond.fieldLink "MatrixPress$Chooser" (97 : Nat) "MatrixPress$Chooser" "isClosed" "Z") ∈ lw_all := lw_g (lw_at lw_m2 147 rfl) rfl
theorem q495 : (Jvm.Cond.laysFinal "MatrixPress$Chooser" "MatrixPress$Chooser" "all" "Ljava/util/ArrayList;") ∈ lw_all := lw_g (lw_at lw_m2 148 rfl) rfl
theorem q496 : (Jvm.Cond.soleField "MatrixPress$Chooser" "all") ∈ lw_all := lw_g (lw_at lw_m2 149 rfl) rfl
theorem q497 : (Jvm.Cond.laysFinal "MatrixPress$Chooser" "MatrixPress$Chooser" "out" "LMatrixPress$Stream;") ∈ lw_all := lw_g (lw_at lw_m2 150 rfl) rfl
theorem q498 : (Jvm.Cond.soleField "MatrixPress$Chooser" "out") ∈ lw_all := lw_g (lw_at lw_m2 151 rfl) rfl
theorem q499 : (Jvm.Cond.laysFinal "MatrixPress$Chooser" "MatrixPress$Chooser" "row" "[B") ∈ lw_all := lw_g (lw_at lw_m2 152 rfl) rfl
theorem q500 : (Jvm.Cond.soleField "MatrixPress$Chooser" "row") ∈ lw_all := lw_g (lw_at lw_m2 153 rfl) rfl
theorem q501 : (Jvm.Cond.lays "MatrixPress$Chooser" "MatrixPress$Chooser" "n" "I") ∈ lw_all := lw_g (lw_at lw_m2 154 rfl) rfl
theorem q502 : (Jvm.Cond.soleField "MatrixPress$Chooser" "n") ∈ lw_all := lw_g (lw_at lw_m2 155 rfl) rfl
theorem q503 : (Jvm.Cond.laysFinal "MatrixPress$Chooser" "MatrixPress$Chooser" "onward" "[I") ∈ lw_all := lw_g (lw_at lw_m2 156 rfl) rfl
theorem q504 : (Jvm.Cond.soleField "MatrixPress$Chooser" "onward") ∈ lw_all := lw_g (lw_at lw_m2 157 rfl) rfl
theorem q505 : (Jvm.Cond.laysFinal "MatrixPress$Chooser" "MatrixPress$Chooser" "upto" "[I") ∈ lw_all := lw_g (lw_at lw_m2 158 rfl) rfl
theorem q506 : (Jvm.Cond.soleField "MatrixPress$Chooser" "upto") ∈ lw_all := lw_g (lw_at lw_m2 159 rfl) rfl
theorem q507 : (Jvm.Cond.laysFinal "MatrixPress$Chooser" "MatrixPress$Chooser" "plain" "[I") ∈ lw_all := lw_g (lw_at lw_m2 160 rfl) rfl
theorem q508 : (Jvm.Cond.soleField "MatrixPress$Chooser" "plain") ∈ lw_all := lw_g (lw_at lw_m2 161 rfl) rfl
theorem q509 : (Jvm.Cond.laysFinal "MatrixPress$Chooser" "MatrixPress$Chooser" "leads" "[Z") ∈ lw_all := lw_g (lw_at lw_m2 162 rfl) rfl
theorem q510 : (Jvm.Cond.soleField "MatrixPress$Chooser" "leads") ∈ lw_all := lw_g (lw_at lw_m2 163 rfl) rfl
theorem q511 : (Jvm.Cond.laysFinal "MatrixPress$Chooser" "MatrixPress$Chooser" "steps" "Ljava/util/ArrayList;") ∈ lw_all := lw_g (lw_at lw_m2 164 rfl) rfl
theorem q512 : (Jvm.Cond.soleField "MatrixPress$Chooser" "steps") ∈ lw_all := lw_g (lw_at lw_m2 165 rfl) rfl
theorem q513 : (Jvm.Cond.lays "MatrixPress$Chooser" "MatrixPress$Chooser" "length" "I") ∈ lw_all := lw_g (lw_at lw_m2 166 rfl) rfl
theorem q514 : (Jvm.Cond.soleField "MatrixPress$Chooser" "length") ∈ lw_all := lw_g (lw_at lw_m2 167 rfl) rfl
theorem q515 : (Jvm.Cond.lays "MatrixPress$Chooser" "MatrixPress$Chooser" "data" "I") ∈ lw_all := lw_g (lw_at lw_m2 168 rfl) rfl
theorem q516 : (Jvm.Cond.soleField "MatrixPress$Chooser" "data") ∈ lw_all := lw_g (lw_at lw_m2 169 rfl) rfl
theorem q517 : (Jvm.Cond.lays "MatrixPress$Chooser" "MatrixPress$Chooser" "isClosed" "Z") ∈ lw_all := lw_g (lw_at lw_m2 170 rfl) rfl
theorem q518 : (Jvm.Cond.soleField "MatrixPress$Chooser" "isClosed") ∈ lw_all := lw_g (lw_at lw_m2 171 rfl) rfl
theorem q519 : (Jvm.Cond.superclass "MatrixPress$Chooser" "java/lang/Object") ∈ lw_all := lw_g (lw_at lw_m2 172 rfl) rfl
theorem q588 : (Jvm.Cond.instanceMethod ({ cls := "MatrixPress$Chooser", name := "begin", desc := "([BI)V" } : Jvm.MethodName)) ∈ lw_all := lw_g (lw_at lw_m3 1 rfl) rfl
theorem q589 : (Jvm.Cond.selects "MatrixPress$Chooser" ({ cls := "MatrixPress$Chooser", name := "begin", desc := "([BI)V" } : Jvm.MethodName) ({ cls := "MatrixPress$Chooser", name := "begin", desc := "([BI)V" } : Jvm.MethodName)) ∈ lw_all := lw_g (lw_at lw_m3 2 rfl) rfl
theorem q590 : (Jvm.Cond.code ({ cls := "MatrixPress$Chooser", name := "begin", desc := "([BI)V" } : Jvm.MethodName) prog_3_method_4_code (9 : Nat) (Option.none : Option Jvm.ClassFile.FieldType)) ∈ lw_all := lw_g (lw_at lw_m3 3 rfl) rfl
theorem q591 : (Jvm.Cond.methodLink "MatrixPress$Chooser" (47 : Nat) ({ cls := "java/util/ArrayList", name := "size", desc := "()I" } : Jvm.MethodName)) ∈ lw_all := lw_g (lw_at lw_m3 4 rfl) rfl
theorem q595 : (Jvm.Cond.methodLink "MatrixPress$Chooser" (51 : Nat) ({ cls := "java/util/ArrayList", name := "get", desc := "(I)Ljava/lang/Object;" } : Jvm.MethodName)) ∈ lw_all := lw_g (lw_at lw_m3 8 rfl) rfl
theorem q609 : (Jvm.Cond.classLink "MatrixPress$Chooser" (55 : Nat) "MatrixPress$Encodation") ∈ lw_all := lw_g (lw_at lw_m3 22 rfl) rfl
theorem q610 : (Jvm.Cond.methodLink "MatrixPress$Chooser" (57 : Nat) ({ cls := "MatrixPress$Encodation", name := "prepare", desc := "([BI)V" } : Jvm.MethodName)) ∈ lw_all := lw_g (lw_at lw_m3 23 rfl) rfl
theorem q633 : (Jvm.Cond.methodLink "MatrixPress$Chooser" (61 : Nat) ({ cls := "MatrixPress$Chooser", name := "isDigit", desc := "(I)Z" } : Jvm.MethodName)) ∈ lw_all := lw_g (lw_at lw_m3 46 rfl) rfl
theorem q634 : (Jvm.Cond.privateMethod ({ cls := "MatrixPress$Chooser", name := "isDigit", desc := "(I)Z" } : Jvm.MethodName)) ∈ lw_tbl := lw_at lw_m3 47 rfl
theorem q635 : (Jvm.Cond.instanceMethod ({ cls := "MatrixPress$Chooser", name := "isDigit", desc := "(I)Z" } : Jvm.MethodName)) ∈ lw_all := lw_g (lw_at lw_m3 48 rfl) rfl
theorem q636 : (Jvm.Cond.code ({ cls := "MatrixPress$Chooser", name := "isDigit", desc := "(I)Z" } : Jvm.MethodName) prog_3_method_2_code (2 : Nat) (Option.some Jvm.ClassFile.FieldType.boolean)) ∈ lw_all := lw_g (lw_at lw_m3 49 rfl) rfl
theorem q637 : (Jvm.Cond.methodLink "MatrixPress$Chooser" (65 : Nat) ({ cls := "MatrixPress$Chooser", name := "one", desc := "(I)I" } : Jvm.MethodName)) ∈ lw_all := lw_g (lw_at lw_m3 50 rfl) rfl
theorem q638 : (Jvm.Cond.privateMethod ({ cls := "MatrixPress$Chooser", name := "one", desc := "(I)I" } : Jvm.MethodName)) ∈ lw_tbl := lw_at lw_m3 51 rfl
theorem q639 : (Jvm.Cond.instanceMethod ({ cls := "MatrixPress$Chooser", name := "one", desc := "(I)I" } : Jvm.MethodName)) ∈ lw_all := lw_g (lw_at lw_m3 52 rfl) rfl
theorem q640 : (Jvm.Cond.code ({ cls := "MatrixPress$Chooser", name := "one", desc := "(I)I" } : Jvm.MethodName) prog_3_method_3_code (2 : Nat) (Option.some Jvm.ClassFile.FieldType.int)) ∈ lw_all := lw_g (lw_at lw_m3 53 rfl) rfl
theorem q641 : (Jvm.Cond.constant "MatrixPress$Chooser" (69 : Nat) (1000000 : Int32)) ∈ lw_all := lw_g (lw_at lw_m3 54 rfl) rfl
theorem q642 : (Jvm.Cond.methodLink "MatrixPress$Chooser" (70 : Nat) ({ cls := "java/lang/Math", name := "min", desc := "(II)I" } : Jvm.MethodName)) ∈ lw_all := lw_g (lw_at lw_m3 55 rfl) rfl
theorem q643 : (Jvm.Cond.methodLink "MatrixPress$Chooser" (76 : Nat) ({ cls := "MatrixPress$Encodation", name := "closed", desc := "(II)I" } : Jvm.MethodName)) ∈ lw_all := lw_g (lw_at lw_m3 56 rfl) rfl
theorem q671 : (Jvm.Cond.instanceMethod ({ cls := "MatrixPress$Chooser", name := "fits", desc := "(I)Z" } : Jvm.MethodName)) ∈ lw_all := lw_g (lw_at lw_m3 84 rfl) rfl
theorem q672 : (Jvm.Cond.selects "MatrixPress$Chooser" ({ cls := "MatrixPress$Chooser", name := "fits", desc := "(I)Z" } : Jvm.MethodName) ({ cls := "MatrixPress$Chooser", name := "fits", desc := "(I)Z" } : Jvm.MethodName)) ∈ lw_all := lw_g (lw_at lw_m3 85 rfl) rfl
theorem q673 : (Jvm.Cond.code ({ cls := "MatrixPress$Chooser", name := "fits", desc := "(I)Z" } : Jvm.MethodName) prog_3_method_7_code (4 : Nat) (Option.some Jvm.ClassFile.FieldType.boolean)) ∈ lw_all := lw_g (lw_at lw_m3 86 rfl) rfl
theorem q674 : (Jvm.Cond.methodLink "MatrixPress$Chooser" (94 : Nat) ({ cls := "MatrixPress$Chooser", name := "leastOpen", desc := "(I)I" } : Jvm.MethodName)) ∈ lw_all := lw_g (lw_at lw_m3 87 rfl) rfl
theorem q675 : (Jvm.Cond.privateMethod ({ cls := "MatrixPress$Chooser", name := "leastOpen", desc := "(I)I" } : Jvm.MethodName)) ∈ lw_tbl := lw_at lw_m3 88 rfl
theorem q676 : (Jvm.Cond.instanceMethod ({ cls := "MatrixPress$Chooser", name := "leastOpen", desc := "(I)I" } : Jvm.MethodName)) ∈ lw_all := lw_g (lw_at lw_m3 89 rfl) rfl
theorem q677 : (Jvm.Cond.code ({ cls := "MatrixPress$Chooser", name := "leastOpen", desc := "(I)I" } : Jvm.MethodName) prog_3_method_6_code (5 : Nat) (Option.some Jvm.ClassFile.FieldType.int)) ∈ lw_all := lw_g (lw_at lw_m3 90 rfl) rfl
theorem q678 : (Jvm.Cond.methodLink "MatrixPress$Chooser" (88 : Nat) ({ cls := "java/lang/Math", name := "max", desc := "(II)I" } : Jvm.MethodName)) ∈ lw_all := lw_g (lw_at lw_m3 91 rfl) rfl
theorem q679 : (Jvm.Cond.methodLink "MatrixPress$Chooser" (91 : Nat) ({ cls := "MatrixPress$Chooser", name := "open", desc := "(LMatrixPress$Encodation;II)I" } : Jvm.MethodName)) ∈ lw_all := lw_g (lw_at lw_m3 92 rfl) rfl
theorem q680 : (Jvm.Cond.privateMethod ({ cls := "MatrixPress$Chooser", name := "open", desc := "(LMatrixPress$Encodation;II)I" } : Jvm.MethodName)) ∈ lw_tbl := lw_at lw_m3 93 rfl
theorem q681 : (Jvm.Cond.instanceMethod ({ cls := "MatrixPress$Chooser", name := "open", desc := "(LMatrixPress$Encodation;II)I" } : Jvm.MethodName)) ∈ lw_all := lw_g (lw_at lw_m3 94 rfl) rfl
theorem q682 : (Jvm.Cond.code ({ cls := "MatrixPress$Chooser", name := "open", desc := "(LMatrixPress$Encodation;II)I" } : Jvm.MethodName) prog_3_method_5_code (6 : Nat) (Option.some Jvm.ClassFile.FieldType.int)) ∈ lw_all := lw_g (lw_at lw_m3 95 rfl) rfl
theorem q683 : (Jvm.Cond.methodLink "MatrixPress$Chooser" (82 : Nat) ({ cls := "MatrixPress$Encodation", name := "open", desc := "(II)I" } : Jvm.MethodName)) ∈ lw_all := lw_g (lw_at lw_m3 96 rfl) rfl
theorem q694 : (Jvm.Cond.methodLink "MatrixPress$Chooser" (85 : Nat) ({ cls := "MatrixPress$Encodation", name := "leaves", desc := "()I" } : Jvm.MethodName)) ∈ lw_all := lw_g (lw_at lw_m3 107 rfl) rfl
theorem q708 : (Jvm.Cond.instanceMethod ({ cls := "MatrixPress$Chooser", name := "write", desc := "()V" } : Jvm.MethodName)) ∈ lw_all := lw_g (lw_at lw_m3 121 rfl) rfl
theorem q709 : (Jvm.Cond.selects "MatrixPress$Chooser" ({ cls := "MatrixPress$Chooser", name := "write", desc := "()V" } : Jvm.MethodName) ({ cls := "MatrixPress$Chooser", name := "write", desc := "()V" } : Jvm.MethodName)) ∈ lw_all := lw_g (lw_at lw_m3 122 rfl) rfl
theorem q710 : (Jvm.Cond.code ({ cls := "MatrixPress$Chooser", name := "write", desc := "()V" } : Jvm.MethodName) prog_3_method_8_code (2 : Nat) (Option.none : Option Jvm.ClassFile.FieldType)) ∈ lw_all := lw_g (lw_at lw_m3 123 rfl) rfl
theorem q711 : (Jvm.Cond.methodLink "MatrixPress$Chooser" (104 : Nat) ({ cls := "java/util/ArrayList", name := "clear", desc := "()V" } : Jvm.MethodName)) ∈ lw_all := lw_g (lw_at lw_m3 124 rfl) rfl
theorem q715 : (Jvm.Cond.methodLink "MatrixPress$Chooser" (107 : Nat) ({ cls := "MatrixPress$Stream", name := "begin", desc := "(I)V" } : Jvm.MethodName)) ∈ lw_all := lw_g (lw_at lw_m3 128 rfl) rfl
theorem q719 : (Jvm.Cond.methodLink "MatrixPress$Chooser" (113 : Nat) ({ cls := "MatrixPress$Chooser", name := "leads", desc := "()V" } : Jvm.MethodName)) ∈ lw_all := lw_g (lw_at lw_m3 132 rfl) rfl
theorem q720 : (Jvm.Cond.privateMethod ({ cls := "MatrixPress$Chooser", name := "leads", desc := "()V" } : Jvm.MethodName)) ∈ lw_tbl := lw_at lw_m3 133 rfl
theorem q721 : (Jvm.Cond.instanceMethod ({ cls := "MatrixPress$Chooser", name := "leads", desc := "()V" } : Jvm.MethodName)) ∈ lw_all := lw_g (lw_at lw_m3 134 rfl) rfl
theorem q722 : (Jvm.Cond.code ({ cls := "MatrixPress$Chooser", name := "leads", desc := "()V" } : Jvm.MethodName) prog_3_method_9_code (5 : Nat) (Option.none : Option Jvm.ClassFile.FieldType)) ∈ lw_all := lw_g (lw_at lw_m3 135 rfl) rfl
theorem q723 : (Jvm.Cond.methodLink "MatrixPress$Chooser" (127 : Nat) ({ cls := "MatrixPress$Chooser", name := "goes", desc := "(III)Z" } : Jvm.MethodName)) ∈ lw_all := lw_g (lw_at lw_m3 136 rfl) rfl
theorem q724 : (Jvm.Cond.privateMethod ({ cls := "MatrixPress$Chooser", name := "goes", desc := "(III)Z" } : Jvm.MethodName)) ∈ lw_tbl := lw_at lw_m3 137 rfl
theorem q725 : (Jvm.Cond.instanceMethod ({ cls := "MatrixPress$Chooser", name := "goes", desc := "(III)Z" } : Jvm.MethodName)) ∈ lw_all := lw_g (lw_at lw_m3 138 rfl) rfl
theorem q726 : (Jvm.Cond.code ({ cls := "MatrixPress$Chooser", name := "goes", desc := "(III)Z" } : Jvm.MethodName) prog_3_method_10_code (4 : Nat) (Option.some Jvm.ClassFile.FieldType.boolean)) ∈ lw_all := lw_g (lw_at lw_m3 139 rfl) rfl
theorem q727 : (Jvm.Cond.methodLink "MatrixPress$Chooser" (115 : Nat) ({ cls := "MatrixPress$Chooser", name := "step", desc := "(I)I" } : Jvm.MethodName)) ∈ lw_all := lw_g (lw_at lw_m3 140 rfl) rfl
theorem q728 : (Jvm.Cond.privateMethod ({ cls := "MatrixPress$Chooser", name := "step", desc := "(I)I" } : Jvm.MethodName)) ∈ lw_tbl := lw_at lw_m3 141 rfl
theorem q729 : (Jvm.Cond.instanceMethod ({ cls := "MatrixPress$Chooser", name := "step", desc := "(I)I" } : Jvm.MethodName)) ∈ lw_all := lw_g (lw_at lw_m3 142 rfl) rfl
theorem q730 : (Jvm.Cond.code ({ cls := "MatrixPress$Chooser", name := "step", desc := "(I)I" } : Jvm.MethodName) prog_3_method_12_code (5 : Nat) (Option.some Jvm.ClassFile.FieldType.int)) ∈ lw_all := lw_g (lw_at lw_m3 143 rfl) rfl
theorem q731 : (Jvm.Cond.methodLink "MatrixPress$Chooser" (131 : Nat) ({ cls := "MatrixPress$Chooser", name := "may", desc := "(III)Z" } : Jvm.MethodName)) ∈ lw_all := lw_g (lw_at lw_m3 144 rfl) rfl
theorem q732 : (Jvm.Cond.privateMethod ({ cls := "MatrixPress$Chooser", name := "may", desc := "(III)Z" } : Jvm.MethodName)) ∈ lw_tbl := lw_at lw_m3 145 rfl
theorem q733 : (Jvm.Cond.instanceMethod ({ cls := "MatrixPress$Chooser", name := "may", desc := "(III)Z" } : Jvm.MethodName)) ∈ lw_all := lw_g (lw_at lw_m3 146 rfl) rfl
theorem q734 : (Jvm.Cond.code ({ cls := "MatrixPress$Chooser", name := "may", desc := "(III)Z" } : Jvm.MethodName) prog_3_method_11_code (4 : Nat) (Option.some Jvm.ClassFile.FieldType.boolean)) ∈ lw_all := lw_g (lw_at lw_m3 147 rfl) rfl
theorem q735 : (Jvm.Cond.methodLink "MatrixPress$Chooser" (134 : Nat) ({ cls := "MatrixPress$Chooser", name := "ascii", desc := "(II)I" } : Jvm.MethodName)) ∈ lw_all := lw_g (lw_at lw_m3 148 rfl) rfl
theorem q736 : (Jvm.Cond.privateMethod ({ cls := "MatrixPress$Chooser", name := "ascii", desc := "(II)I" } : Jvm.MethodName)) ∈ lw_tbl := lw_at lw_m3 149 rfl
theorem q737 : (Jvm.Cond.instanceMethod ({ cls := "MatrixPress$Chooser", name := "ascii", desc := "(II)I" } : Jvm.MethodName)) ∈ lw_all := lw_g (lw_at lw_m3 150 rfl) rfl
theorem q738 : (Jvm.Cond.code ({ cls := "MatrixPress$Chooser", name := "ascii", desc := "(II)I" } : Jvm.MethodName) prog_3_method_14_code (5 : Nat) (Option.some Jvm.ClassFile.FieldType.int)) ∈ lw_all := lw_g (lw_at lw_m3 151 rfl) rfl
theorem q739 : (Jvm.Cond.methodLink "MatrixPress$Chooser" (163 : Nat) ({ cls := "MatrixPress$Chooser", name := "last", desc := "(II)LMatrixPress$Step;" } : Jvm.MethodName)) ∈ lw_all := lw_g (lw_at lw_m3 152 rfl) rfl
theorem q740 : (Jvm.Cond.privateMethod ({ cls := "MatrixPress$Chooser", name := "last", desc := "(II)LMatrixPress$Step;" } : Jvm.MethodName)) ∈ lw_tbl := lw_at lw_m3 153 rfl
theorem q741 : (Jvm.Cond.instanceMethod ({ cls := "MatrixPress$Chooser", name := "last", desc := "(II)LMatrixPress$Step;" } : Jvm.MethodName)) ∈ lw_all := lw_g (lw_at lw_m3 154 rfl) rfl
theorem q742 : (Jvm.Cond.code ({ cls := "MatrixPress$Chooser", name := "last", desc := "(II)LMatrixPress$Step;" } : Jvm.MethodName) prog_3_method_13_code (4 : Nat) (Option.some (Jvm.ClassFile.FieldType.object "MatrixPress$Step"))) ∈ lw_all := lw_g (lw_at lw_m3 155 rfl) rfl
theorem q743 : (Jvm.Cond.methodLink "MatrixPress$Chooser" (147 : Nat) ({ cls := "java/util/ArrayList", name := "isEmpty", desc := "()Z" } : Jvm.MethodName)) ∈ lw_all := lw_g (lw_at lw_m3 156 rfl) rfl
theorem q747 : (Jvm.Cond.classLink "MatrixPress$Chooser" (151 : Nat) "MatrixPress$Step") ∈ lw_all := lw_g (lw_at lw_m3 160 rfl) rfl
theorem q749 : (Jvm.Cond.methodLink "MatrixPress$Chooser" (156 : Nat) ({ cls := "MatrixPress$Step", name := "<init>", desc := "(II)V" } : Jvm.MethodName)) ∈ lw_all := lw_g (lw_at lw_m3 162 rfl) rfl
theorem q755 : (Jvm.Cond.fieldLinkNest "MatrixPress$Chooser" (153 : Nat) "MatrixPress$Step" "sort" "I" "MatrixPress") ∈ lw_tbl := lw_at lw_m3 168 rfl
theorem q759 : (Jvm.Cond.fieldLinkNest "MatrixPress$Chooser" (167 : Nat) "MatrixPress$Step" "bytes" "I" "MatrixPress") ∈ lw_tbl := lw_at lw_m3 172 rfl
theorem q761 : (Jvm.Cond.fieldLinkNest "MatrixPress$Chooser" (170 : Nat) "MatrixPress$Step" "codewords" "I" "MatrixPress") ∈ lw_tbl := lw_at lw_m3 174 rfl
theorem q771 : (Jvm.Cond.methodLink "MatrixPress$Chooser" (159 : Nat) ({ cls := "java/util/ArrayList", name := "add", desc := "(Ljava/lang/Object;)Z" } : Jvm.MethodName)) ∈ lw_all := lw_g (lw_at lw_m3 184 rfl) rfl
theorem q772 : (Jvm.Cond.methodLink "MatrixPress$Chooser" (121 : Nat) ({ cls := "MatrixPress$Stream", name := "put", desc := "(I)V" } : Jvm.MethodName)) ∈ lw_all := lw_g (lw_at lw_m3 185 rfl) rfl
theorem q776 : (Jvm.Cond.methodLink "MatrixPress$Chooser" (137 : Nat) ({ cls := "MatrixPress$Chooser", name := "run", desc := "(IIIZ)I" } : Jvm.MethodName)) ∈ lw_all := lw_g (lw_at lw_m3 189 rfl) rfl
theorem q777 : (Jvm.Cond.privateMethod ({ cls := "MatrixPress$Chooser", name := "run", desc := "(IIIZ)I" } : Jvm.MethodName)) ∈ lw_tbl := lw_at lw_m3 190 rfl
theorem q778 : (Jvm.Cond.instanceMethod ({ cls := "MatrixPress$Chooser", name := "run", desc := "(IIIZ)I" } : Jvm.MethodName)) ∈ lw_all := lw_g (lw_at lw_m3 191 rfl) rfl
theorem q779 : (Jvm.Cond.code ({ cls := "MatrixPress$Chooser", name := "run", desc := "(IIIZ)I" } : Jvm.MethodName) prog_3_method_15_code (7 : Nat) (Option.some Jvm.ClassFile.FieldType.int)) ∈ lw_all := lw_g (lw_at lw_m3 192 rfl) rfl
theorem q780 : (Jvm.Cond.methodLink "MatrixPress$Chooser" (176 : Nat) ({ cls := "MatrixPress$Encodation", name := "write", desc := "(LMatrixPress$Stream;[BIIZ)V" } : Jvm.MethodName)) ∈ lw_all := lw_g (lw_at lw_m3 193 rfl) rfl
theorem q829 : (Jvm.Cond.methodLink "MatrixPress$Chooser" (141 : Nat) ({ cls := "MatrixPress$Chooser", name := "tail", desc := "(I)I" } : Jvm.MethodName)) ∈ lw_all := lw_g (lw_at lw_m4 2 rfl) rfl
theorem q830 : (Jvm.Cond.privateMethod ({ cls := "MatrixPress$Chooser", name := "tail", desc := "(I)I" } : Jvm.MethodName)) ∈ lw_tbl := lw_at lw_m4 3 rfl
theorem q831 : (Jvm.Cond.instanceMethod ({ cls := "MatrixPress$Chooser", name := "tail", desc := "(I)I" } : Jvm.MethodName)) ∈ lw_all := lw_g (lw_at lw_m4 4 rfl) rfl
theorem q832 : (Jvm.Cond.code ({ cls := "MatrixPress$Chooser", name := "tail", desc := "(I)I" } : Jvm.MethodName) prog_3_method_16_code (3 : Nat) (Option.some Jvm.ClassFile.FieldType.int)) ∈ lw_all := lw_g (lw_at lw_m4 5 rfl) rfl
theorem q833 : (Jvm.Cond.classLink "MatrixPress$Chooser" (144 : Nat) "java/lang/IllegalStateException") ∈ lw_all := lw_g (lw_at lw_m4 6 rfl) rfl
theorem q874 : (Jvm.Cond.methodLink "MatrixPress$Chooser" (146 : Nat) ({ cls := "java/lang/IllegalStateException", name := "<init>", desc := "()V" } : Jvm.MethodName)) ∈ lw_all := lw_g (lw_at lw_m4 47 rfl) rfl
theorem q897 : (Jvm.Cond.methodLink "MatrixPress$Chooser" (124 : Nat) ({ cls := "MatrixPress$Stream", name := "pads", desc := "()V" } : Jvm.MethodName)) ∈ lw_all := lw_g (lw_at lw_m4 70 rfl) rfl
theorem q1754 : (Jvm.Cond.castable "MatrixPress$Chooser" "java/lang/Object") ∈ lw_tbl := lw_at lw_m7 207 rfl
theorem in_X12 : ∀ w ∈ wsX120, w ∈ lw_all := lw_in wsX120 [495, 497, 499, 501, 503, 505, 507, 509, 511, 513, 515, 517] (by decide +kernel) (by decide +kernel)
/-! MatrixPress$Step -/
set_option maxRecDepth 100000
def RX14 : String := "MatrixPress$Step"
def TX14 : u_T := fun k => match k with
  | 0 => ("MatrixPress$Step", "sort", "I", true)
  | 1 => ("MatrixPress$Step", "from", "I", true)
  | 2 => ("MatrixPress$Step", "bytes", "I", false)
  | _ => ("MatrixPress$Step", "codewords", "I", false)
def tyX14 : Nat → FieldType := fun k => match k with
  | 0 => .int
  | 1 => .int
  | 2 => .int
  | _ => .int
abbrev wsX140 : List Cond := u_ws RX14 TX14 4
theorem nmX14 : ∀ a, a < 4 → ∀ b, b < 4 → a ≠ b → (TX14 a).2.1 ≠ (TX14 b).2.1 := by decide +kernel
theorem tyX14_ok : ∀ k, k < 4 → parseFieldDescriptor (TX14 k).2.2.1 = some (tyX14 k) := by decide +kernel
abbrev cX14_init : ByteArray := prog_10_method_1_code
def yX14_init : MethodName := ⟨RX14, "<init>", "(II)V"⟩
def dkwX14_init_0 : List UInt8 := [42, 183, 0, 1, 42, 27, 181, 0, 7, 42, 28, 181, 0, 13, 177]
abbrev dktX14_init_0 : List UInt8 := dkwX14_init_0 ++ []
theorem dksX14_init_0 : cX14_init.data.toList.drop 0 = dktX14_init_0 := by decide +kernel
theorem dX14_init_0 : decode cX14_init 0 = .ok (.aload_n 0, 1) := dk_42 (dk_at dksX14_init_0 0 rfl rfl)
theorem dX14_init_1 : decode cX14_init 1 = .ok (.invokespecial 1, 3) := dk_183 0 1 (dk_at dksX14_init_0 1 rfl rfl)
theorem dX14_init_4 : decode cX14_init 4 = .ok (.aload_n 0, 1) := dk_42 (dk_at dksX14_init_0 4 rfl rfl)
theorem dX14_init_5 : decode cX14_init 5 = .ok (.iload_n 1, 1) := dk_27 (dk_at dksX14_init_0 5 rfl rfl)
theorem dX14_init_6 : decode cX14_init 6 = .ok (.putfield 7, 3) := dk_181 0 7 (dk_at dksX14_init_0 6 rfl rfl)
theorem dX14_init_9 : decode cX14_init 9 = .ok (.aload_n 0, 1) := dk_42 (dk_at dksX14_init_0 9 rfl rfl)
theorem dX14_init_10 : decode cX14_init 10 = .ok (.iload_n 2, 1) := dk_28 (dk_at dksX14_init_0 10 rfl rfl)
theorem dX14_init_11 : decode cX14_init 11 = .ok (.putfield 13, 3) := dk_181 0 13 (dk_at dksX14_init_0 11 rfl rfl)
theorem dX14_init_14 : decode cX14_init 14 = .ok (.return_, 1) := dk_177 (dk_at dksX14_init_0 14 rfl rfl)
theorem q130 : (Jvm.Cond.initialized "MatrixPress$Step") ∈ lw_all := lw_g (lw_at lw_m1 23 rfl) rfl
theorem q410 : (Jvm.Cond.selects "MatrixPress$Step" ({ cls := "java/lang/Object", name := "getClass", desc := "()Ljava/lang/Class;" } : Jvm.MethodName) ({ cls := "java/lang/Object", name := "getClass", desc := "()Ljava/lang/Class;" } : Jvm.MethodName)) ∈ lw_all := lw_g (lw_at lw_m2 63 rfl) rfl
theorem q748 : (Jvm.Cond.instantiable "MatrixPress$Step" (4 : Nat)) ∈ lw_all := lw_g (lw_at lw_m3 161 rfl) rfl
theorem q750 : (Jvm.Cond.instanceMethod ({ cls := "MatrixPress$Step", name := "<init>", desc := "(II)V" } : Jvm.MethodName)) ∈ lw_all := lw_g (lw_at lw_m3 163 rfl) rfl
theorem q751 : (Jvm.Cond.code ({ cls := "MatrixPress$Step", name := "<init>", desc := "(II)V" } : Jvm.MethodName) prog_10_method_1_code (3 : Nat) (Option.none : Option Jvm.ClassFile.FieldType)) ∈ lw_all := lw_g (lw_at lw_m3 164 rfl) rfl
theorem q752 : (Jvm.Cond.methodLink "MatrixPress$Step" (1 : Nat) ({ cls := "java/lang/Object", name := "<init>", desc := "()V" } : Jvm.MethodName)) ∈ lw_all := lw_g (lw_at lw_m3 165 rfl) rfl
theorem q753 : (Jvm.Cond.fieldLink "MatrixPress$Step" (7 : Nat) "MatrixPress$Step" "sort" "I") ∈ lw_all := lw_g (lw_at lw_m3 166 rfl) rfl
theorem q756 : (Jvm.Cond.fieldLink "MatrixPress$Step" (13 : Nat) "MatrixPress$Step" "from" "I") ∈ lw_all := lw_g (lw_at lw_m3 169 rfl) rfl
theorem q762 : (Jvm.Cond.laysFinal "MatrixPress$Step" "MatrixPress$Step" "sort" "I") ∈ lw_all := lw_g (lw_at lw_m3 175 rfl) rfl
theorem q763 : (Jvm.Cond.soleField "MatrixPress$Step" "sort") ∈ lw_all := lw_g (lw_at lw_m3 176 rfl) rfl
theorem q764 : (Jvm.Cond.laysFinal "MatrixPress$Step" "MatrixPress$Step" "from" "I") ∈ lw_all := lw_g (lw_at lw_m3 177 rfl) rfl
theorem q765 : (Jvm.Cond.soleField "MatrixPress$Step" "from") ∈ lw_all := lw_g (lw_at lw_m3 178 rfl) rfl
theorem q766 : (Jvm.Cond.lays "MatrixPress$Step" "MatrixPress$Step" "bytes" "I") ∈ lw_all := lw_g (lw_at lw_m3 179 rfl) rfl
theorem q767 : (Jvm.Cond.soleField "MatrixPress$Step" "bytes") ∈ lw_all := lw_g (lw_at lw_m3 180 rfl) rfl
theorem q768 : (Jvm.Cond.lays "MatrixPress$Step" "MatrixPress$Step" "codewords" "I") ∈ lw_all := lw_g (lw_at lw_m3 181 rfl) rfl
theorem q769 : (Jvm.Cond.soleField "MatrixPress$Step" "codewords") ∈ lw_all := lw_g (lw_at lw_m3 182 rfl) rfl
theorem q770 : (Jvm.Cond.superclass "MatrixPress$Step" "java/lang/Object") ∈ lw_all := lw_g (lw_at lw_m3 183 rfl) rfl
theorem q1756 : (Jvm.Cond.castable "MatrixPress$Step" "java/lang/Object") ∈ lw_tbl := lw_at lw_m7 209 rfl
theorem in_X14 : ∀ w ∈ wsX140, w ∈ lw_all := lw_in wsX140 [762, 764, 766, 768] (by decide +kernel) (by decide +kernel)
/-! MatrixPress$NoStream -/
set_option maxRecDepth 100000
def RX15 : String := "MatrixPress$NoStream"
def TX15 : u_T := fun k => match k with
  | 0 => ("java/lang/Throwable", "cause", "Ljava/lang/Throwable;", false)
  | 1 => ("java/lang/Throwable", "stackTrace", "[Ljava/lang/StackTraceElement;", false)
  | 2 => ("java/lang/Throwable", "suppressedExceptions", "Ljava/util/List;", false)
  | 3 => ("java/lang/Throwable", "detailMessage", "Ljava/lang/String;", false)
  | 4 => ("java/lang/Throwable", "backtrace", "Ljava/lang/Object;", false)
  | _ => ("java/lang/Throwable", "depth", "I", false)
def tyX15 : Nat → FieldType := fun k => match k with
  | 0 => .object "java/lang/Throwable"
  | 1 => .array (.object "java/lang/StackTraceElement")
  | 2 => .object "java/util/List"
  | 3 => .object "java/lang/String"
  | 4 => .object "java/lang/Object"
  | _ => .int
abbrev wsX150 : List Cond := u_ws RX15 TX15 6
theorem nmX15 : ∀ a, a < 6 → ∀ b, b < 6 → a ≠ b → (TX15 a).2.1 ≠ (TX15 b).2.1 := by decide +kernel
theorem tyX15_ok : ∀ k, k < 6 → parseFieldDescriptor (TX15 k).2.2.1 = some (tyX15 k) := by decide +kernel
abbrev cX15_init : ByteArray := prog_7_method_1_code
def yX15_init : MethodName := ⟨RX15, "<init>", "()V"⟩
def dkwX15_init_0 : List UInt8 := [42, 1, 1, 3, 3, 183, 0, 1, 177]
abbrev dktX15_init_0 : List UInt8 := dkwX15_init_0 ++ []
theorem dksX15_init_0 : cX15_init.data.toList.drop 0 = dktX15_init_0 := by decide +kernel
theorem dX15_init_0 : decode cX15_init 0 = .ok (.aload_n 0, 1) := dk_42 (dk_at dksX15_init_0 0 rfl rfl)
theorem dX15_init_1 : decode cX15_init 1 = .ok (.aconst_null, 1) := dk_1 (dk_at dksX15_init_0 1 rfl rfl)
theorem dX15_init_2 : decode cX15_init 2 = .ok (.aconst_null, 1) := dk_1 (dk_at dksX15_init_0 2 rfl rfl)
theorem dX15_init_3 : decode cX15_init 3 = .ok (.iconst 0, 1) := dk_3 (dk_at dksX15_init_0 3 rfl rfl)
theorem dX15_init_4 : decode cX15_init 4 = .ok (.iconst 0, 1) := dk_3 (dk_at dksX15_init_0 4 rfl rfl)
theorem dX15_init_5 : decode cX15_init 5 = .ok (.invokespecial 1, 3) := dk_183 0 1 (dk_at dksX15_init_0 5 rfl rfl)
theorem dX15_init_8 : decode cX15_init 8 = .ok (.return_, 1) := dk_177 (dk_at dksX15_init_0 8 rfl rfl)
theorem q136 : (Jvm.Cond.initialized "MatrixPress$NoStream") ∈ lw_all := lw_g (lw_at lw_m1 29 rfl) rfl
theorem q407 : (Jvm.Cond.selects "MatrixPress$NoStream" ({ cls := "java/lang/Object", name := "getClass", desc := "()Ljava/lang/Class;" } : Jvm.MethodName) ({ cls := "java/lang/Object", name := "getClass", desc := "()Ljava/lang/Class;" } : Jvm.MethodName)) ∈ lw_all := lw_g (lw_at lw_m2 60 rfl) rfl
theorem q866 : (Jvm.Cond.selects "MatrixPress$NoStream" ({ cls := "java/lang/Throwable", name := "fillInStackTrace", desc := "()Ljava/lang/Throwable;" } : Jvm.MethodName) ({ cls := "java/lang/Throwable", name := "fillInStackTrace", desc := "()Ljava/lang/Throwable;" } : Jvm.MethodName)) ∈ lw_all := lw_g (lw_at lw_m4 39 rfl) rfl
theorem q996 : (Jvm.Cond.instantiable "MatrixPress$NoStream" (6 : Nat)) ∈ lw_all := lw_g (lw_at lw_m4 169 rfl) rfl
theorem q997 : (Jvm.Cond.castable "MatrixPress$NoStream" "MatrixPress$NoStream") ∈ lw_tbl := lw_at lw_m4 170 rfl
theorem q998 : (Jvm.Cond.selects "MatrixPress$NoStream" ({ cls := "java/lang/Throwable", name := "fillInStackTrace", desc := "(I)Ljava/lang/Throwable;" } : Jvm.MethodName) ({ cls := "java/lang/Throwable", name := "fillInStackTrace", desc := "(I)Ljava/lang/Throwable;" } : Jvm.MethodName)) ∈ lw_all := lw_g (lw_at lw_m4 171 rfl) rfl
theorem q999 : (Jvm.Cond.lays "MatrixPress$NoStream" "java/lang/Throwable" "cause" "Ljava/lang/Throwable;") ∈ lw_all := lw_g (lw_at lw_m4 172 rfl) rfl
theorem q1000 : (Jvm.Cond.lays "MatrixPress$NoStream" "java/lang/Throwable" "stackTrace" "[Ljava/lang/StackTraceElement;") ∈ lw_all := lw_g (lw_at lw_m4 173 rfl) rfl
theorem q1001 : (Jvm.Cond.lays "MatrixPress$NoStream" "java/lang/Throwable" "suppressedExceptions" "Ljava/util/List;") ∈ lw_all := lw_g (lw_at lw_m4 174 rfl) rfl
theorem q1002 : (Jvm.Cond.lays "MatrixPress$NoStream" "java/lang/Throwable" "detailMessage" "Ljava/lang/String;") ∈ lw_all := lw_g (lw_at lw_m4 175 rfl) rfl
theorem q1003 : (Jvm.Cond.lays "MatrixPress$NoStream" "java/lang/Throwable" "backtrace" "Ljava/lang/Object;") ∈ lw_all := lw_g (lw_at lw_m4 176 rfl) rfl
theorem q1005 : (Jvm.Cond.instanceMethod ({ cls := "MatrixPress$NoStream", name := "<init>", desc := "()V" } : Jvm.MethodName)) ∈ lw_all := lw_g (lw_at lw_m4 178 rfl) rfl
theorem q1006 : (Jvm.Cond.code ({ cls := "MatrixPress$NoStream", name := "<init>", desc := "()V" } : Jvm.MethodName) prog_7_method_1_code (1 : Nat) (Option.none : Option Jvm.ClassFile.FieldType)) ∈ lw_all := lw_g (lw_at lw_m4 179 rfl) rfl
theorem q1007 : (Jvm.Cond.methodLink "MatrixPress$NoStream" (1 : Nat) ({ cls := "java/lang/RuntimeException", name := "<init>", desc := "(Ljava/lang/String;Ljava/lang/Throwable;ZZ)V" } : Jvm.MethodName)) ∈ lw_all := lw_g (lw_at lw_m4 180 rfl) rfl
theorem q1016 : (Jvm.Cond.lays "MatrixPress$NoStream" "java/lang/Throwable" "depth" "I") ∈ lw_all := lw_g (lw_at lw_m4 189 rfl) rfl
theorem q1017 : (Jvm.Cond.superclass "MatrixPress$NoStream" "java/lang/RuntimeException") ∈ lw_all := lw_g (lw_at lw_m4 190 rfl) rfl
theorem q1759 : (Jvm.Cond.castable "MatrixPress$NoStream" "java/lang/Object") ∈ lw_tbl := lw_at lw_m7 212 rfl
theorem in_X15 : ∀ w ∈ wsX150, w ∈ lw_all := lw_in wsX150 [999, 1000, 1001, 1002, 1003, 1016] (by decide +kernel) (by decide +kernel)
/-! MatrixPressLaw -/
set_option maxRecDepth 100000
def RX0 : String := "MatrixPressLaw"
abbrev cX0_step : ByteArray := method_3_code
def yX0_step : MethodName := ⟨RX0, "step", "(LMatrixPress;II[J)I"⟩
def dkwX0_step_0 : List UInt8 := [45, 3, 42, 27, 28, 182, 0, 7, 133, 80, 167, 0, 7, 58, 4, 4, 172, 3, 172]
abbrev dktX0_step_0 : List UInt8 := dkwX0_step_0 ++ []
theorem dksX0_step_0 : cX0_step.data.toList.drop 0 = dktX0_step_0 := by decide +kernel
theorem dX0_step_0 : decode cX0_step 0 = .ok (.aload_n 3, 1) := dk_45 (dk_at dksX0_step_0 0 rfl rfl)
theorem dX0_step_1 : decode cX0_step 1 = .ok (.iconst 0, 1) := dk_3 (dk_at dksX0_step_0 1 rfl rfl)
theorem dX0_step_2 : decode cX0_step 2 = .ok (.aload_n 0, 1) := dk_42 (dk_at dksX0_step_0 2 rfl rfl)
theorem dX0_step_3 : decode cX0_step 3 = .ok (.iload_n 1, 1) := dk_27 (dk_at dksX0_step_0 3 rfl rfl)
theorem dX0_step_4 : decode cX0_step 4 = .ok (.iload_n 2, 1) := dk_28 (dk_at dksX0_step_0 4 rfl rfl)
theorem dX0_step_5 : decode cX0_step 5 = .ok (.invokevirtual 7, 3) := dk_182 0 7 (dk_at dksX0_step_0 5 rfl rfl)
theorem dX0_step_8 : decode cX0_step 8 = .ok (.i2l, 1) := dk_133 (dk_at dksX0_step_0 8 rfl rfl)
theorem dX0_step_9 : decode cX0_step 9 = .ok (.lastore, 1) := dk_80 (dk_at dksX0_step_0 9 rfl rfl)
theorem dX0_step_10 : decode cX0_step 10 = .ok (.goto 7, 3) := dk_167 0 7 (dk_at dksX0_step_0 10 rfl rfl)
theorem dX0_step_13 : decode cX0_step 13 = .ok (.astore 4, 2) := dk_58 4 (dk_at dksX0_step_0 13 rfl rfl)
theorem dX0_step_15 : decode cX0_step 15 = .ok (.iconst 1, 1) := dk_4 (dk_at dksX0_step_0 15 rfl rfl)
theorem dX0_step_16 : decode cX0_step 16 = .ok (.ireturn, 1) := dk_172 (dk_at dksX0_step_0 16 rfl rfl)
theorem dX0_step_17 : decode cX0_step 17 = .ok (.iconst 0, 1) := dk_3 (dk_at dksX0_step_0 17 rfl rfl)
theorem dX0_step_18 : decode cX0_step 18 = .ok (.ireturn, 1) := dk_172 (dk_at dksX0_step_0 18 rfl rfl)
theorem q107 : (Jvm.Cond.initialized "MatrixPressLaw") ∈ lw_all := lw_g (lw_at lw_m1 0 rfl) rfl
theorem q137 : (Jvm.Cond.classLink "MatrixPressLaw" (8 : Nat) "MatrixPress") ∈ lw_all := lw_g (lw_at lw_m1 30 rfl) rfl
theorem q139 : (Jvm.Cond.methodLink "MatrixPressLaw" (15 : Nat) ({ cls := "MatrixPress", name := "<init>", desc := "()V" } : Jvm.MethodName)) ∈ lw_all := lw_g (lw_at lw_m1 32 rfl) rfl
theorem q575 : (Jvm.Cond.methodLink "MatrixPressLaw" (21 : Nat) ({ cls := "MatrixPress", name := "feed", desc := "(IJJJ)I" } : Jvm.MethodName)) ∈ lw_all := lw_g (lw_at lw_m2 228 rfl) rfl
theorem q579 : (Jvm.Cond.methodLink "MatrixPressLaw" (26 : Nat) ({ cls := "MatrixPress", name := "encode", desc := "(I)I" } : Jvm.MethodName)) ∈ lw_all := lw_g (lw_at lw_m2 232 rfl) rfl
theorem q977 : (Jvm.Cond.methodLink "MatrixPressLaw" (41 : Nat) ({ cls := "MatrixPress", name := "stream", desc := "(I)I" } : Jvm.MethodName)) ∈ lw_all := lw_g (lw_at lw_m4 150 rfl) rfl
theorem q1103 : (Jvm.Cond.methodLink "MatrixPressLaw" (45 : Nat) ({ cls := "MatrixPress", name := "load", desc := "(I)Z" } : Jvm.MethodName)) ∈ lw_all := lw_g (lw_at lw_m5 36 rfl) rfl
theorem q1107 : (Jvm.Cond.methodLink "MatrixPressLaw" (50 : Nat) ({ cls := "MatrixPress", name := "decode", desc := "()I" } : Jvm.MethodName)) ∈ lw_all := lw_g (lw_at lw_m5 40 rfl) rfl
theorem q1135 : (Jvm.Cond.methodLink "MatrixPressLaw" (54 : Nat) ({ cls := "MatrixPress", name := "letter", desc := "(I)I" } : Jvm.MethodName)) ∈ lw_all := lw_g (lw_at lw_m5 68 rfl) rfl
theorem q1139 : (Jvm.Cond.methodLink "MatrixPressLaw" (58 : Nat) ({ cls := "MatrixPress", name := "module", desc := "(II)I" } : Jvm.MethodName)) ∈ lw_all := lw_g (lw_at lw_m5 72 rfl) rfl
theorem q1147 : (Jvm.Cond.methodLink "MatrixPressLaw" (62 : Nat) ({ cls := "MatrixPress", name := "flip", desc := "(II)Z" } : Jvm.MethodName)) ∈ lw_all := lw_g (lw_at lw_m5 80 rfl) rfl
theorem q1151 : (Jvm.Cond.methodLink "MatrixPressLaw" (67 : Nat) ({ cls := "MatrixPress", name := "codeword", desc := "(I)I" } : Jvm.MethodName)) ∈ lw_all := lw_g (lw_at lw_m5 84 rfl) rfl
theorem q1155 : (Jvm.Cond.methodLink "MatrixPressLaw" (71 : Nat) ({ cls := "MatrixPress", name := "set", desc := "(II)Z" } : Jvm.MethodName)) ∈ lw_all := lw_g (lw_at lw_m5 88 rfl) rfl
theorem q1159 : (Jvm.Cond.methodLink "MatrixPressLaw" (75 : Nat) ({ cls := "MatrixPress", name := "size", desc := "(II)I" } : Jvm.MethodName)) ∈ lw_all := lw_g (lw_at lw_m5 92 rfl) rfl
theorem q1163 : (Jvm.Cond.methodLink "MatrixPressLaw" (79 : Nat) ({ cls := "MatrixPress", name := "about", desc := "(I)I" } : Jvm.MethodName)) ∈ lw_all := lw_g (lw_at lw_m5 96 rfl) rfl
theorem q1167 : (Jvm.Cond.methodLink "MatrixPressLaw" (31 : Nat) ({ cls := "MatrixPressLaw", name := "step", desc := "(LMatrixPress;II[J)I" } : Jvm.MethodName)) ∈ lw_all := lw_g (lw_at lw_m5 100 rfl) rfl
theorem q1168 : (Jvm.Cond.static ({ cls := "MatrixPressLaw", name := "step", desc := "(LMatrixPress;II[J)I" } : Jvm.MethodName)) ∈ lw_all := lw_g (lw_at lw_m5 101 rfl) rfl
theorem q1169 : (Jvm.Cond.codeWith ({ cls := "MatrixPressLaw", name := "step", desc := "(LMatrixPress;II[J)I" } : Jvm.MethodName) method_3_code (5 : Nat) (Option.some Jvm.ClassFile.FieldType.int) [((0 : Nat), (10 : Nat), (13 : Nat), (13 : Nat))]) ∈ lw_all := lw_g (lw_at lw_m5 102 rfl) rfl
theorem q1170 : (Jvm.Cond.classLink "MatrixPressLaw" (13 : Nat) "java/util/NoSuchElementException") ∈ lw_all := lw_g (lw_at lw_m5 103 rfl) rfl
theorem q1171 : (Jvm.Cond.methodLink "MatrixPressLaw" (7 : Nat) ({ cls := "MatrixPress", name := "step", desc := "(II)I" } : Jvm.MethodName)) ∈ lw_all := lw_g (lw_at lw_m5 104 rfl) rfl
theorem q1190 : (Jvm.Cond.methodLink "MatrixPressLaw" (37 : Nat) ({ cls := "MatrixPressModel", name := "thrown", desc := "()I" } : Jvm.MethodName)) ∈ lw_all := lw_g (lw_at lw_m5 123 rfl) rfl
theorem q1194 : (Jvm.Cond.classLink "MatrixPressLaw" (16 : Nat) "MatrixPressModel") ∈ lw_all := lw_g (lw_at lw_m5 127 rfl) rfl
theorem q1196 : (Jvm.Cond.methodLink "MatrixPressLaw" (18 : Nat) ({ cls := "MatrixPressModel", name := "<init>", desc := "()V" } : Jvm.MethodName)) ∈ lw_all := lw_g (lw_at lw_m5 129 rfl) rfl
theorem q1383 : (Jvm.Cond.methodLink "MatrixPressLaw" (78 : Nat) ({ cls := "MatrixPressModel", name := "size", desc := "(II)I" } : Jvm.MethodName)) ∈ lw_all := lw_g (lw_at lw_m6 76 rfl) rfl
theorem q1406 : (Jvm.Cond.methodLink "MatrixPressLaw" (25 : Nat) ({ cls := "MatrixPressModel", name := "feed", desc := "(IJJJ)I" } : Jvm.MethodName)) ∈ lw_all := lw_g (lw_at lw_m6 99 rfl) rfl
theorem q1410 : (Jvm.Cond.methodLink "MatrixPressLaw" (61 : Nat) ({ cls := "MatrixPressModel", name := "module", desc := "(II)I" } : Jvm.MethodName)) ∈ lw_all := lw_g (lw_at lw_m6 103 rfl) rfl
theorem q1421 : (Jvm.Cond.methodLink "MatrixPressLaw" (66 : Nat) ({ cls := "MatrixPressModel", name := "flip", desc := "(II)Z" } : Jvm.MethodName)) ∈ lw_all := lw_g (lw_at lw_m6 114 rfl) rfl
theorem q1425 : (Jvm.Cond.methodLink "MatrixPressLaw" (70 : Nat) ({ cls := "MatrixPressModel", name := "codeword", desc := "(I)I" } : Jvm.MethodName)) ∈ lw_all := lw_g (lw_at lw_m6 118 rfl) rfl
theorem q1475 : (Jvm.Cond.methodLink "MatrixPressLaw" (74 : Nat) ({ cls := "MatrixPressModel", name := "set", desc := "(II)Z" } : Jvm.MethodName)) ∈ lw_all := lw_g (lw_at lw_m6 168 rfl) rfl
theorem q1483 : (Jvm.Cond.methodLink "MatrixPressLaw" (49 : Nat) ({ cls := "MatrixPressModel", name := "load", desc := "(I)Z" } : Jvm.MethodName)) ∈ lw_all := lw_g (lw_at lw_m6 176 rfl) rfl
theorem q1491 : (Jvm.Cond.methodLink "MatrixPressLaw" (44 : Nat) ({ cls := "MatrixPressModel", name := "stream", desc := "(I)I" } : Jvm.MethodName)) ∈ lw_all := lw_g (lw_at lw_m6 184 rfl) rfl
theorem q1539 : (Jvm.Cond.methodLink "MatrixPressLaw" (53 : Nat) ({ cls := "MatrixPressModel", name := "decode", desc := "()I" } : Jvm.MethodName)) ∈ lw_all := lw_g (lw_at lw_m6 232 rfl) rfl
theorem q1575 : (Jvm.Cond.methodLink "MatrixPressLaw" (57 : Nat) ({ cls := "MatrixPressModel", name := "letter", desc := "(I)I" } : Jvm.MethodName)) ∈ lw_all := lw_g (lw_at lw_m7 28 rfl) rfl
theorem q1579 : (Jvm.Cond.methodLink "MatrixPressLaw" (30 : Nat) ({ cls := "MatrixPressModel", name := "encode", desc := "(I)I" } : Jvm.MethodName)) ∈ lw_all := lw_g (lw_at lw_m7 32 rfl) rfl
theorem q1725 : (Jvm.Cond.methodLink "MatrixPressLaw" (36 : Nat) ({ cls := "MatrixPressModel", name := "step", desc := "(II)I" } : Jvm.MethodName)) ∈ lw_all := lw_g (lw_at lw_m7 178 rfl) rfl
theorem q1729 : (Jvm.Cond.methodLink "MatrixPressLaw" (82 : Nat) ({ cls := "MatrixPressModel", name := "about", desc := "(I)I" } : Jvm.MethodName)) ∈ lw_all := lw_g (lw_at lw_m7 182 rfl) rfl
theorem q1733 : (Jvm.Cond.constantLong "MatrixPressLaw" (19 : Nat) (4294967295 : Int64)) ∈ lw_all := lw_g (lw_at lw_m7 186 rfl) rfl
/-! java/util/AbstractCollection -/
set_option maxRecDepth 100000
def RJ0 : String := "java/util/AbstractCollection"
abbrev cJ0_init : ByteArray := prog_26_method_1_code
def yJ0_init : MethodName := ⟨RJ0, "<init>", "()V"⟩
theorem dJ0_init_0 : decode cJ0_init 0 = .ok (.aload_n 0, 1) := by decide +kernel
theorem dJ0_init_1 : decode cJ0_init 1 = .ok (.invokespecial 1, 3) := by decide +kernel
theorem dJ0_init_4 : decode cJ0_init 4 = .ok (.return_, 1) := by decide +kernel
theorem q112 : (Jvm.Cond.initialized "java/util/AbstractCollection") ∈ lw_all := lw_g (lw_at lw_m1 5 rfl) rfl
theorem q252 : (Jvm.Cond.instanceMethod ({ cls := "java/util/AbstractCollection", name := "<init>", desc := "()V" } : Jvm.MethodName)) ∈ lw_all := lw_g (lw_at lw_m1 145 rfl) rfl
theorem q253 : (Jvm.Cond.code ({ cls := "java/util/AbstractCollection", name := "<init>", desc := "()V" } : Jvm.MethodName) prog_26_method_1_code (1 : Nat) (Option.none : Option Jvm.ClassFile.FieldType)) ∈ lw_all := lw_g (lw_at lw_m1 146 rfl) rfl
theorem q254 : (Jvm.Cond.methodLink "java/util/AbstractCollection" (1 : Nat) ({ cls := "java/lang/Object", name := "<init>", desc := "()V" } : Jvm.MethodName)) ∈ lw_all := lw_g (lw_at lw_m1 147 rfl) rfl
/-! java/util/AbstractList -/
set_option maxRecDepth 100000
def RJ1 : String := "java/util/AbstractList"
abbrev cJ1_init : ByteArray := prog_27_method_1_code
def yJ1_init : MethodName := ⟨RJ1, "<init>", "()V"⟩
def dkwJ1_init_0 : List UInt8 := [42, 183, 0, 1, 42, 3, 181, 0, 7, 177]
abbrev dktJ1_init_0 : List UInt8 := dkwJ1_init_0 ++ []
theorem dksJ1_init_0 : cJ1_init.data.toList.drop 0 = dktJ1_init_0 := by decide +kernel
theorem dJ1_init_0 : decode cJ1_init 0 = .ok (.aload_n 0, 1) := dk_42 (dk_at dksJ1_init_0 0 rfl rfl)
theorem dJ1_init_1 : decode cJ1_init 1 = .ok (.invokespecial 1, 3) := dk_183 0 1 (dk_at dksJ1_init_0 1 rfl rfl)
theorem dJ1_init_4 : decode cJ1_init 4 = .ok (.aload_n 0, 1) := dk_42 (dk_at dksJ1_init_0 4 rfl rfl)
theorem dJ1_init_5 : decode cJ1_init 5 = .ok (.iconst 0, 1) := dk_3 (dk_at dksJ1_init_0 5 rfl rfl)
theorem dJ1_init_6 : decode cJ1_init 6 = .ok (.putfield 7, 3) := dk_181 0 7 (dk_at dksJ1_init_0 6 rfl rfl)
theorem dJ1_init_9 : decode cJ1_init 9 = .ok (.return_, 1) := dk_177 (dk_at dksJ1_init_0 9 rfl rfl)
theorem q113 : (Jvm.Cond.initialized "java/util/AbstractList") ∈ lw_all := lw_g (lw_at lw_m1 6 rfl) rfl
theorem q249 : (Jvm.Cond.instanceMethod ({ cls := "java/util/AbstractList", name := "<init>", desc := "()V" } : Jvm.MethodName)) ∈ lw_all := lw_g (lw_at lw_m1 142 rfl) rfl
theorem q250 : (Jvm.Cond.code ({ cls := "java/util/AbstractList", name := "<init>", desc := "()V" } : Jvm.MethodName) prog_27_method_1_code (1 : Nat) (Option.none : Option Jvm.ClassFile.FieldType)) ∈ lw_all := lw_g (lw_at lw_m1 143 rfl) rfl
theorem q251 : (Jvm.Cond.methodLink "java/util/AbstractList" (1 : Nat) ({ cls := "java/util/AbstractCollection", name := "<init>", desc := "()V" } : Jvm.MethodName)) ∈ lw_all := lw_g (lw_at lw_m1 144 rfl) rfl
theorem q261 : (Jvm.Cond.fieldLink "java/util/AbstractList" (7 : Nat) "java/util/AbstractList" "modCount" "I") ∈ lw_all := lw_g (lw_at lw_m1 154 rfl) rfl
theorem q269 : (Jvm.Cond.soleField "java/util/AbstractList" "modCount") ∈ lw_all := lw_g (lw_at lw_m1 162 rfl) rfl
/-! java/lang/RuntimeException -/
set_option maxRecDepth 100000
def RJ10 : String := "java/lang/RuntimeException"
abbrev cJ10_init : ByteArray := prog_23_method_1_code
def yJ10_init : MethodName := ⟨RJ10, "<init>", "()V"⟩
theorem dJ10_init_0 : decode cJ10_init 0 = .ok (.aload_n 0, 1) := by decide +kernel
theorem dJ10_init_1 : decode cJ10_init 1 = .ok (.invokespecial 1, 3) := by decide +kernel
theorem dJ10_init_4 : decode cJ10_init 4 = .ok (.return_, 1) := by decide +kernel
abbrev cJ10_init_2 : ByteArray := prog_23_method_5_code
def yJ10_init_2 : MethodName := ⟨RJ10, "<init>", "(Ljava/lang/String;Ljava/lang/Throwable;ZZ)V"⟩
def dkwJ10_init_2_0 : List UInt8 := [42, 43, 44, 29, 21, 4, 183, 0, 16, 177]
abbrev dktJ10_init_2_0 : List UInt8 := dkwJ10_init_2_0 ++ []
theorem dksJ10_init_2_0 : cJ10_init_2.data.toList.drop 0 = dktJ10_init_2_0 := by decide +kernel
theorem dJ10_init_2_0 : decode cJ10_init_2 0 = .ok (.aload_n 0, 1) := dk_42 (dk_at dksJ10_init_2_0 0 rfl rfl)
theorem dJ10_init_2_1 : decode cJ10_init_2 1 = .ok (.aload_n 1, 1) := dk_43 (dk_at dksJ10_init_2_0 1 rfl rfl)
theorem dJ10_init_2_2 : decode cJ10_init_2 2 = .ok (.aload_n 2, 1) := dk_44 (dk_at dksJ10_init_2_0 2 rfl rfl)
theorem dJ10_init_2_3 : decode cJ10_init_2 3 = .ok (.iload_n 3, 1) := dk_29 (dk_at dksJ10_init_2_0 3 rfl rfl)
theorem dJ10_init_2_4 : decode cJ10_init_2 4 = .ok (.iload 4, 2) := dk_21 4 (dk_at dksJ10_init_2_0 4 rfl rfl)
theorem dJ10_init_2_6 : decode cJ10_init_2 6 = .ok (.invokespecial 16, 3) := dk_183 0 16 (dk_at dksJ10_init_2_0 6 rfl rfl)
theorem dJ10_init_2_9 : decode cJ10_init_2 9 = .ok (.return_, 1) := dk_177 (dk_at dksJ10_init_2_0 9 rfl rfl)
theorem q133 : (Jvm.Cond.initialized "java/lang/RuntimeException") ∈ lw_all := lw_g (lw_at lw_m1 26 rfl) rfl
theorem q836 : (Jvm.Cond.declares ({ cls := "java/lang/RuntimeException", name := "<init>", desc := "()V" } : Jvm.MethodName)) ∈ lw_tbl := lw_at lw_m4 9 rfl
theorem q837 : (Jvm.Cond.declares ({ cls := "java/lang/RuntimeException", name := "<init>", desc := "(Ljava/lang/String;)V" } : Jvm.MethodName)) ∈ lw_tbl := lw_at lw_m4 10 rfl
theorem q878 : (Jvm.Cond.instanceMethod ({ cls := "java/lang/RuntimeException", name := "<init>", desc := "()V" } : Jvm.MethodName)) ∈ lw_all := lw_g (lw_at lw_m4 51 rfl) rfl
theorem q879 : (Jvm.Cond.code ({ cls := "java/lang/RuntimeException", name := "<init>", desc := "()V" } : Jvm.MethodName) prog_23_method_1_code (1 : Nat) (Option.none : Option Jvm.ClassFile.FieldType)) ∈ lw_all := lw_g (lw_at lw_m4 52 rfl) rfl
theorem q880 : (Jvm.Cond.methodLink "java/lang/RuntimeException" (1 : Nat) ({ cls := "java/lang/Exception", name := "<init>", desc := "()V" } : Jvm.MethodName)) ∈ lw_all := lw_g (lw_at lw_m4 53 rfl) rfl
theorem q1008 : (Jvm.Cond.instanceMethod ({ cls := "java/lang/RuntimeException", name := "<init>", desc := "(Ljava/lang/String;Ljava/lang/Throwable;ZZ)V" } : Jvm.MethodName)) ∈ lw_all := lw_g (lw_at lw_m4 181 rfl) rfl
theorem q1009 : (Jvm.Cond.code ({ cls := "java/lang/RuntimeException", name := "<init>", desc := "(Ljava/lang/String;Ljava/lang/Throwable;ZZ)V" } : Jvm.MethodName) prog_23_method_5_code (5 : Nat) (Option.none : Option Jvm.ClassFile.FieldType)) ∈ lw_all := lw_g (lw_at lw_m4 182 rfl) rfl
theorem q1010 : (Jvm.Cond.methodLink "java/lang/RuntimeException" (16 : Nat) ({ cls := "java/lang/Exception", name := "<init>", desc := "(Ljava/lang/String;Ljava/lang/Throwable;ZZ)V" } : Jvm.MethodName)) ∈ lw_all := lw_g (lw_at lw_m4 183 rfl) rfl
/-! java/lang/IllegalStateException -/
set_option maxRecDepth 100000
def RJ11 : String := "java/lang/IllegalStateException"
def TJ11 : u_T := fun k => match k with
  | 0 => ("java/lang/Throwable", "cause", "Ljava/lang/Throwable;", false)
  | 1 => ("java/lang/Throwable", "stackTrace", "[Ljava/lang/StackTraceElement;", false)
  | 2 => ("java/lang/Throwable", "suppressedExceptions", "Ljava/util/List;", false)
  | 3 => ("java/lang/Throwable", "detailMessage", "Ljava/lang/String;", false)
  | 4 => ("java/lang/Throwable", "backtrace", "Ljava/lang/Object;", false)
  | _ => ("java/lang/Throwable", "depth", "I", false)
def tyJ11 : Nat → FieldType := fun k => match k with
  | 0 => .object "java/lang/Throwable"
  | 1 => .array (.object "java/lang/StackTraceElement")
  | 2 => .object "java/util/List"
  | 3 => .object "java/lang/String"
  | 4 => .object "java/lang/Object"
  | _ => .int
abbrev wsJ110 : List Cond := u_ws RJ11 TJ11 6
theorem nmJ11 : ∀ a, a < 6 → ∀ b, b < 6 → a ≠ b → (TJ11 a).2.1 ≠ (TJ11 b).2.1 := by decide +kernel
theorem tyJ11_ok : ∀ k, k < 6 → parseFieldDescriptor (TJ11 k).2.2.1 = some (tyJ11 k) := by decide +kernel
abbrev cJ11_init : ByteArray := prog_20_method_1_code
def yJ11_init : MethodName := ⟨RJ11, "<init>", "()V"⟩
theorem dJ11_init_0 : decode cJ11_init 0 = .ok (.aload_n 0, 1) := by decide +kernel
theorem dJ11_init_1 : decode cJ11_init 1 = .ok (.invokespecial 1, 3) := by decide +kernel
theorem dJ11_init_4 : decode cJ11_init 4 = .ok (.return_, 1) := by decide +kernel
theorem q134 : (Jvm.Cond.initialized "java/lang/IllegalStateException") ∈ lw_all := lw_g (lw_at lw_m1 27 rfl) rfl
theorem q415 : (Jvm.Cond.selects "java/lang/IllegalStateException" ({ cls := "java/lang/Object", name := "getClass", desc := "()Ljava/lang/Class;" } : Jvm.MethodName) ({ cls := "java/lang/Object", name := "getClass", desc := "()Ljava/lang/Class;" } : Jvm.MethodName)) ∈ lw_all := lw_g (lw_at lw_m2 68 rfl) rfl
theorem q834 : (Jvm.Cond.instantiable "java/lang/IllegalStateException" (6 : Nat)) ∈ lw_all := lw_g (lw_at lw_m4 7 rfl) rfl
theorem q835 : (Jvm.Cond.castable "java/lang/IllegalStateException" "java/lang/IllegalStateException") ∈ lw_tbl := lw_at lw_m4 8 rfl
theorem q842 : (Jvm.Cond.selects "java/lang/IllegalStateException" ({ cls := "java/lang/Throwable", name := "fillInStackTrace", desc := "(I)Ljava/lang/Throwable;" } : Jvm.MethodName) ({ cls := "java/lang/Throwable", name := "fillInStackTrace", desc := "(I)Ljava/lang/Throwable;" } : Jvm.MethodName)) ∈ lw_all := lw_g (lw_at lw_m4 15 rfl) rfl
theorem q843 : (Jvm.Cond.selects "java/lang/IllegalStateException" ({ cls := "java/lang/Throwable", name := "fillInStackTrace", desc := "()Ljava/lang/Throwable;" } : Jvm.MethodName) ({ cls := "java/lang/Throwable", name := "fillInStackTrace", desc := "()Ljava/lang/Throwable;" } : Jvm.MethodName)) ∈ lw_all := lw_g (lw_at lw_m4 16 rfl) rfl
theorem q844 : (Jvm.Cond.lays "java/lang/IllegalStateException" "java/lang/Throwable" "cause" "Ljava/lang/Throwable;") ∈ lw_all := lw_g (lw_at lw_m4 17 rfl) rfl
theorem q846 : (Jvm.Cond.lays "java/lang/IllegalStateException" "java/lang/Throwable" "stackTrace" "[Ljava/lang/StackTraceElement;") ∈ lw_all := lw_g (lw_at lw_m4 19 rfl) rfl
theorem q848 : (Jvm.Cond.lays "java/lang/IllegalStateException" "java/lang/Throwable" "suppressedExceptions" "Ljava/util/List;") ∈ lw_all := lw_g (lw_at lw_m4 21 rfl) rfl
theorem q850 : (Jvm.Cond.lays "java/lang/IllegalStateException" "java/lang/Throwable" "detailMessage" "Ljava/lang/String;") ∈ lw_all := lw_g (lw_at lw_m4 23 rfl) rfl
theorem q852 : (Jvm.Cond.lays "java/lang/IllegalStateException" "java/lang/Throwable" "backtrace" "Ljava/lang/Object;") ∈ lw_all := lw_g (lw_at lw_m4 25 rfl) rfl
theorem q875 : (Jvm.Cond.instanceMethod ({ cls := "java/lang/IllegalStateException", name := "<init>", desc := "()V" } : Jvm.MethodName)) ∈ lw_all := lw_g (lw_at lw_m4 48 rfl) rfl
theorem q876 : (Jvm.Cond.code ({ cls := "java/lang/IllegalStateException", name := "<init>", desc := "()V" } : Jvm.MethodName) prog_20_method_1_code (1 : Nat) (Option.none : Option Jvm.ClassFile.FieldType)) ∈ lw_all := lw_g (lw_at lw_m4 49 rfl) rfl
theorem q877 : (Jvm.Cond.methodLink "java/lang/IllegalStateException" (1 : Nat) ({ cls := "java/lang/RuntimeException", name := "<init>", desc := "()V" } : Jvm.MethodName)) ∈ lw_all := lw_g (lw_at lw_m4 50 rfl) rfl
theorem q893 : (Jvm.Cond.lays "java/lang/IllegalStateException" "java/lang/Throwable" "depth" "I") ∈ lw_all := lw_g (lw_at lw_m4 66 rfl) rfl
theorem q896 : (Jvm.Cond.superclass "java/lang/IllegalStateException" "java/lang/RuntimeException") ∈ lw_all := lw_g (lw_at lw_m4 69 rfl) rfl
theorem q1757 : (Jvm.Cond.castable "java/lang/IllegalStateException" "java/lang/Object") ∈ lw_tbl := lw_at lw_m7 210 rfl
theorem in_J11 : ∀ w ∈ wsJ110, w ∈ lw_all := lw_in wsJ110 [844, 846, 848, 850, 852, 893] (by decide +kernel) (by decide +kernel)
/-! java/util/NoSuchElementException -/
set_option maxRecDepth 100000
def RJ12 : String := "java/util/NoSuchElementException"
def TJ12 : u_T := fun k => match k with
  | 0 => ("java/lang/Throwable", "cause", "Ljava/lang/Throwable;", false)
  | 1 => ("java/lang/Throwable", "stackTrace", "[Ljava/lang/StackTraceElement;", false)
  | 2 => ("java/lang/Throwable", "suppressedExceptions", "Ljava/util/List;", false)
  | 3 => ("java/lang/Throwable", "detailMessage", "Ljava/lang/String;", false)
  | 4 => ("java/lang/Throwable", "backtrace", "Ljava/lang/Object;", false)
  | _ => ("java/lang/Throwable", "depth", "I", false)
def tyJ12 : Nat → FieldType := fun k => match k with
  | 0 => .object "java/lang/Throwable"
  | 1 => .array (.object "java/lang/StackTraceElement")
  | 2 => .object "java/util/List"
  | 3 => .object "java/lang/String"
  | 4 => .object "java/lang/Object"
  | _ => .int
abbrev wsJ120 : List Cond := u_ws RJ12 TJ12 6
theorem nmJ12 : ∀ a, a < 6 → ∀ b, b < 6 → a ≠ b → (TJ12 a).2.1 ≠ (TJ12 b).2.1 := by decide +kernel
theorem tyJ12_ok : ∀ k, k < 6 → parseFieldDescriptor (TJ12 k).2.2.1 = some (tyJ12 k) := by decide +kernel
abbrev cJ12_init : ByteArray := prog_32_method_1_code
def yJ12_init : MethodName := ⟨RJ12, "<init>", "()V"⟩
theorem dJ12_init_0 : decode cJ12_init 0 = .ok (.aload_n 0, 1) := by decide +kernel
theorem dJ12_init_1 : decode cJ12_init 1 = .ok (.invokespecial 1, 3) := by decide +kernel
theorem dJ12_init_4 : decode cJ12_init 4 = .ok (.return_, 1) := by decide +kernel
theorem q135 : (Jvm.Cond.initialized "java/util/NoSuchElementException") ∈ lw_all := lw_g (lw_at lw_m1 28 rfl) rfl
theorem q417 : (Jvm.Cond.selects "java/util/NoSuchElementException" ({ cls := "java/lang/Object", name := "getClass", desc := "()Ljava/lang/Class;" } : Jvm.MethodName) ({ cls := "java/lang/Object", name := "getClass", desc := "()Ljava/lang/Class;" } : Jvm.MethodName)) ∈ lw_all := lw_g (lw_at lw_m2 70 rfl) rfl
theorem q867 : (Jvm.Cond.selects "java/util/NoSuchElementException" ({ cls := "java/lang/Throwable", name := "fillInStackTrace", desc := "()Ljava/lang/Throwable;" } : Jvm.MethodName) ({ cls := "java/lang/Throwable", name := "fillInStackTrace", desc := "()Ljava/lang/Throwable;" } : Jvm.MethodName)) ∈ lw_all := lw_g (lw_at lw_m4 40 rfl) rfl
theorem q1176 : (Jvm.Cond.instantiable "java/util/NoSuchElementException" (6 : Nat)) ∈ lw_all := lw_g (lw_at lw_m5 109 rfl) rfl
theorem q1177 : (Jvm.Cond.castable "java/util/NoSuchElementException" "java/util/NoSuchElementException") ∈ lw_tbl := lw_at lw_m5 110 rfl
theorem q1178 : (Jvm.Cond.selects "java/util/NoSuchElementException" ({ cls := "java/lang/Throwable", name := "fillInStackTrace", desc := "(I)Ljava/lang/Throwable;" } : Jvm.MethodName) ({ cls := "java/lang/Throwable", name := "fillInStackTrace", desc := "(I)Ljava/lang/Throwable;" } : Jvm.MethodName)) ∈ lw_all := lw_g (lw_at lw_m5 111 rfl) rfl
theorem q1179 : (Jvm.Cond.lays "java/util/NoSuchElementException" "java/lang/Throwable" "cause" "Ljava/lang/Throwable;") ∈ lw_all := lw_g (lw_at lw_m5 112 rfl) rfl
theorem q1180 : (Jvm.Cond.lays "java/util/NoSuchElementException" "java/lang/Throwable" "stackTrace" "[Ljava/lang/StackTraceElement;") ∈ lw_all := lw_g (lw_at lw_m5 113 rfl) rfl
theorem q1181 : (Jvm.Cond.lays "java/util/NoSuchElementException" "java/lang/Throwable" "suppressedExceptions" "Ljava/util/List;") ∈ lw_all := lw_g (lw_at lw_m5 114 rfl) rfl
theorem q1182 : (Jvm.Cond.lays "java/util/NoSuchElementException" "java/lang/Throwable" "detailMessage" "Ljava/lang/String;") ∈ lw_all := lw_g (lw_at lw_m5 115 rfl) rfl
theorem q1183 : (Jvm.Cond.lays "java/util/NoSuchElementException" "java/lang/Throwable" "backtrace" "Ljava/lang/Object;") ∈ lw_all := lw_g (lw_at lw_m5 116 rfl) rfl
theorem q1185 : (Jvm.Cond.instanceMethod ({ cls := "java/util/NoSuchElementException", name := "<init>", desc := "()V" } : Jvm.MethodName)) ∈ lw_all := lw_g (lw_at lw_m5 118 rfl) rfl
theorem q1186 : (Jvm.Cond.code ({ cls := "java/util/NoSuchElementException", name := "<init>", desc := "()V" } : Jvm.MethodName) prog_32_method_1_code (1 : Nat) (Option.none : Option Jvm.ClassFile.FieldType)) ∈ lw_all := lw_g (lw_at lw_m5 119 rfl) rfl
theorem q1187 : (Jvm.Cond.methodLink "java/util/NoSuchElementException" (1 : Nat) ({ cls := "java/lang/RuntimeException", name := "<init>", desc := "()V" } : Jvm.MethodName)) ∈ lw_all := lw_g (lw_at lw_m5 120 rfl) rfl
theorem q1188 : (Jvm.Cond.lays "java/util/NoSuchElementException" "java/lang/Throwable" "depth" "I") ∈ lw_all := lw_g (lw_at lw_m5 121 rfl) rfl
theorem q1189 : (Jvm.Cond.superclass "java/util/NoSuchElementException" "java/lang/RuntimeException") ∈ lw_all := lw_g (lw_at lw_m5 122 rfl) rfl
theorem q1758 : (Jvm.Cond.castable "java/util/NoSuchElementException" "java/lang/Object") ∈ lw_tbl := lw_at lw_m7 211 rfl
theorem in_J12 : ∀ w ∈ wsJ120, w ∈ lw_all := lw_in wsJ120 [1179, 1180, 1181, 1182, 1183, 1188] (by decide +kernel) (by decide +kernel)
/-! java/lang/Object -/
set_option maxRecDepth 100000
def RJ13 : String := "java/lang/Object"
abbrev cJ13_init : ByteArray := object_method_1_code
def yJ13_init : MethodName := ⟨RJ13, "<init>", "()V"⟩
theorem dJ13_init_0 : decode cJ13_init 0 = .ok (.return_, 1) := by decide +kernel
theorem q143 : (Jvm.Cond.instanceMethod ({ cls := "java/lang/Object", name := "<init>", desc := "()V" } : Jvm.MethodName)) ∈ lw_all := lw_g (lw_at lw_m1 36 rfl) rfl
theorem q144 : (Jvm.Cond.code ({ cls := "java/lang/Object", name := "<init>", desc := "()V" } : Jvm.MethodName) object_method_1_code (1 : Nat) (Option.none : Option Jvm.ClassFile.FieldType)) ∈ lw_all := lw_g (lw_at lw_m1 37 rfl) rfl
theorem q400 : (Jvm.Cond.instanceMethod ({ cls := "java/lang/Object", name := "getClass", desc := "()Ljava/lang/Class;" } : Jvm.MethodName)) ∈ lw_all := lw_g (lw_at lw_m2 53 rfl) rfl
theorem q401 : (Jvm.Cond.sameMethod "java/lang/Object" "java/lang/Object" "getClass" "()Ljava/lang/Class;") ∈ lw_all := lw_g (lw_at lw_m2 54 rfl) rfl
theorem q418 : (Jvm.Cond.native ({ cls := "java/lang/Object", name := "getClass", desc := "()Ljava/lang/Class;" } : Jvm.MethodName)) ∈ lw_all := lw_g (lw_at lw_m2 71 rfl) rfl
theorem q1739 : (Jvm.Cond.initialized "java/lang/Object") ∈ lw_all := lw_g (lw_at lw_m7 192 rfl) rfl
theorem q1763 : (Jvm.Cond.declares ({ cls := "java/lang/Object", name := "getClass", desc := "()Ljava/lang/Class;" } : Jvm.MethodName)) ∈ lw_tbl := lw_at lw_m7 216 rfl
/-! java/util/ArrayList -/
set_option maxRecDepth 100000
def RJ2 : String := "java/util/ArrayList"
def TJ2 : u_T := fun k => match k with
  | 0 => ("java/util/AbstractList", "modCount", "I", false)
  | 1 => ("java/util/ArrayList", "elementData", "[Ljava/lang/Object;", false)
  | _ => ("java/util/ArrayList", "size", "I", false)
def tyJ2 : Nat → FieldType := fun k => match k with
  | 0 => .int
  | 1 => .array (.object "java/lang/Object")
  | _ => .int
abbrev wsJ20 : List Cond := u_ws RJ2 TJ2 3
theorem nmJ2 : ∀ a, a < 3 → ∀ b, b < 3 → a ≠ b → (TJ2 a).2.1 ≠ (TJ2 b).2.1 := by decide +kernel
theorem tyJ2_ok : ∀ k, k < 3 → parseFieldDescriptor (TJ2 k).2.2.1 = some (tyJ2 k) := by decide +kernel
abbrev cJ2_init : ByteArray := prog_28_method_1_code
def yJ2_init : MethodName := ⟨RJ2, "<init>", "(I)V"⟩
def dkwJ2_init_2 : List UInt8 := [182, 0, 25, 27, 182, 0, 29, 182, 0, 32, 183, 0, 36, 191, 177]
abbrev dktJ2_init_2 : List UInt8 := dkwJ2_init_2 ++ []
def dkwJ2_init_1 : List UInt8 := [178, 0, 15, 181, 0, 9, 167, 0, 30, 187, 0, 18, 89, 187, 0, 20, 89, 183, 0, 22, 18, 23]
abbrev dktJ2_init_1 : List UInt8 := dkwJ2_init_1 ++ dktJ2_init_2
def dkwJ2_init_0 : List UInt8 := [42, 183, 0, 1, 27, 158, 0, 14, 42, 27, 189, 0, 7, 181, 0, 9, 167, 0, 44, 27, 154, 0, 13, 42]
abbrev dktJ2_init_0 : List UInt8 := dkwJ2_init_0 ++ dktJ2_init_1
theorem dksJ2_init_0 : cJ2_init.data.toList.drop 0 = dktJ2_init_0 := by decide +kernel
theorem dksJ2_init_1 : cJ2_init.data.toList.drop 24 = dktJ2_init_1 := dk_seg dksJ2_init_0 24 rfl rfl
theorem dksJ2_init_2 : cJ2_init.data.toList.drop 46 = dktJ2_init_2 := dk_seg dksJ2_init_1 22 rfl rfl
theorem dJ2_init_0 : decode cJ2_init 0 = .ok (.aload_n 0, 1) := dk_42 (dk_at dksJ2_init_0 0 rfl rfl)
theorem dJ2_init_1 : decode cJ2_init 1 = .ok (.invokespecial 1, 3) := dk_183 0 1 (dk_at dksJ2_init_0 1 rfl rfl)
theorem dJ2_init_4 : decode cJ2_init 4 = .ok (.iload_n 1, 1) := dk_27 (dk_at dksJ2_init_0 4 rfl rfl)
theorem dJ2_init_5 : decode cJ2_init 5 = .ok (.ifCond .le 14, 3) := dk_158 0 14 (dk_at dksJ2_init_0 5 rfl rfl)
theorem dJ2_init_8 : decode cJ2_init 8 = .ok (.aload_n 0, 1) := dk_42 (dk_at dksJ2_init_0 8 rfl rfl)
theorem dJ2_init_9 : decode cJ2_init 9 = .ok (.iload_n 1, 1) := dk_27 (dk_at dksJ2_init_0 9 rfl rfl)
theorem dJ2_init_10 : decode cJ2_init 10 = .ok (.anewarray 7, 3) := dk_189 0 7 (dk_at dksJ2_init_0 10 rfl rfl)
theorem dJ2_init_13 : decode cJ2_init 13 = .ok (.putfield 9, 3) := dk_181 0 9 (dk_at dksJ2_init_0 13 rfl rfl)
theorem dJ2_init_16 : decode cJ2_init 16 = .ok (.goto 44, 3) := dk_167 0 44 (dk_at dksJ2_init_0 16 rfl rfl)
theorem dJ2_init_19 : decode cJ2_init 19 = .ok (.iload_n 1, 1) := dk_27 (dk_at dksJ2_init_0 19 rfl rfl)
theorem dJ2_init_20 : decode cJ2_init 20 = .ok (.ifCond .ne 13, 3) := dk_154 0 13 (dk_at dksJ2_init_0 20 rfl rfl)
theorem dJ2_init_23 : decode cJ2_init 23 = .ok (.aload_n 0, 1) := dk_42 (dk_at dksJ2_init_0 23 rfl rfl)
theorem dJ2_init_24 : decode cJ2_init 24 = .ok (.getstatic 15, 3) := dk_178 0 15 (dk_at dksJ2_init_1 0 rfl rfl)
theorem dJ2_init_27 : decode cJ2_init 27 = .ok (.putfield 9, 3) := dk_181 0 9 (dk_at dksJ2_init_1 3 rfl rfl)
theorem dJ2_init_30 : decode cJ2_init 30 = .ok (.goto 30, 3) := dk_167 0 30 (dk_at dksJ2_init_1 6 rfl rfl)
theorem dJ2_init_33 : decode cJ2_init 33 = .ok (.new 18, 3) := dk_187 0 18 (dk_at dksJ2_init_1 9 rfl rfl)
theorem dJ2_init_36 : decode cJ2_init 36 = .ok (.dup, 1) := dk_89 (dk_at dksJ2_init_1 12 rfl rfl)
theorem dJ2_init_37 : decode cJ2_init 37 = .ok (.new 20, 3) := dk_187 0 20 (dk_at dksJ2_init_1 13 rfl rfl)
theorem dJ2_init_40 : decode cJ2_init 40 = .ok (.dup, 1) := dk_89 (dk_at dksJ2_init_1 16 rfl rfl)
theorem dJ2_init_41 : decode cJ2_init 41 = .ok (.invokespecial 22, 3) := dk_183 0 22 (dk_at dksJ2_init_1 17 rfl rfl)
theorem dJ2_init_44 : decode cJ2_init 44 = .ok (.ldc 23, 2) := dk_18 23 (dk_at dksJ2_init_1 20 rfl rfl)
theorem dJ2_init_46 : decode cJ2_init 46 = .ok (.invokevirtual 25, 3) := dk_182 0 25 (dk_at dksJ2_init_2 0 rfl rfl)
theorem dJ2_init_49 : decode cJ2_init 49 = .ok (.iload_n 1, 1) := dk_27 (dk_at dksJ2_init_2 3 rfl rfl)
theorem dJ2_init_50 : decode cJ2_init 50 = .ok (.invokevirtual 29, 3) := dk_182 0 29 (dk_at dksJ2_init_2 4 rfl rfl)
theorem dJ2_init_53 : decode cJ2_init 53 = .ok (.invokevirtual 32, 3) := dk_182 0 32 (dk_at dksJ2_init_2 7 rfl rfl)
theorem dJ2_init_56 : decode cJ2_init 56 = .ok (.invokespecial 36, 3) := dk_183 0 36 (dk_at dksJ2_init_2 10 rfl rfl)
theorem dJ2_init_59 : decode cJ2_init 59 = .ok (.athrow, 1) := dk_191 (dk_at dksJ2_init_2 13 rfl rfl)
theorem dJ2_init_60 : decode cJ2_init 60 = .ok (.return_, 1) := dk_177 (dk_at dksJ2_init_2 14 rfl rfl)
abbrev cJ2_init_2 : ByteArray := prog_28_method_2_code
def yJ2_init_2 : MethodName := ⟨RJ2, "<init>", "()V"⟩
def dkwJ2_init_2_0 : List UInt8 := [42, 183, 0, 1, 42, 178, 0, 39, 181, 0, 9, 177]
abbrev dktJ2_init_2_0 : List UInt8 := dkwJ2_init_2_0 ++ []
theorem dksJ2_init_2_0 : cJ2_init_2.data.toList.drop 0 = dktJ2_init_2_0 := by decide +kernel
theorem dJ2_init_2_0 : decode cJ2_init_2 0 = .ok (.aload_n 0, 1) := dk_42 (dk_at dksJ2_init_2_0 0 rfl rfl)
theorem dJ2_init_2_1 : decode cJ2_init_2 1 = .ok (.invokespecial 1, 3) := dk_183 0 1 (dk_at dksJ2_init_2_0 1 rfl rfl)
theorem dJ2_init_2_4 : decode cJ2_init_2 4 = .ok (.aload_n 0, 1) := dk_42 (dk_at dksJ2_init_2_0 4 rfl rfl)
theorem dJ2_init_2_5 : decode cJ2_init_2 5 = .ok (.getstatic 39, 3) := dk_178 0 39 (dk_at dksJ2_init_2_0 5 rfl rfl)
theorem dJ2_init_2_8 : decode cJ2_init_2 8 = .ok (.putfield 9, 3) := dk_181 0 9 (dk_at dksJ2_init_2_0 8 rfl rfl)
theorem dJ2_init_2_11 : decode cJ2_init_2 11 = .ok (.return_, 1) := dk_177 (dk_at dksJ2_init_2_0 11 rfl rfl)
abbrev cJ2_add : ByteArray := prog_28_method_25_code
def yJ2_add : MethodName := ⟨RJ2, "add", "(Ljava/lang/Object;)Z"⟩
def dkwJ2_add_1 : List UInt8 := [172]
abbrev dktJ2_add_1 : List UInt8 := dkwJ2_add_1 ++ []
def dkwJ2_add_0 : List UInt8 := [42, 89, 180, 0, 63, 4, 96, 181, 0, 63, 42, 43, 42, 180, 0, 9, 42, 180, 0, 48, 182, 0, 131, 4]
abbrev dktJ2_add_0 : List UInt8 := dkwJ2_add_0 ++ dktJ2_add_1
theorem dksJ2_add_0 : cJ2_add.data.toList.drop 0 = dktJ2_add_0 := by decide +kernel
theorem dksJ2_add_1 : cJ2_add.data.toList.drop 24 = dktJ2_add_1 := dk_seg dksJ2_add_0 24 rfl rfl
theorem dJ2_add_0 : decode cJ2_add 0 = .ok (.aload_n 0, 1) := dk_42 (dk_at dksJ2_add_0 0 rfl rfl)
theorem dJ2_add_1 : decode cJ2_add 1 = .ok (.dup, 1) := dk_89 (dk_at dksJ2_add_0 1 rfl rfl)
theorem dJ2_add_2 : decode cJ2_add 2 = .ok (.getfield 63, 3) := dk_180 0 63 (dk_at dksJ2_add_0 2 rfl rfl)
theorem dJ2_add_5 : decode cJ2_add 5 = .ok (.iconst 1, 1) := dk_4 (dk_at dksJ2_add_0 5 rfl rfl)
theorem dJ2_add_6 : decode cJ2_add 6 = .ok (.iadd, 1) := dk_96 (dk_at dksJ2_add_0 6 rfl rfl)
theorem dJ2_add_7 : decode cJ2_add 7 = .ok (.putfield 63, 3) := dk_181 0 63 (dk_at dksJ2_add_0 7 rfl rfl)
theorem dJ2_add_10 : decode cJ2_add 10 = .ok (.aload_n 0, 1) := dk_42 (dk_at dksJ2_add_0 10 rfl rfl)
theorem dJ2_add_11 : decode cJ2_add 11 = .ok (.aload_n 1, 1) := dk_43 (dk_at dksJ2_add_0 11 rfl rfl)
theorem dJ2_add_12 : decode cJ2_add 12 = .ok (.aload_n 0, 1) := dk_42 (dk_at dksJ2_add_0 12 rfl rfl)
theorem dJ2_add_13 : decode cJ2_add 13 = .ok (.getfield 9, 3) := dk_180 0 9 (dk_at dksJ2_add_0 13 rfl rfl)
theorem dJ2_add_16 : decode cJ2_add 16 = .ok (.aload_n 0, 1) := dk_42 (dk_at dksJ2_add_0 16 rfl rfl)
theorem dJ2_add_17 : decode cJ2_add 17 = .ok (.getfield 48, 3) := dk_180 0 48 (dk_at dksJ2_add_0 17 rfl rfl)
theorem dJ2_add_20 : decode cJ2_add 20 = .ok (.invokevirtual 131, 3) := dk_182 0 131 (dk_at dksJ2_add_0 20 rfl rfl)
theorem dJ2_add_23 : decode cJ2_add 23 = .ok (.iconst 1, 1) := dk_4 (dk_at dksJ2_add_0 23 rfl rfl)
theorem dJ2_add_24 : decode cJ2_add 24 = .ok (.ireturn, 1) := dk_172 (dk_at dksJ2_add_1 0 rfl rfl)
abbrev cJ2_add_2 : ByteArray := prog_28_method_24_code
def yJ2_add_2 : MethodName := ⟨RJ2, "add", "(Ljava/lang/Object;[Ljava/lang/Object;I)V"⟩
def dkwJ2_add_2_0 : List UInt8 := [29, 44, 190, 160, 0, 8, 42, 182, 0, 129, 77, 44, 29, 43, 83, 42, 29, 4, 96, 181, 0, 48, 177]
abbrev dktJ2_add_2_0 : List UInt8 := dkwJ2_add_2_0 ++ []
theorem dksJ2_add_2_0 : cJ2_add_2.data.toList.drop 0 = dktJ2_add_2_0 := by decide +kernel
theorem dJ2_add_2_0 : decode cJ2_add_2 0 = .ok (.iload_n 3, 1) := dk_29 (dk_at dksJ2_add_2_0 0 rfl rfl)
theorem dJ2_add_2_1 : decode cJ2_add_2 1 = .ok (.aload_n 2, 1) := dk_44 (dk_at dksJ2_add_2_0 1 rfl rfl)
theorem dJ2_add_2_2 : decode cJ2_add_2 2 = .ok (.arraylength, 1) := dk_190 (dk_at dksJ2_add_2_0 2 rfl rfl)
theorem dJ2_add_2_3 : decode cJ2_add_2 3 = .ok (.if_icmp .ne 8, 3) := dk_160 0 8 (dk_at dksJ2_add_2_0 3 rfl rfl)
theorem dJ2_add_2_6 : decode cJ2_add_2 6 = .ok (.aload_n 0, 1) := dk_42 (dk_at dksJ2_add_2_0 6 rfl rfl)
theorem dJ2_add_2_7 : decode cJ2_add_2 7 = .ok (.invokevirtual 129, 3) := dk_182 0 129 (dk_at dksJ2_add_2_0 7 rfl rfl)
theorem dJ2_add_2_10 : decode cJ2_add_2 10 = .ok (.astore_n 2, 1) := dk_77 (dk_at dksJ2_add_2_0 10 rfl rfl)
theorem dJ2_add_2_11 : decode cJ2_add_2 11 = .ok (.aload_n 2, 1) := dk_44 (dk_at dksJ2_add_2_0 11 rfl rfl)
theorem dJ2_add_2_12 : decode cJ2_add_2 12 = .ok (.iload_n 3, 1) := dk_29 (dk_at dksJ2_add_2_0 12 rfl rfl)
theorem dJ2_add_2_13 : decode cJ2_add_2 13 = .ok (.aload_n 1, 1) := dk_43 (dk_at dksJ2_add_2_0 13 rfl rfl)
theorem dJ2_add_2_14 : decode cJ2_add_2 14 = .ok (.aastore, 1) := dk_83 (dk_at dksJ2_add_2_0 14 rfl rfl)
theorem dJ2_add_2_15 : decode cJ2_add_2 15 = .ok (.aload_n 0, 1) := dk_42 (dk_at dksJ2_add_2_0 15 rfl rfl)
theorem dJ2_add_2_16 : decode cJ2_add_2 16 = .ok (.iload_n 3, 1) := dk_29 (dk_at dksJ2_add_2_0 16 rfl rfl)
theorem dJ2_add_2_17 : decode cJ2_add_2 17 = .ok (.iconst 1, 1) := dk_4 (dk_at dksJ2_add_2_0 17 rfl rfl)
theorem dJ2_add_2_18 : decode cJ2_add_2 18 = .ok (.iadd, 1) := dk_96 (dk_at dksJ2_add_2_0 18 rfl rfl)
theorem dJ2_add_2_19 : decode cJ2_add_2 19 = .ok (.putfield 48, 3) := dk_181 0 48 (dk_at dksJ2_add_2_0 19 rfl rfl)
theorem dJ2_add_2_22 : decode cJ2_add_2 22 = .ok (.return_, 1) := dk_177 (dk_at dksJ2_add_2_0 22 rfl rfl)
abbrev cJ2_grow : ByteArray := prog_28_method_7_code
def yJ2_grow : MethodName := ⟨RJ2, "grow", "()[Ljava/lang/Object;"⟩
def dkwJ2_grow_0 : List UInt8 := [42, 42, 180, 0, 48, 4, 96, 182, 0, 69, 176]
abbrev dktJ2_grow_0 : List UInt8 := dkwJ2_grow_0 ++ []
theorem dksJ2_grow_0 : cJ2_grow.data.toList.drop 0 = dktJ2_grow_0 := by decide +kernel
theorem dJ2_grow_0 : decode cJ2_grow 0 = .ok (.aload_n 0, 1) := dk_42 (dk_at dksJ2_grow_0 0 rfl rfl)
theorem dJ2_grow_1 : decode cJ2_grow 1 = .ok (.aload_n 0, 1) := dk_42 (dk_at dksJ2_grow_0 1 rfl rfl)
theorem dJ2_grow_2 : decode cJ2_grow 2 = .ok (.getfield 48, 3) := dk_180 0 48 (dk_at dksJ2_grow_0 2 rfl rfl)
theorem dJ2_grow_5 : decode cJ2_grow 5 = .ok (.iconst 1, 1) := dk_4 (dk_at dksJ2_grow_0 5 rfl rfl)
theorem dJ2_grow_6 : decode cJ2_grow 6 = .ok (.iadd, 1) := dk_96 (dk_at dksJ2_grow_0 6 rfl rfl)
theorem dJ2_grow_7 : decode cJ2_grow 7 = .ok (.invokevirtual 69, 3) := dk_182 0 69 (dk_at dksJ2_grow_0 7 rfl rfl)
theorem dJ2_grow_10 : decode cJ2_grow 10 = .ok (.areturn, 1) := dk_176 (dk_at dksJ2_grow_0 10 rfl rfl)
abbrev cJ2_grow_2 : ByteArray := prog_28_method_6_code
def yJ2_grow_2 : MethodName := ⟨RJ2, "grow", "(I)[Ljava/lang/Object;"⟩
def dkwJ2_grow_2_2 : List UInt8 := [27, 184, 0, 79, 189, 0, 7, 90, 181, 0, 9, 176]
abbrev dktJ2_grow_2_2 : List UInt8 := dkwJ2_grow_2_2 ++ []
def dkwJ2_grow_2_1 : List UInt8 := [28, 4, 122, 184, 0, 73, 62, 42, 42, 180, 0, 9, 29, 184, 0, 66, 90, 181, 0, 9, 176, 42, 16, 10]
abbrev dktJ2_grow_2_1 : List UInt8 := dkwJ2_grow_2_1 ++ dktJ2_grow_2_2
def dkwJ2_grow_2_0 : List UInt8 := [42, 180, 0, 9, 190, 61, 28, 157, 0, 13, 42, 180, 0, 9, 178, 0, 39, 165, 0, 28, 28, 27, 28, 100]
abbrev dktJ2_grow_2_0 : List UInt8 := dkwJ2_grow_2_0 ++ dktJ2_grow_2_1
theorem dksJ2_grow_2_0 : cJ2_grow_2.data.toList.drop 0 = dktJ2_grow_2_0 := by decide +kernel
theorem dksJ2_grow_2_1 : cJ2_grow_2.data.toList.drop 24 = dktJ2_grow_2_1 := dk_seg dksJ2_grow_2_0 24 rfl rfl
theorem dksJ2_grow_2_2 : cJ2_grow_2.data.toList.drop 48 = dktJ2_grow_2_2 := dk_seg dksJ2_grow_2_1 24 rfl rfl
theorem dJ2_grow_2_0 : decode cJ2_grow_2 0 = .ok (.aload_n 0, 1) := dk_42 (dk_at dksJ2_grow_2_0 0 rfl rfl)
theorem dJ2_grow_2_1 : decode cJ2_grow_2 1 = .ok (.getfield 9, 3) := dk_180 0 9 (dk_at dksJ2_grow_2_0 1 rfl rfl)
theorem dJ2_grow_2_4 : decode cJ2_grow_2 4 = .ok (.arraylength, 1) := dk_190 (dk_at dksJ2_grow_2_0 4 rfl rfl)
theorem dJ2_grow_2_5 : decode cJ2_grow_2 5 = .ok (.istore_n 2, 1) := dk_61 (dk_at dksJ2_grow_2_0 5 rfl rfl)
theorem dJ2_grow_2_6 : decode cJ2_grow_2 6 = .ok (.iload_n 2, 1) := dk_28 (dk_at dksJ2_grow_2_0 6 rfl rfl)
theorem dJ2_grow_2_7 : decode cJ2_grow_2 7 = .ok (.ifCond .gt 13, 3) := dk_157 0 13 (dk_at dksJ2_grow_2_0 7 rfl rfl)
theorem dJ2_grow_2_10 : decode cJ2_grow_2 10 = .ok (.aload_n 0, 1) := dk_42 (dk_at dksJ2_grow_2_0 10 rfl rfl)
theorem dJ2_grow_2_11 : decode cJ2_grow_2 11 = .ok (.getfield 9, 3) := dk_180 0 9 (dk_at dksJ2_grow_2_0 11 rfl rfl)
theorem dJ2_grow_2_14 : decode cJ2_grow_2 14 = .ok (.getstatic 39, 3) := dk_178 0 39 (dk_at dksJ2_grow_2_0 14 rfl rfl)
theorem dJ2_grow_2_17 : decode cJ2_grow_2 17 = .ok (.if_acmp .eq 28, 3) := dk_165 0 28 (dk_at dksJ2_grow_2_0 17 rfl rfl)
theorem dJ2_grow_2_20 : decode cJ2_grow_2 20 = .ok (.iload_n 2, 1) := dk_28 (dk_at dksJ2_grow_2_0 20 rfl rfl)
theorem dJ2_grow_2_21 : decode cJ2_grow_2 21 = .ok (.iload_n 1, 1) := dk_27 (dk_at dksJ2_grow_2_0 21 rfl rfl)
theorem dJ2_grow_2_22 : decode cJ2_grow_2 22 = .ok (.iload_n 2, 1) := dk_28 (dk_at dksJ2_grow_2_0 22 rfl rfl)
theorem dJ2_grow_2_23 : decode cJ2_grow_2 23 = .ok (.isub, 1) := dk_100 (dk_at dksJ2_grow_2_0 23 rfl rfl)
theorem dJ2_grow_2_24 : decode cJ2_grow_2 24 = .ok (.iload_n 2, 1) := dk_28 (dk_at dksJ2_grow_2_1 0 rfl rfl)
theorem dJ2_grow_2_25 : decode cJ2_grow_2 25 = .ok (.iconst 1, 1) := dk_4 (dk_at dksJ2_grow_2_1 1 rfl rfl)
theorem dJ2_grow_2_26 : decode cJ2_grow_2 26 = .ok (.ishr, 1) := dk_122 (dk_at dksJ2_grow_2_1 2 rfl rfl)
theorem dJ2_grow_2_27 : decode cJ2_grow_2 27 = .ok (.invokestatic 73, 3) := dk_184 0 73 (dk_at dksJ2_grow_2_1 3 rfl rfl)
theorem dJ2_grow_2_30 : decode cJ2_grow_2 30 = .ok (.istore_n 3, 1) := dk_62 (dk_at dksJ2_grow_2_1 6 rfl rfl)
theorem dJ2_grow_2_31 : decode cJ2_grow_2 31 = .ok (.aload_n 0, 1) := dk_42 (dk_at dksJ2_grow_2_1 7 rfl rfl)
theorem dJ2_grow_2_32 : decode cJ2_grow_2 32 = .ok (.aload_n 0, 1) := dk_42 (dk_at dksJ2_grow_2_1 8 rfl rfl)
theorem dJ2_grow_2_33 : decode cJ2_grow_2 33 = .ok (.getfield 9, 3) := dk_180 0 9 (dk_at dksJ2_grow_2_1 9 rfl rfl)
theorem dJ2_grow_2_36 : decode cJ2_grow_2 36 = .ok (.iload_n 3, 1) := dk_29 (dk_at dksJ2_grow_2_1 12 rfl rfl)
theorem dJ2_grow_2_37 : decode cJ2_grow_2 37 = .ok (.invokestatic 66, 3) := dk_184 0 66 (dk_at dksJ2_grow_2_1 13 rfl rfl)
theorem dJ2_grow_2_40 : decode cJ2_grow_2 40 = .ok (.dup_x1, 1) := dk_90 (dk_at dksJ2_grow_2_1 16 rfl rfl)
theorem dJ2_grow_2_41 : decode cJ2_grow_2 41 = .ok (.putfield 9, 3) := dk_181 0 9 (dk_at dksJ2_grow_2_1 17 rfl rfl)
theorem dJ2_grow_2_44 : decode cJ2_grow_2 44 = .ok (.areturn, 1) := dk_176 (dk_at dksJ2_grow_2_1 20 rfl rfl)
theorem dJ2_grow_2_45 : decode cJ2_grow_2 45 = .ok (.aload_n 0, 1) := dk_42 (dk_at dksJ2_grow_2_1 21 rfl rfl)
theorem dJ2_grow_2_46 : decode cJ2_grow_2 46 = .ok (.bipush 10, 2) := dk_16 10 (dk_at dksJ2_grow_2_1 22 rfl rfl)
theorem dJ2_grow_2_48 : decode cJ2_grow_2 48 = .ok (.iload_n 1, 1) := dk_27 (dk_at dksJ2_grow_2_2 0 rfl rfl)
theorem dJ2_grow_2_49 : decode cJ2_grow_2 49 = .ok (.invokestatic 79, 3) := dk_184 0 79 (dk_at dksJ2_grow_2_2 1 rfl rfl)
theorem dJ2_grow_2_52 : decode cJ2_grow_2 52 = .ok (.anewarray 7, 3) := dk_189 0 7 (dk_at dksJ2_grow_2_2 4 rfl rfl)
theorem dJ2_grow_2_55 : decode cJ2_grow_2 55 = .ok (.dup_x1, 1) := dk_90 (dk_at dksJ2_grow_2_2 7 rfl rfl)
theorem dJ2_grow_2_56 : decode cJ2_grow_2 56 = .ok (.putfield 9, 3) := dk_181 0 9 (dk_at dksJ2_grow_2_2 8 rfl rfl)
theorem dJ2_grow_2_59 : decode cJ2_grow_2 59 = .ok (.areturn, 1) := dk_176 (dk_at dksJ2_grow_2_2 11 rfl rfl)
abbrev cJ2_size : ByteArray := prog_28_method_8_code
def yJ2_size : MethodName := ⟨RJ2, "size", "()I"⟩
theorem dJ2_size_0 : decode cJ2_size 0 = .ok (.aload_n 0, 1) := by decide +kernel
theorem dJ2_size_1 : decode cJ2_size 1 = .ok (.getfield 48, 3) := by decide +kernel
theorem dJ2_size_4 : decode cJ2_size 4 = .ok (.ireturn, 1) := by decide +kernel
abbrev cJ2_get : ByteArray := prog_28_method_20_code
def yJ2_get : MethodName := ⟨RJ2, "get", "(I)Ljava/lang/Object;"⟩
def dkwJ2_get_0 : List UInt8 := [27, 42, 180, 0, 48, 184, 0, 118, 87, 42, 27, 182, 0, 123, 176]
abbrev dktJ2_get_0 : List UInt8 := dkwJ2_get_0 ++ []
theorem dksJ2_get_0 : cJ2_get.data.toList.drop 0 = dktJ2_get_0 := by decide +kernel
theorem dJ2_get_0 : decode cJ2_get 0 = .ok (.iload_n 1, 1) := dk_27 (dk_at dksJ2_get_0 0 rfl rfl)
theorem dJ2_get_1 : decode cJ2_get 1 = .ok (.aload_n 0, 1) := dk_42 (dk_at dksJ2_get_0 1 rfl rfl)
theorem dJ2_get_2 : decode cJ2_get 2 = .ok (.getfield 48, 3) := dk_180 0 48 (dk_at dksJ2_get_0 2 rfl rfl)
theorem dJ2_get_5 : decode cJ2_get 5 = .ok (.invokestatic 118, 3) := dk_184 0 118 (dk_at dksJ2_get_0 5 rfl rfl)
theorem dJ2_get_8 : decode cJ2_get 8 = .ok (.pop, 1) := dk_87 (dk_at dksJ2_get_0 8 rfl rfl)
theorem dJ2_get_9 : decode cJ2_get 9 = .ok (.aload_n 0, 1) := dk_42 (dk_at dksJ2_get_0 9 rfl rfl)
theorem dJ2_get_10 : decode cJ2_get 10 = .ok (.iload_n 1, 1) := dk_27 (dk_at dksJ2_get_0 10 rfl rfl)
theorem dJ2_get_11 : decode cJ2_get 11 = .ok (.invokevirtual 123, 3) := dk_182 0 123 (dk_at dksJ2_get_0 11 rfl rfl)
theorem dJ2_get_14 : decode cJ2_get 14 = .ok (.areturn, 1) := dk_176 (dk_at dksJ2_get_0 14 rfl rfl)
abbrev cJ2_elementData : ByteArray := prog_28_method_18_code
def yJ2_elementData : MethodName := ⟨RJ2, "elementData", "(I)Ljava/lang/Object;"⟩
def dkwJ2_elementData_0 : List UInt8 := [42, 180, 0, 9, 27, 50, 176]
abbrev dktJ2_elementData_0 : List UInt8 := dkwJ2_elementData_0 ++ []
theorem dksJ2_elementData_0 : cJ2_elementData.data.toList.drop 0 = dktJ2_elementData_0 := by decide +kernel
theorem dJ2_elementData_0 : decode cJ2_elementData 0 = .ok (.aload_n 0, 1) := dk_42 (dk_at dksJ2_elementData_0 0 rfl rfl)
theorem dJ2_elementData_1 : decode cJ2_elementData 1 = .ok (.getfield 9, 3) := dk_180 0 9 (dk_at dksJ2_elementData_0 1 rfl rfl)
theorem dJ2_elementData_4 : decode cJ2_elementData 4 = .ok (.iload_n 1, 1) := dk_27 (dk_at dksJ2_elementData_0 4 rfl rfl)
theorem dJ2_elementData_5 : decode cJ2_elementData 5 = .ok (.aaload, 1) := dk_50 (dk_at dksJ2_elementData_0 5 rfl rfl)
theorem dJ2_elementData_6 : decode cJ2_elementData 6 = .ok (.areturn, 1) := dk_176 (dk_at dksJ2_elementData_0 6 rfl rfl)
abbrev cJ2_clear : ByteArray := prog_28_method_40_code
def yJ2_clear : MethodName := ⟨RJ2, "clear", "()V"⟩
def dkwJ2_clear_1 : List UInt8 := [181, 0, 48, 62, 29, 28, 162, 0, 13, 43, 29, 1, 83, 132, 3, 1, 167, 255, 244, 177]
abbrev dktJ2_clear_1 : List UInt8 := dkwJ2_clear_1 ++ []
def dkwJ2_clear_0 : List UInt8 := [42, 89, 180, 0, 63, 4, 96, 181, 0, 63, 42, 180, 0, 9, 76, 42, 180, 0, 48, 61, 42, 3, 90]
abbrev dktJ2_clear_0 : List UInt8 := dkwJ2_clear_0 ++ dktJ2_clear_1
theorem dksJ2_clear_0 : cJ2_clear.data.toList.drop 0 = dktJ2_clear_0 := by decide +kernel
theorem dksJ2_clear_1 : cJ2_clear.data.toList.drop 23 = dktJ2_clear_1 := dk_seg dksJ2_clear_0 23 rfl rfl
theorem dJ2_clear_0 : decode cJ2_clear 0 = .ok (.aload_n 0, 1) := dk_42 (dk_at dksJ2_clear_0 0 rfl rfl)
theorem dJ2_clear_1 : decode cJ2_clear 1 = .ok (.dup, 1) := dk_89 (dk_at dksJ2_clear_0 1 rfl rfl)
theorem dJ2_clear_2 : decode cJ2_clear 2 = .ok (.getfield 63, 3) := dk_180 0 63 (dk_at dksJ2_clear_0 2 rfl rfl)
theorem dJ2_clear_5 : decode cJ2_clear 5 = .ok (.iconst 1, 1) := dk_4 (dk_at dksJ2_clear_0 5 rfl rfl)
theorem dJ2_clear_6 : decode cJ2_clear 6 = .ok (.iadd, 1) := dk_96 (dk_at dksJ2_clear_0 6 rfl rfl)
theorem dJ2_clear_7 : decode cJ2_clear 7 = .ok (.putfield 63, 3) := dk_181 0 63 (dk_at dksJ2_clear_0 7 rfl rfl)
theorem dJ2_clear_10 : decode cJ2_clear 10 = .ok (.aload_n 0, 1) := dk_42 (dk_at dksJ2_clear_0 10 rfl rfl)
theorem dJ2_clear_11 : decode cJ2_clear 11 = .ok (.getfield 9, 3) := dk_180 0 9 (dk_at dksJ2_clear_0 11 rfl rfl)
theorem dJ2_clear_14 : decode cJ2_clear 14 = .ok (.astore_n 1, 1) := dk_76 (dk_at dksJ2_clear_0 14 rfl rfl)
theorem dJ2_clear_15 : decode cJ2_clear 15 = .ok (.aload_n 0, 1) := dk_42 (dk_at dksJ2_clear_0 15 rfl rfl)
theorem dJ2_clear_16 : decode cJ2_clear 16 = .ok (.getfield 48, 3) := dk_180 0 48 (dk_at dksJ2_clear_0 16 rfl rfl)
theorem dJ2_clear_19 : decode cJ2_clear 19 = .ok (.istore_n 2, 1) := dk_61 (dk_at dksJ2_clear_0 19 rfl rfl)
theorem dJ2_clear_20 : decode cJ2_clear 20 = .ok (.aload_n 0, 1) := dk_42 (dk_at dksJ2_clear_0 20 rfl rfl)
theorem dJ2_clear_21 : decode cJ2_clear 21 = .ok (.iconst 0, 1) := dk_3 (dk_at dksJ2_clear_0 21 rfl rfl)
theorem dJ2_clear_22 : decode cJ2_clear 22 = .ok (.dup_x1, 1) := dk_90 (dk_at dksJ2_clear_0 22 rfl rfl)
theorem dJ2_clear_23 : decode cJ2_clear 23 = .ok (.putfield 48, 3) := dk_181 0 48 (dk_at dksJ2_clear_1 0 rfl rfl)
theorem dJ2_clear_26 : decode cJ2_clear 26 = .ok (.istore_n 3, 1) := dk_62 (dk_at dksJ2_clear_1 3 rfl rfl)
theorem dJ2_clear_27 : decode cJ2_clear 27 = .ok (.iload_n 3, 1) := dk_29 (dk_at dksJ2_clear_1 4 rfl rfl)
theorem dJ2_clear_28 : decode cJ2_clear 28 = .ok (.iload_n 2, 1) := dk_28 (dk_at dksJ2_clear_1 5 rfl rfl)
theorem dJ2_clear_29 : decode cJ2_clear 29 = .ok (.if_icmp .ge 13, 3) := dk_162 0 13 (dk_at dksJ2_clear_1 6 rfl rfl)
theorem dJ2_clear_32 : decode cJ2_clear 32 = .ok (.aload_n 1, 1) := dk_43 (dk_at dksJ2_clear_1 9 rfl rfl)
theorem dJ2_clear_33 : decode cJ2_clear 33 = .ok (.iload_n 3, 1) := dk_29 (dk_at dksJ2_clear_1 10 rfl rfl)
theorem dJ2_clear_34 : decode cJ2_clear 34 = .ok (.aconst_null, 1) := dk_1 (dk_at dksJ2_clear_1 11 rfl rfl)
theorem dJ2_clear_35 : decode cJ2_clear 35 = .ok (.aastore, 1) := dk_83 (dk_at dksJ2_clear_1 12 rfl rfl)
theorem dJ2_clear_36 : decode cJ2_clear 36 = .ok (.iinc 3 1, 3) := dk_132 3 1 (dk_at dksJ2_clear_1 13 rfl rfl)
theorem dJ2_clear_39 : decode cJ2_clear 39 = .ok (.goto (-12), 3) := dk_167 255 244 (dk_at dksJ2_clear_1 16 rfl rfl)
theorem dJ2_clear_42 : decode cJ2_clear 42 = .ok (.return_, 1) := dk_177 (dk_at dksJ2_clear_1 19 rfl rfl)
abbrev cJ2_isEmpty : ByteArray := prog_28_method_9_code
def yJ2_isEmpty : MethodName := ⟨RJ2, "isEmpty", "()Z"⟩
def dkwJ2_isEmpty_0 : List UInt8 := [42, 180, 0, 48, 154, 0, 7, 4, 167, 0, 4, 3, 172]
abbrev dktJ2_isEmpty_0 : List UInt8 := dkwJ2_isEmpty_0 ++ []
theorem dksJ2_isEmpty_0 : cJ2_isEmpty.data.toList.drop 0 = dktJ2_isEmpty_0 := by decide +kernel
theorem dJ2_isEmpty_0 : decode cJ2_isEmpty 0 = .ok (.aload_n 0, 1) := dk_42 (dk_at dksJ2_isEmpty_0 0 rfl rfl)
theorem dJ2_isEmpty_1 : decode cJ2_isEmpty 1 = .ok (.getfield 48, 3) := dk_180 0 48 (dk_at dksJ2_isEmpty_0 1 rfl rfl)
theorem dJ2_isEmpty_4 : decode cJ2_isEmpty 4 = .ok (.ifCond .ne 7, 3) := dk_154 0 7 (dk_at dksJ2_isEmpty_0 4 rfl rfl)
theorem dJ2_isEmpty_7 : decode cJ2_isEmpty 7 = .ok (.iconst 1, 1) := dk_4 (dk_at dksJ2_isEmpty_0 7 rfl rfl)
theorem dJ2_isEmpty_8 : decode cJ2_isEmpty 8 = .ok (.goto 4, 3) := dk_167 0 4 (dk_at dksJ2_isEmpty_0 8 rfl rfl)
theorem dJ2_isEmpty_11 : decode cJ2_isEmpty 11 = .ok (.iconst 0, 1) := dk_3 (dk_at dksJ2_isEmpty_0 11 rfl rfl)
theorem dJ2_isEmpty_12 : decode cJ2_isEmpty 12 = .ok (.ireturn, 1) := dk_172 (dk_at dksJ2_isEmpty_0 12 rfl rfl)
theorem q114 : (Jvm.Cond.initialized "java/util/ArrayList") ∈ lw_all := lw_g (lw_at lw_m1 7 rfl) rfl
theorem q244 : (Jvm.Cond.instantiable "java/util/ArrayList" (3 : Nat)) ∈ lw_all := lw_g (lw_at lw_m1 137 rfl) rfl
theorem q246 : (Jvm.Cond.instanceMethod ({ cls := "java/util/ArrayList", name := "<init>", desc := "(I)V" } : Jvm.MethodName)) ∈ lw_all := lw_g (lw_at lw_m1 139 rfl) rfl
theorem q247 : (Jvm.Cond.code ({ cls := "java/util/ArrayList", name := "<init>", desc := "(I)V" } : Jvm.MethodName) prog_28_method_1_code (2 : Nat) (Option.none : Option Jvm.ClassFile.FieldType)) ∈ lw_all := lw_g (lw_at lw_m1 140 rfl) rfl
theorem q248 : (Jvm.Cond.methodLink "java/util/ArrayList" (1 : Nat) ({ cls := "java/util/AbstractList", name := "<init>", desc := "()V" } : Jvm.MethodName)) ∈ lw_all := lw_g (lw_at lw_m1 141 rfl) rfl
theorem q255 : (Jvm.Cond.classLink "java/util/ArrayList" (7 : Nat) "java/lang/Object") ∈ lw_all := lw_g (lw_at lw_m1 148 rfl) rfl
theorem q257 : (Jvm.Cond.fieldLink "java/util/ArrayList" (15 : Nat) "java/util/ArrayList" "EMPTY_ELEMENTDATA" "[Ljava/lang/Object;") ∈ lw_all := lw_g (lw_at lw_m1 150 rfl) rfl
theorem q258 : (Jvm.Cond.laysStatic "java/util/ArrayList" "EMPTY_ELEMENTDATA" "[Ljava/lang/Object;") ∈ lw_tbl := lw_at lw_m1 151 rfl
theorem q259 : (Jvm.Cond.fieldLink "java/util/ArrayList" (9 : Nat) "java/util/ArrayList" "elementData" "[Ljava/lang/Object;") ∈ lw_all := lw_g (lw_at lw_m1 152 rfl) rfl
theorem q260 : (Jvm.Cond.fieldLink "java/util/ArrayList" (48 : Nat) "java/util/ArrayList" "size" "I") ∈ lw_all := lw_g (lw_at lw_m1 153 rfl) rfl
theorem q262 : (Jvm.Cond.fieldLink "java/util/ArrayList" (63 : Nat) "java/util/ArrayList" "modCount" "I") ∈ lw_all := lw_g (lw_at lw_m1 155 rfl) rfl
theorem q263 : (Jvm.Cond.sameField "java/util/ArrayList" "java/util/AbstractList" "modCount" "I") ∈ lw_all := lw_g (lw_at lw_m1 156 rfl) rfl
theorem q264 : (Jvm.Cond.lays "java/util/ArrayList" "java/util/ArrayList" "elementData" "[Ljava/lang/Object;") ∈ lw_all := lw_g (lw_at lw_m1 157 rfl) rfl
theorem q265 : (Jvm.Cond.soleField "java/util/ArrayList" "elementData") ∈ lw_all := lw_g (lw_at lw_m1 158 rfl) rfl
theorem q266 : (Jvm.Cond.lays "java/util/ArrayList" "java/util/ArrayList" "size" "I") ∈ lw_all := lw_g (lw_at lw_m1 159 rfl) rfl
theorem q267 : (Jvm.Cond.soleField "java/util/ArrayList" "size") ∈ lw_all := lw_g (lw_at lw_m1 160 rfl) rfl
theorem q268 : (Jvm.Cond.lays "java/util/ArrayList" "java/util/AbstractList" "modCount" "I") ∈ lw_all := lw_g (lw_at lw_m1 161 rfl) rfl
theorem q270 : (Jvm.Cond.superclass "java/util/ArrayList" "java/util/AbstractList") ∈ lw_all := lw_g (lw_at lw_m1 163 rfl) rfl
theorem q272 : (Jvm.Cond.instanceMethod ({ cls := "java/util/ArrayList", name := "<init>", desc := "()V" } : Jvm.MethodName)) ∈ lw_all := lw_g (lw_at lw_m1 165 rfl) rfl
theorem q273 : (Jvm.Cond.code ({ cls := "java/util/ArrayList", name := "<init>", desc := "()V" } : Jvm.MethodName) prog_28_method_2_code (1 : Nat) (Option.none : Option Jvm.ClassFile.FieldType)) ∈ lw_all := lw_g (lw_at lw_m1 166 rfl) rfl
theorem q274 : (Jvm.Cond.fieldLink "java/util/ArrayList" (39 : Nat) "java/util/ArrayList" "DEFAULTCAPACITY_EMPTY_ELEMENTDATA" "[Ljava/lang/Object;") ∈ lw_all := lw_g (lw_at lw_m1 167 rfl) rfl
theorem q275 : (Jvm.Cond.laysStatic "java/util/ArrayList" "DEFAULTCAPACITY_EMPTY_ELEMENTDATA" "[Ljava/lang/Object;") ∈ lw_tbl := lw_at lw_m1 168 rfl
theorem q371 : (Jvm.Cond.instanceMethod ({ cls := "java/util/ArrayList", name := "add", desc := "(Ljava/lang/Object;)Z" } : Jvm.MethodName)) ∈ lw_all := lw_g (lw_at lw_m2 24 rfl) rfl
theorem q372 : (Jvm.Cond.selects "java/util/ArrayList" ({ cls := "java/util/ArrayList", name := "add", desc := "(Ljava/lang/Object;)Z" } : Jvm.MethodName) ({ cls := "java/util/ArrayList", name := "add", desc := "(Ljava/lang/Object;)Z" } : Jvm.MethodName)) ∈ lw_all := lw_g (lw_at lw_m2 25 rfl) rfl
theorem q373 : (Jvm.Cond.code ({ cls := "java/util/ArrayList", name := "add", desc := "(Ljava/lang/Object;)Z" } : Jvm.MethodName) prog_28_method_25_code (2 : Nat) (Option.some Jvm.ClassFile.FieldType.boolean)) ∈ lw_all := lw_g (lw_at lw_m2 26 rfl) rfl
theorem q374 : (Jvm.Cond.methodLink "java/util/ArrayList" (131 : Nat) ({ cls := "java/util/ArrayList", name := "add", desc := "(Ljava/lang/Object;[Ljava/lang/Object;I)V" } : Jvm.MethodName)) ∈ lw_all := lw_g (lw_at lw_m2 27 rfl) rfl
theorem q375 : (Jvm.Cond.privateMethod ({ cls := "java/util/ArrayList", name := "add", desc := "(Ljava/lang/Object;[Ljava/lang/Object;I)V" } : Jvm.MethodName)) ∈ lw_tbl := lw_at lw_m2 28 rfl
theorem q376 : (Jvm.Cond.instanceMethod ({ cls := "java/util/ArrayList", name := "add", desc := "(Ljava/lang/Object;[Ljava/lang/Object;I)V" } : Jvm.MethodName)) ∈ lw_all := lw_g (lw_at lw_m2 29 rfl) rfl
theorem q377 : (Jvm.Cond.code ({ cls := "java/util/ArrayList", name := "add", desc := "(Ljava/lang/Object;[Ljava/lang/Object;I)V" } : Jvm.MethodName) prog_28_method_24_code (4 : Nat) (Option.none : Option Jvm.ClassFile.FieldType)) ∈ lw_all := lw_g (lw_at lw_m2 30 rfl) rfl
theorem q378 : (Jvm.Cond.methodLink "java/util/ArrayList" (129 : Nat) ({ cls := "java/util/ArrayList", name := "grow", desc := "()[Ljava/lang/Object;" } : Jvm.MethodName)) ∈ lw_all := lw_g (lw_at lw_m2 31 rfl) rfl
theorem q379 : (Jvm.Cond.privateMethod ({ cls := "java/util/ArrayList", name := "grow", desc := "()[Ljava/lang/Object;" } : Jvm.MethodName)) ∈ lw_tbl := lw_at lw_m2 32 rfl
theorem q380 : (Jvm.Cond.instanceMethod ({ cls := "java/util/ArrayList", name := "grow", desc := "()[Ljava/lang/Object;" } : Jvm.MethodName)) ∈ lw_all := lw_g (lw_at lw_m2 33 rfl) rfl
theorem q381 : (Jvm.Cond.code ({ cls := "java/util/ArrayList", name := "grow", desc := "()[Ljava/lang/Object;" } : Jvm.MethodName) prog_28_method_7_code (1 : Nat) (Option.some (Jvm.ClassFile.FieldType.array (Jvm.ClassFile.FieldType.object "java/lang/Object")))) ∈ lw_all := lw_g (lw_at lw_m2 34 rfl) rfl
theorem q382 : (Jvm.Cond.methodLink "java/util/ArrayList" (69 : Nat) ({ cls := "java/util/ArrayList", name := "grow", desc := "(I)[Ljava/lang/Object;" } : Jvm.MethodName)) ∈ lw_all := lw_g (lw_at lw_m2 35 rfl) rfl
theorem q383 : (Jvm.Cond.privateMethod ({ cls := "java/util/ArrayList", name := "grow", desc := "(I)[Ljava/lang/Object;" } : Jvm.MethodName)) ∈ lw_tbl := lw_at lw_m2 36 rfl
theorem q384 : (Jvm.Cond.instanceMethod ({ cls := "java/util/ArrayList", name := "grow", desc := "(I)[Ljava/lang/Object;" } : Jvm.MethodName)) ∈ lw_all := lw_g (lw_at lw_m2 37 rfl) rfl
theorem q385 : (Jvm.Cond.code ({ cls := "java/util/ArrayList", name := "grow", desc := "(I)[Ljava/lang/Object;" } : Jvm.MethodName) prog_28_method_6_code (4 : Nat) (Option.some (Jvm.ClassFile.FieldType.array (Jvm.ClassFile.FieldType.object "java/lang/Object")))) ∈ lw_all := lw_g (lw_at lw_m2 38 rfl) rfl
theorem q386 : (Jvm.Cond.methodLink "java/util/ArrayList" (73 : Nat) ({ cls := "jdk/internal/util/ArraysSupport", name := "newLength", desc := "(III)I" } : Jvm.MethodName)) ∈ lw_all := lw_g (lw_at lw_m2 39 rfl) rfl
theorem q396 : (Jvm.Cond.methodLink "java/util/ArrayList" (66 : Nat) ({ cls := "java/util/Arrays", name := "copyOf", desc := "([Ljava/lang/Object;I)[Ljava/lang/Object;" } : Jvm.MethodName)) ∈ lw_all := lw_g (lw_at lw_m2 49 rfl) rfl
theorem q416 : (Jvm.Cond.selects "java/util/ArrayList" ({ cls := "java/lang/Object", name := "getClass", desc := "()Ljava/lang/Class;" } : Jvm.MethodName) ({ cls := "java/lang/Object", name := "getClass", desc := "()Ljava/lang/Class;" } : Jvm.MethodName)) ∈ lw_all := lw_g (lw_at lw_m2 69 rfl) rfl
theorem q430 : (Jvm.Cond.methodLink "java/util/ArrayList" (79 : Nat) ({ cls := "java/lang/Math", name := "max", desc := "(II)I" } : Jvm.MethodName)) ∈ lw_all := lw_g (lw_at lw_m2 83 rfl) rfl
theorem q592 : (Jvm.Cond.instanceMethod ({ cls := "java/util/ArrayList", name := "size", desc := "()I" } : Jvm.MethodName)) ∈ lw_all := lw_g (lw_at lw_m3 5 rfl) rfl
theorem q593 : (Jvm.Cond.selects "java/util/ArrayList" ({ cls := "java/util/ArrayList", name := "size", desc := "()I" } : Jvm.MethodName) ({ cls := "java/util/ArrayList", name := "size", desc := "()I" } : Jvm.MethodName)) ∈ lw_all := lw_g (lw_at lw_m3 6 rfl) rfl
theorem q594 : (Jvm.Cond.code ({ cls := "java/util/ArrayList", name := "size", desc := "()I" } : Jvm.MethodName) prog_28_method_8_code (1 : Nat) (Option.some Jvm.ClassFile.FieldType.int)) ∈ lw_all := lw_g (lw_at lw_m3 7 rfl) rfl
theorem q596 : (Jvm.Cond.instanceMethod ({ cls := "java/util/ArrayList", name := "get", desc := "(I)Ljava/lang/Object;" } : Jvm.MethodName)) ∈ lw_all := lw_g (lw_at lw_m3 9 rfl) rfl
theorem q597 : (Jvm.Cond.selects "java/util/ArrayList" ({ cls := "java/util/ArrayList", name := "get", desc := "(I)Ljava/lang/Object;" } : Jvm.MethodName) ({ cls := "java/util/ArrayList", name := "get", desc := "(I)Ljava/lang/Object;" } : Jvm.MethodName)) ∈ lw_all := lw_g (lw_at lw_m3 10 rfl) rfl
theorem q598 : (Jvm.Cond.code ({ cls := "java/util/ArrayList", name := "get", desc := "(I)Ljava/lang/Object;" } : Jvm.MethodName) prog_28_method_20_code (2 : Nat) (Option.some (Jvm.ClassFile.FieldType.object "java/lang/Object"))) ∈ lw_all := lw_g (lw_at lw_m3 11 rfl) rfl
theorem q599 : (Jvm.Cond.methodLink "java/util/ArrayList" (118 : Nat) ({ cls := "java/util/Objects", name := "checkIndex", desc := "(II)I" } : Jvm.MethodName)) ∈ lw_all := lw_g (lw_at lw_m3 12 rfl) rfl
theorem q605 : (Jvm.Cond.methodLink "java/util/ArrayList" (123 : Nat) ({ cls := "java/util/ArrayList", name := "elementData", desc := "(I)Ljava/lang/Object;" } : Jvm.MethodName)) ∈ lw_all := lw_g (lw_at lw_m3 18 rfl) rfl
theorem q606 : (Jvm.Cond.instanceMethod ({ cls := "java/util/ArrayList", name := "elementData", desc := "(I)Ljava/lang/Object;" } : Jvm.MethodName)) ∈ lw_all := lw_g (lw_at lw_m3 19 rfl) rfl
theorem q607 : (Jvm.Cond.selects "java/util/ArrayList" ({ cls := "java/util/ArrayList", name := "elementData", desc := "(I)Ljava/lang/Object;" } : Jvm.MethodName) ({ cls := "java/util/ArrayList", name := "elementData", desc := "(I)Ljava/lang/Object;" } : Jvm.MethodName)) ∈ lw_all := lw_g (lw_at lw_m3 20 rfl) rfl
theorem q608 : (Jvm.Cond.code ({ cls := "java/util/ArrayList", name := "elementData", desc := "(I)Ljava/lang/Object;" } : Jvm.MethodName) prog_28_method_18_code (2 : Nat) (Option.some (Jvm.ClassFile.FieldType.object "java/lang/Object"))) ∈ lw_all := lw_g (lw_at lw_m3 21 rfl) rfl
theorem q712 : (Jvm.Cond.instanceMethod ({ cls := "java/util/ArrayList", name := "clear", desc := "()V" } : Jvm.MethodName)) ∈ lw_all := lw_g (lw_at lw_m3 125 rfl) rfl
theorem q713 : (Jvm.Cond.selects "java/util/ArrayList" ({ cls := "java/util/ArrayList", name := "clear", desc := "()V" } : Jvm.MethodName) ({ cls := "java/util/ArrayList", name := "clear", desc := "()V" } : Jvm.MethodName)) ∈ lw_all := lw_g (lw_at lw_m3 126 rfl) rfl
theorem q714 : (Jvm.Cond.code ({ cls := "java/util/ArrayList", name := "clear", desc := "()V" } : Jvm.MethodName) prog_28_method_40_code (4 : Nat) (Option.none : Option Jvm.ClassFile.FieldType)) ∈ lw_all := lw_g (lw_at lw_m3 127 rfl) rfl
theorem q744 : (Jvm.Cond.instanceMethod ({ cls := "java/util/ArrayList", name := "isEmpty", desc := "()Z" } : Jvm.MethodName)) ∈ lw_all := lw_g (lw_at lw_m3 157 rfl) rfl
theorem q745 : (Jvm.Cond.selects "java/util/ArrayList" ({ cls := "java/util/ArrayList", name := "isEmpty", desc := "()Z" } : Jvm.MethodName) ({ cls := "java/util/ArrayList", name := "isEmpty", desc := "()Z" } : Jvm.MethodName)) ∈ lw_all := lw_g (lw_at lw_m3 158 rfl) rfl
theorem q746 : (Jvm.Cond.code ({ cls := "java/util/ArrayList", name := "isEmpty", desc := "()Z" } : Jvm.MethodName) prog_28_method_9_code (1 : Nat) (Option.some Jvm.ClassFile.FieldType.boolean)) ∈ lw_all := lw_g (lw_at lw_m3 159 rfl) rfl
theorem q1749 : (Jvm.Cond.castable "java/util/ArrayList" "java/lang/Object") ∈ lw_tbl := lw_at lw_m7 202 rfl
theorem in_J2 : ∀ w ∈ wsJ20, w ∈ lw_all := lw_in wsJ20 [268, 264, 266] (by decide +kernel) (by decide +kernel)
/-! jdk/internal/util/ArraysSupport -/
set_option maxRecDepth 100000
def RJ3 : String := "jdk/internal/util/ArraysSupport"
abbrev cJ3_newLength : ByteArray := prog_36_method_27_code
def yJ3_newLength : MethodName := ⟨RJ3, "newLength", "(III)I"⟩
def dkwJ3_newLength_1 : List UInt8 := [184, 0, 201, 172]
abbrev dktJ3_newLength_1 : List UInt8 := dkwJ3_newLength_1 ++ []
def dkwJ3_newLength_0 : List UInt8 := [26, 27, 28, 184, 0, 194, 96, 62, 3, 29, 162, 0, 11, 29, 18, 200, 163, 0, 5, 29, 172, 26, 27]
abbrev dktJ3_newLength_0 : List UInt8 := dkwJ3_newLength_0 ++ dktJ3_newLength_1
theorem dksJ3_newLength_0 : cJ3_newLength.data.toList.drop 0 = dktJ3_newLength_0 := by decide +kernel
theorem dksJ3_newLength_1 : cJ3_newLength.data.toList.drop 23 = dktJ3_newLength_1 := dk_seg dksJ3_newLength_0 23 rfl rfl
theorem dJ3_newLength_0 : decode cJ3_newLength 0 = .ok (.iload_n 0, 1) := dk_26 (dk_at dksJ3_newLength_0 0 rfl rfl)
theorem dJ3_newLength_1 : decode cJ3_newLength 1 = .ok (.iload_n 1, 1) := dk_27 (dk_at dksJ3_newLength_0 1 rfl rfl)
theorem dJ3_newLength_2 : decode cJ3_newLength 2 = .ok (.iload_n 2, 1) := dk_28 (dk_at dksJ3_newLength_0 2 rfl rfl)
theorem dJ3_newLength_3 : decode cJ3_newLength 3 = .ok (.invokestatic 194, 3) := dk_184 0 194 (dk_at dksJ3_newLength_0 3 rfl rfl)
theorem dJ3_newLength_6 : decode cJ3_newLength 6 = .ok (.iadd, 1) := dk_96 (dk_at dksJ3_newLength_0 6 rfl rfl)
theorem dJ3_newLength_7 : decode cJ3_newLength 7 = .ok (.istore_n 3, 1) := dk_62 (dk_at dksJ3_newLength_0 7 rfl rfl)
theorem dJ3_newLength_8 : decode cJ3_newLength 8 = .ok (.iconst 0, 1) := dk_3 (dk_at dksJ3_newLength_0 8 rfl rfl)
theorem dJ3_newLength_9 : decode cJ3_newLength 9 = .ok (.iload_n 3, 1) := dk_29 (dk_at dksJ3_newLength_0 9 rfl rfl)
theorem dJ3_newLength_10 : decode cJ3_newLength 10 = .ok (.if_icmp .ge 11, 3) := dk_162 0 11 (dk_at dksJ3_newLength_0 10 rfl rfl)
theorem dJ3_newLength_13 : decode cJ3_newLength 13 = .ok (.iload_n 3, 1) := dk_29 (dk_at dksJ3_newLength_0 13 rfl rfl)
theorem dJ3_newLength_14 : decode cJ3_newLength 14 = .ok (.ldc 200, 2) := dk_18 200 (dk_at dksJ3_newLength_0 14 rfl rfl)
theorem dJ3_newLength_16 : decode cJ3_newLength 16 = .ok (.if_icmp .gt 5, 3) := dk_163 0 5 (dk_at dksJ3_newLength_0 16 rfl rfl)
theorem dJ3_newLength_19 : decode cJ3_newLength 19 = .ok (.iload_n 3, 1) := dk_29 (dk_at dksJ3_newLength_0 19 rfl rfl)
theorem dJ3_newLength_20 : decode cJ3_newLength 20 = .ok (.ireturn, 1) := dk_172 (dk_at dksJ3_newLength_0 20 rfl rfl)
theorem dJ3_newLength_21 : decode cJ3_newLength 21 = .ok (.iload_n 0, 1) := dk_26 (dk_at dksJ3_newLength_0 21 rfl rfl)
theorem dJ3_newLength_22 : decode cJ3_newLength 22 = .ok (.iload_n 1, 1) := dk_27 (dk_at dksJ3_newLength_0 22 rfl rfl)
theorem dJ3_newLength_23 : decode cJ3_newLength 23 = .ok (.invokestatic 201, 3) := dk_184 0 201 (dk_at dksJ3_newLength_1 0 rfl rfl)
theorem dJ3_newLength_26 : decode cJ3_newLength 26 = .ok (.ireturn, 1) := dk_172 (dk_at dksJ3_newLength_1 3 rfl rfl)
abbrev cJ3_hugeLength : ByteArray := prog_36_method_28_code
def yJ3_hugeLength : MethodName := ⟨RJ3, "hugeLength", "(II)I"⟩
def dkwJ3_hugeLength_2 : List UInt8 := [191, 28, 18, 200, 163, 0, 6, 18, 200, 172, 28, 172]
abbrev dktJ3_hugeLength_2 : List UInt8 := dkwJ3_hugeLength_2 ++ []
def dkwJ3_hugeLength_1 : List UInt8 := [26, 182, 0, 98, 18, 208, 182, 0, 94, 27, 182, 0, 98, 18, 210, 182, 0, 94, 182, 0, 101, 183, 0, 212]
abbrev dktJ3_hugeLength_1 : List UInt8 := dkwJ3_hugeLength_1 ++ dktJ3_hugeLength_2
def dkwJ3_hugeLength_0 : List UInt8 := [26, 27, 96, 61, 28, 156, 0, 44, 187, 0, 204, 89, 187, 0, 89, 89, 183, 0, 91, 18, 206, 182, 0, 94]
abbrev dktJ3_hugeLength_0 : List UInt8 := dkwJ3_hugeLength_0 ++ dktJ3_hugeLength_1
theorem dksJ3_hugeLength_0 : cJ3_hugeLength.data.toList.drop 0 = dktJ3_hugeLength_0 := by decide +kernel
theorem dksJ3_hugeLength_1 : cJ3_hugeLength.data.toList.drop 24 = dktJ3_hugeLength_1 := dk_seg dksJ3_hugeLength_0 24 rfl rfl
theorem dksJ3_hugeLength_2 : cJ3_hugeLength.data.toList.drop 48 = dktJ3_hugeLength_2 := dk_seg dksJ3_hugeLength_1 24 rfl rfl
theorem dJ3_hugeLength_0 : decode cJ3_hugeLength 0 = .ok (.iload_n 0, 1) := dk_26 (dk_at dksJ3_hugeLength_0 0 rfl rfl)
theorem dJ3_hugeLength_1 : decode cJ3_hugeLength 1 = .ok (.iload_n 1, 1) := dk_27 (dk_at dksJ3_hugeLength_0 1 rfl rfl)
theorem dJ3_hugeLength_2 : decode cJ3_hugeLength 2 = .ok (.iadd, 1) := dk_96 (dk_at dksJ3_hugeLength_0 2 rfl rfl)
theorem dJ3_hugeLength_3 : decode cJ3_hugeLength 3 = .ok (.istore_n 2, 1) := dk_61 (dk_at dksJ3_hugeLength_0 3 rfl rfl)
theorem dJ3_hugeLength_4 : decode cJ3_hugeLength 4 = .ok (.iload_n 2, 1) := dk_28 (dk_at dksJ3_hugeLength_0 4 rfl rfl)
theorem dJ3_hugeLength_5 : decode cJ3_hugeLength 5 = .ok (.ifCond .ge 44, 3) := dk_156 0 44 (dk_at dksJ3_hugeLength_0 5 rfl rfl)
theorem dJ3_hugeLength_8 : decode cJ3_hugeLength 8 = .ok (.new 204, 3) := dk_187 0 204 (dk_at dksJ3_hugeLength_0 8 rfl rfl)
theorem dJ3_hugeLength_11 : decode cJ3_hugeLength 11 = .ok (.dup, 1) := dk_89 (dk_at dksJ3_hugeLength_0 11 rfl rfl)
theorem dJ3_hugeLength_12 : decode cJ3_hugeLength 12 = .ok (.new 89, 3) := dk_187 0 89 (dk_at dksJ3_hugeLength_0 12 rfl rfl)
theorem dJ3_hugeLength_15 : decode cJ3_hugeLength 15 = .ok (.dup, 1) := dk_89 (dk_at dksJ3_hugeLength_0 15 rfl rfl)
theorem dJ3_hugeLength_16 : decode cJ3_hugeLength 16 = .ok (.invokespecial 91, 3) := dk_183 0 91 (dk_at dksJ3_hugeLength_0 16 rfl rfl)
theorem dJ3_hugeLength_19 : decode cJ3_hugeLength 19 = .ok (.ldc 206, 2) := dk_18 206 (dk_at dksJ3_hugeLength_0 19 rfl rfl)
theorem dJ3_hugeLength_21 : decode cJ3_hugeLength 21 = .ok (.invokevirtual 94, 3) := dk_182 0 94 (dk_at dksJ3_hugeLength_0 21 rfl rfl)
theorem dJ3_hugeLength_24 : decode cJ3_hugeLength 24 = .ok (.iload_n 0, 1) := dk_26 (dk_at dksJ3_hugeLength_1 0 rfl rfl)
theorem dJ3_hugeLength_25 : decode cJ3_hugeLength 25 = .ok (.invokevirtual 98, 3) := dk_182 0 98 (dk_at dksJ3_hugeLength_1 1 rfl rfl)
theorem dJ3_hugeLength_28 : decode cJ3_hugeLength 28 = .ok (.ldc 208, 2) := dk_18 208 (dk_at dksJ3_hugeLength_1 4 rfl rfl)
theorem dJ3_hugeLength_30 : decode cJ3_hugeLength 30 = .ok (.invokevirtual 94, 3) := dk_182 0 94 (dk_at dksJ3_hugeLength_1 6 rfl rfl)
theorem dJ3_hugeLength_33 : decode cJ3_hugeLength 33 = .ok (.iload_n 1, 1) := dk_27 (dk_at dksJ3_hugeLength_1 9 rfl rfl)
theorem dJ3_hugeLength_34 : decode cJ3_hugeLength 34 = .ok (.invokevirtual 98, 3) := dk_182 0 98 (dk_at dksJ3_hugeLength_1 10 rfl rfl)
theorem dJ3_hugeLength_37 : decode cJ3_hugeLength 37 = .ok (.ldc 210, 2) := dk_18 210 (dk_at dksJ3_hugeLength_1 13 rfl rfl)
theorem dJ3_hugeLength_39 : decode cJ3_hugeLength 39 = .ok (.invokevirtual 94, 3) := dk_182 0 94 (dk_at dksJ3_hugeLength_1 15 rfl rfl)
theorem dJ3_hugeLength_42 : decode cJ3_hugeLength 42 = .ok (.invokevirtual 101, 3) := dk_182 0 101 (dk_at dksJ3_hugeLength_1 18 rfl rfl)
theorem dJ3_hugeLength_45 : decode cJ3_hugeLength 45 = .ok (.invokespecial 212, 3) := dk_183 0 212 (dk_at dksJ3_hugeLength_1 21 rfl rfl)
theorem dJ3_hugeLength_48 : decode cJ3_hugeLength 48 = .ok (.athrow, 1) := dk_191 (dk_at dksJ3_hugeLength_2 0 rfl rfl)
theorem dJ3_hugeLength_49 : decode cJ3_hugeLength 49 = .ok (.iload_n 2, 1) := dk_28 (dk_at dksJ3_hugeLength_2 1 rfl rfl)
theorem dJ3_hugeLength_50 : decode cJ3_hugeLength 50 = .ok (.ldc 200, 2) := dk_18 200 (dk_at dksJ3_hugeLength_2 2 rfl rfl)
theorem dJ3_hugeLength_52 : decode cJ3_hugeLength 52 = .ok (.if_icmp .gt 6, 3) := dk_163 0 6 (dk_at dksJ3_hugeLength_2 4 rfl rfl)
theorem dJ3_hugeLength_55 : decode cJ3_hugeLength 55 = .ok (.ldc 200, 2) := dk_18 200 (dk_at dksJ3_hugeLength_2 7 rfl rfl)
theorem dJ3_hugeLength_57 : decode cJ3_hugeLength 57 = .ok (.ireturn, 1) := dk_172 (dk_at dksJ3_hugeLength_2 9 rfl rfl)
theorem dJ3_hugeLength_58 : decode cJ3_hugeLength 58 = .ok (.iload_n 2, 1) := dk_28 (dk_at dksJ3_hugeLength_2 10 rfl rfl)
theorem dJ3_hugeLength_59 : decode cJ3_hugeLength 59 = .ok (.ireturn, 1) := dk_172 (dk_at dksJ3_hugeLength_2 11 rfl rfl)
theorem q119 : (Jvm.Cond.initialized "jdk/internal/util/ArraysSupport") ∈ lw_all := lw_g (lw_at lw_m1 12 rfl) rfl
theorem q387 : (Jvm.Cond.static ({ cls := "jdk/internal/util/ArraysSupport", name := "newLength", desc := "(III)I" } : Jvm.MethodName)) ∈ lw_all := lw_g (lw_at lw_m2 40 rfl) rfl
theorem q388 : (Jvm.Cond.code ({ cls := "jdk/internal/util/ArraysSupport", name := "newLength", desc := "(III)I" } : Jvm.MethodName) prog_36_method_27_code (4 : Nat) (Option.some Jvm.ClassFile.FieldType.int)) ∈ lw_all := lw_g (lw_at lw_m2 41 rfl) rfl
theorem q389 : (Jvm.Cond.methodLink "jdk/internal/util/ArraysSupport" (194 : Nat) ({ cls := "java/lang/Math", name := "max", desc := "(II)I" } : Jvm.MethodName)) ∈ lw_all := lw_g (lw_at lw_m2 42 rfl) rfl
theorem q392 : (Jvm.Cond.constant "jdk/internal/util/ArraysSupport" (200 : Nat) (2147483639 : Int32)) ∈ lw_all := lw_g (lw_at lw_m2 45 rfl) rfl
theorem q393 : (Jvm.Cond.methodLink "jdk/internal/util/ArraysSupport" (201 : Nat) ({ cls := "jdk/internal/util/ArraysSupport", name := "hugeLength", desc := "(II)I" } : Jvm.MethodName)) ∈ lw_all := lw_g (lw_at lw_m2 46 rfl) rfl
theorem q394 : (Jvm.Cond.static ({ cls := "jdk/internal/util/ArraysSupport", name := "hugeLength", desc := "(II)I" } : Jvm.MethodName)) ∈ lw_all := lw_g (lw_at lw_m2 47 rfl) rfl
theorem q395 : (Jvm.Cond.code ({ cls := "jdk/internal/util/ArraysSupport", name := "hugeLength", desc := "(II)I" } : Jvm.MethodName) prog_36_method_28_code (3 : Nat) (Option.some Jvm.ClassFile.FieldType.int)) ∈ lw_all := lw_g (lw_at lw_m2 48 rfl) rfl
/-! java/lang/Math -/
set_option maxRecDepth 100000
def RJ4 : String := "java/lang/Math"
abbrev cJ4_max : ByteArray := prog_22_method_65_code
def yJ4_max : MethodName := ⟨RJ4, "max", "(II)I"⟩
def dkwJ4_max_0 : List UInt8 := [26, 27, 161, 0, 7, 26, 167, 0, 4, 27, 172]
abbrev dktJ4_max_0 : List UInt8 := dkwJ4_max_0 ++ []
theorem dksJ4_max_0 : cJ4_max.data.toList.drop 0 = dktJ4_max_0 := by decide +kernel
theorem dJ4_max_0 : decode cJ4_max 0 = .ok (.iload_n 0, 1) := dk_26 (dk_at dksJ4_max_0 0 rfl rfl)
theorem dJ4_max_1 : decode cJ4_max 1 = .ok (.iload_n 1, 1) := dk_27 (dk_at dksJ4_max_0 1 rfl rfl)
theorem dJ4_max_2 : decode cJ4_max 2 = .ok (.if_icmp .lt 7, 3) := dk_161 0 7 (dk_at dksJ4_max_0 2 rfl rfl)
theorem dJ4_max_5 : decode cJ4_max 5 = .ok (.iload_n 0, 1) := dk_26 (dk_at dksJ4_max_0 5 rfl rfl)
theorem dJ4_max_6 : decode cJ4_max 6 = .ok (.goto 4, 3) := dk_167 0 4 (dk_at dksJ4_max_0 6 rfl rfl)
theorem dJ4_max_9 : decode cJ4_max 9 = .ok (.iload_n 1, 1) := dk_27 (dk_at dksJ4_max_0 9 rfl rfl)
theorem dJ4_max_10 : decode cJ4_max 10 = .ok (.ireturn, 1) := dk_172 (dk_at dksJ4_max_0 10 rfl rfl)
abbrev cJ4_min : ByteArray := prog_22_method_69_code
def yJ4_min : MethodName := ⟨RJ4, "min", "(II)I"⟩
def dkwJ4_min_0 : List UInt8 := [26, 27, 163, 0, 7, 26, 167, 0, 4, 27, 172]
abbrev dktJ4_min_0 : List UInt8 := dkwJ4_min_0 ++ []
theorem dksJ4_min_0 : cJ4_min.data.toList.drop 0 = dktJ4_min_0 := by decide +kernel
theorem dJ4_min_0 : decode cJ4_min 0 = .ok (.iload_n 0, 1) := dk_26 (dk_at dksJ4_min_0 0 rfl rfl)
theorem dJ4_min_1 : decode cJ4_min 1 = .ok (.iload_n 1, 1) := dk_27 (dk_at dksJ4_min_0 1 rfl rfl)
theorem dJ4_min_2 : decode cJ4_min 2 = .ok (.if_icmp .gt 7, 3) := dk_163 0 7 (dk_at dksJ4_min_0 2 rfl rfl)
theorem dJ4_min_5 : decode cJ4_min 5 = .ok (.iload_n 0, 1) := dk_26 (dk_at dksJ4_min_0 5 rfl rfl)
theorem dJ4_min_6 : decode cJ4_min 6 = .ok (.goto 4, 3) := dk_167 0 4 (dk_at dksJ4_min_0 6 rfl rfl)
theorem dJ4_min_9 : decode cJ4_min 9 = .ok (.iload_n 1, 1) := dk_27 (dk_at dksJ4_min_0 9 rfl rfl)
theorem dJ4_min_10 : decode cJ4_min 10 = .ok (.ireturn, 1) := dk_172 (dk_at dksJ4_min_0 10 rfl rfl)
theorem q120 : (Jvm.Cond.initialized "java/lang/Math") ∈ lw_all := lw_g (lw_at lw_m1 13 rfl) rfl
theorem q390 : (Jvm.Cond.static ({ cls := "java/lang/Math", name := "max", desc := "(II)I" } : Jvm.MethodName)) ∈ lw_all := lw_g (lw_at lw_m2 43 rfl) rfl
theorem q391 : (Jvm.Cond.code ({ cls := "java/lang/Math", name := "max", desc := "(II)I" } : Jvm.MethodName) prog_22_method_65_code (2 : Nat) (Option.some Jvm.ClassFile.FieldType.int)) ∈ lw_all := lw_g (lw_at lw_m2 44 rfl) rfl
theorem q425 : (Jvm.Cond.static ({ cls := "java/lang/Math", name := "min", desc := "(II)I" } : Jvm.MethodName)) ∈ lw_all := lw_g (lw_at lw_m2 78 rfl) rfl
theorem q426 : (Jvm.Cond.code ({ cls := "java/lang/Math", name := "min", desc := "(II)I" } : Jvm.MethodName) prog_22_method_69_code (2 : Nat) (Option.some Jvm.ClassFile.FieldType.int)) ∈ lw_all := lw_g (lw_at lw_m2 79 rfl) rfl
/-! java/util/Arrays -/
set_option maxRecDepth 100000
def RJ5 : String := "java/util/Arrays"
abbrev cJ5_copyOf : ByteArray := prog_29_method_119_code
def yJ5_copyOf : MethodName := ⟨RJ5, "copyOf", "([Ljava/lang/Object;I)[Ljava/lang/Object;"⟩
def dkwJ5_copyOf_0 : List UInt8 := [42, 27, 42, 182, 0, 86, 184, 1, 44, 176]
abbrev dktJ5_copyOf_0 : List UInt8 := dkwJ5_copyOf_0 ++ []
theorem dksJ5_copyOf_0 : cJ5_copyOf.data.toList.drop 0 = dktJ5_copyOf_0 := by decide +kernel
theorem dJ5_copyOf_0 : decode cJ5_copyOf 0 = .ok (.aload_n 0, 1) := dk_42 (dk_at dksJ5_copyOf_0 0 rfl rfl)
theorem dJ5_copyOf_1 : decode cJ5_copyOf 1 = .ok (.iload_n 1, 1) := dk_27 (dk_at dksJ5_copyOf_0 1 rfl rfl)
theorem dJ5_copyOf_2 : decode cJ5_copyOf 2 = .ok (.aload_n 0, 1) := dk_42 (dk_at dksJ5_copyOf_0 2 rfl rfl)
theorem dJ5_copyOf_3 : decode cJ5_copyOf 3 = .ok (.invokevirtual 86, 3) := dk_182 0 86 (dk_at dksJ5_copyOf_0 3 rfl rfl)
theorem dJ5_copyOf_6 : decode cJ5_copyOf 6 = .ok (.invokestatic 300, 3) := dk_184 1 44 (dk_at dksJ5_copyOf_0 6 rfl rfl)
theorem dJ5_copyOf_9 : decode cJ5_copyOf 9 = .ok (.areturn, 1) := dk_176 (dk_at dksJ5_copyOf_0 9 rfl rfl)
abbrev cJ5_copyOf_2 : ByteArray := prog_29_method_120_code
def yJ5_copyOf_2 : MethodName := ⟨RJ5, "copyOf", "([Ljava/lang/Object;ILjava/lang/Class;)[Ljava/lang/Object;"⟩
def dkwJ5_copyOf_2_1 : List UInt8 := [78, 42, 3, 45, 3, 42, 190, 27, 184, 1, 48, 184, 0, 150, 45, 176]
abbrev dktJ5_copyOf_2_1 : List UInt8 := dkwJ5_copyOf_2_1 ++ []
def dkwJ5_copyOf_2_0 : List UInt8 := [44, 18, 110, 166, 0, 10, 27, 189, 0, 2, 167, 0, 14, 44, 182, 0, 90, 27, 184, 0, 95, 192, 0, 110]
abbrev dktJ5_copyOf_2_0 : List UInt8 := dkwJ5_copyOf_2_0 ++ dktJ5_copyOf_2_1
theorem dksJ5_copyOf_2_0 : cJ5_copyOf_2.data.toList.drop 0 = dktJ5_copyOf_2_0 := by decide +kernel
theorem dksJ5_copyOf_2_1 : cJ5_copyOf_2.data.toList.drop 24 = dktJ5_copyOf_2_1 := dk_seg dksJ5_copyOf_2_0 24 rfl rfl
theorem dJ5_copyOf_2_0 : decode cJ5_copyOf_2 0 = .ok (.aload_n 2, 1) := dk_44 (dk_at dksJ5_copyOf_2_0 0 rfl rfl)
theorem dJ5_copyOf_2_1 : decode cJ5_copyOf_2 1 = .ok (.ldc 110, 2) := dk_18 110 (dk_at dksJ5_copyOf_2_0 1 rfl rfl)
theorem dJ5_copyOf_2_3 : decode cJ5_copyOf_2 3 = .ok (.if_acmp .ne 10, 3) := dk_166 0 10 (dk_at dksJ5_copyOf_2_0 3 rfl rfl)
theorem dJ5_copyOf_2_6 : decode cJ5_copyOf_2 6 = .ok (.iload_n 1, 1) := dk_27 (dk_at dksJ5_copyOf_2_0 6 rfl rfl)
theorem dJ5_copyOf_2_7 : decode cJ5_copyOf_2 7 = .ok (.anewarray 2, 3) := dk_189 0 2 (dk_at dksJ5_copyOf_2_0 7 rfl rfl)
theorem dJ5_copyOf_2_10 : decode cJ5_copyOf_2 10 = .ok (.goto 14, 3) := dk_167 0 14 (dk_at dksJ5_copyOf_2_0 10 rfl rfl)
theorem dJ5_copyOf_2_13 : decode cJ5_copyOf_2 13 = .ok (.aload_n 2, 1) := dk_44 (dk_at dksJ5_copyOf_2_0 13 rfl rfl)
theorem dJ5_copyOf_2_14 : decode cJ5_copyOf_2 14 = .ok (.invokevirtual 90, 3) := dk_182 0 90 (dk_at dksJ5_copyOf_2_0 14 rfl rfl)
theorem dJ5_copyOf_2_17 : decode cJ5_copyOf_2 17 = .ok (.iload_n 1, 1) := dk_27 (dk_at dksJ5_copyOf_2_0 17 rfl rfl)
theorem dJ5_copyOf_2_18 : decode cJ5_copyOf_2 18 = .ok (.invokestatic 95, 3) := dk_184 0 95 (dk_at dksJ5_copyOf_2_0 18 rfl rfl)
theorem dJ5_copyOf_2_21 : decode cJ5_copyOf_2 21 = .ok (.checkcast 110, 3) := dk_192 0 110 (dk_at dksJ5_copyOf_2_0 21 rfl rfl)
theorem dJ5_copyOf_2_24 : decode cJ5_copyOf_2 24 = .ok (.astore_n 3, 1) := dk_78 (dk_at dksJ5_copyOf_2_1 0 rfl rfl)
theorem dJ5_copyOf_2_25 : decode cJ5_copyOf_2 25 = .ok (.aload_n 0, 1) := dk_42 (dk_at dksJ5_copyOf_2_1 1 rfl rfl)
theorem dJ5_copyOf_2_26 : decode cJ5_copyOf_2 26 = .ok (.iconst 0, 1) := dk_3 (dk_at dksJ5_copyOf_2_1 2 rfl rfl)
theorem dJ5_copyOf_2_27 : decode cJ5_copyOf_2 27 = .ok (.aload_n 3, 1) := dk_45 (dk_at dksJ5_copyOf_2_1 3 rfl rfl)
theorem dJ5_copyOf_2_28 : decode cJ5_copyOf_2 28 = .ok (.iconst 0, 1) := dk_3 (dk_at dksJ5_copyOf_2_1 4 rfl rfl)
theorem dJ5_copyOf_2_29 : decode cJ5_copyOf_2 29 = .ok (.aload_n 0, 1) := dk_42 (dk_at dksJ5_copyOf_2_1 5 rfl rfl)
theorem dJ5_copyOf_2_30 : decode cJ5_copyOf_2 30 = .ok (.arraylength, 1) := dk_190 (dk_at dksJ5_copyOf_2_1 6 rfl rfl)
theorem dJ5_copyOf_2_31 : decode cJ5_copyOf_2 31 = .ok (.iload_n 1, 1) := dk_27 (dk_at dksJ5_copyOf_2_1 7 rfl rfl)
theorem dJ5_copyOf_2_32 : decode cJ5_copyOf_2 32 = .ok (.invokestatic 304, 3) := dk_184 1 48 (dk_at dksJ5_copyOf_2_1 8 rfl rfl)
theorem dJ5_copyOf_2_35 : decode cJ5_copyOf_2 35 = .ok (.invokestatic 150, 3) := dk_184 0 150 (dk_at dksJ5_copyOf_2_1 11 rfl rfl)
theorem dJ5_copyOf_2_38 : decode cJ5_copyOf_2 38 = .ok (.aload_n 3, 1) := dk_45 (dk_at dksJ5_copyOf_2_1 14 rfl rfl)
theorem dJ5_copyOf_2_39 : decode cJ5_copyOf_2 39 = .ok (.areturn, 1) := dk_176 (dk_at dksJ5_copyOf_2_1 15 rfl rfl)
theorem q121 : (Jvm.Cond.initialized "java/util/Arrays") ∈ lw_all := lw_g (lw_at lw_m1 14 rfl) rfl
theorem q397 : (Jvm.Cond.static ({ cls := "java/util/Arrays", name := "copyOf", desc := "([Ljava/lang/Object;I)[Ljava/lang/Object;" } : Jvm.MethodName)) ∈ lw_all := lw_g (lw_at lw_m2 50 rfl) rfl
theorem q398 : (Jvm.Cond.code ({ cls := "java/util/Arrays", name := "copyOf", desc := "([Ljava/lang/Object;I)[Ljava/lang/Object;" } : Jvm.MethodName) prog_29_method_119_code (2 : Nat) (Option.some (Jvm.ClassFile.FieldType.array (Jvm.ClassFile.FieldType.object "java/lang/Object")))) ∈ lw_all := lw_g (lw_at lw_m2 51 rfl) rfl
theorem q399 : (Jvm.Cond.methodLink "java/util/Arrays" (86 : Nat) ({ cls := "java/lang/Object", name := "getClass", desc := "()Ljava/lang/Class;" } : Jvm.MethodName)) ∈ lw_all := lw_g (lw_at lw_m2 52 rfl) rfl
theorem q419 : (Jvm.Cond.methodLink "java/util/Arrays" (300 : Nat) ({ cls := "java/util/Arrays", name := "copyOf", desc := "([Ljava/lang/Object;ILjava/lang/Class;)[Ljava/lang/Object;" } : Jvm.MethodName)) ∈ lw_all := lw_g (lw_at lw_m2 72 rfl) rfl
theorem q420 : (Jvm.Cond.static ({ cls := "java/util/Arrays", name := "copyOf", desc := "([Ljava/lang/Object;ILjava/lang/Class;)[Ljava/lang/Object;" } : Jvm.MethodName)) ∈ lw_all := lw_g (lw_at lw_m2 73 rfl) rfl
theorem q421 : (Jvm.Cond.code ({ cls := "java/util/Arrays", name := "copyOf", desc := "([Ljava/lang/Object;ILjava/lang/Class;)[Ljava/lang/Object;" } : Jvm.MethodName) prog_29_method_120_code (4 : Nat) (Option.some (Jvm.ClassFile.FieldType.array (Jvm.ClassFile.FieldType.object "java/lang/Object")))) ∈ lw_all := lw_g (lw_at lw_m2 74 rfl) rfl
theorem q422 : (Jvm.Cond.classLink "java/util/Arrays" (110 : Nat) "[Ljava/lang/Object;") ∈ lw_all := lw_g (lw_at lw_m2 75 rfl) rfl
theorem q423 : (Jvm.Cond.classLink "java/util/Arrays" (2 : Nat) "java/lang/Object") ∈ lw_all := lw_g (lw_at lw_m2 76 rfl) rfl
theorem q424 : (Jvm.Cond.methodLink "java/util/Arrays" (304 : Nat) ({ cls := "java/lang/Math", name := "min", desc := "(II)I" } : Jvm.MethodName)) ∈ lw_all := lw_g (lw_at lw_m2 77 rfl) rfl
theorem q427 : (Jvm.Cond.methodLink "java/util/Arrays" (150 : Nat) ({ cls := "java/lang/System", name := "arraycopy", desc := "(Ljava/lang/Object;ILjava/lang/Object;II)V" } : Jvm.MethodName)) ∈ lw_all := lw_g (lw_at lw_m2 80 rfl) rfl
/-! java/util/Objects -/
set_option maxRecDepth 100000
def RJ6 : String := "java/util/Objects"
abbrev cJ6_checkIndex : ByteArray := prog_33_method_17_code
def yJ6_checkIndex : MethodName := ⟨RJ6, "checkIndex", "(II)I"⟩
def dkwJ6_checkIndex_0 : List UInt8 := [26, 27, 1, 184, 0, 105, 172]
abbrev dktJ6_checkIndex_0 : List UInt8 := dkwJ6_checkIndex_0 ++ []
theorem dksJ6_checkIndex_0 : cJ6_checkIndex.data.toList.drop 0 = dktJ6_checkIndex_0 := by decide +kernel
theorem dJ6_checkIndex_0 : decode cJ6_checkIndex 0 = .ok (.iload_n 0, 1) := dk_26 (dk_at dksJ6_checkIndex_0 0 rfl rfl)
theorem dJ6_checkIndex_1 : decode cJ6_checkIndex 1 = .ok (.iload_n 1, 1) := dk_27 (dk_at dksJ6_checkIndex_0 1 rfl rfl)
theorem dJ6_checkIndex_2 : decode cJ6_checkIndex 2 = .ok (.aconst_null, 1) := dk_1 (dk_at dksJ6_checkIndex_0 2 rfl rfl)
theorem dJ6_checkIndex_3 : decode cJ6_checkIndex 3 = .ok (.invokestatic 105, 3) := dk_184 0 105 (dk_at dksJ6_checkIndex_0 3 rfl rfl)
theorem dJ6_checkIndex_6 : decode cJ6_checkIndex 6 = .ok (.ireturn, 1) := dk_172 (dk_at dksJ6_checkIndex_0 6 rfl rfl)
theorem q128 : (Jvm.Cond.initialized "java/util/Objects") ∈ lw_all := lw_g (lw_at lw_m1 21 rfl) rfl
theorem q600 : (Jvm.Cond.static ({ cls := "java/util/Objects", name := "checkIndex", desc := "(II)I" } : Jvm.MethodName)) ∈ lw_all := lw_g (lw_at lw_m3 13 rfl) rfl
theorem q601 : (Jvm.Cond.code ({ cls := "java/util/Objects", name := "checkIndex", desc := "(II)I" } : Jvm.MethodName) prog_33_method_17_code (2 : Nat) (Option.some Jvm.ClassFile.FieldType.int)) ∈ lw_all := lw_g (lw_at lw_m3 14 rfl) rfl
theorem q602 : (Jvm.Cond.methodLink "java/util/Objects" (105 : Nat) ({ cls := "jdk/internal/util/Preconditions", name := "checkIndex", desc := "(IILjava/util/function/BiFunction;)I" } : Jvm.MethodName)) ∈ lw_all := lw_g (lw_at lw_m3 15 rfl) rfl
/-! jdk/internal/util/Preconditions -/
set_option maxRecDepth 100000
def RJ7 : String := "jdk/internal/util/Preconditions"
abbrev cJ7_checkIndex : ByteArray := prog_37_method_11_code
def yJ7_checkIndex : MethodName := ⟨RJ7, "checkIndex", "(IILjava/util/function/BiFunction;)I"⟩
def dkwJ7_checkIndex_0 : List UInt8 := [26, 155, 0, 8, 26, 27, 161, 0, 10, 44, 26, 27, 184, 0, 95, 191, 26, 172]
abbrev dktJ7_checkIndex_0 : List UInt8 := dkwJ7_checkIndex_0 ++ []
theorem dksJ7_checkIndex_0 : cJ7_checkIndex.data.toList.drop 0 = dktJ7_checkIndex_0 := by decide +kernel
theorem dJ7_checkIndex_0 : decode cJ7_checkIndex 0 = .ok (.iload_n 0, 1) := dk_26 (dk_at dksJ7_checkIndex_0 0 rfl rfl)
theorem dJ7_checkIndex_1 : decode cJ7_checkIndex 1 = .ok (.ifCond .lt 8, 3) := dk_155 0 8 (dk_at dksJ7_checkIndex_0 1 rfl rfl)
theorem dJ7_checkIndex_4 : decode cJ7_checkIndex 4 = .ok (.iload_n 0, 1) := dk_26 (dk_at dksJ7_checkIndex_0 4 rfl rfl)
theorem dJ7_checkIndex_5 : decode cJ7_checkIndex 5 = .ok (.iload_n 1, 1) := dk_27 (dk_at dksJ7_checkIndex_0 5 rfl rfl)
theorem dJ7_checkIndex_6 : decode cJ7_checkIndex 6 = .ok (.if_icmp .lt 10, 3) := dk_161 0 10 (dk_at dksJ7_checkIndex_0 6 rfl rfl)
theorem dJ7_checkIndex_9 : decode cJ7_checkIndex 9 = .ok (.aload_n 2, 1) := dk_44 (dk_at dksJ7_checkIndex_0 9 rfl rfl)
theorem dJ7_checkIndex_10 : decode cJ7_checkIndex 10 = .ok (.iload_n 0, 1) := dk_26 (dk_at dksJ7_checkIndex_0 10 rfl rfl)
theorem dJ7_checkIndex_11 : decode cJ7_checkIndex 11 = .ok (.iload_n 1, 1) := dk_27 (dk_at dksJ7_checkIndex_0 11 rfl rfl)
theorem dJ7_checkIndex_12 : decode cJ7_checkIndex 12 = .ok (.invokestatic 95, 3) := dk_184 0 95 (dk_at dksJ7_checkIndex_0 12 rfl rfl)
theorem dJ7_checkIndex_15 : decode cJ7_checkIndex 15 = .ok (.athrow, 1) := dk_191 (dk_at dksJ7_checkIndex_0 15 rfl rfl)
theorem dJ7_checkIndex_16 : decode cJ7_checkIndex 16 = .ok (.iload_n 0, 1) := dk_26 (dk_at dksJ7_checkIndex_0 16 rfl rfl)
theorem dJ7_checkIndex_17 : decode cJ7_checkIndex 17 = .ok (.ireturn, 1) := dk_172 (dk_at dksJ7_checkIndex_0 17 rfl rfl)
theorem q129 : (Jvm.Cond.initialized "jdk/internal/util/Preconditions") ∈ lw_all := lw_g (lw_at lw_m1 22 rfl) rfl
theorem q603 : (Jvm.Cond.static ({ cls := "jdk/internal/util/Preconditions", name := "checkIndex", desc := "(IILjava/util/function/BiFunction;)I" } : Jvm.MethodName)) ∈ lw_all := lw_g (lw_at lw_m3 16 rfl) rfl
theorem q604 : (Jvm.Cond.code ({ cls := "jdk/internal/util/Preconditions", name := "checkIndex", desc := "(IILjava/util/function/BiFunction;)I" } : Jvm.MethodName) prog_37_method_11_code (3 : Nat) (Option.some Jvm.ClassFile.FieldType.int)) ∈ lw_all := lw_g (lw_at lw_m3 17 rfl) rfl
/-! java/lang/Throwable -/
set_option maxRecDepth 100000
def RJ8 : String := "java/lang/Throwable"
def TJ8 : u_T := fun k => match k with
  | 0 => ("java/lang/Throwable", "cause", "Ljava/lang/Throwable;", false)
  | 1 => ("java/lang/Throwable", "stackTrace", "[Ljava/lang/StackTraceElement;", false)
  | 2 => ("java/lang/Throwable", "suppressedExceptions", "Ljava/util/List;", false)
  | 3 => ("java/lang/Throwable", "detailMessage", "Ljava/lang/String;", false)
  | _ => ("java/lang/Throwable", "backtrace", "Ljava/lang/Object;", false)
def tyJ8 : Nat → FieldType := fun k => match k with
  | 0 => .object "java/lang/Throwable"
  | 1 => .array (.object "java/lang/StackTraceElement")
  | 2 => .object "java/util/List"
  | 3 => .object "java/lang/String"
  | _ => .object "java/lang/Object"
abbrev wsJ80 : List Cond := u_ws RJ8 TJ8 5
theorem nmJ8 : ∀ a, a < 5 → ∀ b, b < 5 → a ≠ b → (TJ8 a).2.1 ≠ (TJ8 b).2.1 := by decide +kernel
theorem tyJ8_ok : ∀ k, k < 5 → parseFieldDescriptor (TJ8 k).2.2.1 = some (tyJ8 k) := by decide +kernel
abbrev cJ8_init : ByteArray := prog_25_method_1_code
def yJ8_init : MethodName := ⟨RJ8, "<init>", "()V"⟩
def dkwJ8_init_1 : List UInt8 := [182, 0, 27, 87, 177]
abbrev dktJ8_init_1 : List UInt8 := dkwJ8_init_1 ++ []
def dkwJ8_init_0 : List UInt8 := [42, 183, 0, 1, 42, 42, 181, 0, 7, 42, 178, 0, 13, 181, 0, 17, 42, 178, 0, 20, 181, 0, 24, 42]
abbrev dktJ8_init_0 : List UInt8 := dkwJ8_init_0 ++ dktJ8_init_1
theorem dksJ8_init_0 : cJ8_init.data.toList.drop 0 = dktJ8_init_0 := by decide +kernel
theorem dksJ8_init_1 : cJ8_init.data.toList.drop 24 = dktJ8_init_1 := dk_seg dksJ8_init_0 24 rfl rfl
theorem dJ8_init_0 : decode cJ8_init 0 = .ok (.aload_n 0, 1) := dk_42 (dk_at dksJ8_init_0 0 rfl rfl)
theorem dJ8_init_1 : decode cJ8_init 1 = .ok (.invokespecial 1, 3) := dk_183 0 1 (dk_at dksJ8_init_0 1 rfl rfl)
theorem dJ8_init_4 : decode cJ8_init 4 = .ok (.aload_n 0, 1) := dk_42 (dk_at dksJ8_init_0 4 rfl rfl)
theorem dJ8_init_5 : decode cJ8_init 5 = .ok (.aload_n 0, 1) := dk_42 (dk_at dksJ8_init_0 5 rfl rfl)
theorem dJ8_init_6 : decode cJ8_init 6 = .ok (.putfield 7, 3) := dk_181 0 7 (dk_at dksJ8_init_0 6 rfl rfl)
theorem dJ8_init_9 : decode cJ8_init 9 = .ok (.aload_n 0, 1) := dk_42 (dk_at dksJ8_init_0 9 rfl rfl)
theorem dJ8_init_10 : decode cJ8_init 10 = .ok (.getstatic 13, 3) := dk_178 0 13 (dk_at dksJ8_init_0 10 rfl rfl)
theorem dJ8_init_13 : decode cJ8_init 13 = .ok (.putfield 17, 3) := dk_181 0 17 (dk_at dksJ8_init_0 13 rfl rfl)
theorem dJ8_init_16 : decode cJ8_init 16 = .ok (.aload_n 0, 1) := dk_42 (dk_at dksJ8_init_0 16 rfl rfl)
theorem dJ8_init_17 : decode cJ8_init 17 = .ok (.getstatic 20, 3) := dk_178 0 20 (dk_at dksJ8_init_0 17 rfl rfl)
theorem dJ8_init_20 : decode cJ8_init 20 = .ok (.putfield 24, 3) := dk_181 0 24 (dk_at dksJ8_init_0 20 rfl rfl)
theorem dJ8_init_23 : decode cJ8_init 23 = .ok (.aload_n 0, 1) := dk_42 (dk_at dksJ8_init_0 23 rfl rfl)
theorem dJ8_init_24 : decode cJ8_init 24 = .ok (.invokevirtual 27, 3) := dk_182 0 27 (dk_at dksJ8_init_1 0 rfl rfl)
theorem dJ8_init_27 : decode cJ8_init 27 = .ok (.pop, 1) := dk_87 (dk_at dksJ8_init_1 3 rfl rfl)
theorem dJ8_init_28 : decode cJ8_init 28 = .ok (.return_, 1) := dk_177 (dk_at dksJ8_init_1 4 rfl rfl)
abbrev cJ8_init_2 : ByteArray := prog_25_method_5_code
def yJ8_init_2 : MethodName := ⟨RJ8, "<init>", "(Ljava/lang/String;Ljava/lang/Throwable;ZZ)V"⟩
def dkwJ8_init_2_2 : List UInt8 := [44, 181, 0, 7, 29, 154, 0, 8, 42, 1, 181, 0, 24, 177]
abbrev dktJ8_init_2_2 : List UInt8 := dkwJ8_init_2_2 ++ []
def dkwJ8_init_2_1 : List UInt8 := [21, 4, 153, 0, 11, 42, 182, 0, 27, 87, 167, 0, 8, 42, 1, 181, 0, 17, 42, 43, 181, 0, 31, 42]
abbrev dktJ8_init_2_1 : List UInt8 := dkwJ8_init_2_1 ++ dktJ8_init_2_2
def dkwJ8_init_2_0 : List UInt8 := [42, 183, 0, 1, 42, 42, 181, 0, 7, 42, 178, 0, 13, 181, 0, 17, 42, 178, 0, 20, 181, 0, 24]
abbrev dktJ8_init_2_0 : List UInt8 := dkwJ8_init_2_0 ++ dktJ8_init_2_1
theorem dksJ8_init_2_0 : cJ8_init_2.data.toList.drop 0 = dktJ8_init_2_0 := by decide +kernel
theorem dksJ8_init_2_1 : cJ8_init_2.data.toList.drop 23 = dktJ8_init_2_1 := dk_seg dksJ8_init_2_0 23 rfl rfl
theorem dksJ8_init_2_2 : cJ8_init_2.data.toList.drop 47 = dktJ8_init_2_2 := dk_seg dksJ8_init_2_1 24 rfl rfl
theorem dJ8_init_2_0 : decode cJ8_init_2 0 = .ok (.aload_n 0, 1) := dk_42 (dk_at dksJ8_init_2_0 0 rfl rfl)
theorem dJ8_init_2_1 : decode cJ8_init_2 1 = .ok (.invokespecial 1, 3) := dk_183 0 1 (dk_at dksJ8_init_2_0 1 rfl rfl)
theorem dJ8_init_2_4 : decode cJ8_init_2 4 = .ok (.aload_n 0, 1) := dk_42 (dk_at dksJ8_init_2_0 4 rfl rfl)
theorem dJ8_init_2_5 : decode cJ8_init_2 5 = .ok (.aload_n 0, 1) := dk_42 (dk_at dksJ8_init_2_0 5 rfl rfl)
theorem dJ8_init_2_6 : decode cJ8_init_2 6 = .ok (.putfield 7, 3) := dk_181 0 7 (dk_at dksJ8_init_2_0 6 rfl rfl)
theorem dJ8_init_2_9 : decode cJ8_init_2 9 = .ok (.aload_n 0, 1) := dk_42 (dk_at dksJ8_init_2_0 9 rfl rfl)
theorem dJ8_init_2_10 : decode cJ8_init_2 10 = .ok (.getstatic 13, 3) := dk_178 0 13 (dk_at dksJ8_init_2_0 10 rfl rfl)
theorem dJ8_init_2_13 : decode cJ8_init_2 13 = .ok (.putfield 17, 3) := dk_181 0 17 (dk_at dksJ8_init_2_0 13 rfl rfl)
theorem dJ8_init_2_16 : decode cJ8_init_2 16 = .ok (.aload_n 0, 1) := dk_42 (dk_at dksJ8_init_2_0 16 rfl rfl)
theorem dJ8_init_2_17 : decode cJ8_init_2 17 = .ok (.getstatic 20, 3) := dk_178 0 20 (dk_at dksJ8_init_2_0 17 rfl rfl)
theorem dJ8_init_2_20 : decode cJ8_init_2 20 = .ok (.putfield 24, 3) := dk_181 0 24 (dk_at dksJ8_init_2_0 20 rfl rfl)
theorem dJ8_init_2_23 : decode cJ8_init_2 23 = .ok (.iload 4, 2) := dk_21 4 (dk_at dksJ8_init_2_1 0 rfl rfl)
theorem dJ8_init_2_25 : decode cJ8_init_2 25 = .ok (.ifCond .eq 11, 3) := dk_153 0 11 (dk_at dksJ8_init_2_1 2 rfl rfl)
theorem dJ8_init_2_28 : decode cJ8_init_2 28 = .ok (.aload_n 0, 1) := dk_42 (dk_at dksJ8_init_2_1 5 rfl rfl)
theorem dJ8_init_2_29 : decode cJ8_init_2 29 = .ok (.invokevirtual 27, 3) := dk_182 0 27 (dk_at dksJ8_init_2_1 6 rfl rfl)
theorem dJ8_init_2_32 : decode cJ8_init_2 32 = .ok (.pop, 1) := dk_87 (dk_at dksJ8_init_2_1 9 rfl rfl)
theorem dJ8_init_2_33 : decode cJ8_init_2 33 = .ok (.goto 8, 3) := dk_167 0 8 (dk_at dksJ8_init_2_1 10 rfl rfl)
theorem dJ8_init_2_36 : decode cJ8_init_2 36 = .ok (.aload_n 0, 1) := dk_42 (dk_at dksJ8_init_2_1 13 rfl rfl)
theorem dJ8_init_2_37 : decode cJ8_init_2 37 = .ok (.aconst_null, 1) := dk_1 (dk_at dksJ8_init_2_1 14 rfl rfl)
theorem dJ8_init_2_38 : decode cJ8_init_2 38 = .ok (.putfield 17, 3) := dk_181 0 17 (dk_at dksJ8_init_2_1 15 rfl rfl)
theorem dJ8_init_2_41 : decode cJ8_init_2 41 = .ok (.aload_n 0, 1) := dk_42 (dk_at dksJ8_init_2_1 18 rfl rfl)
theorem dJ8_init_2_42 : decode cJ8_init_2 42 = .ok (.aload_n 1, 1) := dk_43 (dk_at dksJ8_init_2_1 19 rfl rfl)
theorem dJ8_init_2_43 : decode cJ8_init_2 43 = .ok (.putfield 31, 3) := dk_181 0 31 (dk_at dksJ8_init_2_1 20 rfl rfl)
theorem dJ8_init_2_46 : decode cJ8_init_2 46 = .ok (.aload_n 0, 1) := dk_42 (dk_at dksJ8_init_2_1 23 rfl rfl)
theorem dJ8_init_2_47 : decode cJ8_init_2 47 = .ok (.aload_n 2, 1) := dk_44 (dk_at dksJ8_init_2_2 0 rfl rfl)
theorem dJ8_init_2_48 : decode cJ8_init_2 48 = .ok (.putfield 7, 3) := dk_181 0 7 (dk_at dksJ8_init_2_2 1 rfl rfl)
theorem dJ8_init_2_51 : decode cJ8_init_2 51 = .ok (.iload_n 3, 1) := dk_29 (dk_at dksJ8_init_2_2 4 rfl rfl)
theorem dJ8_init_2_52 : decode cJ8_init_2 52 = .ok (.ifCond .ne 8, 3) := dk_154 0 8 (dk_at dksJ8_init_2_2 5 rfl rfl)
theorem dJ8_init_2_55 : decode cJ8_init_2 55 = .ok (.aload_n 0, 1) := dk_42 (dk_at dksJ8_init_2_2 8 rfl rfl)
theorem dJ8_init_2_56 : decode cJ8_init_2 56 = .ok (.aconst_null, 1) := dk_1 (dk_at dksJ8_init_2_2 9 rfl rfl)
theorem dJ8_init_2_57 : decode cJ8_init_2 57 = .ok (.putfield 24, 3) := dk_181 0 24 (dk_at dksJ8_init_2_2 10 rfl rfl)
theorem dJ8_init_2_60 : decode cJ8_init_2 60 = .ok (.return_, 1) := dk_177 (dk_at dksJ8_init_2_2 13 rfl rfl)
theorem q131 : (Jvm.Cond.initialized "java/lang/Throwable") ∈ lw_all := lw_g (lw_at lw_m1 24 rfl) rfl
theorem q840 : (Jvm.Cond.declares ({ cls := "java/lang/Throwable", name := "<init>", desc := "()V" } : Jvm.MethodName)) ∈ lw_tbl := lw_at lw_m4 13 rfl
theorem q841 : (Jvm.Cond.declares ({ cls := "java/lang/Throwable", name := "<init>", desc := "(Ljava/lang/String;)V" } : Jvm.MethodName)) ∈ lw_tbl := lw_at lw_m4 14 rfl
theorem q845 : (Jvm.Cond.lays "java/lang/Throwable" "java/lang/Throwable" "cause" "Ljava/lang/Throwable;") ∈ lw_all := lw_g (lw_at lw_m4 18 rfl) rfl
theorem q847 : (Jvm.Cond.lays "java/lang/Throwable" "java/lang/Throwable" "stackTrace" "[Ljava/lang/StackTraceElement;") ∈ lw_all := lw_g (lw_at lw_m4 20 rfl) rfl
theorem q849 : (Jvm.Cond.lays "java/lang/Throwable" "java/lang/Throwable" "suppressedExceptions" "Ljava/util/List;") ∈ lw_all := lw_g (lw_at lw_m4 22 rfl) rfl
theorem q851 : (Jvm.Cond.lays "java/lang/Throwable" "java/lang/Throwable" "detailMessage" "Ljava/lang/String;") ∈ lw_all := lw_g (lw_at lw_m4 24 rfl) rfl
theorem q853 : (Jvm.Cond.lays "java/lang/Throwable" "java/lang/Throwable" "backtrace" "Ljava/lang/Object;") ∈ lw_all := lw_g (lw_at lw_m4 26 rfl) rfl
theorem q854 : (Jvm.Cond.fieldLink "java/lang/Throwable" (198 : Nat) "java/lang/Throwable" "backtrace" "Ljava/lang/Object;") ∈ lw_all := lw_g (lw_at lw_m4 27 rfl) rfl
theorem q855 : (Jvm.Cond.superclass "java/lang/Throwable" "java/lang/Object") ∈ lw_all := lw_g (lw_at lw_m4 28 rfl) rfl
theorem q856 : (Jvm.Cond.instanceMethod ({ cls := "java/lang/Throwable", name := "<init>", desc := "()V" } : Jvm.MethodName)) ∈ lw_all := lw_g (lw_at lw_m4 29 rfl) rfl
theorem q857 : (Jvm.Cond.code ({ cls := "java/lang/Throwable", name := "<init>", desc := "()V" } : Jvm.MethodName) prog_25_method_1_code (1 : Nat) (Option.none : Option Jvm.ClassFile.FieldType)) ∈ lw_all := lw_g (lw_at lw_m4 30 rfl) rfl
theorem q858 : (Jvm.Cond.methodLink "java/lang/Throwable" (1 : Nat) ({ cls := "java/lang/Object", name := "<init>", desc := "()V" } : Jvm.MethodName)) ∈ lw_all := lw_g (lw_at lw_m4 31 rfl) rfl
theorem q859 : (Jvm.Cond.fieldLink "java/lang/Throwable" (13 : Nat) "java/lang/Throwable" "UNASSIGNED_STACK" "[Ljava/lang/StackTraceElement;") ∈ lw_all := lw_g (lw_at lw_m4 32 rfl) rfl
theorem q860 : (Jvm.Cond.laysStatic "java/lang/Throwable" "UNASSIGNED_STACK" "[Ljava/lang/StackTraceElement;") ∈ lw_tbl := lw_at lw_m4 33 rfl
theorem q861 : (Jvm.Cond.fieldLink "java/lang/Throwable" (20 : Nat) "java/lang/Throwable" "SUPPRESSED_SENTINEL" "Ljava/util/List;") ∈ lw_all := lw_g (lw_at lw_m4 34 rfl) rfl
theorem q862 : (Jvm.Cond.laysStatic "java/lang/Throwable" "SUPPRESSED_SENTINEL" "Ljava/util/List;") ∈ lw_tbl := lw_at lw_m4 35 rfl
theorem q863 : (Jvm.Cond.methodLink "java/lang/Throwable" (27 : Nat) ({ cls := "java/lang/Throwable", name := "fillInStackTrace", desc := "()Ljava/lang/Throwable;" } : Jvm.MethodName)) ∈ lw_all := lw_g (lw_at lw_m4 36 rfl) rfl
theorem q864 : (Jvm.Cond.instanceMethod ({ cls := "java/lang/Throwable", name := "fillInStackTrace", desc := "()Ljava/lang/Throwable;" } : Jvm.MethodName)) ∈ lw_all := lw_g (lw_at lw_m4 37 rfl) rfl
theorem q865 : (Jvm.Cond.sameMethod "java/lang/Throwable" "java/lang/Throwable" "fillInStackTrace" "()Ljava/lang/Throwable;") ∈ lw_all := lw_g (lw_at lw_m4 38 rfl) rfl
theorem q868 : (Jvm.Cond.codeSync ({ cls := "java/lang/Throwable", name := "fillInStackTrace", desc := "()Ljava/lang/Throwable;" } : Jvm.MethodName) prog_25_method_18_code (1 : Nat) (Option.some (Jvm.ClassFile.FieldType.object "java/lang/Throwable"))) ∈ lw_all := lw_g (lw_at lw_m4 41 rfl) rfl
theorem q869 : (Jvm.Cond.methodLink "java/lang/Throwable" (202 : Nat) ({ cls := "java/lang/Throwable", name := "fillInStackTrace", desc := "(I)Ljava/lang/Throwable;" } : Jvm.MethodName)) ∈ lw_all := lw_g (lw_at lw_m4 42 rfl) rfl
theorem q870 : (Jvm.Cond.privateMethod ({ cls := "java/lang/Throwable", name := "fillInStackTrace", desc := "(I)Ljava/lang/Throwable;" } : Jvm.MethodName)) ∈ lw_tbl := lw_at lw_m4 43 rfl
theorem q871 : (Jvm.Cond.instanceMethod ({ cls := "java/lang/Throwable", name := "fillInStackTrace", desc := "(I)Ljava/lang/Throwable;" } : Jvm.MethodName)) ∈ lw_all := lw_g (lw_at lw_m4 44 rfl) rfl
theorem q872 : (Jvm.Cond.instantiable "java/lang/Throwable" (6 : Nat)) ∈ lw_all := lw_g (lw_at lw_m4 45 rfl) rfl
theorem q873 : (Jvm.Cond.native ({ cls := "java/lang/Throwable", name := "fillInStackTrace", desc := "(I)Ljava/lang/Throwable;" } : Jvm.MethodName)) ∈ lw_all := lw_g (lw_at lw_m4 46 rfl) rfl
theorem q884 : (Jvm.Cond.fieldLink "java/lang/Throwable" (198 : Nat) "java/lang/Throwable" "backtrace" "Ljava/lang/Object;") ∈ lw_all := lw_g (lw_at lw_m4 57 rfl) rfl
theorem q885 : (Jvm.Cond.fieldLink "java/lang/Throwable" (31 : Nat) "java/lang/Throwable" "detailMessage" "Ljava/lang/String;") ∈ lw_all := lw_g (lw_at lw_m4 58 rfl) rfl
theorem q886 : (Jvm.Cond.fieldLink "java/lang/Throwable" (7 : Nat) "java/lang/Throwable" "cause" "Ljava/lang/Throwable;") ∈ lw_all := lw_g (lw_at lw_m4 59 rfl) rfl
theorem q887 : (Jvm.Cond.fieldLink "java/lang/Throwable" (17 : Nat) "java/lang/Throwable" "stackTrace" "[Ljava/lang/StackTraceElement;") ∈ lw_all := lw_g (lw_at lw_m4 60 rfl) rfl
theorem q888 : (Jvm.Cond.fieldLink "java/lang/Throwable" (24 : Nat) "java/lang/Throwable" "suppressedExceptions" "Ljava/util/List;") ∈ lw_all := lw_g (lw_at lw_m4 61 rfl) rfl
theorem q889 : (Jvm.Cond.soleField "java/lang/Throwable" "backtrace") ∈ lw_all := lw_g (lw_at lw_m4 62 rfl) rfl
theorem q890 : (Jvm.Cond.soleField "java/lang/Throwable" "detailMessage") ∈ lw_all := lw_g (lw_at lw_m4 63 rfl) rfl
theorem q891 : (Jvm.Cond.soleField "java/lang/Throwable" "cause") ∈ lw_all := lw_g (lw_at lw_m4 64 rfl) rfl
theorem q892 : (Jvm.Cond.soleField "java/lang/Throwable" "stackTrace") ∈ lw_all := lw_g (lw_at lw_m4 65 rfl) rfl
theorem q894 : (Jvm.Cond.soleField "java/lang/Throwable" "depth") ∈ lw_all := lw_g (lw_at lw_m4 67 rfl) rfl
theorem q895 : (Jvm.Cond.soleField "java/lang/Throwable" "suppressedExceptions") ∈ lw_all := lw_g (lw_at lw_m4 68 rfl) rfl
theorem q1014 : (Jvm.Cond.instanceMethod ({ cls := "java/lang/Throwable", name := "<init>", desc := "(Ljava/lang/String;Ljava/lang/Throwable;ZZ)V" } : Jvm.MethodName)) ∈ lw_all := lw_g (lw_at lw_m4 187 rfl) rfl
theorem q1015 : (Jvm.Cond.code ({ cls := "java/lang/Throwable", name := "<init>", desc := "(Ljava/lang/String;Ljava/lang/Throwable;ZZ)V" } : Jvm.MethodName) prog_25_method_5_code (5 : Nat) (Option.none : Option Jvm.ClassFile.FieldType)) ∈ lw_all := lw_g (lw_at lw_m4 188 rfl) rfl
theorem q1738 : (Jvm.Cond.sameMethod "java/lang/Throwable" "java/lang/Throwable" "fillInStackTrace" "(I)Ljava/lang/Throwable;") ∈ lw_all := lw_g (lw_at lw_m7 191 rfl) rfl
theorem q1760 : (Jvm.Cond.castable "java/lang/Throwable" "java/lang/Object") ∈ lw_tbl := lw_at lw_m7 213 rfl
theorem in_J8 : ∀ w ∈ wsJ80, w ∈ lw_all := lw_in wsJ80 [845, 847, 849, 851, 853] (by decide +kernel) (by decide +kernel)
/-! java/lang/Exception -/
set_option maxRecDepth 100000
def RJ9 : String := "java/lang/Exception"
abbrev cJ9_init : ByteArray := prog_19_method_1_code
def yJ9_init : MethodName := ⟨RJ9, "<init>", "()V"⟩
theorem dJ9_init_0 : decode cJ9_init 0 = .ok (.aload_n 0, 1) := by decide +kernel
theorem dJ9_init_1 : decode cJ9_init 1 = .ok (.invokespecial 1, 3) := by decide +kernel
theorem dJ9_init_4 : decode cJ9_init 4 = .ok (.return_, 1) := by decide +kernel
abbrev cJ9_init_2 : ByteArray := prog_19_method_5_code
def yJ9_init_2 : MethodName := ⟨RJ9, "<init>", "(Ljava/lang/String;Ljava/lang/Throwable;ZZ)V"⟩
def dkwJ9_init_2_0 : List UInt8 := [42, 43, 44, 29, 21, 4, 183, 0, 16, 177]
abbrev dktJ9_init_2_0 : List UInt8 := dkwJ9_init_2_0 ++ []
theorem dksJ9_init_2_0 : cJ9_init_2.data.toList.drop 0 = dktJ9_init_2_0 := by decide +kernel
theorem dJ9_init_2_0 : decode cJ9_init_2 0 = .ok (.aload_n 0, 1) := dk_42 (dk_at dksJ9_init_2_0 0 rfl rfl)
theorem dJ9_init_2_1 : decode cJ9_init_2 1 = .ok (.aload_n 1, 1) := dk_43 (dk_at dksJ9_init_2_0 1 rfl rfl)
theorem dJ9_init_2_2 : decode cJ9_init_2 2 = .ok (.aload_n 2, 1) := dk_44 (dk_at dksJ9_init_2_0 2 rfl rfl)
theorem dJ9_init_2_3 : decode cJ9_init_2 3 = .ok (.iload_n 3, 1) := dk_29 (dk_at dksJ9_init_2_0 3 rfl rfl)
theorem dJ9_init_2_4 : decode cJ9_init_2 4 = .ok (.iload 4, 2) := dk_21 4 (dk_at dksJ9_init_2_0 4 rfl rfl)
theorem dJ9_init_2_6 : decode cJ9_init_2 6 = .ok (.invokespecial 16, 3) := dk_183 0 16 (dk_at dksJ9_init_2_0 6 rfl rfl)
theorem dJ9_init_2_9 : decode cJ9_init_2 9 = .ok (.return_, 1) := dk_177 (dk_at dksJ9_init_2_0 9 rfl rfl)
theorem q132 : (Jvm.Cond.initialized "java/lang/Exception") ∈ lw_all := lw_g (lw_at lw_m1 25 rfl) rfl
theorem q838 : (Jvm.Cond.declares ({ cls := "java/lang/Exception", name := "<init>", desc := "()V" } : Jvm.MethodName)) ∈ lw_tbl := lw_at lw_m4 11 rfl
theorem q839 : (Jvm.Cond.declares ({ cls := "java/lang/Exception", name := "<init>", desc := "(Ljava/lang/String;)V" } : Jvm.MethodName)) ∈ lw_tbl := lw_at lw_m4 12 rfl
theorem q881 : (Jvm.Cond.instanceMethod ({ cls := "java/lang/Exception", name := "<init>", desc := "()V" } : Jvm.MethodName)) ∈ lw_all := lw_g (lw_at lw_m4 54 rfl) rfl
theorem q882 : (Jvm.Cond.code ({ cls := "java/lang/Exception", name := "<init>", desc := "()V" } : Jvm.MethodName) prog_19_method_1_code (1 : Nat) (Option.none : Option Jvm.ClassFile.FieldType)) ∈ lw_all := lw_g (lw_at lw_m4 55 rfl) rfl
theorem q883 : (Jvm.Cond.methodLink "java/lang/Exception" (1 : Nat) ({ cls := "java/lang/Throwable", name := "<init>", desc := "()V" } : Jvm.MethodName)) ∈ lw_all := lw_g (lw_at lw_m4 56 rfl) rfl
theorem q1011 : (Jvm.Cond.instanceMethod ({ cls := "java/lang/Exception", name := "<init>", desc := "(Ljava/lang/String;Ljava/lang/Throwable;ZZ)V" } : Jvm.MethodName)) ∈ lw_all := lw_g (lw_at lw_m4 184 rfl) rfl
theorem q1012 : (Jvm.Cond.code ({ cls := "java/lang/Exception", name := "<init>", desc := "(Ljava/lang/String;Ljava/lang/Throwable;ZZ)V" } : Jvm.MethodName) prog_19_method_5_code (5 : Nat) (Option.none : Option Jvm.ClassFile.FieldType)) ∈ lw_all := lw_g (lw_at lw_m4 185 rfl) rfl
theorem q1013 : (Jvm.Cond.methodLink "java/lang/Exception" (16 : Nat) ({ cls := "java/lang/Throwable", name := "<init>", desc := "(Ljava/lang/String;Ljava/lang/Throwable;ZZ)V" } : Jvm.MethodName)) ∈ lw_all := lw_g (lw_at lw_m4 186 rfl) rfl
theorem q1767 : (Jvm.Cond.castable "[B" "java/lang/Object") ∈ lw_tbl := lw_at lw_m7 220 rfl
set_option maxRecDepth 100000
theorem q1765 : (Jvm.Cond.castable "[I" "java/lang/Object") ∈ lw_tbl := lw_at lw_m7 218 rfl
set_option maxRecDepth 100000
theorem q1769 : (Jvm.Cond.castable "[J" "java/lang/Object") ∈ lw_tbl := lw_at lw_m7 222 rfl
set_option maxRecDepth 100000
theorem q1764 : (Jvm.Cond.castable "[LMatrixPress$Symbol;" "java/lang/Object") ∈ lw_tbl := lw_at lw_m7 217 rfl
set_option maxRecDepth 100000
theorem q1761 : (Jvm.Cond.sameMethod "[Ljava/lang/Object;" "java/lang/Object" "getClass" "()Ljava/lang/Class;") ∈ lw_all := lw_g (lw_at lw_m7 214 rfl) rfl
set_option maxRecDepth 100000
theorem q1762 : (Jvm.Cond.selects "[Ljava/lang/Object;" ({ cls := "java/lang/Object", name := "getClass", desc := "()Ljava/lang/Class;" } : Jvm.MethodName) ({ cls := "java/lang/Object", name := "getClass", desc := "()Ljava/lang/Class;" } : Jvm.MethodName)) ∈ lw_all := lw_g (lw_at lw_m7 215 rfl) rfl
theorem q1768 : (Jvm.Cond.castable "[Ljava/lang/Object;" "java/lang/Object") ∈ lw_tbl := lw_at lw_m7 221 rfl
theorem q1766 : (Jvm.Cond.castable "[Z" "java/lang/Object") ∈ lw_tbl := lw_at lw_m7 219 rfl
set_option maxRecDepth 100000
theorem q122 : (Jvm.Cond.initialized "java/lang/System") ∈ lw_all := lw_g (lw_at lw_m1 15 rfl) rfl
set_option maxRecDepth 100000
theorem q428 : (Jvm.Cond.static ({ cls := "java/lang/System", name := "arraycopy", desc := "(Ljava/lang/Object;ILjava/lang/Object;II)V" } : Jvm.MethodName)) ∈ lw_all := lw_g (lw_at lw_m2 81 rfl) rfl
theorem q429 : (Jvm.Cond.native ({ cls := "java/lang/System", name := "arraycopy", desc := "(Ljava/lang/Object;ILjava/lang/Object;II)V" } : Jvm.MethodName)) ∈ lw_all := lw_g (lw_at lw_m2 82 rfl) rfl
theorem q146 : (Jvm.Cond.arrayOver (Jvm.ClassFile.FieldType.object "MatrixPress$Symbol")) ∈ lw_tbl := lw_at lw_m1 39 rfl
set_option maxRecDepth 100000
theorem q177 : (Jvm.Cond.arrayClass Jvm.ClassFile.FieldType.int) ∈ lw_all := lw_g (lw_at lw_m1 70 rfl) rfl
theorem q178 : (Jvm.Cond.arrayClass Jvm.ClassFile.FieldType.boolean) ∈ lw_all := lw_g (lw_at lw_m1 71 rfl) rfl
theorem q242 : (Jvm.Cond.arrayClass Jvm.ClassFile.FieldType.byte) ∈ lw_all := lw_g (lw_at lw_m1 135 rfl) rfl
theorem q256 : (Jvm.Cond.arrayOver (Jvm.ClassFile.FieldType.object "java/lang/Object")) ∈ lw_tbl := lw_at lw_m1 149 rfl
theorem q1734 : (Jvm.Cond.arrayClass Jvm.ClassFile.FieldType.long) ∈ lw_all := lw_g (lw_at lw_m7 187 rfl) rfl
/-! the law's own entry -/
set_option maxRecDepth 100000
abbrev cL_law : ByteArray := code
def dkwL_law_26 : List UInt8 := [167, 253, 140, 4, 172]
abbrev dktL_law_26 : List UInt8 := dkwL_law_26 ++ []
def dkwL_law_25 : List UInt8 := [96, 46, 182, 0, 79, 44, 42, 21, 4, 4, 96, 46, 182, 0, 82, 159, 0, 5, 3, 172, 132, 4, 8]
abbrev dktL_law_25 : List UInt8 := dkwL_law_25 ++ dktL_law_26
def dkwL_law_24 : List UInt8 := [21, 4, 4, 96, 46, 42, 21, 4, 5, 96, 46, 182, 0, 78, 159, 0, 30, 3, 172, 43, 42, 21, 4, 4]
abbrev dktL_law_24 : List UInt8 := dkwL_law_24 ++ dktL_law_25
def dkwL_law_23 : List UInt8 := [159, 0, 67, 3, 172, 43, 42, 21, 4, 4, 96, 46, 42, 21, 4, 5, 96, 46, 182, 0, 75, 44, 42]
abbrev dktL_law_23 : List UInt8 := dkwL_law_23 ++ dktL_law_24
def dkwL_law_22 : List UInt8 := [5, 96, 46, 182, 0, 71, 44, 42, 21, 4, 4, 96, 46, 42, 21, 4, 5, 96, 46, 182, 0, 74]
abbrev dktL_law_22 : List UInt8 := dkwL_law_22 ++ dktL_law_23
def dkwL_law_21 : List UInt8 := [42, 21, 4, 4, 96, 46, 182, 0, 70, 159, 0, 104, 3, 172, 43, 42, 21, 4, 4, 96, 46, 42, 21, 4]
abbrev dktL_law_21 : List UInt8 := dkwL_law_21 ++ dktL_law_22
def dkwL_law_20 : List UInt8 := [21, 4, 5, 96, 46, 182, 0, 66, 159, 0, 129, 3, 172, 43, 42, 21, 4, 4, 96, 46, 182, 0, 67, 44]
abbrev dktL_law_20 : List UInt8 := dkwL_law_20 ++ dktL_law_21
def dkwL_law_19 : List UInt8 := [43, 42, 21, 4, 4, 96, 46, 42, 21, 4, 5, 96, 46, 182, 0, 62, 44, 42, 21, 4, 4, 96, 46, 42]
abbrev dktL_law_19 : List UInt8 := dkwL_law_19 ++ dktL_law_20
def dkwL_law_18 : List UInt8 := [182, 0, 58, 44, 42, 21, 4, 4, 96, 46, 42, 21, 4, 5, 96, 46, 182, 0, 61, 159, 0, 166, 3, 172]
abbrev dktL_law_18 : List UInt8 := dkwL_law_18 ++ dktL_law_19
def dkwL_law_17 : List UInt8 := [96, 46, 182, 0, 57, 159, 0, 203, 3, 172, 43, 42, 21, 4, 4, 96, 46, 42, 21, 4, 5, 96, 46]
abbrev dktL_law_17 : List UInt8 := dkwL_law_17 ++ dktL_law_18
def dkwL_law_16 : List UInt8 := [44, 182, 0, 53, 159, 0, 228, 3, 172, 43, 42, 21, 4, 4, 96, 46, 182, 0, 54, 44, 42, 21, 4, 4]
abbrev dktL_law_16 : List UInt8 := dkwL_law_16 ++ dktL_law_17
def dkwL_law_15 : List UInt8 := [96, 46, 182, 0, 45, 44, 42, 21, 4, 4, 96, 46, 182, 0, 49, 159, 0, 241, 3, 172, 43, 182, 0, 50]
abbrev dktL_law_15 : List UInt8 := dkwL_law_15 ++ dktL_law_16
def dkwL_law_14 : List UInt8 := [46, 182, 0, 41, 44, 42, 21, 4, 4, 96, 46, 182, 0, 44, 159, 1, 10, 3, 172, 43, 42, 21, 4, 4]
abbrev dktL_law_14 : List UInt8 := dkwL_law_14 ++ dktL_law_15
def dkwL_law_13 : List UInt8 := [154, 0, 15, 45, 3, 47, 21, 6, 133, 148, 153, 0, 5, 3, 172, 167, 1, 33, 43, 42, 21, 4, 4, 96]
abbrev dktL_law_13 : List UInt8 := dkwL_law_13 ++ dktL_law_14
def dkwL_law_12 : List UInt8 := [42, 21, 4, 5, 96, 46, 182, 0, 36, 54, 6, 44, 182, 0, 37, 21, 5, 159, 0, 5, 3, 172, 21, 5]
abbrev dktL_law_12 : List UInt8 := dkwL_law_12 ++ dktL_law_13
def dkwL_law_11 : List UInt8 := [21, 4, 4, 96, 46, 42, 21, 4, 5, 96, 46, 45, 184, 0, 31, 54, 5, 44, 42, 21, 4, 4, 96, 46]
abbrev dktL_law_11 : List UInt8 := dkwL_law_11 ++ dktL_law_12
def dkwL_law_10 : List UInt8 := [4, 96, 46, 182, 0, 26, 44, 42, 21, 4, 4, 96, 46, 182, 0, 30, 159, 1, 103, 3, 172, 43, 42]
abbrev dktL_law_10 : List UInt8 := dkwL_law_10 ++ dktL_law_11
def dkwL_law_9 : List UInt8 := [21, 4, 16, 7, 96, 46, 133, 20, 0, 19, 127, 129, 182, 0, 25, 159, 1, 128, 3, 172, 43, 42, 21, 4]
abbrev dktL_law_9 : List UInt8 := dkwL_law_9 ++ dktL_law_10
def dkwL_law_8 : List UInt8 := [21, 4, 8, 96, 46, 133, 20, 0, 19, 127, 129, 42, 21, 4, 16, 6, 96, 46, 133, 16, 32, 121, 42]
abbrev dktL_law_8 : List UInt8 := dkwL_law_8 ++ dktL_law_9
def dkwL_law_7 : List UInt8 := [121, 42, 21, 4, 6, 96, 46, 133, 20, 0, 19, 127, 129, 42, 21, 4, 7, 96, 46, 133, 16, 32, 121, 42]
abbrev dktL_law_7 : List UInt8 := dkwL_law_7 ++ dktL_law_8
def dkwL_law_6 : List UInt8 := [20, 0, 19, 127, 129, 182, 0, 21, 44, 42, 21, 4, 4, 96, 46, 42, 21, 4, 5, 96, 46, 133, 16, 32]
abbrev dktL_law_6 : List UInt8 := dkwL_law_6 ++ dktL_law_7
def dkwL_law_5 : List UInt8 := [20, 0, 19, 127, 129, 42, 21, 4, 16, 6, 96, 46, 133, 16, 32, 121, 42, 21, 4, 16, 7, 96, 46, 133]
abbrev dktL_law_5 : List UInt8 := dkwL_law_5 ++ dktL_law_6
def dkwL_law_4 : List UInt8 := [20, 0, 19, 127, 129, 42, 21, 4, 7, 96, 46, 133, 16, 32, 121, 42, 21, 4, 8, 96, 46, 133]
abbrev dktL_law_4 : List UInt8 := dkwL_law_4 ++ dktL_law_5
def dkwL_law_3 : List UInt8 := [43, 42, 21, 4, 4, 96, 46, 42, 21, 4, 5, 96, 46, 133, 16, 32, 121, 42, 21, 4, 6, 96, 46, 133]
abbrev dktL_law_3 : List UInt8 := dkwL_law_3 ++ dktL_law_4
def dkwL_law_2 : List UInt8 := [170, 0, 0, 0, 0, 0, 2, 96, 0, 0, 0, 0, 0, 0, 0, 12, 0, 0, 0, 68, 0, 0, 0, 229, 0, 0, 0, 254, 0, 0, 1, 66, 0, 0, 1, 91, 0, 0, 1, 116, 0, 0, 1, 129, 0, 0, 1, 154, 0, 0, 1, 191, 0, 0, 1, 228, 0, 0, 1, 253, 0, 0, 2, 34, 0, 0, 2, 71]
abbrev dktL_law_2 : List UInt8 := dkwL_law_2 ++ dktL_law_3
def dkwL_law_1 : List UInt8 := [21, 4, 42, 190, 16, 8, 100, 163, 2, 112, 42, 21, 4, 46, 16, 15, 126]
abbrev dktL_law_1 : List UInt8 := dkwL_law_1 ++ dktL_law_2
def dkwL_law_0 : List UInt8 := [187, 0, 8, 89, 183, 0, 15, 76, 187, 0, 16, 89, 183, 0, 18, 77, 4, 188, 11, 78, 3, 54, 4]
abbrev dktL_law_0 : List UInt8 := dkwL_law_0 ++ dktL_law_1
theorem dksL_law_0 : cL_law.data.toList.drop 0 = dktL_law_0 := by decide +kernel
theorem dksL_law_1 : cL_law.data.toList.drop 23 = dktL_law_1 := dk_seg dksL_law_0 23 rfl rfl
theorem dksL_law_2 : cL_law.data.toList.drop 40 = dktL_law_2 := dk_seg dksL_law_1 17 rfl rfl
theorem dksL_law_3 : cL_law.data.toList.drop 108 = dktL_law_3 := dk_seg dksL_law_2 68 rfl rfl
theorem dksL_law_4 : cL_law.data.toList.drop 132 = dktL_law_4 := dk_seg dksL_law_3 24 rfl rfl
theorem dksL_law_5 : cL_law.data.toList.drop 154 = dktL_law_5 := dk_seg dksL_law_4 22 rfl rfl
theorem dksL_law_6 : cL_law.data.toList.drop 178 = dktL_law_6 := dk_seg dksL_law_5 24 rfl rfl
theorem dksL_law_7 : cL_law.data.toList.drop 202 = dktL_law_7 := dk_seg dksL_law_6 24 rfl rfl
theorem dksL_law_8 : cL_law.data.toList.drop 226 = dktL_law_8 := dk_seg dksL_law_7 24 rfl rfl
theorem dksL_law_9 : cL_law.data.toList.drop 249 = dktL_law_9 := dk_seg dksL_law_8 23 rfl rfl
theorem dksL_law_10 : cL_law.data.toList.drop 273 = dktL_law_10 := dk_seg dksL_law_9 24 rfl rfl
theorem dksL_law_11 : cL_law.data.toList.drop 296 = dktL_law_11 := dk_seg dksL_law_10 23 rfl rfl
theorem dksL_law_12 : cL_law.data.toList.drop 320 = dktL_law_12 := dk_seg dksL_law_11 24 rfl rfl
theorem dksL_law_13 : cL_law.data.toList.drop 344 = dktL_law_13 := dk_seg dksL_law_12 24 rfl rfl
theorem dksL_law_14 : cL_law.data.toList.drop 368 = dktL_law_14 := dk_seg dksL_law_13 24 rfl rfl
theorem dksL_law_15 : cL_law.data.toList.drop 392 = dktL_law_15 := dk_seg dksL_law_14 24 rfl rfl
theorem dksL_law_16 : cL_law.data.toList.drop 416 = dktL_law_16 := dk_seg dksL_law_15 24 rfl rfl
theorem dksL_law_17 : cL_law.data.toList.drop 440 = dktL_law_17 := dk_seg dksL_law_16 24 rfl rfl
theorem dksL_law_18 : cL_law.data.toList.drop 463 = dktL_law_18 := dk_seg dksL_law_17 23 rfl rfl
theorem dksL_law_19 : cL_law.data.toList.drop 487 = dktL_law_19 := dk_seg dksL_law_18 24 rfl rfl
theorem dksL_law_20 : cL_law.data.toList.drop 511 = dktL_law_20 := dk_seg dksL_law_19 24 rfl rfl
theorem dksL_law_21 : cL_law.data.toList.drop 535 = dktL_law_21 := dk_seg dksL_law_20 24 rfl rfl
theorem dksL_law_22 : cL_law.data.toList.drop 559 = dktL_law_22 := dk_seg dksL_law_21 24 rfl rfl
theorem dksL_law_23 : cL_law.data.toList.drop 581 = dktL_law_23 := dk_seg dksL_law_22 22 rfl rfl
theorem dksL_law_24 : cL_law.data.toList.drop 604 = dktL_law_24 := dk_seg dksL_law_23 23 rfl rfl
theorem dksL_law_25 : cL_law.data.toList.drop 628 = dktL_law_25 := dk_seg dksL_law_24 24 rfl rfl
theorem dksL_law_26 : cL_law.data.toList.drop 651 = dktL_law_26 := dk_seg dksL_law_25 23 rfl rfl
theorem dL_law_0 : decode cL_law 0 = .ok (.new 8, 3) := dk_187 0 8 (dk_at dksL_law_0 0 rfl rfl)
theorem dL_law_3 : decode cL_law 3 = .ok (.dup, 1) := dk_89 (dk_at dksL_law_0 3 rfl rfl)
theorem dL_law_4 : decode cL_law 4 = .ok (.invokespecial 15, 3) := dk_183 0 15 (dk_at dksL_law_0 4 rfl rfl)
theorem dL_law_7 : decode cL_law 7 = .ok (.astore_n 1, 1) := dk_76 (dk_at dksL_law_0 7 rfl rfl)
theorem dL_law_8 : decode cL_law 8 = .ok (.new 16, 3) := dk_187 0 16 (dk_at dksL_law_0 8 rfl rfl)
theorem dL_law_11 : decode cL_law 11 = .ok (.dup, 1) := dk_89 (dk_at dksL_law_0 11 rfl rfl)
theorem dL_law_12 : decode cL_law 12 = .ok (.invokespecial 18, 3) := dk_183 0 18 (dk_at dksL_law_0 12 rfl rfl)
theorem dL_law_15 : decode cL_law 15 = .ok (.astore_n 2, 1) := dk_77 (dk_at dksL_law_0 15 rfl rfl)
theorem dL_law_16 : decode cL_law 16 = .ok (.iconst 1, 1) := dk_4 (dk_at dksL_law_0 16 rfl rfl)
theorem dL_law_17 : decode cL_law 17 = .ok (.newarray .long, 2) := dk_188_11 (dk_at dksL_law_0 17 rfl rfl)
theorem dL_law_19 : decode cL_law 19 = .ok (.astore_n 3, 1) := dk_78 (dk_at dksL_law_0 19 rfl rfl)
theorem dL_law_20 : decode cL_law 20 = .ok (.iconst 0, 1) := dk_3 (dk_at dksL_law_0 20 rfl rfl)
theorem dL_law_21 : decode cL_law 21 = .ok (.istore 4, 2) := dk_54 4 (dk_at dksL_law_0 21 rfl rfl)
theorem dL_law_23 : decode cL_law 23 = .ok (.iload 4, 2) := dk_21 4 (dk_at dksL_law_1 0 rfl rfl)
theorem dL_law_25 : decode cL_law 25 = .ok (.aload_n 0, 1) := dk_42 (dk_at dksL_law_1 2 rfl rfl)
theorem dL_law_26 : decode cL_law 26 = .ok (.arraylength, 1) := dk_190 (dk_at dksL_law_1 3 rfl rfl)
theorem dL_law_27 : decode cL_law 27 = .ok (.bipush 8, 2) := dk_16 8 (dk_at dksL_law_1 4 rfl rfl)
theorem dL_law_29 : decode cL_law 29 = .ok (.isub, 1) := dk_100 (dk_at dksL_law_1 6 rfl rfl)
theorem dL_law_30 : decode cL_law 30 = .ok (.if_icmp .gt 624, 3) := dk_163 2 112 (dk_at dksL_law_1 7 rfl rfl)
theorem dL_law_33 : decode cL_law 33 = .ok (.aload_n 0, 1) := dk_42 (dk_at dksL_law_1 10 rfl rfl)
theorem dL_law_34 : decode cL_law 34 = .ok (.iload 4, 2) := dk_21 4 (dk_at dksL_law_1 11 rfl rfl)
theorem dL_law_36 : decode cL_law 36 = .ok (.iaload, 1) := dk_46 (dk_at dksL_law_1 13 rfl rfl)
theorem dL_law_37 : decode cL_law 37 = .ok (.bipush 15, 2) := dk_16 15 (dk_at dksL_law_1 14 rfl rfl)
theorem dL_law_39 : decode cL_law 39 = .ok (.iand, 1) := dk_126 (dk_at dksL_law_1 16 rfl rfl)
theorem dL_law_40 : decode cL_law 40 = .ok (.tableswitch 608 0 12 #[68, 229, 254, 322, 347, 372, 385, 410, 447, 484, 509, 546, 583], 68) := by decide +kernel
theorem dL_law_108 : decode cL_law 108 = .ok (.aload_n 1, 1) := dk_43 (dk_at dksL_law_3 0 rfl rfl)
theorem dL_law_109 : decode cL_law 109 = .ok (.aload_n 0, 1) := dk_42 (dk_at dksL_law_3 1 rfl rfl)
theorem dL_law_110 : decode cL_law 110 = .ok (.iload 4, 2) := dk_21 4 (dk_at dksL_law_3 2 rfl rfl)
theorem dL_law_112 : decode cL_law 112 = .ok (.iconst 1, 1) := dk_4 (dk_at dksL_law_3 4 rfl rfl)
theorem dL_law_113 : decode cL_law 113 = .ok (.iadd, 1) := dk_96 (dk_at dksL_law_3 5 rfl rfl)
theorem dL_law_114 : decode cL_law 114 = .ok (.iaload, 1) := dk_46 (dk_at dksL_law_3 6 rfl rfl)
theorem dL_law_115 : decode cL_law 115 = .ok (.aload_n 0, 1) := dk_42 (dk_at dksL_law_3 7 rfl rfl)
theorem dL_law_116 : decode cL_law 116 = .ok (.iload 4, 2) := dk_21 4 (dk_at dksL_law_3 8 rfl rfl)
theorem dL_law_118 : decode cL_law 118 = .ok (.iconst 2, 1) := dk_5 (dk_at dksL_law_3 10 rfl rfl)
theorem dL_law_119 : decode cL_law 119 = .ok (.iadd, 1) := dk_96 (dk_at dksL_law_3 11 rfl rfl)
theorem dL_law_120 : decode cL_law 120 = .ok (.iaload, 1) := dk_46 (dk_at dksL_law_3 12 rfl rfl)
theorem dL_law_121 : decode cL_law 121 = .ok (.i2l, 1) := dk_133 (dk_at dksL_law_3 13 rfl rfl)
theorem dL_law_122 : decode cL_law 122 = .ok (.bipush 32, 2) := dk_16 32 (dk_at dksL_law_3 14 rfl rfl)
theorem dL_law_124 : decode cL_law 124 = .ok (.lshl, 1) := dk_121 (dk_at dksL_law_3 16 rfl rfl)
theorem dL_law_125 : decode cL_law 125 = .ok (.aload_n 0, 1) := dk_42 (dk_at dksL_law_3 17 rfl rfl)
theorem dL_law_126 : decode cL_law 126 = .ok (.iload 4, 2) := dk_21 4 (dk_at dksL_law_3 18 rfl rfl)
theorem dL_law_128 : decode cL_law 128 = .ok (.iconst 3, 1) := dk_6 (dk_at dksL_law_3 20 rfl rfl)
theorem dL_law_129 : decode cL_law 129 = .ok (.iadd, 1) := dk_96 (dk_at dksL_law_3 21 rfl rfl)
theorem dL_law_130 : decode cL_law 130 = .ok (.iaload, 1) := dk_46 (dk_at dksL_law_3 22 rfl rfl)
theorem dL_law_131 : decode cL_law 131 = .ok (.i2l, 1) := dk_133 (dk_at dksL_law_3 23 rfl rfl)
theorem dL_law_132 : decode cL_law 132 = .ok (.ldc2_w 19, 3) := dk_20 0 19 (dk_at dksL_law_4 0 rfl rfl)
theorem dL_law_135 : decode cL_law 135 = .ok (.land, 1) := dk_127 (dk_at dksL_law_4 3 rfl rfl)
theorem dL_law_136 : decode cL_law 136 = .ok (.lor, 1) := dk_129 (dk_at dksL_law_4 4 rfl rfl)
theorem dL_law_137 : decode cL_law 137 = .ok (.aload_n 0, 1) := dk_42 (dk_at dksL_law_4 5 rfl rfl)
theorem dL_law_138 : decode cL_law 138 = .ok (.iload 4, 2) := dk_21 4 (dk_at dksL_law_4 6 rfl rfl)
theorem dL_law_140 : decode cL_law 140 = .ok (.iconst 4, 1) := dk_7 (dk_at dksL_law_4 8 rfl rfl)
theorem dL_law_141 : decode cL_law 141 = .ok (.iadd, 1) := dk_96 (dk_at dksL_law_4 9 rfl rfl)
theorem dL_law_142 : decode cL_law 142 = .ok (.iaload, 1) := dk_46 (dk_at dksL_law_4 10 rfl rfl)
theorem dL_law_143 : decode cL_law 143 = .ok (.i2l, 1) := dk_133 (dk_at dksL_law_4 11 rfl rfl)
theorem dL_law_144 : decode cL_law 144 = .ok (.bipush 32, 2) := dk_16 32 (dk_at dksL_law_4 12 rfl rfl)
theorem dL_law_146 : decode cL_law 146 = .ok (.lshl, 1) := dk_121 (dk_at dksL_law_4 14 rfl rfl)
theorem dL_law_147 : decode cL_law 147 = .ok (.aload_n 0, 1) := dk_42 (dk_at dksL_law_4 15 rfl rfl)
theorem dL_law_148 : decode cL_law 148 = .ok (.iload 4, 2) := dk_21 4 (dk_at dksL_law_4 16 rfl rfl)
theorem dL_law_150 : decode cL_law 150 = .ok (.iconst 5, 1) := dk_8 (dk_at dksL_law_4 18 rfl rfl)
theorem dL_law_151 : decode cL_law 151 = .ok (.iadd, 1) := dk_96 (dk_at dksL_law_4 19 rfl rfl)
theorem dL_law_152 : decode cL_law 152 = .ok (.iaload, 1) := dk_46 (dk_at dksL_law_4 20 rfl rfl)
theorem dL_law_153 : decode cL_law 153 = .ok (.i2l, 1) := dk_133 (dk_at dksL_law_4 21 rfl rfl)
theorem dL_law_154 : decode cL_law 154 = .ok (.ldc2_w 19, 3) := dk_20 0 19 (dk_at dksL_law_5 0 rfl rfl)
theorem dL_law_157 : decode cL_law 157 = .ok (.land, 1) := dk_127 (dk_at dksL_law_5 3 rfl rfl)
theorem dL_law_158 : decode cL_law 158 = .ok (.lor, 1) := dk_129 (dk_at dksL_law_5 4 rfl rfl)
theorem dL_law_159 : decode cL_law 159 = .ok (.aload_n 0, 1) := dk_42 (dk_at dksL_law_5 5 rfl rfl)
theorem dL_law_160 : decode cL_law 160 = .ok (.iload 4, 2) := dk_21 4 (dk_at dksL_law_5 6 rfl rfl)
theorem dL_law_162 : decode cL_law 162 = .ok (.bipush 6, 2) := dk_16 6 (dk_at dksL_law_5 8 rfl rfl)
theorem dL_law_164 : decode cL_law 164 = .ok (.iadd, 1) := dk_96 (dk_at dksL_law_5 10 rfl rfl)
theorem dL_law_165 : decode cL_law 165 = .ok (.iaload, 1) := dk_46 (dk_at dksL_law_5 11 rfl rfl)
theorem dL_law_166 : decode cL_law 166 = .ok (.i2l, 1) := dk_133 (dk_at dksL_law_5 12 rfl rfl)
theorem dL_law_167 : decode cL_law 167 = .ok (.bipush 32, 2) := dk_16 32 (dk_at dksL_law_5 13 rfl rfl)
theorem dL_law_169 : decode cL_law 169 = .ok (.lshl, 1) := dk_121 (dk_at dksL_law_5 15 rfl rfl)
theorem dL_law_170 : decode cL_law 170 = .ok (.aload_n 0, 1) := dk_42 (dk_at dksL_law_5 16 rfl rfl)
theorem dL_law_171 : decode cL_law 171 = .ok (.iload 4, 2) := dk_21 4 (dk_at dksL_law_5 17 rfl rfl)
theorem dL_law_173 : decode cL_law 173 = .ok (.bipush 7, 2) := dk_16 7 (dk_at dksL_law_5 19 rfl rfl)
theorem dL_law_175 : decode cL_law 175 = .ok (.iadd, 1) := dk_96 (dk_at dksL_law_5 21 rfl rfl)
theorem dL_law_176 : decode cL_law 176 = .ok (.iaload, 1) := dk_46 (dk_at dksL_law_5 22 rfl rfl)
theorem dL_law_177 : decode cL_law 177 = .ok (.i2l, 1) := dk_133 (dk_at dksL_law_5 23 rfl rfl)
theorem dL_law_178 : decode cL_law 178 = .ok (.ldc2_w 19, 3) := dk_20 0 19 (dk_at dksL_law_6 0 rfl rfl)
theorem dL_law_181 : decode cL_law 181 = .ok (.land, 1) := dk_127 (dk_at dksL_law_6 3 rfl rfl)
theorem dL_law_182 : decode cL_law 182 = .ok (.lor, 1) := dk_129 (dk_at dksL_law_6 4 rfl rfl)
theorem dL_law_183 : decode cL_law 183 = .ok (.invokevirtual 21, 3) := dk_182 0 21 (dk_at dksL_law_6 5 rfl rfl)
theorem dL_law_186 : decode cL_law 186 = .ok (.aload_n 2, 1) := dk_44 (dk_at dksL_law_6 8 rfl rfl)
theorem dL_law_187 : decode cL_law 187 = .ok (.aload_n 0, 1) := dk_42 (dk_at dksL_law_6 9 rfl rfl)
theorem dL_law_188 : decode cL_law 188 = .ok (.iload 4, 2) := dk_21 4 (dk_at dksL_law_6 10 rfl rfl)
theorem dL_law_190 : decode cL_law 190 = .ok (.iconst 1, 1) := dk_4 (dk_at dksL_law_6 12 rfl rfl)
theorem dL_law_191 : decode cL_law 191 = .ok (.iadd, 1) := dk_96 (dk_at dksL_law_6 13 rfl rfl)
theorem dL_law_192 : decode cL_law 192 = .ok (.iaload, 1) := dk_46 (dk_at dksL_law_6 14 rfl rfl)
theorem dL_law_193 : decode cL_law 193 = .ok (.aload_n 0, 1) := dk_42 (dk_at dksL_law_6 15 rfl rfl)
theorem dL_law_194 : decode cL_law 194 = .ok (.iload 4, 2) := dk_21 4 (dk_at dksL_law_6 16 rfl rfl)
theorem dL_law_196 : decode cL_law 196 = .ok (.iconst 2, 1) := dk_5 (dk_at dksL_law_6 18 rfl rfl)
theorem dL_law_197 : decode cL_law 197 = .ok (.iadd, 1) := dk_96 (dk_at dksL_law_6 19 rfl rfl)
theorem dL_law_198 : decode cL_law 198 = .ok (.iaload, 1) := dk_46 (dk_at dksL_law_6 20 rfl rfl)
theorem dL_law_199 : decode cL_law 199 = .ok (.i2l, 1) := dk_133 (dk_at dksL_law_6 21 rfl rfl)
theorem dL_law_200 : decode cL_law 200 = .ok (.bipush 32, 2) := dk_16 32 (dk_at dksL_law_6 22 rfl rfl)
theorem dL_law_202 : decode cL_law 202 = .ok (.lshl, 1) := dk_121 (dk_at dksL_law_7 0 rfl rfl)
theorem dL_law_203 : decode cL_law 203 = .ok (.aload_n 0, 1) := dk_42 (dk_at dksL_law_7 1 rfl rfl)
theorem dL_law_204 : decode cL_law 204 = .ok (.iload 4, 2) := dk_21 4 (dk_at dksL_law_7 2 rfl rfl)
theorem dL_law_206 : decode cL_law 206 = .ok (.iconst 3, 1) := dk_6 (dk_at dksL_law_7 4 rfl rfl)
theorem dL_law_207 : decode cL_law 207 = .ok (.iadd, 1) := dk_96 (dk_at dksL_law_7 5 rfl rfl)
theorem dL_law_208 : decode cL_law 208 = .ok (.iaload, 1) := dk_46 (dk_at dksL_law_7 6 rfl rfl)
theorem dL_law_209 : decode cL_law 209 = .ok (.i2l, 1) := dk_133 (dk_at dksL_law_7 7 rfl rfl)
theorem dL_law_210 : decode cL_law 210 = .ok (.ldc2_w 19, 3) := dk_20 0 19 (dk_at dksL_law_7 8 rfl rfl)
theorem dL_law_213 : decode cL_law 213 = .ok (.land, 1) := dk_127 (dk_at dksL_law_7 11 rfl rfl)
theorem dL_law_214 : decode cL_law 214 = .ok (.lor, 1) := dk_129 (dk_at dksL_law_7 12 rfl rfl)
theorem dL_law_215 : decode cL_law 215 = .ok (.aload_n 0, 1) := dk_42 (dk_at dksL_law_7 13 rfl rfl)
theorem dL_law_216 : decode cL_law 216 = .ok (.iload 4, 2) := dk_21 4 (dk_at dksL_law_7 14 rfl rfl)
theorem dL_law_218 : decode cL_law 218 = .ok (.iconst 4, 1) := dk_7 (dk_at dksL_law_7 16 rfl rfl)
theorem dL_law_219 : decode cL_law 219 = .ok (.iadd, 1) := dk_96 (dk_at dksL_law_7 17 rfl rfl)
theorem dL_law_220 : decode cL_law 220 = .ok (.iaload, 1) := dk_46 (dk_at dksL_law_7 18 rfl rfl)
theorem dL_law_221 : decode cL_law 221 = .ok (.i2l, 1) := dk_133 (dk_at dksL_law_7 19 rfl rfl)
theorem dL_law_222 : decode cL_law 222 = .ok (.bipush 32, 2) := dk_16 32 (dk_at dksL_law_7 20 rfl rfl)
theorem dL_law_224 : decode cL_law 224 = .ok (.lshl, 1) := dk_121 (dk_at dksL_law_7 22 rfl rfl)
theorem dL_law_225 : decode cL_law 225 = .ok (.aload_n 0, 1) := dk_42 (dk_at dksL_law_7 23 rfl rfl)
theorem dL_law_226 : decode cL_law 226 = .ok (.iload 4, 2) := dk_21 4 (dk_at dksL_law_8 0 rfl rfl)
theorem dL_law_228 : decode cL_law 228 = .ok (.iconst 5, 1) := dk_8 (dk_at dksL_law_8 2 rfl rfl)
theorem dL_law_229 : decode cL_law 229 = .ok (.iadd, 1) := dk_96 (dk_at dksL_law_8 3 rfl rfl)
theorem dL_law_230 : decode cL_law 230 = .ok (.iaload, 1) := dk_46 (dk_at dksL_law_8 4 rfl rfl)
theorem dL_law_231 : decode cL_law 231 = .ok (.i2l, 1) := dk_133 (dk_at dksL_law_8 5 rfl rfl)
theorem dL_law_232 : decode cL_law 232 = .ok (.ldc2_w 19, 3) := dk_20 0 19 (dk_at dksL_law_8 6 rfl rfl)
theorem dL_law_235 : decode cL_law 235 = .ok (.land, 1) := dk_127 (dk_at dksL_law_8 9 rfl rfl)
theorem dL_law_236 : decode cL_law 236 = .ok (.lor, 1) := dk_129 (dk_at dksL_law_8 10 rfl rfl)
theorem dL_law_237 : decode cL_law 237 = .ok (.aload_n 0, 1) := dk_42 (dk_at dksL_law_8 11 rfl rfl)
theorem dL_law_238 : decode cL_law 238 = .ok (.iload 4, 2) := dk_21 4 (dk_at dksL_law_8 12 rfl rfl)
theorem dL_law_240 : decode cL_law 240 = .ok (.bipush 6, 2) := dk_16 6 (dk_at dksL_law_8 14 rfl rfl)
theorem dL_law_242 : decode cL_law 242 = .ok (.iadd, 1) := dk_96 (dk_at dksL_law_8 16 rfl rfl)
theorem dL_law_243 : decode cL_law 243 = .ok (.iaload, 1) := dk_46 (dk_at dksL_law_8 17 rfl rfl)
theorem dL_law_244 : decode cL_law 244 = .ok (.i2l, 1) := dk_133 (dk_at dksL_law_8 18 rfl rfl)
theorem dL_law_245 : decode cL_law 245 = .ok (.bipush 32, 2) := dk_16 32 (dk_at dksL_law_8 19 rfl rfl)
theorem dL_law_247 : decode cL_law 247 = .ok (.lshl, 1) := dk_121 (dk_at dksL_law_8 21 rfl rfl)
theorem dL_law_248 : decode cL_law 248 = .ok (.aload_n 0, 1) := dk_42 (dk_at dksL_law_8 22 rfl rfl)
theorem dL_law_249 : decode cL_law 249 = .ok (.iload 4, 2) := dk_21 4 (dk_at dksL_law_9 0 rfl rfl)
theorem dL_law_251 : decode cL_law 251 = .ok (.bipush 7, 2) := dk_16 7 (dk_at dksL_law_9 2 rfl rfl)
theorem dL_law_253 : decode cL_law 253 = .ok (.iadd, 1) := dk_96 (dk_at dksL_law_9 4 rfl rfl)
theorem dL_law_254 : decode cL_law 254 = .ok (.iaload, 1) := dk_46 (dk_at dksL_law_9 5 rfl rfl)
theorem dL_law_255 : decode cL_law 255 = .ok (.i2l, 1) := dk_133 (dk_at dksL_law_9 6 rfl rfl)
theorem dL_law_256 : decode cL_law 256 = .ok (.ldc2_w 19, 3) := dk_20 0 19 (dk_at dksL_law_9 7 rfl rfl)
theorem dL_law_259 : decode cL_law 259 = .ok (.land, 1) := dk_127 (dk_at dksL_law_9 10 rfl rfl)
theorem dL_law_260 : decode cL_law 260 = .ok (.lor, 1) := dk_129 (dk_at dksL_law_9 11 rfl rfl)
theorem dL_law_261 : decode cL_law 261 = .ok (.invokevirtual 25, 3) := dk_182 0 25 (dk_at dksL_law_9 12 rfl rfl)
theorem dL_law_264 : decode cL_law 264 = .ok (.if_icmp .eq 384, 3) := dk_159 1 128 (dk_at dksL_law_9 15 rfl rfl)
theorem dL_law_267 : decode cL_law 267 = .ok (.iconst 0, 1) := dk_3 (dk_at dksL_law_9 18 rfl rfl)
theorem dL_law_268 : decode cL_law 268 = .ok (.ireturn, 1) := dk_172 (dk_at dksL_law_9 19 rfl rfl)
theorem dL_law_269 : decode cL_law 269 = .ok (.aload_n 1, 1) := dk_43 (dk_at dksL_law_9 20 rfl rfl)
theorem dL_law_270 : decode cL_law 270 = .ok (.aload_n 0, 1) := dk_42 (dk_at dksL_law_9 21 rfl rfl)
theorem dL_law_271 : decode cL_law 271 = .ok (.iload 4, 2) := dk_21 4 (dk_at dksL_law_9 22 rfl rfl)
theorem dL_law_273 : decode cL_law 273 = .ok (.iconst 1, 1) := dk_4 (dk_at dksL_law_10 0 rfl rfl)
theorem dL_law_274 : decode cL_law 274 = .ok (.iadd, 1) := dk_96 (dk_at dksL_law_10 1 rfl rfl)
theorem dL_law_275 : decode cL_law 275 = .ok (.iaload, 1) := dk_46 (dk_at dksL_law_10 2 rfl rfl)
theorem dL_law_276 : decode cL_law 276 = .ok (.invokevirtual 26, 3) := dk_182 0 26 (dk_at dksL_law_10 3 rfl rfl)
theorem dL_law_279 : decode cL_law 279 = .ok (.aload_n 2, 1) := dk_44 (dk_at dksL_law_10 6 rfl rfl)
theorem dL_law_280 : decode cL_law 280 = .ok (.aload_n 0, 1) := dk_42 (dk_at dksL_law_10 7 rfl rfl)
theorem dL_law_281 : decode cL_law 281 = .ok (.iload 4, 2) := dk_21 4 (dk_at dksL_law_10 8 rfl rfl)
theorem dL_law_283 : decode cL_law 283 = .ok (.iconst 1, 1) := dk_4 (dk_at dksL_law_10 10 rfl rfl)
theorem dL_law_284 : decode cL_law 284 = .ok (.iadd, 1) := dk_96 (dk_at dksL_law_10 11 rfl rfl)
theorem dL_law_285 : decode cL_law 285 = .ok (.iaload, 1) := dk_46 (dk_at dksL_law_10 12 rfl rfl)
theorem dL_law_286 : decode cL_law 286 = .ok (.invokevirtual 30, 3) := dk_182 0 30 (dk_at dksL_law_10 13 rfl rfl)
theorem dL_law_289 : decode cL_law 289 = .ok (.if_icmp .eq 359, 3) := dk_159 1 103 (dk_at dksL_law_10 16 rfl rfl)
theorem dL_law_292 : decode cL_law 292 = .ok (.iconst 0, 1) := dk_3 (dk_at dksL_law_10 19 rfl rfl)
theorem dL_law_293 : decode cL_law 293 = .ok (.ireturn, 1) := dk_172 (dk_at dksL_law_10 20 rfl rfl)
theorem dL_law_294 : decode cL_law 294 = .ok (.aload_n 1, 1) := dk_43 (dk_at dksL_law_10 21 rfl rfl)
theorem dL_law_295 : decode cL_law 295 = .ok (.aload_n 0, 1) := dk_42 (dk_at dksL_law_10 22 rfl rfl)
theorem dL_law_296 : decode cL_law 296 = .ok (.iload 4, 2) := dk_21 4 (dk_at dksL_law_11 0 rfl rfl)
theorem dL_law_298 : decode cL_law 298 = .ok (.iconst 1, 1) := dk_4 (dk_at dksL_law_11 2 rfl rfl)
theorem dL_law_299 : decode cL_law 299 = .ok (.iadd, 1) := dk_96 (dk_at dksL_law_11 3 rfl rfl)
theorem dL_law_300 : decode cL_law 300 = .ok (.iaload, 1) := dk_46 (dk_at dksL_law_11 4 rfl rfl)
theorem dL_law_301 : decode cL_law 301 = .ok (.aload_n 0, 1) := dk_42 (dk_at dksL_law_11 5 rfl rfl)
theorem dL_law_302 : decode cL_law 302 = .ok (.iload 4, 2) := dk_21 4 (dk_at dksL_law_11 6 rfl rfl)
theorem dL_law_304 : decode cL_law 304 = .ok (.iconst 2, 1) := dk_5 (dk_at dksL_law_11 8 rfl rfl)
theorem dL_law_305 : decode cL_law 305 = .ok (.iadd, 1) := dk_96 (dk_at dksL_law_11 9 rfl rfl)
theorem dL_law_306 : decode cL_law 306 = .ok (.iaload, 1) := dk_46 (dk_at dksL_law_11 10 rfl rfl)
theorem dL_law_307 : decode cL_law 307 = .ok (.aload_n 3, 1) := dk_45 (dk_at dksL_law_11 11 rfl rfl)
theorem dL_law_308 : decode cL_law 308 = .ok (.invokestatic 31, 3) := dk_184 0 31 (dk_at dksL_law_11 12 rfl rfl)
theorem dL_law_311 : decode cL_law 311 = .ok (.istore 5, 2) := dk_54 5 (dk_at dksL_law_11 15 rfl rfl)
theorem dL_law_313 : decode cL_law 313 = .ok (.aload_n 2, 1) := dk_44 (dk_at dksL_law_11 17 rfl rfl)
theorem dL_law_314 : decode cL_law 314 = .ok (.aload_n 0, 1) := dk_42 (dk_at dksL_law_11 18 rfl rfl)
theorem dL_law_315 : decode cL_law 315 = .ok (.iload 4, 2) := dk_21 4 (dk_at dksL_law_11 19 rfl rfl)
theorem dL_law_317 : decode cL_law 317 = .ok (.iconst 1, 1) := dk_4 (dk_at dksL_law_11 21 rfl rfl)
theorem dL_law_318 : decode cL_law 318 = .ok (.iadd, 1) := dk_96 (dk_at dksL_law_11 22 rfl rfl)
theorem dL_law_319 : decode cL_law 319 = .ok (.iaload, 1) := dk_46 (dk_at dksL_law_11 23 rfl rfl)
theorem dL_law_320 : decode cL_law 320 = .ok (.aload_n 0, 1) := dk_42 (dk_at dksL_law_12 0 rfl rfl)
theorem dL_law_321 : decode cL_law 321 = .ok (.iload 4, 2) := dk_21 4 (dk_at dksL_law_12 1 rfl rfl)
theorem dL_law_323 : decode cL_law 323 = .ok (.iconst 2, 1) := dk_5 (dk_at dksL_law_12 3 rfl rfl)
theorem dL_law_324 : decode cL_law 324 = .ok (.iadd, 1) := dk_96 (dk_at dksL_law_12 4 rfl rfl)
theorem dL_law_325 : decode cL_law 325 = .ok (.iaload, 1) := dk_46 (dk_at dksL_law_12 5 rfl rfl)
theorem dL_law_326 : decode cL_law 326 = .ok (.invokevirtual 36, 3) := dk_182 0 36 (dk_at dksL_law_12 6 rfl rfl)
theorem dL_law_329 : decode cL_law 329 = .ok (.istore 6, 2) := dk_54 6 (dk_at dksL_law_12 9 rfl rfl)
theorem dL_law_331 : decode cL_law 331 = .ok (.aload_n 2, 1) := dk_44 (dk_at dksL_law_12 11 rfl rfl)
theorem dL_law_332 : decode cL_law 332 = .ok (.invokevirtual 37, 3) := dk_182 0 37 (dk_at dksL_law_12 12 rfl rfl)
theorem dL_law_335 : decode cL_law 335 = .ok (.iload 5, 2) := dk_21 5 (dk_at dksL_law_12 15 rfl rfl)
theorem dL_law_337 : decode cL_law 337 = .ok (.if_icmp .eq 5, 3) := dk_159 0 5 (dk_at dksL_law_12 17 rfl rfl)
theorem dL_law_340 : decode cL_law 340 = .ok (.iconst 0, 1) := dk_3 (dk_at dksL_law_12 20 rfl rfl)
theorem dL_law_341 : decode cL_law 341 = .ok (.ireturn, 1) := dk_172 (dk_at dksL_law_12 21 rfl rfl)
theorem dL_law_342 : decode cL_law 342 = .ok (.iload 5, 2) := dk_21 5 (dk_at dksL_law_12 22 rfl rfl)
theorem dL_law_344 : decode cL_law 344 = .ok (.ifCond .ne 15, 3) := dk_154 0 15 (dk_at dksL_law_13 0 rfl rfl)
theorem dL_law_347 : decode cL_law 347 = .ok (.aload_n 3, 1) := dk_45 (dk_at dksL_law_13 3 rfl rfl)
theorem dL_law_348 : decode cL_law 348 = .ok (.iconst 0, 1) := dk_3 (dk_at dksL_law_13 4 rfl rfl)
theorem dL_law_349 : decode cL_law 349 = .ok (.laload, 1) := dk_47 (dk_at dksL_law_13 5 rfl rfl)
theorem dL_law_350 : decode cL_law 350 = .ok (.iload 6, 2) := dk_21 6 (dk_at dksL_law_13 6 rfl rfl)
theorem dL_law_352 : decode cL_law 352 = .ok (.i2l, 1) := dk_133 (dk_at dksL_law_13 8 rfl rfl)
theorem dL_law_353 : decode cL_law 353 = .ok (.lcmp, 1) := dk_148 (dk_at dksL_law_13 9 rfl rfl)
theorem dL_law_354 : decode cL_law 354 = .ok (.ifCond .eq 5, 3) := dk_153 0 5 (dk_at dksL_law_13 10 rfl rfl)
theorem dL_law_357 : decode cL_law 357 = .ok (.iconst 0, 1) := dk_3 (dk_at dksL_law_13 13 rfl rfl)
theorem dL_law_358 : decode cL_law 358 = .ok (.ireturn, 1) := dk_172 (dk_at dksL_law_13 14 rfl rfl)
theorem dL_law_359 : decode cL_law 359 = .ok (.goto 289, 3) := dk_167 1 33 (dk_at dksL_law_13 15 rfl rfl)
theorem dL_law_362 : decode cL_law 362 = .ok (.aload_n 1, 1) := dk_43 (dk_at dksL_law_13 18 rfl rfl)
theorem dL_law_363 : decode cL_law 363 = .ok (.aload_n 0, 1) := dk_42 (dk_at dksL_law_13 19 rfl rfl)
theorem dL_law_364 : decode cL_law 364 = .ok (.iload 4, 2) := dk_21 4 (dk_at dksL_law_13 20 rfl rfl)
theorem dL_law_366 : decode cL_law 366 = .ok (.iconst 1, 1) := dk_4 (dk_at dksL_law_13 22 rfl rfl)
theorem dL_law_367 : decode cL_law 367 = .ok (.iadd, 1) := dk_96 (dk_at dksL_law_13 23 rfl rfl)
theorem dL_law_368 : decode cL_law 368 = .ok (.iaload, 1) := dk_46 (dk_at dksL_law_14 0 rfl rfl)
theorem dL_law_369 : decode cL_law 369 = .ok (.invokevirtual 41, 3) := dk_182 0 41 (dk_at dksL_law_14 1 rfl rfl)
theorem dL_law_372 : decode cL_law 372 = .ok (.aload_n 2, 1) := dk_44 (dk_at dksL_law_14 4 rfl rfl)
theorem dL_law_373 : decode cL_law 373 = .ok (.aload_n 0, 1) := dk_42 (dk_at dksL_law_14 5 rfl rfl)
theorem dL_law_374 : decode cL_law 374 = .ok (.iload 4, 2) := dk_21 4 (dk_at dksL_law_14 6 rfl rfl)
theorem dL_law_376 : decode cL_law 376 = .ok (.iconst 1, 1) := dk_4 (dk_at dksL_law_14 8 rfl rfl)
theorem dL_law_377 : decode cL_law 377 = .ok (.iadd, 1) := dk_96 (dk_at dksL_law_14 9 rfl rfl)
theorem dL_law_378 : decode cL_law 378 = .ok (.iaload, 1) := dk_46 (dk_at dksL_law_14 10 rfl rfl)
theorem dL_law_379 : decode cL_law 379 = .ok (.invokevirtual 44, 3) := dk_182 0 44 (dk_at dksL_law_14 11 rfl rfl)
theorem dL_law_382 : decode cL_law 382 = .ok (.if_icmp .eq 266, 3) := dk_159 1 10 (dk_at dksL_law_14 14 rfl rfl)
theorem dL_law_385 : decode cL_law 385 = .ok (.iconst 0, 1) := dk_3 (dk_at dksL_law_14 17 rfl rfl)
theorem dL_law_386 : decode cL_law 386 = .ok (.ireturn, 1) := dk_172 (dk_at dksL_law_14 18 rfl rfl)
theorem dL_law_387 : decode cL_law 387 = .ok (.aload_n 1, 1) := dk_43 (dk_at dksL_law_14 19 rfl rfl)
theorem dL_law_388 : decode cL_law 388 = .ok (.aload_n 0, 1) := dk_42 (dk_at dksL_law_14 20 rfl rfl)
theorem dL_law_389 : decode cL_law 389 = .ok (.iload 4, 2) := dk_21 4 (dk_at dksL_law_14 21 rfl rfl)
theorem dL_law_391 : decode cL_law 391 = .ok (.iconst 1, 1) := dk_4 (dk_at dksL_law_14 23 rfl rfl)
theorem dL_law_392 : decode cL_law 392 = .ok (.iadd, 1) := dk_96 (dk_at dksL_law_15 0 rfl rfl)
theorem dL_law_393 : decode cL_law 393 = .ok (.iaload, 1) := dk_46 (dk_at dksL_law_15 1 rfl rfl)
theorem dL_law_394 : decode cL_law 394 = .ok (.invokevirtual 45, 3) := dk_182 0 45 (dk_at dksL_law_15 2 rfl rfl)
theorem dL_law_397 : decode cL_law 397 = .ok (.aload_n 2, 1) := dk_44 (dk_at dksL_law_15 5 rfl rfl)
theorem dL_law_398 : decode cL_law 398 = .ok (.aload_n 0, 1) := dk_42 (dk_at dksL_law_15 6 rfl rfl)
theorem dL_law_399 : decode cL_law 399 = .ok (.iload 4, 2) := dk_21 4 (dk_at dksL_law_15 7 rfl rfl)
theorem dL_law_401 : decode cL_law 401 = .ok (.iconst 1, 1) := dk_4 (dk_at dksL_law_15 9 rfl rfl)
theorem dL_law_402 : decode cL_law 402 = .ok (.iadd, 1) := dk_96 (dk_at dksL_law_15 10 rfl rfl)
theorem dL_law_403 : decode cL_law 403 = .ok (.iaload, 1) := dk_46 (dk_at dksL_law_15 11 rfl rfl)
theorem dL_law_404 : decode cL_law 404 = .ok (.invokevirtual 49, 3) := dk_182 0 49 (dk_at dksL_law_15 12 rfl rfl)
theorem dL_law_407 : decode cL_law 407 = .ok (.if_icmp .eq 241, 3) := dk_159 0 241 (dk_at dksL_law_15 15 rfl rfl)
theorem dL_law_410 : decode cL_law 410 = .ok (.iconst 0, 1) := dk_3 (dk_at dksL_law_15 18 rfl rfl)
theorem dL_law_411 : decode cL_law 411 = .ok (.ireturn, 1) := dk_172 (dk_at dksL_law_15 19 rfl rfl)
theorem dL_law_412 : decode cL_law 412 = .ok (.aload_n 1, 1) := dk_43 (dk_at dksL_law_15 20 rfl rfl)
theorem dL_law_413 : decode cL_law 413 = .ok (.invokevirtual 50, 3) := dk_182 0 50 (dk_at dksL_law_15 21 rfl rfl)
theorem dL_law_416 : decode cL_law 416 = .ok (.aload_n 2, 1) := dk_44 (dk_at dksL_law_16 0 rfl rfl)
theorem dL_law_417 : decode cL_law 417 = .ok (.invokevirtual 53, 3) := dk_182 0 53 (dk_at dksL_law_16 1 rfl rfl)
theorem dL_law_420 : decode cL_law 420 = .ok (.if_icmp .eq 228, 3) := dk_159 0 228 (dk_at dksL_law_16 4 rfl rfl)
theorem dL_law_423 : decode cL_law 423 = .ok (.iconst 0, 1) := dk_3 (dk_at dksL_law_16 7 rfl rfl)
theorem dL_law_424 : decode cL_law 424 = .ok (.ireturn, 1) := dk_172 (dk_at dksL_law_16 8 rfl rfl)
theorem dL_law_425 : decode cL_law 425 = .ok (.aload_n 1, 1) := dk_43 (dk_at dksL_law_16 9 rfl rfl)
theorem dL_law_426 : decode cL_law 426 = .ok (.aload_n 0, 1) := dk_42 (dk_at dksL_law_16 10 rfl rfl)
theorem dL_law_427 : decode cL_law 427 = .ok (.iload 4, 2) := dk_21 4 (dk_at dksL_law_16 11 rfl rfl)
theorem dL_law_429 : decode cL_law 429 = .ok (.iconst 1, 1) := dk_4 (dk_at dksL_law_16 13 rfl rfl)
theorem dL_law_430 : decode cL_law 430 = .ok (.iadd, 1) := dk_96 (dk_at dksL_law_16 14 rfl rfl)
theorem dL_law_431 : decode cL_law 431 = .ok (.iaload, 1) := dk_46 (dk_at dksL_law_16 15 rfl rfl)
theorem dL_law_432 : decode cL_law 432 = .ok (.invokevirtual 54, 3) := dk_182 0 54 (dk_at dksL_law_16 16 rfl rfl)
theorem dL_law_435 : decode cL_law 435 = .ok (.aload_n 2, 1) := dk_44 (dk_at dksL_law_16 19 rfl rfl)
theorem dL_law_436 : decode cL_law 436 = .ok (.aload_n 0, 1) := dk_42 (dk_at dksL_law_16 20 rfl rfl)
theorem dL_law_437 : decode cL_law 437 = .ok (.iload 4, 2) := dk_21 4 (dk_at dksL_law_16 21 rfl rfl)
theorem dL_law_439 : decode cL_law 439 = .ok (.iconst 1, 1) := dk_4 (dk_at dksL_law_16 23 rfl rfl)
theorem dL_law_440 : decode cL_law 440 = .ok (.iadd, 1) := dk_96 (dk_at dksL_law_17 0 rfl rfl)
theorem dL_law_441 : decode cL_law 441 = .ok (.iaload, 1) := dk_46 (dk_at dksL_law_17 1 rfl rfl)
theorem dL_law_442 : decode cL_law 442 = .ok (.invokevirtual 57, 3) := dk_182 0 57 (dk_at dksL_law_17 2 rfl rfl)
theorem dL_law_445 : decode cL_law 445 = .ok (.if_icmp .eq 203, 3) := dk_159 0 203 (dk_at dksL_law_17 5 rfl rfl)
theorem dL_law_448 : decode cL_law 448 = .ok (.iconst 0, 1) := dk_3 (dk_at dksL_law_17 8 rfl rfl)
theorem dL_law_449 : decode cL_law 449 = .ok (.ireturn, 1) := dk_172 (dk_at dksL_law_17 9 rfl rfl)
theorem dL_law_450 : decode cL_law 450 = .ok (.aload_n 1, 1) := dk_43 (dk_at dksL_law_17 10 rfl rfl)
theorem dL_law_451 : decode cL_law 451 = .ok (.aload_n 0, 1) := dk_42 (dk_at dksL_law_17 11 rfl rfl)
theorem dL_law_452 : decode cL_law 452 = .ok (.iload 4, 2) := dk_21 4 (dk_at dksL_law_17 12 rfl rfl)
theorem dL_law_454 : decode cL_law 454 = .ok (.iconst 1, 1) := dk_4 (dk_at dksL_law_17 14 rfl rfl)
theorem dL_law_455 : decode cL_law 455 = .ok (.iadd, 1) := dk_96 (dk_at dksL_law_17 15 rfl rfl)
theorem dL_law_456 : decode cL_law 456 = .ok (.iaload, 1) := dk_46 (dk_at dksL_law_17 16 rfl rfl)
theorem dL_law_457 : decode cL_law 457 = .ok (.aload_n 0, 1) := dk_42 (dk_at dksL_law_17 17 rfl rfl)
theorem dL_law_458 : decode cL_law 458 = .ok (.iload 4, 2) := dk_21 4 (dk_at dksL_law_17 18 rfl rfl)
theorem dL_law_460 : decode cL_law 460 = .ok (.iconst 2, 1) := dk_5 (dk_at dksL_law_17 20 rfl rfl)
theorem dL_law_461 : decode cL_law 461 = .ok (.iadd, 1) := dk_96 (dk_at dksL_law_17 21 rfl rfl)
theorem dL_law_462 : decode cL_law 462 = .ok (.iaload, 1) := dk_46 (dk_at dksL_law_17 22 rfl rfl)
theorem dL_law_463 : decode cL_law 463 = .ok (.invokevirtual 58, 3) := dk_182 0 58 (dk_at dksL_law_18 0 rfl rfl)
theorem dL_law_466 : decode cL_law 466 = .ok (.aload_n 2, 1) := dk_44 (dk_at dksL_law_18 3 rfl rfl)
theorem dL_law_467 : decode cL_law 467 = .ok (.aload_n 0, 1) := dk_42 (dk_at dksL_law_18 4 rfl rfl)
theorem dL_law_468 : decode cL_law 468 = .ok (.iload 4, 2) := dk_21 4 (dk_at dksL_law_18 5 rfl rfl)
theorem dL_law_470 : decode cL_law 470 = .ok (.iconst 1, 1) := dk_4 (dk_at dksL_law_18 7 rfl rfl)
theorem dL_law_471 : decode cL_law 471 = .ok (.iadd, 1) := dk_96 (dk_at dksL_law_18 8 rfl rfl)
theorem dL_law_472 : decode cL_law 472 = .ok (.iaload, 1) := dk_46 (dk_at dksL_law_18 9 rfl rfl)
theorem dL_law_473 : decode cL_law 473 = .ok (.aload_n 0, 1) := dk_42 (dk_at dksL_law_18 10 rfl rfl)
theorem dL_law_474 : decode cL_law 474 = .ok (.iload 4, 2) := dk_21 4 (dk_at dksL_law_18 11 rfl rfl)
theorem dL_law_476 : decode cL_law 476 = .ok (.iconst 2, 1) := dk_5 (dk_at dksL_law_18 13 rfl rfl)
theorem dL_law_477 : decode cL_law 477 = .ok (.iadd, 1) := dk_96 (dk_at dksL_law_18 14 rfl rfl)
theorem dL_law_478 : decode cL_law 478 = .ok (.iaload, 1) := dk_46 (dk_at dksL_law_18 15 rfl rfl)
theorem dL_law_479 : decode cL_law 479 = .ok (.invokevirtual 61, 3) := dk_182 0 61 (dk_at dksL_law_18 16 rfl rfl)
theorem dL_law_482 : decode cL_law 482 = .ok (.if_icmp .eq 166, 3) := dk_159 0 166 (dk_at dksL_law_18 19 rfl rfl)
theorem dL_law_485 : decode cL_law 485 = .ok (.iconst 0, 1) := dk_3 (dk_at dksL_law_18 22 rfl rfl)
theorem dL_law_486 : decode cL_law 486 = .ok (.ireturn, 1) := dk_172 (dk_at dksL_law_18 23 rfl rfl)
theorem dL_law_487 : decode cL_law 487 = .ok (.aload_n 1, 1) := dk_43 (dk_at dksL_law_19 0 rfl rfl)
theorem dL_law_488 : decode cL_law 488 = .ok (.aload_n 0, 1) := dk_42 (dk_at dksL_law_19 1 rfl rfl)
theorem dL_law_489 : decode cL_law 489 = .ok (.iload 4, 2) := dk_21 4 (dk_at dksL_law_19 2 rfl rfl)
theorem dL_law_491 : decode cL_law 491 = .ok (.iconst 1, 1) := dk_4 (dk_at dksL_law_19 4 rfl rfl)
theorem dL_law_492 : decode cL_law 492 = .ok (.iadd, 1) := dk_96 (dk_at dksL_law_19 5 rfl rfl)
theorem dL_law_493 : decode cL_law 493 = .ok (.iaload, 1) := dk_46 (dk_at dksL_law_19 6 rfl rfl)
theorem dL_law_494 : decode cL_law 494 = .ok (.aload_n 0, 1) := dk_42 (dk_at dksL_law_19 7 rfl rfl)
theorem dL_law_495 : decode cL_law 495 = .ok (.iload 4, 2) := dk_21 4 (dk_at dksL_law_19 8 rfl rfl)
theorem dL_law_497 : decode cL_law 497 = .ok (.iconst 2, 1) := dk_5 (dk_at dksL_law_19 10 rfl rfl)
theorem dL_law_498 : decode cL_law 498 = .ok (.iadd, 1) := dk_96 (dk_at dksL_law_19 11 rfl rfl)
theorem dL_law_499 : decode cL_law 499 = .ok (.iaload, 1) := dk_46 (dk_at dksL_law_19 12 rfl rfl)
theorem dL_law_500 : decode cL_law 500 = .ok (.invokevirtual 62, 3) := dk_182 0 62 (dk_at dksL_law_19 13 rfl rfl)
theorem dL_law_503 : decode cL_law 503 = .ok (.aload_n 2, 1) := dk_44 (dk_at dksL_law_19 16 rfl rfl)
theorem dL_law_504 : decode cL_law 504 = .ok (.aload_n 0, 1) := dk_42 (dk_at dksL_law_19 17 rfl rfl)
theorem dL_law_505 : decode cL_law 505 = .ok (.iload 4, 2) := dk_21 4 (dk_at dksL_law_19 18 rfl rfl)
theorem dL_law_507 : decode cL_law 507 = .ok (.iconst 1, 1) := dk_4 (dk_at dksL_law_19 20 rfl rfl)
theorem dL_law_508 : decode cL_law 508 = .ok (.iadd, 1) := dk_96 (dk_at dksL_law_19 21 rfl rfl)
theorem dL_law_509 : decode cL_law 509 = .ok (.iaload, 1) := dk_46 (dk_at dksL_law_19 22 rfl rfl)
theorem dL_law_510 : decode cL_law 510 = .ok (.aload_n 0, 1) := dk_42 (dk_at dksL_law_19 23 rfl rfl)
theorem dL_law_511 : decode cL_law 511 = .ok (.iload 4, 2) := dk_21 4 (dk_at dksL_law_20 0 rfl rfl)
theorem dL_law_513 : decode cL_law 513 = .ok (.iconst 2, 1) := dk_5 (dk_at dksL_law_20 2 rfl rfl)
theorem dL_law_514 : decode cL_law 514 = .ok (.iadd, 1) := dk_96 (dk_at dksL_law_20 3 rfl rfl)
theorem dL_law_515 : decode cL_law 515 = .ok (.iaload, 1) := dk_46 (dk_at dksL_law_20 4 rfl rfl)
theorem dL_law_516 : decode cL_law 516 = .ok (.invokevirtual 66, 3) := dk_182 0 66 (dk_at dksL_law_20 5 rfl rfl)
theorem dL_law_519 : decode cL_law 519 = .ok (.if_icmp .eq 129, 3) := dk_159 0 129 (dk_at dksL_law_20 8 rfl rfl)
theorem dL_law_522 : decode cL_law 522 = .ok (.iconst 0, 1) := dk_3 (dk_at dksL_law_20 11 rfl rfl)
theorem dL_law_523 : decode cL_law 523 = .ok (.ireturn, 1) := dk_172 (dk_at dksL_law_20 12 rfl rfl)
theorem dL_law_524 : decode cL_law 524 = .ok (.aload_n 1, 1) := dk_43 (dk_at dksL_law_20 13 rfl rfl)
theorem dL_law_525 : decode cL_law 525 = .ok (.aload_n 0, 1) := dk_42 (dk_at dksL_law_20 14 rfl rfl)
theorem dL_law_526 : decode cL_law 526 = .ok (.iload 4, 2) := dk_21 4 (dk_at dksL_law_20 15 rfl rfl)
theorem dL_law_528 : decode cL_law 528 = .ok (.iconst 1, 1) := dk_4 (dk_at dksL_law_20 17 rfl rfl)
theorem dL_law_529 : decode cL_law 529 = .ok (.iadd, 1) := dk_96 (dk_at dksL_law_20 18 rfl rfl)
theorem dL_law_530 : decode cL_law 530 = .ok (.iaload, 1) := dk_46 (dk_at dksL_law_20 19 rfl rfl)
theorem dL_law_531 : decode cL_law 531 = .ok (.invokevirtual 67, 3) := dk_182 0 67 (dk_at dksL_law_20 20 rfl rfl)
theorem dL_law_534 : decode cL_law 534 = .ok (.aload_n 2, 1) := dk_44 (dk_at dksL_law_20 23 rfl rfl)
theorem dL_law_535 : decode cL_law 535 = .ok (.aload_n 0, 1) := dk_42 (dk_at dksL_law_21 0 rfl rfl)
theorem dL_law_536 : decode cL_law 536 = .ok (.iload 4, 2) := dk_21 4 (dk_at dksL_law_21 1 rfl rfl)
theorem dL_law_538 : decode cL_law 538 = .ok (.iconst 1, 1) := dk_4 (dk_at dksL_law_21 3 rfl rfl)
theorem dL_law_539 : decode cL_law 539 = .ok (.iadd, 1) := dk_96 (dk_at dksL_law_21 4 rfl rfl)
theorem dL_law_540 : decode cL_law 540 = .ok (.iaload, 1) := dk_46 (dk_at dksL_law_21 5 rfl rfl)
theorem dL_law_541 : decode cL_law 541 = .ok (.invokevirtual 70, 3) := dk_182 0 70 (dk_at dksL_law_21 6 rfl rfl)
theorem dL_law_544 : decode cL_law 544 = .ok (.if_icmp .eq 104, 3) := dk_159 0 104 (dk_at dksL_law_21 9 rfl rfl)
theorem dL_law_547 : decode cL_law 547 = .ok (.iconst 0, 1) := dk_3 (dk_at dksL_law_21 12 rfl rfl)
theorem dL_law_548 : decode cL_law 548 = .ok (.ireturn, 1) := dk_172 (dk_at dksL_law_21 13 rfl rfl)
theorem dL_law_549 : decode cL_law 549 = .ok (.aload_n 1, 1) := dk_43 (dk_at dksL_law_21 14 rfl rfl)
theorem dL_law_550 : decode cL_law 550 = .ok (.aload_n 0, 1) := dk_42 (dk_at dksL_law_21 15 rfl rfl)
theorem dL_law_551 : decode cL_law 551 = .ok (.iload 4, 2) := dk_21 4 (dk_at dksL_law_21 16 rfl rfl)
theorem dL_law_553 : decode cL_law 553 = .ok (.iconst 1, 1) := dk_4 (dk_at dksL_law_21 18 rfl rfl)
theorem dL_law_554 : decode cL_law 554 = .ok (.iadd, 1) := dk_96 (dk_at dksL_law_21 19 rfl rfl)
theorem dL_law_555 : decode cL_law 555 = .ok (.iaload, 1) := dk_46 (dk_at dksL_law_21 20 rfl rfl)
theorem dL_law_556 : decode cL_law 556 = .ok (.aload_n 0, 1) := dk_42 (dk_at dksL_law_21 21 rfl rfl)
theorem dL_law_557 : decode cL_law 557 = .ok (.iload 4, 2) := dk_21 4 (dk_at dksL_law_21 22 rfl rfl)
theorem dL_law_559 : decode cL_law 559 = .ok (.iconst 2, 1) := dk_5 (dk_at dksL_law_22 0 rfl rfl)
theorem dL_law_560 : decode cL_law 560 = .ok (.iadd, 1) := dk_96 (dk_at dksL_law_22 1 rfl rfl)
theorem dL_law_561 : decode cL_law 561 = .ok (.iaload, 1) := dk_46 (dk_at dksL_law_22 2 rfl rfl)
theorem dL_law_562 : decode cL_law 562 = .ok (.invokevirtual 71, 3) := dk_182 0 71 (dk_at dksL_law_22 3 rfl rfl)
theorem dL_law_565 : decode cL_law 565 = .ok (.aload_n 2, 1) := dk_44 (dk_at dksL_law_22 6 rfl rfl)
theorem dL_law_566 : decode cL_law 566 = .ok (.aload_n 0, 1) := dk_42 (dk_at dksL_law_22 7 rfl rfl)
theorem dL_law_567 : decode cL_law 567 = .ok (.iload 4, 2) := dk_21 4 (dk_at dksL_law_22 8 rfl rfl)
theorem dL_law_569 : decode cL_law 569 = .ok (.iconst 1, 1) := dk_4 (dk_at dksL_law_22 10 rfl rfl)
theorem dL_law_570 : decode cL_law 570 = .ok (.iadd, 1) := dk_96 (dk_at dksL_law_22 11 rfl rfl)
theorem dL_law_571 : decode cL_law 571 = .ok (.iaload, 1) := dk_46 (dk_at dksL_law_22 12 rfl rfl)
theorem dL_law_572 : decode cL_law 572 = .ok (.aload_n 0, 1) := dk_42 (dk_at dksL_law_22 13 rfl rfl)
theorem dL_law_573 : decode cL_law 573 = .ok (.iload 4, 2) := dk_21 4 (dk_at dksL_law_22 14 rfl rfl)
theorem dL_law_575 : decode cL_law 575 = .ok (.iconst 2, 1) := dk_5 (dk_at dksL_law_22 16 rfl rfl)
theorem dL_law_576 : decode cL_law 576 = .ok (.iadd, 1) := dk_96 (dk_at dksL_law_22 17 rfl rfl)
theorem dL_law_577 : decode cL_law 577 = .ok (.iaload, 1) := dk_46 (dk_at dksL_law_22 18 rfl rfl)
theorem dL_law_578 : decode cL_law 578 = .ok (.invokevirtual 74, 3) := dk_182 0 74 (dk_at dksL_law_22 19 rfl rfl)
theorem dL_law_581 : decode cL_law 581 = .ok (.if_icmp .eq 67, 3) := dk_159 0 67 (dk_at dksL_law_23 0 rfl rfl)
theorem dL_law_584 : decode cL_law 584 = .ok (.iconst 0, 1) := dk_3 (dk_at dksL_law_23 3 rfl rfl)
theorem dL_law_585 : decode cL_law 585 = .ok (.ireturn, 1) := dk_172 (dk_at dksL_law_23 4 rfl rfl)
theorem dL_law_586 : decode cL_law 586 = .ok (.aload_n 1, 1) := dk_43 (dk_at dksL_law_23 5 rfl rfl)
theorem dL_law_587 : decode cL_law 587 = .ok (.aload_n 0, 1) := dk_42 (dk_at dksL_law_23 6 rfl rfl)
theorem dL_law_588 : decode cL_law 588 = .ok (.iload 4, 2) := dk_21 4 (dk_at dksL_law_23 7 rfl rfl)
theorem dL_law_590 : decode cL_law 590 = .ok (.iconst 1, 1) := dk_4 (dk_at dksL_law_23 9 rfl rfl)
theorem dL_law_591 : decode cL_law 591 = .ok (.iadd, 1) := dk_96 (dk_at dksL_law_23 10 rfl rfl)
theorem dL_law_592 : decode cL_law 592 = .ok (.iaload, 1) := dk_46 (dk_at dksL_law_23 11 rfl rfl)
theorem dL_law_593 : decode cL_law 593 = .ok (.aload_n 0, 1) := dk_42 (dk_at dksL_law_23 12 rfl rfl)
theorem dL_law_594 : decode cL_law 594 = .ok (.iload 4, 2) := dk_21 4 (dk_at dksL_law_23 13 rfl rfl)
theorem dL_law_596 : decode cL_law 596 = .ok (.iconst 2, 1) := dk_5 (dk_at dksL_law_23 15 rfl rfl)
theorem dL_law_597 : decode cL_law 597 = .ok (.iadd, 1) := dk_96 (dk_at dksL_law_23 16 rfl rfl)
theorem dL_law_598 : decode cL_law 598 = .ok (.iaload, 1) := dk_46 (dk_at dksL_law_23 17 rfl rfl)
theorem dL_law_599 : decode cL_law 599 = .ok (.invokevirtual 75, 3) := dk_182 0 75 (dk_at dksL_law_23 18 rfl rfl)
theorem dL_law_602 : decode cL_law 602 = .ok (.aload_n 2, 1) := dk_44 (dk_at dksL_law_23 21 rfl rfl)
theorem dL_law_603 : decode cL_law 603 = .ok (.aload_n 0, 1) := dk_42 (dk_at dksL_law_23 22 rfl rfl)
theorem dL_law_604 : decode cL_law 604 = .ok (.iload 4, 2) := dk_21 4 (dk_at dksL_law_24 0 rfl rfl)
theorem dL_law_606 : decode cL_law 606 = .ok (.iconst 1, 1) := dk_4 (dk_at dksL_law_24 2 rfl rfl)
theorem dL_law_607 : decode cL_law 607 = .ok (.iadd, 1) := dk_96 (dk_at dksL_law_24 3 rfl rfl)
theorem dL_law_608 : decode cL_law 608 = .ok (.iaload, 1) := dk_46 (dk_at dksL_law_24 4 rfl rfl)
theorem dL_law_609 : decode cL_law 609 = .ok (.aload_n 0, 1) := dk_42 (dk_at dksL_law_24 5 rfl rfl)
theorem dL_law_610 : decode cL_law 610 = .ok (.iload 4, 2) := dk_21 4 (dk_at dksL_law_24 6 rfl rfl)
theorem dL_law_612 : decode cL_law 612 = .ok (.iconst 2, 1) := dk_5 (dk_at dksL_law_24 8 rfl rfl)
theorem dL_law_613 : decode cL_law 613 = .ok (.iadd, 1) := dk_96 (dk_at dksL_law_24 9 rfl rfl)
theorem dL_law_614 : decode cL_law 614 = .ok (.iaload, 1) := dk_46 (dk_at dksL_law_24 10 rfl rfl)
theorem dL_law_615 : decode cL_law 615 = .ok (.invokevirtual 78, 3) := dk_182 0 78 (dk_at dksL_law_24 11 rfl rfl)
theorem dL_law_618 : decode cL_law 618 = .ok (.if_icmp .eq 30, 3) := dk_159 0 30 (dk_at dksL_law_24 14 rfl rfl)
theorem dL_law_621 : decode cL_law 621 = .ok (.iconst 0, 1) := dk_3 (dk_at dksL_law_24 17 rfl rfl)
theorem dL_law_622 : decode cL_law 622 = .ok (.ireturn, 1) := dk_172 (dk_at dksL_law_24 18 rfl rfl)
theorem dL_law_623 : decode cL_law 623 = .ok (.aload_n 1, 1) := dk_43 (dk_at dksL_law_24 19 rfl rfl)
theorem dL_law_624 : decode cL_law 624 = .ok (.aload_n 0, 1) := dk_42 (dk_at dksL_law_24 20 rfl rfl)
theorem dL_law_625 : decode cL_law 625 = .ok (.iload 4, 2) := dk_21 4 (dk_at dksL_law_24 21 rfl rfl)
theorem dL_law_627 : decode cL_law 627 = .ok (.iconst 1, 1) := dk_4 (dk_at dksL_law_24 23 rfl rfl)
theorem dL_law_628 : decode cL_law 628 = .ok (.iadd, 1) := dk_96 (dk_at dksL_law_25 0 rfl rfl)
theorem dL_law_629 : decode cL_law 629 = .ok (.iaload, 1) := dk_46 (dk_at dksL_law_25 1 rfl rfl)
theorem dL_law_630 : decode cL_law 630 = .ok (.invokevirtual 79, 3) := dk_182 0 79 (dk_at dksL_law_25 2 rfl rfl)
theorem dL_law_633 : decode cL_law 633 = .ok (.aload_n 2, 1) := dk_44 (dk_at dksL_law_25 5 rfl rfl)
theorem dL_law_634 : decode cL_law 634 = .ok (.aload_n 0, 1) := dk_42 (dk_at dksL_law_25 6 rfl rfl)
theorem dL_law_635 : decode cL_law 635 = .ok (.iload 4, 2) := dk_21 4 (dk_at dksL_law_25 7 rfl rfl)
theorem dL_law_637 : decode cL_law 637 = .ok (.iconst 1, 1) := dk_4 (dk_at dksL_law_25 9 rfl rfl)
theorem dL_law_638 : decode cL_law 638 = .ok (.iadd, 1) := dk_96 (dk_at dksL_law_25 10 rfl rfl)
theorem dL_law_639 : decode cL_law 639 = .ok (.iaload, 1) := dk_46 (dk_at dksL_law_25 11 rfl rfl)
theorem dL_law_640 : decode cL_law 640 = .ok (.invokevirtual 82, 3) := dk_182 0 82 (dk_at dksL_law_25 12 rfl rfl)
theorem dL_law_643 : decode cL_law 643 = .ok (.if_icmp .eq 5, 3) := dk_159 0 5 (dk_at dksL_law_25 15 rfl rfl)
theorem dL_law_646 : decode cL_law 646 = .ok (.iconst 0, 1) := dk_3 (dk_at dksL_law_25 18 rfl rfl)
theorem dL_law_647 : decode cL_law 647 = .ok (.ireturn, 1) := dk_172 (dk_at dksL_law_25 19 rfl rfl)
theorem dL_law_648 : decode cL_law 648 = .ok (.iinc 4 8, 3) := dk_132 4 8 (dk_at dksL_law_25 20 rfl rfl)
theorem dL_law_651 : decode cL_law 651 = .ok (.goto (-628), 3) := dk_167 253 140 (dk_at dksL_law_26 0 rfl rfl)
theorem dL_law_654 : decode cL_law 654 = .ok (.iconst 1, 1) := dk_4 (dk_at dksL_law_26 3 rfl rfl)
theorem dL_law_655 : decode cL_law 655 = .ok (.ireturn, 1) := dk_172 (dk_at dksL_law_26 4 rfl rfl)
