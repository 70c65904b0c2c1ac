/-! MatrixPressModel -/
set_option maxRecDepth 100000
def RX13 : String := "MatrixPressModel"
def TX13 : u_T := fun k => match k with
  | 0 => ("MatrixPressModel", "thrown", "I", false)
  | 1 => ("MatrixPressModel", "rows", "[I", true)
  | 2 => ("MatrixPressModel", "columns", "[I", true)
  | 3 => ("MatrixPressModel", "checks", "[I", true)
  | 4 => ("MatrixPressModel", "blocks", "[I", true)
  | 5 => ("MatrixPressModel", "below", "[I", true)
  | 6 => ("MatrixPressModel", "beside", "[I", true)
  | 7 => ("MatrixPressModel", "power", "[I", true)
  | 8 => ("MatrixPressModel", "degree", "[I", true)
  | 9 => ("MatrixPressModel", "tape", "[I", true)
  | 10 => ("MatrixPressModel", "taped", "I", false)
  | 11 => ("MatrixPressModel", "many", "I", false)
  | 12 => ("MatrixPressModel", "mapped", "I", false)
  | 13 => ("MatrixPressModel", "plane", "[I", true)
  | 14 => ("MatrixPressModel", "moduleOf", "[I", true)
  | 15 => ("MatrixPressModel", "planeR", "I", false)
  | 16 => ("MatrixPressModel", "planeC", "I", false)
  | 17 => ("MatrixPressModel", "placed", "I", false)
  | 18 => ("MatrixPressModel", "present", "I", false)
  | 19 => ("MatrixPressModel", "dark", "[Z", true)
  | 20 => ("MatrixPressModel", "words", "[I", true)
  | 21 => ("MatrixPressModel", "divisor", "[I", true)
  | 22 => ("MatrixPressModel", "rest", "[I", true)
  | 23 => ("MatrixPressModel", "sums", "[I", true)
  | 24 => ("MatrixPressModel", "block", "[I", true)
  | 25 => ("MatrixPressModel", "blockSize", "I", false)
  | 26 => ("MatrixPressModel", "matrix", "[I", true)
  | 27 => ("MatrixPressModel", "wrong", "[I", true)
  | 28 => ("MatrixPressModel", "answer", "[I", true)
  | 29 => ("MatrixPressModel", "changed", "I", false)
  | 30 => ("MatrixPressModel", "bytes", "[I", true)
  | 31 => ("MatrixPressModel", "told", "I", false)
  | 32 => ("MatrixPressModel", "latest", "[I", true)
  | 33 => ("MatrixPressModel", "latestMany", "I", false)
  | 34 => ("MatrixPressModel", "next", "I", false)
  | 35 => ("MatrixPressModel", "all", "I", false)
  | 36 => ("MatrixPressModel", "good", "Z", false)
  | 37 => ("MatrixPressModel", "shift", "I", false)
  | 38 => ("MatrixPressModel", "high", "Z", false)
  | 39 => ("MatrixPressModel", "shiftAt", "I", false)
  | 40 => ("MatrixPressModel", "decodeChanged", "I", false)
  | 41 => ("MatrixPressModel", "low", "[I", true)
  | 42 => ("MatrixPressModel", "mask", "[I", true)
  | 43 => ("MatrixPressModel", "runLow", "[I", true)
  | 44 => ("MatrixPressModel", "runMask", "[I", true)
  | 45 => ("MatrixPressModel", "sumLow", "I", false)
  | 46 => ("MatrixPressModel", "sumMask", "I", false)
  | 47 => ("MatrixPressModel", "pads", "I", false)
  | 48 => ("MatrixPressModel", "closed", "Z", false)
  | 49 => ("MatrixPressModel", "pass", "I", false)
  | 50 => ("MatrixPressModel", "values", "[I", true)
  | 51 => ("MatrixPressModel", "length", "I", false)
  | 52 => ("MatrixPressModel", "isClosed", "I", false)
  | 53 => ("MatrixPressModel", "steps", "I", false)
  | 54 => ("MatrixPressModel", "stepSort", "[I", true)
  | 55 => ("MatrixPressModel", "stepFirst", "[I", true)
  | 56 => ("MatrixPressModel", "stepBytes", "[I", true)
  | 57 => ("MatrixPressModel", "stepWords", "[I", true)
  | 58 => ("MatrixPressModel", "ends", "Z", false)
  | 59 => ("MatrixPressModel", "at", "I", false)
  | _ => ("MatrixPressModel", "given", "I", false)
def tyX13 : Nat → FieldType := fun k => match k with
  | 0 => .int
  | 1 => .array .int
  | 2 => .array .int
  | 3 => .array .int
  | 4 => .array .int
  | 5 => .array .int
  | 6 => .array .int
  | 7 => .array .int
  | 8 => .array .int
  | 9 => .array .int
  | 10 => .int
  | 11 => .int
  | 12 => .int
  | 13 => .array .int
  | 14 => .array .int
  | 15 => .int
  | 16 => .int
  | 17 => .int
  | 18 => .int
  | 19 => .array .boolean
  | 20 => .array .int
  | 21 => .array .int
  | 22 => .array .int
  | 23 => .array .int
  | 24 => .array .int
  | 25 => .int
  | 26 => .array .int
  | 27 => .array .int
  | 28 => .array .int
  | 29 => .int
  | 30 => .array .int
  | 31 => .int
  | 32 => .array .int
  | 33 => .int
  | 34 => .int
  | 35 => .int
  | 36 => .boolean
  | 37 => .int
  | 38 => .boolean
  | 39 => .int
  | 40 => .int
  | 41 => .array .int
  | 42 => .array .int
  | 43 => .array .int
  | 44 => .array .int
  | 45 => .int
  | 46 => .int
  | 47 => .int
  | 48 => .boolean
  | 49 => .int
  | 50 => .array .int
  | 51 => .int
  | 52 => .int
  | 53 => .int
  | 54 => .array .int
  | 55 => .array .int
  | 56 => .array .int
  | 57 => .array .int
  | 58 => .boolean
  | 59 => .int
  | _ => .int
abbrev wsX130 : List Cond := u_ws RX13 TX13 61
set_option maxRecDepth 100000 in
theorem nmX13 : ∀ a, a < 61 → ∀ b, b < 61 → a ≠ b → (TX13 a).2.1 ≠ (TX13 b).2.1 := by decide +kernel
set_option maxRecDepth 100000 in
theorem tyX13_ok : ∀ k, k < 61 → parseFieldDescriptor (TX13 k).2.2.1 = some (tyX13 k) := by decide +kernel
abbrev cX13_thrown : ByteArray := prog_16_method_1_code
def yX13_thrown : MethodName := ⟨RX13, "thrown", "()I"⟩
theorem dX13_thrown_0 : decode cX13_thrown 0 = .ok (.aload_n 0, 1) := by decide +kernel
theorem dX13_thrown_1 : decode cX13_thrown 1 = .ok (.getfield 1, 3) := by decide +kernel
theorem dX13_thrown_4 : decode cX13_thrown 4 = .ok (.ireturn, 1) := by decide +kernel
abbrev cX13_init : ByteArray := prog_16_method_3_code
def yX13_init : MethodName := ⟨RX13, "<init>", "()V"⟩
def dkwX13_init_55 : List UInt8 := [164, 0, 11, 27, 17, 1, 45, 130, 167, 0, 4, 27, 60, 132, 2, 1, 167, 255, 195, 177]
abbrev dktX13_init_55 : List UInt8 := dkwX13_init_55 ++ []
def dkwX13_init_54 : List UInt8 := [162, 0, 7, 28, 167, 0, 9, 42, 180, 0, 35, 27, 46, 79, 27, 4, 120, 60, 27, 17, 0, 255]
abbrev dktX13_init_54 : List UInt8 := dkwX13_init_54 ++ dktX13_init_55
def dkwX13_init_53 : List UInt8 := [61, 28, 17, 1, 254, 162, 0, 60, 42, 180, 0, 32, 28, 27, 79, 42, 180, 0, 35, 27, 28, 17, 0, 255]
abbrev dktX13_init_53 : List UInt8 := dkwX13_init_53 ++ dktX13_init_54
def dkwX13_init_52 : List UInt8 := [181, 0, 105, 42, 17, 12, 128, 188, 10, 181, 0, 108, 42, 17, 12, 128, 188, 10, 181, 0, 111, 4, 60, 3]
abbrev dktX13_init_52 : List UInt8 := dkwX13_init_52 ++ dktX13_init_53
def dkwX13_init_51 : List UInt8 := [42, 7, 188, 10, 181, 0, 99, 42, 17, 12, 128, 188, 10, 181, 0, 102, 42, 17, 12, 128, 188, 10]
abbrev dktX13_init_51 : List UInt8 := dkwX13_init_51 ++ dktX13_init_52
def dkwX13_init_50 : List UInt8 := [17, 87, 135, 188, 10, 181, 0, 90, 42, 16, 26, 188, 10, 181, 0, 93, 42, 16, 26, 188, 10, 181, 0, 96]
abbrev dktX13_init_50 : List UInt8 := dkwX13_init_50 ++ dktX13_init_51
def dkwX13_init_49 : List UInt8 := [188, 10, 181, 0, 81, 42, 17, 15, 160, 188, 10, 181, 0, 84, 42, 17, 87, 135, 188, 10, 181, 0, 87, 42]
abbrev dktX13_init_49 : List UInt8 := dkwX13_init_49 ++ dktX13_init_50
def dkwX13_init_48 : List UInt8 := [181, 0, 72, 42, 16, 36, 188, 10, 181, 0, 75, 42, 16, 36, 188, 10, 181, 0, 78, 42, 17, 15, 160]
abbrev dktX13_init_48 : List UInt8 := dkwX13_init_48 ++ dktX13_init_49
def dkwX13_init_47 : List UInt8 := [42, 16, 70, 188, 10, 181, 0, 66, 42, 17, 1, 0, 188, 10, 181, 0, 69, 42, 17, 4, 236, 188, 10]
abbrev dktX13_init_47 : List UInt8 := dkwX13_init_47 ++ dktX13_init_48
def dkwX13_init_46 : List UInt8 := [17, 8, 130, 188, 10, 181, 0, 57, 42, 16, 70, 188, 10, 181, 0, 60, 42, 16, 70, 188, 10, 181, 0, 63]
abbrev dktX13_init_46 : List UInt8 := dkwX13_init_46 ++ dktX13_init_47
def dkwX13_init_45 : List UInt8 := [17, 68, 16, 188, 10, 181, 0, 47, 42, 2, 181, 0, 50, 42, 17, 81, 0, 188, 4, 181, 0, 53, 42]
abbrev dktX13_init_45 : List UInt8 := dkwX13_init_45 ++ dktX13_init_46
def dkwX13_init_44 : List UInt8 := [17, 12, 128, 188, 10, 181, 0, 38, 42, 2, 181, 0, 41, 42, 17, 68, 16, 188, 10, 181, 0, 44, 42]
abbrev dktX13_init_44 : List UInt8 := dkwX13_init_44 ++ dktX13_init_45
def dkwX13_init_43 : List UInt8 := [181, 0, 29, 42, 17, 2, 0, 188, 10, 181, 0, 32, 42, 17, 1, 0, 188, 10, 181, 0, 35, 42]
abbrev dktX13_init_43 : List UInt8 := dkwX13_init_43 ++ dktX13_init_44
def dkwX13_init_42 : List UInt8 := [16, 25, 5, 79, 89, 16, 26, 4, 79, 89, 16, 27, 5, 79, 89, 16, 28, 5, 79, 89, 16, 29, 5, 79]
abbrev dktX13_init_42 : List UInt8 := dkwX13_init_42 ++ dktX13_init_43
def dkwX13_init_41 : List UInt8 := [16, 21, 16, 6, 79, 89, 16, 22, 16, 6, 79, 89, 16, 23, 16, 6, 79, 89, 16, 24, 4, 79, 89]
abbrev dktX13_init_41 : List UInt8 := dkwX13_init_41 ++ dktX13_init_42
def dkwX13_init_40 : List UInt8 := [7, 79, 89, 16, 17, 7, 79, 89, 16, 18, 7, 79, 89, 16, 19, 7, 79, 89, 16, 20, 7, 79, 89]
abbrev dktX13_init_40 : List UInt8 := dkwX13_init_40 ++ dktX13_init_41
def dkwX13_init_39 : List UInt8 := [79, 89, 16, 12, 5, 79, 89, 16, 13, 5, 79, 89, 16, 14, 5, 79, 89, 16, 15, 7, 79, 89, 16, 16]
abbrev dktX13_init_39 : List UInt8 := dkwX13_init_39 ++ dktX13_init_40
def dkwX13_init_38 : List UInt8 := [89, 16, 7, 4, 79, 89, 16, 8, 4, 79, 89, 16, 9, 5, 79, 89, 16, 10, 5, 79, 89, 16, 11, 5]
abbrev dktX13_init_38 : List UInt8 := dkwX13_init_38 ++ dktX13_init_39
def dkwX13_init_37 : List UInt8 := [4, 4, 79, 89, 5, 4, 79, 89, 6, 4, 79, 89, 7, 4, 79, 89, 8, 4, 79, 89, 16, 6, 4, 79]
abbrev dktX13_init_37 : List UInt8 := dkwX13_init_37 ++ dktX13_init_38
def dkwX13_init_36 : List UInt8 := [79, 89, 16, 28, 4, 79, 89, 16, 29, 4, 79, 181, 0, 26, 42, 16, 30, 188, 10, 89, 3, 4, 79, 89]
abbrev dktX13_init_36 : List UInt8 := dkwX13_init_36 ++ dktX13_init_37
def dkwX13_init_35 : List UInt8 := [16, 23, 16, 6, 79, 89, 16, 24, 4, 79, 89, 16, 25, 4, 79, 89, 16, 26, 4, 79, 89, 16, 27, 4]
abbrev dktX13_init_35 : List UInt8 := dkwX13_init_35 ++ dktX13_init_36
def dkwX13_init_34 : List UInt8 := [79, 89, 16, 19, 7, 79, 89, 16, 20, 7, 79, 89, 16, 21, 16, 6, 79, 89, 16, 22, 16, 6, 79, 89]
abbrev dktX13_init_34 : List UInt8 := dkwX13_init_34 ++ dktX13_init_35
def dkwX13_init_33 : List UInt8 := [89, 16, 14, 5, 79, 89, 16, 15, 7, 79, 89, 16, 16, 7, 79, 89, 16, 17, 7, 79, 89, 16, 18, 7]
abbrev dktX13_init_33 : List UInt8 := dkwX13_init_33 ++ dktX13_init_34
def dkwX13_init_32 : List UInt8 := [16, 9, 5, 79, 89, 16, 10, 5, 79, 89, 16, 11, 5, 79, 89, 16, 12, 5, 79, 89, 16, 13, 5, 79]
abbrev dktX13_init_32 : List UInt8 := dkwX13_init_32 ++ dktX13_init_33
def dkwX13_init_31 : List UInt8 := [89, 7, 4, 79, 89, 8, 4, 79, 89, 16, 6, 4, 79, 89, 16, 7, 4, 79, 89, 16, 8, 4, 79, 89]
abbrev dktX13_init_31 : List UInt8 := dkwX13_init_31 ++ dktX13_init_32
def dkwX13_init_30 : List UInt8 := [181, 0, 23, 42, 16, 30, 188, 10, 89, 3, 4, 79, 89, 4, 4, 79, 89, 5, 4, 79, 89, 6, 4, 79]
abbrev dktX13_init_30 : List UInt8 := dkwX13_init_30 ++ dktX13_init_31
def dkwX13_init_29 : List UInt8 := [16, 25, 4, 79, 89, 16, 26, 4, 79, 89, 16, 27, 4, 79, 89, 16, 28, 4, 79, 89, 16, 29, 4, 79]
abbrev dktX13_init_29 : List UInt8 := dkwX13_init_29 ++ dktX13_init_30
def dkwX13_init_28 : List UInt8 := [16, 21, 16, 6, 79, 89, 16, 22, 16, 8, 79, 89, 16, 23, 16, 10, 79, 89, 16, 24, 4, 79, 89]
abbrev dktX13_init_28 : List UInt8 := dkwX13_init_28 ++ dktX13_init_29
def dkwX13_init_27 : List UInt8 := [7, 79, 89, 16, 17, 7, 79, 89, 16, 18, 7, 79, 89, 16, 19, 7, 79, 89, 16, 20, 16, 6, 79, 89]
abbrev dktX13_init_27 : List UInt8 := dkwX13_init_27 ++ dktX13_init_28
def dkwX13_init_26 : List UInt8 := [79, 89, 16, 12, 4, 79, 89, 16, 13, 4, 79, 89, 16, 14, 5, 79, 89, 16, 15, 5, 79, 89, 16, 16]
abbrev dktX13_init_26 : List UInt8 := dkwX13_init_26 ++ dktX13_init_27
def dkwX13_init_25 : List UInt8 := [89, 16, 7, 4, 79, 89, 16, 8, 4, 79, 89, 16, 9, 4, 79, 89, 16, 10, 4, 79, 89, 16, 11, 4]
abbrev dktX13_init_25 : List UInt8 := dkwX13_init_25 ++ dktX13_init_26
def dkwX13_init_24 : List UInt8 := [4, 4, 79, 89, 5, 4, 79, 89, 6, 4, 79, 89, 7, 4, 79, 89, 8, 4, 79, 89, 16, 6, 4, 79]
abbrev dktX13_init_24 : List UInt8 := dkwX13_init_24 ++ dktX13_init_25
def dkwX13_init_23 : List UInt8 := [16, 28, 16, 24, 79, 89, 16, 29, 16, 28, 79, 181, 0, 20, 42, 16, 30, 188, 10, 89, 3, 4, 79, 89]
abbrev dktX13_init_23 : List UInt8 := dkwX13_init_23 ++ dktX13_init_24
def dkwX13_init_22 : List UInt8 := [16, 24, 16, 7, 79, 89, 16, 25, 16, 11, 79, 89, 16, 26, 16, 14, 79, 89, 16, 27, 16, 18, 79, 89]
abbrev dktX13_init_22 : List UInt8 := dkwX13_init_22 ++ dktX13_init_23
def dkwX13_init_21 : List UInt8 := [79, 89, 16, 21, 17, 1, 152, 79, 89, 16, 22, 17, 1, 240, 79, 89, 16, 23, 17, 2, 108, 79, 89]
abbrev dktX13_init_21 : List UInt8 := dkwX13_init_21 ++ dktX13_init_22
def dkwX13_init_20 : List UInt8 := [17, 0, 192, 79, 89, 16, 18, 17, 0, 224, 79, 89, 16, 19, 17, 1, 16, 79, 89, 16, 20, 17, 1, 80]
abbrev dktX13_init_20 : List UInt8 := dkwX13_init_20 ++ dktX13_init_21
def dkwX13_init_19 : List UInt8 := [89, 16, 14, 16, 84, 79, 89, 16, 15, 16, 112, 79, 89, 16, 16, 17, 0, 144, 79, 89, 16, 17]
abbrev dktX13_init_19 : List UInt8 := dkwX13_init_19 ++ dktX13_init_20
def dkwX13_init_18 : List UInt8 := [89, 16, 10, 16, 42, 79, 89, 16, 11, 16, 48, 79, 89, 16, 12, 16, 56, 79, 89, 16, 13, 16, 68, 79]
abbrev dktX13_init_18 : List UInt8 := dkwX13_init_18 ++ dktX13_init_19
def dkwX13_init_17 : List UInt8 := [89, 16, 6, 16, 20, 79, 89, 16, 7, 16, 24, 79, 89, 16, 8, 16, 28, 79, 89, 16, 9, 16, 36, 79]
abbrev dktX13_init_17 : List UInt8 := dkwX13_init_17 ++ dktX13_init_18
def dkwX13_init_16 : List UInt8 := [4, 16, 7, 79, 89, 5, 16, 10, 79, 89, 6, 16, 12, 79, 89, 7, 16, 14, 79, 89, 8, 16, 18, 79]
abbrev dktX13_init_16 : List UInt8 := dkwX13_init_16 ++ dktX13_init_17
def dkwX13_init_15 : List UInt8 := [16, 28, 16, 36, 79, 89, 16, 29, 16, 48, 79, 181, 0, 17, 42, 16, 30, 188, 10, 89, 3, 8, 79, 89]
abbrev dktX13_init_15 : List UInt8 := dkwX13_init_15 ++ dktX13_init_16
def dkwX13_init_14 : List UInt8 := [16, 24, 16, 18, 79, 89, 16, 25, 16, 32, 79, 89, 16, 26, 16, 26, 79, 89, 16, 27, 16, 36, 79, 89]
abbrev dktX13_init_14 : List UInt8 := dkwX13_init_14 ++ dktX13_init_15
def dkwX13_init_13 : List UInt8 := [16, 104, 79, 89, 16, 21, 16, 120, 79, 89, 16, 22, 17, 0, 132, 79, 89, 16, 23, 17, 0, 144, 79, 89]
abbrev dktX13_init_13 : List UInt8 := dkwX13_init_13 ++ dktX13_init_14
def dkwX13_init_12 : List UInt8 := [16, 72, 79, 89, 16, 17, 16, 80, 79, 89, 16, 18, 16, 88, 79, 89, 16, 19, 16, 96, 79, 89, 16, 20]
abbrev dktX13_init_12 : List UInt8 := dkwX13_init_12 ++ dktX13_init_13
def dkwX13_init_11 : List UInt8 := [16, 44, 79, 89, 16, 13, 16, 48, 79, 89, 16, 14, 16, 52, 79, 89, 16, 15, 16, 64, 79, 89, 16, 16]
abbrev dktX13_init_11 : List UInt8 := dkwX13_init_11 ++ dktX13_init_12
def dkwX13_init_10 : List UInt8 := [16, 26, 79, 89, 16, 9, 16, 32, 79, 89, 16, 10, 16, 36, 79, 89, 16, 11, 16, 40, 79, 89, 16, 12]
abbrev dktX13_init_10 : List UInt8 := dkwX13_init_10 ++ dktX13_init_11
def dkwX13_init_9 : List UInt8 := [16, 18, 79, 89, 8, 16, 20, 79, 89, 16, 6, 16, 22, 79, 89, 16, 7, 16, 24, 79, 89, 16, 8]
abbrev dktX13_init_9 : List UInt8 := dkwX13_init_9 ++ dktX13_init_10
def dkwX13_init_8 : List UInt8 := [188, 10, 89, 3, 16, 10, 79, 89, 4, 16, 12, 79, 89, 5, 16, 14, 79, 89, 6, 16, 16, 79, 89, 7]
abbrev dktX13_init_8 : List UInt8 := dkwX13_init_8 ++ dktX13_init_9
def dkwX13_init_7 : List UInt8 := [89, 16, 27, 16, 12, 79, 89, 16, 28, 16, 16, 79, 89, 16, 29, 16, 16, 79, 181, 0, 13, 42, 16, 30]
abbrev dktX13_init_7 : List UInt8 := dkwX13_init_7 ++ dktX13_init_8
def dkwX13_init_6 : List UInt8 := [16, 23, 17, 0, 144, 79, 89, 16, 24, 16, 8, 79, 89, 16, 25, 16, 8, 79, 89, 16, 26, 16, 12, 79]
abbrev dktX13_init_6 : List UInt8 := dkwX13_init_6 ++ dktX13_init_7
def dkwX13_init_5 : List UInt8 := [16, 96, 79, 89, 16, 20, 16, 104, 79, 89, 16, 21, 16, 120, 79, 89, 16, 22, 17, 0, 132, 79, 89]
abbrev dktX13_init_5 : List UInt8 := dkwX13_init_5 ++ dktX13_init_6
def dkwX13_init_4 : List UInt8 := [16, 64, 79, 89, 16, 16, 16, 72, 79, 89, 16, 17, 16, 80, 79, 89, 16, 18, 16, 88, 79, 89, 16, 19]
abbrev dktX13_init_4 : List UInt8 := dkwX13_init_4 ++ dktX13_init_5
def dkwX13_init_3 : List UInt8 := [16, 40, 79, 89, 16, 12, 16, 44, 79, 89, 16, 13, 16, 48, 79, 89, 16, 14, 16, 52, 79, 89, 16, 15]
abbrev dktX13_init_3 : List UInt8 := dkwX13_init_3 ++ dktX13_init_4
def dkwX13_init_2 : List UInt8 := [16, 24, 79, 89, 16, 8, 16, 26, 79, 89, 16, 9, 16, 32, 79, 89, 16, 10, 16, 36, 79, 89, 16, 11]
abbrev dktX13_init_2 : List UInt8 := dkwX13_init_2 ++ dktX13_init_3
def dkwX13_init_1 : List UInt8 := [89, 6, 16, 16, 79, 89, 7, 16, 18, 79, 89, 8, 16, 20, 79, 89, 16, 6, 16, 22, 79, 89, 16, 7]
abbrev dktX13_init_1 : List UInt8 := dkwX13_init_1 ++ dktX13_init_2
def dkwX13_init_0 : List UInt8 := [42, 183, 0, 7, 42, 16, 30, 188, 10, 89, 3, 16, 10, 79, 89, 4, 16, 12, 79, 89, 5, 16, 14, 79]
abbrev dktX13_init_0 : List UInt8 := dkwX13_init_0 ++ dktX13_init_1
theorem dksX13_init_0 : cX13_init.data.toList.drop 0 = dktX13_init_0 := by decide +kernel
theorem dksX13_init_1 : cX13_init.data.toList.drop 24 = dktX13_init_1 := dk_seg dksX13_init_0 24 rfl rfl
theorem dksX13_init_2 : cX13_init.data.toList.drop 48 = dktX13_init_2 := dk_seg dksX13_init_1 24 rfl rfl
theorem dksX13_init_3 : cX13_init.data.toList.drop 72 = dktX13_init_3 := dk_seg dksX13_init_2 24 rfl rfl
theorem dksX13_init_4 : cX13_init.data.toList.drop 96 = dktX13_init_4 := dk_seg dksX13_init_3 24 rfl rfl
theorem dksX13_init_5 : cX13_init.data.toList.drop 120 = dktX13_init_5 := dk_seg dksX13_init_4 24 rfl rfl
theorem dksX13_init_6 : cX13_init.data.toList.drop 143 = dktX13_init_6 := dk_seg dksX13_init_5 23 rfl rfl
theorem dksX13_init_7 : cX13_init.data.toList.drop 167 = dktX13_init_7 := dk_seg dksX13_init_6 24 rfl rfl
theorem dksX13_init_8 : cX13_init.data.toList.drop 191 = dktX13_init_8 := dk_seg dksX13_init_7 24 rfl rfl
theorem dksX13_init_9 : cX13_init.data.toList.drop 215 = dktX13_init_9 := dk_seg dksX13_init_8 24 rfl rfl
theorem dksX13_init_10 : cX13_init.data.toList.drop 238 = dktX13_init_10 := dk_seg dksX13_init_9 23 rfl rfl
theorem dksX13_init_11 : cX13_init.data.toList.drop 262 = dktX13_init_11 := dk_seg dksX13_init_10 24 rfl rfl
theorem dksX13_init_12 : cX13_init.data.toList.drop 286 = dktX13_init_12 := dk_seg dksX13_init_11 24 rfl rfl
theorem dksX13_init_13 : cX13_init.data.toList.drop 310 = dktX13_init_13 := dk_seg dksX13_init_12 24 rfl rfl
theorem dksX13_init_14 : cX13_init.data.toList.drop 334 = dktX13_init_14 := dk_seg dksX13_init_13 24 rfl rfl
theorem dksX13_init_15 : cX13_init.data.toList.drop 358 = dktX13_init_15 := dk_seg dksX13_init_14 24 rfl rfl
theorem dksX13_init_16 : cX13_init.data.toList.drop 382 = dktX13_init_16 := dk_seg dksX13_init_15 24 rfl rfl
theorem dksX13_init_17 : cX13_init.data.toList.drop 406 = dktX13_init_17 := dk_seg dksX13_init_16 24 rfl rfl
theorem dksX13_init_18 : cX13_init.data.toList.drop 430 = dktX13_init_18 := dk_seg dksX13_init_17 24 rfl rfl
theorem dksX13_init_19 : cX13_init.data.toList.drop 454 = dktX13_init_19 := dk_seg dksX13_init_18 24 rfl rfl
theorem dksX13_init_20 : cX13_init.data.toList.drop 476 = dktX13_init_20 := dk_seg dksX13_init_19 22 rfl rfl
theorem dksX13_init_21 : cX13_init.data.toList.drop 500 = dktX13_init_21 := dk_seg dksX13_init_20 24 rfl rfl
theorem dksX13_init_22 : cX13_init.data.toList.drop 523 = dktX13_init_22 := dk_seg dksX13_init_21 23 rfl rfl
theorem dksX13_init_23 : cX13_init.data.toList.drop 547 = dktX13_init_23 := dk_seg dksX13_init_22 24 rfl rfl
theorem dksX13_init_24 : cX13_init.data.toList.drop 571 = dktX13_init_24 := dk_seg dksX13_init_23 24 rfl rfl
theorem dksX13_init_25 : cX13_init.data.toList.drop 595 = dktX13_init_25 := dk_seg dksX13_init_24 24 rfl rfl
theorem dksX13_init_26 : cX13_init.data.toList.drop 619 = dktX13_init_26 := dk_seg dksX13_init_25 24 rfl rfl
theorem dksX13_init_27 : cX13_init.data.toList.drop 643 = dktX13_init_27 := dk_seg dksX13_init_26 24 rfl rfl
theorem dksX13_init_28 : cX13_init.data.toList.drop 667 = dktX13_init_28 := dk_seg dksX13_init_27 24 rfl rfl
theorem dksX13_init_29 : cX13_init.data.toList.drop 690 = dktX13_init_29 := dk_seg dksX13_init_28 23 rfl rfl
theorem dksX13_init_30 : cX13_init.data.toList.drop 714 = dktX13_init_30 := dk_seg dksX13_init_29 24 rfl rfl
theorem dksX13_init_31 : cX13_init.data.toList.drop 738 = dktX13_init_31 := dk_seg dksX13_init_30 24 rfl rfl
theorem dksX13_init_32 : cX13_init.data.toList.drop 762 = dktX13_init_32 := dk_seg dksX13_init_31 24 rfl rfl
theorem dksX13_init_33 : cX13_init.data.toList.drop 786 = dktX13_init_33 := dk_seg dksX13_init_32 24 rfl rfl
theorem dksX13_init_34 : cX13_init.data.toList.drop 810 = dktX13_init_34 := dk_seg dksX13_init_33 24 rfl rfl
theorem dksX13_init_35 : cX13_init.data.toList.drop 834 = dktX13_init_35 := dk_seg dksX13_init_34 24 rfl rfl
theorem dksX13_init_36 : cX13_init.data.toList.drop 858 = dktX13_init_36 := dk_seg dksX13_init_35 24 rfl rfl
theorem dksX13_init_37 : cX13_init.data.toList.drop 882 = dktX13_init_37 := dk_seg dksX13_init_36 24 rfl rfl
theorem dksX13_init_38 : cX13_init.data.toList.drop 906 = dktX13_init_38 := dk_seg dksX13_init_37 24 rfl rfl
theorem dksX13_init_39 : cX13_init.data.toList.drop 930 = dktX13_init_39 := dk_seg dksX13_init_38 24 rfl rfl
theorem dksX13_init_40 : cX13_init.data.toList.drop 954 = dktX13_init_40 := dk_seg dksX13_init_39 24 rfl rfl
theorem dksX13_init_41 : cX13_init.data.toList.drop 977 = dktX13_init_41 := dk_seg dksX13_init_40 23 rfl rfl
theorem dksX13_init_42 : cX13_init.data.toList.drop 1000 = dktX13_init_42 := dk_seg dksX13_init_41 23 rfl rfl
theorem dksX13_init_43 : cX13_init.data.toList.drop 1024 = dktX13_init_43 := dk_seg dksX13_init_42 24 rfl rfl
theorem dksX13_init_44 : cX13_init.data.toList.drop 1046 = dktX13_init_44 := dk_seg dksX13_init_43 22 rfl rfl
theorem dksX13_init_45 : cX13_init.data.toList.drop 1069 = dktX13_init_45 := dk_seg dksX13_init_44 23 rfl rfl
theorem dksX13_init_46 : cX13_init.data.toList.drop 1092 = dktX13_init_46 := dk_seg dksX13_init_45 23 rfl rfl
theorem dksX13_init_47 : cX13_init.data.toList.drop 1116 = dktX13_init_47 := dk_seg dksX13_init_46 24 rfl rfl
theorem dksX13_init_48 : cX13_init.data.toList.drop 1139 = dktX13_init_48 := dk_seg dksX13_init_47 23 rfl rfl
theorem dksX13_init_49 : cX13_init.data.toList.drop 1162 = dktX13_init_49 := dk_seg dksX13_init_48 23 rfl rfl
theorem dksX13_init_50 : cX13_init.data.toList.drop 1186 = dktX13_init_50 := dk_seg dksX13_init_49 24 rfl rfl
theorem dksX13_init_51 : cX13_init.data.toList.drop 1210 = dktX13_init_51 := dk_seg dksX13_init_50 24 rfl rfl
theorem dksX13_init_52 : cX13_init.data.toList.drop 1232 = dktX13_init_52 := dk_seg dksX13_init_51 22 rfl rfl
theorem dksX13_init_53 : cX13_init.data.toList.drop 1256 = dktX13_init_53 := dk_seg dksX13_init_52 24 rfl rfl
theorem dksX13_init_54 : cX13_init.data.toList.drop 1280 = dktX13_init_54 := dk_seg dksX13_init_53 24 rfl rfl
theorem dksX13_init_55 : cX13_init.data.toList.drop 1302 = dktX13_init_55 := dk_seg dksX13_init_54 22 rfl rfl
theorem dX13_init_0 : decode cX13_init 0 = .ok (.aload_n 0, 1) := dk_42 (dk_at dksX13_init_0 0 rfl rfl)
theorem dX13_init_1 : decode cX13_init 1 = .ok (.invokespecial 7, 3) := dk_183 0 7 (dk_at dksX13_init_0 1 rfl rfl)
theorem dX13_init_4 : decode cX13_init 4 = .ok (.aload_n 0, 1) := dk_42 (dk_at dksX13_init_0 4 rfl rfl)
theorem dX13_init_5 : decode cX13_init 5 = .ok (.bipush 30, 2) := dk_16 30 (dk_at dksX13_init_0 5 rfl rfl)
theorem dX13_init_7 : decode cX13_init 7 = .ok (.newarray .int, 2) := dk_188_10 (dk_at dksX13_init_0 7 rfl rfl)
theorem dX13_init_9 : decode cX13_init 9 = .ok (.dup, 1) := dk_89 (dk_at dksX13_init_0 9 rfl rfl)
theorem dX13_init_10 : decode cX13_init 10 = .ok (.iconst 0, 1) := dk_3 (dk_at dksX13_init_0 10 rfl rfl)
theorem dX13_init_11 : decode cX13_init 11 = .ok (.bipush 10, 2) := dk_16 10 (dk_at dksX13_init_0 11 rfl rfl)
theorem dX13_init_13 : decode cX13_init 13 = .ok (.iastore, 1) := dk_79 (dk_at dksX13_init_0 13 rfl rfl)
theorem dX13_init_14 : decode cX13_init 14 = .ok (.dup, 1) := dk_89 (dk_at dksX13_init_0 14 rfl rfl)
theorem dX13_init_15 : decode cX13_init 15 = .ok (.iconst 1, 1) := dk_4 (dk_at dksX13_init_0 15 rfl rfl)
theorem dX13_init_16 : decode cX13_init 16 = .ok (.bipush 12, 2) := dk_16 12 (dk_at dksX13_init_0 16 rfl rfl)
theorem dX13_init_18 : decode cX13_init 18 = .ok (.iastore, 1) := dk_79 (dk_at dksX13_init_0 18 rfl rfl)
theorem dX13_init_19 : decode cX13_init 19 = .ok (.dup, 1) := dk_89 (dk_at dksX13_init_0 19 rfl rfl)
theorem dX13_init_20 : decode cX13_init 20 = .ok (.iconst 2, 1) := dk_5 (dk_at dksX13_init_0 20 rfl rfl)
theorem dX13_init_21 : decode cX13_init 21 = .ok (.bipush 14, 2) := dk_16 14 (dk_at dksX13_init_0 21 rfl rfl)
theorem dX13_init_23 : decode cX13_init 23 = .ok (.iastore, 1) := dk_79 (dk_at dksX13_init_0 23 rfl rfl)
theorem dX13_init_24 : decode cX13_init 24 = .ok (.dup, 1) := dk_89 (dk_at dksX13_init_1 0 rfl rfl)
theorem dX13_init_25 : decode cX13_init 25 = .ok (.iconst 3, 1) := dk_6 (dk_at dksX13_init_1 1 rfl rfl)
theorem dX13_init_26 : decode cX13_init 26 = .ok (.bipush 16, 2) := dk_16 16 (dk_at dksX13_init_1 2 rfl rfl)
theorem dX13_init_28 : decode cX13_init 28 = .ok (.iastore, 1) := dk_79 (dk_at dksX13_init_1 4 rfl rfl)
theorem dX13_init_29 : decode cX13_init 29 = .ok (.dup, 1) := dk_89 (dk_at dksX13_init_1 5 rfl rfl)
theorem dX13_init_30 : decode cX13_init 30 = .ok (.iconst 4, 1) := dk_7 (dk_at dksX13_init_1 6 rfl rfl)
theorem dX13_init_31 : decode cX13_init 31 = .ok (.bipush 18, 2) := dk_16 18 (dk_at dksX13_init_1 7 rfl rfl)
theorem dX13_init_33 : decode cX13_init 33 = .ok (.iastore, 1) := dk_79 (dk_at dksX13_init_1 9 rfl rfl)
theorem dX13_init_34 : decode cX13_init 34 = .ok (.dup, 1) := dk_89 (dk_at dksX13_init_1 10 rfl rfl)
theorem dX13_init_35 : decode cX13_init 35 = .ok (.iconst 5, 1) := dk_8 (dk_at dksX13_init_1 11 rfl rfl)
theorem dX13_init_36 : decode cX13_init 36 = .ok (.bipush 20, 2) := dk_16 20 (dk_at dksX13_init_1 12 rfl rfl)
theorem dX13_init_38 : decode cX13_init 38 = .ok (.iastore, 1) := dk_79 (dk_at dksX13_init_1 14 rfl rfl)
theorem dX13_init_39 : decode cX13_init 39 = .ok (.dup, 1) := dk_89 (dk_at dksX13_init_1 15 rfl rfl)
theorem dX13_init_40 : decode cX13_init 40 = .ok (.bipush 6, 2) := dk_16 6 (dk_at dksX13_init_1 16 rfl rfl)
theorem dX13_init_42 : decode cX13_init 42 = .ok (.bipush 22, 2) := dk_16 22 (dk_at dksX13_init_1 18 rfl rfl)
theorem dX13_init_44 : decode cX13_init 44 = .ok (.iastore, 1) := dk_79 (dk_at dksX13_init_1 20 rfl rfl)
theorem dX13_init_45 : decode cX13_init 45 = .ok (.dup, 1) := dk_89 (dk_at dksX13_init_1 21 rfl rfl)
theorem dX13_init_46 : decode cX13_init 46 = .ok (.bipush 7, 2) := dk_16 7 (dk_at dksX13_init_1 22 rfl rfl)
theorem dX13_init_48 : decode cX13_init 48 = .ok (.bipush 24, 2) := dk_16 24 (dk_at dksX13_init_2 0 rfl rfl)
theorem dX13_init_50 : decode cX13_init 50 = .ok (.iastore, 1) := dk_79 (dk_at dksX13_init_2 2 rfl rfl)
theorem dX13_init_51 : decode cX13_init 51 = .ok (.dup, 1) := dk_89 (dk_at dksX13_init_2 3 rfl rfl)
theorem dX13_init_52 : decode cX13_init 52 = .ok (.bipush 8, 2) := dk_16 8 (dk_at dksX13_init_2 4 rfl rfl)
theorem dX13_init_54 : decode cX13_init 54 = .ok (.bipush 26, 2) := dk_16 26 (dk_at dksX13_init_2 6 rfl rfl)
theorem dX13_init_56 : decode cX13_init 56 = .ok (.iastore, 1) := dk_79 (dk_at dksX13_init_2 8 rfl rfl)
theorem dX13_init_57 : decode cX13_init 57 = .ok (.dup, 1) := dk_89 (dk_at dksX13_init_2 9 rfl rfl)
theorem dX13_init_58 : decode cX13_init 58 = .ok (.bipush 9, 2) := dk_16 9 (dk_at dksX13_init_2 10 rfl rfl)
theorem dX13_init_60 : decode cX13_init 60 = .ok (.bipush 32, 2) := dk_16 32 (dk_at dksX13_init_2 12 rfl rfl)
theorem dX13_init_62 : decode cX13_init 62 = .ok (.iastore, 1) := dk_79 (dk_at dksX13_init_2 14 rfl rfl)
theorem dX13_init_63 : decode cX13_init 63 = .ok (.dup, 1) := dk_89 (dk_at dksX13_init_2 15 rfl rfl)
theorem dX13_init_64 : decode cX13_init 64 = .ok (.bipush 10, 2) := dk_16 10 (dk_at dksX13_init_2 16 rfl rfl)
theorem dX13_init_66 : decode cX13_init 66 = .ok (.bipush 36, 2) := dk_16 36 (dk_at dksX13_init_2 18 rfl rfl)
theorem dX13_init_68 : decode cX13_init 68 = .ok (.iastore, 1) := dk_79 (dk_at dksX13_init_2 20 rfl rfl)
theorem dX13_init_69 : decode cX13_init 69 = .ok (.dup, 1) := dk_89 (dk_at dksX13_init_2 21 rfl rfl)
theorem dX13_init_70 : decode cX13_init 70 = .ok (.bipush 11, 2) := dk_16 11 (dk_at dksX13_init_2 22 rfl rfl)
theorem dX13_init_72 : decode cX13_init 72 = .ok (.bipush 40, 2) := dk_16 40 (dk_at dksX13_init_3 0 rfl rfl)
theorem dX13_init_74 : decode cX13_init 74 = .ok (.iastore, 1) := dk_79 (dk_at dksX13_init_3 2 rfl rfl)
theorem dX13_init_75 : decode cX13_init 75 = .ok (.dup, 1) := dk_89 (dk_at dksX13_init_3 3 rfl rfl)
theorem dX13_init_76 : decode cX13_init 76 = .ok (.bipush 12, 2) := dk_16 12 (dk_at dksX13_init_3 4 rfl rfl)
theorem dX13_init_78 : decode cX13_init 78 = .ok (.bipush 44, 2) := dk_16 44 (dk_at dksX13_init_3 6 rfl rfl)
theorem dX13_init_80 : decode cX13_init 80 = .ok (.iastore, 1) := dk_79 (dk_at dksX13_init_3 8 rfl rfl)
theorem dX13_init_81 : decode cX13_init 81 = .ok (.dup, 1) := dk_89 (dk_at dksX13_init_3 9 rfl rfl)
theorem dX13_init_82 : decode cX13_init 82 = .ok (.bipush 13, 2) := dk_16 13 (dk_at dksX13_init_3 10 rfl rfl)
theorem dX13_init_84 : decode cX13_init 84 = .ok (.bipush 48, 2) := dk_16 48 (dk_at dksX13_init_3 12 rfl rfl)
theorem dX13_init_86 : decode cX13_init 86 = .ok (.iastore, 1) := dk_79 (dk_at dksX13_init_3 14 rfl rfl)
theorem dX13_init_87 : decode cX13_init 87 = .ok (.dup, 1) := dk_89 (dk_at dksX13_init_3 15 rfl rfl)
theorem dX13_init_88 : decode cX13_init 88 = .ok (.bipush 14, 2) := dk_16 14 (dk_at dksX13_init_3 16 rfl rfl)
theorem dX13_init_90 : decode cX13_init 90 = .ok (.bipush 52, 2) := dk_16 52 (dk_at dksX13_init_3 18 rfl rfl)
theorem dX13_init_92 : decode cX13_init 92 = .ok (.iastore, 1) := dk_79 (dk_at dksX13_init_3 20 rfl rfl)
theorem dX13_init_93 : decode cX13_init 93 = .ok (.dup, 1) := dk_89 (dk_at dksX13_init_3 21 rfl rfl)
theorem dX13_init_94 : decode cX13_init 94 = .ok (.bipush 15, 2) := dk_16 15 (dk_at dksX13_init_3 22 rfl rfl)
theorem dX13_init_96 : decode cX13_init 96 = .ok (.bipush 64, 2) := dk_16 64 (dk_at dksX13_init_4 0 rfl rfl)
theorem dX13_init_98 : decode cX13_init 98 = .ok (.iastore, 1) := dk_79 (dk_at dksX13_init_4 2 rfl rfl)
theorem dX13_init_99 : decode cX13_init 99 = .ok (.dup, 1) := dk_89 (dk_at dksX13_init_4 3 rfl rfl)
theorem dX13_init_100 : decode cX13_init 100 = .ok (.bipush 16, 2) := dk_16 16 (dk_at dksX13_init_4 4 rfl rfl)
theorem dX13_init_102 : decode cX13_init 102 = .ok (.bipush 72, 2) := dk_16 72 (dk_at dksX13_init_4 6 rfl rfl)
theorem dX13_init_104 : decode cX13_init 104 = .ok (.iastore, 1) := dk_79 (dk_at dksX13_init_4 8 rfl rfl)
theorem dX13_init_105 : decode cX13_init 105 = .ok (.dup, 1) := dk_89 (dk_at dksX13_init_4 9 rfl rfl)
theorem dX13_init_106 : decode cX13_init 106 = .ok (.bipush 17, 2) := dk_16 17 (dk_at dksX13_init_4 10 rfl rfl)
theorem dX13_init_108 : decode cX13_init 108 = .ok (.bipush 80, 2) := dk_16 80 (dk_at dksX13_init_4 12 rfl rfl)
theorem dX13_init_110 : decode cX13_init 110 = .ok (.iastore, 1) := dk_79 (dk_at dksX13_init_4 14 rfl rfl)
theorem dX13_init_111 : decode cX13_init 111 = .ok (.dup, 1) := dk_89 (dk_at dksX13_init_4 15 rfl rfl)
theorem dX13_init_112 : decode cX13_init 112 = .ok (.bipush 18, 2) := dk_16 18 (dk_at dksX13_init_4 16 rfl rfl)
theorem dX13_init_114 : decode cX13_init 114 = .ok (.bipush 88, 2) := dk_16 88 (dk_at dksX13_init_4 18 rfl rfl)
theorem dX13_init_116 : decode cX13_init 116 = .ok (.iastore, 1) := dk_79 (dk_at dksX13_init_4 20 rfl rfl)
theorem dX13_init_117 : decode cX13_init 117 = .ok (.dup, 1) := dk_89 (dk_at dksX13_init_4 21 rfl rfl)
theorem dX13_init_118 : decode cX13_init 118 = .ok (.bipush 19, 2) := dk_16 19 (dk_at dksX13_init_4 22 rfl rfl)
theorem dX13_init_120 : decode cX13_init 120 = .ok (.bipush 96, 2) := dk_16 96 (dk_at dksX13_init_5 0 rfl rfl)
theorem dX13_init_122 : decode cX13_init 122 = .ok (.iastore, 1) := dk_79 (dk_at dksX13_init_5 2 rfl rfl)
theorem dX13_init_123 : decode cX13_init 123 = .ok (.dup, 1) := dk_89 (dk_at dksX13_init_5 3 rfl rfl)
theorem dX13_init_124 : decode cX13_init 124 = .ok (.bipush 20, 2) := dk_16 20 (dk_at dksX13_init_5 4 rfl rfl)
theorem dX13_init_126 : decode cX13_init 126 = .ok (.bipush 104, 2) := dk_16 104 (dk_at dksX13_init_5 6 rfl rfl)
theorem dX13_init_128 : decode cX13_init 128 = .ok (.iastore, 1) := dk_79 (dk_at dksX13_init_5 8 rfl rfl)
theorem dX13_init_129 : decode cX13_init 129 = .ok (.dup, 1) := dk_89 (dk_at dksX13_init_5 9 rfl rfl)
theorem dX13_init_130 : decode cX13_init 130 = .ok (.bipush 21, 2) := dk_16 21 (dk_at dksX13_init_5 10 rfl rfl)
theorem dX13_init_132 : decode cX13_init 132 = .ok (.bipush 120, 2) := dk_16 120 (dk_at dksX13_init_5 12 rfl rfl)
theorem dX13_init_134 : decode cX13_init 134 = .ok (.iastore, 1) := dk_79 (dk_at dksX13_init_5 14 rfl rfl)
theorem dX13_init_135 : decode cX13_init 135 = .ok (.dup, 1) := dk_89 (dk_at dksX13_init_5 15 rfl rfl)
theorem dX13_init_136 : decode cX13_init 136 = .ok (.bipush 22, 2) := dk_16 22 (dk_at dksX13_init_5 16 rfl rfl)
theorem dX13_init_138 : decode cX13_init 138 = .ok (.sipush 132, 3) := dk_17 0 132 (dk_at dksX13_init_5 18 rfl rfl)
theorem dX13_init_141 : decode cX13_init 141 = .ok (.iastore, 1) := dk_79 (dk_at dksX13_init_5 21 rfl rfl)
theorem dX13_init_142 : decode cX13_init 142 = .ok (.dup, 1) := dk_89 (dk_at dksX13_init_5 22 rfl rfl)
theorem dX13_init_143 : decode cX13_init 143 = .ok (.bipush 23, 2) := dk_16 23 (dk_at dksX13_init_6 0 rfl rfl)
theorem dX13_init_145 : decode cX13_init 145 = .ok (.sipush 144, 3) := dk_17 0 144 (dk_at dksX13_init_6 2 rfl rfl)
theorem dX13_init_148 : decode cX13_init 148 = .ok (.iastore, 1) := dk_79 (dk_at dksX13_init_6 5 rfl rfl)
theorem dX13_init_149 : decode cX13_init 149 = .ok (.dup, 1) := dk_89 (dk_at dksX13_init_6 6 rfl rfl)
theorem dX13_init_150 : decode cX13_init 150 = .ok (.bipush 24, 2) := dk_16 24 (dk_at dksX13_init_6 7 rfl rfl)
theorem dX13_init_152 : decode cX13_init 152 = .ok (.bipush 8, 2) := dk_16 8 (dk_at dksX13_init_6 9 rfl rfl)
theorem dX13_init_154 : decode cX13_init 154 = .ok (.iastore, 1) := dk_79 (dk_at dksX13_init_6 11 rfl rfl)
theorem dX13_init_155 : decode cX13_init 155 = .ok (.dup, 1) := dk_89 (dk_at dksX13_init_6 12 rfl rfl)
theorem dX13_init_156 : decode cX13_init 156 = .ok (.bipush 25, 2) := dk_16 25 (dk_at dksX13_init_6 13 rfl rfl)
theorem dX13_init_158 : decode cX13_init 158 = .ok (.bipush 8, 2) := dk_16 8 (dk_at dksX13_init_6 15 rfl rfl)
theorem dX13_init_160 : decode cX13_init 160 = .ok (.iastore, 1) := dk_79 (dk_at dksX13_init_6 17 rfl rfl)
theorem dX13_init_161 : decode cX13_init 161 = .ok (.dup, 1) := dk_89 (dk_at dksX13_init_6 18 rfl rfl)
theorem dX13_init_162 : decode cX13_init 162 = .ok (.bipush 26, 2) := dk_16 26 (dk_at dksX13_init_6 19 rfl rfl)
theorem dX13_init_164 : decode cX13_init 164 = .ok (.bipush 12, 2) := dk_16 12 (dk_at dksX13_init_6 21 rfl rfl)
theorem dX13_init_166 : decode cX13_init 166 = .ok (.iastore, 1) := dk_79 (dk_at dksX13_init_6 23 rfl rfl)
theorem dX13_init_167 : decode cX13_init 167 = .ok (.dup, 1) := dk_89 (dk_at dksX13_init_7 0 rfl rfl)
theorem dX13_init_168 : decode cX13_init 168 = .ok (.bipush 27, 2) := dk_16 27 (dk_at dksX13_init_7 1 rfl rfl)
theorem dX13_init_170 : decode cX13_init 170 = .ok (.bipush 12, 2) := dk_16 12 (dk_at dksX13_init_7 3 rfl rfl)
theorem dX13_init_172 : decode cX13_init 172 = .ok (.iastore, 1) := dk_79 (dk_at dksX13_init_7 5 rfl rfl)
theorem dX13_init_173 : decode cX13_init 173 = .ok (.dup, 1) := dk_89 (dk_at dksX13_init_7 6 rfl rfl)
theorem dX13_init_174 : decode cX13_init 174 = .ok (.bipush 28, 2) := dk_16 28 (dk_at dksX13_init_7 7 rfl rfl)
theorem dX13_init_176 : decode cX13_init 176 = .ok (.bipush 16, 2) := dk_16 16 (dk_at dksX13_init_7 9 rfl rfl)
theorem dX13_init_178 : decode cX13_init 178 = .ok (.iastore, 1) := dk_79 (dk_at dksX13_init_7 11 rfl rfl)
theorem dX13_init_179 : decode cX13_init 179 = .ok (.dup, 1) := dk_89 (dk_at dksX13_init_7 12 rfl rfl)
theorem dX13_init_180 : decode cX13_init 180 = .ok (.bipush 29, 2) := dk_16 29 (dk_at dksX13_init_7 13 rfl rfl)
theorem dX13_init_182 : decode cX13_init 182 = .ok (.bipush 16, 2) := dk_16 16 (dk_at dksX13_init_7 15 rfl rfl)
theorem dX13_init_184 : decode cX13_init 184 = .ok (.iastore, 1) := dk_79 (dk_at dksX13_init_7 17 rfl rfl)
theorem dX13_init_185 : decode cX13_init 185 = .ok (.putfield 13, 3) := dk_181 0 13 (dk_at dksX13_init_7 18 rfl rfl)
theorem dX13_init_188 : decode cX13_init 188 = .ok (.aload_n 0, 1) := dk_42 (dk_at dksX13_init_7 21 rfl rfl)
theorem dX13_init_189 : decode cX13_init 189 = .ok (.bipush 30, 2) := dk_16 30 (dk_at dksX13_init_7 22 rfl rfl)
theorem dX13_init_191 : decode cX13_init 191 = .ok (.newarray .int, 2) := dk_188_10 (dk_at dksX13_init_8 0 rfl rfl)
theorem dX13_init_193 : decode cX13_init 193 = .ok (.dup, 1) := dk_89 (dk_at dksX13_init_8 2 rfl rfl)
theorem dX13_init_194 : decode cX13_init 194 = .ok (.iconst 0, 1) := dk_3 (dk_at dksX13_init_8 3 rfl rfl)
theorem dX13_init_195 : decode cX13_init 195 = .ok (.bipush 10, 2) := dk_16 10 (dk_at dksX13_init_8 4 rfl rfl)
theorem dX13_init_197 : decode cX13_init 197 = .ok (.iastore, 1) := dk_79 (dk_at dksX13_init_8 6 rfl rfl)
theorem dX13_init_198 : decode cX13_init 198 = .ok (.dup, 1) := dk_89 (dk_at dksX13_init_8 7 rfl rfl)
theorem dX13_init_199 : decode cX13_init 199 = .ok (.iconst 1, 1) := dk_4 (dk_at dksX13_init_8 8 rfl rfl)
theorem dX13_init_200 : decode cX13_init 200 = .ok (.bipush 12, 2) := dk_16 12 (dk_at dksX13_init_8 9 rfl rfl)
theorem dX13_init_202 : decode cX13_init 202 = .ok (.iastore, 1) := dk_79 (dk_at dksX13_init_8 11 rfl rfl)
theorem dX13_init_203 : decode cX13_init 203 = .ok (.dup, 1) := dk_89 (dk_at dksX13_init_8 12 rfl rfl)
theorem dX13_init_204 : decode cX13_init 204 = .ok (.iconst 2, 1) := dk_5 (dk_at dksX13_init_8 13 rfl rfl)
theorem dX13_init_205 : decode cX13_init 205 = .ok (.bipush 14, 2) := dk_16 14 (dk_at dksX13_init_8 14 rfl rfl)
theorem dX13_init_207 : decode cX13_init 207 = .ok (.iastore, 1) := dk_79 (dk_at dksX13_init_8 16 rfl rfl)
theorem dX13_init_208 : decode cX13_init 208 = .ok (.dup, 1) := dk_89 (dk_at dksX13_init_8 17 rfl rfl)
theorem dX13_init_209 : decode cX13_init 209 = .ok (.iconst 3, 1) := dk_6 (dk_at dksX13_init_8 18 rfl rfl)
theorem dX13_init_210 : decode cX13_init 210 = .ok (.bipush 16, 2) := dk_16 16 (dk_at dksX13_init_8 19 rfl rfl)
theorem dX13_init_212 : decode cX13_init 212 = .ok (.iastore, 1) := dk_79 (dk_at dksX13_init_8 21 rfl rfl)
theorem dX13_init_213 : decode cX13_init 213 = .ok (.dup, 1) := dk_89 (dk_at dksX13_init_8 22 rfl rfl)
theorem dX13_init_214 : decode cX13_init 214 = .ok (.iconst 4, 1) := dk_7 (dk_at dksX13_init_8 23 rfl rfl)
theorem dX13_init_215 : decode cX13_init 215 = .ok (.bipush 18, 2) := dk_16 18 (dk_at dksX13_init_9 0 rfl rfl)
theorem dX13_init_217 : decode cX13_init 217 = .ok (.iastore, 1) := dk_79 (dk_at dksX13_init_9 2 rfl rfl)
theorem dX13_init_218 : decode cX13_init 218 = .ok (.dup, 1) := dk_89 (dk_at dksX13_init_9 3 rfl rfl)
theorem dX13_init_219 : decode cX13_init 219 = .ok (.iconst 5, 1) := dk_8 (dk_at dksX13_init_9 4 rfl rfl)
theorem dX13_init_220 : decode cX13_init 220 = .ok (.bipush 20, 2) := dk_16 20 (dk_at dksX13_init_9 5 rfl rfl)
theorem dX13_init_222 : decode cX13_init 222 = .ok (.iastore, 1) := dk_79 (dk_at dksX13_init_9 7 rfl rfl)
theorem dX13_init_223 : decode cX13_init 223 = .ok (.dup, 1) := dk_89 (dk_at dksX13_init_9 8 rfl rfl)
theorem dX13_init_224 : decode cX13_init 224 = .ok (.bipush 6, 2) := dk_16 6 (dk_at dksX13_init_9 9 rfl rfl)
theorem dX13_init_226 : decode cX13_init 226 = .ok (.bipush 22, 2) := dk_16 22 (dk_at dksX13_init_9 11 rfl rfl)
theorem dX13_init_228 : decode cX13_init 228 = .ok (.iastore, 1) := dk_79 (dk_at dksX13_init_9 13 rfl rfl)
theorem dX13_init_229 : decode cX13_init 229 = .ok (.dup, 1) := dk_89 (dk_at dksX13_init_9 14 rfl rfl)
theorem dX13_init_230 : decode cX13_init 230 = .ok (.bipush 7, 2) := dk_16 7 (dk_at dksX13_init_9 15 rfl rfl)
theorem dX13_init_232 : decode cX13_init 232 = .ok (.bipush 24, 2) := dk_16 24 (dk_at dksX13_init_9 17 rfl rfl)
theorem dX13_init_234 : decode cX13_init 234 = .ok (.iastore, 1) := dk_79 (dk_at dksX13_init_9 19 rfl rfl)
theorem dX13_init_235 : decode cX13_init 235 = .ok (.dup, 1) := dk_89 (dk_at dksX13_init_9 20 rfl rfl)
theorem dX13_init_236 : decode cX13_init 236 = .ok (.bipush 8, 2) := dk_16 8 (dk_at dksX13_init_9 21 rfl rfl)
theorem dX13_init_238 : decode cX13_init 238 = .ok (.bipush 26, 2) := dk_16 26 (dk_at dksX13_init_10 0 rfl rfl)
theorem dX13_init_240 : decode cX13_init 240 = .ok (.iastore, 1) := dk_79 (dk_at dksX13_init_10 2 rfl rfl)
theorem dX13_init_241 : decode cX13_init 241 = .ok (.dup, 1) := dk_89 (dk_at dksX13_init_10 3 rfl rfl)
theorem dX13_init_242 : decode cX13_init 242 = .ok (.bipush 9, 2) := dk_16 9 (dk_at dksX13_init_10 4 rfl rfl)
theorem dX13_init_244 : decode cX13_init 244 = .ok (.bipush 32, 2) := dk_16 32 (dk_at dksX13_init_10 6 rfl rfl)
theorem dX13_init_246 : decode cX13_init 246 = .ok (.iastore, 1) := dk_79 (dk_at dksX13_init_10 8 rfl rfl)
theorem dX13_init_247 : decode cX13_init 247 = .ok (.dup, 1) := dk_89 (dk_at dksX13_init_10 9 rfl rfl)
theorem dX13_init_248 : decode cX13_init 248 = .ok (.bipush 10, 2) := dk_16 10 (dk_at dksX13_init_10 10 rfl rfl)
theorem dX13_init_250 : decode cX13_init 250 = .ok (.bipush 36, 2) := dk_16 36 (dk_at dksX13_init_10 12 rfl rfl)
theorem dX13_init_252 : decode cX13_init 252 = .ok (.iastore, 1) := dk_79 (dk_at dksX13_init_10 14 rfl rfl)
theorem dX13_init_253 : decode cX13_init 253 = .ok (.dup, 1) := dk_89 (dk_at dksX13_init_10 15 rfl rfl)
theorem dX13_init_254 : decode cX13_init 254 = .ok (.bipush 11, 2) := dk_16 11 (dk_at dksX13_init_10 16 rfl rfl)
theorem dX13_init_256 : decode cX13_init 256 = .ok (.bipush 40, 2) := dk_16 40 (dk_at dksX13_init_10 18 rfl rfl)
theorem dX13_init_258 : decode cX13_init 258 = .ok (.iastore, 1) := dk_79 (dk_at dksX13_init_10 20 rfl rfl)
theorem dX13_init_259 : decode cX13_init 259 = .ok (.dup, 1) := dk_89 (dk_at dksX13_init_10 21 rfl rfl)
theorem dX13_init_260 : decode cX13_init 260 = .ok (.bipush 12, 2) := dk_16 12 (dk_at dksX13_init_10 22 rfl rfl)
theorem dX13_init_262 : decode cX13_init 262 = .ok (.bipush 44, 2) := dk_16 44 (dk_at dksX13_init_11 0 rfl rfl)
theorem dX13_init_264 : decode cX13_init 264 = .ok (.iastore, 1) := dk_79 (dk_at dksX13_init_11 2 rfl rfl)
theorem dX13_init_265 : decode cX13_init 265 = .ok (.dup, 1) := dk_89 (dk_at dksX13_init_11 3 rfl rfl)
theorem dX13_init_266 : decode cX13_init 266 = .ok (.bipush 13, 2) := dk_16 13 (dk_at dksX13_init_11 4 rfl rfl)
theorem dX13_init_268 : decode cX13_init 268 = .ok (.bipush 48, 2) := dk_16 48 (dk_at dksX13_init_11 6 rfl rfl)
theorem dX13_init_270 : decode cX13_init 270 = .ok (.iastore, 1) := dk_79 (dk_at dksX13_init_11 8 rfl rfl)
theorem dX13_init_271 : decode cX13_init 271 = .ok (.dup, 1) := dk_89 (dk_at dksX13_init_11 9 rfl rfl)
theorem dX13_init_272 : decode cX13_init 272 = .ok (.bipush 14, 2) := dk_16 14 (dk_at dksX13_init_11 10 rfl rfl)
theorem dX13_init_274 : decode cX13_init 274 = .ok (.bipush 52, 2) := dk_16 52 (dk_at dksX13_init_11 12 rfl rfl)
theorem dX13_init_276 : decode cX13_init 276 = .ok (.iastore, 1) := dk_79 (dk_at dksX13_init_11 14 rfl rfl)
theorem dX13_init_277 : decode cX13_init 277 = .ok (.dup, 1) := dk_89 (dk_at dksX13_init_11 15 rfl rfl)
theorem dX13_init_278 : decode cX13_init 278 = .ok (.bipush 15, 2) := dk_16 15 (dk_at dksX13_init_11 16 rfl rfl)
theorem dX13_init_280 : decode cX13_init 280 = .ok (.bipush 64, 2) := dk_16 64 (dk_at dksX13_init_11 18 rfl rfl)
theorem dX13_init_282 : decode cX13_init 282 = .ok (.iastore, 1) := dk_79 (dk_at dksX13_init_11 20 rfl rfl)
theorem dX13_init_283 : decode cX13_init 283 = .ok (.dup, 1) := dk_89 (dk_at dksX13_init_11 21 rfl rfl)
theorem dX13_init_284 : decode cX13_init 284 = .ok (.bipush 16, 2) := dk_16 16 (dk_at dksX13_init_11 22 rfl rfl)
theorem dX13_init_286 : decode cX13_init 286 = .ok (.bipush 72, 2) := dk_16 72 (dk_at dksX13_init_12 0 rfl rfl)
theorem dX13_init_288 : decode cX13_init 288 = .ok (.iastore, 1) := dk_79 (dk_at dksX13_init_12 2 rfl rfl)
theorem dX13_init_289 : decode cX13_init 289 = .ok (.dup, 1) := dk_89 (dk_at dksX13_init_12 3 rfl rfl)
theorem dX13_init_290 : decode cX13_init 290 = .ok (.bipush 17, 2) := dk_16 17 (dk_at dksX13_init_12 4 rfl rfl)
theorem dX13_init_292 : decode cX13_init 292 = .ok (.bipush 80, 2) := dk_16 80 (dk_at dksX13_init_12 6 rfl rfl)
theorem dX13_init_294 : decode cX13_init 294 = .ok (.iastore, 1) := dk_79 (dk_at dksX13_init_12 8 rfl rfl)
theorem dX13_init_295 : decode cX13_init 295 = .ok (.dup, 1) := dk_89 (dk_at dksX13_init_12 9 rfl rfl)
theorem dX13_init_296 : decode cX13_init 296 = .ok (.bipush 18, 2) := dk_16 18 (dk_at dksX13_init_12 10 rfl rfl)
theorem dX13_init_298 : decode cX13_init 298 = .ok (.bipush 88, 2) := dk_16 88 (dk_at dksX13_init_12 12 rfl rfl)
theorem dX13_init_300 : decode cX13_init 300 = .ok (.iastore, 1) := dk_79 (dk_at dksX13_init_12 14 rfl rfl)
theorem dX13_init_301 : decode cX13_init 301 = .ok (.dup, 1) := dk_89 (dk_at dksX13_init_12 15 rfl rfl)
theorem dX13_init_302 : decode cX13_init 302 = .ok (.bipush 19, 2) := dk_16 19 (dk_at dksX13_init_12 16 rfl rfl)
theorem dX13_init_304 : decode cX13_init 304 = .ok (.bipush 96, 2) := dk_16 96 (dk_at dksX13_init_12 18 rfl rfl)
theorem dX13_init_306 : decode cX13_init 306 = .ok (.iastore, 1) := dk_79 (dk_at dksX13_init_12 20 rfl rfl)
theorem dX13_init_307 : decode cX13_init 307 = .ok (.dup, 1) := dk_89 (dk_at dksX13_init_12 21 rfl rfl)
theorem dX13_init_308 : decode cX13_init 308 = .ok (.bipush 20, 2) := dk_16 20 (dk_at dksX13_init_12 22 rfl rfl)
theorem dX13_init_310 : decode cX13_init 310 = .ok (.bipush 104, 2) := dk_16 104 (dk_at dksX13_init_13 0 rfl rfl)
theorem dX13_init_312 : decode cX13_init 312 = .ok (.iastore, 1) := dk_79 (dk_at dksX13_init_13 2 rfl rfl)
theorem dX13_init_313 : decode cX13_init 313 = .ok (.dup, 1) := dk_89 (dk_at dksX13_init_13 3 rfl rfl)
theorem dX13_init_314 : decode cX13_init 314 = .ok (.bipush 21, 2) := dk_16 21 (dk_at dksX13_init_13 4 rfl rfl)
theorem dX13_init_316 : decode cX13_init 316 = .ok (.bipush 120, 2) := dk_16 120 (dk_at dksX13_init_13 6 rfl rfl)
theorem dX13_init_318 : decode cX13_init 318 = .ok (.iastore, 1) := dk_79 (dk_at dksX13_init_13 8 rfl rfl)
theorem dX13_init_319 : decode cX13_init 319 = .ok (.dup, 1) := dk_89 (dk_at dksX13_init_13 9 rfl rfl)
theorem dX13_init_320 : decode cX13_init 320 = .ok (.bipush 22, 2) := dk_16 22 (dk_at dksX13_init_13 10 rfl rfl)
theorem dX13_init_322 : decode cX13_init 322 = .ok (.sipush 132, 3) := dk_17 0 132 (dk_at dksX13_init_13 12 rfl rfl)
theorem dX13_init_325 : decode cX13_init 325 = .ok (.iastore, 1) := dk_79 (dk_at dksX13_init_13 15 rfl rfl)
theorem dX13_init_326 : decode cX13_init 326 = .ok (.dup, 1) := dk_89 (dk_at dksX13_init_13 16 rfl rfl)
theorem dX13_init_327 : decode cX13_init 327 = .ok (.bipush 23, 2) := dk_16 23 (dk_at dksX13_init_13 17 rfl rfl)
theorem dX13_init_329 : decode cX13_init 329 = .ok (.sipush 144, 3) := dk_17 0 144 (dk_at dksX13_init_13 19 rfl rfl)
theorem dX13_init_332 : decode cX13_init 332 = .ok (.iastore, 1) := dk_79 (dk_at dksX13_init_13 22 rfl rfl)
theorem dX13_init_333 : decode cX13_init 333 = .ok (.dup, 1) := dk_89 (dk_at dksX13_init_13 23 rfl rfl)
theorem dX13_init_334 : decode cX13_init 334 = .ok (.bipush 24, 2) := dk_16 24 (dk_at dksX13_init_14 0 rfl rfl)
theorem dX13_init_336 : decode cX13_init 336 = .ok (.bipush 18, 2) := dk_16 18 (dk_at dksX13_init_14 2 rfl rfl)
theorem dX13_init_338 : decode cX13_init 338 = .ok (.iastore, 1) := dk_79 (dk_at dksX13_init_14 4 rfl rfl)
theorem dX13_init_339 : decode cX13_init 339 = .ok (.dup, 1) := dk_89 (dk_at dksX13_init_14 5 rfl rfl)
theorem dX13_init_340 : decode cX13_init 340 = .ok (.bipush 25, 2) := dk_16 25 (dk_at dksX13_init_14 6 rfl rfl)
theorem dX13_init_342 : decode cX13_init 342 = .ok (.bipush 32, 2) := dk_16 32 (dk_at dksX13_init_14 8 rfl rfl)
theorem dX13_init_344 : decode cX13_init 344 = .ok (.iastore, 1) := dk_79 (dk_at dksX13_init_14 10 rfl rfl)
theorem dX13_init_345 : decode cX13_init 345 = .ok (.dup, 1) := dk_89 (dk_at dksX13_init_14 11 rfl rfl)
theorem dX13_init_346 : decode cX13_init 346 = .ok (.bipush 26, 2) := dk_16 26 (dk_at dksX13_init_14 12 rfl rfl)
theorem dX13_init_348 : decode cX13_init 348 = .ok (.bipush 26, 2) := dk_16 26 (dk_at dksX13_init_14 14 rfl rfl)
theorem dX13_init_350 : decode cX13_init 350 = .ok (.iastore, 1) := dk_79 (dk_at dksX13_init_14 16 rfl rfl)
theorem dX13_init_351 : decode cX13_init 351 = .ok (.dup, 1) := dk_89 (dk_at dksX13_init_14 17 rfl rfl)
theorem dX13_init_352 : decode cX13_init 352 = .ok (.bipush 27, 2) := dk_16 27 (dk_at dksX13_init_14 18 rfl rfl)
theorem dX13_init_354 : decode cX13_init 354 = .ok (.bipush 36, 2) := dk_16 36 (dk_at dksX13_init_14 20 rfl rfl)
theorem dX13_init_356 : decode cX13_init 356 = .ok (.iastore, 1) := dk_79 (dk_at dksX13_init_14 22 rfl rfl)
theorem dX13_init_357 : decode cX13_init 357 = .ok (.dup, 1) := dk_89 (dk_at dksX13_init_14 23 rfl rfl)
theorem dX13_init_358 : decode cX13_init 358 = .ok (.bipush 28, 2) := dk_16 28 (dk_at dksX13_init_15 0 rfl rfl)
theorem dX13_init_360 : decode cX13_init 360 = .ok (.bipush 36, 2) := dk_16 36 (dk_at dksX13_init_15 2 rfl rfl)
theorem dX13_init_362 : decode cX13_init 362 = .ok (.iastore, 1) := dk_79 (dk_at dksX13_init_15 4 rfl rfl)
theorem dX13_init_363 : decode cX13_init 363 = .ok (.dup, 1) := dk_89 (dk_at dksX13_init_15 5 rfl rfl)
theorem dX13_init_364 : decode cX13_init 364 = .ok (.bipush 29, 2) := dk_16 29 (dk_at dksX13_init_15 6 rfl rfl)
theorem dX13_init_366 : decode cX13_init 366 = .ok (.bipush 48, 2) := dk_16 48 (dk_at dksX13_init_15 8 rfl rfl)
theorem dX13_init_368 : decode cX13_init 368 = .ok (.iastore, 1) := dk_79 (dk_at dksX13_init_15 10 rfl rfl)
theorem dX13_init_369 : decode cX13_init 369 = .ok (.putfield 17, 3) := dk_181 0 17 (dk_at dksX13_init_15 11 rfl rfl)
theorem dX13_init_372 : decode cX13_init 372 = .ok (.aload_n 0, 1) := dk_42 (dk_at dksX13_init_15 14 rfl rfl)
theorem dX13_init_373 : decode cX13_init 373 = .ok (.bipush 30, 2) := dk_16 30 (dk_at dksX13_init_15 15 rfl rfl)
theorem dX13_init_375 : decode cX13_init 375 = .ok (.newarray .int, 2) := dk_188_10 (dk_at dksX13_init_15 17 rfl rfl)
theorem dX13_init_377 : decode cX13_init 377 = .ok (.dup, 1) := dk_89 (dk_at dksX13_init_15 19 rfl rfl)
theorem dX13_init_378 : decode cX13_init 378 = .ok (.iconst 0, 1) := dk_3 (dk_at dksX13_init_15 20 rfl rfl)
theorem dX13_init_379 : decode cX13_init 379 = .ok (.iconst 5, 1) := dk_8 (dk_at dksX13_init_15 21 rfl rfl)
theorem dX13_init_380 : decode cX13_init 380 = .ok (.iastore, 1) := dk_79 (dk_at dksX13_init_15 22 rfl rfl)
theorem dX13_init_381 : decode cX13_init 381 = .ok (.dup, 1) := dk_89 (dk_at dksX13_init_15 23 rfl rfl)
theorem dX13_init_382 : decode cX13_init 382 = .ok (.iconst 1, 1) := dk_4 (dk_at dksX13_init_16 0 rfl rfl)
theorem dX13_init_383 : decode cX13_init 383 = .ok (.bipush 7, 2) := dk_16 7 (dk_at dksX13_init_16 1 rfl rfl)
theorem dX13_init_385 : decode cX13_init 385 = .ok (.iastore, 1) := dk_79 (dk_at dksX13_init_16 3 rfl rfl)
theorem dX13_init_386 : decode cX13_init 386 = .ok (.dup, 1) := dk_89 (dk_at dksX13_init_16 4 rfl rfl)
theorem dX13_init_387 : decode cX13_init 387 = .ok (.iconst 2, 1) := dk_5 (dk_at dksX13_init_16 5 rfl rfl)
theorem dX13_init_388 : decode cX13_init 388 = .ok (.bipush 10, 2) := dk_16 10 (dk_at dksX13_init_16 6 rfl rfl)
theorem dX13_init_390 : decode cX13_init 390 = .ok (.iastore, 1) := dk_79 (dk_at dksX13_init_16 8 rfl rfl)
theorem dX13_init_391 : decode cX13_init 391 = .ok (.dup, 1) := dk_89 (dk_at dksX13_init_16 9 rfl rfl)
theorem dX13_init_392 : decode cX13_init 392 = .ok (.iconst 3, 1) := dk_6 (dk_at dksX13_init_16 10 rfl rfl)
theorem dX13_init_393 : decode cX13_init 393 = .ok (.bipush 12, 2) := dk_16 12 (dk_at dksX13_init_16 11 rfl rfl)
theorem dX13_init_395 : decode cX13_init 395 = .ok (.iastore, 1) := dk_79 (dk_at dksX13_init_16 13 rfl rfl)
theorem dX13_init_396 : decode cX13_init 396 = .ok (.dup, 1) := dk_89 (dk_at dksX13_init_16 14 rfl rfl)
theorem dX13_init_397 : decode cX13_init 397 = .ok (.iconst 4, 1) := dk_7 (dk_at dksX13_init_16 15 rfl rfl)
theorem dX13_init_398 : decode cX13_init 398 = .ok (.bipush 14, 2) := dk_16 14 (dk_at dksX13_init_16 16 rfl rfl)
theorem dX13_init_400 : decode cX13_init 400 = .ok (.iastore, 1) := dk_79 (dk_at dksX13_init_16 18 rfl rfl)
theorem dX13_init_401 : decode cX13_init 401 = .ok (.dup, 1) := dk_89 (dk_at dksX13_init_16 19 rfl rfl)
theorem dX13_init_402 : decode cX13_init 402 = .ok (.iconst 5, 1) := dk_8 (dk_at dksX13_init_16 20 rfl rfl)
theorem dX13_init_403 : decode cX13_init 403 = .ok (.bipush 18, 2) := dk_16 18 (dk_at dksX13_init_16 21 rfl rfl)
theorem dX13_init_405 : decode cX13_init 405 = .ok (.iastore, 1) := dk_79 (dk_at dksX13_init_16 23 rfl rfl)
theorem dX13_init_406 : decode cX13_init 406 = .ok (.dup, 1) := dk_89 (dk_at dksX13_init_17 0 rfl rfl)
theorem dX13_init_407 : decode cX13_init 407 = .ok (.bipush 6, 2) := dk_16 6 (dk_at dksX13_init_17 1 rfl rfl)
theorem dX13_init_409 : decode cX13_init 409 = .ok (.bipush 20, 2) := dk_16 20 (dk_at dksX13_init_17 3 rfl rfl)
theorem dX13_init_411 : decode cX13_init 411 = .ok (.iastore, 1) := dk_79 (dk_at dksX13_init_17 5 rfl rfl)
theorem dX13_init_412 : decode cX13_init 412 = .ok (.dup, 1) := dk_89 (dk_at dksX13_init_17 6 rfl rfl)
theorem dX13_init_413 : decode cX13_init 413 = .ok (.bipush 7, 2) := dk_16 7 (dk_at dksX13_init_17 7 rfl rfl)
theorem dX13_init_415 : decode cX13_init 415 = .ok (.bipush 24, 2) := dk_16 24 (dk_at dksX13_init_17 9 rfl rfl)
theorem dX13_init_417 : decode cX13_init 417 = .ok (.iastore, 1) := dk_79 (dk_at dksX13_init_17 11 rfl rfl)
theorem dX13_init_418 : decode cX13_init 418 = .ok (.dup, 1) := dk_89 (dk_at dksX13_init_17 12 rfl rfl)
theorem dX13_init_419 : decode cX13_init 419 = .ok (.bipush 8, 2) := dk_16 8 (dk_at dksX13_init_17 13 rfl rfl)
theorem dX13_init_421 : decode cX13_init 421 = .ok (.bipush 28, 2) := dk_16 28 (dk_at dksX13_init_17 15 rfl rfl)
theorem dX13_init_423 : decode cX13_init 423 = .ok (.iastore, 1) := dk_79 (dk_at dksX13_init_17 17 rfl rfl)
theorem dX13_init_424 : decode cX13_init 424 = .ok (.dup, 1) := dk_89 (dk_at dksX13_init_17 18 rfl rfl)
theorem dX13_init_425 : decode cX13_init 425 = .ok (.bipush 9, 2) := dk_16 9 (dk_at dksX13_init_17 19 rfl rfl)
theorem dX13_init_427 : decode cX13_init 427 = .ok (.bipush 36, 2) := dk_16 36 (dk_at dksX13_init_17 21 rfl rfl)
theorem dX13_init_429 : decode cX13_init 429 = .ok (.iastore, 1) := dk_79 (dk_at dksX13_init_17 23 rfl rfl)
theorem dX13_init_430 : decode cX13_init 430 = .ok (.dup, 1) := dk_89 (dk_at dksX13_init_18 0 rfl rfl)
theorem dX13_init_431 : decode cX13_init 431 = .ok (.bipush 10, 2) := dk_16 10 (dk_at dksX13_init_18 1 rfl rfl)
theorem dX13_init_433 : decode cX13_init 433 = .ok (.bipush 42, 2) := dk_16 42 (dk_at dksX13_init_18 3 rfl rfl)
theorem dX13_init_435 : decode cX13_init 435 = .ok (.iastore, 1) := dk_79 (dk_at dksX13_init_18 5 rfl rfl)
theorem dX13_init_436 : decode cX13_init 436 = .ok (.dup, 1) := dk_89 (dk_at dksX13_init_18 6 rfl rfl)
theorem dX13_init_437 : decode cX13_init 437 = .ok (.bipush 11, 2) := dk_16 11 (dk_at dksX13_init_18 7 rfl rfl)
theorem dX13_init_439 : decode cX13_init 439 = .ok (.bipush 48, 2) := dk_16 48 (dk_at dksX13_init_18 9 rfl rfl)
theorem dX13_init_441 : decode cX13_init 441 = .ok (.iastore, 1) := dk_79 (dk_at dksX13_init_18 11 rfl rfl)
theorem dX13_init_442 : decode cX13_init 442 = .ok (.dup, 1) := dk_89 (dk_at dksX13_init_18 12 rfl rfl)
theorem dX13_init_443 : decode cX13_init 443 = .ok (.bipush 12, 2) := dk_16 12 (dk_at dksX13_init_18 13 rfl rfl)
theorem dX13_init_445 : decode cX13_init 445 = .ok (.bipush 56, 2) := dk_16 56 (dk_at dksX13_init_18 15 rfl rfl)
theorem dX13_init_447 : decode cX13_init 447 = .ok (.iastore, 1) := dk_79 (dk_at dksX13_init_18 17 rfl rfl)
theorem dX13_init_448 : decode cX13_init 448 = .ok (.dup, 1) := dk_89 (dk_at dksX13_init_18 18 rfl rfl)
theorem dX13_init_449 : decode cX13_init 449 = .ok (.bipush 13, 2) := dk_16 13 (dk_at dksX13_init_18 19 rfl rfl)
theorem dX13_init_451 : decode cX13_init 451 = .ok (.bipush 68, 2) := dk_16 68 (dk_at dksX13_init_18 21 rfl rfl)
theorem dX13_init_453 : decode cX13_init 453 = .ok (.iastore, 1) := dk_79 (dk_at dksX13_init_18 23 rfl rfl)
theorem dX13_init_454 : decode cX13_init 454 = .ok (.dup, 1) := dk_89 (dk_at dksX13_init_19 0 rfl rfl)
theorem dX13_init_455 : decode cX13_init 455 = .ok (.bipush 14, 2) := dk_16 14 (dk_at dksX13_init_19 1 rfl rfl)
theorem dX13_init_457 : decode cX13_init 457 = .ok (.bipush 84, 2) := dk_16 84 (dk_at dksX13_init_19 3 rfl rfl)
theorem dX13_init_459 : decode cX13_init 459 = .ok (.iastore, 1) := dk_79 (dk_at dksX13_init_19 5 rfl rfl)
theorem dX13_init_460 : decode cX13_init 460 = .ok (.dup, 1) := dk_89 (dk_at dksX13_init_19 6 rfl rfl)
theorem dX13_init_461 : decode cX13_init 461 = .ok (.bipush 15, 2) := dk_16 15 (dk_at dksX13_init_19 7 rfl rfl)
theorem dX13_init_463 : decode cX13_init 463 = .ok (.bipush 112, 2) := dk_16 112 (dk_at dksX13_init_19 9 rfl rfl)
theorem dX13_init_465 : decode cX13_init 465 = .ok (.iastore, 1) := dk_79 (dk_at dksX13_init_19 11 rfl rfl)
theorem dX13_init_466 : decode cX13_init 466 = .ok (.dup, 1) := dk_89 (dk_at dksX13_init_19 12 rfl rfl)
theorem dX13_init_467 : decode cX13_init 467 = .ok (.bipush 16, 2) := dk_16 16 (dk_at dksX13_init_19 13 rfl rfl)
theorem dX13_init_469 : decode cX13_init 469 = .ok (.sipush 144, 3) := dk_17 0 144 (dk_at dksX13_init_19 15 rfl rfl)
theorem dX13_init_472 : decode cX13_init 472 = .ok (.iastore, 1) := dk_79 (dk_at dksX13_init_19 18 rfl rfl)
theorem dX13_init_473 : decode cX13_init 473 = .ok (.dup, 1) := dk_89 (dk_at dksX13_init_19 19 rfl rfl)
theorem dX13_init_474 : decode cX13_init 474 = .ok (.bipush 17, 2) := dk_16 17 (dk_at dksX13_init_19 20 rfl rfl)
theorem dX13_init_476 : decode cX13_init 476 = .ok (.sipush 192, 3) := dk_17 0 192 (dk_at dksX13_init_20 0 rfl rfl)
theorem dX13_init_479 : decode cX13_init 479 = .ok (.iastore, 1) := dk_79 (dk_at dksX13_init_20 3 rfl rfl)
theorem dX13_init_480 : decode cX13_init 480 = .ok (.dup, 1) := dk_89 (dk_at dksX13_init_20 4 rfl rfl)
theorem dX13_init_481 : decode cX13_init 481 = .ok (.bipush 18, 2) := dk_16 18 (dk_at dksX13_init_20 5 rfl rfl)
theorem dX13_init_483 : decode cX13_init 483 = .ok (.sipush 224, 3) := dk_17 0 224 (dk_at dksX13_init_20 7 rfl rfl)
theorem dX13_init_486 : decode cX13_init 486 = .ok (.iastore, 1) := dk_79 (dk_at dksX13_init_20 10 rfl rfl)
theorem dX13_init_487 : decode cX13_init 487 = .ok (.dup, 1) := dk_89 (dk_at dksX13_init_20 11 rfl rfl)
theorem dX13_init_488 : decode cX13_init 488 = .ok (.bipush 19, 2) := dk_16 19 (dk_at dksX13_init_20 12 rfl rfl)
theorem dX13_init_490 : decode cX13_init 490 = .ok (.sipush 272, 3) := dk_17 1 16 (dk_at dksX13_init_20 14 rfl rfl)
theorem dX13_init_493 : decode cX13_init 493 = .ok (.iastore, 1) := dk_79 (dk_at dksX13_init_20 17 rfl rfl)
theorem dX13_init_494 : decode cX13_init 494 = .ok (.dup, 1) := dk_89 (dk_at dksX13_init_20 18 rfl rfl)
theorem dX13_init_495 : decode cX13_init 495 = .ok (.bipush 20, 2) := dk_16 20 (dk_at dksX13_init_20 19 rfl rfl)
theorem dX13_init_497 : decode cX13_init 497 = .ok (.sipush 336, 3) := dk_17 1 80 (dk_at dksX13_init_20 21 rfl rfl)
theorem dX13_init_500 : decode cX13_init 500 = .ok (.iastore, 1) := dk_79 (dk_at dksX13_init_21 0 rfl rfl)
theorem dX13_init_501 : decode cX13_init 501 = .ok (.dup, 1) := dk_89 (dk_at dksX13_init_21 1 rfl rfl)
theorem dX13_init_502 : decode cX13_init 502 = .ok (.bipush 21, 2) := dk_16 21 (dk_at dksX13_init_21 2 rfl rfl)
theorem dX13_init_504 : decode cX13_init 504 = .ok (.sipush 408, 3) := dk_17 1 152 (dk_at dksX13_init_21 4 rfl rfl)
theorem dX13_init_507 : decode cX13_init 507 = .ok (.iastore, 1) := dk_79 (dk_at dksX13_init_21 7 rfl rfl)
theorem dX13_init_508 : decode cX13_init 508 = .ok (.dup, 1) := dk_89 (dk_at dksX13_init_21 8 rfl rfl)
theorem dX13_init_509 : decode cX13_init 509 = .ok (.bipush 22, 2) := dk_16 22 (dk_at dksX13_init_21 9 rfl rfl)
theorem dX13_init_511 : decode cX13_init 511 = .ok (.sipush 496, 3) := dk_17 1 240 (dk_at dksX13_init_21 11 rfl rfl)
theorem dX13_init_514 : decode cX13_init 514 = .ok (.iastore, 1) := dk_79 (dk_at dksX13_init_21 14 rfl rfl)
theorem dX13_init_515 : decode cX13_init 515 = .ok (.dup, 1) := dk_89 (dk_at dksX13_init_21 15 rfl rfl)
theorem dX13_init_516 : decode cX13_init 516 = .ok (.bipush 23, 2) := dk_16 23 (dk_at dksX13_init_21 16 rfl rfl)
theorem dX13_init_518 : decode cX13_init 518 = .ok (.sipush 620, 3) := dk_17 2 108 (dk_at dksX13_init_21 18 rfl rfl)
theorem dX13_init_521 : decode cX13_init 521 = .ok (.iastore, 1) := dk_79 (dk_at dksX13_init_21 21 rfl rfl)
theorem dX13_init_522 : decode cX13_init 522 = .ok (.dup, 1) := dk_89 (dk_at dksX13_init_21 22 rfl rfl)
theorem dX13_init_523 : decode cX13_init 523 = .ok (.bipush 24, 2) := dk_16 24 (dk_at dksX13_init_22 0 rfl rfl)
theorem dX13_init_525 : decode cX13_init 525 = .ok (.bipush 7, 2) := dk_16 7 (dk_at dksX13_init_22 2 rfl rfl)
theorem dX13_init_527 : decode cX13_init 527 = .ok (.iastore, 1) := dk_79 (dk_at dksX13_init_22 4 rfl rfl)
theorem dX13_init_528 : decode cX13_init 528 = .ok (.dup, 1) := dk_89 (dk_at dksX13_init_22 5 rfl rfl)
theorem dX13_init_529 : decode cX13_init 529 = .ok (.bipush 25, 2) := dk_16 25 (dk_at dksX13_init_22 6 rfl rfl)
theorem dX13_init_531 : decode cX13_init 531 = .ok (.bipush 11, 2) := dk_16 11 (dk_at dksX13_init_22 8 rfl rfl)
theorem dX13_init_533 : decode cX13_init 533 = .ok (.iastore, 1) := dk_79 (dk_at dksX13_init_22 10 rfl rfl)
theorem dX13_init_534 : decode cX13_init 534 = .ok (.dup, 1) := dk_89 (dk_at dksX13_init_22 11 rfl rfl)
theorem dX13_init_535 : decode cX13_init 535 = .ok (.bipush 26, 2) := dk_16 26 (dk_at dksX13_init_22 12 rfl rfl)
theorem dX13_init_537 : decode cX13_init 537 = .ok (.bipush 14, 2) := dk_16 14 (dk_at dksX13_init_22 14 rfl rfl)
theorem dX13_init_539 : decode cX13_init 539 = .ok (.iastore, 1) := dk_79 (dk_at dksX13_init_22 16 rfl rfl)
theorem dX13_init_540 : decode cX13_init 540 = .ok (.dup, 1) := dk_89 (dk_at dksX13_init_22 17 rfl rfl)
theorem dX13_init_541 : decode cX13_init 541 = .ok (.bipush 27, 2) := dk_16 27 (dk_at dksX13_init_22 18 rfl rfl)
theorem dX13_init_543 : decode cX13_init 543 = .ok (.bipush 18, 2) := dk_16 18 (dk_at dksX13_init_22 20 rfl rfl)
theorem dX13_init_545 : decode cX13_init 545 = .ok (.iastore, 1) := dk_79 (dk_at dksX13_init_22 22 rfl rfl)
theorem dX13_init_546 : decode cX13_init 546 = .ok (.dup, 1) := dk_89 (dk_at dksX13_init_22 23 rfl rfl)
theorem dX13_init_547 : decode cX13_init 547 = .ok (.bipush 28, 2) := dk_16 28 (dk_at dksX13_init_23 0 rfl rfl)
theorem dX13_init_549 : decode cX13_init 549 = .ok (.bipush 24, 2) := dk_16 24 (dk_at dksX13_init_23 2 rfl rfl)
theorem dX13_init_551 : decode cX13_init 551 = .ok (.iastore, 1) := dk_79 (dk_at dksX13_init_23 4 rfl rfl)
theorem dX13_init_552 : decode cX13_init 552 = .ok (.dup, 1) := dk_89 (dk_at dksX13_init_23 5 rfl rfl)
theorem dX13_init_553 : decode cX13_init 553 = .ok (.bipush 29, 2) := dk_16 29 (dk_at dksX13_init_23 6 rfl rfl)
theorem dX13_init_555 : decode cX13_init 555 = .ok (.bipush 28, 2) := dk_16 28 (dk_at dksX13_init_23 8 rfl rfl)
theorem dX13_init_557 : decode cX13_init 557 = .ok (.iastore, 1) := dk_79 (dk_at dksX13_init_23 10 rfl rfl)
theorem dX13_init_558 : decode cX13_init 558 = .ok (.putfield 20, 3) := dk_181 0 20 (dk_at dksX13_init_23 11 rfl rfl)
theorem dX13_init_561 : decode cX13_init 561 = .ok (.aload_n 0, 1) := dk_42 (dk_at dksX13_init_23 14 rfl rfl)
theorem dX13_init_562 : decode cX13_init 562 = .ok (.bipush 30, 2) := dk_16 30 (dk_at dksX13_init_23 15 rfl rfl)
theorem dX13_init_564 : decode cX13_init 564 = .ok (.newarray .int, 2) := dk_188_10 (dk_at dksX13_init_23 17 rfl rfl)
theorem dX13_init_566 : decode cX13_init 566 = .ok (.dup, 1) := dk_89 (dk_at dksX13_init_23 19 rfl rfl)
theorem dX13_init_567 : decode cX13_init 567 = .ok (.iconst 0, 1) := dk_3 (dk_at dksX13_init_23 20 rfl rfl)
theorem dX13_init_568 : decode cX13_init 568 = .ok (.iconst 1, 1) := dk_4 (dk_at dksX13_init_23 21 rfl rfl)
theorem dX13_init_569 : decode cX13_init 569 = .ok (.iastore, 1) := dk_79 (dk_at dksX13_init_23 22 rfl rfl)
theorem dX13_init_570 : decode cX13_init 570 = .ok (.dup, 1) := dk_89 (dk_at dksX13_init_23 23 rfl rfl)
theorem dX13_init_571 : decode cX13_init 571 = .ok (.iconst 1, 1) := dk_4 (dk_at dksX13_init_24 0 rfl rfl)
theorem dX13_init_572 : decode cX13_init 572 = .ok (.iconst 1, 1) := dk_4 (dk_at dksX13_init_24 1 rfl rfl)
theorem dX13_init_573 : decode cX13_init 573 = .ok (.iastore, 1) := dk_79 (dk_at dksX13_init_24 2 rfl rfl)
theorem dX13_init_574 : decode cX13_init 574 = .ok (.dup, 1) := dk_89 (dk_at dksX13_init_24 3 rfl rfl)
theorem dX13_init_575 : decode cX13_init 575 = .ok (.iconst 2, 1) := dk_5 (dk_at dksX13_init_24 4 rfl rfl)
theorem dX13_init_576 : decode cX13_init 576 = .ok (.iconst 1, 1) := dk_4 (dk_at dksX13_init_24 5 rfl rfl)
theorem dX13_init_577 : decode cX13_init 577 = .ok (.iastore, 1) := dk_79 (dk_at dksX13_init_24 6 rfl rfl)
theorem dX13_init_578 : decode cX13_init 578 = .ok (.dup, 1) := dk_89 (dk_at dksX13_init_24 7 rfl rfl)
theorem dX13_init_579 : decode cX13_init 579 = .ok (.iconst 3, 1) := dk_6 (dk_at dksX13_init_24 8 rfl rfl)
theorem dX13_init_580 : decode cX13_init 580 = .ok (.iconst 1, 1) := dk_4 (dk_at dksX13_init_24 9 rfl rfl)
theorem dX13_init_581 : decode cX13_init 581 = .ok (.iastore, 1) := dk_79 (dk_at dksX13_init_24 10 rfl rfl)
theorem dX13_init_582 : decode cX13_init 582 = .ok (.dup, 1) := dk_89 (dk_at dksX13_init_24 11 rfl rfl)
theorem dX13_init_583 : decode cX13_init 583 = .ok (.iconst 4, 1) := dk_7 (dk_at dksX13_init_24 12 rfl rfl)
theorem dX13_init_584 : decode cX13_init 584 = .ok (.iconst 1, 1) := dk_4 (dk_at dksX13_init_24 13 rfl rfl)
theorem dX13_init_585 : decode cX13_init 585 = .ok (.iastore, 1) := dk_79 (dk_at dksX13_init_24 14 rfl rfl)
theorem dX13_init_586 : decode cX13_init 586 = .ok (.dup, 1) := dk_89 (dk_at dksX13_init_24 15 rfl rfl)
theorem dX13_init_587 : decode cX13_init 587 = .ok (.iconst 5, 1) := dk_8 (dk_at dksX13_init_24 16 rfl rfl)
theorem dX13_init_588 : decode cX13_init 588 = .ok (.iconst 1, 1) := dk_4 (dk_at dksX13_init_24 17 rfl rfl)
theorem dX13_init_589 : decode cX13_init 589 = .ok (.iastore, 1) := dk_79 (dk_at dksX13_init_24 18 rfl rfl)
theorem dX13_init_590 : decode cX13_init 590 = .ok (.dup, 1) := dk_89 (dk_at dksX13_init_24 19 rfl rfl)
theorem dX13_init_591 : decode cX13_init 591 = .ok (.bipush 6, 2) := dk_16 6 (dk_at dksX13_init_24 20 rfl rfl)
theorem dX13_init_593 : decode cX13_init 593 = .ok (.iconst 1, 1) := dk_4 (dk_at dksX13_init_24 22 rfl rfl)
theorem dX13_init_594 : decode cX13_init 594 = .ok (.iastore, 1) := dk_79 (dk_at dksX13_init_24 23 rfl rfl)
theorem dX13_init_595 : decode cX13_init 595 = .ok (.dup, 1) := dk_89 (dk_at dksX13_init_25 0 rfl rfl)
theorem dX13_init_596 : decode cX13_init 596 = .ok (.bipush 7, 2) := dk_16 7 (dk_at dksX13_init_25 1 rfl rfl)
theorem dX13_init_598 : decode cX13_init 598 = .ok (.iconst 1, 1) := dk_4 (dk_at dksX13_init_25 3 rfl rfl)
theorem dX13_init_599 : decode cX13_init 599 = .ok (.iastore, 1) := dk_79 (dk_at dksX13_init_25 4 rfl rfl)
theorem dX13_init_600 : decode cX13_init 600 = .ok (.dup, 1) := dk_89 (dk_at dksX13_init_25 5 rfl rfl)
theorem dX13_init_601 : decode cX13_init 601 = .ok (.bipush 8, 2) := dk_16 8 (dk_at dksX13_init_25 6 rfl rfl)
theorem dX13_init_603 : decode cX13_init 603 = .ok (.iconst 1, 1) := dk_4 (dk_at dksX13_init_25 8 rfl rfl)
theorem dX13_init_604 : decode cX13_init 604 = .ok (.iastore, 1) := dk_79 (dk_at dksX13_init_25 9 rfl rfl)
theorem dX13_init_605 : decode cX13_init 605 = .ok (.dup, 1) := dk_89 (dk_at dksX13_init_25 10 rfl rfl)
theorem dX13_init_606 : decode cX13_init 606 = .ok (.bipush 9, 2) := dk_16 9 (dk_at dksX13_init_25 11 rfl rfl)
theorem dX13_init_608 : decode cX13_init 608 = .ok (.iconst 1, 1) := dk_4 (dk_at dksX13_init_25 13 rfl rfl)
theorem dX13_init_609 : decode cX13_init 609 = .ok (.iastore, 1) := dk_79 (dk_at dksX13_init_25 14 rfl rfl)
theorem dX13_init_610 : decode cX13_init 610 = .ok (.dup, 1) := dk_89 (dk_at dksX13_init_25 15 rfl rfl)
theorem dX13_init_611 : decode cX13_init 611 = .ok (.bipush 10, 2) := dk_16 10 (dk_at dksX13_init_25 16 rfl rfl)
theorem dX13_init_613 : decode cX13_init 613 = .ok (.iconst 1, 1) := dk_4 (dk_at dksX13_init_25 18 rfl rfl)
theorem dX13_init_614 : decode cX13_init 614 = .ok (.iastore, 1) := dk_79 (dk_at dksX13_init_25 19 rfl rfl)
theorem dX13_init_615 : decode cX13_init 615 = .ok (.dup, 1) := dk_89 (dk_at dksX13_init_25 20 rfl rfl)
theorem dX13_init_616 : decode cX13_init 616 = .ok (.bipush 11, 2) := dk_16 11 (dk_at dksX13_init_25 21 rfl rfl)
theorem dX13_init_618 : decode cX13_init 618 = .ok (.iconst 1, 1) := dk_4 (dk_at dksX13_init_25 23 rfl rfl)
theorem dX13_init_619 : decode cX13_init 619 = .ok (.iastore, 1) := dk_79 (dk_at dksX13_init_26 0 rfl rfl)
theorem dX13_init_620 : decode cX13_init 620 = .ok (.dup, 1) := dk_89 (dk_at dksX13_init_26 1 rfl rfl)
theorem dX13_init_621 : decode cX13_init 621 = .ok (.bipush 12, 2) := dk_16 12 (dk_at dksX13_init_26 2 rfl rfl)
theorem dX13_init_623 : decode cX13_init 623 = .ok (.iconst 1, 1) := dk_4 (dk_at dksX13_init_26 4 rfl rfl)
theorem dX13_init_624 : decode cX13_init 624 = .ok (.iastore, 1) := dk_79 (dk_at dksX13_init_26 5 rfl rfl)
theorem dX13_init_625 : decode cX13_init 625 = .ok (.dup, 1) := dk_89 (dk_at dksX13_init_26 6 rfl rfl)
theorem dX13_init_626 : decode cX13_init 626 = .ok (.bipush 13, 2) := dk_16 13 (dk_at dksX13_init_26 7 rfl rfl)
theorem dX13_init_628 : decode cX13_init 628 = .ok (.iconst 1, 1) := dk_4 (dk_at dksX13_init_26 9 rfl rfl)
theorem dX13_init_629 : decode cX13_init 629 = .ok (.iastore, 1) := dk_79 (dk_at dksX13_init_26 10 rfl rfl)
theorem dX13_init_630 : decode cX13_init 630 = .ok (.dup, 1) := dk_89 (dk_at dksX13_init_26 11 rfl rfl)
theorem dX13_init_631 : decode cX13_init 631 = .ok (.bipush 14, 2) := dk_16 14 (dk_at dksX13_init_26 12 rfl rfl)
theorem dX13_init_633 : decode cX13_init 633 = .ok (.iconst 2, 1) := dk_5 (dk_at dksX13_init_26 14 rfl rfl)
theorem dX13_init_634 : decode cX13_init 634 = .ok (.iastore, 1) := dk_79 (dk_at dksX13_init_26 15 rfl rfl)
theorem dX13_init_635 : decode cX13_init 635 = .ok (.dup, 1) := dk_89 (dk_at dksX13_init_26 16 rfl rfl)
theorem dX13_init_636 : decode cX13_init 636 = .ok (.bipush 15, 2) := dk_16 15 (dk_at dksX13_init_26 17 rfl rfl)
theorem dX13_init_638 : decode cX13_init 638 = .ok (.iconst 2, 1) := dk_5 (dk_at dksX13_init_26 19 rfl rfl)
theorem dX13_init_639 : decode cX13_init 639 = .ok (.iastore, 1) := dk_79 (dk_at dksX13_init_26 20 rfl rfl)
theorem dX13_init_640 : decode cX13_init 640 = .ok (.dup, 1) := dk_89 (dk_at dksX13_init_26 21 rfl rfl)
theorem dX13_init_641 : decode cX13_init 641 = .ok (.bipush 16, 2) := dk_16 16 (dk_at dksX13_init_26 22 rfl rfl)
theorem dX13_init_643 : decode cX13_init 643 = .ok (.iconst 4, 1) := dk_7 (dk_at dksX13_init_27 0 rfl rfl)
theorem dX13_init_644 : decode cX13_init 644 = .ok (.iastore, 1) := dk_79 (dk_at dksX13_init_27 1 rfl rfl)
theorem dX13_init_645 : decode cX13_init 645 = .ok (.dup, 1) := dk_89 (dk_at dksX13_init_27 2 rfl rfl)
theorem dX13_init_646 : decode cX13_init 646 = .ok (.bipush 17, 2) := dk_16 17 (dk_at dksX13_init_27 3 rfl rfl)
theorem dX13_init_648 : decode cX13_init 648 = .ok (.iconst 4, 1) := dk_7 (dk_at dksX13_init_27 5 rfl rfl)
theorem dX13_init_649 : decode cX13_init 649 = .ok (.iastore, 1) := dk_79 (dk_at dksX13_init_27 6 rfl rfl)
theorem dX13_init_650 : decode cX13_init 650 = .ok (.dup, 1) := dk_89 (dk_at dksX13_init_27 7 rfl rfl)
theorem dX13_init_651 : decode cX13_init 651 = .ok (.bipush 18, 2) := dk_16 18 (dk_at dksX13_init_27 8 rfl rfl)
theorem dX13_init_653 : decode cX13_init 653 = .ok (.iconst 4, 1) := dk_7 (dk_at dksX13_init_27 10 rfl rfl)
theorem dX13_init_654 : decode cX13_init 654 = .ok (.iastore, 1) := dk_79 (dk_at dksX13_init_27 11 rfl rfl)
theorem dX13_init_655 : decode cX13_init 655 = .ok (.dup, 1) := dk_89 (dk_at dksX13_init_27 12 rfl rfl)
theorem dX13_init_656 : decode cX13_init 656 = .ok (.bipush 19, 2) := dk_16 19 (dk_at dksX13_init_27 13 rfl rfl)
theorem dX13_init_658 : decode cX13_init 658 = .ok (.iconst 4, 1) := dk_7 (dk_at dksX13_init_27 15 rfl rfl)
theorem dX13_init_659 : decode cX13_init 659 = .ok (.iastore, 1) := dk_79 (dk_at dksX13_init_27 16 rfl rfl)
theorem dX13_init_660 : decode cX13_init 660 = .ok (.dup, 1) := dk_89 (dk_at dksX13_init_27 17 rfl rfl)
theorem dX13_init_661 : decode cX13_init 661 = .ok (.bipush 20, 2) := dk_16 20 (dk_at dksX13_init_27 18 rfl rfl)
theorem dX13_init_663 : decode cX13_init 663 = .ok (.bipush 6, 2) := dk_16 6 (dk_at dksX13_init_27 20 rfl rfl)
theorem dX13_init_665 : decode cX13_init 665 = .ok (.iastore, 1) := dk_79 (dk_at dksX13_init_27 22 rfl rfl)
theorem dX13_init_666 : decode cX13_init 666 = .ok (.dup, 1) := dk_89 (dk_at dksX13_init_27 23 rfl rfl)
theorem dX13_init_667 : decode cX13_init 667 = .ok (.bipush 21, 2) := dk_16 21 (dk_at dksX13_init_28 0 rfl rfl)
theorem dX13_init_669 : decode cX13_init 669 = .ok (.bipush 6, 2) := dk_16 6 (dk_at dksX13_init_28 2 rfl rfl)
theorem dX13_init_671 : decode cX13_init 671 = .ok (.iastore, 1) := dk_79 (dk_at dksX13_init_28 4 rfl rfl)
theorem dX13_init_672 : decode cX13_init 672 = .ok (.dup, 1) := dk_89 (dk_at dksX13_init_28 5 rfl rfl)
theorem dX13_init_673 : decode cX13_init 673 = .ok (.bipush 22, 2) := dk_16 22 (dk_at dksX13_init_28 6 rfl rfl)
theorem dX13_init_675 : decode cX13_init 675 = .ok (.bipush 8, 2) := dk_16 8 (dk_at dksX13_init_28 8 rfl rfl)
theorem dX13_init_677 : decode cX13_init 677 = .ok (.iastore, 1) := dk_79 (dk_at dksX13_init_28 10 rfl rfl)
theorem dX13_init_678 : decode cX13_init 678 = .ok (.dup, 1) := dk_89 (dk_at dksX13_init_28 11 rfl rfl)
theorem dX13_init_679 : decode cX13_init 679 = .ok (.bipush 23, 2) := dk_16 23 (dk_at dksX13_init_28 12 rfl rfl)
theorem dX13_init_681 : decode cX13_init 681 = .ok (.bipush 10, 2) := dk_16 10 (dk_at dksX13_init_28 14 rfl rfl)
theorem dX13_init_683 : decode cX13_init 683 = .ok (.iastore, 1) := dk_79 (dk_at dksX13_init_28 16 rfl rfl)
theorem dX13_init_684 : decode cX13_init 684 = .ok (.dup, 1) := dk_89 (dk_at dksX13_init_28 17 rfl rfl)
theorem dX13_init_685 : decode cX13_init 685 = .ok (.bipush 24, 2) := dk_16 24 (dk_at dksX13_init_28 18 rfl rfl)
theorem dX13_init_687 : decode cX13_init 687 = .ok (.iconst 1, 1) := dk_4 (dk_at dksX13_init_28 20 rfl rfl)
theorem dX13_init_688 : decode cX13_init 688 = .ok (.iastore, 1) := dk_79 (dk_at dksX13_init_28 21 rfl rfl)
theorem dX13_init_689 : decode cX13_init 689 = .ok (.dup, 1) := dk_89 (dk_at dksX13_init_28 22 rfl rfl)
theorem dX13_init_690 : decode cX13_init 690 = .ok (.bipush 25, 2) := dk_16 25 (dk_at dksX13_init_29 0 rfl rfl)
theorem dX13_init_692 : decode cX13_init 692 = .ok (.iconst 1, 1) := dk_4 (dk_at dksX13_init_29 2 rfl rfl)
theorem dX13_init_693 : decode cX13_init 693 = .ok (.iastore, 1) := dk_79 (dk_at dksX13_init_29 3 rfl rfl)
theorem dX13_init_694 : decode cX13_init 694 = .ok (.dup, 1) := dk_89 (dk_at dksX13_init_29 4 rfl rfl)
theorem dX13_init_695 : decode cX13_init 695 = .ok (.bipush 26, 2) := dk_16 26 (dk_at dksX13_init_29 5 rfl rfl)
theorem dX13_init_697 : decode cX13_init 697 = .ok (.iconst 1, 1) := dk_4 (dk_at dksX13_init_29 7 rfl rfl)
theorem dX13_init_698 : decode cX13_init 698 = .ok (.iastore, 1) := dk_79 (dk_at dksX13_init_29 8 rfl rfl)
theorem dX13_init_699 : decode cX13_init 699 = .ok (.dup, 1) := dk_89 (dk_at dksX13_init_29 9 rfl rfl)
theorem dX13_init_700 : decode cX13_init 700 = .ok (.bipush 27, 2) := dk_16 27 (dk_at dksX13_init_29 10 rfl rfl)
theorem dX13_init_702 : decode cX13_init 702 = .ok (.iconst 1, 1) := dk_4 (dk_at dksX13_init_29 12 rfl rfl)
theorem dX13_init_703 : decode cX13_init 703 = .ok (.iastore, 1) := dk_79 (dk_at dksX13_init_29 13 rfl rfl)
theorem dX13_init_704 : decode cX13_init 704 = .ok (.dup, 1) := dk_89 (dk_at dksX13_init_29 14 rfl rfl)
theorem dX13_init_705 : decode cX13_init 705 = .ok (.bipush 28, 2) := dk_16 28 (dk_at dksX13_init_29 15 rfl rfl)
theorem dX13_init_707 : decode cX13_init 707 = .ok (.iconst 1, 1) := dk_4 (dk_at dksX13_init_29 17 rfl rfl)
theorem dX13_init_708 : decode cX13_init 708 = .ok (.iastore, 1) := dk_79 (dk_at dksX13_init_29 18 rfl rfl)
theorem dX13_init_709 : decode cX13_init 709 = .ok (.dup, 1) := dk_89 (dk_at dksX13_init_29 19 rfl rfl)
theorem dX13_init_710 : decode cX13_init 710 = .ok (.bipush 29, 2) := dk_16 29 (dk_at dksX13_init_29 20 rfl rfl)
theorem dX13_init_712 : decode cX13_init 712 = .ok (.iconst 1, 1) := dk_4 (dk_at dksX13_init_29 22 rfl rfl)
theorem dX13_init_713 : decode cX13_init 713 = .ok (.iastore, 1) := dk_79 (dk_at dksX13_init_29 23 rfl rfl)
theorem dX13_init_714 : decode cX13_init 714 = .ok (.putfield 23, 3) := dk_181 0 23 (dk_at dksX13_init_30 0 rfl rfl)
theorem dX13_init_717 : decode cX13_init 717 = .ok (.aload_n 0, 1) := dk_42 (dk_at dksX13_init_30 3 rfl rfl)
theorem dX13_init_718 : decode cX13_init 718 = .ok (.bipush 30, 2) := dk_16 30 (dk_at dksX13_init_30 4 rfl rfl)
theorem dX13_init_720 : decode cX13_init 720 = .ok (.newarray .int, 2) := dk_188_10 (dk_at dksX13_init_30 6 rfl rfl)
theorem dX13_init_722 : decode cX13_init 722 = .ok (.dup, 1) := dk_89 (dk_at dksX13_init_30 8 rfl rfl)
theorem dX13_init_723 : decode cX13_init 723 = .ok (.iconst 0, 1) := dk_3 (dk_at dksX13_init_30 9 rfl rfl)
theorem dX13_init_724 : decode cX13_init 724 = .ok (.iconst 1, 1) := dk_4 (dk_at dksX13_init_30 10 rfl rfl)
theorem dX13_init_725 : decode cX13_init 725 = .ok (.iastore, 1) := dk_79 (dk_at dksX13_init_30 11 rfl rfl)
theorem dX13_init_726 : decode cX13_init 726 = .ok (.dup, 1) := dk_89 (dk_at dksX13_init_30 12 rfl rfl)
theorem dX13_init_727 : decode cX13_init 727 = .ok (.iconst 1, 1) := dk_4 (dk_at dksX13_init_30 13 rfl rfl)
theorem dX13_init_728 : decode cX13_init 728 = .ok (.iconst 1, 1) := dk_4 (dk_at dksX13_init_30 14 rfl rfl)
theorem dX13_init_729 : decode cX13_init 729 = .ok (.iastore, 1) := dk_79 (dk_at dksX13_init_30 15 rfl rfl)
theorem dX13_init_730 : decode cX13_init 730 = .ok (.dup, 1) := dk_89 (dk_at dksX13_init_30 16 rfl rfl)
theorem dX13_init_731 : decode cX13_init 731 = .ok (.iconst 2, 1) := dk_5 (dk_at dksX13_init_30 17 rfl rfl)
theorem dX13_init_732 : decode cX13_init 732 = .ok (.iconst 1, 1) := dk_4 (dk_at dksX13_init_30 18 rfl rfl)
theorem dX13_init_733 : decode cX13_init 733 = .ok (.iastore, 1) := dk_79 (dk_at dksX13_init_30 19 rfl rfl)
theorem dX13_init_734 : decode cX13_init 734 = .ok (.dup, 1) := dk_89 (dk_at dksX13_init_30 20 rfl rfl)
theorem dX13_init_735 : decode cX13_init 735 = .ok (.iconst 3, 1) := dk_6 (dk_at dksX13_init_30 21 rfl rfl)
theorem dX13_init_736 : decode cX13_init 736 = .ok (.iconst 1, 1) := dk_4 (dk_at dksX13_init_30 22 rfl rfl)
theorem dX13_init_737 : decode cX13_init 737 = .ok (.iastore, 1) := dk_79 (dk_at dksX13_init_30 23 rfl rfl)
theorem dX13_init_738 : decode cX13_init 738 = .ok (.dup, 1) := dk_89 (dk_at dksX13_init_31 0 rfl rfl)
theorem dX13_init_739 : decode cX13_init 739 = .ok (.iconst 4, 1) := dk_7 (dk_at dksX13_init_31 1 rfl rfl)
theorem dX13_init_740 : decode cX13_init 740 = .ok (.iconst 1, 1) := dk_4 (dk_at dksX13_init_31 2 rfl rfl)
theorem dX13_init_741 : decode cX13_init 741 = .ok (.iastore, 1) := dk_79 (dk_at dksX13_init_31 3 rfl rfl)
theorem dX13_init_742 : decode cX13_init 742 = .ok (.dup, 1) := dk_89 (dk_at dksX13_init_31 4 rfl rfl)
theorem dX13_init_743 : decode cX13_init 743 = .ok (.iconst 5, 1) := dk_8 (dk_at dksX13_init_31 5 rfl rfl)
theorem dX13_init_744 : decode cX13_init 744 = .ok (.iconst 1, 1) := dk_4 (dk_at dksX13_init_31 6 rfl rfl)
theorem dX13_init_745 : decode cX13_init 745 = .ok (.iastore, 1) := dk_79 (dk_at dksX13_init_31 7 rfl rfl)
theorem dX13_init_746 : decode cX13_init 746 = .ok (.dup, 1) := dk_89 (dk_at dksX13_init_31 8 rfl rfl)
theorem dX13_init_747 : decode cX13_init 747 = .ok (.bipush 6, 2) := dk_16 6 (dk_at dksX13_init_31 9 rfl rfl)
theorem dX13_init_749 : decode cX13_init 749 = .ok (.iconst 1, 1) := dk_4 (dk_at dksX13_init_31 11 rfl rfl)
theorem dX13_init_750 : decode cX13_init 750 = .ok (.iastore, 1) := dk_79 (dk_at dksX13_init_31 12 rfl rfl)
theorem dX13_init_751 : decode cX13_init 751 = .ok (.dup, 1) := dk_89 (dk_at dksX13_init_31 13 rfl rfl)
theorem dX13_init_752 : decode cX13_init 752 = .ok (.bipush 7, 2) := dk_16 7 (dk_at dksX13_init_31 14 rfl rfl)
theorem dX13_init_754 : decode cX13_init 754 = .ok (.iconst 1, 1) := dk_4 (dk_at dksX13_init_31 16 rfl rfl)
theorem dX13_init_755 : decode cX13_init 755 = .ok (.iastore, 1) := dk_79 (dk_at dksX13_init_31 17 rfl rfl)
theorem dX13_init_756 : decode cX13_init 756 = .ok (.dup, 1) := dk_89 (dk_at dksX13_init_31 18 rfl rfl)
theorem dX13_init_757 : decode cX13_init 757 = .ok (.bipush 8, 2) := dk_16 8 (dk_at dksX13_init_31 19 rfl rfl)
theorem dX13_init_759 : decode cX13_init 759 = .ok (.iconst 1, 1) := dk_4 (dk_at dksX13_init_31 21 rfl rfl)
theorem dX13_init_760 : decode cX13_init 760 = .ok (.iastore, 1) := dk_79 (dk_at dksX13_init_31 22 rfl rfl)
theorem dX13_init_761 : decode cX13_init 761 = .ok (.dup, 1) := dk_89 (dk_at dksX13_init_31 23 rfl rfl)
theorem dX13_init_762 : decode cX13_init 762 = .ok (.bipush 9, 2) := dk_16 9 (dk_at dksX13_init_32 0 rfl rfl)
theorem dX13_init_764 : decode cX13_init 764 = .ok (.iconst 2, 1) := dk_5 (dk_at dksX13_init_32 2 rfl rfl)
theorem dX13_init_765 : decode cX13_init 765 = .ok (.iastore, 1) := dk_79 (dk_at dksX13_init_32 3 rfl rfl)
theorem dX13_init_766 : decode cX13_init 766 = .ok (.dup, 1) := dk_89 (dk_at dksX13_init_32 4 rfl rfl)
theorem dX13_init_767 : decode cX13_init 767 = .ok (.bipush 10, 2) := dk_16 10 (dk_at dksX13_init_32 5 rfl rfl)
theorem dX13_init_769 : decode cX13_init 769 = .ok (.iconst 2, 1) := dk_5 (dk_at dksX13_init_32 7 rfl rfl)
theorem dX13_init_770 : decode cX13_init 770 = .ok (.iastore, 1) := dk_79 (dk_at dksX13_init_32 8 rfl rfl)
theorem dX13_init_771 : decode cX13_init 771 = .ok (.dup, 1) := dk_89 (dk_at dksX13_init_32 9 rfl rfl)
theorem dX13_init_772 : decode cX13_init 772 = .ok (.bipush 11, 2) := dk_16 11 (dk_at dksX13_init_32 10 rfl rfl)
theorem dX13_init_774 : decode cX13_init 774 = .ok (.iconst 2, 1) := dk_5 (dk_at dksX13_init_32 12 rfl rfl)
theorem dX13_init_775 : decode cX13_init 775 = .ok (.iastore, 1) := dk_79 (dk_at dksX13_init_32 13 rfl rfl)
theorem dX13_init_776 : decode cX13_init 776 = .ok (.dup, 1) := dk_89 (dk_at dksX13_init_32 14 rfl rfl)
theorem dX13_init_777 : decode cX13_init 777 = .ok (.bipush 12, 2) := dk_16 12 (dk_at dksX13_init_32 15 rfl rfl)
theorem dX13_init_779 : decode cX13_init 779 = .ok (.iconst 2, 1) := dk_5 (dk_at dksX13_init_32 17 rfl rfl)
theorem dX13_init_780 : decode cX13_init 780 = .ok (.iastore, 1) := dk_79 (dk_at dksX13_init_32 18 rfl rfl)
theorem dX13_init_781 : decode cX13_init 781 = .ok (.dup, 1) := dk_89 (dk_at dksX13_init_32 19 rfl rfl)
theorem dX13_init_782 : decode cX13_init 782 = .ok (.bipush 13, 2) := dk_16 13 (dk_at dksX13_init_32 20 rfl rfl)
theorem dX13_init_784 : decode cX13_init 784 = .ok (.iconst 2, 1) := dk_5 (dk_at dksX13_init_32 22 rfl rfl)
theorem dX13_init_785 : decode cX13_init 785 = .ok (.iastore, 1) := dk_79 (dk_at dksX13_init_32 23 rfl rfl)
theorem dX13_init_786 : decode cX13_init 786 = .ok (.dup, 1) := dk_89 (dk_at dksX13_init_33 0 rfl rfl)
theorem dX13_init_787 : decode cX13_init 787 = .ok (.bipush 14, 2) := dk_16 14 (dk_at dksX13_init_33 1 rfl rfl)
theorem dX13_init_789 : decode cX13_init 789 = .ok (.iconst 2, 1) := dk_5 (dk_at dksX13_init_33 3 rfl rfl)
theorem dX13_init_790 : decode cX13_init 790 = .ok (.iastore, 1) := dk_79 (dk_at dksX13_init_33 4 rfl rfl)
theorem dX13_init_791 : decode cX13_init 791 = .ok (.dup, 1) := dk_89 (dk_at dksX13_init_33 5 rfl rfl)
theorem dX13_init_792 : decode cX13_init 792 = .ok (.bipush 15, 2) := dk_16 15 (dk_at dksX13_init_33 6 rfl rfl)
theorem dX13_init_794 : decode cX13_init 794 = .ok (.iconst 4, 1) := dk_7 (dk_at dksX13_init_33 8 rfl rfl)
theorem dX13_init_795 : decode cX13_init 795 = .ok (.iastore, 1) := dk_79 (dk_at dksX13_init_33 9 rfl rfl)
theorem dX13_init_796 : decode cX13_init 796 = .ok (.dup, 1) := dk_89 (dk_at dksX13_init_33 10 rfl rfl)
theorem dX13_init_797 : decode cX13_init 797 = .ok (.bipush 16, 2) := dk_16 16 (dk_at dksX13_init_33 11 rfl rfl)
theorem dX13_init_799 : decode cX13_init 799 = .ok (.iconst 4, 1) := dk_7 (dk_at dksX13_init_33 13 rfl rfl)
theorem dX13_init_800 : decode cX13_init 800 = .ok (.iastore, 1) := dk_79 (dk_at dksX13_init_33 14 rfl rfl)
theorem dX13_init_801 : decode cX13_init 801 = .ok (.dup, 1) := dk_89 (dk_at dksX13_init_33 15 rfl rfl)
theorem dX13_init_802 : decode cX13_init 802 = .ok (.bipush 17, 2) := dk_16 17 (dk_at dksX13_init_33 16 rfl rfl)
theorem dX13_init_804 : decode cX13_init 804 = .ok (.iconst 4, 1) := dk_7 (dk_at dksX13_init_33 18 rfl rfl)
theorem dX13_init_805 : decode cX13_init 805 = .ok (.iastore, 1) := dk_79 (dk_at dksX13_init_33 19 rfl rfl)
theorem dX13_init_806 : decode cX13_init 806 = .ok (.dup, 1) := dk_89 (dk_at dksX13_init_33 20 rfl rfl)
theorem dX13_init_807 : decode cX13_init 807 = .ok (.bipush 18, 2) := dk_16 18 (dk_at dksX13_init_33 21 rfl rfl)
theorem dX13_init_809 : decode cX13_init 809 = .ok (.iconst 4, 1) := dk_7 (dk_at dksX13_init_33 23 rfl rfl)
theorem dX13_init_810 : decode cX13_init 810 = .ok (.iastore, 1) := dk_79 (dk_at dksX13_init_34 0 rfl rfl)
theorem dX13_init_811 : decode cX13_init 811 = .ok (.dup, 1) := dk_89 (dk_at dksX13_init_34 1 rfl rfl)
theorem dX13_init_812 : decode cX13_init 812 = .ok (.bipush 19, 2) := dk_16 19 (dk_at dksX13_init_34 2 rfl rfl)
theorem dX13_init_814 : decode cX13_init 814 = .ok (.iconst 4, 1) := dk_7 (dk_at dksX13_init_34 4 rfl rfl)
theorem dX13_init_815 : decode cX13_init 815 = .ok (.iastore, 1) := dk_79 (dk_at dksX13_init_34 5 rfl rfl)
theorem dX13_init_816 : decode cX13_init 816 = .ok (.dup, 1) := dk_89 (dk_at dksX13_init_34 6 rfl rfl)
theorem dX13_init_817 : decode cX13_init 817 = .ok (.bipush 20, 2) := dk_16 20 (dk_at dksX13_init_34 7 rfl rfl)
theorem dX13_init_819 : decode cX13_init 819 = .ok (.iconst 4, 1) := dk_7 (dk_at dksX13_init_34 9 rfl rfl)
theorem dX13_init_820 : decode cX13_init 820 = .ok (.iastore, 1) := dk_79 (dk_at dksX13_init_34 10 rfl rfl)
theorem dX13_init_821 : decode cX13_init 821 = .ok (.dup, 1) := dk_89 (dk_at dksX13_init_34 11 rfl rfl)
theorem dX13_init_822 : decode cX13_init 822 = .ok (.bipush 21, 2) := dk_16 21 (dk_at dksX13_init_34 12 rfl rfl)
theorem dX13_init_824 : decode cX13_init 824 = .ok (.bipush 6, 2) := dk_16 6 (dk_at dksX13_init_34 14 rfl rfl)
theorem dX13_init_826 : decode cX13_init 826 = .ok (.iastore, 1) := dk_79 (dk_at dksX13_init_34 16 rfl rfl)
theorem dX13_init_827 : decode cX13_init 827 = .ok (.dup, 1) := dk_89 (dk_at dksX13_init_34 17 rfl rfl)
theorem dX13_init_828 : decode cX13_init 828 = .ok (.bipush 22, 2) := dk_16 22 (dk_at dksX13_init_34 18 rfl rfl)
theorem dX13_init_830 : decode cX13_init 830 = .ok (.bipush 6, 2) := dk_16 6 (dk_at dksX13_init_34 20 rfl rfl)
theorem dX13_init_832 : decode cX13_init 832 = .ok (.iastore, 1) := dk_79 (dk_at dksX13_init_34 22 rfl rfl)
theorem dX13_init_833 : decode cX13_init 833 = .ok (.dup, 1) := dk_89 (dk_at dksX13_init_34 23 rfl rfl)
theorem dX13_init_834 : decode cX13_init 834 = .ok (.bipush 23, 2) := dk_16 23 (dk_at dksX13_init_35 0 rfl rfl)
theorem dX13_init_836 : decode cX13_init 836 = .ok (.bipush 6, 2) := dk_16 6 (dk_at dksX13_init_35 2 rfl rfl)
theorem dX13_init_838 : decode cX13_init 838 = .ok (.iastore, 1) := dk_79 (dk_at dksX13_init_35 4 rfl rfl)
theorem dX13_init_839 : decode cX13_init 839 = .ok (.dup, 1) := dk_89 (dk_at dksX13_init_35 5 rfl rfl)
theorem dX13_init_840 : decode cX13_init 840 = .ok (.bipush 24, 2) := dk_16 24 (dk_at dksX13_init_35 6 rfl rfl)
theorem dX13_init_842 : decode cX13_init 842 = .ok (.iconst 1, 1) := dk_4 (dk_at dksX13_init_35 8 rfl rfl)
theorem dX13_init_843 : decode cX13_init 843 = .ok (.iastore, 1) := dk_79 (dk_at dksX13_init_35 9 rfl rfl)
theorem dX13_init_844 : decode cX13_init 844 = .ok (.dup, 1) := dk_89 (dk_at dksX13_init_35 10 rfl rfl)
theorem dX13_init_845 : decode cX13_init 845 = .ok (.bipush 25, 2) := dk_16 25 (dk_at dksX13_init_35 11 rfl rfl)
theorem dX13_init_847 : decode cX13_init 847 = .ok (.iconst 1, 1) := dk_4 (dk_at dksX13_init_35 13 rfl rfl)
theorem dX13_init_848 : decode cX13_init 848 = .ok (.iastore, 1) := dk_79 (dk_at dksX13_init_35 14 rfl rfl)
theorem dX13_init_849 : decode cX13_init 849 = .ok (.dup, 1) := dk_89 (dk_at dksX13_init_35 15 rfl rfl)
theorem dX13_init_850 : decode cX13_init 850 = .ok (.bipush 26, 2) := dk_16 26 (dk_at dksX13_init_35 16 rfl rfl)
theorem dX13_init_852 : decode cX13_init 852 = .ok (.iconst 1, 1) := dk_4 (dk_at dksX13_init_35 18 rfl rfl)
theorem dX13_init_853 : decode cX13_init 853 = .ok (.iastore, 1) := dk_79 (dk_at dksX13_init_35 19 rfl rfl)
theorem dX13_init_854 : decode cX13_init 854 = .ok (.dup, 1) := dk_89 (dk_at dksX13_init_35 20 rfl rfl)
theorem dX13_init_855 : decode cX13_init 855 = .ok (.bipush 27, 2) := dk_16 27 (dk_at dksX13_init_35 21 rfl rfl)
theorem dX13_init_857 : decode cX13_init 857 = .ok (.iconst 1, 1) := dk_4 (dk_at dksX13_init_35 23 rfl rfl)
theorem dX13_init_858 : decode cX13_init 858 = .ok (.iastore, 1) := dk_79 (dk_at dksX13_init_36 0 rfl rfl)
theorem dX13_init_859 : decode cX13_init 859 = .ok (.dup, 1) := dk_89 (dk_at dksX13_init_36 1 rfl rfl)
theorem dX13_init_860 : decode cX13_init 860 = .ok (.bipush 28, 2) := dk_16 28 (dk_at dksX13_init_36 2 rfl rfl)
theorem dX13_init_862 : decode cX13_init 862 = .ok (.iconst 1, 1) := dk_4 (dk_at dksX13_init_36 4 rfl rfl)
theorem dX13_init_863 : decode cX13_init 863 = .ok (.iastore, 1) := dk_79 (dk_at dksX13_init_36 5 rfl rfl)
theorem dX13_init_864 : decode cX13_init 864 = .ok (.dup, 1) := dk_89 (dk_at dksX13_init_36 6 rfl rfl)
theorem dX13_init_865 : decode cX13_init 865 = .ok (.bipush 29, 2) := dk_16 29 (dk_at dksX13_init_36 7 rfl rfl)
theorem dX13_init_867 : decode cX13_init 867 = .ok (.iconst 1, 1) := dk_4 (dk_at dksX13_init_36 9 rfl rfl)
theorem dX13_init_868 : decode cX13_init 868 = .ok (.iastore, 1) := dk_79 (dk_at dksX13_init_36 10 rfl rfl)
theorem dX13_init_869 : decode cX13_init 869 = .ok (.putfield 26, 3) := dk_181 0 26 (dk_at dksX13_init_36 11 rfl rfl)
theorem dX13_init_872 : decode cX13_init 872 = .ok (.aload_n 0, 1) := dk_42 (dk_at dksX13_init_36 14 rfl rfl)
theorem dX13_init_873 : decode cX13_init 873 = .ok (.bipush 30, 2) := dk_16 30 (dk_at dksX13_init_36 15 rfl rfl)
theorem dX13_init_875 : decode cX13_init 875 = .ok (.newarray .int, 2) := dk_188_10 (dk_at dksX13_init_36 17 rfl rfl)
theorem dX13_init_877 : decode cX13_init 877 = .ok (.dup, 1) := dk_89 (dk_at dksX13_init_36 19 rfl rfl)
theorem dX13_init_878 : decode cX13_init 878 = .ok (.iconst 0, 1) := dk_3 (dk_at dksX13_init_36 20 rfl rfl)
theorem dX13_init_879 : decode cX13_init 879 = .ok (.iconst 1, 1) := dk_4 (dk_at dksX13_init_36 21 rfl rfl)
theorem dX13_init_880 : decode cX13_init 880 = .ok (.iastore, 1) := dk_79 (dk_at dksX13_init_36 22 rfl rfl)
theorem dX13_init_881 : decode cX13_init 881 = .ok (.dup, 1) := dk_89 (dk_at dksX13_init_36 23 rfl rfl)
theorem dX13_init_882 : decode cX13_init 882 = .ok (.iconst 1, 1) := dk_4 (dk_at dksX13_init_37 0 rfl rfl)
theorem dX13_init_883 : decode cX13_init 883 = .ok (.iconst 1, 1) := dk_4 (dk_at dksX13_init_37 1 rfl rfl)
theorem dX13_init_884 : decode cX13_init 884 = .ok (.iastore, 1) := dk_79 (dk_at dksX13_init_37 2 rfl rfl)
theorem dX13_init_885 : decode cX13_init 885 = .ok (.dup, 1) := dk_89 (dk_at dksX13_init_37 3 rfl rfl)
theorem dX13_init_886 : decode cX13_init 886 = .ok (.iconst 2, 1) := dk_5 (dk_at dksX13_init_37 4 rfl rfl)
theorem dX13_init_887 : decode cX13_init 887 = .ok (.iconst 1, 1) := dk_4 (dk_at dksX13_init_37 5 rfl rfl)
theorem dX13_init_888 : decode cX13_init 888 = .ok (.iastore, 1) := dk_79 (dk_at dksX13_init_37 6 rfl rfl)
theorem dX13_init_889 : decode cX13_init 889 = .ok (.dup, 1) := dk_89 (dk_at dksX13_init_37 7 rfl rfl)
theorem dX13_init_890 : decode cX13_init 890 = .ok (.iconst 3, 1) := dk_6 (dk_at dksX13_init_37 8 rfl rfl)
theorem dX13_init_891 : decode cX13_init 891 = .ok (.iconst 1, 1) := dk_4 (dk_at dksX13_init_37 9 rfl rfl)
theorem dX13_init_892 : decode cX13_init 892 = .ok (.iastore, 1) := dk_79 (dk_at dksX13_init_37 10 rfl rfl)
theorem dX13_init_893 : decode cX13_init 893 = .ok (.dup, 1) := dk_89 (dk_at dksX13_init_37 11 rfl rfl)
theorem dX13_init_894 : decode cX13_init 894 = .ok (.iconst 4, 1) := dk_7 (dk_at dksX13_init_37 12 rfl rfl)
theorem dX13_init_895 : decode cX13_init 895 = .ok (.iconst 1, 1) := dk_4 (dk_at dksX13_init_37 13 rfl rfl)
theorem dX13_init_896 : decode cX13_init 896 = .ok (.iastore, 1) := dk_79 (dk_at dksX13_init_37 14 rfl rfl)
theorem dX13_init_897 : decode cX13_init 897 = .ok (.dup, 1) := dk_89 (dk_at dksX13_init_37 15 rfl rfl)
theorem dX13_init_898 : decode cX13_init 898 = .ok (.iconst 5, 1) := dk_8 (dk_at dksX13_init_37 16 rfl rfl)
theorem dX13_init_899 : decode cX13_init 899 = .ok (.iconst 1, 1) := dk_4 (dk_at dksX13_init_37 17 rfl rfl)
theorem dX13_init_900 : decode cX13_init 900 = .ok (.iastore, 1) := dk_79 (dk_at dksX13_init_37 18 rfl rfl)
theorem dX13_init_901 : decode cX13_init 901 = .ok (.dup, 1) := dk_89 (dk_at dksX13_init_37 19 rfl rfl)
theorem dX13_init_902 : decode cX13_init 902 = .ok (.bipush 6, 2) := dk_16 6 (dk_at dksX13_init_37 20 rfl rfl)
theorem dX13_init_904 : decode cX13_init 904 = .ok (.iconst 1, 1) := dk_4 (dk_at dksX13_init_37 22 rfl rfl)
theorem dX13_init_905 : decode cX13_init 905 = .ok (.iastore, 1) := dk_79 (dk_at dksX13_init_37 23 rfl rfl)
theorem dX13_init_906 : decode cX13_init 906 = .ok (.dup, 1) := dk_89 (dk_at dksX13_init_38 0 rfl rfl)
theorem dX13_init_907 : decode cX13_init 907 = .ok (.bipush 7, 2) := dk_16 7 (dk_at dksX13_init_38 1 rfl rfl)
theorem dX13_init_909 : decode cX13_init 909 = .ok (.iconst 1, 1) := dk_4 (dk_at dksX13_init_38 3 rfl rfl)
theorem dX13_init_910 : decode cX13_init 910 = .ok (.iastore, 1) := dk_79 (dk_at dksX13_init_38 4 rfl rfl)
theorem dX13_init_911 : decode cX13_init 911 = .ok (.dup, 1) := dk_89 (dk_at dksX13_init_38 5 rfl rfl)
theorem dX13_init_912 : decode cX13_init 912 = .ok (.bipush 8, 2) := dk_16 8 (dk_at dksX13_init_38 6 rfl rfl)
theorem dX13_init_914 : decode cX13_init 914 = .ok (.iconst 1, 1) := dk_4 (dk_at dksX13_init_38 8 rfl rfl)
theorem dX13_init_915 : decode cX13_init 915 = .ok (.iastore, 1) := dk_79 (dk_at dksX13_init_38 9 rfl rfl)
theorem dX13_init_916 : decode cX13_init 916 = .ok (.dup, 1) := dk_89 (dk_at dksX13_init_38 10 rfl rfl)
theorem dX13_init_917 : decode cX13_init 917 = .ok (.bipush 9, 2) := dk_16 9 (dk_at dksX13_init_38 11 rfl rfl)
theorem dX13_init_919 : decode cX13_init 919 = .ok (.iconst 2, 1) := dk_5 (dk_at dksX13_init_38 13 rfl rfl)
theorem dX13_init_920 : decode cX13_init 920 = .ok (.iastore, 1) := dk_79 (dk_at dksX13_init_38 14 rfl rfl)
theorem dX13_init_921 : decode cX13_init 921 = .ok (.dup, 1) := dk_89 (dk_at dksX13_init_38 15 rfl rfl)
theorem dX13_init_922 : decode cX13_init 922 = .ok (.bipush 10, 2) := dk_16 10 (dk_at dksX13_init_38 16 rfl rfl)
theorem dX13_init_924 : decode cX13_init 924 = .ok (.iconst 2, 1) := dk_5 (dk_at dksX13_init_38 18 rfl rfl)
theorem dX13_init_925 : decode cX13_init 925 = .ok (.iastore, 1) := dk_79 (dk_at dksX13_init_38 19 rfl rfl)
theorem dX13_init_926 : decode cX13_init 926 = .ok (.dup, 1) := dk_89 (dk_at dksX13_init_38 20 rfl rfl)
theorem dX13_init_927 : decode cX13_init 927 = .ok (.bipush 11, 2) := dk_16 11 (dk_at dksX13_init_38 21 rfl rfl)
theorem dX13_init_929 : decode cX13_init 929 = .ok (.iconst 2, 1) := dk_5 (dk_at dksX13_init_38 23 rfl rfl)
theorem dX13_init_930 : decode cX13_init 930 = .ok (.iastore, 1) := dk_79 (dk_at dksX13_init_39 0 rfl rfl)
theorem dX13_init_931 : decode cX13_init 931 = .ok (.dup, 1) := dk_89 (dk_at dksX13_init_39 1 rfl rfl)
theorem dX13_init_932 : decode cX13_init 932 = .ok (.bipush 12, 2) := dk_16 12 (dk_at dksX13_init_39 2 rfl rfl)
theorem dX13_init_934 : decode cX13_init 934 = .ok (.iconst 2, 1) := dk_5 (dk_at dksX13_init_39 4 rfl rfl)
theorem dX13_init_935 : decode cX13_init 935 = .ok (.iastore, 1) := dk_79 (dk_at dksX13_init_39 5 rfl rfl)
theorem dX13_init_936 : decode cX13_init 936 = .ok (.dup, 1) := dk_89 (dk_at dksX13_init_39 6 rfl rfl)
theorem dX13_init_937 : decode cX13_init 937 = .ok (.bipush 13, 2) := dk_16 13 (dk_at dksX13_init_39 7 rfl rfl)
theorem dX13_init_939 : decode cX13_init 939 = .ok (.iconst 2, 1) := dk_5 (dk_at dksX13_init_39 9 rfl rfl)
theorem dX13_init_940 : decode cX13_init 940 = .ok (.iastore, 1) := dk_79 (dk_at dksX13_init_39 10 rfl rfl)
theorem dX13_init_941 : decode cX13_init 941 = .ok (.dup, 1) := dk_89 (dk_at dksX13_init_39 11 rfl rfl)
theorem dX13_init_942 : decode cX13_init 942 = .ok (.bipush 14, 2) := dk_16 14 (dk_at dksX13_init_39 12 rfl rfl)
theorem dX13_init_944 : decode cX13_init 944 = .ok (.iconst 2, 1) := dk_5 (dk_at dksX13_init_39 14 rfl rfl)
theorem dX13_init_945 : decode cX13_init 945 = .ok (.iastore, 1) := dk_79 (dk_at dksX13_init_39 15 rfl rfl)
theorem dX13_init_946 : decode cX13_init 946 = .ok (.dup, 1) := dk_89 (dk_at dksX13_init_39 16 rfl rfl)
theorem dX13_init_947 : decode cX13_init 947 = .ok (.bipush 15, 2) := dk_16 15 (dk_at dksX13_init_39 17 rfl rfl)
theorem dX13_init_949 : decode cX13_init 949 = .ok (.iconst 4, 1) := dk_7 (dk_at dksX13_init_39 19 rfl rfl)
theorem dX13_init_950 : decode cX13_init 950 = .ok (.iastore, 1) := dk_79 (dk_at dksX13_init_39 20 rfl rfl)
theorem dX13_init_951 : decode cX13_init 951 = .ok (.dup, 1) := dk_89 (dk_at dksX13_init_39 21 rfl rfl)
theorem dX13_init_952 : decode cX13_init 952 = .ok (.bipush 16, 2) := dk_16 16 (dk_at dksX13_init_39 22 rfl rfl)
theorem dX13_init_954 : decode cX13_init 954 = .ok (.iconst 4, 1) := dk_7 (dk_at dksX13_init_40 0 rfl rfl)
theorem dX13_init_955 : decode cX13_init 955 = .ok (.iastore, 1) := dk_79 (dk_at dksX13_init_40 1 rfl rfl)
theorem dX13_init_956 : decode cX13_init 956 = .ok (.dup, 1) := dk_89 (dk_at dksX13_init_40 2 rfl rfl)
theorem dX13_init_957 : decode cX13_init 957 = .ok (.bipush 17, 2) := dk_16 17 (dk_at dksX13_init_40 3 rfl rfl)
theorem dX13_init_959 : decode cX13_init 959 = .ok (.iconst 4, 1) := dk_7 (dk_at dksX13_init_40 5 rfl rfl)
theorem dX13_init_960 : decode cX13_init 960 = .ok (.iastore, 1) := dk_79 (dk_at dksX13_init_40 6 rfl rfl)
theorem dX13_init_961 : decode cX13_init 961 = .ok (.dup, 1) := dk_89 (dk_at dksX13_init_40 7 rfl rfl)
theorem dX13_init_962 : decode cX13_init 962 = .ok (.bipush 18, 2) := dk_16 18 (dk_at dksX13_init_40 8 rfl rfl)
theorem dX13_init_964 : decode cX13_init 964 = .ok (.iconst 4, 1) := dk_7 (dk_at dksX13_init_40 10 rfl rfl)
theorem dX13_init_965 : decode cX13_init 965 = .ok (.iastore, 1) := dk_79 (dk_at dksX13_init_40 11 rfl rfl)
theorem dX13_init_966 : decode cX13_init 966 = .ok (.dup, 1) := dk_89 (dk_at dksX13_init_40 12 rfl rfl)
theorem dX13_init_967 : decode cX13_init 967 = .ok (.bipush 19, 2) := dk_16 19 (dk_at dksX13_init_40 13 rfl rfl)
theorem dX13_init_969 : decode cX13_init 969 = .ok (.iconst 4, 1) := dk_7 (dk_at dksX13_init_40 15 rfl rfl)
theorem dX13_init_970 : decode cX13_init 970 = .ok (.iastore, 1) := dk_79 (dk_at dksX13_init_40 16 rfl rfl)
theorem dX13_init_971 : decode cX13_init 971 = .ok (.dup, 1) := dk_89 (dk_at dksX13_init_40 17 rfl rfl)
theorem dX13_init_972 : decode cX13_init 972 = .ok (.bipush 20, 2) := dk_16 20 (dk_at dksX13_init_40 18 rfl rfl)
theorem dX13_init_974 : decode cX13_init 974 = .ok (.iconst 4, 1) := dk_7 (dk_at dksX13_init_40 20 rfl rfl)
theorem dX13_init_975 : decode cX13_init 975 = .ok (.iastore, 1) := dk_79 (dk_at dksX13_init_40 21 rfl rfl)
theorem dX13_init_976 : decode cX13_init 976 = .ok (.dup, 1) := dk_89 (dk_at dksX13_init_40 22 rfl rfl)
theorem dX13_init_977 : decode cX13_init 977 = .ok (.bipush 21, 2) := dk_16 21 (dk_at dksX13_init_41 0 rfl rfl)
theorem dX13_init_979 : decode cX13_init 979 = .ok (.bipush 6, 2) := dk_16 6 (dk_at dksX13_init_41 2 rfl rfl)
theorem dX13_init_981 : decode cX13_init 981 = .ok (.iastore, 1) := dk_79 (dk_at dksX13_init_41 4 rfl rfl)
theorem dX13_init_982 : decode cX13_init 982 = .ok (.dup, 1) := dk_89 (dk_at dksX13_init_41 5 rfl rfl)
theorem dX13_init_983 : decode cX13_init 983 = .ok (.bipush 22, 2) := dk_16 22 (dk_at dksX13_init_41 6 rfl rfl)
theorem dX13_init_985 : decode cX13_init 985 = .ok (.bipush 6, 2) := dk_16 6 (dk_at dksX13_init_41 8 rfl rfl)
theorem dX13_init_987 : decode cX13_init 987 = .ok (.iastore, 1) := dk_79 (dk_at dksX13_init_41 10 rfl rfl)
theorem dX13_init_988 : decode cX13_init 988 = .ok (.dup, 1) := dk_89 (dk_at dksX13_init_41 11 rfl rfl)
theorem dX13_init_989 : decode cX13_init 989 = .ok (.bipush 23, 2) := dk_16 23 (dk_at dksX13_init_41 12 rfl rfl)
theorem dX13_init_991 : decode cX13_init 991 = .ok (.bipush 6, 2) := dk_16 6 (dk_at dksX13_init_41 14 rfl rfl)
theorem dX13_init_993 : decode cX13_init 993 = .ok (.iastore, 1) := dk_79 (dk_at dksX13_init_41 16 rfl rfl)
theorem dX13_init_994 : decode cX13_init 994 = .ok (.dup, 1) := dk_89 (dk_at dksX13_init_41 17 rfl rfl)
theorem dX13_init_995 : decode cX13_init 995 = .ok (.bipush 24, 2) := dk_16 24 (dk_at dksX13_init_41 18 rfl rfl)
theorem dX13_init_997 : decode cX13_init 997 = .ok (.iconst 1, 1) := dk_4 (dk_at dksX13_init_41 20 rfl rfl)
theorem dX13_init_998 : decode cX13_init 998 = .ok (.iastore, 1) := dk_79 (dk_at dksX13_init_41 21 rfl rfl)
theorem dX13_init_999 : decode cX13_init 999 = .ok (.dup, 1) := dk_89 (dk_at dksX13_init_41 22 rfl rfl)
theorem dX13_init_1000 : decode cX13_init 1000 = .ok (.bipush 25, 2) := dk_16 25 (dk_at dksX13_init_42 0 rfl rfl)
theorem dX13_init_1002 : decode cX13_init 1002 = .ok (.iconst 2, 1) := dk_5 (dk_at dksX13_init_42 2 rfl rfl)
theorem dX13_init_1003 : decode cX13_init 1003 = .ok (.iastore, 1) := dk_79 (dk_at dksX13_init_42 3 rfl rfl)
theorem dX13_init_1004 : decode cX13_init 1004 = .ok (.dup, 1) := dk_89 (dk_at dksX13_init_42 4 rfl rfl)
theorem dX13_init_1005 : decode cX13_init 1005 = .ok (.bipush 26, 2) := dk_16 26 (dk_at dksX13_init_42 5 rfl rfl)
theorem dX13_init_1007 : decode cX13_init 1007 = .ok (.iconst 1, 1) := dk_4 (dk_at dksX13_init_42 7 rfl rfl)
theorem dX13_init_1008 : decode cX13_init 1008 = .ok (.iastore, 1) := dk_79 (dk_at dksX13_init_42 8 rfl rfl)
theorem dX13_init_1009 : decode cX13_init 1009 = .ok (.dup, 1) := dk_89 (dk_at dksX13_init_42 9 rfl rfl)
theorem dX13_init_1010 : decode cX13_init 1010 = .ok (.bipush 27, 2) := dk_16 27 (dk_at dksX13_init_42 10 rfl rfl)
theorem dX13_init_1012 : decode cX13_init 1012 = .ok (.iconst 2, 1) := dk_5 (dk_at dksX13_init_42 12 rfl rfl)
theorem dX13_init_1013 : decode cX13_init 1013 = .ok (.iastore, 1) := dk_79 (dk_at dksX13_init_42 13 rfl rfl)
theorem dX13_init_1014 : decode cX13_init 1014 = .ok (.dup, 1) := dk_89 (dk_at dksX13_init_42 14 rfl rfl)
theorem dX13_init_1015 : decode cX13_init 1015 = .ok (.bipush 28, 2) := dk_16 28 (dk_at dksX13_init_42 15 rfl rfl)
theorem dX13_init_1017 : decode cX13_init 1017 = .ok (.iconst 2, 1) := dk_5 (dk_at dksX13_init_42 17 rfl rfl)
theorem dX13_init_1018 : decode cX13_init 1018 = .ok (.iastore, 1) := dk_79 (dk_at dksX13_init_42 18 rfl rfl)
theorem dX13_init_1019 : decode cX13_init 1019 = .ok (.dup, 1) := dk_89 (dk_at dksX13_init_42 19 rfl rfl)
theorem dX13_init_1020 : decode cX13_init 1020 = .ok (.bipush 29, 2) := dk_16 29 (dk_at dksX13_init_42 20 rfl rfl)
theorem dX13_init_1022 : decode cX13_init 1022 = .ok (.iconst 2, 1) := dk_5 (dk_at dksX13_init_42 22 rfl rfl)
theorem dX13_init_1023 : decode cX13_init 1023 = .ok (.iastore, 1) := dk_79 (dk_at dksX13_init_42 23 rfl rfl)
theorem dX13_init_1024 : decode cX13_init 1024 = .ok (.putfield 29, 3) := dk_181 0 29 (dk_at dksX13_init_43 0 rfl rfl)
theorem dX13_init_1027 : decode cX13_init 1027 = .ok (.aload_n 0, 1) := dk_42 (dk_at dksX13_init_43 3 rfl rfl)
theorem dX13_init_1028 : decode cX13_init 1028 = .ok (.sipush 512, 3) := dk_17 2 0 (dk_at dksX13_init_43 4 rfl rfl)
theorem dX13_init_1031 : decode cX13_init 1031 = .ok (.newarray .int, 2) := dk_188_10 (dk_at dksX13_init_43 7 rfl rfl)
theorem dX13_init_1033 : decode cX13_init 1033 = .ok (.putfield 32, 3) := dk_181 0 32 (dk_at dksX13_init_43 9 rfl rfl)
theorem dX13_init_1036 : decode cX13_init 1036 = .ok (.aload_n 0, 1) := dk_42 (dk_at dksX13_init_43 12 rfl rfl)
theorem dX13_init_1037 : decode cX13_init 1037 = .ok (.sipush 256, 3) := dk_17 1 0 (dk_at dksX13_init_43 13 rfl rfl)
theorem dX13_init_1040 : decode cX13_init 1040 = .ok (.newarray .int, 2) := dk_188_10 (dk_at dksX13_init_43 16 rfl rfl)
theorem dX13_init_1042 : decode cX13_init 1042 = .ok (.putfield 35, 3) := dk_181 0 35 (dk_at dksX13_init_43 18 rfl rfl)
theorem dX13_init_1045 : decode cX13_init 1045 = .ok (.aload_n 0, 1) := dk_42 (dk_at dksX13_init_43 21 rfl rfl)
theorem dX13_init_1046 : decode cX13_init 1046 = .ok (.sipush 3200, 3) := dk_17 12 128 (dk_at dksX13_init_44 0 rfl rfl)
theorem dX13_init_1049 : decode cX13_init 1049 = .ok (.newarray .int, 2) := dk_188_10 (dk_at dksX13_init_44 3 rfl rfl)
theorem dX13_init_1051 : decode cX13_init 1051 = .ok (.putfield 38, 3) := dk_181 0 38 (dk_at dksX13_init_44 5 rfl rfl)
theorem dX13_init_1054 : decode cX13_init 1054 = .ok (.aload_n 0, 1) := dk_42 (dk_at dksX13_init_44 8 rfl rfl)
theorem dX13_init_1055 : decode cX13_init 1055 = .ok (.iconst (-1), 1) := dk_2 (dk_at dksX13_init_44 9 rfl rfl)
theorem dX13_init_1056 : decode cX13_init 1056 = .ok (.putfield 41, 3) := dk_181 0 41 (dk_at dksX13_init_44 10 rfl rfl)
theorem dX13_init_1059 : decode cX13_init 1059 = .ok (.aload_n 0, 1) := dk_42 (dk_at dksX13_init_44 13 rfl rfl)
theorem dX13_init_1060 : decode cX13_init 1060 = .ok (.sipush 17424, 3) := dk_17 68 16 (dk_at dksX13_init_44 14 rfl rfl)
theorem dX13_init_1063 : decode cX13_init 1063 = .ok (.newarray .int, 2) := dk_188_10 (dk_at dksX13_init_44 17 rfl rfl)
theorem dX13_init_1065 : decode cX13_init 1065 = .ok (.putfield 44, 3) := dk_181 0 44 (dk_at dksX13_init_44 19 rfl rfl)
theorem dX13_init_1068 : decode cX13_init 1068 = .ok (.aload_n 0, 1) := dk_42 (dk_at dksX13_init_44 22 rfl rfl)
theorem dX13_init_1069 : decode cX13_init 1069 = .ok (.sipush 17424, 3) := dk_17 68 16 (dk_at dksX13_init_45 0 rfl rfl)
theorem dX13_init_1072 : decode cX13_init 1072 = .ok (.newarray .int, 2) := dk_188_10 (dk_at dksX13_init_45 3 rfl rfl)
theorem dX13_init_1074 : decode cX13_init 1074 = .ok (.putfield 47, 3) := dk_181 0 47 (dk_at dksX13_init_45 5 rfl rfl)
theorem dX13_init_1077 : decode cX13_init 1077 = .ok (.aload_n 0, 1) := dk_42 (dk_at dksX13_init_45 8 rfl rfl)
theorem dX13_init_1078 : decode cX13_init 1078 = .ok (.iconst (-1), 1) := dk_2 (dk_at dksX13_init_45 9 rfl rfl)
theorem dX13_init_1079 : decode cX13_init 1079 = .ok (.putfield 50, 3) := dk_181 0 50 (dk_at dksX13_init_45 10 rfl rfl)
theorem dX13_init_1082 : decode cX13_init 1082 = .ok (.aload_n 0, 1) := dk_42 (dk_at dksX13_init_45 13 rfl rfl)
theorem dX13_init_1083 : decode cX13_init 1083 = .ok (.sipush 20736, 3) := dk_17 81 0 (dk_at dksX13_init_45 14 rfl rfl)
theorem dX13_init_1086 : decode cX13_init 1086 = .ok (.newarray .boolean, 2) := dk_188_4 (dk_at dksX13_init_45 17 rfl rfl)
theorem dX13_init_1088 : decode cX13_init 1088 = .ok (.putfield 53, 3) := dk_181 0 53 (dk_at dksX13_init_45 19 rfl rfl)
theorem dX13_init_1091 : decode cX13_init 1091 = .ok (.aload_n 0, 1) := dk_42 (dk_at dksX13_init_45 22 rfl rfl)
theorem dX13_init_1092 : decode cX13_init 1092 = .ok (.sipush 2178, 3) := dk_17 8 130 (dk_at dksX13_init_46 0 rfl rfl)
theorem dX13_init_1095 : decode cX13_init 1095 = .ok (.newarray .int, 2) := dk_188_10 (dk_at dksX13_init_46 3 rfl rfl)
theorem dX13_init_1097 : decode cX13_init 1097 = .ok (.putfield 57, 3) := dk_181 0 57 (dk_at dksX13_init_46 5 rfl rfl)
theorem dX13_init_1100 : decode cX13_init 1100 = .ok (.aload_n 0, 1) := dk_42 (dk_at dksX13_init_46 8 rfl rfl)
theorem dX13_init_1101 : decode cX13_init 1101 = .ok (.bipush 70, 2) := dk_16 70 (dk_at dksX13_init_46 9 rfl rfl)
theorem dX13_init_1103 : decode cX13_init 1103 = .ok (.newarray .int, 2) := dk_188_10 (dk_at dksX13_init_46 11 rfl rfl)
theorem dX13_init_1105 : decode cX13_init 1105 = .ok (.putfield 60, 3) := dk_181 0 60 (dk_at dksX13_init_46 13 rfl rfl)
theorem dX13_init_1108 : decode cX13_init 1108 = .ok (.aload_n 0, 1) := dk_42 (dk_at dksX13_init_46 16 rfl rfl)
theorem dX13_init_1109 : decode cX13_init 1109 = .ok (.bipush 70, 2) := dk_16 70 (dk_at dksX13_init_46 17 rfl rfl)
theorem dX13_init_1111 : decode cX13_init 1111 = .ok (.newarray .int, 2) := dk_188_10 (dk_at dksX13_init_46 19 rfl rfl)
theorem dX13_init_1113 : decode cX13_init 1113 = .ok (.putfield 63, 3) := dk_181 0 63 (dk_at dksX13_init_46 21 rfl rfl)
theorem dX13_init_1116 : decode cX13_init 1116 = .ok (.aload_n 0, 1) := dk_42 (dk_at dksX13_init_47 0 rfl rfl)
theorem dX13_init_1117 : decode cX13_init 1117 = .ok (.bipush 70, 2) := dk_16 70 (dk_at dksX13_init_47 1 rfl rfl)
theorem dX13_init_1119 : decode cX13_init 1119 = .ok (.newarray .int, 2) := dk_188_10 (dk_at dksX13_init_47 3 rfl rfl)
theorem dX13_init_1121 : decode cX13_init 1121 = .ok (.putfield 66, 3) := dk_181 0 66 (dk_at dksX13_init_47 5 rfl rfl)
theorem dX13_init_1124 : decode cX13_init 1124 = .ok (.aload_n 0, 1) := dk_42 (dk_at dksX13_init_47 8 rfl rfl)
theorem dX13_init_1125 : decode cX13_init 1125 = .ok (.sipush 256, 3) := dk_17 1 0 (dk_at dksX13_init_47 9 rfl rfl)
theorem dX13_init_1128 : decode cX13_init 1128 = .ok (.newarray .int, 2) := dk_188_10 (dk_at dksX13_init_47 12 rfl rfl)
theorem dX13_init_1130 : decode cX13_init 1130 = .ok (.putfield 69, 3) := dk_181 0 69 (dk_at dksX13_init_47 14 rfl rfl)
theorem dX13_init_1133 : decode cX13_init 1133 = .ok (.aload_n 0, 1) := dk_42 (dk_at dksX13_init_47 17 rfl rfl)
theorem dX13_init_1134 : decode cX13_init 1134 = .ok (.sipush 1260, 3) := dk_17 4 236 (dk_at dksX13_init_47 18 rfl rfl)
theorem dX13_init_1137 : decode cX13_init 1137 = .ok (.newarray .int, 2) := dk_188_10 (dk_at dksX13_init_47 21 rfl rfl)
theorem dX13_init_1139 : decode cX13_init 1139 = .ok (.putfield 72, 3) := dk_181 0 72 (dk_at dksX13_init_48 0 rfl rfl)
theorem dX13_init_1142 : decode cX13_init 1142 = .ok (.aload_n 0, 1) := dk_42 (dk_at dksX13_init_48 3 rfl rfl)
theorem dX13_init_1143 : decode cX13_init 1143 = .ok (.bipush 36, 2) := dk_16 36 (dk_at dksX13_init_48 4 rfl rfl)
theorem dX13_init_1145 : decode cX13_init 1145 = .ok (.newarray .int, 2) := dk_188_10 (dk_at dksX13_init_48 6 rfl rfl)
theorem dX13_init_1147 : decode cX13_init 1147 = .ok (.putfield 75, 3) := dk_181 0 75 (dk_at dksX13_init_48 8 rfl rfl)
theorem dX13_init_1150 : decode cX13_init 1150 = .ok (.aload_n 0, 1) := dk_42 (dk_at dksX13_init_48 11 rfl rfl)
theorem dX13_init_1151 : decode cX13_init 1151 = .ok (.bipush 36, 2) := dk_16 36 (dk_at dksX13_init_48 12 rfl rfl)
theorem dX13_init_1153 : decode cX13_init 1153 = .ok (.newarray .int, 2) := dk_188_10 (dk_at dksX13_init_48 14 rfl rfl)
theorem dX13_init_1155 : decode cX13_init 1155 = .ok (.putfield 78, 3) := dk_181 0 78 (dk_at dksX13_init_48 16 rfl rfl)
theorem dX13_init_1158 : decode cX13_init 1158 = .ok (.aload_n 0, 1) := dk_42 (dk_at dksX13_init_48 19 rfl rfl)
theorem dX13_init_1159 : decode cX13_init 1159 = .ok (.sipush 4000, 3) := dk_17 15 160 (dk_at dksX13_init_48 20 rfl rfl)
theorem dX13_init_1162 : decode cX13_init 1162 = .ok (.newarray .int, 2) := dk_188_10 (dk_at dksX13_init_49 0 rfl rfl)
theorem dX13_init_1164 : decode cX13_init 1164 = .ok (.putfield 81, 3) := dk_181 0 81 (dk_at dksX13_init_49 2 rfl rfl)
theorem dX13_init_1167 : decode cX13_init 1167 = .ok (.aload_n 0, 1) := dk_42 (dk_at dksX13_init_49 5 rfl rfl)
theorem dX13_init_1168 : decode cX13_init 1168 = .ok (.sipush 4000, 3) := dk_17 15 160 (dk_at dksX13_init_49 6 rfl rfl)
theorem dX13_init_1171 : decode cX13_init 1171 = .ok (.newarray .int, 2) := dk_188_10 (dk_at dksX13_init_49 9 rfl rfl)
theorem dX13_init_1173 : decode cX13_init 1173 = .ok (.putfield 84, 3) := dk_181 0 84 (dk_at dksX13_init_49 11 rfl rfl)
theorem dX13_init_1176 : decode cX13_init 1176 = .ok (.aload_n 0, 1) := dk_42 (dk_at dksX13_init_49 14 rfl rfl)
theorem dX13_init_1177 : decode cX13_init 1177 = .ok (.sipush 22407, 3) := dk_17 87 135 (dk_at dksX13_init_49 15 rfl rfl)
theorem dX13_init_1180 : decode cX13_init 1180 = .ok (.newarray .int, 2) := dk_188_10 (dk_at dksX13_init_49 18 rfl rfl)
theorem dX13_init_1182 : decode cX13_init 1182 = .ok (.putfield 87, 3) := dk_181 0 87 (dk_at dksX13_init_49 20 rfl rfl)
theorem dX13_init_1185 : decode cX13_init 1185 = .ok (.aload_n 0, 1) := dk_42 (dk_at dksX13_init_49 23 rfl rfl)
theorem dX13_init_1186 : decode cX13_init 1186 = .ok (.sipush 22407, 3) := dk_17 87 135 (dk_at dksX13_init_50 0 rfl rfl)
theorem dX13_init_1189 : decode cX13_init 1189 = .ok (.newarray .int, 2) := dk_188_10 (dk_at dksX13_init_50 3 rfl rfl)
theorem dX13_init_1191 : decode cX13_init 1191 = .ok (.putfield 90, 3) := dk_181 0 90 (dk_at dksX13_init_50 5 rfl rfl)
theorem dX13_init_1194 : decode cX13_init 1194 = .ok (.aload_n 0, 1) := dk_42 (dk_at dksX13_init_50 8 rfl rfl)
theorem dX13_init_1195 : decode cX13_init 1195 = .ok (.bipush 26, 2) := dk_16 26 (dk_at dksX13_init_50 9 rfl rfl)
theorem dX13_init_1197 : decode cX13_init 1197 = .ok (.newarray .int, 2) := dk_188_10 (dk_at dksX13_init_50 11 rfl rfl)
theorem dX13_init_1199 : decode cX13_init 1199 = .ok (.putfield 93, 3) := dk_181 0 93 (dk_at dksX13_init_50 13 rfl rfl)
theorem dX13_init_1202 : decode cX13_init 1202 = .ok (.aload_n 0, 1) := dk_42 (dk_at dksX13_init_50 16 rfl rfl)
theorem dX13_init_1203 : decode cX13_init 1203 = .ok (.bipush 26, 2) := dk_16 26 (dk_at dksX13_init_50 17 rfl rfl)
theorem dX13_init_1205 : decode cX13_init 1205 = .ok (.newarray .int, 2) := dk_188_10 (dk_at dksX13_init_50 19 rfl rfl)
theorem dX13_init_1207 : decode cX13_init 1207 = .ok (.putfield 96, 3) := dk_181 0 96 (dk_at dksX13_init_50 21 rfl rfl)
theorem dX13_init_1210 : decode cX13_init 1210 = .ok (.aload_n 0, 1) := dk_42 (dk_at dksX13_init_51 0 rfl rfl)
theorem dX13_init_1211 : decode cX13_init 1211 = .ok (.iconst 4, 1) := dk_7 (dk_at dksX13_init_51 1 rfl rfl)
theorem dX13_init_1212 : decode cX13_init 1212 = .ok (.newarray .int, 2) := dk_188_10 (dk_at dksX13_init_51 2 rfl rfl)
theorem dX13_init_1214 : decode cX13_init 1214 = .ok (.putfield 99, 3) := dk_181 0 99 (dk_at dksX13_init_51 4 rfl rfl)
theorem dX13_init_1217 : decode cX13_init 1217 = .ok (.aload_n 0, 1) := dk_42 (dk_at dksX13_init_51 7 rfl rfl)
theorem dX13_init_1218 : decode cX13_init 1218 = .ok (.sipush 3200, 3) := dk_17 12 128 (dk_at dksX13_init_51 8 rfl rfl)
theorem dX13_init_1221 : decode cX13_init 1221 = .ok (.newarray .int, 2) := dk_188_10 (dk_at dksX13_init_51 11 rfl rfl)
theorem dX13_init_1223 : decode cX13_init 1223 = .ok (.putfield 102, 3) := dk_181 0 102 (dk_at dksX13_init_51 13 rfl rfl)
theorem dX13_init_1226 : decode cX13_init 1226 = .ok (.aload_n 0, 1) := dk_42 (dk_at dksX13_init_51 16 rfl rfl)
theorem dX13_init_1227 : decode cX13_init 1227 = .ok (.sipush 3200, 3) := dk_17 12 128 (dk_at dksX13_init_51 17 rfl rfl)
theorem dX13_init_1230 : decode cX13_init 1230 = .ok (.newarray .int, 2) := dk_188_10 (dk_at dksX13_init_51 20 rfl rfl)
theorem dX13_init_1232 : decode cX13_init 1232 = .ok (.putfield 105, 3) := dk_181 0 105 (dk_at dksX13_init_52 0 rfl rfl)
theorem dX13_init_1235 : decode cX13_init 1235 = .ok (.aload_n 0, 1) := dk_42 (dk_at dksX13_init_52 3 rfl rfl)
theorem dX13_init_1236 : decode cX13_init 1236 = .ok (.sipush 3200, 3) := dk_17 12 128 (dk_at dksX13_init_52 4 rfl rfl)
theorem dX13_init_1239 : decode cX13_init 1239 = .ok (.newarray .int, 2) := dk_188_10 (dk_at dksX13_init_52 7 rfl rfl)
theorem dX13_init_1241 : decode cX13_init 1241 = .ok (.putfield 108, 3) := dk_181 0 108 (dk_at dksX13_init_52 9 rfl rfl)
theorem dX13_init_1244 : decode cX13_init 1244 = .ok (.aload_n 0, 1) := dk_42 (dk_at dksX13_init_52 12 rfl rfl)
theorem dX13_init_1245 : decode cX13_init 1245 = .ok (.sipush 3200, 3) := dk_17 12 128 (dk_at dksX13_init_52 13 rfl rfl)
theorem dX13_init_1248 : decode cX13_init 1248 = .ok (.newarray .int, 2) := dk_188_10 (dk_at dksX13_init_52 16 rfl rfl)
theorem dX13_init_1250 : decode cX13_init 1250 = .ok (.putfield 111, 3) := dk_181 0 111 (dk_at dksX13_init_52 18 rfl rfl)
theorem dX13_init_1253 : decode cX13_init 1253 = .ok (.iconst 1, 1) := dk_4 (dk_at dksX13_init_52 21 rfl rfl)
theorem dX13_init_1254 : decode cX13_init 1254 = .ok (.istore_n 1, 1) := dk_60 (dk_at dksX13_init_52 22 rfl rfl)
theorem dX13_init_1255 : decode cX13_init 1255 = .ok (.iconst 0, 1) := dk_3 (dk_at dksX13_init_52 23 rfl rfl)
theorem dX13_init_1256 : decode cX13_init 1256 = .ok (.istore_n 2, 1) := dk_61 (dk_at dksX13_init_53 0 rfl rfl)
theorem dX13_init_1257 : decode cX13_init 1257 = .ok (.iload_n 2, 1) := dk_28 (dk_at dksX13_init_53 1 rfl rfl)
theorem dX13_init_1258 : decode cX13_init 1258 = .ok (.sipush 510, 3) := dk_17 1 254 (dk_at dksX13_init_53 2 rfl rfl)
theorem dX13_init_1261 : decode cX13_init 1261 = .ok (.if_icmp .ge 60, 3) := dk_162 0 60 (dk_at dksX13_init_53 5 rfl rfl)
theorem dX13_init_1264 : decode cX13_init 1264 = .ok (.aload_n 0, 1) := dk_42 (dk_at dksX13_init_53 8 rfl rfl)
theorem dX13_init_1265 : decode cX13_init 1265 = .ok (.getfield 32, 3) := dk_180 0 32 (dk_at dksX13_init_53 9 rfl rfl)
theorem dX13_init_1268 : decode cX13_init 1268 = .ok (.iload_n 2, 1) := dk_28 (dk_at dksX13_init_53 12 rfl rfl)
theorem dX13_init_1269 : decode cX13_init 1269 = .ok (.iload_n 1, 1) := dk_27 (dk_at dksX13_init_53 13 rfl rfl)
theorem dX13_init_1270 : decode cX13_init 1270 = .ok (.iastore, 1) := dk_79 (dk_at dksX13_init_53 14 rfl rfl)
theorem dX13_init_1271 : decode cX13_init 1271 = .ok (.aload_n 0, 1) := dk_42 (dk_at dksX13_init_53 15 rfl rfl)
theorem dX13_init_1272 : decode cX13_init 1272 = .ok (.getfield 35, 3) := dk_180 0 35 (dk_at dksX13_init_53 16 rfl rfl)
theorem dX13_init_1275 : decode cX13_init 1275 = .ok (.iload_n 1, 1) := dk_27 (dk_at dksX13_init_53 19 rfl rfl)
theorem dX13_init_1276 : decode cX13_init 1276 = .ok (.iload_n 2, 1) := dk_28 (dk_at dksX13_init_53 20 rfl rfl)
theorem dX13_init_1277 : decode cX13_init 1277 = .ok (.sipush 255, 3) := dk_17 0 255 (dk_at dksX13_init_53 21 rfl rfl)
theorem dX13_init_1280 : decode cX13_init 1280 = .ok (.if_icmp .ge 7, 3) := dk_162 0 7 (dk_at dksX13_init_54 0 rfl rfl)
theorem dX13_init_1283 : decode cX13_init 1283 = .ok (.iload_n 2, 1) := dk_28 (dk_at dksX13_init_54 3 rfl rfl)
theorem dX13_init_1284 : decode cX13_init 1284 = .ok (.goto 9, 3) := dk_167 0 9 (dk_at dksX13_init_54 4 rfl rfl)
theorem dX13_init_1287 : decode cX13_init 1287 = .ok (.aload_n 0, 1) := dk_42 (dk_at dksX13_init_54 7 rfl rfl)
theorem dX13_init_1288 : decode cX13_init 1288 = .ok (.getfield 35, 3) := dk_180 0 35 (dk_at dksX13_init_54 8 rfl rfl)
theorem dX13_init_1291 : decode cX13_init 1291 = .ok (.iload_n 1, 1) := dk_27 (dk_at dksX13_init_54 11 rfl rfl)
theorem dX13_init_1292 : decode cX13_init 1292 = .ok (.iaload, 1) := dk_46 (dk_at dksX13_init_54 12 rfl rfl)
theorem dX13_init_1293 : decode cX13_init 1293 = .ok (.iastore, 1) := dk_79 (dk_at dksX13_init_54 13 rfl rfl)
theorem dX13_init_1294 : decode cX13_init 1294 = .ok (.iload_n 1, 1) := dk_27 (dk_at dksX13_init_54 14 rfl rfl)
theorem dX13_init_1295 : decode cX13_init 1295 = .ok (.iconst 1, 1) := dk_4 (dk_at dksX13_init_54 15 rfl rfl)
theorem dX13_init_1296 : decode cX13_init 1296 = .ok (.ishl, 1) := dk_120 (dk_at dksX13_init_54 16 rfl rfl)
theorem dX13_init_1297 : decode cX13_init 1297 = .ok (.istore_n 1, 1) := dk_60 (dk_at dksX13_init_54 17 rfl rfl)
theorem dX13_init_1298 : decode cX13_init 1298 = .ok (.iload_n 1, 1) := dk_27 (dk_at dksX13_init_54 18 rfl rfl)
theorem dX13_init_1299 : decode cX13_init 1299 = .ok (.sipush 255, 3) := dk_17 0 255 (dk_at dksX13_init_54 19 rfl rfl)
theorem dX13_init_1302 : decode cX13_init 1302 = .ok (.if_icmp .le 11, 3) := dk_164 0 11 (dk_at dksX13_init_55 0 rfl rfl)
theorem dX13_init_1305 : decode cX13_init 1305 = .ok (.iload_n 1, 1) := dk_27 (dk_at dksX13_init_55 3 rfl rfl)
theorem dX13_init_1306 : decode cX13_init 1306 = .ok (.sipush 301, 3) := dk_17 1 45 (dk_at dksX13_init_55 4 rfl rfl)
theorem dX13_init_1309 : decode cX13_init 1309 = .ok (.ixor, 1) := dk_130 (dk_at dksX13_init_55 7 rfl rfl)
theorem dX13_init_1310 : decode cX13_init 1310 = .ok (.goto 4, 3) := dk_167 0 4 (dk_at dksX13_init_55 8 rfl rfl)
theorem dX13_init_1313 : decode cX13_init 1313 = .ok (.iload_n 1, 1) := dk_27 (dk_at dksX13_init_55 11 rfl rfl)
theorem dX13_init_1314 : decode cX13_init 1314 = .ok (.istore_n 1, 1) := dk_60 (dk_at dksX13_init_55 12 rfl rfl)
theorem dX13_init_1315 : decode cX13_init 1315 = .ok (.iinc 2 1, 3) := dk_132 2 1 (dk_at dksX13_init_55 13 rfl rfl)
theorem dX13_init_1318 : decode cX13_init 1318 = .ok (.goto (-61), 3) := dk_167 255 195 (dk_at dksX13_init_55 16 rfl rfl)
theorem dX13_init_1321 : decode cX13_init 1321 = .ok (.return_, 1) := dk_177 (dk_at dksX13_init_55 19 rfl rfl)
abbrev cX13_size : ByteArray := prog_16_method_9_code
def yX13_size : MethodName := ⟨RX13, "size", "(II)I"⟩
def dkwX13_size_3 : List UInt8 := [27, 46, 172, 42, 180, 0, 23, 27, 46, 172, 42, 27, 182, 0, 114, 172, 42, 27, 182, 0, 118, 172, 2, 172]
abbrev dktX13_size_3 : List UInt8 := dkwX13_size_3 ++ []
def dkwX13_size_2 : List UInt8 := [42, 180, 0, 13, 27, 46, 172, 42, 180, 0, 17, 27, 46, 172, 42, 27, 182, 0, 128, 172, 42, 180, 0, 20]
abbrev dktX13_size_2 : List UInt8 := dkwX13_size_2 ++ dktX13_size_3
def dkwX13_size_1 : List UInt8 := [170, 0, 0, 0, 87, 0, 0, 0, 0, 0, 0, 0, 6, 0, 0, 0, 41, 0, 0, 0, 48, 0, 0, 0, 55, 0, 0, 0, 61, 0, 0, 0, 68, 0, 0, 0, 75, 0, 0, 0, 81]
abbrev dktX13_size_1 : List UInt8 := dkwX13_size_1 ++ dktX13_size_2
def dkwX13_size_0 : List UInt8 := [42, 3, 181, 0, 1, 27, 184, 0, 124, 154, 0, 5, 2, 172, 28]
abbrev dktX13_size_0 : List UInt8 := dkwX13_size_0 ++ dktX13_size_1
theorem dksX13_size_0 : cX13_size.data.toList.drop 0 = dktX13_size_0 := by decide +kernel
theorem dksX13_size_1 : cX13_size.data.toList.drop 15 = dktX13_size_1 := dk_seg dksX13_size_0 15 rfl rfl
theorem dksX13_size_2 : cX13_size.data.toList.drop 56 = dktX13_size_2 := dk_seg dksX13_size_1 41 rfl rfl
theorem dksX13_size_3 : cX13_size.data.toList.drop 80 = dktX13_size_3 := dk_seg dksX13_size_2 24 rfl rfl
theorem dX13_size_0 : decode cX13_size 0 = .ok (.aload_n 0, 1) := dk_42 (dk_at dksX13_size_0 0 rfl rfl)
theorem dX13_size_1 : decode cX13_size 1 = .ok (.iconst 0, 1) := dk_3 (dk_at dksX13_size_0 1 rfl rfl)
theorem dX13_size_2 : decode cX13_size 2 = .ok (.putfield 1, 3) := dk_181 0 1 (dk_at dksX13_size_0 2 rfl rfl)
theorem dX13_size_5 : decode cX13_size 5 = .ok (.iload_n 1, 1) := dk_27 (dk_at dksX13_size_0 5 rfl rfl)
theorem dX13_size_6 : decode cX13_size 6 = .ok (.invokestatic 124, 3) := dk_184 0 124 (dk_at dksX13_size_0 6 rfl rfl)
theorem dX13_size_9 : decode cX13_size 9 = .ok (.ifCond .ne 5, 3) := dk_154 0 5 (dk_at dksX13_size_0 9 rfl rfl)
theorem dX13_size_12 : decode cX13_size 12 = .ok (.iconst (-1), 1) := dk_2 (dk_at dksX13_size_0 12 rfl rfl)
theorem dX13_size_13 : decode cX13_size 13 = .ok (.ireturn, 1) := dk_172 (dk_at dksX13_size_0 13 rfl rfl)
theorem dX13_size_14 : decode cX13_size 14 = .ok (.iload_n 2, 1) := dk_28 (dk_at dksX13_size_0 14 rfl rfl)
theorem dX13_size_15 : decode cX13_size 15 = .ok (.tableswitch 87 0 6 #[41, 48, 55, 61, 68, 75, 81], 41) := by decide +kernel
theorem dX13_size_56 : decode cX13_size 56 = .ok (.aload_n 0, 1) := dk_42 (dk_at dksX13_size_2 0 rfl rfl)
theorem dX13_size_57 : decode cX13_size 57 = .ok (.getfield 13, 3) := dk_180 0 13 (dk_at dksX13_size_2 1 rfl rfl)
theorem dX13_size_60 : decode cX13_size 60 = .ok (.iload_n 1, 1) := dk_27 (dk_at dksX13_size_2 4 rfl rfl)
theorem dX13_size_61 : decode cX13_size 61 = .ok (.iaload, 1) := dk_46 (dk_at dksX13_size_2 5 rfl rfl)
theorem dX13_size_62 : decode cX13_size 62 = .ok (.ireturn, 1) := dk_172 (dk_at dksX13_size_2 6 rfl rfl)
theorem dX13_size_63 : decode cX13_size 63 = .ok (.aload_n 0, 1) := dk_42 (dk_at dksX13_size_2 7 rfl rfl)
theorem dX13_size_64 : decode cX13_size 64 = .ok (.getfield 17, 3) := dk_180 0 17 (dk_at dksX13_size_2 8 rfl rfl)
theorem dX13_size_67 : decode cX13_size 67 = .ok (.iload_n 1, 1) := dk_27 (dk_at dksX13_size_2 11 rfl rfl)
theorem dX13_size_68 : decode cX13_size 68 = .ok (.iaload, 1) := dk_46 (dk_at dksX13_size_2 12 rfl rfl)
theorem dX13_size_69 : decode cX13_size 69 = .ok (.ireturn, 1) := dk_172 (dk_at dksX13_size_2 13 rfl rfl)
theorem dX13_size_70 : decode cX13_size 70 = .ok (.aload_n 0, 1) := dk_42 (dk_at dksX13_size_2 14 rfl rfl)
theorem dX13_size_71 : decode cX13_size 71 = .ok (.iload_n 1, 1) := dk_27 (dk_at dksX13_size_2 15 rfl rfl)
theorem dX13_size_72 : decode cX13_size 72 = .ok (.invokevirtual 128, 3) := dk_182 0 128 (dk_at dksX13_size_2 16 rfl rfl)
theorem dX13_size_75 : decode cX13_size 75 = .ok (.ireturn, 1) := dk_172 (dk_at dksX13_size_2 19 rfl rfl)
theorem dX13_size_76 : decode cX13_size 76 = .ok (.aload_n 0, 1) := dk_42 (dk_at dksX13_size_2 20 rfl rfl)
theorem dX13_size_77 : decode cX13_size 77 = .ok (.getfield 20, 3) := dk_180 0 20 (dk_at dksX13_size_2 21 rfl rfl)
theorem dX13_size_80 : decode cX13_size 80 = .ok (.iload_n 1, 1) := dk_27 (dk_at dksX13_size_3 0 rfl rfl)
theorem dX13_size_81 : decode cX13_size 81 = .ok (.iaload, 1) := dk_46 (dk_at dksX13_size_3 1 rfl rfl)
theorem dX13_size_82 : decode cX13_size 82 = .ok (.ireturn, 1) := dk_172 (dk_at dksX13_size_3 2 rfl rfl)
theorem dX13_size_83 : decode cX13_size 83 = .ok (.aload_n 0, 1) := dk_42 (dk_at dksX13_size_3 3 rfl rfl)
theorem dX13_size_84 : decode cX13_size 84 = .ok (.getfield 23, 3) := dk_180 0 23 (dk_at dksX13_size_3 4 rfl rfl)
theorem dX13_size_87 : decode cX13_size 87 = .ok (.iload_n 1, 1) := dk_27 (dk_at dksX13_size_3 7 rfl rfl)
theorem dX13_size_88 : decode cX13_size 88 = .ok (.iaload, 1) := dk_46 (dk_at dksX13_size_3 8 rfl rfl)
theorem dX13_size_89 : decode cX13_size 89 = .ok (.ireturn, 1) := dk_172 (dk_at dksX13_size_3 9 rfl rfl)
theorem dX13_size_90 : decode cX13_size 90 = .ok (.aload_n 0, 1) := dk_42 (dk_at dksX13_size_3 10 rfl rfl)
theorem dX13_size_91 : decode cX13_size 91 = .ok (.iload_n 1, 1) := dk_27 (dk_at dksX13_size_3 11 rfl rfl)
theorem dX13_size_92 : decode cX13_size 92 = .ok (.invokevirtual 114, 3) := dk_182 0 114 (dk_at dksX13_size_3 12 rfl rfl)
theorem dX13_size_95 : decode cX13_size 95 = .ok (.ireturn, 1) := dk_172 (dk_at dksX13_size_3 15 rfl rfl)
theorem dX13_size_96 : decode cX13_size 96 = .ok (.aload_n 0, 1) := dk_42 (dk_at dksX13_size_3 16 rfl rfl)
theorem dX13_size_97 : decode cX13_size 97 = .ok (.iload_n 1, 1) := dk_27 (dk_at dksX13_size_3 17 rfl rfl)
theorem dX13_size_98 : decode cX13_size 98 = .ok (.invokevirtual 118, 3) := dk_182 0 118 (dk_at dksX13_size_3 18 rfl rfl)
theorem dX13_size_101 : decode cX13_size 101 = .ok (.ireturn, 1) := dk_172 (dk_at dksX13_size_3 21 rfl rfl)
theorem dX13_size_102 : decode cX13_size 102 = .ok (.iconst (-1), 1) := dk_2 (dk_at dksX13_size_3 22 rfl rfl)
theorem dX13_size_103 : decode cX13_size 103 = .ok (.ireturn, 1) := dk_172 (dk_at dksX13_size_3 23 rfl rfl)
abbrev cX13_isSymbol : ByteArray := prog_16_method_8_code
def yX13_isSymbol : MethodName := ⟨RX13, "isSymbol", "(I)Z"⟩
def dkwX13_isSymbol_0 : List UInt8 := [26, 155, 0, 13, 26, 16, 30, 162, 0, 7, 4, 167, 0, 4, 3, 172]
abbrev dktX13_isSymbol_0 : List UInt8 := dkwX13_isSymbol_0 ++ []
theorem dksX13_isSymbol_0 : cX13_isSymbol.data.toList.drop 0 = dktX13_isSymbol_0 := by decide +kernel
theorem dX13_isSymbol_0 : decode cX13_isSymbol 0 = .ok (.iload_n 0, 1) := dk_26 (dk_at dksX13_isSymbol_0 0 rfl rfl)
theorem dX13_isSymbol_1 : decode cX13_isSymbol 1 = .ok (.ifCond .lt 13, 3) := dk_155 0 13 (dk_at dksX13_isSymbol_0 1 rfl rfl)
theorem dX13_isSymbol_4 : decode cX13_isSymbol 4 = .ok (.iload_n 0, 1) := dk_26 (dk_at dksX13_isSymbol_0 4 rfl rfl)
theorem dX13_isSymbol_5 : decode cX13_isSymbol 5 = .ok (.bipush 30, 2) := dk_16 30 (dk_at dksX13_isSymbol_0 5 rfl rfl)
theorem dX13_isSymbol_7 : decode cX13_isSymbol 7 = .ok (.if_icmp .ge 7, 3) := dk_162 0 7 (dk_at dksX13_isSymbol_0 7 rfl rfl)
theorem dX13_isSymbol_10 : decode cX13_isSymbol 10 = .ok (.iconst 1, 1) := dk_4 (dk_at dksX13_isSymbol_0 10 rfl rfl)
theorem dX13_isSymbol_11 : decode cX13_isSymbol 11 = .ok (.goto 4, 3) := dk_167 0 4 (dk_at dksX13_isSymbol_0 11 rfl rfl)
theorem dX13_isSymbol_14 : decode cX13_isSymbol 14 = .ok (.iconst 0, 1) := dk_3 (dk_at dksX13_isSymbol_0 14 rfl rfl)
theorem dX13_isSymbol_15 : decode cX13_isSymbol 15 = .ok (.ireturn, 1) := dk_172 (dk_at dksX13_isSymbol_0 15 rfl rfl)
abbrev cX13_dataOf : ByteArray := prog_16_method_7_code
def yX13_dataOf : MethodName := ⟨RX13, "dataOf", "(I)I"⟩
def dkwX13_dataOf_0 : List UInt8 := [42, 27, 182, 0, 121, 42, 180, 0, 20, 27, 46, 100, 172]
abbrev dktX13_dataOf_0 : List UInt8 := dkwX13_dataOf_0 ++ []
theorem dksX13_dataOf_0 : cX13_dataOf.data.toList.drop 0 = dktX13_dataOf_0 := by decide +kernel
theorem dX13_dataOf_0 : decode cX13_dataOf 0 = .ok (.aload_n 0, 1) := dk_42 (dk_at dksX13_dataOf_0 0 rfl rfl)
theorem dX13_dataOf_1 : decode cX13_dataOf 1 = .ok (.iload_n 1, 1) := dk_27 (dk_at dksX13_dataOf_0 1 rfl rfl)
theorem dX13_dataOf_2 : decode cX13_dataOf 2 = .ok (.invokevirtual 121, 3) := dk_182 0 121 (dk_at dksX13_dataOf_0 2 rfl rfl)
theorem dX13_dataOf_5 : decode cX13_dataOf 5 = .ok (.aload_n 0, 1) := dk_42 (dk_at dksX13_dataOf_0 5 rfl rfl)
theorem dX13_dataOf_6 : decode cX13_dataOf 6 = .ok (.getfield 20, 3) := dk_180 0 20 (dk_at dksX13_dataOf_0 6 rfl rfl)
theorem dX13_dataOf_9 : decode cX13_dataOf 9 = .ok (.iload_n 1, 1) := dk_27 (dk_at dksX13_dataOf_0 9 rfl rfl)
theorem dX13_dataOf_10 : decode cX13_dataOf 10 = .ok (.iaload, 1) := dk_46 (dk_at dksX13_dataOf_0 10 rfl rfl)
theorem dX13_dataOf_11 : decode cX13_dataOf 11 = .ok (.isub, 1) := dk_100 (dk_at dksX13_dataOf_0 11 rfl rfl)
theorem dX13_dataOf_12 : decode cX13_dataOf 12 = .ok (.ireturn, 1) := dk_172 (dk_at dksX13_dataOf_0 12 rfl rfl)
abbrev cX13_allOf : ByteArray := prog_16_method_6_code
def yX13_allOf : MethodName := ⟨RX13, "allOf", "(I)I"⟩
def dkwX13_allOf_0 : List UInt8 := [42, 27, 182, 0, 114, 42, 27, 182, 0, 118, 104, 16, 8, 108, 172]
abbrev dktX13_allOf_0 : List UInt8 := dkwX13_allOf_0 ++ []
theorem dksX13_allOf_0 : cX13_allOf.data.toList.drop 0 = dktX13_allOf_0 := by decide +kernel
theorem dX13_allOf_0 : decode cX13_allOf 0 = .ok (.aload_n 0, 1) := dk_42 (dk_at dksX13_allOf_0 0 rfl rfl)
theorem dX13_allOf_1 : decode cX13_allOf 1 = .ok (.iload_n 1, 1) := dk_27 (dk_at dksX13_allOf_0 1 rfl rfl)
theorem dX13_allOf_2 : decode cX13_allOf 2 = .ok (.invokevirtual 114, 3) := dk_182 0 114 (dk_at dksX13_allOf_0 2 rfl rfl)
theorem dX13_allOf_5 : decode cX13_allOf 5 = .ok (.aload_n 0, 1) := dk_42 (dk_at dksX13_allOf_0 5 rfl rfl)
theorem dX13_allOf_6 : decode cX13_allOf 6 = .ok (.iload_n 1, 1) := dk_27 (dk_at dksX13_allOf_0 6 rfl rfl)
theorem dX13_allOf_7 : decode cX13_allOf 7 = .ok (.invokevirtual 118, 3) := dk_182 0 118 (dk_at dksX13_allOf_0 7 rfl rfl)
theorem dX13_allOf_10 : decode cX13_allOf 10 = .ok (.imul, 1) := dk_104 (dk_at dksX13_allOf_0 10 rfl rfl)
theorem dX13_allOf_11 : decode cX13_allOf 11 = .ok (.bipush 8, 2) := dk_16 8 (dk_at dksX13_allOf_0 11 rfl rfl)
theorem dX13_allOf_13 : decode cX13_allOf 13 = .ok (.idiv, 1) := dk_108 (dk_at dksX13_allOf_0 13 rfl rfl)
theorem dX13_allOf_14 : decode cX13_allOf 14 = .ok (.ireturn, 1) := dk_172 (dk_at dksX13_allOf_0 14 rfl rfl)
abbrev cX13_planeRows : ByteArray := prog_16_method_4_code
def yX13_planeRows : MethodName := ⟨RX13, "planeRows", "(I)I"⟩
def dkwX13_planeRows_0 : List UInt8 := [42, 180, 0, 13, 27, 46, 5, 42, 180, 0, 26, 27, 46, 104, 100, 172]
abbrev dktX13_planeRows_0 : List UInt8 := dkwX13_planeRows_0 ++ []
theorem dksX13_planeRows_0 : cX13_planeRows.data.toList.drop 0 = dktX13_planeRows_0 := by decide +kernel
theorem dX13_planeRows_0 : decode cX13_planeRows 0 = .ok (.aload_n 0, 1) := dk_42 (dk_at dksX13_planeRows_0 0 rfl rfl)
theorem dX13_planeRows_1 : decode cX13_planeRows 1 = .ok (.getfield 13, 3) := dk_180 0 13 (dk_at dksX13_planeRows_0 1 rfl rfl)
theorem dX13_planeRows_4 : decode cX13_planeRows 4 = .ok (.iload_n 1, 1) := dk_27 (dk_at dksX13_planeRows_0 4 rfl rfl)
theorem dX13_planeRows_5 : decode cX13_planeRows 5 = .ok (.iaload, 1) := dk_46 (dk_at dksX13_planeRows_0 5 rfl rfl)
theorem dX13_planeRows_6 : decode cX13_planeRows 6 = .ok (.iconst 2, 1) := dk_5 (dk_at dksX13_planeRows_0 6 rfl rfl)
theorem dX13_planeRows_7 : decode cX13_planeRows 7 = .ok (.aload_n 0, 1) := dk_42 (dk_at dksX13_planeRows_0 7 rfl rfl)
theorem dX13_planeRows_8 : decode cX13_planeRows 8 = .ok (.getfield 26, 3) := dk_180 0 26 (dk_at dksX13_planeRows_0 8 rfl rfl)
theorem dX13_planeRows_11 : decode cX13_planeRows 11 = .ok (.iload_n 1, 1) := dk_27 (dk_at dksX13_planeRows_0 11 rfl rfl)
theorem dX13_planeRows_12 : decode cX13_planeRows 12 = .ok (.iaload, 1) := dk_46 (dk_at dksX13_planeRows_0 12 rfl rfl)
theorem dX13_planeRows_13 : decode cX13_planeRows 13 = .ok (.imul, 1) := dk_104 (dk_at dksX13_planeRows_0 13 rfl rfl)
theorem dX13_planeRows_14 : decode cX13_planeRows 14 = .ok (.isub, 1) := dk_100 (dk_at dksX13_planeRows_0 14 rfl rfl)
theorem dX13_planeRows_15 : decode cX13_planeRows 15 = .ok (.ireturn, 1) := dk_172 (dk_at dksX13_planeRows_0 15 rfl rfl)
abbrev cX13_planeColumns : ByteArray := prog_16_method_5_code
def yX13_planeColumns : MethodName := ⟨RX13, "planeColumns", "(I)I"⟩
def dkwX13_planeColumns_0 : List UInt8 := [42, 180, 0, 17, 27, 46, 5, 42, 180, 0, 29, 27, 46, 104, 100, 172]
abbrev dktX13_planeColumns_0 : List UInt8 := dkwX13_planeColumns_0 ++ []
theorem dksX13_planeColumns_0 : cX13_planeColumns.data.toList.drop 0 = dktX13_planeColumns_0 := by decide +kernel
theorem dX13_planeColumns_0 : decode cX13_planeColumns 0 = .ok (.aload_n 0, 1) := dk_42 (dk_at dksX13_planeColumns_0 0 rfl rfl)
theorem dX13_planeColumns_1 : decode cX13_planeColumns 1 = .ok (.getfield 17, 3) := dk_180 0 17 (dk_at dksX13_planeColumns_0 1 rfl rfl)
theorem dX13_planeColumns_4 : decode cX13_planeColumns 4 = .ok (.iload_n 1, 1) := dk_27 (dk_at dksX13_planeColumns_0 4 rfl rfl)
theorem dX13_planeColumns_5 : decode cX13_planeColumns 5 = .ok (.iaload, 1) := dk_46 (dk_at dksX13_planeColumns_0 5 rfl rfl)
theorem dX13_planeColumns_6 : decode cX13_planeColumns 6 = .ok (.iconst 2, 1) := dk_5 (dk_at dksX13_planeColumns_0 6 rfl rfl)
theorem dX13_planeColumns_7 : decode cX13_planeColumns 7 = .ok (.aload_n 0, 1) := dk_42 (dk_at dksX13_planeColumns_0 7 rfl rfl)
theorem dX13_planeColumns_8 : decode cX13_planeColumns 8 = .ok (.getfield 29, 3) := dk_180 0 29 (dk_at dksX13_planeColumns_0 8 rfl rfl)
theorem dX13_planeColumns_11 : decode cX13_planeColumns 11 = .ok (.iload_n 1, 1) := dk_27 (dk_at dksX13_planeColumns_0 11 rfl rfl)
theorem dX13_planeColumns_12 : decode cX13_planeColumns 12 = .ok (.iaload, 1) := dk_46 (dk_at dksX13_planeColumns_0 12 rfl rfl)
theorem dX13_planeColumns_13 : decode cX13_planeColumns 13 = .ok (.imul, 1) := dk_104 (dk_at dksX13_planeColumns_0 13 rfl rfl)
theorem dX13_planeColumns_14 : decode cX13_planeColumns 14 = .ok (.isub, 1) := dk_100 (dk_at dksX13_planeColumns_0 14 rfl rfl)
theorem dX13_planeColumns_15 : decode cX13_planeColumns 15 = .ok (.ireturn, 1) := dk_172 (dk_at dksX13_planeColumns_0 15 rfl rfl)
abbrev cX13_feed : ByteArray := prog_16_method_10_code
def yX13_feed : MethodName := ⟨RX13, "feed", "(IJJJ)I"⟩
def dkwX13_feed_4 : List UInt8 := [180, 0, 131, 4, 96, 181, 0, 131, 132, 8, 1, 167, 255, 185, 42, 180, 0, 131, 172]
abbrev dktX13_feed_4 : List UInt8 := dkwX13_feed_4 ++ []
def dkwX13_feed_3 : List UInt8 := [42, 180, 0, 131, 22, 9, 16, 8, 21, 8, 16, 8, 112, 104, 123, 136, 17, 0, 255, 126, 79, 42, 89]
abbrev dktX13_feed_3 : List UInt8 := dkwX13_feed_3 ++ dktX13_feed_4
def dkwX13_feed_2 : List UInt8 := [32, 167, 0, 17, 21, 8, 16, 16, 162, 0, 8, 22, 4, 167, 0, 5, 22, 6, 55, 9, 42, 180, 0, 38]
abbrev dktX13_feed_2 : List UInt8 := dkwX13_feed_2 ++ dktX13_feed_3
def dkwX13_feed_1 : List UInt8 := [17, 12, 128, 164, 0, 5, 2, 172, 3, 54, 8, 21, 8, 27, 162, 0, 71, 21, 8, 16, 8, 162, 0, 7]
abbrev dktX13_feed_1 : List UInt8 := dkwX13_feed_1 ++ dktX13_feed_2
def dkwX13_feed_0 : List UInt8 := [42, 3, 181, 0, 1, 27, 4, 161, 0, 21, 27, 16, 24, 163, 0, 15, 42, 180, 0, 131, 27, 96]
abbrev dktX13_feed_0 : List UInt8 := dkwX13_feed_0 ++ dktX13_feed_1
theorem dksX13_feed_0 : cX13_feed.data.toList.drop 0 = dktX13_feed_0 := by decide +kernel
theorem dksX13_feed_1 : cX13_feed.data.toList.drop 22 = dktX13_feed_1 := dk_seg dksX13_feed_0 22 rfl rfl
theorem dksX13_feed_2 : cX13_feed.data.toList.drop 46 = dktX13_feed_2 := dk_seg dksX13_feed_1 24 rfl rfl
theorem dksX13_feed_3 : cX13_feed.data.toList.drop 70 = dktX13_feed_3 := dk_seg dksX13_feed_2 24 rfl rfl
theorem dksX13_feed_4 : cX13_feed.data.toList.drop 93 = dktX13_feed_4 := dk_seg dksX13_feed_3 23 rfl rfl
theorem dX13_feed_0 : decode cX13_feed 0 = .ok (.aload_n 0, 1) := dk_42 (dk_at dksX13_feed_0 0 rfl rfl)
theorem dX13_feed_1 : decode cX13_feed 1 = .ok (.iconst 0, 1) := dk_3 (dk_at dksX13_feed_0 1 rfl rfl)
theorem dX13_feed_2 : decode cX13_feed 2 = .ok (.putfield 1, 3) := dk_181 0 1 (dk_at dksX13_feed_0 2 rfl rfl)
theorem dX13_feed_5 : decode cX13_feed 5 = .ok (.iload_n 1, 1) := dk_27 (dk_at dksX13_feed_0 5 rfl rfl)
theorem dX13_feed_6 : decode cX13_feed 6 = .ok (.iconst 1, 1) := dk_4 (dk_at dksX13_feed_0 6 rfl rfl)
theorem dX13_feed_7 : decode cX13_feed 7 = .ok (.if_icmp .lt 21, 3) := dk_161 0 21 (dk_at dksX13_feed_0 7 rfl rfl)
theorem dX13_feed_10 : decode cX13_feed 10 = .ok (.iload_n 1, 1) := dk_27 (dk_at dksX13_feed_0 10 rfl rfl)
theorem dX13_feed_11 : decode cX13_feed 11 = .ok (.bipush 24, 2) := dk_16 24 (dk_at dksX13_feed_0 11 rfl rfl)
theorem dX13_feed_13 : decode cX13_feed 13 = .ok (.if_icmp .gt 15, 3) := dk_163 0 15 (dk_at dksX13_feed_0 13 rfl rfl)
theorem dX13_feed_16 : decode cX13_feed 16 = .ok (.aload_n 0, 1) := dk_42 (dk_at dksX13_feed_0 16 rfl rfl)
theorem dX13_feed_17 : decode cX13_feed 17 = .ok (.getfield 131, 3) := dk_180 0 131 (dk_at dksX13_feed_0 17 rfl rfl)
theorem dX13_feed_20 : decode cX13_feed 20 = .ok (.iload_n 1, 1) := dk_27 (dk_at dksX13_feed_0 20 rfl rfl)
theorem dX13_feed_21 : decode cX13_feed 21 = .ok (.iadd, 1) := dk_96 (dk_at dksX13_feed_0 21 rfl rfl)
theorem dX13_feed_22 : decode cX13_feed 22 = .ok (.sipush 3200, 3) := dk_17 12 128 (dk_at dksX13_feed_1 0 rfl rfl)
theorem dX13_feed_25 : decode cX13_feed 25 = .ok (.if_icmp .le 5, 3) := dk_164 0 5 (dk_at dksX13_feed_1 3 rfl rfl)
theorem dX13_feed_28 : decode cX13_feed 28 = .ok (.iconst (-1), 1) := dk_2 (dk_at dksX13_feed_1 6 rfl rfl)
theorem dX13_feed_29 : decode cX13_feed 29 = .ok (.ireturn, 1) := dk_172 (dk_at dksX13_feed_1 7 rfl rfl)
theorem dX13_feed_30 : decode cX13_feed 30 = .ok (.iconst 0, 1) := dk_3 (dk_at dksX13_feed_1 8 rfl rfl)
theorem dX13_feed_31 : decode cX13_feed 31 = .ok (.istore 8, 2) := dk_54 8 (dk_at dksX13_feed_1 9 rfl rfl)
theorem dX13_feed_33 : decode cX13_feed 33 = .ok (.iload 8, 2) := dk_21 8 (dk_at dksX13_feed_1 11 rfl rfl)
theorem dX13_feed_35 : decode cX13_feed 35 = .ok (.iload_n 1, 1) := dk_27 (dk_at dksX13_feed_1 13 rfl rfl)
theorem dX13_feed_36 : decode cX13_feed 36 = .ok (.if_icmp .ge 71, 3) := dk_162 0 71 (dk_at dksX13_feed_1 14 rfl rfl)
theorem dX13_feed_39 : decode cX13_feed 39 = .ok (.iload 8, 2) := dk_21 8 (dk_at dksX13_feed_1 17 rfl rfl)
theorem dX13_feed_41 : decode cX13_feed 41 = .ok (.bipush 8, 2) := dk_16 8 (dk_at dksX13_feed_1 19 rfl rfl)
theorem dX13_feed_43 : decode cX13_feed 43 = .ok (.if_icmp .ge 7, 3) := dk_162 0 7 (dk_at dksX13_feed_1 21 rfl rfl)
theorem dX13_feed_46 : decode cX13_feed 46 = .ok (.lload_n 2, 1) := dk_32 (dk_at dksX13_feed_2 0 rfl rfl)
theorem dX13_feed_47 : decode cX13_feed 47 = .ok (.goto 17, 3) := dk_167 0 17 (dk_at dksX13_feed_2 1 rfl rfl)
theorem dX13_feed_50 : decode cX13_feed 50 = .ok (.iload 8, 2) := dk_21 8 (dk_at dksX13_feed_2 4 rfl rfl)
theorem dX13_feed_52 : decode cX13_feed 52 = .ok (.bipush 16, 2) := dk_16 16 (dk_at dksX13_feed_2 6 rfl rfl)
theorem dX13_feed_54 : decode cX13_feed 54 = .ok (.if_icmp .ge 8, 3) := dk_162 0 8 (dk_at dksX13_feed_2 8 rfl rfl)
theorem dX13_feed_57 : decode cX13_feed 57 = .ok (.lload 4, 2) := dk_22 4 (dk_at dksX13_feed_2 11 rfl rfl)
theorem dX13_feed_59 : decode cX13_feed 59 = .ok (.goto 5, 3) := dk_167 0 5 (dk_at dksX13_feed_2 13 rfl rfl)
theorem dX13_feed_62 : decode cX13_feed 62 = .ok (.lload 6, 2) := dk_22 6 (dk_at dksX13_feed_2 16 rfl rfl)
theorem dX13_feed_64 : decode cX13_feed 64 = .ok (.lstore 9, 2) := dk_55 9 (dk_at dksX13_feed_2 18 rfl rfl)
theorem dX13_feed_66 : decode cX13_feed 66 = .ok (.aload_n 0, 1) := dk_42 (dk_at dksX13_feed_2 20 rfl rfl)
theorem dX13_feed_67 : decode cX13_feed 67 = .ok (.getfield 38, 3) := dk_180 0 38 (dk_at dksX13_feed_2 21 rfl rfl)
theorem dX13_feed_70 : decode cX13_feed 70 = .ok (.aload_n 0, 1) := dk_42 (dk_at dksX13_feed_3 0 rfl rfl)
theorem dX13_feed_71 : decode cX13_feed 71 = .ok (.getfield 131, 3) := dk_180 0 131 (dk_at dksX13_feed_3 1 rfl rfl)
theorem dX13_feed_74 : decode cX13_feed 74 = .ok (.lload 9, 2) := dk_22 9 (dk_at dksX13_feed_3 4 rfl rfl)
theorem dX13_feed_76 : decode cX13_feed 76 = .ok (.bipush 8, 2) := dk_16 8 (dk_at dksX13_feed_3 6 rfl rfl)
theorem dX13_feed_78 : decode cX13_feed 78 = .ok (.iload 8, 2) := dk_21 8 (dk_at dksX13_feed_3 8 rfl rfl)
theorem dX13_feed_80 : decode cX13_feed 80 = .ok (.bipush 8, 2) := dk_16 8 (dk_at dksX13_feed_3 10 rfl rfl)
theorem dX13_feed_82 : decode cX13_feed 82 = .ok (.irem, 1) := dk_112 (dk_at dksX13_feed_3 12 rfl rfl)
theorem dX13_feed_83 : decode cX13_feed 83 = .ok (.imul, 1) := dk_104 (dk_at dksX13_feed_3 13 rfl rfl)
theorem dX13_feed_84 : decode cX13_feed 84 = .ok (.lshr, 1) := dk_123 (dk_at dksX13_feed_3 14 rfl rfl)
theorem dX13_feed_85 : decode cX13_feed 85 = .ok (.l2i, 1) := dk_136 (dk_at dksX13_feed_3 15 rfl rfl)
theorem dX13_feed_86 : decode cX13_feed 86 = .ok (.sipush 255, 3) := dk_17 0 255 (dk_at dksX13_feed_3 16 rfl rfl)
theorem dX13_feed_89 : decode cX13_feed 89 = .ok (.iand, 1) := dk_126 (dk_at dksX13_feed_3 19 rfl rfl)
theorem dX13_feed_90 : decode cX13_feed 90 = .ok (.iastore, 1) := dk_79 (dk_at dksX13_feed_3 20 rfl rfl)
theorem dX13_feed_91 : decode cX13_feed 91 = .ok (.aload_n 0, 1) := dk_42 (dk_at dksX13_feed_3 21 rfl rfl)
theorem dX13_feed_92 : decode cX13_feed 92 = .ok (.dup, 1) := dk_89 (dk_at dksX13_feed_3 22 rfl rfl)
theorem dX13_feed_93 : decode cX13_feed 93 = .ok (.getfield 131, 3) := dk_180 0 131 (dk_at dksX13_feed_4 0 rfl rfl)
theorem dX13_feed_96 : decode cX13_feed 96 = .ok (.iconst 1, 1) := dk_4 (dk_at dksX13_feed_4 3 rfl rfl)
theorem dX13_feed_97 : decode cX13_feed 97 = .ok (.iadd, 1) := dk_96 (dk_at dksX13_feed_4 4 rfl rfl)
theorem dX13_feed_98 : decode cX13_feed 98 = .ok (.putfield 131, 3) := dk_181 0 131 (dk_at dksX13_feed_4 5 rfl rfl)
theorem dX13_feed_101 : decode cX13_feed 101 = .ok (.iinc 8 1, 3) := dk_132 8 1 (dk_at dksX13_feed_4 8 rfl rfl)
theorem dX13_feed_104 : decode cX13_feed 104 = .ok (.goto (-71), 3) := dk_167 255 185 (dk_at dksX13_feed_4 11 rfl rfl)
theorem dX13_feed_107 : decode cX13_feed 107 = .ok (.aload_n 0, 1) := dk_42 (dk_at dksX13_feed_4 14 rfl rfl)
theorem dX13_feed_108 : decode cX13_feed 108 = .ok (.getfield 131, 3) := dk_180 0 131 (dk_at dksX13_feed_4 15 rfl rfl)
theorem dX13_feed_111 : decode cX13_feed 111 = .ok (.ireturn, 1) := dk_172 (dk_at dksX13_feed_4 18 rfl rfl)
abbrev cX13_module : ByteArray := prog_16_method_22_code
def yX13_module : MethodName := ⟨RX13, "module", "(II)I"⟩
def dkwX13_module_1 : List UInt8 := [17, 0, 144, 27, 104, 28, 96, 51, 153, 0, 7, 4, 167, 0, 4, 3, 172]
abbrev dktX13_module_1 : List UInt8 := dkwX13_module_1 ++ []
def dkwX13_module_0 : List UInt8 := [42, 3, 181, 0, 1, 42, 27, 28, 182, 0, 182, 154, 0, 7, 2, 167, 0, 23, 42, 180, 0, 53]
abbrev dktX13_module_0 : List UInt8 := dkwX13_module_0 ++ dktX13_module_1
theorem dksX13_module_0 : cX13_module.data.toList.drop 0 = dktX13_module_0 := by decide +kernel
theorem dksX13_module_1 : cX13_module.data.toList.drop 22 = dktX13_module_1 := dk_seg dksX13_module_0 22 rfl rfl
theorem dX13_module_0 : decode cX13_module 0 = .ok (.aload_n 0, 1) := dk_42 (dk_at dksX13_module_0 0 rfl rfl)
theorem dX13_module_1 : decode cX13_module 1 = .ok (.iconst 0, 1) := dk_3 (dk_at dksX13_module_0 1 rfl rfl)
theorem dX13_module_2 : decode cX13_module 2 = .ok (.putfield 1, 3) := dk_181 0 1 (dk_at dksX13_module_0 2 rfl rfl)
theorem dX13_module_5 : decode cX13_module 5 = .ok (.aload_n 0, 1) := dk_42 (dk_at dksX13_module_0 5 rfl rfl)
theorem dX13_module_6 : decode cX13_module 6 = .ok (.iload_n 1, 1) := dk_27 (dk_at dksX13_module_0 6 rfl rfl)
theorem dX13_module_7 : decode cX13_module 7 = .ok (.iload_n 2, 1) := dk_28 (dk_at dksX13_module_0 7 rfl rfl)
theorem dX13_module_8 : decode cX13_module 8 = .ok (.invokevirtual 182, 3) := dk_182 0 182 (dk_at dksX13_module_0 8 rfl rfl)
theorem dX13_module_11 : decode cX13_module 11 = .ok (.ifCond .ne 7, 3) := dk_154 0 7 (dk_at dksX13_module_0 11 rfl rfl)
theorem dX13_module_14 : decode cX13_module 14 = .ok (.iconst (-1), 1) := dk_2 (dk_at dksX13_module_0 14 rfl rfl)
theorem dX13_module_15 : decode cX13_module 15 = .ok (.goto 23, 3) := dk_167 0 23 (dk_at dksX13_module_0 15 rfl rfl)
theorem dX13_module_18 : decode cX13_module 18 = .ok (.aload_n 0, 1) := dk_42 (dk_at dksX13_module_0 18 rfl rfl)
theorem dX13_module_19 : decode cX13_module 19 = .ok (.getfield 53, 3) := dk_180 0 53 (dk_at dksX13_module_0 19 rfl rfl)
theorem dX13_module_22 : decode cX13_module 22 = .ok (.sipush 144, 3) := dk_17 0 144 (dk_at dksX13_module_1 0 rfl rfl)
theorem dX13_module_25 : decode cX13_module 25 = .ok (.iload_n 1, 1) := dk_27 (dk_at dksX13_module_1 3 rfl rfl)
theorem dX13_module_26 : decode cX13_module 26 = .ok (.imul, 1) := dk_104 (dk_at dksX13_module_1 4 rfl rfl)
theorem dX13_module_27 : decode cX13_module 27 = .ok (.iload_n 2, 1) := dk_28 (dk_at dksX13_module_1 5 rfl rfl)
theorem dX13_module_28 : decode cX13_module 28 = .ok (.iadd, 1) := dk_96 (dk_at dksX13_module_1 6 rfl rfl)
theorem dX13_module_29 : decode cX13_module 29 = .ok (.baload, 1) := dk_51 (dk_at dksX13_module_1 7 rfl rfl)
theorem dX13_module_30 : decode cX13_module 30 = .ok (.ifCond .eq 7, 3) := dk_153 0 7 (dk_at dksX13_module_1 8 rfl rfl)
theorem dX13_module_33 : decode cX13_module 33 = .ok (.iconst 1, 1) := dk_4 (dk_at dksX13_module_1 11 rfl rfl)
theorem dX13_module_34 : decode cX13_module 34 = .ok (.goto 4, 3) := dk_167 0 4 (dk_at dksX13_module_1 12 rfl rfl)
theorem dX13_module_37 : decode cX13_module 37 = .ok (.iconst 0, 1) := dk_3 (dk_at dksX13_module_1 15 rfl rfl)
theorem dX13_module_38 : decode cX13_module 38 = .ok (.ireturn, 1) := dk_172 (dk_at dksX13_module_1 16 rfl rfl)
abbrev cX13_isModule : ByteArray := prog_16_method_21_code
def yX13_isModule : MethodName := ⟨RX13, "isModule", "(II)Z"⟩
def dkwX13_isModule_1 : List UInt8 := [180, 0, 17, 42, 180, 0, 50, 46, 184, 0, 178, 153, 0, 7, 4, 167, 0, 4, 3, 172]
abbrev dktX13_isModule_1 : List UInt8 := dkwX13_isModule_1 ++ []
def dkwX13_isModule_0 : List UInt8 := [42, 180, 0, 50, 155, 0, 37, 42, 180, 0, 50, 27, 28, 42, 180, 0, 13, 42, 180, 0, 50, 46, 42]
abbrev dktX13_isModule_0 : List UInt8 := dkwX13_isModule_0 ++ dktX13_isModule_1
theorem dksX13_isModule_0 : cX13_isModule.data.toList.drop 0 = dktX13_isModule_0 := by decide +kernel
theorem dksX13_isModule_1 : cX13_isModule.data.toList.drop 23 = dktX13_isModule_1 := dk_seg dksX13_isModule_0 23 rfl rfl
theorem dX13_isModule_0 : decode cX13_isModule 0 = .ok (.aload_n 0, 1) := dk_42 (dk_at dksX13_isModule_0 0 rfl rfl)
theorem dX13_isModule_1 : decode cX13_isModule 1 = .ok (.getfield 50, 3) := dk_180 0 50 (dk_at dksX13_isModule_0 1 rfl rfl)
theorem dX13_isModule_4 : decode cX13_isModule 4 = .ok (.ifCond .lt 37, 3) := dk_155 0 37 (dk_at dksX13_isModule_0 4 rfl rfl)
theorem dX13_isModule_7 : decode cX13_isModule 7 = .ok (.aload_n 0, 1) := dk_42 (dk_at dksX13_isModule_0 7 rfl rfl)
theorem dX13_isModule_8 : decode cX13_isModule 8 = .ok (.getfield 50, 3) := dk_180 0 50 (dk_at dksX13_isModule_0 8 rfl rfl)
theorem dX13_isModule_11 : decode cX13_isModule 11 = .ok (.iload_n 1, 1) := dk_27 (dk_at dksX13_isModule_0 11 rfl rfl)
theorem dX13_isModule_12 : decode cX13_isModule 12 = .ok (.iload_n 2, 1) := dk_28 (dk_at dksX13_isModule_0 12 rfl rfl)
theorem dX13_isModule_13 : decode cX13_isModule 13 = .ok (.aload_n 0, 1) := dk_42 (dk_at dksX13_isModule_0 13 rfl rfl)
theorem dX13_isModule_14 : decode cX13_isModule 14 = .ok (.getfield 13, 3) := dk_180 0 13 (dk_at dksX13_isModule_0 14 rfl rfl)
theorem dX13_isModule_17 : decode cX13_isModule 17 = .ok (.aload_n 0, 1) := dk_42 (dk_at dksX13_isModule_0 17 rfl rfl)
theorem dX13_isModule_18 : decode cX13_isModule 18 = .ok (.getfield 50, 3) := dk_180 0 50 (dk_at dksX13_isModule_0 18 rfl rfl)
theorem dX13_isModule_21 : decode cX13_isModule 21 = .ok (.iaload, 1) := dk_46 (dk_at dksX13_isModule_0 21 rfl rfl)
theorem dX13_isModule_22 : decode cX13_isModule 22 = .ok (.aload_n 0, 1) := dk_42 (dk_at dksX13_isModule_0 22 rfl rfl)
theorem dX13_isModule_23 : decode cX13_isModule 23 = .ok (.getfield 17, 3) := dk_180 0 17 (dk_at dksX13_isModule_1 0 rfl rfl)
theorem dX13_isModule_26 : decode cX13_isModule 26 = .ok (.aload_n 0, 1) := dk_42 (dk_at dksX13_isModule_1 3 rfl rfl)
theorem dX13_isModule_27 : decode cX13_isModule 27 = .ok (.getfield 50, 3) := dk_180 0 50 (dk_at dksX13_isModule_1 4 rfl rfl)
theorem dX13_isModule_30 : decode cX13_isModule 30 = .ok (.iaload, 1) := dk_46 (dk_at dksX13_isModule_1 7 rfl rfl)
theorem dX13_isModule_31 : decode cX13_isModule 31 = .ok (.invokestatic 178, 3) := dk_184 0 178 (dk_at dksX13_isModule_1 8 rfl rfl)
theorem dX13_isModule_34 : decode cX13_isModule 34 = .ok (.ifCond .eq 7, 3) := dk_153 0 7 (dk_at dksX13_isModule_1 11 rfl rfl)
theorem dX13_isModule_37 : decode cX13_isModule 37 = .ok (.iconst 1, 1) := dk_4 (dk_at dksX13_isModule_1 14 rfl rfl)
theorem dX13_isModule_38 : decode cX13_isModule 38 = .ok (.goto 4, 3) := dk_167 0 4 (dk_at dksX13_isModule_1 15 rfl rfl)
theorem dX13_isModule_41 : decode cX13_isModule 41 = .ok (.iconst 0, 1) := dk_3 (dk_at dksX13_isModule_1 18 rfl rfl)
theorem dX13_isModule_42 : decode cX13_isModule 42 = .ok (.ireturn, 1) := dk_172 (dk_at dksX13_isModule_1 19 rfl rfl)
abbrev cX13_isOf : ByteArray := prog_16_method_20_code
def yX13_isOf : MethodName := ⟨RX13, "isOf", "(IIIII)Z"⟩
def dkwX13_isOf_1 : List UInt8 := [167, 0, 4, 3, 172]
abbrev dktX13_isOf_1 : List UInt8 := dkwX13_isOf_1 ++ []
def dkwX13_isOf_0 : List UInt8 := [26, 155, 0, 26, 27, 155, 0, 22, 27, 29, 162, 0, 17, 28, 155, 0, 13, 28, 21, 4, 162, 0, 7, 4]
abbrev dktX13_isOf_0 : List UInt8 := dkwX13_isOf_0 ++ dktX13_isOf_1
theorem dksX13_isOf_0 : cX13_isOf.data.toList.drop 0 = dktX13_isOf_0 := by decide +kernel
theorem dksX13_isOf_1 : cX13_isOf.data.toList.drop 24 = dktX13_isOf_1 := dk_seg dksX13_isOf_0 24 rfl rfl
theorem dX13_isOf_0 : decode cX13_isOf 0 = .ok (.iload_n 0, 1) := dk_26 (dk_at dksX13_isOf_0 0 rfl rfl)
theorem dX13_isOf_1 : decode cX13_isOf 1 = .ok (.ifCond .lt 26, 3) := dk_155 0 26 (dk_at dksX13_isOf_0 1 rfl rfl)
theorem dX13_isOf_4 : decode cX13_isOf 4 = .ok (.iload_n 1, 1) := dk_27 (dk_at dksX13_isOf_0 4 rfl rfl)
theorem dX13_isOf_5 : decode cX13_isOf 5 = .ok (.ifCond .lt 22, 3) := dk_155 0 22 (dk_at dksX13_isOf_0 5 rfl rfl)
theorem dX13_isOf_8 : decode cX13_isOf 8 = .ok (.iload_n 1, 1) := dk_27 (dk_at dksX13_isOf_0 8 rfl rfl)
theorem dX13_isOf_9 : decode cX13_isOf 9 = .ok (.iload_n 3, 1) := dk_29 (dk_at dksX13_isOf_0 9 rfl rfl)
theorem dX13_isOf_10 : decode cX13_isOf 10 = .ok (.if_icmp .ge 17, 3) := dk_162 0 17 (dk_at dksX13_isOf_0 10 rfl rfl)
theorem dX13_isOf_13 : decode cX13_isOf 13 = .ok (.iload_n 2, 1) := dk_28 (dk_at dksX13_isOf_0 13 rfl rfl)
theorem dX13_isOf_14 : decode cX13_isOf 14 = .ok (.ifCond .lt 13, 3) := dk_155 0 13 (dk_at dksX13_isOf_0 14 rfl rfl)
theorem dX13_isOf_17 : decode cX13_isOf 17 = .ok (.iload_n 2, 1) := dk_28 (dk_at dksX13_isOf_0 17 rfl rfl)
theorem dX13_isOf_18 : decode cX13_isOf 18 = .ok (.iload 4, 2) := dk_21 4 (dk_at dksX13_isOf_0 18 rfl rfl)
theorem dX13_isOf_20 : decode cX13_isOf 20 = .ok (.if_icmp .ge 7, 3) := dk_162 0 7 (dk_at dksX13_isOf_0 20 rfl rfl)
theorem dX13_isOf_23 : decode cX13_isOf 23 = .ok (.iconst 1, 1) := dk_4 (dk_at dksX13_isOf_0 23 rfl rfl)
theorem dX13_isOf_24 : decode cX13_isOf 24 = .ok (.goto 4, 3) := dk_167 0 4 (dk_at dksX13_isOf_1 0 rfl rfl)
theorem dX13_isOf_27 : decode cX13_isOf 27 = .ok (.iconst 0, 1) := dk_3 (dk_at dksX13_isOf_1 3 rfl rfl)
theorem dX13_isOf_28 : decode cX13_isOf 28 = .ok (.ireturn, 1) := dk_172 (dk_at dksX13_isOf_1 4 rfl rfl)
abbrev cX13_flip : ByteArray := prog_16_method_23_code
def yX13_flip : MethodName := ⟨RX13, "flip", "(II)Z"⟩
def dkwX13_flip_2 : List UInt8 := [4, 172]
abbrev dktX13_flip_2 : List UInt8 := dkwX13_flip_2 ++ []
def dkwX13_flip_1 : List UInt8 := [104, 28, 96, 42, 180, 0, 53, 17, 0, 144, 27, 104, 28, 96, 51, 154, 0, 7, 4, 167, 0, 4, 3, 84]
abbrev dktX13_flip_1 : List UInt8 := dkwX13_flip_1 ++ dktX13_flip_2
def dkwX13_flip_0 : List UInt8 := [42, 3, 181, 0, 1, 42, 27, 28, 182, 0, 182, 154, 0, 5, 3, 172, 42, 180, 0, 53, 17, 0, 144, 27]
abbrev dktX13_flip_0 : List UInt8 := dkwX13_flip_0 ++ dktX13_flip_1
theorem dksX13_flip_0 : cX13_flip.data.toList.drop 0 = dktX13_flip_0 := by decide +kernel
theorem dksX13_flip_1 : cX13_flip.data.toList.drop 24 = dktX13_flip_1 := dk_seg dksX13_flip_0 24 rfl rfl
theorem dksX13_flip_2 : cX13_flip.data.toList.drop 48 = dktX13_flip_2 := dk_seg dksX13_flip_1 24 rfl rfl
theorem dX13_flip_0 : decode cX13_flip 0 = .ok (.aload_n 0, 1) := dk_42 (dk_at dksX13_flip_0 0 rfl rfl)
theorem dX13_flip_1 : decode cX13_flip 1 = .ok (.iconst 0, 1) := dk_3 (dk_at dksX13_flip_0 1 rfl rfl)
theorem dX13_flip_2 : decode cX13_flip 2 = .ok (.putfield 1, 3) := dk_181 0 1 (dk_at dksX13_flip_0 2 rfl rfl)
theorem dX13_flip_5 : decode cX13_flip 5 = .ok (.aload_n 0, 1) := dk_42 (dk_at dksX13_flip_0 5 rfl rfl)
theorem dX13_flip_6 : decode cX13_flip 6 = .ok (.iload_n 1, 1) := dk_27 (dk_at dksX13_flip_0 6 rfl rfl)
theorem dX13_flip_7 : decode cX13_flip 7 = .ok (.iload_n 2, 1) := dk_28 (dk_at dksX13_flip_0 7 rfl rfl)
theorem dX13_flip_8 : decode cX13_flip 8 = .ok (.invokevirtual 182, 3) := dk_182 0 182 (dk_at dksX13_flip_0 8 rfl rfl)
theorem dX13_flip_11 : decode cX13_flip 11 = .ok (.ifCond .ne 5, 3) := dk_154 0 5 (dk_at dksX13_flip_0 11 rfl rfl)
theorem dX13_flip_14 : decode cX13_flip 14 = .ok (.iconst 0, 1) := dk_3 (dk_at dksX13_flip_0 14 rfl rfl)
theorem dX13_flip_15 : decode cX13_flip 15 = .ok (.ireturn, 1) := dk_172 (dk_at dksX13_flip_0 15 rfl rfl)
theorem dX13_flip_16 : decode cX13_flip 16 = .ok (.aload_n 0, 1) := dk_42 (dk_at dksX13_flip_0 16 rfl rfl)
theorem dX13_flip_17 : decode cX13_flip 17 = .ok (.getfield 53, 3) := dk_180 0 53 (dk_at dksX13_flip_0 17 rfl rfl)
theorem dX13_flip_20 : decode cX13_flip 20 = .ok (.sipush 144, 3) := dk_17 0 144 (dk_at dksX13_flip_0 20 rfl rfl)
theorem dX13_flip_23 : decode cX13_flip 23 = .ok (.iload_n 1, 1) := dk_27 (dk_at dksX13_flip_0 23 rfl rfl)
theorem dX13_flip_24 : decode cX13_flip 24 = .ok (.imul, 1) := dk_104 (dk_at dksX13_flip_1 0 rfl rfl)
theorem dX13_flip_25 : decode cX13_flip 25 = .ok (.iload_n 2, 1) := dk_28 (dk_at dksX13_flip_1 1 rfl rfl)
theorem dX13_flip_26 : decode cX13_flip 26 = .ok (.iadd, 1) := dk_96 (dk_at dksX13_flip_1 2 rfl rfl)
theorem dX13_flip_27 : decode cX13_flip 27 = .ok (.aload_n 0, 1) := dk_42 (dk_at dksX13_flip_1 3 rfl rfl)
theorem dX13_flip_28 : decode cX13_flip 28 = .ok (.getfield 53, 3) := dk_180 0 53 (dk_at dksX13_flip_1 4 rfl rfl)
theorem dX13_flip_31 : decode cX13_flip 31 = .ok (.sipush 144, 3) := dk_17 0 144 (dk_at dksX13_flip_1 7 rfl rfl)
theorem dX13_flip_34 : decode cX13_flip 34 = .ok (.iload_n 1, 1) := dk_27 (dk_at dksX13_flip_1 10 rfl rfl)
theorem dX13_flip_35 : decode cX13_flip 35 = .ok (.imul, 1) := dk_104 (dk_at dksX13_flip_1 11 rfl rfl)
theorem dX13_flip_36 : decode cX13_flip 36 = .ok (.iload_n 2, 1) := dk_28 (dk_at dksX13_flip_1 12 rfl rfl)
theorem dX13_flip_37 : decode cX13_flip 37 = .ok (.iadd, 1) := dk_96 (dk_at dksX13_flip_1 13 rfl rfl)
theorem dX13_flip_38 : decode cX13_flip 38 = .ok (.baload, 1) := dk_51 (dk_at dksX13_flip_1 14 rfl rfl)
theorem dX13_flip_39 : decode cX13_flip 39 = .ok (.ifCond .ne 7, 3) := dk_154 0 7 (dk_at dksX13_flip_1 15 rfl rfl)
theorem dX13_flip_42 : decode cX13_flip 42 = .ok (.iconst 1, 1) := dk_4 (dk_at dksX13_flip_1 18 rfl rfl)
theorem dX13_flip_43 : decode cX13_flip 43 = .ok (.goto 4, 3) := dk_167 0 4 (dk_at dksX13_flip_1 19 rfl rfl)
theorem dX13_flip_46 : decode cX13_flip 46 = .ok (.iconst 0, 1) := dk_3 (dk_at dksX13_flip_1 22 rfl rfl)
theorem dX13_flip_47 : decode cX13_flip 47 = .ok (.bastore, 1) := dk_84 (dk_at dksX13_flip_1 23 rfl rfl)
theorem dX13_flip_48 : decode cX13_flip 48 = .ok (.iconst 1, 1) := dk_4 (dk_at dksX13_flip_2 0 rfl rfl)
theorem dX13_flip_49 : decode cX13_flip 49 = .ok (.ireturn, 1) := dk_172 (dk_at dksX13_flip_2 1 rfl rfl)
abbrev cX13_codeword : ByteArray := prog_16_method_27_code
def yX13_codeword : MethodName := ⟨RX13, "codeword", "(I)I"⟩
def dkwX13_codeword_1 : List UInt8 := [27, 182, 0, 192, 172]
abbrev dktX13_codeword_1 : List UInt8 := dkwX13_codeword_1 ++ []
def dkwX13_codeword_0 : List UInt8 := [42, 3, 181, 0, 1, 42, 27, 182, 0, 185, 154, 0, 5, 2, 172, 42, 42, 180, 0, 50, 182, 0, 188, 42]
abbrev dktX13_codeword_0 : List UInt8 := dkwX13_codeword_0 ++ dktX13_codeword_1
theorem dksX13_codeword_0 : cX13_codeword.data.toList.drop 0 = dktX13_codeword_0 := by decide +kernel
theorem dksX13_codeword_1 : cX13_codeword.data.toList.drop 24 = dktX13_codeword_1 := dk_seg dksX13_codeword_0 24 rfl rfl
theorem dX13_codeword_0 : decode cX13_codeword 0 = .ok (.aload_n 0, 1) := dk_42 (dk_at dksX13_codeword_0 0 rfl rfl)
theorem dX13_codeword_1 : decode cX13_codeword 1 = .ok (.iconst 0, 1) := dk_3 (dk_at dksX13_codeword_0 1 rfl rfl)
theorem dX13_codeword_2 : decode cX13_codeword 2 = .ok (.putfield 1, 3) := dk_181 0 1 (dk_at dksX13_codeword_0 2 rfl rfl)
theorem dX13_codeword_5 : decode cX13_codeword 5 = .ok (.aload_n 0, 1) := dk_42 (dk_at dksX13_codeword_0 5 rfl rfl)
theorem dX13_codeword_6 : decode cX13_codeword 6 = .ok (.iload_n 1, 1) := dk_27 (dk_at dksX13_codeword_0 6 rfl rfl)
theorem dX13_codeword_7 : decode cX13_codeword 7 = .ok (.invokevirtual 185, 3) := dk_182 0 185 (dk_at dksX13_codeword_0 7 rfl rfl)
theorem dX13_codeword_10 : decode cX13_codeword 10 = .ok (.ifCond .ne 5, 3) := dk_154 0 5 (dk_at dksX13_codeword_0 10 rfl rfl)
theorem dX13_codeword_13 : decode cX13_codeword 13 = .ok (.iconst (-1), 1) := dk_2 (dk_at dksX13_codeword_0 13 rfl rfl)
theorem dX13_codeword_14 : decode cX13_codeword 14 = .ok (.ireturn, 1) := dk_172 (dk_at dksX13_codeword_0 14 rfl rfl)
theorem dX13_codeword_15 : decode cX13_codeword 15 = .ok (.aload_n 0, 1) := dk_42 (dk_at dksX13_codeword_0 15 rfl rfl)
theorem dX13_codeword_16 : decode cX13_codeword 16 = .ok (.aload_n 0, 1) := dk_42 (dk_at dksX13_codeword_0 16 rfl rfl)
theorem dX13_codeword_17 : decode cX13_codeword 17 = .ok (.getfield 50, 3) := dk_180 0 50 (dk_at dksX13_codeword_0 17 rfl rfl)
theorem dX13_codeword_20 : decode cX13_codeword 20 = .ok (.invokevirtual 188, 3) := dk_182 0 188 (dk_at dksX13_codeword_0 20 rfl rfl)
theorem dX13_codeword_23 : decode cX13_codeword 23 = .ok (.aload_n 0, 1) := dk_42 (dk_at dksX13_codeword_0 23 rfl rfl)
theorem dX13_codeword_24 : decode cX13_codeword 24 = .ok (.iload_n 1, 1) := dk_27 (dk_at dksX13_codeword_1 0 rfl rfl)
theorem dX13_codeword_25 : decode cX13_codeword 25 = .ok (.invokevirtual 192, 3) := dk_182 0 192 (dk_at dksX13_codeword_1 1 rfl rfl)
theorem dX13_codeword_28 : decode cX13_codeword 28 = .ok (.ireturn, 1) := dk_172 (dk_at dksX13_codeword_1 4 rfl rfl)
abbrev cX13_isCodeword : ByteArray := prog_16_method_24_code
def yX13_isCodeword : MethodName := ⟨RX13, "isCodeword", "(I)Z"⟩
def dkwX13_isCodeword_1 : List UInt8 := [167, 0, 4, 3, 172]
abbrev dktX13_isCodeword_1 : List UInt8 := dkwX13_isCodeword_1 ++ []
def dkwX13_isCodeword_0 : List UInt8 := [42, 180, 0, 50, 155, 0, 23, 27, 155, 0, 19, 27, 42, 42, 180, 0, 50, 182, 0, 121, 162, 0, 7, 4]
abbrev dktX13_isCodeword_0 : List UInt8 := dkwX13_isCodeword_0 ++ dktX13_isCodeword_1
theorem dksX13_isCodeword_0 : cX13_isCodeword.data.toList.drop 0 = dktX13_isCodeword_0 := by decide +kernel
theorem dksX13_isCodeword_1 : cX13_isCodeword.data.toList.drop 24 = dktX13_isCodeword_1 := dk_seg dksX13_isCodeword_0 24 rfl rfl
theorem dX13_isCodeword_0 : decode cX13_isCodeword 0 = .ok (.aload_n 0, 1) := dk_42 (dk_at dksX13_isCodeword_0 0 rfl rfl)
theorem dX13_isCodeword_1 : decode cX13_isCodeword 1 = .ok (.getfield 50, 3) := dk_180 0 50 (dk_at dksX13_isCodeword_0 1 rfl rfl)
theorem dX13_isCodeword_4 : decode cX13_isCodeword 4 = .ok (.ifCond .lt 23, 3) := dk_155 0 23 (dk_at dksX13_isCodeword_0 4 rfl rfl)
theorem dX13_isCodeword_7 : decode cX13_isCodeword 7 = .ok (.iload_n 1, 1) := dk_27 (dk_at dksX13_isCodeword_0 7 rfl rfl)
theorem dX13_isCodeword_8 : decode cX13_isCodeword 8 = .ok (.ifCond .lt 19, 3) := dk_155 0 19 (dk_at dksX13_isCodeword_0 8 rfl rfl)
theorem dX13_isCodeword_11 : decode cX13_isCodeword 11 = .ok (.iload_n 1, 1) := dk_27 (dk_at dksX13_isCodeword_0 11 rfl rfl)
theorem dX13_isCodeword_12 : decode cX13_isCodeword 12 = .ok (.aload_n 0, 1) := dk_42 (dk_at dksX13_isCodeword_0 12 rfl rfl)
theorem dX13_isCodeword_13 : decode cX13_isCodeword 13 = .ok (.aload_n 0, 1) := dk_42 (dk_at dksX13_isCodeword_0 13 rfl rfl)
theorem dX13_isCodeword_14 : decode cX13_isCodeword 14 = .ok (.getfield 50, 3) := dk_180 0 50 (dk_at dksX13_isCodeword_0 14 rfl rfl)
theorem dX13_isCodeword_17 : decode cX13_isCodeword 17 = .ok (.invokevirtual 121, 3) := dk_182 0 121 (dk_at dksX13_isCodeword_0 17 rfl rfl)
theorem dX13_isCodeword_20 : decode cX13_isCodeword 20 = .ok (.if_icmp .ge 7, 3) := dk_162 0 7 (dk_at dksX13_isCodeword_0 20 rfl rfl)
theorem dX13_isCodeword_23 : decode cX13_isCodeword 23 = .ok (.iconst 1, 1) := dk_4 (dk_at dksX13_isCodeword_0 23 rfl rfl)
theorem dX13_isCodeword_24 : decode cX13_isCodeword 24 = .ok (.goto 4, 3) := dk_167 0 4 (dk_at dksX13_isCodeword_1 0 rfl rfl)
theorem dX13_isCodeword_27 : decode cX13_isCodeword 27 = .ok (.iconst 0, 1) := dk_3 (dk_at dksX13_isCodeword_1 3 rfl rfl)
theorem dX13_isCodeword_28 : decode cX13_isCodeword 28 = .ok (.ireturn, 1) := dk_172 (dk_at dksX13_isCodeword_1 4 rfl rfl)
abbrev cX13_map : ByteArray := prog_16_method_18_code
def yX13_map : MethodName := ⟨RX13, "map", "(I)V"⟩
def dkwX13_map_8 : List UInt8 := [132, 2, 3, 132, 3, 1, 167, 255, 132, 177]
abbrev dktX13_map_8 : List UInt8 := dkwX13_map_8 ++ []
def dkwX13_map_7 : List UInt8 := [42, 28, 29, 182, 0, 165, 132, 2, 2, 132, 3, 254, 28, 42, 180, 0, 137, 162, 0, 7, 29, 156, 255, 214]
abbrev dktX13_map_7 : List UInt8 := dkwX13_map_7 ++ dktX13_map_8
def dkwX13_map_6 : List UInt8 := [132, 3, 3, 28, 155, 0, 26, 29, 42, 180, 0, 140, 162, 0, 18, 42, 28, 29, 182, 0, 161, 153, 0, 9]
abbrev dktX13_map_6 : List UInt8 := dkwX13_map_6 ++ dktX13_map_7
def dkwX13_map_5 : List UInt8 := [182, 0, 165, 132, 2, 254, 132, 3, 2, 28, 155, 0, 11, 29, 42, 180, 0, 140, 161, 255, 214, 132, 2, 1]
abbrev dktX13_map_5 : List UInt8 := dkwX13_map_5 ++ dktX13_map_6
def dkwX13_map_4 : List UInt8 := [180, 0, 137, 162, 0, 22, 29, 155, 0, 18, 42, 28, 29, 182, 0, 161, 153, 0, 9, 42, 28, 29]
abbrev dktX13_map_4 : List UInt8 := dkwX13_map_4 ++ dktX13_map_5
def dkwX13_map_3 : List UInt8 := [180, 0, 137, 161, 0, 11, 29, 42, 180, 0, 140, 162, 0, 114, 42, 28, 29, 182, 0, 157, 28, 42]
abbrev dktX13_map_3 : List UInt8 := dkwX13_map_3 ++ dktX13_map_4
def dkwX13_map_2 : List UInt8 := [180, 0, 44, 28, 3, 79, 132, 2, 1, 167, 255, 233, 42, 3, 181, 0, 143, 7, 61, 3, 62, 28, 42]
abbrev dktX13_map_2 : List UInt8 := dkwX13_map_2 ++ dktX13_map_3
def dkwX13_map_1 : List UInt8 := [42, 27, 182, 0, 118, 181, 0, 140, 3, 61, 28, 42, 180, 0, 137, 42, 180, 0, 140, 104, 162, 0, 16, 42]
abbrev dktX13_map_1 : List UInt8 := dkwX13_map_1 ++ dktX13_map_2
def dkwX13_map_0 : List UInt8 := [42, 180, 0, 41, 27, 160, 0, 4, 177, 42, 27, 181, 0, 41, 42, 42, 27, 182, 0, 114, 181, 0, 137, 42]
abbrev dktX13_map_0 : List UInt8 := dkwX13_map_0 ++ dktX13_map_1
theorem dksX13_map_0 : cX13_map.data.toList.drop 0 = dktX13_map_0 := by decide +kernel
theorem dksX13_map_1 : cX13_map.data.toList.drop 24 = dktX13_map_1 := dk_seg dksX13_map_0 24 rfl rfl
theorem dksX13_map_2 : cX13_map.data.toList.drop 48 = dktX13_map_2 := dk_seg dksX13_map_1 24 rfl rfl
theorem dksX13_map_3 : cX13_map.data.toList.drop 71 = dktX13_map_3 := dk_seg dksX13_map_2 23 rfl rfl
theorem dksX13_map_4 : cX13_map.data.toList.drop 93 = dktX13_map_4 := dk_seg dksX13_map_3 22 rfl rfl
theorem dksX13_map_5 : cX13_map.data.toList.drop 115 = dktX13_map_5 := dk_seg dksX13_map_4 22 rfl rfl
theorem dksX13_map_6 : cX13_map.data.toList.drop 139 = dktX13_map_6 := dk_seg dksX13_map_5 24 rfl rfl
theorem dksX13_map_7 : cX13_map.data.toList.drop 163 = dktX13_map_7 := dk_seg dksX13_map_6 24 rfl rfl
theorem dksX13_map_8 : cX13_map.data.toList.drop 187 = dktX13_map_8 := dk_seg dksX13_map_7 24 rfl rfl
theorem dX13_map_0 : decode cX13_map 0 = .ok (.aload_n 0, 1) := dk_42 (dk_at dksX13_map_0 0 rfl rfl)
theorem dX13_map_1 : decode cX13_map 1 = .ok (.getfield 41, 3) := dk_180 0 41 (dk_at dksX13_map_0 1 rfl rfl)
theorem dX13_map_4 : decode cX13_map 4 = .ok (.iload_n 1, 1) := dk_27 (dk_at dksX13_map_0 4 rfl rfl)
theorem dX13_map_5 : decode cX13_map 5 = .ok (.if_icmp .ne 4, 3) := dk_160 0 4 (dk_at dksX13_map_0 5 rfl rfl)
theorem dX13_map_8 : decode cX13_map 8 = .ok (.return_, 1) := dk_177 (dk_at dksX13_map_0 8 rfl rfl)
theorem dX13_map_9 : decode cX13_map 9 = .ok (.aload_n 0, 1) := dk_42 (dk_at dksX13_map_0 9 rfl rfl)
theorem dX13_map_10 : decode cX13_map 10 = .ok (.iload_n 1, 1) := dk_27 (dk_at dksX13_map_0 10 rfl rfl)
theorem dX13_map_11 : decode cX13_map 11 = .ok (.putfield 41, 3) := dk_181 0 41 (dk_at dksX13_map_0 11 rfl rfl)
theorem dX13_map_14 : decode cX13_map 14 = .ok (.aload_n 0, 1) := dk_42 (dk_at dksX13_map_0 14 rfl rfl)
theorem dX13_map_15 : decode cX13_map 15 = .ok (.aload_n 0, 1) := dk_42 (dk_at dksX13_map_0 15 rfl rfl)
theorem dX13_map_16 : decode cX13_map 16 = .ok (.iload_n 1, 1) := dk_27 (dk_at dksX13_map_0 16 rfl rfl)
theorem dX13_map_17 : decode cX13_map 17 = .ok (.invokevirtual 114, 3) := dk_182 0 114 (dk_at dksX13_map_0 17 rfl rfl)
theorem dX13_map_20 : decode cX13_map 20 = .ok (.putfield 137, 3) := dk_181 0 137 (dk_at dksX13_map_0 20 rfl rfl)
theorem dX13_map_23 : decode cX13_map 23 = .ok (.aload_n 0, 1) := dk_42 (dk_at dksX13_map_0 23 rfl rfl)
theorem dX13_map_24 : decode cX13_map 24 = .ok (.aload_n 0, 1) := dk_42 (dk_at dksX13_map_1 0 rfl rfl)
theorem dX13_map_25 : decode cX13_map 25 = .ok (.iload_n 1, 1) := dk_27 (dk_at dksX13_map_1 1 rfl rfl)
theorem dX13_map_26 : decode cX13_map 26 = .ok (.invokevirtual 118, 3) := dk_182 0 118 (dk_at dksX13_map_1 2 rfl rfl)
theorem dX13_map_29 : decode cX13_map 29 = .ok (.putfield 140, 3) := dk_181 0 140 (dk_at dksX13_map_1 5 rfl rfl)
theorem dX13_map_32 : decode cX13_map 32 = .ok (.iconst 0, 1) := dk_3 (dk_at dksX13_map_1 8 rfl rfl)
theorem dX13_map_33 : decode cX13_map 33 = .ok (.istore_n 2, 1) := dk_61 (dk_at dksX13_map_1 9 rfl rfl)
theorem dX13_map_34 : decode cX13_map 34 = .ok (.iload_n 2, 1) := dk_28 (dk_at dksX13_map_1 10 rfl rfl)
theorem dX13_map_35 : decode cX13_map 35 = .ok (.aload_n 0, 1) := dk_42 (dk_at dksX13_map_1 11 rfl rfl)
theorem dX13_map_36 : decode cX13_map 36 = .ok (.getfield 137, 3) := dk_180 0 137 (dk_at dksX13_map_1 12 rfl rfl)
theorem dX13_map_39 : decode cX13_map 39 = .ok (.aload_n 0, 1) := dk_42 (dk_at dksX13_map_1 15 rfl rfl)
theorem dX13_map_40 : decode cX13_map 40 = .ok (.getfield 140, 3) := dk_180 0 140 (dk_at dksX13_map_1 16 rfl rfl)
theorem dX13_map_43 : decode cX13_map 43 = .ok (.imul, 1) := dk_104 (dk_at dksX13_map_1 19 rfl rfl)
theorem dX13_map_44 : decode cX13_map 44 = .ok (.if_icmp .ge 16, 3) := dk_162 0 16 (dk_at dksX13_map_1 20 rfl rfl)
theorem dX13_map_47 : decode cX13_map 47 = .ok (.aload_n 0, 1) := dk_42 (dk_at dksX13_map_1 23 rfl rfl)
theorem dX13_map_48 : decode cX13_map 48 = .ok (.getfield 44, 3) := dk_180 0 44 (dk_at dksX13_map_2 0 rfl rfl)
theorem dX13_map_51 : decode cX13_map 51 = .ok (.iload_n 2, 1) := dk_28 (dk_at dksX13_map_2 3 rfl rfl)
theorem dX13_map_52 : decode cX13_map 52 = .ok (.iconst 0, 1) := dk_3 (dk_at dksX13_map_2 4 rfl rfl)
theorem dX13_map_53 : decode cX13_map 53 = .ok (.iastore, 1) := dk_79 (dk_at dksX13_map_2 5 rfl rfl)
theorem dX13_map_54 : decode cX13_map 54 = .ok (.iinc 2 1, 3) := dk_132 2 1 (dk_at dksX13_map_2 6 rfl rfl)
theorem dX13_map_57 : decode cX13_map 57 = .ok (.goto (-23), 3) := dk_167 255 233 (dk_at dksX13_map_2 9 rfl rfl)
theorem dX13_map_60 : decode cX13_map 60 = .ok (.aload_n 0, 1) := dk_42 (dk_at dksX13_map_2 12 rfl rfl)
theorem dX13_map_61 : decode cX13_map 61 = .ok (.iconst 0, 1) := dk_3 (dk_at dksX13_map_2 13 rfl rfl)
theorem dX13_map_62 : decode cX13_map 62 = .ok (.putfield 143, 3) := dk_181 0 143 (dk_at dksX13_map_2 14 rfl rfl)
theorem dX13_map_65 : decode cX13_map 65 = .ok (.iconst 4, 1) := dk_7 (dk_at dksX13_map_2 17 rfl rfl)
theorem dX13_map_66 : decode cX13_map 66 = .ok (.istore_n 2, 1) := dk_61 (dk_at dksX13_map_2 18 rfl rfl)
theorem dX13_map_67 : decode cX13_map 67 = .ok (.iconst 0, 1) := dk_3 (dk_at dksX13_map_2 19 rfl rfl)
theorem dX13_map_68 : decode cX13_map 68 = .ok (.istore_n 3, 1) := dk_62 (dk_at dksX13_map_2 20 rfl rfl)
theorem dX13_map_69 : decode cX13_map 69 = .ok (.iload_n 2, 1) := dk_28 (dk_at dksX13_map_2 21 rfl rfl)
theorem dX13_map_70 : decode cX13_map 70 = .ok (.aload_n 0, 1) := dk_42 (dk_at dksX13_map_2 22 rfl rfl)
theorem dX13_map_71 : decode cX13_map 71 = .ok (.getfield 137, 3) := dk_180 0 137 (dk_at dksX13_map_3 0 rfl rfl)
theorem dX13_map_74 : decode cX13_map 74 = .ok (.if_icmp .lt 11, 3) := dk_161 0 11 (dk_at dksX13_map_3 3 rfl rfl)
theorem dX13_map_77 : decode cX13_map 77 = .ok (.iload_n 3, 1) := dk_29 (dk_at dksX13_map_3 6 rfl rfl)
theorem dX13_map_78 : decode cX13_map 78 = .ok (.aload_n 0, 1) := dk_42 (dk_at dksX13_map_3 7 rfl rfl)
theorem dX13_map_79 : decode cX13_map 79 = .ok (.getfield 140, 3) := dk_180 0 140 (dk_at dksX13_map_3 8 rfl rfl)
theorem dX13_map_82 : decode cX13_map 82 = .ok (.if_icmp .ge 114, 3) := dk_162 0 114 (dk_at dksX13_map_3 11 rfl rfl)
theorem dX13_map_85 : decode cX13_map 85 = .ok (.aload_n 0, 1) := dk_42 (dk_at dksX13_map_3 14 rfl rfl)
theorem dX13_map_86 : decode cX13_map 86 = .ok (.iload_n 2, 1) := dk_28 (dk_at dksX13_map_3 15 rfl rfl)
theorem dX13_map_87 : decode cX13_map 87 = .ok (.iload_n 3, 1) := dk_29 (dk_at dksX13_map_3 16 rfl rfl)
theorem dX13_map_88 : decode cX13_map 88 = .ok (.invokevirtual 157, 3) := dk_182 0 157 (dk_at dksX13_map_3 17 rfl rfl)
theorem dX13_map_91 : decode cX13_map 91 = .ok (.iload_n 2, 1) := dk_28 (dk_at dksX13_map_3 20 rfl rfl)
theorem dX13_map_92 : decode cX13_map 92 = .ok (.aload_n 0, 1) := dk_42 (dk_at dksX13_map_3 21 rfl rfl)
theorem dX13_map_93 : decode cX13_map 93 = .ok (.getfield 137, 3) := dk_180 0 137 (dk_at dksX13_map_4 0 rfl rfl)
theorem dX13_map_96 : decode cX13_map 96 = .ok (.if_icmp .ge 22, 3) := dk_162 0 22 (dk_at dksX13_map_4 3 rfl rfl)
theorem dX13_map_99 : decode cX13_map 99 = .ok (.iload_n 3, 1) := dk_29 (dk_at dksX13_map_4 6 rfl rfl)
theorem dX13_map_100 : decode cX13_map 100 = .ok (.ifCond .lt 18, 3) := dk_155 0 18 (dk_at dksX13_map_4 7 rfl rfl)
theorem dX13_map_103 : decode cX13_map 103 = .ok (.aload_n 0, 1) := dk_42 (dk_at dksX13_map_4 10 rfl rfl)
theorem dX13_map_104 : decode cX13_map 104 = .ok (.iload_n 2, 1) := dk_28 (dk_at dksX13_map_4 11 rfl rfl)
theorem dX13_map_105 : decode cX13_map 105 = .ok (.iload_n 3, 1) := dk_29 (dk_at dksX13_map_4 12 rfl rfl)
theorem dX13_map_106 : decode cX13_map 106 = .ok (.invokevirtual 161, 3) := dk_182 0 161 (dk_at dksX13_map_4 13 rfl rfl)
theorem dX13_map_109 : decode cX13_map 109 = .ok (.ifCond .eq 9, 3) := dk_153 0 9 (dk_at dksX13_map_4 16 rfl rfl)
theorem dX13_map_112 : decode cX13_map 112 = .ok (.aload_n 0, 1) := dk_42 (dk_at dksX13_map_4 19 rfl rfl)
theorem dX13_map_113 : decode cX13_map 113 = .ok (.iload_n 2, 1) := dk_28 (dk_at dksX13_map_4 20 rfl rfl)
theorem dX13_map_114 : decode cX13_map 114 = .ok (.iload_n 3, 1) := dk_29 (dk_at dksX13_map_4 21 rfl rfl)
theorem dX13_map_115 : decode cX13_map 115 = .ok (.invokevirtual 165, 3) := dk_182 0 165 (dk_at dksX13_map_5 0 rfl rfl)
theorem dX13_map_118 : decode cX13_map 118 = .ok (.iinc 2 (-2), 3) := dk_132 2 254 (dk_at dksX13_map_5 3 rfl rfl)
theorem dX13_map_121 : decode cX13_map 121 = .ok (.iinc 3 2, 3) := dk_132 3 2 (dk_at dksX13_map_5 6 rfl rfl)
theorem dX13_map_124 : decode cX13_map 124 = .ok (.iload_n 2, 1) := dk_28 (dk_at dksX13_map_5 9 rfl rfl)
theorem dX13_map_125 : decode cX13_map 125 = .ok (.ifCond .lt 11, 3) := dk_155 0 11 (dk_at dksX13_map_5 10 rfl rfl)
theorem dX13_map_128 : decode cX13_map 128 = .ok (.iload_n 3, 1) := dk_29 (dk_at dksX13_map_5 13 rfl rfl)
theorem dX13_map_129 : decode cX13_map 129 = .ok (.aload_n 0, 1) := dk_42 (dk_at dksX13_map_5 14 rfl rfl)
theorem dX13_map_130 : decode cX13_map 130 = .ok (.getfield 140, 3) := dk_180 0 140 (dk_at dksX13_map_5 15 rfl rfl)
theorem dX13_map_133 : decode cX13_map 133 = .ok (.if_icmp .lt (-42), 3) := dk_161 255 214 (dk_at dksX13_map_5 18 rfl rfl)
theorem dX13_map_136 : decode cX13_map 136 = .ok (.iinc 2 1, 3) := dk_132 2 1 (dk_at dksX13_map_5 21 rfl rfl)
theorem dX13_map_139 : decode cX13_map 139 = .ok (.iinc 3 3, 3) := dk_132 3 3 (dk_at dksX13_map_6 0 rfl rfl)
theorem dX13_map_142 : decode cX13_map 142 = .ok (.iload_n 2, 1) := dk_28 (dk_at dksX13_map_6 3 rfl rfl)
theorem dX13_map_143 : decode cX13_map 143 = .ok (.ifCond .lt 26, 3) := dk_155 0 26 (dk_at dksX13_map_6 4 rfl rfl)
theorem dX13_map_146 : decode cX13_map 146 = .ok (.iload_n 3, 1) := dk_29 (dk_at dksX13_map_6 7 rfl rfl)
theorem dX13_map_147 : decode cX13_map 147 = .ok (.aload_n 0, 1) := dk_42 (dk_at dksX13_map_6 8 rfl rfl)
theorem dX13_map_148 : decode cX13_map 148 = .ok (.getfield 140, 3) := dk_180 0 140 (dk_at dksX13_map_6 9 rfl rfl)
theorem dX13_map_151 : decode cX13_map 151 = .ok (.if_icmp .ge 18, 3) := dk_162 0 18 (dk_at dksX13_map_6 12 rfl rfl)
theorem dX13_map_154 : decode cX13_map 154 = .ok (.aload_n 0, 1) := dk_42 (dk_at dksX13_map_6 15 rfl rfl)
theorem dX13_map_155 : decode cX13_map 155 = .ok (.iload_n 2, 1) := dk_28 (dk_at dksX13_map_6 16 rfl rfl)
theorem dX13_map_156 : decode cX13_map 156 = .ok (.iload_n 3, 1) := dk_29 (dk_at dksX13_map_6 17 rfl rfl)
theorem dX13_map_157 : decode cX13_map 157 = .ok (.invokevirtual 161, 3) := dk_182 0 161 (dk_at dksX13_map_6 18 rfl rfl)
theorem dX13_map_160 : decode cX13_map 160 = .ok (.ifCond .eq 9, 3) := dk_153 0 9 (dk_at dksX13_map_6 21 rfl rfl)
theorem dX13_map_163 : decode cX13_map 163 = .ok (.aload_n 0, 1) := dk_42 (dk_at dksX13_map_7 0 rfl rfl)
theorem dX13_map_164 : decode cX13_map 164 = .ok (.iload_n 2, 1) := dk_28 (dk_at dksX13_map_7 1 rfl rfl)
theorem dX13_map_165 : decode cX13_map 165 = .ok (.iload_n 3, 1) := dk_29 (dk_at dksX13_map_7 2 rfl rfl)
theorem dX13_map_166 : decode cX13_map 166 = .ok (.invokevirtual 165, 3) := dk_182 0 165 (dk_at dksX13_map_7 3 rfl rfl)
theorem dX13_map_169 : decode cX13_map 169 = .ok (.iinc 2 2, 3) := dk_132 2 2 (dk_at dksX13_map_7 6 rfl rfl)
theorem dX13_map_172 : decode cX13_map 172 = .ok (.iinc 3 (-2), 3) := dk_132 3 254 (dk_at dksX13_map_7 9 rfl rfl)
theorem dX13_map_175 : decode cX13_map 175 = .ok (.iload_n 2, 1) := dk_28 (dk_at dksX13_map_7 12 rfl rfl)
theorem dX13_map_176 : decode cX13_map 176 = .ok (.aload_n 0, 1) := dk_42 (dk_at dksX13_map_7 13 rfl rfl)
theorem dX13_map_177 : decode cX13_map 177 = .ok (.getfield 137, 3) := dk_180 0 137 (dk_at dksX13_map_7 14 rfl rfl)
theorem dX13_map_180 : decode cX13_map 180 = .ok (.if_icmp .ge 7, 3) := dk_162 0 7 (dk_at dksX13_map_7 17 rfl rfl)
theorem dX13_map_183 : decode cX13_map 183 = .ok (.iload_n 3, 1) := dk_29 (dk_at dksX13_map_7 20 rfl rfl)
theorem dX13_map_184 : decode cX13_map 184 = .ok (.ifCond .ge (-42), 3) := dk_156 255 214 (dk_at dksX13_map_7 21 rfl rfl)
theorem dX13_map_187 : decode cX13_map 187 = .ok (.iinc 2 3, 3) := dk_132 2 3 (dk_at dksX13_map_8 0 rfl rfl)
theorem dX13_map_190 : decode cX13_map 190 = .ok (.iinc 3 1, 3) := dk_132 3 1 (dk_at dksX13_map_8 3 rfl rfl)
theorem dX13_map_193 : decode cX13_map 193 = .ok (.goto (-124), 3) := dk_167 255 132 (dk_at dksX13_map_8 6 rfl rfl)
theorem dX13_map_196 : decode cX13_map 196 = .ok (.return_, 1) := dk_177 (dk_at dksX13_map_8 9 rfl rfl)
abbrev cX13_corners : ByteArray := prog_16_method_19_code
def yX13_corners : MethodName := ⟨RX13, "corners", "(II)V"⟩
def dkwX13_corners_6 : List UInt8 := [182, 0, 170, 177]
abbrev dktX13_corners_6 : List UInt8 := dkwX13_corners_6 ++ []
def dkwX13_corners_5 : List UInt8 := [42, 180, 0, 140, 16, 8, 112, 154, 0, 18, 42, 18, 177, 17, 13, 14, 17, 15, 29, 17, 30, 31]
abbrev dktX13_corners_5 : List UInt8 := dkwX13_corners_5 ++ dktX13_corners_6
def dkwX13_corners_4 : List UInt8 := [17, 15, 31, 17, 47, 63, 182, 0, 170, 27, 42, 180, 0, 137, 7, 96, 160, 0, 33, 28, 5, 160, 0, 28]
abbrev dktX13_corners_4 : List UInt8 := dkwX13_corners_4 ++ dktX13_corners_5
def dkwX13_corners_3 : List UInt8 := [160, 0, 32, 28, 154, 0, 28, 42, 180, 0, 140, 16, 8, 112, 7, 160, 0, 17, 42, 18, 174, 18, 176]
abbrev dktX13_corners_3 : List UInt8 := dkwX13_corners_3 ++ dktX13_corners_4
def dkwX13_corners_2 : List UInt8 := [153, 0, 17, 42, 18, 174, 18, 175, 17, 13, 14, 17, 15, 31, 182, 0, 170, 27, 42, 180, 0, 137, 5, 100]
abbrev dktX13_corners_2 : List UInt8 := dkwX13_corners_2 ++ dktX13_corners_3
def dkwX13_corners_1 : List UInt8 := [182, 0, 170, 27, 42, 180, 0, 137, 5, 100, 160, 0, 30, 28, 154, 0, 26, 42, 180, 0, 140, 7, 112]
abbrev dktX13_corners_1 : List UInt8 := dkwX13_corners_1 ++ dktX13_corners_2
def dkwX13_corners_0 : List UInt8 := [27, 42, 180, 0, 137, 160, 0, 21, 28, 154, 0, 17, 42, 18, 168, 18, 169, 17, 15, 31, 17, 47, 63]
abbrev dktX13_corners_0 : List UInt8 := dkwX13_corners_0 ++ dktX13_corners_1
theorem dksX13_corners_0 : cX13_corners.data.toList.drop 0 = dktX13_corners_0 := by decide +kernel
theorem dksX13_corners_1 : cX13_corners.data.toList.drop 23 = dktX13_corners_1 := dk_seg dksX13_corners_0 23 rfl rfl
theorem dksX13_corners_2 : cX13_corners.data.toList.drop 46 = dktX13_corners_2 := dk_seg dksX13_corners_1 23 rfl rfl
theorem dksX13_corners_3 : cX13_corners.data.toList.drop 70 = dktX13_corners_3 := dk_seg dksX13_corners_2 24 rfl rfl
theorem dksX13_corners_4 : cX13_corners.data.toList.drop 93 = dktX13_corners_4 := dk_seg dksX13_corners_3 23 rfl rfl
theorem dksX13_corners_5 : cX13_corners.data.toList.drop 117 = dktX13_corners_5 := dk_seg dksX13_corners_4 24 rfl rfl
theorem dksX13_corners_6 : cX13_corners.data.toList.drop 139 = dktX13_corners_6 := dk_seg dksX13_corners_5 22 rfl rfl
theorem dX13_corners_0 : decode cX13_corners 0 = .ok (.iload_n 1, 1) := dk_27 (dk_at dksX13_corners_0 0 rfl rfl)
theorem dX13_corners_1 : decode cX13_corners 1 = .ok (.aload_n 0, 1) := dk_42 (dk_at dksX13_corners_0 1 rfl rfl)
theorem dX13_corners_2 : decode cX13_corners 2 = .ok (.getfield 137, 3) := dk_180 0 137 (dk_at dksX13_corners_0 2 rfl rfl)
theorem dX13_corners_5 : decode cX13_corners 5 = .ok (.if_icmp .ne 21, 3) := dk_160 0 21 (dk_at dksX13_corners_0 5 rfl rfl)
theorem dX13_corners_8 : decode cX13_corners 8 = .ok (.iload_n 2, 1) := dk_28 (dk_at dksX13_corners_0 8 rfl rfl)
theorem dX13_corners_9 : decode cX13_corners 9 = .ok (.ifCond .ne 17, 3) := dk_154 0 17 (dk_at dksX13_corners_0 9 rfl rfl)
theorem dX13_corners_12 : decode cX13_corners 12 = .ok (.aload_n 0, 1) := dk_42 (dk_at dksX13_corners_0 12 rfl rfl)
theorem dX13_corners_13 : decode cX13_corners 13 = .ok (.ldc 168, 2) := dk_18 168 (dk_at dksX13_corners_0 13 rfl rfl)
theorem dX13_corners_15 : decode cX13_corners 15 = .ok (.ldc 169, 2) := dk_18 169 (dk_at dksX13_corners_0 15 rfl rfl)
theorem dX13_corners_17 : decode cX13_corners 17 = .ok (.sipush 3871, 3) := dk_17 15 31 (dk_at dksX13_corners_0 17 rfl rfl)
theorem dX13_corners_20 : decode cX13_corners 20 = .ok (.sipush 12095, 3) := dk_17 47 63 (dk_at dksX13_corners_0 20 rfl rfl)
theorem dX13_corners_23 : decode cX13_corners 23 = .ok (.invokevirtual 170, 3) := dk_182 0 170 (dk_at dksX13_corners_1 0 rfl rfl)
theorem dX13_corners_26 : decode cX13_corners 26 = .ok (.iload_n 1, 1) := dk_27 (dk_at dksX13_corners_1 3 rfl rfl)
theorem dX13_corners_27 : decode cX13_corners 27 = .ok (.aload_n 0, 1) := dk_42 (dk_at dksX13_corners_1 4 rfl rfl)
theorem dX13_corners_28 : decode cX13_corners 28 = .ok (.getfield 137, 3) := dk_180 0 137 (dk_at dksX13_corners_1 5 rfl rfl)
theorem dX13_corners_31 : decode cX13_corners 31 = .ok (.iconst 2, 1) := dk_5 (dk_at dksX13_corners_1 8 rfl rfl)
theorem dX13_corners_32 : decode cX13_corners 32 = .ok (.isub, 1) := dk_100 (dk_at dksX13_corners_1 9 rfl rfl)
theorem dX13_corners_33 : decode cX13_corners 33 = .ok (.if_icmp .ne 30, 3) := dk_160 0 30 (dk_at dksX13_corners_1 10 rfl rfl)
theorem dX13_corners_36 : decode cX13_corners 36 = .ok (.iload_n 2, 1) := dk_28 (dk_at dksX13_corners_1 13 rfl rfl)
theorem dX13_corners_37 : decode cX13_corners 37 = .ok (.ifCond .ne 26, 3) := dk_154 0 26 (dk_at dksX13_corners_1 14 rfl rfl)
theorem dX13_corners_40 : decode cX13_corners 40 = .ok (.aload_n 0, 1) := dk_42 (dk_at dksX13_corners_1 17 rfl rfl)
theorem dX13_corners_41 : decode cX13_corners 41 = .ok (.getfield 140, 3) := dk_180 0 140 (dk_at dksX13_corners_1 18 rfl rfl)
theorem dX13_corners_44 : decode cX13_corners 44 = .ok (.iconst 4, 1) := dk_7 (dk_at dksX13_corners_1 21 rfl rfl)
theorem dX13_corners_45 : decode cX13_corners 45 = .ok (.irem, 1) := dk_112 (dk_at dksX13_corners_1 22 rfl rfl)
theorem dX13_corners_46 : decode cX13_corners 46 = .ok (.ifCond .eq 17, 3) := dk_153 0 17 (dk_at dksX13_corners_2 0 rfl rfl)
theorem dX13_corners_49 : decode cX13_corners 49 = .ok (.aload_n 0, 1) := dk_42 (dk_at dksX13_corners_2 3 rfl rfl)
theorem dX13_corners_50 : decode cX13_corners 50 = .ok (.ldc 174, 2) := dk_18 174 (dk_at dksX13_corners_2 4 rfl rfl)
theorem dX13_corners_52 : decode cX13_corners 52 = .ok (.ldc 175, 2) := dk_18 175 (dk_at dksX13_corners_2 6 rfl rfl)
theorem dX13_corners_54 : decode cX13_corners 54 = .ok (.sipush 3342, 3) := dk_17 13 14 (dk_at dksX13_corners_2 8 rfl rfl)
theorem dX13_corners_57 : decode cX13_corners 57 = .ok (.sipush 3871, 3) := dk_17 15 31 (dk_at dksX13_corners_2 11 rfl rfl)
theorem dX13_corners_60 : decode cX13_corners 60 = .ok (.invokevirtual 170, 3) := dk_182 0 170 (dk_at dksX13_corners_2 14 rfl rfl)
theorem dX13_corners_63 : decode cX13_corners 63 = .ok (.iload_n 1, 1) := dk_27 (dk_at dksX13_corners_2 17 rfl rfl)
theorem dX13_corners_64 : decode cX13_corners 64 = .ok (.aload_n 0, 1) := dk_42 (dk_at dksX13_corners_2 18 rfl rfl)
theorem dX13_corners_65 : decode cX13_corners 65 = .ok (.getfield 137, 3) := dk_180 0 137 (dk_at dksX13_corners_2 19 rfl rfl)
theorem dX13_corners_68 : decode cX13_corners 68 = .ok (.iconst 2, 1) := dk_5 (dk_at dksX13_corners_2 22 rfl rfl)
theorem dX13_corners_69 : decode cX13_corners 69 = .ok (.isub, 1) := dk_100 (dk_at dksX13_corners_2 23 rfl rfl)
theorem dX13_corners_70 : decode cX13_corners 70 = .ok (.if_icmp .ne 32, 3) := dk_160 0 32 (dk_at dksX13_corners_3 0 rfl rfl)
theorem dX13_corners_73 : decode cX13_corners 73 = .ok (.iload_n 2, 1) := dk_28 (dk_at dksX13_corners_3 3 rfl rfl)
theorem dX13_corners_74 : decode cX13_corners 74 = .ok (.ifCond .ne 28, 3) := dk_154 0 28 (dk_at dksX13_corners_3 4 rfl rfl)
theorem dX13_corners_77 : decode cX13_corners 77 = .ok (.aload_n 0, 1) := dk_42 (dk_at dksX13_corners_3 7 rfl rfl)
theorem dX13_corners_78 : decode cX13_corners 78 = .ok (.getfield 140, 3) := dk_180 0 140 (dk_at dksX13_corners_3 8 rfl rfl)
theorem dX13_corners_81 : decode cX13_corners 81 = .ok (.bipush 8, 2) := dk_16 8 (dk_at dksX13_corners_3 11 rfl rfl)
theorem dX13_corners_83 : decode cX13_corners 83 = .ok (.irem, 1) := dk_112 (dk_at dksX13_corners_3 13 rfl rfl)
theorem dX13_corners_84 : decode cX13_corners 84 = .ok (.iconst 4, 1) := dk_7 (dk_at dksX13_corners_3 14 rfl rfl)
theorem dX13_corners_85 : decode cX13_corners 85 = .ok (.if_icmp .ne 17, 3) := dk_160 0 17 (dk_at dksX13_corners_3 15 rfl rfl)
theorem dX13_corners_88 : decode cX13_corners 88 = .ok (.aload_n 0, 1) := dk_42 (dk_at dksX13_corners_3 18 rfl rfl)
theorem dX13_corners_89 : decode cX13_corners 89 = .ok (.ldc 174, 2) := dk_18 174 (dk_at dksX13_corners_3 19 rfl rfl)
theorem dX13_corners_91 : decode cX13_corners 91 = .ok (.ldc 176, 2) := dk_18 176 (dk_at dksX13_corners_3 21 rfl rfl)
theorem dX13_corners_93 : decode cX13_corners 93 = .ok (.sipush 3871, 3) := dk_17 15 31 (dk_at dksX13_corners_4 0 rfl rfl)
theorem dX13_corners_96 : decode cX13_corners 96 = .ok (.sipush 12095, 3) := dk_17 47 63 (dk_at dksX13_corners_4 3 rfl rfl)
theorem dX13_corners_99 : decode cX13_corners 99 = .ok (.invokevirtual 170, 3) := dk_182 0 170 (dk_at dksX13_corners_4 6 rfl rfl)
theorem dX13_corners_102 : decode cX13_corners 102 = .ok (.iload_n 1, 1) := dk_27 (dk_at dksX13_corners_4 9 rfl rfl)
theorem dX13_corners_103 : decode cX13_corners 103 = .ok (.aload_n 0, 1) := dk_42 (dk_at dksX13_corners_4 10 rfl rfl)
theorem dX13_corners_104 : decode cX13_corners 104 = .ok (.getfield 137, 3) := dk_180 0 137 (dk_at dksX13_corners_4 11 rfl rfl)
theorem dX13_corners_107 : decode cX13_corners 107 = .ok (.iconst 4, 1) := dk_7 (dk_at dksX13_corners_4 14 rfl rfl)
theorem dX13_corners_108 : decode cX13_corners 108 = .ok (.iadd, 1) := dk_96 (dk_at dksX13_corners_4 15 rfl rfl)
theorem dX13_corners_109 : decode cX13_corners 109 = .ok (.if_icmp .ne 33, 3) := dk_160 0 33 (dk_at dksX13_corners_4 16 rfl rfl)
theorem dX13_corners_112 : decode cX13_corners 112 = .ok (.iload_n 2, 1) := dk_28 (dk_at dksX13_corners_4 19 rfl rfl)
theorem dX13_corners_113 : decode cX13_corners 113 = .ok (.iconst 2, 1) := dk_5 (dk_at dksX13_corners_4 20 rfl rfl)
theorem dX13_corners_114 : decode cX13_corners 114 = .ok (.if_icmp .ne 28, 3) := dk_160 0 28 (dk_at dksX13_corners_4 21 rfl rfl)
theorem dX13_corners_117 : decode cX13_corners 117 = .ok (.aload_n 0, 1) := dk_42 (dk_at dksX13_corners_5 0 rfl rfl)
theorem dX13_corners_118 : decode cX13_corners 118 = .ok (.getfield 140, 3) := dk_180 0 140 (dk_at dksX13_corners_5 1 rfl rfl)
theorem dX13_corners_121 : decode cX13_corners 121 = .ok (.bipush 8, 2) := dk_16 8 (dk_at dksX13_corners_5 4 rfl rfl)
theorem dX13_corners_123 : decode cX13_corners 123 = .ok (.irem, 1) := dk_112 (dk_at dksX13_corners_5 6 rfl rfl)
theorem dX13_corners_124 : decode cX13_corners 124 = .ok (.ifCond .ne 18, 3) := dk_154 0 18 (dk_at dksX13_corners_5 7 rfl rfl)
theorem dX13_corners_127 : decode cX13_corners 127 = .ok (.aload_n 0, 1) := dk_42 (dk_at dksX13_corners_5 10 rfl rfl)
theorem dX13_corners_128 : decode cX13_corners 128 = .ok (.ldc 177, 2) := dk_18 177 (dk_at dksX13_corners_5 11 rfl rfl)
theorem dX13_corners_130 : decode cX13_corners 130 = .ok (.sipush 3342, 3) := dk_17 13 14 (dk_at dksX13_corners_5 13 rfl rfl)
theorem dX13_corners_133 : decode cX13_corners 133 = .ok (.sipush 3869, 3) := dk_17 15 29 (dk_at dksX13_corners_5 16 rfl rfl)
theorem dX13_corners_136 : decode cX13_corners 136 = .ok (.sipush 7711, 3) := dk_17 30 31 (dk_at dksX13_corners_5 19 rfl rfl)
theorem dX13_corners_139 : decode cX13_corners 139 = .ok (.invokevirtual 170, 3) := dk_182 0 170 (dk_at dksX13_corners_6 0 rfl rfl)
theorem dX13_corners_142 : decode cX13_corners 142 = .ok (.return_, 1) := dk_177 (dk_at dksX13_corners_6 3 rfl rfl)
abbrev cX13_corner : ByteArray := prog_16_method_16_code
def yX13_corner : MethodName := ⟨RX13, "corner", "(IIII)V"⟩
def dkwX13_corner_6 : List UInt8 := [4, 96, 181, 0, 143, 177]
abbrev dktX13_corner_6 : List UInt8 := dkwX13_corner_6 ++ []
def dkwX13_corner_5 : List UInt8 := [16, 16, 100, 167, 0, 5, 21, 9, 21, 5, 182, 0, 150, 132, 5, 1, 167, 255, 125, 42, 89, 180, 0, 143]
abbrev dktX13_corner_5 : List UInt8 := dkwX13_corner_5 ++ dktX13_corner_6
def dkwX13_corner_4 : List UInt8 := [96, 16, 16, 100, 167, 0, 5, 21, 8, 21, 9, 16, 7, 164, 0, 16, 42, 180, 0, 140, 21, 9, 96]
abbrev dktX13_corner_4 : List UInt8 := dkwX13_corner_4 ++ dktX13_corner_5
def dkwX13_corner_3 : List UInt8 := [122, 54, 8, 21, 7, 16, 15, 126, 54, 9, 42, 21, 8, 16, 7, 164, 0, 16, 42, 180, 0, 137, 21, 8]
abbrev dktX13_corner_3 : List UInt8 := dkwX13_corner_3 ++ dktX13_corner_4
def dkwX13_corner_2 : List UInt8 := [5, 112, 154, 0, 11, 21, 6, 16, 8, 122, 167, 0, 9, 21, 6, 17, 0, 255, 126, 54, 7, 21, 7, 7]
abbrev dktX13_corner_2 : List UInt8 := dkwX13_corner_2 ++ dktX13_corner_3
def dkwX13_corner_1 : List UInt8 := [162, 0, 7, 28, 167, 0, 16, 21, 5, 16, 6, 162, 0, 7, 29, 167, 0, 5, 21, 4, 54, 6, 21, 5]
abbrev dktX13_corner_1 : List UInt8 := dkwX13_corner_1 ++ dktX13_corner_2
def dkwX13_corner_0 : List UInt8 := [3, 54, 5, 21, 5, 16, 8, 162, 0, 130, 21, 5, 5, 162, 0, 7, 27, 167, 0, 26, 21, 5, 7]
abbrev dktX13_corner_0 : List UInt8 := dkwX13_corner_0 ++ dktX13_corner_1
theorem dksX13_corner_0 : cX13_corner.data.toList.drop 0 = dktX13_corner_0 := by decide +kernel
theorem dksX13_corner_1 : cX13_corner.data.toList.drop 23 = dktX13_corner_1 := dk_seg dksX13_corner_0 23 rfl rfl
theorem dksX13_corner_2 : cX13_corner.data.toList.drop 47 = dktX13_corner_2 := dk_seg dksX13_corner_1 24 rfl rfl
theorem dksX13_corner_3 : cX13_corner.data.toList.drop 71 = dktX13_corner_3 := dk_seg dksX13_corner_2 24 rfl rfl
theorem dksX13_corner_4 : cX13_corner.data.toList.drop 95 = dktX13_corner_4 := dk_seg dksX13_corner_3 24 rfl rfl
theorem dksX13_corner_5 : cX13_corner.data.toList.drop 118 = dktX13_corner_5 := dk_seg dksX13_corner_4 23 rfl rfl
theorem dksX13_corner_6 : cX13_corner.data.toList.drop 142 = dktX13_corner_6 := dk_seg dksX13_corner_5 24 rfl rfl
theorem dX13_corner_0 : decode cX13_corner 0 = .ok (.iconst 0, 1) := dk_3 (dk_at dksX13_corner_0 0 rfl rfl)
theorem dX13_corner_1 : decode cX13_corner 1 = .ok (.istore 5, 2) := dk_54 5 (dk_at dksX13_corner_0 1 rfl rfl)
theorem dX13_corner_3 : decode cX13_corner 3 = .ok (.iload 5, 2) := dk_21 5 (dk_at dksX13_corner_0 3 rfl rfl)
theorem dX13_corner_5 : decode cX13_corner 5 = .ok (.bipush 8, 2) := dk_16 8 (dk_at dksX13_corner_0 5 rfl rfl)
theorem dX13_corner_7 : decode cX13_corner 7 = .ok (.if_icmp .ge 130, 3) := dk_162 0 130 (dk_at dksX13_corner_0 7 rfl rfl)
theorem dX13_corner_10 : decode cX13_corner 10 = .ok (.iload 5, 2) := dk_21 5 (dk_at dksX13_corner_0 10 rfl rfl)
theorem dX13_corner_12 : decode cX13_corner 12 = .ok (.iconst 2, 1) := dk_5 (dk_at dksX13_corner_0 12 rfl rfl)
theorem dX13_corner_13 : decode cX13_corner 13 = .ok (.if_icmp .ge 7, 3) := dk_162 0 7 (dk_at dksX13_corner_0 13 rfl rfl)
theorem dX13_corner_16 : decode cX13_corner 16 = .ok (.iload_n 1, 1) := dk_27 (dk_at dksX13_corner_0 16 rfl rfl)
theorem dX13_corner_17 : decode cX13_corner 17 = .ok (.goto 26, 3) := dk_167 0 26 (dk_at dksX13_corner_0 17 rfl rfl)
theorem dX13_corner_20 : decode cX13_corner 20 = .ok (.iload 5, 2) := dk_21 5 (dk_at dksX13_corner_0 20 rfl rfl)
theorem dX13_corner_22 : decode cX13_corner 22 = .ok (.iconst 4, 1) := dk_7 (dk_at dksX13_corner_0 22 rfl rfl)
theorem dX13_corner_23 : decode cX13_corner 23 = .ok (.if_icmp .ge 7, 3) := dk_162 0 7 (dk_at dksX13_corner_1 0 rfl rfl)
theorem dX13_corner_26 : decode cX13_corner 26 = .ok (.iload_n 2, 1) := dk_28 (dk_at dksX13_corner_1 3 rfl rfl)
theorem dX13_corner_27 : decode cX13_corner 27 = .ok (.goto 16, 3) := dk_167 0 16 (dk_at dksX13_corner_1 4 rfl rfl)
theorem dX13_corner_30 : decode cX13_corner 30 = .ok (.iload 5, 2) := dk_21 5 (dk_at dksX13_corner_1 7 rfl rfl)
theorem dX13_corner_32 : decode cX13_corner 32 = .ok (.bipush 6, 2) := dk_16 6 (dk_at dksX13_corner_1 9 rfl rfl)
theorem dX13_corner_34 : decode cX13_corner 34 = .ok (.if_icmp .ge 7, 3) := dk_162 0 7 (dk_at dksX13_corner_1 11 rfl rfl)
theorem dX13_corner_37 : decode cX13_corner 37 = .ok (.iload_n 3, 1) := dk_29 (dk_at dksX13_corner_1 14 rfl rfl)
theorem dX13_corner_38 : decode cX13_corner 38 = .ok (.goto 5, 3) := dk_167 0 5 (dk_at dksX13_corner_1 15 rfl rfl)
theorem dX13_corner_41 : decode cX13_corner 41 = .ok (.iload 4, 2) := dk_21 4 (dk_at dksX13_corner_1 18 rfl rfl)
theorem dX13_corner_43 : decode cX13_corner 43 = .ok (.istore 6, 2) := dk_54 6 (dk_at dksX13_corner_1 20 rfl rfl)
theorem dX13_corner_45 : decode cX13_corner 45 = .ok (.iload 5, 2) := dk_21 5 (dk_at dksX13_corner_1 22 rfl rfl)
theorem dX13_corner_47 : decode cX13_corner 47 = .ok (.iconst 2, 1) := dk_5 (dk_at dksX13_corner_2 0 rfl rfl)
theorem dX13_corner_48 : decode cX13_corner 48 = .ok (.irem, 1) := dk_112 (dk_at dksX13_corner_2 1 rfl rfl)
theorem dX13_corner_49 : decode cX13_corner 49 = .ok (.ifCond .ne 11, 3) := dk_154 0 11 (dk_at dksX13_corner_2 2 rfl rfl)
theorem dX13_corner_52 : decode cX13_corner 52 = .ok (.iload 6, 2) := dk_21 6 (dk_at dksX13_corner_2 5 rfl rfl)
theorem dX13_corner_54 : decode cX13_corner 54 = .ok (.bipush 8, 2) := dk_16 8 (dk_at dksX13_corner_2 7 rfl rfl)
theorem dX13_corner_56 : decode cX13_corner 56 = .ok (.ishr, 1) := dk_122 (dk_at dksX13_corner_2 9 rfl rfl)
theorem dX13_corner_57 : decode cX13_corner 57 = .ok (.goto 9, 3) := dk_167 0 9 (dk_at dksX13_corner_2 10 rfl rfl)
theorem dX13_corner_60 : decode cX13_corner 60 = .ok (.iload 6, 2) := dk_21 6 (dk_at dksX13_corner_2 13 rfl rfl)
theorem dX13_corner_62 : decode cX13_corner 62 = .ok (.sipush 255, 3) := dk_17 0 255 (dk_at dksX13_corner_2 15 rfl rfl)
theorem dX13_corner_65 : decode cX13_corner 65 = .ok (.iand, 1) := dk_126 (dk_at dksX13_corner_2 18 rfl rfl)
theorem dX13_corner_66 : decode cX13_corner 66 = .ok (.istore 7, 2) := dk_54 7 (dk_at dksX13_corner_2 19 rfl rfl)
theorem dX13_corner_68 : decode cX13_corner 68 = .ok (.iload 7, 2) := dk_21 7 (dk_at dksX13_corner_2 21 rfl rfl)
theorem dX13_corner_70 : decode cX13_corner 70 = .ok (.iconst 4, 1) := dk_7 (dk_at dksX13_corner_2 23 rfl rfl)
theorem dX13_corner_71 : decode cX13_corner 71 = .ok (.ishr, 1) := dk_122 (dk_at dksX13_corner_3 0 rfl rfl)
theorem dX13_corner_72 : decode cX13_corner 72 = .ok (.istore 8, 2) := dk_54 8 (dk_at dksX13_corner_3 1 rfl rfl)
theorem dX13_corner_74 : decode cX13_corner 74 = .ok (.iload 7, 2) := dk_21 7 (dk_at dksX13_corner_3 3 rfl rfl)
theorem dX13_corner_76 : decode cX13_corner 76 = .ok (.bipush 15, 2) := dk_16 15 (dk_at dksX13_corner_3 5 rfl rfl)
theorem dX13_corner_78 : decode cX13_corner 78 = .ok (.iand, 1) := dk_126 (dk_at dksX13_corner_3 7 rfl rfl)
theorem dX13_corner_79 : decode cX13_corner 79 = .ok (.istore 9, 2) := dk_54 9 (dk_at dksX13_corner_3 8 rfl rfl)
theorem dX13_corner_81 : decode cX13_corner 81 = .ok (.aload_n 0, 1) := dk_42 (dk_at dksX13_corner_3 10 rfl rfl)
theorem dX13_corner_82 : decode cX13_corner 82 = .ok (.iload 8, 2) := dk_21 8 (dk_at dksX13_corner_3 11 rfl rfl)
theorem dX13_corner_84 : decode cX13_corner 84 = .ok (.bipush 7, 2) := dk_16 7 (dk_at dksX13_corner_3 13 rfl rfl)
theorem dX13_corner_86 : decode cX13_corner 86 = .ok (.if_icmp .le 16, 3) := dk_164 0 16 (dk_at dksX13_corner_3 15 rfl rfl)
theorem dX13_corner_89 : decode cX13_corner 89 = .ok (.aload_n 0, 1) := dk_42 (dk_at dksX13_corner_3 18 rfl rfl)
theorem dX13_corner_90 : decode cX13_corner 90 = .ok (.getfield 137, 3) := dk_180 0 137 (dk_at dksX13_corner_3 19 rfl rfl)
theorem dX13_corner_93 : decode cX13_corner 93 = .ok (.iload 8, 2) := dk_21 8 (dk_at dksX13_corner_3 22 rfl rfl)
theorem dX13_corner_95 : decode cX13_corner 95 = .ok (.iadd, 1) := dk_96 (dk_at dksX13_corner_4 0 rfl rfl)
theorem dX13_corner_96 : decode cX13_corner 96 = .ok (.bipush 16, 2) := dk_16 16 (dk_at dksX13_corner_4 1 rfl rfl)
theorem dX13_corner_98 : decode cX13_corner 98 = .ok (.isub, 1) := dk_100 (dk_at dksX13_corner_4 3 rfl rfl)
theorem dX13_corner_99 : decode cX13_corner 99 = .ok (.goto 5, 3) := dk_167 0 5 (dk_at dksX13_corner_4 4 rfl rfl)
theorem dX13_corner_102 : decode cX13_corner 102 = .ok (.iload 8, 2) := dk_21 8 (dk_at dksX13_corner_4 7 rfl rfl)
theorem dX13_corner_104 : decode cX13_corner 104 = .ok (.iload 9, 2) := dk_21 9 (dk_at dksX13_corner_4 9 rfl rfl)
theorem dX13_corner_106 : decode cX13_corner 106 = .ok (.bipush 7, 2) := dk_16 7 (dk_at dksX13_corner_4 11 rfl rfl)
theorem dX13_corner_108 : decode cX13_corner 108 = .ok (.if_icmp .le 16, 3) := dk_164 0 16 (dk_at dksX13_corner_4 13 rfl rfl)
theorem dX13_corner_111 : decode cX13_corner 111 = .ok (.aload_n 0, 1) := dk_42 (dk_at dksX13_corner_4 16 rfl rfl)
theorem dX13_corner_112 : decode cX13_corner 112 = .ok (.getfield 140, 3) := dk_180 0 140 (dk_at dksX13_corner_4 17 rfl rfl)
theorem dX13_corner_115 : decode cX13_corner 115 = .ok (.iload 9, 2) := dk_21 9 (dk_at dksX13_corner_4 20 rfl rfl)
theorem dX13_corner_117 : decode cX13_corner 117 = .ok (.iadd, 1) := dk_96 (dk_at dksX13_corner_4 22 rfl rfl)
theorem dX13_corner_118 : decode cX13_corner 118 = .ok (.bipush 16, 2) := dk_16 16 (dk_at dksX13_corner_5 0 rfl rfl)
theorem dX13_corner_120 : decode cX13_corner 120 = .ok (.isub, 1) := dk_100 (dk_at dksX13_corner_5 2 rfl rfl)
theorem dX13_corner_121 : decode cX13_corner 121 = .ok (.goto 5, 3) := dk_167 0 5 (dk_at dksX13_corner_5 3 rfl rfl)
theorem dX13_corner_124 : decode cX13_corner 124 = .ok (.iload 9, 2) := dk_21 9 (dk_at dksX13_corner_5 6 rfl rfl)
theorem dX13_corner_126 : decode cX13_corner 126 = .ok (.iload 5, 2) := dk_21 5 (dk_at dksX13_corner_5 8 rfl rfl)
theorem dX13_corner_128 : decode cX13_corner 128 = .ok (.invokevirtual 150, 3) := dk_182 0 150 (dk_at dksX13_corner_5 10 rfl rfl)
theorem dX13_corner_131 : decode cX13_corner 131 = .ok (.iinc 5 1, 3) := dk_132 5 1 (dk_at dksX13_corner_5 13 rfl rfl)
theorem dX13_corner_134 : decode cX13_corner 134 = .ok (.goto (-131), 3) := dk_167 255 125 (dk_at dksX13_corner_5 16 rfl rfl)
theorem dX13_corner_137 : decode cX13_corner 137 = .ok (.aload_n 0, 1) := dk_42 (dk_at dksX13_corner_5 19 rfl rfl)
theorem dX13_corner_138 : decode cX13_corner 138 = .ok (.dup, 1) := dk_89 (dk_at dksX13_corner_5 20 rfl rfl)
theorem dX13_corner_139 : decode cX13_corner 139 = .ok (.getfield 143, 3) := dk_180 0 143 (dk_at dksX13_corner_5 21 rfl rfl)
theorem dX13_corner_142 : decode cX13_corner 142 = .ok (.iconst 1, 1) := dk_4 (dk_at dksX13_corner_6 0 rfl rfl)
theorem dX13_corner_143 : decode cX13_corner 143 = .ok (.iadd, 1) := dk_96 (dk_at dksX13_corner_6 1 rfl rfl)
theorem dX13_corner_144 : decode cX13_corner 144 = .ok (.putfield 143, 3) := dk_181 0 143 (dk_at dksX13_corner_6 2 rfl rfl)
theorem dX13_corner_147 : decode cX13_corner 147 = .ok (.return_, 1) := dk_177 (dk_at dksX13_corner_6 5 rfl rfl)
abbrev cX13_lie : ByteArray := prog_16_method_13_code
def yX13_lie : MethodName := ⟨RX13, "lie", "(III)V"⟩
def dkwX13_lie_2 : List UInt8 := [177]
abbrev dktX13_lie_2 : List UInt8 := dkwX13_lie_2 ++ []
def dkwX13_lie_1 : List UInt8 := [42, 180, 0, 47, 16, 8, 42, 180, 0, 143, 104, 29, 96, 42, 42, 180, 0, 41, 27, 28, 182, 0, 146, 79]
abbrev dktX13_lie_1 : List UInt8 := dkwX13_lie_1 ++ dktX13_lie_2
def dkwX13_lie_0 : List UInt8 := [42, 180, 0, 44, 42, 180, 0, 140, 27, 104, 28, 96, 16, 8, 42, 180, 0, 143, 104, 29, 96, 4, 96, 79]
abbrev dktX13_lie_0 : List UInt8 := dkwX13_lie_0 ++ dktX13_lie_1
theorem dksX13_lie_0 : cX13_lie.data.toList.drop 0 = dktX13_lie_0 := by decide +kernel
theorem dksX13_lie_1 : cX13_lie.data.toList.drop 24 = dktX13_lie_1 := dk_seg dksX13_lie_0 24 rfl rfl
theorem dksX13_lie_2 : cX13_lie.data.toList.drop 48 = dktX13_lie_2 := dk_seg dksX13_lie_1 24 rfl rfl
theorem dX13_lie_0 : decode cX13_lie 0 = .ok (.aload_n 0, 1) := dk_42 (dk_at dksX13_lie_0 0 rfl rfl)
theorem dX13_lie_1 : decode cX13_lie 1 = .ok (.getfield 44, 3) := dk_180 0 44 (dk_at dksX13_lie_0 1 rfl rfl)
theorem dX13_lie_4 : decode cX13_lie 4 = .ok (.aload_n 0, 1) := dk_42 (dk_at dksX13_lie_0 4 rfl rfl)
theorem dX13_lie_5 : decode cX13_lie 5 = .ok (.getfield 140, 3) := dk_180 0 140 (dk_at dksX13_lie_0 5 rfl rfl)
theorem dX13_lie_8 : decode cX13_lie 8 = .ok (.iload_n 1, 1) := dk_27 (dk_at dksX13_lie_0 8 rfl rfl)
theorem dX13_lie_9 : decode cX13_lie 9 = .ok (.imul, 1) := dk_104 (dk_at dksX13_lie_0 9 rfl rfl)
theorem dX13_lie_10 : decode cX13_lie 10 = .ok (.iload_n 2, 1) := dk_28 (dk_at dksX13_lie_0 10 rfl rfl)
theorem dX13_lie_11 : decode cX13_lie 11 = .ok (.iadd, 1) := dk_96 (dk_at dksX13_lie_0 11 rfl rfl)
theorem dX13_lie_12 : decode cX13_lie 12 = .ok (.bipush 8, 2) := dk_16 8 (dk_at dksX13_lie_0 12 rfl rfl)
theorem dX13_lie_14 : decode cX13_lie 14 = .ok (.aload_n 0, 1) := dk_42 (dk_at dksX13_lie_0 14 rfl rfl)
theorem dX13_lie_15 : decode cX13_lie 15 = .ok (.getfield 143, 3) := dk_180 0 143 (dk_at dksX13_lie_0 15 rfl rfl)
theorem dX13_lie_18 : decode cX13_lie 18 = .ok (.imul, 1) := dk_104 (dk_at dksX13_lie_0 18 rfl rfl)
theorem dX13_lie_19 : decode cX13_lie 19 = .ok (.iload_n 3, 1) := dk_29 (dk_at dksX13_lie_0 19 rfl rfl)
theorem dX13_lie_20 : decode cX13_lie 20 = .ok (.iadd, 1) := dk_96 (dk_at dksX13_lie_0 20 rfl rfl)
theorem dX13_lie_21 : decode cX13_lie 21 = .ok (.iconst 1, 1) := dk_4 (dk_at dksX13_lie_0 21 rfl rfl)
theorem dX13_lie_22 : decode cX13_lie 22 = .ok (.iadd, 1) := dk_96 (dk_at dksX13_lie_0 22 rfl rfl)
theorem dX13_lie_23 : decode cX13_lie 23 = .ok (.iastore, 1) := dk_79 (dk_at dksX13_lie_0 23 rfl rfl)
theorem dX13_lie_24 : decode cX13_lie 24 = .ok (.aload_n 0, 1) := dk_42 (dk_at dksX13_lie_1 0 rfl rfl)
theorem dX13_lie_25 : decode cX13_lie 25 = .ok (.getfield 47, 3) := dk_180 0 47 (dk_at dksX13_lie_1 1 rfl rfl)
theorem dX13_lie_28 : decode cX13_lie 28 = .ok (.bipush 8, 2) := dk_16 8 (dk_at dksX13_lie_1 4 rfl rfl)
theorem dX13_lie_30 : decode cX13_lie 30 = .ok (.aload_n 0, 1) := dk_42 (dk_at dksX13_lie_1 6 rfl rfl)
theorem dX13_lie_31 : decode cX13_lie 31 = .ok (.getfield 143, 3) := dk_180 0 143 (dk_at dksX13_lie_1 7 rfl rfl)
theorem dX13_lie_34 : decode cX13_lie 34 = .ok (.imul, 1) := dk_104 (dk_at dksX13_lie_1 10 rfl rfl)
theorem dX13_lie_35 : decode cX13_lie 35 = .ok (.iload_n 3, 1) := dk_29 (dk_at dksX13_lie_1 11 rfl rfl)
theorem dX13_lie_36 : decode cX13_lie 36 = .ok (.iadd, 1) := dk_96 (dk_at dksX13_lie_1 12 rfl rfl)
theorem dX13_lie_37 : decode cX13_lie 37 = .ok (.aload_n 0, 1) := dk_42 (dk_at dksX13_lie_1 13 rfl rfl)
theorem dX13_lie_38 : decode cX13_lie 38 = .ok (.aload_n 0, 1) := dk_42 (dk_at dksX13_lie_1 14 rfl rfl)
theorem dX13_lie_39 : decode cX13_lie 39 = .ok (.getfield 41, 3) := dk_180 0 41 (dk_at dksX13_lie_1 15 rfl rfl)
theorem dX13_lie_42 : decode cX13_lie 42 = .ok (.iload_n 1, 1) := dk_27 (dk_at dksX13_lie_1 18 rfl rfl)
theorem dX13_lie_43 : decode cX13_lie 43 = .ok (.iload_n 2, 1) := dk_28 (dk_at dksX13_lie_1 19 rfl rfl)
theorem dX13_lie_44 : decode cX13_lie 44 = .ok (.invokevirtual 146, 3) := dk_182 0 146 (dk_at dksX13_lie_1 20 rfl rfl)
theorem dX13_lie_47 : decode cX13_lie 47 = .ok (.iastore, 1) := dk_79 (dk_at dksX13_lie_1 23 rfl rfl)
theorem dX13_lie_48 : decode cX13_lie 48 = .ok (.return_, 1) := dk_177 (dk_at dksX13_lie_2 0 rfl rfl)
abbrev cX13_moduleAt : ByteArray := prog_16_method_12_code
def yX13_moduleAt : MethodName := ⟨RX13, "moduleAt", "(III)I"⟩
def dkwX13_moduleAt_2 : List UInt8 := [108, 104, 96, 172]
abbrev dktX13_moduleAt_2 : List UInt8 := dkwX13_moduleAt_2 ++ []
def dkwX13_moduleAt_1 : List UInt8 := [54, 5, 17, 0, 144, 4, 28, 96, 5, 28, 21, 4, 108, 104, 96, 104, 4, 96, 29, 96, 5, 29, 21, 5]
abbrev dktX13_moduleAt_1 : List UInt8 := dkwX13_moduleAt_1 ++ dktX13_moduleAt_2
def dkwX13_moduleAt_0 : List UInt8 := [42, 180, 0, 137, 42, 180, 0, 26, 27, 46, 108, 54, 4, 42, 180, 0, 140, 42, 180, 0, 29, 27, 46, 108]
abbrev dktX13_moduleAt_0 : List UInt8 := dkwX13_moduleAt_0 ++ dktX13_moduleAt_1
theorem dksX13_moduleAt_0 : cX13_moduleAt.data.toList.drop 0 = dktX13_moduleAt_0 := by decide +kernel
theorem dksX13_moduleAt_1 : cX13_moduleAt.data.toList.drop 24 = dktX13_moduleAt_1 := dk_seg dksX13_moduleAt_0 24 rfl rfl
theorem dksX13_moduleAt_2 : cX13_moduleAt.data.toList.drop 48 = dktX13_moduleAt_2 := dk_seg dksX13_moduleAt_1 24 rfl rfl
theorem dX13_moduleAt_0 : decode cX13_moduleAt 0 = .ok (.aload_n 0, 1) := dk_42 (dk_at dksX13_moduleAt_0 0 rfl rfl)
theorem dX13_moduleAt_1 : decode cX13_moduleAt 1 = .ok (.getfield 137, 3) := dk_180 0 137 (dk_at dksX13_moduleAt_0 1 rfl rfl)
theorem dX13_moduleAt_4 : decode cX13_moduleAt 4 = .ok (.aload_n 0, 1) := dk_42 (dk_at dksX13_moduleAt_0 4 rfl rfl)
theorem dX13_moduleAt_5 : decode cX13_moduleAt 5 = .ok (.getfield 26, 3) := dk_180 0 26 (dk_at dksX13_moduleAt_0 5 rfl rfl)
theorem dX13_moduleAt_8 : decode cX13_moduleAt 8 = .ok (.iload_n 1, 1) := dk_27 (dk_at dksX13_moduleAt_0 8 rfl rfl)
theorem dX13_moduleAt_9 : decode cX13_moduleAt 9 = .ok (.iaload, 1) := dk_46 (dk_at dksX13_moduleAt_0 9 rfl rfl)
theorem dX13_moduleAt_10 : decode cX13_moduleAt 10 = .ok (.idiv, 1) := dk_108 (dk_at dksX13_moduleAt_0 10 rfl rfl)
theorem dX13_moduleAt_11 : decode cX13_moduleAt 11 = .ok (.istore 4, 2) := dk_54 4 (dk_at dksX13_moduleAt_0 11 rfl rfl)
theorem dX13_moduleAt_13 : decode cX13_moduleAt 13 = .ok (.aload_n 0, 1) := dk_42 (dk_at dksX13_moduleAt_0 13 rfl rfl)
theorem dX13_moduleAt_14 : decode cX13_moduleAt 14 = .ok (.getfield 140, 3) := dk_180 0 140 (dk_at dksX13_moduleAt_0 14 rfl rfl)
theorem dX13_moduleAt_17 : decode cX13_moduleAt 17 = .ok (.aload_n 0, 1) := dk_42 (dk_at dksX13_moduleAt_0 17 rfl rfl)
theorem dX13_moduleAt_18 : decode cX13_moduleAt 18 = .ok (.getfield 29, 3) := dk_180 0 29 (dk_at dksX13_moduleAt_0 18 rfl rfl)
theorem dX13_moduleAt_21 : decode cX13_moduleAt 21 = .ok (.iload_n 1, 1) := dk_27 (dk_at dksX13_moduleAt_0 21 rfl rfl)
theorem dX13_moduleAt_22 : decode cX13_moduleAt 22 = .ok (.iaload, 1) := dk_46 (dk_at dksX13_moduleAt_0 22 rfl rfl)
theorem dX13_moduleAt_23 : decode cX13_moduleAt 23 = .ok (.idiv, 1) := dk_108 (dk_at dksX13_moduleAt_0 23 rfl rfl)
theorem dX13_moduleAt_24 : decode cX13_moduleAt 24 = .ok (.istore 5, 2) := dk_54 5 (dk_at dksX13_moduleAt_1 0 rfl rfl)
theorem dX13_moduleAt_26 : decode cX13_moduleAt 26 = .ok (.sipush 144, 3) := dk_17 0 144 (dk_at dksX13_moduleAt_1 2 rfl rfl)
theorem dX13_moduleAt_29 : decode cX13_moduleAt 29 = .ok (.iconst 1, 1) := dk_4 (dk_at dksX13_moduleAt_1 5 rfl rfl)
theorem dX13_moduleAt_30 : decode cX13_moduleAt 30 = .ok (.iload_n 2, 1) := dk_28 (dk_at dksX13_moduleAt_1 6 rfl rfl)
theorem dX13_moduleAt_31 : decode cX13_moduleAt 31 = .ok (.iadd, 1) := dk_96 (dk_at dksX13_moduleAt_1 7 rfl rfl)
theorem dX13_moduleAt_32 : decode cX13_moduleAt 32 = .ok (.iconst 2, 1) := dk_5 (dk_at dksX13_moduleAt_1 8 rfl rfl)
theorem dX13_moduleAt_33 : decode cX13_moduleAt 33 = .ok (.iload_n 2, 1) := dk_28 (dk_at dksX13_moduleAt_1 9 rfl rfl)
theorem dX13_moduleAt_34 : decode cX13_moduleAt 34 = .ok (.iload 4, 2) := dk_21 4 (dk_at dksX13_moduleAt_1 10 rfl rfl)
theorem dX13_moduleAt_36 : decode cX13_moduleAt 36 = .ok (.idiv, 1) := dk_108 (dk_at dksX13_moduleAt_1 12 rfl rfl)
theorem dX13_moduleAt_37 : decode cX13_moduleAt 37 = .ok (.imul, 1) := dk_104 (dk_at dksX13_moduleAt_1 13 rfl rfl)
theorem dX13_moduleAt_38 : decode cX13_moduleAt 38 = .ok (.iadd, 1) := dk_96 (dk_at dksX13_moduleAt_1 14 rfl rfl)
theorem dX13_moduleAt_39 : decode cX13_moduleAt 39 = .ok (.imul, 1) := dk_104 (dk_at dksX13_moduleAt_1 15 rfl rfl)
theorem dX13_moduleAt_40 : decode cX13_moduleAt 40 = .ok (.iconst 1, 1) := dk_4 (dk_at dksX13_moduleAt_1 16 rfl rfl)
theorem dX13_moduleAt_41 : decode cX13_moduleAt 41 = .ok (.iadd, 1) := dk_96 (dk_at dksX13_moduleAt_1 17 rfl rfl)
theorem dX13_moduleAt_42 : decode cX13_moduleAt 42 = .ok (.iload_n 3, 1) := dk_29 (dk_at dksX13_moduleAt_1 18 rfl rfl)
theorem dX13_moduleAt_43 : decode cX13_moduleAt 43 = .ok (.iadd, 1) := dk_96 (dk_at dksX13_moduleAt_1 19 rfl rfl)
theorem dX13_moduleAt_44 : decode cX13_moduleAt 44 = .ok (.iconst 2, 1) := dk_5 (dk_at dksX13_moduleAt_1 20 rfl rfl)
theorem dX13_moduleAt_45 : decode cX13_moduleAt 45 = .ok (.iload_n 3, 1) := dk_29 (dk_at dksX13_moduleAt_1 21 rfl rfl)
theorem dX13_moduleAt_46 : decode cX13_moduleAt 46 = .ok (.iload 5, 2) := dk_21 5 (dk_at dksX13_moduleAt_1 22 rfl rfl)
theorem dX13_moduleAt_48 : decode cX13_moduleAt 48 = .ok (.idiv, 1) := dk_108 (dk_at dksX13_moduleAt_2 0 rfl rfl)
theorem dX13_moduleAt_49 : decode cX13_moduleAt 49 = .ok (.imul, 1) := dk_104 (dk_at dksX13_moduleAt_2 1 rfl rfl)
theorem dX13_moduleAt_50 : decode cX13_moduleAt 50 = .ok (.iadd, 1) := dk_96 (dk_at dksX13_moduleAt_2 2 rfl rfl)
theorem dX13_moduleAt_51 : decode cX13_moduleAt 51 = .ok (.ireturn, 1) := dk_172 (dk_at dksX13_moduleAt_2 3 rfl rfl)
abbrev cX13_isFree : ByteArray := prog_16_method_17_code
def yX13_isFree : MethodName := ⟨RX13, "isFree", "(II)Z"⟩
def dkwX13_isFree_0 : List UInt8 := [42, 180, 0, 44, 42, 180, 0, 140, 27, 104, 28, 96, 46, 154, 0, 7, 4, 167, 0, 4, 3, 172]
abbrev dktX13_isFree_0 : List UInt8 := dkwX13_isFree_0 ++ []
theorem dksX13_isFree_0 : cX13_isFree.data.toList.drop 0 = dktX13_isFree_0 := by decide +kernel
theorem dX13_isFree_0 : decode cX13_isFree 0 = .ok (.aload_n 0, 1) := dk_42 (dk_at dksX13_isFree_0 0 rfl rfl)
theorem dX13_isFree_1 : decode cX13_isFree 1 = .ok (.getfield 44, 3) := dk_180 0 44 (dk_at dksX13_isFree_0 1 rfl rfl)
theorem dX13_isFree_4 : decode cX13_isFree 4 = .ok (.aload_n 0, 1) := dk_42 (dk_at dksX13_isFree_0 4 rfl rfl)
theorem dX13_isFree_5 : decode cX13_isFree 5 = .ok (.getfield 140, 3) := dk_180 0 140 (dk_at dksX13_isFree_0 5 rfl rfl)
theorem dX13_isFree_8 : decode cX13_isFree 8 = .ok (.iload_n 1, 1) := dk_27 (dk_at dksX13_isFree_0 8 rfl rfl)
theorem dX13_isFree_9 : decode cX13_isFree 9 = .ok (.imul, 1) := dk_104 (dk_at dksX13_isFree_0 9 rfl rfl)
theorem dX13_isFree_10 : decode cX13_isFree 10 = .ok (.iload_n 2, 1) := dk_28 (dk_at dksX13_isFree_0 10 rfl rfl)
theorem dX13_isFree_11 : decode cX13_isFree 11 = .ok (.iadd, 1) := dk_96 (dk_at dksX13_isFree_0 11 rfl rfl)
theorem dX13_isFree_12 : decode cX13_isFree 12 = .ok (.iaload, 1) := dk_46 (dk_at dksX13_isFree_0 12 rfl rfl)
theorem dX13_isFree_13 : decode cX13_isFree 13 = .ok (.ifCond .ne 7, 3) := dk_154 0 7 (dk_at dksX13_isFree_0 13 rfl rfl)
theorem dX13_isFree_16 : decode cX13_isFree 16 = .ok (.iconst 1, 1) := dk_4 (dk_at dksX13_isFree_0 16 rfl rfl)
theorem dX13_isFree_17 : decode cX13_isFree 17 = .ok (.goto 4, 3) := dk_167 0 4 (dk_at dksX13_isFree_0 17 rfl rfl)
theorem dX13_isFree_20 : decode cX13_isFree 20 = .ok (.iconst 0, 1) := dk_3 (dk_at dksX13_isFree_0 20 rfl rfl)
theorem dX13_isFree_21 : decode cX13_isFree 21 = .ok (.ireturn, 1) := dk_172 (dk_at dksX13_isFree_0 21 rfl rfl)
abbrev cX13_utah : ByteArray := prog_16_method_15_code
def yX13_utah : MethodName := ⟨RX13, "utah", "(II)V"⟩
def dkwX13_utah_3 : List UInt8 := [42, 27, 28, 16, 7, 182, 0, 154, 42, 89, 180, 0, 143, 4, 96, 181, 0, 143, 177]
abbrev dktX13_utah_3 : List UInt8 := dkwX13_utah_3 ++ []
def dkwX13_utah_2 : List UInt8 := [28, 7, 182, 0, 154, 42, 27, 28, 5, 100, 8, 182, 0, 154, 42, 27, 28, 4, 100, 16, 6, 182, 0, 154]
abbrev dktX13_utah_2 : List UInt8 := dkwX13_utah_2 ++ dktX13_utah_3
def dkwX13_utah_1 : List UInt8 := [4, 100, 28, 5, 100, 5, 182, 0, 154, 42, 27, 4, 100, 28, 4, 100, 6, 182, 0, 154, 42, 27, 4, 100]
abbrev dktX13_utah_1 : List UInt8 := dkwX13_utah_1 ++ dktX13_utah_2
def dkwX13_utah_0 : List UInt8 := [42, 27, 5, 100, 28, 5, 100, 3, 182, 0, 154, 42, 27, 5, 100, 28, 4, 100, 4, 182, 0, 154, 42, 27]
abbrev dktX13_utah_0 : List UInt8 := dkwX13_utah_0 ++ dktX13_utah_1
theorem dksX13_utah_0 : cX13_utah.data.toList.drop 0 = dktX13_utah_0 := by decide +kernel
theorem dksX13_utah_1 : cX13_utah.data.toList.drop 24 = dktX13_utah_1 := dk_seg dksX13_utah_0 24 rfl rfl
theorem dksX13_utah_2 : cX13_utah.data.toList.drop 48 = dktX13_utah_2 := dk_seg dksX13_utah_1 24 rfl rfl
theorem dksX13_utah_3 : cX13_utah.data.toList.drop 72 = dktX13_utah_3 := dk_seg dksX13_utah_2 24 rfl rfl
theorem dX13_utah_0 : decode cX13_utah 0 = .ok (.aload_n 0, 1) := dk_42 (dk_at dksX13_utah_0 0 rfl rfl)
theorem dX13_utah_1 : decode cX13_utah 1 = .ok (.iload_n 1, 1) := dk_27 (dk_at dksX13_utah_0 1 rfl rfl)
theorem dX13_utah_2 : decode cX13_utah 2 = .ok (.iconst 2, 1) := dk_5 (dk_at dksX13_utah_0 2 rfl rfl)
theorem dX13_utah_3 : decode cX13_utah 3 = .ok (.isub, 1) := dk_100 (dk_at dksX13_utah_0 3 rfl rfl)
theorem dX13_utah_4 : decode cX13_utah 4 = .ok (.iload_n 2, 1) := dk_28 (dk_at dksX13_utah_0 4 rfl rfl)
theorem dX13_utah_5 : decode cX13_utah 5 = .ok (.iconst 2, 1) := dk_5 (dk_at dksX13_utah_0 5 rfl rfl)
theorem dX13_utah_6 : decode cX13_utah 6 = .ok (.isub, 1) := dk_100 (dk_at dksX13_utah_0 6 rfl rfl)
theorem dX13_utah_7 : decode cX13_utah 7 = .ok (.iconst 0, 1) := dk_3 (dk_at dksX13_utah_0 7 rfl rfl)
theorem dX13_utah_8 : decode cX13_utah 8 = .ok (.invokevirtual 154, 3) := dk_182 0 154 (dk_at dksX13_utah_0 8 rfl rfl)
theorem dX13_utah_11 : decode cX13_utah 11 = .ok (.aload_n 0, 1) := dk_42 (dk_at dksX13_utah_0 11 rfl rfl)
theorem dX13_utah_12 : decode cX13_utah 12 = .ok (.iload_n 1, 1) := dk_27 (dk_at dksX13_utah_0 12 rfl rfl)
theorem dX13_utah_13 : decode cX13_utah 13 = .ok (.iconst 2, 1) := dk_5 (dk_at dksX13_utah_0 13 rfl rfl)
theorem dX13_utah_14 : decode cX13_utah 14 = .ok (.isub, 1) := dk_100 (dk_at dksX13_utah_0 14 rfl rfl)
theorem dX13_utah_15 : decode cX13_utah 15 = .ok (.iload_n 2, 1) := dk_28 (dk_at dksX13_utah_0 15 rfl rfl)
theorem dX13_utah_16 : decode cX13_utah 16 = .ok (.iconst 1, 1) := dk_4 (dk_at dksX13_utah_0 16 rfl rfl)
theorem dX13_utah_17 : decode cX13_utah 17 = .ok (.isub, 1) := dk_100 (dk_at dksX13_utah_0 17 rfl rfl)
theorem dX13_utah_18 : decode cX13_utah 18 = .ok (.iconst 1, 1) := dk_4 (dk_at dksX13_utah_0 18 rfl rfl)
theorem dX13_utah_19 : decode cX13_utah 19 = .ok (.invokevirtual 154, 3) := dk_182 0 154 (dk_at dksX13_utah_0 19 rfl rfl)
theorem dX13_utah_22 : decode cX13_utah 22 = .ok (.aload_n 0, 1) := dk_42 (dk_at dksX13_utah_0 22 rfl rfl)
theorem dX13_utah_23 : decode cX13_utah 23 = .ok (.iload_n 1, 1) := dk_27 (dk_at dksX13_utah_0 23 rfl rfl)
theorem dX13_utah_24 : decode cX13_utah 24 = .ok (.iconst 1, 1) := dk_4 (dk_at dksX13_utah_1 0 rfl rfl)
theorem dX13_utah_25 : decode cX13_utah 25 = .ok (.isub, 1) := dk_100 (dk_at dksX13_utah_1 1 rfl rfl)
theorem dX13_utah_26 : decode cX13_utah 26 = .ok (.iload_n 2, 1) := dk_28 (dk_at dksX13_utah_1 2 rfl rfl)
theorem dX13_utah_27 : decode cX13_utah 27 = .ok (.iconst 2, 1) := dk_5 (dk_at dksX13_utah_1 3 rfl rfl)
theorem dX13_utah_28 : decode cX13_utah 28 = .ok (.isub, 1) := dk_100 (dk_at dksX13_utah_1 4 rfl rfl)
theorem dX13_utah_29 : decode cX13_utah 29 = .ok (.iconst 2, 1) := dk_5 (dk_at dksX13_utah_1 5 rfl rfl)
theorem dX13_utah_30 : decode cX13_utah 30 = .ok (.invokevirtual 154, 3) := dk_182 0 154 (dk_at dksX13_utah_1 6 rfl rfl)
theorem dX13_utah_33 : decode cX13_utah 33 = .ok (.aload_n 0, 1) := dk_42 (dk_at dksX13_utah_1 9 rfl rfl)
theorem dX13_utah_34 : decode cX13_utah 34 = .ok (.iload_n 1, 1) := dk_27 (dk_at dksX13_utah_1 10 rfl rfl)
theorem dX13_utah_35 : decode cX13_utah 35 = .ok (.iconst 1, 1) := dk_4 (dk_at dksX13_utah_1 11 rfl rfl)
theorem dX13_utah_36 : decode cX13_utah 36 = .ok (.isub, 1) := dk_100 (dk_at dksX13_utah_1 12 rfl rfl)
theorem dX13_utah_37 : decode cX13_utah 37 = .ok (.iload_n 2, 1) := dk_28 (dk_at dksX13_utah_1 13 rfl rfl)
theorem dX13_utah_38 : decode cX13_utah 38 = .ok (.iconst 1, 1) := dk_4 (dk_at dksX13_utah_1 14 rfl rfl)
theorem dX13_utah_39 : decode cX13_utah 39 = .ok (.isub, 1) := dk_100 (dk_at dksX13_utah_1 15 rfl rfl)
theorem dX13_utah_40 : decode cX13_utah 40 = .ok (.iconst 3, 1) := dk_6 (dk_at dksX13_utah_1 16 rfl rfl)
theorem dX13_utah_41 : decode cX13_utah 41 = .ok (.invokevirtual 154, 3) := dk_182 0 154 (dk_at dksX13_utah_1 17 rfl rfl)
theorem dX13_utah_44 : decode cX13_utah 44 = .ok (.aload_n 0, 1) := dk_42 (dk_at dksX13_utah_1 20 rfl rfl)
theorem dX13_utah_45 : decode cX13_utah 45 = .ok (.iload_n 1, 1) := dk_27 (dk_at dksX13_utah_1 21 rfl rfl)
theorem dX13_utah_46 : decode cX13_utah 46 = .ok (.iconst 1, 1) := dk_4 (dk_at dksX13_utah_1 22 rfl rfl)
theorem dX13_utah_47 : decode cX13_utah 47 = .ok (.isub, 1) := dk_100 (dk_at dksX13_utah_1 23 rfl rfl)
theorem dX13_utah_48 : decode cX13_utah 48 = .ok (.iload_n 2, 1) := dk_28 (dk_at dksX13_utah_2 0 rfl rfl)
theorem dX13_utah_49 : decode cX13_utah 49 = .ok (.iconst 4, 1) := dk_7 (dk_at dksX13_utah_2 1 rfl rfl)
theorem dX13_utah_50 : decode cX13_utah 50 = .ok (.invokevirtual 154, 3) := dk_182 0 154 (dk_at dksX13_utah_2 2 rfl rfl)
theorem dX13_utah_53 : decode cX13_utah 53 = .ok (.aload_n 0, 1) := dk_42 (dk_at dksX13_utah_2 5 rfl rfl)
theorem dX13_utah_54 : decode cX13_utah 54 = .ok (.iload_n 1, 1) := dk_27 (dk_at dksX13_utah_2 6 rfl rfl)
theorem dX13_utah_55 : decode cX13_utah 55 = .ok (.iload_n 2, 1) := dk_28 (dk_at dksX13_utah_2 7 rfl rfl)
theorem dX13_utah_56 : decode cX13_utah 56 = .ok (.iconst 2, 1) := dk_5 (dk_at dksX13_utah_2 8 rfl rfl)
theorem dX13_utah_57 : decode cX13_utah 57 = .ok (.isub, 1) := dk_100 (dk_at dksX13_utah_2 9 rfl rfl)
theorem dX13_utah_58 : decode cX13_utah 58 = .ok (.iconst 5, 1) := dk_8 (dk_at dksX13_utah_2 10 rfl rfl)
theorem dX13_utah_59 : decode cX13_utah 59 = .ok (.invokevirtual 154, 3) := dk_182 0 154 (dk_at dksX13_utah_2 11 rfl rfl)
theorem dX13_utah_62 : decode cX13_utah 62 = .ok (.aload_n 0, 1) := dk_42 (dk_at dksX13_utah_2 14 rfl rfl)
theorem dX13_utah_63 : decode cX13_utah 63 = .ok (.iload_n 1, 1) := dk_27 (dk_at dksX13_utah_2 15 rfl rfl)
theorem dX13_utah_64 : decode cX13_utah 64 = .ok (.iload_n 2, 1) := dk_28 (dk_at dksX13_utah_2 16 rfl rfl)
theorem dX13_utah_65 : decode cX13_utah 65 = .ok (.iconst 1, 1) := dk_4 (dk_at dksX13_utah_2 17 rfl rfl)
theorem dX13_utah_66 : decode cX13_utah 66 = .ok (.isub, 1) := dk_100 (dk_at dksX13_utah_2 18 rfl rfl)
theorem dX13_utah_67 : decode cX13_utah 67 = .ok (.bipush 6, 2) := dk_16 6 (dk_at dksX13_utah_2 19 rfl rfl)
theorem dX13_utah_69 : decode cX13_utah 69 = .ok (.invokevirtual 154, 3) := dk_182 0 154 (dk_at dksX13_utah_2 21 rfl rfl)
theorem dX13_utah_72 : decode cX13_utah 72 = .ok (.aload_n 0, 1) := dk_42 (dk_at dksX13_utah_3 0 rfl rfl)
theorem dX13_utah_73 : decode cX13_utah 73 = .ok (.iload_n 1, 1) := dk_27 (dk_at dksX13_utah_3 1 rfl rfl)
theorem dX13_utah_74 : decode cX13_utah 74 = .ok (.iload_n 2, 1) := dk_28 (dk_at dksX13_utah_3 2 rfl rfl)
theorem dX13_utah_75 : decode cX13_utah 75 = .ok (.bipush 7, 2) := dk_16 7 (dk_at dksX13_utah_3 3 rfl rfl)
theorem dX13_utah_77 : decode cX13_utah 77 = .ok (.invokevirtual 154, 3) := dk_182 0 154 (dk_at dksX13_utah_3 5 rfl rfl)
theorem dX13_utah_80 : decode cX13_utah 80 = .ok (.aload_n 0, 1) := dk_42 (dk_at dksX13_utah_3 8 rfl rfl)
theorem dX13_utah_81 : decode cX13_utah 81 = .ok (.dup, 1) := dk_89 (dk_at dksX13_utah_3 9 rfl rfl)
theorem dX13_utah_82 : decode cX13_utah 82 = .ok (.getfield 143, 3) := dk_180 0 143 (dk_at dksX13_utah_3 10 rfl rfl)
theorem dX13_utah_85 : decode cX13_utah 85 = .ok (.iconst 1, 1) := dk_4 (dk_at dksX13_utah_3 13 rfl rfl)
theorem dX13_utah_86 : decode cX13_utah 86 = .ok (.iadd, 1) := dk_96 (dk_at dksX13_utah_3 14 rfl rfl)
theorem dX13_utah_87 : decode cX13_utah 87 = .ok (.putfield 143, 3) := dk_181 0 143 (dk_at dksX13_utah_3 15 rfl rfl)
theorem dX13_utah_90 : decode cX13_utah 90 = .ok (.return_, 1) := dk_177 (dk_at dksX13_utah_3 18 rfl rfl)
abbrev cX13_round : ByteArray := prog_16_method_14_code
def yX13_round : MethodName := ⟨RX13, "round", "(III)V"⟩
def dkwX13_round_3 : List UInt8 := [182, 0, 150, 177]
abbrev dktX13_round_3 : List UInt8 := dkwX13_round_3 ++ []
def dkwX13_round_2 : List UInt8 := [54, 5, 21, 4, 7, 42, 180, 0, 140, 7, 96, 16, 8, 112, 100, 96, 54, 4, 42, 21, 4, 21, 5, 29]
abbrev dktX13_round_2 : List UInt8 := dkwX13_round_2 ++ dktX13_round_3
def dkwX13_round_1 : List UInt8 := [180, 0, 137, 7, 96, 16, 8, 112, 100, 96, 54, 5, 21, 5, 156, 0, 28, 21, 5, 42, 180, 0, 140, 96]
abbrev dktX13_round_1 : List UInt8 := dkwX13_round_1 ++ dktX13_round_2
def dkwX13_round_0 : List UInt8 := [27, 54, 4, 28, 54, 5, 21, 4, 156, 0, 28, 21, 4, 42, 180, 0, 137, 96, 54, 4, 21, 5, 7, 42]
abbrev dktX13_round_0 : List UInt8 := dkwX13_round_0 ++ dktX13_round_1
theorem dksX13_round_0 : cX13_round.data.toList.drop 0 = dktX13_round_0 := by decide +kernel
theorem dksX13_round_1 : cX13_round.data.toList.drop 24 = dktX13_round_1 := dk_seg dksX13_round_0 24 rfl rfl
theorem dksX13_round_2 : cX13_round.data.toList.drop 48 = dktX13_round_2 := dk_seg dksX13_round_1 24 rfl rfl
theorem dksX13_round_3 : cX13_round.data.toList.drop 72 = dktX13_round_3 := dk_seg dksX13_round_2 24 rfl rfl
theorem dX13_round_0 : decode cX13_round 0 = .ok (.iload_n 1, 1) := dk_27 (dk_at dksX13_round_0 0 rfl rfl)
theorem dX13_round_1 : decode cX13_round 1 = .ok (.istore 4, 2) := dk_54 4 (dk_at dksX13_round_0 1 rfl rfl)
theorem dX13_round_3 : decode cX13_round 3 = .ok (.iload_n 2, 1) := dk_28 (dk_at dksX13_round_0 3 rfl rfl)
theorem dX13_round_4 : decode cX13_round 4 = .ok (.istore 5, 2) := dk_54 5 (dk_at dksX13_round_0 4 rfl rfl)
theorem dX13_round_6 : decode cX13_round 6 = .ok (.iload 4, 2) := dk_21 4 (dk_at dksX13_round_0 6 rfl rfl)
theorem dX13_round_8 : decode cX13_round 8 = .ok (.ifCond .ge 28, 3) := dk_156 0 28 (dk_at dksX13_round_0 8 rfl rfl)
theorem dX13_round_11 : decode cX13_round 11 = .ok (.iload 4, 2) := dk_21 4 (dk_at dksX13_round_0 11 rfl rfl)
theorem dX13_round_13 : decode cX13_round 13 = .ok (.aload_n 0, 1) := dk_42 (dk_at dksX13_round_0 13 rfl rfl)
theorem dX13_round_14 : decode cX13_round 14 = .ok (.getfield 137, 3) := dk_180 0 137 (dk_at dksX13_round_0 14 rfl rfl)
theorem dX13_round_17 : decode cX13_round 17 = .ok (.iadd, 1) := dk_96 (dk_at dksX13_round_0 17 rfl rfl)
theorem dX13_round_18 : decode cX13_round 18 = .ok (.istore 4, 2) := dk_54 4 (dk_at dksX13_round_0 18 rfl rfl)
theorem dX13_round_20 : decode cX13_round 20 = .ok (.iload 5, 2) := dk_21 5 (dk_at dksX13_round_0 20 rfl rfl)
theorem dX13_round_22 : decode cX13_round 22 = .ok (.iconst 4, 1) := dk_7 (dk_at dksX13_round_0 22 rfl rfl)
theorem dX13_round_23 : decode cX13_round 23 = .ok (.aload_n 0, 1) := dk_42 (dk_at dksX13_round_0 23 rfl rfl)
theorem dX13_round_24 : decode cX13_round 24 = .ok (.getfield 137, 3) := dk_180 0 137 (dk_at dksX13_round_1 0 rfl rfl)
theorem dX13_round_27 : decode cX13_round 27 = .ok (.iconst 4, 1) := dk_7 (dk_at dksX13_round_1 3 rfl rfl)
theorem dX13_round_28 : decode cX13_round 28 = .ok (.iadd, 1) := dk_96 (dk_at dksX13_round_1 4 rfl rfl)
theorem dX13_round_29 : decode cX13_round 29 = .ok (.bipush 8, 2) := dk_16 8 (dk_at dksX13_round_1 5 rfl rfl)
theorem dX13_round_31 : decode cX13_round 31 = .ok (.irem, 1) := dk_112 (dk_at dksX13_round_1 7 rfl rfl)
theorem dX13_round_32 : decode cX13_round 32 = .ok (.isub, 1) := dk_100 (dk_at dksX13_round_1 8 rfl rfl)
theorem dX13_round_33 : decode cX13_round 33 = .ok (.iadd, 1) := dk_96 (dk_at dksX13_round_1 9 rfl rfl)
theorem dX13_round_34 : decode cX13_round 34 = .ok (.istore 5, 2) := dk_54 5 (dk_at dksX13_round_1 10 rfl rfl)
theorem dX13_round_36 : decode cX13_round 36 = .ok (.iload 5, 2) := dk_21 5 (dk_at dksX13_round_1 12 rfl rfl)
theorem dX13_round_38 : decode cX13_round 38 = .ok (.ifCond .ge 28, 3) := dk_156 0 28 (dk_at dksX13_round_1 14 rfl rfl)
theorem dX13_round_41 : decode cX13_round 41 = .ok (.iload 5, 2) := dk_21 5 (dk_at dksX13_round_1 17 rfl rfl)
theorem dX13_round_43 : decode cX13_round 43 = .ok (.aload_n 0, 1) := dk_42 (dk_at dksX13_round_1 19 rfl rfl)
theorem dX13_round_44 : decode cX13_round 44 = .ok (.getfield 140, 3) := dk_180 0 140 (dk_at dksX13_round_1 20 rfl rfl)
theorem dX13_round_47 : decode cX13_round 47 = .ok (.iadd, 1) := dk_96 (dk_at dksX13_round_1 23 rfl rfl)
theorem dX13_round_48 : decode cX13_round 48 = .ok (.istore 5, 2) := dk_54 5 (dk_at dksX13_round_2 0 rfl rfl)
theorem dX13_round_50 : decode cX13_round 50 = .ok (.iload 4, 2) := dk_21 4 (dk_at dksX13_round_2 2 rfl rfl)
theorem dX13_round_52 : decode cX13_round 52 = .ok (.iconst 4, 1) := dk_7 (dk_at dksX13_round_2 4 rfl rfl)
theorem dX13_round_53 : decode cX13_round 53 = .ok (.aload_n 0, 1) := dk_42 (dk_at dksX13_round_2 5 rfl rfl)
theorem dX13_round_54 : decode cX13_round 54 = .ok (.getfield 140, 3) := dk_180 0 140 (dk_at dksX13_round_2 6 rfl rfl)
theorem dX13_round_57 : decode cX13_round 57 = .ok (.iconst 4, 1) := dk_7 (dk_at dksX13_round_2 9 rfl rfl)
theorem dX13_round_58 : decode cX13_round 58 = .ok (.iadd, 1) := dk_96 (dk_at dksX13_round_2 10 rfl rfl)
theorem dX13_round_59 : decode cX13_round 59 = .ok (.bipush 8, 2) := dk_16 8 (dk_at dksX13_round_2 11 rfl rfl)
theorem dX13_round_61 : decode cX13_round 61 = .ok (.irem, 1) := dk_112 (dk_at dksX13_round_2 13 rfl rfl)
theorem dX13_round_62 : decode cX13_round 62 = .ok (.isub, 1) := dk_100 (dk_at dksX13_round_2 14 rfl rfl)
theorem dX13_round_63 : decode cX13_round 63 = .ok (.iadd, 1) := dk_96 (dk_at dksX13_round_2 15 rfl rfl)
theorem dX13_round_64 : decode cX13_round 64 = .ok (.istore 4, 2) := dk_54 4 (dk_at dksX13_round_2 16 rfl rfl)
theorem dX13_round_66 : decode cX13_round 66 = .ok (.aload_n 0, 1) := dk_42 (dk_at dksX13_round_2 18 rfl rfl)
theorem dX13_round_67 : decode cX13_round 67 = .ok (.iload 4, 2) := dk_21 4 (dk_at dksX13_round_2 19 rfl rfl)
theorem dX13_round_69 : decode cX13_round 69 = .ok (.iload 5, 2) := dk_21 5 (dk_at dksX13_round_2 21 rfl rfl)
theorem dX13_round_71 : decode cX13_round 71 = .ok (.iload_n 3, 1) := dk_29 (dk_at dksX13_round_2 23 rfl rfl)
theorem dX13_round_72 : decode cX13_round 72 = .ok (.invokevirtual 150, 3) := dk_182 0 150 (dk_at dksX13_round_3 0 rfl rfl)
theorem dX13_round_75 : decode cX13_round 75 = .ok (.return_, 1) := dk_177 (dk_at dksX13_round_3 3 rfl rfl)
abbrev cX13_read : ByteArray := prog_16_method_25_code
def yX13_read : MethodName := ⟨RX13, "read", "(I)I"⟩
def dkwX13_read_1 : List UInt8 := [104, 29, 96, 46, 51, 153, 0, 7, 4, 167, 0, 4, 3, 96, 61, 132, 3, 1, 167, 255, 218, 28, 172]
abbrev dktX13_read_1 : List UInt8 := dkwX13_read_1 ++ []
def dkwX13_read_0 : List UInt8 := [3, 61, 3, 62, 29, 16, 8, 162, 0, 38, 5, 28, 104, 42, 180, 0, 53, 42, 180, 0, 47, 16, 8, 27]
abbrev dktX13_read_0 : List UInt8 := dkwX13_read_0 ++ dktX13_read_1
theorem dksX13_read_0 : cX13_read.data.toList.drop 0 = dktX13_read_0 := by decide +kernel
theorem dksX13_read_1 : cX13_read.data.toList.drop 24 = dktX13_read_1 := dk_seg dksX13_read_0 24 rfl rfl
theorem dX13_read_0 : decode cX13_read 0 = .ok (.iconst 0, 1) := dk_3 (dk_at dksX13_read_0 0 rfl rfl)
theorem dX13_read_1 : decode cX13_read 1 = .ok (.istore_n 2, 1) := dk_61 (dk_at dksX13_read_0 1 rfl rfl)
theorem dX13_read_2 : decode cX13_read 2 = .ok (.iconst 0, 1) := dk_3 (dk_at dksX13_read_0 2 rfl rfl)
theorem dX13_read_3 : decode cX13_read 3 = .ok (.istore_n 3, 1) := dk_62 (dk_at dksX13_read_0 3 rfl rfl)
theorem dX13_read_4 : decode cX13_read 4 = .ok (.iload_n 3, 1) := dk_29 (dk_at dksX13_read_0 4 rfl rfl)
theorem dX13_read_5 : decode cX13_read 5 = .ok (.bipush 8, 2) := dk_16 8 (dk_at dksX13_read_0 5 rfl rfl)
theorem dX13_read_7 : decode cX13_read 7 = .ok (.if_icmp .ge 38, 3) := dk_162 0 38 (dk_at dksX13_read_0 7 rfl rfl)
theorem dX13_read_10 : decode cX13_read 10 = .ok (.iconst 2, 1) := dk_5 (dk_at dksX13_read_0 10 rfl rfl)
theorem dX13_read_11 : decode cX13_read 11 = .ok (.iload_n 2, 1) := dk_28 (dk_at dksX13_read_0 11 rfl rfl)
theorem dX13_read_12 : decode cX13_read 12 = .ok (.imul, 1) := dk_104 (dk_at dksX13_read_0 12 rfl rfl)
theorem dX13_read_13 : decode cX13_read 13 = .ok (.aload_n 0, 1) := dk_42 (dk_at dksX13_read_0 13 rfl rfl)
theorem dX13_read_14 : decode cX13_read 14 = .ok (.getfield 53, 3) := dk_180 0 53 (dk_at dksX13_read_0 14 rfl rfl)
theorem dX13_read_17 : decode cX13_read 17 = .ok (.aload_n 0, 1) := dk_42 (dk_at dksX13_read_0 17 rfl rfl)
theorem dX13_read_18 : decode cX13_read 18 = .ok (.getfield 47, 3) := dk_180 0 47 (dk_at dksX13_read_0 18 rfl rfl)
theorem dX13_read_21 : decode cX13_read 21 = .ok (.bipush 8, 2) := dk_16 8 (dk_at dksX13_read_0 21 rfl rfl)
theorem dX13_read_23 : decode cX13_read 23 = .ok (.iload_n 1, 1) := dk_27 (dk_at dksX13_read_0 23 rfl rfl)
theorem dX13_read_24 : decode cX13_read 24 = .ok (.imul, 1) := dk_104 (dk_at dksX13_read_1 0 rfl rfl)
theorem dX13_read_25 : decode cX13_read 25 = .ok (.iload_n 3, 1) := dk_29 (dk_at dksX13_read_1 1 rfl rfl)
theorem dX13_read_26 : decode cX13_read 26 = .ok (.iadd, 1) := dk_96 (dk_at dksX13_read_1 2 rfl rfl)
theorem dX13_read_27 : decode cX13_read 27 = .ok (.iaload, 1) := dk_46 (dk_at dksX13_read_1 3 rfl rfl)
theorem dX13_read_28 : decode cX13_read 28 = .ok (.baload, 1) := dk_51 (dk_at dksX13_read_1 4 rfl rfl)
theorem dX13_read_29 : decode cX13_read 29 = .ok (.ifCond .eq 7, 3) := dk_153 0 7 (dk_at dksX13_read_1 5 rfl rfl)
theorem dX13_read_32 : decode cX13_read 32 = .ok (.iconst 1, 1) := dk_4 (dk_at dksX13_read_1 8 rfl rfl)
theorem dX13_read_33 : decode cX13_read 33 = .ok (.goto 4, 3) := dk_167 0 4 (dk_at dksX13_read_1 9 rfl rfl)
theorem dX13_read_36 : decode cX13_read 36 = .ok (.iconst 0, 1) := dk_3 (dk_at dksX13_read_1 12 rfl rfl)
theorem dX13_read_37 : decode cX13_read 37 = .ok (.iadd, 1) := dk_96 (dk_at dksX13_read_1 13 rfl rfl)
theorem dX13_read_38 : decode cX13_read 38 = .ok (.istore_n 2, 1) := dk_61 (dk_at dksX13_read_1 14 rfl rfl)
theorem dX13_read_39 : decode cX13_read 39 = .ok (.iinc 3 1, 3) := dk_132 3 1 (dk_at dksX13_read_1 15 rfl rfl)
theorem dX13_read_42 : decode cX13_read 42 = .ok (.goto (-38), 3) := dk_167 255 218 (dk_at dksX13_read_1 18 rfl rfl)
theorem dX13_read_45 : decode cX13_read 45 = .ok (.iload_n 2, 1) := dk_28 (dk_at dksX13_read_1 21 rfl rfl)
theorem dX13_read_46 : decode cX13_read 46 = .ok (.ireturn, 1) := dk_172 (dk_at dksX13_read_1 22 rfl rfl)
abbrev cX13_set : ByteArray := prog_16_method_28_code
def yX13_set : MethodName := ⟨RX13, "set", "(II)Z"⟩
def dkwX13_set_1 : List UInt8 := [27, 28, 17, 0, 255, 126, 182, 0, 195, 4, 172]
abbrev dktX13_set_1 : List UInt8 := dkwX13_set_1 ++ []
def dkwX13_set_0 : List UInt8 := [42, 3, 181, 0, 1, 42, 27, 182, 0, 185, 154, 0, 5, 3, 172, 42, 42, 180, 0, 50, 182, 0, 188, 42]
abbrev dktX13_set_0 : List UInt8 := dkwX13_set_0 ++ dktX13_set_1
theorem dksX13_set_0 : cX13_set.data.toList.drop 0 = dktX13_set_0 := by decide +kernel
theorem dksX13_set_1 : cX13_set.data.toList.drop 24 = dktX13_set_1 := dk_seg dksX13_set_0 24 rfl rfl
theorem dX13_set_0 : decode cX13_set 0 = .ok (.aload_n 0, 1) := dk_42 (dk_at dksX13_set_0 0 rfl rfl)
theorem dX13_set_1 : decode cX13_set 1 = .ok (.iconst 0, 1) := dk_3 (dk_at dksX13_set_0 1 rfl rfl)
theorem dX13_set_2 : decode cX13_set 2 = .ok (.putfield 1, 3) := dk_181 0 1 (dk_at dksX13_set_0 2 rfl rfl)
theorem dX13_set_5 : decode cX13_set 5 = .ok (.aload_n 0, 1) := dk_42 (dk_at dksX13_set_0 5 rfl rfl)
theorem dX13_set_6 : decode cX13_set 6 = .ok (.iload_n 1, 1) := dk_27 (dk_at dksX13_set_0 6 rfl rfl)
theorem dX13_set_7 : decode cX13_set 7 = .ok (.invokevirtual 185, 3) := dk_182 0 185 (dk_at dksX13_set_0 7 rfl rfl)
theorem dX13_set_10 : decode cX13_set 10 = .ok (.ifCond .ne 5, 3) := dk_154 0 5 (dk_at dksX13_set_0 10 rfl rfl)
theorem dX13_set_13 : decode cX13_set 13 = .ok (.iconst 0, 1) := dk_3 (dk_at dksX13_set_0 13 rfl rfl)
theorem dX13_set_14 : decode cX13_set 14 = .ok (.ireturn, 1) := dk_172 (dk_at dksX13_set_0 14 rfl rfl)
theorem dX13_set_15 : decode cX13_set 15 = .ok (.aload_n 0, 1) := dk_42 (dk_at dksX13_set_0 15 rfl rfl)
theorem dX13_set_16 : decode cX13_set 16 = .ok (.aload_n 0, 1) := dk_42 (dk_at dksX13_set_0 16 rfl rfl)
theorem dX13_set_17 : decode cX13_set 17 = .ok (.getfield 50, 3) := dk_180 0 50 (dk_at dksX13_set_0 17 rfl rfl)
theorem dX13_set_20 : decode cX13_set 20 = .ok (.invokevirtual 188, 3) := dk_182 0 188 (dk_at dksX13_set_0 20 rfl rfl)
theorem dX13_set_23 : decode cX13_set 23 = .ok (.aload_n 0, 1) := dk_42 (dk_at dksX13_set_0 23 rfl rfl)
theorem dX13_set_24 : decode cX13_set 24 = .ok (.iload_n 1, 1) := dk_27 (dk_at dksX13_set_1 0 rfl rfl)
theorem dX13_set_25 : decode cX13_set 25 = .ok (.iload_n 2, 1) := dk_28 (dk_at dksX13_set_1 1 rfl rfl)
theorem dX13_set_26 : decode cX13_set 26 = .ok (.sipush 255, 3) := dk_17 0 255 (dk_at dksX13_set_1 2 rfl rfl)
theorem dX13_set_29 : decode cX13_set 29 = .ok (.iand, 1) := dk_126 (dk_at dksX13_set_1 5 rfl rfl)
theorem dX13_set_30 : decode cX13_set 30 = .ok (.invokevirtual 195, 3) := dk_182 0 195 (dk_at dksX13_set_1 6 rfl rfl)
theorem dX13_set_33 : decode cX13_set 33 = .ok (.iconst 1, 1) := dk_4 (dk_at dksX13_set_1 9 rfl rfl)
theorem dX13_set_34 : decode cX13_set 34 = .ok (.ireturn, 1) := dk_172 (dk_at dksX13_set_1 10 rfl rfl)
abbrev cX13_write : ByteArray := prog_16_method_26_code
def yX13_write : MethodName := ⟨RX13, "write", "(II)V"⟩
def dkwX13_write_1 : List UInt8 := [16, 7, 29, 100, 122, 4, 126, 4, 160, 0, 7, 4, 167, 0, 4, 3, 84, 132, 3, 1, 167, 255, 214, 177]
abbrev dktX13_write_1 : List UInt8 := dkwX13_write_1 ++ []
def dkwX13_write_0 : List UInt8 := [3, 62, 29, 16, 8, 162, 0, 42, 42, 180, 0, 53, 42, 180, 0, 47, 16, 8, 27, 104, 29, 96, 46, 28]
abbrev dktX13_write_0 : List UInt8 := dkwX13_write_0 ++ dktX13_write_1
theorem dksX13_write_0 : cX13_write.data.toList.drop 0 = dktX13_write_0 := by decide +kernel
theorem dksX13_write_1 : cX13_write.data.toList.drop 24 = dktX13_write_1 := dk_seg dksX13_write_0 24 rfl rfl
theorem dX13_write_0 : decode cX13_write 0 = .ok (.iconst 0, 1) := dk_3 (dk_at dksX13_write_0 0 rfl rfl)
theorem dX13_write_1 : decode cX13_write 1 = .ok (.istore_n 3, 1) := dk_62 (dk_at dksX13_write_0 1 rfl rfl)
theorem dX13_write_2 : decode cX13_write 2 = .ok (.iload_n 3, 1) := dk_29 (dk_at dksX13_write_0 2 rfl rfl)
theorem dX13_write_3 : decode cX13_write 3 = .ok (.bipush 8, 2) := dk_16 8 (dk_at dksX13_write_0 3 rfl rfl)
theorem dX13_write_5 : decode cX13_write 5 = .ok (.if_icmp .ge 42, 3) := dk_162 0 42 (dk_at dksX13_write_0 5 rfl rfl)
theorem dX13_write_8 : decode cX13_write 8 = .ok (.aload_n 0, 1) := dk_42 (dk_at dksX13_write_0 8 rfl rfl)
theorem dX13_write_9 : decode cX13_write 9 = .ok (.getfield 53, 3) := dk_180 0 53 (dk_at dksX13_write_0 9 rfl rfl)
theorem dX13_write_12 : decode cX13_write 12 = .ok (.aload_n 0, 1) := dk_42 (dk_at dksX13_write_0 12 rfl rfl)
theorem dX13_write_13 : decode cX13_write 13 = .ok (.getfield 47, 3) := dk_180 0 47 (dk_at dksX13_write_0 13 rfl rfl)
theorem dX13_write_16 : decode cX13_write 16 = .ok (.bipush 8, 2) := dk_16 8 (dk_at dksX13_write_0 16 rfl rfl)
theorem dX13_write_18 : decode cX13_write 18 = .ok (.iload_n 1, 1) := dk_27 (dk_at dksX13_write_0 18 rfl rfl)
theorem dX13_write_19 : decode cX13_write 19 = .ok (.imul, 1) := dk_104 (dk_at dksX13_write_0 19 rfl rfl)
theorem dX13_write_20 : decode cX13_write 20 = .ok (.iload_n 3, 1) := dk_29 (dk_at dksX13_write_0 20 rfl rfl)
theorem dX13_write_21 : decode cX13_write 21 = .ok (.iadd, 1) := dk_96 (dk_at dksX13_write_0 21 rfl rfl)
theorem dX13_write_22 : decode cX13_write 22 = .ok (.iaload, 1) := dk_46 (dk_at dksX13_write_0 22 rfl rfl)
theorem dX13_write_23 : decode cX13_write 23 = .ok (.iload_n 2, 1) := dk_28 (dk_at dksX13_write_0 23 rfl rfl)
theorem dX13_write_24 : decode cX13_write 24 = .ok (.bipush 7, 2) := dk_16 7 (dk_at dksX13_write_1 0 rfl rfl)
theorem dX13_write_26 : decode cX13_write 26 = .ok (.iload_n 3, 1) := dk_29 (dk_at dksX13_write_1 2 rfl rfl)
theorem dX13_write_27 : decode cX13_write 27 = .ok (.isub, 1) := dk_100 (dk_at dksX13_write_1 3 rfl rfl)
theorem dX13_write_28 : decode cX13_write 28 = .ok (.ishr, 1) := dk_122 (dk_at dksX13_write_1 4 rfl rfl)
theorem dX13_write_29 : decode cX13_write 29 = .ok (.iconst 1, 1) := dk_4 (dk_at dksX13_write_1 5 rfl rfl)
theorem dX13_write_30 : decode cX13_write 30 = .ok (.iand, 1) := dk_126 (dk_at dksX13_write_1 6 rfl rfl)
theorem dX13_write_31 : decode cX13_write 31 = .ok (.iconst 1, 1) := dk_4 (dk_at dksX13_write_1 7 rfl rfl)
theorem dX13_write_32 : decode cX13_write 32 = .ok (.if_icmp .ne 7, 3) := dk_160 0 7 (dk_at dksX13_write_1 8 rfl rfl)
theorem dX13_write_35 : decode cX13_write 35 = .ok (.iconst 1, 1) := dk_4 (dk_at dksX13_write_1 11 rfl rfl)
theorem dX13_write_36 : decode cX13_write 36 = .ok (.goto 4, 3) := dk_167 0 4 (dk_at dksX13_write_1 12 rfl rfl)
theorem dX13_write_39 : decode cX13_write 39 = .ok (.iconst 0, 1) := dk_3 (dk_at dksX13_write_1 15 rfl rfl)
theorem dX13_write_40 : decode cX13_write 40 = .ok (.bastore, 1) := dk_84 (dk_at dksX13_write_1 16 rfl rfl)
theorem dX13_write_41 : decode cX13_write 41 = .ok (.iinc 3 1, 3) := dk_132 3 1 (dk_at dksX13_write_1 17 rfl rfl)
theorem dX13_write_44 : decode cX13_write 44 = .ok (.goto (-42), 3) := dk_167 255 214 (dk_at dksX13_write_1 20 rfl rfl)
theorem dX13_write_47 : decode cX13_write 47 = .ok (.return_, 1) := dk_177 (dk_at dksX13_write_1 23 rfl rfl)
abbrev cX13_load : ByteArray := prog_16_method_29_code
def yX13_load : MethodName := ⟨RX13, "load", "(I)Z"⟩
def dkwX13_load_5 : List UInt8 := [84, 132, 2, 1, 132, 4, 1, 167, 255, 198, 132, 3, 1, 167, 255, 179, 4, 172]
abbrev dktX13_load_5 : List UInt8 := dkwX13_load_5 ++ []
def dkwX13_load_4 : List UInt8 := [28, 16, 8, 108, 46, 16, 7, 28, 16, 8, 112, 100, 122, 4, 126, 4, 160, 0, 7, 4, 167, 0, 4, 3]
abbrev dktX13_load_4 : List UInt8 := dkwX13_load_4 ++ dktX13_load_5
def dkwX13_load_3 : List UInt8 := [180, 0, 17, 27, 46, 162, 0, 53, 42, 180, 0, 53, 17, 0, 144, 29, 104, 21, 4, 96, 42, 180, 0, 38]
abbrev dktX13_load_3 : List UInt8 := dkwX13_load_3 ++ dktX13_load_4
def dkwX13_load_2 : List UInt8 := [181, 0, 50, 3, 61, 3, 62, 29, 42, 180, 0, 13, 27, 46, 162, 0, 73, 3, 54, 4, 21, 4, 42]
abbrev dktX13_load_2 : List UInt8 := dkwX13_load_2 ++ dktX13_load_3
def dkwX13_load_1 : List UInt8 := [27, 46, 42, 180, 0, 17, 27, 46, 104, 16, 7, 96, 16, 8, 108, 159, 0, 5, 3, 172, 42, 27]
abbrev dktX13_load_1 : List UInt8 := dkwX13_load_1 ++ dktX13_load_2
def dkwX13_load_0 : List UInt8 := [42, 3, 181, 0, 1, 42, 182, 0, 198, 27, 184, 0, 124, 153, 0, 29, 42, 180, 0, 134, 42, 180, 0, 13]
abbrev dktX13_load_0 : List UInt8 := dkwX13_load_0 ++ dktX13_load_1
theorem dksX13_load_0 : cX13_load.data.toList.drop 0 = dktX13_load_0 := by decide +kernel
theorem dksX13_load_1 : cX13_load.data.toList.drop 24 = dktX13_load_1 := dk_seg dksX13_load_0 24 rfl rfl
theorem dksX13_load_2 : cX13_load.data.toList.drop 46 = dktX13_load_2 := dk_seg dksX13_load_1 22 rfl rfl
theorem dksX13_load_3 : cX13_load.data.toList.drop 69 = dktX13_load_3 := dk_seg dksX13_load_2 23 rfl rfl
theorem dksX13_load_4 : cX13_load.data.toList.drop 93 = dktX13_load_4 := dk_seg dksX13_load_3 24 rfl rfl
theorem dksX13_load_5 : cX13_load.data.toList.drop 117 = dktX13_load_5 := dk_seg dksX13_load_4 24 rfl rfl
theorem dX13_load_0 : decode cX13_load 0 = .ok (.aload_n 0, 1) := dk_42 (dk_at dksX13_load_0 0 rfl rfl)
theorem dX13_load_1 : decode cX13_load 1 = .ok (.iconst 0, 1) := dk_3 (dk_at dksX13_load_0 1 rfl rfl)
theorem dX13_load_2 : decode cX13_load 2 = .ok (.putfield 1, 3) := dk_181 0 1 (dk_at dksX13_load_0 2 rfl rfl)
theorem dX13_load_5 : decode cX13_load 5 = .ok (.aload_n 0, 1) := dk_42 (dk_at dksX13_load_0 5 rfl rfl)
theorem dX13_load_6 : decode cX13_load 6 = .ok (.invokevirtual 198, 3) := dk_182 0 198 (dk_at dksX13_load_0 6 rfl rfl)
theorem dX13_load_9 : decode cX13_load 9 = .ok (.iload_n 1, 1) := dk_27 (dk_at dksX13_load_0 9 rfl rfl)
theorem dX13_load_10 : decode cX13_load 10 = .ok (.invokestatic 124, 3) := dk_184 0 124 (dk_at dksX13_load_0 10 rfl rfl)
theorem dX13_load_13 : decode cX13_load 13 = .ok (.ifCond .eq 29, 3) := dk_153 0 29 (dk_at dksX13_load_0 13 rfl rfl)
theorem dX13_load_16 : decode cX13_load 16 = .ok (.aload_n 0, 1) := dk_42 (dk_at dksX13_load_0 16 rfl rfl)
theorem dX13_load_17 : decode cX13_load 17 = .ok (.getfield 134, 3) := dk_180 0 134 (dk_at dksX13_load_0 17 rfl rfl)
theorem dX13_load_20 : decode cX13_load 20 = .ok (.aload_n 0, 1) := dk_42 (dk_at dksX13_load_0 20 rfl rfl)
theorem dX13_load_21 : decode cX13_load 21 = .ok (.getfield 13, 3) := dk_180 0 13 (dk_at dksX13_load_0 21 rfl rfl)
theorem dX13_load_24 : decode cX13_load 24 = .ok (.iload_n 1, 1) := dk_27 (dk_at dksX13_load_1 0 rfl rfl)
theorem dX13_load_25 : decode cX13_load 25 = .ok (.iaload, 1) := dk_46 (dk_at dksX13_load_1 1 rfl rfl)
theorem dX13_load_26 : decode cX13_load 26 = .ok (.aload_n 0, 1) := dk_42 (dk_at dksX13_load_1 2 rfl rfl)
theorem dX13_load_27 : decode cX13_load 27 = .ok (.getfield 17, 3) := dk_180 0 17 (dk_at dksX13_load_1 3 rfl rfl)
theorem dX13_load_30 : decode cX13_load 30 = .ok (.iload_n 1, 1) := dk_27 (dk_at dksX13_load_1 6 rfl rfl)
theorem dX13_load_31 : decode cX13_load 31 = .ok (.iaload, 1) := dk_46 (dk_at dksX13_load_1 7 rfl rfl)
theorem dX13_load_32 : decode cX13_load 32 = .ok (.imul, 1) := dk_104 (dk_at dksX13_load_1 8 rfl rfl)
theorem dX13_load_33 : decode cX13_load 33 = .ok (.bipush 7, 2) := dk_16 7 (dk_at dksX13_load_1 9 rfl rfl)
theorem dX13_load_35 : decode cX13_load 35 = .ok (.iadd, 1) := dk_96 (dk_at dksX13_load_1 11 rfl rfl)
theorem dX13_load_36 : decode cX13_load 36 = .ok (.bipush 8, 2) := dk_16 8 (dk_at dksX13_load_1 12 rfl rfl)
theorem dX13_load_38 : decode cX13_load 38 = .ok (.idiv, 1) := dk_108 (dk_at dksX13_load_1 14 rfl rfl)
theorem dX13_load_39 : decode cX13_load 39 = .ok (.if_icmp .eq 5, 3) := dk_159 0 5 (dk_at dksX13_load_1 15 rfl rfl)
theorem dX13_load_42 : decode cX13_load 42 = .ok (.iconst 0, 1) := dk_3 (dk_at dksX13_load_1 18 rfl rfl)
theorem dX13_load_43 : decode cX13_load 43 = .ok (.ireturn, 1) := dk_172 (dk_at dksX13_load_1 19 rfl rfl)
theorem dX13_load_44 : decode cX13_load 44 = .ok (.aload_n 0, 1) := dk_42 (dk_at dksX13_load_1 20 rfl rfl)
theorem dX13_load_45 : decode cX13_load 45 = .ok (.iload_n 1, 1) := dk_27 (dk_at dksX13_load_1 21 rfl rfl)
theorem dX13_load_46 : decode cX13_load 46 = .ok (.putfield 50, 3) := dk_181 0 50 (dk_at dksX13_load_2 0 rfl rfl)
theorem dX13_load_49 : decode cX13_load 49 = .ok (.iconst 0, 1) := dk_3 (dk_at dksX13_load_2 3 rfl rfl)
theorem dX13_load_50 : decode cX13_load 50 = .ok (.istore_n 2, 1) := dk_61 (dk_at dksX13_load_2 4 rfl rfl)
theorem dX13_load_51 : decode cX13_load 51 = .ok (.iconst 0, 1) := dk_3 (dk_at dksX13_load_2 5 rfl rfl)
theorem dX13_load_52 : decode cX13_load 52 = .ok (.istore_n 3, 1) := dk_62 (dk_at dksX13_load_2 6 rfl rfl)
theorem dX13_load_53 : decode cX13_load 53 = .ok (.iload_n 3, 1) := dk_29 (dk_at dksX13_load_2 7 rfl rfl)
theorem dX13_load_54 : decode cX13_load 54 = .ok (.aload_n 0, 1) := dk_42 (dk_at dksX13_load_2 8 rfl rfl)
theorem dX13_load_55 : decode cX13_load 55 = .ok (.getfield 13, 3) := dk_180 0 13 (dk_at dksX13_load_2 9 rfl rfl)
theorem dX13_load_58 : decode cX13_load 58 = .ok (.iload_n 1, 1) := dk_27 (dk_at dksX13_load_2 12 rfl rfl)
theorem dX13_load_59 : decode cX13_load 59 = .ok (.iaload, 1) := dk_46 (dk_at dksX13_load_2 13 rfl rfl)
theorem dX13_load_60 : decode cX13_load 60 = .ok (.if_icmp .ge 73, 3) := dk_162 0 73 (dk_at dksX13_load_2 14 rfl rfl)
theorem dX13_load_63 : decode cX13_load 63 = .ok (.iconst 0, 1) := dk_3 (dk_at dksX13_load_2 17 rfl rfl)
theorem dX13_load_64 : decode cX13_load 64 = .ok (.istore 4, 2) := dk_54 4 (dk_at dksX13_load_2 18 rfl rfl)
theorem dX13_load_66 : decode cX13_load 66 = .ok (.iload 4, 2) := dk_21 4 (dk_at dksX13_load_2 20 rfl rfl)
theorem dX13_load_68 : decode cX13_load 68 = .ok (.aload_n 0, 1) := dk_42 (dk_at dksX13_load_2 22 rfl rfl)
theorem dX13_load_69 : decode cX13_load 69 = .ok (.getfield 17, 3) := dk_180 0 17 (dk_at dksX13_load_3 0 rfl rfl)
theorem dX13_load_72 : decode cX13_load 72 = .ok (.iload_n 1, 1) := dk_27 (dk_at dksX13_load_3 3 rfl rfl)
theorem dX13_load_73 : decode cX13_load 73 = .ok (.iaload, 1) := dk_46 (dk_at dksX13_load_3 4 rfl rfl)
theorem dX13_load_74 : decode cX13_load 74 = .ok (.if_icmp .ge 53, 3) := dk_162 0 53 (dk_at dksX13_load_3 5 rfl rfl)
theorem dX13_load_77 : decode cX13_load 77 = .ok (.aload_n 0, 1) := dk_42 (dk_at dksX13_load_3 8 rfl rfl)
theorem dX13_load_78 : decode cX13_load 78 = .ok (.getfield 53, 3) := dk_180 0 53 (dk_at dksX13_load_3 9 rfl rfl)
theorem dX13_load_81 : decode cX13_load 81 = .ok (.sipush 144, 3) := dk_17 0 144 (dk_at dksX13_load_3 12 rfl rfl)
theorem dX13_load_84 : decode cX13_load 84 = .ok (.iload_n 3, 1) := dk_29 (dk_at dksX13_load_3 15 rfl rfl)
theorem dX13_load_85 : decode cX13_load 85 = .ok (.imul, 1) := dk_104 (dk_at dksX13_load_3 16 rfl rfl)
theorem dX13_load_86 : decode cX13_load 86 = .ok (.iload 4, 2) := dk_21 4 (dk_at dksX13_load_3 17 rfl rfl)
theorem dX13_load_88 : decode cX13_load 88 = .ok (.iadd, 1) := dk_96 (dk_at dksX13_load_3 19 rfl rfl)
theorem dX13_load_89 : decode cX13_load 89 = .ok (.aload_n 0, 1) := dk_42 (dk_at dksX13_load_3 20 rfl rfl)
theorem dX13_load_90 : decode cX13_load 90 = .ok (.getfield 38, 3) := dk_180 0 38 (dk_at dksX13_load_3 21 rfl rfl)
theorem dX13_load_93 : decode cX13_load 93 = .ok (.iload_n 2, 1) := dk_28 (dk_at dksX13_load_4 0 rfl rfl)
theorem dX13_load_94 : decode cX13_load 94 = .ok (.bipush 8, 2) := dk_16 8 (dk_at dksX13_load_4 1 rfl rfl)
theorem dX13_load_96 : decode cX13_load 96 = .ok (.idiv, 1) := dk_108 (dk_at dksX13_load_4 3 rfl rfl)
theorem dX13_load_97 : decode cX13_load 97 = .ok (.iaload, 1) := dk_46 (dk_at dksX13_load_4 4 rfl rfl)
theorem dX13_load_98 : decode cX13_load 98 = .ok (.bipush 7, 2) := dk_16 7 (dk_at dksX13_load_4 5 rfl rfl)
theorem dX13_load_100 : decode cX13_load 100 = .ok (.iload_n 2, 1) := dk_28 (dk_at dksX13_load_4 7 rfl rfl)
theorem dX13_load_101 : decode cX13_load 101 = .ok (.bipush 8, 2) := dk_16 8 (dk_at dksX13_load_4 8 rfl rfl)
theorem dX13_load_103 : decode cX13_load 103 = .ok (.irem, 1) := dk_112 (dk_at dksX13_load_4 10 rfl rfl)
theorem dX13_load_104 : decode cX13_load 104 = .ok (.isub, 1) := dk_100 (dk_at dksX13_load_4 11 rfl rfl)
theorem dX13_load_105 : decode cX13_load 105 = .ok (.ishr, 1) := dk_122 (dk_at dksX13_load_4 12 rfl rfl)
theorem dX13_load_106 : decode cX13_load 106 = .ok (.iconst 1, 1) := dk_4 (dk_at dksX13_load_4 13 rfl rfl)
theorem dX13_load_107 : decode cX13_load 107 = .ok (.iand, 1) := dk_126 (dk_at dksX13_load_4 14 rfl rfl)
theorem dX13_load_108 : decode cX13_load 108 = .ok (.iconst 1, 1) := dk_4 (dk_at dksX13_load_4 15 rfl rfl)
theorem dX13_load_109 : decode cX13_load 109 = .ok (.if_icmp .ne 7, 3) := dk_160 0 7 (dk_at dksX13_load_4 16 rfl rfl)
theorem dX13_load_112 : decode cX13_load 112 = .ok (.iconst 1, 1) := dk_4 (dk_at dksX13_load_4 19 rfl rfl)
theorem dX13_load_113 : decode cX13_load 113 = .ok (.goto 4, 3) := dk_167 0 4 (dk_at dksX13_load_4 20 rfl rfl)
theorem dX13_load_116 : decode cX13_load 116 = .ok (.iconst 0, 1) := dk_3 (dk_at dksX13_load_4 23 rfl rfl)
theorem dX13_load_117 : decode cX13_load 117 = .ok (.bastore, 1) := dk_84 (dk_at dksX13_load_5 0 rfl rfl)
theorem dX13_load_118 : decode cX13_load 118 = .ok (.iinc 2 1, 3) := dk_132 2 1 (dk_at dksX13_load_5 1 rfl rfl)
theorem dX13_load_121 : decode cX13_load 121 = .ok (.iinc 4 1, 3) := dk_132 4 1 (dk_at dksX13_load_5 4 rfl rfl)
theorem dX13_load_124 : decode cX13_load 124 = .ok (.goto (-58), 3) := dk_167 255 198 (dk_at dksX13_load_5 7 rfl rfl)
theorem dX13_load_127 : decode cX13_load 127 = .ok (.iinc 3 1, 3) := dk_132 3 1 (dk_at dksX13_load_5 10 rfl rfl)
theorem dX13_load_130 : decode cX13_load 130 = .ok (.goto (-77), 3) := dk_167 255 179 (dk_at dksX13_load_5 13 rfl rfl)
theorem dX13_load_133 : decode cX13_load 133 = .ok (.iconst 1, 1) := dk_4 (dk_at dksX13_load_5 16 rfl rfl)
theorem dX13_load_134 : decode cX13_load 134 = .ok (.ireturn, 1) := dk_172 (dk_at dksX13_load_5 17 rfl rfl)
abbrev cX13_takeTape : ByteArray := prog_16_method_11_code
def yX13_takeTape : MethodName := ⟨RX13, "takeTape", "()V"⟩
def dkwX13_takeTape_0 : List UInt8 := [42, 42, 180, 0, 131, 181, 0, 134, 42, 3, 181, 0, 131, 177]
abbrev dktX13_takeTape_0 : List UInt8 := dkwX13_takeTape_0 ++ []
theorem dksX13_takeTape_0 : cX13_takeTape.data.toList.drop 0 = dktX13_takeTape_0 := by decide +kernel
theorem dX13_takeTape_0 : decode cX13_takeTape 0 = .ok (.aload_n 0, 1) := dk_42 (dk_at dksX13_takeTape_0 0 rfl rfl)
theorem dX13_takeTape_1 : decode cX13_takeTape 1 = .ok (.aload_n 0, 1) := dk_42 (dk_at dksX13_takeTape_0 1 rfl rfl)
theorem dX13_takeTape_2 : decode cX13_takeTape 2 = .ok (.getfield 131, 3) := dk_180 0 131 (dk_at dksX13_takeTape_0 2 rfl rfl)
theorem dX13_takeTape_5 : decode cX13_takeTape 5 = .ok (.putfield 134, 3) := dk_181 0 134 (dk_at dksX13_takeTape_0 5 rfl rfl)
theorem dX13_takeTape_8 : decode cX13_takeTape 8 = .ok (.aload_n 0, 1) := dk_42 (dk_at dksX13_takeTape_0 8 rfl rfl)
theorem dX13_takeTape_9 : decode cX13_takeTape 9 = .ok (.iconst 0, 1) := dk_3 (dk_at dksX13_takeTape_0 9 rfl rfl)
theorem dX13_takeTape_10 : decode cX13_takeTape 10 = .ok (.putfield 131, 3) := dk_181 0 131 (dk_at dksX13_takeTape_0 10 rfl rfl)
theorem dX13_takeTape_13 : decode cX13_takeTape 13 = .ok (.return_, 1) := dk_177 (dk_at dksX13_takeTape_0 13 rfl rfl)
abbrev cX13_stream : ByteArray := prog_16_method_52_code
def yX13_stream : MethodName := ⟨RX13, "stream", "(I)I"⟩
def dkwX13_stream_3 : List UInt8 := [155, 0, 7, 42, 182, 1, 32, 28, 172]
abbrev dktX13_stream_3 : List UInt8 := dkwX13_stream_3 ++ []
def dkwX13_stream_2 : List UInt8 := [28, 42, 180, 0, 38, 28, 46, 79, 132, 2, 1, 167, 255, 233, 42, 42, 180, 0, 134, 182, 1, 29, 61, 28]
abbrev dktX13_stream_2 : List UInt8 := dkwX13_stream_2 ++ dktX13_stream_3
def dkwX13_stream_1 : List UInt8 := [27, 182, 0, 128, 159, 0, 6, 16, 254, 172, 3, 61, 28, 42, 180, 0, 134, 162, 0, 21, 42, 180, 0, 57]
abbrev dktX13_stream_1 : List UInt8 := dkwX13_stream_1 ++ dktX13_stream_2
def dkwX13_stream_0 : List UInt8 := [42, 3, 181, 0, 1, 42, 182, 0, 198, 27, 184, 0, 124, 154, 0, 6, 16, 253, 172, 42, 180, 0, 134, 42]
abbrev dktX13_stream_0 : List UInt8 := dkwX13_stream_0 ++ dktX13_stream_1
theorem dksX13_stream_0 : cX13_stream.data.toList.drop 0 = dktX13_stream_0 := by decide +kernel
theorem dksX13_stream_1 : cX13_stream.data.toList.drop 24 = dktX13_stream_1 := dk_seg dksX13_stream_0 24 rfl rfl
theorem dksX13_stream_2 : cX13_stream.data.toList.drop 48 = dktX13_stream_2 := dk_seg dksX13_stream_1 24 rfl rfl
theorem dksX13_stream_3 : cX13_stream.data.toList.drop 72 = dktX13_stream_3 := dk_seg dksX13_stream_2 24 rfl rfl
theorem dX13_stream_0 : decode cX13_stream 0 = .ok (.aload_n 0, 1) := dk_42 (dk_at dksX13_stream_0 0 rfl rfl)
theorem dX13_stream_1 : decode cX13_stream 1 = .ok (.iconst 0, 1) := dk_3 (dk_at dksX13_stream_0 1 rfl rfl)
theorem dX13_stream_2 : decode cX13_stream 2 = .ok (.putfield 1, 3) := dk_181 0 1 (dk_at dksX13_stream_0 2 rfl rfl)
theorem dX13_stream_5 : decode cX13_stream 5 = .ok (.aload_n 0, 1) := dk_42 (dk_at dksX13_stream_0 5 rfl rfl)
theorem dX13_stream_6 : decode cX13_stream 6 = .ok (.invokevirtual 198, 3) := dk_182 0 198 (dk_at dksX13_stream_0 6 rfl rfl)
theorem dX13_stream_9 : decode cX13_stream 9 = .ok (.iload_n 1, 1) := dk_27 (dk_at dksX13_stream_0 9 rfl rfl)
theorem dX13_stream_10 : decode cX13_stream 10 = .ok (.invokestatic 124, 3) := dk_184 0 124 (dk_at dksX13_stream_0 10 rfl rfl)
theorem dX13_stream_13 : decode cX13_stream 13 = .ok (.ifCond .ne 6, 3) := dk_154 0 6 (dk_at dksX13_stream_0 13 rfl rfl)
theorem dX13_stream_16 : decode cX13_stream 16 = .ok (.bipush (-3), 2) := dk_16 253 (dk_at dksX13_stream_0 16 rfl rfl)
theorem dX13_stream_18 : decode cX13_stream 18 = .ok (.ireturn, 1) := dk_172 (dk_at dksX13_stream_0 18 rfl rfl)
theorem dX13_stream_19 : decode cX13_stream 19 = .ok (.aload_n 0, 1) := dk_42 (dk_at dksX13_stream_0 19 rfl rfl)
theorem dX13_stream_20 : decode cX13_stream 20 = .ok (.getfield 134, 3) := dk_180 0 134 (dk_at dksX13_stream_0 20 rfl rfl)
theorem dX13_stream_23 : decode cX13_stream 23 = .ok (.aload_n 0, 1) := dk_42 (dk_at dksX13_stream_0 23 rfl rfl)
theorem dX13_stream_24 : decode cX13_stream 24 = .ok (.iload_n 1, 1) := dk_27 (dk_at dksX13_stream_1 0 rfl rfl)
theorem dX13_stream_25 : decode cX13_stream 25 = .ok (.invokevirtual 128, 3) := dk_182 0 128 (dk_at dksX13_stream_1 1 rfl rfl)
theorem dX13_stream_28 : decode cX13_stream 28 = .ok (.if_icmp .eq 6, 3) := dk_159 0 6 (dk_at dksX13_stream_1 4 rfl rfl)
theorem dX13_stream_31 : decode cX13_stream 31 = .ok (.bipush (-2), 2) := dk_16 254 (dk_at dksX13_stream_1 7 rfl rfl)
theorem dX13_stream_33 : decode cX13_stream 33 = .ok (.ireturn, 1) := dk_172 (dk_at dksX13_stream_1 9 rfl rfl)
theorem dX13_stream_34 : decode cX13_stream 34 = .ok (.iconst 0, 1) := dk_3 (dk_at dksX13_stream_1 10 rfl rfl)
theorem dX13_stream_35 : decode cX13_stream 35 = .ok (.istore_n 2, 1) := dk_61 (dk_at dksX13_stream_1 11 rfl rfl)
theorem dX13_stream_36 : decode cX13_stream 36 = .ok (.iload_n 2, 1) := dk_28 (dk_at dksX13_stream_1 12 rfl rfl)
theorem dX13_stream_37 : decode cX13_stream 37 = .ok (.aload_n 0, 1) := dk_42 (dk_at dksX13_stream_1 13 rfl rfl)
theorem dX13_stream_38 : decode cX13_stream 38 = .ok (.getfield 134, 3) := dk_180 0 134 (dk_at dksX13_stream_1 14 rfl rfl)
theorem dX13_stream_41 : decode cX13_stream 41 = .ok (.if_icmp .ge 21, 3) := dk_162 0 21 (dk_at dksX13_stream_1 17 rfl rfl)
theorem dX13_stream_44 : decode cX13_stream 44 = .ok (.aload_n 0, 1) := dk_42 (dk_at dksX13_stream_1 20 rfl rfl)
theorem dX13_stream_45 : decode cX13_stream 45 = .ok (.getfield 57, 3) := dk_180 0 57 (dk_at dksX13_stream_1 21 rfl rfl)
theorem dX13_stream_48 : decode cX13_stream 48 = .ok (.iload_n 2, 1) := dk_28 (dk_at dksX13_stream_2 0 rfl rfl)
theorem dX13_stream_49 : decode cX13_stream 49 = .ok (.aload_n 0, 1) := dk_42 (dk_at dksX13_stream_2 1 rfl rfl)
theorem dX13_stream_50 : decode cX13_stream 50 = .ok (.getfield 38, 3) := dk_180 0 38 (dk_at dksX13_stream_2 2 rfl rfl)
theorem dX13_stream_53 : decode cX13_stream 53 = .ok (.iload_n 2, 1) := dk_28 (dk_at dksX13_stream_2 5 rfl rfl)
theorem dX13_stream_54 : decode cX13_stream 54 = .ok (.iaload, 1) := dk_46 (dk_at dksX13_stream_2 6 rfl rfl)
theorem dX13_stream_55 : decode cX13_stream 55 = .ok (.iastore, 1) := dk_79 (dk_at dksX13_stream_2 7 rfl rfl)
theorem dX13_stream_56 : decode cX13_stream 56 = .ok (.iinc 2 1, 3) := dk_132 2 1 (dk_at dksX13_stream_2 8 rfl rfl)
theorem dX13_stream_59 : decode cX13_stream 59 = .ok (.goto (-23), 3) := dk_167 255 233 (dk_at dksX13_stream_2 11 rfl rfl)
theorem dX13_stream_62 : decode cX13_stream 62 = .ok (.aload_n 0, 1) := dk_42 (dk_at dksX13_stream_2 14 rfl rfl)
theorem dX13_stream_63 : decode cX13_stream 63 = .ok (.aload_n 0, 1) := dk_42 (dk_at dksX13_stream_2 15 rfl rfl)
theorem dX13_stream_64 : decode cX13_stream 64 = .ok (.getfield 134, 3) := dk_180 0 134 (dk_at dksX13_stream_2 16 rfl rfl)
theorem dX13_stream_67 : decode cX13_stream 67 = .ok (.invokevirtual 285, 3) := dk_182 1 29 (dk_at dksX13_stream_2 19 rfl rfl)
theorem dX13_stream_70 : decode cX13_stream 70 = .ok (.istore_n 2, 1) := dk_61 (dk_at dksX13_stream_2 22 rfl rfl)
theorem dX13_stream_71 : decode cX13_stream 71 = .ok (.iload_n 2, 1) := dk_28 (dk_at dksX13_stream_2 23 rfl rfl)
theorem dX13_stream_72 : decode cX13_stream 72 = .ok (.ifCond .lt 7, 3) := dk_155 0 7 (dk_at dksX13_stream_3 0 rfl rfl)
theorem dX13_stream_75 : decode cX13_stream 75 = .ok (.aload_n 0, 1) := dk_42 (dk_at dksX13_stream_3 3 rfl rfl)
theorem dX13_stream_76 : decode cX13_stream 76 = .ok (.invokevirtual 288, 3) := dk_182 1 32 (dk_at dksX13_stream_3 4 rfl rfl)
theorem dX13_stream_79 : decode cX13_stream 79 = .ok (.iload_n 2, 1) := dk_28 (dk_at dksX13_stream_3 7 rfl rfl)
theorem dX13_stream_80 : decode cX13_stream 80 = .ok (.ireturn, 1) := dk_172 (dk_at dksX13_stream_3 8 rfl rfl)
abbrev cX13_readStream : ByteArray := prog_16_method_43_code
def yX13_readStream : MethodName := ⟨RX13, "readStream", "(I)I"⟩
def dkwX13_readStream_2 : List UInt8 := [180, 0, 240, 153, 0, 10, 42, 180, 0, 231, 167, 0, 4, 2, 172]
abbrev dktX13_readStream_2 : List UInt8 := dkwX13_readStream_2 ++ []
def dkwX13_readStream_1 : List UInt8 := [153, 0, 21, 42, 180, 0, 234, 42, 180, 0, 237, 162, 0, 10, 42, 182, 0, 244, 167, 255, 234, 42]
abbrev dktX13_readStream_1 : List UInt8 := dkwX13_readStream_1 ++ dktX13_readStream_2
def dkwX13_readStream_0 : List UInt8 := [42, 3, 181, 0, 234, 42, 27, 181, 0, 237, 42, 3, 181, 0, 231, 42, 4, 181, 0, 240, 42, 180, 0, 240]
abbrev dktX13_readStream_0 : List UInt8 := dkwX13_readStream_0 ++ dktX13_readStream_1
theorem dksX13_readStream_0 : cX13_readStream.data.toList.drop 0 = dktX13_readStream_0 := by decide +kernel
theorem dksX13_readStream_1 : cX13_readStream.data.toList.drop 24 = dktX13_readStream_1 := dk_seg dksX13_readStream_0 24 rfl rfl
theorem dksX13_readStream_2 : cX13_readStream.data.toList.drop 46 = dktX13_readStream_2 := dk_seg dksX13_readStream_1 22 rfl rfl
theorem dX13_readStream_0 : decode cX13_readStream 0 = .ok (.aload_n 0, 1) := dk_42 (dk_at dksX13_readStream_0 0 rfl rfl)
theorem dX13_readStream_1 : decode cX13_readStream 1 = .ok (.iconst 0, 1) := dk_3 (dk_at dksX13_readStream_0 1 rfl rfl)
theorem dX13_readStream_2 : decode cX13_readStream 2 = .ok (.putfield 234, 3) := dk_181 0 234 (dk_at dksX13_readStream_0 2 rfl rfl)
theorem dX13_readStream_5 : decode cX13_readStream 5 = .ok (.aload_n 0, 1) := dk_42 (dk_at dksX13_readStream_0 5 rfl rfl)
theorem dX13_readStream_6 : decode cX13_readStream 6 = .ok (.iload_n 1, 1) := dk_27 (dk_at dksX13_readStream_0 6 rfl rfl)
theorem dX13_readStream_7 : decode cX13_readStream 7 = .ok (.putfield 237, 3) := dk_181 0 237 (dk_at dksX13_readStream_0 7 rfl rfl)
theorem dX13_readStream_10 : decode cX13_readStream 10 = .ok (.aload_n 0, 1) := dk_42 (dk_at dksX13_readStream_0 10 rfl rfl)
theorem dX13_readStream_11 : decode cX13_readStream 11 = .ok (.iconst 0, 1) := dk_3 (dk_at dksX13_readStream_0 11 rfl rfl)
theorem dX13_readStream_12 : decode cX13_readStream 12 = .ok (.putfield 231, 3) := dk_181 0 231 (dk_at dksX13_readStream_0 12 rfl rfl)
theorem dX13_readStream_15 : decode cX13_readStream 15 = .ok (.aload_n 0, 1) := dk_42 (dk_at dksX13_readStream_0 15 rfl rfl)
theorem dX13_readStream_16 : decode cX13_readStream 16 = .ok (.iconst 1, 1) := dk_4 (dk_at dksX13_readStream_0 16 rfl rfl)
theorem dX13_readStream_17 : decode cX13_readStream 17 = .ok (.putfield 240, 3) := dk_181 0 240 (dk_at dksX13_readStream_0 17 rfl rfl)
theorem dX13_readStream_20 : decode cX13_readStream 20 = .ok (.aload_n 0, 1) := dk_42 (dk_at dksX13_readStream_0 20 rfl rfl)
theorem dX13_readStream_21 : decode cX13_readStream 21 = .ok (.getfield 240, 3) := dk_180 0 240 (dk_at dksX13_readStream_0 21 rfl rfl)
theorem dX13_readStream_24 : decode cX13_readStream 24 = .ok (.ifCond .eq 21, 3) := dk_153 0 21 (dk_at dksX13_readStream_1 0 rfl rfl)
theorem dX13_readStream_27 : decode cX13_readStream 27 = .ok (.aload_n 0, 1) := dk_42 (dk_at dksX13_readStream_1 3 rfl rfl)
theorem dX13_readStream_28 : decode cX13_readStream 28 = .ok (.getfield 234, 3) := dk_180 0 234 (dk_at dksX13_readStream_1 4 rfl rfl)
theorem dX13_readStream_31 : decode cX13_readStream 31 = .ok (.aload_n 0, 1) := dk_42 (dk_at dksX13_readStream_1 7 rfl rfl)
theorem dX13_readStream_32 : decode cX13_readStream 32 = .ok (.getfield 237, 3) := dk_180 0 237 (dk_at dksX13_readStream_1 8 rfl rfl)
theorem dX13_readStream_35 : decode cX13_readStream 35 = .ok (.if_icmp .ge 10, 3) := dk_162 0 10 (dk_at dksX13_readStream_1 11 rfl rfl)
theorem dX13_readStream_38 : decode cX13_readStream 38 = .ok (.aload_n 0, 1) := dk_42 (dk_at dksX13_readStream_1 14 rfl rfl)
theorem dX13_readStream_39 : decode cX13_readStream 39 = .ok (.invokevirtual 244, 3) := dk_182 0 244 (dk_at dksX13_readStream_1 15 rfl rfl)
theorem dX13_readStream_42 : decode cX13_readStream 42 = .ok (.goto (-22), 3) := dk_167 255 234 (dk_at dksX13_readStream_1 18 rfl rfl)
theorem dX13_readStream_45 : decode cX13_readStream 45 = .ok (.aload_n 0, 1) := dk_42 (dk_at dksX13_readStream_1 21 rfl rfl)
theorem dX13_readStream_46 : decode cX13_readStream 46 = .ok (.getfield 240, 3) := dk_180 0 240 (dk_at dksX13_readStream_2 0 rfl rfl)
theorem dX13_readStream_49 : decode cX13_readStream 49 = .ok (.ifCond .eq 10, 3) := dk_153 0 10 (dk_at dksX13_readStream_2 3 rfl rfl)
theorem dX13_readStream_52 : decode cX13_readStream 52 = .ok (.aload_n 0, 1) := dk_42 (dk_at dksX13_readStream_2 6 rfl rfl)
theorem dX13_readStream_53 : decode cX13_readStream 53 = .ok (.getfield 231, 3) := dk_180 0 231 (dk_at dksX13_readStream_2 7 rfl rfl)
theorem dX13_readStream_56 : decode cX13_readStream 56 = .ok (.goto 4, 3) := dk_167 0 4 (dk_at dksX13_readStream_2 10 rfl rfl)
theorem dX13_readStream_59 : decode cX13_readStream 59 = .ok (.iconst (-1), 1) := dk_2 (dk_at dksX13_readStream_2 13 rfl rfl)
theorem dX13_readStream_60 : decode cX13_readStream 60 = .ok (.ireturn, 1) := dk_172 (dk_at dksX13_readStream_2 14 rfl rfl)
abbrev cX13_ascii : ByteArray := prog_16_method_44_code
def yX13_ascii : MethodName := ⟨RX13, "ascii", "()V"⟩
def dkwX13_ascii_14 : List UInt8 := [42, 182, 1, 3, 167, 0, 8, 42, 3, 181, 0, 240, 177]
abbrev dktX13_ascii_14 : List UInt8 := dkwX13_ascii_14 ++ []
def dkwX13_ascii_13 : List UInt8 := [167, 0, 36, 27, 17, 0, 240, 160, 0, 10, 42, 182, 1, 0, 167, 0, 22, 27, 17, 0, 231, 160, 0, 10]
abbrev dktX13_ascii_13 : List UInt8 := dkwX13_ascii_13 ++ dktX13_ascii_14
def dkwX13_ascii_12 : List UInt8 := [160, 0, 7, 7, 167, 0, 16, 27, 17, 0, 239, 160, 0, 7, 8, 167, 0, 5, 16, 6, 182, 0, 253]
abbrev dktX13_ascii_12 : List UInt8 := dkwX13_ascii_12 ++ dktX13_ascii_13
def dkwX13_ascii_11 : List UInt8 := [159, 0, 17, 27, 17, 0, 239, 159, 0, 10, 27, 17, 0, 238, 160, 0, 34, 42, 27, 17, 0, 230]
abbrev dktX13_ascii_11 : List UInt8 := dkwX13_ascii_11 ++ dktX13_ascii_12
def dkwX13_ascii_10 : List UInt8 := [16, 127, 96, 182, 0, 247, 42, 89, 180, 0, 234, 4, 96, 181, 0, 234, 167, 0, 88, 27, 17, 0, 230]
abbrev dktX13_ascii_10 : List UInt8 := dkwX13_ascii_10 ++ dktX13_ascii_11
def dkwX13_ascii_9 : List UInt8 := [167, 0, 4, 3, 181, 0, 240, 42, 180, 0, 240, 153, 0, 117, 42, 42, 180, 0, 57, 42, 180, 0, 234, 46]
abbrev dktX13_ascii_9 : List UInt8 := dkwX13_ascii_9 ++ dktX13_ascii_10
def dkwX13_ascii_8 : List UInt8 := [180, 0, 234, 46, 4, 161, 0, 22, 42, 180, 0, 57, 42, 180, 0, 234, 46, 17, 0, 128, 163, 0, 7, 4]
abbrev dktX13_ascii_8 : List UInt8 := dkwX13_ascii_8 ++ dktX13_ascii_9
def dkwX13_ascii_7 : List UInt8 := [17, 0, 235, 160, 0, 87, 42, 42, 180, 0, 234, 42, 180, 0, 237, 162, 0, 35, 42, 180, 0, 57, 42]
abbrev dktX13_ascii_7 : List UInt8 := dkwX13_ascii_7 ++ dktX13_ascii_8
def dkwX13_ascii_6 : List UInt8 := [4, 167, 0, 4, 3, 181, 0, 240, 42, 89, 180, 0, 234, 4, 96, 181, 0, 234, 167, 255, 198, 27]
abbrev dktX13_ascii_6 : List UInt8 := dkwX13_ascii_6 ++ dktX13_ascii_7
def dkwX13_ascii_5 : List UInt8 := [153, 0, 28, 42, 180, 0, 57, 42, 180, 0, 234, 46, 42, 180, 0, 234, 4, 96, 184, 0, 250, 160, 0, 7]
abbrev dktX13_ascii_5 : List UInt8 := dkwX13_ascii_5 ++ dktX13_ascii_6
def dkwX13_ascii_4 : List UInt8 := [17, 0, 129, 160, 0, 64, 42, 180, 0, 234, 42, 180, 0, 237, 162, 0, 229, 42, 42, 180, 0, 240]
abbrev dktX13_ascii_4 : List UInt8 := dkwX13_ascii_4 ++ dktX13_ascii_5
def dkwX13_ascii_3 : List UInt8 := [182, 0, 247, 42, 16, 48, 27, 17, 0, 130, 100, 16, 10, 112, 96, 182, 0, 247, 167, 0, 247, 27]
abbrev dktX13_ascii_3 : List UInt8 := dkwX13_ascii_3 ++ dktX13_ascii_4
def dkwX13_ascii_2 : List UInt8 := [161, 0, 43, 27, 17, 0, 229, 163, 0, 36, 42, 16, 48, 27, 17, 0, 130, 100, 16, 10, 108, 96]
abbrev dktX13_ascii_2 : List UInt8 := dkwX13_ascii_2 ++ dktX13_ascii_3
def dkwX13_ascii_1 : List UInt8 := [161, 0, 20, 27, 17, 0, 128, 163, 0, 13, 42, 27, 4, 100, 182, 0, 247, 167, 1, 38, 27, 17, 0, 130]
abbrev dktX13_ascii_1 : List UInt8 := dkwX13_ascii_1 ++ dktX13_ascii_2
def dkwX13_ascii_0 : List UInt8 := [42, 180, 0, 57, 42, 180, 0, 234, 46, 60, 42, 89, 180, 0, 234, 4, 96, 181, 0, 234, 27, 4]
abbrev dktX13_ascii_0 : List UInt8 := dkwX13_ascii_0 ++ dktX13_ascii_1
theorem dksX13_ascii_0 : cX13_ascii.data.toList.drop 0 = dktX13_ascii_0 := by decide +kernel
theorem dksX13_ascii_1 : cX13_ascii.data.toList.drop 22 = dktX13_ascii_1 := dk_seg dksX13_ascii_0 22 rfl rfl
theorem dksX13_ascii_2 : cX13_ascii.data.toList.drop 46 = dktX13_ascii_2 := dk_seg dksX13_ascii_1 24 rfl rfl
theorem dksX13_ascii_3 : cX13_ascii.data.toList.drop 68 = dktX13_ascii_3 := dk_seg dksX13_ascii_2 22 rfl rfl
theorem dksX13_ascii_4 : cX13_ascii.data.toList.drop 90 = dktX13_ascii_4 := dk_seg dksX13_ascii_3 22 rfl rfl
theorem dksX13_ascii_5 : cX13_ascii.data.toList.drop 112 = dktX13_ascii_5 := dk_seg dksX13_ascii_4 22 rfl rfl
theorem dksX13_ascii_6 : cX13_ascii.data.toList.drop 136 = dktX13_ascii_6 := dk_seg dksX13_ascii_5 24 rfl rfl
theorem dksX13_ascii_7 : cX13_ascii.data.toList.drop 158 = dktX13_ascii_7 := dk_seg dksX13_ascii_6 22 rfl rfl
theorem dksX13_ascii_8 : cX13_ascii.data.toList.drop 181 = dktX13_ascii_8 := dk_seg dksX13_ascii_7 23 rfl rfl
theorem dksX13_ascii_9 : cX13_ascii.data.toList.drop 205 = dktX13_ascii_9 := dk_seg dksX13_ascii_8 24 rfl rfl
theorem dksX13_ascii_10 : cX13_ascii.data.toList.drop 229 = dktX13_ascii_10 := dk_seg dksX13_ascii_9 24 rfl rfl
theorem dksX13_ascii_11 : cX13_ascii.data.toList.drop 252 = dktX13_ascii_11 := dk_seg dksX13_ascii_10 23 rfl rfl
theorem dksX13_ascii_12 : cX13_ascii.data.toList.drop 274 = dktX13_ascii_12 := dk_seg dksX13_ascii_11 22 rfl rfl
theorem dksX13_ascii_13 : cX13_ascii.data.toList.drop 297 = dktX13_ascii_13 := dk_seg dksX13_ascii_12 23 rfl rfl
theorem dksX13_ascii_14 : cX13_ascii.data.toList.drop 321 = dktX13_ascii_14 := dk_seg dksX13_ascii_13 24 rfl rfl
theorem dX13_ascii_0 : decode cX13_ascii 0 = .ok (.aload_n 0, 1) := dk_42 (dk_at dksX13_ascii_0 0 rfl rfl)
theorem dX13_ascii_1 : decode cX13_ascii 1 = .ok (.getfield 57, 3) := dk_180 0 57 (dk_at dksX13_ascii_0 1 rfl rfl)
theorem dX13_ascii_4 : decode cX13_ascii 4 = .ok (.aload_n 0, 1) := dk_42 (dk_at dksX13_ascii_0 4 rfl rfl)
theorem dX13_ascii_5 : decode cX13_ascii 5 = .ok (.getfield 234, 3) := dk_180 0 234 (dk_at dksX13_ascii_0 5 rfl rfl)
theorem dX13_ascii_8 : decode cX13_ascii 8 = .ok (.iaload, 1) := dk_46 (dk_at dksX13_ascii_0 8 rfl rfl)
theorem dX13_ascii_9 : decode cX13_ascii 9 = .ok (.istore_n 1, 1) := dk_60 (dk_at dksX13_ascii_0 9 rfl rfl)
theorem dX13_ascii_10 : decode cX13_ascii 10 = .ok (.aload_n 0, 1) := dk_42 (dk_at dksX13_ascii_0 10 rfl rfl)
theorem dX13_ascii_11 : decode cX13_ascii 11 = .ok (.dup, 1) := dk_89 (dk_at dksX13_ascii_0 11 rfl rfl)
theorem dX13_ascii_12 : decode cX13_ascii 12 = .ok (.getfield 234, 3) := dk_180 0 234 (dk_at dksX13_ascii_0 12 rfl rfl)
theorem dX13_ascii_15 : decode cX13_ascii 15 = .ok (.iconst 1, 1) := dk_4 (dk_at dksX13_ascii_0 15 rfl rfl)
theorem dX13_ascii_16 : decode cX13_ascii 16 = .ok (.iadd, 1) := dk_96 (dk_at dksX13_ascii_0 16 rfl rfl)
theorem dX13_ascii_17 : decode cX13_ascii 17 = .ok (.putfield 234, 3) := dk_181 0 234 (dk_at dksX13_ascii_0 17 rfl rfl)
theorem dX13_ascii_20 : decode cX13_ascii 20 = .ok (.iload_n 1, 1) := dk_27 (dk_at dksX13_ascii_0 20 rfl rfl)
theorem dX13_ascii_21 : decode cX13_ascii 21 = .ok (.iconst 1, 1) := dk_4 (dk_at dksX13_ascii_0 21 rfl rfl)
theorem dX13_ascii_22 : decode cX13_ascii 22 = .ok (.if_icmp .lt 20, 3) := dk_161 0 20 (dk_at dksX13_ascii_1 0 rfl rfl)
theorem dX13_ascii_25 : decode cX13_ascii 25 = .ok (.iload_n 1, 1) := dk_27 (dk_at dksX13_ascii_1 3 rfl rfl)
theorem dX13_ascii_26 : decode cX13_ascii 26 = .ok (.sipush 128, 3) := dk_17 0 128 (dk_at dksX13_ascii_1 4 rfl rfl)
theorem dX13_ascii_29 : decode cX13_ascii 29 = .ok (.if_icmp .gt 13, 3) := dk_163 0 13 (dk_at dksX13_ascii_1 7 rfl rfl)
theorem dX13_ascii_32 : decode cX13_ascii 32 = .ok (.aload_n 0, 1) := dk_42 (dk_at dksX13_ascii_1 10 rfl rfl)
theorem dX13_ascii_33 : decode cX13_ascii 33 = .ok (.iload_n 1, 1) := dk_27 (dk_at dksX13_ascii_1 11 rfl rfl)
theorem dX13_ascii_34 : decode cX13_ascii 34 = .ok (.iconst 1, 1) := dk_4 (dk_at dksX13_ascii_1 12 rfl rfl)
theorem dX13_ascii_35 : decode cX13_ascii 35 = .ok (.isub, 1) := dk_100 (dk_at dksX13_ascii_1 13 rfl rfl)
theorem dX13_ascii_36 : decode cX13_ascii 36 = .ok (.invokevirtual 247, 3) := dk_182 0 247 (dk_at dksX13_ascii_1 14 rfl rfl)
theorem dX13_ascii_39 : decode cX13_ascii 39 = .ok (.goto 294, 3) := dk_167 1 38 (dk_at dksX13_ascii_1 17 rfl rfl)
theorem dX13_ascii_42 : decode cX13_ascii 42 = .ok (.iload_n 1, 1) := dk_27 (dk_at dksX13_ascii_1 20 rfl rfl)
theorem dX13_ascii_43 : decode cX13_ascii 43 = .ok (.sipush 130, 3) := dk_17 0 130 (dk_at dksX13_ascii_1 21 rfl rfl)
theorem dX13_ascii_46 : decode cX13_ascii 46 = .ok (.if_icmp .lt 43, 3) := dk_161 0 43 (dk_at dksX13_ascii_2 0 rfl rfl)
theorem dX13_ascii_49 : decode cX13_ascii 49 = .ok (.iload_n 1, 1) := dk_27 (dk_at dksX13_ascii_2 3 rfl rfl)
theorem dX13_ascii_50 : decode cX13_ascii 50 = .ok (.sipush 229, 3) := dk_17 0 229 (dk_at dksX13_ascii_2 4 rfl rfl)
theorem dX13_ascii_53 : decode cX13_ascii 53 = .ok (.if_icmp .gt 36, 3) := dk_163 0 36 (dk_at dksX13_ascii_2 7 rfl rfl)
theorem dX13_ascii_56 : decode cX13_ascii 56 = .ok (.aload_n 0, 1) := dk_42 (dk_at dksX13_ascii_2 10 rfl rfl)
theorem dX13_ascii_57 : decode cX13_ascii 57 = .ok (.bipush 48, 2) := dk_16 48 (dk_at dksX13_ascii_2 11 rfl rfl)
theorem dX13_ascii_59 : decode cX13_ascii 59 = .ok (.iload_n 1, 1) := dk_27 (dk_at dksX13_ascii_2 13 rfl rfl)
theorem dX13_ascii_60 : decode cX13_ascii 60 = .ok (.sipush 130, 3) := dk_17 0 130 (dk_at dksX13_ascii_2 14 rfl rfl)
theorem dX13_ascii_63 : decode cX13_ascii 63 = .ok (.isub, 1) := dk_100 (dk_at dksX13_ascii_2 17 rfl rfl)
theorem dX13_ascii_64 : decode cX13_ascii 64 = .ok (.bipush 10, 2) := dk_16 10 (dk_at dksX13_ascii_2 18 rfl rfl)
theorem dX13_ascii_66 : decode cX13_ascii 66 = .ok (.idiv, 1) := dk_108 (dk_at dksX13_ascii_2 20 rfl rfl)
theorem dX13_ascii_67 : decode cX13_ascii 67 = .ok (.iadd, 1) := dk_96 (dk_at dksX13_ascii_2 21 rfl rfl)
theorem dX13_ascii_68 : decode cX13_ascii 68 = .ok (.invokevirtual 247, 3) := dk_182 0 247 (dk_at dksX13_ascii_3 0 rfl rfl)
theorem dX13_ascii_71 : decode cX13_ascii 71 = .ok (.aload_n 0, 1) := dk_42 (dk_at dksX13_ascii_3 3 rfl rfl)
theorem dX13_ascii_72 : decode cX13_ascii 72 = .ok (.bipush 48, 2) := dk_16 48 (dk_at dksX13_ascii_3 4 rfl rfl)
theorem dX13_ascii_74 : decode cX13_ascii 74 = .ok (.iload_n 1, 1) := dk_27 (dk_at dksX13_ascii_3 6 rfl rfl)
theorem dX13_ascii_75 : decode cX13_ascii 75 = .ok (.sipush 130, 3) := dk_17 0 130 (dk_at dksX13_ascii_3 7 rfl rfl)
theorem dX13_ascii_78 : decode cX13_ascii 78 = .ok (.isub, 1) := dk_100 (dk_at dksX13_ascii_3 10 rfl rfl)
theorem dX13_ascii_79 : decode cX13_ascii 79 = .ok (.bipush 10, 2) := dk_16 10 (dk_at dksX13_ascii_3 11 rfl rfl)
theorem dX13_ascii_81 : decode cX13_ascii 81 = .ok (.irem, 1) := dk_112 (dk_at dksX13_ascii_3 13 rfl rfl)
theorem dX13_ascii_82 : decode cX13_ascii 82 = .ok (.iadd, 1) := dk_96 (dk_at dksX13_ascii_3 14 rfl rfl)
theorem dX13_ascii_83 : decode cX13_ascii 83 = .ok (.invokevirtual 247, 3) := dk_182 0 247 (dk_at dksX13_ascii_3 15 rfl rfl)
theorem dX13_ascii_86 : decode cX13_ascii 86 = .ok (.goto 247, 3) := dk_167 0 247 (dk_at dksX13_ascii_3 18 rfl rfl)
theorem dX13_ascii_89 : decode cX13_ascii 89 = .ok (.iload_n 1, 1) := dk_27 (dk_at dksX13_ascii_3 21 rfl rfl)
theorem dX13_ascii_90 : decode cX13_ascii 90 = .ok (.sipush 129, 3) := dk_17 0 129 (dk_at dksX13_ascii_4 0 rfl rfl)
theorem dX13_ascii_93 : decode cX13_ascii 93 = .ok (.if_icmp .ne 64, 3) := dk_160 0 64 (dk_at dksX13_ascii_4 3 rfl rfl)
theorem dX13_ascii_96 : decode cX13_ascii 96 = .ok (.aload_n 0, 1) := dk_42 (dk_at dksX13_ascii_4 6 rfl rfl)
theorem dX13_ascii_97 : decode cX13_ascii 97 = .ok (.getfield 234, 3) := dk_180 0 234 (dk_at dksX13_ascii_4 7 rfl rfl)
theorem dX13_ascii_100 : decode cX13_ascii 100 = .ok (.aload_n 0, 1) := dk_42 (dk_at dksX13_ascii_4 10 rfl rfl)
theorem dX13_ascii_101 : decode cX13_ascii 101 = .ok (.getfield 237, 3) := dk_180 0 237 (dk_at dksX13_ascii_4 11 rfl rfl)
theorem dX13_ascii_104 : decode cX13_ascii 104 = .ok (.if_icmp .ge 229, 3) := dk_162 0 229 (dk_at dksX13_ascii_4 14 rfl rfl)
theorem dX13_ascii_107 : decode cX13_ascii 107 = .ok (.aload_n 0, 1) := dk_42 (dk_at dksX13_ascii_4 17 rfl rfl)
theorem dX13_ascii_108 : decode cX13_ascii 108 = .ok (.aload_n 0, 1) := dk_42 (dk_at dksX13_ascii_4 18 rfl rfl)
theorem dX13_ascii_109 : decode cX13_ascii 109 = .ok (.getfield 240, 3) := dk_180 0 240 (dk_at dksX13_ascii_4 19 rfl rfl)
theorem dX13_ascii_112 : decode cX13_ascii 112 = .ok (.ifCond .eq 28, 3) := dk_153 0 28 (dk_at dksX13_ascii_5 0 rfl rfl)
theorem dX13_ascii_115 : decode cX13_ascii 115 = .ok (.aload_n 0, 1) := dk_42 (dk_at dksX13_ascii_5 3 rfl rfl)
theorem dX13_ascii_116 : decode cX13_ascii 116 = .ok (.getfield 57, 3) := dk_180 0 57 (dk_at dksX13_ascii_5 4 rfl rfl)
theorem dX13_ascii_119 : decode cX13_ascii 119 = .ok (.aload_n 0, 1) := dk_42 (dk_at dksX13_ascii_5 7 rfl rfl)
theorem dX13_ascii_120 : decode cX13_ascii 120 = .ok (.getfield 234, 3) := dk_180 0 234 (dk_at dksX13_ascii_5 8 rfl rfl)
theorem dX13_ascii_123 : decode cX13_ascii 123 = .ok (.iaload, 1) := dk_46 (dk_at dksX13_ascii_5 11 rfl rfl)
theorem dX13_ascii_124 : decode cX13_ascii 124 = .ok (.aload_n 0, 1) := dk_42 (dk_at dksX13_ascii_5 12 rfl rfl)
theorem dX13_ascii_125 : decode cX13_ascii 125 = .ok (.getfield 234, 3) := dk_180 0 234 (dk_at dksX13_ascii_5 13 rfl rfl)
theorem dX13_ascii_128 : decode cX13_ascii 128 = .ok (.iconst 1, 1) := dk_4 (dk_at dksX13_ascii_5 16 rfl rfl)
theorem dX13_ascii_129 : decode cX13_ascii 129 = .ok (.iadd, 1) := dk_96 (dk_at dksX13_ascii_5 17 rfl rfl)
theorem dX13_ascii_130 : decode cX13_ascii 130 = .ok (.invokestatic 250, 3) := dk_184 0 250 (dk_at dksX13_ascii_5 18 rfl rfl)
theorem dX13_ascii_133 : decode cX13_ascii 133 = .ok (.if_icmp .ne 7, 3) := dk_160 0 7 (dk_at dksX13_ascii_5 21 rfl rfl)
theorem dX13_ascii_136 : decode cX13_ascii 136 = .ok (.iconst 1, 1) := dk_4 (dk_at dksX13_ascii_6 0 rfl rfl)
theorem dX13_ascii_137 : decode cX13_ascii 137 = .ok (.goto 4, 3) := dk_167 0 4 (dk_at dksX13_ascii_6 1 rfl rfl)
theorem dX13_ascii_140 : decode cX13_ascii 140 = .ok (.iconst 0, 1) := dk_3 (dk_at dksX13_ascii_6 4 rfl rfl)
theorem dX13_ascii_141 : decode cX13_ascii 141 = .ok (.putfield 240, 3) := dk_181 0 240 (dk_at dksX13_ascii_6 5 rfl rfl)
theorem dX13_ascii_144 : decode cX13_ascii 144 = .ok (.aload_n 0, 1) := dk_42 (dk_at dksX13_ascii_6 8 rfl rfl)
theorem dX13_ascii_145 : decode cX13_ascii 145 = .ok (.dup, 1) := dk_89 (dk_at dksX13_ascii_6 9 rfl rfl)
theorem dX13_ascii_146 : decode cX13_ascii 146 = .ok (.getfield 234, 3) := dk_180 0 234 (dk_at dksX13_ascii_6 10 rfl rfl)
theorem dX13_ascii_149 : decode cX13_ascii 149 = .ok (.iconst 1, 1) := dk_4 (dk_at dksX13_ascii_6 13 rfl rfl)
theorem dX13_ascii_150 : decode cX13_ascii 150 = .ok (.iadd, 1) := dk_96 (dk_at dksX13_ascii_6 14 rfl rfl)
theorem dX13_ascii_151 : decode cX13_ascii 151 = .ok (.putfield 234, 3) := dk_181 0 234 (dk_at dksX13_ascii_6 15 rfl rfl)
theorem dX13_ascii_154 : decode cX13_ascii 154 = .ok (.goto (-58), 3) := dk_167 255 198 (dk_at dksX13_ascii_6 18 rfl rfl)
theorem dX13_ascii_157 : decode cX13_ascii 157 = .ok (.iload_n 1, 1) := dk_27 (dk_at dksX13_ascii_6 21 rfl rfl)
theorem dX13_ascii_158 : decode cX13_ascii 158 = .ok (.sipush 235, 3) := dk_17 0 235 (dk_at dksX13_ascii_7 0 rfl rfl)
theorem dX13_ascii_161 : decode cX13_ascii 161 = .ok (.if_icmp .ne 87, 3) := dk_160 0 87 (dk_at dksX13_ascii_7 3 rfl rfl)
theorem dX13_ascii_164 : decode cX13_ascii 164 = .ok (.aload_n 0, 1) := dk_42 (dk_at dksX13_ascii_7 6 rfl rfl)
theorem dX13_ascii_165 : decode cX13_ascii 165 = .ok (.aload_n 0, 1) := dk_42 (dk_at dksX13_ascii_7 7 rfl rfl)
theorem dX13_ascii_166 : decode cX13_ascii 166 = .ok (.getfield 234, 3) := dk_180 0 234 (dk_at dksX13_ascii_7 8 rfl rfl)
theorem dX13_ascii_169 : decode cX13_ascii 169 = .ok (.aload_n 0, 1) := dk_42 (dk_at dksX13_ascii_7 11 rfl rfl)
theorem dX13_ascii_170 : decode cX13_ascii 170 = .ok (.getfield 237, 3) := dk_180 0 237 (dk_at dksX13_ascii_7 12 rfl rfl)
theorem dX13_ascii_173 : decode cX13_ascii 173 = .ok (.if_icmp .ge 35, 3) := dk_162 0 35 (dk_at dksX13_ascii_7 15 rfl rfl)
theorem dX13_ascii_176 : decode cX13_ascii 176 = .ok (.aload_n 0, 1) := dk_42 (dk_at dksX13_ascii_7 18 rfl rfl)
theorem dX13_ascii_177 : decode cX13_ascii 177 = .ok (.getfield 57, 3) := dk_180 0 57 (dk_at dksX13_ascii_7 19 rfl rfl)
theorem dX13_ascii_180 : decode cX13_ascii 180 = .ok (.aload_n 0, 1) := dk_42 (dk_at dksX13_ascii_7 22 rfl rfl)
theorem dX13_ascii_181 : decode cX13_ascii 181 = .ok (.getfield 234, 3) := dk_180 0 234 (dk_at dksX13_ascii_8 0 rfl rfl)
theorem dX13_ascii_184 : decode cX13_ascii 184 = .ok (.iaload, 1) := dk_46 (dk_at dksX13_ascii_8 3 rfl rfl)
theorem dX13_ascii_185 : decode cX13_ascii 185 = .ok (.iconst 1, 1) := dk_4 (dk_at dksX13_ascii_8 4 rfl rfl)
theorem dX13_ascii_186 : decode cX13_ascii 186 = .ok (.if_icmp .lt 22, 3) := dk_161 0 22 (dk_at dksX13_ascii_8 5 rfl rfl)
theorem dX13_ascii_189 : decode cX13_ascii 189 = .ok (.aload_n 0, 1) := dk_42 (dk_at dksX13_ascii_8 8 rfl rfl)
theorem dX13_ascii_190 : decode cX13_ascii 190 = .ok (.getfield 57, 3) := dk_180 0 57 (dk_at dksX13_ascii_8 9 rfl rfl)
theorem dX13_ascii_193 : decode cX13_ascii 193 = .ok (.aload_n 0, 1) := dk_42 (dk_at dksX13_ascii_8 12 rfl rfl)
theorem dX13_ascii_194 : decode cX13_ascii 194 = .ok (.getfield 234, 3) := dk_180 0 234 (dk_at dksX13_ascii_8 13 rfl rfl)
theorem dX13_ascii_197 : decode cX13_ascii 197 = .ok (.iaload, 1) := dk_46 (dk_at dksX13_ascii_8 16 rfl rfl)
theorem dX13_ascii_198 : decode cX13_ascii 198 = .ok (.sipush 128, 3) := dk_17 0 128 (dk_at dksX13_ascii_8 17 rfl rfl)
theorem dX13_ascii_201 : decode cX13_ascii 201 = .ok (.if_icmp .gt 7, 3) := dk_163 0 7 (dk_at dksX13_ascii_8 20 rfl rfl)
theorem dX13_ascii_204 : decode cX13_ascii 204 = .ok (.iconst 1, 1) := dk_4 (dk_at dksX13_ascii_8 23 rfl rfl)
theorem dX13_ascii_205 : decode cX13_ascii 205 = .ok (.goto 4, 3) := dk_167 0 4 (dk_at dksX13_ascii_9 0 rfl rfl)
theorem dX13_ascii_208 : decode cX13_ascii 208 = .ok (.iconst 0, 1) := dk_3 (dk_at dksX13_ascii_9 3 rfl rfl)
theorem dX13_ascii_209 : decode cX13_ascii 209 = .ok (.putfield 240, 3) := dk_181 0 240 (dk_at dksX13_ascii_9 4 rfl rfl)
theorem dX13_ascii_212 : decode cX13_ascii 212 = .ok (.aload_n 0, 1) := dk_42 (dk_at dksX13_ascii_9 7 rfl rfl)
theorem dX13_ascii_213 : decode cX13_ascii 213 = .ok (.getfield 240, 3) := dk_180 0 240 (dk_at dksX13_ascii_9 8 rfl rfl)
theorem dX13_ascii_216 : decode cX13_ascii 216 = .ok (.ifCond .eq 117, 3) := dk_153 0 117 (dk_at dksX13_ascii_9 11 rfl rfl)
theorem dX13_ascii_219 : decode cX13_ascii 219 = .ok (.aload_n 0, 1) := dk_42 (dk_at dksX13_ascii_9 14 rfl rfl)
theorem dX13_ascii_220 : decode cX13_ascii 220 = .ok (.aload_n 0, 1) := dk_42 (dk_at dksX13_ascii_9 15 rfl rfl)
theorem dX13_ascii_221 : decode cX13_ascii 221 = .ok (.getfield 57, 3) := dk_180 0 57 (dk_at dksX13_ascii_9 16 rfl rfl)
theorem dX13_ascii_224 : decode cX13_ascii 224 = .ok (.aload_n 0, 1) := dk_42 (dk_at dksX13_ascii_9 19 rfl rfl)
theorem dX13_ascii_225 : decode cX13_ascii 225 = .ok (.getfield 234, 3) := dk_180 0 234 (dk_at dksX13_ascii_9 20 rfl rfl)
theorem dX13_ascii_228 : decode cX13_ascii 228 = .ok (.iaload, 1) := dk_46 (dk_at dksX13_ascii_9 23 rfl rfl)
theorem dX13_ascii_229 : decode cX13_ascii 229 = .ok (.bipush 127, 2) := dk_16 127 (dk_at dksX13_ascii_10 0 rfl rfl)
theorem dX13_ascii_231 : decode cX13_ascii 231 = .ok (.iadd, 1) := dk_96 (dk_at dksX13_ascii_10 2 rfl rfl)
theorem dX13_ascii_232 : decode cX13_ascii 232 = .ok (.invokevirtual 247, 3) := dk_182 0 247 (dk_at dksX13_ascii_10 3 rfl rfl)
theorem dX13_ascii_235 : decode cX13_ascii 235 = .ok (.aload_n 0, 1) := dk_42 (dk_at dksX13_ascii_10 6 rfl rfl)
theorem dX13_ascii_236 : decode cX13_ascii 236 = .ok (.dup, 1) := dk_89 (dk_at dksX13_ascii_10 7 rfl rfl)
theorem dX13_ascii_237 : decode cX13_ascii 237 = .ok (.getfield 234, 3) := dk_180 0 234 (dk_at dksX13_ascii_10 8 rfl rfl)
theorem dX13_ascii_240 : decode cX13_ascii 240 = .ok (.iconst 1, 1) := dk_4 (dk_at dksX13_ascii_10 11 rfl rfl)
theorem dX13_ascii_241 : decode cX13_ascii 241 = .ok (.iadd, 1) := dk_96 (dk_at dksX13_ascii_10 12 rfl rfl)
theorem dX13_ascii_242 : decode cX13_ascii 242 = .ok (.putfield 234, 3) := dk_181 0 234 (dk_at dksX13_ascii_10 13 rfl rfl)
theorem dX13_ascii_245 : decode cX13_ascii 245 = .ok (.goto 88, 3) := dk_167 0 88 (dk_at dksX13_ascii_10 16 rfl rfl)
theorem dX13_ascii_248 : decode cX13_ascii 248 = .ok (.iload_n 1, 1) := dk_27 (dk_at dksX13_ascii_10 19 rfl rfl)
theorem dX13_ascii_249 : decode cX13_ascii 249 = .ok (.sipush 230, 3) := dk_17 0 230 (dk_at dksX13_ascii_10 20 rfl rfl)
theorem dX13_ascii_252 : decode cX13_ascii 252 = .ok (.if_icmp .eq 17, 3) := dk_159 0 17 (dk_at dksX13_ascii_11 0 rfl rfl)
theorem dX13_ascii_255 : decode cX13_ascii 255 = .ok (.iload_n 1, 1) := dk_27 (dk_at dksX13_ascii_11 3 rfl rfl)
theorem dX13_ascii_256 : decode cX13_ascii 256 = .ok (.sipush 239, 3) := dk_17 0 239 (dk_at dksX13_ascii_11 4 rfl rfl)
theorem dX13_ascii_259 : decode cX13_ascii 259 = .ok (.if_icmp .eq 10, 3) := dk_159 0 10 (dk_at dksX13_ascii_11 7 rfl rfl)
theorem dX13_ascii_262 : decode cX13_ascii 262 = .ok (.iload_n 1, 1) := dk_27 (dk_at dksX13_ascii_11 10 rfl rfl)
theorem dX13_ascii_263 : decode cX13_ascii 263 = .ok (.sipush 238, 3) := dk_17 0 238 (dk_at dksX13_ascii_11 11 rfl rfl)
theorem dX13_ascii_266 : decode cX13_ascii 266 = .ok (.if_icmp .ne 34, 3) := dk_160 0 34 (dk_at dksX13_ascii_11 14 rfl rfl)
theorem dX13_ascii_269 : decode cX13_ascii 269 = .ok (.aload_n 0, 1) := dk_42 (dk_at dksX13_ascii_11 17 rfl rfl)
theorem dX13_ascii_270 : decode cX13_ascii 270 = .ok (.iload_n 1, 1) := dk_27 (dk_at dksX13_ascii_11 18 rfl rfl)
theorem dX13_ascii_271 : decode cX13_ascii 271 = .ok (.sipush 230, 3) := dk_17 0 230 (dk_at dksX13_ascii_11 19 rfl rfl)
theorem dX13_ascii_274 : decode cX13_ascii 274 = .ok (.if_icmp .ne 7, 3) := dk_160 0 7 (dk_at dksX13_ascii_12 0 rfl rfl)
theorem dX13_ascii_277 : decode cX13_ascii 277 = .ok (.iconst 4, 1) := dk_7 (dk_at dksX13_ascii_12 3 rfl rfl)
theorem dX13_ascii_278 : decode cX13_ascii 278 = .ok (.goto 16, 3) := dk_167 0 16 (dk_at dksX13_ascii_12 4 rfl rfl)
theorem dX13_ascii_281 : decode cX13_ascii 281 = .ok (.iload_n 1, 1) := dk_27 (dk_at dksX13_ascii_12 7 rfl rfl)
theorem dX13_ascii_282 : decode cX13_ascii 282 = .ok (.sipush 239, 3) := dk_17 0 239 (dk_at dksX13_ascii_12 8 rfl rfl)
theorem dX13_ascii_285 : decode cX13_ascii 285 = .ok (.if_icmp .ne 7, 3) := dk_160 0 7 (dk_at dksX13_ascii_12 11 rfl rfl)
theorem dX13_ascii_288 : decode cX13_ascii 288 = .ok (.iconst 5, 1) := dk_8 (dk_at dksX13_ascii_12 14 rfl rfl)
theorem dX13_ascii_289 : decode cX13_ascii 289 = .ok (.goto 5, 3) := dk_167 0 5 (dk_at dksX13_ascii_12 15 rfl rfl)
theorem dX13_ascii_292 : decode cX13_ascii 292 = .ok (.bipush 6, 2) := dk_16 6 (dk_at dksX13_ascii_12 18 rfl rfl)
theorem dX13_ascii_294 : decode cX13_ascii 294 = .ok (.invokevirtual 253, 3) := dk_182 0 253 (dk_at dksX13_ascii_12 20 rfl rfl)
theorem dX13_ascii_297 : decode cX13_ascii 297 = .ok (.goto 36, 3) := dk_167 0 36 (dk_at dksX13_ascii_13 0 rfl rfl)
theorem dX13_ascii_300 : decode cX13_ascii 300 = .ok (.iload_n 1, 1) := dk_27 (dk_at dksX13_ascii_13 3 rfl rfl)
theorem dX13_ascii_301 : decode cX13_ascii 301 = .ok (.sipush 240, 3) := dk_17 0 240 (dk_at dksX13_ascii_13 4 rfl rfl)
theorem dX13_ascii_304 : decode cX13_ascii 304 = .ok (.if_icmp .ne 10, 3) := dk_160 0 10 (dk_at dksX13_ascii_13 7 rfl rfl)
theorem dX13_ascii_307 : decode cX13_ascii 307 = .ok (.aload_n 0, 1) := dk_42 (dk_at dksX13_ascii_13 10 rfl rfl)
theorem dX13_ascii_308 : decode cX13_ascii 308 = .ok (.invokevirtual 256, 3) := dk_182 1 0 (dk_at dksX13_ascii_13 11 rfl rfl)
theorem dX13_ascii_311 : decode cX13_ascii 311 = .ok (.goto 22, 3) := dk_167 0 22 (dk_at dksX13_ascii_13 14 rfl rfl)
theorem dX13_ascii_314 : decode cX13_ascii 314 = .ok (.iload_n 1, 1) := dk_27 (dk_at dksX13_ascii_13 17 rfl rfl)
theorem dX13_ascii_315 : decode cX13_ascii 315 = .ok (.sipush 231, 3) := dk_17 0 231 (dk_at dksX13_ascii_13 18 rfl rfl)
theorem dX13_ascii_318 : decode cX13_ascii 318 = .ok (.if_icmp .ne 10, 3) := dk_160 0 10 (dk_at dksX13_ascii_13 21 rfl rfl)
theorem dX13_ascii_321 : decode cX13_ascii 321 = .ok (.aload_n 0, 1) := dk_42 (dk_at dksX13_ascii_14 0 rfl rfl)
theorem dX13_ascii_322 : decode cX13_ascii 322 = .ok (.invokevirtual 259, 3) := dk_182 1 3 (dk_at dksX13_ascii_14 1 rfl rfl)
theorem dX13_ascii_325 : decode cX13_ascii 325 = .ok (.goto 8, 3) := dk_167 0 8 (dk_at dksX13_ascii_14 4 rfl rfl)
theorem dX13_ascii_328 : decode cX13_ascii 328 = .ok (.aload_n 0, 1) := dk_42 (dk_at dksX13_ascii_14 7 rfl rfl)
theorem dX13_ascii_329 : decode cX13_ascii 329 = .ok (.iconst 0, 1) := dk_3 (dk_at dksX13_ascii_14 8 rfl rfl)
theorem dX13_ascii_330 : decode cX13_ascii 330 = .ok (.putfield 240, 3) := dk_181 0 240 (dk_at dksX13_ascii_14 9 rfl rfl)
theorem dX13_ascii_333 : decode cX13_ascii 333 = .ok (.return_, 1) := dk_177 (dk_at dksX13_ascii_14 12 rfl rfl)
abbrev cX13_tell : ByteArray := prog_16_method_41_code
def yX13_tell : MethodName := ⟨RX13, "tell", "(I)V"⟩
def dkwX13_tell_0 : List UInt8 := [42, 180, 0, 81, 42, 180, 0, 231, 27, 79, 42, 89, 180, 0, 231, 4, 96, 181, 0, 231, 177]
abbrev dktX13_tell_0 : List UInt8 := dkwX13_tell_0 ++ []
theorem dksX13_tell_0 : cX13_tell.data.toList.drop 0 = dktX13_tell_0 := by decide +kernel
theorem dX13_tell_0 : decode cX13_tell 0 = .ok (.aload_n 0, 1) := dk_42 (dk_at dksX13_tell_0 0 rfl rfl)
theorem dX13_tell_1 : decode cX13_tell 1 = .ok (.getfield 81, 3) := dk_180 0 81 (dk_at dksX13_tell_0 1 rfl rfl)
theorem dX13_tell_4 : decode cX13_tell 4 = .ok (.aload_n 0, 1) := dk_42 (dk_at dksX13_tell_0 4 rfl rfl)
theorem dX13_tell_5 : decode cX13_tell 5 = .ok (.getfield 231, 3) := dk_180 0 231 (dk_at dksX13_tell_0 5 rfl rfl)
theorem dX13_tell_8 : decode cX13_tell 8 = .ok (.iload_n 1, 1) := dk_27 (dk_at dksX13_tell_0 8 rfl rfl)
theorem dX13_tell_9 : decode cX13_tell 9 = .ok (.iastore, 1) := dk_79 (dk_at dksX13_tell_0 9 rfl rfl)
theorem dX13_tell_10 : decode cX13_tell 10 = .ok (.aload_n 0, 1) := dk_42 (dk_at dksX13_tell_0 10 rfl rfl)
theorem dX13_tell_11 : decode cX13_tell 11 = .ok (.dup, 1) := dk_89 (dk_at dksX13_tell_0 11 rfl rfl)
theorem dX13_tell_12 : decode cX13_tell 12 = .ok (.getfield 231, 3) := dk_180 0 231 (dk_at dksX13_tell_0 12 rfl rfl)
theorem dX13_tell_15 : decode cX13_tell 15 = .ok (.iconst 1, 1) := dk_4 (dk_at dksX13_tell_0 15 rfl rfl)
theorem dX13_tell_16 : decode cX13_tell 16 = .ok (.iadd, 1) := dk_96 (dk_at dksX13_tell_0 16 rfl rfl)
theorem dX13_tell_17 : decode cX13_tell 17 = .ok (.putfield 231, 3) := dk_181 0 231 (dk_at dksX13_tell_0 17 rfl rfl)
theorem dX13_tell_20 : decode cX13_tell 20 = .ok (.return_, 1) := dk_177 (dk_at dksX13_tell_0 20 rfl rfl)
abbrev cX13_pad : ByteArray := prog_16_method_42_code
def yX13_pad : MethodName := ⟨RX13, "pad", "(I)I"⟩
def dkwX13_pad_1 : List UInt8 := [17, 0, 254, 100, 167, 0, 4, 27, 172]
abbrev dktX13_pad_1 : List UInt8 := dkwX13_pad_1 ++ []
def dkwX13_pad_0 : List UInt8 := [17, 0, 130, 17, 0, 149, 26, 104, 17, 0, 253, 112, 96, 60, 27, 17, 0, 254, 164, 0, 11, 27]
abbrev dktX13_pad_0 : List UInt8 := dkwX13_pad_0 ++ dktX13_pad_1
theorem dksX13_pad_0 : cX13_pad.data.toList.drop 0 = dktX13_pad_0 := by decide +kernel
theorem dksX13_pad_1 : cX13_pad.data.toList.drop 22 = dktX13_pad_1 := dk_seg dksX13_pad_0 22 rfl rfl
theorem dX13_pad_0 : decode cX13_pad 0 = .ok (.sipush 130, 3) := dk_17 0 130 (dk_at dksX13_pad_0 0 rfl rfl)
theorem dX13_pad_3 : decode cX13_pad 3 = .ok (.sipush 149, 3) := dk_17 0 149 (dk_at dksX13_pad_0 3 rfl rfl)
theorem dX13_pad_6 : decode cX13_pad 6 = .ok (.iload_n 0, 1) := dk_26 (dk_at dksX13_pad_0 6 rfl rfl)
theorem dX13_pad_7 : decode cX13_pad 7 = .ok (.imul, 1) := dk_104 (dk_at dksX13_pad_0 7 rfl rfl)
theorem dX13_pad_8 : decode cX13_pad 8 = .ok (.sipush 253, 3) := dk_17 0 253 (dk_at dksX13_pad_0 8 rfl rfl)
theorem dX13_pad_11 : decode cX13_pad 11 = .ok (.irem, 1) := dk_112 (dk_at dksX13_pad_0 11 rfl rfl)
theorem dX13_pad_12 : decode cX13_pad 12 = .ok (.iadd, 1) := dk_96 (dk_at dksX13_pad_0 12 rfl rfl)
theorem dX13_pad_13 : decode cX13_pad 13 = .ok (.istore_n 1, 1) := dk_60 (dk_at dksX13_pad_0 13 rfl rfl)
theorem dX13_pad_14 : decode cX13_pad 14 = .ok (.iload_n 1, 1) := dk_27 (dk_at dksX13_pad_0 14 rfl rfl)
theorem dX13_pad_15 : decode cX13_pad 15 = .ok (.sipush 254, 3) := dk_17 0 254 (dk_at dksX13_pad_0 15 rfl rfl)
theorem dX13_pad_18 : decode cX13_pad 18 = .ok (.if_icmp .le 11, 3) := dk_164 0 11 (dk_at dksX13_pad_0 18 rfl rfl)
theorem dX13_pad_21 : decode cX13_pad 21 = .ok (.iload_n 1, 1) := dk_27 (dk_at dksX13_pad_0 21 rfl rfl)
theorem dX13_pad_22 : decode cX13_pad 22 = .ok (.sipush 254, 3) := dk_17 0 254 (dk_at dksX13_pad_1 0 rfl rfl)
theorem dX13_pad_25 : decode cX13_pad 25 = .ok (.isub, 1) := dk_100 (dk_at dksX13_pad_1 3 rfl rfl)
theorem dX13_pad_26 : decode cX13_pad 26 = .ok (.goto 4, 3) := dk_167 0 4 (dk_at dksX13_pad_1 4 rfl rfl)
theorem dX13_pad_29 : decode cX13_pad 29 = .ok (.iload_n 1, 1) := dk_27 (dk_at dksX13_pad_1 7 rfl rfl)
theorem dX13_pad_30 : decode cX13_pad 30 = .ok (.ireturn, 1) := dk_172 (dk_at dksX13_pad_1 8 rfl rfl)
abbrev cX13_threes : ByteArray := prog_16_method_45_code
def yX13_threes : MethodName := ⟨RX13, "threes", "(I)V"⟩
def dkwX13_threes_9 : List UInt8 := [180, 1, 6, 154, 0, 15, 42, 180, 1, 16, 5, 160, 0, 7, 4, 167, 0, 4, 3, 181, 0, 240, 177]
abbrev dktX13_threes_9 : List UInt8 := dkwX13_threes_9 ++ []
def dkwX13_threes_8 : List UInt8 := [42, 42, 180, 0, 240, 153, 0, 36, 42, 180, 1, 9, 154, 0, 29, 42, 180, 1, 6, 155, 0, 18, 42]
abbrev dktX13_threes_8 : List UInt8 := dkwX13_threes_8 ++ dktX13_threes_9
def dkwX13_threes_7 : List UInt8 := [16, 40, 112, 167, 0, 7, 29, 16, 40, 112, 21, 4, 182, 1, 13, 132, 4, 1, 167, 255, 200, 167, 255, 82]
abbrev dktX13_threes_7 : List UInt8 := dkwX13_threes_7 ++ dktX13_threes_8
def dkwX13_threes_6 : List UInt8 := [27, 21, 4, 154, 0, 11, 29, 17, 6, 64, 108, 167, 0, 23, 21, 4, 4, 160, 0, 13, 29, 16, 40, 108]
abbrev dktX13_threes_6 : List UInt8 := dkwX13_threes_6 ++ dktX13_threes_7
def dkwX13_threes_5 : List UInt8 := [167, 0, 4, 3, 181, 0, 240, 3, 54, 4, 21, 4, 6, 162, 0, 56, 42, 180, 0, 240, 153, 0, 49, 42]
abbrev dktX13_threes_5 : List UInt8 := dkwX13_threes_5 ++ dktX13_threes_6
def dkwX13_threes_4 : List UInt8 := [42, 89, 180, 0, 234, 5, 96, 181, 0, 234, 42, 29, 155, 0, 14, 29, 19, 1, 12, 162, 0, 7, 4]
abbrev dktX13_threes_4 : List UInt8 := dkwX13_threes_4 ++ dktX13_threes_5
def dkwX13_threes_3 : List UInt8 := [180, 0, 57, 42, 180, 0, 234, 46, 104, 42, 180, 0, 57, 42, 180, 0, 234, 4, 96, 46, 96, 4, 100, 62]
abbrev dktX13_threes_3 : List UInt8 := dkwX13_threes_3 ++ dktX13_threes_4
def dkwX13_threes_2 : List UInt8 := [160, 0, 18, 42, 89, 180, 0, 234, 4, 96, 181, 0, 234, 3, 61, 167, 255, 205, 17, 1, 0, 42]
abbrev dktX13_threes_2 : List UInt8 := dkwX13_threes_2 ++ dktX13_threes_3
def dkwX13_threes_1 : List UInt8 := [180, 0, 237, 42, 180, 0, 234, 100, 5, 161, 0, 156, 42, 180, 0, 57, 42, 180, 0, 234, 46, 17, 0, 254]
abbrev dktX13_threes_1 : List UInt8 := dkwX13_threes_1 ++ dktX13_threes_2
def dkwX13_threes_0 : List UInt8 := [42, 2, 181, 1, 6, 42, 3, 181, 1, 9, 4, 61, 28, 153, 0, 176, 42, 180, 0, 240, 153, 0, 169, 42]
abbrev dktX13_threes_0 : List UInt8 := dkwX13_threes_0 ++ dktX13_threes_1
theorem dksX13_threes_0 : cX13_threes.data.toList.drop 0 = dktX13_threes_0 := by decide +kernel
theorem dksX13_threes_1 : cX13_threes.data.toList.drop 24 = dktX13_threes_1 := dk_seg dksX13_threes_0 24 rfl rfl
theorem dksX13_threes_2 : cX13_threes.data.toList.drop 48 = dktX13_threes_2 := dk_seg dksX13_threes_1 24 rfl rfl
theorem dksX13_threes_3 : cX13_threes.data.toList.drop 70 = dktX13_threes_3 := dk_seg dksX13_threes_2 22 rfl rfl
theorem dksX13_threes_4 : cX13_threes.data.toList.drop 94 = dktX13_threes_4 := dk_seg dksX13_threes_3 24 rfl rfl
theorem dksX13_threes_5 : cX13_threes.data.toList.drop 117 = dktX13_threes_5 := dk_seg dksX13_threes_4 23 rfl rfl
theorem dksX13_threes_6 : cX13_threes.data.toList.drop 141 = dktX13_threes_6 := dk_seg dksX13_threes_5 24 rfl rfl
theorem dksX13_threes_7 : cX13_threes.data.toList.drop 165 = dktX13_threes_7 := dk_seg dksX13_threes_6 24 rfl rfl
theorem dksX13_threes_8 : cX13_threes.data.toList.drop 189 = dktX13_threes_8 := dk_seg dksX13_threes_7 24 rfl rfl
theorem dksX13_threes_9 : cX13_threes.data.toList.drop 212 = dktX13_threes_9 := dk_seg dksX13_threes_8 23 rfl rfl
theorem dX13_threes_0 : decode cX13_threes 0 = .ok (.aload_n 0, 1) := dk_42 (dk_at dksX13_threes_0 0 rfl rfl)
theorem dX13_threes_1 : decode cX13_threes 1 = .ok (.iconst (-1), 1) := dk_2 (dk_at dksX13_threes_0 1 rfl rfl)
theorem dX13_threes_2 : decode cX13_threes 2 = .ok (.putfield 262, 3) := dk_181 1 6 (dk_at dksX13_threes_0 2 rfl rfl)
theorem dX13_threes_5 : decode cX13_threes 5 = .ok (.aload_n 0, 1) := dk_42 (dk_at dksX13_threes_0 5 rfl rfl)
theorem dX13_threes_6 : decode cX13_threes 6 = .ok (.iconst 0, 1) := dk_3 (dk_at dksX13_threes_0 6 rfl rfl)
theorem dX13_threes_7 : decode cX13_threes 7 = .ok (.putfield 265, 3) := dk_181 1 9 (dk_at dksX13_threes_0 7 rfl rfl)
theorem dX13_threes_10 : decode cX13_threes 10 = .ok (.iconst 1, 1) := dk_4 (dk_at dksX13_threes_0 10 rfl rfl)
theorem dX13_threes_11 : decode cX13_threes 11 = .ok (.istore_n 2, 1) := dk_61 (dk_at dksX13_threes_0 11 rfl rfl)
theorem dX13_threes_12 : decode cX13_threes 12 = .ok (.iload_n 2, 1) := dk_28 (dk_at dksX13_threes_0 12 rfl rfl)
theorem dX13_threes_13 : decode cX13_threes 13 = .ok (.ifCond .eq 176, 3) := dk_153 0 176 (dk_at dksX13_threes_0 13 rfl rfl)
theorem dX13_threes_16 : decode cX13_threes 16 = .ok (.aload_n 0, 1) := dk_42 (dk_at dksX13_threes_0 16 rfl rfl)
theorem dX13_threes_17 : decode cX13_threes 17 = .ok (.getfield 240, 3) := dk_180 0 240 (dk_at dksX13_threes_0 17 rfl rfl)
theorem dX13_threes_20 : decode cX13_threes 20 = .ok (.ifCond .eq 169, 3) := dk_153 0 169 (dk_at dksX13_threes_0 20 rfl rfl)
theorem dX13_threes_23 : decode cX13_threes 23 = .ok (.aload_n 0, 1) := dk_42 (dk_at dksX13_threes_0 23 rfl rfl)
theorem dX13_threes_24 : decode cX13_threes 24 = .ok (.getfield 237, 3) := dk_180 0 237 (dk_at dksX13_threes_1 0 rfl rfl)
theorem dX13_threes_27 : decode cX13_threes 27 = .ok (.aload_n 0, 1) := dk_42 (dk_at dksX13_threes_1 3 rfl rfl)
theorem dX13_threes_28 : decode cX13_threes 28 = .ok (.getfield 234, 3) := dk_180 0 234 (dk_at dksX13_threes_1 4 rfl rfl)
theorem dX13_threes_31 : decode cX13_threes 31 = .ok (.isub, 1) := dk_100 (dk_at dksX13_threes_1 7 rfl rfl)
theorem dX13_threes_32 : decode cX13_threes 32 = .ok (.iconst 2, 1) := dk_5 (dk_at dksX13_threes_1 8 rfl rfl)
theorem dX13_threes_33 : decode cX13_threes 33 = .ok (.if_icmp .lt 156, 3) := dk_161 0 156 (dk_at dksX13_threes_1 9 rfl rfl)
theorem dX13_threes_36 : decode cX13_threes 36 = .ok (.aload_n 0, 1) := dk_42 (dk_at dksX13_threes_1 12 rfl rfl)
theorem dX13_threes_37 : decode cX13_threes 37 = .ok (.getfield 57, 3) := dk_180 0 57 (dk_at dksX13_threes_1 13 rfl rfl)
theorem dX13_threes_40 : decode cX13_threes 40 = .ok (.aload_n 0, 1) := dk_42 (dk_at dksX13_threes_1 16 rfl rfl)
theorem dX13_threes_41 : decode cX13_threes 41 = .ok (.getfield 234, 3) := dk_180 0 234 (dk_at dksX13_threes_1 17 rfl rfl)
theorem dX13_threes_44 : decode cX13_threes 44 = .ok (.iaload, 1) := dk_46 (dk_at dksX13_threes_1 20 rfl rfl)
theorem dX13_threes_45 : decode cX13_threes 45 = .ok (.sipush 254, 3) := dk_17 0 254 (dk_at dksX13_threes_1 21 rfl rfl)
theorem dX13_threes_48 : decode cX13_threes 48 = .ok (.if_icmp .ne 18, 3) := dk_160 0 18 (dk_at dksX13_threes_2 0 rfl rfl)
theorem dX13_threes_51 : decode cX13_threes 51 = .ok (.aload_n 0, 1) := dk_42 (dk_at dksX13_threes_2 3 rfl rfl)
theorem dX13_threes_52 : decode cX13_threes 52 = .ok (.dup, 1) := dk_89 (dk_at dksX13_threes_2 4 rfl rfl)
theorem dX13_threes_53 : decode cX13_threes 53 = .ok (.getfield 234, 3) := dk_180 0 234 (dk_at dksX13_threes_2 5 rfl rfl)
theorem dX13_threes_56 : decode cX13_threes 56 = .ok (.iconst 1, 1) := dk_4 (dk_at dksX13_threes_2 8 rfl rfl)
theorem dX13_threes_57 : decode cX13_threes 57 = .ok (.iadd, 1) := dk_96 (dk_at dksX13_threes_2 9 rfl rfl)
theorem dX13_threes_58 : decode cX13_threes 58 = .ok (.putfield 234, 3) := dk_181 0 234 (dk_at dksX13_threes_2 10 rfl rfl)
theorem dX13_threes_61 : decode cX13_threes 61 = .ok (.iconst 0, 1) := dk_3 (dk_at dksX13_threes_2 13 rfl rfl)
theorem dX13_threes_62 : decode cX13_threes 62 = .ok (.istore_n 2, 1) := dk_61 (dk_at dksX13_threes_2 14 rfl rfl)
theorem dX13_threes_63 : decode cX13_threes 63 = .ok (.goto (-51), 3) := dk_167 255 205 (dk_at dksX13_threes_2 15 rfl rfl)
theorem dX13_threes_66 : decode cX13_threes 66 = .ok (.sipush 256, 3) := dk_17 1 0 (dk_at dksX13_threes_2 18 rfl rfl)
theorem dX13_threes_69 : decode cX13_threes 69 = .ok (.aload_n 0, 1) := dk_42 (dk_at dksX13_threes_2 21 rfl rfl)
theorem dX13_threes_70 : decode cX13_threes 70 = .ok (.getfield 57, 3) := dk_180 0 57 (dk_at dksX13_threes_3 0 rfl rfl)
theorem dX13_threes_73 : decode cX13_threes 73 = .ok (.aload_n 0, 1) := dk_42 (dk_at dksX13_threes_3 3 rfl rfl)
theorem dX13_threes_74 : decode cX13_threes 74 = .ok (.getfield 234, 3) := dk_180 0 234 (dk_at dksX13_threes_3 4 rfl rfl)
theorem dX13_threes_77 : decode cX13_threes 77 = .ok (.iaload, 1) := dk_46 (dk_at dksX13_threes_3 7 rfl rfl)
theorem dX13_threes_78 : decode cX13_threes 78 = .ok (.imul, 1) := dk_104 (dk_at dksX13_threes_3 8 rfl rfl)
theorem dX13_threes_79 : decode cX13_threes 79 = .ok (.aload_n 0, 1) := dk_42 (dk_at dksX13_threes_3 9 rfl rfl)
theorem dX13_threes_80 : decode cX13_threes 80 = .ok (.getfield 57, 3) := dk_180 0 57 (dk_at dksX13_threes_3 10 rfl rfl)
theorem dX13_threes_83 : decode cX13_threes 83 = .ok (.aload_n 0, 1) := dk_42 (dk_at dksX13_threes_3 13 rfl rfl)
theorem dX13_threes_84 : decode cX13_threes 84 = .ok (.getfield 234, 3) := dk_180 0 234 (dk_at dksX13_threes_3 14 rfl rfl)
theorem dX13_threes_87 : decode cX13_threes 87 = .ok (.iconst 1, 1) := dk_4 (dk_at dksX13_threes_3 17 rfl rfl)
theorem dX13_threes_88 : decode cX13_threes 88 = .ok (.iadd, 1) := dk_96 (dk_at dksX13_threes_3 18 rfl rfl)
theorem dX13_threes_89 : decode cX13_threes 89 = .ok (.iaload, 1) := dk_46 (dk_at dksX13_threes_3 19 rfl rfl)
theorem dX13_threes_90 : decode cX13_threes 90 = .ok (.iadd, 1) := dk_96 (dk_at dksX13_threes_3 20 rfl rfl)
theorem dX13_threes_91 : decode cX13_threes 91 = .ok (.iconst 1, 1) := dk_4 (dk_at dksX13_threes_3 21 rfl rfl)
theorem dX13_threes_92 : decode cX13_threes 92 = .ok (.isub, 1) := dk_100 (dk_at dksX13_threes_3 22 rfl rfl)
theorem dX13_threes_93 : decode cX13_threes 93 = .ok (.istore_n 3, 1) := dk_62 (dk_at dksX13_threes_3 23 rfl rfl)
theorem dX13_threes_94 : decode cX13_threes 94 = .ok (.aload_n 0, 1) := dk_42 (dk_at dksX13_threes_4 0 rfl rfl)
theorem dX13_threes_95 : decode cX13_threes 95 = .ok (.dup, 1) := dk_89 (dk_at dksX13_threes_4 1 rfl rfl)
theorem dX13_threes_96 : decode cX13_threes 96 = .ok (.getfield 234, 3) := dk_180 0 234 (dk_at dksX13_threes_4 2 rfl rfl)
theorem dX13_threes_99 : decode cX13_threes 99 = .ok (.iconst 2, 1) := dk_5 (dk_at dksX13_threes_4 5 rfl rfl)
theorem dX13_threes_100 : decode cX13_threes 100 = .ok (.iadd, 1) := dk_96 (dk_at dksX13_threes_4 6 rfl rfl)
theorem dX13_threes_101 : decode cX13_threes 101 = .ok (.putfield 234, 3) := dk_181 0 234 (dk_at dksX13_threes_4 7 rfl rfl)
theorem dX13_threes_104 : decode cX13_threes 104 = .ok (.aload_n 0, 1) := dk_42 (dk_at dksX13_threes_4 10 rfl rfl)
theorem dX13_threes_105 : decode cX13_threes 105 = .ok (.iload_n 3, 1) := dk_29 (dk_at dksX13_threes_4 11 rfl rfl)
theorem dX13_threes_106 : decode cX13_threes 106 = .ok (.ifCond .lt 14, 3) := dk_155 0 14 (dk_at dksX13_threes_4 12 rfl rfl)
theorem dX13_threes_109 : decode cX13_threes 109 = .ok (.iload_n 3, 1) := dk_29 (dk_at dksX13_threes_4 15 rfl rfl)
theorem dX13_threes_110 : decode cX13_threes 110 = .ok (.ldc_w 268, 3) := dk_19 1 12 (dk_at dksX13_threes_4 16 rfl rfl)
theorem dX13_threes_113 : decode cX13_threes 113 = .ok (.if_icmp .ge 7, 3) := dk_162 0 7 (dk_at dksX13_threes_4 19 rfl rfl)
theorem dX13_threes_116 : decode cX13_threes 116 = .ok (.iconst 1, 1) := dk_4 (dk_at dksX13_threes_4 22 rfl rfl)
theorem dX13_threes_117 : decode cX13_threes 117 = .ok (.goto 4, 3) := dk_167 0 4 (dk_at dksX13_threes_5 0 rfl rfl)
theorem dX13_threes_120 : decode cX13_threes 120 = .ok (.iconst 0, 1) := dk_3 (dk_at dksX13_threes_5 3 rfl rfl)
theorem dX13_threes_121 : decode cX13_threes 121 = .ok (.putfield 240, 3) := dk_181 0 240 (dk_at dksX13_threes_5 4 rfl rfl)
theorem dX13_threes_124 : decode cX13_threes 124 = .ok (.iconst 0, 1) := dk_3 (dk_at dksX13_threes_5 7 rfl rfl)
theorem dX13_threes_125 : decode cX13_threes 125 = .ok (.istore 4, 2) := dk_54 4 (dk_at dksX13_threes_5 8 rfl rfl)
theorem dX13_threes_127 : decode cX13_threes 127 = .ok (.iload 4, 2) := dk_21 4 (dk_at dksX13_threes_5 10 rfl rfl)
theorem dX13_threes_129 : decode cX13_threes 129 = .ok (.iconst 3, 1) := dk_6 (dk_at dksX13_threes_5 12 rfl rfl)
theorem dX13_threes_130 : decode cX13_threes 130 = .ok (.if_icmp .ge 56, 3) := dk_162 0 56 (dk_at dksX13_threes_5 13 rfl rfl)
theorem dX13_threes_133 : decode cX13_threes 133 = .ok (.aload_n 0, 1) := dk_42 (dk_at dksX13_threes_5 16 rfl rfl)
theorem dX13_threes_134 : decode cX13_threes 134 = .ok (.getfield 240, 3) := dk_180 0 240 (dk_at dksX13_threes_5 17 rfl rfl)
theorem dX13_threes_137 : decode cX13_threes 137 = .ok (.ifCond .eq 49, 3) := dk_153 0 49 (dk_at dksX13_threes_5 20 rfl rfl)
theorem dX13_threes_140 : decode cX13_threes 140 = .ok (.aload_n 0, 1) := dk_42 (dk_at dksX13_threes_5 23 rfl rfl)
theorem dX13_threes_141 : decode cX13_threes 141 = .ok (.iload_n 1, 1) := dk_27 (dk_at dksX13_threes_6 0 rfl rfl)
theorem dX13_threes_142 : decode cX13_threes 142 = .ok (.iload 4, 2) := dk_21 4 (dk_at dksX13_threes_6 1 rfl rfl)
theorem dX13_threes_144 : decode cX13_threes 144 = .ok (.ifCond .ne 11, 3) := dk_154 0 11 (dk_at dksX13_threes_6 3 rfl rfl)
theorem dX13_threes_147 : decode cX13_threes 147 = .ok (.iload_n 3, 1) := dk_29 (dk_at dksX13_threes_6 6 rfl rfl)
theorem dX13_threes_148 : decode cX13_threes 148 = .ok (.sipush 1600, 3) := dk_17 6 64 (dk_at dksX13_threes_6 7 rfl rfl)
theorem dX13_threes_151 : decode cX13_threes 151 = .ok (.idiv, 1) := dk_108 (dk_at dksX13_threes_6 10 rfl rfl)
theorem dX13_threes_152 : decode cX13_threes 152 = .ok (.goto 23, 3) := dk_167 0 23 (dk_at dksX13_threes_6 11 rfl rfl)
theorem dX13_threes_155 : decode cX13_threes 155 = .ok (.iload 4, 2) := dk_21 4 (dk_at dksX13_threes_6 14 rfl rfl)
theorem dX13_threes_157 : decode cX13_threes 157 = .ok (.iconst 1, 1) := dk_4 (dk_at dksX13_threes_6 16 rfl rfl)
theorem dX13_threes_158 : decode cX13_threes 158 = .ok (.if_icmp .ne 13, 3) := dk_160 0 13 (dk_at dksX13_threes_6 17 rfl rfl)
theorem dX13_threes_161 : decode cX13_threes 161 = .ok (.iload_n 3, 1) := dk_29 (dk_at dksX13_threes_6 20 rfl rfl)
theorem dX13_threes_162 : decode cX13_threes 162 = .ok (.bipush 40, 2) := dk_16 40 (dk_at dksX13_threes_6 21 rfl rfl)
theorem dX13_threes_164 : decode cX13_threes 164 = .ok (.idiv, 1) := dk_108 (dk_at dksX13_threes_6 23 rfl rfl)
theorem dX13_threes_165 : decode cX13_threes 165 = .ok (.bipush 40, 2) := dk_16 40 (dk_at dksX13_threes_7 0 rfl rfl)
theorem dX13_threes_167 : decode cX13_threes 167 = .ok (.irem, 1) := dk_112 (dk_at dksX13_threes_7 2 rfl rfl)
theorem dX13_threes_168 : decode cX13_threes 168 = .ok (.goto 7, 3) := dk_167 0 7 (dk_at dksX13_threes_7 3 rfl rfl)
theorem dX13_threes_171 : decode cX13_threes 171 = .ok (.iload_n 3, 1) := dk_29 (dk_at dksX13_threes_7 6 rfl rfl)
theorem dX13_threes_172 : decode cX13_threes 172 = .ok (.bipush 40, 2) := dk_16 40 (dk_at dksX13_threes_7 7 rfl rfl)
theorem dX13_threes_174 : decode cX13_threes 174 = .ok (.irem, 1) := dk_112 (dk_at dksX13_threes_7 9 rfl rfl)
theorem dX13_threes_175 : decode cX13_threes 175 = .ok (.iload 4, 2) := dk_21 4 (dk_at dksX13_threes_7 10 rfl rfl)
theorem dX13_threes_177 : decode cX13_threes 177 = .ok (.invokevirtual 269, 3) := dk_182 1 13 (dk_at dksX13_threes_7 12 rfl rfl)
theorem dX13_threes_180 : decode cX13_threes 180 = .ok (.iinc 4 1, 3) := dk_132 4 1 (dk_at dksX13_threes_7 15 rfl rfl)
theorem dX13_threes_183 : decode cX13_threes 183 = .ok (.goto (-56), 3) := dk_167 255 200 (dk_at dksX13_threes_7 18 rfl rfl)
theorem dX13_threes_186 : decode cX13_threes 186 = .ok (.goto (-174), 3) := dk_167 255 82 (dk_at dksX13_threes_7 21 rfl rfl)
theorem dX13_threes_189 : decode cX13_threes 189 = .ok (.aload_n 0, 1) := dk_42 (dk_at dksX13_threes_8 0 rfl rfl)
theorem dX13_threes_190 : decode cX13_threes 190 = .ok (.aload_n 0, 1) := dk_42 (dk_at dksX13_threes_8 1 rfl rfl)
theorem dX13_threes_191 : decode cX13_threes 191 = .ok (.getfield 240, 3) := dk_180 0 240 (dk_at dksX13_threes_8 2 rfl rfl)
theorem dX13_threes_194 : decode cX13_threes 194 = .ok (.ifCond .eq 36, 3) := dk_153 0 36 (dk_at dksX13_threes_8 5 rfl rfl)
theorem dX13_threes_197 : decode cX13_threes 197 = .ok (.aload_n 0, 1) := dk_42 (dk_at dksX13_threes_8 8 rfl rfl)
theorem dX13_threes_198 : decode cX13_threes 198 = .ok (.getfield 265, 3) := dk_180 1 9 (dk_at dksX13_threes_8 9 rfl rfl)
theorem dX13_threes_201 : decode cX13_threes 201 = .ok (.ifCond .ne 29, 3) := dk_154 0 29 (dk_at dksX13_threes_8 12 rfl rfl)
theorem dX13_threes_204 : decode cX13_threes 204 = .ok (.aload_n 0, 1) := dk_42 (dk_at dksX13_threes_8 15 rfl rfl)
theorem dX13_threes_205 : decode cX13_threes 205 = .ok (.getfield 262, 3) := dk_180 1 6 (dk_at dksX13_threes_8 16 rfl rfl)
theorem dX13_threes_208 : decode cX13_threes 208 = .ok (.ifCond .lt 18, 3) := dk_155 0 18 (dk_at dksX13_threes_8 19 rfl rfl)
theorem dX13_threes_211 : decode cX13_threes 211 = .ok (.aload_n 0, 1) := dk_42 (dk_at dksX13_threes_8 22 rfl rfl)
theorem dX13_threes_212 : decode cX13_threes 212 = .ok (.getfield 262, 3) := dk_180 1 6 (dk_at dksX13_threes_9 0 rfl rfl)
theorem dX13_threes_215 : decode cX13_threes 215 = .ok (.ifCond .ne 15, 3) := dk_154 0 15 (dk_at dksX13_threes_9 3 rfl rfl)
theorem dX13_threes_218 : decode cX13_threes 218 = .ok (.aload_n 0, 1) := dk_42 (dk_at dksX13_threes_9 6 rfl rfl)
theorem dX13_threes_219 : decode cX13_threes 219 = .ok (.getfield 272, 3) := dk_180 1 16 (dk_at dksX13_threes_9 7 rfl rfl)
theorem dX13_threes_222 : decode cX13_threes 222 = .ok (.iconst 2, 1) := dk_5 (dk_at dksX13_threes_9 10 rfl rfl)
theorem dX13_threes_223 : decode cX13_threes 223 = .ok (.if_icmp .ne 7, 3) := dk_160 0 7 (dk_at dksX13_threes_9 11 rfl rfl)
theorem dX13_threes_226 : decode cX13_threes 226 = .ok (.iconst 1, 1) := dk_4 (dk_at dksX13_threes_9 14 rfl rfl)
theorem dX13_threes_227 : decode cX13_threes 227 = .ok (.goto 4, 3) := dk_167 0 4 (dk_at dksX13_threes_9 15 rfl rfl)
theorem dX13_threes_230 : decode cX13_threes 230 = .ok (.iconst 0, 1) := dk_3 (dk_at dksX13_threes_9 18 rfl rfl)
theorem dX13_threes_231 : decode cX13_threes 231 = .ok (.putfield 240, 3) := dk_181 0 240 (dk_at dksX13_threes_9 19 rfl rfl)
theorem dX13_threes_234 : decode cX13_threes 234 = .ok (.return_, 1) := dk_177 (dk_at dksX13_threes_9 22 rfl rfl)
abbrev cX13_value : ByteArray := prog_16_method_46_code
def yX13_value : MethodName := ⟨RX13, "value", "(III)V"⟩
def dkwX13_value_14 : List UInt8 := [182, 1, 19, 177]
abbrev dktX13_value_14 : List UInt8 := dkwX13_value_14 ++ []
def dkwX13_value_13 : List UInt8 := [42, 21, 4, 155, 0, 7, 4, 167, 0, 4, 3, 181, 0, 240, 42, 2, 181, 1, 6, 42, 21, 4]
abbrev dktX13_value_13 : List UInt8 := dkwX13_value_13 ++ dktX13_value_14
def dkwX13_value_12 : List UInt8 := [28, 16, 27, 162, 0, 12, 16, 65, 28, 96, 4, 100, 167, 0, 10, 16, 123, 28, 96, 16, 27, 100, 54, 4]
abbrev dktX13_value_12 : List UInt8 := dkwX13_value_12 ++ dktX13_value_13
def dkwX13_value_11 : List UInt8 := [167, 0, 46, 27, 7, 160, 0, 10, 16, 96, 28, 96, 167, 0, 34, 28, 154, 0, 8, 16, 96, 167, 0, 25]
abbrev dktX13_value_11 : List UInt8 := dkwX13_value_11 ++ dktX13_value_12
def dkwX13_value_10 : List UInt8 := [180, 1, 9, 154, 0, 69, 42, 4, 181, 1, 9, 42, 2, 181, 1, 6, 177, 28, 16, 31, 164, 0, 7, 2]
abbrev dktX13_value_10 : List UInt8 := dkwX13_value_10 ++ dktX13_value_11
def dkwX13_value_9 : List UInt8 := [162, 0, 13, 16, 91, 28, 96, 16, 22, 100, 167, 0, 4, 2, 54, 4, 28, 16, 30, 160, 0, 76, 42]
abbrev dktX13_value_9 : List UInt8 := dkwX13_value_9 ++ dktX13_value_10
def dkwX13_value_8 : List UInt8 := [167, 0, 36, 28, 16, 22, 162, 0, 13, 16, 58, 28, 96, 16, 15, 100, 167, 0, 20, 28, 16, 27]
abbrev dktX13_value_8 : List UInt8 := dkwX13_value_8 ++ dktX13_value_9
def dkwX13_value_7 : List UInt8 := [2, 54, 4, 167, 0, 138, 42, 180, 1, 6, 4, 160, 0, 75, 28, 16, 15, 162, 0, 10, 16, 33, 28, 96]
abbrev dktX13_value_7 : List UInt8 := dkwX13_value_7 ++ dktX13_value_8
def dkwX13_value_6 : List UInt8 := [182, 1, 19, 177, 2, 54, 4, 42, 180, 1, 6, 154, 0, 19, 28, 16, 32, 162, 0, 7, 28, 167, 0, 4]
abbrev dktX13_value_6 : List UInt8 := dkwX13_value_6 ++ dktX13_value_7
def dkwX13_value_5 : List UInt8 := [7, 100, 167, 0, 20, 28, 16, 14, 100, 27, 7, 160, 0, 8, 16, 65, 167, 0, 5, 16, 97, 96]
abbrev dktX13_value_5 : List UInt8 := dkwX13_value_5 ++ dktX13_value_6
def dkwX13_value_4 : List UInt8 := [167, 0, 49, 42, 28, 6, 160, 0, 8, 16, 32, 167, 0, 35, 28, 16, 14, 162, 0, 12, 16, 48, 28, 96]
abbrev dktX13_value_4 : List UInt8 := dkwX13_value_4 ++ dktX13_value_5
def dkwX13_value_3 : List UInt8 := [177, 42, 180, 1, 6, 156, 0, 68, 28, 6, 162, 0, 16, 42, 28, 181, 1, 6, 42, 29, 181, 1, 16]
abbrev dktX13_value_3 : List UInt8 := dkwX13_value_3 ++ dktX13_value_4
def dkwX13_value_2 : List UInt8 := [16, 14, 162, 0, 12, 16, 48, 28, 96, 7, 100, 167, 0, 10, 16, 65, 28, 96, 16, 14, 100, 182, 0, 247]
abbrev dktX13_value_2 : List UInt8 := dkwX13_value_2 ++ dktX13_value_3
def dkwX13_value_1 : List UInt8 := [167, 0, 45, 28, 5, 160, 0, 8, 16, 62, 167, 0, 35, 28, 6, 160, 0, 8, 16, 32, 167, 0, 25, 28]
abbrev dktX13_value_1 : List UInt8 := dkwX13_value_1 ++ dktX13_value_2
def dkwX13_value_0 : List UInt8 := [27, 16, 6, 160, 0, 69, 42, 28, 154, 0, 8, 16, 13, 167, 0, 55, 28, 4, 160, 0, 8, 16, 42]
abbrev dktX13_value_0 : List UInt8 := dkwX13_value_0 ++ dktX13_value_1
theorem dksX13_value_0 : cX13_value.data.toList.drop 0 = dktX13_value_0 := by decide +kernel
theorem dksX13_value_1 : cX13_value.data.toList.drop 23 = dktX13_value_1 := dk_seg dksX13_value_0 23 rfl rfl
theorem dksX13_value_2 : cX13_value.data.toList.drop 47 = dktX13_value_2 := dk_seg dksX13_value_1 24 rfl rfl
theorem dksX13_value_3 : cX13_value.data.toList.drop 71 = dktX13_value_3 := dk_seg dksX13_value_2 24 rfl rfl
theorem dksX13_value_4 : cX13_value.data.toList.drop 94 = dktX13_value_4 := dk_seg dksX13_value_3 23 rfl rfl
theorem dksX13_value_5 : cX13_value.data.toList.drop 118 = dktX13_value_5 := dk_seg dksX13_value_4 24 rfl rfl
theorem dksX13_value_6 : cX13_value.data.toList.drop 140 = dktX13_value_6 := dk_seg dksX13_value_5 22 rfl rfl
theorem dksX13_value_7 : cX13_value.data.toList.drop 164 = dktX13_value_7 := dk_seg dksX13_value_6 24 rfl rfl
theorem dksX13_value_8 : cX13_value.data.toList.drop 188 = dktX13_value_8 := dk_seg dksX13_value_7 24 rfl rfl
theorem dksX13_value_9 : cX13_value.data.toList.drop 210 = dktX13_value_9 := dk_seg dksX13_value_8 22 rfl rfl
theorem dksX13_value_10 : cX13_value.data.toList.drop 233 = dktX13_value_10 := dk_seg dksX13_value_9 23 rfl rfl
theorem dksX13_value_11 : cX13_value.data.toList.drop 257 = dktX13_value_11 := dk_seg dksX13_value_10 24 rfl rfl
theorem dksX13_value_12 : cX13_value.data.toList.drop 281 = dktX13_value_12 := dk_seg dksX13_value_11 24 rfl rfl
theorem dksX13_value_13 : cX13_value.data.toList.drop 305 = dktX13_value_13 := dk_seg dksX13_value_12 24 rfl rfl
theorem dksX13_value_14 : cX13_value.data.toList.drop 327 = dktX13_value_14 := dk_seg dksX13_value_13 22 rfl rfl
theorem dX13_value_0 : decode cX13_value 0 = .ok (.iload_n 1, 1) := dk_27 (dk_at dksX13_value_0 0 rfl rfl)
theorem dX13_value_1 : decode cX13_value 1 = .ok (.bipush 6, 2) := dk_16 6 (dk_at dksX13_value_0 1 rfl rfl)
theorem dX13_value_3 : decode cX13_value 3 = .ok (.if_icmp .ne 69, 3) := dk_160 0 69 (dk_at dksX13_value_0 3 rfl rfl)
theorem dX13_value_6 : decode cX13_value 6 = .ok (.aload_n 0, 1) := dk_42 (dk_at dksX13_value_0 6 rfl rfl)
theorem dX13_value_7 : decode cX13_value 7 = .ok (.iload_n 2, 1) := dk_28 (dk_at dksX13_value_0 7 rfl rfl)
theorem dX13_value_8 : decode cX13_value 8 = .ok (.ifCond .ne 8, 3) := dk_154 0 8 (dk_at dksX13_value_0 8 rfl rfl)
theorem dX13_value_11 : decode cX13_value 11 = .ok (.bipush 13, 2) := dk_16 13 (dk_at dksX13_value_0 11 rfl rfl)
theorem dX13_value_13 : decode cX13_value 13 = .ok (.goto 55, 3) := dk_167 0 55 (dk_at dksX13_value_0 13 rfl rfl)
theorem dX13_value_16 : decode cX13_value 16 = .ok (.iload_n 2, 1) := dk_28 (dk_at dksX13_value_0 16 rfl rfl)
theorem dX13_value_17 : decode cX13_value 17 = .ok (.iconst 1, 1) := dk_4 (dk_at dksX13_value_0 17 rfl rfl)
theorem dX13_value_18 : decode cX13_value 18 = .ok (.if_icmp .ne 8, 3) := dk_160 0 8 (dk_at dksX13_value_0 18 rfl rfl)
theorem dX13_value_21 : decode cX13_value 21 = .ok (.bipush 42, 2) := dk_16 42 (dk_at dksX13_value_0 21 rfl rfl)
theorem dX13_value_23 : decode cX13_value 23 = .ok (.goto 45, 3) := dk_167 0 45 (dk_at dksX13_value_1 0 rfl rfl)
theorem dX13_value_26 : decode cX13_value 26 = .ok (.iload_n 2, 1) := dk_28 (dk_at dksX13_value_1 3 rfl rfl)
theorem dX13_value_27 : decode cX13_value 27 = .ok (.iconst 2, 1) := dk_5 (dk_at dksX13_value_1 4 rfl rfl)
theorem dX13_value_28 : decode cX13_value 28 = .ok (.if_icmp .ne 8, 3) := dk_160 0 8 (dk_at dksX13_value_1 5 rfl rfl)
theorem dX13_value_31 : decode cX13_value 31 = .ok (.bipush 62, 2) := dk_16 62 (dk_at dksX13_value_1 8 rfl rfl)
theorem dX13_value_33 : decode cX13_value 33 = .ok (.goto 35, 3) := dk_167 0 35 (dk_at dksX13_value_1 10 rfl rfl)
theorem dX13_value_36 : decode cX13_value 36 = .ok (.iload_n 2, 1) := dk_28 (dk_at dksX13_value_1 13 rfl rfl)
theorem dX13_value_37 : decode cX13_value 37 = .ok (.iconst 3, 1) := dk_6 (dk_at dksX13_value_1 14 rfl rfl)
theorem dX13_value_38 : decode cX13_value 38 = .ok (.if_icmp .ne 8, 3) := dk_160 0 8 (dk_at dksX13_value_1 15 rfl rfl)
theorem dX13_value_41 : decode cX13_value 41 = .ok (.bipush 32, 2) := dk_16 32 (dk_at dksX13_value_1 18 rfl rfl)
theorem dX13_value_43 : decode cX13_value 43 = .ok (.goto 25, 3) := dk_167 0 25 (dk_at dksX13_value_1 20 rfl rfl)
theorem dX13_value_46 : decode cX13_value 46 = .ok (.iload_n 2, 1) := dk_28 (dk_at dksX13_value_1 23 rfl rfl)
theorem dX13_value_47 : decode cX13_value 47 = .ok (.bipush 14, 2) := dk_16 14 (dk_at dksX13_value_2 0 rfl rfl)
theorem dX13_value_49 : decode cX13_value 49 = .ok (.if_icmp .ge 12, 3) := dk_162 0 12 (dk_at dksX13_value_2 2 rfl rfl)
theorem dX13_value_52 : decode cX13_value 52 = .ok (.bipush 48, 2) := dk_16 48 (dk_at dksX13_value_2 5 rfl rfl)
theorem dX13_value_54 : decode cX13_value 54 = .ok (.iload_n 2, 1) := dk_28 (dk_at dksX13_value_2 7 rfl rfl)
theorem dX13_value_55 : decode cX13_value 55 = .ok (.iadd, 1) := dk_96 (dk_at dksX13_value_2 8 rfl rfl)
theorem dX13_value_56 : decode cX13_value 56 = .ok (.iconst 4, 1) := dk_7 (dk_at dksX13_value_2 9 rfl rfl)
theorem dX13_value_57 : decode cX13_value 57 = .ok (.isub, 1) := dk_100 (dk_at dksX13_value_2 10 rfl rfl)
theorem dX13_value_58 : decode cX13_value 58 = .ok (.goto 10, 3) := dk_167 0 10 (dk_at dksX13_value_2 11 rfl rfl)
theorem dX13_value_61 : decode cX13_value 61 = .ok (.bipush 65, 2) := dk_16 65 (dk_at dksX13_value_2 14 rfl rfl)
theorem dX13_value_63 : decode cX13_value 63 = .ok (.iload_n 2, 1) := dk_28 (dk_at dksX13_value_2 16 rfl rfl)
theorem dX13_value_64 : decode cX13_value 64 = .ok (.iadd, 1) := dk_96 (dk_at dksX13_value_2 17 rfl rfl)
theorem dX13_value_65 : decode cX13_value 65 = .ok (.bipush 14, 2) := dk_16 14 (dk_at dksX13_value_2 18 rfl rfl)
theorem dX13_value_67 : decode cX13_value 67 = .ok (.isub, 1) := dk_100 (dk_at dksX13_value_2 20 rfl rfl)
theorem dX13_value_68 : decode cX13_value 68 = .ok (.invokevirtual 247, 3) := dk_182 0 247 (dk_at dksX13_value_2 21 rfl rfl)
theorem dX13_value_71 : decode cX13_value 71 = .ok (.return_, 1) := dk_177 (dk_at dksX13_value_3 0 rfl rfl)
theorem dX13_value_72 : decode cX13_value 72 = .ok (.aload_n 0, 1) := dk_42 (dk_at dksX13_value_3 1 rfl rfl)
theorem dX13_value_73 : decode cX13_value 73 = .ok (.getfield 262, 3) := dk_180 1 6 (dk_at dksX13_value_3 2 rfl rfl)
theorem dX13_value_76 : decode cX13_value 76 = .ok (.ifCond .ge 68, 3) := dk_156 0 68 (dk_at dksX13_value_3 5 rfl rfl)
theorem dX13_value_79 : decode cX13_value 79 = .ok (.iload_n 2, 1) := dk_28 (dk_at dksX13_value_3 8 rfl rfl)
theorem dX13_value_80 : decode cX13_value 80 = .ok (.iconst 3, 1) := dk_6 (dk_at dksX13_value_3 9 rfl rfl)
theorem dX13_value_81 : decode cX13_value 81 = .ok (.if_icmp .ge 16, 3) := dk_162 0 16 (dk_at dksX13_value_3 10 rfl rfl)
theorem dX13_value_84 : decode cX13_value 84 = .ok (.aload_n 0, 1) := dk_42 (dk_at dksX13_value_3 13 rfl rfl)
theorem dX13_value_85 : decode cX13_value 85 = .ok (.iload_n 2, 1) := dk_28 (dk_at dksX13_value_3 14 rfl rfl)
theorem dX13_value_86 : decode cX13_value 86 = .ok (.putfield 262, 3) := dk_181 1 6 (dk_at dksX13_value_3 15 rfl rfl)
theorem dX13_value_89 : decode cX13_value 89 = .ok (.aload_n 0, 1) := dk_42 (dk_at dksX13_value_3 18 rfl rfl)
theorem dX13_value_90 : decode cX13_value 90 = .ok (.iload_n 3, 1) := dk_29 (dk_at dksX13_value_3 19 rfl rfl)
theorem dX13_value_91 : decode cX13_value 91 = .ok (.putfield 272, 3) := dk_181 1 16 (dk_at dksX13_value_3 20 rfl rfl)
theorem dX13_value_94 : decode cX13_value 94 = .ok (.goto 49, 3) := dk_167 0 49 (dk_at dksX13_value_4 0 rfl rfl)
theorem dX13_value_97 : decode cX13_value 97 = .ok (.aload_n 0, 1) := dk_42 (dk_at dksX13_value_4 3 rfl rfl)
theorem dX13_value_98 : decode cX13_value 98 = .ok (.iload_n 2, 1) := dk_28 (dk_at dksX13_value_4 4 rfl rfl)
theorem dX13_value_99 : decode cX13_value 99 = .ok (.iconst 3, 1) := dk_6 (dk_at dksX13_value_4 5 rfl rfl)
theorem dX13_value_100 : decode cX13_value 100 = .ok (.if_icmp .ne 8, 3) := dk_160 0 8 (dk_at dksX13_value_4 6 rfl rfl)
theorem dX13_value_103 : decode cX13_value 103 = .ok (.bipush 32, 2) := dk_16 32 (dk_at dksX13_value_4 9 rfl rfl)
theorem dX13_value_105 : decode cX13_value 105 = .ok (.goto 35, 3) := dk_167 0 35 (dk_at dksX13_value_4 11 rfl rfl)
theorem dX13_value_108 : decode cX13_value 108 = .ok (.iload_n 2, 1) := dk_28 (dk_at dksX13_value_4 14 rfl rfl)
theorem dX13_value_109 : decode cX13_value 109 = .ok (.bipush 14, 2) := dk_16 14 (dk_at dksX13_value_4 15 rfl rfl)
theorem dX13_value_111 : decode cX13_value 111 = .ok (.if_icmp .ge 12, 3) := dk_162 0 12 (dk_at dksX13_value_4 17 rfl rfl)
theorem dX13_value_114 : decode cX13_value 114 = .ok (.bipush 48, 2) := dk_16 48 (dk_at dksX13_value_4 20 rfl rfl)
theorem dX13_value_116 : decode cX13_value 116 = .ok (.iload_n 2, 1) := dk_28 (dk_at dksX13_value_4 22 rfl rfl)
theorem dX13_value_117 : decode cX13_value 117 = .ok (.iadd, 1) := dk_96 (dk_at dksX13_value_4 23 rfl rfl)
theorem dX13_value_118 : decode cX13_value 118 = .ok (.iconst 4, 1) := dk_7 (dk_at dksX13_value_5 0 rfl rfl)
theorem dX13_value_119 : decode cX13_value 119 = .ok (.isub, 1) := dk_100 (dk_at dksX13_value_5 1 rfl rfl)
theorem dX13_value_120 : decode cX13_value 120 = .ok (.goto 20, 3) := dk_167 0 20 (dk_at dksX13_value_5 2 rfl rfl)
theorem dX13_value_123 : decode cX13_value 123 = .ok (.iload_n 2, 1) := dk_28 (dk_at dksX13_value_5 5 rfl rfl)
theorem dX13_value_124 : decode cX13_value 124 = .ok (.bipush 14, 2) := dk_16 14 (dk_at dksX13_value_5 6 rfl rfl)
theorem dX13_value_126 : decode cX13_value 126 = .ok (.isub, 1) := dk_100 (dk_at dksX13_value_5 8 rfl rfl)
theorem dX13_value_127 : decode cX13_value 127 = .ok (.iload_n 1, 1) := dk_27 (dk_at dksX13_value_5 9 rfl rfl)
theorem dX13_value_128 : decode cX13_value 128 = .ok (.iconst 4, 1) := dk_7 (dk_at dksX13_value_5 10 rfl rfl)
theorem dX13_value_129 : decode cX13_value 129 = .ok (.if_icmp .ne 8, 3) := dk_160 0 8 (dk_at dksX13_value_5 11 rfl rfl)
theorem dX13_value_132 : decode cX13_value 132 = .ok (.bipush 65, 2) := dk_16 65 (dk_at dksX13_value_5 14 rfl rfl)
theorem dX13_value_134 : decode cX13_value 134 = .ok (.goto 5, 3) := dk_167 0 5 (dk_at dksX13_value_5 16 rfl rfl)
theorem dX13_value_137 : decode cX13_value 137 = .ok (.bipush 97, 2) := dk_16 97 (dk_at dksX13_value_5 19 rfl rfl)
theorem dX13_value_139 : decode cX13_value 139 = .ok (.iadd, 1) := dk_96 (dk_at dksX13_value_5 21 rfl rfl)
theorem dX13_value_140 : decode cX13_value 140 = .ok (.invokevirtual 275, 3) := dk_182 1 19 (dk_at dksX13_value_6 0 rfl rfl)
theorem dX13_value_143 : decode cX13_value 143 = .ok (.return_, 1) := dk_177 (dk_at dksX13_value_6 3 rfl rfl)
theorem dX13_value_144 : decode cX13_value 144 = .ok (.iconst (-1), 1) := dk_2 (dk_at dksX13_value_6 4 rfl rfl)
theorem dX13_value_145 : decode cX13_value 145 = .ok (.istore 4, 2) := dk_54 4 (dk_at dksX13_value_6 5 rfl rfl)
theorem dX13_value_147 : decode cX13_value 147 = .ok (.aload_n 0, 1) := dk_42 (dk_at dksX13_value_6 7 rfl rfl)
theorem dX13_value_148 : decode cX13_value 148 = .ok (.getfield 262, 3) := dk_180 1 6 (dk_at dksX13_value_6 8 rfl rfl)
theorem dX13_value_151 : decode cX13_value 151 = .ok (.ifCond .ne 19, 3) := dk_154 0 19 (dk_at dksX13_value_6 11 rfl rfl)
theorem dX13_value_154 : decode cX13_value 154 = .ok (.iload_n 2, 1) := dk_28 (dk_at dksX13_value_6 14 rfl rfl)
theorem dX13_value_155 : decode cX13_value 155 = .ok (.bipush 32, 2) := dk_16 32 (dk_at dksX13_value_6 15 rfl rfl)
theorem dX13_value_157 : decode cX13_value 157 = .ok (.if_icmp .ge 7, 3) := dk_162 0 7 (dk_at dksX13_value_6 17 rfl rfl)
theorem dX13_value_160 : decode cX13_value 160 = .ok (.iload_n 2, 1) := dk_28 (dk_at dksX13_value_6 20 rfl rfl)
theorem dX13_value_161 : decode cX13_value 161 = .ok (.goto 4, 3) := dk_167 0 4 (dk_at dksX13_value_6 21 rfl rfl)
theorem dX13_value_164 : decode cX13_value 164 = .ok (.iconst (-1), 1) := dk_2 (dk_at dksX13_value_7 0 rfl rfl)
theorem dX13_value_165 : decode cX13_value 165 = .ok (.istore 4, 2) := dk_54 4 (dk_at dksX13_value_7 1 rfl rfl)
theorem dX13_value_167 : decode cX13_value 167 = .ok (.goto 138, 3) := dk_167 0 138 (dk_at dksX13_value_7 3 rfl rfl)
theorem dX13_value_170 : decode cX13_value 170 = .ok (.aload_n 0, 1) := dk_42 (dk_at dksX13_value_7 6 rfl rfl)
theorem dX13_value_171 : decode cX13_value 171 = .ok (.getfield 262, 3) := dk_180 1 6 (dk_at dksX13_value_7 7 rfl rfl)
theorem dX13_value_174 : decode cX13_value 174 = .ok (.iconst 1, 1) := dk_4 (dk_at dksX13_value_7 10 rfl rfl)
theorem dX13_value_175 : decode cX13_value 175 = .ok (.if_icmp .ne 75, 3) := dk_160 0 75 (dk_at dksX13_value_7 11 rfl rfl)
theorem dX13_value_178 : decode cX13_value 178 = .ok (.iload_n 2, 1) := dk_28 (dk_at dksX13_value_7 14 rfl rfl)
theorem dX13_value_179 : decode cX13_value 179 = .ok (.bipush 15, 2) := dk_16 15 (dk_at dksX13_value_7 15 rfl rfl)
theorem dX13_value_181 : decode cX13_value 181 = .ok (.if_icmp .ge 10, 3) := dk_162 0 10 (dk_at dksX13_value_7 17 rfl rfl)
theorem dX13_value_184 : decode cX13_value 184 = .ok (.bipush 33, 2) := dk_16 33 (dk_at dksX13_value_7 20 rfl rfl)
theorem dX13_value_186 : decode cX13_value 186 = .ok (.iload_n 2, 1) := dk_28 (dk_at dksX13_value_7 22 rfl rfl)
theorem dX13_value_187 : decode cX13_value 187 = .ok (.iadd, 1) := dk_96 (dk_at dksX13_value_7 23 rfl rfl)
theorem dX13_value_188 : decode cX13_value 188 = .ok (.goto 36, 3) := dk_167 0 36 (dk_at dksX13_value_8 0 rfl rfl)
theorem dX13_value_191 : decode cX13_value 191 = .ok (.iload_n 2, 1) := dk_28 (dk_at dksX13_value_8 3 rfl rfl)
theorem dX13_value_192 : decode cX13_value 192 = .ok (.bipush 22, 2) := dk_16 22 (dk_at dksX13_value_8 4 rfl rfl)
theorem dX13_value_194 : decode cX13_value 194 = .ok (.if_icmp .ge 13, 3) := dk_162 0 13 (dk_at dksX13_value_8 6 rfl rfl)
theorem dX13_value_197 : decode cX13_value 197 = .ok (.bipush 58, 2) := dk_16 58 (dk_at dksX13_value_8 9 rfl rfl)
theorem dX13_value_199 : decode cX13_value 199 = .ok (.iload_n 2, 1) := dk_28 (dk_at dksX13_value_8 11 rfl rfl)
theorem dX13_value_200 : decode cX13_value 200 = .ok (.iadd, 1) := dk_96 (dk_at dksX13_value_8 12 rfl rfl)
theorem dX13_value_201 : decode cX13_value 201 = .ok (.bipush 15, 2) := dk_16 15 (dk_at dksX13_value_8 13 rfl rfl)
theorem dX13_value_203 : decode cX13_value 203 = .ok (.isub, 1) := dk_100 (dk_at dksX13_value_8 15 rfl rfl)
theorem dX13_value_204 : decode cX13_value 204 = .ok (.goto 20, 3) := dk_167 0 20 (dk_at dksX13_value_8 16 rfl rfl)
theorem dX13_value_207 : decode cX13_value 207 = .ok (.iload_n 2, 1) := dk_28 (dk_at dksX13_value_8 19 rfl rfl)
theorem dX13_value_208 : decode cX13_value 208 = .ok (.bipush 27, 2) := dk_16 27 (dk_at dksX13_value_8 20 rfl rfl)
theorem dX13_value_210 : decode cX13_value 210 = .ok (.if_icmp .ge 13, 3) := dk_162 0 13 (dk_at dksX13_value_9 0 rfl rfl)
theorem dX13_value_213 : decode cX13_value 213 = .ok (.bipush 91, 2) := dk_16 91 (dk_at dksX13_value_9 3 rfl rfl)
theorem dX13_value_215 : decode cX13_value 215 = .ok (.iload_n 2, 1) := dk_28 (dk_at dksX13_value_9 5 rfl rfl)
theorem dX13_value_216 : decode cX13_value 216 = .ok (.iadd, 1) := dk_96 (dk_at dksX13_value_9 6 rfl rfl)
theorem dX13_value_217 : decode cX13_value 217 = .ok (.bipush 22, 2) := dk_16 22 (dk_at dksX13_value_9 7 rfl rfl)
theorem dX13_value_219 : decode cX13_value 219 = .ok (.isub, 1) := dk_100 (dk_at dksX13_value_9 9 rfl rfl)
theorem dX13_value_220 : decode cX13_value 220 = .ok (.goto 4, 3) := dk_167 0 4 (dk_at dksX13_value_9 10 rfl rfl)
theorem dX13_value_223 : decode cX13_value 223 = .ok (.iconst (-1), 1) := dk_2 (dk_at dksX13_value_9 13 rfl rfl)
theorem dX13_value_224 : decode cX13_value 224 = .ok (.istore 4, 2) := dk_54 4 (dk_at dksX13_value_9 14 rfl rfl)
theorem dX13_value_226 : decode cX13_value 226 = .ok (.iload_n 2, 1) := dk_28 (dk_at dksX13_value_9 16 rfl rfl)
theorem dX13_value_227 : decode cX13_value 227 = .ok (.bipush 30, 2) := dk_16 30 (dk_at dksX13_value_9 17 rfl rfl)
theorem dX13_value_229 : decode cX13_value 229 = .ok (.if_icmp .ne 76, 3) := dk_160 0 76 (dk_at dksX13_value_9 19 rfl rfl)
theorem dX13_value_232 : decode cX13_value 232 = .ok (.aload_n 0, 1) := dk_42 (dk_at dksX13_value_9 22 rfl rfl)
theorem dX13_value_233 : decode cX13_value 233 = .ok (.getfield 265, 3) := dk_180 1 9 (dk_at dksX13_value_10 0 rfl rfl)
theorem dX13_value_236 : decode cX13_value 236 = .ok (.ifCond .ne 69, 3) := dk_154 0 69 (dk_at dksX13_value_10 3 rfl rfl)
theorem dX13_value_239 : decode cX13_value 239 = .ok (.aload_n 0, 1) := dk_42 (dk_at dksX13_value_10 6 rfl rfl)
theorem dX13_value_240 : decode cX13_value 240 = .ok (.iconst 1, 1) := dk_4 (dk_at dksX13_value_10 7 rfl rfl)
theorem dX13_value_241 : decode cX13_value 241 = .ok (.putfield 265, 3) := dk_181 1 9 (dk_at dksX13_value_10 8 rfl rfl)
theorem dX13_value_244 : decode cX13_value 244 = .ok (.aload_n 0, 1) := dk_42 (dk_at dksX13_value_10 11 rfl rfl)
theorem dX13_value_245 : decode cX13_value 245 = .ok (.iconst (-1), 1) := dk_2 (dk_at dksX13_value_10 12 rfl rfl)
theorem dX13_value_246 : decode cX13_value 246 = .ok (.putfield 262, 3) := dk_181 1 6 (dk_at dksX13_value_10 13 rfl rfl)
theorem dX13_value_249 : decode cX13_value 249 = .ok (.return_, 1) := dk_177 (dk_at dksX13_value_10 16 rfl rfl)
theorem dX13_value_250 : decode cX13_value 250 = .ok (.iload_n 2, 1) := dk_28 (dk_at dksX13_value_10 17 rfl rfl)
theorem dX13_value_251 : decode cX13_value 251 = .ok (.bipush 31, 2) := dk_16 31 (dk_at dksX13_value_10 18 rfl rfl)
theorem dX13_value_253 : decode cX13_value 253 = .ok (.if_icmp .le 7, 3) := dk_164 0 7 (dk_at dksX13_value_10 20 rfl rfl)
theorem dX13_value_256 : decode cX13_value 256 = .ok (.iconst (-1), 1) := dk_2 (dk_at dksX13_value_10 23 rfl rfl)
theorem dX13_value_257 : decode cX13_value 257 = .ok (.goto 46, 3) := dk_167 0 46 (dk_at dksX13_value_11 0 rfl rfl)
theorem dX13_value_260 : decode cX13_value 260 = .ok (.iload_n 1, 1) := dk_27 (dk_at dksX13_value_11 3 rfl rfl)
theorem dX13_value_261 : decode cX13_value 261 = .ok (.iconst 4, 1) := dk_7 (dk_at dksX13_value_11 4 rfl rfl)
theorem dX13_value_262 : decode cX13_value 262 = .ok (.if_icmp .ne 10, 3) := dk_160 0 10 (dk_at dksX13_value_11 5 rfl rfl)
theorem dX13_value_265 : decode cX13_value 265 = .ok (.bipush 96, 2) := dk_16 96 (dk_at dksX13_value_11 8 rfl rfl)
theorem dX13_value_267 : decode cX13_value 267 = .ok (.iload_n 2, 1) := dk_28 (dk_at dksX13_value_11 10 rfl rfl)
theorem dX13_value_268 : decode cX13_value 268 = .ok (.iadd, 1) := dk_96 (dk_at dksX13_value_11 11 rfl rfl)
theorem dX13_value_269 : decode cX13_value 269 = .ok (.goto 34, 3) := dk_167 0 34 (dk_at dksX13_value_11 12 rfl rfl)
theorem dX13_value_272 : decode cX13_value 272 = .ok (.iload_n 2, 1) := dk_28 (dk_at dksX13_value_11 15 rfl rfl)
theorem dX13_value_273 : decode cX13_value 273 = .ok (.ifCond .ne 8, 3) := dk_154 0 8 (dk_at dksX13_value_11 16 rfl rfl)
theorem dX13_value_276 : decode cX13_value 276 = .ok (.bipush 96, 2) := dk_16 96 (dk_at dksX13_value_11 19 rfl rfl)
theorem dX13_value_278 : decode cX13_value 278 = .ok (.goto 25, 3) := dk_167 0 25 (dk_at dksX13_value_11 21 rfl rfl)
theorem dX13_value_281 : decode cX13_value 281 = .ok (.iload_n 2, 1) := dk_28 (dk_at dksX13_value_12 0 rfl rfl)
theorem dX13_value_282 : decode cX13_value 282 = .ok (.bipush 27, 2) := dk_16 27 (dk_at dksX13_value_12 1 rfl rfl)
theorem dX13_value_284 : decode cX13_value 284 = .ok (.if_icmp .ge 12, 3) := dk_162 0 12 (dk_at dksX13_value_12 3 rfl rfl)
theorem dX13_value_287 : decode cX13_value 287 = .ok (.bipush 65, 2) := dk_16 65 (dk_at dksX13_value_12 6 rfl rfl)
theorem dX13_value_289 : decode cX13_value 289 = .ok (.iload_n 2, 1) := dk_28 (dk_at dksX13_value_12 8 rfl rfl)
theorem dX13_value_290 : decode cX13_value 290 = .ok (.iadd, 1) := dk_96 (dk_at dksX13_value_12 9 rfl rfl)
theorem dX13_value_291 : decode cX13_value 291 = .ok (.iconst 1, 1) := dk_4 (dk_at dksX13_value_12 10 rfl rfl)
theorem dX13_value_292 : decode cX13_value 292 = .ok (.isub, 1) := dk_100 (dk_at dksX13_value_12 11 rfl rfl)
theorem dX13_value_293 : decode cX13_value 293 = .ok (.goto 10, 3) := dk_167 0 10 (dk_at dksX13_value_12 12 rfl rfl)
theorem dX13_value_296 : decode cX13_value 296 = .ok (.bipush 123, 2) := dk_16 123 (dk_at dksX13_value_12 15 rfl rfl)
theorem dX13_value_298 : decode cX13_value 298 = .ok (.iload_n 2, 1) := dk_28 (dk_at dksX13_value_12 17 rfl rfl)
theorem dX13_value_299 : decode cX13_value 299 = .ok (.iadd, 1) := dk_96 (dk_at dksX13_value_12 18 rfl rfl)
theorem dX13_value_300 : decode cX13_value 300 = .ok (.bipush 27, 2) := dk_16 27 (dk_at dksX13_value_12 19 rfl rfl)
theorem dX13_value_302 : decode cX13_value 302 = .ok (.isub, 1) := dk_100 (dk_at dksX13_value_12 21 rfl rfl)
theorem dX13_value_303 : decode cX13_value 303 = .ok (.istore 4, 2) := dk_54 4 (dk_at dksX13_value_12 22 rfl rfl)
theorem dX13_value_305 : decode cX13_value 305 = .ok (.aload_n 0, 1) := dk_42 (dk_at dksX13_value_13 0 rfl rfl)
theorem dX13_value_306 : decode cX13_value 306 = .ok (.iload 4, 2) := dk_21 4 (dk_at dksX13_value_13 1 rfl rfl)
theorem dX13_value_308 : decode cX13_value 308 = .ok (.ifCond .lt 7, 3) := dk_155 0 7 (dk_at dksX13_value_13 3 rfl rfl)
theorem dX13_value_311 : decode cX13_value 311 = .ok (.iconst 1, 1) := dk_4 (dk_at dksX13_value_13 6 rfl rfl)
theorem dX13_value_312 : decode cX13_value 312 = .ok (.goto 4, 3) := dk_167 0 4 (dk_at dksX13_value_13 7 rfl rfl)
theorem dX13_value_315 : decode cX13_value 315 = .ok (.iconst 0, 1) := dk_3 (dk_at dksX13_value_13 10 rfl rfl)
theorem dX13_value_316 : decode cX13_value 316 = .ok (.putfield 240, 3) := dk_181 0 240 (dk_at dksX13_value_13 11 rfl rfl)
theorem dX13_value_319 : decode cX13_value 319 = .ok (.aload_n 0, 1) := dk_42 (dk_at dksX13_value_13 14 rfl rfl)
theorem dX13_value_320 : decode cX13_value 320 = .ok (.iconst (-1), 1) := dk_2 (dk_at dksX13_value_13 15 rfl rfl)
theorem dX13_value_321 : decode cX13_value 321 = .ok (.putfield 262, 3) := dk_181 1 6 (dk_at dksX13_value_13 16 rfl rfl)
theorem dX13_value_324 : decode cX13_value 324 = .ok (.aload_n 0, 1) := dk_42 (dk_at dksX13_value_13 19 rfl rfl)
theorem dX13_value_325 : decode cX13_value 325 = .ok (.iload 4, 2) := dk_21 4 (dk_at dksX13_value_13 20 rfl rfl)
theorem dX13_value_327 : decode cX13_value 327 = .ok (.invokevirtual 275, 3) := dk_182 1 19 (dk_at dksX13_value_14 0 rfl rfl)
theorem dX13_value_330 : decode cX13_value 330 = .ok (.return_, 1) := dk_177 (dk_at dksX13_value_14 3 rfl rfl)
abbrev cX13_shifted : ByteArray := prog_16_method_47_code
def yX13_shifted : MethodName := ⟨RX13, "shifted", "(I)V"⟩
def dkwX13_shifted_1 : List UInt8 := [182, 0, 247, 42, 3, 181, 1, 9, 177]
abbrev dktX13_shifted_1 : List UInt8 := dkwX13_shifted_1 ++ []
def dkwX13_shifted_0 : List UInt8 := [42, 180, 0, 240, 153, 0, 28, 42, 27, 42, 180, 1, 9, 153, 0, 9, 17, 0, 128, 167, 0, 4, 3, 96]
abbrev dktX13_shifted_0 : List UInt8 := dkwX13_shifted_0 ++ dktX13_shifted_1
theorem dksX13_shifted_0 : cX13_shifted.data.toList.drop 0 = dktX13_shifted_0 := by decide +kernel
theorem dksX13_shifted_1 : cX13_shifted.data.toList.drop 24 = dktX13_shifted_1 := dk_seg dksX13_shifted_0 24 rfl rfl
theorem dX13_shifted_0 : decode cX13_shifted 0 = .ok (.aload_n 0, 1) := dk_42 (dk_at dksX13_shifted_0 0 rfl rfl)
theorem dX13_shifted_1 : decode cX13_shifted 1 = .ok (.getfield 240, 3) := dk_180 0 240 (dk_at dksX13_shifted_0 1 rfl rfl)
theorem dX13_shifted_4 : decode cX13_shifted 4 = .ok (.ifCond .eq 28, 3) := dk_153 0 28 (dk_at dksX13_shifted_0 4 rfl rfl)
theorem dX13_shifted_7 : decode cX13_shifted 7 = .ok (.aload_n 0, 1) := dk_42 (dk_at dksX13_shifted_0 7 rfl rfl)
theorem dX13_shifted_8 : decode cX13_shifted 8 = .ok (.iload_n 1, 1) := dk_27 (dk_at dksX13_shifted_0 8 rfl rfl)
theorem dX13_shifted_9 : decode cX13_shifted 9 = .ok (.aload_n 0, 1) := dk_42 (dk_at dksX13_shifted_0 9 rfl rfl)
theorem dX13_shifted_10 : decode cX13_shifted 10 = .ok (.getfield 265, 3) := dk_180 1 9 (dk_at dksX13_shifted_0 10 rfl rfl)
theorem dX13_shifted_13 : decode cX13_shifted 13 = .ok (.ifCond .eq 9, 3) := dk_153 0 9 (dk_at dksX13_shifted_0 13 rfl rfl)
theorem dX13_shifted_16 : decode cX13_shifted 16 = .ok (.sipush 128, 3) := dk_17 0 128 (dk_at dksX13_shifted_0 16 rfl rfl)
theorem dX13_shifted_19 : decode cX13_shifted 19 = .ok (.goto 4, 3) := dk_167 0 4 (dk_at dksX13_shifted_0 19 rfl rfl)
theorem dX13_shifted_22 : decode cX13_shifted 22 = .ok (.iconst 0, 1) := dk_3 (dk_at dksX13_shifted_0 22 rfl rfl)
theorem dX13_shifted_23 : decode cX13_shifted 23 = .ok (.iadd, 1) := dk_96 (dk_at dksX13_shifted_0 23 rfl rfl)
theorem dX13_shifted_24 : decode cX13_shifted 24 = .ok (.invokevirtual 247, 3) := dk_182 0 247 (dk_at dksX13_shifted_1 0 rfl rfl)
theorem dX13_shifted_27 : decode cX13_shifted 27 = .ok (.aload_n 0, 1) := dk_42 (dk_at dksX13_shifted_1 3 rfl rfl)
theorem dX13_shifted_28 : decode cX13_shifted 28 = .ok (.iconst 0, 1) := dk_3 (dk_at dksX13_shifted_1 4 rfl rfl)
theorem dX13_shifted_29 : decode cX13_shifted 29 = .ok (.putfield 265, 3) := dk_181 1 9 (dk_at dksX13_shifted_1 5 rfl rfl)
theorem dX13_shifted_32 : decode cX13_shifted 32 = .ok (.return_, 1) := dk_177 (dk_at dksX13_shifted_1 8 rfl rfl)
abbrev cX13_sixes : ByteArray := prog_16_method_48_code
def yX13_sixes : MethodName := ⟨RX13, "sixes", "()V"⟩
def dkwX13_sixes_10 : List UInt8 := [181, 0, 234, 167, 255, 22, 177]
abbrev dktX13_sixes_10 : List UInt8 := dkwX13_sixes_10 ++ []
def dkwX13_sixes_9 : List UInt8 := [182, 0, 247, 132, 3, 1, 167, 255, 109, 42, 89, 180, 0, 234, 27, 153, 0, 7, 6, 167, 0, 4, 3, 96]
abbrev dktX13_sixes_9 : List UInt8 := dkwX13_sixes_9 ++ dktX13_sixes_10
def dkwX13_sixes_8 : List UInt8 := [181, 0, 234, 167, 0, 27, 42, 21, 4, 16, 31, 162, 0, 11, 21, 4, 16, 64, 96, 167, 0, 5, 21, 4]
abbrev dktX13_sixes_8 : List UInt8 := dkwX13_sixes_8 ++ dktX13_sixes_9
def dkwX13_sixes_7 : List UInt8 := [180, 0, 234, 29, 154, 0, 7, 4, 167, 0, 13, 29, 4, 160, 0, 7, 5, 167, 0, 4, 6, 96]
abbrev dktX13_sixes_7 : List UInt8 := dkwX13_sixes_7 ++ dktX13_sixes_8
def dkwX13_sixes_6 : List UInt8 := [100, 122, 4, 21, 5, 120, 4, 100, 126, 154, 0, 7, 4, 167, 0, 4, 3, 181, 0, 240, 42, 89]
abbrev dktX13_sixes_6 : List UInt8 := dkwX13_sixes_6 ++ dktX13_sixes_7
def dkwX13_sixes_5 : List UInt8 := [29, 5, 160, 0, 8, 16, 6, 167, 0, 4, 3, 54, 5, 42, 28, 16, 18, 16, 6, 29, 104, 100, 21, 5]
abbrev dktX13_sixes_5 : List UInt8 := dkwX13_sixes_5 ++ dktX13_sixes_6
def dkwX13_sixes_4 : List UInt8 := [16, 31, 160, 0, 96, 3, 60, 29, 154, 0, 7, 5, 167, 0, 23, 29, 4, 160, 0, 7, 7, 167, 0, 14]
abbrev dktX13_sixes_4 : List UInt8 := dkwX13_sixes_4 ++ dktX13_sixes_5
def dkwX13_sixes_3 : List UInt8 := [162, 0, 148, 27, 153, 0, 144, 28, 16, 18, 16, 6, 29, 104, 100, 122, 16, 63, 126, 54, 4, 21, 4]
abbrev dktX13_sixes_3 : List UInt8 := dkwX13_sixes_3 ++ dktX13_sixes_4
def dkwX13_sixes_2 : List UInt8 := [96, 46, 16, 8, 120, 128, 42, 180, 0, 57, 42, 180, 0, 234, 5, 96, 46, 128, 61, 3, 62, 29, 7]
abbrev dktX13_sixes_2 : List UInt8 := dkwX13_sixes_2 ++ dktX13_sixes_3
def dkwX13_sixes_1 : List UInt8 := [161, 0, 216, 42, 180, 0, 57, 42, 180, 0, 234, 46, 16, 16, 120, 42, 180, 0, 57, 42, 180, 0, 234, 4]
abbrev dktX13_sixes_1 : List UInt8 := dkwX13_sixes_1 ++ dktX13_sixes_2
def dkwX13_sixes_0 : List UInt8 := [4, 60, 27, 153, 0, 236, 42, 180, 0, 240, 153, 0, 229, 42, 180, 0, 237, 42, 180, 0, 234, 100, 6]
abbrev dktX13_sixes_0 : List UInt8 := dkwX13_sixes_0 ++ dktX13_sixes_1
theorem dksX13_sixes_0 : cX13_sixes.data.toList.drop 0 = dktX13_sixes_0 := by decide +kernel
theorem dksX13_sixes_1 : cX13_sixes.data.toList.drop 23 = dktX13_sixes_1 := dk_seg dksX13_sixes_0 23 rfl rfl
theorem dksX13_sixes_2 : cX13_sixes.data.toList.drop 47 = dktX13_sixes_2 := dk_seg dksX13_sixes_1 24 rfl rfl
theorem dksX13_sixes_3 : cX13_sixes.data.toList.drop 70 = dktX13_sixes_3 := dk_seg dksX13_sixes_2 23 rfl rfl
theorem dksX13_sixes_4 : cX13_sixes.data.toList.drop 93 = dktX13_sixes_4 := dk_seg dksX13_sixes_3 23 rfl rfl
theorem dksX13_sixes_5 : cX13_sixes.data.toList.drop 117 = dktX13_sixes_5 := dk_seg dksX13_sixes_4 24 rfl rfl
theorem dksX13_sixes_6 : cX13_sixes.data.toList.drop 141 = dktX13_sixes_6 := dk_seg dksX13_sixes_5 24 rfl rfl
theorem dksX13_sixes_7 : cX13_sixes.data.toList.drop 163 = dktX13_sixes_7 := dk_seg dksX13_sixes_6 22 rfl rfl
theorem dksX13_sixes_8 : cX13_sixes.data.toList.drop 185 = dktX13_sixes_8 := dk_seg dksX13_sixes_7 22 rfl rfl
theorem dksX13_sixes_9 : cX13_sixes.data.toList.drop 209 = dktX13_sixes_9 := dk_seg dksX13_sixes_8 24 rfl rfl
theorem dksX13_sixes_10 : cX13_sixes.data.toList.drop 233 = dktX13_sixes_10 := dk_seg dksX13_sixes_9 24 rfl rfl
theorem dX13_sixes_0 : decode cX13_sixes 0 = .ok (.iconst 1, 1) := dk_4 (dk_at dksX13_sixes_0 0 rfl rfl)
theorem dX13_sixes_1 : decode cX13_sixes 1 = .ok (.istore_n 1, 1) := dk_60 (dk_at dksX13_sixes_0 1 rfl rfl)
theorem dX13_sixes_2 : decode cX13_sixes 2 = .ok (.iload_n 1, 1) := dk_27 (dk_at dksX13_sixes_0 2 rfl rfl)
theorem dX13_sixes_3 : decode cX13_sixes 3 = .ok (.ifCond .eq 236, 3) := dk_153 0 236 (dk_at dksX13_sixes_0 3 rfl rfl)
theorem dX13_sixes_6 : decode cX13_sixes 6 = .ok (.aload_n 0, 1) := dk_42 (dk_at dksX13_sixes_0 6 rfl rfl)
theorem dX13_sixes_7 : decode cX13_sixes 7 = .ok (.getfield 240, 3) := dk_180 0 240 (dk_at dksX13_sixes_0 7 rfl rfl)
theorem dX13_sixes_10 : decode cX13_sixes 10 = .ok (.ifCond .eq 229, 3) := dk_153 0 229 (dk_at dksX13_sixes_0 10 rfl rfl)
theorem dX13_sixes_13 : decode cX13_sixes 13 = .ok (.aload_n 0, 1) := dk_42 (dk_at dksX13_sixes_0 13 rfl rfl)
theorem dX13_sixes_14 : decode cX13_sixes 14 = .ok (.getfield 237, 3) := dk_180 0 237 (dk_at dksX13_sixes_0 14 rfl rfl)
theorem dX13_sixes_17 : decode cX13_sixes 17 = .ok (.aload_n 0, 1) := dk_42 (dk_at dksX13_sixes_0 17 rfl rfl)
theorem dX13_sixes_18 : decode cX13_sixes 18 = .ok (.getfield 234, 3) := dk_180 0 234 (dk_at dksX13_sixes_0 18 rfl rfl)
theorem dX13_sixes_21 : decode cX13_sixes 21 = .ok (.isub, 1) := dk_100 (dk_at dksX13_sixes_0 21 rfl rfl)
theorem dX13_sixes_22 : decode cX13_sixes 22 = .ok (.iconst 3, 1) := dk_6 (dk_at dksX13_sixes_0 22 rfl rfl)
theorem dX13_sixes_23 : decode cX13_sixes 23 = .ok (.if_icmp .lt 216, 3) := dk_161 0 216 (dk_at dksX13_sixes_1 0 rfl rfl)
theorem dX13_sixes_26 : decode cX13_sixes 26 = .ok (.aload_n 0, 1) := dk_42 (dk_at dksX13_sixes_1 3 rfl rfl)
theorem dX13_sixes_27 : decode cX13_sixes 27 = .ok (.getfield 57, 3) := dk_180 0 57 (dk_at dksX13_sixes_1 4 rfl rfl)
theorem dX13_sixes_30 : decode cX13_sixes 30 = .ok (.aload_n 0, 1) := dk_42 (dk_at dksX13_sixes_1 7 rfl rfl)
theorem dX13_sixes_31 : decode cX13_sixes 31 = .ok (.getfield 234, 3) := dk_180 0 234 (dk_at dksX13_sixes_1 8 rfl rfl)
theorem dX13_sixes_34 : decode cX13_sixes 34 = .ok (.iaload, 1) := dk_46 (dk_at dksX13_sixes_1 11 rfl rfl)
theorem dX13_sixes_35 : decode cX13_sixes 35 = .ok (.bipush 16, 2) := dk_16 16 (dk_at dksX13_sixes_1 12 rfl rfl)
theorem dX13_sixes_37 : decode cX13_sixes 37 = .ok (.ishl, 1) := dk_120 (dk_at dksX13_sixes_1 14 rfl rfl)
theorem dX13_sixes_38 : decode cX13_sixes 38 = .ok (.aload_n 0, 1) := dk_42 (dk_at dksX13_sixes_1 15 rfl rfl)
theorem dX13_sixes_39 : decode cX13_sixes 39 = .ok (.getfield 57, 3) := dk_180 0 57 (dk_at dksX13_sixes_1 16 rfl rfl)
theorem dX13_sixes_42 : decode cX13_sixes 42 = .ok (.aload_n 0, 1) := dk_42 (dk_at dksX13_sixes_1 19 rfl rfl)
theorem dX13_sixes_43 : decode cX13_sixes 43 = .ok (.getfield 234, 3) := dk_180 0 234 (dk_at dksX13_sixes_1 20 rfl rfl)
theorem dX13_sixes_46 : decode cX13_sixes 46 = .ok (.iconst 1, 1) := dk_4 (dk_at dksX13_sixes_1 23 rfl rfl)
theorem dX13_sixes_47 : decode cX13_sixes 47 = .ok (.iadd, 1) := dk_96 (dk_at dksX13_sixes_2 0 rfl rfl)
theorem dX13_sixes_48 : decode cX13_sixes 48 = .ok (.iaload, 1) := dk_46 (dk_at dksX13_sixes_2 1 rfl rfl)
theorem dX13_sixes_49 : decode cX13_sixes 49 = .ok (.bipush 8, 2) := dk_16 8 (dk_at dksX13_sixes_2 2 rfl rfl)
theorem dX13_sixes_51 : decode cX13_sixes 51 = .ok (.ishl, 1) := dk_120 (dk_at dksX13_sixes_2 4 rfl rfl)
theorem dX13_sixes_52 : decode cX13_sixes 52 = .ok (.ior, 1) := dk_128 (dk_at dksX13_sixes_2 5 rfl rfl)
theorem dX13_sixes_53 : decode cX13_sixes 53 = .ok (.aload_n 0, 1) := dk_42 (dk_at dksX13_sixes_2 6 rfl rfl)
theorem dX13_sixes_54 : decode cX13_sixes 54 = .ok (.getfield 57, 3) := dk_180 0 57 (dk_at dksX13_sixes_2 7 rfl rfl)
theorem dX13_sixes_57 : decode cX13_sixes 57 = .ok (.aload_n 0, 1) := dk_42 (dk_at dksX13_sixes_2 10 rfl rfl)
theorem dX13_sixes_58 : decode cX13_sixes 58 = .ok (.getfield 234, 3) := dk_180 0 234 (dk_at dksX13_sixes_2 11 rfl rfl)
theorem dX13_sixes_61 : decode cX13_sixes 61 = .ok (.iconst 2, 1) := dk_5 (dk_at dksX13_sixes_2 14 rfl rfl)
theorem dX13_sixes_62 : decode cX13_sixes 62 = .ok (.iadd, 1) := dk_96 (dk_at dksX13_sixes_2 15 rfl rfl)
theorem dX13_sixes_63 : decode cX13_sixes 63 = .ok (.iaload, 1) := dk_46 (dk_at dksX13_sixes_2 16 rfl rfl)
theorem dX13_sixes_64 : decode cX13_sixes 64 = .ok (.ior, 1) := dk_128 (dk_at dksX13_sixes_2 17 rfl rfl)
theorem dX13_sixes_65 : decode cX13_sixes 65 = .ok (.istore_n 2, 1) := dk_61 (dk_at dksX13_sixes_2 18 rfl rfl)
theorem dX13_sixes_66 : decode cX13_sixes 66 = .ok (.iconst 0, 1) := dk_3 (dk_at dksX13_sixes_2 19 rfl rfl)
theorem dX13_sixes_67 : decode cX13_sixes 67 = .ok (.istore_n 3, 1) := dk_62 (dk_at dksX13_sixes_2 20 rfl rfl)
theorem dX13_sixes_68 : decode cX13_sixes 68 = .ok (.iload_n 3, 1) := dk_29 (dk_at dksX13_sixes_2 21 rfl rfl)
theorem dX13_sixes_69 : decode cX13_sixes 69 = .ok (.iconst 4, 1) := dk_7 (dk_at dksX13_sixes_2 22 rfl rfl)
theorem dX13_sixes_70 : decode cX13_sixes 70 = .ok (.if_icmp .ge 148, 3) := dk_162 0 148 (dk_at dksX13_sixes_3 0 rfl rfl)
theorem dX13_sixes_73 : decode cX13_sixes 73 = .ok (.iload_n 1, 1) := dk_27 (dk_at dksX13_sixes_3 3 rfl rfl)
theorem dX13_sixes_74 : decode cX13_sixes 74 = .ok (.ifCond .eq 144, 3) := dk_153 0 144 (dk_at dksX13_sixes_3 4 rfl rfl)
theorem dX13_sixes_77 : decode cX13_sixes 77 = .ok (.iload_n 2, 1) := dk_28 (dk_at dksX13_sixes_3 7 rfl rfl)
theorem dX13_sixes_78 : decode cX13_sixes 78 = .ok (.bipush 18, 2) := dk_16 18 (dk_at dksX13_sixes_3 8 rfl rfl)
theorem dX13_sixes_80 : decode cX13_sixes 80 = .ok (.bipush 6, 2) := dk_16 6 (dk_at dksX13_sixes_3 10 rfl rfl)
theorem dX13_sixes_82 : decode cX13_sixes 82 = .ok (.iload_n 3, 1) := dk_29 (dk_at dksX13_sixes_3 12 rfl rfl)
theorem dX13_sixes_83 : decode cX13_sixes 83 = .ok (.imul, 1) := dk_104 (dk_at dksX13_sixes_3 13 rfl rfl)
theorem dX13_sixes_84 : decode cX13_sixes 84 = .ok (.isub, 1) := dk_100 (dk_at dksX13_sixes_3 14 rfl rfl)
theorem dX13_sixes_85 : decode cX13_sixes 85 = .ok (.ishr, 1) := dk_122 (dk_at dksX13_sixes_3 15 rfl rfl)
theorem dX13_sixes_86 : decode cX13_sixes 86 = .ok (.bipush 63, 2) := dk_16 63 (dk_at dksX13_sixes_3 16 rfl rfl)
theorem dX13_sixes_88 : decode cX13_sixes 88 = .ok (.iand, 1) := dk_126 (dk_at dksX13_sixes_3 18 rfl rfl)
theorem dX13_sixes_89 : decode cX13_sixes 89 = .ok (.istore 4, 2) := dk_54 4 (dk_at dksX13_sixes_3 19 rfl rfl)
theorem dX13_sixes_91 : decode cX13_sixes 91 = .ok (.iload 4, 2) := dk_21 4 (dk_at dksX13_sixes_3 21 rfl rfl)
theorem dX13_sixes_93 : decode cX13_sixes 93 = .ok (.bipush 31, 2) := dk_16 31 (dk_at dksX13_sixes_4 0 rfl rfl)
theorem dX13_sixes_95 : decode cX13_sixes 95 = .ok (.if_icmp .ne 96, 3) := dk_160 0 96 (dk_at dksX13_sixes_4 2 rfl rfl)
theorem dX13_sixes_98 : decode cX13_sixes 98 = .ok (.iconst 0, 1) := dk_3 (dk_at dksX13_sixes_4 5 rfl rfl)
theorem dX13_sixes_99 : decode cX13_sixes 99 = .ok (.istore_n 1, 1) := dk_60 (dk_at dksX13_sixes_4 6 rfl rfl)
theorem dX13_sixes_100 : decode cX13_sixes 100 = .ok (.iload_n 3, 1) := dk_29 (dk_at dksX13_sixes_4 7 rfl rfl)
theorem dX13_sixes_101 : decode cX13_sixes 101 = .ok (.ifCond .ne 7, 3) := dk_154 0 7 (dk_at dksX13_sixes_4 8 rfl rfl)
theorem dX13_sixes_104 : decode cX13_sixes 104 = .ok (.iconst 2, 1) := dk_5 (dk_at dksX13_sixes_4 11 rfl rfl)
theorem dX13_sixes_105 : decode cX13_sixes 105 = .ok (.goto 23, 3) := dk_167 0 23 (dk_at dksX13_sixes_4 12 rfl rfl)
theorem dX13_sixes_108 : decode cX13_sixes 108 = .ok (.iload_n 3, 1) := dk_29 (dk_at dksX13_sixes_4 15 rfl rfl)
theorem dX13_sixes_109 : decode cX13_sixes 109 = .ok (.iconst 1, 1) := dk_4 (dk_at dksX13_sixes_4 16 rfl rfl)
theorem dX13_sixes_110 : decode cX13_sixes 110 = .ok (.if_icmp .ne 7, 3) := dk_160 0 7 (dk_at dksX13_sixes_4 17 rfl rfl)
theorem dX13_sixes_113 : decode cX13_sixes 113 = .ok (.iconst 4, 1) := dk_7 (dk_at dksX13_sixes_4 20 rfl rfl)
theorem dX13_sixes_114 : decode cX13_sixes 114 = .ok (.goto 14, 3) := dk_167 0 14 (dk_at dksX13_sixes_4 21 rfl rfl)
theorem dX13_sixes_117 : decode cX13_sixes 117 = .ok (.iload_n 3, 1) := dk_29 (dk_at dksX13_sixes_5 0 rfl rfl)
theorem dX13_sixes_118 : decode cX13_sixes 118 = .ok (.iconst 2, 1) := dk_5 (dk_at dksX13_sixes_5 1 rfl rfl)
theorem dX13_sixes_119 : decode cX13_sixes 119 = .ok (.if_icmp .ne 8, 3) := dk_160 0 8 (dk_at dksX13_sixes_5 2 rfl rfl)
theorem dX13_sixes_122 : decode cX13_sixes 122 = .ok (.bipush 6, 2) := dk_16 6 (dk_at dksX13_sixes_5 5 rfl rfl)
theorem dX13_sixes_124 : decode cX13_sixes 124 = .ok (.goto 4, 3) := dk_167 0 4 (dk_at dksX13_sixes_5 7 rfl rfl)
theorem dX13_sixes_127 : decode cX13_sixes 127 = .ok (.iconst 0, 1) := dk_3 (dk_at dksX13_sixes_5 10 rfl rfl)
theorem dX13_sixes_128 : decode cX13_sixes 128 = .ok (.istore 5, 2) := dk_54 5 (dk_at dksX13_sixes_5 11 rfl rfl)
theorem dX13_sixes_130 : decode cX13_sixes 130 = .ok (.aload_n 0, 1) := dk_42 (dk_at dksX13_sixes_5 13 rfl rfl)
theorem dX13_sixes_131 : decode cX13_sixes 131 = .ok (.iload_n 2, 1) := dk_28 (dk_at dksX13_sixes_5 14 rfl rfl)
theorem dX13_sixes_132 : decode cX13_sixes 132 = .ok (.bipush 18, 2) := dk_16 18 (dk_at dksX13_sixes_5 15 rfl rfl)
theorem dX13_sixes_134 : decode cX13_sixes 134 = .ok (.bipush 6, 2) := dk_16 6 (dk_at dksX13_sixes_5 17 rfl rfl)
theorem dX13_sixes_136 : decode cX13_sixes 136 = .ok (.iload_n 3, 1) := dk_29 (dk_at dksX13_sixes_5 19 rfl rfl)
theorem dX13_sixes_137 : decode cX13_sixes 137 = .ok (.imul, 1) := dk_104 (dk_at dksX13_sixes_5 20 rfl rfl)
theorem dX13_sixes_138 : decode cX13_sixes 138 = .ok (.isub, 1) := dk_100 (dk_at dksX13_sixes_5 21 rfl rfl)
theorem dX13_sixes_139 : decode cX13_sixes 139 = .ok (.iload 5, 2) := dk_21 5 (dk_at dksX13_sixes_5 22 rfl rfl)
theorem dX13_sixes_141 : decode cX13_sixes 141 = .ok (.isub, 1) := dk_100 (dk_at dksX13_sixes_6 0 rfl rfl)
theorem dX13_sixes_142 : decode cX13_sixes 142 = .ok (.ishr, 1) := dk_122 (dk_at dksX13_sixes_6 1 rfl rfl)
theorem dX13_sixes_143 : decode cX13_sixes 143 = .ok (.iconst 1, 1) := dk_4 (dk_at dksX13_sixes_6 2 rfl rfl)
theorem dX13_sixes_144 : decode cX13_sixes 144 = .ok (.iload 5, 2) := dk_21 5 (dk_at dksX13_sixes_6 3 rfl rfl)
theorem dX13_sixes_146 : decode cX13_sixes 146 = .ok (.ishl, 1) := dk_120 (dk_at dksX13_sixes_6 5 rfl rfl)
theorem dX13_sixes_147 : decode cX13_sixes 147 = .ok (.iconst 1, 1) := dk_4 (dk_at dksX13_sixes_6 6 rfl rfl)
theorem dX13_sixes_148 : decode cX13_sixes 148 = .ok (.isub, 1) := dk_100 (dk_at dksX13_sixes_6 7 rfl rfl)
theorem dX13_sixes_149 : decode cX13_sixes 149 = .ok (.iand, 1) := dk_126 (dk_at dksX13_sixes_6 8 rfl rfl)
theorem dX13_sixes_150 : decode cX13_sixes 150 = .ok (.ifCond .ne 7, 3) := dk_154 0 7 (dk_at dksX13_sixes_6 9 rfl rfl)
theorem dX13_sixes_153 : decode cX13_sixes 153 = .ok (.iconst 1, 1) := dk_4 (dk_at dksX13_sixes_6 12 rfl rfl)
theorem dX13_sixes_154 : decode cX13_sixes 154 = .ok (.goto 4, 3) := dk_167 0 4 (dk_at dksX13_sixes_6 13 rfl rfl)
theorem dX13_sixes_157 : decode cX13_sixes 157 = .ok (.iconst 0, 1) := dk_3 (dk_at dksX13_sixes_6 16 rfl rfl)
theorem dX13_sixes_158 : decode cX13_sixes 158 = .ok (.putfield 240, 3) := dk_181 0 240 (dk_at dksX13_sixes_6 17 rfl rfl)
theorem dX13_sixes_161 : decode cX13_sixes 161 = .ok (.aload_n 0, 1) := dk_42 (dk_at dksX13_sixes_6 20 rfl rfl)
theorem dX13_sixes_162 : decode cX13_sixes 162 = .ok (.dup, 1) := dk_89 (dk_at dksX13_sixes_6 21 rfl rfl)
theorem dX13_sixes_163 : decode cX13_sixes 163 = .ok (.getfield 234, 3) := dk_180 0 234 (dk_at dksX13_sixes_7 0 rfl rfl)
theorem dX13_sixes_166 : decode cX13_sixes 166 = .ok (.iload_n 3, 1) := dk_29 (dk_at dksX13_sixes_7 3 rfl rfl)
theorem dX13_sixes_167 : decode cX13_sixes 167 = .ok (.ifCond .ne 7, 3) := dk_154 0 7 (dk_at dksX13_sixes_7 4 rfl rfl)
theorem dX13_sixes_170 : decode cX13_sixes 170 = .ok (.iconst 1, 1) := dk_4 (dk_at dksX13_sixes_7 7 rfl rfl)
theorem dX13_sixes_171 : decode cX13_sixes 171 = .ok (.goto 13, 3) := dk_167 0 13 (dk_at dksX13_sixes_7 8 rfl rfl)
theorem dX13_sixes_174 : decode cX13_sixes 174 = .ok (.iload_n 3, 1) := dk_29 (dk_at dksX13_sixes_7 11 rfl rfl)
theorem dX13_sixes_175 : decode cX13_sixes 175 = .ok (.iconst 1, 1) := dk_4 (dk_at dksX13_sixes_7 12 rfl rfl)
theorem dX13_sixes_176 : decode cX13_sixes 176 = .ok (.if_icmp .ne 7, 3) := dk_160 0 7 (dk_at dksX13_sixes_7 13 rfl rfl)
theorem dX13_sixes_179 : decode cX13_sixes 179 = .ok (.iconst 2, 1) := dk_5 (dk_at dksX13_sixes_7 16 rfl rfl)
theorem dX13_sixes_180 : decode cX13_sixes 180 = .ok (.goto 4, 3) := dk_167 0 4 (dk_at dksX13_sixes_7 17 rfl rfl)
theorem dX13_sixes_183 : decode cX13_sixes 183 = .ok (.iconst 3, 1) := dk_6 (dk_at dksX13_sixes_7 20 rfl rfl)
theorem dX13_sixes_184 : decode cX13_sixes 184 = .ok (.iadd, 1) := dk_96 (dk_at dksX13_sixes_7 21 rfl rfl)
theorem dX13_sixes_185 : decode cX13_sixes 185 = .ok (.putfield 234, 3) := dk_181 0 234 (dk_at dksX13_sixes_8 0 rfl rfl)
theorem dX13_sixes_188 : decode cX13_sixes 188 = .ok (.goto 27, 3) := dk_167 0 27 (dk_at dksX13_sixes_8 3 rfl rfl)
theorem dX13_sixes_191 : decode cX13_sixes 191 = .ok (.aload_n 0, 1) := dk_42 (dk_at dksX13_sixes_8 6 rfl rfl)
theorem dX13_sixes_192 : decode cX13_sixes 192 = .ok (.iload 4, 2) := dk_21 4 (dk_at dksX13_sixes_8 7 rfl rfl)
theorem dX13_sixes_194 : decode cX13_sixes 194 = .ok (.bipush 31, 2) := dk_16 31 (dk_at dksX13_sixes_8 9 rfl rfl)
theorem dX13_sixes_196 : decode cX13_sixes 196 = .ok (.if_icmp .ge 11, 3) := dk_162 0 11 (dk_at dksX13_sixes_8 11 rfl rfl)
theorem dX13_sixes_199 : decode cX13_sixes 199 = .ok (.iload 4, 2) := dk_21 4 (dk_at dksX13_sixes_8 14 rfl rfl)
theorem dX13_sixes_201 : decode cX13_sixes 201 = .ok (.bipush 64, 2) := dk_16 64 (dk_at dksX13_sixes_8 16 rfl rfl)
theorem dX13_sixes_203 : decode cX13_sixes 203 = .ok (.iadd, 1) := dk_96 (dk_at dksX13_sixes_8 18 rfl rfl)
theorem dX13_sixes_204 : decode cX13_sixes 204 = .ok (.goto 5, 3) := dk_167 0 5 (dk_at dksX13_sixes_8 19 rfl rfl)
theorem dX13_sixes_207 : decode cX13_sixes 207 = .ok (.iload 4, 2) := dk_21 4 (dk_at dksX13_sixes_8 22 rfl rfl)
theorem dX13_sixes_209 : decode cX13_sixes 209 = .ok (.invokevirtual 247, 3) := dk_182 0 247 (dk_at dksX13_sixes_9 0 rfl rfl)
theorem dX13_sixes_212 : decode cX13_sixes 212 = .ok (.iinc 3 1, 3) := dk_132 3 1 (dk_at dksX13_sixes_9 3 rfl rfl)
theorem dX13_sixes_215 : decode cX13_sixes 215 = .ok (.goto (-147), 3) := dk_167 255 109 (dk_at dksX13_sixes_9 6 rfl rfl)
theorem dX13_sixes_218 : decode cX13_sixes 218 = .ok (.aload_n 0, 1) := dk_42 (dk_at dksX13_sixes_9 9 rfl rfl)
theorem dX13_sixes_219 : decode cX13_sixes 219 = .ok (.dup, 1) := dk_89 (dk_at dksX13_sixes_9 10 rfl rfl)
theorem dX13_sixes_220 : decode cX13_sixes 220 = .ok (.getfield 234, 3) := dk_180 0 234 (dk_at dksX13_sixes_9 11 rfl rfl)
theorem dX13_sixes_223 : decode cX13_sixes 223 = .ok (.iload_n 1, 1) := dk_27 (dk_at dksX13_sixes_9 14 rfl rfl)
theorem dX13_sixes_224 : decode cX13_sixes 224 = .ok (.ifCond .eq 7, 3) := dk_153 0 7 (dk_at dksX13_sixes_9 15 rfl rfl)
theorem dX13_sixes_227 : decode cX13_sixes 227 = .ok (.iconst 3, 1) := dk_6 (dk_at dksX13_sixes_9 18 rfl rfl)
theorem dX13_sixes_228 : decode cX13_sixes 228 = .ok (.goto 4, 3) := dk_167 0 4 (dk_at dksX13_sixes_9 19 rfl rfl)
theorem dX13_sixes_231 : decode cX13_sixes 231 = .ok (.iconst 0, 1) := dk_3 (dk_at dksX13_sixes_9 22 rfl rfl)
theorem dX13_sixes_232 : decode cX13_sixes 232 = .ok (.iadd, 1) := dk_96 (dk_at dksX13_sixes_9 23 rfl rfl)
theorem dX13_sixes_233 : decode cX13_sixes 233 = .ok (.putfield 234, 3) := dk_181 0 234 (dk_at dksX13_sixes_10 0 rfl rfl)
theorem dX13_sixes_236 : decode cX13_sixes 236 = .ok (.goto (-234), 3) := dk_167 255 22 (dk_at dksX13_sixes_10 3 rfl rfl)
theorem dX13_sixes_239 : decode cX13_sixes 239 = .ok (.return_, 1) := dk_177 (dk_at dksX13_sixes_10 6 rfl rfl)
abbrev cX13_base : ByteArray := prog_16_method_50_code
def yX13_base : MethodName := ⟨RX13, "base", "()V"⟩
def dkwX13_base_6 : List UInt8 := [182, 0, 247, 132, 3, 1, 167, 255, 233, 177]
abbrev dktX13_base_6 : List UInt8 := dkwX13_base_6 ++ []
def dkwX13_base_5 : List UInt8 := [181, 0, 240, 3, 62, 29, 28, 162, 0, 24, 42, 180, 0, 240, 153, 0, 17, 42, 42, 182, 1, 22]
abbrev dktX13_base_5 : List UInt8 := dkwX13_base_5 ++ dktX13_base_6
def dkwX13_base_4 : List UInt8 := [180, 0, 240, 153, 0, 20, 28, 42, 180, 0, 237, 42, 180, 0, 234, 100, 163, 0, 7, 4, 167, 0, 4, 3]
abbrev dktX13_base_4 : List UInt8 := dkwX13_base_4 ++ dktX13_base_5
def dkwX13_base_3 : List UInt8 := [153, 0, 20, 17, 0, 250, 27, 17, 0, 249, 100, 104, 42, 182, 1, 22, 96, 167, 0, 4, 3, 61, 42, 42]
abbrev dktX13_base_3 : List UInt8 := dkwX13_base_3 ++ dktX13_base_4
def dkwX13_base_2 : List UInt8 := [42, 42, 180, 0, 234, 42, 180, 0, 237, 162, 0, 7, 4, 167, 0, 4, 3, 181, 0, 240, 42, 180, 0, 240]
abbrev dktX13_base_2 : List UInt8 := dkwX13_base_2 ++ dktX13_base_3
def dkwX13_base_1 : List UInt8 := [27, 154, 0, 16, 42, 180, 0, 237, 42, 180, 0, 234, 100, 61, 167, 0, 56, 27, 17, 0, 249, 164, 0, 49]
abbrev dktX13_base_1 : List UInt8 := dkwX13_base_1 ++ dktX13_base_2
def dkwX13_base_0 : List UInt8 := [42, 180, 0, 234, 42, 180, 0, 237, 160, 0, 9, 42, 3, 181, 0, 240, 177, 42, 182, 1, 22, 60, 27, 61]
abbrev dktX13_base_0 : List UInt8 := dkwX13_base_0 ++ dktX13_base_1
theorem dksX13_base_0 : cX13_base.data.toList.drop 0 = dktX13_base_0 := by decide +kernel
theorem dksX13_base_1 : cX13_base.data.toList.drop 24 = dktX13_base_1 := dk_seg dksX13_base_0 24 rfl rfl
theorem dksX13_base_2 : cX13_base.data.toList.drop 48 = dktX13_base_2 := dk_seg dksX13_base_1 24 rfl rfl
theorem dksX13_base_3 : cX13_base.data.toList.drop 72 = dktX13_base_3 := dk_seg dksX13_base_2 24 rfl rfl
theorem dksX13_base_4 : cX13_base.data.toList.drop 96 = dktX13_base_4 := dk_seg dksX13_base_3 24 rfl rfl
theorem dksX13_base_5 : cX13_base.data.toList.drop 120 = dktX13_base_5 := dk_seg dksX13_base_4 24 rfl rfl
theorem dksX13_base_6 : cX13_base.data.toList.drop 142 = dktX13_base_6 := dk_seg dksX13_base_5 22 rfl rfl
theorem dX13_base_0 : decode cX13_base 0 = .ok (.aload_n 0, 1) := dk_42 (dk_at dksX13_base_0 0 rfl rfl)
theorem dX13_base_1 : decode cX13_base 1 = .ok (.getfield 234, 3) := dk_180 0 234 (dk_at dksX13_base_0 1 rfl rfl)
theorem dX13_base_4 : decode cX13_base 4 = .ok (.aload_n 0, 1) := dk_42 (dk_at dksX13_base_0 4 rfl rfl)
theorem dX13_base_5 : decode cX13_base 5 = .ok (.getfield 237, 3) := dk_180 0 237 (dk_at dksX13_base_0 5 rfl rfl)
theorem dX13_base_8 : decode cX13_base 8 = .ok (.if_icmp .ne 9, 3) := dk_160 0 9 (dk_at dksX13_base_0 8 rfl rfl)
theorem dX13_base_11 : decode cX13_base 11 = .ok (.aload_n 0, 1) := dk_42 (dk_at dksX13_base_0 11 rfl rfl)
theorem dX13_base_12 : decode cX13_base 12 = .ok (.iconst 0, 1) := dk_3 (dk_at dksX13_base_0 12 rfl rfl)
theorem dX13_base_13 : decode cX13_base 13 = .ok (.putfield 240, 3) := dk_181 0 240 (dk_at dksX13_base_0 13 rfl rfl)
theorem dX13_base_16 : decode cX13_base 16 = .ok (.return_, 1) := dk_177 (dk_at dksX13_base_0 16 rfl rfl)
theorem dX13_base_17 : decode cX13_base 17 = .ok (.aload_n 0, 1) := dk_42 (dk_at dksX13_base_0 17 rfl rfl)
theorem dX13_base_18 : decode cX13_base 18 = .ok (.invokevirtual 278, 3) := dk_182 1 22 (dk_at dksX13_base_0 18 rfl rfl)
theorem dX13_base_21 : decode cX13_base 21 = .ok (.istore_n 1, 1) := dk_60 (dk_at dksX13_base_0 21 rfl rfl)
theorem dX13_base_22 : decode cX13_base 22 = .ok (.iload_n 1, 1) := dk_27 (dk_at dksX13_base_0 22 rfl rfl)
theorem dX13_base_23 : decode cX13_base 23 = .ok (.istore_n 2, 1) := dk_61 (dk_at dksX13_base_0 23 rfl rfl)
theorem dX13_base_24 : decode cX13_base 24 = .ok (.iload_n 1, 1) := dk_27 (dk_at dksX13_base_1 0 rfl rfl)
theorem dX13_base_25 : decode cX13_base 25 = .ok (.ifCond .ne 16, 3) := dk_154 0 16 (dk_at dksX13_base_1 1 rfl rfl)
theorem dX13_base_28 : decode cX13_base 28 = .ok (.aload_n 0, 1) := dk_42 (dk_at dksX13_base_1 4 rfl rfl)
theorem dX13_base_29 : decode cX13_base 29 = .ok (.getfield 237, 3) := dk_180 0 237 (dk_at dksX13_base_1 5 rfl rfl)
theorem dX13_base_32 : decode cX13_base 32 = .ok (.aload_n 0, 1) := dk_42 (dk_at dksX13_base_1 8 rfl rfl)
theorem dX13_base_33 : decode cX13_base 33 = .ok (.getfield 234, 3) := dk_180 0 234 (dk_at dksX13_base_1 9 rfl rfl)
theorem dX13_base_36 : decode cX13_base 36 = .ok (.isub, 1) := dk_100 (dk_at dksX13_base_1 12 rfl rfl)
theorem dX13_base_37 : decode cX13_base 37 = .ok (.istore_n 2, 1) := dk_61 (dk_at dksX13_base_1 13 rfl rfl)
theorem dX13_base_38 : decode cX13_base 38 = .ok (.goto 56, 3) := dk_167 0 56 (dk_at dksX13_base_1 14 rfl rfl)
theorem dX13_base_41 : decode cX13_base 41 = .ok (.iload_n 1, 1) := dk_27 (dk_at dksX13_base_1 17 rfl rfl)
theorem dX13_base_42 : decode cX13_base 42 = .ok (.sipush 249, 3) := dk_17 0 249 (dk_at dksX13_base_1 18 rfl rfl)
theorem dX13_base_45 : decode cX13_base 45 = .ok (.if_icmp .le 49, 3) := dk_164 0 49 (dk_at dksX13_base_1 21 rfl rfl)
theorem dX13_base_48 : decode cX13_base 48 = .ok (.aload_n 0, 1) := dk_42 (dk_at dksX13_base_2 0 rfl rfl)
theorem dX13_base_49 : decode cX13_base 49 = .ok (.aload_n 0, 1) := dk_42 (dk_at dksX13_base_2 1 rfl rfl)
theorem dX13_base_50 : decode cX13_base 50 = .ok (.getfield 234, 3) := dk_180 0 234 (dk_at dksX13_base_2 2 rfl rfl)
theorem dX13_base_53 : decode cX13_base 53 = .ok (.aload_n 0, 1) := dk_42 (dk_at dksX13_base_2 5 rfl rfl)
theorem dX13_base_54 : decode cX13_base 54 = .ok (.getfield 237, 3) := dk_180 0 237 (dk_at dksX13_base_2 6 rfl rfl)
theorem dX13_base_57 : decode cX13_base 57 = .ok (.if_icmp .ge 7, 3) := dk_162 0 7 (dk_at dksX13_base_2 9 rfl rfl)
theorem dX13_base_60 : decode cX13_base 60 = .ok (.iconst 1, 1) := dk_4 (dk_at dksX13_base_2 12 rfl rfl)
theorem dX13_base_61 : decode cX13_base 61 = .ok (.goto 4, 3) := dk_167 0 4 (dk_at dksX13_base_2 13 rfl rfl)
theorem dX13_base_64 : decode cX13_base 64 = .ok (.iconst 0, 1) := dk_3 (dk_at dksX13_base_2 16 rfl rfl)
theorem dX13_base_65 : decode cX13_base 65 = .ok (.putfield 240, 3) := dk_181 0 240 (dk_at dksX13_base_2 17 rfl rfl)
theorem dX13_base_68 : decode cX13_base 68 = .ok (.aload_n 0, 1) := dk_42 (dk_at dksX13_base_2 20 rfl rfl)
theorem dX13_base_69 : decode cX13_base 69 = .ok (.getfield 240, 3) := dk_180 0 240 (dk_at dksX13_base_2 21 rfl rfl)
theorem dX13_base_72 : decode cX13_base 72 = .ok (.ifCond .eq 20, 3) := dk_153 0 20 (dk_at dksX13_base_3 0 rfl rfl)
theorem dX13_base_75 : decode cX13_base 75 = .ok (.sipush 250, 3) := dk_17 0 250 (dk_at dksX13_base_3 3 rfl rfl)
theorem dX13_base_78 : decode cX13_base 78 = .ok (.iload_n 1, 1) := dk_27 (dk_at dksX13_base_3 6 rfl rfl)
theorem dX13_base_79 : decode cX13_base 79 = .ok (.sipush 249, 3) := dk_17 0 249 (dk_at dksX13_base_3 7 rfl rfl)
theorem dX13_base_82 : decode cX13_base 82 = .ok (.isub, 1) := dk_100 (dk_at dksX13_base_3 10 rfl rfl)
theorem dX13_base_83 : decode cX13_base 83 = .ok (.imul, 1) := dk_104 (dk_at dksX13_base_3 11 rfl rfl)
theorem dX13_base_84 : decode cX13_base 84 = .ok (.aload_n 0, 1) := dk_42 (dk_at dksX13_base_3 12 rfl rfl)
theorem dX13_base_85 : decode cX13_base 85 = .ok (.invokevirtual 278, 3) := dk_182 1 22 (dk_at dksX13_base_3 13 rfl rfl)
theorem dX13_base_88 : decode cX13_base 88 = .ok (.iadd, 1) := dk_96 (dk_at dksX13_base_3 16 rfl rfl)
theorem dX13_base_89 : decode cX13_base 89 = .ok (.goto 4, 3) := dk_167 0 4 (dk_at dksX13_base_3 17 rfl rfl)
theorem dX13_base_92 : decode cX13_base 92 = .ok (.iconst 0, 1) := dk_3 (dk_at dksX13_base_3 20 rfl rfl)
theorem dX13_base_93 : decode cX13_base 93 = .ok (.istore_n 2, 1) := dk_61 (dk_at dksX13_base_3 21 rfl rfl)
theorem dX13_base_94 : decode cX13_base 94 = .ok (.aload_n 0, 1) := dk_42 (dk_at dksX13_base_3 22 rfl rfl)
theorem dX13_base_95 : decode cX13_base 95 = .ok (.aload_n 0, 1) := dk_42 (dk_at dksX13_base_3 23 rfl rfl)
theorem dX13_base_96 : decode cX13_base 96 = .ok (.getfield 240, 3) := dk_180 0 240 (dk_at dksX13_base_4 0 rfl rfl)
theorem dX13_base_99 : decode cX13_base 99 = .ok (.ifCond .eq 20, 3) := dk_153 0 20 (dk_at dksX13_base_4 3 rfl rfl)
theorem dX13_base_102 : decode cX13_base 102 = .ok (.iload_n 2, 1) := dk_28 (dk_at dksX13_base_4 6 rfl rfl)
theorem dX13_base_103 : decode cX13_base 103 = .ok (.aload_n 0, 1) := dk_42 (dk_at dksX13_base_4 7 rfl rfl)
theorem dX13_base_104 : decode cX13_base 104 = .ok (.getfield 237, 3) := dk_180 0 237 (dk_at dksX13_base_4 8 rfl rfl)
theorem dX13_base_107 : decode cX13_base 107 = .ok (.aload_n 0, 1) := dk_42 (dk_at dksX13_base_4 11 rfl rfl)
theorem dX13_base_108 : decode cX13_base 108 = .ok (.getfield 234, 3) := dk_180 0 234 (dk_at dksX13_base_4 12 rfl rfl)
theorem dX13_base_111 : decode cX13_base 111 = .ok (.isub, 1) := dk_100 (dk_at dksX13_base_4 15 rfl rfl)
theorem dX13_base_112 : decode cX13_base 112 = .ok (.if_icmp .gt 7, 3) := dk_163 0 7 (dk_at dksX13_base_4 16 rfl rfl)
theorem dX13_base_115 : decode cX13_base 115 = .ok (.iconst 1, 1) := dk_4 (dk_at dksX13_base_4 19 rfl rfl)
theorem dX13_base_116 : decode cX13_base 116 = .ok (.goto 4, 3) := dk_167 0 4 (dk_at dksX13_base_4 20 rfl rfl)
theorem dX13_base_119 : decode cX13_base 119 = .ok (.iconst 0, 1) := dk_3 (dk_at dksX13_base_4 23 rfl rfl)
theorem dX13_base_120 : decode cX13_base 120 = .ok (.putfield 240, 3) := dk_181 0 240 (dk_at dksX13_base_5 0 rfl rfl)
theorem dX13_base_123 : decode cX13_base 123 = .ok (.iconst 0, 1) := dk_3 (dk_at dksX13_base_5 3 rfl rfl)
theorem dX13_base_124 : decode cX13_base 124 = .ok (.istore_n 3, 1) := dk_62 (dk_at dksX13_base_5 4 rfl rfl)
theorem dX13_base_125 : decode cX13_base 125 = .ok (.iload_n 3, 1) := dk_29 (dk_at dksX13_base_5 5 rfl rfl)
theorem dX13_base_126 : decode cX13_base 126 = .ok (.iload_n 2, 1) := dk_28 (dk_at dksX13_base_5 6 rfl rfl)
theorem dX13_base_127 : decode cX13_base 127 = .ok (.if_icmp .ge 24, 3) := dk_162 0 24 (dk_at dksX13_base_5 7 rfl rfl)
theorem dX13_base_130 : decode cX13_base 130 = .ok (.aload_n 0, 1) := dk_42 (dk_at dksX13_base_5 10 rfl rfl)
theorem dX13_base_131 : decode cX13_base 131 = .ok (.getfield 240, 3) := dk_180 0 240 (dk_at dksX13_base_5 11 rfl rfl)
theorem dX13_base_134 : decode cX13_base 134 = .ok (.ifCond .eq 17, 3) := dk_153 0 17 (dk_at dksX13_base_5 14 rfl rfl)
theorem dX13_base_137 : decode cX13_base 137 = .ok (.aload_n 0, 1) := dk_42 (dk_at dksX13_base_5 17 rfl rfl)
theorem dX13_base_138 : decode cX13_base 138 = .ok (.aload_n 0, 1) := dk_42 (dk_at dksX13_base_5 18 rfl rfl)
theorem dX13_base_139 : decode cX13_base 139 = .ok (.invokevirtual 278, 3) := dk_182 1 22 (dk_at dksX13_base_5 19 rfl rfl)
theorem dX13_base_142 : decode cX13_base 142 = .ok (.invokevirtual 247, 3) := dk_182 0 247 (dk_at dksX13_base_6 0 rfl rfl)
theorem dX13_base_145 : decode cX13_base 145 = .ok (.iinc 3 1, 3) := dk_132 3 1 (dk_at dksX13_base_6 3 rfl rfl)
theorem dX13_base_148 : decode cX13_base 148 = .ok (.goto (-23), 3) := dk_167 255 233 (dk_at dksX13_base_6 6 rfl rfl)
theorem dX13_base_151 : decode cX13_base 151 = .ok (.return_, 1) := dk_177 (dk_at dksX13_base_6 9 rfl rfl)
abbrev cX13_unmixed : ByteArray := prog_16_method_49_code
def yX13_unmixed : MethodName := ⟨RX13, "unmixed", "()I"⟩
def dkwX13_unmixed_1 : List UInt8 := [112, 100, 17, 0, 255, 126, 60, 42, 89, 180, 0, 234, 4, 96, 181, 0, 234, 27, 172]
abbrev dktX13_unmixed_1 : List UInt8 := dkwX13_unmixed_1 ++ []
def dkwX13_unmixed_0 : List UInt8 := [42, 180, 0, 57, 42, 180, 0, 234, 46, 4, 100, 17, 0, 149, 42, 180, 0, 234, 4, 96, 104, 17, 0, 255]
abbrev dktX13_unmixed_0 : List UInt8 := dkwX13_unmixed_0 ++ dktX13_unmixed_1
theorem dksX13_unmixed_0 : cX13_unmixed.data.toList.drop 0 = dktX13_unmixed_0 := by decide +kernel
theorem dksX13_unmixed_1 : cX13_unmixed.data.toList.drop 24 = dktX13_unmixed_1 := dk_seg dksX13_unmixed_0 24 rfl rfl
theorem dX13_unmixed_0 : decode cX13_unmixed 0 = .ok (.aload_n 0, 1) := dk_42 (dk_at dksX13_unmixed_0 0 rfl rfl)
theorem dX13_unmixed_1 : decode cX13_unmixed 1 = .ok (.getfield 57, 3) := dk_180 0 57 (dk_at dksX13_unmixed_0 1 rfl rfl)
theorem dX13_unmixed_4 : decode cX13_unmixed 4 = .ok (.aload_n 0, 1) := dk_42 (dk_at dksX13_unmixed_0 4 rfl rfl)
theorem dX13_unmixed_5 : decode cX13_unmixed 5 = .ok (.getfield 234, 3) := dk_180 0 234 (dk_at dksX13_unmixed_0 5 rfl rfl)
theorem dX13_unmixed_8 : decode cX13_unmixed 8 = .ok (.iaload, 1) := dk_46 (dk_at dksX13_unmixed_0 8 rfl rfl)
theorem dX13_unmixed_9 : decode cX13_unmixed 9 = .ok (.iconst 1, 1) := dk_4 (dk_at dksX13_unmixed_0 9 rfl rfl)
theorem dX13_unmixed_10 : decode cX13_unmixed 10 = .ok (.isub, 1) := dk_100 (dk_at dksX13_unmixed_0 10 rfl rfl)
theorem dX13_unmixed_11 : decode cX13_unmixed 11 = .ok (.sipush 149, 3) := dk_17 0 149 (dk_at dksX13_unmixed_0 11 rfl rfl)
theorem dX13_unmixed_14 : decode cX13_unmixed 14 = .ok (.aload_n 0, 1) := dk_42 (dk_at dksX13_unmixed_0 14 rfl rfl)
theorem dX13_unmixed_15 : decode cX13_unmixed 15 = .ok (.getfield 234, 3) := dk_180 0 234 (dk_at dksX13_unmixed_0 15 rfl rfl)
theorem dX13_unmixed_18 : decode cX13_unmixed 18 = .ok (.iconst 1, 1) := dk_4 (dk_at dksX13_unmixed_0 18 rfl rfl)
theorem dX13_unmixed_19 : decode cX13_unmixed 19 = .ok (.iadd, 1) := dk_96 (dk_at dksX13_unmixed_0 19 rfl rfl)
theorem dX13_unmixed_20 : decode cX13_unmixed 20 = .ok (.imul, 1) := dk_104 (dk_at dksX13_unmixed_0 20 rfl rfl)
theorem dX13_unmixed_21 : decode cX13_unmixed 21 = .ok (.sipush 255, 3) := dk_17 0 255 (dk_at dksX13_unmixed_0 21 rfl rfl)
theorem dX13_unmixed_24 : decode cX13_unmixed 24 = .ok (.irem, 1) := dk_112 (dk_at dksX13_unmixed_1 0 rfl rfl)
theorem dX13_unmixed_25 : decode cX13_unmixed 25 = .ok (.isub, 1) := dk_100 (dk_at dksX13_unmixed_1 1 rfl rfl)
theorem dX13_unmixed_26 : decode cX13_unmixed 26 = .ok (.sipush 255, 3) := dk_17 0 255 (dk_at dksX13_unmixed_1 2 rfl rfl)
theorem dX13_unmixed_29 : decode cX13_unmixed 29 = .ok (.iand, 1) := dk_126 (dk_at dksX13_unmixed_1 5 rfl rfl)
theorem dX13_unmixed_30 : decode cX13_unmixed 30 = .ok (.istore_n 1, 1) := dk_60 (dk_at dksX13_unmixed_1 6 rfl rfl)
theorem dX13_unmixed_31 : decode cX13_unmixed 31 = .ok (.aload_n 0, 1) := dk_42 (dk_at dksX13_unmixed_1 7 rfl rfl)
theorem dX13_unmixed_32 : decode cX13_unmixed 32 = .ok (.dup, 1) := dk_89 (dk_at dksX13_unmixed_1 8 rfl rfl)
theorem dX13_unmixed_33 : decode cX13_unmixed 33 = .ok (.getfield 234, 3) := dk_180 0 234 (dk_at dksX13_unmixed_1 9 rfl rfl)
theorem dX13_unmixed_36 : decode cX13_unmixed 36 = .ok (.iconst 1, 1) := dk_4 (dk_at dksX13_unmixed_1 12 rfl rfl)
theorem dX13_unmixed_37 : decode cX13_unmixed 37 = .ok (.iadd, 1) := dk_96 (dk_at dksX13_unmixed_1 13 rfl rfl)
theorem dX13_unmixed_38 : decode cX13_unmixed 38 = .ok (.putfield 234, 3) := dk_181 0 234 (dk_at dksX13_unmixed_1 14 rfl rfl)
theorem dX13_unmixed_41 : decode cX13_unmixed 41 = .ok (.iload_n 1, 1) := dk_27 (dk_at dksX13_unmixed_1 17 rfl rfl)
theorem dX13_unmixed_42 : decode cX13_unmixed 42 = .ok (.ireturn, 1) := dk_172 (dk_at dksX13_unmixed_1 18 rfl rfl)
abbrev cX13_keepRead : ByteArray := prog_16_method_51_code
def yX13_keepRead : MethodName := ⟨RX13, "keepRead", "()V"⟩
def dkwX13_keepRead_1 : List UInt8 := [180, 0, 81, 27, 46, 79, 132, 1, 1, 167, 255, 233, 177]
abbrev dktX13_keepRead_1 : List UInt8 := dkwX13_keepRead_1 ++ []
def dkwX13_keepRead_0 : List UInt8 := [42, 42, 180, 0, 231, 181, 1, 26, 3, 60, 27, 42, 180, 0, 231, 162, 0, 21, 42, 180, 0, 84, 27, 42]
abbrev dktX13_keepRead_0 : List UInt8 := dkwX13_keepRead_0 ++ dktX13_keepRead_1
theorem dksX13_keepRead_0 : cX13_keepRead.data.toList.drop 0 = dktX13_keepRead_0 := by decide +kernel
theorem dksX13_keepRead_1 : cX13_keepRead.data.toList.drop 24 = dktX13_keepRead_1 := dk_seg dksX13_keepRead_0 24 rfl rfl
theorem dX13_keepRead_0 : decode cX13_keepRead 0 = .ok (.aload_n 0, 1) := dk_42 (dk_at dksX13_keepRead_0 0 rfl rfl)
theorem dX13_keepRead_1 : decode cX13_keepRead 1 = .ok (.aload_n 0, 1) := dk_42 (dk_at dksX13_keepRead_0 1 rfl rfl)
theorem dX13_keepRead_2 : decode cX13_keepRead 2 = .ok (.getfield 231, 3) := dk_180 0 231 (dk_at dksX13_keepRead_0 2 rfl rfl)
theorem dX13_keepRead_5 : decode cX13_keepRead 5 = .ok (.putfield 282, 3) := dk_181 1 26 (dk_at dksX13_keepRead_0 5 rfl rfl)
theorem dX13_keepRead_8 : decode cX13_keepRead 8 = .ok (.iconst 0, 1) := dk_3 (dk_at dksX13_keepRead_0 8 rfl rfl)
theorem dX13_keepRead_9 : decode cX13_keepRead 9 = .ok (.istore_n 1, 1) := dk_60 (dk_at dksX13_keepRead_0 9 rfl rfl)
theorem dX13_keepRead_10 : decode cX13_keepRead 10 = .ok (.iload_n 1, 1) := dk_27 (dk_at dksX13_keepRead_0 10 rfl rfl)
theorem dX13_keepRead_11 : decode cX13_keepRead 11 = .ok (.aload_n 0, 1) := dk_42 (dk_at dksX13_keepRead_0 11 rfl rfl)
theorem dX13_keepRead_12 : decode cX13_keepRead 12 = .ok (.getfield 231, 3) := dk_180 0 231 (dk_at dksX13_keepRead_0 12 rfl rfl)
theorem dX13_keepRead_15 : decode cX13_keepRead 15 = .ok (.if_icmp .ge 21, 3) := dk_162 0 21 (dk_at dksX13_keepRead_0 15 rfl rfl)
theorem dX13_keepRead_18 : decode cX13_keepRead 18 = .ok (.aload_n 0, 1) := dk_42 (dk_at dksX13_keepRead_0 18 rfl rfl)
theorem dX13_keepRead_19 : decode cX13_keepRead 19 = .ok (.getfield 84, 3) := dk_180 0 84 (dk_at dksX13_keepRead_0 19 rfl rfl)
theorem dX13_keepRead_22 : decode cX13_keepRead 22 = .ok (.iload_n 1, 1) := dk_27 (dk_at dksX13_keepRead_0 22 rfl rfl)
theorem dX13_keepRead_23 : decode cX13_keepRead 23 = .ok (.aload_n 0, 1) := dk_42 (dk_at dksX13_keepRead_0 23 rfl rfl)
theorem dX13_keepRead_24 : decode cX13_keepRead 24 = .ok (.getfield 81, 3) := dk_180 0 81 (dk_at dksX13_keepRead_1 0 rfl rfl)
theorem dX13_keepRead_27 : decode cX13_keepRead 27 = .ok (.iload_n 1, 1) := dk_27 (dk_at dksX13_keepRead_1 3 rfl rfl)
theorem dX13_keepRead_28 : decode cX13_keepRead 28 = .ok (.iaload, 1) := dk_46 (dk_at dksX13_keepRead_1 4 rfl rfl)
theorem dX13_keepRead_29 : decode cX13_keepRead 29 = .ok (.iastore, 1) := dk_79 (dk_at dksX13_keepRead_1 5 rfl rfl)
theorem dX13_keepRead_30 : decode cX13_keepRead 30 = .ok (.iinc 1 1, 3) := dk_132 1 1 (dk_at dksX13_keepRead_1 6 rfl rfl)
theorem dX13_keepRead_33 : decode cX13_keepRead 33 = .ok (.goto (-23), 3) := dk_167 255 233 (dk_at dksX13_keepRead_1 9 rfl rfl)
theorem dX13_keepRead_36 : decode cX13_keepRead 36 = .ok (.return_, 1) := dk_177 (dk_at dksX13_keepRead_1 12 rfl rfl)
abbrev cX13_decode : ByteArray := prog_16_method_53_code
def yX13_decode : MethodName := ⟨RX13, "decode", "()I"⟩
def dkwX13_decode_4 : List UInt8 := [180, 0, 225, 181, 1, 38, 27, 172]
abbrev dktX13_decode_4 : List UInt8 := dkwX13_decode_4 ++ []
def dkwX13_decode_3 : List UInt8 := [180, 0, 50, 182, 0, 128, 182, 1, 29, 60, 27, 156, 0, 6, 16, 254, 172, 42, 182, 1, 32, 42, 42]
abbrev dktX13_decode_3 : List UInt8 := dkwX13_decode_3 ++ dktX13_decode_4
def dkwX13_decode_2 : List UInt8 := [132, 1, 1, 167, 255, 230, 42, 42, 180, 0, 50, 182, 1, 35, 154, 0, 5, 2, 172, 42, 42, 42]
abbrev dktX13_decode_2 : List UInt8 := dkwX13_decode_2 ++ dktX13_decode_3
def dkwX13_decode_1 : List UInt8 := [60, 27, 42, 42, 180, 0, 50, 182, 0, 121, 162, 0, 20, 42, 180, 0, 57, 27, 42, 27, 182, 0, 192, 79]
abbrev dktX13_decode_1 : List UInt8 := dkwX13_decode_1 ++ dktX13_decode_2
def dkwX13_decode_0 : List UInt8 := [42, 3, 181, 0, 1, 42, 180, 0, 50, 156, 0, 6, 16, 253, 172, 42, 42, 180, 0, 50, 182, 0, 188, 3]
abbrev dktX13_decode_0 : List UInt8 := dkwX13_decode_0 ++ dktX13_decode_1
theorem dksX13_decode_0 : cX13_decode.data.toList.drop 0 = dktX13_decode_0 := by decide +kernel
theorem dksX13_decode_1 : cX13_decode.data.toList.drop 24 = dktX13_decode_1 := dk_seg dksX13_decode_0 24 rfl rfl
theorem dksX13_decode_2 : cX13_decode.data.toList.drop 48 = dktX13_decode_2 := dk_seg dksX13_decode_1 24 rfl rfl
theorem dksX13_decode_3 : cX13_decode.data.toList.drop 70 = dktX13_decode_3 := dk_seg dksX13_decode_2 22 rfl rfl
theorem dksX13_decode_4 : cX13_decode.data.toList.drop 93 = dktX13_decode_4 := dk_seg dksX13_decode_3 23 rfl rfl
theorem dX13_decode_0 : decode cX13_decode 0 = .ok (.aload_n 0, 1) := dk_42 (dk_at dksX13_decode_0 0 rfl rfl)
theorem dX13_decode_1 : decode cX13_decode 1 = .ok (.iconst 0, 1) := dk_3 (dk_at dksX13_decode_0 1 rfl rfl)
theorem dX13_decode_2 : decode cX13_decode 2 = .ok (.putfield 1, 3) := dk_181 0 1 (dk_at dksX13_decode_0 2 rfl rfl)
theorem dX13_decode_5 : decode cX13_decode 5 = .ok (.aload_n 0, 1) := dk_42 (dk_at dksX13_decode_0 5 rfl rfl)
theorem dX13_decode_6 : decode cX13_decode 6 = .ok (.getfield 50, 3) := dk_180 0 50 (dk_at dksX13_decode_0 6 rfl rfl)
theorem dX13_decode_9 : decode cX13_decode 9 = .ok (.ifCond .ge 6, 3) := dk_156 0 6 (dk_at dksX13_decode_0 9 rfl rfl)
theorem dX13_decode_12 : decode cX13_decode 12 = .ok (.bipush (-3), 2) := dk_16 253 (dk_at dksX13_decode_0 12 rfl rfl)
theorem dX13_decode_14 : decode cX13_decode 14 = .ok (.ireturn, 1) := dk_172 (dk_at dksX13_decode_0 14 rfl rfl)
theorem dX13_decode_15 : decode cX13_decode 15 = .ok (.aload_n 0, 1) := dk_42 (dk_at dksX13_decode_0 15 rfl rfl)
theorem dX13_decode_16 : decode cX13_decode 16 = .ok (.aload_n 0, 1) := dk_42 (dk_at dksX13_decode_0 16 rfl rfl)
theorem dX13_decode_17 : decode cX13_decode 17 = .ok (.getfield 50, 3) := dk_180 0 50 (dk_at dksX13_decode_0 17 rfl rfl)
theorem dX13_decode_20 : decode cX13_decode 20 = .ok (.invokevirtual 188, 3) := dk_182 0 188 (dk_at dksX13_decode_0 20 rfl rfl)
theorem dX13_decode_23 : decode cX13_decode 23 = .ok (.iconst 0, 1) := dk_3 (dk_at dksX13_decode_0 23 rfl rfl)
theorem dX13_decode_24 : decode cX13_decode 24 = .ok (.istore_n 1, 1) := dk_60 (dk_at dksX13_decode_1 0 rfl rfl)
theorem dX13_decode_25 : decode cX13_decode 25 = .ok (.iload_n 1, 1) := dk_27 (dk_at dksX13_decode_1 1 rfl rfl)
theorem dX13_decode_26 : decode cX13_decode 26 = .ok (.aload_n 0, 1) := dk_42 (dk_at dksX13_decode_1 2 rfl rfl)
theorem dX13_decode_27 : decode cX13_decode 27 = .ok (.aload_n 0, 1) := dk_42 (dk_at dksX13_decode_1 3 rfl rfl)
theorem dX13_decode_28 : decode cX13_decode 28 = .ok (.getfield 50, 3) := dk_180 0 50 (dk_at dksX13_decode_1 4 rfl rfl)
theorem dX13_decode_31 : decode cX13_decode 31 = .ok (.invokevirtual 121, 3) := dk_182 0 121 (dk_at dksX13_decode_1 7 rfl rfl)
theorem dX13_decode_34 : decode cX13_decode 34 = .ok (.if_icmp .ge 20, 3) := dk_162 0 20 (dk_at dksX13_decode_1 10 rfl rfl)
theorem dX13_decode_37 : decode cX13_decode 37 = .ok (.aload_n 0, 1) := dk_42 (dk_at dksX13_decode_1 13 rfl rfl)
theorem dX13_decode_38 : decode cX13_decode 38 = .ok (.getfield 57, 3) := dk_180 0 57 (dk_at dksX13_decode_1 14 rfl rfl)
theorem dX13_decode_41 : decode cX13_decode 41 = .ok (.iload_n 1, 1) := dk_27 (dk_at dksX13_decode_1 17 rfl rfl)
theorem dX13_decode_42 : decode cX13_decode 42 = .ok (.aload_n 0, 1) := dk_42 (dk_at dksX13_decode_1 18 rfl rfl)
theorem dX13_decode_43 : decode cX13_decode 43 = .ok (.iload_n 1, 1) := dk_27 (dk_at dksX13_decode_1 19 rfl rfl)
theorem dX13_decode_44 : decode cX13_decode 44 = .ok (.invokevirtual 192, 3) := dk_182 0 192 (dk_at dksX13_decode_1 20 rfl rfl)
theorem dX13_decode_47 : decode cX13_decode 47 = .ok (.iastore, 1) := dk_79 (dk_at dksX13_decode_1 23 rfl rfl)
theorem dX13_decode_48 : decode cX13_decode 48 = .ok (.iinc 1 1, 3) := dk_132 1 1 (dk_at dksX13_decode_2 0 rfl rfl)
theorem dX13_decode_51 : decode cX13_decode 51 = .ok (.goto (-26), 3) := dk_167 255 230 (dk_at dksX13_decode_2 3 rfl rfl)
theorem dX13_decode_54 : decode cX13_decode 54 = .ok (.aload_n 0, 1) := dk_42 (dk_at dksX13_decode_2 6 rfl rfl)
theorem dX13_decode_55 : decode cX13_decode 55 = .ok (.aload_n 0, 1) := dk_42 (dk_at dksX13_decode_2 7 rfl rfl)
theorem dX13_decode_56 : decode cX13_decode 56 = .ok (.getfield 50, 3) := dk_180 0 50 (dk_at dksX13_decode_2 8 rfl rfl)
theorem dX13_decode_59 : decode cX13_decode 59 = .ok (.invokevirtual 291, 3) := dk_182 1 35 (dk_at dksX13_decode_2 11 rfl rfl)
theorem dX13_decode_62 : decode cX13_decode 62 = .ok (.ifCond .ne 5, 3) := dk_154 0 5 (dk_at dksX13_decode_2 14 rfl rfl)
theorem dX13_decode_65 : decode cX13_decode 65 = .ok (.iconst (-1), 1) := dk_2 (dk_at dksX13_decode_2 17 rfl rfl)
theorem dX13_decode_66 : decode cX13_decode 66 = .ok (.ireturn, 1) := dk_172 (dk_at dksX13_decode_2 18 rfl rfl)
theorem dX13_decode_67 : decode cX13_decode 67 = .ok (.aload_n 0, 1) := dk_42 (dk_at dksX13_decode_2 19 rfl rfl)
theorem dX13_decode_68 : decode cX13_decode 68 = .ok (.aload_n 0, 1) := dk_42 (dk_at dksX13_decode_2 20 rfl rfl)
theorem dX13_decode_69 : decode cX13_decode 69 = .ok (.aload_n 0, 1) := dk_42 (dk_at dksX13_decode_2 21 rfl rfl)
theorem dX13_decode_70 : decode cX13_decode 70 = .ok (.getfield 50, 3) := dk_180 0 50 (dk_at dksX13_decode_3 0 rfl rfl)
theorem dX13_decode_73 : decode cX13_decode 73 = .ok (.invokevirtual 128, 3) := dk_182 0 128 (dk_at dksX13_decode_3 3 rfl rfl)
theorem dX13_decode_76 : decode cX13_decode 76 = .ok (.invokevirtual 285, 3) := dk_182 1 29 (dk_at dksX13_decode_3 6 rfl rfl)
theorem dX13_decode_79 : decode cX13_decode 79 = .ok (.istore_n 1, 1) := dk_60 (dk_at dksX13_decode_3 9 rfl rfl)
theorem dX13_decode_80 : decode cX13_decode 80 = .ok (.iload_n 1, 1) := dk_27 (dk_at dksX13_decode_3 10 rfl rfl)
theorem dX13_decode_81 : decode cX13_decode 81 = .ok (.ifCond .ge 6, 3) := dk_156 0 6 (dk_at dksX13_decode_3 11 rfl rfl)
theorem dX13_decode_84 : decode cX13_decode 84 = .ok (.bipush (-2), 2) := dk_16 254 (dk_at dksX13_decode_3 14 rfl rfl)
theorem dX13_decode_86 : decode cX13_decode 86 = .ok (.ireturn, 1) := dk_172 (dk_at dksX13_decode_3 16 rfl rfl)
theorem dX13_decode_87 : decode cX13_decode 87 = .ok (.aload_n 0, 1) := dk_42 (dk_at dksX13_decode_3 17 rfl rfl)
theorem dX13_decode_88 : decode cX13_decode 88 = .ok (.invokevirtual 288, 3) := dk_182 1 32 (dk_at dksX13_decode_3 18 rfl rfl)
theorem dX13_decode_91 : decode cX13_decode 91 = .ok (.aload_n 0, 1) := dk_42 (dk_at dksX13_decode_3 21 rfl rfl)
theorem dX13_decode_92 : decode cX13_decode 92 = .ok (.aload_n 0, 1) := dk_42 (dk_at dksX13_decode_3 22 rfl rfl)
theorem dX13_decode_93 : decode cX13_decode 93 = .ok (.getfield 225, 3) := dk_180 0 225 (dk_at dksX13_decode_4 0 rfl rfl)
theorem dX13_decode_96 : decode cX13_decode 96 = .ok (.putfield 294, 3) := dk_181 1 38 (dk_at dksX13_decode_4 3 rfl rfl)
theorem dX13_decode_99 : decode cX13_decode 99 = .ok (.iload_n 1, 1) := dk_27 (dk_at dksX13_decode_4 6 rfl rfl)
theorem dX13_decode_100 : decode cX13_decode 100 = .ok (.ireturn, 1) := dk_172 (dk_at dksX13_decode_4 7 rfl rfl)
abbrev cX13_mendAll : ByteArray := prog_16_method_40_code
def yX13_mendAll : MethodName := ⟨RX13, "mendAll", "(I)Z"⟩
def dkwX13_mendAll_7 : List UInt8 := [172]
abbrev dktX13_mendAll_7 : List UInt8 := dkwX13_mendAll_7 ++ []
def dkwX13_mendAll_6 : List UInt8 := [46, 104, 96, 42, 180, 0, 69, 21, 6, 46, 79, 132, 6, 1, 167, 255, 220, 132, 4, 1, 167, 255, 115, 4]
abbrev dktX13_mendAll_6 : List UInt8 := dkwX13_mendAll_6 ++ dktX13_mendAll_7
def dkwX13_mendAll_5 : List UInt8 := [54, 6, 21, 6, 42, 180, 0, 208, 162, 0, 33, 42, 180, 0, 57, 21, 4, 21, 6, 42, 180, 0, 23, 27]
abbrev dktX13_mendAll_5 : List UInt8 := dkwX13_mendAll_5 ++ dktX13_mendAll_6
def dkwX13_mendAll_4 : List UInt8 := [180, 0, 23, 27, 46, 96, 54, 6, 167, 255, 197, 42, 21, 5, 182, 0, 228, 154, 0, 5, 3, 172, 3]
abbrev dktX13_mendAll_4 : List UInt8 := dkwX13_mendAll_4 ++ dktX13_mendAll_5
def dkwX13_mendAll_3 : List UInt8 := [4, 96, 181, 0, 208, 21, 5, 21, 6, 29, 162, 0, 7, 3, 167, 0, 4, 4, 96, 54, 5, 21, 6, 42]
abbrev dktX13_mendAll_3 : List UInt8 := dkwX13_mendAll_3 ++ dktX13_mendAll_4
def dkwX13_mendAll_2 : List UInt8 := [162, 0, 59, 42, 180, 0, 69, 42, 180, 0, 208, 42, 180, 0, 57, 21, 6, 46, 79, 42, 89, 180, 0, 208]
abbrev dktX13_mendAll_2 : List UInt8 := dkwX13_mendAll_2 ++ dktX13_mendAll_3
def dkwX13_mendAll_1 : List UInt8 := [180, 0, 23, 27, 46, 162, 0, 136, 42, 3, 181, 0, 208, 3, 54, 5, 21, 4, 54, 6, 21, 6, 28]
abbrev dktX13_mendAll_1 : List UInt8 := dkwX13_mendAll_1 ++ dktX13_mendAll_2
def dkwX13_mendAll_0 : List UInt8 := [42, 27, 182, 0, 121, 61, 42, 27, 182, 0, 128, 62, 42, 3, 181, 0, 225, 3, 54, 4, 21, 4, 42]
abbrev dktX13_mendAll_0 : List UInt8 := dkwX13_mendAll_0 ++ dktX13_mendAll_1
theorem dksX13_mendAll_0 : cX13_mendAll.data.toList.drop 0 = dktX13_mendAll_0 := by decide +kernel
theorem dksX13_mendAll_1 : cX13_mendAll.data.toList.drop 23 = dktX13_mendAll_1 := dk_seg dksX13_mendAll_0 23 rfl rfl
theorem dksX13_mendAll_2 : cX13_mendAll.data.toList.drop 46 = dktX13_mendAll_2 := dk_seg dksX13_mendAll_1 23 rfl rfl
theorem dksX13_mendAll_3 : cX13_mendAll.data.toList.drop 70 = dktX13_mendAll_3 := dk_seg dksX13_mendAll_2 24 rfl rfl
theorem dksX13_mendAll_4 : cX13_mendAll.data.toList.drop 94 = dktX13_mendAll_4 := dk_seg dksX13_mendAll_3 24 rfl rfl
theorem dksX13_mendAll_5 : cX13_mendAll.data.toList.drop 117 = dktX13_mendAll_5 := dk_seg dksX13_mendAll_4 23 rfl rfl
theorem dksX13_mendAll_6 : cX13_mendAll.data.toList.drop 141 = dktX13_mendAll_6 := dk_seg dksX13_mendAll_5 24 rfl rfl
theorem dksX13_mendAll_7 : cX13_mendAll.data.toList.drop 165 = dktX13_mendAll_7 := dk_seg dksX13_mendAll_6 24 rfl rfl
theorem dX13_mendAll_0 : decode cX13_mendAll 0 = .ok (.aload_n 0, 1) := dk_42 (dk_at dksX13_mendAll_0 0 rfl rfl)
theorem dX13_mendAll_1 : decode cX13_mendAll 1 = .ok (.iload_n 1, 1) := dk_27 (dk_at dksX13_mendAll_0 1 rfl rfl)
theorem dX13_mendAll_2 : decode cX13_mendAll 2 = .ok (.invokevirtual 121, 3) := dk_182 0 121 (dk_at dksX13_mendAll_0 2 rfl rfl)
theorem dX13_mendAll_5 : decode cX13_mendAll 5 = .ok (.istore_n 2, 1) := dk_61 (dk_at dksX13_mendAll_0 5 rfl rfl)
theorem dX13_mendAll_6 : decode cX13_mendAll 6 = .ok (.aload_n 0, 1) := dk_42 (dk_at dksX13_mendAll_0 6 rfl rfl)
theorem dX13_mendAll_7 : decode cX13_mendAll 7 = .ok (.iload_n 1, 1) := dk_27 (dk_at dksX13_mendAll_0 7 rfl rfl)
theorem dX13_mendAll_8 : decode cX13_mendAll 8 = .ok (.invokevirtual 128, 3) := dk_182 0 128 (dk_at dksX13_mendAll_0 8 rfl rfl)
theorem dX13_mendAll_11 : decode cX13_mendAll 11 = .ok (.istore_n 3, 1) := dk_62 (dk_at dksX13_mendAll_0 11 rfl rfl)
theorem dX13_mendAll_12 : decode cX13_mendAll 12 = .ok (.aload_n 0, 1) := dk_42 (dk_at dksX13_mendAll_0 12 rfl rfl)
theorem dX13_mendAll_13 : decode cX13_mendAll 13 = .ok (.iconst 0, 1) := dk_3 (dk_at dksX13_mendAll_0 13 rfl rfl)
theorem dX13_mendAll_14 : decode cX13_mendAll 14 = .ok (.putfield 225, 3) := dk_181 0 225 (dk_at dksX13_mendAll_0 14 rfl rfl)
theorem dX13_mendAll_17 : decode cX13_mendAll 17 = .ok (.iconst 0, 1) := dk_3 (dk_at dksX13_mendAll_0 17 rfl rfl)
theorem dX13_mendAll_18 : decode cX13_mendAll 18 = .ok (.istore 4, 2) := dk_54 4 (dk_at dksX13_mendAll_0 18 rfl rfl)
theorem dX13_mendAll_20 : decode cX13_mendAll 20 = .ok (.iload 4, 2) := dk_21 4 (dk_at dksX13_mendAll_0 20 rfl rfl)
theorem dX13_mendAll_22 : decode cX13_mendAll 22 = .ok (.aload_n 0, 1) := dk_42 (dk_at dksX13_mendAll_0 22 rfl rfl)
theorem dX13_mendAll_23 : decode cX13_mendAll 23 = .ok (.getfield 23, 3) := dk_180 0 23 (dk_at dksX13_mendAll_1 0 rfl rfl)
theorem dX13_mendAll_26 : decode cX13_mendAll 26 = .ok (.iload_n 1, 1) := dk_27 (dk_at dksX13_mendAll_1 3 rfl rfl)
theorem dX13_mendAll_27 : decode cX13_mendAll 27 = .ok (.iaload, 1) := dk_46 (dk_at dksX13_mendAll_1 4 rfl rfl)
theorem dX13_mendAll_28 : decode cX13_mendAll 28 = .ok (.if_icmp .ge 136, 3) := dk_162 0 136 (dk_at dksX13_mendAll_1 5 rfl rfl)
theorem dX13_mendAll_31 : decode cX13_mendAll 31 = .ok (.aload_n 0, 1) := dk_42 (dk_at dksX13_mendAll_1 8 rfl rfl)
theorem dX13_mendAll_32 : decode cX13_mendAll 32 = .ok (.iconst 0, 1) := dk_3 (dk_at dksX13_mendAll_1 9 rfl rfl)
theorem dX13_mendAll_33 : decode cX13_mendAll 33 = .ok (.putfield 208, 3) := dk_181 0 208 (dk_at dksX13_mendAll_1 10 rfl rfl)
theorem dX13_mendAll_36 : decode cX13_mendAll 36 = .ok (.iconst 0, 1) := dk_3 (dk_at dksX13_mendAll_1 13 rfl rfl)
theorem dX13_mendAll_37 : decode cX13_mendAll 37 = .ok (.istore 5, 2) := dk_54 5 (dk_at dksX13_mendAll_1 14 rfl rfl)
theorem dX13_mendAll_39 : decode cX13_mendAll 39 = .ok (.iload 4, 2) := dk_21 4 (dk_at dksX13_mendAll_1 16 rfl rfl)
theorem dX13_mendAll_41 : decode cX13_mendAll 41 = .ok (.istore 6, 2) := dk_54 6 (dk_at dksX13_mendAll_1 18 rfl rfl)
theorem dX13_mendAll_43 : decode cX13_mendAll 43 = .ok (.iload 6, 2) := dk_21 6 (dk_at dksX13_mendAll_1 20 rfl rfl)
theorem dX13_mendAll_45 : decode cX13_mendAll 45 = .ok (.iload_n 2, 1) := dk_28 (dk_at dksX13_mendAll_1 22 rfl rfl)
theorem dX13_mendAll_46 : decode cX13_mendAll 46 = .ok (.if_icmp .ge 59, 3) := dk_162 0 59 (dk_at dksX13_mendAll_2 0 rfl rfl)
theorem dX13_mendAll_49 : decode cX13_mendAll 49 = .ok (.aload_n 0, 1) := dk_42 (dk_at dksX13_mendAll_2 3 rfl rfl)
theorem dX13_mendAll_50 : decode cX13_mendAll 50 = .ok (.getfield 69, 3) := dk_180 0 69 (dk_at dksX13_mendAll_2 4 rfl rfl)
theorem dX13_mendAll_53 : decode cX13_mendAll 53 = .ok (.aload_n 0, 1) := dk_42 (dk_at dksX13_mendAll_2 7 rfl rfl)
theorem dX13_mendAll_54 : decode cX13_mendAll 54 = .ok (.getfield 208, 3) := dk_180 0 208 (dk_at dksX13_mendAll_2 8 rfl rfl)
theorem dX13_mendAll_57 : decode cX13_mendAll 57 = .ok (.aload_n 0, 1) := dk_42 (dk_at dksX13_mendAll_2 11 rfl rfl)
theorem dX13_mendAll_58 : decode cX13_mendAll 58 = .ok (.getfield 57, 3) := dk_180 0 57 (dk_at dksX13_mendAll_2 12 rfl rfl)
theorem dX13_mendAll_61 : decode cX13_mendAll 61 = .ok (.iload 6, 2) := dk_21 6 (dk_at dksX13_mendAll_2 15 rfl rfl)
theorem dX13_mendAll_63 : decode cX13_mendAll 63 = .ok (.iaload, 1) := dk_46 (dk_at dksX13_mendAll_2 17 rfl rfl)
theorem dX13_mendAll_64 : decode cX13_mendAll 64 = .ok (.iastore, 1) := dk_79 (dk_at dksX13_mendAll_2 18 rfl rfl)
theorem dX13_mendAll_65 : decode cX13_mendAll 65 = .ok (.aload_n 0, 1) := dk_42 (dk_at dksX13_mendAll_2 19 rfl rfl)
theorem dX13_mendAll_66 : decode cX13_mendAll 66 = .ok (.dup, 1) := dk_89 (dk_at dksX13_mendAll_2 20 rfl rfl)
theorem dX13_mendAll_67 : decode cX13_mendAll 67 = .ok (.getfield 208, 3) := dk_180 0 208 (dk_at dksX13_mendAll_2 21 rfl rfl)
theorem dX13_mendAll_70 : decode cX13_mendAll 70 = .ok (.iconst 1, 1) := dk_4 (dk_at dksX13_mendAll_3 0 rfl rfl)
theorem dX13_mendAll_71 : decode cX13_mendAll 71 = .ok (.iadd, 1) := dk_96 (dk_at dksX13_mendAll_3 1 rfl rfl)
theorem dX13_mendAll_72 : decode cX13_mendAll 72 = .ok (.putfield 208, 3) := dk_181 0 208 (dk_at dksX13_mendAll_3 2 rfl rfl)
theorem dX13_mendAll_75 : decode cX13_mendAll 75 = .ok (.iload 5, 2) := dk_21 5 (dk_at dksX13_mendAll_3 5 rfl rfl)
theorem dX13_mendAll_77 : decode cX13_mendAll 77 = .ok (.iload 6, 2) := dk_21 6 (dk_at dksX13_mendAll_3 7 rfl rfl)
theorem dX13_mendAll_79 : decode cX13_mendAll 79 = .ok (.iload_n 3, 1) := dk_29 (dk_at dksX13_mendAll_3 9 rfl rfl)
theorem dX13_mendAll_80 : decode cX13_mendAll 80 = .ok (.if_icmp .ge 7, 3) := dk_162 0 7 (dk_at dksX13_mendAll_3 10 rfl rfl)
theorem dX13_mendAll_83 : decode cX13_mendAll 83 = .ok (.iconst 0, 1) := dk_3 (dk_at dksX13_mendAll_3 13 rfl rfl)
theorem dX13_mendAll_84 : decode cX13_mendAll 84 = .ok (.goto 4, 3) := dk_167 0 4 (dk_at dksX13_mendAll_3 14 rfl rfl)
theorem dX13_mendAll_87 : decode cX13_mendAll 87 = .ok (.iconst 1, 1) := dk_4 (dk_at dksX13_mendAll_3 17 rfl rfl)
theorem dX13_mendAll_88 : decode cX13_mendAll 88 = .ok (.iadd, 1) := dk_96 (dk_at dksX13_mendAll_3 18 rfl rfl)
theorem dX13_mendAll_89 : decode cX13_mendAll 89 = .ok (.istore 5, 2) := dk_54 5 (dk_at dksX13_mendAll_3 19 rfl rfl)
theorem dX13_mendAll_91 : decode cX13_mendAll 91 = .ok (.iload 6, 2) := dk_21 6 (dk_at dksX13_mendAll_3 21 rfl rfl)
theorem dX13_mendAll_93 : decode cX13_mendAll 93 = .ok (.aload_n 0, 1) := dk_42 (dk_at dksX13_mendAll_3 23 rfl rfl)
theorem dX13_mendAll_94 : decode cX13_mendAll 94 = .ok (.getfield 23, 3) := dk_180 0 23 (dk_at dksX13_mendAll_4 0 rfl rfl)
theorem dX13_mendAll_97 : decode cX13_mendAll 97 = .ok (.iload_n 1, 1) := dk_27 (dk_at dksX13_mendAll_4 3 rfl rfl)
theorem dX13_mendAll_98 : decode cX13_mendAll 98 = .ok (.iaload, 1) := dk_46 (dk_at dksX13_mendAll_4 4 rfl rfl)
theorem dX13_mendAll_99 : decode cX13_mendAll 99 = .ok (.iadd, 1) := dk_96 (dk_at dksX13_mendAll_4 5 rfl rfl)
theorem dX13_mendAll_100 : decode cX13_mendAll 100 = .ok (.istore 6, 2) := dk_54 6 (dk_at dksX13_mendAll_4 6 rfl rfl)
theorem dX13_mendAll_102 : decode cX13_mendAll 102 = .ok (.goto (-59), 3) := dk_167 255 197 (dk_at dksX13_mendAll_4 8 rfl rfl)
theorem dX13_mendAll_105 : decode cX13_mendAll 105 = .ok (.aload_n 0, 1) := dk_42 (dk_at dksX13_mendAll_4 11 rfl rfl)
theorem dX13_mendAll_106 : decode cX13_mendAll 106 = .ok (.iload 5, 2) := dk_21 5 (dk_at dksX13_mendAll_4 12 rfl rfl)
theorem dX13_mendAll_108 : decode cX13_mendAll 108 = .ok (.invokevirtual 228, 3) := dk_182 0 228 (dk_at dksX13_mendAll_4 14 rfl rfl)
theorem dX13_mendAll_111 : decode cX13_mendAll 111 = .ok (.ifCond .ne 5, 3) := dk_154 0 5 (dk_at dksX13_mendAll_4 17 rfl rfl)
theorem dX13_mendAll_114 : decode cX13_mendAll 114 = .ok (.iconst 0, 1) := dk_3 (dk_at dksX13_mendAll_4 20 rfl rfl)
theorem dX13_mendAll_115 : decode cX13_mendAll 115 = .ok (.ireturn, 1) := dk_172 (dk_at dksX13_mendAll_4 21 rfl rfl)
theorem dX13_mendAll_116 : decode cX13_mendAll 116 = .ok (.iconst 0, 1) := dk_3 (dk_at dksX13_mendAll_4 22 rfl rfl)
theorem dX13_mendAll_117 : decode cX13_mendAll 117 = .ok (.istore 6, 2) := dk_54 6 (dk_at dksX13_mendAll_5 0 rfl rfl)
theorem dX13_mendAll_119 : decode cX13_mendAll 119 = .ok (.iload 6, 2) := dk_21 6 (dk_at dksX13_mendAll_5 2 rfl rfl)
theorem dX13_mendAll_121 : decode cX13_mendAll 121 = .ok (.aload_n 0, 1) := dk_42 (dk_at dksX13_mendAll_5 4 rfl rfl)
theorem dX13_mendAll_122 : decode cX13_mendAll 122 = .ok (.getfield 208, 3) := dk_180 0 208 (dk_at dksX13_mendAll_5 5 rfl rfl)
theorem dX13_mendAll_125 : decode cX13_mendAll 125 = .ok (.if_icmp .ge 33, 3) := dk_162 0 33 (dk_at dksX13_mendAll_5 8 rfl rfl)
theorem dX13_mendAll_128 : decode cX13_mendAll 128 = .ok (.aload_n 0, 1) := dk_42 (dk_at dksX13_mendAll_5 11 rfl rfl)
theorem dX13_mendAll_129 : decode cX13_mendAll 129 = .ok (.getfield 57, 3) := dk_180 0 57 (dk_at dksX13_mendAll_5 12 rfl rfl)
theorem dX13_mendAll_132 : decode cX13_mendAll 132 = .ok (.iload 4, 2) := dk_21 4 (dk_at dksX13_mendAll_5 15 rfl rfl)
theorem dX13_mendAll_134 : decode cX13_mendAll 134 = .ok (.iload 6, 2) := dk_21 6 (dk_at dksX13_mendAll_5 17 rfl rfl)
theorem dX13_mendAll_136 : decode cX13_mendAll 136 = .ok (.aload_n 0, 1) := dk_42 (dk_at dksX13_mendAll_5 19 rfl rfl)
theorem dX13_mendAll_137 : decode cX13_mendAll 137 = .ok (.getfield 23, 3) := dk_180 0 23 (dk_at dksX13_mendAll_5 20 rfl rfl)
theorem dX13_mendAll_140 : decode cX13_mendAll 140 = .ok (.iload_n 1, 1) := dk_27 (dk_at dksX13_mendAll_5 23 rfl rfl)
theorem dX13_mendAll_141 : decode cX13_mendAll 141 = .ok (.iaload, 1) := dk_46 (dk_at dksX13_mendAll_6 0 rfl rfl)
theorem dX13_mendAll_142 : decode cX13_mendAll 142 = .ok (.imul, 1) := dk_104 (dk_at dksX13_mendAll_6 1 rfl rfl)
theorem dX13_mendAll_143 : decode cX13_mendAll 143 = .ok (.iadd, 1) := dk_96 (dk_at dksX13_mendAll_6 2 rfl rfl)
theorem dX13_mendAll_144 : decode cX13_mendAll 144 = .ok (.aload_n 0, 1) := dk_42 (dk_at dksX13_mendAll_6 3 rfl rfl)
theorem dX13_mendAll_145 : decode cX13_mendAll 145 = .ok (.getfield 69, 3) := dk_180 0 69 (dk_at dksX13_mendAll_6 4 rfl rfl)
theorem dX13_mendAll_148 : decode cX13_mendAll 148 = .ok (.iload 6, 2) := dk_21 6 (dk_at dksX13_mendAll_6 7 rfl rfl)
theorem dX13_mendAll_150 : decode cX13_mendAll 150 = .ok (.iaload, 1) := dk_46 (dk_at dksX13_mendAll_6 9 rfl rfl)
theorem dX13_mendAll_151 : decode cX13_mendAll 151 = .ok (.iastore, 1) := dk_79 (dk_at dksX13_mendAll_6 10 rfl rfl)
theorem dX13_mendAll_152 : decode cX13_mendAll 152 = .ok (.iinc 6 1, 3) := dk_132 6 1 (dk_at dksX13_mendAll_6 11 rfl rfl)
theorem dX13_mendAll_155 : decode cX13_mendAll 155 = .ok (.goto (-36), 3) := dk_167 255 220 (dk_at dksX13_mendAll_6 14 rfl rfl)
theorem dX13_mendAll_158 : decode cX13_mendAll 158 = .ok (.iinc 4 1, 3) := dk_132 4 1 (dk_at dksX13_mendAll_6 17 rfl rfl)
theorem dX13_mendAll_161 : decode cX13_mendAll 161 = .ok (.goto (-141), 3) := dk_167 255 115 (dk_at dksX13_mendAll_6 20 rfl rfl)
theorem dX13_mendAll_164 : decode cX13_mendAll 164 = .ok (.iconst 1, 1) := dk_4 (dk_at dksX13_mendAll_6 23 rfl rfl)
theorem dX13_mendAll_165 : decode cX13_mendAll 165 = .ok (.ireturn, 1) := dk_172 (dk_at dksX13_mendAll_7 0 rfl rfl)
abbrev cX13_mend : ByteArray := prog_16_method_37_code
def yX13_mend : MethodName := ⟨RX13, "mend", "(I)Z"⟩
def dkwX13_mend_5 : List UInt8 := [153, 0, 7, 4, 167, 0, 4, 3, 172]
abbrev dktX13_mend_5 : List UInt8 := dkwX13_mend_5 ++ []
def dkwX13_mend_4 : List UInt8 := [4, 100, 61, 167, 255, 174, 29, 153, 0, 24, 42, 28, 182, 0, 220, 153, 0, 16, 42, 28, 27, 182, 0, 223]
abbrev dktX13_mend_4 : List UInt8 := dkwX13_mend_4 ++ dktX13_mend_5
def dkwX13_mend_3 : List UInt8 := [167, 255, 221, 132, 4, 1, 167, 255, 206, 42, 28, 182, 0, 217, 62, 28, 29, 153, 0, 7, 3, 167, 0, 4]
abbrev dktX13_mend_3 : List UInt8 := dkwX13_mend_3 ++ dktX13_mend_4
def dkwX13_mend_2 : List UInt8 := [96, 21, 4, 104, 21, 5, 96, 42, 180, 0, 66, 4, 21, 4, 96, 21, 5, 96, 46, 79, 132, 5, 1]
abbrev dktX13_mend_2 : List UInt8 := dkwX13_mend_2 ++ dktX13_mend_3
def dkwX13_mend_1 : List UInt8 := [3, 54, 4, 21, 4, 28, 162, 0, 50, 3, 54, 5, 21, 5, 28, 163, 0, 35, 42, 180, 0, 72, 28, 4]
abbrev dktX13_mend_1 : List UInt8 := dkwX13_mend_1 ++ dktX13_mend_2
def dkwX13_mend_0 : List UInt8 := [42, 27, 182, 0, 214, 153, 0, 5, 4, 172, 27, 5, 108, 61, 3, 62, 28, 158, 0, 84, 29, 154, 0, 80]
abbrev dktX13_mend_0 : List UInt8 := dkwX13_mend_0 ++ dktX13_mend_1
theorem dksX13_mend_0 : cX13_mend.data.toList.drop 0 = dktX13_mend_0 := by decide +kernel
theorem dksX13_mend_1 : cX13_mend.data.toList.drop 24 = dktX13_mend_1 := dk_seg dksX13_mend_0 24 rfl rfl
theorem dksX13_mend_2 : cX13_mend.data.toList.drop 48 = dktX13_mend_2 := dk_seg dksX13_mend_1 24 rfl rfl
theorem dksX13_mend_3 : cX13_mend.data.toList.drop 71 = dktX13_mend_3 := dk_seg dksX13_mend_2 23 rfl rfl
theorem dksX13_mend_4 : cX13_mend.data.toList.drop 95 = dktX13_mend_4 := dk_seg dksX13_mend_3 24 rfl rfl
theorem dksX13_mend_5 : cX13_mend.data.toList.drop 119 = dktX13_mend_5 := dk_seg dksX13_mend_4 24 rfl rfl
theorem dX13_mend_0 : decode cX13_mend 0 = .ok (.aload_n 0, 1) := dk_42 (dk_at dksX13_mend_0 0 rfl rfl)
theorem dX13_mend_1 : decode cX13_mend 1 = .ok (.iload_n 1, 1) := dk_27 (dk_at dksX13_mend_0 1 rfl rfl)
theorem dX13_mend_2 : decode cX13_mend 2 = .ok (.invokevirtual 214, 3) := dk_182 0 214 (dk_at dksX13_mend_0 2 rfl rfl)
theorem dX13_mend_5 : decode cX13_mend 5 = .ok (.ifCond .eq 5, 3) := dk_153 0 5 (dk_at dksX13_mend_0 5 rfl rfl)
theorem dX13_mend_8 : decode cX13_mend 8 = .ok (.iconst 1, 1) := dk_4 (dk_at dksX13_mend_0 8 rfl rfl)
theorem dX13_mend_9 : decode cX13_mend 9 = .ok (.ireturn, 1) := dk_172 (dk_at dksX13_mend_0 9 rfl rfl)
theorem dX13_mend_10 : decode cX13_mend 10 = .ok (.iload_n 1, 1) := dk_27 (dk_at dksX13_mend_0 10 rfl rfl)
theorem dX13_mend_11 : decode cX13_mend 11 = .ok (.iconst 2, 1) := dk_5 (dk_at dksX13_mend_0 11 rfl rfl)
theorem dX13_mend_12 : decode cX13_mend 12 = .ok (.idiv, 1) := dk_108 (dk_at dksX13_mend_0 12 rfl rfl)
theorem dX13_mend_13 : decode cX13_mend 13 = .ok (.istore_n 2, 1) := dk_61 (dk_at dksX13_mend_0 13 rfl rfl)
theorem dX13_mend_14 : decode cX13_mend 14 = .ok (.iconst 0, 1) := dk_3 (dk_at dksX13_mend_0 14 rfl rfl)
theorem dX13_mend_15 : decode cX13_mend 15 = .ok (.istore_n 3, 1) := dk_62 (dk_at dksX13_mend_0 15 rfl rfl)
theorem dX13_mend_16 : decode cX13_mend 16 = .ok (.iload_n 2, 1) := dk_28 (dk_at dksX13_mend_0 16 rfl rfl)
theorem dX13_mend_17 : decode cX13_mend 17 = .ok (.ifCond .le 84, 3) := dk_158 0 84 (dk_at dksX13_mend_0 17 rfl rfl)
theorem dX13_mend_20 : decode cX13_mend 20 = .ok (.iload_n 3, 1) := dk_29 (dk_at dksX13_mend_0 20 rfl rfl)
theorem dX13_mend_21 : decode cX13_mend 21 = .ok (.ifCond .ne 80, 3) := dk_154 0 80 (dk_at dksX13_mend_0 21 rfl rfl)
theorem dX13_mend_24 : decode cX13_mend 24 = .ok (.iconst 0, 1) := dk_3 (dk_at dksX13_mend_1 0 rfl rfl)
theorem dX13_mend_25 : decode cX13_mend 25 = .ok (.istore 4, 2) := dk_54 4 (dk_at dksX13_mend_1 1 rfl rfl)
theorem dX13_mend_27 : decode cX13_mend 27 = .ok (.iload 4, 2) := dk_21 4 (dk_at dksX13_mend_1 3 rfl rfl)
theorem dX13_mend_29 : decode cX13_mend 29 = .ok (.iload_n 2, 1) := dk_28 (dk_at dksX13_mend_1 5 rfl rfl)
theorem dX13_mend_30 : decode cX13_mend 30 = .ok (.if_icmp .ge 50, 3) := dk_162 0 50 (dk_at dksX13_mend_1 6 rfl rfl)
theorem dX13_mend_33 : decode cX13_mend 33 = .ok (.iconst 0, 1) := dk_3 (dk_at dksX13_mend_1 9 rfl rfl)
theorem dX13_mend_34 : decode cX13_mend 34 = .ok (.istore 5, 2) := dk_54 5 (dk_at dksX13_mend_1 10 rfl rfl)
theorem dX13_mend_36 : decode cX13_mend 36 = .ok (.iload 5, 2) := dk_21 5 (dk_at dksX13_mend_1 12 rfl rfl)
theorem dX13_mend_38 : decode cX13_mend 38 = .ok (.iload_n 2, 1) := dk_28 (dk_at dksX13_mend_1 14 rfl rfl)
theorem dX13_mend_39 : decode cX13_mend 39 = .ok (.if_icmp .gt 35, 3) := dk_163 0 35 (dk_at dksX13_mend_1 15 rfl rfl)
theorem dX13_mend_42 : decode cX13_mend 42 = .ok (.aload_n 0, 1) := dk_42 (dk_at dksX13_mend_1 18 rfl rfl)
theorem dX13_mend_43 : decode cX13_mend 43 = .ok (.getfield 72, 3) := dk_180 0 72 (dk_at dksX13_mend_1 19 rfl rfl)
theorem dX13_mend_46 : decode cX13_mend 46 = .ok (.iload_n 2, 1) := dk_28 (dk_at dksX13_mend_1 22 rfl rfl)
theorem dX13_mend_47 : decode cX13_mend 47 = .ok (.iconst 1, 1) := dk_4 (dk_at dksX13_mend_1 23 rfl rfl)
theorem dX13_mend_48 : decode cX13_mend 48 = .ok (.iadd, 1) := dk_96 (dk_at dksX13_mend_2 0 rfl rfl)
theorem dX13_mend_49 : decode cX13_mend 49 = .ok (.iload 4, 2) := dk_21 4 (dk_at dksX13_mend_2 1 rfl rfl)
theorem dX13_mend_51 : decode cX13_mend 51 = .ok (.imul, 1) := dk_104 (dk_at dksX13_mend_2 3 rfl rfl)
theorem dX13_mend_52 : decode cX13_mend 52 = .ok (.iload 5, 2) := dk_21 5 (dk_at dksX13_mend_2 4 rfl rfl)
theorem dX13_mend_54 : decode cX13_mend 54 = .ok (.iadd, 1) := dk_96 (dk_at dksX13_mend_2 6 rfl rfl)
theorem dX13_mend_55 : decode cX13_mend 55 = .ok (.aload_n 0, 1) := dk_42 (dk_at dksX13_mend_2 7 rfl rfl)
theorem dX13_mend_56 : decode cX13_mend 56 = .ok (.getfield 66, 3) := dk_180 0 66 (dk_at dksX13_mend_2 8 rfl rfl)
theorem dX13_mend_59 : decode cX13_mend 59 = .ok (.iconst 1, 1) := dk_4 (dk_at dksX13_mend_2 11 rfl rfl)
theorem dX13_mend_60 : decode cX13_mend 60 = .ok (.iload 4, 2) := dk_21 4 (dk_at dksX13_mend_2 12 rfl rfl)
theorem dX13_mend_62 : decode cX13_mend 62 = .ok (.iadd, 1) := dk_96 (dk_at dksX13_mend_2 14 rfl rfl)
theorem dX13_mend_63 : decode cX13_mend 63 = .ok (.iload 5, 2) := dk_21 5 (dk_at dksX13_mend_2 15 rfl rfl)
theorem dX13_mend_65 : decode cX13_mend 65 = .ok (.iadd, 1) := dk_96 (dk_at dksX13_mend_2 17 rfl rfl)
theorem dX13_mend_66 : decode cX13_mend 66 = .ok (.iaload, 1) := dk_46 (dk_at dksX13_mend_2 18 rfl rfl)
theorem dX13_mend_67 : decode cX13_mend 67 = .ok (.iastore, 1) := dk_79 (dk_at dksX13_mend_2 19 rfl rfl)
theorem dX13_mend_68 : decode cX13_mend 68 = .ok (.iinc 5 1, 3) := dk_132 5 1 (dk_at dksX13_mend_2 20 rfl rfl)
theorem dX13_mend_71 : decode cX13_mend 71 = .ok (.goto (-35), 3) := dk_167 255 221 (dk_at dksX13_mend_3 0 rfl rfl)
theorem dX13_mend_74 : decode cX13_mend 74 = .ok (.iinc 4 1, 3) := dk_132 4 1 (dk_at dksX13_mend_3 3 rfl rfl)
theorem dX13_mend_77 : decode cX13_mend 77 = .ok (.goto (-50), 3) := dk_167 255 206 (dk_at dksX13_mend_3 6 rfl rfl)
theorem dX13_mend_80 : decode cX13_mend 80 = .ok (.aload_n 0, 1) := dk_42 (dk_at dksX13_mend_3 9 rfl rfl)
theorem dX13_mend_81 : decode cX13_mend 81 = .ok (.iload_n 2, 1) := dk_28 (dk_at dksX13_mend_3 10 rfl rfl)
theorem dX13_mend_82 : decode cX13_mend 82 = .ok (.invokevirtual 217, 3) := dk_182 0 217 (dk_at dksX13_mend_3 11 rfl rfl)
theorem dX13_mend_85 : decode cX13_mend 85 = .ok (.istore_n 3, 1) := dk_62 (dk_at dksX13_mend_3 14 rfl rfl)
theorem dX13_mend_86 : decode cX13_mend 86 = .ok (.iload_n 2, 1) := dk_28 (dk_at dksX13_mend_3 15 rfl rfl)
theorem dX13_mend_87 : decode cX13_mend 87 = .ok (.iload_n 3, 1) := dk_29 (dk_at dksX13_mend_3 16 rfl rfl)
theorem dX13_mend_88 : decode cX13_mend 88 = .ok (.ifCond .eq 7, 3) := dk_153 0 7 (dk_at dksX13_mend_3 17 rfl rfl)
theorem dX13_mend_91 : decode cX13_mend 91 = .ok (.iconst 0, 1) := dk_3 (dk_at dksX13_mend_3 20 rfl rfl)
theorem dX13_mend_92 : decode cX13_mend 92 = .ok (.goto 4, 3) := dk_167 0 4 (dk_at dksX13_mend_3 21 rfl rfl)
theorem dX13_mend_95 : decode cX13_mend 95 = .ok (.iconst 1, 1) := dk_4 (dk_at dksX13_mend_4 0 rfl rfl)
theorem dX13_mend_96 : decode cX13_mend 96 = .ok (.isub, 1) := dk_100 (dk_at dksX13_mend_4 1 rfl rfl)
theorem dX13_mend_97 : decode cX13_mend 97 = .ok (.istore_n 2, 1) := dk_61 (dk_at dksX13_mend_4 2 rfl rfl)
theorem dX13_mend_98 : decode cX13_mend 98 = .ok (.goto (-82), 3) := dk_167 255 174 (dk_at dksX13_mend_4 3 rfl rfl)
theorem dX13_mend_101 : decode cX13_mend 101 = .ok (.iload_n 3, 1) := dk_29 (dk_at dksX13_mend_4 6 rfl rfl)
theorem dX13_mend_102 : decode cX13_mend 102 = .ok (.ifCond .eq 24, 3) := dk_153 0 24 (dk_at dksX13_mend_4 7 rfl rfl)
theorem dX13_mend_105 : decode cX13_mend 105 = .ok (.aload_n 0, 1) := dk_42 (dk_at dksX13_mend_4 10 rfl rfl)
theorem dX13_mend_106 : decode cX13_mend 106 = .ok (.iload_n 2, 1) := dk_28 (dk_at dksX13_mend_4 11 rfl rfl)
theorem dX13_mend_107 : decode cX13_mend 107 = .ok (.invokevirtual 220, 3) := dk_182 0 220 (dk_at dksX13_mend_4 12 rfl rfl)
theorem dX13_mend_110 : decode cX13_mend 110 = .ok (.ifCond .eq 16, 3) := dk_153 0 16 (dk_at dksX13_mend_4 15 rfl rfl)
theorem dX13_mend_113 : decode cX13_mend 113 = .ok (.aload_n 0, 1) := dk_42 (dk_at dksX13_mend_4 18 rfl rfl)
theorem dX13_mend_114 : decode cX13_mend 114 = .ok (.iload_n 2, 1) := dk_28 (dk_at dksX13_mend_4 19 rfl rfl)
theorem dX13_mend_115 : decode cX13_mend 115 = .ok (.iload_n 1, 1) := dk_27 (dk_at dksX13_mend_4 20 rfl rfl)
theorem dX13_mend_116 : decode cX13_mend 116 = .ok (.invokevirtual 223, 3) := dk_182 0 223 (dk_at dksX13_mend_4 21 rfl rfl)
theorem dX13_mend_119 : decode cX13_mend 119 = .ok (.ifCond .eq 7, 3) := dk_153 0 7 (dk_at dksX13_mend_5 0 rfl rfl)
theorem dX13_mend_122 : decode cX13_mend 122 = .ok (.iconst 1, 1) := dk_4 (dk_at dksX13_mend_5 3 rfl rfl)
theorem dX13_mend_123 : decode cX13_mend 123 = .ok (.goto 4, 3) := dk_167 0 4 (dk_at dksX13_mend_5 4 rfl rfl)
theorem dX13_mend_126 : decode cX13_mend 126 = .ok (.iconst 0, 1) := dk_3 (dk_at dksX13_mend_5 7 rfl rfl)
theorem dX13_mend_127 : decode cX13_mend 127 = .ok (.ireturn, 1) := dk_172 (dk_at dksX13_mend_5 8 rfl rfl)
abbrev cX13_sum : ByteArray := prog_16_method_35_code
def yX13_sum : MethodName := ⟨RX13, "sum", "(I)Z"⟩
def dkwX13_sum_3 : List UInt8 := [167, 0, 4, 3, 61, 132, 3, 1, 167, 255, 182, 28, 172]
abbrev dktX13_sum_3 : List UInt8 := dkwX13_sum_3 ++ []
def dkwX13_sum_2 : List UInt8 := [132, 5, 1, 167, 255, 222, 42, 180, 0, 66, 29, 21, 4, 79, 28, 153, 0, 12, 21, 4, 154, 0, 7, 4]
abbrev dktX13_sum_2 : List UInt8 := dkwX13_sum_2 ++ dktX13_sum_3
def dkwX13_sum_1 : List UInt8 := [42, 21, 4, 42, 180, 0, 32, 29, 46, 182, 0, 204, 42, 180, 0, 69, 21, 5, 46, 130, 54, 4]
abbrev dktX13_sum_1 : List UInt8 := dkwX13_sum_1 ++ dktX13_sum_2
def dkwX13_sum_0 : List UInt8 := [4, 61, 4, 62, 29, 27, 163, 0, 75, 3, 54, 4, 3, 54, 5, 21, 5, 42, 180, 0, 208, 162, 0, 31]
abbrev dktX13_sum_0 : List UInt8 := dkwX13_sum_0 ++ dktX13_sum_1
theorem dksX13_sum_0 : cX13_sum.data.toList.drop 0 = dktX13_sum_0 := by decide +kernel
theorem dksX13_sum_1 : cX13_sum.data.toList.drop 24 = dktX13_sum_1 := dk_seg dksX13_sum_0 24 rfl rfl
theorem dksX13_sum_2 : cX13_sum.data.toList.drop 46 = dktX13_sum_2 := dk_seg dksX13_sum_1 22 rfl rfl
theorem dksX13_sum_3 : cX13_sum.data.toList.drop 70 = dktX13_sum_3 := dk_seg dksX13_sum_2 24 rfl rfl
theorem dX13_sum_0 : decode cX13_sum 0 = .ok (.iconst 1, 1) := dk_4 (dk_at dksX13_sum_0 0 rfl rfl)
theorem dX13_sum_1 : decode cX13_sum 1 = .ok (.istore_n 2, 1) := dk_61 (dk_at dksX13_sum_0 1 rfl rfl)
theorem dX13_sum_2 : decode cX13_sum 2 = .ok (.iconst 1, 1) := dk_4 (dk_at dksX13_sum_0 2 rfl rfl)
theorem dX13_sum_3 : decode cX13_sum 3 = .ok (.istore_n 3, 1) := dk_62 (dk_at dksX13_sum_0 3 rfl rfl)
theorem dX13_sum_4 : decode cX13_sum 4 = .ok (.iload_n 3, 1) := dk_29 (dk_at dksX13_sum_0 4 rfl rfl)
theorem dX13_sum_5 : decode cX13_sum 5 = .ok (.iload_n 1, 1) := dk_27 (dk_at dksX13_sum_0 5 rfl rfl)
theorem dX13_sum_6 : decode cX13_sum 6 = .ok (.if_icmp .gt 75, 3) := dk_163 0 75 (dk_at dksX13_sum_0 6 rfl rfl)
theorem dX13_sum_9 : decode cX13_sum 9 = .ok (.iconst 0, 1) := dk_3 (dk_at dksX13_sum_0 9 rfl rfl)
theorem dX13_sum_10 : decode cX13_sum 10 = .ok (.istore 4, 2) := dk_54 4 (dk_at dksX13_sum_0 10 rfl rfl)
theorem dX13_sum_12 : decode cX13_sum 12 = .ok (.iconst 0, 1) := dk_3 (dk_at dksX13_sum_0 12 rfl rfl)
theorem dX13_sum_13 : decode cX13_sum 13 = .ok (.istore 5, 2) := dk_54 5 (dk_at dksX13_sum_0 13 rfl rfl)
theorem dX13_sum_15 : decode cX13_sum 15 = .ok (.iload 5, 2) := dk_21 5 (dk_at dksX13_sum_0 15 rfl rfl)
theorem dX13_sum_17 : decode cX13_sum 17 = .ok (.aload_n 0, 1) := dk_42 (dk_at dksX13_sum_0 17 rfl rfl)
theorem dX13_sum_18 : decode cX13_sum 18 = .ok (.getfield 208, 3) := dk_180 0 208 (dk_at dksX13_sum_0 18 rfl rfl)
theorem dX13_sum_21 : decode cX13_sum 21 = .ok (.if_icmp .ge 31, 3) := dk_162 0 31 (dk_at dksX13_sum_0 21 rfl rfl)
theorem dX13_sum_24 : decode cX13_sum 24 = .ok (.aload_n 0, 1) := dk_42 (dk_at dksX13_sum_1 0 rfl rfl)
theorem dX13_sum_25 : decode cX13_sum 25 = .ok (.iload 4, 2) := dk_21 4 (dk_at dksX13_sum_1 1 rfl rfl)
theorem dX13_sum_27 : decode cX13_sum 27 = .ok (.aload_n 0, 1) := dk_42 (dk_at dksX13_sum_1 3 rfl rfl)
theorem dX13_sum_28 : decode cX13_sum 28 = .ok (.getfield 32, 3) := dk_180 0 32 (dk_at dksX13_sum_1 4 rfl rfl)
theorem dX13_sum_31 : decode cX13_sum 31 = .ok (.iload_n 3, 1) := dk_29 (dk_at dksX13_sum_1 7 rfl rfl)
theorem dX13_sum_32 : decode cX13_sum 32 = .ok (.iaload, 1) := dk_46 (dk_at dksX13_sum_1 8 rfl rfl)
theorem dX13_sum_33 : decode cX13_sum 33 = .ok (.invokevirtual 204, 3) := dk_182 0 204 (dk_at dksX13_sum_1 9 rfl rfl)
theorem dX13_sum_36 : decode cX13_sum 36 = .ok (.aload_n 0, 1) := dk_42 (dk_at dksX13_sum_1 12 rfl rfl)
theorem dX13_sum_37 : decode cX13_sum 37 = .ok (.getfield 69, 3) := dk_180 0 69 (dk_at dksX13_sum_1 13 rfl rfl)
theorem dX13_sum_40 : decode cX13_sum 40 = .ok (.iload 5, 2) := dk_21 5 (dk_at dksX13_sum_1 16 rfl rfl)
theorem dX13_sum_42 : decode cX13_sum 42 = .ok (.iaload, 1) := dk_46 (dk_at dksX13_sum_1 18 rfl rfl)
theorem dX13_sum_43 : decode cX13_sum 43 = .ok (.ixor, 1) := dk_130 (dk_at dksX13_sum_1 19 rfl rfl)
theorem dX13_sum_44 : decode cX13_sum 44 = .ok (.istore 4, 2) := dk_54 4 (dk_at dksX13_sum_1 20 rfl rfl)
theorem dX13_sum_46 : decode cX13_sum 46 = .ok (.iinc 5 1, 3) := dk_132 5 1 (dk_at dksX13_sum_2 0 rfl rfl)
theorem dX13_sum_49 : decode cX13_sum 49 = .ok (.goto (-34), 3) := dk_167 255 222 (dk_at dksX13_sum_2 3 rfl rfl)
theorem dX13_sum_52 : decode cX13_sum 52 = .ok (.aload_n 0, 1) := dk_42 (dk_at dksX13_sum_2 6 rfl rfl)
theorem dX13_sum_53 : decode cX13_sum 53 = .ok (.getfield 66, 3) := dk_180 0 66 (dk_at dksX13_sum_2 7 rfl rfl)
theorem dX13_sum_56 : decode cX13_sum 56 = .ok (.iload_n 3, 1) := dk_29 (dk_at dksX13_sum_2 10 rfl rfl)
theorem dX13_sum_57 : decode cX13_sum 57 = .ok (.iload 4, 2) := dk_21 4 (dk_at dksX13_sum_2 11 rfl rfl)
theorem dX13_sum_59 : decode cX13_sum 59 = .ok (.iastore, 1) := dk_79 (dk_at dksX13_sum_2 13 rfl rfl)
theorem dX13_sum_60 : decode cX13_sum 60 = .ok (.iload_n 2, 1) := dk_28 (dk_at dksX13_sum_2 14 rfl rfl)
theorem dX13_sum_61 : decode cX13_sum 61 = .ok (.ifCond .eq 12, 3) := dk_153 0 12 (dk_at dksX13_sum_2 15 rfl rfl)
theorem dX13_sum_64 : decode cX13_sum 64 = .ok (.iload 4, 2) := dk_21 4 (dk_at dksX13_sum_2 18 rfl rfl)
theorem dX13_sum_66 : decode cX13_sum 66 = .ok (.ifCond .ne 7, 3) := dk_154 0 7 (dk_at dksX13_sum_2 20 rfl rfl)
theorem dX13_sum_69 : decode cX13_sum 69 = .ok (.iconst 1, 1) := dk_4 (dk_at dksX13_sum_2 23 rfl rfl)
theorem dX13_sum_70 : decode cX13_sum 70 = .ok (.goto 4, 3) := dk_167 0 4 (dk_at dksX13_sum_3 0 rfl rfl)
theorem dX13_sum_73 : decode cX13_sum 73 = .ok (.iconst 0, 1) := dk_3 (dk_at dksX13_sum_3 3 rfl rfl)
theorem dX13_sum_74 : decode cX13_sum 74 = .ok (.istore_n 2, 1) := dk_61 (dk_at dksX13_sum_3 4 rfl rfl)
theorem dX13_sum_75 : decode cX13_sum 75 = .ok (.iinc 3 1, 3) := dk_132 3 1 (dk_at dksX13_sum_3 5 rfl rfl)
theorem dX13_sum_78 : decode cX13_sum 78 = .ok (.goto (-74), 3) := dk_167 255 182 (dk_at dksX13_sum_3 8 rfl rfl)
theorem dX13_sum_81 : decode cX13_sum 81 = .ok (.iload_n 2, 1) := dk_28 (dk_at dksX13_sum_3 11 rfl rfl)
theorem dX13_sum_82 : decode cX13_sum 82 = .ok (.ireturn, 1) := dk_172 (dk_at dksX13_sum_3 12 rfl rfl)
abbrev cX13_product : ByteArray := prog_16_method_31_code
def yX13_product : MethodName := ⟨RX13, "product", "(II)I"⟩
def dkwX13_product_1 : List UInt8 := [180, 0, 35, 28, 46, 96, 46, 172]
abbrev dktX13_product_1 : List UInt8 := dkwX13_product_1 ++ []
def dkwX13_product_0 : List UInt8 := [27, 153, 0, 7, 28, 154, 0, 7, 3, 167, 0, 21, 42, 180, 0, 32, 42, 180, 0, 35, 27, 46, 42]
abbrev dktX13_product_0 : List UInt8 := dkwX13_product_0 ++ dktX13_product_1
theorem dksX13_product_0 : cX13_product.data.toList.drop 0 = dktX13_product_0 := by decide +kernel
theorem dksX13_product_1 : cX13_product.data.toList.drop 23 = dktX13_product_1 := dk_seg dksX13_product_0 23 rfl rfl
theorem dX13_product_0 : decode cX13_product 0 = .ok (.iload_n 1, 1) := dk_27 (dk_at dksX13_product_0 0 rfl rfl)
theorem dX13_product_1 : decode cX13_product 1 = .ok (.ifCond .eq 7, 3) := dk_153 0 7 (dk_at dksX13_product_0 1 rfl rfl)
theorem dX13_product_4 : decode cX13_product 4 = .ok (.iload_n 2, 1) := dk_28 (dk_at dksX13_product_0 4 rfl rfl)
theorem dX13_product_5 : decode cX13_product 5 = .ok (.ifCond .ne 7, 3) := dk_154 0 7 (dk_at dksX13_product_0 5 rfl rfl)
theorem dX13_product_8 : decode cX13_product 8 = .ok (.iconst 0, 1) := dk_3 (dk_at dksX13_product_0 8 rfl rfl)
theorem dX13_product_9 : decode cX13_product 9 = .ok (.goto 21, 3) := dk_167 0 21 (dk_at dksX13_product_0 9 rfl rfl)
theorem dX13_product_12 : decode cX13_product 12 = .ok (.aload_n 0, 1) := dk_42 (dk_at dksX13_product_0 12 rfl rfl)
theorem dX13_product_13 : decode cX13_product 13 = .ok (.getfield 32, 3) := dk_180 0 32 (dk_at dksX13_product_0 13 rfl rfl)
theorem dX13_product_16 : decode cX13_product 16 = .ok (.aload_n 0, 1) := dk_42 (dk_at dksX13_product_0 16 rfl rfl)
theorem dX13_product_17 : decode cX13_product 17 = .ok (.getfield 35, 3) := dk_180 0 35 (dk_at dksX13_product_0 17 rfl rfl)
theorem dX13_product_20 : decode cX13_product 20 = .ok (.iload_n 1, 1) := dk_27 (dk_at dksX13_product_0 20 rfl rfl)
theorem dX13_product_21 : decode cX13_product 21 = .ok (.iaload, 1) := dk_46 (dk_at dksX13_product_0 21 rfl rfl)
theorem dX13_product_22 : decode cX13_product 22 = .ok (.aload_n 0, 1) := dk_42 (dk_at dksX13_product_0 22 rfl rfl)
theorem dX13_product_23 : decode cX13_product 23 = .ok (.getfield 35, 3) := dk_180 0 35 (dk_at dksX13_product_1 0 rfl rfl)
theorem dX13_product_26 : decode cX13_product 26 = .ok (.iload_n 2, 1) := dk_28 (dk_at dksX13_product_1 3 rfl rfl)
theorem dX13_product_27 : decode cX13_product 27 = .ok (.iaload, 1) := dk_46 (dk_at dksX13_product_1 4 rfl rfl)
theorem dX13_product_28 : decode cX13_product 28 = .ok (.iadd, 1) := dk_96 (dk_at dksX13_product_1 5 rfl rfl)
theorem dX13_product_29 : decode cX13_product 29 = .ok (.iaload, 1) := dk_46 (dk_at dksX13_product_1 6 rfl rfl)
theorem dX13_product_30 : decode cX13_product 30 = .ok (.ireturn, 1) := dk_172 (dk_at dksX13_product_1 7 rfl rfl)
abbrev cX13_solve : ByteArray := prog_16_method_36_code
def yX13_solve : MethodName := ⟨RX13, "solve", "(I)Z"⟩
def dkwX13_solve_12 : List UInt8 := [180, 0, 78, 29, 42, 180, 0, 72, 28, 29, 104, 27, 96, 46, 79, 132, 3, 1, 167, 255, 232, 4, 172]
abbrev dktX13_solve_12 : List UInt8 := dkwX13_solve_12 ++ []
def dkwX13_solve_11 : List UInt8 := [167, 255, 200, 132, 6, 1, 167, 255, 162, 132, 3, 1, 167, 254, 247, 3, 62, 29, 27, 162, 0, 25, 42]
abbrev dktX13_solve_11 : List UInt8 := dkwX13_solve_11 ++ dktX13_solve_12
def dkwX13_solve_10 : List UInt8 := [96, 46, 42, 21, 7, 42, 180, 0, 72, 28, 29, 104, 21, 8, 96, 46, 182, 0, 204, 130, 79, 132, 8, 1]
abbrev dktX13_solve_10 : List UInt8 := dkwX13_solve_10 ++ dktX13_solve_11
def dkwX13_solve_9 : List UInt8 := [158, 0, 51, 42, 180, 0, 72, 28, 21, 6, 104, 21, 8, 96, 42, 180, 0, 72, 28, 21, 6, 104, 21, 8]
abbrev dktX13_solve_9 : List UInt8 := dkwX13_solve_9 ++ dktX13_solve_10
def dkwX13_solve_8 : List UInt8 := [180, 0, 72, 28, 21, 6, 104, 29, 96, 46, 54, 7, 29, 54, 8, 21, 8, 28, 162, 0, 56, 21, 7]
abbrev dktX13_solve_8 : List UInt8 := dkwX13_solve_8 ++ dktX13_solve_9
def dkwX13_solve_7 : List UInt8 := [167, 255, 219, 3, 54, 6, 21, 6, 27, 162, 0, 94, 21, 6, 29, 160, 0, 7, 3, 167, 0, 14, 42]
abbrev dktX13_solve_7 : List UInt8 := dkwX13_solve_7 ++ dktX13_solve_8
def dkwX13_solve_6 : List UInt8 := [96, 42, 42, 180, 0, 72, 28, 29, 104, 21, 6, 96, 46, 21, 5, 182, 0, 211, 79, 132, 6, 1]
abbrev dktX13_solve_6 : List UInt8 := dkwX13_solve_6 ++ dktX13_solve_7
def dkwX13_solve_5 : List UInt8 := [104, 29, 96, 46, 54, 5, 29, 54, 6, 21, 6, 28, 162, 0, 37, 42, 180, 0, 72, 28, 29, 104, 21, 6]
abbrev dktX13_solve_5 : List UInt8 := dkwX13_solve_5 ++ dktX13_solve_6
def dkwX13_solve_4 : List UInt8 := [180, 0, 72, 28, 29, 104, 21, 5, 96, 21, 6, 79, 132, 5, 1, 167, 255, 197, 42, 180, 0, 72, 28, 29]
abbrev dktX13_solve_4 : List UInt8 := dkwX13_solve_4 ++ dktX13_solve_5
def dkwX13_solve_3 : List UInt8 := [180, 0, 72, 28, 21, 4, 104, 21, 5, 96, 42, 180, 0, 72, 28, 29, 104, 21, 5, 96, 46, 79, 42]
abbrev dktX13_solve_3 : List UInt8 := dkwX13_solve_3 ++ dktX13_solve_4
def dkwX13_solve_2 : List UInt8 := [3, 54, 5, 21, 5, 28, 162, 0, 59, 42, 180, 0, 72, 28, 21, 4, 104, 21, 5, 96, 46, 54, 6, 42]
abbrev dktX13_solve_2 : List UInt8 := dkwX13_solve_2 ++ dktX13_solve_3
def dkwX13_solve_1 : List UInt8 := [28, 21, 4, 104, 29, 96, 46, 154, 0, 9, 132, 4, 1, 167, 255, 233, 21, 4, 27, 160, 0, 5, 3, 172]
abbrev dktX13_solve_1 : List UInt8 := dkwX13_solve_1 ++ dktX13_solve_2
def dkwX13_solve_0 : List UInt8 := [27, 4, 96, 61, 3, 62, 29, 27, 162, 1, 10, 29, 54, 4, 21, 4, 27, 162, 0, 23, 42, 180, 0, 72]
abbrev dktX13_solve_0 : List UInt8 := dkwX13_solve_0 ++ dktX13_solve_1
theorem dksX13_solve_0 : cX13_solve.data.toList.drop 0 = dktX13_solve_0 := by decide +kernel
theorem dksX13_solve_1 : cX13_solve.data.toList.drop 24 = dktX13_solve_1 := dk_seg dksX13_solve_0 24 rfl rfl
theorem dksX13_solve_2 : cX13_solve.data.toList.drop 48 = dktX13_solve_2 := dk_seg dksX13_solve_1 24 rfl rfl
theorem dksX13_solve_3 : cX13_solve.data.toList.drop 72 = dktX13_solve_3 := dk_seg dksX13_solve_2 24 rfl rfl
theorem dksX13_solve_4 : cX13_solve.data.toList.drop 95 = dktX13_solve_4 := dk_seg dksX13_solve_3 23 rfl rfl
theorem dksX13_solve_5 : cX13_solve.data.toList.drop 119 = dktX13_solve_5 := dk_seg dksX13_solve_4 24 rfl rfl
theorem dksX13_solve_6 : cX13_solve.data.toList.drop 143 = dktX13_solve_6 := dk_seg dksX13_solve_5 24 rfl rfl
theorem dksX13_solve_7 : cX13_solve.data.toList.drop 165 = dktX13_solve_7 := dk_seg dksX13_solve_6 22 rfl rfl
theorem dksX13_solve_8 : cX13_solve.data.toList.drop 188 = dktX13_solve_8 := dk_seg dksX13_solve_7 23 rfl rfl
theorem dksX13_solve_9 : cX13_solve.data.toList.drop 211 = dktX13_solve_9 := dk_seg dksX13_solve_8 23 rfl rfl
theorem dksX13_solve_10 : cX13_solve.data.toList.drop 235 = dktX13_solve_10 := dk_seg dksX13_solve_9 24 rfl rfl
theorem dksX13_solve_11 : cX13_solve.data.toList.drop 259 = dktX13_solve_11 := dk_seg dksX13_solve_10 24 rfl rfl
theorem dksX13_solve_12 : cX13_solve.data.toList.drop 282 = dktX13_solve_12 := dk_seg dksX13_solve_11 23 rfl rfl
theorem dX13_solve_0 : decode cX13_solve 0 = .ok (.iload_n 1, 1) := dk_27 (dk_at dksX13_solve_0 0 rfl rfl)
theorem dX13_solve_1 : decode cX13_solve 1 = .ok (.iconst 1, 1) := dk_4 (dk_at dksX13_solve_0 1 rfl rfl)
theorem dX13_solve_2 : decode cX13_solve 2 = .ok (.iadd, 1) := dk_96 (dk_at dksX13_solve_0 2 rfl rfl)
theorem dX13_solve_3 : decode cX13_solve 3 = .ok (.istore_n 2, 1) := dk_61 (dk_at dksX13_solve_0 3 rfl rfl)
theorem dX13_solve_4 : decode cX13_solve 4 = .ok (.iconst 0, 1) := dk_3 (dk_at dksX13_solve_0 4 rfl rfl)
theorem dX13_solve_5 : decode cX13_solve 5 = .ok (.istore_n 3, 1) := dk_62 (dk_at dksX13_solve_0 5 rfl rfl)
theorem dX13_solve_6 : decode cX13_solve 6 = .ok (.iload_n 3, 1) := dk_29 (dk_at dksX13_solve_0 6 rfl rfl)
theorem dX13_solve_7 : decode cX13_solve 7 = .ok (.iload_n 1, 1) := dk_27 (dk_at dksX13_solve_0 7 rfl rfl)
theorem dX13_solve_8 : decode cX13_solve 8 = .ok (.if_icmp .ge 266, 3) := dk_162 1 10 (dk_at dksX13_solve_0 8 rfl rfl)
theorem dX13_solve_11 : decode cX13_solve 11 = .ok (.iload_n 3, 1) := dk_29 (dk_at dksX13_solve_0 11 rfl rfl)
theorem dX13_solve_12 : decode cX13_solve 12 = .ok (.istore 4, 2) := dk_54 4 (dk_at dksX13_solve_0 12 rfl rfl)
theorem dX13_solve_14 : decode cX13_solve 14 = .ok (.iload 4, 2) := dk_21 4 (dk_at dksX13_solve_0 14 rfl rfl)
theorem dX13_solve_16 : decode cX13_solve 16 = .ok (.iload_n 1, 1) := dk_27 (dk_at dksX13_solve_0 16 rfl rfl)
theorem dX13_solve_17 : decode cX13_solve 17 = .ok (.if_icmp .ge 23, 3) := dk_162 0 23 (dk_at dksX13_solve_0 17 rfl rfl)
theorem dX13_solve_20 : decode cX13_solve 20 = .ok (.aload_n 0, 1) := dk_42 (dk_at dksX13_solve_0 20 rfl rfl)
theorem dX13_solve_21 : decode cX13_solve 21 = .ok (.getfield 72, 3) := dk_180 0 72 (dk_at dksX13_solve_0 21 rfl rfl)
theorem dX13_solve_24 : decode cX13_solve 24 = .ok (.iload_n 2, 1) := dk_28 (dk_at dksX13_solve_1 0 rfl rfl)
theorem dX13_solve_25 : decode cX13_solve 25 = .ok (.iload 4, 2) := dk_21 4 (dk_at dksX13_solve_1 1 rfl rfl)
theorem dX13_solve_27 : decode cX13_solve 27 = .ok (.imul, 1) := dk_104 (dk_at dksX13_solve_1 3 rfl rfl)
theorem dX13_solve_28 : decode cX13_solve 28 = .ok (.iload_n 3, 1) := dk_29 (dk_at dksX13_solve_1 4 rfl rfl)
theorem dX13_solve_29 : decode cX13_solve 29 = .ok (.iadd, 1) := dk_96 (dk_at dksX13_solve_1 5 rfl rfl)
theorem dX13_solve_30 : decode cX13_solve 30 = .ok (.iaload, 1) := dk_46 (dk_at dksX13_solve_1 6 rfl rfl)
theorem dX13_solve_31 : decode cX13_solve 31 = .ok (.ifCond .ne 9, 3) := dk_154 0 9 (dk_at dksX13_solve_1 7 rfl rfl)
theorem dX13_solve_34 : decode cX13_solve 34 = .ok (.iinc 4 1, 3) := dk_132 4 1 (dk_at dksX13_solve_1 10 rfl rfl)
theorem dX13_solve_37 : decode cX13_solve 37 = .ok (.goto (-23), 3) := dk_167 255 233 (dk_at dksX13_solve_1 13 rfl rfl)
theorem dX13_solve_40 : decode cX13_solve 40 = .ok (.iload 4, 2) := dk_21 4 (dk_at dksX13_solve_1 16 rfl rfl)
theorem dX13_solve_42 : decode cX13_solve 42 = .ok (.iload_n 1, 1) := dk_27 (dk_at dksX13_solve_1 18 rfl rfl)
theorem dX13_solve_43 : decode cX13_solve 43 = .ok (.if_icmp .ne 5, 3) := dk_160 0 5 (dk_at dksX13_solve_1 19 rfl rfl)
theorem dX13_solve_46 : decode cX13_solve 46 = .ok (.iconst 0, 1) := dk_3 (dk_at dksX13_solve_1 22 rfl rfl)
theorem dX13_solve_47 : decode cX13_solve 47 = .ok (.ireturn, 1) := dk_172 (dk_at dksX13_solve_1 23 rfl rfl)
theorem dX13_solve_48 : decode cX13_solve 48 = .ok (.iconst 0, 1) := dk_3 (dk_at dksX13_solve_2 0 rfl rfl)
theorem dX13_solve_49 : decode cX13_solve 49 = .ok (.istore 5, 2) := dk_54 5 (dk_at dksX13_solve_2 1 rfl rfl)
theorem dX13_solve_51 : decode cX13_solve 51 = .ok (.iload 5, 2) := dk_21 5 (dk_at dksX13_solve_2 3 rfl rfl)
theorem dX13_solve_53 : decode cX13_solve 53 = .ok (.iload_n 2, 1) := dk_28 (dk_at dksX13_solve_2 5 rfl rfl)
theorem dX13_solve_54 : decode cX13_solve 54 = .ok (.if_icmp .ge 59, 3) := dk_162 0 59 (dk_at dksX13_solve_2 6 rfl rfl)
theorem dX13_solve_57 : decode cX13_solve 57 = .ok (.aload_n 0, 1) := dk_42 (dk_at dksX13_solve_2 9 rfl rfl)
theorem dX13_solve_58 : decode cX13_solve 58 = .ok (.getfield 72, 3) := dk_180 0 72 (dk_at dksX13_solve_2 10 rfl rfl)
theorem dX13_solve_61 : decode cX13_solve 61 = .ok (.iload_n 2, 1) := dk_28 (dk_at dksX13_solve_2 13 rfl rfl)
theorem dX13_solve_62 : decode cX13_solve 62 = .ok (.iload 4, 2) := dk_21 4 (dk_at dksX13_solve_2 14 rfl rfl)
theorem dX13_solve_64 : decode cX13_solve 64 = .ok (.imul, 1) := dk_104 (dk_at dksX13_solve_2 16 rfl rfl)
theorem dX13_solve_65 : decode cX13_solve 65 = .ok (.iload 5, 2) := dk_21 5 (dk_at dksX13_solve_2 17 rfl rfl)
theorem dX13_solve_67 : decode cX13_solve 67 = .ok (.iadd, 1) := dk_96 (dk_at dksX13_solve_2 19 rfl rfl)
theorem dX13_solve_68 : decode cX13_solve 68 = .ok (.iaload, 1) := dk_46 (dk_at dksX13_solve_2 20 rfl rfl)
theorem dX13_solve_69 : decode cX13_solve 69 = .ok (.istore 6, 2) := dk_54 6 (dk_at dksX13_solve_2 21 rfl rfl)
theorem dX13_solve_71 : decode cX13_solve 71 = .ok (.aload_n 0, 1) := dk_42 (dk_at dksX13_solve_2 23 rfl rfl)
theorem dX13_solve_72 : decode cX13_solve 72 = .ok (.getfield 72, 3) := dk_180 0 72 (dk_at dksX13_solve_3 0 rfl rfl)
theorem dX13_solve_75 : decode cX13_solve 75 = .ok (.iload_n 2, 1) := dk_28 (dk_at dksX13_solve_3 3 rfl rfl)
theorem dX13_solve_76 : decode cX13_solve 76 = .ok (.iload 4, 2) := dk_21 4 (dk_at dksX13_solve_3 4 rfl rfl)
theorem dX13_solve_78 : decode cX13_solve 78 = .ok (.imul, 1) := dk_104 (dk_at dksX13_solve_3 6 rfl rfl)
theorem dX13_solve_79 : decode cX13_solve 79 = .ok (.iload 5, 2) := dk_21 5 (dk_at dksX13_solve_3 7 rfl rfl)
theorem dX13_solve_81 : decode cX13_solve 81 = .ok (.iadd, 1) := dk_96 (dk_at dksX13_solve_3 9 rfl rfl)
theorem dX13_solve_82 : decode cX13_solve 82 = .ok (.aload_n 0, 1) := dk_42 (dk_at dksX13_solve_3 10 rfl rfl)
theorem dX13_solve_83 : decode cX13_solve 83 = .ok (.getfield 72, 3) := dk_180 0 72 (dk_at dksX13_solve_3 11 rfl rfl)
theorem dX13_solve_86 : decode cX13_solve 86 = .ok (.iload_n 2, 1) := dk_28 (dk_at dksX13_solve_3 14 rfl rfl)
theorem dX13_solve_87 : decode cX13_solve 87 = .ok (.iload_n 3, 1) := dk_29 (dk_at dksX13_solve_3 15 rfl rfl)
theorem dX13_solve_88 : decode cX13_solve 88 = .ok (.imul, 1) := dk_104 (dk_at dksX13_solve_3 16 rfl rfl)
theorem dX13_solve_89 : decode cX13_solve 89 = .ok (.iload 5, 2) := dk_21 5 (dk_at dksX13_solve_3 17 rfl rfl)
theorem dX13_solve_91 : decode cX13_solve 91 = .ok (.iadd, 1) := dk_96 (dk_at dksX13_solve_3 19 rfl rfl)
theorem dX13_solve_92 : decode cX13_solve 92 = .ok (.iaload, 1) := dk_46 (dk_at dksX13_solve_3 20 rfl rfl)
theorem dX13_solve_93 : decode cX13_solve 93 = .ok (.iastore, 1) := dk_79 (dk_at dksX13_solve_3 21 rfl rfl)
theorem dX13_solve_94 : decode cX13_solve 94 = .ok (.aload_n 0, 1) := dk_42 (dk_at dksX13_solve_3 22 rfl rfl)
theorem dX13_solve_95 : decode cX13_solve 95 = .ok (.getfield 72, 3) := dk_180 0 72 (dk_at dksX13_solve_4 0 rfl rfl)
theorem dX13_solve_98 : decode cX13_solve 98 = .ok (.iload_n 2, 1) := dk_28 (dk_at dksX13_solve_4 3 rfl rfl)
theorem dX13_solve_99 : decode cX13_solve 99 = .ok (.iload_n 3, 1) := dk_29 (dk_at dksX13_solve_4 4 rfl rfl)
theorem dX13_solve_100 : decode cX13_solve 100 = .ok (.imul, 1) := dk_104 (dk_at dksX13_solve_4 5 rfl rfl)
theorem dX13_solve_101 : decode cX13_solve 101 = .ok (.iload 5, 2) := dk_21 5 (dk_at dksX13_solve_4 6 rfl rfl)
theorem dX13_solve_103 : decode cX13_solve 103 = .ok (.iadd, 1) := dk_96 (dk_at dksX13_solve_4 8 rfl rfl)
theorem dX13_solve_104 : decode cX13_solve 104 = .ok (.iload 6, 2) := dk_21 6 (dk_at dksX13_solve_4 9 rfl rfl)
theorem dX13_solve_106 : decode cX13_solve 106 = .ok (.iastore, 1) := dk_79 (dk_at dksX13_solve_4 11 rfl rfl)
theorem dX13_solve_107 : decode cX13_solve 107 = .ok (.iinc 5 1, 3) := dk_132 5 1 (dk_at dksX13_solve_4 12 rfl rfl)
theorem dX13_solve_110 : decode cX13_solve 110 = .ok (.goto (-59), 3) := dk_167 255 197 (dk_at dksX13_solve_4 15 rfl rfl)
theorem dX13_solve_113 : decode cX13_solve 113 = .ok (.aload_n 0, 1) := dk_42 (dk_at dksX13_solve_4 18 rfl rfl)
theorem dX13_solve_114 : decode cX13_solve 114 = .ok (.getfield 72, 3) := dk_180 0 72 (dk_at dksX13_solve_4 19 rfl rfl)
theorem dX13_solve_117 : decode cX13_solve 117 = .ok (.iload_n 2, 1) := dk_28 (dk_at dksX13_solve_4 22 rfl rfl)
theorem dX13_solve_118 : decode cX13_solve 118 = .ok (.iload_n 3, 1) := dk_29 (dk_at dksX13_solve_4 23 rfl rfl)
theorem dX13_solve_119 : decode cX13_solve 119 = .ok (.imul, 1) := dk_104 (dk_at dksX13_solve_5 0 rfl rfl)
theorem dX13_solve_120 : decode cX13_solve 120 = .ok (.iload_n 3, 1) := dk_29 (dk_at dksX13_solve_5 1 rfl rfl)
theorem dX13_solve_121 : decode cX13_solve 121 = .ok (.iadd, 1) := dk_96 (dk_at dksX13_solve_5 2 rfl rfl)
theorem dX13_solve_122 : decode cX13_solve 122 = .ok (.iaload, 1) := dk_46 (dk_at dksX13_solve_5 3 rfl rfl)
theorem dX13_solve_123 : decode cX13_solve 123 = .ok (.istore 5, 2) := dk_54 5 (dk_at dksX13_solve_5 4 rfl rfl)
theorem dX13_solve_125 : decode cX13_solve 125 = .ok (.iload_n 3, 1) := dk_29 (dk_at dksX13_solve_5 6 rfl rfl)
theorem dX13_solve_126 : decode cX13_solve 126 = .ok (.istore 6, 2) := dk_54 6 (dk_at dksX13_solve_5 7 rfl rfl)
theorem dX13_solve_128 : decode cX13_solve 128 = .ok (.iload 6, 2) := dk_21 6 (dk_at dksX13_solve_5 9 rfl rfl)
theorem dX13_solve_130 : decode cX13_solve 130 = .ok (.iload_n 2, 1) := dk_28 (dk_at dksX13_solve_5 11 rfl rfl)
theorem dX13_solve_131 : decode cX13_solve 131 = .ok (.if_icmp .ge 37, 3) := dk_162 0 37 (dk_at dksX13_solve_5 12 rfl rfl)
theorem dX13_solve_134 : decode cX13_solve 134 = .ok (.aload_n 0, 1) := dk_42 (dk_at dksX13_solve_5 15 rfl rfl)
theorem dX13_solve_135 : decode cX13_solve 135 = .ok (.getfield 72, 3) := dk_180 0 72 (dk_at dksX13_solve_5 16 rfl rfl)
theorem dX13_solve_138 : decode cX13_solve 138 = .ok (.iload_n 2, 1) := dk_28 (dk_at dksX13_solve_5 19 rfl rfl)
theorem dX13_solve_139 : decode cX13_solve 139 = .ok (.iload_n 3, 1) := dk_29 (dk_at dksX13_solve_5 20 rfl rfl)
theorem dX13_solve_140 : decode cX13_solve 140 = .ok (.imul, 1) := dk_104 (dk_at dksX13_solve_5 21 rfl rfl)
theorem dX13_solve_141 : decode cX13_solve 141 = .ok (.iload 6, 2) := dk_21 6 (dk_at dksX13_solve_5 22 rfl rfl)
theorem dX13_solve_143 : decode cX13_solve 143 = .ok (.iadd, 1) := dk_96 (dk_at dksX13_solve_6 0 rfl rfl)
theorem dX13_solve_144 : decode cX13_solve 144 = .ok (.aload_n 0, 1) := dk_42 (dk_at dksX13_solve_6 1 rfl rfl)
theorem dX13_solve_145 : decode cX13_solve 145 = .ok (.aload_n 0, 1) := dk_42 (dk_at dksX13_solve_6 2 rfl rfl)
theorem dX13_solve_146 : decode cX13_solve 146 = .ok (.getfield 72, 3) := dk_180 0 72 (dk_at dksX13_solve_6 3 rfl rfl)
theorem dX13_solve_149 : decode cX13_solve 149 = .ok (.iload_n 2, 1) := dk_28 (dk_at dksX13_solve_6 6 rfl rfl)
theorem dX13_solve_150 : decode cX13_solve 150 = .ok (.iload_n 3, 1) := dk_29 (dk_at dksX13_solve_6 7 rfl rfl)
theorem dX13_solve_151 : decode cX13_solve 151 = .ok (.imul, 1) := dk_104 (dk_at dksX13_solve_6 8 rfl rfl)
theorem dX13_solve_152 : decode cX13_solve 152 = .ok (.iload 6, 2) := dk_21 6 (dk_at dksX13_solve_6 9 rfl rfl)
theorem dX13_solve_154 : decode cX13_solve 154 = .ok (.iadd, 1) := dk_96 (dk_at dksX13_solve_6 11 rfl rfl)
theorem dX13_solve_155 : decode cX13_solve 155 = .ok (.iaload, 1) := dk_46 (dk_at dksX13_solve_6 12 rfl rfl)
theorem dX13_solve_156 : decode cX13_solve 156 = .ok (.iload 5, 2) := dk_21 5 (dk_at dksX13_solve_6 13 rfl rfl)
theorem dX13_solve_158 : decode cX13_solve 158 = .ok (.invokevirtual 211, 3) := dk_182 0 211 (dk_at dksX13_solve_6 15 rfl rfl)
theorem dX13_solve_161 : decode cX13_solve 161 = .ok (.iastore, 1) := dk_79 (dk_at dksX13_solve_6 18 rfl rfl)
theorem dX13_solve_162 : decode cX13_solve 162 = .ok (.iinc 6 1, 3) := dk_132 6 1 (dk_at dksX13_solve_6 19 rfl rfl)
theorem dX13_solve_165 : decode cX13_solve 165 = .ok (.goto (-37), 3) := dk_167 255 219 (dk_at dksX13_solve_7 0 rfl rfl)
theorem dX13_solve_168 : decode cX13_solve 168 = .ok (.iconst 0, 1) := dk_3 (dk_at dksX13_solve_7 3 rfl rfl)
theorem dX13_solve_169 : decode cX13_solve 169 = .ok (.istore 6, 2) := dk_54 6 (dk_at dksX13_solve_7 4 rfl rfl)
theorem dX13_solve_171 : decode cX13_solve 171 = .ok (.iload 6, 2) := dk_21 6 (dk_at dksX13_solve_7 6 rfl rfl)
theorem dX13_solve_173 : decode cX13_solve 173 = .ok (.iload_n 1, 1) := dk_27 (dk_at dksX13_solve_7 8 rfl rfl)
theorem dX13_solve_174 : decode cX13_solve 174 = .ok (.if_icmp .ge 94, 3) := dk_162 0 94 (dk_at dksX13_solve_7 9 rfl rfl)
theorem dX13_solve_177 : decode cX13_solve 177 = .ok (.iload 6, 2) := dk_21 6 (dk_at dksX13_solve_7 12 rfl rfl)
theorem dX13_solve_179 : decode cX13_solve 179 = .ok (.iload_n 3, 1) := dk_29 (dk_at dksX13_solve_7 14 rfl rfl)
theorem dX13_solve_180 : decode cX13_solve 180 = .ok (.if_icmp .ne 7, 3) := dk_160 0 7 (dk_at dksX13_solve_7 15 rfl rfl)
theorem dX13_solve_183 : decode cX13_solve 183 = .ok (.iconst 0, 1) := dk_3 (dk_at dksX13_solve_7 18 rfl rfl)
theorem dX13_solve_184 : decode cX13_solve 184 = .ok (.goto 14, 3) := dk_167 0 14 (dk_at dksX13_solve_7 19 rfl rfl)
theorem dX13_solve_187 : decode cX13_solve 187 = .ok (.aload_n 0, 1) := dk_42 (dk_at dksX13_solve_7 22 rfl rfl)
theorem dX13_solve_188 : decode cX13_solve 188 = .ok (.getfield 72, 3) := dk_180 0 72 (dk_at dksX13_solve_8 0 rfl rfl)
theorem dX13_solve_191 : decode cX13_solve 191 = .ok (.iload_n 2, 1) := dk_28 (dk_at dksX13_solve_8 3 rfl rfl)
theorem dX13_solve_192 : decode cX13_solve 192 = .ok (.iload 6, 2) := dk_21 6 (dk_at dksX13_solve_8 4 rfl rfl)
theorem dX13_solve_194 : decode cX13_solve 194 = .ok (.imul, 1) := dk_104 (dk_at dksX13_solve_8 6 rfl rfl)
theorem dX13_solve_195 : decode cX13_solve 195 = .ok (.iload_n 3, 1) := dk_29 (dk_at dksX13_solve_8 7 rfl rfl)
theorem dX13_solve_196 : decode cX13_solve 196 = .ok (.iadd, 1) := dk_96 (dk_at dksX13_solve_8 8 rfl rfl)
theorem dX13_solve_197 : decode cX13_solve 197 = .ok (.iaload, 1) := dk_46 (dk_at dksX13_solve_8 9 rfl rfl)
theorem dX13_solve_198 : decode cX13_solve 198 = .ok (.istore 7, 2) := dk_54 7 (dk_at dksX13_solve_8 10 rfl rfl)
theorem dX13_solve_200 : decode cX13_solve 200 = .ok (.iload_n 3, 1) := dk_29 (dk_at dksX13_solve_8 12 rfl rfl)
theorem dX13_solve_201 : decode cX13_solve 201 = .ok (.istore 8, 2) := dk_54 8 (dk_at dksX13_solve_8 13 rfl rfl)
theorem dX13_solve_203 : decode cX13_solve 203 = .ok (.iload 8, 2) := dk_21 8 (dk_at dksX13_solve_8 15 rfl rfl)
theorem dX13_solve_205 : decode cX13_solve 205 = .ok (.iload_n 2, 1) := dk_28 (dk_at dksX13_solve_8 17 rfl rfl)
theorem dX13_solve_206 : decode cX13_solve 206 = .ok (.if_icmp .ge 56, 3) := dk_162 0 56 (dk_at dksX13_solve_8 18 rfl rfl)
theorem dX13_solve_209 : decode cX13_solve 209 = .ok (.iload 7, 2) := dk_21 7 (dk_at dksX13_solve_8 21 rfl rfl)
theorem dX13_solve_211 : decode cX13_solve 211 = .ok (.ifCond .le 51, 3) := dk_158 0 51 (dk_at dksX13_solve_9 0 rfl rfl)
theorem dX13_solve_214 : decode cX13_solve 214 = .ok (.aload_n 0, 1) := dk_42 (dk_at dksX13_solve_9 3 rfl rfl)
theorem dX13_solve_215 : decode cX13_solve 215 = .ok (.getfield 72, 3) := dk_180 0 72 (dk_at dksX13_solve_9 4 rfl rfl)
theorem dX13_solve_218 : decode cX13_solve 218 = .ok (.iload_n 2, 1) := dk_28 (dk_at dksX13_solve_9 7 rfl rfl)
theorem dX13_solve_219 : decode cX13_solve 219 = .ok (.iload 6, 2) := dk_21 6 (dk_at dksX13_solve_9 8 rfl rfl)
theorem dX13_solve_221 : decode cX13_solve 221 = .ok (.imul, 1) := dk_104 (dk_at dksX13_solve_9 10 rfl rfl)
theorem dX13_solve_222 : decode cX13_solve 222 = .ok (.iload 8, 2) := dk_21 8 (dk_at dksX13_solve_9 11 rfl rfl)
theorem dX13_solve_224 : decode cX13_solve 224 = .ok (.iadd, 1) := dk_96 (dk_at dksX13_solve_9 13 rfl rfl)
theorem dX13_solve_225 : decode cX13_solve 225 = .ok (.aload_n 0, 1) := dk_42 (dk_at dksX13_solve_9 14 rfl rfl)
theorem dX13_solve_226 : decode cX13_solve 226 = .ok (.getfield 72, 3) := dk_180 0 72 (dk_at dksX13_solve_9 15 rfl rfl)
theorem dX13_solve_229 : decode cX13_solve 229 = .ok (.iload_n 2, 1) := dk_28 (dk_at dksX13_solve_9 18 rfl rfl)
theorem dX13_solve_230 : decode cX13_solve 230 = .ok (.iload 6, 2) := dk_21 6 (dk_at dksX13_solve_9 19 rfl rfl)
theorem dX13_solve_232 : decode cX13_solve 232 = .ok (.imul, 1) := dk_104 (dk_at dksX13_solve_9 21 rfl rfl)
theorem dX13_solve_233 : decode cX13_solve 233 = .ok (.iload 8, 2) := dk_21 8 (dk_at dksX13_solve_9 22 rfl rfl)
theorem dX13_solve_235 : decode cX13_solve 235 = .ok (.iadd, 1) := dk_96 (dk_at dksX13_solve_10 0 rfl rfl)
theorem dX13_solve_236 : decode cX13_solve 236 = .ok (.iaload, 1) := dk_46 (dk_at dksX13_solve_10 1 rfl rfl)
theorem dX13_solve_237 : decode cX13_solve 237 = .ok (.aload_n 0, 1) := dk_42 (dk_at dksX13_solve_10 2 rfl rfl)
theorem dX13_solve_238 : decode cX13_solve 238 = .ok (.iload 7, 2) := dk_21 7 (dk_at dksX13_solve_10 3 rfl rfl)
theorem dX13_solve_240 : decode cX13_solve 240 = .ok (.aload_n 0, 1) := dk_42 (dk_at dksX13_solve_10 5 rfl rfl)
theorem dX13_solve_241 : decode cX13_solve 241 = .ok (.getfield 72, 3) := dk_180 0 72 (dk_at dksX13_solve_10 6 rfl rfl)
theorem dX13_solve_244 : decode cX13_solve 244 = .ok (.iload_n 2, 1) := dk_28 (dk_at dksX13_solve_10 9 rfl rfl)
theorem dX13_solve_245 : decode cX13_solve 245 = .ok (.iload_n 3, 1) := dk_29 (dk_at dksX13_solve_10 10 rfl rfl)
theorem dX13_solve_246 : decode cX13_solve 246 = .ok (.imul, 1) := dk_104 (dk_at dksX13_solve_10 11 rfl rfl)
theorem dX13_solve_247 : decode cX13_solve 247 = .ok (.iload 8, 2) := dk_21 8 (dk_at dksX13_solve_10 12 rfl rfl)
theorem dX13_solve_249 : decode cX13_solve 249 = .ok (.iadd, 1) := dk_96 (dk_at dksX13_solve_10 14 rfl rfl)
theorem dX13_solve_250 : decode cX13_solve 250 = .ok (.iaload, 1) := dk_46 (dk_at dksX13_solve_10 15 rfl rfl)
theorem dX13_solve_251 : decode cX13_solve 251 = .ok (.invokevirtual 204, 3) := dk_182 0 204 (dk_at dksX13_solve_10 16 rfl rfl)
theorem dX13_solve_254 : decode cX13_solve 254 = .ok (.ixor, 1) := dk_130 (dk_at dksX13_solve_10 19 rfl rfl)
theorem dX13_solve_255 : decode cX13_solve 255 = .ok (.iastore, 1) := dk_79 (dk_at dksX13_solve_10 20 rfl rfl)
theorem dX13_solve_256 : decode cX13_solve 256 = .ok (.iinc 8 1, 3) := dk_132 8 1 (dk_at dksX13_solve_10 21 rfl rfl)
theorem dX13_solve_259 : decode cX13_solve 259 = .ok (.goto (-56), 3) := dk_167 255 200 (dk_at dksX13_solve_11 0 rfl rfl)
theorem dX13_solve_262 : decode cX13_solve 262 = .ok (.iinc 6 1, 3) := dk_132 6 1 (dk_at dksX13_solve_11 3 rfl rfl)
theorem dX13_solve_265 : decode cX13_solve 265 = .ok (.goto (-94), 3) := dk_167 255 162 (dk_at dksX13_solve_11 6 rfl rfl)
theorem dX13_solve_268 : decode cX13_solve 268 = .ok (.iinc 3 1, 3) := dk_132 3 1 (dk_at dksX13_solve_11 9 rfl rfl)
theorem dX13_solve_271 : decode cX13_solve 271 = .ok (.goto (-265), 3) := dk_167 254 247 (dk_at dksX13_solve_11 12 rfl rfl)
theorem dX13_solve_274 : decode cX13_solve 274 = .ok (.iconst 0, 1) := dk_3 (dk_at dksX13_solve_11 15 rfl rfl)
theorem dX13_solve_275 : decode cX13_solve 275 = .ok (.istore_n 3, 1) := dk_62 (dk_at dksX13_solve_11 16 rfl rfl)
theorem dX13_solve_276 : decode cX13_solve 276 = .ok (.iload_n 3, 1) := dk_29 (dk_at dksX13_solve_11 17 rfl rfl)
theorem dX13_solve_277 : decode cX13_solve 277 = .ok (.iload_n 1, 1) := dk_27 (dk_at dksX13_solve_11 18 rfl rfl)
theorem dX13_solve_278 : decode cX13_solve 278 = .ok (.if_icmp .ge 25, 3) := dk_162 0 25 (dk_at dksX13_solve_11 19 rfl rfl)
theorem dX13_solve_281 : decode cX13_solve 281 = .ok (.aload_n 0, 1) := dk_42 (dk_at dksX13_solve_11 22 rfl rfl)
theorem dX13_solve_282 : decode cX13_solve 282 = .ok (.getfield 78, 3) := dk_180 0 78 (dk_at dksX13_solve_12 0 rfl rfl)
theorem dX13_solve_285 : decode cX13_solve 285 = .ok (.iload_n 3, 1) := dk_29 (dk_at dksX13_solve_12 3 rfl rfl)
theorem dX13_solve_286 : decode cX13_solve 286 = .ok (.aload_n 0, 1) := dk_42 (dk_at dksX13_solve_12 4 rfl rfl)
theorem dX13_solve_287 : decode cX13_solve 287 = .ok (.getfield 72, 3) := dk_180 0 72 (dk_at dksX13_solve_12 5 rfl rfl)
theorem dX13_solve_290 : decode cX13_solve 290 = .ok (.iload_n 2, 1) := dk_28 (dk_at dksX13_solve_12 8 rfl rfl)
theorem dX13_solve_291 : decode cX13_solve 291 = .ok (.iload_n 3, 1) := dk_29 (dk_at dksX13_solve_12 9 rfl rfl)
theorem dX13_solve_292 : decode cX13_solve 292 = .ok (.imul, 1) := dk_104 (dk_at dksX13_solve_12 10 rfl rfl)
theorem dX13_solve_293 : decode cX13_solve 293 = .ok (.iload_n 1, 1) := dk_27 (dk_at dksX13_solve_12 11 rfl rfl)
theorem dX13_solve_294 : decode cX13_solve 294 = .ok (.iadd, 1) := dk_96 (dk_at dksX13_solve_12 12 rfl rfl)
theorem dX13_solve_295 : decode cX13_solve 295 = .ok (.iaload, 1) := dk_46 (dk_at dksX13_solve_12 13 rfl rfl)
theorem dX13_solve_296 : decode cX13_solve 296 = .ok (.iastore, 1) := dk_79 (dk_at dksX13_solve_12 14 rfl rfl)
theorem dX13_solve_297 : decode cX13_solve 297 = .ok (.iinc 3 1, 3) := dk_132 3 1 (dk_at dksX13_solve_12 15 rfl rfl)
theorem dX13_solve_300 : decode cX13_solve 300 = .ok (.goto (-24), 3) := dk_167 255 232 (dk_at dksX13_solve_12 18 rfl rfl)
theorem dX13_solve_303 : decode cX13_solve 303 = .ok (.iconst 1, 1) := dk_4 (dk_at dksX13_solve_12 21 rfl rfl)
theorem dX13_solve_304 : decode cX13_solve 304 = .ok (.ireturn, 1) := dk_172 (dk_at dksX13_solve_12 22 rfl rfl)
abbrev cX13_quotient : ByteArray := prog_16_method_32_code
def yX13_quotient : MethodName := ⟨RX13, "quotient", "(II)I"⟩
def dkwX13_quotient_1 : List UInt8 := [180, 0, 35, 28, 46, 100, 46, 172]
abbrev dktX13_quotient_1 : List UInt8 := dkwX13_quotient_1 ++ []
def dkwX13_quotient_0 : List UInt8 := [27, 154, 0, 7, 3, 167, 0, 25, 42, 180, 0, 32, 42, 180, 0, 35, 27, 46, 17, 0, 255, 96, 42]
abbrev dktX13_quotient_0 : List UInt8 := dkwX13_quotient_0 ++ dktX13_quotient_1
theorem dksX13_quotient_0 : cX13_quotient.data.toList.drop 0 = dktX13_quotient_0 := by decide +kernel
theorem dksX13_quotient_1 : cX13_quotient.data.toList.drop 23 = dktX13_quotient_1 := dk_seg dksX13_quotient_0 23 rfl rfl
theorem dX13_quotient_0 : decode cX13_quotient 0 = .ok (.iload_n 1, 1) := dk_27 (dk_at dksX13_quotient_0 0 rfl rfl)
theorem dX13_quotient_1 : decode cX13_quotient 1 = .ok (.ifCond .ne 7, 3) := dk_154 0 7 (dk_at dksX13_quotient_0 1 rfl rfl)
theorem dX13_quotient_4 : decode cX13_quotient 4 = .ok (.iconst 0, 1) := dk_3 (dk_at dksX13_quotient_0 4 rfl rfl)
theorem dX13_quotient_5 : decode cX13_quotient 5 = .ok (.goto 25, 3) := dk_167 0 25 (dk_at dksX13_quotient_0 5 rfl rfl)
theorem dX13_quotient_8 : decode cX13_quotient 8 = .ok (.aload_n 0, 1) := dk_42 (dk_at dksX13_quotient_0 8 rfl rfl)
theorem dX13_quotient_9 : decode cX13_quotient 9 = .ok (.getfield 32, 3) := dk_180 0 32 (dk_at dksX13_quotient_0 9 rfl rfl)
theorem dX13_quotient_12 : decode cX13_quotient 12 = .ok (.aload_n 0, 1) := dk_42 (dk_at dksX13_quotient_0 12 rfl rfl)
theorem dX13_quotient_13 : decode cX13_quotient 13 = .ok (.getfield 35, 3) := dk_180 0 35 (dk_at dksX13_quotient_0 13 rfl rfl)
theorem dX13_quotient_16 : decode cX13_quotient 16 = .ok (.iload_n 1, 1) := dk_27 (dk_at dksX13_quotient_0 16 rfl rfl)
theorem dX13_quotient_17 : decode cX13_quotient 17 = .ok (.iaload, 1) := dk_46 (dk_at dksX13_quotient_0 17 rfl rfl)
theorem dX13_quotient_18 : decode cX13_quotient 18 = .ok (.sipush 255, 3) := dk_17 0 255 (dk_at dksX13_quotient_0 18 rfl rfl)
theorem dX13_quotient_21 : decode cX13_quotient 21 = .ok (.iadd, 1) := dk_96 (dk_at dksX13_quotient_0 21 rfl rfl)
theorem dX13_quotient_22 : decode cX13_quotient 22 = .ok (.aload_n 0, 1) := dk_42 (dk_at dksX13_quotient_0 22 rfl rfl)
theorem dX13_quotient_23 : decode cX13_quotient 23 = .ok (.getfield 35, 3) := dk_180 0 35 (dk_at dksX13_quotient_1 0 rfl rfl)
theorem dX13_quotient_26 : decode cX13_quotient 26 = .ok (.iload_n 2, 1) := dk_28 (dk_at dksX13_quotient_1 3 rfl rfl)
theorem dX13_quotient_27 : decode cX13_quotient 27 = .ok (.iaload, 1) := dk_46 (dk_at dksX13_quotient_1 4 rfl rfl)
theorem dX13_quotient_28 : decode cX13_quotient 28 = .ok (.isub, 1) := dk_100 (dk_at dksX13_quotient_1 5 rfl rfl)
theorem dX13_quotient_29 : decode cX13_quotient 29 = .ok (.iaload, 1) := dk_46 (dk_at dksX13_quotient_1 6 rfl rfl)
theorem dX13_quotient_30 : decode cX13_quotient 30 = .ok (.ireturn, 1) := dk_172 (dk_at dksX13_quotient_1 7 rfl rfl)
abbrev cX13_places : ByteArray := prog_16_method_38_code
def yX13_places : MethodName := ⟨RX13, "places", "(I)Z"⟩
def dkwX13_places_4 : List UInt8 := [4, 167, 0, 4, 3, 172]
abbrev dktX13_places_4 : List UInt8 := dkwX13_places_4 ++ []
def dkwX13_places_3 : List UInt8 := [162, 0, 13, 42, 180, 0, 75, 28, 29, 79, 132, 2, 1, 132, 3, 1, 167, 255, 173, 28, 27, 160, 0, 7]
abbrev dktX13_places_3 : List UInt8 := dkwX13_places_3 ++ dktX13_places_4
def dkwX13_places_2 : List UInt8 := [42, 180, 0, 78, 21, 6, 46, 130, 54, 5, 132, 6, 255, 167, 255, 230, 21, 5, 154, 0, 18, 28, 27]
abbrev dktX13_places_2 : List UInt8 := dkwX13_places_2 ++ dktX13_places_3
def dkwX13_places_1 : List UInt8 := [46, 54, 4, 4, 54, 5, 27, 4, 100, 54, 6, 21, 6, 155, 0, 27, 42, 21, 5, 21, 4, 182, 0, 204]
abbrev dktX13_places_1 : List UInt8 := dkwX13_places_1 ++ dktX13_places_2
def dkwX13_places_0 : List UInt8 := [3, 61, 3, 62, 29, 42, 180, 0, 208, 162, 0, 81, 42, 180, 0, 32, 42, 180, 0, 208, 4, 100, 29, 100]
abbrev dktX13_places_0 : List UInt8 := dkwX13_places_0 ++ dktX13_places_1
theorem dksX13_places_0 : cX13_places.data.toList.drop 0 = dktX13_places_0 := by decide +kernel
theorem dksX13_places_1 : cX13_places.data.toList.drop 24 = dktX13_places_1 := dk_seg dksX13_places_0 24 rfl rfl
theorem dksX13_places_2 : cX13_places.data.toList.drop 48 = dktX13_places_2 := dk_seg dksX13_places_1 24 rfl rfl
theorem dksX13_places_3 : cX13_places.data.toList.drop 71 = dktX13_places_3 := dk_seg dksX13_places_2 23 rfl rfl
theorem dksX13_places_4 : cX13_places.data.toList.drop 95 = dktX13_places_4 := dk_seg dksX13_places_3 24 rfl rfl
theorem dX13_places_0 : decode cX13_places 0 = .ok (.iconst 0, 1) := dk_3 (dk_at dksX13_places_0 0 rfl rfl)
theorem dX13_places_1 : decode cX13_places 1 = .ok (.istore_n 2, 1) := dk_61 (dk_at dksX13_places_0 1 rfl rfl)
theorem dX13_places_2 : decode cX13_places 2 = .ok (.iconst 0, 1) := dk_3 (dk_at dksX13_places_0 2 rfl rfl)
theorem dX13_places_3 : decode cX13_places 3 = .ok (.istore_n 3, 1) := dk_62 (dk_at dksX13_places_0 3 rfl rfl)
theorem dX13_places_4 : decode cX13_places 4 = .ok (.iload_n 3, 1) := dk_29 (dk_at dksX13_places_0 4 rfl rfl)
theorem dX13_places_5 : decode cX13_places 5 = .ok (.aload_n 0, 1) := dk_42 (dk_at dksX13_places_0 5 rfl rfl)
theorem dX13_places_6 : decode cX13_places 6 = .ok (.getfield 208, 3) := dk_180 0 208 (dk_at dksX13_places_0 6 rfl rfl)
theorem dX13_places_9 : decode cX13_places 9 = .ok (.if_icmp .ge 81, 3) := dk_162 0 81 (dk_at dksX13_places_0 9 rfl rfl)
theorem dX13_places_12 : decode cX13_places 12 = .ok (.aload_n 0, 1) := dk_42 (dk_at dksX13_places_0 12 rfl rfl)
theorem dX13_places_13 : decode cX13_places 13 = .ok (.getfield 32, 3) := dk_180 0 32 (dk_at dksX13_places_0 13 rfl rfl)
theorem dX13_places_16 : decode cX13_places 16 = .ok (.aload_n 0, 1) := dk_42 (dk_at dksX13_places_0 16 rfl rfl)
theorem dX13_places_17 : decode cX13_places 17 = .ok (.getfield 208, 3) := dk_180 0 208 (dk_at dksX13_places_0 17 rfl rfl)
theorem dX13_places_20 : decode cX13_places 20 = .ok (.iconst 1, 1) := dk_4 (dk_at dksX13_places_0 20 rfl rfl)
theorem dX13_places_21 : decode cX13_places 21 = .ok (.isub, 1) := dk_100 (dk_at dksX13_places_0 21 rfl rfl)
theorem dX13_places_22 : decode cX13_places 22 = .ok (.iload_n 3, 1) := dk_29 (dk_at dksX13_places_0 22 rfl rfl)
theorem dX13_places_23 : decode cX13_places 23 = .ok (.isub, 1) := dk_100 (dk_at dksX13_places_0 23 rfl rfl)
theorem dX13_places_24 : decode cX13_places 24 = .ok (.iaload, 1) := dk_46 (dk_at dksX13_places_1 0 rfl rfl)
theorem dX13_places_25 : decode cX13_places 25 = .ok (.istore 4, 2) := dk_54 4 (dk_at dksX13_places_1 1 rfl rfl)
theorem dX13_places_27 : decode cX13_places 27 = .ok (.iconst 1, 1) := dk_4 (dk_at dksX13_places_1 3 rfl rfl)
theorem dX13_places_28 : decode cX13_places 28 = .ok (.istore 5, 2) := dk_54 5 (dk_at dksX13_places_1 4 rfl rfl)
theorem dX13_places_30 : decode cX13_places 30 = .ok (.iload_n 1, 1) := dk_27 (dk_at dksX13_places_1 6 rfl rfl)
theorem dX13_places_31 : decode cX13_places 31 = .ok (.iconst 1, 1) := dk_4 (dk_at dksX13_places_1 7 rfl rfl)
theorem dX13_places_32 : decode cX13_places 32 = .ok (.isub, 1) := dk_100 (dk_at dksX13_places_1 8 rfl rfl)
theorem dX13_places_33 : decode cX13_places 33 = .ok (.istore 6, 2) := dk_54 6 (dk_at dksX13_places_1 9 rfl rfl)
theorem dX13_places_35 : decode cX13_places 35 = .ok (.iload 6, 2) := dk_21 6 (dk_at dksX13_places_1 11 rfl rfl)
theorem dX13_places_37 : decode cX13_places 37 = .ok (.ifCond .lt 27, 3) := dk_155 0 27 (dk_at dksX13_places_1 13 rfl rfl)
theorem dX13_places_40 : decode cX13_places 40 = .ok (.aload_n 0, 1) := dk_42 (dk_at dksX13_places_1 16 rfl rfl)
theorem dX13_places_41 : decode cX13_places 41 = .ok (.iload 5, 2) := dk_21 5 (dk_at dksX13_places_1 17 rfl rfl)
theorem dX13_places_43 : decode cX13_places 43 = .ok (.iload 4, 2) := dk_21 4 (dk_at dksX13_places_1 19 rfl rfl)
theorem dX13_places_45 : decode cX13_places 45 = .ok (.invokevirtual 204, 3) := dk_182 0 204 (dk_at dksX13_places_1 21 rfl rfl)
theorem dX13_places_48 : decode cX13_places 48 = .ok (.aload_n 0, 1) := dk_42 (dk_at dksX13_places_2 0 rfl rfl)
theorem dX13_places_49 : decode cX13_places 49 = .ok (.getfield 78, 3) := dk_180 0 78 (dk_at dksX13_places_2 1 rfl rfl)
theorem dX13_places_52 : decode cX13_places 52 = .ok (.iload 6, 2) := dk_21 6 (dk_at dksX13_places_2 4 rfl rfl)
theorem dX13_places_54 : decode cX13_places 54 = .ok (.iaload, 1) := dk_46 (dk_at dksX13_places_2 6 rfl rfl)
theorem dX13_places_55 : decode cX13_places 55 = .ok (.ixor, 1) := dk_130 (dk_at dksX13_places_2 7 rfl rfl)
theorem dX13_places_56 : decode cX13_places 56 = .ok (.istore 5, 2) := dk_54 5 (dk_at dksX13_places_2 8 rfl rfl)
theorem dX13_places_58 : decode cX13_places 58 = .ok (.iinc 6 (-1), 3) := dk_132 6 255 (dk_at dksX13_places_2 10 rfl rfl)
theorem dX13_places_61 : decode cX13_places 61 = .ok (.goto (-26), 3) := dk_167 255 230 (dk_at dksX13_places_2 13 rfl rfl)
theorem dX13_places_64 : decode cX13_places 64 = .ok (.iload 5, 2) := dk_21 5 (dk_at dksX13_places_2 16 rfl rfl)
theorem dX13_places_66 : decode cX13_places 66 = .ok (.ifCond .ne 18, 3) := dk_154 0 18 (dk_at dksX13_places_2 18 rfl rfl)
theorem dX13_places_69 : decode cX13_places 69 = .ok (.iload_n 2, 1) := dk_28 (dk_at dksX13_places_2 21 rfl rfl)
theorem dX13_places_70 : decode cX13_places 70 = .ok (.iload_n 1, 1) := dk_27 (dk_at dksX13_places_2 22 rfl rfl)
theorem dX13_places_71 : decode cX13_places 71 = .ok (.if_icmp .ge 13, 3) := dk_162 0 13 (dk_at dksX13_places_3 0 rfl rfl)
theorem dX13_places_74 : decode cX13_places 74 = .ok (.aload_n 0, 1) := dk_42 (dk_at dksX13_places_3 3 rfl rfl)
theorem dX13_places_75 : decode cX13_places 75 = .ok (.getfield 75, 3) := dk_180 0 75 (dk_at dksX13_places_3 4 rfl rfl)
theorem dX13_places_78 : decode cX13_places 78 = .ok (.iload_n 2, 1) := dk_28 (dk_at dksX13_places_3 7 rfl rfl)
theorem dX13_places_79 : decode cX13_places 79 = .ok (.iload_n 3, 1) := dk_29 (dk_at dksX13_places_3 8 rfl rfl)
theorem dX13_places_80 : decode cX13_places 80 = .ok (.iastore, 1) := dk_79 (dk_at dksX13_places_3 9 rfl rfl)
theorem dX13_places_81 : decode cX13_places 81 = .ok (.iinc 2 1, 3) := dk_132 2 1 (dk_at dksX13_places_3 10 rfl rfl)
theorem dX13_places_84 : decode cX13_places 84 = .ok (.iinc 3 1, 3) := dk_132 3 1 (dk_at dksX13_places_3 13 rfl rfl)
theorem dX13_places_87 : decode cX13_places 87 = .ok (.goto (-83), 3) := dk_167 255 173 (dk_at dksX13_places_3 16 rfl rfl)
theorem dX13_places_90 : decode cX13_places 90 = .ok (.iload_n 2, 1) := dk_28 (dk_at dksX13_places_3 19 rfl rfl)
theorem dX13_places_91 : decode cX13_places 91 = .ok (.iload_n 1, 1) := dk_27 (dk_at dksX13_places_3 20 rfl rfl)
theorem dX13_places_92 : decode cX13_places 92 = .ok (.if_icmp .ne 7, 3) := dk_160 0 7 (dk_at dksX13_places_3 21 rfl rfl)
theorem dX13_places_95 : decode cX13_places 95 = .ok (.iconst 1, 1) := dk_4 (dk_at dksX13_places_4 0 rfl rfl)
theorem dX13_places_96 : decode cX13_places 96 = .ok (.goto 4, 3) := dk_167 0 4 (dk_at dksX13_places_4 1 rfl rfl)
theorem dX13_places_99 : decode cX13_places 99 = .ok (.iconst 0, 1) := dk_3 (dk_at dksX13_places_4 4 rfl rfl)
theorem dX13_places_100 : decode cX13_places 100 = .ok (.ireturn, 1) := dk_172 (dk_at dksX13_places_4 5 rfl rfl)
abbrev cX13_values : ByteArray := prog_16_method_39_code
def yX13_values : MethodName := ⟨RX13, "values", "(II)Z"⟩
def dkwX13_values_7 : List UInt8 := [172]
abbrev dktX13_values_7 : List UInt8 := dkwX13_values_7 ++ []
def dkwX13_values_6 : List UInt8 := [46, 154, 0, 7, 3, 167, 0, 4, 4, 96, 181, 0, 225, 132, 3, 1, 167, 255, 196, 42, 28, 182, 0, 214]
abbrev dktX13_values_6 : List UInt8 := dkwX13_values_6 ++ dktX13_values_7
def dkwX13_values_5 : List UInt8 := [180, 0, 75, 29, 46, 46, 42, 180, 0, 78, 29, 46, 130, 79, 42, 89, 180, 0, 225, 42, 180, 0, 78, 29]
abbrev dktX13_values_5 : List UInt8 := dkwX13_values_5 ++ dktX13_values_6
def dkwX13_values_4 : List UInt8 := [3, 172, 3, 62, 29, 27, 162, 0, 61, 42, 180, 0, 69, 42, 180, 0, 75, 29, 46, 42, 180, 0, 69, 42]
abbrev dktX13_values_4 : List UInt8 := dkwX13_values_4 ++ dktX13_values_5
def dkwX13_values_3 : List UInt8 := [96, 42, 180, 0, 66, 4, 29, 96, 46, 79, 132, 3, 1, 167, 255, 173, 42, 27, 182, 0, 217, 154, 0, 5]
abbrev dktX13_values_3 : List UInt8 := dkwX13_values_3 ++ dktX13_values_4
def dkwX13_values_2 : List UInt8 := [100, 104, 17, 0, 255, 112, 46, 79, 132, 4, 1, 167, 255, 207, 42, 180, 0, 72, 27, 4, 96, 29, 104, 27]
abbrev dktX13_values_2 : List UInt8 := dkwX13_values_2 ++ dktX13_values_3
def dkwX13_values_1 : List UInt8 := [104, 21, 4, 96, 42, 180, 0, 32, 29, 4, 96, 42, 180, 0, 208, 4, 100, 42, 180, 0, 75, 21, 4, 46]
abbrev dktX13_values_1 : List UInt8 := dkwX13_values_1 ++ dktX13_values_2
def dkwX13_values_0 : List UInt8 := [3, 62, 29, 27, 162, 0, 84, 3, 54, 4, 21, 4, 27, 162, 0, 49, 42, 180, 0, 72, 27, 4, 96, 29]
abbrev dktX13_values_0 : List UInt8 := dkwX13_values_0 ++ dktX13_values_1
theorem dksX13_values_0 : cX13_values.data.toList.drop 0 = dktX13_values_0 := by decide +kernel
theorem dksX13_values_1 : cX13_values.data.toList.drop 24 = dktX13_values_1 := dk_seg dksX13_values_0 24 rfl rfl
theorem dksX13_values_2 : cX13_values.data.toList.drop 48 = dktX13_values_2 := dk_seg dksX13_values_1 24 rfl rfl
theorem dksX13_values_3 : cX13_values.data.toList.drop 72 = dktX13_values_3 := dk_seg dksX13_values_2 24 rfl rfl
theorem dksX13_values_4 : cX13_values.data.toList.drop 96 = dktX13_values_4 := dk_seg dksX13_values_3 24 rfl rfl
theorem dksX13_values_5 : cX13_values.data.toList.drop 120 = dktX13_values_5 := dk_seg dksX13_values_4 24 rfl rfl
theorem dksX13_values_6 : cX13_values.data.toList.drop 144 = dktX13_values_6 := dk_seg dksX13_values_5 24 rfl rfl
theorem dksX13_values_7 : cX13_values.data.toList.drop 168 = dktX13_values_7 := dk_seg dksX13_values_6 24 rfl rfl
theorem dX13_values_0 : decode cX13_values 0 = .ok (.iconst 0, 1) := dk_3 (dk_at dksX13_values_0 0 rfl rfl)
theorem dX13_values_1 : decode cX13_values 1 = .ok (.istore_n 3, 1) := dk_62 (dk_at dksX13_values_0 1 rfl rfl)
theorem dX13_values_2 : decode cX13_values 2 = .ok (.iload_n 3, 1) := dk_29 (dk_at dksX13_values_0 2 rfl rfl)
theorem dX13_values_3 : decode cX13_values 3 = .ok (.iload_n 1, 1) := dk_27 (dk_at dksX13_values_0 3 rfl rfl)
theorem dX13_values_4 : decode cX13_values 4 = .ok (.if_icmp .ge 84, 3) := dk_162 0 84 (dk_at dksX13_values_0 4 rfl rfl)
theorem dX13_values_7 : decode cX13_values 7 = .ok (.iconst 0, 1) := dk_3 (dk_at dksX13_values_0 7 rfl rfl)
theorem dX13_values_8 : decode cX13_values 8 = .ok (.istore 4, 2) := dk_54 4 (dk_at dksX13_values_0 8 rfl rfl)
theorem dX13_values_10 : decode cX13_values 10 = .ok (.iload 4, 2) := dk_21 4 (dk_at dksX13_values_0 10 rfl rfl)
theorem dX13_values_12 : decode cX13_values 12 = .ok (.iload_n 1, 1) := dk_27 (dk_at dksX13_values_0 12 rfl rfl)
theorem dX13_values_13 : decode cX13_values 13 = .ok (.if_icmp .ge 49, 3) := dk_162 0 49 (dk_at dksX13_values_0 13 rfl rfl)
theorem dX13_values_16 : decode cX13_values 16 = .ok (.aload_n 0, 1) := dk_42 (dk_at dksX13_values_0 16 rfl rfl)
theorem dX13_values_17 : decode cX13_values 17 = .ok (.getfield 72, 3) := dk_180 0 72 (dk_at dksX13_values_0 17 rfl rfl)
theorem dX13_values_20 : decode cX13_values 20 = .ok (.iload_n 1, 1) := dk_27 (dk_at dksX13_values_0 20 rfl rfl)
theorem dX13_values_21 : decode cX13_values 21 = .ok (.iconst 1, 1) := dk_4 (dk_at dksX13_values_0 21 rfl rfl)
theorem dX13_values_22 : decode cX13_values 22 = .ok (.iadd, 1) := dk_96 (dk_at dksX13_values_0 22 rfl rfl)
theorem dX13_values_23 : decode cX13_values 23 = .ok (.iload_n 3, 1) := dk_29 (dk_at dksX13_values_0 23 rfl rfl)
theorem dX13_values_24 : decode cX13_values 24 = .ok (.imul, 1) := dk_104 (dk_at dksX13_values_1 0 rfl rfl)
theorem dX13_values_25 : decode cX13_values 25 = .ok (.iload 4, 2) := dk_21 4 (dk_at dksX13_values_1 1 rfl rfl)
theorem dX13_values_27 : decode cX13_values 27 = .ok (.iadd, 1) := dk_96 (dk_at dksX13_values_1 3 rfl rfl)
theorem dX13_values_28 : decode cX13_values 28 = .ok (.aload_n 0, 1) := dk_42 (dk_at dksX13_values_1 4 rfl rfl)
theorem dX13_values_29 : decode cX13_values 29 = .ok (.getfield 32, 3) := dk_180 0 32 (dk_at dksX13_values_1 5 rfl rfl)
theorem dX13_values_32 : decode cX13_values 32 = .ok (.iload_n 3, 1) := dk_29 (dk_at dksX13_values_1 8 rfl rfl)
theorem dX13_values_33 : decode cX13_values 33 = .ok (.iconst 1, 1) := dk_4 (dk_at dksX13_values_1 9 rfl rfl)
theorem dX13_values_34 : decode cX13_values 34 = .ok (.iadd, 1) := dk_96 (dk_at dksX13_values_1 10 rfl rfl)
theorem dX13_values_35 : decode cX13_values 35 = .ok (.aload_n 0, 1) := dk_42 (dk_at dksX13_values_1 11 rfl rfl)
theorem dX13_values_36 : decode cX13_values 36 = .ok (.getfield 208, 3) := dk_180 0 208 (dk_at dksX13_values_1 12 rfl rfl)
theorem dX13_values_39 : decode cX13_values 39 = .ok (.iconst 1, 1) := dk_4 (dk_at dksX13_values_1 15 rfl rfl)
theorem dX13_values_40 : decode cX13_values 40 = .ok (.isub, 1) := dk_100 (dk_at dksX13_values_1 16 rfl rfl)
theorem dX13_values_41 : decode cX13_values 41 = .ok (.aload_n 0, 1) := dk_42 (dk_at dksX13_values_1 17 rfl rfl)
theorem dX13_values_42 : decode cX13_values 42 = .ok (.getfield 75, 3) := dk_180 0 75 (dk_at dksX13_values_1 18 rfl rfl)
theorem dX13_values_45 : decode cX13_values 45 = .ok (.iload 4, 2) := dk_21 4 (dk_at dksX13_values_1 21 rfl rfl)
theorem dX13_values_47 : decode cX13_values 47 = .ok (.iaload, 1) := dk_46 (dk_at dksX13_values_1 23 rfl rfl)
theorem dX13_values_48 : decode cX13_values 48 = .ok (.isub, 1) := dk_100 (dk_at dksX13_values_2 0 rfl rfl)
theorem dX13_values_49 : decode cX13_values 49 = .ok (.imul, 1) := dk_104 (dk_at dksX13_values_2 1 rfl rfl)
theorem dX13_values_50 : decode cX13_values 50 = .ok (.sipush 255, 3) := dk_17 0 255 (dk_at dksX13_values_2 2 rfl rfl)
theorem dX13_values_53 : decode cX13_values 53 = .ok (.irem, 1) := dk_112 (dk_at dksX13_values_2 5 rfl rfl)
theorem dX13_values_54 : decode cX13_values 54 = .ok (.iaload, 1) := dk_46 (dk_at dksX13_values_2 6 rfl rfl)
theorem dX13_values_55 : decode cX13_values 55 = .ok (.iastore, 1) := dk_79 (dk_at dksX13_values_2 7 rfl rfl)
theorem dX13_values_56 : decode cX13_values 56 = .ok (.iinc 4 1, 3) := dk_132 4 1 (dk_at dksX13_values_2 8 rfl rfl)
theorem dX13_values_59 : decode cX13_values 59 = .ok (.goto (-49), 3) := dk_167 255 207 (dk_at dksX13_values_2 11 rfl rfl)
theorem dX13_values_62 : decode cX13_values 62 = .ok (.aload_n 0, 1) := dk_42 (dk_at dksX13_values_2 14 rfl rfl)
theorem dX13_values_63 : decode cX13_values 63 = .ok (.getfield 72, 3) := dk_180 0 72 (dk_at dksX13_values_2 15 rfl rfl)
theorem dX13_values_66 : decode cX13_values 66 = .ok (.iload_n 1, 1) := dk_27 (dk_at dksX13_values_2 18 rfl rfl)
theorem dX13_values_67 : decode cX13_values 67 = .ok (.iconst 1, 1) := dk_4 (dk_at dksX13_values_2 19 rfl rfl)
theorem dX13_values_68 : decode cX13_values 68 = .ok (.iadd, 1) := dk_96 (dk_at dksX13_values_2 20 rfl rfl)
theorem dX13_values_69 : decode cX13_values 69 = .ok (.iload_n 3, 1) := dk_29 (dk_at dksX13_values_2 21 rfl rfl)
theorem dX13_values_70 : decode cX13_values 70 = .ok (.imul, 1) := dk_104 (dk_at dksX13_values_2 22 rfl rfl)
theorem dX13_values_71 : decode cX13_values 71 = .ok (.iload_n 1, 1) := dk_27 (dk_at dksX13_values_2 23 rfl rfl)
theorem dX13_values_72 : decode cX13_values 72 = .ok (.iadd, 1) := dk_96 (dk_at dksX13_values_3 0 rfl rfl)
theorem dX13_values_73 : decode cX13_values 73 = .ok (.aload_n 0, 1) := dk_42 (dk_at dksX13_values_3 1 rfl rfl)
theorem dX13_values_74 : decode cX13_values 74 = .ok (.getfield 66, 3) := dk_180 0 66 (dk_at dksX13_values_3 2 rfl rfl)
theorem dX13_values_77 : decode cX13_values 77 = .ok (.iconst 1, 1) := dk_4 (dk_at dksX13_values_3 5 rfl rfl)
theorem dX13_values_78 : decode cX13_values 78 = .ok (.iload_n 3, 1) := dk_29 (dk_at dksX13_values_3 6 rfl rfl)
theorem dX13_values_79 : decode cX13_values 79 = .ok (.iadd, 1) := dk_96 (dk_at dksX13_values_3 7 rfl rfl)
theorem dX13_values_80 : decode cX13_values 80 = .ok (.iaload, 1) := dk_46 (dk_at dksX13_values_3 8 rfl rfl)
theorem dX13_values_81 : decode cX13_values 81 = .ok (.iastore, 1) := dk_79 (dk_at dksX13_values_3 9 rfl rfl)
theorem dX13_values_82 : decode cX13_values 82 = .ok (.iinc 3 1, 3) := dk_132 3 1 (dk_at dksX13_values_3 10 rfl rfl)
theorem dX13_values_85 : decode cX13_values 85 = .ok (.goto (-83), 3) := dk_167 255 173 (dk_at dksX13_values_3 13 rfl rfl)
theorem dX13_values_88 : decode cX13_values 88 = .ok (.aload_n 0, 1) := dk_42 (dk_at dksX13_values_3 16 rfl rfl)
theorem dX13_values_89 : decode cX13_values 89 = .ok (.iload_n 1, 1) := dk_27 (dk_at dksX13_values_3 17 rfl rfl)
theorem dX13_values_90 : decode cX13_values 90 = .ok (.invokevirtual 217, 3) := dk_182 0 217 (dk_at dksX13_values_3 18 rfl rfl)
theorem dX13_values_93 : decode cX13_values 93 = .ok (.ifCond .ne 5, 3) := dk_154 0 5 (dk_at dksX13_values_3 21 rfl rfl)
theorem dX13_values_96 : decode cX13_values 96 = .ok (.iconst 0, 1) := dk_3 (dk_at dksX13_values_4 0 rfl rfl)
theorem dX13_values_97 : decode cX13_values 97 = .ok (.ireturn, 1) := dk_172 (dk_at dksX13_values_4 1 rfl rfl)
theorem dX13_values_98 : decode cX13_values 98 = .ok (.iconst 0, 1) := dk_3 (dk_at dksX13_values_4 2 rfl rfl)
theorem dX13_values_99 : decode cX13_values 99 = .ok (.istore_n 3, 1) := dk_62 (dk_at dksX13_values_4 3 rfl rfl)
theorem dX13_values_100 : decode cX13_values 100 = .ok (.iload_n 3, 1) := dk_29 (dk_at dksX13_values_4 4 rfl rfl)
theorem dX13_values_101 : decode cX13_values 101 = .ok (.iload_n 1, 1) := dk_27 (dk_at dksX13_values_4 5 rfl rfl)
theorem dX13_values_102 : decode cX13_values 102 = .ok (.if_icmp .ge 61, 3) := dk_162 0 61 (dk_at dksX13_values_4 6 rfl rfl)
theorem dX13_values_105 : decode cX13_values 105 = .ok (.aload_n 0, 1) := dk_42 (dk_at dksX13_values_4 9 rfl rfl)
theorem dX13_values_106 : decode cX13_values 106 = .ok (.getfield 69, 3) := dk_180 0 69 (dk_at dksX13_values_4 10 rfl rfl)
theorem dX13_values_109 : decode cX13_values 109 = .ok (.aload_n 0, 1) := dk_42 (dk_at dksX13_values_4 13 rfl rfl)
theorem dX13_values_110 : decode cX13_values 110 = .ok (.getfield 75, 3) := dk_180 0 75 (dk_at dksX13_values_4 14 rfl rfl)
theorem dX13_values_113 : decode cX13_values 113 = .ok (.iload_n 3, 1) := dk_29 (dk_at dksX13_values_4 17 rfl rfl)
theorem dX13_values_114 : decode cX13_values 114 = .ok (.iaload, 1) := dk_46 (dk_at dksX13_values_4 18 rfl rfl)
theorem dX13_values_115 : decode cX13_values 115 = .ok (.aload_n 0, 1) := dk_42 (dk_at dksX13_values_4 19 rfl rfl)
theorem dX13_values_116 : decode cX13_values 116 = .ok (.getfield 69, 3) := dk_180 0 69 (dk_at dksX13_values_4 20 rfl rfl)
theorem dX13_values_119 : decode cX13_values 119 = .ok (.aload_n 0, 1) := dk_42 (dk_at dksX13_values_4 23 rfl rfl)
theorem dX13_values_120 : decode cX13_values 120 = .ok (.getfield 75, 3) := dk_180 0 75 (dk_at dksX13_values_5 0 rfl rfl)
theorem dX13_values_123 : decode cX13_values 123 = .ok (.iload_n 3, 1) := dk_29 (dk_at dksX13_values_5 3 rfl rfl)
theorem dX13_values_124 : decode cX13_values 124 = .ok (.iaload, 1) := dk_46 (dk_at dksX13_values_5 4 rfl rfl)
theorem dX13_values_125 : decode cX13_values 125 = .ok (.iaload, 1) := dk_46 (dk_at dksX13_values_5 5 rfl rfl)
theorem dX13_values_126 : decode cX13_values 126 = .ok (.aload_n 0, 1) := dk_42 (dk_at dksX13_values_5 6 rfl rfl)
theorem dX13_values_127 : decode cX13_values 127 = .ok (.getfield 78, 3) := dk_180 0 78 (dk_at dksX13_values_5 7 rfl rfl)
theorem dX13_values_130 : decode cX13_values 130 = .ok (.iload_n 3, 1) := dk_29 (dk_at dksX13_values_5 10 rfl rfl)
theorem dX13_values_131 : decode cX13_values 131 = .ok (.iaload, 1) := dk_46 (dk_at dksX13_values_5 11 rfl rfl)
theorem dX13_values_132 : decode cX13_values 132 = .ok (.ixor, 1) := dk_130 (dk_at dksX13_values_5 12 rfl rfl)
theorem dX13_values_133 : decode cX13_values 133 = .ok (.iastore, 1) := dk_79 (dk_at dksX13_values_5 13 rfl rfl)
theorem dX13_values_134 : decode cX13_values 134 = .ok (.aload_n 0, 1) := dk_42 (dk_at dksX13_values_5 14 rfl rfl)
theorem dX13_values_135 : decode cX13_values 135 = .ok (.dup, 1) := dk_89 (dk_at dksX13_values_5 15 rfl rfl)
theorem dX13_values_136 : decode cX13_values 136 = .ok (.getfield 225, 3) := dk_180 0 225 (dk_at dksX13_values_5 16 rfl rfl)
theorem dX13_values_139 : decode cX13_values 139 = .ok (.aload_n 0, 1) := dk_42 (dk_at dksX13_values_5 19 rfl rfl)
theorem dX13_values_140 : decode cX13_values 140 = .ok (.getfield 78, 3) := dk_180 0 78 (dk_at dksX13_values_5 20 rfl rfl)
theorem dX13_values_143 : decode cX13_values 143 = .ok (.iload_n 3, 1) := dk_29 (dk_at dksX13_values_5 23 rfl rfl)
theorem dX13_values_144 : decode cX13_values 144 = .ok (.iaload, 1) := dk_46 (dk_at dksX13_values_6 0 rfl rfl)
theorem dX13_values_145 : decode cX13_values 145 = .ok (.ifCond .ne 7, 3) := dk_154 0 7 (dk_at dksX13_values_6 1 rfl rfl)
theorem dX13_values_148 : decode cX13_values 148 = .ok (.iconst 0, 1) := dk_3 (dk_at dksX13_values_6 4 rfl rfl)
theorem dX13_values_149 : decode cX13_values 149 = .ok (.goto 4, 3) := dk_167 0 4 (dk_at dksX13_values_6 5 rfl rfl)
theorem dX13_values_152 : decode cX13_values 152 = .ok (.iconst 1, 1) := dk_4 (dk_at dksX13_values_6 8 rfl rfl)
theorem dX13_values_153 : decode cX13_values 153 = .ok (.iadd, 1) := dk_96 (dk_at dksX13_values_6 9 rfl rfl)
theorem dX13_values_154 : decode cX13_values 154 = .ok (.putfield 225, 3) := dk_181 0 225 (dk_at dksX13_values_6 10 rfl rfl)
theorem dX13_values_157 : decode cX13_values 157 = .ok (.iinc 3 1, 3) := dk_132 3 1 (dk_at dksX13_values_6 13 rfl rfl)
theorem dX13_values_160 : decode cX13_values 160 = .ok (.goto (-60), 3) := dk_167 255 196 (dk_at dksX13_values_6 16 rfl rfl)
theorem dX13_values_163 : decode cX13_values 163 = .ok (.aload_n 0, 1) := dk_42 (dk_at dksX13_values_6 19 rfl rfl)
theorem dX13_values_164 : decode cX13_values 164 = .ok (.iload_n 2, 1) := dk_28 (dk_at dksX13_values_6 20 rfl rfl)
theorem dX13_values_165 : decode cX13_values 165 = .ok (.invokevirtual 214, 3) := dk_182 0 214 (dk_at dksX13_values_6 21 rfl rfl)
theorem dX13_values_168 : decode cX13_values 168 = .ok (.ireturn, 1) := dk_172 (dk_at dksX13_values_7 0 rfl rfl)
abbrev cX13_letter : ByteArray := prog_16_method_54_code
def yX13_letter : MethodName := ⟨RX13, "letter", "(I)I"⟩
def dkwX13_letter_1 : List UInt8 := [180, 0, 84, 27, 46, 172]
abbrev dktX13_letter_1 : List UInt8 := dkwX13_letter_1 ++ []
def dkwX13_letter_0 : List UInt8 := [42, 3, 181, 0, 1, 27, 155, 0, 11, 27, 42, 180, 1, 26, 161, 0, 7, 2, 167, 0, 9, 42]
abbrev dktX13_letter_0 : List UInt8 := dkwX13_letter_0 ++ dktX13_letter_1
theorem dksX13_letter_0 : cX13_letter.data.toList.drop 0 = dktX13_letter_0 := by decide +kernel
theorem dksX13_letter_1 : cX13_letter.data.toList.drop 22 = dktX13_letter_1 := dk_seg dksX13_letter_0 22 rfl rfl
theorem dX13_letter_0 : decode cX13_letter 0 = .ok (.aload_n 0, 1) := dk_42 (dk_at dksX13_letter_0 0 rfl rfl)
theorem dX13_letter_1 : decode cX13_letter 1 = .ok (.iconst 0, 1) := dk_3 (dk_at dksX13_letter_0 1 rfl rfl)
theorem dX13_letter_2 : decode cX13_letter 2 = .ok (.putfield 1, 3) := dk_181 0 1 (dk_at dksX13_letter_0 2 rfl rfl)
theorem dX13_letter_5 : decode cX13_letter 5 = .ok (.iload_n 1, 1) := dk_27 (dk_at dksX13_letter_0 5 rfl rfl)
theorem dX13_letter_6 : decode cX13_letter 6 = .ok (.ifCond .lt 11, 3) := dk_155 0 11 (dk_at dksX13_letter_0 6 rfl rfl)
theorem dX13_letter_9 : decode cX13_letter 9 = .ok (.iload_n 1, 1) := dk_27 (dk_at dksX13_letter_0 9 rfl rfl)
theorem dX13_letter_10 : decode cX13_letter 10 = .ok (.aload_n 0, 1) := dk_42 (dk_at dksX13_letter_0 10 rfl rfl)
theorem dX13_letter_11 : decode cX13_letter 11 = .ok (.getfield 282, 3) := dk_180 1 26 (dk_at dksX13_letter_0 11 rfl rfl)
theorem dX13_letter_14 : decode cX13_letter 14 = .ok (.if_icmp .lt 7, 3) := dk_161 0 7 (dk_at dksX13_letter_0 14 rfl rfl)
theorem dX13_letter_17 : decode cX13_letter 17 = .ok (.iconst (-1), 1) := dk_2 (dk_at dksX13_letter_0 17 rfl rfl)
theorem dX13_letter_18 : decode cX13_letter 18 = .ok (.goto 9, 3) := dk_167 0 9 (dk_at dksX13_letter_0 18 rfl rfl)
theorem dX13_letter_21 : decode cX13_letter 21 = .ok (.aload_n 0, 1) := dk_42 (dk_at dksX13_letter_0 21 rfl rfl)
theorem dX13_letter_22 : decode cX13_letter 22 = .ok (.getfield 84, 3) := dk_180 0 84 (dk_at dksX13_letter_1 0 rfl rfl)
theorem dX13_letter_25 : decode cX13_letter 25 = .ok (.iload_n 1, 1) := dk_27 (dk_at dksX13_letter_1 3 rfl rfl)
theorem dX13_letter_26 : decode cX13_letter 26 = .ok (.iaload, 1) := dk_46 (dk_at dksX13_letter_1 4 rfl rfl)
theorem dX13_letter_27 : decode cX13_letter 27 = .ok (.ireturn, 1) := dk_172 (dk_at dksX13_letter_1 5 rfl rfl)
abbrev cX13_encode : ByteArray := prog_16_method_87_code
def yX13_encode : MethodName := ⟨RX13, "encode", "(I)I"⟩
def dkwX13_encode_17 : List UInt8 := [132, 6, 1, 167, 255, 230, 29, 172]
abbrev dktX13_encode_17 : List UInt8 := dkwX13_encode_17 ++ []
def dkwX13_encode_16 : List UInt8 := [21, 6, 42, 29, 182, 0, 121, 162, 0, 22, 42, 21, 6, 42, 180, 0, 57, 21, 6, 46, 182, 0, 195]
abbrev dktX13_encode_16 : List UInt8 := dkwX13_encode_16 ++ dktX13_encode_17
def dkwX13_encode_15 : List UInt8 := [42, 29, 181, 0, 50, 42, 29, 182, 1, 174, 42, 29, 182, 0, 188, 42, 29, 182, 1, 177, 3, 54, 6]
abbrev dktX13_encode_15 : List UInt8 := dkwX13_encode_15 ++ dktX13_encode_16
def dkwX13_encode_14 : List UInt8 := [180, 1, 107, 21, 4, 162, 0, 19, 42, 42, 180, 1, 107, 4, 96, 184, 0, 250, 182, 1, 128, 167, 255, 234]
abbrev dktX13_encode_14 : List UInt8 := dkwX13_encode_14 ++ dktX13_encode_15
def dkwX13_encode_13 : List UInt8 := [42, 180, 1, 162, 182, 1, 171, 42, 180, 1, 107, 21, 4, 162, 0, 10, 42, 17, 0, 129, 182, 1, 128, 42]
abbrev dktX13_encode_13 : List UInt8 := dkwX13_encode_13 ++ dktX13_encode_14
def dkwX13_encode_12 : List UInt8 := [181, 1, 168, 42, 42, 180, 1, 64, 153, 0, 8, 21, 5, 167, 0, 7, 42, 180, 1, 61, 181, 1, 49, 42]
abbrev dktX13_encode_12 : List UInt8 := dkwX13_encode_12 ++ dktX13_encode_13
def dkwX13_encode_11 : List UInt8 := [42, 180, 1, 162, 182, 1, 103, 181, 1, 64, 42, 42, 180, 1, 64, 153, 0, 7, 4, 167, 0, 4, 3]
abbrev dktX13_encode_11 : List UInt8 := dkwX13_encode_11 ++ dktX13_encode_12
def dkwX13_encode_10 : List UInt8 := [180, 1, 61, 6, 160, 0, 7, 6, 167, 0, 9, 7, 42, 180, 1, 61, 96, 54, 5, 42, 42, 21, 5, 3]
abbrev dktX13_encode_10 : List UInt8 := dkwX13_encode_10 ++ dktX13_encode_11
def dkwX13_encode_9 : List UInt8 := [182, 1, 159, 181, 1, 162, 42, 6, 21, 4, 42, 180, 1, 162, 100, 184, 1, 165, 181, 1, 61, 42]
abbrev dktX13_encode_9 : List UInt8 := dkwX13_encode_9 ++ dktX13_encode_10
def dkwX13_encode_8 : List UInt8 := [132, 4, 1, 167, 255, 202, 29, 156, 0, 5, 2, 172, 42, 29, 182, 0, 128, 54, 4, 42, 42, 21, 4]
abbrev dktX13_encode_8 : List UInt8 := dkwX13_encode_8 ++ dktX13_encode_9
def dkwX13_encode_7 : List UInt8 := [29, 182, 0, 128, 162, 0, 19, 42, 42, 21, 4, 182, 0, 128, 182, 1, 159, 155, 0, 6, 21, 4, 62]
abbrev dktX13_encode_7 : List UInt8 := dkwX13_encode_7 ++ dktX13_encode_8
def dkwX13_encode_6 : List UInt8 := [162, 0, 53, 42, 21, 4, 27, 182, 1, 156, 153, 0, 37, 29, 155, 0, 17, 42, 21, 4, 182, 0, 128, 42]
abbrev dktX13_encode_6 : List UInt8 := dkwX13_encode_6 ++ dktX13_encode_7
def dkwX13_encode_5 : List UInt8 := [6, 159, 0, 8, 42, 29, 182, 1, 153, 132, 3, 1, 167, 255, 233, 2, 62, 3, 54, 4, 21, 4, 16, 30]
abbrev dktX13_encode_5 : List UInt8 := dkwX13_encode_5 ++ dktX13_encode_6
def dkwX13_encode_4 : List UInt8 := [167, 0, 4, 3, 61, 132, 3, 1, 167, 255, 199, 3, 62, 29, 16, 7, 162, 0, 23, 28, 153, 0, 19, 29]
abbrev dktX13_encode_4 : List UInt8 := dkwX13_encode_4 ++ dktX13_encode_5
def dkwX13_encode_3 : List UInt8 := [29, 27, 182, 1, 156, 153, 0, 20, 21, 4, 16, 254, 164, 0, 13, 21, 4, 6, 162, 0, 7, 4]
abbrev dktX13_encode_3 : List UInt8 := dkwX13_encode_3 ++ dktX13_encode_4
def dkwX13_encode_2 : List UInt8 := [162, 0, 57, 42, 29, 182, 0, 128, 42, 180, 0, 87, 17, 37, 131, 46, 100, 54, 4, 28, 154, 0, 25, 42]
abbrev dktX13_encode_2 : List UInt8 := dkwX13_encode_2 ++ dktX13_encode_3
def dkwX13_encode_1 : List UInt8 := [27, 17, 0, 129, 164, 0, 6, 16, 254, 172, 42, 6, 182, 1, 153, 3, 61, 3, 62, 29, 16, 30]
abbrev dktX13_encode_1 : List UInt8 := dkwX13_encode_1 ++ dktX13_encode_2
def dkwX13_encode_0 : List UInt8 := [42, 3, 181, 0, 1, 42, 182, 0, 198, 27, 155, 0, 21, 27, 5, 164, 0, 9, 27, 16, 100, 161, 0, 10]
abbrev dktX13_encode_0 : List UInt8 := dkwX13_encode_0 ++ dktX13_encode_1
theorem dksX13_encode_0 : cX13_encode.data.toList.drop 0 = dktX13_encode_0 := by decide +kernel
theorem dksX13_encode_1 : cX13_encode.data.toList.drop 24 = dktX13_encode_1 := dk_seg dksX13_encode_0 24 rfl rfl
theorem dksX13_encode_2 : cX13_encode.data.toList.drop 46 = dktX13_encode_2 := dk_seg dksX13_encode_1 22 rfl rfl
theorem dksX13_encode_3 : cX13_encode.data.toList.drop 70 = dktX13_encode_3 := dk_seg dksX13_encode_2 24 rfl rfl
theorem dksX13_encode_4 : cX13_encode.data.toList.drop 92 = dktX13_encode_4 := dk_seg dksX13_encode_3 22 rfl rfl
theorem dksX13_encode_5 : cX13_encode.data.toList.drop 116 = dktX13_encode_5 := dk_seg dksX13_encode_4 24 rfl rfl
theorem dksX13_encode_6 : cX13_encode.data.toList.drop 140 = dktX13_encode_6 := dk_seg dksX13_encode_5 24 rfl rfl
theorem dksX13_encode_7 : cX13_encode.data.toList.drop 164 = dktX13_encode_7 := dk_seg dksX13_encode_6 24 rfl rfl
theorem dksX13_encode_8 : cX13_encode.data.toList.drop 187 = dktX13_encode_8 := dk_seg dksX13_encode_7 23 rfl rfl
theorem dksX13_encode_9 : cX13_encode.data.toList.drop 210 = dktX13_encode_9 := dk_seg dksX13_encode_8 23 rfl rfl
theorem dksX13_encode_10 : cX13_encode.data.toList.drop 232 = dktX13_encode_10 := dk_seg dksX13_encode_9 22 rfl rfl
theorem dksX13_encode_11 : cX13_encode.data.toList.drop 256 = dktX13_encode_11 := dk_seg dksX13_encode_10 24 rfl rfl
theorem dksX13_encode_12 : cX13_encode.data.toList.drop 279 = dktX13_encode_12 := dk_seg dksX13_encode_11 23 rfl rfl
theorem dksX13_encode_13 : cX13_encode.data.toList.drop 303 = dktX13_encode_13 := dk_seg dksX13_encode_12 24 rfl rfl
theorem dksX13_encode_14 : cX13_encode.data.toList.drop 327 = dktX13_encode_14 := dk_seg dksX13_encode_13 24 rfl rfl
theorem dksX13_encode_15 : cX13_encode.data.toList.drop 351 = dktX13_encode_15 := dk_seg dksX13_encode_14 24 rfl rfl
theorem dksX13_encode_16 : cX13_encode.data.toList.drop 374 = dktX13_encode_16 := dk_seg dksX13_encode_15 23 rfl rfl
theorem dksX13_encode_17 : cX13_encode.data.toList.drop 397 = dktX13_encode_17 := dk_seg dksX13_encode_16 23 rfl rfl
theorem dX13_encode_0 : decode cX13_encode 0 = .ok (.aload_n 0, 1) := dk_42 (dk_at dksX13_encode_0 0 rfl rfl)
theorem dX13_encode_1 : decode cX13_encode 1 = .ok (.iconst 0, 1) := dk_3 (dk_at dksX13_encode_0 1 rfl rfl)
theorem dX13_encode_2 : decode cX13_encode 2 = .ok (.putfield 1, 3) := dk_181 0 1 (dk_at dksX13_encode_0 2 rfl rfl)
theorem dX13_encode_5 : decode cX13_encode 5 = .ok (.aload_n 0, 1) := dk_42 (dk_at dksX13_encode_0 5 rfl rfl)
theorem dX13_encode_6 : decode cX13_encode 6 = .ok (.invokevirtual 198, 3) := dk_182 0 198 (dk_at dksX13_encode_0 6 rfl rfl)
theorem dX13_encode_9 : decode cX13_encode 9 = .ok (.iload_n 1, 1) := dk_27 (dk_at dksX13_encode_0 9 rfl rfl)
theorem dX13_encode_10 : decode cX13_encode 10 = .ok (.ifCond .lt 21, 3) := dk_155 0 21 (dk_at dksX13_encode_0 10 rfl rfl)
theorem dX13_encode_13 : decode cX13_encode 13 = .ok (.iload_n 1, 1) := dk_27 (dk_at dksX13_encode_0 13 rfl rfl)
theorem dX13_encode_14 : decode cX13_encode 14 = .ok (.iconst 2, 1) := dk_5 (dk_at dksX13_encode_0 14 rfl rfl)
theorem dX13_encode_15 : decode cX13_encode 15 = .ok (.if_icmp .le 9, 3) := dk_164 0 9 (dk_at dksX13_encode_0 15 rfl rfl)
theorem dX13_encode_18 : decode cX13_encode 18 = .ok (.iload_n 1, 1) := dk_27 (dk_at dksX13_encode_0 18 rfl rfl)
theorem dX13_encode_19 : decode cX13_encode 19 = .ok (.bipush 100, 2) := dk_16 100 (dk_at dksX13_encode_0 19 rfl rfl)
theorem dX13_encode_21 : decode cX13_encode 21 = .ok (.if_icmp .lt 10, 3) := dk_161 0 10 (dk_at dksX13_encode_0 21 rfl rfl)
theorem dX13_encode_24 : decode cX13_encode 24 = .ok (.iload_n 1, 1) := dk_27 (dk_at dksX13_encode_1 0 rfl rfl)
theorem dX13_encode_25 : decode cX13_encode 25 = .ok (.sipush 129, 3) := dk_17 0 129 (dk_at dksX13_encode_1 1 rfl rfl)
theorem dX13_encode_28 : decode cX13_encode 28 = .ok (.if_icmp .le 6, 3) := dk_164 0 6 (dk_at dksX13_encode_1 4 rfl rfl)
theorem dX13_encode_31 : decode cX13_encode 31 = .ok (.bipush (-2), 2) := dk_16 254 (dk_at dksX13_encode_1 7 rfl rfl)
theorem dX13_encode_33 : decode cX13_encode 33 = .ok (.ireturn, 1) := dk_172 (dk_at dksX13_encode_1 9 rfl rfl)
theorem dX13_encode_34 : decode cX13_encode 34 = .ok (.aload_n 0, 1) := dk_42 (dk_at dksX13_encode_1 10 rfl rfl)
theorem dX13_encode_35 : decode cX13_encode 35 = .ok (.iconst 3, 1) := dk_6 (dk_at dksX13_encode_1 11 rfl rfl)
theorem dX13_encode_36 : decode cX13_encode 36 = .ok (.invokevirtual 409, 3) := dk_182 1 153 (dk_at dksX13_encode_1 12 rfl rfl)
theorem dX13_encode_39 : decode cX13_encode 39 = .ok (.iconst 0, 1) := dk_3 (dk_at dksX13_encode_1 15 rfl rfl)
theorem dX13_encode_40 : decode cX13_encode 40 = .ok (.istore_n 2, 1) := dk_61 (dk_at dksX13_encode_1 16 rfl rfl)
theorem dX13_encode_41 : decode cX13_encode 41 = .ok (.iconst 0, 1) := dk_3 (dk_at dksX13_encode_1 17 rfl rfl)
theorem dX13_encode_42 : decode cX13_encode 42 = .ok (.istore_n 3, 1) := dk_62 (dk_at dksX13_encode_1 18 rfl rfl)
theorem dX13_encode_43 : decode cX13_encode 43 = .ok (.iload_n 3, 1) := dk_29 (dk_at dksX13_encode_1 19 rfl rfl)
theorem dX13_encode_44 : decode cX13_encode 44 = .ok (.bipush 30, 2) := dk_16 30 (dk_at dksX13_encode_1 20 rfl rfl)
theorem dX13_encode_46 : decode cX13_encode 46 = .ok (.if_icmp .ge 57, 3) := dk_162 0 57 (dk_at dksX13_encode_2 0 rfl rfl)
theorem dX13_encode_49 : decode cX13_encode 49 = .ok (.aload_n 0, 1) := dk_42 (dk_at dksX13_encode_2 3 rfl rfl)
theorem dX13_encode_50 : decode cX13_encode 50 = .ok (.iload_n 3, 1) := dk_29 (dk_at dksX13_encode_2 4 rfl rfl)
theorem dX13_encode_51 : decode cX13_encode 51 = .ok (.invokevirtual 128, 3) := dk_182 0 128 (dk_at dksX13_encode_2 5 rfl rfl)
theorem dX13_encode_54 : decode cX13_encode 54 = .ok (.aload_n 0, 1) := dk_42 (dk_at dksX13_encode_2 8 rfl rfl)
theorem dX13_encode_55 : decode cX13_encode 55 = .ok (.getfield 87, 3) := dk_180 0 87 (dk_at dksX13_encode_2 9 rfl rfl)
theorem dX13_encode_58 : decode cX13_encode 58 = .ok (.sipush 9603, 3) := dk_17 37 131 (dk_at dksX13_encode_2 12 rfl rfl)
theorem dX13_encode_61 : decode cX13_encode 61 = .ok (.iaload, 1) := dk_46 (dk_at dksX13_encode_2 15 rfl rfl)
theorem dX13_encode_62 : decode cX13_encode 62 = .ok (.isub, 1) := dk_100 (dk_at dksX13_encode_2 16 rfl rfl)
theorem dX13_encode_63 : decode cX13_encode 63 = .ok (.istore 4, 2) := dk_54 4 (dk_at dksX13_encode_2 17 rfl rfl)
theorem dX13_encode_65 : decode cX13_encode 65 = .ok (.iload_n 2, 1) := dk_28 (dk_at dksX13_encode_2 19 rfl rfl)
theorem dX13_encode_66 : decode cX13_encode 66 = .ok (.ifCond .ne 25, 3) := dk_154 0 25 (dk_at dksX13_encode_2 20 rfl rfl)
theorem dX13_encode_69 : decode cX13_encode 69 = .ok (.aload_n 0, 1) := dk_42 (dk_at dksX13_encode_2 23 rfl rfl)
theorem dX13_encode_70 : decode cX13_encode 70 = .ok (.iload_n 3, 1) := dk_29 (dk_at dksX13_encode_3 0 rfl rfl)
theorem dX13_encode_71 : decode cX13_encode 71 = .ok (.iload_n 1, 1) := dk_27 (dk_at dksX13_encode_3 1 rfl rfl)
theorem dX13_encode_72 : decode cX13_encode 72 = .ok (.invokevirtual 412, 3) := dk_182 1 156 (dk_at dksX13_encode_3 2 rfl rfl)
theorem dX13_encode_75 : decode cX13_encode 75 = .ok (.ifCond .eq 20, 3) := dk_153 0 20 (dk_at dksX13_encode_3 5 rfl rfl)
theorem dX13_encode_78 : decode cX13_encode 78 = .ok (.iload 4, 2) := dk_21 4 (dk_at dksX13_encode_3 8 rfl rfl)
theorem dX13_encode_80 : decode cX13_encode 80 = .ok (.bipush (-2), 2) := dk_16 254 (dk_at dksX13_encode_3 10 rfl rfl)
theorem dX13_encode_82 : decode cX13_encode 82 = .ok (.if_icmp .le 13, 3) := dk_164 0 13 (dk_at dksX13_encode_3 12 rfl rfl)
theorem dX13_encode_85 : decode cX13_encode 85 = .ok (.iload 4, 2) := dk_21 4 (dk_at dksX13_encode_3 15 rfl rfl)
theorem dX13_encode_87 : decode cX13_encode 87 = .ok (.iconst 3, 1) := dk_6 (dk_at dksX13_encode_3 17 rfl rfl)
theorem dX13_encode_88 : decode cX13_encode 88 = .ok (.if_icmp .ge 7, 3) := dk_162 0 7 (dk_at dksX13_encode_3 18 rfl rfl)
theorem dX13_encode_91 : decode cX13_encode 91 = .ok (.iconst 1, 1) := dk_4 (dk_at dksX13_encode_3 21 rfl rfl)
theorem dX13_encode_92 : decode cX13_encode 92 = .ok (.goto 4, 3) := dk_167 0 4 (dk_at dksX13_encode_4 0 rfl rfl)
theorem dX13_encode_95 : decode cX13_encode 95 = .ok (.iconst 0, 1) := dk_3 (dk_at dksX13_encode_4 3 rfl rfl)
theorem dX13_encode_96 : decode cX13_encode 96 = .ok (.istore_n 2, 1) := dk_61 (dk_at dksX13_encode_4 4 rfl rfl)
theorem dX13_encode_97 : decode cX13_encode 97 = .ok (.iinc 3 1, 3) := dk_132 3 1 (dk_at dksX13_encode_4 5 rfl rfl)
theorem dX13_encode_100 : decode cX13_encode 100 = .ok (.goto (-57), 3) := dk_167 255 199 (dk_at dksX13_encode_4 8 rfl rfl)
theorem dX13_encode_103 : decode cX13_encode 103 = .ok (.iconst 0, 1) := dk_3 (dk_at dksX13_encode_4 11 rfl rfl)
theorem dX13_encode_104 : decode cX13_encode 104 = .ok (.istore_n 3, 1) := dk_62 (dk_at dksX13_encode_4 12 rfl rfl)
theorem dX13_encode_105 : decode cX13_encode 105 = .ok (.iload_n 3, 1) := dk_29 (dk_at dksX13_encode_4 13 rfl rfl)
theorem dX13_encode_106 : decode cX13_encode 106 = .ok (.bipush 7, 2) := dk_16 7 (dk_at dksX13_encode_4 14 rfl rfl)
theorem dX13_encode_108 : decode cX13_encode 108 = .ok (.if_icmp .ge 23, 3) := dk_162 0 23 (dk_at dksX13_encode_4 16 rfl rfl)
theorem dX13_encode_111 : decode cX13_encode 111 = .ok (.iload_n 2, 1) := dk_28 (dk_at dksX13_encode_4 19 rfl rfl)
theorem dX13_encode_112 : decode cX13_encode 112 = .ok (.ifCond .eq 19, 3) := dk_153 0 19 (dk_at dksX13_encode_4 20 rfl rfl)
theorem dX13_encode_115 : decode cX13_encode 115 = .ok (.iload_n 3, 1) := dk_29 (dk_at dksX13_encode_4 23 rfl rfl)
theorem dX13_encode_116 : decode cX13_encode 116 = .ok (.iconst 3, 1) := dk_6 (dk_at dksX13_encode_5 0 rfl rfl)
theorem dX13_encode_117 : decode cX13_encode 117 = .ok (.if_icmp .eq 8, 3) := dk_159 0 8 (dk_at dksX13_encode_5 1 rfl rfl)
theorem dX13_encode_120 : decode cX13_encode 120 = .ok (.aload_n 0, 1) := dk_42 (dk_at dksX13_encode_5 4 rfl rfl)
theorem dX13_encode_121 : decode cX13_encode 121 = .ok (.iload_n 3, 1) := dk_29 (dk_at dksX13_encode_5 5 rfl rfl)
theorem dX13_encode_122 : decode cX13_encode 122 = .ok (.invokevirtual 409, 3) := dk_182 1 153 (dk_at dksX13_encode_5 6 rfl rfl)
theorem dX13_encode_125 : decode cX13_encode 125 = .ok (.iinc 3 1, 3) := dk_132 3 1 (dk_at dksX13_encode_5 9 rfl rfl)
theorem dX13_encode_128 : decode cX13_encode 128 = .ok (.goto (-23), 3) := dk_167 255 233 (dk_at dksX13_encode_5 12 rfl rfl)
theorem dX13_encode_131 : decode cX13_encode 131 = .ok (.iconst (-1), 1) := dk_2 (dk_at dksX13_encode_5 15 rfl rfl)
theorem dX13_encode_132 : decode cX13_encode 132 = .ok (.istore_n 3, 1) := dk_62 (dk_at dksX13_encode_5 16 rfl rfl)
theorem dX13_encode_133 : decode cX13_encode 133 = .ok (.iconst 0, 1) := dk_3 (dk_at dksX13_encode_5 17 rfl rfl)
theorem dX13_encode_134 : decode cX13_encode 134 = .ok (.istore 4, 2) := dk_54 4 (dk_at dksX13_encode_5 18 rfl rfl)
theorem dX13_encode_136 : decode cX13_encode 136 = .ok (.iload 4, 2) := dk_21 4 (dk_at dksX13_encode_5 20 rfl rfl)
theorem dX13_encode_138 : decode cX13_encode 138 = .ok (.bipush 30, 2) := dk_16 30 (dk_at dksX13_encode_5 22 rfl rfl)
theorem dX13_encode_140 : decode cX13_encode 140 = .ok (.if_icmp .ge 53, 3) := dk_162 0 53 (dk_at dksX13_encode_6 0 rfl rfl)
theorem dX13_encode_143 : decode cX13_encode 143 = .ok (.aload_n 0, 1) := dk_42 (dk_at dksX13_encode_6 3 rfl rfl)
theorem dX13_encode_144 : decode cX13_encode 144 = .ok (.iload 4, 2) := dk_21 4 (dk_at dksX13_encode_6 4 rfl rfl)
theorem dX13_encode_146 : decode cX13_encode 146 = .ok (.iload_n 1, 1) := dk_27 (dk_at dksX13_encode_6 6 rfl rfl)
theorem dX13_encode_147 : decode cX13_encode 147 = .ok (.invokevirtual 412, 3) := dk_182 1 156 (dk_at dksX13_encode_6 7 rfl rfl)
theorem dX13_encode_150 : decode cX13_encode 150 = .ok (.ifCond .eq 37, 3) := dk_153 0 37 (dk_at dksX13_encode_6 10 rfl rfl)
theorem dX13_encode_153 : decode cX13_encode 153 = .ok (.iload_n 3, 1) := dk_29 (dk_at dksX13_encode_6 13 rfl rfl)
theorem dX13_encode_154 : decode cX13_encode 154 = .ok (.ifCond .lt 17, 3) := dk_155 0 17 (dk_at dksX13_encode_6 14 rfl rfl)
theorem dX13_encode_157 : decode cX13_encode 157 = .ok (.aload_n 0, 1) := dk_42 (dk_at dksX13_encode_6 17 rfl rfl)
theorem dX13_encode_158 : decode cX13_encode 158 = .ok (.iload 4, 2) := dk_21 4 (dk_at dksX13_encode_6 18 rfl rfl)
theorem dX13_encode_160 : decode cX13_encode 160 = .ok (.invokevirtual 128, 3) := dk_182 0 128 (dk_at dksX13_encode_6 20 rfl rfl)
theorem dX13_encode_163 : decode cX13_encode 163 = .ok (.aload_n 0, 1) := dk_42 (dk_at dksX13_encode_6 23 rfl rfl)
theorem dX13_encode_164 : decode cX13_encode 164 = .ok (.iload_n 3, 1) := dk_29 (dk_at dksX13_encode_7 0 rfl rfl)
theorem dX13_encode_165 : decode cX13_encode 165 = .ok (.invokevirtual 128, 3) := dk_182 0 128 (dk_at dksX13_encode_7 1 rfl rfl)
theorem dX13_encode_168 : decode cX13_encode 168 = .ok (.if_icmp .ge 19, 3) := dk_162 0 19 (dk_at dksX13_encode_7 4 rfl rfl)
theorem dX13_encode_171 : decode cX13_encode 171 = .ok (.aload_n 0, 1) := dk_42 (dk_at dksX13_encode_7 7 rfl rfl)
theorem dX13_encode_172 : decode cX13_encode 172 = .ok (.aload_n 0, 1) := dk_42 (dk_at dksX13_encode_7 8 rfl rfl)
theorem dX13_encode_173 : decode cX13_encode 173 = .ok (.iload 4, 2) := dk_21 4 (dk_at dksX13_encode_7 9 rfl rfl)
theorem dX13_encode_175 : decode cX13_encode 175 = .ok (.invokevirtual 128, 3) := dk_182 0 128 (dk_at dksX13_encode_7 11 rfl rfl)
theorem dX13_encode_178 : decode cX13_encode 178 = .ok (.invokevirtual 415, 3) := dk_182 1 159 (dk_at dksX13_encode_7 14 rfl rfl)
theorem dX13_encode_181 : decode cX13_encode 181 = .ok (.ifCond .lt 6, 3) := dk_155 0 6 (dk_at dksX13_encode_7 17 rfl rfl)
theorem dX13_encode_184 : decode cX13_encode 184 = .ok (.iload 4, 2) := dk_21 4 (dk_at dksX13_encode_7 20 rfl rfl)
theorem dX13_encode_186 : decode cX13_encode 186 = .ok (.istore_n 3, 1) := dk_62 (dk_at dksX13_encode_7 22 rfl rfl)
theorem dX13_encode_187 : decode cX13_encode 187 = .ok (.iinc 4 1, 3) := dk_132 4 1 (dk_at dksX13_encode_8 0 rfl rfl)
theorem dX13_encode_190 : decode cX13_encode 190 = .ok (.goto (-54), 3) := dk_167 255 202 (dk_at dksX13_encode_8 3 rfl rfl)
theorem dX13_encode_193 : decode cX13_encode 193 = .ok (.iload_n 3, 1) := dk_29 (dk_at dksX13_encode_8 6 rfl rfl)
theorem dX13_encode_194 : decode cX13_encode 194 = .ok (.ifCond .ge 5, 3) := dk_156 0 5 (dk_at dksX13_encode_8 7 rfl rfl)
theorem dX13_encode_197 : decode cX13_encode 197 = .ok (.iconst (-1), 1) := dk_2 (dk_at dksX13_encode_8 10 rfl rfl)
theorem dX13_encode_198 : decode cX13_encode 198 = .ok (.ireturn, 1) := dk_172 (dk_at dksX13_encode_8 11 rfl rfl)
theorem dX13_encode_199 : decode cX13_encode 199 = .ok (.aload_n 0, 1) := dk_42 (dk_at dksX13_encode_8 12 rfl rfl)
theorem dX13_encode_200 : decode cX13_encode 200 = .ok (.iload_n 3, 1) := dk_29 (dk_at dksX13_encode_8 13 rfl rfl)
theorem dX13_encode_201 : decode cX13_encode 201 = .ok (.invokevirtual 128, 3) := dk_182 0 128 (dk_at dksX13_encode_8 14 rfl rfl)
theorem dX13_encode_204 : decode cX13_encode 204 = .ok (.istore 4, 2) := dk_54 4 (dk_at dksX13_encode_8 17 rfl rfl)
theorem dX13_encode_206 : decode cX13_encode 206 = .ok (.aload_n 0, 1) := dk_42 (dk_at dksX13_encode_8 19 rfl rfl)
theorem dX13_encode_207 : decode cX13_encode 207 = .ok (.aload_n 0, 1) := dk_42 (dk_at dksX13_encode_8 20 rfl rfl)
theorem dX13_encode_208 : decode cX13_encode 208 = .ok (.iload 4, 2) := dk_21 4 (dk_at dksX13_encode_8 21 rfl rfl)
theorem dX13_encode_210 : decode cX13_encode 210 = .ok (.invokevirtual 415, 3) := dk_182 1 159 (dk_at dksX13_encode_9 0 rfl rfl)
theorem dX13_encode_213 : decode cX13_encode 213 = .ok (.putfield 418, 3) := dk_181 1 162 (dk_at dksX13_encode_9 3 rfl rfl)
theorem dX13_encode_216 : decode cX13_encode 216 = .ok (.aload_n 0, 1) := dk_42 (dk_at dksX13_encode_9 6 rfl rfl)
theorem dX13_encode_217 : decode cX13_encode 217 = .ok (.iconst 3, 1) := dk_6 (dk_at dksX13_encode_9 7 rfl rfl)
theorem dX13_encode_218 : decode cX13_encode 218 = .ok (.iload 4, 2) := dk_21 4 (dk_at dksX13_encode_9 8 rfl rfl)
theorem dX13_encode_220 : decode cX13_encode 220 = .ok (.aload_n 0, 1) := dk_42 (dk_at dksX13_encode_9 10 rfl rfl)
theorem dX13_encode_221 : decode cX13_encode 221 = .ok (.getfield 418, 3) := dk_180 1 162 (dk_at dksX13_encode_9 11 rfl rfl)
theorem dX13_encode_224 : decode cX13_encode 224 = .ok (.isub, 1) := dk_100 (dk_at dksX13_encode_9 14 rfl rfl)
theorem dX13_encode_225 : decode cX13_encode 225 = .ok (.invokestatic 421, 3) := dk_184 1 165 (dk_at dksX13_encode_9 15 rfl rfl)
theorem dX13_encode_228 : decode cX13_encode 228 = .ok (.putfield 317, 3) := dk_181 1 61 (dk_at dksX13_encode_9 18 rfl rfl)
theorem dX13_encode_231 : decode cX13_encode 231 = .ok (.aload_n 0, 1) := dk_42 (dk_at dksX13_encode_9 21 rfl rfl)
theorem dX13_encode_232 : decode cX13_encode 232 = .ok (.getfield 317, 3) := dk_180 1 61 (dk_at dksX13_encode_10 0 rfl rfl)
theorem dX13_encode_235 : decode cX13_encode 235 = .ok (.iconst 3, 1) := dk_6 (dk_at dksX13_encode_10 3 rfl rfl)
theorem dX13_encode_236 : decode cX13_encode 236 = .ok (.if_icmp .ne 7, 3) := dk_160 0 7 (dk_at dksX13_encode_10 4 rfl rfl)
theorem dX13_encode_239 : decode cX13_encode 239 = .ok (.iconst 3, 1) := dk_6 (dk_at dksX13_encode_10 7 rfl rfl)
theorem dX13_encode_240 : decode cX13_encode 240 = .ok (.goto 9, 3) := dk_167 0 9 (dk_at dksX13_encode_10 8 rfl rfl)
theorem dX13_encode_243 : decode cX13_encode 243 = .ok (.iconst 4, 1) := dk_7 (dk_at dksX13_encode_10 11 rfl rfl)
theorem dX13_encode_244 : decode cX13_encode 244 = .ok (.aload_n 0, 1) := dk_42 (dk_at dksX13_encode_10 12 rfl rfl)
theorem dX13_encode_245 : decode cX13_encode 245 = .ok (.getfield 317, 3) := dk_180 1 61 (dk_at dksX13_encode_10 13 rfl rfl)
theorem dX13_encode_248 : decode cX13_encode 248 = .ok (.iadd, 1) := dk_96 (dk_at dksX13_encode_10 16 rfl rfl)
theorem dX13_encode_249 : decode cX13_encode 249 = .ok (.istore 5, 2) := dk_54 5 (dk_at dksX13_encode_10 17 rfl rfl)
theorem dX13_encode_251 : decode cX13_encode 251 = .ok (.aload_n 0, 1) := dk_42 (dk_at dksX13_encode_10 19 rfl rfl)
theorem dX13_encode_252 : decode cX13_encode 252 = .ok (.aload_n 0, 1) := dk_42 (dk_at dksX13_encode_10 20 rfl rfl)
theorem dX13_encode_253 : decode cX13_encode 253 = .ok (.iload 5, 2) := dk_21 5 (dk_at dksX13_encode_10 21 rfl rfl)
theorem dX13_encode_255 : decode cX13_encode 255 = .ok (.iconst 0, 1) := dk_3 (dk_at dksX13_encode_10 23 rfl rfl)
theorem dX13_encode_256 : decode cX13_encode 256 = .ok (.aload_n 0, 1) := dk_42 (dk_at dksX13_encode_11 0 rfl rfl)
theorem dX13_encode_257 : decode cX13_encode 257 = .ok (.getfield 418, 3) := dk_180 1 162 (dk_at dksX13_encode_11 1 rfl rfl)
theorem dX13_encode_260 : decode cX13_encode 260 = .ok (.invokevirtual 359, 3) := dk_182 1 103 (dk_at dksX13_encode_11 4 rfl rfl)
theorem dX13_encode_263 : decode cX13_encode 263 = .ok (.putfield 320, 3) := dk_181 1 64 (dk_at dksX13_encode_11 7 rfl rfl)
theorem dX13_encode_266 : decode cX13_encode 266 = .ok (.aload_n 0, 1) := dk_42 (dk_at dksX13_encode_11 10 rfl rfl)
theorem dX13_encode_267 : decode cX13_encode 267 = .ok (.aload_n 0, 1) := dk_42 (dk_at dksX13_encode_11 11 rfl rfl)
theorem dX13_encode_268 : decode cX13_encode 268 = .ok (.getfield 320, 3) := dk_180 1 64 (dk_at dksX13_encode_11 12 rfl rfl)
theorem dX13_encode_271 : decode cX13_encode 271 = .ok (.ifCond .eq 7, 3) := dk_153 0 7 (dk_at dksX13_encode_11 15 rfl rfl)
theorem dX13_encode_274 : decode cX13_encode 274 = .ok (.iconst 1, 1) := dk_4 (dk_at dksX13_encode_11 18 rfl rfl)
theorem dX13_encode_275 : decode cX13_encode 275 = .ok (.goto 4, 3) := dk_167 0 4 (dk_at dksX13_encode_11 19 rfl rfl)
theorem dX13_encode_278 : decode cX13_encode 278 = .ok (.iconst 0, 1) := dk_3 (dk_at dksX13_encode_11 22 rfl rfl)
theorem dX13_encode_279 : decode cX13_encode 279 = .ok (.putfield 424, 3) := dk_181 1 168 (dk_at dksX13_encode_12 0 rfl rfl)
theorem dX13_encode_282 : decode cX13_encode 282 = .ok (.aload_n 0, 1) := dk_42 (dk_at dksX13_encode_12 3 rfl rfl)
theorem dX13_encode_283 : decode cX13_encode 283 = .ok (.aload_n 0, 1) := dk_42 (dk_at dksX13_encode_12 4 rfl rfl)
theorem dX13_encode_284 : decode cX13_encode 284 = .ok (.getfield 320, 3) := dk_180 1 64 (dk_at dksX13_encode_12 5 rfl rfl)
theorem dX13_encode_287 : decode cX13_encode 287 = .ok (.ifCond .eq 8, 3) := dk_153 0 8 (dk_at dksX13_encode_12 8 rfl rfl)
theorem dX13_encode_290 : decode cX13_encode 290 = .ok (.iload 5, 2) := dk_21 5 (dk_at dksX13_encode_12 11 rfl rfl)
theorem dX13_encode_292 : decode cX13_encode 292 = .ok (.goto 7, 3) := dk_167 0 7 (dk_at dksX13_encode_12 13 rfl rfl)
theorem dX13_encode_295 : decode cX13_encode 295 = .ok (.aload_n 0, 1) := dk_42 (dk_at dksX13_encode_12 16 rfl rfl)
theorem dX13_encode_296 : decode cX13_encode 296 = .ok (.getfield 317, 3) := dk_180 1 61 (dk_at dksX13_encode_12 17 rfl rfl)
theorem dX13_encode_299 : decode cX13_encode 299 = .ok (.putfield 305, 3) := dk_181 1 49 (dk_at dksX13_encode_12 20 rfl rfl)
theorem dX13_encode_302 : decode cX13_encode 302 = .ok (.aload_n 0, 1) := dk_42 (dk_at dksX13_encode_12 23 rfl rfl)
theorem dX13_encode_303 : decode cX13_encode 303 = .ok (.aload_n 0, 1) := dk_42 (dk_at dksX13_encode_13 0 rfl rfl)
theorem dX13_encode_304 : decode cX13_encode 304 = .ok (.getfield 418, 3) := dk_180 1 162 (dk_at dksX13_encode_13 1 rfl rfl)
theorem dX13_encode_307 : decode cX13_encode 307 = .ok (.invokevirtual 427, 3) := dk_182 1 171 (dk_at dksX13_encode_13 4 rfl rfl)
theorem dX13_encode_310 : decode cX13_encode 310 = .ok (.aload_n 0, 1) := dk_42 (dk_at dksX13_encode_13 7 rfl rfl)
theorem dX13_encode_311 : decode cX13_encode 311 = .ok (.getfield 363, 3) := dk_180 1 107 (dk_at dksX13_encode_13 8 rfl rfl)
theorem dX13_encode_314 : decode cX13_encode 314 = .ok (.iload 4, 2) := dk_21 4 (dk_at dksX13_encode_13 11 rfl rfl)
theorem dX13_encode_316 : decode cX13_encode 316 = .ok (.if_icmp .ge 10, 3) := dk_162 0 10 (dk_at dksX13_encode_13 13 rfl rfl)
theorem dX13_encode_319 : decode cX13_encode 319 = .ok (.aload_n 0, 1) := dk_42 (dk_at dksX13_encode_13 16 rfl rfl)
theorem dX13_encode_320 : decode cX13_encode 320 = .ok (.sipush 129, 3) := dk_17 0 129 (dk_at dksX13_encode_13 17 rfl rfl)
theorem dX13_encode_323 : decode cX13_encode 323 = .ok (.invokevirtual 384, 3) := dk_182 1 128 (dk_at dksX13_encode_13 20 rfl rfl)
theorem dX13_encode_326 : decode cX13_encode 326 = .ok (.aload_n 0, 1) := dk_42 (dk_at dksX13_encode_13 23 rfl rfl)
theorem dX13_encode_327 : decode cX13_encode 327 = .ok (.getfield 363, 3) := dk_180 1 107 (dk_at dksX13_encode_14 0 rfl rfl)
theorem dX13_encode_330 : decode cX13_encode 330 = .ok (.iload 4, 2) := dk_21 4 (dk_at dksX13_encode_14 3 rfl rfl)
theorem dX13_encode_332 : decode cX13_encode 332 = .ok (.if_icmp .ge 19, 3) := dk_162 0 19 (dk_at dksX13_encode_14 5 rfl rfl)
theorem dX13_encode_335 : decode cX13_encode 335 = .ok (.aload_n 0, 1) := dk_42 (dk_at dksX13_encode_14 8 rfl rfl)
theorem dX13_encode_336 : decode cX13_encode 336 = .ok (.aload_n 0, 1) := dk_42 (dk_at dksX13_encode_14 9 rfl rfl)
theorem dX13_encode_337 : decode cX13_encode 337 = .ok (.getfield 363, 3) := dk_180 1 107 (dk_at dksX13_encode_14 10 rfl rfl)
theorem dX13_encode_340 : decode cX13_encode 340 = .ok (.iconst 1, 1) := dk_4 (dk_at dksX13_encode_14 13 rfl rfl)
theorem dX13_encode_341 : decode cX13_encode 341 = .ok (.iadd, 1) := dk_96 (dk_at dksX13_encode_14 14 rfl rfl)
theorem dX13_encode_342 : decode cX13_encode 342 = .ok (.invokestatic 250, 3) := dk_184 0 250 (dk_at dksX13_encode_14 15 rfl rfl)
theorem dX13_encode_345 : decode cX13_encode 345 = .ok (.invokevirtual 384, 3) := dk_182 1 128 (dk_at dksX13_encode_14 18 rfl rfl)
theorem dX13_encode_348 : decode cX13_encode 348 = .ok (.goto (-22), 3) := dk_167 255 234 (dk_at dksX13_encode_14 21 rfl rfl)
theorem dX13_encode_351 : decode cX13_encode 351 = .ok (.aload_n 0, 1) := dk_42 (dk_at dksX13_encode_15 0 rfl rfl)
theorem dX13_encode_352 : decode cX13_encode 352 = .ok (.iload_n 3, 1) := dk_29 (dk_at dksX13_encode_15 1 rfl rfl)
theorem dX13_encode_353 : decode cX13_encode 353 = .ok (.putfield 50, 3) := dk_181 0 50 (dk_at dksX13_encode_15 2 rfl rfl)
theorem dX13_encode_356 : decode cX13_encode 356 = .ok (.aload_n 0, 1) := dk_42 (dk_at dksX13_encode_15 5 rfl rfl)
theorem dX13_encode_357 : decode cX13_encode 357 = .ok (.iload_n 3, 1) := dk_29 (dk_at dksX13_encode_15 6 rfl rfl)
theorem dX13_encode_358 : decode cX13_encode 358 = .ok (.invokevirtual 430, 3) := dk_182 1 174 (dk_at dksX13_encode_15 7 rfl rfl)
theorem dX13_encode_361 : decode cX13_encode 361 = .ok (.aload_n 0, 1) := dk_42 (dk_at dksX13_encode_15 10 rfl rfl)
theorem dX13_encode_362 : decode cX13_encode 362 = .ok (.iload_n 3, 1) := dk_29 (dk_at dksX13_encode_15 11 rfl rfl)
theorem dX13_encode_363 : decode cX13_encode 363 = .ok (.invokevirtual 188, 3) := dk_182 0 188 (dk_at dksX13_encode_15 12 rfl rfl)
theorem dX13_encode_366 : decode cX13_encode 366 = .ok (.aload_n 0, 1) := dk_42 (dk_at dksX13_encode_15 15 rfl rfl)
theorem dX13_encode_367 : decode cX13_encode 367 = .ok (.iload_n 3, 1) := dk_29 (dk_at dksX13_encode_15 16 rfl rfl)
theorem dX13_encode_368 : decode cX13_encode 368 = .ok (.invokevirtual 433, 3) := dk_182 1 177 (dk_at dksX13_encode_15 17 rfl rfl)
theorem dX13_encode_371 : decode cX13_encode 371 = .ok (.iconst 0, 1) := dk_3 (dk_at dksX13_encode_15 20 rfl rfl)
theorem dX13_encode_372 : decode cX13_encode 372 = .ok (.istore 6, 2) := dk_54 6 (dk_at dksX13_encode_15 21 rfl rfl)
theorem dX13_encode_374 : decode cX13_encode 374 = .ok (.iload 6, 2) := dk_21 6 (dk_at dksX13_encode_16 0 rfl rfl)
theorem dX13_encode_376 : decode cX13_encode 376 = .ok (.aload_n 0, 1) := dk_42 (dk_at dksX13_encode_16 2 rfl rfl)
theorem dX13_encode_377 : decode cX13_encode 377 = .ok (.iload_n 3, 1) := dk_29 (dk_at dksX13_encode_16 3 rfl rfl)
theorem dX13_encode_378 : decode cX13_encode 378 = .ok (.invokevirtual 121, 3) := dk_182 0 121 (dk_at dksX13_encode_16 4 rfl rfl)
theorem dX13_encode_381 : decode cX13_encode 381 = .ok (.if_icmp .ge 22, 3) := dk_162 0 22 (dk_at dksX13_encode_16 7 rfl rfl)
theorem dX13_encode_384 : decode cX13_encode 384 = .ok (.aload_n 0, 1) := dk_42 (dk_at dksX13_encode_16 10 rfl rfl)
theorem dX13_encode_385 : decode cX13_encode 385 = .ok (.iload 6, 2) := dk_21 6 (dk_at dksX13_encode_16 11 rfl rfl)
theorem dX13_encode_387 : decode cX13_encode 387 = .ok (.aload_n 0, 1) := dk_42 (dk_at dksX13_encode_16 13 rfl rfl)
theorem dX13_encode_388 : decode cX13_encode 388 = .ok (.getfield 57, 3) := dk_180 0 57 (dk_at dksX13_encode_16 14 rfl rfl)
theorem dX13_encode_391 : decode cX13_encode 391 = .ok (.iload 6, 2) := dk_21 6 (dk_at dksX13_encode_16 17 rfl rfl)
theorem dX13_encode_393 : decode cX13_encode 393 = .ok (.iaload, 1) := dk_46 (dk_at dksX13_encode_16 19 rfl rfl)
theorem dX13_encode_394 : decode cX13_encode 394 = .ok (.invokevirtual 195, 3) := dk_182 0 195 (dk_at dksX13_encode_16 20 rfl rfl)
theorem dX13_encode_397 : decode cX13_encode 397 = .ok (.iinc 6 1, 3) := dk_132 6 1 (dk_at dksX13_encode_17 0 rfl rfl)
theorem dX13_encode_400 : decode cX13_encode 400 = .ok (.goto (-26), 3) := dk_167 255 230 (dk_at dksX13_encode_17 3 rfl rfl)
theorem dX13_encode_403 : decode cX13_encode 403 = .ok (.iload_n 3, 1) := dk_29 (dk_at dksX13_encode_17 6 rfl rfl)
theorem dX13_encode_404 : decode cX13_encode 404 = .ok (.ireturn, 1) := dk_172 (dk_at dksX13_encode_17 7 rfl rfl)
abbrev cX13_work : ByteArray := prog_16_method_68_code
def yX13_work : MethodName := ⟨RX13, "work", "(I)V"⟩
def dkwX13_work_4 : List UInt8 := [28, 182, 1, 85, 132, 2, 255, 167, 255, 239, 177]
abbrev dktX13_work_4 : List UInt8 := dkwX13_work_4 ++ []
def dkwX13_work_3 : List UInt8 := [28, 3, 79, 132, 2, 1, 167, 255, 231, 42, 180, 0, 134, 61, 28, 155, 0, 19, 42, 28, 182, 1, 82, 42]
abbrev dktX13_work_3 : List UInt8 := dkwX13_work_3 ++ dktX13_work_4
def dkwX13_work_2 : List UInt8 := [181, 1, 64, 3, 61, 28, 16, 26, 162, 0, 25, 42, 180, 0, 93, 28, 19, 1, 41, 79, 42, 180, 0, 96]
abbrev dktX13_work_2 : List UInt8 := dkwX13_work_2 ++ dktX13_work_3
def dkwX13_work_1 : List UInt8 := [180, 1, 49, 7, 100, 181, 1, 61, 42, 42, 180, 1, 49, 5, 164, 0, 7, 4, 167, 0, 4, 3]
abbrev dktX13_work_1 : List UInt8 := dkwX13_work_1 ++ dktX13_work_2
def dkwX13_work_0 : List UInt8 := [42, 27, 181, 1, 49, 42, 42, 180, 1, 49, 7, 162, 0, 10, 42, 180, 1, 49, 167, 0, 9, 42]
abbrev dktX13_work_0 : List UInt8 := dkwX13_work_0 ++ dktX13_work_1
theorem dksX13_work_0 : cX13_work.data.toList.drop 0 = dktX13_work_0 := by decide +kernel
theorem dksX13_work_1 : cX13_work.data.toList.drop 22 = dktX13_work_1 := dk_seg dksX13_work_0 22 rfl rfl
theorem dksX13_work_2 : cX13_work.data.toList.drop 44 = dktX13_work_2 := dk_seg dksX13_work_1 22 rfl rfl
theorem dksX13_work_3 : cX13_work.data.toList.drop 68 = dktX13_work_3 := dk_seg dksX13_work_2 24 rfl rfl
theorem dksX13_work_4 : cX13_work.data.toList.drop 92 = dktX13_work_4 := dk_seg dksX13_work_3 24 rfl rfl
theorem dX13_work_0 : decode cX13_work 0 = .ok (.aload_n 0, 1) := dk_42 (dk_at dksX13_work_0 0 rfl rfl)
theorem dX13_work_1 : decode cX13_work 1 = .ok (.iload_n 1, 1) := dk_27 (dk_at dksX13_work_0 1 rfl rfl)
theorem dX13_work_2 : decode cX13_work 2 = .ok (.putfield 305, 3) := dk_181 1 49 (dk_at dksX13_work_0 2 rfl rfl)
theorem dX13_work_5 : decode cX13_work 5 = .ok (.aload_n 0, 1) := dk_42 (dk_at dksX13_work_0 5 rfl rfl)
theorem dX13_work_6 : decode cX13_work 6 = .ok (.aload_n 0, 1) := dk_42 (dk_at dksX13_work_0 6 rfl rfl)
theorem dX13_work_7 : decode cX13_work 7 = .ok (.getfield 305, 3) := dk_180 1 49 (dk_at dksX13_work_0 7 rfl rfl)
theorem dX13_work_10 : decode cX13_work 10 = .ok (.iconst 4, 1) := dk_7 (dk_at dksX13_work_0 10 rfl rfl)
theorem dX13_work_11 : decode cX13_work 11 = .ok (.if_icmp .ge 10, 3) := dk_162 0 10 (dk_at dksX13_work_0 11 rfl rfl)
theorem dX13_work_14 : decode cX13_work 14 = .ok (.aload_n 0, 1) := dk_42 (dk_at dksX13_work_0 14 rfl rfl)
theorem dX13_work_15 : decode cX13_work 15 = .ok (.getfield 305, 3) := dk_180 1 49 (dk_at dksX13_work_0 15 rfl rfl)
theorem dX13_work_18 : decode cX13_work 18 = .ok (.goto 9, 3) := dk_167 0 9 (dk_at dksX13_work_0 18 rfl rfl)
theorem dX13_work_21 : decode cX13_work 21 = .ok (.aload_n 0, 1) := dk_42 (dk_at dksX13_work_0 21 rfl rfl)
theorem dX13_work_22 : decode cX13_work 22 = .ok (.getfield 305, 3) := dk_180 1 49 (dk_at dksX13_work_1 0 rfl rfl)
theorem dX13_work_25 : decode cX13_work 25 = .ok (.iconst 4, 1) := dk_7 (dk_at dksX13_work_1 3 rfl rfl)
theorem dX13_work_26 : decode cX13_work 26 = .ok (.isub, 1) := dk_100 (dk_at dksX13_work_1 4 rfl rfl)
theorem dX13_work_27 : decode cX13_work 27 = .ok (.putfield 317, 3) := dk_181 1 61 (dk_at dksX13_work_1 5 rfl rfl)
theorem dX13_work_30 : decode cX13_work 30 = .ok (.aload_n 0, 1) := dk_42 (dk_at dksX13_work_1 8 rfl rfl)
theorem dX13_work_31 : decode cX13_work 31 = .ok (.aload_n 0, 1) := dk_42 (dk_at dksX13_work_1 9 rfl rfl)
theorem dX13_work_32 : decode cX13_work 32 = .ok (.getfield 305, 3) := dk_180 1 49 (dk_at dksX13_work_1 10 rfl rfl)
theorem dX13_work_35 : decode cX13_work 35 = .ok (.iconst 2, 1) := dk_5 (dk_at dksX13_work_1 13 rfl rfl)
theorem dX13_work_36 : decode cX13_work 36 = .ok (.if_icmp .le 7, 3) := dk_164 0 7 (dk_at dksX13_work_1 14 rfl rfl)
theorem dX13_work_39 : decode cX13_work 39 = .ok (.iconst 1, 1) := dk_4 (dk_at dksX13_work_1 17 rfl rfl)
theorem dX13_work_40 : decode cX13_work 40 = .ok (.goto 4, 3) := dk_167 0 4 (dk_at dksX13_work_1 18 rfl rfl)
theorem dX13_work_43 : decode cX13_work 43 = .ok (.iconst 0, 1) := dk_3 (dk_at dksX13_work_1 21 rfl rfl)
theorem dX13_work_44 : decode cX13_work 44 = .ok (.putfield 320, 3) := dk_181 1 64 (dk_at dksX13_work_2 0 rfl rfl)
theorem dX13_work_47 : decode cX13_work 47 = .ok (.iconst 0, 1) := dk_3 (dk_at dksX13_work_2 3 rfl rfl)
theorem dX13_work_48 : decode cX13_work 48 = .ok (.istore_n 2, 1) := dk_61 (dk_at dksX13_work_2 4 rfl rfl)
theorem dX13_work_49 : decode cX13_work 49 = .ok (.iload_n 2, 1) := dk_28 (dk_at dksX13_work_2 5 rfl rfl)
theorem dX13_work_50 : decode cX13_work 50 = .ok (.bipush 26, 2) := dk_16 26 (dk_at dksX13_work_2 6 rfl rfl)
theorem dX13_work_52 : decode cX13_work 52 = .ok (.if_icmp .ge 25, 3) := dk_162 0 25 (dk_at dksX13_work_2 8 rfl rfl)
theorem dX13_work_55 : decode cX13_work 55 = .ok (.aload_n 0, 1) := dk_42 (dk_at dksX13_work_2 11 rfl rfl)
theorem dX13_work_56 : decode cX13_work 56 = .ok (.getfield 93, 3) := dk_180 0 93 (dk_at dksX13_work_2 12 rfl rfl)
theorem dX13_work_59 : decode cX13_work 59 = .ok (.iload_n 2, 1) := dk_28 (dk_at dksX13_work_2 15 rfl rfl)
theorem dX13_work_60 : decode cX13_work 60 = .ok (.ldc_w 297, 3) := dk_19 1 41 (dk_at dksX13_work_2 16 rfl rfl)
theorem dX13_work_63 : decode cX13_work 63 = .ok (.iastore, 1) := dk_79 (dk_at dksX13_work_2 19 rfl rfl)
theorem dX13_work_64 : decode cX13_work 64 = .ok (.aload_n 0, 1) := dk_42 (dk_at dksX13_work_2 20 rfl rfl)
theorem dX13_work_65 : decode cX13_work 65 = .ok (.getfield 96, 3) := dk_180 0 96 (dk_at dksX13_work_2 21 rfl rfl)
theorem dX13_work_68 : decode cX13_work 68 = .ok (.iload_n 2, 1) := dk_28 (dk_at dksX13_work_3 0 rfl rfl)
theorem dX13_work_69 : decode cX13_work 69 = .ok (.iconst 0, 1) := dk_3 (dk_at dksX13_work_3 1 rfl rfl)
theorem dX13_work_70 : decode cX13_work 70 = .ok (.iastore, 1) := dk_79 (dk_at dksX13_work_3 2 rfl rfl)
theorem dX13_work_71 : decode cX13_work 71 = .ok (.iinc 2 1, 3) := dk_132 2 1 (dk_at dksX13_work_3 3 rfl rfl)
theorem dX13_work_74 : decode cX13_work 74 = .ok (.goto (-25), 3) := dk_167 255 231 (dk_at dksX13_work_3 6 rfl rfl)
theorem dX13_work_77 : decode cX13_work 77 = .ok (.aload_n 0, 1) := dk_42 (dk_at dksX13_work_3 9 rfl rfl)
theorem dX13_work_78 : decode cX13_work 78 = .ok (.getfield 134, 3) := dk_180 0 134 (dk_at dksX13_work_3 10 rfl rfl)
theorem dX13_work_81 : decode cX13_work 81 = .ok (.istore_n 2, 1) := dk_61 (dk_at dksX13_work_3 13 rfl rfl)
theorem dX13_work_82 : decode cX13_work 82 = .ok (.iload_n 2, 1) := dk_28 (dk_at dksX13_work_3 14 rfl rfl)
theorem dX13_work_83 : decode cX13_work 83 = .ok (.ifCond .lt 19, 3) := dk_155 0 19 (dk_at dksX13_work_3 15 rfl rfl)
theorem dX13_work_86 : decode cX13_work 86 = .ok (.aload_n 0, 1) := dk_42 (dk_at dksX13_work_3 18 rfl rfl)
theorem dX13_work_87 : decode cX13_work 87 = .ok (.iload_n 2, 1) := dk_28 (dk_at dksX13_work_3 19 rfl rfl)
theorem dX13_work_88 : decode cX13_work 88 = .ok (.invokevirtual 338, 3) := dk_182 1 82 (dk_at dksX13_work_3 20 rfl rfl)
theorem dX13_work_91 : decode cX13_work 91 = .ok (.aload_n 0, 1) := dk_42 (dk_at dksX13_work_3 23 rfl rfl)
theorem dX13_work_92 : decode cX13_work 92 = .ok (.iload_n 2, 1) := dk_28 (dk_at dksX13_work_4 0 rfl rfl)
theorem dX13_work_93 : decode cX13_work 93 = .ok (.invokevirtual 341, 3) := dk_182 1 85 (dk_at dksX13_work_4 1 rfl rfl)
theorem dX13_work_96 : decode cX13_work 96 = .ok (.iinc 2 (-1), 3) := dk_132 2 255 (dk_at dksX13_work_4 4 rfl rfl)
theorem dX13_work_99 : decode cX13_work 99 = .ok (.goto (-17), 3) := dk_167 255 239 (dk_at dksX13_work_4 7 rfl rfl)
theorem dX13_work_102 : decode cX13_work 102 = .ok (.return_, 1) := dk_177 (dk_at dksX13_work_4 10 rfl rfl)
abbrev cX13_workAscii : ByteArray := prog_16_method_69_code
def yX13_workAscii : MethodName := ⟨RX13, "workAscii", "(I)V"⟩
def dkwX13_workAscii_13 : List UInt8 := [17, 12, 129, 42, 180, 1, 49, 104, 27, 96, 42, 180, 1, 45, 79, 177]
abbrev dktX13_workAscii_13 : List UInt8 := dkwX13_workAscii_13 ++ []
def dkwX13_workAscii_12 : List UInt8 := [180, 0, 87, 17, 12, 129, 42, 180, 1, 49, 104, 27, 96, 42, 180, 1, 42, 79, 42, 180, 0, 90]
abbrev dktX13_workAscii_12 : List UInt8 := dkwX13_workAscii_12 ++ dktX13_workAscii_13
def dkwX13_workAscii_11 : List UInt8 := [154, 0, 23, 42, 180, 1, 64, 154, 0, 16, 42, 5, 42, 180, 0, 134, 96, 27, 100, 4, 182, 1, 52, 42]
abbrev dktX13_workAscii_11 : List UInt8 := dkwX13_workAscii_11 ++ dktX13_workAscii_12
def dkwX13_workAscii_10 : List UInt8 := [162, 0, 12, 42, 27, 28, 96, 29, 3, 182, 1, 70, 132, 2, 1, 167, 255, 183, 42, 180, 1, 61]
abbrev dktX13_workAscii_10 : List UInt8 := dkwX13_workAscii_10 ++ dktX13_workAscii_11
def dkwX13_workAscii_9 : List UInt8 := [180, 0, 87, 17, 12, 129, 42, 180, 1, 49, 104, 27, 96, 28, 96, 46, 96, 42, 180, 1, 42, 16, 31, 96]
abbrev dktX13_workAscii_9 : List UInt8 := dkwX13_workAscii_9 ++ dktX13_workAscii_10
def dkwX13_workAscii_8 : List UInt8 := [17, 6, 219, 163, 0, 62, 28, 28, 17, 0, 250, 162, 0, 7, 5, 167, 0, 4, 6, 96, 62, 29, 42]
abbrev dktX13_workAscii_8 : List UInt8 := dkwX13_workAscii_8 ++ dktX13_workAscii_9
def dkwX13_workAscii_7 : List UInt8 := [96, 42, 180, 0, 96, 16, 23, 46, 182, 1, 52, 4, 61, 28, 42, 180, 0, 134, 27, 100, 163, 0, 69, 28]
abbrev dktX13_workAscii_7 : List UInt8 := dkwX13_workAscii_7 ++ dktX13_workAscii_8
def dkwX13_workAscii_6 : List UInt8 := [167, 255, 179, 42, 180, 0, 38, 27, 46, 184, 1, 94, 153, 0, 23, 42, 4, 42, 180, 0, 93, 16, 23, 46]
abbrev dktX13_workAscii_6 : List UInt8 := dkwX13_workAscii_6 ++ dktX13_workAscii_7
def dkwX13_workAscii_5 : List UInt8 := [46, 96, 29, 154, 0, 7, 3, 167, 0, 10, 42, 180, 0, 96, 21, 4, 46, 182, 1, 52, 132, 2, 1]
abbrev dktX13_workAscii_5 : List UInt8 := dkwX13_workAscii_5 ++ dktX13_workAscii_6
def dkwX13_workAscii_4 : List UInt8 := [54, 4, 42, 29, 154, 0, 7, 3, 167, 0, 18, 4, 5, 29, 6, 108, 104, 96, 42, 180, 0, 93, 21, 4]
abbrev dktX13_workAscii_4 : List UInt8 := dkwX13_workAscii_4 ++ dktX13_workAscii_5
def dkwX13_workAscii_3 : List UInt8 := [42, 28, 42, 180, 0, 38, 27, 46, 182, 1, 91, 62, 16, 13, 6, 28, 7, 100, 104, 96, 29, 6, 112, 96]
abbrev dktX13_workAscii_3 : List UInt8 := dkwX13_workAscii_3 ++ dktX13_workAscii_4
def dkwX13_workAscii_2 : List UInt8 := [46, 17, 0, 128, 162, 0, 7, 4, 167, 0, 4, 5, 3, 182, 1, 70, 7, 61, 28, 16, 6, 163, 0, 77]
abbrev dktX13_workAscii_2 : List UInt8 := dkwX13_workAscii_2 ++ dktX13_workAscii_3
def dkwX13_workAscii_1 : List UInt8 := [182, 1, 55, 153, 0, 12, 42, 27, 5, 96, 4, 3, 182, 1, 70, 42, 27, 4, 96, 42, 180, 0, 38, 27]
abbrev dktX13_workAscii_1 : List UInt8 := dkwX13_workAscii_1 ++ dktX13_workAscii_2
def dkwX13_workAscii_0 : List UInt8 := [42, 182, 1, 88, 27, 42, 180, 0, 134, 160, 0, 12, 42, 3, 4, 182, 1, 52, 167, 1, 8, 42, 27]
abbrev dktX13_workAscii_0 : List UInt8 := dkwX13_workAscii_0 ++ dktX13_workAscii_1
theorem dksX13_workAscii_0 : cX13_workAscii.data.toList.drop 0 = dktX13_workAscii_0 := by decide +kernel
theorem dksX13_workAscii_1 : cX13_workAscii.data.toList.drop 23 = dktX13_workAscii_1 := dk_seg dksX13_workAscii_0 23 rfl rfl
theorem dksX13_workAscii_2 : cX13_workAscii.data.toList.drop 47 = dktX13_workAscii_2 := dk_seg dksX13_workAscii_1 24 rfl rfl
theorem dksX13_workAscii_3 : cX13_workAscii.data.toList.drop 71 = dktX13_workAscii_3 := dk_seg dksX13_workAscii_2 24 rfl rfl
theorem dksX13_workAscii_4 : cX13_workAscii.data.toList.drop 95 = dktX13_workAscii_4 := dk_seg dksX13_workAscii_3 24 rfl rfl
theorem dksX13_workAscii_5 : cX13_workAscii.data.toList.drop 119 = dktX13_workAscii_5 := dk_seg dksX13_workAscii_4 24 rfl rfl
theorem dksX13_workAscii_6 : cX13_workAscii.data.toList.drop 142 = dktX13_workAscii_6 := dk_seg dksX13_workAscii_5 23 rfl rfl
theorem dksX13_workAscii_7 : cX13_workAscii.data.toList.drop 166 = dktX13_workAscii_7 := dk_seg dksX13_workAscii_6 24 rfl rfl
theorem dksX13_workAscii_8 : cX13_workAscii.data.toList.drop 190 = dktX13_workAscii_8 := dk_seg dksX13_workAscii_7 24 rfl rfl
theorem dksX13_workAscii_9 : cX13_workAscii.data.toList.drop 213 = dktX13_workAscii_9 := dk_seg dksX13_workAscii_8 23 rfl rfl
theorem dksX13_workAscii_10 : cX13_workAscii.data.toList.drop 237 = dktX13_workAscii_10 := dk_seg dksX13_workAscii_9 24 rfl rfl
theorem dksX13_workAscii_11 : cX13_workAscii.data.toList.drop 259 = dktX13_workAscii_11 := dk_seg dksX13_workAscii_10 22 rfl rfl
theorem dksX13_workAscii_12 : cX13_workAscii.data.toList.drop 283 = dktX13_workAscii_12 := dk_seg dksX13_workAscii_11 24 rfl rfl
theorem dksX13_workAscii_13 : cX13_workAscii.data.toList.drop 305 = dktX13_workAscii_13 := dk_seg dksX13_workAscii_12 22 rfl rfl
theorem dX13_workAscii_0 : decode cX13_workAscii 0 = .ok (.aload_n 0, 1) := dk_42 (dk_at dksX13_workAscii_0 0 rfl rfl)
theorem dX13_workAscii_1 : decode cX13_workAscii 1 = .ok (.invokevirtual 344, 3) := dk_182 1 88 (dk_at dksX13_workAscii_0 1 rfl rfl)
theorem dX13_workAscii_4 : decode cX13_workAscii 4 = .ok (.iload_n 1, 1) := dk_27 (dk_at dksX13_workAscii_0 4 rfl rfl)
theorem dX13_workAscii_5 : decode cX13_workAscii 5 = .ok (.aload_n 0, 1) := dk_42 (dk_at dksX13_workAscii_0 5 rfl rfl)
theorem dX13_workAscii_6 : decode cX13_workAscii 6 = .ok (.getfield 134, 3) := dk_180 0 134 (dk_at dksX13_workAscii_0 6 rfl rfl)
theorem dX13_workAscii_9 : decode cX13_workAscii 9 = .ok (.if_icmp .ne 12, 3) := dk_160 0 12 (dk_at dksX13_workAscii_0 9 rfl rfl)
theorem dX13_workAscii_12 : decode cX13_workAscii 12 = .ok (.aload_n 0, 1) := dk_42 (dk_at dksX13_workAscii_0 12 rfl rfl)
theorem dX13_workAscii_13 : decode cX13_workAscii 13 = .ok (.iconst 0, 1) := dk_3 (dk_at dksX13_workAscii_0 13 rfl rfl)
theorem dX13_workAscii_14 : decode cX13_workAscii 14 = .ok (.iconst 1, 1) := dk_4 (dk_at dksX13_workAscii_0 14 rfl rfl)
theorem dX13_workAscii_15 : decode cX13_workAscii 15 = .ok (.invokevirtual 308, 3) := dk_182 1 52 (dk_at dksX13_workAscii_0 15 rfl rfl)
theorem dX13_workAscii_18 : decode cX13_workAscii 18 = .ok (.goto 264, 3) := dk_167 1 8 (dk_at dksX13_workAscii_0 18 rfl rfl)
theorem dX13_workAscii_21 : decode cX13_workAscii 21 = .ok (.aload_n 0, 1) := dk_42 (dk_at dksX13_workAscii_0 21 rfl rfl)
theorem dX13_workAscii_22 : decode cX13_workAscii 22 = .ok (.iload_n 1, 1) := dk_27 (dk_at dksX13_workAscii_0 22 rfl rfl)
theorem dX13_workAscii_23 : decode cX13_workAscii 23 = .ok (.invokevirtual 311, 3) := dk_182 1 55 (dk_at dksX13_workAscii_1 0 rfl rfl)
theorem dX13_workAscii_26 : decode cX13_workAscii 26 = .ok (.ifCond .eq 12, 3) := dk_153 0 12 (dk_at dksX13_workAscii_1 3 rfl rfl)
theorem dX13_workAscii_29 : decode cX13_workAscii 29 = .ok (.aload_n 0, 1) := dk_42 (dk_at dksX13_workAscii_1 6 rfl rfl)
theorem dX13_workAscii_30 : decode cX13_workAscii 30 = .ok (.iload_n 1, 1) := dk_27 (dk_at dksX13_workAscii_1 7 rfl rfl)
theorem dX13_workAscii_31 : decode cX13_workAscii 31 = .ok (.iconst 2, 1) := dk_5 (dk_at dksX13_workAscii_1 8 rfl rfl)
theorem dX13_workAscii_32 : decode cX13_workAscii 32 = .ok (.iadd, 1) := dk_96 (dk_at dksX13_workAscii_1 9 rfl rfl)
theorem dX13_workAscii_33 : decode cX13_workAscii 33 = .ok (.iconst 1, 1) := dk_4 (dk_at dksX13_workAscii_1 10 rfl rfl)
theorem dX13_workAscii_34 : decode cX13_workAscii 34 = .ok (.iconst 0, 1) := dk_3 (dk_at dksX13_workAscii_1 11 rfl rfl)
theorem dX13_workAscii_35 : decode cX13_workAscii 35 = .ok (.invokevirtual 326, 3) := dk_182 1 70 (dk_at dksX13_workAscii_1 12 rfl rfl)
theorem dX13_workAscii_38 : decode cX13_workAscii 38 = .ok (.aload_n 0, 1) := dk_42 (dk_at dksX13_workAscii_1 15 rfl rfl)
theorem dX13_workAscii_39 : decode cX13_workAscii 39 = .ok (.iload_n 1, 1) := dk_27 (dk_at dksX13_workAscii_1 16 rfl rfl)
theorem dX13_workAscii_40 : decode cX13_workAscii 40 = .ok (.iconst 1, 1) := dk_4 (dk_at dksX13_workAscii_1 17 rfl rfl)
theorem dX13_workAscii_41 : decode cX13_workAscii 41 = .ok (.iadd, 1) := dk_96 (dk_at dksX13_workAscii_1 18 rfl rfl)
theorem dX13_workAscii_42 : decode cX13_workAscii 42 = .ok (.aload_n 0, 1) := dk_42 (dk_at dksX13_workAscii_1 19 rfl rfl)
theorem dX13_workAscii_43 : decode cX13_workAscii 43 = .ok (.getfield 38, 3) := dk_180 0 38 (dk_at dksX13_workAscii_1 20 rfl rfl)
theorem dX13_workAscii_46 : decode cX13_workAscii 46 = .ok (.iload_n 1, 1) := dk_27 (dk_at dksX13_workAscii_1 23 rfl rfl)
theorem dX13_workAscii_47 : decode cX13_workAscii 47 = .ok (.iaload, 1) := dk_46 (dk_at dksX13_workAscii_2 0 rfl rfl)
theorem dX13_workAscii_48 : decode cX13_workAscii 48 = .ok (.sipush 128, 3) := dk_17 0 128 (dk_at dksX13_workAscii_2 1 rfl rfl)
theorem dX13_workAscii_51 : decode cX13_workAscii 51 = .ok (.if_icmp .ge 7, 3) := dk_162 0 7 (dk_at dksX13_workAscii_2 4 rfl rfl)
theorem dX13_workAscii_54 : decode cX13_workAscii 54 = .ok (.iconst 1, 1) := dk_4 (dk_at dksX13_workAscii_2 7 rfl rfl)
theorem dX13_workAscii_55 : decode cX13_workAscii 55 = .ok (.goto 4, 3) := dk_167 0 4 (dk_at dksX13_workAscii_2 8 rfl rfl)
theorem dX13_workAscii_58 : decode cX13_workAscii 58 = .ok (.iconst 2, 1) := dk_5 (dk_at dksX13_workAscii_2 11 rfl rfl)
theorem dX13_workAscii_59 : decode cX13_workAscii 59 = .ok (.iconst 0, 1) := dk_3 (dk_at dksX13_workAscii_2 12 rfl rfl)
theorem dX13_workAscii_60 : decode cX13_workAscii 60 = .ok (.invokevirtual 326, 3) := dk_182 1 70 (dk_at dksX13_workAscii_2 13 rfl rfl)
theorem dX13_workAscii_63 : decode cX13_workAscii 63 = .ok (.iconst 4, 1) := dk_7 (dk_at dksX13_workAscii_2 16 rfl rfl)
theorem dX13_workAscii_64 : decode cX13_workAscii 64 = .ok (.istore_n 2, 1) := dk_61 (dk_at dksX13_workAscii_2 17 rfl rfl)
theorem dX13_workAscii_65 : decode cX13_workAscii 65 = .ok (.iload_n 2, 1) := dk_28 (dk_at dksX13_workAscii_2 18 rfl rfl)
theorem dX13_workAscii_66 : decode cX13_workAscii 66 = .ok (.bipush 6, 2) := dk_16 6 (dk_at dksX13_workAscii_2 19 rfl rfl)
theorem dX13_workAscii_68 : decode cX13_workAscii 68 = .ok (.if_icmp .gt 77, 3) := dk_163 0 77 (dk_at dksX13_workAscii_2 21 rfl rfl)
theorem dX13_workAscii_71 : decode cX13_workAscii 71 = .ok (.aload_n 0, 1) := dk_42 (dk_at dksX13_workAscii_3 0 rfl rfl)
theorem dX13_workAscii_72 : decode cX13_workAscii 72 = .ok (.iload_n 2, 1) := dk_28 (dk_at dksX13_workAscii_3 1 rfl rfl)
theorem dX13_workAscii_73 : decode cX13_workAscii 73 = .ok (.aload_n 0, 1) := dk_42 (dk_at dksX13_workAscii_3 2 rfl rfl)
theorem dX13_workAscii_74 : decode cX13_workAscii 74 = .ok (.getfield 38, 3) := dk_180 0 38 (dk_at dksX13_workAscii_3 3 rfl rfl)
theorem dX13_workAscii_77 : decode cX13_workAscii 77 = .ok (.iload_n 1, 1) := dk_27 (dk_at dksX13_workAscii_3 6 rfl rfl)
theorem dX13_workAscii_78 : decode cX13_workAscii 78 = .ok (.iaload, 1) := dk_46 (dk_at dksX13_workAscii_3 7 rfl rfl)
theorem dX13_workAscii_79 : decode cX13_workAscii 79 = .ok (.invokevirtual 347, 3) := dk_182 1 91 (dk_at dksX13_workAscii_3 8 rfl rfl)
theorem dX13_workAscii_82 : decode cX13_workAscii 82 = .ok (.istore_n 3, 1) := dk_62 (dk_at dksX13_workAscii_3 11 rfl rfl)
theorem dX13_workAscii_83 : decode cX13_workAscii 83 = .ok (.bipush 13, 2) := dk_16 13 (dk_at dksX13_workAscii_3 12 rfl rfl)
theorem dX13_workAscii_85 : decode cX13_workAscii 85 = .ok (.iconst 3, 1) := dk_6 (dk_at dksX13_workAscii_3 14 rfl rfl)
theorem dX13_workAscii_86 : decode cX13_workAscii 86 = .ok (.iload_n 2, 1) := dk_28 (dk_at dksX13_workAscii_3 15 rfl rfl)
theorem dX13_workAscii_87 : decode cX13_workAscii 87 = .ok (.iconst 4, 1) := dk_7 (dk_at dksX13_workAscii_3 16 rfl rfl)
theorem dX13_workAscii_88 : decode cX13_workAscii 88 = .ok (.isub, 1) := dk_100 (dk_at dksX13_workAscii_3 17 rfl rfl)
theorem dX13_workAscii_89 : decode cX13_workAscii 89 = .ok (.imul, 1) := dk_104 (dk_at dksX13_workAscii_3 18 rfl rfl)
theorem dX13_workAscii_90 : decode cX13_workAscii 90 = .ok (.iadd, 1) := dk_96 (dk_at dksX13_workAscii_3 19 rfl rfl)
theorem dX13_workAscii_91 : decode cX13_workAscii 91 = .ok (.iload_n 3, 1) := dk_29 (dk_at dksX13_workAscii_3 20 rfl rfl)
theorem dX13_workAscii_92 : decode cX13_workAscii 92 = .ok (.iconst 3, 1) := dk_6 (dk_at dksX13_workAscii_3 21 rfl rfl)
theorem dX13_workAscii_93 : decode cX13_workAscii 93 = .ok (.irem, 1) := dk_112 (dk_at dksX13_workAscii_3 22 rfl rfl)
theorem dX13_workAscii_94 : decode cX13_workAscii 94 = .ok (.iadd, 1) := dk_96 (dk_at dksX13_workAscii_3 23 rfl rfl)
theorem dX13_workAscii_95 : decode cX13_workAscii 95 = .ok (.istore 4, 2) := dk_54 4 (dk_at dksX13_workAscii_4 0 rfl rfl)
theorem dX13_workAscii_97 : decode cX13_workAscii 97 = .ok (.aload_n 0, 1) := dk_42 (dk_at dksX13_workAscii_4 2 rfl rfl)
theorem dX13_workAscii_98 : decode cX13_workAscii 98 = .ok (.iload_n 3, 1) := dk_29 (dk_at dksX13_workAscii_4 3 rfl rfl)
theorem dX13_workAscii_99 : decode cX13_workAscii 99 = .ok (.ifCond .ne 7, 3) := dk_154 0 7 (dk_at dksX13_workAscii_4 4 rfl rfl)
theorem dX13_workAscii_102 : decode cX13_workAscii 102 = .ok (.iconst 0, 1) := dk_3 (dk_at dksX13_workAscii_4 7 rfl rfl)
theorem dX13_workAscii_103 : decode cX13_workAscii 103 = .ok (.goto 18, 3) := dk_167 0 18 (dk_at dksX13_workAscii_4 8 rfl rfl)
theorem dX13_workAscii_106 : decode cX13_workAscii 106 = .ok (.iconst 1, 1) := dk_4 (dk_at dksX13_workAscii_4 11 rfl rfl)
theorem dX13_workAscii_107 : decode cX13_workAscii 107 = .ok (.iconst 2, 1) := dk_5 (dk_at dksX13_workAscii_4 12 rfl rfl)
theorem dX13_workAscii_108 : decode cX13_workAscii 108 = .ok (.iload_n 3, 1) := dk_29 (dk_at dksX13_workAscii_4 13 rfl rfl)
theorem dX13_workAscii_109 : decode cX13_workAscii 109 = .ok (.iconst 3, 1) := dk_6 (dk_at dksX13_workAscii_4 14 rfl rfl)
theorem dX13_workAscii_110 : decode cX13_workAscii 110 = .ok (.idiv, 1) := dk_108 (dk_at dksX13_workAscii_4 15 rfl rfl)
theorem dX13_workAscii_111 : decode cX13_workAscii 111 = .ok (.imul, 1) := dk_104 (dk_at dksX13_workAscii_4 16 rfl rfl)
theorem dX13_workAscii_112 : decode cX13_workAscii 112 = .ok (.iadd, 1) := dk_96 (dk_at dksX13_workAscii_4 17 rfl rfl)
theorem dX13_workAscii_113 : decode cX13_workAscii 113 = .ok (.aload_n 0, 1) := dk_42 (dk_at dksX13_workAscii_4 18 rfl rfl)
theorem dX13_workAscii_114 : decode cX13_workAscii 114 = .ok (.getfield 93, 3) := dk_180 0 93 (dk_at dksX13_workAscii_4 19 rfl rfl)
theorem dX13_workAscii_117 : decode cX13_workAscii 117 = .ok (.iload 4, 2) := dk_21 4 (dk_at dksX13_workAscii_4 22 rfl rfl)
theorem dX13_workAscii_119 : decode cX13_workAscii 119 = .ok (.iaload, 1) := dk_46 (dk_at dksX13_workAscii_5 0 rfl rfl)
theorem dX13_workAscii_120 : decode cX13_workAscii 120 = .ok (.iadd, 1) := dk_96 (dk_at dksX13_workAscii_5 1 rfl rfl)
theorem dX13_workAscii_121 : decode cX13_workAscii 121 = .ok (.iload_n 3, 1) := dk_29 (dk_at dksX13_workAscii_5 2 rfl rfl)
theorem dX13_workAscii_122 : decode cX13_workAscii 122 = .ok (.ifCond .ne 7, 3) := dk_154 0 7 (dk_at dksX13_workAscii_5 3 rfl rfl)
theorem dX13_workAscii_125 : decode cX13_workAscii 125 = .ok (.iconst 0, 1) := dk_3 (dk_at dksX13_workAscii_5 6 rfl rfl)
theorem dX13_workAscii_126 : decode cX13_workAscii 126 = .ok (.goto 10, 3) := dk_167 0 10 (dk_at dksX13_workAscii_5 7 rfl rfl)
theorem dX13_workAscii_129 : decode cX13_workAscii 129 = .ok (.aload_n 0, 1) := dk_42 (dk_at dksX13_workAscii_5 10 rfl rfl)
theorem dX13_workAscii_130 : decode cX13_workAscii 130 = .ok (.getfield 96, 3) := dk_180 0 96 (dk_at dksX13_workAscii_5 11 rfl rfl)
theorem dX13_workAscii_133 : decode cX13_workAscii 133 = .ok (.iload 4, 2) := dk_21 4 (dk_at dksX13_workAscii_5 14 rfl rfl)
theorem dX13_workAscii_135 : decode cX13_workAscii 135 = .ok (.iaload, 1) := dk_46 (dk_at dksX13_workAscii_5 16 rfl rfl)
theorem dX13_workAscii_136 : decode cX13_workAscii 136 = .ok (.invokevirtual 308, 3) := dk_182 1 52 (dk_at dksX13_workAscii_5 17 rfl rfl)
theorem dX13_workAscii_139 : decode cX13_workAscii 139 = .ok (.iinc 2 1, 3) := dk_132 2 1 (dk_at dksX13_workAscii_5 20 rfl rfl)
theorem dX13_workAscii_142 : decode cX13_workAscii 142 = .ok (.goto (-77), 3) := dk_167 255 179 (dk_at dksX13_workAscii_6 0 rfl rfl)
theorem dX13_workAscii_145 : decode cX13_workAscii 145 = .ok (.aload_n 0, 1) := dk_42 (dk_at dksX13_workAscii_6 3 rfl rfl)
theorem dX13_workAscii_146 : decode cX13_workAscii 146 = .ok (.getfield 38, 3) := dk_180 0 38 (dk_at dksX13_workAscii_6 4 rfl rfl)
theorem dX13_workAscii_149 : decode cX13_workAscii 149 = .ok (.iload_n 1, 1) := dk_27 (dk_at dksX13_workAscii_6 7 rfl rfl)
theorem dX13_workAscii_150 : decode cX13_workAscii 150 = .ok (.iaload, 1) := dk_46 (dk_at dksX13_workAscii_6 8 rfl rfl)
theorem dX13_workAscii_151 : decode cX13_workAscii 151 = .ok (.invokestatic 350, 3) := dk_184 1 94 (dk_at dksX13_workAscii_6 9 rfl rfl)
theorem dX13_workAscii_154 : decode cX13_workAscii 154 = .ok (.ifCond .eq 23, 3) := dk_153 0 23 (dk_at dksX13_workAscii_6 12 rfl rfl)
theorem dX13_workAscii_157 : decode cX13_workAscii 157 = .ok (.aload_n 0, 1) := dk_42 (dk_at dksX13_workAscii_6 15 rfl rfl)
theorem dX13_workAscii_158 : decode cX13_workAscii 158 = .ok (.iconst 1, 1) := dk_4 (dk_at dksX13_workAscii_6 16 rfl rfl)
theorem dX13_workAscii_159 : decode cX13_workAscii 159 = .ok (.aload_n 0, 1) := dk_42 (dk_at dksX13_workAscii_6 17 rfl rfl)
theorem dX13_workAscii_160 : decode cX13_workAscii 160 = .ok (.getfield 93, 3) := dk_180 0 93 (dk_at dksX13_workAscii_6 18 rfl rfl)
theorem dX13_workAscii_163 : decode cX13_workAscii 163 = .ok (.bipush 23, 2) := dk_16 23 (dk_at dksX13_workAscii_6 21 rfl rfl)
theorem dX13_workAscii_165 : decode cX13_workAscii 165 = .ok (.iaload, 1) := dk_46 (dk_at dksX13_workAscii_6 23 rfl rfl)
theorem dX13_workAscii_166 : decode cX13_workAscii 166 = .ok (.iadd, 1) := dk_96 (dk_at dksX13_workAscii_7 0 rfl rfl)
theorem dX13_workAscii_167 : decode cX13_workAscii 167 = .ok (.aload_n 0, 1) := dk_42 (dk_at dksX13_workAscii_7 1 rfl rfl)
theorem dX13_workAscii_168 : decode cX13_workAscii 168 = .ok (.getfield 96, 3) := dk_180 0 96 (dk_at dksX13_workAscii_7 2 rfl rfl)
theorem dX13_workAscii_171 : decode cX13_workAscii 171 = .ok (.bipush 23, 2) := dk_16 23 (dk_at dksX13_workAscii_7 5 rfl rfl)
theorem dX13_workAscii_173 : decode cX13_workAscii 173 = .ok (.iaload, 1) := dk_46 (dk_at dksX13_workAscii_7 7 rfl rfl)
theorem dX13_workAscii_174 : decode cX13_workAscii 174 = .ok (.invokevirtual 308, 3) := dk_182 1 52 (dk_at dksX13_workAscii_7 8 rfl rfl)
theorem dX13_workAscii_177 : decode cX13_workAscii 177 = .ok (.iconst 1, 1) := dk_4 (dk_at dksX13_workAscii_7 11 rfl rfl)
theorem dX13_workAscii_178 : decode cX13_workAscii 178 = .ok (.istore_n 2, 1) := dk_61 (dk_at dksX13_workAscii_7 12 rfl rfl)
theorem dX13_workAscii_179 : decode cX13_workAscii 179 = .ok (.iload_n 2, 1) := dk_28 (dk_at dksX13_workAscii_7 13 rfl rfl)
theorem dX13_workAscii_180 : decode cX13_workAscii 180 = .ok (.aload_n 0, 1) := dk_42 (dk_at dksX13_workAscii_7 14 rfl rfl)
theorem dX13_workAscii_181 : decode cX13_workAscii 181 = .ok (.getfield 134, 3) := dk_180 0 134 (dk_at dksX13_workAscii_7 15 rfl rfl)
theorem dX13_workAscii_184 : decode cX13_workAscii 184 = .ok (.iload_n 1, 1) := dk_27 (dk_at dksX13_workAscii_7 18 rfl rfl)
theorem dX13_workAscii_185 : decode cX13_workAscii 185 = .ok (.isub, 1) := dk_100 (dk_at dksX13_workAscii_7 19 rfl rfl)
theorem dX13_workAscii_186 : decode cX13_workAscii 186 = .ok (.if_icmp .gt 69, 3) := dk_163 0 69 (dk_at dksX13_workAscii_7 20 rfl rfl)
theorem dX13_workAscii_189 : decode cX13_workAscii 189 = .ok (.iload_n 2, 1) := dk_28 (dk_at dksX13_workAscii_7 23 rfl rfl)
theorem dX13_workAscii_190 : decode cX13_workAscii 190 = .ok (.sipush 1755, 3) := dk_17 6 219 (dk_at dksX13_workAscii_8 0 rfl rfl)
theorem dX13_workAscii_193 : decode cX13_workAscii 193 = .ok (.if_icmp .gt 62, 3) := dk_163 0 62 (dk_at dksX13_workAscii_8 3 rfl rfl)
theorem dX13_workAscii_196 : decode cX13_workAscii 196 = .ok (.iload_n 2, 1) := dk_28 (dk_at dksX13_workAscii_8 6 rfl rfl)
theorem dX13_workAscii_197 : decode cX13_workAscii 197 = .ok (.iload_n 2, 1) := dk_28 (dk_at dksX13_workAscii_8 7 rfl rfl)
theorem dX13_workAscii_198 : decode cX13_workAscii 198 = .ok (.sipush 250, 3) := dk_17 0 250 (dk_at dksX13_workAscii_8 8 rfl rfl)
theorem dX13_workAscii_201 : decode cX13_workAscii 201 = .ok (.if_icmp .ge 7, 3) := dk_162 0 7 (dk_at dksX13_workAscii_8 11 rfl rfl)
theorem dX13_workAscii_204 : decode cX13_workAscii 204 = .ok (.iconst 2, 1) := dk_5 (dk_at dksX13_workAscii_8 14 rfl rfl)
theorem dX13_workAscii_205 : decode cX13_workAscii 205 = .ok (.goto 4, 3) := dk_167 0 4 (dk_at dksX13_workAscii_8 15 rfl rfl)
theorem dX13_workAscii_208 : decode cX13_workAscii 208 = .ok (.iconst 3, 1) := dk_6 (dk_at dksX13_workAscii_8 18 rfl rfl)
theorem dX13_workAscii_209 : decode cX13_workAscii 209 = .ok (.iadd, 1) := dk_96 (dk_at dksX13_workAscii_8 19 rfl rfl)
theorem dX13_workAscii_210 : decode cX13_workAscii 210 = .ok (.istore_n 3, 1) := dk_62 (dk_at dksX13_workAscii_8 20 rfl rfl)
theorem dX13_workAscii_211 : decode cX13_workAscii 211 = .ok (.iload_n 3, 1) := dk_29 (dk_at dksX13_workAscii_8 21 rfl rfl)
theorem dX13_workAscii_212 : decode cX13_workAscii 212 = .ok (.aload_n 0, 1) := dk_42 (dk_at dksX13_workAscii_8 22 rfl rfl)
theorem dX13_workAscii_213 : decode cX13_workAscii 213 = .ok (.getfield 87, 3) := dk_180 0 87 (dk_at dksX13_workAscii_9 0 rfl rfl)
theorem dX13_workAscii_216 : decode cX13_workAscii 216 = .ok (.sipush 3201, 3) := dk_17 12 129 (dk_at dksX13_workAscii_9 3 rfl rfl)
theorem dX13_workAscii_219 : decode cX13_workAscii 219 = .ok (.aload_n 0, 1) := dk_42 (dk_at dksX13_workAscii_9 6 rfl rfl)
theorem dX13_workAscii_220 : decode cX13_workAscii 220 = .ok (.getfield 305, 3) := dk_180 1 49 (dk_at dksX13_workAscii_9 7 rfl rfl)
theorem dX13_workAscii_223 : decode cX13_workAscii 223 = .ok (.imul, 1) := dk_104 (dk_at dksX13_workAscii_9 10 rfl rfl)
theorem dX13_workAscii_224 : decode cX13_workAscii 224 = .ok (.iload_n 1, 1) := dk_27 (dk_at dksX13_workAscii_9 11 rfl rfl)
theorem dX13_workAscii_225 : decode cX13_workAscii 225 = .ok (.iadd, 1) := dk_96 (dk_at dksX13_workAscii_9 12 rfl rfl)
theorem dX13_workAscii_226 : decode cX13_workAscii 226 = .ok (.iload_n 2, 1) := dk_28 (dk_at dksX13_workAscii_9 13 rfl rfl)
theorem dX13_workAscii_227 : decode cX13_workAscii 227 = .ok (.iadd, 1) := dk_96 (dk_at dksX13_workAscii_9 14 rfl rfl)
theorem dX13_workAscii_228 : decode cX13_workAscii 228 = .ok (.iaload, 1) := dk_46 (dk_at dksX13_workAscii_9 15 rfl rfl)
theorem dX13_workAscii_229 : decode cX13_workAscii 229 = .ok (.iadd, 1) := dk_96 (dk_at dksX13_workAscii_9 16 rfl rfl)
theorem dX13_workAscii_230 : decode cX13_workAscii 230 = .ok (.aload_n 0, 1) := dk_42 (dk_at dksX13_workAscii_9 17 rfl rfl)
theorem dX13_workAscii_231 : decode cX13_workAscii 231 = .ok (.getfield 298, 3) := dk_180 1 42 (dk_at dksX13_workAscii_9 18 rfl rfl)
theorem dX13_workAscii_234 : decode cX13_workAscii 234 = .ok (.bipush 31, 2) := dk_16 31 (dk_at dksX13_workAscii_9 21 rfl rfl)
theorem dX13_workAscii_236 : decode cX13_workAscii 236 = .ok (.iadd, 1) := dk_96 (dk_at dksX13_workAscii_9 23 rfl rfl)
theorem dX13_workAscii_237 : decode cX13_workAscii 237 = .ok (.if_icmp .ge 12, 3) := dk_162 0 12 (dk_at dksX13_workAscii_10 0 rfl rfl)
theorem dX13_workAscii_240 : decode cX13_workAscii 240 = .ok (.aload_n 0, 1) := dk_42 (dk_at dksX13_workAscii_10 3 rfl rfl)
theorem dX13_workAscii_241 : decode cX13_workAscii 241 = .ok (.iload_n 1, 1) := dk_27 (dk_at dksX13_workAscii_10 4 rfl rfl)
theorem dX13_workAscii_242 : decode cX13_workAscii 242 = .ok (.iload_n 2, 1) := dk_28 (dk_at dksX13_workAscii_10 5 rfl rfl)
theorem dX13_workAscii_243 : decode cX13_workAscii 243 = .ok (.iadd, 1) := dk_96 (dk_at dksX13_workAscii_10 6 rfl rfl)
theorem dX13_workAscii_244 : decode cX13_workAscii 244 = .ok (.iload_n 3, 1) := dk_29 (dk_at dksX13_workAscii_10 7 rfl rfl)
theorem dX13_workAscii_245 : decode cX13_workAscii 245 = .ok (.iconst 0, 1) := dk_3 (dk_at dksX13_workAscii_10 8 rfl rfl)
theorem dX13_workAscii_246 : decode cX13_workAscii 246 = .ok (.invokevirtual 326, 3) := dk_182 1 70 (dk_at dksX13_workAscii_10 9 rfl rfl)
theorem dX13_workAscii_249 : decode cX13_workAscii 249 = .ok (.iinc 2 1, 3) := dk_132 2 1 (dk_at dksX13_workAscii_10 12 rfl rfl)
theorem dX13_workAscii_252 : decode cX13_workAscii 252 = .ok (.goto (-73), 3) := dk_167 255 183 (dk_at dksX13_workAscii_10 15 rfl rfl)
theorem dX13_workAscii_255 : decode cX13_workAscii 255 = .ok (.aload_n 0, 1) := dk_42 (dk_at dksX13_workAscii_10 18 rfl rfl)
theorem dX13_workAscii_256 : decode cX13_workAscii 256 = .ok (.getfield 317, 3) := dk_180 1 61 (dk_at dksX13_workAscii_10 19 rfl rfl)
theorem dX13_workAscii_259 : decode cX13_workAscii 259 = .ok (.ifCond .ne 23, 3) := dk_154 0 23 (dk_at dksX13_workAscii_11 0 rfl rfl)
theorem dX13_workAscii_262 : decode cX13_workAscii 262 = .ok (.aload_n 0, 1) := dk_42 (dk_at dksX13_workAscii_11 3 rfl rfl)
theorem dX13_workAscii_263 : decode cX13_workAscii 263 = .ok (.getfield 320, 3) := dk_180 1 64 (dk_at dksX13_workAscii_11 4 rfl rfl)
theorem dX13_workAscii_266 : decode cX13_workAscii 266 = .ok (.ifCond .ne 16, 3) := dk_154 0 16 (dk_at dksX13_workAscii_11 7 rfl rfl)
theorem dX13_workAscii_269 : decode cX13_workAscii 269 = .ok (.aload_n 0, 1) := dk_42 (dk_at dksX13_workAscii_11 10 rfl rfl)
theorem dX13_workAscii_270 : decode cX13_workAscii 270 = .ok (.iconst 2, 1) := dk_5 (dk_at dksX13_workAscii_11 11 rfl rfl)
theorem dX13_workAscii_271 : decode cX13_workAscii 271 = .ok (.aload_n 0, 1) := dk_42 (dk_at dksX13_workAscii_11 12 rfl rfl)
theorem dX13_workAscii_272 : decode cX13_workAscii 272 = .ok (.getfield 134, 3) := dk_180 0 134 (dk_at dksX13_workAscii_11 13 rfl rfl)
theorem dX13_workAscii_275 : decode cX13_workAscii 275 = .ok (.iadd, 1) := dk_96 (dk_at dksX13_workAscii_11 16 rfl rfl)
theorem dX13_workAscii_276 : decode cX13_workAscii 276 = .ok (.iload_n 1, 1) := dk_27 (dk_at dksX13_workAscii_11 17 rfl rfl)
theorem dX13_workAscii_277 : decode cX13_workAscii 277 = .ok (.isub, 1) := dk_100 (dk_at dksX13_workAscii_11 18 rfl rfl)
theorem dX13_workAscii_278 : decode cX13_workAscii 278 = .ok (.iconst 1, 1) := dk_4 (dk_at dksX13_workAscii_11 19 rfl rfl)
theorem dX13_workAscii_279 : decode cX13_workAscii 279 = .ok (.invokevirtual 308, 3) := dk_182 1 52 (dk_at dksX13_workAscii_11 20 rfl rfl)
theorem dX13_workAscii_282 : decode cX13_workAscii 282 = .ok (.aload_n 0, 1) := dk_42 (dk_at dksX13_workAscii_11 23 rfl rfl)
theorem dX13_workAscii_283 : decode cX13_workAscii 283 = .ok (.getfield 87, 3) := dk_180 0 87 (dk_at dksX13_workAscii_12 0 rfl rfl)
theorem dX13_workAscii_286 : decode cX13_workAscii 286 = .ok (.sipush 3201, 3) := dk_17 12 129 (dk_at dksX13_workAscii_12 3 rfl rfl)
theorem dX13_workAscii_289 : decode cX13_workAscii 289 = .ok (.aload_n 0, 1) := dk_42 (dk_at dksX13_workAscii_12 6 rfl rfl)
theorem dX13_workAscii_290 : decode cX13_workAscii 290 = .ok (.getfield 305, 3) := dk_180 1 49 (dk_at dksX13_workAscii_12 7 rfl rfl)
theorem dX13_workAscii_293 : decode cX13_workAscii 293 = .ok (.imul, 1) := dk_104 (dk_at dksX13_workAscii_12 10 rfl rfl)
theorem dX13_workAscii_294 : decode cX13_workAscii 294 = .ok (.iload_n 1, 1) := dk_27 (dk_at dksX13_workAscii_12 11 rfl rfl)
theorem dX13_workAscii_295 : decode cX13_workAscii 295 = .ok (.iadd, 1) := dk_96 (dk_at dksX13_workAscii_12 12 rfl rfl)
theorem dX13_workAscii_296 : decode cX13_workAscii 296 = .ok (.aload_n 0, 1) := dk_42 (dk_at dksX13_workAscii_12 13 rfl rfl)
theorem dX13_workAscii_297 : decode cX13_workAscii 297 = .ok (.getfield 298, 3) := dk_180 1 42 (dk_at dksX13_workAscii_12 14 rfl rfl)
theorem dX13_workAscii_300 : decode cX13_workAscii 300 = .ok (.iastore, 1) := dk_79 (dk_at dksX13_workAscii_12 17 rfl rfl)
theorem dX13_workAscii_301 : decode cX13_workAscii 301 = .ok (.aload_n 0, 1) := dk_42 (dk_at dksX13_workAscii_12 18 rfl rfl)
theorem dX13_workAscii_302 : decode cX13_workAscii 302 = .ok (.getfield 90, 3) := dk_180 0 90 (dk_at dksX13_workAscii_12 19 rfl rfl)
theorem dX13_workAscii_305 : decode cX13_workAscii 305 = .ok (.sipush 3201, 3) := dk_17 12 129 (dk_at dksX13_workAscii_13 0 rfl rfl)
theorem dX13_workAscii_308 : decode cX13_workAscii 308 = .ok (.aload_n 0, 1) := dk_42 (dk_at dksX13_workAscii_13 3 rfl rfl)
theorem dX13_workAscii_309 : decode cX13_workAscii 309 = .ok (.getfield 305, 3) := dk_180 1 49 (dk_at dksX13_workAscii_13 4 rfl rfl)
theorem dX13_workAscii_312 : decode cX13_workAscii 312 = .ok (.imul, 1) := dk_104 (dk_at dksX13_workAscii_13 7 rfl rfl)
theorem dX13_workAscii_313 : decode cX13_workAscii 313 = .ok (.iload_n 1, 1) := dk_27 (dk_at dksX13_workAscii_13 8 rfl rfl)
theorem dX13_workAscii_314 : decode cX13_workAscii 314 = .ok (.iadd, 1) := dk_96 (dk_at dksX13_workAscii_13 9 rfl rfl)
theorem dX13_workAscii_315 : decode cX13_workAscii 315 = .ok (.aload_n 0, 1) := dk_42 (dk_at dksX13_workAscii_13 10 rfl rfl)
theorem dX13_workAscii_316 : decode cX13_workAscii 316 = .ok (.getfield 301, 3) := dk_180 1 45 (dk_at dksX13_workAscii_13 11 rfl rfl)
theorem dX13_workAscii_319 : decode cX13_workAscii 319 = .ok (.iastore, 1) := dk_79 (dk_at dksX13_workAscii_13 14 rfl rfl)
theorem dX13_workAscii_320 : decode cX13_workAscii 320 = .ok (.return_, 1) := dk_177 (dk_at dksX13_workAscii_13 15 rfl rfl)
abbrev cX13_none : ByteArray := prog_16_method_55_code
def yX13_none : MethodName := ⟨RX13, "none", "()V"⟩
def dkwX13_none_0 : List UInt8 := [42, 19, 1, 41, 181, 1, 42, 42, 3, 181, 1, 45, 177]
abbrev dktX13_none_0 : List UInt8 := dkwX13_none_0 ++ []
theorem dksX13_none_0 : cX13_none.data.toList.drop 0 = dktX13_none_0 := by decide +kernel
theorem dX13_none_0 : decode cX13_none 0 = .ok (.aload_n 0, 1) := dk_42 (dk_at dksX13_none_0 0 rfl rfl)
theorem dX13_none_1 : decode cX13_none 1 = .ok (.ldc_w 297, 3) := dk_19 1 41 (dk_at dksX13_none_0 1 rfl rfl)
theorem dX13_none_4 : decode cX13_none 4 = .ok (.putfield 298, 3) := dk_181 1 42 (dk_at dksX13_none_0 4 rfl rfl)
theorem dX13_none_7 : decode cX13_none 7 = .ok (.aload_n 0, 1) := dk_42 (dk_at dksX13_none_0 7 rfl rfl)
theorem dX13_none_8 : decode cX13_none 8 = .ok (.iconst 0, 1) := dk_3 (dk_at dksX13_none_0 8 rfl rfl)
theorem dX13_none_9 : decode cX13_none 9 = .ok (.putfield 301, 3) := dk_181 1 45 (dk_at dksX13_none_0 9 rfl rfl)
theorem dX13_none_12 : decode cX13_none 12 = .ok (.return_, 1) := dk_177 (dk_at dksX13_none_0 12 rfl rfl)
abbrev cX13_offer : ByteArray := prog_16_method_56_code
def yX13_offer : MethodName := ⟨RX13, "offer", "(II)V"⟩
def dkwX13_offer_4 : List UInt8 := [28, 29, 120, 19, 1, 48, 126, 167, 0, 4, 3, 128, 181, 1, 45, 177]
abbrev dktX13_offer_4 : List UInt8 := dkwX13_offer_4 ++ []
def dkwX13_offer_3 : List UInt8 := [181, 1, 42, 167, 0, 36, 27, 42, 180, 1, 42, 100, 62, 42, 42, 180, 1, 45, 29, 16, 31, 162, 0, 13]
abbrev dktX13_offer_3 : List UInt8 := dkwX13_offer_3 ++ dktX13_offer_4
def dkwX13_offer_2 : List UInt8 := [162, 0, 16, 42, 180, 1, 45, 29, 120, 19, 1, 48, 126, 167, 0, 4, 3, 128, 181, 1, 45, 42, 27]
abbrev dktX13_offer_2 : List UInt8 := dkwX13_offer_2 ++ dktX13_offer_3
def dkwX13_offer_1 : List UInt8 := [167, 0, 85, 27, 42, 180, 1, 42, 162, 0, 44, 42, 180, 1, 42, 27, 100, 62, 42, 28, 29, 16, 31]
abbrev dktX13_offer_1 : List UInt8 := dkwX13_offer_1 ++ dktX13_offer_2
def dkwX13_offer_0 : List UInt8 := [28, 154, 0, 4, 177, 42, 180, 1, 45, 154, 0, 16, 42, 27, 181, 1, 42, 42, 28, 181, 1, 45]
abbrev dktX13_offer_0 : List UInt8 := dkwX13_offer_0 ++ dktX13_offer_1
theorem dksX13_offer_0 : cX13_offer.data.toList.drop 0 = dktX13_offer_0 := by decide +kernel
theorem dksX13_offer_1 : cX13_offer.data.toList.drop 22 = dktX13_offer_1 := dk_seg dksX13_offer_0 22 rfl rfl
theorem dksX13_offer_2 : cX13_offer.data.toList.drop 45 = dktX13_offer_2 := dk_seg dksX13_offer_1 23 rfl rfl
theorem dksX13_offer_3 : cX13_offer.data.toList.drop 68 = dktX13_offer_3 := dk_seg dksX13_offer_2 23 rfl rfl
theorem dksX13_offer_4 : cX13_offer.data.toList.drop 92 = dktX13_offer_4 := dk_seg dksX13_offer_3 24 rfl rfl
theorem dX13_offer_0 : decode cX13_offer 0 = .ok (.iload_n 2, 1) := dk_28 (dk_at dksX13_offer_0 0 rfl rfl)
theorem dX13_offer_1 : decode cX13_offer 1 = .ok (.ifCond .ne 4, 3) := dk_154 0 4 (dk_at dksX13_offer_0 1 rfl rfl)
theorem dX13_offer_4 : decode cX13_offer 4 = .ok (.return_, 1) := dk_177 (dk_at dksX13_offer_0 4 rfl rfl)
theorem dX13_offer_5 : decode cX13_offer 5 = .ok (.aload_n 0, 1) := dk_42 (dk_at dksX13_offer_0 5 rfl rfl)
theorem dX13_offer_6 : decode cX13_offer 6 = .ok (.getfield 301, 3) := dk_180 1 45 (dk_at dksX13_offer_0 6 rfl rfl)
theorem dX13_offer_9 : decode cX13_offer 9 = .ok (.ifCond .ne 16, 3) := dk_154 0 16 (dk_at dksX13_offer_0 9 rfl rfl)
theorem dX13_offer_12 : decode cX13_offer 12 = .ok (.aload_n 0, 1) := dk_42 (dk_at dksX13_offer_0 12 rfl rfl)
theorem dX13_offer_13 : decode cX13_offer 13 = .ok (.iload_n 1, 1) := dk_27 (dk_at dksX13_offer_0 13 rfl rfl)
theorem dX13_offer_14 : decode cX13_offer 14 = .ok (.putfield 298, 3) := dk_181 1 42 (dk_at dksX13_offer_0 14 rfl rfl)
theorem dX13_offer_17 : decode cX13_offer 17 = .ok (.aload_n 0, 1) := dk_42 (dk_at dksX13_offer_0 17 rfl rfl)
theorem dX13_offer_18 : decode cX13_offer 18 = .ok (.iload_n 2, 1) := dk_28 (dk_at dksX13_offer_0 18 rfl rfl)
theorem dX13_offer_19 : decode cX13_offer 19 = .ok (.putfield 301, 3) := dk_181 1 45 (dk_at dksX13_offer_0 19 rfl rfl)
theorem dX13_offer_22 : decode cX13_offer 22 = .ok (.goto 85, 3) := dk_167 0 85 (dk_at dksX13_offer_1 0 rfl rfl)
theorem dX13_offer_25 : decode cX13_offer 25 = .ok (.iload_n 1, 1) := dk_27 (dk_at dksX13_offer_1 3 rfl rfl)
theorem dX13_offer_26 : decode cX13_offer 26 = .ok (.aload_n 0, 1) := dk_42 (dk_at dksX13_offer_1 4 rfl rfl)
theorem dX13_offer_27 : decode cX13_offer 27 = .ok (.getfield 298, 3) := dk_180 1 42 (dk_at dksX13_offer_1 5 rfl rfl)
theorem dX13_offer_30 : decode cX13_offer 30 = .ok (.if_icmp .ge 44, 3) := dk_162 0 44 (dk_at dksX13_offer_1 8 rfl rfl)
theorem dX13_offer_33 : decode cX13_offer 33 = .ok (.aload_n 0, 1) := dk_42 (dk_at dksX13_offer_1 11 rfl rfl)
theorem dX13_offer_34 : decode cX13_offer 34 = .ok (.getfield 298, 3) := dk_180 1 42 (dk_at dksX13_offer_1 12 rfl rfl)
theorem dX13_offer_37 : decode cX13_offer 37 = .ok (.iload_n 1, 1) := dk_27 (dk_at dksX13_offer_1 15 rfl rfl)
theorem dX13_offer_38 : decode cX13_offer 38 = .ok (.isub, 1) := dk_100 (dk_at dksX13_offer_1 16 rfl rfl)
theorem dX13_offer_39 : decode cX13_offer 39 = .ok (.istore_n 3, 1) := dk_62 (dk_at dksX13_offer_1 17 rfl rfl)
theorem dX13_offer_40 : decode cX13_offer 40 = .ok (.aload_n 0, 1) := dk_42 (dk_at dksX13_offer_1 18 rfl rfl)
theorem dX13_offer_41 : decode cX13_offer 41 = .ok (.iload_n 2, 1) := dk_28 (dk_at dksX13_offer_1 19 rfl rfl)
theorem dX13_offer_42 : decode cX13_offer 42 = .ok (.iload_n 3, 1) := dk_29 (dk_at dksX13_offer_1 20 rfl rfl)
theorem dX13_offer_43 : decode cX13_offer 43 = .ok (.bipush 31, 2) := dk_16 31 (dk_at dksX13_offer_1 21 rfl rfl)
theorem dX13_offer_45 : decode cX13_offer 45 = .ok (.if_icmp .ge 16, 3) := dk_162 0 16 (dk_at dksX13_offer_2 0 rfl rfl)
theorem dX13_offer_48 : decode cX13_offer 48 = .ok (.aload_n 0, 1) := dk_42 (dk_at dksX13_offer_2 3 rfl rfl)
theorem dX13_offer_49 : decode cX13_offer 49 = .ok (.getfield 301, 3) := dk_180 1 45 (dk_at dksX13_offer_2 4 rfl rfl)
theorem dX13_offer_52 : decode cX13_offer 52 = .ok (.iload_n 3, 1) := dk_29 (dk_at dksX13_offer_2 7 rfl rfl)
theorem dX13_offer_53 : decode cX13_offer 53 = .ok (.ishl, 1) := dk_120 (dk_at dksX13_offer_2 8 rfl rfl)
theorem dX13_offer_54 : decode cX13_offer 54 = .ok (.ldc_w 304, 3) := dk_19 1 48 (dk_at dksX13_offer_2 9 rfl rfl)
theorem dX13_offer_57 : decode cX13_offer 57 = .ok (.iand, 1) := dk_126 (dk_at dksX13_offer_2 12 rfl rfl)
theorem dX13_offer_58 : decode cX13_offer 58 = .ok (.goto 4, 3) := dk_167 0 4 (dk_at dksX13_offer_2 13 rfl rfl)
theorem dX13_offer_61 : decode cX13_offer 61 = .ok (.iconst 0, 1) := dk_3 (dk_at dksX13_offer_2 16 rfl rfl)
theorem dX13_offer_62 : decode cX13_offer 62 = .ok (.ior, 1) := dk_128 (dk_at dksX13_offer_2 17 rfl rfl)
theorem dX13_offer_63 : decode cX13_offer 63 = .ok (.putfield 301, 3) := dk_181 1 45 (dk_at dksX13_offer_2 18 rfl rfl)
theorem dX13_offer_66 : decode cX13_offer 66 = .ok (.aload_n 0, 1) := dk_42 (dk_at dksX13_offer_2 21 rfl rfl)
theorem dX13_offer_67 : decode cX13_offer 67 = .ok (.iload_n 1, 1) := dk_27 (dk_at dksX13_offer_2 22 rfl rfl)
theorem dX13_offer_68 : decode cX13_offer 68 = .ok (.putfield 298, 3) := dk_181 1 42 (dk_at dksX13_offer_3 0 rfl rfl)
theorem dX13_offer_71 : decode cX13_offer 71 = .ok (.goto 36, 3) := dk_167 0 36 (dk_at dksX13_offer_3 3 rfl rfl)
theorem dX13_offer_74 : decode cX13_offer 74 = .ok (.iload_n 1, 1) := dk_27 (dk_at dksX13_offer_3 6 rfl rfl)
theorem dX13_offer_75 : decode cX13_offer 75 = .ok (.aload_n 0, 1) := dk_42 (dk_at dksX13_offer_3 7 rfl rfl)
theorem dX13_offer_76 : decode cX13_offer 76 = .ok (.getfield 298, 3) := dk_180 1 42 (dk_at dksX13_offer_3 8 rfl rfl)
theorem dX13_offer_79 : decode cX13_offer 79 = .ok (.isub, 1) := dk_100 (dk_at dksX13_offer_3 11 rfl rfl)
theorem dX13_offer_80 : decode cX13_offer 80 = .ok (.istore_n 3, 1) := dk_62 (dk_at dksX13_offer_3 12 rfl rfl)
theorem dX13_offer_81 : decode cX13_offer 81 = .ok (.aload_n 0, 1) := dk_42 (dk_at dksX13_offer_3 13 rfl rfl)
theorem dX13_offer_82 : decode cX13_offer 82 = .ok (.aload_n 0, 1) := dk_42 (dk_at dksX13_offer_3 14 rfl rfl)
theorem dX13_offer_83 : decode cX13_offer 83 = .ok (.getfield 301, 3) := dk_180 1 45 (dk_at dksX13_offer_3 15 rfl rfl)
theorem dX13_offer_86 : decode cX13_offer 86 = .ok (.iload_n 3, 1) := dk_29 (dk_at dksX13_offer_3 18 rfl rfl)
theorem dX13_offer_87 : decode cX13_offer 87 = .ok (.bipush 31, 2) := dk_16 31 (dk_at dksX13_offer_3 19 rfl rfl)
theorem dX13_offer_89 : decode cX13_offer 89 = .ok (.if_icmp .ge 13, 3) := dk_162 0 13 (dk_at dksX13_offer_3 21 rfl rfl)
theorem dX13_offer_92 : decode cX13_offer 92 = .ok (.iload_n 2, 1) := dk_28 (dk_at dksX13_offer_4 0 rfl rfl)
theorem dX13_offer_93 : decode cX13_offer 93 = .ok (.iload_n 3, 1) := dk_29 (dk_at dksX13_offer_4 1 rfl rfl)
theorem dX13_offer_94 : decode cX13_offer 94 = .ok (.ishl, 1) := dk_120 (dk_at dksX13_offer_4 2 rfl rfl)
theorem dX13_offer_95 : decode cX13_offer 95 = .ok (.ldc_w 304, 3) := dk_19 1 48 (dk_at dksX13_offer_4 3 rfl rfl)
theorem dX13_offer_98 : decode cX13_offer 98 = .ok (.iand, 1) := dk_126 (dk_at dksX13_offer_4 6 rfl rfl)
theorem dX13_offer_99 : decode cX13_offer 99 = .ok (.goto 4, 3) := dk_167 0 4 (dk_at dksX13_offer_4 7 rfl rfl)
theorem dX13_offer_102 : decode cX13_offer 102 = .ok (.iconst 0, 1) := dk_3 (dk_at dksX13_offer_4 10 rfl rfl)
theorem dX13_offer_103 : decode cX13_offer 103 = .ok (.ior, 1) := dk_128 (dk_at dksX13_offer_4 11 rfl rfl)
theorem dX13_offer_104 : decode cX13_offer 104 = .ok (.putfield 301, 3) := dk_181 1 45 (dk_at dksX13_offer_4 12 rfl rfl)
theorem dX13_offer_107 : decode cX13_offer 107 = .ok (.return_, 1) := dk_177 (dk_at dksX13_offer_4 15 rfl rfl)
abbrev cX13_isDigits : ByteArray := prog_16_method_59_code
def yX13_isDigits : MethodName := ⟨RX13, "isDigits", "(I)Z"⟩
def dkwX13_isDigits_1 : List UInt8 := [180, 0, 38, 27, 4, 96, 46, 184, 1, 58, 153, 0, 7, 4, 167, 0, 4, 3, 172]
abbrev dktX13_isDigits_1 : List UInt8 := dkwX13_isDigits_1 ++ []
def dkwX13_isDigits_0 : List UInt8 := [27, 4, 96, 42, 180, 0, 134, 162, 0, 33, 42, 180, 0, 38, 27, 46, 184, 1, 58, 153, 0, 21, 42]
abbrev dktX13_isDigits_0 : List UInt8 := dkwX13_isDigits_0 ++ dktX13_isDigits_1
theorem dksX13_isDigits_0 : cX13_isDigits.data.toList.drop 0 = dktX13_isDigits_0 := by decide +kernel
theorem dksX13_isDigits_1 : cX13_isDigits.data.toList.drop 23 = dktX13_isDigits_1 := dk_seg dksX13_isDigits_0 23 rfl rfl
theorem dX13_isDigits_0 : decode cX13_isDigits 0 = .ok (.iload_n 1, 1) := dk_27 (dk_at dksX13_isDigits_0 0 rfl rfl)
theorem dX13_isDigits_1 : decode cX13_isDigits 1 = .ok (.iconst 1, 1) := dk_4 (dk_at dksX13_isDigits_0 1 rfl rfl)
theorem dX13_isDigits_2 : decode cX13_isDigits 2 = .ok (.iadd, 1) := dk_96 (dk_at dksX13_isDigits_0 2 rfl rfl)
theorem dX13_isDigits_3 : decode cX13_isDigits 3 = .ok (.aload_n 0, 1) := dk_42 (dk_at dksX13_isDigits_0 3 rfl rfl)
theorem dX13_isDigits_4 : decode cX13_isDigits 4 = .ok (.getfield 134, 3) := dk_180 0 134 (dk_at dksX13_isDigits_0 4 rfl rfl)
theorem dX13_isDigits_7 : decode cX13_isDigits 7 = .ok (.if_icmp .ge 33, 3) := dk_162 0 33 (dk_at dksX13_isDigits_0 7 rfl rfl)
theorem dX13_isDigits_10 : decode cX13_isDigits 10 = .ok (.aload_n 0, 1) := dk_42 (dk_at dksX13_isDigits_0 10 rfl rfl)
theorem dX13_isDigits_11 : decode cX13_isDigits 11 = .ok (.getfield 38, 3) := dk_180 0 38 (dk_at dksX13_isDigits_0 11 rfl rfl)
theorem dX13_isDigits_14 : decode cX13_isDigits 14 = .ok (.iload_n 1, 1) := dk_27 (dk_at dksX13_isDigits_0 14 rfl rfl)
theorem dX13_isDigits_15 : decode cX13_isDigits 15 = .ok (.iaload, 1) := dk_46 (dk_at dksX13_isDigits_0 15 rfl rfl)
theorem dX13_isDigits_16 : decode cX13_isDigits 16 = .ok (.invokestatic 314, 3) := dk_184 1 58 (dk_at dksX13_isDigits_0 16 rfl rfl)
theorem dX13_isDigits_19 : decode cX13_isDigits 19 = .ok (.ifCond .eq 21, 3) := dk_153 0 21 (dk_at dksX13_isDigits_0 19 rfl rfl)
theorem dX13_isDigits_22 : decode cX13_isDigits 22 = .ok (.aload_n 0, 1) := dk_42 (dk_at dksX13_isDigits_0 22 rfl rfl)
theorem dX13_isDigits_23 : decode cX13_isDigits 23 = .ok (.getfield 38, 3) := dk_180 0 38 (dk_at dksX13_isDigits_1 0 rfl rfl)
theorem dX13_isDigits_26 : decode cX13_isDigits 26 = .ok (.iload_n 1, 1) := dk_27 (dk_at dksX13_isDigits_1 3 rfl rfl)
theorem dX13_isDigits_27 : decode cX13_isDigits 27 = .ok (.iconst 1, 1) := dk_4 (dk_at dksX13_isDigits_1 4 rfl rfl)
theorem dX13_isDigits_28 : decode cX13_isDigits 28 = .ok (.iadd, 1) := dk_96 (dk_at dksX13_isDigits_1 5 rfl rfl)
theorem dX13_isDigits_29 : decode cX13_isDigits 29 = .ok (.iaload, 1) := dk_46 (dk_at dksX13_isDigits_1 6 rfl rfl)
theorem dX13_isDigits_30 : decode cX13_isDigits 30 = .ok (.invokestatic 314, 3) := dk_184 1 58 (dk_at dksX13_isDigits_1 7 rfl rfl)
theorem dX13_isDigits_33 : decode cX13_isDigits 33 = .ok (.ifCond .eq 7, 3) := dk_153 0 7 (dk_at dksX13_isDigits_1 10 rfl rfl)
theorem dX13_isDigits_36 : decode cX13_isDigits 36 = .ok (.iconst 1, 1) := dk_4 (dk_at dksX13_isDigits_1 13 rfl rfl)
theorem dX13_isDigits_37 : decode cX13_isDigits 37 = .ok (.goto 4, 3) := dk_167 0 4 (dk_at dksX13_isDigits_1 14 rfl rfl)
theorem dX13_isDigits_40 : decode cX13_isDigits 40 = .ok (.iconst 0, 1) := dk_3 (dk_at dksX13_isDigits_1 17 rfl rfl)
theorem dX13_isDigits_41 : decode cX13_isDigits 41 = .ok (.ireturn, 1) := dk_172 (dk_at dksX13_isDigits_1 18 rfl rfl)
abbrev cX13_isDigit : ByteArray := prog_16_method_60_code
def yX13_isDigit : MethodName := ⟨RX13, "isDigit", "(I)Z"⟩
def dkwX13_isDigit_0 : List UInt8 := [26, 16, 48, 161, 0, 13, 26, 16, 57, 163, 0, 7, 4, 167, 0, 4, 3, 172]
abbrev dktX13_isDigit_0 : List UInt8 := dkwX13_isDigit_0 ++ []
theorem dksX13_isDigit_0 : cX13_isDigit.data.toList.drop 0 = dktX13_isDigit_0 := by decide +kernel
theorem dX13_isDigit_0 : decode cX13_isDigit 0 = .ok (.iload_n 0, 1) := dk_26 (dk_at dksX13_isDigit_0 0 rfl rfl)
theorem dX13_isDigit_1 : decode cX13_isDigit 1 = .ok (.bipush 48, 2) := dk_16 48 (dk_at dksX13_isDigit_0 1 rfl rfl)
theorem dX13_isDigit_3 : decode cX13_isDigit 3 = .ok (.if_icmp .lt 13, 3) := dk_161 0 13 (dk_at dksX13_isDigit_0 3 rfl rfl)
theorem dX13_isDigit_6 : decode cX13_isDigit 6 = .ok (.iload_n 0, 1) := dk_26 (dk_at dksX13_isDigit_0 6 rfl rfl)
theorem dX13_isDigit_7 : decode cX13_isDigit 7 = .ok (.bipush 57, 2) := dk_16 57 (dk_at dksX13_isDigit_0 7 rfl rfl)
theorem dX13_isDigit_9 : decode cX13_isDigit 9 = .ok (.if_icmp .gt 7, 3) := dk_163 0 7 (dk_at dksX13_isDigit_0 9 rfl rfl)
theorem dX13_isDigit_12 : decode cX13_isDigit 12 = .ok (.iconst 1, 1) := dk_4 (dk_at dksX13_isDigit_0 12 rfl rfl)
theorem dX13_isDigit_13 : decode cX13_isDigit 13 = .ok (.goto 4, 3) := dk_167 0 4 (dk_at dksX13_isDigit_0 13 rfl rfl)
theorem dX13_isDigit_16 : decode cX13_isDigit 16 = .ok (.iconst 0, 1) := dk_3 (dk_at dksX13_isDigit_0 16 rfl rfl)
theorem dX13_isDigit_17 : decode cX13_isDigit 17 = .ok (.ireturn, 1) := dk_172 (dk_at dksX13_isDigit_0 17 rfl rfl)
abbrev cX13_offerFrom : ByteArray := prog_16_method_57_code
def yX13_offerFrom : MethodName := ⟨RX13, "offerFrom", "(III)V"⟩
def dkwX13_offerFrom_3 : List UInt8 := [182, 1, 52, 177]
abbrev dktX13_offerFrom_3 : List UInt8 := dkwX13_offerFrom_3 ++ []
def dkwX13_offerFrom_2 : List UInt8 := [126, 154, 0, 15, 21, 5, 4, 122, 54, 5, 132, 4, 1, 167, 255, 229, 42, 21, 4, 28, 96, 21, 5]
abbrev dktX13_offerFrom_2 : List UInt8 := dkwX13_offerFrom_2 ++ dktX13_offerFrom_3
def dkwX13_offerFrom_1 : List UInt8 := [42, 180, 1, 49, 104, 27, 96, 46, 54, 5, 21, 5, 153, 0, 28, 21, 4, 29, 161, 0, 10, 21, 5, 4]
abbrev dktX13_offerFrom_1 : List UInt8 := dkwX13_offerFrom_1 ++ dktX13_offerFrom_2
def dkwX13_offerFrom_0 : List UInt8 := [42, 180, 0, 87, 17, 12, 129, 42, 180, 1, 49, 104, 27, 96, 46, 54, 4, 42, 180, 0, 90, 17, 12, 129]
abbrev dktX13_offerFrom_0 : List UInt8 := dkwX13_offerFrom_0 ++ dktX13_offerFrom_1
theorem dksX13_offerFrom_0 : cX13_offerFrom.data.toList.drop 0 = dktX13_offerFrom_0 := by decide +kernel
theorem dksX13_offerFrom_1 : cX13_offerFrom.data.toList.drop 24 = dktX13_offerFrom_1 := dk_seg dksX13_offerFrom_0 24 rfl rfl
theorem dksX13_offerFrom_2 : cX13_offerFrom.data.toList.drop 48 = dktX13_offerFrom_2 := dk_seg dksX13_offerFrom_1 24 rfl rfl
theorem dksX13_offerFrom_3 : cX13_offerFrom.data.toList.drop 71 = dktX13_offerFrom_3 := dk_seg dksX13_offerFrom_2 23 rfl rfl
theorem dX13_offerFrom_0 : decode cX13_offerFrom 0 = .ok (.aload_n 0, 1) := dk_42 (dk_at dksX13_offerFrom_0 0 rfl rfl)
theorem dX13_offerFrom_1 : decode cX13_offerFrom 1 = .ok (.getfield 87, 3) := dk_180 0 87 (dk_at dksX13_offerFrom_0 1 rfl rfl)
theorem dX13_offerFrom_4 : decode cX13_offerFrom 4 = .ok (.sipush 3201, 3) := dk_17 12 129 (dk_at dksX13_offerFrom_0 4 rfl rfl)
theorem dX13_offerFrom_7 : decode cX13_offerFrom 7 = .ok (.aload_n 0, 1) := dk_42 (dk_at dksX13_offerFrom_0 7 rfl rfl)
theorem dX13_offerFrom_8 : decode cX13_offerFrom 8 = .ok (.getfield 305, 3) := dk_180 1 49 (dk_at dksX13_offerFrom_0 8 rfl rfl)
theorem dX13_offerFrom_11 : decode cX13_offerFrom 11 = .ok (.imul, 1) := dk_104 (dk_at dksX13_offerFrom_0 11 rfl rfl)
theorem dX13_offerFrom_12 : decode cX13_offerFrom 12 = .ok (.iload_n 1, 1) := dk_27 (dk_at dksX13_offerFrom_0 12 rfl rfl)
theorem dX13_offerFrom_13 : decode cX13_offerFrom 13 = .ok (.iadd, 1) := dk_96 (dk_at dksX13_offerFrom_0 13 rfl rfl)
theorem dX13_offerFrom_14 : decode cX13_offerFrom 14 = .ok (.iaload, 1) := dk_46 (dk_at dksX13_offerFrom_0 14 rfl rfl)
theorem dX13_offerFrom_15 : decode cX13_offerFrom 15 = .ok (.istore 4, 2) := dk_54 4 (dk_at dksX13_offerFrom_0 15 rfl rfl)
theorem dX13_offerFrom_17 : decode cX13_offerFrom 17 = .ok (.aload_n 0, 1) := dk_42 (dk_at dksX13_offerFrom_0 17 rfl rfl)
theorem dX13_offerFrom_18 : decode cX13_offerFrom 18 = .ok (.getfield 90, 3) := dk_180 0 90 (dk_at dksX13_offerFrom_0 18 rfl rfl)
theorem dX13_offerFrom_21 : decode cX13_offerFrom 21 = .ok (.sipush 3201, 3) := dk_17 12 129 (dk_at dksX13_offerFrom_0 21 rfl rfl)
theorem dX13_offerFrom_24 : decode cX13_offerFrom 24 = .ok (.aload_n 0, 1) := dk_42 (dk_at dksX13_offerFrom_1 0 rfl rfl)
theorem dX13_offerFrom_25 : decode cX13_offerFrom 25 = .ok (.getfield 305, 3) := dk_180 1 49 (dk_at dksX13_offerFrom_1 1 rfl rfl)
theorem dX13_offerFrom_28 : decode cX13_offerFrom 28 = .ok (.imul, 1) := dk_104 (dk_at dksX13_offerFrom_1 4 rfl rfl)
theorem dX13_offerFrom_29 : decode cX13_offerFrom 29 = .ok (.iload_n 1, 1) := dk_27 (dk_at dksX13_offerFrom_1 5 rfl rfl)
theorem dX13_offerFrom_30 : decode cX13_offerFrom 30 = .ok (.iadd, 1) := dk_96 (dk_at dksX13_offerFrom_1 6 rfl rfl)
theorem dX13_offerFrom_31 : decode cX13_offerFrom 31 = .ok (.iaload, 1) := dk_46 (dk_at dksX13_offerFrom_1 7 rfl rfl)
theorem dX13_offerFrom_32 : decode cX13_offerFrom 32 = .ok (.istore 5, 2) := dk_54 5 (dk_at dksX13_offerFrom_1 8 rfl rfl)
theorem dX13_offerFrom_34 : decode cX13_offerFrom 34 = .ok (.iload 5, 2) := dk_21 5 (dk_at dksX13_offerFrom_1 10 rfl rfl)
theorem dX13_offerFrom_36 : decode cX13_offerFrom 36 = .ok (.ifCond .eq 28, 3) := dk_153 0 28 (dk_at dksX13_offerFrom_1 12 rfl rfl)
theorem dX13_offerFrom_39 : decode cX13_offerFrom 39 = .ok (.iload 4, 2) := dk_21 4 (dk_at dksX13_offerFrom_1 15 rfl rfl)
theorem dX13_offerFrom_41 : decode cX13_offerFrom 41 = .ok (.iload_n 3, 1) := dk_29 (dk_at dksX13_offerFrom_1 17 rfl rfl)
theorem dX13_offerFrom_42 : decode cX13_offerFrom 42 = .ok (.if_icmp .lt 10, 3) := dk_161 0 10 (dk_at dksX13_offerFrom_1 18 rfl rfl)
theorem dX13_offerFrom_45 : decode cX13_offerFrom 45 = .ok (.iload 5, 2) := dk_21 5 (dk_at dksX13_offerFrom_1 21 rfl rfl)
theorem dX13_offerFrom_47 : decode cX13_offerFrom 47 = .ok (.iconst 1, 1) := dk_4 (dk_at dksX13_offerFrom_1 23 rfl rfl)
theorem dX13_offerFrom_48 : decode cX13_offerFrom 48 = .ok (.iand, 1) := dk_126 (dk_at dksX13_offerFrom_2 0 rfl rfl)
theorem dX13_offerFrom_49 : decode cX13_offerFrom 49 = .ok (.ifCond .ne 15, 3) := dk_154 0 15 (dk_at dksX13_offerFrom_2 1 rfl rfl)
theorem dX13_offerFrom_52 : decode cX13_offerFrom 52 = .ok (.iload 5, 2) := dk_21 5 (dk_at dksX13_offerFrom_2 4 rfl rfl)
theorem dX13_offerFrom_54 : decode cX13_offerFrom 54 = .ok (.iconst 1, 1) := dk_4 (dk_at dksX13_offerFrom_2 6 rfl rfl)
theorem dX13_offerFrom_55 : decode cX13_offerFrom 55 = .ok (.ishr, 1) := dk_122 (dk_at dksX13_offerFrom_2 7 rfl rfl)
theorem dX13_offerFrom_56 : decode cX13_offerFrom 56 = .ok (.istore 5, 2) := dk_54 5 (dk_at dksX13_offerFrom_2 8 rfl rfl)
theorem dX13_offerFrom_58 : decode cX13_offerFrom 58 = .ok (.iinc 4 1, 3) := dk_132 4 1 (dk_at dksX13_offerFrom_2 10 rfl rfl)
theorem dX13_offerFrom_61 : decode cX13_offerFrom 61 = .ok (.goto (-27), 3) := dk_167 255 229 (dk_at dksX13_offerFrom_2 13 rfl rfl)
theorem dX13_offerFrom_64 : decode cX13_offerFrom 64 = .ok (.aload_n 0, 1) := dk_42 (dk_at dksX13_offerFrom_2 16 rfl rfl)
theorem dX13_offerFrom_65 : decode cX13_offerFrom 65 = .ok (.iload 4, 2) := dk_21 4 (dk_at dksX13_offerFrom_2 17 rfl rfl)
theorem dX13_offerFrom_67 : decode cX13_offerFrom 67 = .ok (.iload_n 2, 1) := dk_28 (dk_at dksX13_offerFrom_2 19 rfl rfl)
theorem dX13_offerFrom_68 : decode cX13_offerFrom 68 = .ok (.iadd, 1) := dk_96 (dk_at dksX13_offerFrom_2 20 rfl rfl)
theorem dX13_offerFrom_69 : decode cX13_offerFrom 69 = .ok (.iload 5, 2) := dk_21 5 (dk_at dksX13_offerFrom_2 21 rfl rfl)
theorem dX13_offerFrom_71 : decode cX13_offerFrom 71 = .ok (.invokevirtual 308, 3) := dk_182 1 52 (dk_at dksX13_offerFrom_3 0 rfl rfl)
theorem dX13_offerFrom_74 : decode cX13_offerFrom 74 = .ok (.return_, 1) := dk_177 (dk_at dksX13_offerFrom_3 3 rfl rfl)
abbrev cX13_spell : ByteArray := prog_16_method_65_code
def yX13_spell : MethodName := ⟨RX13, "spell", "(II)I"⟩
def dkwX13_spell_2 : List UInt8 := [3, 182, 1, 79, 172]
abbrev dktX13_spell_2 : List UInt8 := dkwX13_spell_2 ++ []
def dkwX13_spell_1 : List UInt8 := [182, 1, 79, 62, 42, 180, 0, 99, 3, 4, 79, 42, 180, 0, 99, 4, 16, 30, 79, 29, 172, 42, 27, 28]
abbrev dktX13_spell_1 : List UInt8 := dkwX13_spell_1 ++ dktX13_spell_2
def dkwX13_spell_0 : List UInt8 := [28, 16, 127, 164, 0, 42, 27, 16, 6, 160, 0, 7, 3, 167, 0, 14, 42, 27, 28, 17, 0, 128, 100, 5]
abbrev dktX13_spell_0 : List UInt8 := dkwX13_spell_0 ++ dktX13_spell_1
theorem dksX13_spell_0 : cX13_spell.data.toList.drop 0 = dktX13_spell_0 := by decide +kernel
theorem dksX13_spell_1 : cX13_spell.data.toList.drop 24 = dktX13_spell_1 := dk_seg dksX13_spell_0 24 rfl rfl
theorem dksX13_spell_2 : cX13_spell.data.toList.drop 48 = dktX13_spell_2 := dk_seg dksX13_spell_1 24 rfl rfl
theorem dX13_spell_0 : decode cX13_spell 0 = .ok (.iload_n 2, 1) := dk_28 (dk_at dksX13_spell_0 0 rfl rfl)
theorem dX13_spell_1 : decode cX13_spell 1 = .ok (.bipush 127, 2) := dk_16 127 (dk_at dksX13_spell_0 1 rfl rfl)
theorem dX13_spell_3 : decode cX13_spell 3 = .ok (.if_icmp .le 42, 3) := dk_164 0 42 (dk_at dksX13_spell_0 3 rfl rfl)
theorem dX13_spell_6 : decode cX13_spell 6 = .ok (.iload_n 1, 1) := dk_27 (dk_at dksX13_spell_0 6 rfl rfl)
theorem dX13_spell_7 : decode cX13_spell 7 = .ok (.bipush 6, 2) := dk_16 6 (dk_at dksX13_spell_0 7 rfl rfl)
theorem dX13_spell_9 : decode cX13_spell 9 = .ok (.if_icmp .ne 7, 3) := dk_160 0 7 (dk_at dksX13_spell_0 9 rfl rfl)
theorem dX13_spell_12 : decode cX13_spell 12 = .ok (.iconst 0, 1) := dk_3 (dk_at dksX13_spell_0 12 rfl rfl)
theorem dX13_spell_13 : decode cX13_spell 13 = .ok (.goto 14, 3) := dk_167 0 14 (dk_at dksX13_spell_0 13 rfl rfl)
theorem dX13_spell_16 : decode cX13_spell 16 = .ok (.aload_n 0, 1) := dk_42 (dk_at dksX13_spell_0 16 rfl rfl)
theorem dX13_spell_17 : decode cX13_spell 17 = .ok (.iload_n 1, 1) := dk_27 (dk_at dksX13_spell_0 17 rfl rfl)
theorem dX13_spell_18 : decode cX13_spell 18 = .ok (.iload_n 2, 1) := dk_28 (dk_at dksX13_spell_0 18 rfl rfl)
theorem dX13_spell_19 : decode cX13_spell 19 = .ok (.sipush 128, 3) := dk_17 0 128 (dk_at dksX13_spell_0 19 rfl rfl)
theorem dX13_spell_22 : decode cX13_spell 22 = .ok (.isub, 1) := dk_100 (dk_at dksX13_spell_0 22 rfl rfl)
theorem dX13_spell_23 : decode cX13_spell 23 = .ok (.iconst 2, 1) := dk_5 (dk_at dksX13_spell_0 23 rfl rfl)
theorem dX13_spell_24 : decode cX13_spell 24 = .ok (.invokevirtual 335, 3) := dk_182 1 79 (dk_at dksX13_spell_1 0 rfl rfl)
theorem dX13_spell_27 : decode cX13_spell 27 = .ok (.istore_n 3, 1) := dk_62 (dk_at dksX13_spell_1 3 rfl rfl)
theorem dX13_spell_28 : decode cX13_spell 28 = .ok (.aload_n 0, 1) := dk_42 (dk_at dksX13_spell_1 4 rfl rfl)
theorem dX13_spell_29 : decode cX13_spell 29 = .ok (.getfield 99, 3) := dk_180 0 99 (dk_at dksX13_spell_1 5 rfl rfl)
theorem dX13_spell_32 : decode cX13_spell 32 = .ok (.iconst 0, 1) := dk_3 (dk_at dksX13_spell_1 8 rfl rfl)
theorem dX13_spell_33 : decode cX13_spell 33 = .ok (.iconst 1, 1) := dk_4 (dk_at dksX13_spell_1 9 rfl rfl)
theorem dX13_spell_34 : decode cX13_spell 34 = .ok (.iastore, 1) := dk_79 (dk_at dksX13_spell_1 10 rfl rfl)
theorem dX13_spell_35 : decode cX13_spell 35 = .ok (.aload_n 0, 1) := dk_42 (dk_at dksX13_spell_1 11 rfl rfl)
theorem dX13_spell_36 : decode cX13_spell 36 = .ok (.getfield 99, 3) := dk_180 0 99 (dk_at dksX13_spell_1 12 rfl rfl)
theorem dX13_spell_39 : decode cX13_spell 39 = .ok (.iconst 1, 1) := dk_4 (dk_at dksX13_spell_1 15 rfl rfl)
theorem dX13_spell_40 : decode cX13_spell 40 = .ok (.bipush 30, 2) := dk_16 30 (dk_at dksX13_spell_1 16 rfl rfl)
theorem dX13_spell_42 : decode cX13_spell 42 = .ok (.iastore, 1) := dk_79 (dk_at dksX13_spell_1 18 rfl rfl)
theorem dX13_spell_43 : decode cX13_spell 43 = .ok (.iload_n 3, 1) := dk_29 (dk_at dksX13_spell_1 19 rfl rfl)
theorem dX13_spell_44 : decode cX13_spell 44 = .ok (.ireturn, 1) := dk_172 (dk_at dksX13_spell_1 20 rfl rfl)
theorem dX13_spell_45 : decode cX13_spell 45 = .ok (.aload_n 0, 1) := dk_42 (dk_at dksX13_spell_1 21 rfl rfl)
theorem dX13_spell_46 : decode cX13_spell 46 = .ok (.iload_n 1, 1) := dk_27 (dk_at dksX13_spell_1 22 rfl rfl)
theorem dX13_spell_47 : decode cX13_spell 47 = .ok (.iload_n 2, 1) := dk_28 (dk_at dksX13_spell_1 23 rfl rfl)
theorem dX13_spell_48 : decode cX13_spell 48 = .ok (.iconst 0, 1) := dk_3 (dk_at dksX13_spell_2 0 rfl rfl)
theorem dX13_spell_49 : decode cX13_spell 49 = .ok (.invokevirtual 335, 3) := dk_182 1 79 (dk_at dksX13_spell_2 1 rfl rfl)
theorem dX13_spell_52 : decode cX13_spell 52 = .ok (.ireturn, 1) := dk_172 (dk_at dksX13_spell_2 4 rfl rfl)
abbrev cX13_spellSmall : ByteArray := prog_16_method_66_code
def yX13_spellSmall : MethodName := ⟨RX13, "spellSmall", "(III)I"⟩
def dkwX13_spellSmall_13 : List UInt8 := [16, 64, 100, 167, 0, 10, 28, 16, 123, 100, 16, 27, 96, 79, 29, 5, 96, 172]
abbrev dktX13_spellSmall_13 : List UInt8 := dkwX13_spellSmall_13 ++ []
def dkwX13_spellSmall_12 : List UInt8 := [7, 159, 0, 9, 28, 16, 96, 160, 0, 10, 28, 16, 96, 100, 167, 0, 23, 28, 16, 91, 162, 0, 10, 28]
abbrev dktX13_spellSmall_12 : List UInt8 := dkwX13_spellSmall_12 ++ dktX13_spellSmall_13
def dkwX13_spellSmall_11 : List UInt8 := [162, 0, 13, 28, 16, 58, 100, 16, 15, 96, 167, 0, 51, 28, 16, 91, 100, 16, 22, 96, 167, 0, 41, 27]
abbrev dktX13_spellSmall_11 : List UInt8 := dkwX13_spellSmall_11 ++ dktX13_spellSmall_12
def dkwX13_spellSmall_10 : List UInt8 := [167, 0, 85, 21, 6, 153, 0, 42, 28, 16, 48, 162, 0, 10, 28, 16, 33, 100, 167, 0, 67, 28, 16, 65]
abbrev dktX13_spellSmall_10 : List UInt8 := dkwX13_spellSmall_10 ++ dktX13_spellSmall_11
def dkwX13_spellSmall_9 : List UInt8 := [153, 0, 7, 4, 167, 0, 4, 5, 79, 42, 180, 0, 99, 29, 4, 96, 28, 16, 32, 162, 0, 7, 28]
abbrev dktX13_spellSmall_9 : List UInt8 := dkwX13_spellSmall_9 ++ dktX13_spellSmall_10
def dkwX13_spellSmall_8 : List UInt8 := [167, 0, 4, 3, 54, 6, 42, 180, 0, 99, 29, 28, 16, 32, 162, 0, 7, 3, 167, 0, 13, 21, 6]
abbrev dktX13_spellSmall_8 : List UInt8 := dkwX13_spellSmall_8 ++ dktX13_spellSmall_9
def dkwX13_spellSmall_7 : List UInt8 := [161, 0, 9, 28, 16, 64, 164, 0, 15, 28, 16, 91, 161, 0, 13, 28, 16, 95, 163, 0, 7, 4]
abbrev dktX13_spellSmall_7 : List UInt8 := dkwX13_spellSmall_7 ++ dktX13_spellSmall_8
def dkwX13_spellSmall_6 : List UInt8 := [21, 4, 79, 29, 4, 96, 172, 28, 16, 33, 161, 0, 9, 28, 16, 47, 164, 0, 27, 28, 16, 58]
abbrev dktX13_spellSmall_6 : List UInt8 := dkwX13_spellSmall_6 ++ dktX13_spellSmall_7
def dkwX13_spellSmall_5 : List UInt8 := [21, 4, 79, 21, 4, 156, 0, 7, 3, 167, 0, 4, 4, 172, 21, 4, 155, 0, 15, 42, 180, 0, 99, 29]
abbrev dktX13_spellSmall_5 : List UInt8 := dkwX13_spellSmall_5 ++ dktX13_spellSmall_6
def dkwX13_spellSmall_4 : List UInt8 := [4, 167, 0, 15, 28, 16, 62, 160, 0, 7, 5, 167, 0, 5, 21, 4, 54, 4, 42, 180, 0, 99, 29]
abbrev dktX13_spellSmall_4 : List UInt8 := dkwX13_spellSmall_4 ++ dktX13_spellSmall_5
def dkwX13_spellSmall_3 : List UInt8 := [54, 4, 27, 16, 6, 160, 0, 56, 28, 16, 13, 160, 0, 7, 3, 167, 0, 25, 28, 16, 42, 160, 0, 7]
abbrev dktX13_spellSmall_3 : List UInt8 := dkwX13_spellSmall_3 ++ dktX13_spellSmall_4
def dkwX13_spellSmall_2 : List UInt8 := [161, 0, 22, 28, 21, 5, 16, 26, 96, 162, 0, 13, 28, 21, 5, 100, 16, 14, 96, 167, 0, 5, 21, 4]
abbrev dktX13_spellSmall_2 : List UInt8 := dkwX13_spellSmall_2 ++ dktX13_spellSmall_3
def dkwX13_spellSmall_1 : List UInt8 := [167, 0, 4, 2, 54, 4, 27, 8, 160, 0, 8, 16, 97, 167, 0, 5, 16, 65, 54, 5, 28, 21, 5]
abbrev dktX13_spellSmall_1 : List UInt8 := dkwX13_spellSmall_1 ++ dktX13_spellSmall_2
def dkwX13_spellSmall_0 : List UInt8 := [28, 16, 32, 160, 0, 7, 6, 167, 0, 20, 28, 184, 1, 58, 153, 0, 12, 28, 16, 48, 100, 7, 96]
abbrev dktX13_spellSmall_0 : List UInt8 := dkwX13_spellSmall_0 ++ dktX13_spellSmall_1
theorem dksX13_spellSmall_0 : cX13_spellSmall.data.toList.drop 0 = dktX13_spellSmall_0 := by decide +kernel
theorem dksX13_spellSmall_1 : cX13_spellSmall.data.toList.drop 23 = dktX13_spellSmall_1 := dk_seg dksX13_spellSmall_0 23 rfl rfl
theorem dksX13_spellSmall_2 : cX13_spellSmall.data.toList.drop 46 = dktX13_spellSmall_2 := dk_seg dksX13_spellSmall_1 23 rfl rfl
theorem dksX13_spellSmall_3 : cX13_spellSmall.data.toList.drop 70 = dktX13_spellSmall_3 := dk_seg dksX13_spellSmall_2 24 rfl rfl
theorem dksX13_spellSmall_4 : cX13_spellSmall.data.toList.drop 94 = dktX13_spellSmall_4 := dk_seg dksX13_spellSmall_3 24 rfl rfl
theorem dksX13_spellSmall_5 : cX13_spellSmall.data.toList.drop 117 = dktX13_spellSmall_5 := dk_seg dksX13_spellSmall_4 23 rfl rfl
theorem dksX13_spellSmall_6 : cX13_spellSmall.data.toList.drop 141 = dktX13_spellSmall_6 := dk_seg dksX13_spellSmall_5 24 rfl rfl
theorem dksX13_spellSmall_7 : cX13_spellSmall.data.toList.drop 163 = dktX13_spellSmall_7 := dk_seg dksX13_spellSmall_6 22 rfl rfl
theorem dksX13_spellSmall_8 : cX13_spellSmall.data.toList.drop 185 = dktX13_spellSmall_8 := dk_seg dksX13_spellSmall_7 22 rfl rfl
theorem dksX13_spellSmall_9 : cX13_spellSmall.data.toList.drop 208 = dktX13_spellSmall_9 := dk_seg dksX13_spellSmall_8 23 rfl rfl
theorem dksX13_spellSmall_10 : cX13_spellSmall.data.toList.drop 231 = dktX13_spellSmall_10 := dk_seg dksX13_spellSmall_9 23 rfl rfl
theorem dksX13_spellSmall_11 : cX13_spellSmall.data.toList.drop 255 = dktX13_spellSmall_11 := dk_seg dksX13_spellSmall_10 24 rfl rfl
theorem dksX13_spellSmall_12 : cX13_spellSmall.data.toList.drop 279 = dktX13_spellSmall_12 := dk_seg dksX13_spellSmall_11 24 rfl rfl
theorem dksX13_spellSmall_13 : cX13_spellSmall.data.toList.drop 303 = dktX13_spellSmall_13 := dk_seg dksX13_spellSmall_12 24 rfl rfl
theorem dX13_spellSmall_0 : decode cX13_spellSmall 0 = .ok (.iload_n 2, 1) := dk_28 (dk_at dksX13_spellSmall_0 0 rfl rfl)
theorem dX13_spellSmall_1 : decode cX13_spellSmall 1 = .ok (.bipush 32, 2) := dk_16 32 (dk_at dksX13_spellSmall_0 1 rfl rfl)
theorem dX13_spellSmall_3 : decode cX13_spellSmall 3 = .ok (.if_icmp .ne 7, 3) := dk_160 0 7 (dk_at dksX13_spellSmall_0 3 rfl rfl)
theorem dX13_spellSmall_6 : decode cX13_spellSmall 6 = .ok (.iconst 3, 1) := dk_6 (dk_at dksX13_spellSmall_0 6 rfl rfl)
theorem dX13_spellSmall_7 : decode cX13_spellSmall 7 = .ok (.goto 20, 3) := dk_167 0 20 (dk_at dksX13_spellSmall_0 7 rfl rfl)
theorem dX13_spellSmall_10 : decode cX13_spellSmall 10 = .ok (.iload_n 2, 1) := dk_28 (dk_at dksX13_spellSmall_0 10 rfl rfl)
theorem dX13_spellSmall_11 : decode cX13_spellSmall 11 = .ok (.invokestatic 314, 3) := dk_184 1 58 (dk_at dksX13_spellSmall_0 11 rfl rfl)
theorem dX13_spellSmall_14 : decode cX13_spellSmall 14 = .ok (.ifCond .eq 12, 3) := dk_153 0 12 (dk_at dksX13_spellSmall_0 14 rfl rfl)
theorem dX13_spellSmall_17 : decode cX13_spellSmall 17 = .ok (.iload_n 2, 1) := dk_28 (dk_at dksX13_spellSmall_0 17 rfl rfl)
theorem dX13_spellSmall_18 : decode cX13_spellSmall 18 = .ok (.bipush 48, 2) := dk_16 48 (dk_at dksX13_spellSmall_0 18 rfl rfl)
theorem dX13_spellSmall_20 : decode cX13_spellSmall 20 = .ok (.isub, 1) := dk_100 (dk_at dksX13_spellSmall_0 20 rfl rfl)
theorem dX13_spellSmall_21 : decode cX13_spellSmall 21 = .ok (.iconst 4, 1) := dk_7 (dk_at dksX13_spellSmall_0 21 rfl rfl)
theorem dX13_spellSmall_22 : decode cX13_spellSmall 22 = .ok (.iadd, 1) := dk_96 (dk_at dksX13_spellSmall_0 22 rfl rfl)
theorem dX13_spellSmall_23 : decode cX13_spellSmall 23 = .ok (.goto 4, 3) := dk_167 0 4 (dk_at dksX13_spellSmall_1 0 rfl rfl)
theorem dX13_spellSmall_26 : decode cX13_spellSmall 26 = .ok (.iconst (-1), 1) := dk_2 (dk_at dksX13_spellSmall_1 3 rfl rfl)
theorem dX13_spellSmall_27 : decode cX13_spellSmall 27 = .ok (.istore 4, 2) := dk_54 4 (dk_at dksX13_spellSmall_1 4 rfl rfl)
theorem dX13_spellSmall_29 : decode cX13_spellSmall 29 = .ok (.iload_n 1, 1) := dk_27 (dk_at dksX13_spellSmall_1 6 rfl rfl)
theorem dX13_spellSmall_30 : decode cX13_spellSmall 30 = .ok (.iconst 5, 1) := dk_8 (dk_at dksX13_spellSmall_1 7 rfl rfl)
theorem dX13_spellSmall_31 : decode cX13_spellSmall 31 = .ok (.if_icmp .ne 8, 3) := dk_160 0 8 (dk_at dksX13_spellSmall_1 8 rfl rfl)
theorem dX13_spellSmall_34 : decode cX13_spellSmall 34 = .ok (.bipush 97, 2) := dk_16 97 (dk_at dksX13_spellSmall_1 11 rfl rfl)
theorem dX13_spellSmall_36 : decode cX13_spellSmall 36 = .ok (.goto 5, 3) := dk_167 0 5 (dk_at dksX13_spellSmall_1 13 rfl rfl)
theorem dX13_spellSmall_39 : decode cX13_spellSmall 39 = .ok (.bipush 65, 2) := dk_16 65 (dk_at dksX13_spellSmall_1 16 rfl rfl)
theorem dX13_spellSmall_41 : decode cX13_spellSmall 41 = .ok (.istore 5, 2) := dk_54 5 (dk_at dksX13_spellSmall_1 18 rfl rfl)
theorem dX13_spellSmall_43 : decode cX13_spellSmall 43 = .ok (.iload_n 2, 1) := dk_28 (dk_at dksX13_spellSmall_1 20 rfl rfl)
theorem dX13_spellSmall_44 : decode cX13_spellSmall 44 = .ok (.iload 5, 2) := dk_21 5 (dk_at dksX13_spellSmall_1 21 rfl rfl)
theorem dX13_spellSmall_46 : decode cX13_spellSmall 46 = .ok (.if_icmp .lt 22, 3) := dk_161 0 22 (dk_at dksX13_spellSmall_2 0 rfl rfl)
theorem dX13_spellSmall_49 : decode cX13_spellSmall 49 = .ok (.iload_n 2, 1) := dk_28 (dk_at dksX13_spellSmall_2 3 rfl rfl)
theorem dX13_spellSmall_50 : decode cX13_spellSmall 50 = .ok (.iload 5, 2) := dk_21 5 (dk_at dksX13_spellSmall_2 4 rfl rfl)
theorem dX13_spellSmall_52 : decode cX13_spellSmall 52 = .ok (.bipush 26, 2) := dk_16 26 (dk_at dksX13_spellSmall_2 6 rfl rfl)
theorem dX13_spellSmall_54 : decode cX13_spellSmall 54 = .ok (.iadd, 1) := dk_96 (dk_at dksX13_spellSmall_2 8 rfl rfl)
theorem dX13_spellSmall_55 : decode cX13_spellSmall 55 = .ok (.if_icmp .ge 13, 3) := dk_162 0 13 (dk_at dksX13_spellSmall_2 9 rfl rfl)
theorem dX13_spellSmall_58 : decode cX13_spellSmall 58 = .ok (.iload_n 2, 1) := dk_28 (dk_at dksX13_spellSmall_2 12 rfl rfl)
theorem dX13_spellSmall_59 : decode cX13_spellSmall 59 = .ok (.iload 5, 2) := dk_21 5 (dk_at dksX13_spellSmall_2 13 rfl rfl)
theorem dX13_spellSmall_61 : decode cX13_spellSmall 61 = .ok (.isub, 1) := dk_100 (dk_at dksX13_spellSmall_2 15 rfl rfl)
theorem dX13_spellSmall_62 : decode cX13_spellSmall 62 = .ok (.bipush 14, 2) := dk_16 14 (dk_at dksX13_spellSmall_2 16 rfl rfl)
theorem dX13_spellSmall_64 : decode cX13_spellSmall 64 = .ok (.iadd, 1) := dk_96 (dk_at dksX13_spellSmall_2 18 rfl rfl)
theorem dX13_spellSmall_65 : decode cX13_spellSmall 65 = .ok (.goto 5, 3) := dk_167 0 5 (dk_at dksX13_spellSmall_2 19 rfl rfl)
theorem dX13_spellSmall_68 : decode cX13_spellSmall 68 = .ok (.iload 4, 2) := dk_21 4 (dk_at dksX13_spellSmall_2 22 rfl rfl)
theorem dX13_spellSmall_70 : decode cX13_spellSmall 70 = .ok (.istore 4, 2) := dk_54 4 (dk_at dksX13_spellSmall_3 0 rfl rfl)
theorem dX13_spellSmall_72 : decode cX13_spellSmall 72 = .ok (.iload_n 1, 1) := dk_27 (dk_at dksX13_spellSmall_3 2 rfl rfl)
theorem dX13_spellSmall_73 : decode cX13_spellSmall 73 = .ok (.bipush 6, 2) := dk_16 6 (dk_at dksX13_spellSmall_3 3 rfl rfl)
theorem dX13_spellSmall_75 : decode cX13_spellSmall 75 = .ok (.if_icmp .ne 56, 3) := dk_160 0 56 (dk_at dksX13_spellSmall_3 5 rfl rfl)
theorem dX13_spellSmall_78 : decode cX13_spellSmall 78 = .ok (.iload_n 2, 1) := dk_28 (dk_at dksX13_spellSmall_3 8 rfl rfl)
theorem dX13_spellSmall_79 : decode cX13_spellSmall 79 = .ok (.bipush 13, 2) := dk_16 13 (dk_at dksX13_spellSmall_3 9 rfl rfl)
theorem dX13_spellSmall_81 : decode cX13_spellSmall 81 = .ok (.if_icmp .ne 7, 3) := dk_160 0 7 (dk_at dksX13_spellSmall_3 11 rfl rfl)
theorem dX13_spellSmall_84 : decode cX13_spellSmall 84 = .ok (.iconst 0, 1) := dk_3 (dk_at dksX13_spellSmall_3 14 rfl rfl)
theorem dX13_spellSmall_85 : decode cX13_spellSmall 85 = .ok (.goto 25, 3) := dk_167 0 25 (dk_at dksX13_spellSmall_3 15 rfl rfl)
theorem dX13_spellSmall_88 : decode cX13_spellSmall 88 = .ok (.iload_n 2, 1) := dk_28 (dk_at dksX13_spellSmall_3 18 rfl rfl)
theorem dX13_spellSmall_89 : decode cX13_spellSmall 89 = .ok (.bipush 42, 2) := dk_16 42 (dk_at dksX13_spellSmall_3 19 rfl rfl)
theorem dX13_spellSmall_91 : decode cX13_spellSmall 91 = .ok (.if_icmp .ne 7, 3) := dk_160 0 7 (dk_at dksX13_spellSmall_3 21 rfl rfl)
theorem dX13_spellSmall_94 : decode cX13_spellSmall 94 = .ok (.iconst 1, 1) := dk_4 (dk_at dksX13_spellSmall_4 0 rfl rfl)
theorem dX13_spellSmall_95 : decode cX13_spellSmall 95 = .ok (.goto 15, 3) := dk_167 0 15 (dk_at dksX13_spellSmall_4 1 rfl rfl)
theorem dX13_spellSmall_98 : decode cX13_spellSmall 98 = .ok (.iload_n 2, 1) := dk_28 (dk_at dksX13_spellSmall_4 4 rfl rfl)
theorem dX13_spellSmall_99 : decode cX13_spellSmall 99 = .ok (.bipush 62, 2) := dk_16 62 (dk_at dksX13_spellSmall_4 5 rfl rfl)
theorem dX13_spellSmall_101 : decode cX13_spellSmall 101 = .ok (.if_icmp .ne 7, 3) := dk_160 0 7 (dk_at dksX13_spellSmall_4 7 rfl rfl)
theorem dX13_spellSmall_104 : decode cX13_spellSmall 104 = .ok (.iconst 2, 1) := dk_5 (dk_at dksX13_spellSmall_4 10 rfl rfl)
theorem dX13_spellSmall_105 : decode cX13_spellSmall 105 = .ok (.goto 5, 3) := dk_167 0 5 (dk_at dksX13_spellSmall_4 11 rfl rfl)
theorem dX13_spellSmall_108 : decode cX13_spellSmall 108 = .ok (.iload 4, 2) := dk_21 4 (dk_at dksX13_spellSmall_4 14 rfl rfl)
theorem dX13_spellSmall_110 : decode cX13_spellSmall 110 = .ok (.istore 4, 2) := dk_54 4 (dk_at dksX13_spellSmall_4 16 rfl rfl)
theorem dX13_spellSmall_112 : decode cX13_spellSmall 112 = .ok (.aload_n 0, 1) := dk_42 (dk_at dksX13_spellSmall_4 18 rfl rfl)
theorem dX13_spellSmall_113 : decode cX13_spellSmall 113 = .ok (.getfield 99, 3) := dk_180 0 99 (dk_at dksX13_spellSmall_4 19 rfl rfl)
theorem dX13_spellSmall_116 : decode cX13_spellSmall 116 = .ok (.iload_n 3, 1) := dk_29 (dk_at dksX13_spellSmall_4 22 rfl rfl)
theorem dX13_spellSmall_117 : decode cX13_spellSmall 117 = .ok (.iload 4, 2) := dk_21 4 (dk_at dksX13_spellSmall_5 0 rfl rfl)
theorem dX13_spellSmall_119 : decode cX13_spellSmall 119 = .ok (.iastore, 1) := dk_79 (dk_at dksX13_spellSmall_5 2 rfl rfl)
theorem dX13_spellSmall_120 : decode cX13_spellSmall 120 = .ok (.iload 4, 2) := dk_21 4 (dk_at dksX13_spellSmall_5 3 rfl rfl)
theorem dX13_spellSmall_122 : decode cX13_spellSmall 122 = .ok (.ifCond .ge 7, 3) := dk_156 0 7 (dk_at dksX13_spellSmall_5 5 rfl rfl)
theorem dX13_spellSmall_125 : decode cX13_spellSmall 125 = .ok (.iconst 0, 1) := dk_3 (dk_at dksX13_spellSmall_5 8 rfl rfl)
theorem dX13_spellSmall_126 : decode cX13_spellSmall 126 = .ok (.goto 4, 3) := dk_167 0 4 (dk_at dksX13_spellSmall_5 9 rfl rfl)
theorem dX13_spellSmall_129 : decode cX13_spellSmall 129 = .ok (.iconst 1, 1) := dk_4 (dk_at dksX13_spellSmall_5 12 rfl rfl)
theorem dX13_spellSmall_130 : decode cX13_spellSmall 130 = .ok (.ireturn, 1) := dk_172 (dk_at dksX13_spellSmall_5 13 rfl rfl)
theorem dX13_spellSmall_131 : decode cX13_spellSmall 131 = .ok (.iload 4, 2) := dk_21 4 (dk_at dksX13_spellSmall_5 14 rfl rfl)
theorem dX13_spellSmall_133 : decode cX13_spellSmall 133 = .ok (.ifCond .lt 15, 3) := dk_155 0 15 (dk_at dksX13_spellSmall_5 16 rfl rfl)
theorem dX13_spellSmall_136 : decode cX13_spellSmall 136 = .ok (.aload_n 0, 1) := dk_42 (dk_at dksX13_spellSmall_5 19 rfl rfl)
theorem dX13_spellSmall_137 : decode cX13_spellSmall 137 = .ok (.getfield 99, 3) := dk_180 0 99 (dk_at dksX13_spellSmall_5 20 rfl rfl)
theorem dX13_spellSmall_140 : decode cX13_spellSmall 140 = .ok (.iload_n 3, 1) := dk_29 (dk_at dksX13_spellSmall_5 23 rfl rfl)
theorem dX13_spellSmall_141 : decode cX13_spellSmall 141 = .ok (.iload 4, 2) := dk_21 4 (dk_at dksX13_spellSmall_6 0 rfl rfl)
theorem dX13_spellSmall_143 : decode cX13_spellSmall 143 = .ok (.iastore, 1) := dk_79 (dk_at dksX13_spellSmall_6 2 rfl rfl)
theorem dX13_spellSmall_144 : decode cX13_spellSmall 144 = .ok (.iload_n 3, 1) := dk_29 (dk_at dksX13_spellSmall_6 3 rfl rfl)
theorem dX13_spellSmall_145 : decode cX13_spellSmall 145 = .ok (.iconst 1, 1) := dk_4 (dk_at dksX13_spellSmall_6 4 rfl rfl)
theorem dX13_spellSmall_146 : decode cX13_spellSmall 146 = .ok (.iadd, 1) := dk_96 (dk_at dksX13_spellSmall_6 5 rfl rfl)
theorem dX13_spellSmall_147 : decode cX13_spellSmall 147 = .ok (.ireturn, 1) := dk_172 (dk_at dksX13_spellSmall_6 6 rfl rfl)
theorem dX13_spellSmall_148 : decode cX13_spellSmall 148 = .ok (.iload_n 2, 1) := dk_28 (dk_at dksX13_spellSmall_6 7 rfl rfl)
theorem dX13_spellSmall_149 : decode cX13_spellSmall 149 = .ok (.bipush 33, 2) := dk_16 33 (dk_at dksX13_spellSmall_6 8 rfl rfl)
theorem dX13_spellSmall_151 : decode cX13_spellSmall 151 = .ok (.if_icmp .lt 9, 3) := dk_161 0 9 (dk_at dksX13_spellSmall_6 10 rfl rfl)
theorem dX13_spellSmall_154 : decode cX13_spellSmall 154 = .ok (.iload_n 2, 1) := dk_28 (dk_at dksX13_spellSmall_6 13 rfl rfl)
theorem dX13_spellSmall_155 : decode cX13_spellSmall 155 = .ok (.bipush 47, 2) := dk_16 47 (dk_at dksX13_spellSmall_6 14 rfl rfl)
theorem dX13_spellSmall_157 : decode cX13_spellSmall 157 = .ok (.if_icmp .le 27, 3) := dk_164 0 27 (dk_at dksX13_spellSmall_6 16 rfl rfl)
theorem dX13_spellSmall_160 : decode cX13_spellSmall 160 = .ok (.iload_n 2, 1) := dk_28 (dk_at dksX13_spellSmall_6 19 rfl rfl)
theorem dX13_spellSmall_161 : decode cX13_spellSmall 161 = .ok (.bipush 58, 2) := dk_16 58 (dk_at dksX13_spellSmall_6 20 rfl rfl)
theorem dX13_spellSmall_163 : decode cX13_spellSmall 163 = .ok (.if_icmp .lt 9, 3) := dk_161 0 9 (dk_at dksX13_spellSmall_7 0 rfl rfl)
theorem dX13_spellSmall_166 : decode cX13_spellSmall 166 = .ok (.iload_n 2, 1) := dk_28 (dk_at dksX13_spellSmall_7 3 rfl rfl)
theorem dX13_spellSmall_167 : decode cX13_spellSmall 167 = .ok (.bipush 64, 2) := dk_16 64 (dk_at dksX13_spellSmall_7 4 rfl rfl)
theorem dX13_spellSmall_169 : decode cX13_spellSmall 169 = .ok (.if_icmp .le 15, 3) := dk_164 0 15 (dk_at dksX13_spellSmall_7 6 rfl rfl)
theorem dX13_spellSmall_172 : decode cX13_spellSmall 172 = .ok (.iload_n 2, 1) := dk_28 (dk_at dksX13_spellSmall_7 9 rfl rfl)
theorem dX13_spellSmall_173 : decode cX13_spellSmall 173 = .ok (.bipush 91, 2) := dk_16 91 (dk_at dksX13_spellSmall_7 10 rfl rfl)
theorem dX13_spellSmall_175 : decode cX13_spellSmall 175 = .ok (.if_icmp .lt 13, 3) := dk_161 0 13 (dk_at dksX13_spellSmall_7 12 rfl rfl)
theorem dX13_spellSmall_178 : decode cX13_spellSmall 178 = .ok (.iload_n 2, 1) := dk_28 (dk_at dksX13_spellSmall_7 15 rfl rfl)
theorem dX13_spellSmall_179 : decode cX13_spellSmall 179 = .ok (.bipush 95, 2) := dk_16 95 (dk_at dksX13_spellSmall_7 16 rfl rfl)
theorem dX13_spellSmall_181 : decode cX13_spellSmall 181 = .ok (.if_icmp .gt 7, 3) := dk_163 0 7 (dk_at dksX13_spellSmall_7 18 rfl rfl)
theorem dX13_spellSmall_184 : decode cX13_spellSmall 184 = .ok (.iconst 1, 1) := dk_4 (dk_at dksX13_spellSmall_7 21 rfl rfl)
theorem dX13_spellSmall_185 : decode cX13_spellSmall 185 = .ok (.goto 4, 3) := dk_167 0 4 (dk_at dksX13_spellSmall_8 0 rfl rfl)
theorem dX13_spellSmall_188 : decode cX13_spellSmall 188 = .ok (.iconst 0, 1) := dk_3 (dk_at dksX13_spellSmall_8 3 rfl rfl)
theorem dX13_spellSmall_189 : decode cX13_spellSmall 189 = .ok (.istore 6, 2) := dk_54 6 (dk_at dksX13_spellSmall_8 4 rfl rfl)
theorem dX13_spellSmall_191 : decode cX13_spellSmall 191 = .ok (.aload_n 0, 1) := dk_42 (dk_at dksX13_spellSmall_8 6 rfl rfl)
theorem dX13_spellSmall_192 : decode cX13_spellSmall 192 = .ok (.getfield 99, 3) := dk_180 0 99 (dk_at dksX13_spellSmall_8 7 rfl rfl)
theorem dX13_spellSmall_195 : decode cX13_spellSmall 195 = .ok (.iload_n 3, 1) := dk_29 (dk_at dksX13_spellSmall_8 10 rfl rfl)
theorem dX13_spellSmall_196 : decode cX13_spellSmall 196 = .ok (.iload_n 2, 1) := dk_28 (dk_at dksX13_spellSmall_8 11 rfl rfl)
theorem dX13_spellSmall_197 : decode cX13_spellSmall 197 = .ok (.bipush 32, 2) := dk_16 32 (dk_at dksX13_spellSmall_8 12 rfl rfl)
theorem dX13_spellSmall_199 : decode cX13_spellSmall 199 = .ok (.if_icmp .ge 7, 3) := dk_162 0 7 (dk_at dksX13_spellSmall_8 14 rfl rfl)
theorem dX13_spellSmall_202 : decode cX13_spellSmall 202 = .ok (.iconst 0, 1) := dk_3 (dk_at dksX13_spellSmall_8 17 rfl rfl)
theorem dX13_spellSmall_203 : decode cX13_spellSmall 203 = .ok (.goto 13, 3) := dk_167 0 13 (dk_at dksX13_spellSmall_8 18 rfl rfl)
theorem dX13_spellSmall_206 : decode cX13_spellSmall 206 = .ok (.iload 6, 2) := dk_21 6 (dk_at dksX13_spellSmall_8 21 rfl rfl)
theorem dX13_spellSmall_208 : decode cX13_spellSmall 208 = .ok (.ifCond .eq 7, 3) := dk_153 0 7 (dk_at dksX13_spellSmall_9 0 rfl rfl)
theorem dX13_spellSmall_211 : decode cX13_spellSmall 211 = .ok (.iconst 1, 1) := dk_4 (dk_at dksX13_spellSmall_9 3 rfl rfl)
theorem dX13_spellSmall_212 : decode cX13_spellSmall 212 = .ok (.goto 4, 3) := dk_167 0 4 (dk_at dksX13_spellSmall_9 4 rfl rfl)
theorem dX13_spellSmall_215 : decode cX13_spellSmall 215 = .ok (.iconst 2, 1) := dk_5 (dk_at dksX13_spellSmall_9 7 rfl rfl)
theorem dX13_spellSmall_216 : decode cX13_spellSmall 216 = .ok (.iastore, 1) := dk_79 (dk_at dksX13_spellSmall_9 8 rfl rfl)
theorem dX13_spellSmall_217 : decode cX13_spellSmall 217 = .ok (.aload_n 0, 1) := dk_42 (dk_at dksX13_spellSmall_9 9 rfl rfl)
theorem dX13_spellSmall_218 : decode cX13_spellSmall 218 = .ok (.getfield 99, 3) := dk_180 0 99 (dk_at dksX13_spellSmall_9 10 rfl rfl)
theorem dX13_spellSmall_221 : decode cX13_spellSmall 221 = .ok (.iload_n 3, 1) := dk_29 (dk_at dksX13_spellSmall_9 13 rfl rfl)
theorem dX13_spellSmall_222 : decode cX13_spellSmall 222 = .ok (.iconst 1, 1) := dk_4 (dk_at dksX13_spellSmall_9 14 rfl rfl)
theorem dX13_spellSmall_223 : decode cX13_spellSmall 223 = .ok (.iadd, 1) := dk_96 (dk_at dksX13_spellSmall_9 15 rfl rfl)
theorem dX13_spellSmall_224 : decode cX13_spellSmall 224 = .ok (.iload_n 2, 1) := dk_28 (dk_at dksX13_spellSmall_9 16 rfl rfl)
theorem dX13_spellSmall_225 : decode cX13_spellSmall 225 = .ok (.bipush 32, 2) := dk_16 32 (dk_at dksX13_spellSmall_9 17 rfl rfl)
theorem dX13_spellSmall_227 : decode cX13_spellSmall 227 = .ok (.if_icmp .ge 7, 3) := dk_162 0 7 (dk_at dksX13_spellSmall_9 19 rfl rfl)
theorem dX13_spellSmall_230 : decode cX13_spellSmall 230 = .ok (.iload_n 2, 1) := dk_28 (dk_at dksX13_spellSmall_9 22 rfl rfl)
theorem dX13_spellSmall_231 : decode cX13_spellSmall 231 = .ok (.goto 85, 3) := dk_167 0 85 (dk_at dksX13_spellSmall_10 0 rfl rfl)
theorem dX13_spellSmall_234 : decode cX13_spellSmall 234 = .ok (.iload 6, 2) := dk_21 6 (dk_at dksX13_spellSmall_10 3 rfl rfl)
theorem dX13_spellSmall_236 : decode cX13_spellSmall 236 = .ok (.ifCond .eq 42, 3) := dk_153 0 42 (dk_at dksX13_spellSmall_10 5 rfl rfl)
theorem dX13_spellSmall_239 : decode cX13_spellSmall 239 = .ok (.iload_n 2, 1) := dk_28 (dk_at dksX13_spellSmall_10 8 rfl rfl)
theorem dX13_spellSmall_240 : decode cX13_spellSmall 240 = .ok (.bipush 48, 2) := dk_16 48 (dk_at dksX13_spellSmall_10 9 rfl rfl)
theorem dX13_spellSmall_242 : decode cX13_spellSmall 242 = .ok (.if_icmp .ge 10, 3) := dk_162 0 10 (dk_at dksX13_spellSmall_10 11 rfl rfl)
theorem dX13_spellSmall_245 : decode cX13_spellSmall 245 = .ok (.iload_n 2, 1) := dk_28 (dk_at dksX13_spellSmall_10 14 rfl rfl)
theorem dX13_spellSmall_246 : decode cX13_spellSmall 246 = .ok (.bipush 33, 2) := dk_16 33 (dk_at dksX13_spellSmall_10 15 rfl rfl)
theorem dX13_spellSmall_248 : decode cX13_spellSmall 248 = .ok (.isub, 1) := dk_100 (dk_at dksX13_spellSmall_10 17 rfl rfl)
theorem dX13_spellSmall_249 : decode cX13_spellSmall 249 = .ok (.goto 67, 3) := dk_167 0 67 (dk_at dksX13_spellSmall_10 18 rfl rfl)
theorem dX13_spellSmall_252 : decode cX13_spellSmall 252 = .ok (.iload_n 2, 1) := dk_28 (dk_at dksX13_spellSmall_10 21 rfl rfl)
theorem dX13_spellSmall_253 : decode cX13_spellSmall 253 = .ok (.bipush 65, 2) := dk_16 65 (dk_at dksX13_spellSmall_10 22 rfl rfl)
theorem dX13_spellSmall_255 : decode cX13_spellSmall 255 = .ok (.if_icmp .ge 13, 3) := dk_162 0 13 (dk_at dksX13_spellSmall_11 0 rfl rfl)
theorem dX13_spellSmall_258 : decode cX13_spellSmall 258 = .ok (.iload_n 2, 1) := dk_28 (dk_at dksX13_spellSmall_11 3 rfl rfl)
theorem dX13_spellSmall_259 : decode cX13_spellSmall 259 = .ok (.bipush 58, 2) := dk_16 58 (dk_at dksX13_spellSmall_11 4 rfl rfl)
theorem dX13_spellSmall_261 : decode cX13_spellSmall 261 = .ok (.isub, 1) := dk_100 (dk_at dksX13_spellSmall_11 6 rfl rfl)
theorem dX13_spellSmall_262 : decode cX13_spellSmall 262 = .ok (.bipush 15, 2) := dk_16 15 (dk_at dksX13_spellSmall_11 7 rfl rfl)
theorem dX13_spellSmall_264 : decode cX13_spellSmall 264 = .ok (.iadd, 1) := dk_96 (dk_at dksX13_spellSmall_11 9 rfl rfl)
theorem dX13_spellSmall_265 : decode cX13_spellSmall 265 = .ok (.goto 51, 3) := dk_167 0 51 (dk_at dksX13_spellSmall_11 10 rfl rfl)
theorem dX13_spellSmall_268 : decode cX13_spellSmall 268 = .ok (.iload_n 2, 1) := dk_28 (dk_at dksX13_spellSmall_11 13 rfl rfl)
theorem dX13_spellSmall_269 : decode cX13_spellSmall 269 = .ok (.bipush 91, 2) := dk_16 91 (dk_at dksX13_spellSmall_11 14 rfl rfl)
theorem dX13_spellSmall_271 : decode cX13_spellSmall 271 = .ok (.isub, 1) := dk_100 (dk_at dksX13_spellSmall_11 16 rfl rfl)
theorem dX13_spellSmall_272 : decode cX13_spellSmall 272 = .ok (.bipush 22, 2) := dk_16 22 (dk_at dksX13_spellSmall_11 17 rfl rfl)
theorem dX13_spellSmall_274 : decode cX13_spellSmall 274 = .ok (.iadd, 1) := dk_96 (dk_at dksX13_spellSmall_11 19 rfl rfl)
theorem dX13_spellSmall_275 : decode cX13_spellSmall 275 = .ok (.goto 41, 3) := dk_167 0 41 (dk_at dksX13_spellSmall_11 20 rfl rfl)
theorem dX13_spellSmall_278 : decode cX13_spellSmall 278 = .ok (.iload_n 1, 1) := dk_27 (dk_at dksX13_spellSmall_11 23 rfl rfl)
theorem dX13_spellSmall_279 : decode cX13_spellSmall 279 = .ok (.iconst 4, 1) := dk_7 (dk_at dksX13_spellSmall_12 0 rfl rfl)
theorem dX13_spellSmall_280 : decode cX13_spellSmall 280 = .ok (.if_icmp .eq 9, 3) := dk_159 0 9 (dk_at dksX13_spellSmall_12 1 rfl rfl)
theorem dX13_spellSmall_283 : decode cX13_spellSmall 283 = .ok (.iload_n 2, 1) := dk_28 (dk_at dksX13_spellSmall_12 4 rfl rfl)
theorem dX13_spellSmall_284 : decode cX13_spellSmall 284 = .ok (.bipush 96, 2) := dk_16 96 (dk_at dksX13_spellSmall_12 5 rfl rfl)
theorem dX13_spellSmall_286 : decode cX13_spellSmall 286 = .ok (.if_icmp .ne 10, 3) := dk_160 0 10 (dk_at dksX13_spellSmall_12 7 rfl rfl)
theorem dX13_spellSmall_289 : decode cX13_spellSmall 289 = .ok (.iload_n 2, 1) := dk_28 (dk_at dksX13_spellSmall_12 10 rfl rfl)
theorem dX13_spellSmall_290 : decode cX13_spellSmall 290 = .ok (.bipush 96, 2) := dk_16 96 (dk_at dksX13_spellSmall_12 11 rfl rfl)
theorem dX13_spellSmall_292 : decode cX13_spellSmall 292 = .ok (.isub, 1) := dk_100 (dk_at dksX13_spellSmall_12 13 rfl rfl)
theorem dX13_spellSmall_293 : decode cX13_spellSmall 293 = .ok (.goto 23, 3) := dk_167 0 23 (dk_at dksX13_spellSmall_12 14 rfl rfl)
theorem dX13_spellSmall_296 : decode cX13_spellSmall 296 = .ok (.iload_n 2, 1) := dk_28 (dk_at dksX13_spellSmall_12 17 rfl rfl)
theorem dX13_spellSmall_297 : decode cX13_spellSmall 297 = .ok (.bipush 91, 2) := dk_16 91 (dk_at dksX13_spellSmall_12 18 rfl rfl)
theorem dX13_spellSmall_299 : decode cX13_spellSmall 299 = .ok (.if_icmp .ge 10, 3) := dk_162 0 10 (dk_at dksX13_spellSmall_12 20 rfl rfl)
theorem dX13_spellSmall_302 : decode cX13_spellSmall 302 = .ok (.iload_n 2, 1) := dk_28 (dk_at dksX13_spellSmall_12 23 rfl rfl)
theorem dX13_spellSmall_303 : decode cX13_spellSmall 303 = .ok (.bipush 64, 2) := dk_16 64 (dk_at dksX13_spellSmall_13 0 rfl rfl)
theorem dX13_spellSmall_305 : decode cX13_spellSmall 305 = .ok (.isub, 1) := dk_100 (dk_at dksX13_spellSmall_13 2 rfl rfl)
theorem dX13_spellSmall_306 : decode cX13_spellSmall 306 = .ok (.goto 10, 3) := dk_167 0 10 (dk_at dksX13_spellSmall_13 3 rfl rfl)
theorem dX13_spellSmall_309 : decode cX13_spellSmall 309 = .ok (.iload_n 2, 1) := dk_28 (dk_at dksX13_spellSmall_13 6 rfl rfl)
theorem dX13_spellSmall_310 : decode cX13_spellSmall 310 = .ok (.bipush 123, 2) := dk_16 123 (dk_at dksX13_spellSmall_13 7 rfl rfl)
theorem dX13_spellSmall_312 : decode cX13_spellSmall 312 = .ok (.isub, 1) := dk_100 (dk_at dksX13_spellSmall_13 9 rfl rfl)
theorem dX13_spellSmall_313 : decode cX13_spellSmall 313 = .ok (.bipush 27, 2) := dk_16 27 (dk_at dksX13_spellSmall_13 10 rfl rfl)
theorem dX13_spellSmall_315 : decode cX13_spellSmall 315 = .ok (.iadd, 1) := dk_96 (dk_at dksX13_spellSmall_13 12 rfl rfl)
theorem dX13_spellSmall_316 : decode cX13_spellSmall 316 = .ok (.iastore, 1) := dk_79 (dk_at dksX13_spellSmall_13 13 rfl rfl)
theorem dX13_spellSmall_317 : decode cX13_spellSmall 317 = .ok (.iload_n 3, 1) := dk_29 (dk_at dksX13_spellSmall_13 14 rfl rfl)
theorem dX13_spellSmall_318 : decode cX13_spellSmall 318 = .ok (.iconst 2, 1) := dk_5 (dk_at dksX13_spellSmall_13 15 rfl rfl)
theorem dX13_spellSmall_319 : decode cX13_spellSmall 319 = .ok (.iadd, 1) := dk_96 (dk_at dksX13_spellSmall_13 16 rfl rfl)
theorem dX13_spellSmall_320 : decode cX13_spellSmall 320 = .ok (.ireturn, 1) := dk_172 (dk_at dksX13_spellSmall_13 17 rfl rfl)
abbrev cX13_isSix : ByteArray := prog_16_method_67_code
def yX13_isSix : MethodName := ⟨RX13, "isSix", "(I)Z"⟩
def dkwX13_isSix_0 : List UInt8 := [26, 16, 32, 161, 0, 13, 26, 16, 94, 163, 0, 7, 4, 167, 0, 4, 3, 172]
abbrev dktX13_isSix_0 : List UInt8 := dkwX13_isSix_0 ++ []
theorem dksX13_isSix_0 : cX13_isSix.data.toList.drop 0 = dktX13_isSix_0 := by decide +kernel
theorem dX13_isSix_0 : decode cX13_isSix 0 = .ok (.iload_n 0, 1) := dk_26 (dk_at dksX13_isSix_0 0 rfl rfl)
theorem dX13_isSix_1 : decode cX13_isSix 1 = .ok (.bipush 32, 2) := dk_16 32 (dk_at dksX13_isSix_0 1 rfl rfl)
theorem dX13_isSix_3 : decode cX13_isSix 3 = .ok (.if_icmp .lt 13, 3) := dk_161 0 13 (dk_at dksX13_isSix_0 3 rfl rfl)
theorem dX13_isSix_6 : decode cX13_isSix 6 = .ok (.iload_n 0, 1) := dk_26 (dk_at dksX13_isSix_0 6 rfl rfl)
theorem dX13_isSix_7 : decode cX13_isSix 7 = .ok (.bipush 94, 2) := dk_16 94 (dk_at dksX13_isSix_0 7 rfl rfl)
theorem dX13_isSix_9 : decode cX13_isSix 9 = .ok (.if_icmp .gt 7, 3) := dk_163 0 7 (dk_at dksX13_isSix_0 9 rfl rfl)
theorem dX13_isSix_12 : decode cX13_isSix 12 = .ok (.iconst 1, 1) := dk_4 (dk_at dksX13_isSix_0 12 rfl rfl)
theorem dX13_isSix_13 : decode cX13_isSix 13 = .ok (.goto 4, 3) := dk_167 0 4 (dk_at dksX13_isSix_0 13 rfl rfl)
theorem dX13_isSix_16 : decode cX13_isSix 16 = .ok (.iconst 0, 1) := dk_3 (dk_at dksX13_isSix_0 16 rfl rfl)
theorem dX13_isSix_17 : decode cX13_isSix 17 = .ok (.ireturn, 1) := dk_172 (dk_at dksX13_isSix_0 17 rfl rfl)
abbrev cX13_workRuns : ByteArray := prog_16_method_70_code
def yX13_workRuns : MethodName := ⟨RX13, "workRuns", "(I)V"⟩
def dkwX13_workRuns_13 : List UInt8 := [180, 0, 96, 16, 13, 28, 96, 42, 180, 0, 96, 28, 46, 79, 132, 2, 1, 167, 255, 217, 177]
abbrev dktX13_workRuns_13 : List UInt8 := dkwX13_workRuns_13 ++ []
def dkwX13_workRuns_12 : List UInt8 := [61, 28, 16, 13, 162, 0, 39, 42, 180, 0, 93, 16, 13, 28, 96, 42, 180, 0, 93, 28, 46, 79, 42]
abbrev dktX13_workRuns_12 : List UInt8 := dkwX13_workRuns_12 ++ dktX13_workRuns_13
def dkwX13_workRuns_11 : List UInt8 := [180, 1, 42, 79, 42, 180, 0, 96, 16, 9, 28, 96, 42, 180, 1, 45, 79, 132, 2, 1, 167, 255, 156, 3]
abbrev dktX13_workRuns_11 : List UInt8 := dkwX13_workRuns_11 ++ dktX13_workRuns_12
def dkwX13_workRuns_10 : List UInt8 := [180, 0, 96, 29, 46, 182, 1, 52, 42, 27, 28, 182, 1, 100, 42, 180, 0, 93, 16, 9, 28, 96, 42]
abbrev dktX13_workRuns_10 : List UInt8 := dkwX13_workRuns_10 ++ dktX13_workRuns_11
def dkwX13_workRuns_9 : List UInt8 := [112, 96, 62, 42, 28, 6, 160, 0, 7, 6, 167, 0, 4, 3, 42, 180, 0, 93, 29, 46, 96, 42]
abbrev dktX13_workRuns_9 : List UInt8 := dkwX13_workRuns_9 ++ dktX13_workRuns_10
def dkwX13_workRuns_8 : List UInt8 := [180, 0, 134, 162, 0, 51, 42, 180, 0, 38, 27, 46, 184, 1, 94, 153, 0, 39, 16, 22, 28, 4, 96, 7]
abbrev dktX13_workRuns_8 : List UInt8 := dkwX13_workRuns_8 ++ dktX13_workRuns_9
def dkwX13_workRuns_7 : List UInt8 := [167, 255, 129, 132, 2, 1, 167, 255, 90, 3, 61, 28, 7, 162, 0, 101, 42, 182, 1, 88, 27, 42]
abbrev dktX13_workRuns_7 : List UInt8 := dkwX13_workRuns_7 ++ dktX13_workRuns_8
def dkwX13_workRuns_6 : List UInt8 := [180, 1, 42, 79, 42, 180, 0, 96, 6, 28, 7, 100, 104, 21, 4, 96, 42, 180, 1, 45, 79, 132, 4, 1]
abbrev dktX13_workRuns_6 : List UInt8 := dkwX13_workRuns_6 ++ dktX13_workRuns_7
def dkwX13_workRuns_5 : List UInt8 := [159, 0, 9, 42, 27, 5, 182, 1, 97, 42, 180, 0, 93, 6, 28, 7, 100, 104, 21, 4, 96, 42]
abbrev dktX13_workRuns_5 : List UInt8 := dkwX13_workRuns_5 ++ dktX13_workRuns_6
def dkwX13_workRuns_4 : List UInt8 := [21, 4, 154, 0, 12, 42, 27, 3, 182, 1, 97, 167, 0, 21, 21, 4, 5, 160, 0, 15, 28, 16, 6]
abbrev dktX13_workRuns_4 : List UInt8 := dkwX13_workRuns_4 ++ dktX13_workRuns_5
def dkwX13_workRuns_3 : List UInt8 := [29, 96, 6, 108, 104, 42, 180, 0, 93, 21, 5, 46, 96, 42, 180, 0, 96, 21, 5, 46, 182, 1, 52]
abbrev dktX13_workRuns_3 : List UInt8 := dkwX13_workRuns_3 ++ dktX13_workRuns_4
def dkwX13_workRuns_2 : List UInt8 := [158, 0, 47, 16, 13, 6, 28, 7, 100, 104, 96, 21, 4, 29, 96, 6, 112, 96, 54, 5, 42, 5, 21, 4]
abbrev dktX13_workRuns_2 : List UInt8 := dkwX13_workRuns_2 ++ dktX13_workRuns_3
def dkwX13_workRuns_1 : List UInt8 := [182, 1, 91, 167, 0, 4, 3, 62, 3, 54, 4, 21, 4, 6, 162, 0, 127, 42, 182, 1, 88, 29]
abbrev dktX13_workRuns_1 : List UInt8 := dkwX13_workRuns_1 ++ dktX13_workRuns_2
def dkwX13_workRuns_0 : List UInt8 := [7, 61, 28, 16, 6, 163, 0, 166, 27, 42, 180, 0, 134, 162, 0, 17, 42, 28, 42, 180, 0, 38, 27, 46]
abbrev dktX13_workRuns_0 : List UInt8 := dkwX13_workRuns_0 ++ dktX13_workRuns_1
theorem dksX13_workRuns_0 : cX13_workRuns.data.toList.drop 0 = dktX13_workRuns_0 := by decide +kernel
theorem dksX13_workRuns_1 : cX13_workRuns.data.toList.drop 24 = dktX13_workRuns_1 := dk_seg dksX13_workRuns_0 24 rfl rfl
theorem dksX13_workRuns_2 : cX13_workRuns.data.toList.drop 46 = dktX13_workRuns_2 := dk_seg dksX13_workRuns_1 22 rfl rfl
theorem dksX13_workRuns_3 : cX13_workRuns.data.toList.drop 70 = dktX13_workRuns_3 := dk_seg dksX13_workRuns_2 24 rfl rfl
theorem dksX13_workRuns_4 : cX13_workRuns.data.toList.drop 93 = dktX13_workRuns_4 := dk_seg dksX13_workRuns_3 23 rfl rfl
theorem dksX13_workRuns_5 : cX13_workRuns.data.toList.drop 116 = dktX13_workRuns_5 := dk_seg dksX13_workRuns_4 23 rfl rfl
theorem dksX13_workRuns_6 : cX13_workRuns.data.toList.drop 138 = dktX13_workRuns_6 := dk_seg dksX13_workRuns_5 22 rfl rfl
theorem dksX13_workRuns_7 : cX13_workRuns.data.toList.drop 162 = dktX13_workRuns_7 := dk_seg dksX13_workRuns_6 24 rfl rfl
theorem dksX13_workRuns_8 : cX13_workRuns.data.toList.drop 184 = dktX13_workRuns_8 := dk_seg dksX13_workRuns_7 22 rfl rfl
theorem dksX13_workRuns_9 : cX13_workRuns.data.toList.drop 208 = dktX13_workRuns_9 := dk_seg dksX13_workRuns_8 24 rfl rfl
theorem dksX13_workRuns_10 : cX13_workRuns.data.toList.drop 230 = dktX13_workRuns_10 := dk_seg dksX13_workRuns_9 22 rfl rfl
theorem dksX13_workRuns_11 : cX13_workRuns.data.toList.drop 253 = dktX13_workRuns_11 := dk_seg dksX13_workRuns_10 23 rfl rfl
theorem dksX13_workRuns_12 : cX13_workRuns.data.toList.drop 277 = dktX13_workRuns_12 := dk_seg dksX13_workRuns_11 24 rfl rfl
theorem dksX13_workRuns_13 : cX13_workRuns.data.toList.drop 300 = dktX13_workRuns_13 := dk_seg dksX13_workRuns_12 23 rfl rfl
theorem dX13_workRuns_0 : decode cX13_workRuns 0 = .ok (.iconst 4, 1) := dk_7 (dk_at dksX13_workRuns_0 0 rfl rfl)
theorem dX13_workRuns_1 : decode cX13_workRuns 1 = .ok (.istore_n 2, 1) := dk_61 (dk_at dksX13_workRuns_0 1 rfl rfl)
theorem dX13_workRuns_2 : decode cX13_workRuns 2 = .ok (.iload_n 2, 1) := dk_28 (dk_at dksX13_workRuns_0 2 rfl rfl)
theorem dX13_workRuns_3 : decode cX13_workRuns 3 = .ok (.bipush 6, 2) := dk_16 6 (dk_at dksX13_workRuns_0 3 rfl rfl)
theorem dX13_workRuns_5 : decode cX13_workRuns 5 = .ok (.if_icmp .gt 166, 3) := dk_163 0 166 (dk_at dksX13_workRuns_0 5 rfl rfl)
theorem dX13_workRuns_8 : decode cX13_workRuns 8 = .ok (.iload_n 1, 1) := dk_27 (dk_at dksX13_workRuns_0 8 rfl rfl)
theorem dX13_workRuns_9 : decode cX13_workRuns 9 = .ok (.aload_n 0, 1) := dk_42 (dk_at dksX13_workRuns_0 9 rfl rfl)
theorem dX13_workRuns_10 : decode cX13_workRuns 10 = .ok (.getfield 134, 3) := dk_180 0 134 (dk_at dksX13_workRuns_0 10 rfl rfl)
theorem dX13_workRuns_13 : decode cX13_workRuns 13 = .ok (.if_icmp .ge 17, 3) := dk_162 0 17 (dk_at dksX13_workRuns_0 13 rfl rfl)
theorem dX13_workRuns_16 : decode cX13_workRuns 16 = .ok (.aload_n 0, 1) := dk_42 (dk_at dksX13_workRuns_0 16 rfl rfl)
theorem dX13_workRuns_17 : decode cX13_workRuns 17 = .ok (.iload_n 2, 1) := dk_28 (dk_at dksX13_workRuns_0 17 rfl rfl)
theorem dX13_workRuns_18 : decode cX13_workRuns 18 = .ok (.aload_n 0, 1) := dk_42 (dk_at dksX13_workRuns_0 18 rfl rfl)
theorem dX13_workRuns_19 : decode cX13_workRuns 19 = .ok (.getfield 38, 3) := dk_180 0 38 (dk_at dksX13_workRuns_0 19 rfl rfl)
theorem dX13_workRuns_22 : decode cX13_workRuns 22 = .ok (.iload_n 1, 1) := dk_27 (dk_at dksX13_workRuns_0 22 rfl rfl)
theorem dX13_workRuns_23 : decode cX13_workRuns 23 = .ok (.iaload, 1) := dk_46 (dk_at dksX13_workRuns_0 23 rfl rfl)
theorem dX13_workRuns_24 : decode cX13_workRuns 24 = .ok (.invokevirtual 347, 3) := dk_182 1 91 (dk_at dksX13_workRuns_1 0 rfl rfl)
theorem dX13_workRuns_27 : decode cX13_workRuns 27 = .ok (.goto 4, 3) := dk_167 0 4 (dk_at dksX13_workRuns_1 3 rfl rfl)
theorem dX13_workRuns_30 : decode cX13_workRuns 30 = .ok (.iconst 0, 1) := dk_3 (dk_at dksX13_workRuns_1 6 rfl rfl)
theorem dX13_workRuns_31 : decode cX13_workRuns 31 = .ok (.istore_n 3, 1) := dk_62 (dk_at dksX13_workRuns_1 7 rfl rfl)
theorem dX13_workRuns_32 : decode cX13_workRuns 32 = .ok (.iconst 0, 1) := dk_3 (dk_at dksX13_workRuns_1 8 rfl rfl)
theorem dX13_workRuns_33 : decode cX13_workRuns 33 = .ok (.istore 4, 2) := dk_54 4 (dk_at dksX13_workRuns_1 9 rfl rfl)
theorem dX13_workRuns_35 : decode cX13_workRuns 35 = .ok (.iload 4, 2) := dk_21 4 (dk_at dksX13_workRuns_1 11 rfl rfl)
theorem dX13_workRuns_37 : decode cX13_workRuns 37 = .ok (.iconst 3, 1) := dk_6 (dk_at dksX13_workRuns_1 13 rfl rfl)
theorem dX13_workRuns_38 : decode cX13_workRuns 38 = .ok (.if_icmp .ge 127, 3) := dk_162 0 127 (dk_at dksX13_workRuns_1 14 rfl rfl)
theorem dX13_workRuns_41 : decode cX13_workRuns 41 = .ok (.aload_n 0, 1) := dk_42 (dk_at dksX13_workRuns_1 17 rfl rfl)
theorem dX13_workRuns_42 : decode cX13_workRuns 42 = .ok (.invokevirtual 344, 3) := dk_182 1 88 (dk_at dksX13_workRuns_1 18 rfl rfl)
theorem dX13_workRuns_45 : decode cX13_workRuns 45 = .ok (.iload_n 3, 1) := dk_29 (dk_at dksX13_workRuns_1 21 rfl rfl)
theorem dX13_workRuns_46 : decode cX13_workRuns 46 = .ok (.ifCond .le 47, 3) := dk_158 0 47 (dk_at dksX13_workRuns_2 0 rfl rfl)
theorem dX13_workRuns_49 : decode cX13_workRuns 49 = .ok (.bipush 13, 2) := dk_16 13 (dk_at dksX13_workRuns_2 3 rfl rfl)
theorem dX13_workRuns_51 : decode cX13_workRuns 51 = .ok (.iconst 3, 1) := dk_6 (dk_at dksX13_workRuns_2 5 rfl rfl)
theorem dX13_workRuns_52 : decode cX13_workRuns 52 = .ok (.iload_n 2, 1) := dk_28 (dk_at dksX13_workRuns_2 6 rfl rfl)
theorem dX13_workRuns_53 : decode cX13_workRuns 53 = .ok (.iconst 4, 1) := dk_7 (dk_at dksX13_workRuns_2 7 rfl rfl)
theorem dX13_workRuns_54 : decode cX13_workRuns 54 = .ok (.isub, 1) := dk_100 (dk_at dksX13_workRuns_2 8 rfl rfl)
theorem dX13_workRuns_55 : decode cX13_workRuns 55 = .ok (.imul, 1) := dk_104 (dk_at dksX13_workRuns_2 9 rfl rfl)
theorem dX13_workRuns_56 : decode cX13_workRuns 56 = .ok (.iadd, 1) := dk_96 (dk_at dksX13_workRuns_2 10 rfl rfl)
theorem dX13_workRuns_57 : decode cX13_workRuns 57 = .ok (.iload 4, 2) := dk_21 4 (dk_at dksX13_workRuns_2 11 rfl rfl)
theorem dX13_workRuns_59 : decode cX13_workRuns 59 = .ok (.iload_n 3, 1) := dk_29 (dk_at dksX13_workRuns_2 13 rfl rfl)
theorem dX13_workRuns_60 : decode cX13_workRuns 60 = .ok (.iadd, 1) := dk_96 (dk_at dksX13_workRuns_2 14 rfl rfl)
theorem dX13_workRuns_61 : decode cX13_workRuns 61 = .ok (.iconst 3, 1) := dk_6 (dk_at dksX13_workRuns_2 15 rfl rfl)
theorem dX13_workRuns_62 : decode cX13_workRuns 62 = .ok (.irem, 1) := dk_112 (dk_at dksX13_workRuns_2 16 rfl rfl)
theorem dX13_workRuns_63 : decode cX13_workRuns 63 = .ok (.iadd, 1) := dk_96 (dk_at dksX13_workRuns_2 17 rfl rfl)
theorem dX13_workRuns_64 : decode cX13_workRuns 64 = .ok (.istore 5, 2) := dk_54 5 (dk_at dksX13_workRuns_2 18 rfl rfl)
theorem dX13_workRuns_66 : decode cX13_workRuns 66 = .ok (.aload_n 0, 1) := dk_42 (dk_at dksX13_workRuns_2 20 rfl rfl)
theorem dX13_workRuns_67 : decode cX13_workRuns 67 = .ok (.iconst 2, 1) := dk_5 (dk_at dksX13_workRuns_2 21 rfl rfl)
theorem dX13_workRuns_68 : decode cX13_workRuns 68 = .ok (.iload 4, 2) := dk_21 4 (dk_at dksX13_workRuns_2 22 rfl rfl)
theorem dX13_workRuns_70 : decode cX13_workRuns 70 = .ok (.iload_n 3, 1) := dk_29 (dk_at dksX13_workRuns_3 0 rfl rfl)
theorem dX13_workRuns_71 : decode cX13_workRuns 71 = .ok (.iadd, 1) := dk_96 (dk_at dksX13_workRuns_3 1 rfl rfl)
theorem dX13_workRuns_72 : decode cX13_workRuns 72 = .ok (.iconst 3, 1) := dk_6 (dk_at dksX13_workRuns_3 2 rfl rfl)
theorem dX13_workRuns_73 : decode cX13_workRuns 73 = .ok (.idiv, 1) := dk_108 (dk_at dksX13_workRuns_3 3 rfl rfl)
theorem dX13_workRuns_74 : decode cX13_workRuns 74 = .ok (.imul, 1) := dk_104 (dk_at dksX13_workRuns_3 4 rfl rfl)
theorem dX13_workRuns_75 : decode cX13_workRuns 75 = .ok (.aload_n 0, 1) := dk_42 (dk_at dksX13_workRuns_3 5 rfl rfl)
theorem dX13_workRuns_76 : decode cX13_workRuns 76 = .ok (.getfield 93, 3) := dk_180 0 93 (dk_at dksX13_workRuns_3 6 rfl rfl)
theorem dX13_workRuns_79 : decode cX13_workRuns 79 = .ok (.iload 5, 2) := dk_21 5 (dk_at dksX13_workRuns_3 9 rfl rfl)
theorem dX13_workRuns_81 : decode cX13_workRuns 81 = .ok (.iaload, 1) := dk_46 (dk_at dksX13_workRuns_3 11 rfl rfl)
theorem dX13_workRuns_82 : decode cX13_workRuns 82 = .ok (.iadd, 1) := dk_96 (dk_at dksX13_workRuns_3 12 rfl rfl)
theorem dX13_workRuns_83 : decode cX13_workRuns 83 = .ok (.aload_n 0, 1) := dk_42 (dk_at dksX13_workRuns_3 13 rfl rfl)
theorem dX13_workRuns_84 : decode cX13_workRuns 84 = .ok (.getfield 96, 3) := dk_180 0 96 (dk_at dksX13_workRuns_3 14 rfl rfl)
theorem dX13_workRuns_87 : decode cX13_workRuns 87 = .ok (.iload 5, 2) := dk_21 5 (dk_at dksX13_workRuns_3 17 rfl rfl)
theorem dX13_workRuns_89 : decode cX13_workRuns 89 = .ok (.iaload, 1) := dk_46 (dk_at dksX13_workRuns_3 19 rfl rfl)
theorem dX13_workRuns_90 : decode cX13_workRuns 90 = .ok (.invokevirtual 308, 3) := dk_182 1 52 (dk_at dksX13_workRuns_3 20 rfl rfl)
theorem dX13_workRuns_93 : decode cX13_workRuns 93 = .ok (.iload 4, 2) := dk_21 4 (dk_at dksX13_workRuns_4 0 rfl rfl)
theorem dX13_workRuns_95 : decode cX13_workRuns 95 = .ok (.ifCond .ne 12, 3) := dk_154 0 12 (dk_at dksX13_workRuns_4 2 rfl rfl)
theorem dX13_workRuns_98 : decode cX13_workRuns 98 = .ok (.aload_n 0, 1) := dk_42 (dk_at dksX13_workRuns_4 5 rfl rfl)
theorem dX13_workRuns_99 : decode cX13_workRuns 99 = .ok (.iload_n 1, 1) := dk_27 (dk_at dksX13_workRuns_4 6 rfl rfl)
theorem dX13_workRuns_100 : decode cX13_workRuns 100 = .ok (.iconst 0, 1) := dk_3 (dk_at dksX13_workRuns_4 7 rfl rfl)
theorem dX13_workRuns_101 : decode cX13_workRuns 101 = .ok (.invokevirtual 353, 3) := dk_182 1 97 (dk_at dksX13_workRuns_4 8 rfl rfl)
theorem dX13_workRuns_104 : decode cX13_workRuns 104 = .ok (.goto 21, 3) := dk_167 0 21 (dk_at dksX13_workRuns_4 11 rfl rfl)
theorem dX13_workRuns_107 : decode cX13_workRuns 107 = .ok (.iload 4, 2) := dk_21 4 (dk_at dksX13_workRuns_4 14 rfl rfl)
theorem dX13_workRuns_109 : decode cX13_workRuns 109 = .ok (.iconst 2, 1) := dk_5 (dk_at dksX13_workRuns_4 16 rfl rfl)
theorem dX13_workRuns_110 : decode cX13_workRuns 110 = .ok (.if_icmp .ne 15, 3) := dk_160 0 15 (dk_at dksX13_workRuns_4 17 rfl rfl)
theorem dX13_workRuns_113 : decode cX13_workRuns 113 = .ok (.iload_n 2, 1) := dk_28 (dk_at dksX13_workRuns_4 20 rfl rfl)
theorem dX13_workRuns_114 : decode cX13_workRuns 114 = .ok (.bipush 6, 2) := dk_16 6 (dk_at dksX13_workRuns_4 21 rfl rfl)
theorem dX13_workRuns_116 : decode cX13_workRuns 116 = .ok (.if_icmp .eq 9, 3) := dk_159 0 9 (dk_at dksX13_workRuns_5 0 rfl rfl)
theorem dX13_workRuns_119 : decode cX13_workRuns 119 = .ok (.aload_n 0, 1) := dk_42 (dk_at dksX13_workRuns_5 3 rfl rfl)
theorem dX13_workRuns_120 : decode cX13_workRuns 120 = .ok (.iload_n 1, 1) := dk_27 (dk_at dksX13_workRuns_5 4 rfl rfl)
theorem dX13_workRuns_121 : decode cX13_workRuns 121 = .ok (.iconst 2, 1) := dk_5 (dk_at dksX13_workRuns_5 5 rfl rfl)
theorem dX13_workRuns_122 : decode cX13_workRuns 122 = .ok (.invokevirtual 353, 3) := dk_182 1 97 (dk_at dksX13_workRuns_5 6 rfl rfl)
theorem dX13_workRuns_125 : decode cX13_workRuns 125 = .ok (.aload_n 0, 1) := dk_42 (dk_at dksX13_workRuns_5 9 rfl rfl)
theorem dX13_workRuns_126 : decode cX13_workRuns 126 = .ok (.getfield 93, 3) := dk_180 0 93 (dk_at dksX13_workRuns_5 10 rfl rfl)
theorem dX13_workRuns_129 : decode cX13_workRuns 129 = .ok (.iconst 3, 1) := dk_6 (dk_at dksX13_workRuns_5 13 rfl rfl)
theorem dX13_workRuns_130 : decode cX13_workRuns 130 = .ok (.iload_n 2, 1) := dk_28 (dk_at dksX13_workRuns_5 14 rfl rfl)
theorem dX13_workRuns_131 : decode cX13_workRuns 131 = .ok (.iconst 4, 1) := dk_7 (dk_at dksX13_workRuns_5 15 rfl rfl)
theorem dX13_workRuns_132 : decode cX13_workRuns 132 = .ok (.isub, 1) := dk_100 (dk_at dksX13_workRuns_5 16 rfl rfl)
theorem dX13_workRuns_133 : decode cX13_workRuns 133 = .ok (.imul, 1) := dk_104 (dk_at dksX13_workRuns_5 17 rfl rfl)
theorem dX13_workRuns_134 : decode cX13_workRuns 134 = .ok (.iload 4, 2) := dk_21 4 (dk_at dksX13_workRuns_5 18 rfl rfl)
theorem dX13_workRuns_136 : decode cX13_workRuns 136 = .ok (.iadd, 1) := dk_96 (dk_at dksX13_workRuns_5 20 rfl rfl)
theorem dX13_workRuns_137 : decode cX13_workRuns 137 = .ok (.aload_n 0, 1) := dk_42 (dk_at dksX13_workRuns_5 21 rfl rfl)
theorem dX13_workRuns_138 : decode cX13_workRuns 138 = .ok (.getfield 298, 3) := dk_180 1 42 (dk_at dksX13_workRuns_6 0 rfl rfl)
theorem dX13_workRuns_141 : decode cX13_workRuns 141 = .ok (.iastore, 1) := dk_79 (dk_at dksX13_workRuns_6 3 rfl rfl)
theorem dX13_workRuns_142 : decode cX13_workRuns 142 = .ok (.aload_n 0, 1) := dk_42 (dk_at dksX13_workRuns_6 4 rfl rfl)
theorem dX13_workRuns_143 : decode cX13_workRuns 143 = .ok (.getfield 96, 3) := dk_180 0 96 (dk_at dksX13_workRuns_6 5 rfl rfl)
theorem dX13_workRuns_146 : decode cX13_workRuns 146 = .ok (.iconst 3, 1) := dk_6 (dk_at dksX13_workRuns_6 8 rfl rfl)
theorem dX13_workRuns_147 : decode cX13_workRuns 147 = .ok (.iload_n 2, 1) := dk_28 (dk_at dksX13_workRuns_6 9 rfl rfl)
theorem dX13_workRuns_148 : decode cX13_workRuns 148 = .ok (.iconst 4, 1) := dk_7 (dk_at dksX13_workRuns_6 10 rfl rfl)
theorem dX13_workRuns_149 : decode cX13_workRuns 149 = .ok (.isub, 1) := dk_100 (dk_at dksX13_workRuns_6 11 rfl rfl)
theorem dX13_workRuns_150 : decode cX13_workRuns 150 = .ok (.imul, 1) := dk_104 (dk_at dksX13_workRuns_6 12 rfl rfl)
theorem dX13_workRuns_151 : decode cX13_workRuns 151 = .ok (.iload 4, 2) := dk_21 4 (dk_at dksX13_workRuns_6 13 rfl rfl)
theorem dX13_workRuns_153 : decode cX13_workRuns 153 = .ok (.iadd, 1) := dk_96 (dk_at dksX13_workRuns_6 15 rfl rfl)
theorem dX13_workRuns_154 : decode cX13_workRuns 154 = .ok (.aload_n 0, 1) := dk_42 (dk_at dksX13_workRuns_6 16 rfl rfl)
theorem dX13_workRuns_155 : decode cX13_workRuns 155 = .ok (.getfield 301, 3) := dk_180 1 45 (dk_at dksX13_workRuns_6 17 rfl rfl)
theorem dX13_workRuns_158 : decode cX13_workRuns 158 = .ok (.iastore, 1) := dk_79 (dk_at dksX13_workRuns_6 20 rfl rfl)
theorem dX13_workRuns_159 : decode cX13_workRuns 159 = .ok (.iinc 4 1, 3) := dk_132 4 1 (dk_at dksX13_workRuns_6 21 rfl rfl)
theorem dX13_workRuns_162 : decode cX13_workRuns 162 = .ok (.goto (-127), 3) := dk_167 255 129 (dk_at dksX13_workRuns_7 0 rfl rfl)
theorem dX13_workRuns_165 : decode cX13_workRuns 165 = .ok (.iinc 2 1, 3) := dk_132 2 1 (dk_at dksX13_workRuns_7 3 rfl rfl)
theorem dX13_workRuns_168 : decode cX13_workRuns 168 = .ok (.goto (-166), 3) := dk_167 255 90 (dk_at dksX13_workRuns_7 6 rfl rfl)
theorem dX13_workRuns_171 : decode cX13_workRuns 171 = .ok (.iconst 0, 1) := dk_3 (dk_at dksX13_workRuns_7 9 rfl rfl)
theorem dX13_workRuns_172 : decode cX13_workRuns 172 = .ok (.istore_n 2, 1) := dk_61 (dk_at dksX13_workRuns_7 10 rfl rfl)
theorem dX13_workRuns_173 : decode cX13_workRuns 173 = .ok (.iload_n 2, 1) := dk_28 (dk_at dksX13_workRuns_7 11 rfl rfl)
theorem dX13_workRuns_174 : decode cX13_workRuns 174 = .ok (.iconst 4, 1) := dk_7 (dk_at dksX13_workRuns_7 12 rfl rfl)
theorem dX13_workRuns_175 : decode cX13_workRuns 175 = .ok (.if_icmp .ge 101, 3) := dk_162 0 101 (dk_at dksX13_workRuns_7 13 rfl rfl)
theorem dX13_workRuns_178 : decode cX13_workRuns 178 = .ok (.aload_n 0, 1) := dk_42 (dk_at dksX13_workRuns_7 16 rfl rfl)
theorem dX13_workRuns_179 : decode cX13_workRuns 179 = .ok (.invokevirtual 344, 3) := dk_182 1 88 (dk_at dksX13_workRuns_7 17 rfl rfl)
theorem dX13_workRuns_182 : decode cX13_workRuns 182 = .ok (.iload_n 1, 1) := dk_27 (dk_at dksX13_workRuns_7 20 rfl rfl)
theorem dX13_workRuns_183 : decode cX13_workRuns 183 = .ok (.aload_n 0, 1) := dk_42 (dk_at dksX13_workRuns_7 21 rfl rfl)
theorem dX13_workRuns_184 : decode cX13_workRuns 184 = .ok (.getfield 134, 3) := dk_180 0 134 (dk_at dksX13_workRuns_8 0 rfl rfl)
theorem dX13_workRuns_187 : decode cX13_workRuns 187 = .ok (.if_icmp .ge 51, 3) := dk_162 0 51 (dk_at dksX13_workRuns_8 3 rfl rfl)
theorem dX13_workRuns_190 : decode cX13_workRuns 190 = .ok (.aload_n 0, 1) := dk_42 (dk_at dksX13_workRuns_8 6 rfl rfl)
theorem dX13_workRuns_191 : decode cX13_workRuns 191 = .ok (.getfield 38, 3) := dk_180 0 38 (dk_at dksX13_workRuns_8 7 rfl rfl)
theorem dX13_workRuns_194 : decode cX13_workRuns 194 = .ok (.iload_n 1, 1) := dk_27 (dk_at dksX13_workRuns_8 10 rfl rfl)
theorem dX13_workRuns_195 : decode cX13_workRuns 195 = .ok (.iaload, 1) := dk_46 (dk_at dksX13_workRuns_8 11 rfl rfl)
theorem dX13_workRuns_196 : decode cX13_workRuns 196 = .ok (.invokestatic 350, 3) := dk_184 1 94 (dk_at dksX13_workRuns_8 12 rfl rfl)
theorem dX13_workRuns_199 : decode cX13_workRuns 199 = .ok (.ifCond .eq 39, 3) := dk_153 0 39 (dk_at dksX13_workRuns_8 15 rfl rfl)
theorem dX13_workRuns_202 : decode cX13_workRuns 202 = .ok (.bipush 22, 2) := dk_16 22 (dk_at dksX13_workRuns_8 18 rfl rfl)
theorem dX13_workRuns_204 : decode cX13_workRuns 204 = .ok (.iload_n 2, 1) := dk_28 (dk_at dksX13_workRuns_8 20 rfl rfl)
theorem dX13_workRuns_205 : decode cX13_workRuns 205 = .ok (.iconst 1, 1) := dk_4 (dk_at dksX13_workRuns_8 21 rfl rfl)
theorem dX13_workRuns_206 : decode cX13_workRuns 206 = .ok (.iadd, 1) := dk_96 (dk_at dksX13_workRuns_8 22 rfl rfl)
theorem dX13_workRuns_207 : decode cX13_workRuns 207 = .ok (.iconst 4, 1) := dk_7 (dk_at dksX13_workRuns_8 23 rfl rfl)
theorem dX13_workRuns_208 : decode cX13_workRuns 208 = .ok (.irem, 1) := dk_112 (dk_at dksX13_workRuns_9 0 rfl rfl)
theorem dX13_workRuns_209 : decode cX13_workRuns 209 = .ok (.iadd, 1) := dk_96 (dk_at dksX13_workRuns_9 1 rfl rfl)
theorem dX13_workRuns_210 : decode cX13_workRuns 210 = .ok (.istore_n 3, 1) := dk_62 (dk_at dksX13_workRuns_9 2 rfl rfl)
theorem dX13_workRuns_211 : decode cX13_workRuns 211 = .ok (.aload_n 0, 1) := dk_42 (dk_at dksX13_workRuns_9 3 rfl rfl)
theorem dX13_workRuns_212 : decode cX13_workRuns 212 = .ok (.iload_n 2, 1) := dk_28 (dk_at dksX13_workRuns_9 4 rfl rfl)
theorem dX13_workRuns_213 : decode cX13_workRuns 213 = .ok (.iconst 3, 1) := dk_6 (dk_at dksX13_workRuns_9 5 rfl rfl)
theorem dX13_workRuns_214 : decode cX13_workRuns 214 = .ok (.if_icmp .ne 7, 3) := dk_160 0 7 (dk_at dksX13_workRuns_9 6 rfl rfl)
theorem dX13_workRuns_217 : decode cX13_workRuns 217 = .ok (.iconst 3, 1) := dk_6 (dk_at dksX13_workRuns_9 9 rfl rfl)
theorem dX13_workRuns_218 : decode cX13_workRuns 218 = .ok (.goto 4, 3) := dk_167 0 4 (dk_at dksX13_workRuns_9 10 rfl rfl)
theorem dX13_workRuns_221 : decode cX13_workRuns 221 = .ok (.iconst 0, 1) := dk_3 (dk_at dksX13_workRuns_9 13 rfl rfl)
theorem dX13_workRuns_222 : decode cX13_workRuns 222 = .ok (.aload_n 0, 1) := dk_42 (dk_at dksX13_workRuns_9 14 rfl rfl)
theorem dX13_workRuns_223 : decode cX13_workRuns 223 = .ok (.getfield 93, 3) := dk_180 0 93 (dk_at dksX13_workRuns_9 15 rfl rfl)
theorem dX13_workRuns_226 : decode cX13_workRuns 226 = .ok (.iload_n 3, 1) := dk_29 (dk_at dksX13_workRuns_9 18 rfl rfl)
theorem dX13_workRuns_227 : decode cX13_workRuns 227 = .ok (.iaload, 1) := dk_46 (dk_at dksX13_workRuns_9 19 rfl rfl)
theorem dX13_workRuns_228 : decode cX13_workRuns 228 = .ok (.iadd, 1) := dk_96 (dk_at dksX13_workRuns_9 20 rfl rfl)
theorem dX13_workRuns_229 : decode cX13_workRuns 229 = .ok (.aload_n 0, 1) := dk_42 (dk_at dksX13_workRuns_9 21 rfl rfl)
theorem dX13_workRuns_230 : decode cX13_workRuns 230 = .ok (.getfield 96, 3) := dk_180 0 96 (dk_at dksX13_workRuns_10 0 rfl rfl)
theorem dX13_workRuns_233 : decode cX13_workRuns 233 = .ok (.iload_n 3, 1) := dk_29 (dk_at dksX13_workRuns_10 3 rfl rfl)
theorem dX13_workRuns_234 : decode cX13_workRuns 234 = .ok (.iaload, 1) := dk_46 (dk_at dksX13_workRuns_10 4 rfl rfl)
theorem dX13_workRuns_235 : decode cX13_workRuns 235 = .ok (.invokevirtual 308, 3) := dk_182 1 52 (dk_at dksX13_workRuns_10 5 rfl rfl)
theorem dX13_workRuns_238 : decode cX13_workRuns 238 = .ok (.aload_n 0, 1) := dk_42 (dk_at dksX13_workRuns_10 8 rfl rfl)
theorem dX13_workRuns_239 : decode cX13_workRuns 239 = .ok (.iload_n 1, 1) := dk_27 (dk_at dksX13_workRuns_10 9 rfl rfl)
theorem dX13_workRuns_240 : decode cX13_workRuns 240 = .ok (.iload_n 2, 1) := dk_28 (dk_at dksX13_workRuns_10 10 rfl rfl)
theorem dX13_workRuns_241 : decode cX13_workRuns 241 = .ok (.invokevirtual 356, 3) := dk_182 1 100 (dk_at dksX13_workRuns_10 11 rfl rfl)
theorem dX13_workRuns_244 : decode cX13_workRuns 244 = .ok (.aload_n 0, 1) := dk_42 (dk_at dksX13_workRuns_10 14 rfl rfl)
theorem dX13_workRuns_245 : decode cX13_workRuns 245 = .ok (.getfield 93, 3) := dk_180 0 93 (dk_at dksX13_workRuns_10 15 rfl rfl)
theorem dX13_workRuns_248 : decode cX13_workRuns 248 = .ok (.bipush 9, 2) := dk_16 9 (dk_at dksX13_workRuns_10 18 rfl rfl)
theorem dX13_workRuns_250 : decode cX13_workRuns 250 = .ok (.iload_n 2, 1) := dk_28 (dk_at dksX13_workRuns_10 20 rfl rfl)
theorem dX13_workRuns_251 : decode cX13_workRuns 251 = .ok (.iadd, 1) := dk_96 (dk_at dksX13_workRuns_10 21 rfl rfl)
theorem dX13_workRuns_252 : decode cX13_workRuns 252 = .ok (.aload_n 0, 1) := dk_42 (dk_at dksX13_workRuns_10 22 rfl rfl)
theorem dX13_workRuns_253 : decode cX13_workRuns 253 = .ok (.getfield 298, 3) := dk_180 1 42 (dk_at dksX13_workRuns_11 0 rfl rfl)
theorem dX13_workRuns_256 : decode cX13_workRuns 256 = .ok (.iastore, 1) := dk_79 (dk_at dksX13_workRuns_11 3 rfl rfl)
theorem dX13_workRuns_257 : decode cX13_workRuns 257 = .ok (.aload_n 0, 1) := dk_42 (dk_at dksX13_workRuns_11 4 rfl rfl)
theorem dX13_workRuns_258 : decode cX13_workRuns 258 = .ok (.getfield 96, 3) := dk_180 0 96 (dk_at dksX13_workRuns_11 5 rfl rfl)
theorem dX13_workRuns_261 : decode cX13_workRuns 261 = .ok (.bipush 9, 2) := dk_16 9 (dk_at dksX13_workRuns_11 8 rfl rfl)
theorem dX13_workRuns_263 : decode cX13_workRuns 263 = .ok (.iload_n 2, 1) := dk_28 (dk_at dksX13_workRuns_11 10 rfl rfl)
theorem dX13_workRuns_264 : decode cX13_workRuns 264 = .ok (.iadd, 1) := dk_96 (dk_at dksX13_workRuns_11 11 rfl rfl)
theorem dX13_workRuns_265 : decode cX13_workRuns 265 = .ok (.aload_n 0, 1) := dk_42 (dk_at dksX13_workRuns_11 12 rfl rfl)
theorem dX13_workRuns_266 : decode cX13_workRuns 266 = .ok (.getfield 301, 3) := dk_180 1 45 (dk_at dksX13_workRuns_11 13 rfl rfl)
theorem dX13_workRuns_269 : decode cX13_workRuns 269 = .ok (.iastore, 1) := dk_79 (dk_at dksX13_workRuns_11 16 rfl rfl)
theorem dX13_workRuns_270 : decode cX13_workRuns 270 = .ok (.iinc 2 1, 3) := dk_132 2 1 (dk_at dksX13_workRuns_11 17 rfl rfl)
theorem dX13_workRuns_273 : decode cX13_workRuns 273 = .ok (.goto (-100), 3) := dk_167 255 156 (dk_at dksX13_workRuns_11 20 rfl rfl)
theorem dX13_workRuns_276 : decode cX13_workRuns 276 = .ok (.iconst 0, 1) := dk_3 (dk_at dksX13_workRuns_11 23 rfl rfl)
theorem dX13_workRuns_277 : decode cX13_workRuns 277 = .ok (.istore_n 2, 1) := dk_61 (dk_at dksX13_workRuns_12 0 rfl rfl)
theorem dX13_workRuns_278 : decode cX13_workRuns 278 = .ok (.iload_n 2, 1) := dk_28 (dk_at dksX13_workRuns_12 1 rfl rfl)
theorem dX13_workRuns_279 : decode cX13_workRuns 279 = .ok (.bipush 13, 2) := dk_16 13 (dk_at dksX13_workRuns_12 2 rfl rfl)
theorem dX13_workRuns_281 : decode cX13_workRuns 281 = .ok (.if_icmp .ge 39, 3) := dk_162 0 39 (dk_at dksX13_workRuns_12 4 rfl rfl)
theorem dX13_workRuns_284 : decode cX13_workRuns 284 = .ok (.aload_n 0, 1) := dk_42 (dk_at dksX13_workRuns_12 7 rfl rfl)
theorem dX13_workRuns_285 : decode cX13_workRuns 285 = .ok (.getfield 93, 3) := dk_180 0 93 (dk_at dksX13_workRuns_12 8 rfl rfl)
theorem dX13_workRuns_288 : decode cX13_workRuns 288 = .ok (.bipush 13, 2) := dk_16 13 (dk_at dksX13_workRuns_12 11 rfl rfl)
theorem dX13_workRuns_290 : decode cX13_workRuns 290 = .ok (.iload_n 2, 1) := dk_28 (dk_at dksX13_workRuns_12 13 rfl rfl)
theorem dX13_workRuns_291 : decode cX13_workRuns 291 = .ok (.iadd, 1) := dk_96 (dk_at dksX13_workRuns_12 14 rfl rfl)
theorem dX13_workRuns_292 : decode cX13_workRuns 292 = .ok (.aload_n 0, 1) := dk_42 (dk_at dksX13_workRuns_12 15 rfl rfl)
theorem dX13_workRuns_293 : decode cX13_workRuns 293 = .ok (.getfield 93, 3) := dk_180 0 93 (dk_at dksX13_workRuns_12 16 rfl rfl)
theorem dX13_workRuns_296 : decode cX13_workRuns 296 = .ok (.iload_n 2, 1) := dk_28 (dk_at dksX13_workRuns_12 19 rfl rfl)
theorem dX13_workRuns_297 : decode cX13_workRuns 297 = .ok (.iaload, 1) := dk_46 (dk_at dksX13_workRuns_12 20 rfl rfl)
theorem dX13_workRuns_298 : decode cX13_workRuns 298 = .ok (.iastore, 1) := dk_79 (dk_at dksX13_workRuns_12 21 rfl rfl)
theorem dX13_workRuns_299 : decode cX13_workRuns 299 = .ok (.aload_n 0, 1) := dk_42 (dk_at dksX13_workRuns_12 22 rfl rfl)
theorem dX13_workRuns_300 : decode cX13_workRuns 300 = .ok (.getfield 96, 3) := dk_180 0 96 (dk_at dksX13_workRuns_13 0 rfl rfl)
theorem dX13_workRuns_303 : decode cX13_workRuns 303 = .ok (.bipush 13, 2) := dk_16 13 (dk_at dksX13_workRuns_13 3 rfl rfl)
theorem dX13_workRuns_305 : decode cX13_workRuns 305 = .ok (.iload_n 2, 1) := dk_28 (dk_at dksX13_workRuns_13 5 rfl rfl)
theorem dX13_workRuns_306 : decode cX13_workRuns 306 = .ok (.iadd, 1) := dk_96 (dk_at dksX13_workRuns_13 6 rfl rfl)
theorem dX13_workRuns_307 : decode cX13_workRuns 307 = .ok (.aload_n 0, 1) := dk_42 (dk_at dksX13_workRuns_13 7 rfl rfl)
theorem dX13_workRuns_308 : decode cX13_workRuns 308 = .ok (.getfield 96, 3) := dk_180 0 96 (dk_at dksX13_workRuns_13 8 rfl rfl)
theorem dX13_workRuns_311 : decode cX13_workRuns 311 = .ok (.iload_n 2, 1) := dk_28 (dk_at dksX13_workRuns_13 11 rfl rfl)
theorem dX13_workRuns_312 : decode cX13_workRuns 312 = .ok (.iaload, 1) := dk_46 (dk_at dksX13_workRuns_13 12 rfl rfl)
theorem dX13_workRuns_313 : decode cX13_workRuns 313 = .ok (.iastore, 1) := dk_79 (dk_at dksX13_workRuns_13 13 rfl rfl)
theorem dX13_workRuns_314 : decode cX13_workRuns 314 = .ok (.iinc 2 1, 3) := dk_132 2 1 (dk_at dksX13_workRuns_13 14 rfl rfl)
theorem dX13_workRuns_317 : decode cX13_workRuns 317 = .ok (.goto (-39), 3) := dk_167 255 217 (dk_at dksX13_workRuns_13 17 rfl rfl)
theorem dX13_workRuns_320 : decode cX13_workRuns 320 = .ok (.return_, 1) := dk_177 (dk_at dksX13_workRuns_13 20 rfl rfl)
abbrev cX13_endThrees : ByteArray := prog_16_method_62_code
def yX13_endThrees : MethodName := ⟨RX13, "endThrees", "(II)V"⟩
def dkwX13_endThrees_0 : List UInt8 := [42, 27, 28, 4, 96, 4, 42, 180, 1, 61, 100, 182, 1, 70, 42, 27, 28, 4, 182, 1, 73, 177]
abbrev dktX13_endThrees_0 : List UInt8 := dkwX13_endThrees_0 ++ []
theorem dksX13_endThrees_0 : cX13_endThrees.data.toList.drop 0 = dktX13_endThrees_0 := by decide +kernel
theorem dX13_endThrees_0 : decode cX13_endThrees 0 = .ok (.aload_n 0, 1) := dk_42 (dk_at dksX13_endThrees_0 0 rfl rfl)
theorem dX13_endThrees_1 : decode cX13_endThrees 1 = .ok (.iload_n 1, 1) := dk_27 (dk_at dksX13_endThrees_0 1 rfl rfl)
theorem dX13_endThrees_2 : decode cX13_endThrees 2 = .ok (.iload_n 2, 1) := dk_28 (dk_at dksX13_endThrees_0 2 rfl rfl)
theorem dX13_endThrees_3 : decode cX13_endThrees 3 = .ok (.iconst 1, 1) := dk_4 (dk_at dksX13_endThrees_0 3 rfl rfl)
theorem dX13_endThrees_4 : decode cX13_endThrees 4 = .ok (.iadd, 1) := dk_96 (dk_at dksX13_endThrees_0 4 rfl rfl)
theorem dX13_endThrees_5 : decode cX13_endThrees 5 = .ok (.iconst 1, 1) := dk_4 (dk_at dksX13_endThrees_0 5 rfl rfl)
theorem dX13_endThrees_6 : decode cX13_endThrees 6 = .ok (.aload_n 0, 1) := dk_42 (dk_at dksX13_endThrees_0 6 rfl rfl)
theorem dX13_endThrees_7 : decode cX13_endThrees 7 = .ok (.getfield 317, 3) := dk_180 1 61 (dk_at dksX13_endThrees_0 7 rfl rfl)
theorem dX13_endThrees_10 : decode cX13_endThrees 10 = .ok (.isub, 1) := dk_100 (dk_at dksX13_endThrees_0 10 rfl rfl)
theorem dX13_endThrees_11 : decode cX13_endThrees 11 = .ok (.invokevirtual 326, 3) := dk_182 1 70 (dk_at dksX13_endThrees_0 11 rfl rfl)
theorem dX13_endThrees_14 : decode cX13_endThrees 14 = .ok (.aload_n 0, 1) := dk_42 (dk_at dksX13_endThrees_0 14 rfl rfl)
theorem dX13_endThrees_15 : decode cX13_endThrees 15 = .ok (.iload_n 1, 1) := dk_27 (dk_at dksX13_endThrees_0 15 rfl rfl)
theorem dX13_endThrees_16 : decode cX13_endThrees 16 = .ok (.iload_n 2, 1) := dk_28 (dk_at dksX13_endThrees_0 16 rfl rfl)
theorem dX13_endThrees_17 : decode cX13_endThrees 17 = .ok (.iconst 1, 1) := dk_4 (dk_at dksX13_endThrees_0 17 rfl rfl)
theorem dX13_endThrees_18 : decode cX13_endThrees 18 = .ok (.invokevirtual 329, 3) := dk_182 1 73 (dk_at dksX13_endThrees_0 18 rfl rfl)
theorem dX13_endThrees_21 : decode cX13_endThrees 21 = .ok (.return_, 1) := dk_177 (dk_at dksX13_endThrees_0 21 rfl rfl)
abbrev cX13_offerOpen : ByteArray := prog_16_method_61_code
def yX13_offerOpen : MethodName := ⟨RX13, "offerOpen", "(III)V"⟩
def dkwX13_offerOpen_1 : List UInt8 := [21, 4, 182, 1, 67, 153, 0, 12, 42, 21, 4, 28, 96, 4, 182, 1, 52, 132, 4, 1, 167, 255, 216, 177]
abbrev dktX13_offerOpen_1 : List UInt8 := dkwX13_offerOpen_1 ++ []
def dkwX13_offerOpen_0 : List UInt8 := [3, 54, 4, 21, 4, 29, 42, 180, 1, 61, 100, 163, 0, 35, 42, 180, 1, 64, 154, 0, 28, 42, 27]
abbrev dktX13_offerOpen_0 : List UInt8 := dkwX13_offerOpen_0 ++ dktX13_offerOpen_1
theorem dksX13_offerOpen_0 : cX13_offerOpen.data.toList.drop 0 = dktX13_offerOpen_0 := by decide +kernel
theorem dksX13_offerOpen_1 : cX13_offerOpen.data.toList.drop 23 = dktX13_offerOpen_1 := dk_seg dksX13_offerOpen_0 23 rfl rfl
theorem dX13_offerOpen_0 : decode cX13_offerOpen 0 = .ok (.iconst 0, 1) := dk_3 (dk_at dksX13_offerOpen_0 0 rfl rfl)
theorem dX13_offerOpen_1 : decode cX13_offerOpen 1 = .ok (.istore 4, 2) := dk_54 4 (dk_at dksX13_offerOpen_0 1 rfl rfl)
theorem dX13_offerOpen_3 : decode cX13_offerOpen 3 = .ok (.iload 4, 2) := dk_21 4 (dk_at dksX13_offerOpen_0 3 rfl rfl)
theorem dX13_offerOpen_5 : decode cX13_offerOpen 5 = .ok (.iload_n 3, 1) := dk_29 (dk_at dksX13_offerOpen_0 5 rfl rfl)
theorem dX13_offerOpen_6 : decode cX13_offerOpen 6 = .ok (.aload_n 0, 1) := dk_42 (dk_at dksX13_offerOpen_0 6 rfl rfl)
theorem dX13_offerOpen_7 : decode cX13_offerOpen 7 = .ok (.getfield 317, 3) := dk_180 1 61 (dk_at dksX13_offerOpen_0 7 rfl rfl)
theorem dX13_offerOpen_10 : decode cX13_offerOpen 10 = .ok (.isub, 1) := dk_100 (dk_at dksX13_offerOpen_0 10 rfl rfl)
theorem dX13_offerOpen_11 : decode cX13_offerOpen 11 = .ok (.if_icmp .gt 35, 3) := dk_163 0 35 (dk_at dksX13_offerOpen_0 11 rfl rfl)
theorem dX13_offerOpen_14 : decode cX13_offerOpen 14 = .ok (.aload_n 0, 1) := dk_42 (dk_at dksX13_offerOpen_0 14 rfl rfl)
theorem dX13_offerOpen_15 : decode cX13_offerOpen 15 = .ok (.getfield 320, 3) := dk_180 1 64 (dk_at dksX13_offerOpen_0 15 rfl rfl)
theorem dX13_offerOpen_18 : decode cX13_offerOpen 18 = .ok (.ifCond .ne 28, 3) := dk_154 0 28 (dk_at dksX13_offerOpen_0 18 rfl rfl)
theorem dX13_offerOpen_21 : decode cX13_offerOpen 21 = .ok (.aload_n 0, 1) := dk_42 (dk_at dksX13_offerOpen_0 21 rfl rfl)
theorem dX13_offerOpen_22 : decode cX13_offerOpen 22 = .ok (.iload_n 1, 1) := dk_27 (dk_at dksX13_offerOpen_0 22 rfl rfl)
theorem dX13_offerOpen_23 : decode cX13_offerOpen 23 = .ok (.iload 4, 2) := dk_21 4 (dk_at dksX13_offerOpen_1 0 rfl rfl)
theorem dX13_offerOpen_25 : decode cX13_offerOpen 25 = .ok (.invokevirtual 323, 3) := dk_182 1 67 (dk_at dksX13_offerOpen_1 2 rfl rfl)
theorem dX13_offerOpen_28 : decode cX13_offerOpen 28 = .ok (.ifCond .eq 12, 3) := dk_153 0 12 (dk_at dksX13_offerOpen_1 5 rfl rfl)
theorem dX13_offerOpen_31 : decode cX13_offerOpen 31 = .ok (.aload_n 0, 1) := dk_42 (dk_at dksX13_offerOpen_1 8 rfl rfl)
theorem dX13_offerOpen_32 : decode cX13_offerOpen 32 = .ok (.iload 4, 2) := dk_21 4 (dk_at dksX13_offerOpen_1 9 rfl rfl)
theorem dX13_offerOpen_34 : decode cX13_offerOpen 34 = .ok (.iload_n 2, 1) := dk_28 (dk_at dksX13_offerOpen_1 11 rfl rfl)
theorem dX13_offerOpen_35 : decode cX13_offerOpen 35 = .ok (.iadd, 1) := dk_96 (dk_at dksX13_offerOpen_1 12 rfl rfl)
theorem dX13_offerOpen_36 : decode cX13_offerOpen 36 = .ok (.iconst 1, 1) := dk_4 (dk_at dksX13_offerOpen_1 13 rfl rfl)
theorem dX13_offerOpen_37 : decode cX13_offerOpen 37 = .ok (.invokevirtual 308, 3) := dk_182 1 52 (dk_at dksX13_offerOpen_1 14 rfl rfl)
theorem dX13_offerOpen_40 : decode cX13_offerOpen 40 = .ok (.iinc 4 1, 3) := dk_132 4 1 (dk_at dksX13_offerOpen_1 17 rfl rfl)
theorem dX13_offerOpen_43 : decode cX13_offerOpen 43 = .ok (.goto (-40), 3) := dk_167 255 216 (dk_at dksX13_offerOpen_1 20 rfl rfl)
theorem dX13_offerOpen_46 : decode cX13_offerOpen 46 = .ok (.return_, 1) := dk_177 (dk_at dksX13_offerOpen_1 23 rfl rfl)
abbrev cX13_isTail : ByteArray := prog_16_method_58_code
def yX13_isTail : MethodName := ⟨RX13, "isTail", "(II)Z"⟩
def dkwX13_isTail_9 : List UInt8 := [160, 0, 18, 42, 180, 0, 38, 27, 46, 16, 127, 164, 0, 7, 4, 167, 0, 4, 3, 172]
abbrev dktX13_isTail_9 : List UInt8 := dkwX13_isTail_9 ++ []
def dkwX13_isTail_8 : List UInt8 := [180, 0, 134, 160, 0, 13, 42, 27, 4, 96, 182, 1, 55, 154, 0, 24, 27, 4, 96, 42, 180, 0, 134]
abbrev dktX13_isTail_8 : List UInt8 := dkwX13_isTail_8 ++ dktX13_isTail_9
def dkwX13_isTail_7 : List UInt8 := [180, 0, 134, 160, 0, 17, 42, 180, 0, 38, 27, 4, 96, 46, 17, 0, 128, 161, 0, 44, 27, 6, 96, 42]
abbrev dktX13_isTail_7 : List UInt8 := dkwX13_isTail_7 ++ dktX13_isTail_8
def dkwX13_isTail_6 : List UInt8 := [17, 0, 128, 161, 0, 80, 42, 180, 0, 38, 27, 46, 17, 0, 128, 162, 0, 47, 27, 5, 96, 42]
abbrev dktX13_isTail_6 : List UInt8 := dkwX13_isTail_6 ++ dktX13_isTail_7
def dkwX13_isTail_5 : List UInt8 := [182, 1, 55, 154, 0, 104, 27, 6, 96, 42, 180, 0, 134, 160, 0, 17, 42, 180, 0, 38, 27, 5, 96, 46]
abbrev dktX13_isTail_5 : List UInt8 := dkwX13_isTail_5 ++ dktX13_isTail_6
def dkwX13_isTail_4 : List UInt8 := [167, 0, 4, 3, 172, 29, 153, 0, 47, 27, 7, 96, 42, 180, 0, 134, 160, 0, 13, 42, 27, 5, 96]
abbrev dktX13_isTail_4 : List UInt8 := dkwX13_isTail_4 ++ dktX13_isTail_5
def dkwX13_isTail_3 : List UInt8 := [4, 96, 42, 180, 0, 134, 160, 0, 19, 42, 180, 0, 38, 27, 46, 17, 0, 128, 162, 0, 7, 4]
abbrev dktX13_isTail_3 : List UInt8 := dkwX13_isTail_3 ++ dktX13_isTail_4
def dkwX13_isTail_2 : List UInt8 := [182, 1, 55, 62, 28, 4, 160, 0, 45, 29, 153, 0, 13, 27, 5, 96, 42, 180, 0, 134, 159, 0, 25, 27]
abbrev dktX13_isTail_2 : List UInt8 := dkwX13_isTail_2 ++ dktX13_isTail_3
def dkwX13_isTail_1 : List UInt8 := [4, 167, 0, 4, 3, 172, 28, 155, 0, 13, 42, 180, 0, 134, 27, 100, 7, 164, 0, 5, 3, 172, 42, 27]
abbrev dktX13_isTail_1 : List UInt8 := dkwX13_isTail_1 ++ dktX13_isTail_2
def dkwX13_isTail_0 : List UInt8 := [28, 153, 0, 11, 27, 42, 180, 0, 134, 161, 0, 21, 28, 154, 0, 15, 27, 42, 180, 0, 134, 160, 0, 7]
abbrev dktX13_isTail_0 : List UInt8 := dkwX13_isTail_0 ++ dktX13_isTail_1
theorem dksX13_isTail_0 : cX13_isTail.data.toList.drop 0 = dktX13_isTail_0 := by decide +kernel
theorem dksX13_isTail_1 : cX13_isTail.data.toList.drop 24 = dktX13_isTail_1 := dk_seg dksX13_isTail_0 24 rfl rfl
theorem dksX13_isTail_2 : cX13_isTail.data.toList.drop 48 = dktX13_isTail_2 := dk_seg dksX13_isTail_1 24 rfl rfl
theorem dksX13_isTail_3 : cX13_isTail.data.toList.drop 72 = dktX13_isTail_3 := dk_seg dksX13_isTail_2 24 rfl rfl
theorem dksX13_isTail_4 : cX13_isTail.data.toList.drop 94 = dktX13_isTail_4 := dk_seg dksX13_isTail_3 22 rfl rfl
theorem dksX13_isTail_5 : cX13_isTail.data.toList.drop 117 = dktX13_isTail_5 := dk_seg dksX13_isTail_4 23 rfl rfl
theorem dksX13_isTail_6 : cX13_isTail.data.toList.drop 141 = dktX13_isTail_6 := dk_seg dksX13_isTail_5 24 rfl rfl
theorem dksX13_isTail_7 : cX13_isTail.data.toList.drop 163 = dktX13_isTail_7 := dk_seg dksX13_isTail_6 22 rfl rfl
theorem dksX13_isTail_8 : cX13_isTail.data.toList.drop 187 = dktX13_isTail_8 := dk_seg dksX13_isTail_7 24 rfl rfl
theorem dksX13_isTail_9 : cX13_isTail.data.toList.drop 210 = dktX13_isTail_9 := dk_seg dksX13_isTail_8 23 rfl rfl
theorem dX13_isTail_0 : decode cX13_isTail 0 = .ok (.iload_n 2, 1) := dk_28 (dk_at dksX13_isTail_0 0 rfl rfl)
theorem dX13_isTail_1 : decode cX13_isTail 1 = .ok (.ifCond .eq 11, 3) := dk_153 0 11 (dk_at dksX13_isTail_0 1 rfl rfl)
theorem dX13_isTail_4 : decode cX13_isTail 4 = .ok (.iload_n 1, 1) := dk_27 (dk_at dksX13_isTail_0 4 rfl rfl)
theorem dX13_isTail_5 : decode cX13_isTail 5 = .ok (.aload_n 0, 1) := dk_42 (dk_at dksX13_isTail_0 5 rfl rfl)
theorem dX13_isTail_6 : decode cX13_isTail 6 = .ok (.getfield 134, 3) := dk_180 0 134 (dk_at dksX13_isTail_0 6 rfl rfl)
theorem dX13_isTail_9 : decode cX13_isTail 9 = .ok (.if_icmp .lt 21, 3) := dk_161 0 21 (dk_at dksX13_isTail_0 9 rfl rfl)
theorem dX13_isTail_12 : decode cX13_isTail 12 = .ok (.iload_n 2, 1) := dk_28 (dk_at dksX13_isTail_0 12 rfl rfl)
theorem dX13_isTail_13 : decode cX13_isTail 13 = .ok (.ifCond .ne 15, 3) := dk_154 0 15 (dk_at dksX13_isTail_0 13 rfl rfl)
theorem dX13_isTail_16 : decode cX13_isTail 16 = .ok (.iload_n 1, 1) := dk_27 (dk_at dksX13_isTail_0 16 rfl rfl)
theorem dX13_isTail_17 : decode cX13_isTail 17 = .ok (.aload_n 0, 1) := dk_42 (dk_at dksX13_isTail_0 17 rfl rfl)
theorem dX13_isTail_18 : decode cX13_isTail 18 = .ok (.getfield 134, 3) := dk_180 0 134 (dk_at dksX13_isTail_0 18 rfl rfl)
theorem dX13_isTail_21 : decode cX13_isTail 21 = .ok (.if_icmp .ne 7, 3) := dk_160 0 7 (dk_at dksX13_isTail_0 21 rfl rfl)
theorem dX13_isTail_24 : decode cX13_isTail 24 = .ok (.iconst 1, 1) := dk_4 (dk_at dksX13_isTail_1 0 rfl rfl)
theorem dX13_isTail_25 : decode cX13_isTail 25 = .ok (.goto 4, 3) := dk_167 0 4 (dk_at dksX13_isTail_1 1 rfl rfl)
theorem dX13_isTail_28 : decode cX13_isTail 28 = .ok (.iconst 0, 1) := dk_3 (dk_at dksX13_isTail_1 4 rfl rfl)
theorem dX13_isTail_29 : decode cX13_isTail 29 = .ok (.ireturn, 1) := dk_172 (dk_at dksX13_isTail_1 5 rfl rfl)
theorem dX13_isTail_30 : decode cX13_isTail 30 = .ok (.iload_n 2, 1) := dk_28 (dk_at dksX13_isTail_1 6 rfl rfl)
theorem dX13_isTail_31 : decode cX13_isTail 31 = .ok (.ifCond .lt 13, 3) := dk_155 0 13 (dk_at dksX13_isTail_1 7 rfl rfl)
theorem dX13_isTail_34 : decode cX13_isTail 34 = .ok (.aload_n 0, 1) := dk_42 (dk_at dksX13_isTail_1 10 rfl rfl)
theorem dX13_isTail_35 : decode cX13_isTail 35 = .ok (.getfield 134, 3) := dk_180 0 134 (dk_at dksX13_isTail_1 11 rfl rfl)
theorem dX13_isTail_38 : decode cX13_isTail 38 = .ok (.iload_n 1, 1) := dk_27 (dk_at dksX13_isTail_1 14 rfl rfl)
theorem dX13_isTail_39 : decode cX13_isTail 39 = .ok (.isub, 1) := dk_100 (dk_at dksX13_isTail_1 15 rfl rfl)
theorem dX13_isTail_40 : decode cX13_isTail 40 = .ok (.iconst 4, 1) := dk_7 (dk_at dksX13_isTail_1 16 rfl rfl)
theorem dX13_isTail_41 : decode cX13_isTail 41 = .ok (.if_icmp .le 5, 3) := dk_164 0 5 (dk_at dksX13_isTail_1 17 rfl rfl)
theorem dX13_isTail_44 : decode cX13_isTail 44 = .ok (.iconst 0, 1) := dk_3 (dk_at dksX13_isTail_1 20 rfl rfl)
theorem dX13_isTail_45 : decode cX13_isTail 45 = .ok (.ireturn, 1) := dk_172 (dk_at dksX13_isTail_1 21 rfl rfl)
theorem dX13_isTail_46 : decode cX13_isTail 46 = .ok (.aload_n 0, 1) := dk_42 (dk_at dksX13_isTail_1 22 rfl rfl)
theorem dX13_isTail_47 : decode cX13_isTail 47 = .ok (.iload_n 1, 1) := dk_27 (dk_at dksX13_isTail_1 23 rfl rfl)
theorem dX13_isTail_48 : decode cX13_isTail 48 = .ok (.invokevirtual 311, 3) := dk_182 1 55 (dk_at dksX13_isTail_2 0 rfl rfl)
theorem dX13_isTail_51 : decode cX13_isTail 51 = .ok (.istore_n 3, 1) := dk_62 (dk_at dksX13_isTail_2 3 rfl rfl)
theorem dX13_isTail_52 : decode cX13_isTail 52 = .ok (.iload_n 2, 1) := dk_28 (dk_at dksX13_isTail_2 4 rfl rfl)
theorem dX13_isTail_53 : decode cX13_isTail 53 = .ok (.iconst 1, 1) := dk_4 (dk_at dksX13_isTail_2 5 rfl rfl)
theorem dX13_isTail_54 : decode cX13_isTail 54 = .ok (.if_icmp .ne 45, 3) := dk_160 0 45 (dk_at dksX13_isTail_2 6 rfl rfl)
theorem dX13_isTail_57 : decode cX13_isTail 57 = .ok (.iload_n 3, 1) := dk_29 (dk_at dksX13_isTail_2 9 rfl rfl)
theorem dX13_isTail_58 : decode cX13_isTail 58 = .ok (.ifCond .eq 13, 3) := dk_153 0 13 (dk_at dksX13_isTail_2 10 rfl rfl)
theorem dX13_isTail_61 : decode cX13_isTail 61 = .ok (.iload_n 1, 1) := dk_27 (dk_at dksX13_isTail_2 13 rfl rfl)
theorem dX13_isTail_62 : decode cX13_isTail 62 = .ok (.iconst 2, 1) := dk_5 (dk_at dksX13_isTail_2 14 rfl rfl)
theorem dX13_isTail_63 : decode cX13_isTail 63 = .ok (.iadd, 1) := dk_96 (dk_at dksX13_isTail_2 15 rfl rfl)
theorem dX13_isTail_64 : decode cX13_isTail 64 = .ok (.aload_n 0, 1) := dk_42 (dk_at dksX13_isTail_2 16 rfl rfl)
theorem dX13_isTail_65 : decode cX13_isTail 65 = .ok (.getfield 134, 3) := dk_180 0 134 (dk_at dksX13_isTail_2 17 rfl rfl)
theorem dX13_isTail_68 : decode cX13_isTail 68 = .ok (.if_icmp .eq 25, 3) := dk_159 0 25 (dk_at dksX13_isTail_2 20 rfl rfl)
theorem dX13_isTail_71 : decode cX13_isTail 71 = .ok (.iload_n 1, 1) := dk_27 (dk_at dksX13_isTail_2 23 rfl rfl)
theorem dX13_isTail_72 : decode cX13_isTail 72 = .ok (.iconst 1, 1) := dk_4 (dk_at dksX13_isTail_3 0 rfl rfl)
theorem dX13_isTail_73 : decode cX13_isTail 73 = .ok (.iadd, 1) := dk_96 (dk_at dksX13_isTail_3 1 rfl rfl)
theorem dX13_isTail_74 : decode cX13_isTail 74 = .ok (.aload_n 0, 1) := dk_42 (dk_at dksX13_isTail_3 2 rfl rfl)
theorem dX13_isTail_75 : decode cX13_isTail 75 = .ok (.getfield 134, 3) := dk_180 0 134 (dk_at dksX13_isTail_3 3 rfl rfl)
theorem dX13_isTail_78 : decode cX13_isTail 78 = .ok (.if_icmp .ne 19, 3) := dk_160 0 19 (dk_at dksX13_isTail_3 6 rfl rfl)
theorem dX13_isTail_81 : decode cX13_isTail 81 = .ok (.aload_n 0, 1) := dk_42 (dk_at dksX13_isTail_3 9 rfl rfl)
theorem dX13_isTail_82 : decode cX13_isTail 82 = .ok (.getfield 38, 3) := dk_180 0 38 (dk_at dksX13_isTail_3 10 rfl rfl)
theorem dX13_isTail_85 : decode cX13_isTail 85 = .ok (.iload_n 1, 1) := dk_27 (dk_at dksX13_isTail_3 13 rfl rfl)
theorem dX13_isTail_86 : decode cX13_isTail 86 = .ok (.iaload, 1) := dk_46 (dk_at dksX13_isTail_3 14 rfl rfl)
theorem dX13_isTail_87 : decode cX13_isTail 87 = .ok (.sipush 128, 3) := dk_17 0 128 (dk_at dksX13_isTail_3 15 rfl rfl)
theorem dX13_isTail_90 : decode cX13_isTail 90 = .ok (.if_icmp .ge 7, 3) := dk_162 0 7 (dk_at dksX13_isTail_3 18 rfl rfl)
theorem dX13_isTail_93 : decode cX13_isTail 93 = .ok (.iconst 1, 1) := dk_4 (dk_at dksX13_isTail_3 21 rfl rfl)
theorem dX13_isTail_94 : decode cX13_isTail 94 = .ok (.goto 4, 3) := dk_167 0 4 (dk_at dksX13_isTail_4 0 rfl rfl)
theorem dX13_isTail_97 : decode cX13_isTail 97 = .ok (.iconst 0, 1) := dk_3 (dk_at dksX13_isTail_4 3 rfl rfl)
theorem dX13_isTail_98 : decode cX13_isTail 98 = .ok (.ireturn, 1) := dk_172 (dk_at dksX13_isTail_4 4 rfl rfl)
theorem dX13_isTail_99 : decode cX13_isTail 99 = .ok (.iload_n 3, 1) := dk_29 (dk_at dksX13_isTail_4 5 rfl rfl)
theorem dX13_isTail_100 : decode cX13_isTail 100 = .ok (.ifCond .eq 47, 3) := dk_153 0 47 (dk_at dksX13_isTail_4 6 rfl rfl)
theorem dX13_isTail_103 : decode cX13_isTail 103 = .ok (.iload_n 1, 1) := dk_27 (dk_at dksX13_isTail_4 9 rfl rfl)
theorem dX13_isTail_104 : decode cX13_isTail 104 = .ok (.iconst 4, 1) := dk_7 (dk_at dksX13_isTail_4 10 rfl rfl)
theorem dX13_isTail_105 : decode cX13_isTail 105 = .ok (.iadd, 1) := dk_96 (dk_at dksX13_isTail_4 11 rfl rfl)
theorem dX13_isTail_106 : decode cX13_isTail 106 = .ok (.aload_n 0, 1) := dk_42 (dk_at dksX13_isTail_4 12 rfl rfl)
theorem dX13_isTail_107 : decode cX13_isTail 107 = .ok (.getfield 134, 3) := dk_180 0 134 (dk_at dksX13_isTail_4 13 rfl rfl)
theorem dX13_isTail_110 : decode cX13_isTail 110 = .ok (.if_icmp .ne 13, 3) := dk_160 0 13 (dk_at dksX13_isTail_4 16 rfl rfl)
theorem dX13_isTail_113 : decode cX13_isTail 113 = .ok (.aload_n 0, 1) := dk_42 (dk_at dksX13_isTail_4 19 rfl rfl)
theorem dX13_isTail_114 : decode cX13_isTail 114 = .ok (.iload_n 1, 1) := dk_27 (dk_at dksX13_isTail_4 20 rfl rfl)
theorem dX13_isTail_115 : decode cX13_isTail 115 = .ok (.iconst 2, 1) := dk_5 (dk_at dksX13_isTail_4 21 rfl rfl)
theorem dX13_isTail_116 : decode cX13_isTail 116 = .ok (.iadd, 1) := dk_96 (dk_at dksX13_isTail_4 22 rfl rfl)
theorem dX13_isTail_117 : decode cX13_isTail 117 = .ok (.invokevirtual 311, 3) := dk_182 1 55 (dk_at dksX13_isTail_5 0 rfl rfl)
theorem dX13_isTail_120 : decode cX13_isTail 120 = .ok (.ifCond .ne 104, 3) := dk_154 0 104 (dk_at dksX13_isTail_5 3 rfl rfl)
theorem dX13_isTail_123 : decode cX13_isTail 123 = .ok (.iload_n 1, 1) := dk_27 (dk_at dksX13_isTail_5 6 rfl rfl)
theorem dX13_isTail_124 : decode cX13_isTail 124 = .ok (.iconst 3, 1) := dk_6 (dk_at dksX13_isTail_5 7 rfl rfl)
theorem dX13_isTail_125 : decode cX13_isTail 125 = .ok (.iadd, 1) := dk_96 (dk_at dksX13_isTail_5 8 rfl rfl)
theorem dX13_isTail_126 : decode cX13_isTail 126 = .ok (.aload_n 0, 1) := dk_42 (dk_at dksX13_isTail_5 9 rfl rfl)
theorem dX13_isTail_127 : decode cX13_isTail 127 = .ok (.getfield 134, 3) := dk_180 0 134 (dk_at dksX13_isTail_5 10 rfl rfl)
theorem dX13_isTail_130 : decode cX13_isTail 130 = .ok (.if_icmp .ne 17, 3) := dk_160 0 17 (dk_at dksX13_isTail_5 13 rfl rfl)
theorem dX13_isTail_133 : decode cX13_isTail 133 = .ok (.aload_n 0, 1) := dk_42 (dk_at dksX13_isTail_5 16 rfl rfl)
theorem dX13_isTail_134 : decode cX13_isTail 134 = .ok (.getfield 38, 3) := dk_180 0 38 (dk_at dksX13_isTail_5 17 rfl rfl)
theorem dX13_isTail_137 : decode cX13_isTail 137 = .ok (.iload_n 1, 1) := dk_27 (dk_at dksX13_isTail_5 20 rfl rfl)
theorem dX13_isTail_138 : decode cX13_isTail 138 = .ok (.iconst 2, 1) := dk_5 (dk_at dksX13_isTail_5 21 rfl rfl)
theorem dX13_isTail_139 : decode cX13_isTail 139 = .ok (.iadd, 1) := dk_96 (dk_at dksX13_isTail_5 22 rfl rfl)
theorem dX13_isTail_140 : decode cX13_isTail 140 = .ok (.iaload, 1) := dk_46 (dk_at dksX13_isTail_5 23 rfl rfl)
theorem dX13_isTail_141 : decode cX13_isTail 141 = .ok (.sipush 128, 3) := dk_17 0 128 (dk_at dksX13_isTail_6 0 rfl rfl)
theorem dX13_isTail_144 : decode cX13_isTail 144 = .ok (.if_icmp .lt 80, 3) := dk_161 0 80 (dk_at dksX13_isTail_6 3 rfl rfl)
theorem dX13_isTail_147 : decode cX13_isTail 147 = .ok (.aload_n 0, 1) := dk_42 (dk_at dksX13_isTail_6 6 rfl rfl)
theorem dX13_isTail_148 : decode cX13_isTail 148 = .ok (.getfield 38, 3) := dk_180 0 38 (dk_at dksX13_isTail_6 7 rfl rfl)
theorem dX13_isTail_151 : decode cX13_isTail 151 = .ok (.iload_n 1, 1) := dk_27 (dk_at dksX13_isTail_6 10 rfl rfl)
theorem dX13_isTail_152 : decode cX13_isTail 152 = .ok (.iaload, 1) := dk_46 (dk_at dksX13_isTail_6 11 rfl rfl)
theorem dX13_isTail_153 : decode cX13_isTail 153 = .ok (.sipush 128, 3) := dk_17 0 128 (dk_at dksX13_isTail_6 12 rfl rfl)
theorem dX13_isTail_156 : decode cX13_isTail 156 = .ok (.if_icmp .ge 47, 3) := dk_162 0 47 (dk_at dksX13_isTail_6 15 rfl rfl)
theorem dX13_isTail_159 : decode cX13_isTail 159 = .ok (.iload_n 1, 1) := dk_27 (dk_at dksX13_isTail_6 18 rfl rfl)
theorem dX13_isTail_160 : decode cX13_isTail 160 = .ok (.iconst 2, 1) := dk_5 (dk_at dksX13_isTail_6 19 rfl rfl)
theorem dX13_isTail_161 : decode cX13_isTail 161 = .ok (.iadd, 1) := dk_96 (dk_at dksX13_isTail_6 20 rfl rfl)
theorem dX13_isTail_162 : decode cX13_isTail 162 = .ok (.aload_n 0, 1) := dk_42 (dk_at dksX13_isTail_6 21 rfl rfl)
theorem dX13_isTail_163 : decode cX13_isTail 163 = .ok (.getfield 134, 3) := dk_180 0 134 (dk_at dksX13_isTail_7 0 rfl rfl)
theorem dX13_isTail_166 : decode cX13_isTail 166 = .ok (.if_icmp .ne 17, 3) := dk_160 0 17 (dk_at dksX13_isTail_7 3 rfl rfl)
theorem dX13_isTail_169 : decode cX13_isTail 169 = .ok (.aload_n 0, 1) := dk_42 (dk_at dksX13_isTail_7 6 rfl rfl)
theorem dX13_isTail_170 : decode cX13_isTail 170 = .ok (.getfield 38, 3) := dk_180 0 38 (dk_at dksX13_isTail_7 7 rfl rfl)
theorem dX13_isTail_173 : decode cX13_isTail 173 = .ok (.iload_n 1, 1) := dk_27 (dk_at dksX13_isTail_7 10 rfl rfl)
theorem dX13_isTail_174 : decode cX13_isTail 174 = .ok (.iconst 1, 1) := dk_4 (dk_at dksX13_isTail_7 11 rfl rfl)
theorem dX13_isTail_175 : decode cX13_isTail 175 = .ok (.iadd, 1) := dk_96 (dk_at dksX13_isTail_7 12 rfl rfl)
theorem dX13_isTail_176 : decode cX13_isTail 176 = .ok (.iaload, 1) := dk_46 (dk_at dksX13_isTail_7 13 rfl rfl)
theorem dX13_isTail_177 : decode cX13_isTail 177 = .ok (.sipush 128, 3) := dk_17 0 128 (dk_at dksX13_isTail_7 14 rfl rfl)
theorem dX13_isTail_180 : decode cX13_isTail 180 = .ok (.if_icmp .lt 44, 3) := dk_161 0 44 (dk_at dksX13_isTail_7 17 rfl rfl)
theorem dX13_isTail_183 : decode cX13_isTail 183 = .ok (.iload_n 1, 1) := dk_27 (dk_at dksX13_isTail_7 20 rfl rfl)
theorem dX13_isTail_184 : decode cX13_isTail 184 = .ok (.iconst 3, 1) := dk_6 (dk_at dksX13_isTail_7 21 rfl rfl)
theorem dX13_isTail_185 : decode cX13_isTail 185 = .ok (.iadd, 1) := dk_96 (dk_at dksX13_isTail_7 22 rfl rfl)
theorem dX13_isTail_186 : decode cX13_isTail 186 = .ok (.aload_n 0, 1) := dk_42 (dk_at dksX13_isTail_7 23 rfl rfl)
theorem dX13_isTail_187 : decode cX13_isTail 187 = .ok (.getfield 134, 3) := dk_180 0 134 (dk_at dksX13_isTail_8 0 rfl rfl)
theorem dX13_isTail_190 : decode cX13_isTail 190 = .ok (.if_icmp .ne 13, 3) := dk_160 0 13 (dk_at dksX13_isTail_8 3 rfl rfl)
theorem dX13_isTail_193 : decode cX13_isTail 193 = .ok (.aload_n 0, 1) := dk_42 (dk_at dksX13_isTail_8 6 rfl rfl)
theorem dX13_isTail_194 : decode cX13_isTail 194 = .ok (.iload_n 1, 1) := dk_27 (dk_at dksX13_isTail_8 7 rfl rfl)
theorem dX13_isTail_195 : decode cX13_isTail 195 = .ok (.iconst 1, 1) := dk_4 (dk_at dksX13_isTail_8 8 rfl rfl)
theorem dX13_isTail_196 : decode cX13_isTail 196 = .ok (.iadd, 1) := dk_96 (dk_at dksX13_isTail_8 9 rfl rfl)
theorem dX13_isTail_197 : decode cX13_isTail 197 = .ok (.invokevirtual 311, 3) := dk_182 1 55 (dk_at dksX13_isTail_8 10 rfl rfl)
theorem dX13_isTail_200 : decode cX13_isTail 200 = .ok (.ifCond .ne 24, 3) := dk_154 0 24 (dk_at dksX13_isTail_8 13 rfl rfl)
theorem dX13_isTail_203 : decode cX13_isTail 203 = .ok (.iload_n 1, 1) := dk_27 (dk_at dksX13_isTail_8 16 rfl rfl)
theorem dX13_isTail_204 : decode cX13_isTail 204 = .ok (.iconst 1, 1) := dk_4 (dk_at dksX13_isTail_8 17 rfl rfl)
theorem dX13_isTail_205 : decode cX13_isTail 205 = .ok (.iadd, 1) := dk_96 (dk_at dksX13_isTail_8 18 rfl rfl)
theorem dX13_isTail_206 : decode cX13_isTail 206 = .ok (.aload_n 0, 1) := dk_42 (dk_at dksX13_isTail_8 19 rfl rfl)
theorem dX13_isTail_207 : decode cX13_isTail 207 = .ok (.getfield 134, 3) := dk_180 0 134 (dk_at dksX13_isTail_8 20 rfl rfl)
theorem dX13_isTail_210 : decode cX13_isTail 210 = .ok (.if_icmp .ne 18, 3) := dk_160 0 18 (dk_at dksX13_isTail_9 0 rfl rfl)
theorem dX13_isTail_213 : decode cX13_isTail 213 = .ok (.aload_n 0, 1) := dk_42 (dk_at dksX13_isTail_9 3 rfl rfl)
theorem dX13_isTail_214 : decode cX13_isTail 214 = .ok (.getfield 38, 3) := dk_180 0 38 (dk_at dksX13_isTail_9 4 rfl rfl)
theorem dX13_isTail_217 : decode cX13_isTail 217 = .ok (.iload_n 1, 1) := dk_27 (dk_at dksX13_isTail_9 7 rfl rfl)
theorem dX13_isTail_218 : decode cX13_isTail 218 = .ok (.iaload, 1) := dk_46 (dk_at dksX13_isTail_9 8 rfl rfl)
theorem dX13_isTail_219 : decode cX13_isTail 219 = .ok (.bipush 127, 2) := dk_16 127 (dk_at dksX13_isTail_9 9 rfl rfl)
theorem dX13_isTail_221 : decode cX13_isTail 221 = .ok (.if_icmp .le 7, 3) := dk_164 0 7 (dk_at dksX13_isTail_9 11 rfl rfl)
theorem dX13_isTail_224 : decode cX13_isTail 224 = .ok (.iconst 1, 1) := dk_4 (dk_at dksX13_isTail_9 14 rfl rfl)
theorem dX13_isTail_225 : decode cX13_isTail 225 = .ok (.goto 4, 3) := dk_167 0 4 (dk_at dksX13_isTail_9 15 rfl rfl)
theorem dX13_isTail_228 : decode cX13_isTail 228 = .ok (.iconst 0, 1) := dk_3 (dk_at dksX13_isTail_9 18 rfl rfl)
theorem dX13_isTail_229 : decode cX13_isTail 229 = .ok (.ireturn, 1) := dk_172 (dk_at dksX13_isTail_9 19 rfl rfl)
abbrev cX13_endSixes : ByteArray := prog_16_method_64_code
def yX13_endSixes : MethodName := ⟨RX13, "endSixes", "(II)V"⟩
def dkwX13_endSixes_1 : List UInt8 := [42, 27, 3, 5, 182, 1, 73, 177]
abbrev dktX13_endSixes_1 : List UInt8 := dkwX13_endSixes_1 ++ []
def dkwX13_endSixes_0 : List UInt8 := [42, 27, 28, 184, 1, 76, 6, 28, 184, 1, 76, 100, 42, 180, 1, 61, 100, 182, 1, 70, 28, 154, 0, 10]
abbrev dktX13_endSixes_0 : List UInt8 := dkwX13_endSixes_0 ++ dktX13_endSixes_1
theorem dksX13_endSixes_0 : cX13_endSixes.data.toList.drop 0 = dktX13_endSixes_0 := by decide +kernel
theorem dksX13_endSixes_1 : cX13_endSixes.data.toList.drop 24 = dktX13_endSixes_1 := dk_seg dksX13_endSixes_0 24 rfl rfl
theorem dX13_endSixes_0 : decode cX13_endSixes 0 = .ok (.aload_n 0, 1) := dk_42 (dk_at dksX13_endSixes_0 0 rfl rfl)
theorem dX13_endSixes_1 : decode cX13_endSixes 1 = .ok (.iload_n 1, 1) := dk_27 (dk_at dksX13_endSixes_0 1 rfl rfl)
theorem dX13_endSixes_2 : decode cX13_endSixes 2 = .ok (.iload_n 2, 1) := dk_28 (dk_at dksX13_endSixes_0 2 rfl rfl)
theorem dX13_endSixes_3 : decode cX13_endSixes 3 = .ok (.invokestatic 332, 3) := dk_184 1 76 (dk_at dksX13_endSixes_0 3 rfl rfl)
theorem dX13_endSixes_6 : decode cX13_endSixes 6 = .ok (.iconst 3, 1) := dk_6 (dk_at dksX13_endSixes_0 6 rfl rfl)
theorem dX13_endSixes_7 : decode cX13_endSixes 7 = .ok (.iload_n 2, 1) := dk_28 (dk_at dksX13_endSixes_0 7 rfl rfl)
theorem dX13_endSixes_8 : decode cX13_endSixes 8 = .ok (.invokestatic 332, 3) := dk_184 1 76 (dk_at dksX13_endSixes_0 8 rfl rfl)
theorem dX13_endSixes_11 : decode cX13_endSixes 11 = .ok (.isub, 1) := dk_100 (dk_at dksX13_endSixes_0 11 rfl rfl)
theorem dX13_endSixes_12 : decode cX13_endSixes 12 = .ok (.aload_n 0, 1) := dk_42 (dk_at dksX13_endSixes_0 12 rfl rfl)
theorem dX13_endSixes_13 : decode cX13_endSixes 13 = .ok (.getfield 317, 3) := dk_180 1 61 (dk_at dksX13_endSixes_0 13 rfl rfl)
theorem dX13_endSixes_16 : decode cX13_endSixes 16 = .ok (.isub, 1) := dk_100 (dk_at dksX13_endSixes_0 16 rfl rfl)
theorem dX13_endSixes_17 : decode cX13_endSixes 17 = .ok (.invokevirtual 326, 3) := dk_182 1 70 (dk_at dksX13_endSixes_0 17 rfl rfl)
theorem dX13_endSixes_20 : decode cX13_endSixes 20 = .ok (.iload_n 2, 1) := dk_28 (dk_at dksX13_endSixes_0 20 rfl rfl)
theorem dX13_endSixes_21 : decode cX13_endSixes 21 = .ok (.ifCond .ne 10, 3) := dk_154 0 10 (dk_at dksX13_endSixes_0 21 rfl rfl)
theorem dX13_endSixes_24 : decode cX13_endSixes 24 = .ok (.aload_n 0, 1) := dk_42 (dk_at dksX13_endSixes_1 0 rfl rfl)
theorem dX13_endSixes_25 : decode cX13_endSixes 25 = .ok (.iload_n 1, 1) := dk_27 (dk_at dksX13_endSixes_1 1 rfl rfl)
theorem dX13_endSixes_26 : decode cX13_endSixes 26 = .ok (.iconst 0, 1) := dk_3 (dk_at dksX13_endSixes_1 2 rfl rfl)
theorem dX13_endSixes_27 : decode cX13_endSixes 27 = .ok (.iconst 2, 1) := dk_5 (dk_at dksX13_endSixes_1 3 rfl rfl)
theorem dX13_endSixes_28 : decode cX13_endSixes 28 = .ok (.invokevirtual 329, 3) := dk_182 1 73 (dk_at dksX13_endSixes_1 4 rfl rfl)
theorem dX13_endSixes_31 : decode cX13_endSixes 31 = .ok (.return_, 1) := dk_177 (dk_at dksX13_endSixes_1 7 rfl rfl)
abbrev cX13_lastWords : ByteArray := prog_16_method_63_code
def yX13_lastWords : MethodName := ⟨RX13, "lastWords", "(I)I"⟩
def dkwX13_lastWords_0 : List UInt8 := [26, 154, 0, 7, 4, 167, 0, 13, 26, 4, 160, 0, 7, 5, 167, 0, 4, 6, 172]
abbrev dktX13_lastWords_0 : List UInt8 := dkwX13_lastWords_0 ++ []
theorem dksX13_lastWords_0 : cX13_lastWords.data.toList.drop 0 = dktX13_lastWords_0 := by decide +kernel
theorem dX13_lastWords_0 : decode cX13_lastWords 0 = .ok (.iload_n 0, 1) := dk_26 (dk_at dksX13_lastWords_0 0 rfl rfl)
theorem dX13_lastWords_1 : decode cX13_lastWords 1 = .ok (.ifCond .ne 7, 3) := dk_154 0 7 (dk_at dksX13_lastWords_0 1 rfl rfl)
theorem dX13_lastWords_4 : decode cX13_lastWords 4 = .ok (.iconst 1, 1) := dk_4 (dk_at dksX13_lastWords_0 4 rfl rfl)
theorem dX13_lastWords_5 : decode cX13_lastWords 5 = .ok (.goto 13, 3) := dk_167 0 13 (dk_at dksX13_lastWords_0 5 rfl rfl)
theorem dX13_lastWords_8 : decode cX13_lastWords 8 = .ok (.iload_n 0, 1) := dk_26 (dk_at dksX13_lastWords_0 8 rfl rfl)
theorem dX13_lastWords_9 : decode cX13_lastWords 9 = .ok (.iconst 1, 1) := dk_4 (dk_at dksX13_lastWords_0 9 rfl rfl)
theorem dX13_lastWords_10 : decode cX13_lastWords 10 = .ok (.if_icmp .ne 7, 3) := dk_160 0 7 (dk_at dksX13_lastWords_0 10 rfl rfl)
theorem dX13_lastWords_13 : decode cX13_lastWords 13 = .ok (.iconst 2, 1) := dk_5 (dk_at dksX13_lastWords_0 13 rfl rfl)
theorem dX13_lastWords_14 : decode cX13_lastWords 14 = .ok (.goto 4, 3) := dk_167 0 4 (dk_at dksX13_lastWords_0 14 rfl rfl)
theorem dX13_lastWords_17 : decode cX13_lastWords 17 = .ok (.iconst 3, 1) := dk_6 (dk_at dksX13_lastWords_0 17 rfl rfl)
theorem dX13_lastWords_18 : decode cX13_lastWords 18 = .ok (.ireturn, 1) := dk_172 (dk_at dksX13_lastWords_0 18 rfl rfl)
abbrev cX13_isAllowed : ByteArray := prog_16_method_86_code
def yX13_isAllowed : MethodName := ⟨RX13, "isAllowed", "(II)Z"⟩
def dkwX13_isAllowed_1 : List UInt8 := [163, 0, 11, 28, 16, 100, 27, 96, 160, 0, 7, 4, 167, 0, 4, 3, 172]
abbrev dktX13_isAllowed_1 : List UInt8 := dkwX13_isAllowed_1 ++ []
def dkwX13_isAllowed_0 : List UInt8 := [28, 5, 159, 0, 32, 28, 154, 0, 9, 27, 16, 24, 161, 0, 22, 28, 4, 160, 0, 9, 27, 16, 23]
abbrev dktX13_isAllowed_0 : List UInt8 := dkwX13_isAllowed_0 ++ dktX13_isAllowed_1
theorem dksX13_isAllowed_0 : cX13_isAllowed.data.toList.drop 0 = dktX13_isAllowed_0 := by decide +kernel
theorem dksX13_isAllowed_1 : cX13_isAllowed.data.toList.drop 23 = dktX13_isAllowed_1 := dk_seg dksX13_isAllowed_0 23 rfl rfl
theorem dX13_isAllowed_0 : decode cX13_isAllowed 0 = .ok (.iload_n 2, 1) := dk_28 (dk_at dksX13_isAllowed_0 0 rfl rfl)
theorem dX13_isAllowed_1 : decode cX13_isAllowed 1 = .ok (.iconst 2, 1) := dk_5 (dk_at dksX13_isAllowed_0 1 rfl rfl)
theorem dX13_isAllowed_2 : decode cX13_isAllowed 2 = .ok (.if_icmp .eq 32, 3) := dk_159 0 32 (dk_at dksX13_isAllowed_0 2 rfl rfl)
theorem dX13_isAllowed_5 : decode cX13_isAllowed 5 = .ok (.iload_n 2, 1) := dk_28 (dk_at dksX13_isAllowed_0 5 rfl rfl)
theorem dX13_isAllowed_6 : decode cX13_isAllowed 6 = .ok (.ifCond .ne 9, 3) := dk_154 0 9 (dk_at dksX13_isAllowed_0 6 rfl rfl)
theorem dX13_isAllowed_9 : decode cX13_isAllowed 9 = .ok (.iload_n 1, 1) := dk_27 (dk_at dksX13_isAllowed_0 9 rfl rfl)
theorem dX13_isAllowed_10 : decode cX13_isAllowed 10 = .ok (.bipush 24, 2) := dk_16 24 (dk_at dksX13_isAllowed_0 10 rfl rfl)
theorem dX13_isAllowed_12 : decode cX13_isAllowed 12 = .ok (.if_icmp .lt 22, 3) := dk_161 0 22 (dk_at dksX13_isAllowed_0 12 rfl rfl)
theorem dX13_isAllowed_15 : decode cX13_isAllowed 15 = .ok (.iload_n 2, 1) := dk_28 (dk_at dksX13_isAllowed_0 15 rfl rfl)
theorem dX13_isAllowed_16 : decode cX13_isAllowed 16 = .ok (.iconst 1, 1) := dk_4 (dk_at dksX13_isAllowed_0 16 rfl rfl)
theorem dX13_isAllowed_17 : decode cX13_isAllowed 17 = .ok (.if_icmp .ne 9, 3) := dk_160 0 9 (dk_at dksX13_isAllowed_0 17 rfl rfl)
theorem dX13_isAllowed_20 : decode cX13_isAllowed 20 = .ok (.iload_n 1, 1) := dk_27 (dk_at dksX13_isAllowed_0 20 rfl rfl)
theorem dX13_isAllowed_21 : decode cX13_isAllowed 21 = .ok (.bipush 23, 2) := dk_16 23 (dk_at dksX13_isAllowed_0 21 rfl rfl)
theorem dX13_isAllowed_23 : decode cX13_isAllowed 23 = .ok (.if_icmp .gt 11, 3) := dk_163 0 11 (dk_at dksX13_isAllowed_1 0 rfl rfl)
theorem dX13_isAllowed_26 : decode cX13_isAllowed 26 = .ok (.iload_n 2, 1) := dk_28 (dk_at dksX13_isAllowed_1 3 rfl rfl)
theorem dX13_isAllowed_27 : decode cX13_isAllowed 27 = .ok (.bipush 100, 2) := dk_16 100 (dk_at dksX13_isAllowed_1 4 rfl rfl)
theorem dX13_isAllowed_29 : decode cX13_isAllowed 29 = .ok (.iload_n 1, 1) := dk_27 (dk_at dksX13_isAllowed_1 6 rfl rfl)
theorem dX13_isAllowed_30 : decode cX13_isAllowed 30 = .ok (.iadd, 1) := dk_96 (dk_at dksX13_isAllowed_1 7 rfl rfl)
theorem dX13_isAllowed_31 : decode cX13_isAllowed 31 = .ok (.if_icmp .ne 7, 3) := dk_160 0 7 (dk_at dksX13_isAllowed_1 8 rfl rfl)
theorem dX13_isAllowed_34 : decode cX13_isAllowed 34 = .ok (.iconst 1, 1) := dk_4 (dk_at dksX13_isAllowed_1 11 rfl rfl)
theorem dX13_isAllowed_35 : decode cX13_isAllowed 35 = .ok (.goto 4, 3) := dk_167 0 4 (dk_at dksX13_isAllowed_1 12 rfl rfl)
theorem dX13_isAllowed_38 : decode cX13_isAllowed 38 = .ok (.iconst 0, 1) := dk_3 (dk_at dksX13_isAllowed_1 15 rfl rfl)
theorem dX13_isAllowed_39 : decode cX13_isAllowed 39 = .ok (.ireturn, 1) := dk_172 (dk_at dksX13_isAllowed_1 16 rfl rfl)
abbrev cX13_lengthIn : ByteArray := prog_16_method_72_code
def yX13_lengthIn : MethodName := ⟨RX13, "lengthIn", "(I)I"⟩
def dkwX13_lengthIn_3 : List UInt8 := [167, 255, 213, 2, 172]
abbrev dktX13_lengthIn_3 : List UInt8 := dkwX13_lengthIn_3 ++ []
def dkwX13_lengthIn_2 : List UInt8 := [161, 0, 19, 42, 28, 3, 27, 28, 100, 182, 1, 103, 153, 0, 7, 27, 28, 100, 172, 132, 2, 255]
abbrev dktX13_lengthIn_2 : List UInt8 := dkwX13_lengthIn_2 ++ dktX13_lengthIn_3
def dkwX13_lengthIn_1 : List UInt8 := [61, 28, 155, 0, 45, 27, 42, 180, 0, 87, 17, 37, 131, 46, 100, 16, 254, 164, 0, 30, 27, 28]
abbrev dktX13_lengthIn_1 : List UInt8 := dkwX13_lengthIn_1 ++ dktX13_lengthIn_2
def dkwX13_lengthIn_0 : List UInt8 := [42, 180, 0, 87, 17, 37, 131, 46, 27, 6, 100, 163, 0, 12, 42, 180, 0, 87, 17, 37, 131, 46, 172, 5]
abbrev dktX13_lengthIn_0 : List UInt8 := dkwX13_lengthIn_0 ++ dktX13_lengthIn_1
theorem dksX13_lengthIn_0 : cX13_lengthIn.data.toList.drop 0 = dktX13_lengthIn_0 := by decide +kernel
theorem dksX13_lengthIn_1 : cX13_lengthIn.data.toList.drop 24 = dktX13_lengthIn_1 := dk_seg dksX13_lengthIn_0 24 rfl rfl
theorem dksX13_lengthIn_2 : cX13_lengthIn.data.toList.drop 46 = dktX13_lengthIn_2 := dk_seg dksX13_lengthIn_1 22 rfl rfl
theorem dksX13_lengthIn_3 : cX13_lengthIn.data.toList.drop 68 = dktX13_lengthIn_3 := dk_seg dksX13_lengthIn_2 22 rfl rfl
theorem dX13_lengthIn_0 : decode cX13_lengthIn 0 = .ok (.aload_n 0, 1) := dk_42 (dk_at dksX13_lengthIn_0 0 rfl rfl)
theorem dX13_lengthIn_1 : decode cX13_lengthIn 1 = .ok (.getfield 87, 3) := dk_180 0 87 (dk_at dksX13_lengthIn_0 1 rfl rfl)
theorem dX13_lengthIn_4 : decode cX13_lengthIn 4 = .ok (.sipush 9603, 3) := dk_17 37 131 (dk_at dksX13_lengthIn_0 4 rfl rfl)
theorem dX13_lengthIn_7 : decode cX13_lengthIn 7 = .ok (.iaload, 1) := dk_46 (dk_at dksX13_lengthIn_0 7 rfl rfl)
theorem dX13_lengthIn_8 : decode cX13_lengthIn 8 = .ok (.iload_n 1, 1) := dk_27 (dk_at dksX13_lengthIn_0 8 rfl rfl)
theorem dX13_lengthIn_9 : decode cX13_lengthIn 9 = .ok (.iconst 3, 1) := dk_6 (dk_at dksX13_lengthIn_0 9 rfl rfl)
theorem dX13_lengthIn_10 : decode cX13_lengthIn 10 = .ok (.isub, 1) := dk_100 (dk_at dksX13_lengthIn_0 10 rfl rfl)
theorem dX13_lengthIn_11 : decode cX13_lengthIn 11 = .ok (.if_icmp .gt 12, 3) := dk_163 0 12 (dk_at dksX13_lengthIn_0 11 rfl rfl)
theorem dX13_lengthIn_14 : decode cX13_lengthIn 14 = .ok (.aload_n 0, 1) := dk_42 (dk_at dksX13_lengthIn_0 14 rfl rfl)
theorem dX13_lengthIn_15 : decode cX13_lengthIn 15 = .ok (.getfield 87, 3) := dk_180 0 87 (dk_at dksX13_lengthIn_0 15 rfl rfl)
theorem dX13_lengthIn_18 : decode cX13_lengthIn 18 = .ok (.sipush 9603, 3) := dk_17 37 131 (dk_at dksX13_lengthIn_0 18 rfl rfl)
theorem dX13_lengthIn_21 : decode cX13_lengthIn 21 = .ok (.iaload, 1) := dk_46 (dk_at dksX13_lengthIn_0 21 rfl rfl)
theorem dX13_lengthIn_22 : decode cX13_lengthIn 22 = .ok (.ireturn, 1) := dk_172 (dk_at dksX13_lengthIn_0 22 rfl rfl)
theorem dX13_lengthIn_23 : decode cX13_lengthIn 23 = .ok (.iconst 2, 1) := dk_5 (dk_at dksX13_lengthIn_0 23 rfl rfl)
theorem dX13_lengthIn_24 : decode cX13_lengthIn 24 = .ok (.istore_n 2, 1) := dk_61 (dk_at dksX13_lengthIn_1 0 rfl rfl)
theorem dX13_lengthIn_25 : decode cX13_lengthIn 25 = .ok (.iload_n 2, 1) := dk_28 (dk_at dksX13_lengthIn_1 1 rfl rfl)
theorem dX13_lengthIn_26 : decode cX13_lengthIn 26 = .ok (.ifCond .lt 45, 3) := dk_155 0 45 (dk_at dksX13_lengthIn_1 2 rfl rfl)
theorem dX13_lengthIn_29 : decode cX13_lengthIn 29 = .ok (.iload_n 1, 1) := dk_27 (dk_at dksX13_lengthIn_1 5 rfl rfl)
theorem dX13_lengthIn_30 : decode cX13_lengthIn 30 = .ok (.aload_n 0, 1) := dk_42 (dk_at dksX13_lengthIn_1 6 rfl rfl)
theorem dX13_lengthIn_31 : decode cX13_lengthIn 31 = .ok (.getfield 87, 3) := dk_180 0 87 (dk_at dksX13_lengthIn_1 7 rfl rfl)
theorem dX13_lengthIn_34 : decode cX13_lengthIn 34 = .ok (.sipush 9603, 3) := dk_17 37 131 (dk_at dksX13_lengthIn_1 10 rfl rfl)
theorem dX13_lengthIn_37 : decode cX13_lengthIn 37 = .ok (.iaload, 1) := dk_46 (dk_at dksX13_lengthIn_1 13 rfl rfl)
theorem dX13_lengthIn_38 : decode cX13_lengthIn 38 = .ok (.isub, 1) := dk_100 (dk_at dksX13_lengthIn_1 14 rfl rfl)
theorem dX13_lengthIn_39 : decode cX13_lengthIn 39 = .ok (.bipush (-2), 2) := dk_16 254 (dk_at dksX13_lengthIn_1 15 rfl rfl)
theorem dX13_lengthIn_41 : decode cX13_lengthIn 41 = .ok (.if_icmp .le 30, 3) := dk_164 0 30 (dk_at dksX13_lengthIn_1 17 rfl rfl)
theorem dX13_lengthIn_44 : decode cX13_lengthIn 44 = .ok (.iload_n 1, 1) := dk_27 (dk_at dksX13_lengthIn_1 20 rfl rfl)
theorem dX13_lengthIn_45 : decode cX13_lengthIn 45 = .ok (.iload_n 2, 1) := dk_28 (dk_at dksX13_lengthIn_1 21 rfl rfl)
theorem dX13_lengthIn_46 : decode cX13_lengthIn 46 = .ok (.if_icmp .lt 19, 3) := dk_161 0 19 (dk_at dksX13_lengthIn_2 0 rfl rfl)
theorem dX13_lengthIn_49 : decode cX13_lengthIn 49 = .ok (.aload_n 0, 1) := dk_42 (dk_at dksX13_lengthIn_2 3 rfl rfl)
theorem dX13_lengthIn_50 : decode cX13_lengthIn 50 = .ok (.iload_n 2, 1) := dk_28 (dk_at dksX13_lengthIn_2 4 rfl rfl)
theorem dX13_lengthIn_51 : decode cX13_lengthIn 51 = .ok (.iconst 0, 1) := dk_3 (dk_at dksX13_lengthIn_2 5 rfl rfl)
theorem dX13_lengthIn_52 : decode cX13_lengthIn 52 = .ok (.iload_n 1, 1) := dk_27 (dk_at dksX13_lengthIn_2 6 rfl rfl)
theorem dX13_lengthIn_53 : decode cX13_lengthIn 53 = .ok (.iload_n 2, 1) := dk_28 (dk_at dksX13_lengthIn_2 7 rfl rfl)
theorem dX13_lengthIn_54 : decode cX13_lengthIn 54 = .ok (.isub, 1) := dk_100 (dk_at dksX13_lengthIn_2 8 rfl rfl)
theorem dX13_lengthIn_55 : decode cX13_lengthIn 55 = .ok (.invokevirtual 359, 3) := dk_182 1 103 (dk_at dksX13_lengthIn_2 9 rfl rfl)
theorem dX13_lengthIn_58 : decode cX13_lengthIn 58 = .ok (.ifCond .eq 7, 3) := dk_153 0 7 (dk_at dksX13_lengthIn_2 12 rfl rfl)
theorem dX13_lengthIn_61 : decode cX13_lengthIn 61 = .ok (.iload_n 1, 1) := dk_27 (dk_at dksX13_lengthIn_2 15 rfl rfl)
theorem dX13_lengthIn_62 : decode cX13_lengthIn 62 = .ok (.iload_n 2, 1) := dk_28 (dk_at dksX13_lengthIn_2 16 rfl rfl)
theorem dX13_lengthIn_63 : decode cX13_lengthIn 63 = .ok (.isub, 1) := dk_100 (dk_at dksX13_lengthIn_2 17 rfl rfl)
theorem dX13_lengthIn_64 : decode cX13_lengthIn 64 = .ok (.ireturn, 1) := dk_172 (dk_at dksX13_lengthIn_2 18 rfl rfl)
theorem dX13_lengthIn_65 : decode cX13_lengthIn 65 = .ok (.iinc 2 (-1), 3) := dk_132 2 255 (dk_at dksX13_lengthIn_2 19 rfl rfl)
theorem dX13_lengthIn_68 : decode cX13_lengthIn 68 = .ok (.goto (-43), 3) := dk_167 255 213 (dk_at dksX13_lengthIn_3 0 rfl rfl)
theorem dX13_lengthIn_71 : decode cX13_lengthIn 71 = .ok (.iconst (-1), 1) := dk_2 (dk_at dksX13_lengthIn_3 3 rfl rfl)
theorem dX13_lengthIn_72 : decode cX13_lengthIn 72 = .ok (.ireturn, 1) := dk_172 (dk_at dksX13_lengthIn_3 4 rfl rfl)
abbrev cX13_has : ByteArray := prog_16_method_71_code
def yX13_has : MethodName := ⟨RX13, "has", "(III)Z"⟩
def dkwX13_has_2 : List UInt8 := [17, 12, 129, 27, 104, 28, 96, 46, 21, 4, 122, 4, 126, 4, 160, 0, 7, 4, 167, 0, 4, 3, 172]
abbrev dktX13_has_2 : List UInt8 := dkwX13_has_2 ++ []
def dkwX13_has_1 : List UInt8 := [104, 28, 96, 46, 153, 0, 40, 21, 4, 155, 0, 35, 21, 4, 16, 31, 162, 0, 28, 42, 180, 0, 90]
abbrev dktX13_has_1 : List UInt8 := dkwX13_has_1 ++ dktX13_has_2
def dkwX13_has_0 : List UInt8 := [29, 42, 180, 0, 87, 17, 12, 129, 27, 104, 28, 96, 46, 100, 54, 4, 42, 180, 0, 90, 17, 12, 129, 27]
abbrev dktX13_has_0 : List UInt8 := dkwX13_has_0 ++ dktX13_has_1
theorem dksX13_has_0 : cX13_has.data.toList.drop 0 = dktX13_has_0 := by decide +kernel
theorem dksX13_has_1 : cX13_has.data.toList.drop 24 = dktX13_has_1 := dk_seg dksX13_has_0 24 rfl rfl
theorem dksX13_has_2 : cX13_has.data.toList.drop 47 = dktX13_has_2 := dk_seg dksX13_has_1 23 rfl rfl
theorem dX13_has_0 : decode cX13_has 0 = .ok (.iload_n 3, 1) := dk_29 (dk_at dksX13_has_0 0 rfl rfl)
theorem dX13_has_1 : decode cX13_has 1 = .ok (.aload_n 0, 1) := dk_42 (dk_at dksX13_has_0 1 rfl rfl)
theorem dX13_has_2 : decode cX13_has 2 = .ok (.getfield 87, 3) := dk_180 0 87 (dk_at dksX13_has_0 2 rfl rfl)
theorem dX13_has_5 : decode cX13_has 5 = .ok (.sipush 3201, 3) := dk_17 12 129 (dk_at dksX13_has_0 5 rfl rfl)
theorem dX13_has_8 : decode cX13_has 8 = .ok (.iload_n 1, 1) := dk_27 (dk_at dksX13_has_0 8 rfl rfl)
theorem dX13_has_9 : decode cX13_has 9 = .ok (.imul, 1) := dk_104 (dk_at dksX13_has_0 9 rfl rfl)
theorem dX13_has_10 : decode cX13_has 10 = .ok (.iload_n 2, 1) := dk_28 (dk_at dksX13_has_0 10 rfl rfl)
theorem dX13_has_11 : decode cX13_has 11 = .ok (.iadd, 1) := dk_96 (dk_at dksX13_has_0 11 rfl rfl)
theorem dX13_has_12 : decode cX13_has 12 = .ok (.iaload, 1) := dk_46 (dk_at dksX13_has_0 12 rfl rfl)
theorem dX13_has_13 : decode cX13_has 13 = .ok (.isub, 1) := dk_100 (dk_at dksX13_has_0 13 rfl rfl)
theorem dX13_has_14 : decode cX13_has 14 = .ok (.istore 4, 2) := dk_54 4 (dk_at dksX13_has_0 14 rfl rfl)
theorem dX13_has_16 : decode cX13_has 16 = .ok (.aload_n 0, 1) := dk_42 (dk_at dksX13_has_0 16 rfl rfl)
theorem dX13_has_17 : decode cX13_has 17 = .ok (.getfield 90, 3) := dk_180 0 90 (dk_at dksX13_has_0 17 rfl rfl)
theorem dX13_has_20 : decode cX13_has 20 = .ok (.sipush 3201, 3) := dk_17 12 129 (dk_at dksX13_has_0 20 rfl rfl)
theorem dX13_has_23 : decode cX13_has 23 = .ok (.iload_n 1, 1) := dk_27 (dk_at dksX13_has_0 23 rfl rfl)
theorem dX13_has_24 : decode cX13_has 24 = .ok (.imul, 1) := dk_104 (dk_at dksX13_has_1 0 rfl rfl)
theorem dX13_has_25 : decode cX13_has 25 = .ok (.iload_n 2, 1) := dk_28 (dk_at dksX13_has_1 1 rfl rfl)
theorem dX13_has_26 : decode cX13_has 26 = .ok (.iadd, 1) := dk_96 (dk_at dksX13_has_1 2 rfl rfl)
theorem dX13_has_27 : decode cX13_has 27 = .ok (.iaload, 1) := dk_46 (dk_at dksX13_has_1 3 rfl rfl)
theorem dX13_has_28 : decode cX13_has 28 = .ok (.ifCond .eq 40, 3) := dk_153 0 40 (dk_at dksX13_has_1 4 rfl rfl)
theorem dX13_has_31 : decode cX13_has 31 = .ok (.iload 4, 2) := dk_21 4 (dk_at dksX13_has_1 7 rfl rfl)
theorem dX13_has_33 : decode cX13_has 33 = .ok (.ifCond .lt 35, 3) := dk_155 0 35 (dk_at dksX13_has_1 9 rfl rfl)
theorem dX13_has_36 : decode cX13_has 36 = .ok (.iload 4, 2) := dk_21 4 (dk_at dksX13_has_1 12 rfl rfl)
theorem dX13_has_38 : decode cX13_has 38 = .ok (.bipush 31, 2) := dk_16 31 (dk_at dksX13_has_1 14 rfl rfl)
theorem dX13_has_40 : decode cX13_has 40 = .ok (.if_icmp .ge 28, 3) := dk_162 0 28 (dk_at dksX13_has_1 16 rfl rfl)
theorem dX13_has_43 : decode cX13_has 43 = .ok (.aload_n 0, 1) := dk_42 (dk_at dksX13_has_1 19 rfl rfl)
theorem dX13_has_44 : decode cX13_has 44 = .ok (.getfield 90, 3) := dk_180 0 90 (dk_at dksX13_has_1 20 rfl rfl)
theorem dX13_has_47 : decode cX13_has 47 = .ok (.sipush 3201, 3) := dk_17 12 129 (dk_at dksX13_has_2 0 rfl rfl)
theorem dX13_has_50 : decode cX13_has 50 = .ok (.iload_n 1, 1) := dk_27 (dk_at dksX13_has_2 3 rfl rfl)
theorem dX13_has_51 : decode cX13_has 51 = .ok (.imul, 1) := dk_104 (dk_at dksX13_has_2 4 rfl rfl)
theorem dX13_has_52 : decode cX13_has 52 = .ok (.iload_n 2, 1) := dk_28 (dk_at dksX13_has_2 5 rfl rfl)
theorem dX13_has_53 : decode cX13_has 53 = .ok (.iadd, 1) := dk_96 (dk_at dksX13_has_2 6 rfl rfl)
theorem dX13_has_54 : decode cX13_has 54 = .ok (.iaload, 1) := dk_46 (dk_at dksX13_has_2 7 rfl rfl)
theorem dX13_has_55 : decode cX13_has 55 = .ok (.iload 4, 2) := dk_21 4 (dk_at dksX13_has_2 8 rfl rfl)
theorem dX13_has_57 : decode cX13_has 57 = .ok (.ishr, 1) := dk_122 (dk_at dksX13_has_2 10 rfl rfl)
theorem dX13_has_58 : decode cX13_has 58 = .ok (.iconst 1, 1) := dk_4 (dk_at dksX13_has_2 11 rfl rfl)
theorem dX13_has_59 : decode cX13_has 59 = .ok (.iand, 1) := dk_126 (dk_at dksX13_has_2 12 rfl rfl)
theorem dX13_has_60 : decode cX13_has 60 = .ok (.iconst 1, 1) := dk_4 (dk_at dksX13_has_2 13 rfl rfl)
theorem dX13_has_61 : decode cX13_has 61 = .ok (.if_icmp .ne 7, 3) := dk_160 0 7 (dk_at dksX13_has_2 14 rfl rfl)
theorem dX13_has_64 : decode cX13_has 64 = .ok (.iconst 1, 1) := dk_4 (dk_at dksX13_has_2 17 rfl rfl)
theorem dX13_has_65 : decode cX13_has 65 = .ok (.goto 4, 3) := dk_167 0 4 (dk_at dksX13_has_2 18 rfl rfl)
theorem dX13_has_68 : decode cX13_has 68 = .ok (.iconst 0, 1) := dk_3 (dk_at dksX13_has_2 21 rfl rfl)
theorem dX13_has_69 : decode cX13_has 69 = .ok (.ireturn, 1) := dk_172 (dk_at dksX13_has_2 22 rfl rfl)
abbrev cX13_least : ByteArray := prog_16_method_2_code
def yX13_least : MethodName := ⟨RX13, "least", "(II)I"⟩
def dkwX13_least_0 : List UInt8 := [26, 27, 162, 0, 7, 26, 167, 0, 4, 27, 172]
abbrev dktX13_least_0 : List UInt8 := dkwX13_least_0 ++ []
theorem dksX13_least_0 : cX13_least.data.toList.drop 0 = dktX13_least_0 := by decide +kernel
theorem dX13_least_0 : decode cX13_least 0 = .ok (.iload_n 0, 1) := dk_26 (dk_at dksX13_least_0 0 rfl rfl)
theorem dX13_least_1 : decode cX13_least 1 = .ok (.iload_n 1, 1) := dk_27 (dk_at dksX13_least_0 1 rfl rfl)
theorem dX13_least_2 : decode cX13_least 2 = .ok (.if_icmp .ge 7, 3) := dk_162 0 7 (dk_at dksX13_least_0 2 rfl rfl)
theorem dX13_least_5 : decode cX13_least 5 = .ok (.iload_n 0, 1) := dk_26 (dk_at dksX13_least_0 5 rfl rfl)
theorem dX13_least_6 : decode cX13_least 6 = .ok (.goto 4, 3) := dk_167 0 4 (dk_at dksX13_least_0 6 rfl rfl)
theorem dX13_least_9 : decode cX13_least 9 = .ok (.iload_n 1, 1) := dk_27 (dk_at dksX13_least_0 9 rfl rfl)
theorem dX13_least_10 : decode cX13_least 10 = .ok (.ireturn, 1) := dk_172 (dk_at dksX13_least_0 10 rfl rfl)
abbrev cX13_build : ByteArray := prog_16_method_76_code
def yX13_build : MethodName := ⟨RX13, "build", "(I)V"⟩
def dkwX13_build_5 : List UInt8 := [61, 29, 21, 5, 154, 0, 10, 42, 180, 0, 134, 167, 0, 5, 21, 5, 96, 62, 167, 255, 139, 177]
abbrev dktX13_build_5 : List UInt8 := dkwX13_build_5 ++ []
def dkwX13_build_4 : List UInt8 := [21, 6, 29, 21, 5, 42, 180, 1, 107, 21, 4, 100, 182, 1, 122, 28, 42, 180, 1, 107, 21, 4, 100, 100]
abbrev dktX13_build_4 : List UInt8 := dkwX13_build_4 ++ dktX13_build_5
def dkwX13_build_3 : List UInt8 := [182, 1, 119, 54, 5, 21, 6, 21, 5, 154, 0, 7, 4, 167, 0, 4, 3, 96, 54, 6, 167, 255, 219, 42]
abbrev dktX13_build_3 : List UInt8 := dkwX13_build_3 ++ dktX13_build_4
def dkwX13_build_2 : List UInt8 := [167, 0, 4, 7, 54, 6, 21, 5, 154, 0, 38, 21, 6, 16, 8, 163, 0, 31, 42, 21, 6, 29, 28]
abbrev dktX13_build_2 : List UInt8 := dkwX13_build_2 ++ dktX13_build_3
def dkwX13_build_1 : List UInt8 := [162, 0, 115, 42, 180, 1, 107, 54, 4, 42, 29, 28, 182, 1, 116, 54, 5, 21, 5, 158, 0, 7, 3]
abbrev dktX13_build_1 : List UInt8 := dkwX13_build_1 ++ dktX13_build_2
def dkwX13_build_0 : List UInt8 := [27, 61, 3, 62, 42, 3, 181, 1, 107, 42, 3, 181, 1, 113, 42, 3, 181, 1, 110, 29, 42, 180, 0, 134]
abbrev dktX13_build_0 : List UInt8 := dkwX13_build_0 ++ dktX13_build_1
theorem dksX13_build_0 : cX13_build.data.toList.drop 0 = dktX13_build_0 := by decide +kernel
theorem dksX13_build_1 : cX13_build.data.toList.drop 24 = dktX13_build_1 := dk_seg dksX13_build_0 24 rfl rfl
theorem dksX13_build_2 : cX13_build.data.toList.drop 47 = dktX13_build_2 := dk_seg dksX13_build_1 23 rfl rfl
theorem dksX13_build_3 : cX13_build.data.toList.drop 70 = dktX13_build_3 := dk_seg dksX13_build_2 23 rfl rfl
theorem dksX13_build_4 : cX13_build.data.toList.drop 94 = dktX13_build_4 := dk_seg dksX13_build_3 24 rfl rfl
theorem dksX13_build_5 : cX13_build.data.toList.drop 118 = dktX13_build_5 := dk_seg dksX13_build_4 24 rfl rfl
theorem dX13_build_0 : decode cX13_build 0 = .ok (.iload_n 1, 1) := dk_27 (dk_at dksX13_build_0 0 rfl rfl)
theorem dX13_build_1 : decode cX13_build 1 = .ok (.istore_n 2, 1) := dk_61 (dk_at dksX13_build_0 1 rfl rfl)
theorem dX13_build_2 : decode cX13_build 2 = .ok (.iconst 0, 1) := dk_3 (dk_at dksX13_build_0 2 rfl rfl)
theorem dX13_build_3 : decode cX13_build 3 = .ok (.istore_n 3, 1) := dk_62 (dk_at dksX13_build_0 3 rfl rfl)
theorem dX13_build_4 : decode cX13_build 4 = .ok (.aload_n 0, 1) := dk_42 (dk_at dksX13_build_0 4 rfl rfl)
theorem dX13_build_5 : decode cX13_build 5 = .ok (.iconst 0, 1) := dk_3 (dk_at dksX13_build_0 5 rfl rfl)
theorem dX13_build_6 : decode cX13_build 6 = .ok (.putfield 363, 3) := dk_181 1 107 (dk_at dksX13_build_0 6 rfl rfl)
theorem dX13_build_9 : decode cX13_build 9 = .ok (.aload_n 0, 1) := dk_42 (dk_at dksX13_build_0 9 rfl rfl)
theorem dX13_build_10 : decode cX13_build 10 = .ok (.iconst 0, 1) := dk_3 (dk_at dksX13_build_0 10 rfl rfl)
theorem dX13_build_11 : decode cX13_build 11 = .ok (.putfield 369, 3) := dk_181 1 113 (dk_at dksX13_build_0 11 rfl rfl)
theorem dX13_build_14 : decode cX13_build 14 = .ok (.aload_n 0, 1) := dk_42 (dk_at dksX13_build_0 14 rfl rfl)
theorem dX13_build_15 : decode cX13_build 15 = .ok (.iconst 0, 1) := dk_3 (dk_at dksX13_build_0 15 rfl rfl)
theorem dX13_build_16 : decode cX13_build 16 = .ok (.putfield 366, 3) := dk_181 1 110 (dk_at dksX13_build_0 16 rfl rfl)
theorem dX13_build_19 : decode cX13_build 19 = .ok (.iload_n 3, 1) := dk_29 (dk_at dksX13_build_0 19 rfl rfl)
theorem dX13_build_20 : decode cX13_build 20 = .ok (.aload_n 0, 1) := dk_42 (dk_at dksX13_build_0 20 rfl rfl)
theorem dX13_build_21 : decode cX13_build 21 = .ok (.getfield 134, 3) := dk_180 0 134 (dk_at dksX13_build_0 21 rfl rfl)
theorem dX13_build_24 : decode cX13_build 24 = .ok (.if_icmp .ge 115, 3) := dk_162 0 115 (dk_at dksX13_build_1 0 rfl rfl)
theorem dX13_build_27 : decode cX13_build 27 = .ok (.aload_n 0, 1) := dk_42 (dk_at dksX13_build_1 3 rfl rfl)
theorem dX13_build_28 : decode cX13_build 28 = .ok (.getfield 363, 3) := dk_180 1 107 (dk_at dksX13_build_1 4 rfl rfl)
theorem dX13_build_31 : decode cX13_build 31 = .ok (.istore 4, 2) := dk_54 4 (dk_at dksX13_build_1 7 rfl rfl)
theorem dX13_build_33 : decode cX13_build 33 = .ok (.aload_n 0, 1) := dk_42 (dk_at dksX13_build_1 9 rfl rfl)
theorem dX13_build_34 : decode cX13_build 34 = .ok (.iload_n 3, 1) := dk_29 (dk_at dksX13_build_1 10 rfl rfl)
theorem dX13_build_35 : decode cX13_build 35 = .ok (.iload_n 2, 1) := dk_28 (dk_at dksX13_build_1 11 rfl rfl)
theorem dX13_build_36 : decode cX13_build 36 = .ok (.invokevirtual 372, 3) := dk_182 1 116 (dk_at dksX13_build_1 12 rfl rfl)
theorem dX13_build_39 : decode cX13_build 39 = .ok (.istore 5, 2) := dk_54 5 (dk_at dksX13_build_1 15 rfl rfl)
theorem dX13_build_41 : decode cX13_build 41 = .ok (.iload 5, 2) := dk_21 5 (dk_at dksX13_build_1 17 rfl rfl)
theorem dX13_build_43 : decode cX13_build 43 = .ok (.ifCond .le 7, 3) := dk_158 0 7 (dk_at dksX13_build_1 19 rfl rfl)
theorem dX13_build_46 : decode cX13_build 46 = .ok (.iconst 0, 1) := dk_3 (dk_at dksX13_build_1 22 rfl rfl)
theorem dX13_build_47 : decode cX13_build 47 = .ok (.goto 4, 3) := dk_167 0 4 (dk_at dksX13_build_2 0 rfl rfl)
theorem dX13_build_50 : decode cX13_build 50 = .ok (.iconst 4, 1) := dk_7 (dk_at dksX13_build_2 3 rfl rfl)
theorem dX13_build_51 : decode cX13_build 51 = .ok (.istore 6, 2) := dk_54 6 (dk_at dksX13_build_2 4 rfl rfl)
theorem dX13_build_53 : decode cX13_build 53 = .ok (.iload 5, 2) := dk_21 5 (dk_at dksX13_build_2 6 rfl rfl)
theorem dX13_build_55 : decode cX13_build 55 = .ok (.ifCond .ne 38, 3) := dk_154 0 38 (dk_at dksX13_build_2 8 rfl rfl)
theorem dX13_build_58 : decode cX13_build 58 = .ok (.iload 6, 2) := dk_21 6 (dk_at dksX13_build_2 11 rfl rfl)
theorem dX13_build_60 : decode cX13_build 60 = .ok (.bipush 8, 2) := dk_16 8 (dk_at dksX13_build_2 13 rfl rfl)
theorem dX13_build_62 : decode cX13_build 62 = .ok (.if_icmp .gt 31, 3) := dk_163 0 31 (dk_at dksX13_build_2 15 rfl rfl)
theorem dX13_build_65 : decode cX13_build 65 = .ok (.aload_n 0, 1) := dk_42 (dk_at dksX13_build_2 18 rfl rfl)
theorem dX13_build_66 : decode cX13_build 66 = .ok (.iload 6, 2) := dk_21 6 (dk_at dksX13_build_2 19 rfl rfl)
theorem dX13_build_68 : decode cX13_build 68 = .ok (.iload_n 3, 1) := dk_29 (dk_at dksX13_build_2 21 rfl rfl)
theorem dX13_build_69 : decode cX13_build 69 = .ok (.iload_n 2, 1) := dk_28 (dk_at dksX13_build_2 22 rfl rfl)
theorem dX13_build_70 : decode cX13_build 70 = .ok (.invokevirtual 375, 3) := dk_182 1 119 (dk_at dksX13_build_3 0 rfl rfl)
theorem dX13_build_73 : decode cX13_build 73 = .ok (.istore 5, 2) := dk_54 5 (dk_at dksX13_build_3 3 rfl rfl)
theorem dX13_build_75 : decode cX13_build 75 = .ok (.iload 6, 2) := dk_21 6 (dk_at dksX13_build_3 5 rfl rfl)
theorem dX13_build_77 : decode cX13_build 77 = .ok (.iload 5, 2) := dk_21 5 (dk_at dksX13_build_3 7 rfl rfl)
theorem dX13_build_79 : decode cX13_build 79 = .ok (.ifCond .ne 7, 3) := dk_154 0 7 (dk_at dksX13_build_3 9 rfl rfl)
theorem dX13_build_82 : decode cX13_build 82 = .ok (.iconst 1, 1) := dk_4 (dk_at dksX13_build_3 12 rfl rfl)
theorem dX13_build_83 : decode cX13_build 83 = .ok (.goto 4, 3) := dk_167 0 4 (dk_at dksX13_build_3 13 rfl rfl)
theorem dX13_build_86 : decode cX13_build 86 = .ok (.iconst 0, 1) := dk_3 (dk_at dksX13_build_3 16 rfl rfl)
theorem dX13_build_87 : decode cX13_build 87 = .ok (.iadd, 1) := dk_96 (dk_at dksX13_build_3 17 rfl rfl)
theorem dX13_build_88 : decode cX13_build 88 = .ok (.istore 6, 2) := dk_54 6 (dk_at dksX13_build_3 18 rfl rfl)
theorem dX13_build_90 : decode cX13_build 90 = .ok (.goto (-37), 3) := dk_167 255 219 (dk_at dksX13_build_3 20 rfl rfl)
theorem dX13_build_93 : decode cX13_build 93 = .ok (.aload_n 0, 1) := dk_42 (dk_at dksX13_build_3 23 rfl rfl)
theorem dX13_build_94 : decode cX13_build 94 = .ok (.iload 6, 2) := dk_21 6 (dk_at dksX13_build_4 0 rfl rfl)
theorem dX13_build_96 : decode cX13_build 96 = .ok (.iload_n 3, 1) := dk_29 (dk_at dksX13_build_4 2 rfl rfl)
theorem dX13_build_97 : decode cX13_build 97 = .ok (.iload 5, 2) := dk_21 5 (dk_at dksX13_build_4 3 rfl rfl)
theorem dX13_build_99 : decode cX13_build 99 = .ok (.aload_n 0, 1) := dk_42 (dk_at dksX13_build_4 5 rfl rfl)
theorem dX13_build_100 : decode cX13_build 100 = .ok (.getfield 363, 3) := dk_180 1 107 (dk_at dksX13_build_4 6 rfl rfl)
theorem dX13_build_103 : decode cX13_build 103 = .ok (.iload 4, 2) := dk_21 4 (dk_at dksX13_build_4 9 rfl rfl)
theorem dX13_build_105 : decode cX13_build 105 = .ok (.isub, 1) := dk_100 (dk_at dksX13_build_4 11 rfl rfl)
theorem dX13_build_106 : decode cX13_build 106 = .ok (.invokevirtual 378, 3) := dk_182 1 122 (dk_at dksX13_build_4 12 rfl rfl)
theorem dX13_build_109 : decode cX13_build 109 = .ok (.iload_n 2, 1) := dk_28 (dk_at dksX13_build_4 15 rfl rfl)
theorem dX13_build_110 : decode cX13_build 110 = .ok (.aload_n 0, 1) := dk_42 (dk_at dksX13_build_4 16 rfl rfl)
theorem dX13_build_111 : decode cX13_build 111 = .ok (.getfield 363, 3) := dk_180 1 107 (dk_at dksX13_build_4 17 rfl rfl)
theorem dX13_build_114 : decode cX13_build 114 = .ok (.iload 4, 2) := dk_21 4 (dk_at dksX13_build_4 20 rfl rfl)
theorem dX13_build_116 : decode cX13_build 116 = .ok (.isub, 1) := dk_100 (dk_at dksX13_build_4 22 rfl rfl)
theorem dX13_build_117 : decode cX13_build 117 = .ok (.isub, 1) := dk_100 (dk_at dksX13_build_4 23 rfl rfl)
theorem dX13_build_118 : decode cX13_build 118 = .ok (.istore_n 2, 1) := dk_61 (dk_at dksX13_build_5 0 rfl rfl)
theorem dX13_build_119 : decode cX13_build 119 = .ok (.iload_n 3, 1) := dk_29 (dk_at dksX13_build_5 1 rfl rfl)
theorem dX13_build_120 : decode cX13_build 120 = .ok (.iload 5, 2) := dk_21 5 (dk_at dksX13_build_5 2 rfl rfl)
theorem dX13_build_122 : decode cX13_build 122 = .ok (.ifCond .ne 10, 3) := dk_154 0 10 (dk_at dksX13_build_5 4 rfl rfl)
theorem dX13_build_125 : decode cX13_build 125 = .ok (.aload_n 0, 1) := dk_42 (dk_at dksX13_build_5 7 rfl rfl)
theorem dX13_build_126 : decode cX13_build 126 = .ok (.getfield 134, 3) := dk_180 0 134 (dk_at dksX13_build_5 8 rfl rfl)
theorem dX13_build_129 : decode cX13_build 129 = .ok (.goto 5, 3) := dk_167 0 5 (dk_at dksX13_build_5 11 rfl rfl)
theorem dX13_build_132 : decode cX13_build 132 = .ok (.iload 5, 2) := dk_21 5 (dk_at dksX13_build_5 14 rfl rfl)
theorem dX13_build_134 : decode cX13_build 134 = .ok (.iadd, 1) := dk_96 (dk_at dksX13_build_5 16 rfl rfl)
theorem dX13_build_135 : decode cX13_build 135 = .ok (.istore_n 3, 1) := dk_62 (dk_at dksX13_build_5 17 rfl rfl)
theorem dX13_build_136 : decode cX13_build 136 = .ok (.goto (-117), 3) := dk_167 255 139 (dk_at dksX13_build_5 18 rfl rfl)
theorem dX13_build_139 : decode cX13_build 139 = .ok (.return_, 1) := dk_177 (dk_at dksX13_build_5 21 rfl rfl)
abbrev cX13_oneOfAscii : ByteArray := prog_16_method_77_code
def yX13_oneOfAscii : MethodName := ⟨RX13, "oneOfAscii", "(II)I"⟩
def dkwX13_oneOfAscii_5 : List UInt8 := [42, 17, 0, 235, 182, 1, 128, 42, 42, 180, 0, 38, 27, 46, 16, 127, 100, 182, 1, 128, 4, 172, 3, 172]
abbrev dktX13_oneOfAscii_5 : List UInt8 := dkwX13_oneOfAscii_5 ++ []
def dkwX13_oneOfAscii_4 : List UInt8 := [42, 180, 0, 38, 27, 46, 16, 127, 164, 0, 38, 42, 27, 4, 96, 28, 5, 100, 182, 1, 125, 153, 0, 25]
abbrev dktX13_oneOfAscii_4 : List UInt8 := dkwX13_oneOfAscii_4 ++ dktX13_oneOfAscii_5
def dkwX13_oneOfAscii_3 : List UInt8 := [96, 28, 4, 100, 182, 1, 125, 153, 0, 17, 42, 42, 180, 0, 38, 27, 46, 4, 96, 182, 1, 128, 4, 172]
abbrev dktX13_oneOfAscii_3 : List UInt8 := dkwX13_oneOfAscii_3 ++ dktX13_oneOfAscii_4
def dkwX13_oneOfAscii_2 : List UInt8 := [96, 16, 48, 100, 182, 1, 128, 5, 172, 42, 180, 0, 38, 27, 46, 17, 0, 128, 162, 0, 30, 42, 27, 4]
abbrev dktX13_oneOfAscii_2 : List UInt8 := dkwX13_oneOfAscii_2 ++ dktX13_oneOfAscii_3
def dkwX13_oneOfAscii_1 : List UInt8 := [17, 0, 130, 16, 10, 42, 180, 0, 38, 27, 46, 16, 48, 100, 104, 96, 42, 180, 0, 38, 27, 4, 96, 46]
abbrev dktX13_oneOfAscii_1 : List UInt8 := dkwX13_oneOfAscii_1 ++ dktX13_oneOfAscii_2
def dkwX13_oneOfAscii_0 : List UInt8 := [42, 27, 182, 1, 55, 153, 0, 50, 42, 27, 5, 96, 28, 4, 100, 182, 1, 125, 153, 0, 37, 42]
abbrev dktX13_oneOfAscii_0 : List UInt8 := dkwX13_oneOfAscii_0 ++ dktX13_oneOfAscii_1
theorem dksX13_oneOfAscii_0 : cX13_oneOfAscii.data.toList.drop 0 = dktX13_oneOfAscii_0 := by decide +kernel
theorem dksX13_oneOfAscii_1 : cX13_oneOfAscii.data.toList.drop 22 = dktX13_oneOfAscii_1 := dk_seg dksX13_oneOfAscii_0 22 rfl rfl
theorem dksX13_oneOfAscii_2 : cX13_oneOfAscii.data.toList.drop 46 = dktX13_oneOfAscii_2 := dk_seg dksX13_oneOfAscii_1 24 rfl rfl
theorem dksX13_oneOfAscii_3 : cX13_oneOfAscii.data.toList.drop 70 = dktX13_oneOfAscii_3 := dk_seg dksX13_oneOfAscii_2 24 rfl rfl
theorem dksX13_oneOfAscii_4 : cX13_oneOfAscii.data.toList.drop 94 = dktX13_oneOfAscii_4 := dk_seg dksX13_oneOfAscii_3 24 rfl rfl
theorem dksX13_oneOfAscii_5 : cX13_oneOfAscii.data.toList.drop 118 = dktX13_oneOfAscii_5 := dk_seg dksX13_oneOfAscii_4 24 rfl rfl
theorem dX13_oneOfAscii_0 : decode cX13_oneOfAscii 0 = .ok (.aload_n 0, 1) := dk_42 (dk_at dksX13_oneOfAscii_0 0 rfl rfl)
theorem dX13_oneOfAscii_1 : decode cX13_oneOfAscii 1 = .ok (.iload_n 1, 1) := dk_27 (dk_at dksX13_oneOfAscii_0 1 rfl rfl)
theorem dX13_oneOfAscii_2 : decode cX13_oneOfAscii 2 = .ok (.invokevirtual 311, 3) := dk_182 1 55 (dk_at dksX13_oneOfAscii_0 2 rfl rfl)
theorem dX13_oneOfAscii_5 : decode cX13_oneOfAscii 5 = .ok (.ifCond .eq 50, 3) := dk_153 0 50 (dk_at dksX13_oneOfAscii_0 5 rfl rfl)
theorem dX13_oneOfAscii_8 : decode cX13_oneOfAscii 8 = .ok (.aload_n 0, 1) := dk_42 (dk_at dksX13_oneOfAscii_0 8 rfl rfl)
theorem dX13_oneOfAscii_9 : decode cX13_oneOfAscii 9 = .ok (.iload_n 1, 1) := dk_27 (dk_at dksX13_oneOfAscii_0 9 rfl rfl)
theorem dX13_oneOfAscii_10 : decode cX13_oneOfAscii 10 = .ok (.iconst 2, 1) := dk_5 (dk_at dksX13_oneOfAscii_0 10 rfl rfl)
theorem dX13_oneOfAscii_11 : decode cX13_oneOfAscii 11 = .ok (.iadd, 1) := dk_96 (dk_at dksX13_oneOfAscii_0 11 rfl rfl)
theorem dX13_oneOfAscii_12 : decode cX13_oneOfAscii 12 = .ok (.iload_n 2, 1) := dk_28 (dk_at dksX13_oneOfAscii_0 12 rfl rfl)
theorem dX13_oneOfAscii_13 : decode cX13_oneOfAscii 13 = .ok (.iconst 1, 1) := dk_4 (dk_at dksX13_oneOfAscii_0 13 rfl rfl)
theorem dX13_oneOfAscii_14 : decode cX13_oneOfAscii 14 = .ok (.isub, 1) := dk_100 (dk_at dksX13_oneOfAscii_0 14 rfl rfl)
theorem dX13_oneOfAscii_15 : decode cX13_oneOfAscii 15 = .ok (.invokevirtual 381, 3) := dk_182 1 125 (dk_at dksX13_oneOfAscii_0 15 rfl rfl)
theorem dX13_oneOfAscii_18 : decode cX13_oneOfAscii 18 = .ok (.ifCond .eq 37, 3) := dk_153 0 37 (dk_at dksX13_oneOfAscii_0 18 rfl rfl)
theorem dX13_oneOfAscii_21 : decode cX13_oneOfAscii 21 = .ok (.aload_n 0, 1) := dk_42 (dk_at dksX13_oneOfAscii_0 21 rfl rfl)
theorem dX13_oneOfAscii_22 : decode cX13_oneOfAscii 22 = .ok (.sipush 130, 3) := dk_17 0 130 (dk_at dksX13_oneOfAscii_1 0 rfl rfl)
theorem dX13_oneOfAscii_25 : decode cX13_oneOfAscii 25 = .ok (.bipush 10, 2) := dk_16 10 (dk_at dksX13_oneOfAscii_1 3 rfl rfl)
theorem dX13_oneOfAscii_27 : decode cX13_oneOfAscii 27 = .ok (.aload_n 0, 1) := dk_42 (dk_at dksX13_oneOfAscii_1 5 rfl rfl)
theorem dX13_oneOfAscii_28 : decode cX13_oneOfAscii 28 = .ok (.getfield 38, 3) := dk_180 0 38 (dk_at dksX13_oneOfAscii_1 6 rfl rfl)
theorem dX13_oneOfAscii_31 : decode cX13_oneOfAscii 31 = .ok (.iload_n 1, 1) := dk_27 (dk_at dksX13_oneOfAscii_1 9 rfl rfl)
theorem dX13_oneOfAscii_32 : decode cX13_oneOfAscii 32 = .ok (.iaload, 1) := dk_46 (dk_at dksX13_oneOfAscii_1 10 rfl rfl)
theorem dX13_oneOfAscii_33 : decode cX13_oneOfAscii 33 = .ok (.bipush 48, 2) := dk_16 48 (dk_at dksX13_oneOfAscii_1 11 rfl rfl)
theorem dX13_oneOfAscii_35 : decode cX13_oneOfAscii 35 = .ok (.isub, 1) := dk_100 (dk_at dksX13_oneOfAscii_1 13 rfl rfl)
theorem dX13_oneOfAscii_36 : decode cX13_oneOfAscii 36 = .ok (.imul, 1) := dk_104 (dk_at dksX13_oneOfAscii_1 14 rfl rfl)
theorem dX13_oneOfAscii_37 : decode cX13_oneOfAscii 37 = .ok (.iadd, 1) := dk_96 (dk_at dksX13_oneOfAscii_1 15 rfl rfl)
theorem dX13_oneOfAscii_38 : decode cX13_oneOfAscii 38 = .ok (.aload_n 0, 1) := dk_42 (dk_at dksX13_oneOfAscii_1 16 rfl rfl)
theorem dX13_oneOfAscii_39 : decode cX13_oneOfAscii 39 = .ok (.getfield 38, 3) := dk_180 0 38 (dk_at dksX13_oneOfAscii_1 17 rfl rfl)
theorem dX13_oneOfAscii_42 : decode cX13_oneOfAscii 42 = .ok (.iload_n 1, 1) := dk_27 (dk_at dksX13_oneOfAscii_1 20 rfl rfl)
theorem dX13_oneOfAscii_43 : decode cX13_oneOfAscii 43 = .ok (.iconst 1, 1) := dk_4 (dk_at dksX13_oneOfAscii_1 21 rfl rfl)
theorem dX13_oneOfAscii_44 : decode cX13_oneOfAscii 44 = .ok (.iadd, 1) := dk_96 (dk_at dksX13_oneOfAscii_1 22 rfl rfl)
theorem dX13_oneOfAscii_45 : decode cX13_oneOfAscii 45 = .ok (.iaload, 1) := dk_46 (dk_at dksX13_oneOfAscii_1 23 rfl rfl)
theorem dX13_oneOfAscii_46 : decode cX13_oneOfAscii 46 = .ok (.iadd, 1) := dk_96 (dk_at dksX13_oneOfAscii_2 0 rfl rfl)
theorem dX13_oneOfAscii_47 : decode cX13_oneOfAscii 47 = .ok (.bipush 48, 2) := dk_16 48 (dk_at dksX13_oneOfAscii_2 1 rfl rfl)
theorem dX13_oneOfAscii_49 : decode cX13_oneOfAscii 49 = .ok (.isub, 1) := dk_100 (dk_at dksX13_oneOfAscii_2 3 rfl rfl)
theorem dX13_oneOfAscii_50 : decode cX13_oneOfAscii 50 = .ok (.invokevirtual 384, 3) := dk_182 1 128 (dk_at dksX13_oneOfAscii_2 4 rfl rfl)
theorem dX13_oneOfAscii_53 : decode cX13_oneOfAscii 53 = .ok (.iconst 2, 1) := dk_5 (dk_at dksX13_oneOfAscii_2 7 rfl rfl)
theorem dX13_oneOfAscii_54 : decode cX13_oneOfAscii 54 = .ok (.ireturn, 1) := dk_172 (dk_at dksX13_oneOfAscii_2 8 rfl rfl)
theorem dX13_oneOfAscii_55 : decode cX13_oneOfAscii 55 = .ok (.aload_n 0, 1) := dk_42 (dk_at dksX13_oneOfAscii_2 9 rfl rfl)
theorem dX13_oneOfAscii_56 : decode cX13_oneOfAscii 56 = .ok (.getfield 38, 3) := dk_180 0 38 (dk_at dksX13_oneOfAscii_2 10 rfl rfl)
theorem dX13_oneOfAscii_59 : decode cX13_oneOfAscii 59 = .ok (.iload_n 1, 1) := dk_27 (dk_at dksX13_oneOfAscii_2 13 rfl rfl)
theorem dX13_oneOfAscii_60 : decode cX13_oneOfAscii 60 = .ok (.iaload, 1) := dk_46 (dk_at dksX13_oneOfAscii_2 14 rfl rfl)
theorem dX13_oneOfAscii_61 : decode cX13_oneOfAscii 61 = .ok (.sipush 128, 3) := dk_17 0 128 (dk_at dksX13_oneOfAscii_2 15 rfl rfl)
theorem dX13_oneOfAscii_64 : decode cX13_oneOfAscii 64 = .ok (.if_icmp .ge 30, 3) := dk_162 0 30 (dk_at dksX13_oneOfAscii_2 18 rfl rfl)
theorem dX13_oneOfAscii_67 : decode cX13_oneOfAscii 67 = .ok (.aload_n 0, 1) := dk_42 (dk_at dksX13_oneOfAscii_2 21 rfl rfl)
theorem dX13_oneOfAscii_68 : decode cX13_oneOfAscii 68 = .ok (.iload_n 1, 1) := dk_27 (dk_at dksX13_oneOfAscii_2 22 rfl rfl)
theorem dX13_oneOfAscii_69 : decode cX13_oneOfAscii 69 = .ok (.iconst 1, 1) := dk_4 (dk_at dksX13_oneOfAscii_2 23 rfl rfl)
theorem dX13_oneOfAscii_70 : decode cX13_oneOfAscii 70 = .ok (.iadd, 1) := dk_96 (dk_at dksX13_oneOfAscii_3 0 rfl rfl)
theorem dX13_oneOfAscii_71 : decode cX13_oneOfAscii 71 = .ok (.iload_n 2, 1) := dk_28 (dk_at dksX13_oneOfAscii_3 1 rfl rfl)
theorem dX13_oneOfAscii_72 : decode cX13_oneOfAscii 72 = .ok (.iconst 1, 1) := dk_4 (dk_at dksX13_oneOfAscii_3 2 rfl rfl)
theorem dX13_oneOfAscii_73 : decode cX13_oneOfAscii 73 = .ok (.isub, 1) := dk_100 (dk_at dksX13_oneOfAscii_3 3 rfl rfl)
theorem dX13_oneOfAscii_74 : decode cX13_oneOfAscii 74 = .ok (.invokevirtual 381, 3) := dk_182 1 125 (dk_at dksX13_oneOfAscii_3 4 rfl rfl)
theorem dX13_oneOfAscii_77 : decode cX13_oneOfAscii 77 = .ok (.ifCond .eq 17, 3) := dk_153 0 17 (dk_at dksX13_oneOfAscii_3 7 rfl rfl)
theorem dX13_oneOfAscii_80 : decode cX13_oneOfAscii 80 = .ok (.aload_n 0, 1) := dk_42 (dk_at dksX13_oneOfAscii_3 10 rfl rfl)
theorem dX13_oneOfAscii_81 : decode cX13_oneOfAscii 81 = .ok (.aload_n 0, 1) := dk_42 (dk_at dksX13_oneOfAscii_3 11 rfl rfl)
theorem dX13_oneOfAscii_82 : decode cX13_oneOfAscii 82 = .ok (.getfield 38, 3) := dk_180 0 38 (dk_at dksX13_oneOfAscii_3 12 rfl rfl)
theorem dX13_oneOfAscii_85 : decode cX13_oneOfAscii 85 = .ok (.iload_n 1, 1) := dk_27 (dk_at dksX13_oneOfAscii_3 15 rfl rfl)
theorem dX13_oneOfAscii_86 : decode cX13_oneOfAscii 86 = .ok (.iaload, 1) := dk_46 (dk_at dksX13_oneOfAscii_3 16 rfl rfl)
theorem dX13_oneOfAscii_87 : decode cX13_oneOfAscii 87 = .ok (.iconst 1, 1) := dk_4 (dk_at dksX13_oneOfAscii_3 17 rfl rfl)
theorem dX13_oneOfAscii_88 : decode cX13_oneOfAscii 88 = .ok (.iadd, 1) := dk_96 (dk_at dksX13_oneOfAscii_3 18 rfl rfl)
theorem dX13_oneOfAscii_89 : decode cX13_oneOfAscii 89 = .ok (.invokevirtual 384, 3) := dk_182 1 128 (dk_at dksX13_oneOfAscii_3 19 rfl rfl)
theorem dX13_oneOfAscii_92 : decode cX13_oneOfAscii 92 = .ok (.iconst 1, 1) := dk_4 (dk_at dksX13_oneOfAscii_3 22 rfl rfl)
theorem dX13_oneOfAscii_93 : decode cX13_oneOfAscii 93 = .ok (.ireturn, 1) := dk_172 (dk_at dksX13_oneOfAscii_3 23 rfl rfl)
theorem dX13_oneOfAscii_94 : decode cX13_oneOfAscii 94 = .ok (.aload_n 0, 1) := dk_42 (dk_at dksX13_oneOfAscii_4 0 rfl rfl)
theorem dX13_oneOfAscii_95 : decode cX13_oneOfAscii 95 = .ok (.getfield 38, 3) := dk_180 0 38 (dk_at dksX13_oneOfAscii_4 1 rfl rfl)
theorem dX13_oneOfAscii_98 : decode cX13_oneOfAscii 98 = .ok (.iload_n 1, 1) := dk_27 (dk_at dksX13_oneOfAscii_4 4 rfl rfl)
theorem dX13_oneOfAscii_99 : decode cX13_oneOfAscii 99 = .ok (.iaload, 1) := dk_46 (dk_at dksX13_oneOfAscii_4 5 rfl rfl)
theorem dX13_oneOfAscii_100 : decode cX13_oneOfAscii 100 = .ok (.bipush 127, 2) := dk_16 127 (dk_at dksX13_oneOfAscii_4 6 rfl rfl)
theorem dX13_oneOfAscii_102 : decode cX13_oneOfAscii 102 = .ok (.if_icmp .le 38, 3) := dk_164 0 38 (dk_at dksX13_oneOfAscii_4 8 rfl rfl)
theorem dX13_oneOfAscii_105 : decode cX13_oneOfAscii 105 = .ok (.aload_n 0, 1) := dk_42 (dk_at dksX13_oneOfAscii_4 11 rfl rfl)
theorem dX13_oneOfAscii_106 : decode cX13_oneOfAscii 106 = .ok (.iload_n 1, 1) := dk_27 (dk_at dksX13_oneOfAscii_4 12 rfl rfl)
theorem dX13_oneOfAscii_107 : decode cX13_oneOfAscii 107 = .ok (.iconst 1, 1) := dk_4 (dk_at dksX13_oneOfAscii_4 13 rfl rfl)
theorem dX13_oneOfAscii_108 : decode cX13_oneOfAscii 108 = .ok (.iadd, 1) := dk_96 (dk_at dksX13_oneOfAscii_4 14 rfl rfl)
theorem dX13_oneOfAscii_109 : decode cX13_oneOfAscii 109 = .ok (.iload_n 2, 1) := dk_28 (dk_at dksX13_oneOfAscii_4 15 rfl rfl)
theorem dX13_oneOfAscii_110 : decode cX13_oneOfAscii 110 = .ok (.iconst 2, 1) := dk_5 (dk_at dksX13_oneOfAscii_4 16 rfl rfl)
theorem dX13_oneOfAscii_111 : decode cX13_oneOfAscii 111 = .ok (.isub, 1) := dk_100 (dk_at dksX13_oneOfAscii_4 17 rfl rfl)
theorem dX13_oneOfAscii_112 : decode cX13_oneOfAscii 112 = .ok (.invokevirtual 381, 3) := dk_182 1 125 (dk_at dksX13_oneOfAscii_4 18 rfl rfl)
theorem dX13_oneOfAscii_115 : decode cX13_oneOfAscii 115 = .ok (.ifCond .eq 25, 3) := dk_153 0 25 (dk_at dksX13_oneOfAscii_4 21 rfl rfl)
theorem dX13_oneOfAscii_118 : decode cX13_oneOfAscii 118 = .ok (.aload_n 0, 1) := dk_42 (dk_at dksX13_oneOfAscii_5 0 rfl rfl)
theorem dX13_oneOfAscii_119 : decode cX13_oneOfAscii 119 = .ok (.sipush 235, 3) := dk_17 0 235 (dk_at dksX13_oneOfAscii_5 1 rfl rfl)
theorem dX13_oneOfAscii_122 : decode cX13_oneOfAscii 122 = .ok (.invokevirtual 384, 3) := dk_182 1 128 (dk_at dksX13_oneOfAscii_5 4 rfl rfl)
theorem dX13_oneOfAscii_125 : decode cX13_oneOfAscii 125 = .ok (.aload_n 0, 1) := dk_42 (dk_at dksX13_oneOfAscii_5 7 rfl rfl)
theorem dX13_oneOfAscii_126 : decode cX13_oneOfAscii 126 = .ok (.aload_n 0, 1) := dk_42 (dk_at dksX13_oneOfAscii_5 8 rfl rfl)
theorem dX13_oneOfAscii_127 : decode cX13_oneOfAscii 127 = .ok (.getfield 38, 3) := dk_180 0 38 (dk_at dksX13_oneOfAscii_5 9 rfl rfl)
theorem dX13_oneOfAscii_130 : decode cX13_oneOfAscii 130 = .ok (.iload_n 1, 1) := dk_27 (dk_at dksX13_oneOfAscii_5 12 rfl rfl)
theorem dX13_oneOfAscii_131 : decode cX13_oneOfAscii 131 = .ok (.iaload, 1) := dk_46 (dk_at dksX13_oneOfAscii_5 13 rfl rfl)
theorem dX13_oneOfAscii_132 : decode cX13_oneOfAscii 132 = .ok (.bipush 127, 2) := dk_16 127 (dk_at dksX13_oneOfAscii_5 14 rfl rfl)
theorem dX13_oneOfAscii_134 : decode cX13_oneOfAscii 134 = .ok (.isub, 1) := dk_100 (dk_at dksX13_oneOfAscii_5 16 rfl rfl)
theorem dX13_oneOfAscii_135 : decode cX13_oneOfAscii 135 = .ok (.invokevirtual 384, 3) := dk_182 1 128 (dk_at dksX13_oneOfAscii_5 17 rfl rfl)
theorem dX13_oneOfAscii_138 : decode cX13_oneOfAscii 138 = .ok (.iconst 1, 1) := dk_4 (dk_at dksX13_oneOfAscii_5 20 rfl rfl)
theorem dX13_oneOfAscii_139 : decode cX13_oneOfAscii 139 = .ok (.ireturn, 1) := dk_172 (dk_at dksX13_oneOfAscii_5 21 rfl rfl)
theorem dX13_oneOfAscii_140 : decode cX13_oneOfAscii 140 = .ok (.iconst 0, 1) := dk_3 (dk_at dksX13_oneOfAscii_5 22 rfl rfl)
theorem dX13_oneOfAscii_141 : decode cX13_oneOfAscii 141 = .ok (.ireturn, 1) := dk_172 (dk_at dksX13_oneOfAscii_5 23 rfl rfl)
abbrev cX13_fits : ByteArray := prog_16_method_74_code
def yX13_fits : MethodName := ⟨RX13, "fits", "(II)Z"⟩
def dkwX13_fits_1 : List UInt8 := [182, 1, 103, 172]
abbrev dktX13_fits_1 : List UInt8 := dkwX13_fits_1 ++ []
def dkwX13_fits_0 : List UInt8 := [42, 180, 1, 110, 153, 0, 12, 42, 27, 28, 182, 1, 67, 167, 0, 13, 42, 42, 180, 1, 49, 27, 28]
abbrev dktX13_fits_0 : List UInt8 := dkwX13_fits_0 ++ dktX13_fits_1
theorem dksX13_fits_0 : cX13_fits.data.toList.drop 0 = dktX13_fits_0 := by decide +kernel
theorem dksX13_fits_1 : cX13_fits.data.toList.drop 23 = dktX13_fits_1 := dk_seg dksX13_fits_0 23 rfl rfl
theorem dX13_fits_0 : decode cX13_fits 0 = .ok (.aload_n 0, 1) := dk_42 (dk_at dksX13_fits_0 0 rfl rfl)
theorem dX13_fits_1 : decode cX13_fits 1 = .ok (.getfield 366, 3) := dk_180 1 110 (dk_at dksX13_fits_0 1 rfl rfl)
theorem dX13_fits_4 : decode cX13_fits 4 = .ok (.ifCond .eq 12, 3) := dk_153 0 12 (dk_at dksX13_fits_0 4 rfl rfl)
theorem dX13_fits_7 : decode cX13_fits 7 = .ok (.aload_n 0, 1) := dk_42 (dk_at dksX13_fits_0 7 rfl rfl)
theorem dX13_fits_8 : decode cX13_fits 8 = .ok (.iload_n 1, 1) := dk_27 (dk_at dksX13_fits_0 8 rfl rfl)
theorem dX13_fits_9 : decode cX13_fits 9 = .ok (.iload_n 2, 1) := dk_28 (dk_at dksX13_fits_0 9 rfl rfl)
theorem dX13_fits_10 : decode cX13_fits 10 = .ok (.invokevirtual 323, 3) := dk_182 1 67 (dk_at dksX13_fits_0 10 rfl rfl)
theorem dX13_fits_13 : decode cX13_fits 13 = .ok (.goto 13, 3) := dk_167 0 13 (dk_at dksX13_fits_0 13 rfl rfl)
theorem dX13_fits_16 : decode cX13_fits 16 = .ok (.aload_n 0, 1) := dk_42 (dk_at dksX13_fits_0 16 rfl rfl)
theorem dX13_fits_17 : decode cX13_fits 17 = .ok (.aload_n 0, 1) := dk_42 (dk_at dksX13_fits_0 17 rfl rfl)
theorem dX13_fits_18 : decode cX13_fits 18 = .ok (.getfield 305, 3) := dk_180 1 49 (dk_at dksX13_fits_0 18 rfl rfl)
theorem dX13_fits_21 : decode cX13_fits 21 = .ok (.iload_n 1, 1) := dk_27 (dk_at dksX13_fits_0 21 rfl rfl)
theorem dX13_fits_22 : decode cX13_fits 22 = .ok (.iload_n 2, 1) := dk_28 (dk_at dksX13_fits_0 22 rfl rfl)
theorem dX13_fits_23 : decode cX13_fits 23 = .ok (.invokevirtual 359, 3) := dk_182 1 103 (dk_at dksX13_fits_1 0 rfl rfl)
theorem dX13_fits_26 : decode cX13_fits 26 = .ok (.ireturn, 1) := dk_172 (dk_at dksX13_fits_1 3 rfl rfl)
abbrev cX13_put : ByteArray := prog_16_method_73_code
def yX13_put : MethodName := ⟨RX13, "put", "(I)V"⟩
def dkwX13_put_0 : List UInt8 := [42, 180, 0, 57, 42, 180, 1, 107, 27, 79, 42, 89, 180, 1, 107, 4, 96, 181, 1, 107, 177]
abbrev dktX13_put_0 : List UInt8 := dkwX13_put_0 ++ []
theorem dksX13_put_0 : cX13_put.data.toList.drop 0 = dktX13_put_0 := by decide +kernel
theorem dX13_put_0 : decode cX13_put 0 = .ok (.aload_n 0, 1) := dk_42 (dk_at dksX13_put_0 0 rfl rfl)
theorem dX13_put_1 : decode cX13_put 1 = .ok (.getfield 57, 3) := dk_180 0 57 (dk_at dksX13_put_0 1 rfl rfl)
theorem dX13_put_4 : decode cX13_put 4 = .ok (.aload_n 0, 1) := dk_42 (dk_at dksX13_put_0 4 rfl rfl)
theorem dX13_put_5 : decode cX13_put 5 = .ok (.getfield 363, 3) := dk_180 1 107 (dk_at dksX13_put_0 5 rfl rfl)
theorem dX13_put_8 : decode cX13_put 8 = .ok (.iload_n 1, 1) := dk_27 (dk_at dksX13_put_0 8 rfl rfl)
theorem dX13_put_9 : decode cX13_put 9 = .ok (.iastore, 1) := dk_79 (dk_at dksX13_put_0 9 rfl rfl)
theorem dX13_put_10 : decode cX13_put 10 = .ok (.aload_n 0, 1) := dk_42 (dk_at dksX13_put_0 10 rfl rfl)
theorem dX13_put_11 : decode cX13_put 11 = .ok (.dup, 1) := dk_89 (dk_at dksX13_put_0 11 rfl rfl)
theorem dX13_put_12 : decode cX13_put 12 = .ok (.getfield 363, 3) := dk_180 1 107 (dk_at dksX13_put_0 12 rfl rfl)
theorem dX13_put_15 : decode cX13_put 15 = .ok (.iconst 1, 1) := dk_4 (dk_at dksX13_put_0 15 rfl rfl)
theorem dX13_put_16 : decode cX13_put 16 = .ok (.iadd, 1) := dk_96 (dk_at dksX13_put_0 16 rfl rfl)
theorem dX13_put_17 : decode cX13_put 17 = .ok (.putfield 363, 3) := dk_181 1 107 (dk_at dksX13_put_0 17 rfl rfl)
theorem dX13_put_20 : decode cX13_put 20 = .ok (.return_, 1) := dk_177 (dk_at dksX13_put_0 20 rfl rfl)
abbrev cX13_run : ByteArray := prog_16_method_78_code
def yX13_run : MethodName := ⟨RX13, "run", "(III)I"⟩
def dkwX13_run_2 : List UInt8 := [182, 1, 137, 172]
abbrev dktX13_run_2 : List UInt8 := dkwX13_run_2 ++ []
def dkwX13_run_1 : List UInt8 := [167, 0, 25, 27, 16, 7, 160, 0, 12, 42, 28, 29, 182, 1, 134, 167, 0, 10, 42, 27, 28, 29]
abbrev dktX13_run_1 : List UInt8 := dkwX13_run_1 ++ dktX13_run_2
def dkwX13_run_0 : List UInt8 := [42, 180, 1, 110, 153, 0, 7, 3, 167, 0, 40, 27, 16, 8, 160, 0, 12, 42, 28, 29, 182, 1, 131]
abbrev dktX13_run_0 : List UInt8 := dkwX13_run_0 ++ dktX13_run_1
theorem dksX13_run_0 : cX13_run.data.toList.drop 0 = dktX13_run_0 := by decide +kernel
theorem dksX13_run_1 : cX13_run.data.toList.drop 23 = dktX13_run_1 := dk_seg dksX13_run_0 23 rfl rfl
theorem dksX13_run_2 : cX13_run.data.toList.drop 45 = dktX13_run_2 := dk_seg dksX13_run_1 22 rfl rfl
theorem dX13_run_0 : decode cX13_run 0 = .ok (.aload_n 0, 1) := dk_42 (dk_at dksX13_run_0 0 rfl rfl)
theorem dX13_run_1 : decode cX13_run 1 = .ok (.getfield 366, 3) := dk_180 1 110 (dk_at dksX13_run_0 1 rfl rfl)
theorem dX13_run_4 : decode cX13_run 4 = .ok (.ifCond .eq 7, 3) := dk_153 0 7 (dk_at dksX13_run_0 4 rfl rfl)
theorem dX13_run_7 : decode cX13_run 7 = .ok (.iconst 0, 1) := dk_3 (dk_at dksX13_run_0 7 rfl rfl)
theorem dX13_run_8 : decode cX13_run 8 = .ok (.goto 40, 3) := dk_167 0 40 (dk_at dksX13_run_0 8 rfl rfl)
theorem dX13_run_11 : decode cX13_run 11 = .ok (.iload_n 1, 1) := dk_27 (dk_at dksX13_run_0 11 rfl rfl)
theorem dX13_run_12 : decode cX13_run 12 = .ok (.bipush 8, 2) := dk_16 8 (dk_at dksX13_run_0 12 rfl rfl)
theorem dX13_run_14 : decode cX13_run 14 = .ok (.if_icmp .ne 12, 3) := dk_160 0 12 (dk_at dksX13_run_0 14 rfl rfl)
theorem dX13_run_17 : decode cX13_run 17 = .ok (.aload_n 0, 1) := dk_42 (dk_at dksX13_run_0 17 rfl rfl)
theorem dX13_run_18 : decode cX13_run 18 = .ok (.iload_n 2, 1) := dk_28 (dk_at dksX13_run_0 18 rfl rfl)
theorem dX13_run_19 : decode cX13_run 19 = .ok (.iload_n 3, 1) := dk_29 (dk_at dksX13_run_0 19 rfl rfl)
theorem dX13_run_20 : decode cX13_run 20 = .ok (.invokevirtual 387, 3) := dk_182 1 131 (dk_at dksX13_run_0 20 rfl rfl)
theorem dX13_run_23 : decode cX13_run 23 = .ok (.goto 25, 3) := dk_167 0 25 (dk_at dksX13_run_1 0 rfl rfl)
theorem dX13_run_26 : decode cX13_run 26 = .ok (.iload_n 1, 1) := dk_27 (dk_at dksX13_run_1 3 rfl rfl)
theorem dX13_run_27 : decode cX13_run 27 = .ok (.bipush 7, 2) := dk_16 7 (dk_at dksX13_run_1 4 rfl rfl)
theorem dX13_run_29 : decode cX13_run 29 = .ok (.if_icmp .ne 12, 3) := dk_160 0 12 (dk_at dksX13_run_1 6 rfl rfl)
theorem dX13_run_32 : decode cX13_run 32 = .ok (.aload_n 0, 1) := dk_42 (dk_at dksX13_run_1 9 rfl rfl)
theorem dX13_run_33 : decode cX13_run 33 = .ok (.iload_n 2, 1) := dk_28 (dk_at dksX13_run_1 10 rfl rfl)
theorem dX13_run_34 : decode cX13_run 34 = .ok (.iload_n 3, 1) := dk_29 (dk_at dksX13_run_1 11 rfl rfl)
theorem dX13_run_35 : decode cX13_run 35 = .ok (.invokevirtual 390, 3) := dk_182 1 134 (dk_at dksX13_run_1 12 rfl rfl)
theorem dX13_run_38 : decode cX13_run 38 = .ok (.goto 10, 3) := dk_167 0 10 (dk_at dksX13_run_1 15 rfl rfl)
theorem dX13_run_41 : decode cX13_run 41 = .ok (.aload_n 0, 1) := dk_42 (dk_at dksX13_run_1 18 rfl rfl)
theorem dX13_run_42 : decode cX13_run 42 = .ok (.iload_n 1, 1) := dk_27 (dk_at dksX13_run_1 19 rfl rfl)
theorem dX13_run_43 : decode cX13_run 43 = .ok (.iload_n 2, 1) := dk_28 (dk_at dksX13_run_1 20 rfl rfl)
theorem dX13_run_44 : decode cX13_run 44 = .ok (.iload_n 3, 1) := dk_29 (dk_at dksX13_run_1 21 rfl rfl)
theorem dX13_run_45 : decode cX13_run 45 = .ok (.invokevirtual 393, 3) := dk_182 1 137 (dk_at dksX13_run_2 0 rfl rfl)
theorem dX13_run_48 : decode cX13_run 48 = .ok (.ireturn, 1) := dk_172 (dk_at dksX13_run_2 3 rfl rfl)
abbrev cX13_runBase : ByteArray := prog_16_method_84_code
def yX13_runBase : MethodName := ⟨RX13, "runBase", "(II)I"⟩
def dkwX13_runBase_9 : List UInt8 := [181, 1, 110, 29, 172, 132, 3, 1, 167, 255, 36, 3, 172]
abbrev dktX13_runBase_9 : List UInt8 := dkwX13_runBase_9 ++ []
def dkwX13_runBase_8 : List UInt8 := [21, 7, 96, 46, 182, 1, 150, 132, 7, 1, 167, 255, 234, 42, 21, 5, 154, 0, 7, 4, 167, 0, 4, 3]
abbrev dktX13_runBase_8 : List UInt8 := dkwX13_runBase_8 ++ dktX13_runBase_9
def dkwX13_runBase_7 : List UInt8 := [42, 29, 17, 0, 250, 112, 182, 1, 150, 3, 54, 7, 21, 7, 29, 162, 0, 22, 42, 42, 180, 0, 38, 27]
abbrev dktX13_runBase_7 : List UInt8 := dkwX13_runBase_7 ++ dktX13_runBase_8
def dkwX13_runBase_6 : List UInt8 := [17, 0, 250, 108, 96, 167, 0, 4, 3, 182, 1, 150, 21, 5, 153, 0, 19, 29, 17, 0, 249, 164, 0, 12]
abbrev dktX13_runBase_6 : List UInt8 := dkwX13_runBase_6 ++ dktX13_runBase_7
def dkwX13_runBase_5 : List UInt8 := [182, 1, 128, 42, 21, 5, 153, 0, 26, 29, 17, 0, 250, 162, 0, 7, 29, 167, 0, 16, 17, 0, 249, 29]
abbrev dktX13_runBase_5 : List UInt8 := dkwX13_runBase_5 ++ dktX13_runBase_6
def dkwX13_runBase_4 : List UInt8 := [160, 0, 7, 4, 167, 0, 4, 3, 54, 6, 21, 5, 154, 0, 8, 21, 6, 153, 0, 108, 42, 17, 0, 231]
abbrev dktX13_runBase_4 : List UInt8 := dkwX13_runBase_4 ++ dktX13_runBase_5
def dkwX13_runBase_3 : List UInt8 := [154, 0, 31, 42, 180, 1, 61, 154, 0, 24, 27, 29, 96, 42, 180, 0, 134, 160, 0, 14, 29, 5, 96, 28]
abbrev dktX13_runBase_3 : List UInt8 := dkwX13_runBase_3 ++ dktX13_runBase_4
def dkwX13_runBase_2 : List UInt8 := [96, 28, 21, 4, 100, 182, 1, 103, 153, 0, 7, 4, 167, 0, 4, 3, 54, 5, 42, 180, 1, 64]
abbrev dktX13_runBase_2 : List UInt8 := dkwX13_runBase_2 ++ dktX13_runBase_3
def dkwX13_runBase_1 : List UInt8 := [6, 96, 54, 4, 29, 17, 6, 219, 163, 0, 31, 21, 4, 28, 163, 0, 25, 42, 42, 180, 1, 49, 27, 29]
abbrev dktX13_runBase_1 : List UInt8 := dkwX13_runBase_1 ++ dktX13_runBase_2
def dkwX13_runBase_0 : List UInt8 := [4, 62, 29, 42, 180, 0, 134, 27, 100, 163, 0, 216, 29, 29, 17, 0, 250, 162, 0, 7, 5, 167, 0, 4]
abbrev dktX13_runBase_0 : List UInt8 := dkwX13_runBase_0 ++ dktX13_runBase_1
theorem dksX13_runBase_0 : cX13_runBase.data.toList.drop 0 = dktX13_runBase_0 := by decide +kernel
theorem dksX13_runBase_1 : cX13_runBase.data.toList.drop 24 = dktX13_runBase_1 := dk_seg dksX13_runBase_0 24 rfl rfl
theorem dksX13_runBase_2 : cX13_runBase.data.toList.drop 48 = dktX13_runBase_2 := dk_seg dksX13_runBase_1 24 rfl rfl
theorem dksX13_runBase_3 : cX13_runBase.data.toList.drop 70 = dktX13_runBase_3 := dk_seg dksX13_runBase_2 22 rfl rfl
theorem dksX13_runBase_4 : cX13_runBase.data.toList.drop 94 = dktX13_runBase_4 := dk_seg dksX13_runBase_3 24 rfl rfl
theorem dksX13_runBase_5 : cX13_runBase.data.toList.drop 118 = dktX13_runBase_5 := dk_seg dksX13_runBase_4 24 rfl rfl
theorem dksX13_runBase_6 : cX13_runBase.data.toList.drop 142 = dktX13_runBase_6 := dk_seg dksX13_runBase_5 24 rfl rfl
theorem dksX13_runBase_7 : cX13_runBase.data.toList.drop 166 = dktX13_runBase_7 := dk_seg dksX13_runBase_6 24 rfl rfl
theorem dksX13_runBase_8 : cX13_runBase.data.toList.drop 190 = dktX13_runBase_8 := dk_seg dksX13_runBase_7 24 rfl rfl
theorem dksX13_runBase_9 : cX13_runBase.data.toList.drop 214 = dktX13_runBase_9 := dk_seg dksX13_runBase_8 24 rfl rfl
theorem dX13_runBase_0 : decode cX13_runBase 0 = .ok (.iconst 1, 1) := dk_4 (dk_at dksX13_runBase_0 0 rfl rfl)
theorem dX13_runBase_1 : decode cX13_runBase 1 = .ok (.istore_n 3, 1) := dk_62 (dk_at dksX13_runBase_0 1 rfl rfl)
theorem dX13_runBase_2 : decode cX13_runBase 2 = .ok (.iload_n 3, 1) := dk_29 (dk_at dksX13_runBase_0 2 rfl rfl)
theorem dX13_runBase_3 : decode cX13_runBase 3 = .ok (.aload_n 0, 1) := dk_42 (dk_at dksX13_runBase_0 3 rfl rfl)
theorem dX13_runBase_4 : decode cX13_runBase 4 = .ok (.getfield 134, 3) := dk_180 0 134 (dk_at dksX13_runBase_0 4 rfl rfl)
theorem dX13_runBase_7 : decode cX13_runBase 7 = .ok (.iload_n 1, 1) := dk_27 (dk_at dksX13_runBase_0 7 rfl rfl)
theorem dX13_runBase_8 : decode cX13_runBase 8 = .ok (.isub, 1) := dk_100 (dk_at dksX13_runBase_0 8 rfl rfl)
theorem dX13_runBase_9 : decode cX13_runBase 9 = .ok (.if_icmp .gt 216, 3) := dk_163 0 216 (dk_at dksX13_runBase_0 9 rfl rfl)
theorem dX13_runBase_12 : decode cX13_runBase 12 = .ok (.iload_n 3, 1) := dk_29 (dk_at dksX13_runBase_0 12 rfl rfl)
theorem dX13_runBase_13 : decode cX13_runBase 13 = .ok (.iload_n 3, 1) := dk_29 (dk_at dksX13_runBase_0 13 rfl rfl)
theorem dX13_runBase_14 : decode cX13_runBase 14 = .ok (.sipush 250, 3) := dk_17 0 250 (dk_at dksX13_runBase_0 14 rfl rfl)
theorem dX13_runBase_17 : decode cX13_runBase 17 = .ok (.if_icmp .ge 7, 3) := dk_162 0 7 (dk_at dksX13_runBase_0 17 rfl rfl)
theorem dX13_runBase_20 : decode cX13_runBase 20 = .ok (.iconst 2, 1) := dk_5 (dk_at dksX13_runBase_0 20 rfl rfl)
theorem dX13_runBase_21 : decode cX13_runBase 21 = .ok (.goto 4, 3) := dk_167 0 4 (dk_at dksX13_runBase_0 21 rfl rfl)
theorem dX13_runBase_24 : decode cX13_runBase 24 = .ok (.iconst 3, 1) := dk_6 (dk_at dksX13_runBase_1 0 rfl rfl)
theorem dX13_runBase_25 : decode cX13_runBase 25 = .ok (.iadd, 1) := dk_96 (dk_at dksX13_runBase_1 1 rfl rfl)
theorem dX13_runBase_26 : decode cX13_runBase 26 = .ok (.istore 4, 2) := dk_54 4 (dk_at dksX13_runBase_1 2 rfl rfl)
theorem dX13_runBase_28 : decode cX13_runBase 28 = .ok (.iload_n 3, 1) := dk_29 (dk_at dksX13_runBase_1 4 rfl rfl)
theorem dX13_runBase_29 : decode cX13_runBase 29 = .ok (.sipush 1755, 3) := dk_17 6 219 (dk_at dksX13_runBase_1 5 rfl rfl)
theorem dX13_runBase_32 : decode cX13_runBase 32 = .ok (.if_icmp .gt 31, 3) := dk_163 0 31 (dk_at dksX13_runBase_1 8 rfl rfl)
theorem dX13_runBase_35 : decode cX13_runBase 35 = .ok (.iload 4, 2) := dk_21 4 (dk_at dksX13_runBase_1 11 rfl rfl)
theorem dX13_runBase_37 : decode cX13_runBase 37 = .ok (.iload_n 2, 1) := dk_28 (dk_at dksX13_runBase_1 13 rfl rfl)
theorem dX13_runBase_38 : decode cX13_runBase 38 = .ok (.if_icmp .gt 25, 3) := dk_163 0 25 (dk_at dksX13_runBase_1 14 rfl rfl)
theorem dX13_runBase_41 : decode cX13_runBase 41 = .ok (.aload_n 0, 1) := dk_42 (dk_at dksX13_runBase_1 17 rfl rfl)
theorem dX13_runBase_42 : decode cX13_runBase 42 = .ok (.aload_n 0, 1) := dk_42 (dk_at dksX13_runBase_1 18 rfl rfl)
theorem dX13_runBase_43 : decode cX13_runBase 43 = .ok (.getfield 305, 3) := dk_180 1 49 (dk_at dksX13_runBase_1 19 rfl rfl)
theorem dX13_runBase_46 : decode cX13_runBase 46 = .ok (.iload_n 1, 1) := dk_27 (dk_at dksX13_runBase_1 22 rfl rfl)
theorem dX13_runBase_47 : decode cX13_runBase 47 = .ok (.iload_n 3, 1) := dk_29 (dk_at dksX13_runBase_1 23 rfl rfl)
theorem dX13_runBase_48 : decode cX13_runBase 48 = .ok (.iadd, 1) := dk_96 (dk_at dksX13_runBase_2 0 rfl rfl)
theorem dX13_runBase_49 : decode cX13_runBase 49 = .ok (.iload_n 2, 1) := dk_28 (dk_at dksX13_runBase_2 1 rfl rfl)
theorem dX13_runBase_50 : decode cX13_runBase 50 = .ok (.iload 4, 2) := dk_21 4 (dk_at dksX13_runBase_2 2 rfl rfl)
theorem dX13_runBase_52 : decode cX13_runBase 52 = .ok (.isub, 1) := dk_100 (dk_at dksX13_runBase_2 4 rfl rfl)
theorem dX13_runBase_53 : decode cX13_runBase 53 = .ok (.invokevirtual 359, 3) := dk_182 1 103 (dk_at dksX13_runBase_2 5 rfl rfl)
theorem dX13_runBase_56 : decode cX13_runBase 56 = .ok (.ifCond .eq 7, 3) := dk_153 0 7 (dk_at dksX13_runBase_2 8 rfl rfl)
theorem dX13_runBase_59 : decode cX13_runBase 59 = .ok (.iconst 1, 1) := dk_4 (dk_at dksX13_runBase_2 11 rfl rfl)
theorem dX13_runBase_60 : decode cX13_runBase 60 = .ok (.goto 4, 3) := dk_167 0 4 (dk_at dksX13_runBase_2 12 rfl rfl)
theorem dX13_runBase_63 : decode cX13_runBase 63 = .ok (.iconst 0, 1) := dk_3 (dk_at dksX13_runBase_2 15 rfl rfl)
theorem dX13_runBase_64 : decode cX13_runBase 64 = .ok (.istore 5, 2) := dk_54 5 (dk_at dksX13_runBase_2 16 rfl rfl)
theorem dX13_runBase_66 : decode cX13_runBase 66 = .ok (.aload_n 0, 1) := dk_42 (dk_at dksX13_runBase_2 18 rfl rfl)
theorem dX13_runBase_67 : decode cX13_runBase 67 = .ok (.getfield 320, 3) := dk_180 1 64 (dk_at dksX13_runBase_2 19 rfl rfl)
theorem dX13_runBase_70 : decode cX13_runBase 70 = .ok (.ifCond .ne 31, 3) := dk_154 0 31 (dk_at dksX13_runBase_3 0 rfl rfl)
theorem dX13_runBase_73 : decode cX13_runBase 73 = .ok (.aload_n 0, 1) := dk_42 (dk_at dksX13_runBase_3 3 rfl rfl)
theorem dX13_runBase_74 : decode cX13_runBase 74 = .ok (.getfield 317, 3) := dk_180 1 61 (dk_at dksX13_runBase_3 4 rfl rfl)
theorem dX13_runBase_77 : decode cX13_runBase 77 = .ok (.ifCond .ne 24, 3) := dk_154 0 24 (dk_at dksX13_runBase_3 7 rfl rfl)
theorem dX13_runBase_80 : decode cX13_runBase 80 = .ok (.iload_n 1, 1) := dk_27 (dk_at dksX13_runBase_3 10 rfl rfl)
theorem dX13_runBase_81 : decode cX13_runBase 81 = .ok (.iload_n 3, 1) := dk_29 (dk_at dksX13_runBase_3 11 rfl rfl)
theorem dX13_runBase_82 : decode cX13_runBase 82 = .ok (.iadd, 1) := dk_96 (dk_at dksX13_runBase_3 12 rfl rfl)
theorem dX13_runBase_83 : decode cX13_runBase 83 = .ok (.aload_n 0, 1) := dk_42 (dk_at dksX13_runBase_3 13 rfl rfl)
theorem dX13_runBase_84 : decode cX13_runBase 84 = .ok (.getfield 134, 3) := dk_180 0 134 (dk_at dksX13_runBase_3 14 rfl rfl)
theorem dX13_runBase_87 : decode cX13_runBase 87 = .ok (.if_icmp .ne 14, 3) := dk_160 0 14 (dk_at dksX13_runBase_3 17 rfl rfl)
theorem dX13_runBase_90 : decode cX13_runBase 90 = .ok (.iload_n 3, 1) := dk_29 (dk_at dksX13_runBase_3 20 rfl rfl)
theorem dX13_runBase_91 : decode cX13_runBase 91 = .ok (.iconst 2, 1) := dk_5 (dk_at dksX13_runBase_3 21 rfl rfl)
theorem dX13_runBase_92 : decode cX13_runBase 92 = .ok (.iadd, 1) := dk_96 (dk_at dksX13_runBase_3 22 rfl rfl)
theorem dX13_runBase_93 : decode cX13_runBase 93 = .ok (.iload_n 2, 1) := dk_28 (dk_at dksX13_runBase_3 23 rfl rfl)
theorem dX13_runBase_94 : decode cX13_runBase 94 = .ok (.if_icmp .ne 7, 3) := dk_160 0 7 (dk_at dksX13_runBase_4 0 rfl rfl)
theorem dX13_runBase_97 : decode cX13_runBase 97 = .ok (.iconst 1, 1) := dk_4 (dk_at dksX13_runBase_4 3 rfl rfl)
theorem dX13_runBase_98 : decode cX13_runBase 98 = .ok (.goto 4, 3) := dk_167 0 4 (dk_at dksX13_runBase_4 4 rfl rfl)
theorem dX13_runBase_101 : decode cX13_runBase 101 = .ok (.iconst 0, 1) := dk_3 (dk_at dksX13_runBase_4 7 rfl rfl)
theorem dX13_runBase_102 : decode cX13_runBase 102 = .ok (.istore 6, 2) := dk_54 6 (dk_at dksX13_runBase_4 8 rfl rfl)
theorem dX13_runBase_104 : decode cX13_runBase 104 = .ok (.iload 5, 2) := dk_21 5 (dk_at dksX13_runBase_4 10 rfl rfl)
theorem dX13_runBase_106 : decode cX13_runBase 106 = .ok (.ifCond .ne 8, 3) := dk_154 0 8 (dk_at dksX13_runBase_4 12 rfl rfl)
theorem dX13_runBase_109 : decode cX13_runBase 109 = .ok (.iload 6, 2) := dk_21 6 (dk_at dksX13_runBase_4 15 rfl rfl)
theorem dX13_runBase_111 : decode cX13_runBase 111 = .ok (.ifCond .eq 108, 3) := dk_153 0 108 (dk_at dksX13_runBase_4 17 rfl rfl)
theorem dX13_runBase_114 : decode cX13_runBase 114 = .ok (.aload_n 0, 1) := dk_42 (dk_at dksX13_runBase_4 20 rfl rfl)
theorem dX13_runBase_115 : decode cX13_runBase 115 = .ok (.sipush 231, 3) := dk_17 0 231 (dk_at dksX13_runBase_4 21 rfl rfl)
theorem dX13_runBase_118 : decode cX13_runBase 118 = .ok (.invokevirtual 384, 3) := dk_182 1 128 (dk_at dksX13_runBase_5 0 rfl rfl)
theorem dX13_runBase_121 : decode cX13_runBase 121 = .ok (.aload_n 0, 1) := dk_42 (dk_at dksX13_runBase_5 3 rfl rfl)
theorem dX13_runBase_122 : decode cX13_runBase 122 = .ok (.iload 5, 2) := dk_21 5 (dk_at dksX13_runBase_5 4 rfl rfl)
theorem dX13_runBase_124 : decode cX13_runBase 124 = .ok (.ifCond .eq 26, 3) := dk_153 0 26 (dk_at dksX13_runBase_5 6 rfl rfl)
theorem dX13_runBase_127 : decode cX13_runBase 127 = .ok (.iload_n 3, 1) := dk_29 (dk_at dksX13_runBase_5 9 rfl rfl)
theorem dX13_runBase_128 : decode cX13_runBase 128 = .ok (.sipush 250, 3) := dk_17 0 250 (dk_at dksX13_runBase_5 10 rfl rfl)
theorem dX13_runBase_131 : decode cX13_runBase 131 = .ok (.if_icmp .ge 7, 3) := dk_162 0 7 (dk_at dksX13_runBase_5 13 rfl rfl)
theorem dX13_runBase_134 : decode cX13_runBase 134 = .ok (.iload_n 3, 1) := dk_29 (dk_at dksX13_runBase_5 16 rfl rfl)
theorem dX13_runBase_135 : decode cX13_runBase 135 = .ok (.goto 16, 3) := dk_167 0 16 (dk_at dksX13_runBase_5 17 rfl rfl)
theorem dX13_runBase_138 : decode cX13_runBase 138 = .ok (.sipush 249, 3) := dk_17 0 249 (dk_at dksX13_runBase_5 20 rfl rfl)
theorem dX13_runBase_141 : decode cX13_runBase 141 = .ok (.iload_n 3, 1) := dk_29 (dk_at dksX13_runBase_5 23 rfl rfl)
theorem dX13_runBase_142 : decode cX13_runBase 142 = .ok (.sipush 250, 3) := dk_17 0 250 (dk_at dksX13_runBase_6 0 rfl rfl)
theorem dX13_runBase_145 : decode cX13_runBase 145 = .ok (.idiv, 1) := dk_108 (dk_at dksX13_runBase_6 3 rfl rfl)
theorem dX13_runBase_146 : decode cX13_runBase 146 = .ok (.iadd, 1) := dk_96 (dk_at dksX13_runBase_6 4 rfl rfl)
theorem dX13_runBase_147 : decode cX13_runBase 147 = .ok (.goto 4, 3) := dk_167 0 4 (dk_at dksX13_runBase_6 5 rfl rfl)
theorem dX13_runBase_150 : decode cX13_runBase 150 = .ok (.iconst 0, 1) := dk_3 (dk_at dksX13_runBase_6 8 rfl rfl)
theorem dX13_runBase_151 : decode cX13_runBase 151 = .ok (.invokevirtual 406, 3) := dk_182 1 150 (dk_at dksX13_runBase_6 9 rfl rfl)
theorem dX13_runBase_154 : decode cX13_runBase 154 = .ok (.iload 5, 2) := dk_21 5 (dk_at dksX13_runBase_6 12 rfl rfl)
theorem dX13_runBase_156 : decode cX13_runBase 156 = .ok (.ifCond .eq 19, 3) := dk_153 0 19 (dk_at dksX13_runBase_6 14 rfl rfl)
theorem dX13_runBase_159 : decode cX13_runBase 159 = .ok (.iload_n 3, 1) := dk_29 (dk_at dksX13_runBase_6 17 rfl rfl)
theorem dX13_runBase_160 : decode cX13_runBase 160 = .ok (.sipush 249, 3) := dk_17 0 249 (dk_at dksX13_runBase_6 18 rfl rfl)
theorem dX13_runBase_163 : decode cX13_runBase 163 = .ok (.if_icmp .le 12, 3) := dk_164 0 12 (dk_at dksX13_runBase_6 21 rfl rfl)
theorem dX13_runBase_166 : decode cX13_runBase 166 = .ok (.aload_n 0, 1) := dk_42 (dk_at dksX13_runBase_7 0 rfl rfl)
theorem dX13_runBase_167 : decode cX13_runBase 167 = .ok (.iload_n 3, 1) := dk_29 (dk_at dksX13_runBase_7 1 rfl rfl)
theorem dX13_runBase_168 : decode cX13_runBase 168 = .ok (.sipush 250, 3) := dk_17 0 250 (dk_at dksX13_runBase_7 2 rfl rfl)
theorem dX13_runBase_171 : decode cX13_runBase 171 = .ok (.irem, 1) := dk_112 (dk_at dksX13_runBase_7 5 rfl rfl)
theorem dX13_runBase_172 : decode cX13_runBase 172 = .ok (.invokevirtual 406, 3) := dk_182 1 150 (dk_at dksX13_runBase_7 6 rfl rfl)
theorem dX13_runBase_175 : decode cX13_runBase 175 = .ok (.iconst 0, 1) := dk_3 (dk_at dksX13_runBase_7 9 rfl rfl)
theorem dX13_runBase_176 : decode cX13_runBase 176 = .ok (.istore 7, 2) := dk_54 7 (dk_at dksX13_runBase_7 10 rfl rfl)
theorem dX13_runBase_178 : decode cX13_runBase 178 = .ok (.iload 7, 2) := dk_21 7 (dk_at dksX13_runBase_7 12 rfl rfl)
theorem dX13_runBase_180 : decode cX13_runBase 180 = .ok (.iload_n 3, 1) := dk_29 (dk_at dksX13_runBase_7 14 rfl rfl)
theorem dX13_runBase_181 : decode cX13_runBase 181 = .ok (.if_icmp .ge 22, 3) := dk_162 0 22 (dk_at dksX13_runBase_7 15 rfl rfl)
theorem dX13_runBase_184 : decode cX13_runBase 184 = .ok (.aload_n 0, 1) := dk_42 (dk_at dksX13_runBase_7 18 rfl rfl)
theorem dX13_runBase_185 : decode cX13_runBase 185 = .ok (.aload_n 0, 1) := dk_42 (dk_at dksX13_runBase_7 19 rfl rfl)
theorem dX13_runBase_186 : decode cX13_runBase 186 = .ok (.getfield 38, 3) := dk_180 0 38 (dk_at dksX13_runBase_7 20 rfl rfl)
theorem dX13_runBase_189 : decode cX13_runBase 189 = .ok (.iload_n 1, 1) := dk_27 (dk_at dksX13_runBase_7 23 rfl rfl)
theorem dX13_runBase_190 : decode cX13_runBase 190 = .ok (.iload 7, 2) := dk_21 7 (dk_at dksX13_runBase_8 0 rfl rfl)
theorem dX13_runBase_192 : decode cX13_runBase 192 = .ok (.iadd, 1) := dk_96 (dk_at dksX13_runBase_8 2 rfl rfl)
theorem dX13_runBase_193 : decode cX13_runBase 193 = .ok (.iaload, 1) := dk_46 (dk_at dksX13_runBase_8 3 rfl rfl)
theorem dX13_runBase_194 : decode cX13_runBase 194 = .ok (.invokevirtual 406, 3) := dk_182 1 150 (dk_at dksX13_runBase_8 4 rfl rfl)
theorem dX13_runBase_197 : decode cX13_runBase 197 = .ok (.iinc 7 1, 3) := dk_132 7 1 (dk_at dksX13_runBase_8 7 rfl rfl)
theorem dX13_runBase_200 : decode cX13_runBase 200 = .ok (.goto (-22), 3) := dk_167 255 234 (dk_at dksX13_runBase_8 10 rfl rfl)
theorem dX13_runBase_203 : decode cX13_runBase 203 = .ok (.aload_n 0, 1) := dk_42 (dk_at dksX13_runBase_8 13 rfl rfl)
theorem dX13_runBase_204 : decode cX13_runBase 204 = .ok (.iload 5, 2) := dk_21 5 (dk_at dksX13_runBase_8 14 rfl rfl)
theorem dX13_runBase_206 : decode cX13_runBase 206 = .ok (.ifCond .ne 7, 3) := dk_154 0 7 (dk_at dksX13_runBase_8 16 rfl rfl)
theorem dX13_runBase_209 : decode cX13_runBase 209 = .ok (.iconst 1, 1) := dk_4 (dk_at dksX13_runBase_8 19 rfl rfl)
theorem dX13_runBase_210 : decode cX13_runBase 210 = .ok (.goto 4, 3) := dk_167 0 4 (dk_at dksX13_runBase_8 20 rfl rfl)
theorem dX13_runBase_213 : decode cX13_runBase 213 = .ok (.iconst 0, 1) := dk_3 (dk_at dksX13_runBase_8 23 rfl rfl)
theorem dX13_runBase_214 : decode cX13_runBase 214 = .ok (.putfield 366, 3) := dk_181 1 110 (dk_at dksX13_runBase_9 0 rfl rfl)
theorem dX13_runBase_217 : decode cX13_runBase 217 = .ok (.iload_n 3, 1) := dk_29 (dk_at dksX13_runBase_9 3 rfl rfl)
theorem dX13_runBase_218 : decode cX13_runBase 218 = .ok (.ireturn, 1) := dk_172 (dk_at dksX13_runBase_9 4 rfl rfl)
theorem dX13_runBase_219 : decode cX13_runBase 219 = .ok (.iinc 3 1, 3) := dk_132 3 1 (dk_at dksX13_runBase_9 5 rfl rfl)
theorem dX13_runBase_222 : decode cX13_runBase 222 = .ok (.goto (-220), 3) := dk_167 255 36 (dk_at dksX13_runBase_9 8 rfl rfl)
theorem dX13_runBase_225 : decode cX13_runBase 225 = .ok (.iconst 0, 1) := dk_3 (dk_at dksX13_runBase_9 11 rfl rfl)
theorem dX13_runBase_226 : decode cX13_runBase 226 = .ok (.ireturn, 1) := dk_172 (dk_at dksX13_runBase_9 12 rfl rfl)
abbrev cX13_mix : ByteArray := prog_16_method_85_code
def yX13_mix : MethodName := ⟨RX13, "mix", "(I)V"⟩
def dkwX13_mix_1 : List UInt8 := [17, 0, 255, 126, 182, 1, 128, 177]
abbrev dktX13_mix_1 : List UInt8 := dkwX13_mix_1 ++ []
def dkwX13_mix_0 : List UInt8 := [42, 27, 17, 0, 149, 42, 180, 1, 107, 4, 96, 104, 17, 0, 255, 112, 96, 17, 0, 255, 126, 4, 96]
abbrev dktX13_mix_0 : List UInt8 := dkwX13_mix_0 ++ dktX13_mix_1
theorem dksX13_mix_0 : cX13_mix.data.toList.drop 0 = dktX13_mix_0 := by decide +kernel
theorem dksX13_mix_1 : cX13_mix.data.toList.drop 23 = dktX13_mix_1 := dk_seg dksX13_mix_0 23 rfl rfl
theorem dX13_mix_0 : decode cX13_mix 0 = .ok (.aload_n 0, 1) := dk_42 (dk_at dksX13_mix_0 0 rfl rfl)
theorem dX13_mix_1 : decode cX13_mix 1 = .ok (.iload_n 1, 1) := dk_27 (dk_at dksX13_mix_0 1 rfl rfl)
theorem dX13_mix_2 : decode cX13_mix 2 = .ok (.sipush 149, 3) := dk_17 0 149 (dk_at dksX13_mix_0 2 rfl rfl)
theorem dX13_mix_5 : decode cX13_mix 5 = .ok (.aload_n 0, 1) := dk_42 (dk_at dksX13_mix_0 5 rfl rfl)
theorem dX13_mix_6 : decode cX13_mix 6 = .ok (.getfield 363, 3) := dk_180 1 107 (dk_at dksX13_mix_0 6 rfl rfl)
theorem dX13_mix_9 : decode cX13_mix 9 = .ok (.iconst 1, 1) := dk_4 (dk_at dksX13_mix_0 9 rfl rfl)
theorem dX13_mix_10 : decode cX13_mix 10 = .ok (.iadd, 1) := dk_96 (dk_at dksX13_mix_0 10 rfl rfl)
theorem dX13_mix_11 : decode cX13_mix 11 = .ok (.imul, 1) := dk_104 (dk_at dksX13_mix_0 11 rfl rfl)
theorem dX13_mix_12 : decode cX13_mix 12 = .ok (.sipush 255, 3) := dk_17 0 255 (dk_at dksX13_mix_0 12 rfl rfl)
theorem dX13_mix_15 : decode cX13_mix 15 = .ok (.irem, 1) := dk_112 (dk_at dksX13_mix_0 15 rfl rfl)
theorem dX13_mix_16 : decode cX13_mix 16 = .ok (.iadd, 1) := dk_96 (dk_at dksX13_mix_0 16 rfl rfl)
theorem dX13_mix_17 : decode cX13_mix 17 = .ok (.sipush 255, 3) := dk_17 0 255 (dk_at dksX13_mix_0 17 rfl rfl)
theorem dX13_mix_20 : decode cX13_mix 20 = .ok (.iand, 1) := dk_126 (dk_at dksX13_mix_0 20 rfl rfl)
theorem dX13_mix_21 : decode cX13_mix 21 = .ok (.iconst 1, 1) := dk_4 (dk_at dksX13_mix_0 21 rfl rfl)
theorem dX13_mix_22 : decode cX13_mix 22 = .ok (.iadd, 1) := dk_96 (dk_at dksX13_mix_0 22 rfl rfl)
theorem dX13_mix_23 : decode cX13_mix 23 = .ok (.sipush 255, 3) := dk_17 0 255 (dk_at dksX13_mix_1 0 rfl rfl)
theorem dX13_mix_26 : decode cX13_mix 26 = .ok (.iand, 1) := dk_126 (dk_at dksX13_mix_1 3 rfl rfl)
theorem dX13_mix_27 : decode cX13_mix 27 = .ok (.invokevirtual 384, 3) := dk_182 1 128 (dk_at dksX13_mix_1 4 rfl rfl)
theorem dX13_mix_30 : decode cX13_mix 30 = .ok (.return_, 1) := dk_177 (dk_at dksX13_mix_1 7 rfl rfl)
abbrev cX13_runSixes : ByteArray := prog_16_method_82_code
def yX13_runSixes : MethodName := ⟨RX13, "runSixes", "(II)I"⟩
def dkwX13_runSixes_6 : List UInt8 := [154, 0, 7, 4, 167, 0, 4, 3, 181, 1, 110, 29, 172, 132, 3, 1, 167, 255, 101, 3, 172]
abbrev dktX13_runSixes_6 : List UInt8 := dkwX13_runSixes_6 ++ []
def dkwX13_runSixes_5 : List UInt8 := [96, 28, 21, 4, 100, 5, 182, 1, 140, 153, 0, 27, 42, 27, 29, 21, 7, 182, 1, 146, 42, 21, 7]
abbrev dktX13_runSixes_5 : List UInt8 := dkwX13_runSixes_5 ++ dktX13_runSixes_6
def dkwX13_runSixes_4 : List UInt8 := [153, 0, 7, 4, 167, 0, 4, 3, 54, 7, 21, 7, 154, 0, 24, 29, 7, 112, 154, 0, 42, 42, 27, 29]
abbrev dktX13_runSixes_4 : List UInt8 := dkwX13_runSixes_4 ++ dktX13_runSixes_5
def dkwX13_runSixes_3 : List UInt8 := [21, 5, 100, 42, 180, 1, 61, 100, 161, 0, 23, 42, 42, 180, 1, 49, 27, 29, 96, 21, 6, 182, 1, 103]
abbrev dktX13_runSixes_3 : List UInt8 := dkwX13_runSixes_3 ++ dktX13_runSixes_4
def dkwX13_runSixes_2 : List UInt8 := [7, 112, 184, 1, 76, 54, 5, 28, 21, 4, 100, 21, 5, 100, 54, 6, 21, 6, 155, 0, 37, 21, 6, 6]
abbrev dktX13_runSixes_2 : List UInt8 := dkwX13_runSixes_2 ++ dktX13_runSixes_3
def dkwX13_runSixes_1 : List UInt8 := [184, 1, 94, 153, 0, 135, 4, 6, 29, 7, 108, 104, 96, 54, 4, 21, 4, 28, 164, 0, 5, 3, 172, 29]
abbrev dktX13_runSixes_1 : List UInt8 := dkwX13_runSixes_1 ++ dktX13_runSixes_2
def dkwX13_runSixes_0 : List UInt8 := [4, 62, 29, 42, 180, 0, 134, 27, 100, 163, 0, 151, 42, 180, 0, 38, 27, 29, 96, 4, 100, 46]
abbrev dktX13_runSixes_0 : List UInt8 := dkwX13_runSixes_0 ++ dktX13_runSixes_1
theorem dksX13_runSixes_0 : cX13_runSixes.data.toList.drop 0 = dktX13_runSixes_0 := by decide +kernel
theorem dksX13_runSixes_1 : cX13_runSixes.data.toList.drop 22 = dktX13_runSixes_1 := dk_seg dksX13_runSixes_0 22 rfl rfl
theorem dksX13_runSixes_2 : cX13_runSixes.data.toList.drop 46 = dktX13_runSixes_2 := dk_seg dksX13_runSixes_1 24 rfl rfl
theorem dksX13_runSixes_3 : cX13_runSixes.data.toList.drop 70 = dktX13_runSixes_3 := dk_seg dksX13_runSixes_2 24 rfl rfl
theorem dksX13_runSixes_4 : cX13_runSixes.data.toList.drop 94 = dktX13_runSixes_4 := dk_seg dksX13_runSixes_3 24 rfl rfl
theorem dksX13_runSixes_5 : cX13_runSixes.data.toList.drop 118 = dktX13_runSixes_5 := dk_seg dksX13_runSixes_4 24 rfl rfl
theorem dksX13_runSixes_6 : cX13_runSixes.data.toList.drop 141 = dktX13_runSixes_6 := dk_seg dksX13_runSixes_5 23 rfl rfl
theorem dX13_runSixes_0 : decode cX13_runSixes 0 = .ok (.iconst 1, 1) := dk_4 (dk_at dksX13_runSixes_0 0 rfl rfl)
theorem dX13_runSixes_1 : decode cX13_runSixes 1 = .ok (.istore_n 3, 1) := dk_62 (dk_at dksX13_runSixes_0 1 rfl rfl)
theorem dX13_runSixes_2 : decode cX13_runSixes 2 = .ok (.iload_n 3, 1) := dk_29 (dk_at dksX13_runSixes_0 2 rfl rfl)
theorem dX13_runSixes_3 : decode cX13_runSixes 3 = .ok (.aload_n 0, 1) := dk_42 (dk_at dksX13_runSixes_0 3 rfl rfl)
theorem dX13_runSixes_4 : decode cX13_runSixes 4 = .ok (.getfield 134, 3) := dk_180 0 134 (dk_at dksX13_runSixes_0 4 rfl rfl)
theorem dX13_runSixes_7 : decode cX13_runSixes 7 = .ok (.iload_n 1, 1) := dk_27 (dk_at dksX13_runSixes_0 7 rfl rfl)
theorem dX13_runSixes_8 : decode cX13_runSixes 8 = .ok (.isub, 1) := dk_100 (dk_at dksX13_runSixes_0 8 rfl rfl)
theorem dX13_runSixes_9 : decode cX13_runSixes 9 = .ok (.if_icmp .gt 151, 3) := dk_163 0 151 (dk_at dksX13_runSixes_0 9 rfl rfl)
theorem dX13_runSixes_12 : decode cX13_runSixes 12 = .ok (.aload_n 0, 1) := dk_42 (dk_at dksX13_runSixes_0 12 rfl rfl)
theorem dX13_runSixes_13 : decode cX13_runSixes 13 = .ok (.getfield 38, 3) := dk_180 0 38 (dk_at dksX13_runSixes_0 13 rfl rfl)
theorem dX13_runSixes_16 : decode cX13_runSixes 16 = .ok (.iload_n 1, 1) := dk_27 (dk_at dksX13_runSixes_0 16 rfl rfl)
theorem dX13_runSixes_17 : decode cX13_runSixes 17 = .ok (.iload_n 3, 1) := dk_29 (dk_at dksX13_runSixes_0 17 rfl rfl)
theorem dX13_runSixes_18 : decode cX13_runSixes 18 = .ok (.iadd, 1) := dk_96 (dk_at dksX13_runSixes_0 18 rfl rfl)
theorem dX13_runSixes_19 : decode cX13_runSixes 19 = .ok (.iconst 1, 1) := dk_4 (dk_at dksX13_runSixes_0 19 rfl rfl)
theorem dX13_runSixes_20 : decode cX13_runSixes 20 = .ok (.isub, 1) := dk_100 (dk_at dksX13_runSixes_0 20 rfl rfl)
theorem dX13_runSixes_21 : decode cX13_runSixes 21 = .ok (.iaload, 1) := dk_46 (dk_at dksX13_runSixes_0 21 rfl rfl)
theorem dX13_runSixes_22 : decode cX13_runSixes 22 = .ok (.invokestatic 350, 3) := dk_184 1 94 (dk_at dksX13_runSixes_1 0 rfl rfl)
theorem dX13_runSixes_25 : decode cX13_runSixes 25 = .ok (.ifCond .eq 135, 3) := dk_153 0 135 (dk_at dksX13_runSixes_1 3 rfl rfl)
theorem dX13_runSixes_28 : decode cX13_runSixes 28 = .ok (.iconst 1, 1) := dk_4 (dk_at dksX13_runSixes_1 6 rfl rfl)
theorem dX13_runSixes_29 : decode cX13_runSixes 29 = .ok (.iconst 3, 1) := dk_6 (dk_at dksX13_runSixes_1 7 rfl rfl)
theorem dX13_runSixes_30 : decode cX13_runSixes 30 = .ok (.iload_n 3, 1) := dk_29 (dk_at dksX13_runSixes_1 8 rfl rfl)
theorem dX13_runSixes_31 : decode cX13_runSixes 31 = .ok (.iconst 4, 1) := dk_7 (dk_at dksX13_runSixes_1 9 rfl rfl)
theorem dX13_runSixes_32 : decode cX13_runSixes 32 = .ok (.idiv, 1) := dk_108 (dk_at dksX13_runSixes_1 10 rfl rfl)
theorem dX13_runSixes_33 : decode cX13_runSixes 33 = .ok (.imul, 1) := dk_104 (dk_at dksX13_runSixes_1 11 rfl rfl)
theorem dX13_runSixes_34 : decode cX13_runSixes 34 = .ok (.iadd, 1) := dk_96 (dk_at dksX13_runSixes_1 12 rfl rfl)
theorem dX13_runSixes_35 : decode cX13_runSixes 35 = .ok (.istore 4, 2) := dk_54 4 (dk_at dksX13_runSixes_1 13 rfl rfl)
theorem dX13_runSixes_37 : decode cX13_runSixes 37 = .ok (.iload 4, 2) := dk_21 4 (dk_at dksX13_runSixes_1 15 rfl rfl)
theorem dX13_runSixes_39 : decode cX13_runSixes 39 = .ok (.iload_n 2, 1) := dk_28 (dk_at dksX13_runSixes_1 17 rfl rfl)
theorem dX13_runSixes_40 : decode cX13_runSixes 40 = .ok (.if_icmp .le 5, 3) := dk_164 0 5 (dk_at dksX13_runSixes_1 18 rfl rfl)
theorem dX13_runSixes_43 : decode cX13_runSixes 43 = .ok (.iconst 0, 1) := dk_3 (dk_at dksX13_runSixes_1 21 rfl rfl)
theorem dX13_runSixes_44 : decode cX13_runSixes 44 = .ok (.ireturn, 1) := dk_172 (dk_at dksX13_runSixes_1 22 rfl rfl)
theorem dX13_runSixes_45 : decode cX13_runSixes 45 = .ok (.iload_n 3, 1) := dk_29 (dk_at dksX13_runSixes_1 23 rfl rfl)
theorem dX13_runSixes_46 : decode cX13_runSixes 46 = .ok (.iconst 4, 1) := dk_7 (dk_at dksX13_runSixes_2 0 rfl rfl)
theorem dX13_runSixes_47 : decode cX13_runSixes 47 = .ok (.irem, 1) := dk_112 (dk_at dksX13_runSixes_2 1 rfl rfl)
theorem dX13_runSixes_48 : decode cX13_runSixes 48 = .ok (.invokestatic 332, 3) := dk_184 1 76 (dk_at dksX13_runSixes_2 2 rfl rfl)
theorem dX13_runSixes_51 : decode cX13_runSixes 51 = .ok (.istore 5, 2) := dk_54 5 (dk_at dksX13_runSixes_2 5 rfl rfl)
theorem dX13_runSixes_53 : decode cX13_runSixes 53 = .ok (.iload_n 2, 1) := dk_28 (dk_at dksX13_runSixes_2 7 rfl rfl)
theorem dX13_runSixes_54 : decode cX13_runSixes 54 = .ok (.iload 4, 2) := dk_21 4 (dk_at dksX13_runSixes_2 8 rfl rfl)
theorem dX13_runSixes_56 : decode cX13_runSixes 56 = .ok (.isub, 1) := dk_100 (dk_at dksX13_runSixes_2 10 rfl rfl)
theorem dX13_runSixes_57 : decode cX13_runSixes 57 = .ok (.iload 5, 2) := dk_21 5 (dk_at dksX13_runSixes_2 11 rfl rfl)
theorem dX13_runSixes_59 : decode cX13_runSixes 59 = .ok (.isub, 1) := dk_100 (dk_at dksX13_runSixes_2 13 rfl rfl)
theorem dX13_runSixes_60 : decode cX13_runSixes 60 = .ok (.istore 6, 2) := dk_54 6 (dk_at dksX13_runSixes_2 14 rfl rfl)
theorem dX13_runSixes_62 : decode cX13_runSixes 62 = .ok (.iload 6, 2) := dk_21 6 (dk_at dksX13_runSixes_2 16 rfl rfl)
theorem dX13_runSixes_64 : decode cX13_runSixes 64 = .ok (.ifCond .lt 37, 3) := dk_155 0 37 (dk_at dksX13_runSixes_2 18 rfl rfl)
theorem dX13_runSixes_67 : decode cX13_runSixes 67 = .ok (.iload 6, 2) := dk_21 6 (dk_at dksX13_runSixes_2 21 rfl rfl)
theorem dX13_runSixes_69 : decode cX13_runSixes 69 = .ok (.iconst 3, 1) := dk_6 (dk_at dksX13_runSixes_2 23 rfl rfl)
theorem dX13_runSixes_70 : decode cX13_runSixes 70 = .ok (.iload 5, 2) := dk_21 5 (dk_at dksX13_runSixes_3 0 rfl rfl)
theorem dX13_runSixes_72 : decode cX13_runSixes 72 = .ok (.isub, 1) := dk_100 (dk_at dksX13_runSixes_3 2 rfl rfl)
theorem dX13_runSixes_73 : decode cX13_runSixes 73 = .ok (.aload_n 0, 1) := dk_42 (dk_at dksX13_runSixes_3 3 rfl rfl)
theorem dX13_runSixes_74 : decode cX13_runSixes 74 = .ok (.getfield 317, 3) := dk_180 1 61 (dk_at dksX13_runSixes_3 4 rfl rfl)
theorem dX13_runSixes_77 : decode cX13_runSixes 77 = .ok (.isub, 1) := dk_100 (dk_at dksX13_runSixes_3 7 rfl rfl)
theorem dX13_runSixes_78 : decode cX13_runSixes 78 = .ok (.if_icmp .lt 23, 3) := dk_161 0 23 (dk_at dksX13_runSixes_3 8 rfl rfl)
theorem dX13_runSixes_81 : decode cX13_runSixes 81 = .ok (.aload_n 0, 1) := dk_42 (dk_at dksX13_runSixes_3 11 rfl rfl)
theorem dX13_runSixes_82 : decode cX13_runSixes 82 = .ok (.aload_n 0, 1) := dk_42 (dk_at dksX13_runSixes_3 12 rfl rfl)
theorem dX13_runSixes_83 : decode cX13_runSixes 83 = .ok (.getfield 305, 3) := dk_180 1 49 (dk_at dksX13_runSixes_3 13 rfl rfl)
theorem dX13_runSixes_86 : decode cX13_runSixes 86 = .ok (.iload_n 1, 1) := dk_27 (dk_at dksX13_runSixes_3 16 rfl rfl)
theorem dX13_runSixes_87 : decode cX13_runSixes 87 = .ok (.iload_n 3, 1) := dk_29 (dk_at dksX13_runSixes_3 17 rfl rfl)
theorem dX13_runSixes_88 : decode cX13_runSixes 88 = .ok (.iadd, 1) := dk_96 (dk_at dksX13_runSixes_3 18 rfl rfl)
theorem dX13_runSixes_89 : decode cX13_runSixes 89 = .ok (.iload 6, 2) := dk_21 6 (dk_at dksX13_runSixes_3 19 rfl rfl)
theorem dX13_runSixes_91 : decode cX13_runSixes 91 = .ok (.invokevirtual 359, 3) := dk_182 1 103 (dk_at dksX13_runSixes_3 21 rfl rfl)
theorem dX13_runSixes_94 : decode cX13_runSixes 94 = .ok (.ifCond .eq 7, 3) := dk_153 0 7 (dk_at dksX13_runSixes_4 0 rfl rfl)
theorem dX13_runSixes_97 : decode cX13_runSixes 97 = .ok (.iconst 1, 1) := dk_4 (dk_at dksX13_runSixes_4 3 rfl rfl)
theorem dX13_runSixes_98 : decode cX13_runSixes 98 = .ok (.goto 4, 3) := dk_167 0 4 (dk_at dksX13_runSixes_4 4 rfl rfl)
theorem dX13_runSixes_101 : decode cX13_runSixes 101 = .ok (.iconst 0, 1) := dk_3 (dk_at dksX13_runSixes_4 7 rfl rfl)
theorem dX13_runSixes_102 : decode cX13_runSixes 102 = .ok (.istore 7, 2) := dk_54 7 (dk_at dksX13_runSixes_4 8 rfl rfl)
theorem dX13_runSixes_104 : decode cX13_runSixes 104 = .ok (.iload 7, 2) := dk_21 7 (dk_at dksX13_runSixes_4 10 rfl rfl)
theorem dX13_runSixes_106 : decode cX13_runSixes 106 = .ok (.ifCond .ne 24, 3) := dk_154 0 24 (dk_at dksX13_runSixes_4 12 rfl rfl)
theorem dX13_runSixes_109 : decode cX13_runSixes 109 = .ok (.iload_n 3, 1) := dk_29 (dk_at dksX13_runSixes_4 15 rfl rfl)
theorem dX13_runSixes_110 : decode cX13_runSixes 110 = .ok (.iconst 4, 1) := dk_7 (dk_at dksX13_runSixes_4 16 rfl rfl)
theorem dX13_runSixes_111 : decode cX13_runSixes 111 = .ok (.irem, 1) := dk_112 (dk_at dksX13_runSixes_4 17 rfl rfl)
theorem dX13_runSixes_112 : decode cX13_runSixes 112 = .ok (.ifCond .ne 42, 3) := dk_154 0 42 (dk_at dksX13_runSixes_4 18 rfl rfl)
theorem dX13_runSixes_115 : decode cX13_runSixes 115 = .ok (.aload_n 0, 1) := dk_42 (dk_at dksX13_runSixes_4 21 rfl rfl)
theorem dX13_runSixes_116 : decode cX13_runSixes 116 = .ok (.iload_n 1, 1) := dk_27 (dk_at dksX13_runSixes_4 22 rfl rfl)
theorem dX13_runSixes_117 : decode cX13_runSixes 117 = .ok (.iload_n 3, 1) := dk_29 (dk_at dksX13_runSixes_4 23 rfl rfl)
theorem dX13_runSixes_118 : decode cX13_runSixes 118 = .ok (.iadd, 1) := dk_96 (dk_at dksX13_runSixes_5 0 rfl rfl)
theorem dX13_runSixes_119 : decode cX13_runSixes 119 = .ok (.iload_n 2, 1) := dk_28 (dk_at dksX13_runSixes_5 1 rfl rfl)
theorem dX13_runSixes_120 : decode cX13_runSixes 120 = .ok (.iload 4, 2) := dk_21 4 (dk_at dksX13_runSixes_5 2 rfl rfl)
theorem dX13_runSixes_122 : decode cX13_runSixes 122 = .ok (.isub, 1) := dk_100 (dk_at dksX13_runSixes_5 4 rfl rfl)
theorem dX13_runSixes_123 : decode cX13_runSixes 123 = .ok (.iconst 2, 1) := dk_5 (dk_at dksX13_runSixes_5 5 rfl rfl)
theorem dX13_runSixes_124 : decode cX13_runSixes 124 = .ok (.invokevirtual 396, 3) := dk_182 1 140 (dk_at dksX13_runSixes_5 6 rfl rfl)
theorem dX13_runSixes_127 : decode cX13_runSixes 127 = .ok (.ifCond .eq 27, 3) := dk_153 0 27 (dk_at dksX13_runSixes_5 9 rfl rfl)
theorem dX13_runSixes_130 : decode cX13_runSixes 130 = .ok (.aload_n 0, 1) := dk_42 (dk_at dksX13_runSixes_5 12 rfl rfl)
theorem dX13_runSixes_131 : decode cX13_runSixes 131 = .ok (.iload_n 1, 1) := dk_27 (dk_at dksX13_runSixes_5 13 rfl rfl)
theorem dX13_runSixes_132 : decode cX13_runSixes 132 = .ok (.iload_n 3, 1) := dk_29 (dk_at dksX13_runSixes_5 14 rfl rfl)
theorem dX13_runSixes_133 : decode cX13_runSixes 133 = .ok (.iload 7, 2) := dk_21 7 (dk_at dksX13_runSixes_5 15 rfl rfl)
theorem dX13_runSixes_135 : decode cX13_runSixes 135 = .ok (.invokevirtual 402, 3) := dk_182 1 146 (dk_at dksX13_runSixes_5 17 rfl rfl)
theorem dX13_runSixes_138 : decode cX13_runSixes 138 = .ok (.aload_n 0, 1) := dk_42 (dk_at dksX13_runSixes_5 20 rfl rfl)
theorem dX13_runSixes_139 : decode cX13_runSixes 139 = .ok (.iload 7, 2) := dk_21 7 (dk_at dksX13_runSixes_5 21 rfl rfl)
theorem dX13_runSixes_141 : decode cX13_runSixes 141 = .ok (.ifCond .ne 7, 3) := dk_154 0 7 (dk_at dksX13_runSixes_6 0 rfl rfl)
theorem dX13_runSixes_144 : decode cX13_runSixes 144 = .ok (.iconst 1, 1) := dk_4 (dk_at dksX13_runSixes_6 3 rfl rfl)
theorem dX13_runSixes_145 : decode cX13_runSixes 145 = .ok (.goto 4, 3) := dk_167 0 4 (dk_at dksX13_runSixes_6 4 rfl rfl)
theorem dX13_runSixes_148 : decode cX13_runSixes 148 = .ok (.iconst 0, 1) := dk_3 (dk_at dksX13_runSixes_6 7 rfl rfl)
theorem dX13_runSixes_149 : decode cX13_runSixes 149 = .ok (.putfield 366, 3) := dk_181 1 110 (dk_at dksX13_runSixes_6 8 rfl rfl)
theorem dX13_runSixes_152 : decode cX13_runSixes 152 = .ok (.iload_n 3, 1) := dk_29 (dk_at dksX13_runSixes_6 11 rfl rfl)
theorem dX13_runSixes_153 : decode cX13_runSixes 153 = .ok (.ireturn, 1) := dk_172 (dk_at dksX13_runSixes_6 12 rfl rfl)
theorem dX13_runSixes_154 : decode cX13_runSixes 154 = .ok (.iinc 3 1, 3) := dk_132 3 1 (dk_at dksX13_runSixes_6 13 rfl rfl)
theorem dX13_runSixes_157 : decode cX13_runSixes 157 = .ok (.goto (-155), 3) := dk_167 255 101 (dk_at dksX13_runSixes_6 16 rfl rfl)
theorem dX13_runSixes_160 : decode cX13_runSixes 160 = .ok (.iconst 0, 1) := dk_3 (dk_at dksX13_runSixes_6 19 rfl rfl)
theorem dX13_runSixes_161 : decode cX13_runSixes 161 = .ok (.ireturn, 1) := dk_172 (dk_at dksX13_runSixes_6 20 rfl rfl)
abbrev cX13_endsOpen : ByteArray := prog_16_method_79_code
def yX13_endsOpen : MethodName := ⟨RX13, "endsOpen", "(III)Z"⟩
def dkwX13_endsOpen_1 : List UInt8 := [182, 1, 67, 153, 0, 7, 4, 167, 0, 4, 3, 172]
abbrev dktX13_endsOpen_1 : List UInt8 := dkwX13_endsOpen_1 ++ []
def dkwX13_endsOpen_0 : List UInt8 := [42, 180, 1, 64, 154, 0, 30, 28, 155, 0, 26, 28, 29, 42, 180, 1, 61, 100, 163, 0, 16, 42, 27, 28]
abbrev dktX13_endsOpen_0 : List UInt8 := dkwX13_endsOpen_0 ++ dktX13_endsOpen_1
theorem dksX13_endsOpen_0 : cX13_endsOpen.data.toList.drop 0 = dktX13_endsOpen_0 := by decide +kernel
theorem dksX13_endsOpen_1 : cX13_endsOpen.data.toList.drop 24 = dktX13_endsOpen_1 := dk_seg dksX13_endsOpen_0 24 rfl rfl
theorem dX13_endsOpen_0 : decode cX13_endsOpen 0 = .ok (.aload_n 0, 1) := dk_42 (dk_at dksX13_endsOpen_0 0 rfl rfl)
theorem dX13_endsOpen_1 : decode cX13_endsOpen 1 = .ok (.getfield 320, 3) := dk_180 1 64 (dk_at dksX13_endsOpen_0 1 rfl rfl)
theorem dX13_endsOpen_4 : decode cX13_endsOpen 4 = .ok (.ifCond .ne 30, 3) := dk_154 0 30 (dk_at dksX13_endsOpen_0 4 rfl rfl)
theorem dX13_endsOpen_7 : decode cX13_endsOpen 7 = .ok (.iload_n 2, 1) := dk_28 (dk_at dksX13_endsOpen_0 7 rfl rfl)
theorem dX13_endsOpen_8 : decode cX13_endsOpen 8 = .ok (.ifCond .lt 26, 3) := dk_155 0 26 (dk_at dksX13_endsOpen_0 8 rfl rfl)
theorem dX13_endsOpen_11 : decode cX13_endsOpen 11 = .ok (.iload_n 2, 1) := dk_28 (dk_at dksX13_endsOpen_0 11 rfl rfl)
theorem dX13_endsOpen_12 : decode cX13_endsOpen 12 = .ok (.iload_n 3, 1) := dk_29 (dk_at dksX13_endsOpen_0 12 rfl rfl)
theorem dX13_endsOpen_13 : decode cX13_endsOpen 13 = .ok (.aload_n 0, 1) := dk_42 (dk_at dksX13_endsOpen_0 13 rfl rfl)
theorem dX13_endsOpen_14 : decode cX13_endsOpen 14 = .ok (.getfield 317, 3) := dk_180 1 61 (dk_at dksX13_endsOpen_0 14 rfl rfl)
theorem dX13_endsOpen_17 : decode cX13_endsOpen 17 = .ok (.isub, 1) := dk_100 (dk_at dksX13_endsOpen_0 17 rfl rfl)
theorem dX13_endsOpen_18 : decode cX13_endsOpen 18 = .ok (.if_icmp .gt 16, 3) := dk_163 0 16 (dk_at dksX13_endsOpen_0 18 rfl rfl)
theorem dX13_endsOpen_21 : decode cX13_endsOpen 21 = .ok (.aload_n 0, 1) := dk_42 (dk_at dksX13_endsOpen_0 21 rfl rfl)
theorem dX13_endsOpen_22 : decode cX13_endsOpen 22 = .ok (.iload_n 1, 1) := dk_27 (dk_at dksX13_endsOpen_0 22 rfl rfl)
theorem dX13_endsOpen_23 : decode cX13_endsOpen 23 = .ok (.iload_n 2, 1) := dk_28 (dk_at dksX13_endsOpen_0 23 rfl rfl)
theorem dX13_endsOpen_24 : decode cX13_endsOpen 24 = .ok (.invokevirtual 323, 3) := dk_182 1 67 (dk_at dksX13_endsOpen_1 0 rfl rfl)
theorem dX13_endsOpen_27 : decode cX13_endsOpen 27 = .ok (.ifCond .eq 7, 3) := dk_153 0 7 (dk_at dksX13_endsOpen_1 3 rfl rfl)
theorem dX13_endsOpen_30 : decode cX13_endsOpen 30 = .ok (.iconst 1, 1) := dk_4 (dk_at dksX13_endsOpen_1 6 rfl rfl)
theorem dX13_endsOpen_31 : decode cX13_endsOpen 31 = .ok (.goto 4, 3) := dk_167 0 4 (dk_at dksX13_endsOpen_1 7 rfl rfl)
theorem dX13_endsOpen_34 : decode cX13_endsOpen 34 = .ok (.iconst 0, 1) := dk_3 (dk_at dksX13_endsOpen_1 10 rfl rfl)
theorem dX13_endsOpen_35 : decode cX13_endsOpen 35 = .ok (.ireturn, 1) := dk_172 (dk_at dksX13_endsOpen_1 11 rfl rfl)
abbrev cX13_putSixes : ByteArray := prog_16_method_83_code
def yX13_putSixes : MethodName := ⟨RX13, "putSixes", "(IIZ)V"⟩
def dkwX13_putSixes_6 : List UInt8 := [16, 16, 16, 8, 21, 6, 104, 100, 122, 17, 0, 255, 126, 182, 1, 128, 132, 6, 1, 167, 255, 227, 177]
abbrev dktX13_putSixes_6 : List UInt8 := dkwX13_putSixes_6 ++ []
def dkwX13_putSixes_5 : List UInt8 := [16, 6, 7, 21, 5, 100, 104, 120, 54, 4, 3, 54, 6, 21, 6, 21, 5, 162, 0, 28, 42, 21, 4]
abbrev dktX13_putSixes_5 : List UInt8 := dkwX13_putSixes_5 ++ dktX13_putSixes_6
def dkwX13_putSixes_4 : List UInt8 := [21, 4, 17, 0, 255, 126, 182, 1, 128, 3, 54, 5, 3, 54, 4, 132, 6, 1, 167, 255, 159, 21, 4]
abbrev dktX13_putSixes_4 : List UInt8 := dkwX13_putSixes_4 ++ dktX13_putSixes_5
def dkwX13_putSixes_3 : List UInt8 := [42, 21, 4, 16, 16, 122, 182, 1, 128, 42, 21, 4, 16, 8, 122, 17, 0, 255, 126, 182, 1, 128, 42]
abbrev dktX13_putSixes_3 : List UInt8 := dkwX13_putSixes_3 ++ dktX13_putSixes_4
def dkwX13_putSixes_2 : List UInt8 := [21, 6, 96, 46, 16, 63, 126, 167, 0, 5, 16, 31, 128, 54, 4, 132, 5, 1, 21, 5, 7, 160, 0, 41]
abbrev dktX13_putSixes_2 : List UInt8 := dkwX13_putSixes_2 ++ dktX13_putSixes_3
def dkwX13_putSixes_1 : List UInt8 := [167, 0, 4, 3, 96, 162, 0, 87, 21, 4, 16, 6, 120, 21, 6, 28, 162, 0, 18, 42, 180, 0, 38, 27]
abbrev dktX13_putSixes_1 : List UInt8 := dkwX13_putSixes_1 ++ dktX13_putSixes_2
def dkwX13_putSixes_0 : List UInt8 := [42, 17, 0, 240, 182, 1, 128, 3, 54, 4, 3, 54, 5, 3, 54, 6, 21, 6, 28, 29, 153, 0, 7, 4]
abbrev dktX13_putSixes_0 : List UInt8 := dkwX13_putSixes_0 ++ dktX13_putSixes_1
theorem dksX13_putSixes_0 : cX13_putSixes.data.toList.drop 0 = dktX13_putSixes_0 := by decide +kernel
theorem dksX13_putSixes_1 : cX13_putSixes.data.toList.drop 24 = dktX13_putSixes_1 := dk_seg dksX13_putSixes_0 24 rfl rfl
theorem dksX13_putSixes_2 : cX13_putSixes.data.toList.drop 48 = dktX13_putSixes_2 := dk_seg dksX13_putSixes_1 24 rfl rfl
theorem dksX13_putSixes_3 : cX13_putSixes.data.toList.drop 72 = dktX13_putSixes_3 := dk_seg dksX13_putSixes_2 24 rfl rfl
theorem dksX13_putSixes_4 : cX13_putSixes.data.toList.drop 95 = dktX13_putSixes_4 := dk_seg dksX13_putSixes_3 23 rfl rfl
theorem dksX13_putSixes_5 : cX13_putSixes.data.toList.drop 118 = dktX13_putSixes_5 := dk_seg dksX13_putSixes_4 23 rfl rfl
theorem dksX13_putSixes_6 : cX13_putSixes.data.toList.drop 141 = dktX13_putSixes_6 := dk_seg dksX13_putSixes_5 23 rfl rfl
theorem dX13_putSixes_0 : decode cX13_putSixes 0 = .ok (.aload_n 0, 1) := dk_42 (dk_at dksX13_putSixes_0 0 rfl rfl)
theorem dX13_putSixes_1 : decode cX13_putSixes 1 = .ok (.sipush 240, 3) := dk_17 0 240 (dk_at dksX13_putSixes_0 1 rfl rfl)
theorem dX13_putSixes_4 : decode cX13_putSixes 4 = .ok (.invokevirtual 384, 3) := dk_182 1 128 (dk_at dksX13_putSixes_0 4 rfl rfl)
theorem dX13_putSixes_7 : decode cX13_putSixes 7 = .ok (.iconst 0, 1) := dk_3 (dk_at dksX13_putSixes_0 7 rfl rfl)
theorem dX13_putSixes_8 : decode cX13_putSixes 8 = .ok (.istore 4, 2) := dk_54 4 (dk_at dksX13_putSixes_0 8 rfl rfl)
theorem dX13_putSixes_10 : decode cX13_putSixes 10 = .ok (.iconst 0, 1) := dk_3 (dk_at dksX13_putSixes_0 10 rfl rfl)
theorem dX13_putSixes_11 : decode cX13_putSixes 11 = .ok (.istore 5, 2) := dk_54 5 (dk_at dksX13_putSixes_0 11 rfl rfl)
theorem dX13_putSixes_13 : decode cX13_putSixes 13 = .ok (.iconst 0, 1) := dk_3 (dk_at dksX13_putSixes_0 13 rfl rfl)
theorem dX13_putSixes_14 : decode cX13_putSixes 14 = .ok (.istore 6, 2) := dk_54 6 (dk_at dksX13_putSixes_0 14 rfl rfl)
theorem dX13_putSixes_16 : decode cX13_putSixes 16 = .ok (.iload 6, 2) := dk_21 6 (dk_at dksX13_putSixes_0 16 rfl rfl)
theorem dX13_putSixes_18 : decode cX13_putSixes 18 = .ok (.iload_n 2, 1) := dk_28 (dk_at dksX13_putSixes_0 18 rfl rfl)
theorem dX13_putSixes_19 : decode cX13_putSixes 19 = .ok (.iload_n 3, 1) := dk_29 (dk_at dksX13_putSixes_0 19 rfl rfl)
theorem dX13_putSixes_20 : decode cX13_putSixes 20 = .ok (.ifCond .eq 7, 3) := dk_153 0 7 (dk_at dksX13_putSixes_0 20 rfl rfl)
theorem dX13_putSixes_23 : decode cX13_putSixes 23 = .ok (.iconst 1, 1) := dk_4 (dk_at dksX13_putSixes_0 23 rfl rfl)
theorem dX13_putSixes_24 : decode cX13_putSixes 24 = .ok (.goto 4, 3) := dk_167 0 4 (dk_at dksX13_putSixes_1 0 rfl rfl)
theorem dX13_putSixes_27 : decode cX13_putSixes 27 = .ok (.iconst 0, 1) := dk_3 (dk_at dksX13_putSixes_1 3 rfl rfl)
theorem dX13_putSixes_28 : decode cX13_putSixes 28 = .ok (.iadd, 1) := dk_96 (dk_at dksX13_putSixes_1 4 rfl rfl)
theorem dX13_putSixes_29 : decode cX13_putSixes 29 = .ok (.if_icmp .ge 87, 3) := dk_162 0 87 (dk_at dksX13_putSixes_1 5 rfl rfl)
theorem dX13_putSixes_32 : decode cX13_putSixes 32 = .ok (.iload 4, 2) := dk_21 4 (dk_at dksX13_putSixes_1 8 rfl rfl)
theorem dX13_putSixes_34 : decode cX13_putSixes 34 = .ok (.bipush 6, 2) := dk_16 6 (dk_at dksX13_putSixes_1 10 rfl rfl)
theorem dX13_putSixes_36 : decode cX13_putSixes 36 = .ok (.ishl, 1) := dk_120 (dk_at dksX13_putSixes_1 12 rfl rfl)
theorem dX13_putSixes_37 : decode cX13_putSixes 37 = .ok (.iload 6, 2) := dk_21 6 (dk_at dksX13_putSixes_1 13 rfl rfl)
theorem dX13_putSixes_39 : decode cX13_putSixes 39 = .ok (.iload_n 2, 1) := dk_28 (dk_at dksX13_putSixes_1 15 rfl rfl)
theorem dX13_putSixes_40 : decode cX13_putSixes 40 = .ok (.if_icmp .ge 18, 3) := dk_162 0 18 (dk_at dksX13_putSixes_1 16 rfl rfl)
theorem dX13_putSixes_43 : decode cX13_putSixes 43 = .ok (.aload_n 0, 1) := dk_42 (dk_at dksX13_putSixes_1 19 rfl rfl)
theorem dX13_putSixes_44 : decode cX13_putSixes 44 = .ok (.getfield 38, 3) := dk_180 0 38 (dk_at dksX13_putSixes_1 20 rfl rfl)
theorem dX13_putSixes_47 : decode cX13_putSixes 47 = .ok (.iload_n 1, 1) := dk_27 (dk_at dksX13_putSixes_1 23 rfl rfl)
theorem dX13_putSixes_48 : decode cX13_putSixes 48 = .ok (.iload 6, 2) := dk_21 6 (dk_at dksX13_putSixes_2 0 rfl rfl)
theorem dX13_putSixes_50 : decode cX13_putSixes 50 = .ok (.iadd, 1) := dk_96 (dk_at dksX13_putSixes_2 2 rfl rfl)
theorem dX13_putSixes_51 : decode cX13_putSixes 51 = .ok (.iaload, 1) := dk_46 (dk_at dksX13_putSixes_2 3 rfl rfl)
theorem dX13_putSixes_52 : decode cX13_putSixes 52 = .ok (.bipush 63, 2) := dk_16 63 (dk_at dksX13_putSixes_2 4 rfl rfl)
theorem dX13_putSixes_54 : decode cX13_putSixes 54 = .ok (.iand, 1) := dk_126 (dk_at dksX13_putSixes_2 6 rfl rfl)
theorem dX13_putSixes_55 : decode cX13_putSixes 55 = .ok (.goto 5, 3) := dk_167 0 5 (dk_at dksX13_putSixes_2 7 rfl rfl)
theorem dX13_putSixes_58 : decode cX13_putSixes 58 = .ok (.bipush 31, 2) := dk_16 31 (dk_at dksX13_putSixes_2 10 rfl rfl)
theorem dX13_putSixes_60 : decode cX13_putSixes 60 = .ok (.ior, 1) := dk_128 (dk_at dksX13_putSixes_2 12 rfl rfl)
theorem dX13_putSixes_61 : decode cX13_putSixes 61 = .ok (.istore 4, 2) := dk_54 4 (dk_at dksX13_putSixes_2 13 rfl rfl)
theorem dX13_putSixes_63 : decode cX13_putSixes 63 = .ok (.iinc 5 1, 3) := dk_132 5 1 (dk_at dksX13_putSixes_2 15 rfl rfl)
theorem dX13_putSixes_66 : decode cX13_putSixes 66 = .ok (.iload 5, 2) := dk_21 5 (dk_at dksX13_putSixes_2 18 rfl rfl)
theorem dX13_putSixes_68 : decode cX13_putSixes 68 = .ok (.iconst 4, 1) := dk_7 (dk_at dksX13_putSixes_2 20 rfl rfl)
theorem dX13_putSixes_69 : decode cX13_putSixes 69 = .ok (.if_icmp .ne 41, 3) := dk_160 0 41 (dk_at dksX13_putSixes_2 21 rfl rfl)
theorem dX13_putSixes_72 : decode cX13_putSixes 72 = .ok (.aload_n 0, 1) := dk_42 (dk_at dksX13_putSixes_3 0 rfl rfl)
theorem dX13_putSixes_73 : decode cX13_putSixes 73 = .ok (.iload 4, 2) := dk_21 4 (dk_at dksX13_putSixes_3 1 rfl rfl)
theorem dX13_putSixes_75 : decode cX13_putSixes 75 = .ok (.bipush 16, 2) := dk_16 16 (dk_at dksX13_putSixes_3 3 rfl rfl)
theorem dX13_putSixes_77 : decode cX13_putSixes 77 = .ok (.ishr, 1) := dk_122 (dk_at dksX13_putSixes_3 5 rfl rfl)
theorem dX13_putSixes_78 : decode cX13_putSixes 78 = .ok (.invokevirtual 384, 3) := dk_182 1 128 (dk_at dksX13_putSixes_3 6 rfl rfl)
theorem dX13_putSixes_81 : decode cX13_putSixes 81 = .ok (.aload_n 0, 1) := dk_42 (dk_at dksX13_putSixes_3 9 rfl rfl)
theorem dX13_putSixes_82 : decode cX13_putSixes 82 = .ok (.iload 4, 2) := dk_21 4 (dk_at dksX13_putSixes_3 10 rfl rfl)
theorem dX13_putSixes_84 : decode cX13_putSixes 84 = .ok (.bipush 8, 2) := dk_16 8 (dk_at dksX13_putSixes_3 12 rfl rfl)
theorem dX13_putSixes_86 : decode cX13_putSixes 86 = .ok (.ishr, 1) := dk_122 (dk_at dksX13_putSixes_3 14 rfl rfl)
theorem dX13_putSixes_87 : decode cX13_putSixes 87 = .ok (.sipush 255, 3) := dk_17 0 255 (dk_at dksX13_putSixes_3 15 rfl rfl)
theorem dX13_putSixes_90 : decode cX13_putSixes 90 = .ok (.iand, 1) := dk_126 (dk_at dksX13_putSixes_3 18 rfl rfl)
theorem dX13_putSixes_91 : decode cX13_putSixes 91 = .ok (.invokevirtual 384, 3) := dk_182 1 128 (dk_at dksX13_putSixes_3 19 rfl rfl)
theorem dX13_putSixes_94 : decode cX13_putSixes 94 = .ok (.aload_n 0, 1) := dk_42 (dk_at dksX13_putSixes_3 22 rfl rfl)
theorem dX13_putSixes_95 : decode cX13_putSixes 95 = .ok (.iload 4, 2) := dk_21 4 (dk_at dksX13_putSixes_4 0 rfl rfl)
theorem dX13_putSixes_97 : decode cX13_putSixes 97 = .ok (.sipush 255, 3) := dk_17 0 255 (dk_at dksX13_putSixes_4 2 rfl rfl)
theorem dX13_putSixes_100 : decode cX13_putSixes 100 = .ok (.iand, 1) := dk_126 (dk_at dksX13_putSixes_4 5 rfl rfl)
theorem dX13_putSixes_101 : decode cX13_putSixes 101 = .ok (.invokevirtual 384, 3) := dk_182 1 128 (dk_at dksX13_putSixes_4 6 rfl rfl)
theorem dX13_putSixes_104 : decode cX13_putSixes 104 = .ok (.iconst 0, 1) := dk_3 (dk_at dksX13_putSixes_4 9 rfl rfl)
theorem dX13_putSixes_105 : decode cX13_putSixes 105 = .ok (.istore 5, 2) := dk_54 5 (dk_at dksX13_putSixes_4 10 rfl rfl)
theorem dX13_putSixes_107 : decode cX13_putSixes 107 = .ok (.iconst 0, 1) := dk_3 (dk_at dksX13_putSixes_4 12 rfl rfl)
theorem dX13_putSixes_108 : decode cX13_putSixes 108 = .ok (.istore 4, 2) := dk_54 4 (dk_at dksX13_putSixes_4 13 rfl rfl)
theorem dX13_putSixes_110 : decode cX13_putSixes 110 = .ok (.iinc 6 1, 3) := dk_132 6 1 (dk_at dksX13_putSixes_4 15 rfl rfl)
theorem dX13_putSixes_113 : decode cX13_putSixes 113 = .ok (.goto (-97), 3) := dk_167 255 159 (dk_at dksX13_putSixes_4 18 rfl rfl)
theorem dX13_putSixes_116 : decode cX13_putSixes 116 = .ok (.iload 4, 2) := dk_21 4 (dk_at dksX13_putSixes_4 21 rfl rfl)
theorem dX13_putSixes_118 : decode cX13_putSixes 118 = .ok (.bipush 6, 2) := dk_16 6 (dk_at dksX13_putSixes_5 0 rfl rfl)
theorem dX13_putSixes_120 : decode cX13_putSixes 120 = .ok (.iconst 4, 1) := dk_7 (dk_at dksX13_putSixes_5 2 rfl rfl)
theorem dX13_putSixes_121 : decode cX13_putSixes 121 = .ok (.iload 5, 2) := dk_21 5 (dk_at dksX13_putSixes_5 3 rfl rfl)
theorem dX13_putSixes_123 : decode cX13_putSixes 123 = .ok (.isub, 1) := dk_100 (dk_at dksX13_putSixes_5 5 rfl rfl)
theorem dX13_putSixes_124 : decode cX13_putSixes 124 = .ok (.imul, 1) := dk_104 (dk_at dksX13_putSixes_5 6 rfl rfl)
theorem dX13_putSixes_125 : decode cX13_putSixes 125 = .ok (.ishl, 1) := dk_120 (dk_at dksX13_putSixes_5 7 rfl rfl)
theorem dX13_putSixes_126 : decode cX13_putSixes 126 = .ok (.istore 4, 2) := dk_54 4 (dk_at dksX13_putSixes_5 8 rfl rfl)
theorem dX13_putSixes_128 : decode cX13_putSixes 128 = .ok (.iconst 0, 1) := dk_3 (dk_at dksX13_putSixes_5 10 rfl rfl)
theorem dX13_putSixes_129 : decode cX13_putSixes 129 = .ok (.istore 6, 2) := dk_54 6 (dk_at dksX13_putSixes_5 11 rfl rfl)
theorem dX13_putSixes_131 : decode cX13_putSixes 131 = .ok (.iload 6, 2) := dk_21 6 (dk_at dksX13_putSixes_5 13 rfl rfl)
theorem dX13_putSixes_133 : decode cX13_putSixes 133 = .ok (.iload 5, 2) := dk_21 5 (dk_at dksX13_putSixes_5 15 rfl rfl)
theorem dX13_putSixes_135 : decode cX13_putSixes 135 = .ok (.if_icmp .ge 28, 3) := dk_162 0 28 (dk_at dksX13_putSixes_5 17 rfl rfl)
theorem dX13_putSixes_138 : decode cX13_putSixes 138 = .ok (.aload_n 0, 1) := dk_42 (dk_at dksX13_putSixes_5 20 rfl rfl)
theorem dX13_putSixes_139 : decode cX13_putSixes 139 = .ok (.iload 4, 2) := dk_21 4 (dk_at dksX13_putSixes_5 21 rfl rfl)
theorem dX13_putSixes_141 : decode cX13_putSixes 141 = .ok (.bipush 16, 2) := dk_16 16 (dk_at dksX13_putSixes_6 0 rfl rfl)
theorem dX13_putSixes_143 : decode cX13_putSixes 143 = .ok (.bipush 8, 2) := dk_16 8 (dk_at dksX13_putSixes_6 2 rfl rfl)
theorem dX13_putSixes_145 : decode cX13_putSixes 145 = .ok (.iload 6, 2) := dk_21 6 (dk_at dksX13_putSixes_6 4 rfl rfl)
theorem dX13_putSixes_147 : decode cX13_putSixes 147 = .ok (.imul, 1) := dk_104 (dk_at dksX13_putSixes_6 6 rfl rfl)
theorem dX13_putSixes_148 : decode cX13_putSixes 148 = .ok (.isub, 1) := dk_100 (dk_at dksX13_putSixes_6 7 rfl rfl)
theorem dX13_putSixes_149 : decode cX13_putSixes 149 = .ok (.ishr, 1) := dk_122 (dk_at dksX13_putSixes_6 8 rfl rfl)
theorem dX13_putSixes_150 : decode cX13_putSixes 150 = .ok (.sipush 255, 3) := dk_17 0 255 (dk_at dksX13_putSixes_6 9 rfl rfl)
theorem dX13_putSixes_153 : decode cX13_putSixes 153 = .ok (.iand, 1) := dk_126 (dk_at dksX13_putSixes_6 12 rfl rfl)
theorem dX13_putSixes_154 : decode cX13_putSixes 154 = .ok (.invokevirtual 384, 3) := dk_182 1 128 (dk_at dksX13_putSixes_6 13 rfl rfl)
theorem dX13_putSixes_157 : decode cX13_putSixes 157 = .ok (.iinc 6 1, 3) := dk_132 6 1 (dk_at dksX13_putSixes_6 16 rfl rfl)
theorem dX13_putSixes_160 : decode cX13_putSixes 160 = .ok (.goto (-29), 3) := dk_167 255 227 (dk_at dksX13_putSixes_6 19 rfl rfl)
theorem dX13_putSixes_163 : decode cX13_putSixes 163 = .ok (.return_, 1) := dk_177 (dk_at dksX13_putSixes_6 22 rfl rfl)
abbrev cX13_runThrees : ByteArray := prog_16_method_80_code
def yX13_runThrees : MethodName := ⟨RX13, "runThrees", "(III)I"⟩
def dkwX13_runThrees_8 : List UInt8 := [167, 255, 72, 3, 172]
abbrev dktX13_runThrees_8 : List UInt8 := dkwX13_runThrees_8 ++ []
def dkwX13_runThrees_7 : List UInt8 := [153, 0, 13, 42, 17, 0, 254, 182, 1, 128, 167, 0, 8, 42, 4, 181, 1, 110, 21, 5, 172, 132, 5, 1]
abbrev dktX13_runThrees_7 : List UInt8 := dkwX13_runThrees_7 ++ dktX13_runThrees_8
def dkwX13_runThrees_6 : List UInt8 := [96, 29, 21, 7, 100, 4, 182, 1, 140, 153, 0, 34, 42, 27, 28, 21, 5, 182, 1, 143, 21, 8]
abbrev dktX13_runThrees_6 : List UInt8 := dkwX13_runThrees_6 ++ dktX13_runThrees_7
def dkwX13_runThrees_5 : List UInt8 := [4, 100, 182, 1, 103, 153, 0, 7, 4, 167, 0, 4, 3, 54, 8, 21, 8, 154, 0, 19, 42, 28, 21, 5]
abbrev dktX13_runThrees_5 : List UInt8 := dkwX13_runThrees_5 ++ dktX13_runThrees_6
def dkwX13_runThrees_4 : List UInt8 := [4, 100, 4, 42, 180, 1, 61, 100, 161, 0, 28, 42, 42, 180, 1, 49, 28, 21, 5, 96, 29, 21, 7, 100]
abbrev dktX13_runThrees_4 : List UInt8 := dkwX13_runThrees_4 ++ dktX13_runThrees_5
def dkwX13_runThrees_3 : List UInt8 := [159, 0, 115, 21, 4, 6, 112, 5, 160, 0, 12, 27, 16, 6, 160, 0, 6, 167, 0, 98, 29, 21, 7, 100]
abbrev dktX13_runThrees_3 : List UInt8 := dkwX13_runThrees_3 ++ dktX13_runThrees_4
def dkwX13_runThrees_2 : List UInt8 := [6, 108, 104, 96, 54, 7, 21, 6, 153, 0, 9, 21, 7, 29, 164, 0, 5, 3, 172, 21, 4, 6, 112, 4]
abbrev dktX13_runThrees_2 : List UInt8 := dkwX13_runThrees_2 ++ dktX13_runThrees_3
def dkwX13_runThrees_1 : List UInt8 := [21, 5, 96, 4, 100, 46, 182, 1, 91, 54, 6, 21, 4, 21, 6, 96, 54, 4, 4, 5, 21, 4, 4, 96]
abbrev dktX13_runThrees_1 : List UInt8 := dkwX13_runThrees_1 ++ dktX13_runThrees_2
def dkwX13_runThrees_0 : List UInt8 := [3, 54, 4, 4, 54, 5, 21, 5, 42, 180, 0, 134, 28, 100, 163, 0, 179, 42, 27, 42, 180, 0, 38, 28]
abbrev dktX13_runThrees_0 : List UInt8 := dkwX13_runThrees_0 ++ dktX13_runThrees_1
theorem dksX13_runThrees_0 : cX13_runThrees.data.toList.drop 0 = dktX13_runThrees_0 := by decide +kernel
theorem dksX13_runThrees_1 : cX13_runThrees.data.toList.drop 24 = dktX13_runThrees_1 := dk_seg dksX13_runThrees_0 24 rfl rfl
theorem dksX13_runThrees_2 : cX13_runThrees.data.toList.drop 48 = dktX13_runThrees_2 := dk_seg dksX13_runThrees_1 24 rfl rfl
theorem dksX13_runThrees_3 : cX13_runThrees.data.toList.drop 72 = dktX13_runThrees_3 := dk_seg dksX13_runThrees_2 24 rfl rfl
theorem dksX13_runThrees_4 : cX13_runThrees.data.toList.drop 96 = dktX13_runThrees_4 := dk_seg dksX13_runThrees_3 24 rfl rfl
theorem dksX13_runThrees_5 : cX13_runThrees.data.toList.drop 120 = dktX13_runThrees_5 := dk_seg dksX13_runThrees_4 24 rfl rfl
theorem dksX13_runThrees_6 : cX13_runThrees.data.toList.drop 144 = dktX13_runThrees_6 := dk_seg dksX13_runThrees_5 24 rfl rfl
theorem dksX13_runThrees_7 : cX13_runThrees.data.toList.drop 166 = dktX13_runThrees_7 := dk_seg dksX13_runThrees_6 22 rfl rfl
theorem dksX13_runThrees_8 : cX13_runThrees.data.toList.drop 190 = dktX13_runThrees_8 := dk_seg dksX13_runThrees_7 24 rfl rfl
theorem dX13_runThrees_0 : decode cX13_runThrees 0 = .ok (.iconst 0, 1) := dk_3 (dk_at dksX13_runThrees_0 0 rfl rfl)
theorem dX13_runThrees_1 : decode cX13_runThrees 1 = .ok (.istore 4, 2) := dk_54 4 (dk_at dksX13_runThrees_0 1 rfl rfl)
theorem dX13_runThrees_3 : decode cX13_runThrees 3 = .ok (.iconst 1, 1) := dk_4 (dk_at dksX13_runThrees_0 3 rfl rfl)
theorem dX13_runThrees_4 : decode cX13_runThrees 4 = .ok (.istore 5, 2) := dk_54 5 (dk_at dksX13_runThrees_0 4 rfl rfl)
theorem dX13_runThrees_6 : decode cX13_runThrees 6 = .ok (.iload 5, 2) := dk_21 5 (dk_at dksX13_runThrees_0 6 rfl rfl)
theorem dX13_runThrees_8 : decode cX13_runThrees 8 = .ok (.aload_n 0, 1) := dk_42 (dk_at dksX13_runThrees_0 8 rfl rfl)
theorem dX13_runThrees_9 : decode cX13_runThrees 9 = .ok (.getfield 134, 3) := dk_180 0 134 (dk_at dksX13_runThrees_0 9 rfl rfl)
theorem dX13_runThrees_12 : decode cX13_runThrees 12 = .ok (.iload_n 2, 1) := dk_28 (dk_at dksX13_runThrees_0 12 rfl rfl)
theorem dX13_runThrees_13 : decode cX13_runThrees 13 = .ok (.isub, 1) := dk_100 (dk_at dksX13_runThrees_0 13 rfl rfl)
theorem dX13_runThrees_14 : decode cX13_runThrees 14 = .ok (.if_icmp .gt 179, 3) := dk_163 0 179 (dk_at dksX13_runThrees_0 14 rfl rfl)
theorem dX13_runThrees_17 : decode cX13_runThrees 17 = .ok (.aload_n 0, 1) := dk_42 (dk_at dksX13_runThrees_0 17 rfl rfl)
theorem dX13_runThrees_18 : decode cX13_runThrees 18 = .ok (.iload_n 1, 1) := dk_27 (dk_at dksX13_runThrees_0 18 rfl rfl)
theorem dX13_runThrees_19 : decode cX13_runThrees 19 = .ok (.aload_n 0, 1) := dk_42 (dk_at dksX13_runThrees_0 19 rfl rfl)
theorem dX13_runThrees_20 : decode cX13_runThrees 20 = .ok (.getfield 38, 3) := dk_180 0 38 (dk_at dksX13_runThrees_0 20 rfl rfl)
theorem dX13_runThrees_23 : decode cX13_runThrees 23 = .ok (.iload_n 2, 1) := dk_28 (dk_at dksX13_runThrees_0 23 rfl rfl)
theorem dX13_runThrees_24 : decode cX13_runThrees 24 = .ok (.iload 5, 2) := dk_21 5 (dk_at dksX13_runThrees_1 0 rfl rfl)
theorem dX13_runThrees_26 : decode cX13_runThrees 26 = .ok (.iadd, 1) := dk_96 (dk_at dksX13_runThrees_1 2 rfl rfl)
theorem dX13_runThrees_27 : decode cX13_runThrees 27 = .ok (.iconst 1, 1) := dk_4 (dk_at dksX13_runThrees_1 3 rfl rfl)
theorem dX13_runThrees_28 : decode cX13_runThrees 28 = .ok (.isub, 1) := dk_100 (dk_at dksX13_runThrees_1 4 rfl rfl)
theorem dX13_runThrees_29 : decode cX13_runThrees 29 = .ok (.iaload, 1) := dk_46 (dk_at dksX13_runThrees_1 5 rfl rfl)
theorem dX13_runThrees_30 : decode cX13_runThrees 30 = .ok (.invokevirtual 347, 3) := dk_182 1 91 (dk_at dksX13_runThrees_1 6 rfl rfl)
theorem dX13_runThrees_33 : decode cX13_runThrees 33 = .ok (.istore 6, 2) := dk_54 6 (dk_at dksX13_runThrees_1 9 rfl rfl)
theorem dX13_runThrees_35 : decode cX13_runThrees 35 = .ok (.iload 4, 2) := dk_21 4 (dk_at dksX13_runThrees_1 11 rfl rfl)
theorem dX13_runThrees_37 : decode cX13_runThrees 37 = .ok (.iload 6, 2) := dk_21 6 (dk_at dksX13_runThrees_1 13 rfl rfl)
theorem dX13_runThrees_39 : decode cX13_runThrees 39 = .ok (.iadd, 1) := dk_96 (dk_at dksX13_runThrees_1 15 rfl rfl)
theorem dX13_runThrees_40 : decode cX13_runThrees 40 = .ok (.istore 4, 2) := dk_54 4 (dk_at dksX13_runThrees_1 16 rfl rfl)
theorem dX13_runThrees_42 : decode cX13_runThrees 42 = .ok (.iconst 1, 1) := dk_4 (dk_at dksX13_runThrees_1 18 rfl rfl)
theorem dX13_runThrees_43 : decode cX13_runThrees 43 = .ok (.iconst 2, 1) := dk_5 (dk_at dksX13_runThrees_1 19 rfl rfl)
theorem dX13_runThrees_44 : decode cX13_runThrees 44 = .ok (.iload 4, 2) := dk_21 4 (dk_at dksX13_runThrees_1 20 rfl rfl)
theorem dX13_runThrees_46 : decode cX13_runThrees 46 = .ok (.iconst 1, 1) := dk_4 (dk_at dksX13_runThrees_1 22 rfl rfl)
theorem dX13_runThrees_47 : decode cX13_runThrees 47 = .ok (.iadd, 1) := dk_96 (dk_at dksX13_runThrees_1 23 rfl rfl)
theorem dX13_runThrees_48 : decode cX13_runThrees 48 = .ok (.iconst 3, 1) := dk_6 (dk_at dksX13_runThrees_2 0 rfl rfl)
theorem dX13_runThrees_49 : decode cX13_runThrees 49 = .ok (.idiv, 1) := dk_108 (dk_at dksX13_runThrees_2 1 rfl rfl)
theorem dX13_runThrees_50 : decode cX13_runThrees 50 = .ok (.imul, 1) := dk_104 (dk_at dksX13_runThrees_2 2 rfl rfl)
theorem dX13_runThrees_51 : decode cX13_runThrees 51 = .ok (.iadd, 1) := dk_96 (dk_at dksX13_runThrees_2 3 rfl rfl)
theorem dX13_runThrees_52 : decode cX13_runThrees 52 = .ok (.istore 7, 2) := dk_54 7 (dk_at dksX13_runThrees_2 4 rfl rfl)
theorem dX13_runThrees_54 : decode cX13_runThrees 54 = .ok (.iload 6, 2) := dk_21 6 (dk_at dksX13_runThrees_2 6 rfl rfl)
theorem dX13_runThrees_56 : decode cX13_runThrees 56 = .ok (.ifCond .eq 9, 3) := dk_153 0 9 (dk_at dksX13_runThrees_2 8 rfl rfl)
theorem dX13_runThrees_59 : decode cX13_runThrees 59 = .ok (.iload 7, 2) := dk_21 7 (dk_at dksX13_runThrees_2 11 rfl rfl)
theorem dX13_runThrees_61 : decode cX13_runThrees 61 = .ok (.iload_n 3, 1) := dk_29 (dk_at dksX13_runThrees_2 13 rfl rfl)
theorem dX13_runThrees_62 : decode cX13_runThrees 62 = .ok (.if_icmp .le 5, 3) := dk_164 0 5 (dk_at dksX13_runThrees_2 14 rfl rfl)
theorem dX13_runThrees_65 : decode cX13_runThrees 65 = .ok (.iconst 0, 1) := dk_3 (dk_at dksX13_runThrees_2 17 rfl rfl)
theorem dX13_runThrees_66 : decode cX13_runThrees 66 = .ok (.ireturn, 1) := dk_172 (dk_at dksX13_runThrees_2 18 rfl rfl)
theorem dX13_runThrees_67 : decode cX13_runThrees 67 = .ok (.iload 4, 2) := dk_21 4 (dk_at dksX13_runThrees_2 19 rfl rfl)
theorem dX13_runThrees_69 : decode cX13_runThrees 69 = .ok (.iconst 3, 1) := dk_6 (dk_at dksX13_runThrees_2 21 rfl rfl)
theorem dX13_runThrees_70 : decode cX13_runThrees 70 = .ok (.irem, 1) := dk_112 (dk_at dksX13_runThrees_2 22 rfl rfl)
theorem dX13_runThrees_71 : decode cX13_runThrees 71 = .ok (.iconst 1, 1) := dk_4 (dk_at dksX13_runThrees_2 23 rfl rfl)
theorem dX13_runThrees_72 : decode cX13_runThrees 72 = .ok (.if_icmp .eq 115, 3) := dk_159 0 115 (dk_at dksX13_runThrees_3 0 rfl rfl)
theorem dX13_runThrees_75 : decode cX13_runThrees 75 = .ok (.iload 4, 2) := dk_21 4 (dk_at dksX13_runThrees_3 3 rfl rfl)
theorem dX13_runThrees_77 : decode cX13_runThrees 77 = .ok (.iconst 3, 1) := dk_6 (dk_at dksX13_runThrees_3 5 rfl rfl)
theorem dX13_runThrees_78 : decode cX13_runThrees 78 = .ok (.irem, 1) := dk_112 (dk_at dksX13_runThrees_3 6 rfl rfl)
theorem dX13_runThrees_79 : decode cX13_runThrees 79 = .ok (.iconst 2, 1) := dk_5 (dk_at dksX13_runThrees_3 7 rfl rfl)
theorem dX13_runThrees_80 : decode cX13_runThrees 80 = .ok (.if_icmp .ne 12, 3) := dk_160 0 12 (dk_at dksX13_runThrees_3 8 rfl rfl)
theorem dX13_runThrees_83 : decode cX13_runThrees 83 = .ok (.iload_n 1, 1) := dk_27 (dk_at dksX13_runThrees_3 11 rfl rfl)
theorem dX13_runThrees_84 : decode cX13_runThrees 84 = .ok (.bipush 6, 2) := dk_16 6 (dk_at dksX13_runThrees_3 12 rfl rfl)
theorem dX13_runThrees_86 : decode cX13_runThrees 86 = .ok (.if_icmp .ne 6, 3) := dk_160 0 6 (dk_at dksX13_runThrees_3 14 rfl rfl)
theorem dX13_runThrees_89 : decode cX13_runThrees 89 = .ok (.goto 98, 3) := dk_167 0 98 (dk_at dksX13_runThrees_3 17 rfl rfl)
theorem dX13_runThrees_92 : decode cX13_runThrees 92 = .ok (.iload_n 3, 1) := dk_29 (dk_at dksX13_runThrees_3 20 rfl rfl)
theorem dX13_runThrees_93 : decode cX13_runThrees 93 = .ok (.iload 7, 2) := dk_21 7 (dk_at dksX13_runThrees_3 21 rfl rfl)
theorem dX13_runThrees_95 : decode cX13_runThrees 95 = .ok (.isub, 1) := dk_100 (dk_at dksX13_runThrees_3 23 rfl rfl)
theorem dX13_runThrees_96 : decode cX13_runThrees 96 = .ok (.iconst 1, 1) := dk_4 (dk_at dksX13_runThrees_4 0 rfl rfl)
theorem dX13_runThrees_97 : decode cX13_runThrees 97 = .ok (.isub, 1) := dk_100 (dk_at dksX13_runThrees_4 1 rfl rfl)
theorem dX13_runThrees_98 : decode cX13_runThrees 98 = .ok (.iconst 1, 1) := dk_4 (dk_at dksX13_runThrees_4 2 rfl rfl)
theorem dX13_runThrees_99 : decode cX13_runThrees 99 = .ok (.aload_n 0, 1) := dk_42 (dk_at dksX13_runThrees_4 3 rfl rfl)
theorem dX13_runThrees_100 : decode cX13_runThrees 100 = .ok (.getfield 317, 3) := dk_180 1 61 (dk_at dksX13_runThrees_4 4 rfl rfl)
theorem dX13_runThrees_103 : decode cX13_runThrees 103 = .ok (.isub, 1) := dk_100 (dk_at dksX13_runThrees_4 7 rfl rfl)
theorem dX13_runThrees_104 : decode cX13_runThrees 104 = .ok (.if_icmp .lt 28, 3) := dk_161 0 28 (dk_at dksX13_runThrees_4 8 rfl rfl)
theorem dX13_runThrees_107 : decode cX13_runThrees 107 = .ok (.aload_n 0, 1) := dk_42 (dk_at dksX13_runThrees_4 11 rfl rfl)
theorem dX13_runThrees_108 : decode cX13_runThrees 108 = .ok (.aload_n 0, 1) := dk_42 (dk_at dksX13_runThrees_4 12 rfl rfl)
theorem dX13_runThrees_109 : decode cX13_runThrees 109 = .ok (.getfield 305, 3) := dk_180 1 49 (dk_at dksX13_runThrees_4 13 rfl rfl)
theorem dX13_runThrees_112 : decode cX13_runThrees 112 = .ok (.iload_n 2, 1) := dk_28 (dk_at dksX13_runThrees_4 16 rfl rfl)
theorem dX13_runThrees_113 : decode cX13_runThrees 113 = .ok (.iload 5, 2) := dk_21 5 (dk_at dksX13_runThrees_4 17 rfl rfl)
theorem dX13_runThrees_115 : decode cX13_runThrees 115 = .ok (.iadd, 1) := dk_96 (dk_at dksX13_runThrees_4 19 rfl rfl)
theorem dX13_runThrees_116 : decode cX13_runThrees 116 = .ok (.iload_n 3, 1) := dk_29 (dk_at dksX13_runThrees_4 20 rfl rfl)
theorem dX13_runThrees_117 : decode cX13_runThrees 117 = .ok (.iload 7, 2) := dk_21 7 (dk_at dksX13_runThrees_4 21 rfl rfl)
theorem dX13_runThrees_119 : decode cX13_runThrees 119 = .ok (.isub, 1) := dk_100 (dk_at dksX13_runThrees_4 23 rfl rfl)
theorem dX13_runThrees_120 : decode cX13_runThrees 120 = .ok (.iconst 1, 1) := dk_4 (dk_at dksX13_runThrees_5 0 rfl rfl)
theorem dX13_runThrees_121 : decode cX13_runThrees 121 = .ok (.isub, 1) := dk_100 (dk_at dksX13_runThrees_5 1 rfl rfl)
theorem dX13_runThrees_122 : decode cX13_runThrees 122 = .ok (.invokevirtual 359, 3) := dk_182 1 103 (dk_at dksX13_runThrees_5 2 rfl rfl)
theorem dX13_runThrees_125 : decode cX13_runThrees 125 = .ok (.ifCond .eq 7, 3) := dk_153 0 7 (dk_at dksX13_runThrees_5 5 rfl rfl)
theorem dX13_runThrees_128 : decode cX13_runThrees 128 = .ok (.iconst 1, 1) := dk_4 (dk_at dksX13_runThrees_5 8 rfl rfl)
theorem dX13_runThrees_129 : decode cX13_runThrees 129 = .ok (.goto 4, 3) := dk_167 0 4 (dk_at dksX13_runThrees_5 9 rfl rfl)
theorem dX13_runThrees_132 : decode cX13_runThrees 132 = .ok (.iconst 0, 1) := dk_3 (dk_at dksX13_runThrees_5 12 rfl rfl)
theorem dX13_runThrees_133 : decode cX13_runThrees 133 = .ok (.istore 8, 2) := dk_54 8 (dk_at dksX13_runThrees_5 13 rfl rfl)
theorem dX13_runThrees_135 : decode cX13_runThrees 135 = .ok (.iload 8, 2) := dk_21 8 (dk_at dksX13_runThrees_5 15 rfl rfl)
theorem dX13_runThrees_137 : decode cX13_runThrees 137 = .ok (.ifCond .ne 19, 3) := dk_154 0 19 (dk_at dksX13_runThrees_5 17 rfl rfl)
theorem dX13_runThrees_140 : decode cX13_runThrees 140 = .ok (.aload_n 0, 1) := dk_42 (dk_at dksX13_runThrees_5 20 rfl rfl)
theorem dX13_runThrees_141 : decode cX13_runThrees 141 = .ok (.iload_n 2, 1) := dk_28 (dk_at dksX13_runThrees_5 21 rfl rfl)
theorem dX13_runThrees_142 : decode cX13_runThrees 142 = .ok (.iload 5, 2) := dk_21 5 (dk_at dksX13_runThrees_5 22 rfl rfl)
theorem dX13_runThrees_144 : decode cX13_runThrees 144 = .ok (.iadd, 1) := dk_96 (dk_at dksX13_runThrees_6 0 rfl rfl)
theorem dX13_runThrees_145 : decode cX13_runThrees 145 = .ok (.iload_n 3, 1) := dk_29 (dk_at dksX13_runThrees_6 1 rfl rfl)
theorem dX13_runThrees_146 : decode cX13_runThrees 146 = .ok (.iload 7, 2) := dk_21 7 (dk_at dksX13_runThrees_6 2 rfl rfl)
theorem dX13_runThrees_148 : decode cX13_runThrees 148 = .ok (.isub, 1) := dk_100 (dk_at dksX13_runThrees_6 4 rfl rfl)
theorem dX13_runThrees_149 : decode cX13_runThrees 149 = .ok (.iconst 1, 1) := dk_4 (dk_at dksX13_runThrees_6 5 rfl rfl)
theorem dX13_runThrees_150 : decode cX13_runThrees 150 = .ok (.invokevirtual 396, 3) := dk_182 1 140 (dk_at dksX13_runThrees_6 6 rfl rfl)
theorem dX13_runThrees_153 : decode cX13_runThrees 153 = .ok (.ifCond .eq 34, 3) := dk_153 0 34 (dk_at dksX13_runThrees_6 9 rfl rfl)
theorem dX13_runThrees_156 : decode cX13_runThrees 156 = .ok (.aload_n 0, 1) := dk_42 (dk_at dksX13_runThrees_6 12 rfl rfl)
theorem dX13_runThrees_157 : decode cX13_runThrees 157 = .ok (.iload_n 1, 1) := dk_27 (dk_at dksX13_runThrees_6 13 rfl rfl)
theorem dX13_runThrees_158 : decode cX13_runThrees 158 = .ok (.iload_n 2, 1) := dk_28 (dk_at dksX13_runThrees_6 14 rfl rfl)
theorem dX13_runThrees_159 : decode cX13_runThrees 159 = .ok (.iload 5, 2) := dk_21 5 (dk_at dksX13_runThrees_6 15 rfl rfl)
theorem dX13_runThrees_161 : decode cX13_runThrees 161 = .ok (.invokevirtual 399, 3) := dk_182 1 143 (dk_at dksX13_runThrees_6 17 rfl rfl)
theorem dX13_runThrees_164 : decode cX13_runThrees 164 = .ok (.iload 8, 2) := dk_21 8 (dk_at dksX13_runThrees_6 20 rfl rfl)
theorem dX13_runThrees_166 : decode cX13_runThrees 166 = .ok (.ifCond .eq 13, 3) := dk_153 0 13 (dk_at dksX13_runThrees_7 0 rfl rfl)
theorem dX13_runThrees_169 : decode cX13_runThrees 169 = .ok (.aload_n 0, 1) := dk_42 (dk_at dksX13_runThrees_7 3 rfl rfl)
theorem dX13_runThrees_170 : decode cX13_runThrees 170 = .ok (.sipush 254, 3) := dk_17 0 254 (dk_at dksX13_runThrees_7 4 rfl rfl)
theorem dX13_runThrees_173 : decode cX13_runThrees 173 = .ok (.invokevirtual 384, 3) := dk_182 1 128 (dk_at dksX13_runThrees_7 7 rfl rfl)
theorem dX13_runThrees_176 : decode cX13_runThrees 176 = .ok (.goto 8, 3) := dk_167 0 8 (dk_at dksX13_runThrees_7 10 rfl rfl)
theorem dX13_runThrees_179 : decode cX13_runThrees 179 = .ok (.aload_n 0, 1) := dk_42 (dk_at dksX13_runThrees_7 13 rfl rfl)
theorem dX13_runThrees_180 : decode cX13_runThrees 180 = .ok (.iconst 1, 1) := dk_4 (dk_at dksX13_runThrees_7 14 rfl rfl)
theorem dX13_runThrees_181 : decode cX13_runThrees 181 = .ok (.putfield 366, 3) := dk_181 1 110 (dk_at dksX13_runThrees_7 15 rfl rfl)
theorem dX13_runThrees_184 : decode cX13_runThrees 184 = .ok (.iload 5, 2) := dk_21 5 (dk_at dksX13_runThrees_7 18 rfl rfl)
theorem dX13_runThrees_186 : decode cX13_runThrees 186 = .ok (.ireturn, 1) := dk_172 (dk_at dksX13_runThrees_7 20 rfl rfl)
theorem dX13_runThrees_187 : decode cX13_runThrees 187 = .ok (.iinc 5 1, 3) := dk_132 5 1 (dk_at dksX13_runThrees_7 21 rfl rfl)
theorem dX13_runThrees_190 : decode cX13_runThrees 190 = .ok (.goto (-184), 3) := dk_167 255 72 (dk_at dksX13_runThrees_8 0 rfl rfl)
theorem dX13_runThrees_193 : decode cX13_runThrees 193 = .ok (.iconst 0, 1) := dk_3 (dk_at dksX13_runThrees_8 3 rfl rfl)
theorem dX13_runThrees_194 : decode cX13_runThrees 194 = .ok (.ireturn, 1) := dk_172 (dk_at dksX13_runThrees_8 4 rfl rfl)
abbrev cX13_putThrees : ByteArray := prog_16_method_81_code
def yX13_putThrees : MethodName := ⟨RX13, "putThrees", "(III)V"⟩
def dkwX13_putThrees_7 : List UInt8 := [182, 1, 128, 42, 21, 5, 17, 0, 255, 126, 182, 1, 128, 177]
abbrev dktX13_putThrees_7 : List UInt8 := dkwX13_putThrees_7 ++ []
def dkwX13_putThrees_6 : List UInt8 := [132, 8, 1, 167, 255, 176, 132, 6, 1, 167, 255, 145, 21, 4, 5, 160, 0, 22, 42, 21, 5, 16, 8, 122]
abbrev dktX13_putThrees_6 : List UInt8 := dkwX13_putThrees_6 ++ dktX13_putThrees_7
def dkwX13_putThrees_5 : List UInt8 := [21, 5, 16, 8, 122, 182, 1, 128, 42, 21, 5, 17, 0, 255, 126, 182, 1, 128, 3, 54, 4, 4, 54, 5]
abbrev dktX13_putThrees_5 : List UInt8 := dkwX13_putThrees_5 ++ dktX13_putThrees_6
def dkwX13_putThrees_4 : List UInt8 := [160, 0, 8, 16, 40, 167, 0, 4, 4, 104, 96, 54, 5, 132, 4, 1, 21, 4, 6, 160, 0, 28, 42]
abbrev dktX13_putThrees_4 : List UInt8 := dkwX13_putThrees_4 ++ dktX13_putThrees_5
def dkwX13_putThrees_3 : List UInt8 := [21, 5, 42, 180, 0, 99, 21, 8, 46, 21, 4, 154, 0, 9, 17, 6, 64, 167, 0, 15, 21, 4, 4]
abbrev dktX13_putThrees_3 : List UInt8 := dkwX13_putThrees_3 ++ dktX13_putThrees_4
def dkwX13_putThrees_2 : List UInt8 := [27, 42, 180, 0, 38, 21, 6, 46, 182, 1, 91, 54, 7, 3, 54, 8, 21, 8, 21, 7, 162, 0, 79]
abbrev dktX13_putThrees_2 : List UInt8 := dkwX13_putThrees_2 ++ dktX13_putThrees_3
def dkwX13_putThrees_1 : List UInt8 := [17, 0, 238, 182, 1, 128, 3, 54, 4, 4, 54, 5, 28, 54, 6, 21, 6, 28, 29, 96, 162, 0, 109, 42]
abbrev dktX13_putThrees_1 : List UInt8 := dkwX13_putThrees_1 ++ dktX13_putThrees_2
def dkwX13_putThrees_0 : List UInt8 := [42, 27, 7, 160, 0, 9, 17, 0, 230, 167, 0, 17, 27, 8, 160, 0, 9, 17, 0, 239, 167, 0, 6]
abbrev dktX13_putThrees_0 : List UInt8 := dkwX13_putThrees_0 ++ dktX13_putThrees_1
theorem dksX13_putThrees_0 : cX13_putThrees.data.toList.drop 0 = dktX13_putThrees_0 := by decide +kernel
theorem dksX13_putThrees_1 : cX13_putThrees.data.toList.drop 23 = dktX13_putThrees_1 := dk_seg dksX13_putThrees_0 23 rfl rfl
theorem dksX13_putThrees_2 : cX13_putThrees.data.toList.drop 47 = dktX13_putThrees_2 := dk_seg dksX13_putThrees_1 24 rfl rfl
theorem dksX13_putThrees_3 : cX13_putThrees.data.toList.drop 70 = dktX13_putThrees_3 := dk_seg dksX13_putThrees_2 23 rfl rfl
theorem dksX13_putThrees_4 : cX13_putThrees.data.toList.drop 93 = dktX13_putThrees_4 := dk_seg dksX13_putThrees_3 23 rfl rfl
theorem dksX13_putThrees_5 : cX13_putThrees.data.toList.drop 116 = dktX13_putThrees_5 := dk_seg dksX13_putThrees_4 23 rfl rfl
theorem dksX13_putThrees_6 : cX13_putThrees.data.toList.drop 140 = dktX13_putThrees_6 := dk_seg dksX13_putThrees_5 24 rfl rfl
theorem dksX13_putThrees_7 : cX13_putThrees.data.toList.drop 164 = dktX13_putThrees_7 := dk_seg dksX13_putThrees_6 24 rfl rfl
theorem dX13_putThrees_0 : decode cX13_putThrees 0 = .ok (.aload_n 0, 1) := dk_42 (dk_at dksX13_putThrees_0 0 rfl rfl)
theorem dX13_putThrees_1 : decode cX13_putThrees 1 = .ok (.iload_n 1, 1) := dk_27 (dk_at dksX13_putThrees_0 1 rfl rfl)
theorem dX13_putThrees_2 : decode cX13_putThrees 2 = .ok (.iconst 4, 1) := dk_7 (dk_at dksX13_putThrees_0 2 rfl rfl)
theorem dX13_putThrees_3 : decode cX13_putThrees 3 = .ok (.if_icmp .ne 9, 3) := dk_160 0 9 (dk_at dksX13_putThrees_0 3 rfl rfl)
theorem dX13_putThrees_6 : decode cX13_putThrees 6 = .ok (.sipush 230, 3) := dk_17 0 230 (dk_at dksX13_putThrees_0 6 rfl rfl)
theorem dX13_putThrees_9 : decode cX13_putThrees 9 = .ok (.goto 17, 3) := dk_167 0 17 (dk_at dksX13_putThrees_0 9 rfl rfl)
theorem dX13_putThrees_12 : decode cX13_putThrees 12 = .ok (.iload_n 1, 1) := dk_27 (dk_at dksX13_putThrees_0 12 rfl rfl)
theorem dX13_putThrees_13 : decode cX13_putThrees 13 = .ok (.iconst 5, 1) := dk_8 (dk_at dksX13_putThrees_0 13 rfl rfl)
theorem dX13_putThrees_14 : decode cX13_putThrees 14 = .ok (.if_icmp .ne 9, 3) := dk_160 0 9 (dk_at dksX13_putThrees_0 14 rfl rfl)
theorem dX13_putThrees_17 : decode cX13_putThrees 17 = .ok (.sipush 239, 3) := dk_17 0 239 (dk_at dksX13_putThrees_0 17 rfl rfl)
theorem dX13_putThrees_20 : decode cX13_putThrees 20 = .ok (.goto 6, 3) := dk_167 0 6 (dk_at dksX13_putThrees_0 20 rfl rfl)
theorem dX13_putThrees_23 : decode cX13_putThrees 23 = .ok (.sipush 238, 3) := dk_17 0 238 (dk_at dksX13_putThrees_1 0 rfl rfl)
theorem dX13_putThrees_26 : decode cX13_putThrees 26 = .ok (.invokevirtual 384, 3) := dk_182 1 128 (dk_at dksX13_putThrees_1 3 rfl rfl)
theorem dX13_putThrees_29 : decode cX13_putThrees 29 = .ok (.iconst 0, 1) := dk_3 (dk_at dksX13_putThrees_1 6 rfl rfl)
theorem dX13_putThrees_30 : decode cX13_putThrees 30 = .ok (.istore 4, 2) := dk_54 4 (dk_at dksX13_putThrees_1 7 rfl rfl)
theorem dX13_putThrees_32 : decode cX13_putThrees 32 = .ok (.iconst 1, 1) := dk_4 (dk_at dksX13_putThrees_1 9 rfl rfl)
theorem dX13_putThrees_33 : decode cX13_putThrees 33 = .ok (.istore 5, 2) := dk_54 5 (dk_at dksX13_putThrees_1 10 rfl rfl)
theorem dX13_putThrees_35 : decode cX13_putThrees 35 = .ok (.iload_n 2, 1) := dk_28 (dk_at dksX13_putThrees_1 12 rfl rfl)
theorem dX13_putThrees_36 : decode cX13_putThrees 36 = .ok (.istore 6, 2) := dk_54 6 (dk_at dksX13_putThrees_1 13 rfl rfl)
theorem dX13_putThrees_38 : decode cX13_putThrees 38 = .ok (.iload 6, 2) := dk_21 6 (dk_at dksX13_putThrees_1 15 rfl rfl)
theorem dX13_putThrees_40 : decode cX13_putThrees 40 = .ok (.iload_n 2, 1) := dk_28 (dk_at dksX13_putThrees_1 17 rfl rfl)
theorem dX13_putThrees_41 : decode cX13_putThrees 41 = .ok (.iload_n 3, 1) := dk_29 (dk_at dksX13_putThrees_1 18 rfl rfl)
theorem dX13_putThrees_42 : decode cX13_putThrees 42 = .ok (.iadd, 1) := dk_96 (dk_at dksX13_putThrees_1 19 rfl rfl)
theorem dX13_putThrees_43 : decode cX13_putThrees 43 = .ok (.if_icmp .ge 109, 3) := dk_162 0 109 (dk_at dksX13_putThrees_1 20 rfl rfl)
theorem dX13_putThrees_46 : decode cX13_putThrees 46 = .ok (.aload_n 0, 1) := dk_42 (dk_at dksX13_putThrees_1 23 rfl rfl)
theorem dX13_putThrees_47 : decode cX13_putThrees 47 = .ok (.iload_n 1, 1) := dk_27 (dk_at dksX13_putThrees_2 0 rfl rfl)
theorem dX13_putThrees_48 : decode cX13_putThrees 48 = .ok (.aload_n 0, 1) := dk_42 (dk_at dksX13_putThrees_2 1 rfl rfl)
theorem dX13_putThrees_49 : decode cX13_putThrees 49 = .ok (.getfield 38, 3) := dk_180 0 38 (dk_at dksX13_putThrees_2 2 rfl rfl)
theorem dX13_putThrees_52 : decode cX13_putThrees 52 = .ok (.iload 6, 2) := dk_21 6 (dk_at dksX13_putThrees_2 5 rfl rfl)
theorem dX13_putThrees_54 : decode cX13_putThrees 54 = .ok (.iaload, 1) := dk_46 (dk_at dksX13_putThrees_2 7 rfl rfl)
theorem dX13_putThrees_55 : decode cX13_putThrees 55 = .ok (.invokevirtual 347, 3) := dk_182 1 91 (dk_at dksX13_putThrees_2 8 rfl rfl)
theorem dX13_putThrees_58 : decode cX13_putThrees 58 = .ok (.istore 7, 2) := dk_54 7 (dk_at dksX13_putThrees_2 11 rfl rfl)
theorem dX13_putThrees_60 : decode cX13_putThrees 60 = .ok (.iconst 0, 1) := dk_3 (dk_at dksX13_putThrees_2 13 rfl rfl)
theorem dX13_putThrees_61 : decode cX13_putThrees 61 = .ok (.istore 8, 2) := dk_54 8 (dk_at dksX13_putThrees_2 14 rfl rfl)
theorem dX13_putThrees_63 : decode cX13_putThrees 63 = .ok (.iload 8, 2) := dk_21 8 (dk_at dksX13_putThrees_2 16 rfl rfl)
theorem dX13_putThrees_65 : decode cX13_putThrees 65 = .ok (.iload 7, 2) := dk_21 7 (dk_at dksX13_putThrees_2 18 rfl rfl)
theorem dX13_putThrees_67 : decode cX13_putThrees 67 = .ok (.if_icmp .ge 79, 3) := dk_162 0 79 (dk_at dksX13_putThrees_2 20 rfl rfl)
theorem dX13_putThrees_70 : decode cX13_putThrees 70 = .ok (.iload 5, 2) := dk_21 5 (dk_at dksX13_putThrees_3 0 rfl rfl)
theorem dX13_putThrees_72 : decode cX13_putThrees 72 = .ok (.aload_n 0, 1) := dk_42 (dk_at dksX13_putThrees_3 2 rfl rfl)
theorem dX13_putThrees_73 : decode cX13_putThrees 73 = .ok (.getfield 99, 3) := dk_180 0 99 (dk_at dksX13_putThrees_3 3 rfl rfl)
theorem dX13_putThrees_76 : decode cX13_putThrees 76 = .ok (.iload 8, 2) := dk_21 8 (dk_at dksX13_putThrees_3 6 rfl rfl)
theorem dX13_putThrees_78 : decode cX13_putThrees 78 = .ok (.iaload, 1) := dk_46 (dk_at dksX13_putThrees_3 8 rfl rfl)
theorem dX13_putThrees_79 : decode cX13_putThrees 79 = .ok (.iload 4, 2) := dk_21 4 (dk_at dksX13_putThrees_3 9 rfl rfl)
theorem dX13_putThrees_81 : decode cX13_putThrees 81 = .ok (.ifCond .ne 9, 3) := dk_154 0 9 (dk_at dksX13_putThrees_3 11 rfl rfl)
theorem dX13_putThrees_84 : decode cX13_putThrees 84 = .ok (.sipush 1600, 3) := dk_17 6 64 (dk_at dksX13_putThrees_3 14 rfl rfl)
theorem dX13_putThrees_87 : decode cX13_putThrees 87 = .ok (.goto 15, 3) := dk_167 0 15 (dk_at dksX13_putThrees_3 17 rfl rfl)
theorem dX13_putThrees_90 : decode cX13_putThrees 90 = .ok (.iload 4, 2) := dk_21 4 (dk_at dksX13_putThrees_3 20 rfl rfl)
theorem dX13_putThrees_92 : decode cX13_putThrees 92 = .ok (.iconst 1, 1) := dk_4 (dk_at dksX13_putThrees_3 22 rfl rfl)
theorem dX13_putThrees_93 : decode cX13_putThrees 93 = .ok (.if_icmp .ne 8, 3) := dk_160 0 8 (dk_at dksX13_putThrees_4 0 rfl rfl)
theorem dX13_putThrees_96 : decode cX13_putThrees 96 = .ok (.bipush 40, 2) := dk_16 40 (dk_at dksX13_putThrees_4 3 rfl rfl)
theorem dX13_putThrees_98 : decode cX13_putThrees 98 = .ok (.goto 4, 3) := dk_167 0 4 (dk_at dksX13_putThrees_4 5 rfl rfl)
theorem dX13_putThrees_101 : decode cX13_putThrees 101 = .ok (.iconst 1, 1) := dk_4 (dk_at dksX13_putThrees_4 8 rfl rfl)
theorem dX13_putThrees_102 : decode cX13_putThrees 102 = .ok (.imul, 1) := dk_104 (dk_at dksX13_putThrees_4 9 rfl rfl)
theorem dX13_putThrees_103 : decode cX13_putThrees 103 = .ok (.iadd, 1) := dk_96 (dk_at dksX13_putThrees_4 10 rfl rfl)
theorem dX13_putThrees_104 : decode cX13_putThrees 104 = .ok (.istore 5, 2) := dk_54 5 (dk_at dksX13_putThrees_4 11 rfl rfl)
theorem dX13_putThrees_106 : decode cX13_putThrees 106 = .ok (.iinc 4 1, 3) := dk_132 4 1 (dk_at dksX13_putThrees_4 13 rfl rfl)
theorem dX13_putThrees_109 : decode cX13_putThrees 109 = .ok (.iload 4, 2) := dk_21 4 (dk_at dksX13_putThrees_4 16 rfl rfl)
theorem dX13_putThrees_111 : decode cX13_putThrees 111 = .ok (.iconst 3, 1) := dk_6 (dk_at dksX13_putThrees_4 18 rfl rfl)
theorem dX13_putThrees_112 : decode cX13_putThrees 112 = .ok (.if_icmp .ne 28, 3) := dk_160 0 28 (dk_at dksX13_putThrees_4 19 rfl rfl)
theorem dX13_putThrees_115 : decode cX13_putThrees 115 = .ok (.aload_n 0, 1) := dk_42 (dk_at dksX13_putThrees_4 22 rfl rfl)
theorem dX13_putThrees_116 : decode cX13_putThrees 116 = .ok (.iload 5, 2) := dk_21 5 (dk_at dksX13_putThrees_5 0 rfl rfl)
theorem dX13_putThrees_118 : decode cX13_putThrees 118 = .ok (.bipush 8, 2) := dk_16 8 (dk_at dksX13_putThrees_5 2 rfl rfl)
theorem dX13_putThrees_120 : decode cX13_putThrees 120 = .ok (.ishr, 1) := dk_122 (dk_at dksX13_putThrees_5 4 rfl rfl)
theorem dX13_putThrees_121 : decode cX13_putThrees 121 = .ok (.invokevirtual 384, 3) := dk_182 1 128 (dk_at dksX13_putThrees_5 5 rfl rfl)
theorem dX13_putThrees_124 : decode cX13_putThrees 124 = .ok (.aload_n 0, 1) := dk_42 (dk_at dksX13_putThrees_5 8 rfl rfl)
theorem dX13_putThrees_125 : decode cX13_putThrees 125 = .ok (.iload 5, 2) := dk_21 5 (dk_at dksX13_putThrees_5 9 rfl rfl)
theorem dX13_putThrees_127 : decode cX13_putThrees 127 = .ok (.sipush 255, 3) := dk_17 0 255 (dk_at dksX13_putThrees_5 11 rfl rfl)
theorem dX13_putThrees_130 : decode cX13_putThrees 130 = .ok (.iand, 1) := dk_126 (dk_at dksX13_putThrees_5 14 rfl rfl)
theorem dX13_putThrees_131 : decode cX13_putThrees 131 = .ok (.invokevirtual 384, 3) := dk_182 1 128 (dk_at dksX13_putThrees_5 15 rfl rfl)
theorem dX13_putThrees_134 : decode cX13_putThrees 134 = .ok (.iconst 0, 1) := dk_3 (dk_at dksX13_putThrees_5 18 rfl rfl)
theorem dX13_putThrees_135 : decode cX13_putThrees 135 = .ok (.istore 4, 2) := dk_54 4 (dk_at dksX13_putThrees_5 19 rfl rfl)
theorem dX13_putThrees_137 : decode cX13_putThrees 137 = .ok (.iconst 1, 1) := dk_4 (dk_at dksX13_putThrees_5 21 rfl rfl)
theorem dX13_putThrees_138 : decode cX13_putThrees 138 = .ok (.istore 5, 2) := dk_54 5 (dk_at dksX13_putThrees_5 22 rfl rfl)
theorem dX13_putThrees_140 : decode cX13_putThrees 140 = .ok (.iinc 8 1, 3) := dk_132 8 1 (dk_at dksX13_putThrees_6 0 rfl rfl)
theorem dX13_putThrees_143 : decode cX13_putThrees 143 = .ok (.goto (-80), 3) := dk_167 255 176 (dk_at dksX13_putThrees_6 3 rfl rfl)
theorem dX13_putThrees_146 : decode cX13_putThrees 146 = .ok (.iinc 6 1, 3) := dk_132 6 1 (dk_at dksX13_putThrees_6 6 rfl rfl)
theorem dX13_putThrees_149 : decode cX13_putThrees 149 = .ok (.goto (-111), 3) := dk_167 255 145 (dk_at dksX13_putThrees_6 9 rfl rfl)
theorem dX13_putThrees_152 : decode cX13_putThrees 152 = .ok (.iload 4, 2) := dk_21 4 (dk_at dksX13_putThrees_6 12 rfl rfl)
theorem dX13_putThrees_154 : decode cX13_putThrees 154 = .ok (.iconst 2, 1) := dk_5 (dk_at dksX13_putThrees_6 14 rfl rfl)
theorem dX13_putThrees_155 : decode cX13_putThrees 155 = .ok (.if_icmp .ne 22, 3) := dk_160 0 22 (dk_at dksX13_putThrees_6 15 rfl rfl)
theorem dX13_putThrees_158 : decode cX13_putThrees 158 = .ok (.aload_n 0, 1) := dk_42 (dk_at dksX13_putThrees_6 18 rfl rfl)
theorem dX13_putThrees_159 : decode cX13_putThrees 159 = .ok (.iload 5, 2) := dk_21 5 (dk_at dksX13_putThrees_6 19 rfl rfl)
theorem dX13_putThrees_161 : decode cX13_putThrees 161 = .ok (.bipush 8, 2) := dk_16 8 (dk_at dksX13_putThrees_6 21 rfl rfl)
theorem dX13_putThrees_163 : decode cX13_putThrees 163 = .ok (.ishr, 1) := dk_122 (dk_at dksX13_putThrees_6 23 rfl rfl)
theorem dX13_putThrees_164 : decode cX13_putThrees 164 = .ok (.invokevirtual 384, 3) := dk_182 1 128 (dk_at dksX13_putThrees_7 0 rfl rfl)
theorem dX13_putThrees_167 : decode cX13_putThrees 167 = .ok (.aload_n 0, 1) := dk_42 (dk_at dksX13_putThrees_7 3 rfl rfl)
theorem dX13_putThrees_168 : decode cX13_putThrees 168 = .ok (.iload 5, 2) := dk_21 5 (dk_at dksX13_putThrees_7 4 rfl rfl)
theorem dX13_putThrees_170 : decode cX13_putThrees 170 = .ok (.sipush 255, 3) := dk_17 0 255 (dk_at dksX13_putThrees_7 6 rfl rfl)
theorem dX13_putThrees_173 : decode cX13_putThrees 173 = .ok (.iand, 1) := dk_126 (dk_at dksX13_putThrees_7 9 rfl rfl)
theorem dX13_putThrees_174 : decode cX13_putThrees 174 = .ok (.invokevirtual 384, 3) := dk_182 1 128 (dk_at dksX13_putThrees_7 10 rfl rfl)
theorem dX13_putThrees_177 : decode cX13_putThrees 177 = .ok (.return_, 1) := dk_177 (dk_at dksX13_putThrees_7 13 rfl rfl)
abbrev cX13_note : ByteArray := prog_16_method_75_code
def yX13_note : MethodName := ⟨RX13, "note", "(IIII)V"⟩
def dkwX13_note_4 : List UInt8 := [180, 1, 113, 21, 4, 79, 42, 89, 180, 1, 113, 4, 96, 181, 1, 113, 177]
abbrev dktX13_note_4 : List UInt8 := dkwX13_note_4 ++ []
def dkwX13_note_3 : List UInt8 := [180, 0, 105, 42, 180, 1, 113, 28, 79, 42, 180, 0, 108, 42, 180, 1, 113, 29, 79, 42, 180, 0, 111, 42]
abbrev dktX13_note_3 : List UInt8 := dkwX13_note_3 ++ dktX13_note_4
def dkwX13_note_2 : List UInt8 := [180, 1, 113, 4, 100, 92, 46, 21, 4, 96, 79, 177, 42, 180, 0, 102, 42, 180, 1, 113, 27, 79, 42]
abbrev dktX13_note_2 : List UInt8 := dkwX13_note_2 ++ dktX13_note_3
def dkwX13_note_1 : List UInt8 := [154, 0, 35, 42, 180, 0, 108, 42, 180, 1, 113, 4, 100, 92, 46, 29, 96, 79, 42, 180, 0, 111, 42]
abbrev dktX13_note_1 : List UInt8 := dkwX13_note_1 ++ dktX13_note_2
def dkwX13_note_0 : List UInt8 := [27, 154, 0, 56, 42, 180, 1, 113, 158, 0, 49, 42, 180, 0, 102, 42, 180, 1, 113, 4, 100, 46]
abbrev dktX13_note_0 : List UInt8 := dkwX13_note_0 ++ dktX13_note_1
theorem dksX13_note_0 : cX13_note.data.toList.drop 0 = dktX13_note_0 := by decide +kernel
theorem dksX13_note_1 : cX13_note.data.toList.drop 22 = dktX13_note_1 := dk_seg dksX13_note_0 22 rfl rfl
theorem dksX13_note_2 : cX13_note.data.toList.drop 45 = dktX13_note_2 := dk_seg dksX13_note_1 23 rfl rfl
theorem dksX13_note_3 : cX13_note.data.toList.drop 68 = dktX13_note_3 := dk_seg dksX13_note_2 23 rfl rfl
theorem dksX13_note_4 : cX13_note.data.toList.drop 92 = dktX13_note_4 := dk_seg dksX13_note_3 24 rfl rfl
theorem dX13_note_0 : decode cX13_note 0 = .ok (.iload_n 1, 1) := dk_27 (dk_at dksX13_note_0 0 rfl rfl)
theorem dX13_note_1 : decode cX13_note 1 = .ok (.ifCond .ne 56, 3) := dk_154 0 56 (dk_at dksX13_note_0 1 rfl rfl)
theorem dX13_note_4 : decode cX13_note 4 = .ok (.aload_n 0, 1) := dk_42 (dk_at dksX13_note_0 4 rfl rfl)
theorem dX13_note_5 : decode cX13_note 5 = .ok (.getfield 369, 3) := dk_180 1 113 (dk_at dksX13_note_0 5 rfl rfl)
theorem dX13_note_8 : decode cX13_note 8 = .ok (.ifCond .le 49, 3) := dk_158 0 49 (dk_at dksX13_note_0 8 rfl rfl)
theorem dX13_note_11 : decode cX13_note 11 = .ok (.aload_n 0, 1) := dk_42 (dk_at dksX13_note_0 11 rfl rfl)
theorem dX13_note_12 : decode cX13_note 12 = .ok (.getfield 102, 3) := dk_180 0 102 (dk_at dksX13_note_0 12 rfl rfl)
theorem dX13_note_15 : decode cX13_note 15 = .ok (.aload_n 0, 1) := dk_42 (dk_at dksX13_note_0 15 rfl rfl)
theorem dX13_note_16 : decode cX13_note 16 = .ok (.getfield 369, 3) := dk_180 1 113 (dk_at dksX13_note_0 16 rfl rfl)
theorem dX13_note_19 : decode cX13_note 19 = .ok (.iconst 1, 1) := dk_4 (dk_at dksX13_note_0 19 rfl rfl)
theorem dX13_note_20 : decode cX13_note 20 = .ok (.isub, 1) := dk_100 (dk_at dksX13_note_0 20 rfl rfl)
theorem dX13_note_21 : decode cX13_note 21 = .ok (.iaload, 1) := dk_46 (dk_at dksX13_note_0 21 rfl rfl)
theorem dX13_note_22 : decode cX13_note 22 = .ok (.ifCond .ne 35, 3) := dk_154 0 35 (dk_at dksX13_note_1 0 rfl rfl)
theorem dX13_note_25 : decode cX13_note 25 = .ok (.aload_n 0, 1) := dk_42 (dk_at dksX13_note_1 3 rfl rfl)
theorem dX13_note_26 : decode cX13_note 26 = .ok (.getfield 108, 3) := dk_180 0 108 (dk_at dksX13_note_1 4 rfl rfl)
theorem dX13_note_29 : decode cX13_note 29 = .ok (.aload_n 0, 1) := dk_42 (dk_at dksX13_note_1 7 rfl rfl)
theorem dX13_note_30 : decode cX13_note 30 = .ok (.getfield 369, 3) := dk_180 1 113 (dk_at dksX13_note_1 8 rfl rfl)
theorem dX13_note_33 : decode cX13_note 33 = .ok (.iconst 1, 1) := dk_4 (dk_at dksX13_note_1 11 rfl rfl)
theorem dX13_note_34 : decode cX13_note 34 = .ok (.isub, 1) := dk_100 (dk_at dksX13_note_1 12 rfl rfl)
theorem dX13_note_35 : decode cX13_note 35 = .ok (.dup2, 1) := dk_92 (dk_at dksX13_note_1 13 rfl rfl)
theorem dX13_note_36 : decode cX13_note 36 = .ok (.iaload, 1) := dk_46 (dk_at dksX13_note_1 14 rfl rfl)
theorem dX13_note_37 : decode cX13_note 37 = .ok (.iload_n 3, 1) := dk_29 (dk_at dksX13_note_1 15 rfl rfl)
theorem dX13_note_38 : decode cX13_note 38 = .ok (.iadd, 1) := dk_96 (dk_at dksX13_note_1 16 rfl rfl)
theorem dX13_note_39 : decode cX13_note 39 = .ok (.iastore, 1) := dk_79 (dk_at dksX13_note_1 17 rfl rfl)
theorem dX13_note_40 : decode cX13_note 40 = .ok (.aload_n 0, 1) := dk_42 (dk_at dksX13_note_1 18 rfl rfl)
theorem dX13_note_41 : decode cX13_note 41 = .ok (.getfield 111, 3) := dk_180 0 111 (dk_at dksX13_note_1 19 rfl rfl)
theorem dX13_note_44 : decode cX13_note 44 = .ok (.aload_n 0, 1) := dk_42 (dk_at dksX13_note_1 22 rfl rfl)
theorem dX13_note_45 : decode cX13_note 45 = .ok (.getfield 369, 3) := dk_180 1 113 (dk_at dksX13_note_2 0 rfl rfl)
theorem dX13_note_48 : decode cX13_note 48 = .ok (.iconst 1, 1) := dk_4 (dk_at dksX13_note_2 3 rfl rfl)
theorem dX13_note_49 : decode cX13_note 49 = .ok (.isub, 1) := dk_100 (dk_at dksX13_note_2 4 rfl rfl)
theorem dX13_note_50 : decode cX13_note 50 = .ok (.dup2, 1) := dk_92 (dk_at dksX13_note_2 5 rfl rfl)
theorem dX13_note_51 : decode cX13_note 51 = .ok (.iaload, 1) := dk_46 (dk_at dksX13_note_2 6 rfl rfl)
theorem dX13_note_52 : decode cX13_note 52 = .ok (.iload 4, 2) := dk_21 4 (dk_at dksX13_note_2 7 rfl rfl)
theorem dX13_note_54 : decode cX13_note 54 = .ok (.iadd, 1) := dk_96 (dk_at dksX13_note_2 9 rfl rfl)
theorem dX13_note_55 : decode cX13_note 55 = .ok (.iastore, 1) := dk_79 (dk_at dksX13_note_2 10 rfl rfl)
theorem dX13_note_56 : decode cX13_note 56 = .ok (.return_, 1) := dk_177 (dk_at dksX13_note_2 11 rfl rfl)
theorem dX13_note_57 : decode cX13_note 57 = .ok (.aload_n 0, 1) := dk_42 (dk_at dksX13_note_2 12 rfl rfl)
theorem dX13_note_58 : decode cX13_note 58 = .ok (.getfield 102, 3) := dk_180 0 102 (dk_at dksX13_note_2 13 rfl rfl)
theorem dX13_note_61 : decode cX13_note 61 = .ok (.aload_n 0, 1) := dk_42 (dk_at dksX13_note_2 16 rfl rfl)
theorem dX13_note_62 : decode cX13_note 62 = .ok (.getfield 369, 3) := dk_180 1 113 (dk_at dksX13_note_2 17 rfl rfl)
theorem dX13_note_65 : decode cX13_note 65 = .ok (.iload_n 1, 1) := dk_27 (dk_at dksX13_note_2 20 rfl rfl)
theorem dX13_note_66 : decode cX13_note 66 = .ok (.iastore, 1) := dk_79 (dk_at dksX13_note_2 21 rfl rfl)
theorem dX13_note_67 : decode cX13_note 67 = .ok (.aload_n 0, 1) := dk_42 (dk_at dksX13_note_2 22 rfl rfl)
theorem dX13_note_68 : decode cX13_note 68 = .ok (.getfield 105, 3) := dk_180 0 105 (dk_at dksX13_note_3 0 rfl rfl)
theorem dX13_note_71 : decode cX13_note 71 = .ok (.aload_n 0, 1) := dk_42 (dk_at dksX13_note_3 3 rfl rfl)
theorem dX13_note_72 : decode cX13_note 72 = .ok (.getfield 369, 3) := dk_180 1 113 (dk_at dksX13_note_3 4 rfl rfl)
theorem dX13_note_75 : decode cX13_note 75 = .ok (.iload_n 2, 1) := dk_28 (dk_at dksX13_note_3 7 rfl rfl)
theorem dX13_note_76 : decode cX13_note 76 = .ok (.iastore, 1) := dk_79 (dk_at dksX13_note_3 8 rfl rfl)
theorem dX13_note_77 : decode cX13_note 77 = .ok (.aload_n 0, 1) := dk_42 (dk_at dksX13_note_3 9 rfl rfl)
theorem dX13_note_78 : decode cX13_note 78 = .ok (.getfield 108, 3) := dk_180 0 108 (dk_at dksX13_note_3 10 rfl rfl)
theorem dX13_note_81 : decode cX13_note 81 = .ok (.aload_n 0, 1) := dk_42 (dk_at dksX13_note_3 13 rfl rfl)
theorem dX13_note_82 : decode cX13_note 82 = .ok (.getfield 369, 3) := dk_180 1 113 (dk_at dksX13_note_3 14 rfl rfl)
theorem dX13_note_85 : decode cX13_note 85 = .ok (.iload_n 3, 1) := dk_29 (dk_at dksX13_note_3 17 rfl rfl)
theorem dX13_note_86 : decode cX13_note 86 = .ok (.iastore, 1) := dk_79 (dk_at dksX13_note_3 18 rfl rfl)
theorem dX13_note_87 : decode cX13_note 87 = .ok (.aload_n 0, 1) := dk_42 (dk_at dksX13_note_3 19 rfl rfl)
theorem dX13_note_88 : decode cX13_note 88 = .ok (.getfield 111, 3) := dk_180 0 111 (dk_at dksX13_note_3 20 rfl rfl)
theorem dX13_note_91 : decode cX13_note 91 = .ok (.aload_n 0, 1) := dk_42 (dk_at dksX13_note_3 23 rfl rfl)
theorem dX13_note_92 : decode cX13_note 92 = .ok (.getfield 369, 3) := dk_180 1 113 (dk_at dksX13_note_4 0 rfl rfl)
theorem dX13_note_95 : decode cX13_note 95 = .ok (.iload 4, 2) := dk_21 4 (dk_at dksX13_note_4 3 rfl rfl)
theorem dX13_note_97 : decode cX13_note 97 = .ok (.iastore, 1) := dk_79 (dk_at dksX13_note_4 5 rfl rfl)
theorem dX13_note_98 : decode cX13_note 98 = .ok (.aload_n 0, 1) := dk_42 (dk_at dksX13_note_4 6 rfl rfl)
theorem dX13_note_99 : decode cX13_note 99 = .ok (.dup, 1) := dk_89 (dk_at dksX13_note_4 7 rfl rfl)
theorem dX13_note_100 : decode cX13_note 100 = .ok (.getfield 369, 3) := dk_180 1 113 (dk_at dksX13_note_4 8 rfl rfl)
theorem dX13_note_103 : decode cX13_note 103 = .ok (.iconst 1, 1) := dk_4 (dk_at dksX13_note_4 11 rfl rfl)
theorem dX13_note_104 : decode cX13_note 104 = .ok (.iadd, 1) := dk_96 (dk_at dksX13_note_4 12 rfl rfl)
theorem dX13_note_105 : decode cX13_note 105 = .ok (.putfield 369, 3) := dk_181 1 113 (dk_at dksX13_note_4 13 rfl rfl)
theorem dX13_note_108 : decode cX13_note 108 = .ok (.return_, 1) := dk_177 (dk_at dksX13_note_4 16 rfl rfl)
abbrev cX13_check : ByteArray := prog_16_method_33_code
def yX13_check : MethodName := ⟨RX13, "check", "(I)V"⟩
def dkwX13_check_10 : List UInt8 := [132, 8, 1, 167, 255, 220, 132, 5, 1, 167, 255, 36, 177]
abbrev dktX13_check_10 : List UInt8 := dkwX13_check_10 ++ []
def dkwX13_check_9 : List UInt8 := [112, 21, 5, 160, 0, 20, 42, 180, 0, 57, 21, 8, 42, 180, 0, 63, 21, 7, 46, 79, 132, 7, 1]
abbrev dktX13_check_9 : List UInt8 := dkwX13_check_9 ++ dktX13_check_10
def dkwX13_check_8 : List UInt8 := [21, 4, 96, 54, 7, 167, 255, 166, 3, 54, 7, 28, 54, 8, 21, 8, 29, 162, 0, 36, 21, 8, 21, 4]
abbrev dktX13_check_8 : List UInt8 := dkwX13_check_8 ++ dktX13_check_9
def dkwX13_check_7 : List UInt8 := [21, 8, 42, 180, 0, 60, 21, 9, 4, 96, 46, 182, 0, 204, 130, 79, 132, 9, 1, 167, 255, 201, 21, 7]
abbrev dktX13_check_7 : List UInt8 := dkwX13_check_7 ++ dktX13_check_8
def dkwX13_check_6 : List UInt8 := [21, 9, 4, 96, 21, 6, 162, 0, 15, 42, 180, 0, 63, 21, 9, 4, 96, 46, 167, 0, 4, 3, 42]
abbrev dktX13_check_6 : List UInt8 := dkwX13_check_6 ++ dktX13_check_7
def dkwX13_check_5 : List UInt8 := [180, 0, 63, 3, 46, 130, 54, 8, 3, 54, 9, 21, 9, 21, 6, 162, 0, 54, 42, 180, 0, 63, 21, 9]
abbrev dktX13_check_5 : List UInt8 := dkwX13_check_5 ++ dktX13_check_6
def dkwX13_check_4 : List UInt8 := [132, 7, 1, 167, 255, 238, 21, 5, 54, 7, 21, 7, 28, 162, 0, 90, 42, 180, 0, 57, 21, 7, 46, 42]
abbrev dktX13_check_4 : List UInt8 := dkwX13_check_4 ++ dktX13_check_5
def dkwX13_check_3 : List UInt8 := [21, 6, 182, 0, 201, 3, 54, 7, 21, 7, 21, 6, 162, 0, 17, 42, 180, 0, 63, 21, 7, 3, 79]
abbrev dktX13_check_3 : List UInt8 := dkwX13_check_3 ++ dktX13_check_4
def dkwX13_check_2 : List UInt8 := [21, 4, 112, 21, 5, 160, 0, 7, 4, 167, 0, 4, 3, 96, 54, 6, 132, 7, 1, 167, 255, 227, 42]
abbrev dktX13_check_2 : List UInt8 := dkwX13_check_2 ++ dktX13_check_3
def dkwX13_check_1 : List UInt8 := [21, 5, 21, 4, 162, 0, 219, 3, 54, 6, 28, 54, 7, 21, 7, 29, 162, 0, 29, 21, 6, 21, 7]
abbrev dktX13_check_1 : List UInt8 := dkwX13_check_1 ++ dktX13_check_2
def dkwX13_check_0 : List UInt8 := [42, 27, 182, 0, 128, 61, 42, 27, 182, 0, 121, 62, 42, 180, 0, 23, 27, 46, 54, 4, 3, 54, 5]
abbrev dktX13_check_0 : List UInt8 := dkwX13_check_0 ++ dktX13_check_1
theorem dksX13_check_0 : cX13_check.data.toList.drop 0 = dktX13_check_0 := by decide +kernel
theorem dksX13_check_1 : cX13_check.data.toList.drop 23 = dktX13_check_1 := dk_seg dksX13_check_0 23 rfl rfl
theorem dksX13_check_2 : cX13_check.data.toList.drop 46 = dktX13_check_2 := dk_seg dksX13_check_1 23 rfl rfl
theorem dksX13_check_3 : cX13_check.data.toList.drop 69 = dktX13_check_3 := dk_seg dksX13_check_2 23 rfl rfl
theorem dksX13_check_4 : cX13_check.data.toList.drop 92 = dktX13_check_4 := dk_seg dksX13_check_3 23 rfl rfl
theorem dksX13_check_5 : cX13_check.data.toList.drop 116 = dktX13_check_5 := dk_seg dksX13_check_4 24 rfl rfl
theorem dksX13_check_6 : cX13_check.data.toList.drop 140 = dktX13_check_6 := dk_seg dksX13_check_5 24 rfl rfl
theorem dksX13_check_7 : cX13_check.data.toList.drop 163 = dktX13_check_7 := dk_seg dksX13_check_6 23 rfl rfl
theorem dksX13_check_8 : cX13_check.data.toList.drop 187 = dktX13_check_8 := dk_seg dksX13_check_7 24 rfl rfl
theorem dksX13_check_9 : cX13_check.data.toList.drop 211 = dktX13_check_9 := dk_seg dksX13_check_8 24 rfl rfl
theorem dksX13_check_10 : cX13_check.data.toList.drop 234 = dktX13_check_10 := dk_seg dksX13_check_9 23 rfl rfl
theorem dX13_check_0 : decode cX13_check 0 = .ok (.aload_n 0, 1) := dk_42 (dk_at dksX13_check_0 0 rfl rfl)
theorem dX13_check_1 : decode cX13_check 1 = .ok (.iload_n 1, 1) := dk_27 (dk_at dksX13_check_0 1 rfl rfl)
theorem dX13_check_2 : decode cX13_check 2 = .ok (.invokevirtual 128, 3) := dk_182 0 128 (dk_at dksX13_check_0 2 rfl rfl)
theorem dX13_check_5 : decode cX13_check 5 = .ok (.istore_n 2, 1) := dk_61 (dk_at dksX13_check_0 5 rfl rfl)
theorem dX13_check_6 : decode cX13_check 6 = .ok (.aload_n 0, 1) := dk_42 (dk_at dksX13_check_0 6 rfl rfl)
theorem dX13_check_7 : decode cX13_check 7 = .ok (.iload_n 1, 1) := dk_27 (dk_at dksX13_check_0 7 rfl rfl)
theorem dX13_check_8 : decode cX13_check 8 = .ok (.invokevirtual 121, 3) := dk_182 0 121 (dk_at dksX13_check_0 8 rfl rfl)
theorem dX13_check_11 : decode cX13_check 11 = .ok (.istore_n 3, 1) := dk_62 (dk_at dksX13_check_0 11 rfl rfl)
theorem dX13_check_12 : decode cX13_check 12 = .ok (.aload_n 0, 1) := dk_42 (dk_at dksX13_check_0 12 rfl rfl)
theorem dX13_check_13 : decode cX13_check 13 = .ok (.getfield 23, 3) := dk_180 0 23 (dk_at dksX13_check_0 13 rfl rfl)
theorem dX13_check_16 : decode cX13_check 16 = .ok (.iload_n 1, 1) := dk_27 (dk_at dksX13_check_0 16 rfl rfl)
theorem dX13_check_17 : decode cX13_check 17 = .ok (.iaload, 1) := dk_46 (dk_at dksX13_check_0 17 rfl rfl)
theorem dX13_check_18 : decode cX13_check 18 = .ok (.istore 4, 2) := dk_54 4 (dk_at dksX13_check_0 18 rfl rfl)
theorem dX13_check_20 : decode cX13_check 20 = .ok (.iconst 0, 1) := dk_3 (dk_at dksX13_check_0 20 rfl rfl)
theorem dX13_check_21 : decode cX13_check 21 = .ok (.istore 5, 2) := dk_54 5 (dk_at dksX13_check_0 21 rfl rfl)
theorem dX13_check_23 : decode cX13_check 23 = .ok (.iload 5, 2) := dk_21 5 (dk_at dksX13_check_1 0 rfl rfl)
theorem dX13_check_25 : decode cX13_check 25 = .ok (.iload 4, 2) := dk_21 4 (dk_at dksX13_check_1 2 rfl rfl)
theorem dX13_check_27 : decode cX13_check 27 = .ok (.if_icmp .ge 219, 3) := dk_162 0 219 (dk_at dksX13_check_1 4 rfl rfl)
theorem dX13_check_30 : decode cX13_check 30 = .ok (.iconst 0, 1) := dk_3 (dk_at dksX13_check_1 7 rfl rfl)
theorem dX13_check_31 : decode cX13_check 31 = .ok (.istore 6, 2) := dk_54 6 (dk_at dksX13_check_1 8 rfl rfl)
theorem dX13_check_33 : decode cX13_check 33 = .ok (.iload_n 2, 1) := dk_28 (dk_at dksX13_check_1 10 rfl rfl)
theorem dX13_check_34 : decode cX13_check 34 = .ok (.istore 7, 2) := dk_54 7 (dk_at dksX13_check_1 11 rfl rfl)
theorem dX13_check_36 : decode cX13_check 36 = .ok (.iload 7, 2) := dk_21 7 (dk_at dksX13_check_1 13 rfl rfl)
theorem dX13_check_38 : decode cX13_check 38 = .ok (.iload_n 3, 1) := dk_29 (dk_at dksX13_check_1 15 rfl rfl)
theorem dX13_check_39 : decode cX13_check 39 = .ok (.if_icmp .ge 29, 3) := dk_162 0 29 (dk_at dksX13_check_1 16 rfl rfl)
theorem dX13_check_42 : decode cX13_check 42 = .ok (.iload 6, 2) := dk_21 6 (dk_at dksX13_check_1 19 rfl rfl)
theorem dX13_check_44 : decode cX13_check 44 = .ok (.iload 7, 2) := dk_21 7 (dk_at dksX13_check_1 21 rfl rfl)
theorem dX13_check_46 : decode cX13_check 46 = .ok (.iload 4, 2) := dk_21 4 (dk_at dksX13_check_2 0 rfl rfl)
theorem dX13_check_48 : decode cX13_check 48 = .ok (.irem, 1) := dk_112 (dk_at dksX13_check_2 2 rfl rfl)
theorem dX13_check_49 : decode cX13_check 49 = .ok (.iload 5, 2) := dk_21 5 (dk_at dksX13_check_2 3 rfl rfl)
theorem dX13_check_51 : decode cX13_check 51 = .ok (.if_icmp .ne 7, 3) := dk_160 0 7 (dk_at dksX13_check_2 5 rfl rfl)
theorem dX13_check_54 : decode cX13_check 54 = .ok (.iconst 1, 1) := dk_4 (dk_at dksX13_check_2 8 rfl rfl)
theorem dX13_check_55 : decode cX13_check 55 = .ok (.goto 4, 3) := dk_167 0 4 (dk_at dksX13_check_2 9 rfl rfl)
theorem dX13_check_58 : decode cX13_check 58 = .ok (.iconst 0, 1) := dk_3 (dk_at dksX13_check_2 12 rfl rfl)
theorem dX13_check_59 : decode cX13_check 59 = .ok (.iadd, 1) := dk_96 (dk_at dksX13_check_2 13 rfl rfl)
theorem dX13_check_60 : decode cX13_check 60 = .ok (.istore 6, 2) := dk_54 6 (dk_at dksX13_check_2 14 rfl rfl)
theorem dX13_check_62 : decode cX13_check 62 = .ok (.iinc 7 1, 3) := dk_132 7 1 (dk_at dksX13_check_2 16 rfl rfl)
theorem dX13_check_65 : decode cX13_check 65 = .ok (.goto (-29), 3) := dk_167 255 227 (dk_at dksX13_check_2 19 rfl rfl)
theorem dX13_check_68 : decode cX13_check 68 = .ok (.aload_n 0, 1) := dk_42 (dk_at dksX13_check_2 22 rfl rfl)
theorem dX13_check_69 : decode cX13_check 69 = .ok (.iload 6, 2) := dk_21 6 (dk_at dksX13_check_3 0 rfl rfl)
theorem dX13_check_71 : decode cX13_check 71 = .ok (.invokevirtual 201, 3) := dk_182 0 201 (dk_at dksX13_check_3 2 rfl rfl)
theorem dX13_check_74 : decode cX13_check 74 = .ok (.iconst 0, 1) := dk_3 (dk_at dksX13_check_3 5 rfl rfl)
theorem dX13_check_75 : decode cX13_check 75 = .ok (.istore 7, 2) := dk_54 7 (dk_at dksX13_check_3 6 rfl rfl)
theorem dX13_check_77 : decode cX13_check 77 = .ok (.iload 7, 2) := dk_21 7 (dk_at dksX13_check_3 8 rfl rfl)
theorem dX13_check_79 : decode cX13_check 79 = .ok (.iload 6, 2) := dk_21 6 (dk_at dksX13_check_3 10 rfl rfl)
theorem dX13_check_81 : decode cX13_check 81 = .ok (.if_icmp .ge 17, 3) := dk_162 0 17 (dk_at dksX13_check_3 12 rfl rfl)
theorem dX13_check_84 : decode cX13_check 84 = .ok (.aload_n 0, 1) := dk_42 (dk_at dksX13_check_3 15 rfl rfl)
theorem dX13_check_85 : decode cX13_check 85 = .ok (.getfield 63, 3) := dk_180 0 63 (dk_at dksX13_check_3 16 rfl rfl)
theorem dX13_check_88 : decode cX13_check 88 = .ok (.iload 7, 2) := dk_21 7 (dk_at dksX13_check_3 19 rfl rfl)
theorem dX13_check_90 : decode cX13_check 90 = .ok (.iconst 0, 1) := dk_3 (dk_at dksX13_check_3 21 rfl rfl)
theorem dX13_check_91 : decode cX13_check 91 = .ok (.iastore, 1) := dk_79 (dk_at dksX13_check_3 22 rfl rfl)
theorem dX13_check_92 : decode cX13_check 92 = .ok (.iinc 7 1, 3) := dk_132 7 1 (dk_at dksX13_check_4 0 rfl rfl)
theorem dX13_check_95 : decode cX13_check 95 = .ok (.goto (-18), 3) := dk_167 255 238 (dk_at dksX13_check_4 3 rfl rfl)
theorem dX13_check_98 : decode cX13_check 98 = .ok (.iload 5, 2) := dk_21 5 (dk_at dksX13_check_4 6 rfl rfl)
theorem dX13_check_100 : decode cX13_check 100 = .ok (.istore 7, 2) := dk_54 7 (dk_at dksX13_check_4 8 rfl rfl)
theorem dX13_check_102 : decode cX13_check 102 = .ok (.iload 7, 2) := dk_21 7 (dk_at dksX13_check_4 10 rfl rfl)
theorem dX13_check_104 : decode cX13_check 104 = .ok (.iload_n 2, 1) := dk_28 (dk_at dksX13_check_4 12 rfl rfl)
theorem dX13_check_105 : decode cX13_check 105 = .ok (.if_icmp .ge 90, 3) := dk_162 0 90 (dk_at dksX13_check_4 13 rfl rfl)
theorem dX13_check_108 : decode cX13_check 108 = .ok (.aload_n 0, 1) := dk_42 (dk_at dksX13_check_4 16 rfl rfl)
theorem dX13_check_109 : decode cX13_check 109 = .ok (.getfield 57, 3) := dk_180 0 57 (dk_at dksX13_check_4 17 rfl rfl)
theorem dX13_check_112 : decode cX13_check 112 = .ok (.iload 7, 2) := dk_21 7 (dk_at dksX13_check_4 20 rfl rfl)
theorem dX13_check_114 : decode cX13_check 114 = .ok (.iaload, 1) := dk_46 (dk_at dksX13_check_4 22 rfl rfl)
theorem dX13_check_115 : decode cX13_check 115 = .ok (.aload_n 0, 1) := dk_42 (dk_at dksX13_check_4 23 rfl rfl)
theorem dX13_check_116 : decode cX13_check 116 = .ok (.getfield 63, 3) := dk_180 0 63 (dk_at dksX13_check_5 0 rfl rfl)
theorem dX13_check_119 : decode cX13_check 119 = .ok (.iconst 0, 1) := dk_3 (dk_at dksX13_check_5 3 rfl rfl)
theorem dX13_check_120 : decode cX13_check 120 = .ok (.iaload, 1) := dk_46 (dk_at dksX13_check_5 4 rfl rfl)
theorem dX13_check_121 : decode cX13_check 121 = .ok (.ixor, 1) := dk_130 (dk_at dksX13_check_5 5 rfl rfl)
theorem dX13_check_122 : decode cX13_check 122 = .ok (.istore 8, 2) := dk_54 8 (dk_at dksX13_check_5 6 rfl rfl)
theorem dX13_check_124 : decode cX13_check 124 = .ok (.iconst 0, 1) := dk_3 (dk_at dksX13_check_5 8 rfl rfl)
theorem dX13_check_125 : decode cX13_check 125 = .ok (.istore 9, 2) := dk_54 9 (dk_at dksX13_check_5 9 rfl rfl)
theorem dX13_check_127 : decode cX13_check 127 = .ok (.iload 9, 2) := dk_21 9 (dk_at dksX13_check_5 11 rfl rfl)
theorem dX13_check_129 : decode cX13_check 129 = .ok (.iload 6, 2) := dk_21 6 (dk_at dksX13_check_5 13 rfl rfl)
theorem dX13_check_131 : decode cX13_check 131 = .ok (.if_icmp .ge 54, 3) := dk_162 0 54 (dk_at dksX13_check_5 15 rfl rfl)
theorem dX13_check_134 : decode cX13_check 134 = .ok (.aload_n 0, 1) := dk_42 (dk_at dksX13_check_5 18 rfl rfl)
theorem dX13_check_135 : decode cX13_check 135 = .ok (.getfield 63, 3) := dk_180 0 63 (dk_at dksX13_check_5 19 rfl rfl)
theorem dX13_check_138 : decode cX13_check 138 = .ok (.iload 9, 2) := dk_21 9 (dk_at dksX13_check_5 22 rfl rfl)
theorem dX13_check_140 : decode cX13_check 140 = .ok (.iload 9, 2) := dk_21 9 (dk_at dksX13_check_6 0 rfl rfl)
theorem dX13_check_142 : decode cX13_check 142 = .ok (.iconst 1, 1) := dk_4 (dk_at dksX13_check_6 2 rfl rfl)
theorem dX13_check_143 : decode cX13_check 143 = .ok (.iadd, 1) := dk_96 (dk_at dksX13_check_6 3 rfl rfl)
theorem dX13_check_144 : decode cX13_check 144 = .ok (.iload 6, 2) := dk_21 6 (dk_at dksX13_check_6 4 rfl rfl)
theorem dX13_check_146 : decode cX13_check 146 = .ok (.if_icmp .ge 15, 3) := dk_162 0 15 (dk_at dksX13_check_6 6 rfl rfl)
theorem dX13_check_149 : decode cX13_check 149 = .ok (.aload_n 0, 1) := dk_42 (dk_at dksX13_check_6 9 rfl rfl)
theorem dX13_check_150 : decode cX13_check 150 = .ok (.getfield 63, 3) := dk_180 0 63 (dk_at dksX13_check_6 10 rfl rfl)
theorem dX13_check_153 : decode cX13_check 153 = .ok (.iload 9, 2) := dk_21 9 (dk_at dksX13_check_6 13 rfl rfl)
theorem dX13_check_155 : decode cX13_check 155 = .ok (.iconst 1, 1) := dk_4 (dk_at dksX13_check_6 15 rfl rfl)
theorem dX13_check_156 : decode cX13_check 156 = .ok (.iadd, 1) := dk_96 (dk_at dksX13_check_6 16 rfl rfl)
theorem dX13_check_157 : decode cX13_check 157 = .ok (.iaload, 1) := dk_46 (dk_at dksX13_check_6 17 rfl rfl)
theorem dX13_check_158 : decode cX13_check 158 = .ok (.goto 4, 3) := dk_167 0 4 (dk_at dksX13_check_6 18 rfl rfl)
theorem dX13_check_161 : decode cX13_check 161 = .ok (.iconst 0, 1) := dk_3 (dk_at dksX13_check_6 21 rfl rfl)
theorem dX13_check_162 : decode cX13_check 162 = .ok (.aload_n 0, 1) := dk_42 (dk_at dksX13_check_6 22 rfl rfl)
theorem dX13_check_163 : decode cX13_check 163 = .ok (.iload 8, 2) := dk_21 8 (dk_at dksX13_check_7 0 rfl rfl)
theorem dX13_check_165 : decode cX13_check 165 = .ok (.aload_n 0, 1) := dk_42 (dk_at dksX13_check_7 2 rfl rfl)
theorem dX13_check_166 : decode cX13_check 166 = .ok (.getfield 60, 3) := dk_180 0 60 (dk_at dksX13_check_7 3 rfl rfl)
theorem dX13_check_169 : decode cX13_check 169 = .ok (.iload 9, 2) := dk_21 9 (dk_at dksX13_check_7 6 rfl rfl)
theorem dX13_check_171 : decode cX13_check 171 = .ok (.iconst 1, 1) := dk_4 (dk_at dksX13_check_7 8 rfl rfl)
theorem dX13_check_172 : decode cX13_check 172 = .ok (.iadd, 1) := dk_96 (dk_at dksX13_check_7 9 rfl rfl)
theorem dX13_check_173 : decode cX13_check 173 = .ok (.iaload, 1) := dk_46 (dk_at dksX13_check_7 10 rfl rfl)
theorem dX13_check_174 : decode cX13_check 174 = .ok (.invokevirtual 204, 3) := dk_182 0 204 (dk_at dksX13_check_7 11 rfl rfl)
theorem dX13_check_177 : decode cX13_check 177 = .ok (.ixor, 1) := dk_130 (dk_at dksX13_check_7 14 rfl rfl)
theorem dX13_check_178 : decode cX13_check 178 = .ok (.iastore, 1) := dk_79 (dk_at dksX13_check_7 15 rfl rfl)
theorem dX13_check_179 : decode cX13_check 179 = .ok (.iinc 9 1, 3) := dk_132 9 1 (dk_at dksX13_check_7 16 rfl rfl)
theorem dX13_check_182 : decode cX13_check 182 = .ok (.goto (-55), 3) := dk_167 255 201 (dk_at dksX13_check_7 19 rfl rfl)
theorem dX13_check_185 : decode cX13_check 185 = .ok (.iload 7, 2) := dk_21 7 (dk_at dksX13_check_7 22 rfl rfl)
theorem dX13_check_187 : decode cX13_check 187 = .ok (.iload 4, 2) := dk_21 4 (dk_at dksX13_check_8 0 rfl rfl)
theorem dX13_check_189 : decode cX13_check 189 = .ok (.iadd, 1) := dk_96 (dk_at dksX13_check_8 2 rfl rfl)
theorem dX13_check_190 : decode cX13_check 190 = .ok (.istore 7, 2) := dk_54 7 (dk_at dksX13_check_8 3 rfl rfl)
theorem dX13_check_192 : decode cX13_check 192 = .ok (.goto (-90), 3) := dk_167 255 166 (dk_at dksX13_check_8 5 rfl rfl)
theorem dX13_check_195 : decode cX13_check 195 = .ok (.iconst 0, 1) := dk_3 (dk_at dksX13_check_8 8 rfl rfl)
theorem dX13_check_196 : decode cX13_check 196 = .ok (.istore 7, 2) := dk_54 7 (dk_at dksX13_check_8 9 rfl rfl)
theorem dX13_check_198 : decode cX13_check 198 = .ok (.iload_n 2, 1) := dk_28 (dk_at dksX13_check_8 11 rfl rfl)
theorem dX13_check_199 : decode cX13_check 199 = .ok (.istore 8, 2) := dk_54 8 (dk_at dksX13_check_8 12 rfl rfl)
theorem dX13_check_201 : decode cX13_check 201 = .ok (.iload 8, 2) := dk_21 8 (dk_at dksX13_check_8 14 rfl rfl)
theorem dX13_check_203 : decode cX13_check 203 = .ok (.iload_n 3, 1) := dk_29 (dk_at dksX13_check_8 16 rfl rfl)
theorem dX13_check_204 : decode cX13_check 204 = .ok (.if_icmp .ge 36, 3) := dk_162 0 36 (dk_at dksX13_check_8 17 rfl rfl)
theorem dX13_check_207 : decode cX13_check 207 = .ok (.iload 8, 2) := dk_21 8 (dk_at dksX13_check_8 20 rfl rfl)
theorem dX13_check_209 : decode cX13_check 209 = .ok (.iload 4, 2) := dk_21 4 (dk_at dksX13_check_8 22 rfl rfl)
theorem dX13_check_211 : decode cX13_check 211 = .ok (.irem, 1) := dk_112 (dk_at dksX13_check_9 0 rfl rfl)
theorem dX13_check_212 : decode cX13_check 212 = .ok (.iload 5, 2) := dk_21 5 (dk_at dksX13_check_9 1 rfl rfl)
theorem dX13_check_214 : decode cX13_check 214 = .ok (.if_icmp .ne 20, 3) := dk_160 0 20 (dk_at dksX13_check_9 3 rfl rfl)
theorem dX13_check_217 : decode cX13_check 217 = .ok (.aload_n 0, 1) := dk_42 (dk_at dksX13_check_9 6 rfl rfl)
theorem dX13_check_218 : decode cX13_check 218 = .ok (.getfield 57, 3) := dk_180 0 57 (dk_at dksX13_check_9 7 rfl rfl)
theorem dX13_check_221 : decode cX13_check 221 = .ok (.iload 8, 2) := dk_21 8 (dk_at dksX13_check_9 10 rfl rfl)
theorem dX13_check_223 : decode cX13_check 223 = .ok (.aload_n 0, 1) := dk_42 (dk_at dksX13_check_9 12 rfl rfl)
theorem dX13_check_224 : decode cX13_check 224 = .ok (.getfield 63, 3) := dk_180 0 63 (dk_at dksX13_check_9 13 rfl rfl)
theorem dX13_check_227 : decode cX13_check 227 = .ok (.iload 7, 2) := dk_21 7 (dk_at dksX13_check_9 16 rfl rfl)
theorem dX13_check_229 : decode cX13_check 229 = .ok (.iaload, 1) := dk_46 (dk_at dksX13_check_9 18 rfl rfl)
theorem dX13_check_230 : decode cX13_check 230 = .ok (.iastore, 1) := dk_79 (dk_at dksX13_check_9 19 rfl rfl)
theorem dX13_check_231 : decode cX13_check 231 = .ok (.iinc 7 1, 3) := dk_132 7 1 (dk_at dksX13_check_9 20 rfl rfl)
theorem dX13_check_234 : decode cX13_check 234 = .ok (.iinc 8 1, 3) := dk_132 8 1 (dk_at dksX13_check_10 0 rfl rfl)
theorem dX13_check_237 : decode cX13_check 237 = .ok (.goto (-36), 3) := dk_167 255 220 (dk_at dksX13_check_10 3 rfl rfl)
theorem dX13_check_240 : decode cX13_check 240 = .ok (.iinc 5 1, 3) := dk_132 5 1 (dk_at dksX13_check_10 6 rfl rfl)
theorem dX13_check_243 : decode cX13_check 243 = .ok (.goto (-220), 3) := dk_167 255 36 (dk_at dksX13_check_10 9 rfl rfl)
theorem dX13_check_246 : decode cX13_check 246 = .ok (.return_, 1) := dk_177 (dk_at dksX13_check_10 12 rfl rfl)
abbrev cX13_makeDivisor : ByteArray := prog_16_method_34_code
def yX13_makeDivisor : MethodName := ⟨RX13, "makeDivisor", "(I)V"⟩
def dkwX13_makeDivisor_3 : List UInt8 := [130, 79, 132, 3, 255, 167, 255, 218, 132, 2, 1, 167, 255, 205, 177]
abbrev dktX13_makeDivisor_3 : List UInt8 := dkwX13_makeDivisor_3 ++ []
def dkwX13_makeDivisor_2 : List UInt8 := [42, 180, 0, 60, 29, 46, 42, 42, 180, 0, 60, 29, 4, 100, 46, 42, 180, 0, 32, 28, 46, 182, 0, 204]
abbrev dktX13_makeDivisor_2 : List UInt8 := dkwX13_makeDivisor_2 ++ dktX13_makeDivisor_3
def dkwX13_makeDivisor_1 : List UInt8 := [132, 2, 1, 167, 255, 233, 4, 61, 28, 27, 163, 0, 52, 28, 62, 29, 158, 0, 40, 42, 180, 0, 60, 29]
abbrev dktX13_makeDivisor_1 : List UInt8 := dkwX13_makeDivisor_1 ++ dktX13_makeDivisor_2
def dkwX13_makeDivisor_0 : List UInt8 := [3, 61, 28, 27, 163, 0, 24, 42, 180, 0, 60, 28, 28, 154, 0, 7, 4, 167, 0, 4, 3, 79]
abbrev dktX13_makeDivisor_0 : List UInt8 := dkwX13_makeDivisor_0 ++ dktX13_makeDivisor_1
theorem dksX13_makeDivisor_0 : cX13_makeDivisor.data.toList.drop 0 = dktX13_makeDivisor_0 := by decide +kernel
theorem dksX13_makeDivisor_1 : cX13_makeDivisor.data.toList.drop 22 = dktX13_makeDivisor_1 := dk_seg dksX13_makeDivisor_0 22 rfl rfl
theorem dksX13_makeDivisor_2 : cX13_makeDivisor.data.toList.drop 46 = dktX13_makeDivisor_2 := dk_seg dksX13_makeDivisor_1 24 rfl rfl
theorem dksX13_makeDivisor_3 : cX13_makeDivisor.data.toList.drop 70 = dktX13_makeDivisor_3 := dk_seg dksX13_makeDivisor_2 24 rfl rfl
theorem dX13_makeDivisor_0 : decode cX13_makeDivisor 0 = .ok (.iconst 0, 1) := dk_3 (dk_at dksX13_makeDivisor_0 0 rfl rfl)
theorem dX13_makeDivisor_1 : decode cX13_makeDivisor 1 = .ok (.istore_n 2, 1) := dk_61 (dk_at dksX13_makeDivisor_0 1 rfl rfl)
theorem dX13_makeDivisor_2 : decode cX13_makeDivisor 2 = .ok (.iload_n 2, 1) := dk_28 (dk_at dksX13_makeDivisor_0 2 rfl rfl)
theorem dX13_makeDivisor_3 : decode cX13_makeDivisor 3 = .ok (.iload_n 1, 1) := dk_27 (dk_at dksX13_makeDivisor_0 3 rfl rfl)
theorem dX13_makeDivisor_4 : decode cX13_makeDivisor 4 = .ok (.if_icmp .gt 24, 3) := dk_163 0 24 (dk_at dksX13_makeDivisor_0 4 rfl rfl)
theorem dX13_makeDivisor_7 : decode cX13_makeDivisor 7 = .ok (.aload_n 0, 1) := dk_42 (dk_at dksX13_makeDivisor_0 7 rfl rfl)
theorem dX13_makeDivisor_8 : decode cX13_makeDivisor 8 = .ok (.getfield 60, 3) := dk_180 0 60 (dk_at dksX13_makeDivisor_0 8 rfl rfl)
theorem dX13_makeDivisor_11 : decode cX13_makeDivisor 11 = .ok (.iload_n 2, 1) := dk_28 (dk_at dksX13_makeDivisor_0 11 rfl rfl)
theorem dX13_makeDivisor_12 : decode cX13_makeDivisor 12 = .ok (.iload_n 2, 1) := dk_28 (dk_at dksX13_makeDivisor_0 12 rfl rfl)
theorem dX13_makeDivisor_13 : decode cX13_makeDivisor 13 = .ok (.ifCond .ne 7, 3) := dk_154 0 7 (dk_at dksX13_makeDivisor_0 13 rfl rfl)
theorem dX13_makeDivisor_16 : decode cX13_makeDivisor 16 = .ok (.iconst 1, 1) := dk_4 (dk_at dksX13_makeDivisor_0 16 rfl rfl)
theorem dX13_makeDivisor_17 : decode cX13_makeDivisor 17 = .ok (.goto 4, 3) := dk_167 0 4 (dk_at dksX13_makeDivisor_0 17 rfl rfl)
theorem dX13_makeDivisor_20 : decode cX13_makeDivisor 20 = .ok (.iconst 0, 1) := dk_3 (dk_at dksX13_makeDivisor_0 20 rfl rfl)
theorem dX13_makeDivisor_21 : decode cX13_makeDivisor 21 = .ok (.iastore, 1) := dk_79 (dk_at dksX13_makeDivisor_0 21 rfl rfl)
theorem dX13_makeDivisor_22 : decode cX13_makeDivisor 22 = .ok (.iinc 2 1, 3) := dk_132 2 1 (dk_at dksX13_makeDivisor_1 0 rfl rfl)
theorem dX13_makeDivisor_25 : decode cX13_makeDivisor 25 = .ok (.goto (-23), 3) := dk_167 255 233 (dk_at dksX13_makeDivisor_1 3 rfl rfl)
theorem dX13_makeDivisor_28 : decode cX13_makeDivisor 28 = .ok (.iconst 1, 1) := dk_4 (dk_at dksX13_makeDivisor_1 6 rfl rfl)
theorem dX13_makeDivisor_29 : decode cX13_makeDivisor 29 = .ok (.istore_n 2, 1) := dk_61 (dk_at dksX13_makeDivisor_1 7 rfl rfl)
theorem dX13_makeDivisor_30 : decode cX13_makeDivisor 30 = .ok (.iload_n 2, 1) := dk_28 (dk_at dksX13_makeDivisor_1 8 rfl rfl)
theorem dX13_makeDivisor_31 : decode cX13_makeDivisor 31 = .ok (.iload_n 1, 1) := dk_27 (dk_at dksX13_makeDivisor_1 9 rfl rfl)
theorem dX13_makeDivisor_32 : decode cX13_makeDivisor 32 = .ok (.if_icmp .gt 52, 3) := dk_163 0 52 (dk_at dksX13_makeDivisor_1 10 rfl rfl)
theorem dX13_makeDivisor_35 : decode cX13_makeDivisor 35 = .ok (.iload_n 2, 1) := dk_28 (dk_at dksX13_makeDivisor_1 13 rfl rfl)
theorem dX13_makeDivisor_36 : decode cX13_makeDivisor 36 = .ok (.istore_n 3, 1) := dk_62 (dk_at dksX13_makeDivisor_1 14 rfl rfl)
theorem dX13_makeDivisor_37 : decode cX13_makeDivisor 37 = .ok (.iload_n 3, 1) := dk_29 (dk_at dksX13_makeDivisor_1 15 rfl rfl)
theorem dX13_makeDivisor_38 : decode cX13_makeDivisor 38 = .ok (.ifCond .le 40, 3) := dk_158 0 40 (dk_at dksX13_makeDivisor_1 16 rfl rfl)
theorem dX13_makeDivisor_41 : decode cX13_makeDivisor 41 = .ok (.aload_n 0, 1) := dk_42 (dk_at dksX13_makeDivisor_1 19 rfl rfl)
theorem dX13_makeDivisor_42 : decode cX13_makeDivisor 42 = .ok (.getfield 60, 3) := dk_180 0 60 (dk_at dksX13_makeDivisor_1 20 rfl rfl)
theorem dX13_makeDivisor_45 : decode cX13_makeDivisor 45 = .ok (.iload_n 3, 1) := dk_29 (dk_at dksX13_makeDivisor_1 23 rfl rfl)
theorem dX13_makeDivisor_46 : decode cX13_makeDivisor 46 = .ok (.aload_n 0, 1) := dk_42 (dk_at dksX13_makeDivisor_2 0 rfl rfl)
theorem dX13_makeDivisor_47 : decode cX13_makeDivisor 47 = .ok (.getfield 60, 3) := dk_180 0 60 (dk_at dksX13_makeDivisor_2 1 rfl rfl)
theorem dX13_makeDivisor_50 : decode cX13_makeDivisor 50 = .ok (.iload_n 3, 1) := dk_29 (dk_at dksX13_makeDivisor_2 4 rfl rfl)
theorem dX13_makeDivisor_51 : decode cX13_makeDivisor 51 = .ok (.iaload, 1) := dk_46 (dk_at dksX13_makeDivisor_2 5 rfl rfl)
theorem dX13_makeDivisor_52 : decode cX13_makeDivisor 52 = .ok (.aload_n 0, 1) := dk_42 (dk_at dksX13_makeDivisor_2 6 rfl rfl)
theorem dX13_makeDivisor_53 : decode cX13_makeDivisor 53 = .ok (.aload_n 0, 1) := dk_42 (dk_at dksX13_makeDivisor_2 7 rfl rfl)
theorem dX13_makeDivisor_54 : decode cX13_makeDivisor 54 = .ok (.getfield 60, 3) := dk_180 0 60 (dk_at dksX13_makeDivisor_2 8 rfl rfl)
theorem dX13_makeDivisor_57 : decode cX13_makeDivisor 57 = .ok (.iload_n 3, 1) := dk_29 (dk_at dksX13_makeDivisor_2 11 rfl rfl)
theorem dX13_makeDivisor_58 : decode cX13_makeDivisor 58 = .ok (.iconst 1, 1) := dk_4 (dk_at dksX13_makeDivisor_2 12 rfl rfl)
theorem dX13_makeDivisor_59 : decode cX13_makeDivisor 59 = .ok (.isub, 1) := dk_100 (dk_at dksX13_makeDivisor_2 13 rfl rfl)
theorem dX13_makeDivisor_60 : decode cX13_makeDivisor 60 = .ok (.iaload, 1) := dk_46 (dk_at dksX13_makeDivisor_2 14 rfl rfl)
theorem dX13_makeDivisor_61 : decode cX13_makeDivisor 61 = .ok (.aload_n 0, 1) := dk_42 (dk_at dksX13_makeDivisor_2 15 rfl rfl)
theorem dX13_makeDivisor_62 : decode cX13_makeDivisor 62 = .ok (.getfield 32, 3) := dk_180 0 32 (dk_at dksX13_makeDivisor_2 16 rfl rfl)
theorem dX13_makeDivisor_65 : decode cX13_makeDivisor 65 = .ok (.iload_n 2, 1) := dk_28 (dk_at dksX13_makeDivisor_2 19 rfl rfl)
theorem dX13_makeDivisor_66 : decode cX13_makeDivisor 66 = .ok (.iaload, 1) := dk_46 (dk_at dksX13_makeDivisor_2 20 rfl rfl)
theorem dX13_makeDivisor_67 : decode cX13_makeDivisor 67 = .ok (.invokevirtual 204, 3) := dk_182 0 204 (dk_at dksX13_makeDivisor_2 21 rfl rfl)
theorem dX13_makeDivisor_70 : decode cX13_makeDivisor 70 = .ok (.ixor, 1) := dk_130 (dk_at dksX13_makeDivisor_3 0 rfl rfl)
theorem dX13_makeDivisor_71 : decode cX13_makeDivisor 71 = .ok (.iastore, 1) := dk_79 (dk_at dksX13_makeDivisor_3 1 rfl rfl)
theorem dX13_makeDivisor_72 : decode cX13_makeDivisor 72 = .ok (.iinc 3 (-1), 3) := dk_132 3 255 (dk_at dksX13_makeDivisor_3 2 rfl rfl)
theorem dX13_makeDivisor_75 : decode cX13_makeDivisor 75 = .ok (.goto (-38), 3) := dk_167 255 218 (dk_at dksX13_makeDivisor_3 5 rfl rfl)
theorem dX13_makeDivisor_78 : decode cX13_makeDivisor 78 = .ok (.iinc 2 1, 3) := dk_132 2 1 (dk_at dksX13_makeDivisor_3 8 rfl rfl)
theorem dX13_makeDivisor_81 : decode cX13_makeDivisor 81 = .ok (.goto (-51), 3) := dk_167 255 205 (dk_at dksX13_makeDivisor_3 11 rfl rfl)
theorem dX13_makeDivisor_84 : decode cX13_makeDivisor 84 = .ok (.return_, 1) := dk_177 (dk_at dksX13_makeDivisor_3 14 rfl rfl)
abbrev cX13_draw : ByteArray := prog_16_method_30_code
def yX13_draw : MethodName := ⟨RX13, "draw", "(I)V"⟩
def dkwX13_draw_11 : List UInt8 := [182, 0, 146, 3, 84, 177]
abbrev dktX13_draw_11 : List UInt8 := dkwX13_draw_11 ++ []
def dkwX13_draw_10 : List UInt8 := [182, 0, 146, 3, 84, 42, 180, 0, 53, 42, 27, 42, 180, 0, 137, 5, 100, 42, 180, 0, 140, 4, 100]
abbrev dktX13_draw_10 : List UInt8 := dkwX13_draw_10 ++ dktX13_draw_11
def dkwX13_draw_9 : List UInt8 := [182, 0, 146, 4, 84, 42, 180, 0, 53, 42, 27, 42, 180, 0, 137, 4, 100, 42, 180, 0, 140, 5, 100]
abbrev dktX13_draw_9 : List UInt8 := dkwX13_draw_9 ++ dktX13_draw_10
def dkwX13_draw_8 : List UInt8 := [100, 182, 0, 146, 4, 84, 42, 180, 0, 53, 42, 27, 42, 180, 0, 137, 5, 100, 42, 180, 0, 140, 5, 100]
abbrev dktX13_draw_8 : List UInt8 := dkwX13_draw_8 ++ dktX13_draw_9
def dkwX13_draw_7 : List UInt8 := [100, 182, 0, 161, 153, 0, 95, 42, 180, 0, 53, 42, 27, 42, 180, 0, 137, 4, 100, 42, 180, 0, 140, 4]
abbrev dktX13_draw_7 : List UInt8 := dkwX13_draw_7 ++ dktX13_draw_8
def dkwX13_draw_6 : List UInt8 := [132, 5, 1, 167, 255, 158, 132, 4, 1, 167, 255, 138, 42, 42, 180, 0, 137, 4, 100, 42, 180, 0, 140, 4]
abbrev dktX13_draw_6 : List UInt8 := dkwX13_draw_6 ++ dktX13_draw_7
def dkwX13_draw_5 : List UInt8 := [4, 167, 0, 4, 3, 54, 8, 42, 180, 0, 53, 17, 0, 144, 21, 4, 104, 21, 5, 96, 21, 8, 84]
abbrev dktX13_draw_5 : List UInt8 := dkwX13_draw_5 ++ dktX13_draw_6
def dkwX13_draw_4 : List UInt8 := [21, 7, 29, 4, 100, 160, 0, 23, 28, 4, 100, 21, 6, 100, 5, 112, 154, 0, 12, 21, 6, 158, 0, 7]
abbrev dktX13_draw_4 : List UInt8 := dkwX13_draw_4 ++ dktX13_draw_5
def dkwX13_draw_3 : List UInt8 := [153, 0, 47, 21, 6, 28, 4, 100, 159, 0, 39, 21, 6, 154, 0, 10, 21, 7, 5, 112, 153, 0, 27]
abbrev dktX13_draw_3 : List UInt8 := dkwX13_draw_3 ++ dktX13_draw_4
def dkwX13_draw_2 : List UInt8 := [180, 0, 17, 27, 46, 162, 0, 93, 21, 4, 28, 112, 54, 6, 21, 5, 29, 112, 54, 7, 21, 7]
abbrev dktX13_draw_2 : List UInt8 := dkwX13_draw_2 ++ dktX13_draw_3
def dkwX13_draw_1 : List UInt8 := [108, 5, 96, 62, 3, 54, 4, 21, 4, 42, 180, 0, 13, 27, 46, 162, 0, 113, 3, 54, 5, 21, 5, 42]
abbrev dktX13_draw_1 : List UInt8 := dkwX13_draw_1 ++ dktX13_draw_2
def dkwX13_draw_0 : List UInt8 := [42, 180, 0, 137, 42, 180, 0, 26, 27, 46, 108, 5, 96, 61, 42, 180, 0, 140, 42, 180, 0, 29, 27, 46]
abbrev dktX13_draw_0 : List UInt8 := dkwX13_draw_0 ++ dktX13_draw_1
theorem dksX13_draw_0 : cX13_draw.data.toList.drop 0 = dktX13_draw_0 := by decide +kernel
theorem dksX13_draw_1 : cX13_draw.data.toList.drop 24 = dktX13_draw_1 := dk_seg dksX13_draw_0 24 rfl rfl
theorem dksX13_draw_2 : cX13_draw.data.toList.drop 48 = dktX13_draw_2 := dk_seg dksX13_draw_1 24 rfl rfl
theorem dksX13_draw_3 : cX13_draw.data.toList.drop 70 = dktX13_draw_3 := dk_seg dksX13_draw_2 22 rfl rfl
theorem dksX13_draw_4 : cX13_draw.data.toList.drop 93 = dktX13_draw_4 := dk_seg dksX13_draw_3 23 rfl rfl
theorem dksX13_draw_5 : cX13_draw.data.toList.drop 117 = dktX13_draw_5 := dk_seg dksX13_draw_4 24 rfl rfl
theorem dksX13_draw_6 : cX13_draw.data.toList.drop 140 = dktX13_draw_6 := dk_seg dksX13_draw_5 23 rfl rfl
theorem dksX13_draw_7 : cX13_draw.data.toList.drop 164 = dktX13_draw_7 := dk_seg dksX13_draw_6 24 rfl rfl
theorem dksX13_draw_8 : cX13_draw.data.toList.drop 188 = dktX13_draw_8 := dk_seg dksX13_draw_7 24 rfl rfl
theorem dksX13_draw_9 : cX13_draw.data.toList.drop 212 = dktX13_draw_9 := dk_seg dksX13_draw_8 24 rfl rfl
theorem dksX13_draw_10 : cX13_draw.data.toList.drop 235 = dktX13_draw_10 := dk_seg dksX13_draw_9 23 rfl rfl
theorem dksX13_draw_11 : cX13_draw.data.toList.drop 258 = dktX13_draw_11 := dk_seg dksX13_draw_10 23 rfl rfl
theorem dX13_draw_0 : decode cX13_draw 0 = .ok (.aload_n 0, 1) := dk_42 (dk_at dksX13_draw_0 0 rfl rfl)
theorem dX13_draw_1 : decode cX13_draw 1 = .ok (.getfield 137, 3) := dk_180 0 137 (dk_at dksX13_draw_0 1 rfl rfl)
theorem dX13_draw_4 : decode cX13_draw 4 = .ok (.aload_n 0, 1) := dk_42 (dk_at dksX13_draw_0 4 rfl rfl)
theorem dX13_draw_5 : decode cX13_draw 5 = .ok (.getfield 26, 3) := dk_180 0 26 (dk_at dksX13_draw_0 5 rfl rfl)
theorem dX13_draw_8 : decode cX13_draw 8 = .ok (.iload_n 1, 1) := dk_27 (dk_at dksX13_draw_0 8 rfl rfl)
theorem dX13_draw_9 : decode cX13_draw 9 = .ok (.iaload, 1) := dk_46 (dk_at dksX13_draw_0 9 rfl rfl)
theorem dX13_draw_10 : decode cX13_draw 10 = .ok (.idiv, 1) := dk_108 (dk_at dksX13_draw_0 10 rfl rfl)
theorem dX13_draw_11 : decode cX13_draw 11 = .ok (.iconst 2, 1) := dk_5 (dk_at dksX13_draw_0 11 rfl rfl)
theorem dX13_draw_12 : decode cX13_draw 12 = .ok (.iadd, 1) := dk_96 (dk_at dksX13_draw_0 12 rfl rfl)
theorem dX13_draw_13 : decode cX13_draw 13 = .ok (.istore_n 2, 1) := dk_61 (dk_at dksX13_draw_0 13 rfl rfl)
theorem dX13_draw_14 : decode cX13_draw 14 = .ok (.aload_n 0, 1) := dk_42 (dk_at dksX13_draw_0 14 rfl rfl)
theorem dX13_draw_15 : decode cX13_draw 15 = .ok (.getfield 140, 3) := dk_180 0 140 (dk_at dksX13_draw_0 15 rfl rfl)
theorem dX13_draw_18 : decode cX13_draw 18 = .ok (.aload_n 0, 1) := dk_42 (dk_at dksX13_draw_0 18 rfl rfl)
theorem dX13_draw_19 : decode cX13_draw 19 = .ok (.getfield 29, 3) := dk_180 0 29 (dk_at dksX13_draw_0 19 rfl rfl)
theorem dX13_draw_22 : decode cX13_draw 22 = .ok (.iload_n 1, 1) := dk_27 (dk_at dksX13_draw_0 22 rfl rfl)
theorem dX13_draw_23 : decode cX13_draw 23 = .ok (.iaload, 1) := dk_46 (dk_at dksX13_draw_0 23 rfl rfl)
theorem dX13_draw_24 : decode cX13_draw 24 = .ok (.idiv, 1) := dk_108 (dk_at dksX13_draw_1 0 rfl rfl)
theorem dX13_draw_25 : decode cX13_draw 25 = .ok (.iconst 2, 1) := dk_5 (dk_at dksX13_draw_1 1 rfl rfl)
theorem dX13_draw_26 : decode cX13_draw 26 = .ok (.iadd, 1) := dk_96 (dk_at dksX13_draw_1 2 rfl rfl)
theorem dX13_draw_27 : decode cX13_draw 27 = .ok (.istore_n 3, 1) := dk_62 (dk_at dksX13_draw_1 3 rfl rfl)
theorem dX13_draw_28 : decode cX13_draw 28 = .ok (.iconst 0, 1) := dk_3 (dk_at dksX13_draw_1 4 rfl rfl)
theorem dX13_draw_29 : decode cX13_draw 29 = .ok (.istore 4, 2) := dk_54 4 (dk_at dksX13_draw_1 5 rfl rfl)
theorem dX13_draw_31 : decode cX13_draw 31 = .ok (.iload 4, 2) := dk_21 4 (dk_at dksX13_draw_1 7 rfl rfl)
theorem dX13_draw_33 : decode cX13_draw 33 = .ok (.aload_n 0, 1) := dk_42 (dk_at dksX13_draw_1 9 rfl rfl)
theorem dX13_draw_34 : decode cX13_draw 34 = .ok (.getfield 13, 3) := dk_180 0 13 (dk_at dksX13_draw_1 10 rfl rfl)
theorem dX13_draw_37 : decode cX13_draw 37 = .ok (.iload_n 1, 1) := dk_27 (dk_at dksX13_draw_1 13 rfl rfl)
theorem dX13_draw_38 : decode cX13_draw 38 = .ok (.iaload, 1) := dk_46 (dk_at dksX13_draw_1 14 rfl rfl)
theorem dX13_draw_39 : decode cX13_draw 39 = .ok (.if_icmp .ge 113, 3) := dk_162 0 113 (dk_at dksX13_draw_1 15 rfl rfl)
theorem dX13_draw_42 : decode cX13_draw 42 = .ok (.iconst 0, 1) := dk_3 (dk_at dksX13_draw_1 18 rfl rfl)
theorem dX13_draw_43 : decode cX13_draw 43 = .ok (.istore 5, 2) := dk_54 5 (dk_at dksX13_draw_1 19 rfl rfl)
theorem dX13_draw_45 : decode cX13_draw 45 = .ok (.iload 5, 2) := dk_21 5 (dk_at dksX13_draw_1 21 rfl rfl)
theorem dX13_draw_47 : decode cX13_draw 47 = .ok (.aload_n 0, 1) := dk_42 (dk_at dksX13_draw_1 23 rfl rfl)
theorem dX13_draw_48 : decode cX13_draw 48 = .ok (.getfield 17, 3) := dk_180 0 17 (dk_at dksX13_draw_2 0 rfl rfl)
theorem dX13_draw_51 : decode cX13_draw 51 = .ok (.iload_n 1, 1) := dk_27 (dk_at dksX13_draw_2 3 rfl rfl)
theorem dX13_draw_52 : decode cX13_draw 52 = .ok (.iaload, 1) := dk_46 (dk_at dksX13_draw_2 4 rfl rfl)
theorem dX13_draw_53 : decode cX13_draw 53 = .ok (.if_icmp .ge 93, 3) := dk_162 0 93 (dk_at dksX13_draw_2 5 rfl rfl)
theorem dX13_draw_56 : decode cX13_draw 56 = .ok (.iload 4, 2) := dk_21 4 (dk_at dksX13_draw_2 8 rfl rfl)
theorem dX13_draw_58 : decode cX13_draw 58 = .ok (.iload_n 2, 1) := dk_28 (dk_at dksX13_draw_2 10 rfl rfl)
theorem dX13_draw_59 : decode cX13_draw 59 = .ok (.irem, 1) := dk_112 (dk_at dksX13_draw_2 11 rfl rfl)
theorem dX13_draw_60 : decode cX13_draw 60 = .ok (.istore 6, 2) := dk_54 6 (dk_at dksX13_draw_2 12 rfl rfl)
theorem dX13_draw_62 : decode cX13_draw 62 = .ok (.iload 5, 2) := dk_21 5 (dk_at dksX13_draw_2 14 rfl rfl)
theorem dX13_draw_64 : decode cX13_draw 64 = .ok (.iload_n 3, 1) := dk_29 (dk_at dksX13_draw_2 16 rfl rfl)
theorem dX13_draw_65 : decode cX13_draw 65 = .ok (.irem, 1) := dk_112 (dk_at dksX13_draw_2 17 rfl rfl)
theorem dX13_draw_66 : decode cX13_draw 66 = .ok (.istore 7, 2) := dk_54 7 (dk_at dksX13_draw_2 18 rfl rfl)
theorem dX13_draw_68 : decode cX13_draw 68 = .ok (.iload 7, 2) := dk_21 7 (dk_at dksX13_draw_2 20 rfl rfl)
theorem dX13_draw_70 : decode cX13_draw 70 = .ok (.ifCond .eq 47, 3) := dk_153 0 47 (dk_at dksX13_draw_3 0 rfl rfl)
theorem dX13_draw_73 : decode cX13_draw 73 = .ok (.iload 6, 2) := dk_21 6 (dk_at dksX13_draw_3 3 rfl rfl)
theorem dX13_draw_75 : decode cX13_draw 75 = .ok (.iload_n 2, 1) := dk_28 (dk_at dksX13_draw_3 5 rfl rfl)
theorem dX13_draw_76 : decode cX13_draw 76 = .ok (.iconst 1, 1) := dk_4 (dk_at dksX13_draw_3 6 rfl rfl)
theorem dX13_draw_77 : decode cX13_draw 77 = .ok (.isub, 1) := dk_100 (dk_at dksX13_draw_3 7 rfl rfl)
theorem dX13_draw_78 : decode cX13_draw 78 = .ok (.if_icmp .eq 39, 3) := dk_159 0 39 (dk_at dksX13_draw_3 8 rfl rfl)
theorem dX13_draw_81 : decode cX13_draw 81 = .ok (.iload 6, 2) := dk_21 6 (dk_at dksX13_draw_3 11 rfl rfl)
theorem dX13_draw_83 : decode cX13_draw 83 = .ok (.ifCond .ne 10, 3) := dk_154 0 10 (dk_at dksX13_draw_3 13 rfl rfl)
theorem dX13_draw_86 : decode cX13_draw 86 = .ok (.iload 7, 2) := dk_21 7 (dk_at dksX13_draw_3 16 rfl rfl)
theorem dX13_draw_88 : decode cX13_draw 88 = .ok (.iconst 2, 1) := dk_5 (dk_at dksX13_draw_3 18 rfl rfl)
theorem dX13_draw_89 : decode cX13_draw 89 = .ok (.irem, 1) := dk_112 (dk_at dksX13_draw_3 19 rfl rfl)
theorem dX13_draw_90 : decode cX13_draw 90 = .ok (.ifCond .eq 27, 3) := dk_153 0 27 (dk_at dksX13_draw_3 20 rfl rfl)
theorem dX13_draw_93 : decode cX13_draw 93 = .ok (.iload 7, 2) := dk_21 7 (dk_at dksX13_draw_4 0 rfl rfl)
theorem dX13_draw_95 : decode cX13_draw 95 = .ok (.iload_n 3, 1) := dk_29 (dk_at dksX13_draw_4 2 rfl rfl)
theorem dX13_draw_96 : decode cX13_draw 96 = .ok (.iconst 1, 1) := dk_4 (dk_at dksX13_draw_4 3 rfl rfl)
theorem dX13_draw_97 : decode cX13_draw 97 = .ok (.isub, 1) := dk_100 (dk_at dksX13_draw_4 4 rfl rfl)
theorem dX13_draw_98 : decode cX13_draw 98 = .ok (.if_icmp .ne 23, 3) := dk_160 0 23 (dk_at dksX13_draw_4 5 rfl rfl)
theorem dX13_draw_101 : decode cX13_draw 101 = .ok (.iload_n 2, 1) := dk_28 (dk_at dksX13_draw_4 8 rfl rfl)
theorem dX13_draw_102 : decode cX13_draw 102 = .ok (.iconst 1, 1) := dk_4 (dk_at dksX13_draw_4 9 rfl rfl)
theorem dX13_draw_103 : decode cX13_draw 103 = .ok (.isub, 1) := dk_100 (dk_at dksX13_draw_4 10 rfl rfl)
theorem dX13_draw_104 : decode cX13_draw 104 = .ok (.iload 6, 2) := dk_21 6 (dk_at dksX13_draw_4 11 rfl rfl)
theorem dX13_draw_106 : decode cX13_draw 106 = .ok (.isub, 1) := dk_100 (dk_at dksX13_draw_4 13 rfl rfl)
theorem dX13_draw_107 : decode cX13_draw 107 = .ok (.iconst 2, 1) := dk_5 (dk_at dksX13_draw_4 14 rfl rfl)
theorem dX13_draw_108 : decode cX13_draw 108 = .ok (.irem, 1) := dk_112 (dk_at dksX13_draw_4 15 rfl rfl)
theorem dX13_draw_109 : decode cX13_draw 109 = .ok (.ifCond .ne 12, 3) := dk_154 0 12 (dk_at dksX13_draw_4 16 rfl rfl)
theorem dX13_draw_112 : decode cX13_draw 112 = .ok (.iload 6, 2) := dk_21 6 (dk_at dksX13_draw_4 19 rfl rfl)
theorem dX13_draw_114 : decode cX13_draw 114 = .ok (.ifCond .le 7, 3) := dk_158 0 7 (dk_at dksX13_draw_4 21 rfl rfl)
theorem dX13_draw_117 : decode cX13_draw 117 = .ok (.iconst 1, 1) := dk_4 (dk_at dksX13_draw_5 0 rfl rfl)
theorem dX13_draw_118 : decode cX13_draw 118 = .ok (.goto 4, 3) := dk_167 0 4 (dk_at dksX13_draw_5 1 rfl rfl)
theorem dX13_draw_121 : decode cX13_draw 121 = .ok (.iconst 0, 1) := dk_3 (dk_at dksX13_draw_5 4 rfl rfl)
theorem dX13_draw_122 : decode cX13_draw 122 = .ok (.istore 8, 2) := dk_54 8 (dk_at dksX13_draw_5 5 rfl rfl)
theorem dX13_draw_124 : decode cX13_draw 124 = .ok (.aload_n 0, 1) := dk_42 (dk_at dksX13_draw_5 7 rfl rfl)
theorem dX13_draw_125 : decode cX13_draw 125 = .ok (.getfield 53, 3) := dk_180 0 53 (dk_at dksX13_draw_5 8 rfl rfl)
theorem dX13_draw_128 : decode cX13_draw 128 = .ok (.sipush 144, 3) := dk_17 0 144 (dk_at dksX13_draw_5 11 rfl rfl)
theorem dX13_draw_131 : decode cX13_draw 131 = .ok (.iload 4, 2) := dk_21 4 (dk_at dksX13_draw_5 14 rfl rfl)
theorem dX13_draw_133 : decode cX13_draw 133 = .ok (.imul, 1) := dk_104 (dk_at dksX13_draw_5 16 rfl rfl)
theorem dX13_draw_134 : decode cX13_draw 134 = .ok (.iload 5, 2) := dk_21 5 (dk_at dksX13_draw_5 17 rfl rfl)
theorem dX13_draw_136 : decode cX13_draw 136 = .ok (.iadd, 1) := dk_96 (dk_at dksX13_draw_5 19 rfl rfl)
theorem dX13_draw_137 : decode cX13_draw 137 = .ok (.iload 8, 2) := dk_21 8 (dk_at dksX13_draw_5 20 rfl rfl)
theorem dX13_draw_139 : decode cX13_draw 139 = .ok (.bastore, 1) := dk_84 (dk_at dksX13_draw_5 22 rfl rfl)
theorem dX13_draw_140 : decode cX13_draw 140 = .ok (.iinc 5 1, 3) := dk_132 5 1 (dk_at dksX13_draw_6 0 rfl rfl)
theorem dX13_draw_143 : decode cX13_draw 143 = .ok (.goto (-98), 3) := dk_167 255 158 (dk_at dksX13_draw_6 3 rfl rfl)
theorem dX13_draw_146 : decode cX13_draw 146 = .ok (.iinc 4 1, 3) := dk_132 4 1 (dk_at dksX13_draw_6 6 rfl rfl)
theorem dX13_draw_149 : decode cX13_draw 149 = .ok (.goto (-118), 3) := dk_167 255 138 (dk_at dksX13_draw_6 9 rfl rfl)
theorem dX13_draw_152 : decode cX13_draw 152 = .ok (.aload_n 0, 1) := dk_42 (dk_at dksX13_draw_6 12 rfl rfl)
theorem dX13_draw_153 : decode cX13_draw 153 = .ok (.aload_n 0, 1) := dk_42 (dk_at dksX13_draw_6 13 rfl rfl)
theorem dX13_draw_154 : decode cX13_draw 154 = .ok (.getfield 137, 3) := dk_180 0 137 (dk_at dksX13_draw_6 14 rfl rfl)
theorem dX13_draw_157 : decode cX13_draw 157 = .ok (.iconst 1, 1) := dk_4 (dk_at dksX13_draw_6 17 rfl rfl)
theorem dX13_draw_158 : decode cX13_draw 158 = .ok (.isub, 1) := dk_100 (dk_at dksX13_draw_6 18 rfl rfl)
theorem dX13_draw_159 : decode cX13_draw 159 = .ok (.aload_n 0, 1) := dk_42 (dk_at dksX13_draw_6 19 rfl rfl)
theorem dX13_draw_160 : decode cX13_draw 160 = .ok (.getfield 140, 3) := dk_180 0 140 (dk_at dksX13_draw_6 20 rfl rfl)
theorem dX13_draw_163 : decode cX13_draw 163 = .ok (.iconst 1, 1) := dk_4 (dk_at dksX13_draw_6 23 rfl rfl)
theorem dX13_draw_164 : decode cX13_draw 164 = .ok (.isub, 1) := dk_100 (dk_at dksX13_draw_7 0 rfl rfl)
theorem dX13_draw_165 : decode cX13_draw 165 = .ok (.invokevirtual 161, 3) := dk_182 0 161 (dk_at dksX13_draw_7 1 rfl rfl)
theorem dX13_draw_168 : decode cX13_draw 168 = .ok (.ifCond .eq 95, 3) := dk_153 0 95 (dk_at dksX13_draw_7 4 rfl rfl)
theorem dX13_draw_171 : decode cX13_draw 171 = .ok (.aload_n 0, 1) := dk_42 (dk_at dksX13_draw_7 7 rfl rfl)
theorem dX13_draw_172 : decode cX13_draw 172 = .ok (.getfield 53, 3) := dk_180 0 53 (dk_at dksX13_draw_7 8 rfl rfl)
theorem dX13_draw_175 : decode cX13_draw 175 = .ok (.aload_n 0, 1) := dk_42 (dk_at dksX13_draw_7 11 rfl rfl)
theorem dX13_draw_176 : decode cX13_draw 176 = .ok (.iload_n 1, 1) := dk_27 (dk_at dksX13_draw_7 12 rfl rfl)
theorem dX13_draw_177 : decode cX13_draw 177 = .ok (.aload_n 0, 1) := dk_42 (dk_at dksX13_draw_7 13 rfl rfl)
theorem dX13_draw_178 : decode cX13_draw 178 = .ok (.getfield 137, 3) := dk_180 0 137 (dk_at dksX13_draw_7 14 rfl rfl)
theorem dX13_draw_181 : decode cX13_draw 181 = .ok (.iconst 1, 1) := dk_4 (dk_at dksX13_draw_7 17 rfl rfl)
theorem dX13_draw_182 : decode cX13_draw 182 = .ok (.isub, 1) := dk_100 (dk_at dksX13_draw_7 18 rfl rfl)
theorem dX13_draw_183 : decode cX13_draw 183 = .ok (.aload_n 0, 1) := dk_42 (dk_at dksX13_draw_7 19 rfl rfl)
theorem dX13_draw_184 : decode cX13_draw 184 = .ok (.getfield 140, 3) := dk_180 0 140 (dk_at dksX13_draw_7 20 rfl rfl)
theorem dX13_draw_187 : decode cX13_draw 187 = .ok (.iconst 1, 1) := dk_4 (dk_at dksX13_draw_7 23 rfl rfl)
theorem dX13_draw_188 : decode cX13_draw 188 = .ok (.isub, 1) := dk_100 (dk_at dksX13_draw_8 0 rfl rfl)
theorem dX13_draw_189 : decode cX13_draw 189 = .ok (.invokevirtual 146, 3) := dk_182 0 146 (dk_at dksX13_draw_8 1 rfl rfl)
theorem dX13_draw_192 : decode cX13_draw 192 = .ok (.iconst 1, 1) := dk_4 (dk_at dksX13_draw_8 4 rfl rfl)
theorem dX13_draw_193 : decode cX13_draw 193 = .ok (.bastore, 1) := dk_84 (dk_at dksX13_draw_8 5 rfl rfl)
theorem dX13_draw_194 : decode cX13_draw 194 = .ok (.aload_n 0, 1) := dk_42 (dk_at dksX13_draw_8 6 rfl rfl)
theorem dX13_draw_195 : decode cX13_draw 195 = .ok (.getfield 53, 3) := dk_180 0 53 (dk_at dksX13_draw_8 7 rfl rfl)
theorem dX13_draw_198 : decode cX13_draw 198 = .ok (.aload_n 0, 1) := dk_42 (dk_at dksX13_draw_8 10 rfl rfl)
theorem dX13_draw_199 : decode cX13_draw 199 = .ok (.iload_n 1, 1) := dk_27 (dk_at dksX13_draw_8 11 rfl rfl)
theorem dX13_draw_200 : decode cX13_draw 200 = .ok (.aload_n 0, 1) := dk_42 (dk_at dksX13_draw_8 12 rfl rfl)
theorem dX13_draw_201 : decode cX13_draw 201 = .ok (.getfield 137, 3) := dk_180 0 137 (dk_at dksX13_draw_8 13 rfl rfl)
theorem dX13_draw_204 : decode cX13_draw 204 = .ok (.iconst 2, 1) := dk_5 (dk_at dksX13_draw_8 16 rfl rfl)
theorem dX13_draw_205 : decode cX13_draw 205 = .ok (.isub, 1) := dk_100 (dk_at dksX13_draw_8 17 rfl rfl)
theorem dX13_draw_206 : decode cX13_draw 206 = .ok (.aload_n 0, 1) := dk_42 (dk_at dksX13_draw_8 18 rfl rfl)
theorem dX13_draw_207 : decode cX13_draw 207 = .ok (.getfield 140, 3) := dk_180 0 140 (dk_at dksX13_draw_8 19 rfl rfl)
theorem dX13_draw_210 : decode cX13_draw 210 = .ok (.iconst 2, 1) := dk_5 (dk_at dksX13_draw_8 22 rfl rfl)
theorem dX13_draw_211 : decode cX13_draw 211 = .ok (.isub, 1) := dk_100 (dk_at dksX13_draw_8 23 rfl rfl)
theorem dX13_draw_212 : decode cX13_draw 212 = .ok (.invokevirtual 146, 3) := dk_182 0 146 (dk_at dksX13_draw_9 0 rfl rfl)
theorem dX13_draw_215 : decode cX13_draw 215 = .ok (.iconst 1, 1) := dk_4 (dk_at dksX13_draw_9 3 rfl rfl)
theorem dX13_draw_216 : decode cX13_draw 216 = .ok (.bastore, 1) := dk_84 (dk_at dksX13_draw_9 4 rfl rfl)
theorem dX13_draw_217 : decode cX13_draw 217 = .ok (.aload_n 0, 1) := dk_42 (dk_at dksX13_draw_9 5 rfl rfl)
theorem dX13_draw_218 : decode cX13_draw 218 = .ok (.getfield 53, 3) := dk_180 0 53 (dk_at dksX13_draw_9 6 rfl rfl)
theorem dX13_draw_221 : decode cX13_draw 221 = .ok (.aload_n 0, 1) := dk_42 (dk_at dksX13_draw_9 9 rfl rfl)
theorem dX13_draw_222 : decode cX13_draw 222 = .ok (.iload_n 1, 1) := dk_27 (dk_at dksX13_draw_9 10 rfl rfl)
theorem dX13_draw_223 : decode cX13_draw 223 = .ok (.aload_n 0, 1) := dk_42 (dk_at dksX13_draw_9 11 rfl rfl)
theorem dX13_draw_224 : decode cX13_draw 224 = .ok (.getfield 137, 3) := dk_180 0 137 (dk_at dksX13_draw_9 12 rfl rfl)
theorem dX13_draw_227 : decode cX13_draw 227 = .ok (.iconst 1, 1) := dk_4 (dk_at dksX13_draw_9 15 rfl rfl)
theorem dX13_draw_228 : decode cX13_draw 228 = .ok (.isub, 1) := dk_100 (dk_at dksX13_draw_9 16 rfl rfl)
theorem dX13_draw_229 : decode cX13_draw 229 = .ok (.aload_n 0, 1) := dk_42 (dk_at dksX13_draw_9 17 rfl rfl)
theorem dX13_draw_230 : decode cX13_draw 230 = .ok (.getfield 140, 3) := dk_180 0 140 (dk_at dksX13_draw_9 18 rfl rfl)
theorem dX13_draw_233 : decode cX13_draw 233 = .ok (.iconst 2, 1) := dk_5 (dk_at dksX13_draw_9 21 rfl rfl)
theorem dX13_draw_234 : decode cX13_draw 234 = .ok (.isub, 1) := dk_100 (dk_at dksX13_draw_9 22 rfl rfl)
theorem dX13_draw_235 : decode cX13_draw 235 = .ok (.invokevirtual 146, 3) := dk_182 0 146 (dk_at dksX13_draw_10 0 rfl rfl)
theorem dX13_draw_238 : decode cX13_draw 238 = .ok (.iconst 0, 1) := dk_3 (dk_at dksX13_draw_10 3 rfl rfl)
theorem dX13_draw_239 : decode cX13_draw 239 = .ok (.bastore, 1) := dk_84 (dk_at dksX13_draw_10 4 rfl rfl)
theorem dX13_draw_240 : decode cX13_draw 240 = .ok (.aload_n 0, 1) := dk_42 (dk_at dksX13_draw_10 5 rfl rfl)
theorem dX13_draw_241 : decode cX13_draw 241 = .ok (.getfield 53, 3) := dk_180 0 53 (dk_at dksX13_draw_10 6 rfl rfl)
theorem dX13_draw_244 : decode cX13_draw 244 = .ok (.aload_n 0, 1) := dk_42 (dk_at dksX13_draw_10 9 rfl rfl)
theorem dX13_draw_245 : decode cX13_draw 245 = .ok (.iload_n 1, 1) := dk_27 (dk_at dksX13_draw_10 10 rfl rfl)
theorem dX13_draw_246 : decode cX13_draw 246 = .ok (.aload_n 0, 1) := dk_42 (dk_at dksX13_draw_10 11 rfl rfl)
theorem dX13_draw_247 : decode cX13_draw 247 = .ok (.getfield 137, 3) := dk_180 0 137 (dk_at dksX13_draw_10 12 rfl rfl)
theorem dX13_draw_250 : decode cX13_draw 250 = .ok (.iconst 2, 1) := dk_5 (dk_at dksX13_draw_10 15 rfl rfl)
theorem dX13_draw_251 : decode cX13_draw 251 = .ok (.isub, 1) := dk_100 (dk_at dksX13_draw_10 16 rfl rfl)
theorem dX13_draw_252 : decode cX13_draw 252 = .ok (.aload_n 0, 1) := dk_42 (dk_at dksX13_draw_10 17 rfl rfl)
theorem dX13_draw_253 : decode cX13_draw 253 = .ok (.getfield 140, 3) := dk_180 0 140 (dk_at dksX13_draw_10 18 rfl rfl)
theorem dX13_draw_256 : decode cX13_draw 256 = .ok (.iconst 1, 1) := dk_4 (dk_at dksX13_draw_10 21 rfl rfl)
theorem dX13_draw_257 : decode cX13_draw 257 = .ok (.isub, 1) := dk_100 (dk_at dksX13_draw_10 22 rfl rfl)
theorem dX13_draw_258 : decode cX13_draw 258 = .ok (.invokevirtual 146, 3) := dk_182 0 146 (dk_at dksX13_draw_11 0 rfl rfl)
theorem dX13_draw_261 : decode cX13_draw 261 = .ok (.iconst 0, 1) := dk_3 (dk_at dksX13_draw_11 3 rfl rfl)
theorem dX13_draw_262 : decode cX13_draw 262 = .ok (.bastore, 1) := dk_84 (dk_at dksX13_draw_11 4 rfl rfl)
theorem dX13_draw_263 : decode cX13_draw 263 = .ok (.return_, 1) := dk_177 (dk_at dksX13_draw_11 5 rfl rfl)
abbrev cX13_step : ByteArray := prog_16_method_88_code
def yX13_step : MethodName := ⟨RX13, "step", "(II)I"⟩
def dkwX13_step_3 : List UInt8 := [42, 180, 0, 108, 27, 46, 167, 0, 9, 42, 180, 0, 111, 27, 46, 172]
abbrev dktX13_step_3 : List UInt8 := dkwX13_step_3 ++ []
def dkwX13_step_2 : List UInt8 := [27, 46, 167, 0, 37, 28, 4, 160, 0, 12, 42, 180, 0, 105, 27, 46, 167, 0, 23, 28, 5, 160, 0, 12]
abbrev dktX13_step_2 : List UInt8 := dkwX13_step_2 ++ dktX13_step_3
def dkwX13_step_1 : List UInt8 := [167, 0, 4, 4, 181, 0, 1, 42, 180, 0, 1, 158, 0, 5, 3, 172, 28, 154, 0, 12, 42, 180, 0, 102]
abbrev dktX13_step_1 : List UInt8 := dkwX13_step_1 ++ dktX13_step_2
def dkwX13_step_0 : List UInt8 := [42, 27, 155, 0, 24, 27, 42, 180, 1, 113, 162, 0, 16, 28, 155, 0, 12, 28, 7, 162, 0, 7, 3]
abbrev dktX13_step_0 : List UInt8 := dkwX13_step_0 ++ dktX13_step_1
theorem dksX13_step_0 : cX13_step.data.toList.drop 0 = dktX13_step_0 := by decide +kernel
theorem dksX13_step_1 : cX13_step.data.toList.drop 23 = dktX13_step_1 := dk_seg dksX13_step_0 23 rfl rfl
theorem dksX13_step_2 : cX13_step.data.toList.drop 47 = dktX13_step_2 := dk_seg dksX13_step_1 24 rfl rfl
theorem dksX13_step_3 : cX13_step.data.toList.drop 71 = dktX13_step_3 := dk_seg dksX13_step_2 24 rfl rfl
theorem dX13_step_0 : decode cX13_step 0 = .ok (.aload_n 0, 1) := dk_42 (dk_at dksX13_step_0 0 rfl rfl)
theorem dX13_step_1 : decode cX13_step 1 = .ok (.iload_n 1, 1) := dk_27 (dk_at dksX13_step_0 1 rfl rfl)
theorem dX13_step_2 : decode cX13_step 2 = .ok (.ifCond .lt 24, 3) := dk_155 0 24 (dk_at dksX13_step_0 2 rfl rfl)
theorem dX13_step_5 : decode cX13_step 5 = .ok (.iload_n 1, 1) := dk_27 (dk_at dksX13_step_0 5 rfl rfl)
theorem dX13_step_6 : decode cX13_step 6 = .ok (.aload_n 0, 1) := dk_42 (dk_at dksX13_step_0 6 rfl rfl)
theorem dX13_step_7 : decode cX13_step 7 = .ok (.getfield 369, 3) := dk_180 1 113 (dk_at dksX13_step_0 7 rfl rfl)
theorem dX13_step_10 : decode cX13_step 10 = .ok (.if_icmp .ge 16, 3) := dk_162 0 16 (dk_at dksX13_step_0 10 rfl rfl)
theorem dX13_step_13 : decode cX13_step 13 = .ok (.iload_n 2, 1) := dk_28 (dk_at dksX13_step_0 13 rfl rfl)
theorem dX13_step_14 : decode cX13_step 14 = .ok (.ifCond .lt 12, 3) := dk_155 0 12 (dk_at dksX13_step_0 14 rfl rfl)
theorem dX13_step_17 : decode cX13_step 17 = .ok (.iload_n 2, 1) := dk_28 (dk_at dksX13_step_0 17 rfl rfl)
theorem dX13_step_18 : decode cX13_step 18 = .ok (.iconst 4, 1) := dk_7 (dk_at dksX13_step_0 18 rfl rfl)
theorem dX13_step_19 : decode cX13_step 19 = .ok (.if_icmp .ge 7, 3) := dk_162 0 7 (dk_at dksX13_step_0 19 rfl rfl)
theorem dX13_step_22 : decode cX13_step 22 = .ok (.iconst 0, 1) := dk_3 (dk_at dksX13_step_0 22 rfl rfl)
theorem dX13_step_23 : decode cX13_step 23 = .ok (.goto 4, 3) := dk_167 0 4 (dk_at dksX13_step_1 0 rfl rfl)
theorem dX13_step_26 : decode cX13_step 26 = .ok (.iconst 1, 1) := dk_4 (dk_at dksX13_step_1 3 rfl rfl)
theorem dX13_step_27 : decode cX13_step 27 = .ok (.putfield 1, 3) := dk_181 0 1 (dk_at dksX13_step_1 4 rfl rfl)
theorem dX13_step_30 : decode cX13_step 30 = .ok (.aload_n 0, 1) := dk_42 (dk_at dksX13_step_1 7 rfl rfl)
theorem dX13_step_31 : decode cX13_step 31 = .ok (.getfield 1, 3) := dk_180 0 1 (dk_at dksX13_step_1 8 rfl rfl)
theorem dX13_step_34 : decode cX13_step 34 = .ok (.ifCond .le 5, 3) := dk_158 0 5 (dk_at dksX13_step_1 11 rfl rfl)
theorem dX13_step_37 : decode cX13_step 37 = .ok (.iconst 0, 1) := dk_3 (dk_at dksX13_step_1 14 rfl rfl)
theorem dX13_step_38 : decode cX13_step 38 = .ok (.ireturn, 1) := dk_172 (dk_at dksX13_step_1 15 rfl rfl)
theorem dX13_step_39 : decode cX13_step 39 = .ok (.iload_n 2, 1) := dk_28 (dk_at dksX13_step_1 16 rfl rfl)
theorem dX13_step_40 : decode cX13_step 40 = .ok (.ifCond .ne 12, 3) := dk_154 0 12 (dk_at dksX13_step_1 17 rfl rfl)
theorem dX13_step_43 : decode cX13_step 43 = .ok (.aload_n 0, 1) := dk_42 (dk_at dksX13_step_1 20 rfl rfl)
theorem dX13_step_44 : decode cX13_step 44 = .ok (.getfield 102, 3) := dk_180 0 102 (dk_at dksX13_step_1 21 rfl rfl)
theorem dX13_step_47 : decode cX13_step 47 = .ok (.iload_n 1, 1) := dk_27 (dk_at dksX13_step_2 0 rfl rfl)
theorem dX13_step_48 : decode cX13_step 48 = .ok (.iaload, 1) := dk_46 (dk_at dksX13_step_2 1 rfl rfl)
theorem dX13_step_49 : decode cX13_step 49 = .ok (.goto 37, 3) := dk_167 0 37 (dk_at dksX13_step_2 2 rfl rfl)
theorem dX13_step_52 : decode cX13_step 52 = .ok (.iload_n 2, 1) := dk_28 (dk_at dksX13_step_2 5 rfl rfl)
theorem dX13_step_53 : decode cX13_step 53 = .ok (.iconst 1, 1) := dk_4 (dk_at dksX13_step_2 6 rfl rfl)
theorem dX13_step_54 : decode cX13_step 54 = .ok (.if_icmp .ne 12, 3) := dk_160 0 12 (dk_at dksX13_step_2 7 rfl rfl)
theorem dX13_step_57 : decode cX13_step 57 = .ok (.aload_n 0, 1) := dk_42 (dk_at dksX13_step_2 10 rfl rfl)
theorem dX13_step_58 : decode cX13_step 58 = .ok (.getfield 105, 3) := dk_180 0 105 (dk_at dksX13_step_2 11 rfl rfl)
theorem dX13_step_61 : decode cX13_step 61 = .ok (.iload_n 1, 1) := dk_27 (dk_at dksX13_step_2 14 rfl rfl)
theorem dX13_step_62 : decode cX13_step 62 = .ok (.iaload, 1) := dk_46 (dk_at dksX13_step_2 15 rfl rfl)
theorem dX13_step_63 : decode cX13_step 63 = .ok (.goto 23, 3) := dk_167 0 23 (dk_at dksX13_step_2 16 rfl rfl)
theorem dX13_step_66 : decode cX13_step 66 = .ok (.iload_n 2, 1) := dk_28 (dk_at dksX13_step_2 19 rfl rfl)
theorem dX13_step_67 : decode cX13_step 67 = .ok (.iconst 2, 1) := dk_5 (dk_at dksX13_step_2 20 rfl rfl)
theorem dX13_step_68 : decode cX13_step 68 = .ok (.if_icmp .ne 12, 3) := dk_160 0 12 (dk_at dksX13_step_2 21 rfl rfl)
theorem dX13_step_71 : decode cX13_step 71 = .ok (.aload_n 0, 1) := dk_42 (dk_at dksX13_step_3 0 rfl rfl)
theorem dX13_step_72 : decode cX13_step 72 = .ok (.getfield 108, 3) := dk_180 0 108 (dk_at dksX13_step_3 1 rfl rfl)
theorem dX13_step_75 : decode cX13_step 75 = .ok (.iload_n 1, 1) := dk_27 (dk_at dksX13_step_3 4 rfl rfl)
theorem dX13_step_76 : decode cX13_step 76 = .ok (.iaload, 1) := dk_46 (dk_at dksX13_step_3 5 rfl rfl)
theorem dX13_step_77 : decode cX13_step 77 = .ok (.goto 9, 3) := dk_167 0 9 (dk_at dksX13_step_3 6 rfl rfl)
theorem dX13_step_80 : decode cX13_step 80 = .ok (.aload_n 0, 1) := dk_42 (dk_at dksX13_step_3 9 rfl rfl)
theorem dX13_step_81 : decode cX13_step 81 = .ok (.getfield 111, 3) := dk_180 0 111 (dk_at dksX13_step_3 10 rfl rfl)
theorem dX13_step_84 : decode cX13_step 84 = .ok (.iload_n 1, 1) := dk_27 (dk_at dksX13_step_3 13 rfl rfl)
theorem dX13_step_85 : decode cX13_step 85 = .ok (.iaload, 1) := dk_46 (dk_at dksX13_step_3 14 rfl rfl)
theorem dX13_step_86 : decode cX13_step 86 = .ok (.ireturn, 1) := dk_172 (dk_at dksX13_step_3 15 rfl rfl)
abbrev cX13_about : ByteArray := prog_16_method_89_code
def yX13_about : MethodName := ⟨RX13, "about", "(I)I"⟩
def dkwX13_about_3 : List UInt8 := [172, 42, 180, 1, 26, 172, 42, 180, 1, 38, 172, 3, 172]
abbrev dktX13_about_3 : List UInt8 := dkwX13_about_3 ++ []
def dkwX13_about_2 : List UInt8 := [42, 180, 0, 50, 172, 42, 180, 1, 162, 172, 42, 180, 1, 113, 172, 42, 180, 1, 168, 172, 42, 180, 0, 131]
abbrev dktX13_about_2 : List UInt8 := dkwX13_about_2 ++ dktX13_about_3
def dkwX13_about_1 : List UInt8 := [170, 0, 0, 0, 0, 77, 0, 0, 0, 0, 0, 0, 0, 6, 0, 0, 0, 42, 0, 0, 0, 47, 0, 0, 0, 52, 0, 0, 0, 57, 0, 0, 0, 62, 0, 0, 0, 67, 0, 0, 0, 72]
abbrev dktX13_about_1 : List UInt8 := dkwX13_about_1 ++ dktX13_about_2
def dkwX13_about_0 : List UInt8 := [42, 3, 181, 0, 1, 27]
abbrev dktX13_about_0 : List UInt8 := dkwX13_about_0 ++ dktX13_about_1
theorem dksX13_about_0 : cX13_about.data.toList.drop 0 = dktX13_about_0 := by decide +kernel
theorem dksX13_about_1 : cX13_about.data.toList.drop 6 = dktX13_about_1 := dk_seg dksX13_about_0 6 rfl rfl
theorem dksX13_about_2 : cX13_about.data.toList.drop 48 = dktX13_about_2 := dk_seg dksX13_about_1 42 rfl rfl
theorem dksX13_about_3 : cX13_about.data.toList.drop 72 = dktX13_about_3 := dk_seg dksX13_about_2 24 rfl rfl
theorem dX13_about_0 : decode cX13_about 0 = .ok (.aload_n 0, 1) := dk_42 (dk_at dksX13_about_0 0 rfl rfl)
theorem dX13_about_1 : decode cX13_about 1 = .ok (.iconst 0, 1) := dk_3 (dk_at dksX13_about_0 1 rfl rfl)
theorem dX13_about_2 : decode cX13_about 2 = .ok (.putfield 1, 3) := dk_181 0 1 (dk_at dksX13_about_0 2 rfl rfl)
theorem dX13_about_5 : decode cX13_about 5 = .ok (.iload_n 1, 1) := dk_27 (dk_at dksX13_about_0 5 rfl rfl)
theorem dX13_about_6 : decode cX13_about 6 = .ok (.tableswitch 77 0 6 #[42, 47, 52, 57, 62, 67, 72], 42) := by decide +kernel
theorem dX13_about_48 : decode cX13_about 48 = .ok (.aload_n 0, 1) := dk_42 (dk_at dksX13_about_2 0 rfl rfl)
theorem dX13_about_49 : decode cX13_about 49 = .ok (.getfield 50, 3) := dk_180 0 50 (dk_at dksX13_about_2 1 rfl rfl)
theorem dX13_about_52 : decode cX13_about 52 = .ok (.ireturn, 1) := dk_172 (dk_at dksX13_about_2 4 rfl rfl)
theorem dX13_about_53 : decode cX13_about 53 = .ok (.aload_n 0, 1) := dk_42 (dk_at dksX13_about_2 5 rfl rfl)
theorem dX13_about_54 : decode cX13_about 54 = .ok (.getfield 418, 3) := dk_180 1 162 (dk_at dksX13_about_2 6 rfl rfl)
theorem dX13_about_57 : decode cX13_about 57 = .ok (.ireturn, 1) := dk_172 (dk_at dksX13_about_2 9 rfl rfl)
theorem dX13_about_58 : decode cX13_about 58 = .ok (.aload_n 0, 1) := dk_42 (dk_at dksX13_about_2 10 rfl rfl)
theorem dX13_about_59 : decode cX13_about 59 = .ok (.getfield 369, 3) := dk_180 1 113 (dk_at dksX13_about_2 11 rfl rfl)
theorem dX13_about_62 : decode cX13_about 62 = .ok (.ireturn, 1) := dk_172 (dk_at dksX13_about_2 14 rfl rfl)
theorem dX13_about_63 : decode cX13_about 63 = .ok (.aload_n 0, 1) := dk_42 (dk_at dksX13_about_2 15 rfl rfl)
theorem dX13_about_64 : decode cX13_about 64 = .ok (.getfield 424, 3) := dk_180 1 168 (dk_at dksX13_about_2 16 rfl rfl)
theorem dX13_about_67 : decode cX13_about 67 = .ok (.ireturn, 1) := dk_172 (dk_at dksX13_about_2 19 rfl rfl)
theorem dX13_about_68 : decode cX13_about 68 = .ok (.aload_n 0, 1) := dk_42 (dk_at dksX13_about_2 20 rfl rfl)
theorem dX13_about_69 : decode cX13_about 69 = .ok (.getfield 131, 3) := dk_180 0 131 (dk_at dksX13_about_2 21 rfl rfl)
theorem dX13_about_72 : decode cX13_about 72 = .ok (.ireturn, 1) := dk_172 (dk_at dksX13_about_3 0 rfl rfl)
theorem dX13_about_73 : decode cX13_about 73 = .ok (.aload_n 0, 1) := dk_42 (dk_at dksX13_about_3 1 rfl rfl)
theorem dX13_about_74 : decode cX13_about 74 = .ok (.getfield 282, 3) := dk_180 1 26 (dk_at dksX13_about_3 2 rfl rfl)
theorem dX13_about_77 : decode cX13_about 77 = .ok (.ireturn, 1) := dk_172 (dk_at dksX13_about_3 5 rfl rfl)
theorem dX13_about_78 : decode cX13_about 78 = .ok (.aload_n 0, 1) := dk_42 (dk_at dksX13_about_3 6 rfl rfl)
theorem dX13_about_79 : decode cX13_about 79 = .ok (.getfield 294, 3) := dk_180 1 38 (dk_at dksX13_about_3 7 rfl rfl)
theorem dX13_about_82 : decode cX13_about 82 = .ok (.ireturn, 1) := dk_172 (dk_at dksX13_about_3 10 rfl rfl)
theorem dX13_about_83 : decode cX13_about 83 = .ok (.iconst 0, 1) := dk_3 (dk_at dksX13_about_3 11 rfl rfl)
theorem dX13_about_84 : decode cX13_about 84 = .ok (.ireturn, 1) := dk_172 (dk_at dksX13_about_3 12 rfl rfl)
theorem q127 : (Jvm.Cond.initialized "MatrixPressModel") ∈ lw_all := lw_g (lw_at lw_m1 20 rfl) rfl
theorem q414 : (Jvm.Cond.selects "MatrixPressModel" ({ cls := "java/lang/Object", name := "getClass", desc := "()Ljava/lang/Class;" } : Jvm.MethodName) ({ cls := "java/lang/Object", name := "getClass", desc := "()Ljava/lang/Class;" } : Jvm.MethodName)) ∈ lw_all := lw_g (lw_at lw_m2 67 rfl) rfl
theorem q1191 : (Jvm.Cond.instanceMethod ({ cls := "MatrixPressModel", name := "thrown", desc := "()I" } : Jvm.MethodName)) ∈ lw_all := lw_g (lw_at lw_m5 124 rfl) rfl
theorem q1192 : (Jvm.Cond.selects "MatrixPressModel" ({ cls := "MatrixPressModel", name := "thrown", desc := "()I" } : Jvm.MethodName) ({ cls := "MatrixPressModel", name := "thrown", desc := "()I" } : Jvm.MethodName)) ∈ lw_all := lw_g (lw_at lw_m5 125 rfl) rfl
theorem q1193 : (Jvm.Cond.code ({ cls := "MatrixPressModel", name := "thrown", desc := "()I" } : Jvm.MethodName) prog_16_method_1_code (1 : Nat) (Option.some Jvm.ClassFile.FieldType.int)) ∈ lw_all := lw_g (lw_at lw_m5 126 rfl) rfl
theorem q1195 : (Jvm.Cond.instantiable "MatrixPressModel" (61 : Nat)) ∈ lw_all := lw_g (lw_at lw_m5 128 rfl) rfl
theorem q1197 : (Jvm.Cond.instanceMethod ({ cls := "MatrixPressModel", name := "<init>", desc := "()V" } : Jvm.MethodName)) ∈ lw_all := lw_g (lw_at lw_m5 130 rfl) rfl
theorem q1198 : (Jvm.Cond.code ({ cls := "MatrixPressModel", name := "<init>", desc := "()V" } : Jvm.MethodName) prog_16_method_3_code (3 : Nat) (Option.none : Option Jvm.ClassFile.FieldType)) ∈ lw_all := lw_g (lw_at lw_m5 131 rfl) rfl
theorem q1199 : (Jvm.Cond.methodLink "MatrixPressModel" (7 : Nat) ({ cls := "java/lang/Object", name := "<init>", desc := "()V" } : Jvm.MethodName)) ∈ lw_all := lw_g (lw_at lw_m5 132 rfl) rfl
theorem q1200 : (Jvm.Cond.fieldLink "MatrixPressModel" (1 : Nat) "MatrixPressModel" "thrown" "I") ∈ lw_all := lw_g (lw_at lw_m5 133 rfl) rfl
theorem q1201 : (Jvm.Cond.fieldLink "MatrixPressModel" (13 : Nat) "MatrixPressModel" "rows" "[I") ∈ lw_all := lw_g (lw_at lw_m5 134 rfl) rfl
theorem q1202 : (Jvm.Cond.fieldLink "MatrixPressModel" (17 : Nat) "MatrixPressModel" "columns" "[I") ∈ lw_all := lw_g (lw_at lw_m5 135 rfl) rfl
theorem q1203 : (Jvm.Cond.fieldLink "MatrixPressModel" (20 : Nat) "MatrixPressModel" "checks" "[I") ∈ lw_all := lw_g (lw_at lw_m5 136 rfl) rfl
theorem q1204 : (Jvm.Cond.fieldLink "MatrixPressModel" (23 : Nat) "MatrixPressModel" "blocks" "[I") ∈ lw_all := lw_g (lw_at lw_m5 137 rfl) rfl
theorem q1205 : (Jvm.Cond.fieldLink "MatrixPressModel" (26 : Nat) "MatrixPressModel" "below" "[I") ∈ lw_all := lw_g (lw_at lw_m5 138 rfl) rfl
theorem q1206 : (Jvm.Cond.fieldLink "MatrixPressModel" (29 : Nat) "MatrixPressModel" "beside" "[I") ∈ lw_all := lw_g (lw_at lw_m5 139 rfl) rfl
theorem q1207 : (Jvm.Cond.fieldLink "MatrixPressModel" (32 : Nat) "MatrixPressModel" "power" "[I") ∈ lw_all := lw_g (lw_at lw_m5 140 rfl) rfl
theorem q1208 : (Jvm.Cond.fieldLink "MatrixPressModel" (35 : Nat) "MatrixPressModel" "degree" "[I") ∈ lw_all := lw_g (lw_at lw_m5 141 rfl) rfl
theorem q1209 : (Jvm.Cond.fieldLink "MatrixPressModel" (38 : Nat) "MatrixPressModel" "tape" "[I") ∈ lw_all := lw_g (lw_at lw_m5 142 rfl) rfl
theorem q1210 : (Jvm.Cond.fieldLink "MatrixPressModel" (131 : Nat) "MatrixPressModel" "taped" "I") ∈ lw_all := lw_g (lw_at lw_m5 143 rfl) rfl
theorem q1211 : (Jvm.Cond.fieldLink "MatrixPressModel" (134 : Nat) "MatrixPressModel" "many" "I") ∈ lw_all := lw_g (lw_at lw_m5 144 rfl) rfl
theorem q1212 : (Jvm.Cond.fieldLink "MatrixPressModel" (41 : Nat) "MatrixPressModel" "mapped" "I") ∈ lw_all := lw_g (lw_at lw_m5 145 rfl) rfl
theorem q1213 : (Jvm.Cond.fieldLink "MatrixPressModel" (44 : Nat) "MatrixPressModel" "plane" "[I") ∈ lw_all := lw_g (lw_at lw_m5 146 rfl) rfl
theorem q1214 : (Jvm.Cond.fieldLink "MatrixPressModel" (47 : Nat) "MatrixPressModel" "moduleOf" "[I") ∈ lw_all := lw_g (lw_at lw_m5 147 rfl) rfl
theorem q1215 : (Jvm.Cond.fieldLink "MatrixPressModel" (137 : Nat) "MatrixPressModel" "planeR" "I") ∈ lw_all := lw_g (lw_at lw_m5 148 rfl) rfl
theorem q1216 : (Jvm.Cond.fieldLink "MatrixPressModel" (140 : Nat) "MatrixPressModel" "planeC" "I") ∈ lw_all := lw_g (lw_at lw_m5 149 rfl) rfl
theorem q1217 : (Jvm.Cond.fieldLink "MatrixPressModel" (143 : Nat) "MatrixPressModel" "placed" "I") ∈ lw_all := lw_g (lw_at lw_m5 150 rfl) rfl
theorem q1218 : (Jvm.Cond.fieldLink "MatrixPressModel" (50 : Nat) "MatrixPressModel" "present" "I") ∈ lw_all := lw_g (lw_at lw_m5 151 rfl) rfl
theorem q1219 : (Jvm.Cond.fieldLink "MatrixPressModel" (53 : Nat) "MatrixPressModel" "dark" "[Z") ∈ lw_all := lw_g (lw_at lw_m5 152 rfl) rfl
theorem q1220 : (Jvm.Cond.fieldLink "MatrixPressModel" (57 : Nat) "MatrixPressModel" "words" "[I") ∈ lw_all := lw_g (lw_at lw_m5 153 rfl) rfl
theorem q1221 : (Jvm.Cond.fieldLink "MatrixPressModel" (60 : Nat) "MatrixPressModel" "divisor" "[I") ∈ lw_all := lw_g (lw_at lw_m5 154 rfl) rfl
theorem q1222 : (Jvm.Cond.fieldLink "MatrixPressModel" (63 : Nat) "MatrixPressModel" "rest" "[I") ∈ lw_all := lw_g (lw_at lw_m5 155 rfl) rfl
theorem q1223 : (Jvm.Cond.fieldLink "MatrixPressModel" (66 : Nat) "MatrixPressModel" "sums" "[I") ∈ lw_all := lw_g (lw_at lw_m5 156 rfl) rfl
theorem q1224 : (Jvm.Cond.fieldLink "MatrixPressModel" (69 : Nat) "MatrixPressModel" "block" "[I") ∈ lw_all := lw_g (lw_at lw_m5 157 rfl) rfl
theorem q1225 : (Jvm.Cond.fieldLink "MatrixPressModel" (208 : Nat) "MatrixPressModel" "blockSize" "I") ∈ lw_all := lw_g (lw_at lw_m5 158 rfl) rfl
theorem q1226 : (Jvm.Cond.fieldLink "MatrixPressModel" (72 : Nat) "MatrixPressModel" "matrix" "[I") ∈ lw_all := lw_g (lw_at lw_m5 159 rfl) rfl
theorem q1227 : (Jvm.Cond.fieldLink "MatrixPressModel" (75 : Nat) "MatrixPressModel" "wrong" "[I") ∈ lw_all := lw_g (lw_at lw_m5 160 rfl) rfl
theorem q1228 : (Jvm.Cond.fieldLink "MatrixPressModel" (78 : Nat) "MatrixPressModel" "answer" "[I") ∈ lw_all := lw_g (lw_at lw_m5 161 rfl) rfl
theorem q1229 : (Jvm.Cond.fieldLink "MatrixPressModel" (225 : Nat) "MatrixPressModel" "changed" "I") ∈ lw_all := lw_g (lw_at lw_m5 162 rfl) rfl
theorem q1230 : (Jvm.Cond.fieldLink "MatrixPressModel" (81 : Nat) "MatrixPressModel" "bytes" "[I") ∈ lw_all := lw_g (lw_at lw_m5 163 rfl) rfl
theorem q1231 : (Jvm.Cond.fieldLink "MatrixPressModel" (231 : Nat) "MatrixPressModel" "told" "I") ∈ lw_all := lw_g (lw_at lw_m5 164 rfl) rfl
theorem q1232 : (Jvm.Cond.fieldLink "MatrixPressModel" (84 : Nat) "MatrixPressModel" "latest" "[I") ∈ lw_all := lw_g (lw_at lw_m5 165 rfl) rfl
theorem q1233 : (Jvm.Cond.fieldLink "MatrixPressModel" (282 : Nat) "MatrixPressModel" "latestMany" "I") ∈ lw_all := lw_g (lw_at lw_m5 166 rfl) rfl
theorem q1234 : (Jvm.Cond.fieldLink "MatrixPressModel" (234 : Nat) "MatrixPressModel" "next" "I") ∈ lw_all := lw_g (lw_at lw_m5 167 rfl) rfl
theorem q1235 : (Jvm.Cond.fieldLink "MatrixPressModel" (237 : Nat) "MatrixPressModel" "all" "I") ∈ lw_all := lw_g (lw_at lw_m5 168 rfl) rfl
theorem q1236 : (Jvm.Cond.fieldLink "MatrixPressModel" (240 : Nat) "MatrixPressModel" "good" "Z") ∈ lw_all := lw_g (lw_at lw_m5 169 rfl) rfl
theorem q1237 : (Jvm.Cond.fieldLink "MatrixPressModel" (262 : Nat) "MatrixPressModel" "shift" "I") ∈ lw_all := lw_g (lw_at lw_m5 170 rfl) rfl
theorem q1238 : (Jvm.Cond.fieldLink "MatrixPressModel" (265 : Nat) "MatrixPressModel" "high" "Z") ∈ lw_all := lw_g (lw_at lw_m5 171 rfl) rfl
theorem q1239 : (Jvm.Cond.fieldLink "MatrixPressModel" (272 : Nat) "MatrixPressModel" "shiftAt" "I") ∈ lw_all := lw_g (lw_at lw_m5 172 rfl) rfl
theorem q1240 : (Jvm.Cond.fieldLink "MatrixPressModel" (294 : Nat) "MatrixPressModel" "decodeChanged" "I") ∈ lw_all := lw_g (lw_at lw_m5 173 rfl) rfl
theorem q1241 : (Jvm.Cond.fieldLink "MatrixPressModel" (87 : Nat) "MatrixPressModel" "low" "[I") ∈ lw_all := lw_g (lw_at lw_m5 174 rfl) rfl
theorem q1242 : (Jvm.Cond.fieldLink "MatrixPressModel" (90 : Nat) "MatrixPressModel" "mask" "[I") ∈ lw_all := lw_g (lw_at lw_m5 175 rfl) rfl
theorem q1243 : (Jvm.Cond.fieldLink "MatrixPressModel" (93 : Nat) "MatrixPressModel" "runLow" "[I") ∈ lw_all := lw_g (lw_at lw_m5 176 rfl) rfl
theorem q1244 : (Jvm.Cond.fieldLink "MatrixPressModel" (96 : Nat) "MatrixPressModel" "runMask" "[I") ∈ lw_all := lw_g (lw_at lw_m5 177 rfl) rfl
theorem q1245 : (Jvm.Cond.fieldLink "MatrixPressModel" (298 : Nat) "MatrixPressModel" "sumLow" "I") ∈ lw_all := lw_g (lw_at lw_m5 178 rfl) rfl
theorem q1246 : (Jvm.Cond.fieldLink "MatrixPressModel" (301 : Nat) "MatrixPressModel" "sumMask" "I") ∈ lw_all := lw_g (lw_at lw_m5 179 rfl) rfl
theorem q1247 : (Jvm.Cond.fieldLink "MatrixPressModel" (317 : Nat) "MatrixPressModel" "pads" "I") ∈ lw_all := lw_g (lw_at lw_m5 180 rfl) rfl
theorem q1248 : (Jvm.Cond.fieldLink "MatrixPressModel" (320 : Nat) "MatrixPressModel" "closed" "Z") ∈ lw_all := lw_g (lw_at lw_m5 181 rfl) rfl
theorem q1249 : (Jvm.Cond.fieldLink "MatrixPressModel" (305 : Nat) "MatrixPressModel" "pass" "I") ∈ lw_all := lw_g (lw_at lw_m5 182 rfl) rfl
theorem q1250 : (Jvm.Cond.fieldLink "MatrixPressModel" (99 : Nat) "MatrixPressModel" "values" "[I") ∈ lw_all := lw_g (lw_at lw_m5 183 rfl) rfl
theorem q1251 : (Jvm.Cond.fieldLink "MatrixPressModel" (418 : Nat) "MatrixPressModel" "length" "I") ∈ lw_all := lw_g (lw_at lw_m5 184 rfl) rfl
theorem q1252 : (Jvm.Cond.fieldLink "MatrixPressModel" (424 : Nat) "MatrixPressModel" "isClosed" "I") ∈ lw_all := lw_g (lw_at lw_m5 185 rfl) rfl
theorem q1253 : (Jvm.Cond.fieldLink "MatrixPressModel" (369 : Nat) "MatrixPressModel" "steps" "I") ∈ lw_all := lw_g (lw_at lw_m5 186 rfl) rfl
theorem q1254 : (Jvm.Cond.fieldLink "MatrixPressModel" (102 : Nat) "MatrixPressModel" "stepSort" "[I") ∈ lw_all := lw_g (lw_at lw_m5 187 rfl) rfl
theorem q1255 : (Jvm.Cond.fieldLink "MatrixPressModel" (105 : Nat) "MatrixPressModel" "stepFirst" "[I") ∈ lw_all := lw_g (lw_at lw_m5 188 rfl) rfl
theorem q1256 : (Jvm.Cond.fieldLink "MatrixPressModel" (108 : Nat) "MatrixPressModel" "stepBytes" "[I") ∈ lw_all := lw_g (lw_at lw_m5 189 rfl) rfl
theorem q1257 : (Jvm.Cond.fieldLink "MatrixPressModel" (111 : Nat) "MatrixPressModel" "stepWords" "[I") ∈ lw_all := lw_g (lw_at lw_m5 190 rfl) rfl
theorem q1258 : (Jvm.Cond.fieldLink "MatrixPressModel" (366 : Nat) "MatrixPressModel" "ends" "Z") ∈ lw_all := lw_g (lw_at lw_m5 191 rfl) rfl
theorem q1259 : (Jvm.Cond.fieldLink "MatrixPressModel" (363 : Nat) "MatrixPressModel" "at" "I") ∈ lw_all := lw_g (lw_at lw_m5 192 rfl) rfl
theorem q1260 : (Jvm.Cond.lays "MatrixPressModel" "MatrixPressModel" "thrown" "I") ∈ lw_all := lw_g (lw_at lw_m5 193 rfl) rfl
theorem q1261 : (Jvm.Cond.soleField "MatrixPressModel" "thrown") ∈ lw_all := lw_g (lw_at lw_m5 194 rfl) rfl
theorem q1262 : (Jvm.Cond.laysFinal "MatrixPressModel" "MatrixPressModel" "rows" "[I") ∈ lw_all := lw_g (lw_at lw_m5 195 rfl) rfl
theorem q1263 : (Jvm.Cond.soleField "MatrixPressModel" "rows") ∈ lw_all := lw_g (lw_at lw_m5 196 rfl) rfl
theorem q1264 : (Jvm.Cond.laysFinal "MatrixPressModel" "MatrixPressModel" "columns" "[I") ∈ lw_all := lw_g (lw_at lw_m5 197 rfl) rfl
theorem q1265 : (Jvm.Cond.soleField "MatrixPressModel" "columns") ∈ lw_all := lw_g (lw_at lw_m5 198 rfl) rfl
theorem q1266 : (Jvm.Cond.laysFinal "MatrixPressModel" "MatrixPressModel" "checks" "[I") ∈ lw_all := lw_g (lw_at lw_m5 199 rfl) rfl
theorem q1267 : (Jvm.Cond.soleField "MatrixPressModel" "checks") ∈ lw_all := lw_g (lw_at lw_m5 200 rfl) rfl
theorem q1268 : (Jvm.Cond.laysFinal "MatrixPressModel" "MatrixPressModel" "blocks" "[I") ∈ lw_all := lw_g (lw_at lw_m5 201 rfl) rfl
theorem q1269 : (Jvm.Cond.soleField "MatrixPressModel" "blocks") ∈ lw_all := lw_g (lw_at lw_m5 202 rfl) rfl
theorem q1270 : (Jvm.Cond.laysFinal "MatrixPressModel" "MatrixPressModel" "below" "[I") ∈ lw_all := lw_g (lw_at lw_m5 203 rfl) rfl
theorem q1271 : (Jvm.Cond.soleField "MatrixPressModel" "below") ∈ lw_all := lw_g (lw_at lw_m5 204 rfl) rfl
theorem q1272 : (Jvm.Cond.laysFinal "MatrixPressModel" "MatrixPressModel" "beside" "[I") ∈ lw_all := lw_g (lw_at lw_m5 205 rfl) rfl
theorem q1273 : (Jvm.Cond.soleField "MatrixPressModel" "beside") ∈ lw_all := lw_g (lw_at lw_m5 206 rfl) rfl
theorem q1274 : (Jvm.Cond.laysFinal "MatrixPressModel" "MatrixPressModel" "power" "[I") ∈ lw_all := lw_g (lw_at lw_m5 207 rfl) rfl
theorem q1275 : (Jvm.Cond.soleField "MatrixPressModel" "power") ∈ lw_all := lw_g (lw_at lw_m5 208 rfl) rfl
theorem q1276 : (Jvm.Cond.laysFinal "MatrixPressModel" "MatrixPressModel" "degree" "[I") ∈ lw_all := lw_g (lw_at lw_m5 209 rfl) rfl
theorem q1277 : (Jvm.Cond.soleField "MatrixPressModel" "degree") ∈ lw_all := lw_g (lw_at lw_m5 210 rfl) rfl
theorem q1278 : (Jvm.Cond.laysFinal "MatrixPressModel" "MatrixPressModel" "tape" "[I") ∈ lw_all := lw_g (lw_at lw_m5 211 rfl) rfl
theorem q1279 : (Jvm.Cond.soleField "MatrixPressModel" "tape") ∈ lw_all := lw_g (lw_at lw_m5 212 rfl) rfl
theorem q1280 : (Jvm.Cond.lays "MatrixPressModel" "MatrixPressModel" "taped" "I") ∈ lw_all := lw_g (lw_at lw_m5 213 rfl) rfl
theorem q1281 : (Jvm.Cond.soleField "MatrixPressModel" "taped") ∈ lw_all := lw_g (lw_at lw_m5 214 rfl) rfl
theorem q1282 : (Jvm.Cond.lays "MatrixPressModel" "MatrixPressModel" "many" "I") ∈ lw_all := lw_g (lw_at lw_m5 215 rfl) rfl
theorem q1283 : (Jvm.Cond.soleField "MatrixPressModel" "many") ∈ lw_all := lw_g (lw_at lw_m5 216 rfl) rfl
theorem q1284 : (Jvm.Cond.lays "MatrixPressModel" "MatrixPressModel" "mapped" "I") ∈ lw_all := lw_g (lw_at lw_m5 217 rfl) rfl
theorem q1285 : (Jvm.Cond.soleField "MatrixPressModel" "mapped") ∈ lw_all := lw_g (lw_at lw_m5 218 rfl) rfl
theorem q1286 : (Jvm.Cond.laysFinal "MatrixPressModel" "MatrixPressModel" "plane" "[I") ∈ lw_all := lw_g (lw_at lw_m5 219 rfl) rfl
theorem q1287 : (Jvm.Cond.soleField "MatrixPressModel" "plane") ∈ lw_all := lw_g (lw_at lw_m5 220 rfl) rfl
theorem q1288 : (Jvm.Cond.laysFinal "MatrixPressModel" "MatrixPressModel" "moduleOf" "[I") ∈ lw_all := lw_g (lw_at lw_m5 221 rfl) rfl
theorem q1289 : (Jvm.Cond.soleField "MatrixPressModel" "moduleOf") ∈ lw_all := lw_g (lw_at lw_m5 222 rfl) rfl
theorem q1290 : (Jvm.Cond.lays "MatrixPressModel" "MatrixPressModel" "planeR" "I") ∈ lw_all := lw_g (lw_at lw_m5 223 rfl) rfl
theorem q1291 : (Jvm.Cond.soleField "MatrixPressModel" "planeR") ∈ lw_all := lw_g (lw_at lw_m5 224 rfl) rfl
theorem q1292 : (Jvm.Cond.lays "MatrixPressModel" "MatrixPressModel" "planeC" "I") ∈ lw_all := lw_g (lw_at lw_m5 225 rfl) rfl
theorem q1293 : (Jvm.Cond.soleField "MatrixPressModel" "planeC") ∈ lw_all := lw_g (lw_at lw_m5 226 rfl) rfl
theorem q1294 : (Jvm.Cond.lays "MatrixPressModel" "MatrixPressModel" "placed" "I") ∈ lw_all := lw_g (lw_at lw_m5 227 rfl) rfl
theorem q1295 : (Jvm.Cond.soleField "MatrixPressModel" "placed") ∈ lw_all := lw_g (lw_at lw_m5 228 rfl) rfl
theorem q1296 : (Jvm.Cond.lays "MatrixPressModel" "MatrixPressModel" "present" "I") ∈ lw_all := lw_g (lw_at lw_m5 229 rfl) rfl
theorem q1297 : (Jvm.Cond.soleField "MatrixPressModel" "present") ∈ lw_all := lw_g (lw_at lw_m5 230 rfl) rfl
theorem q1298 : (Jvm.Cond.laysFinal "MatrixPressModel" "MatrixPressModel" "dark" "[Z") ∈ lw_all := lw_g (lw_at lw_m5 231 rfl) rfl
theorem q1299 : (Jvm.Cond.soleField "MatrixPressModel" "dark") ∈ lw_all := lw_g (lw_at lw_m5 232 rfl) rfl
theorem q1300 : (Jvm.Cond.laysFinal "MatrixPressModel" "MatrixPressModel" "words" "[I") ∈ lw_all := lw_g (lw_at lw_m5 233 rfl) rfl
theorem q1301 : (Jvm.Cond.soleField "MatrixPressModel" "words") ∈ lw_all := lw_g (lw_at lw_m5 234 rfl) rfl
theorem q1302 : (Jvm.Cond.laysFinal "MatrixPressModel" "MatrixPressModel" "divisor" "[I") ∈ lw_all := lw_g (lw_at lw_m5 235 rfl) rfl
theorem q1303 : (Jvm.Cond.soleField "MatrixPressModel" "divisor") ∈ lw_all := lw_g (lw_at lw_m5 236 rfl) rfl
theorem q1304 : (Jvm.Cond.laysFinal "MatrixPressModel" "MatrixPressModel" "rest" "[I") ∈ lw_all := lw_g (lw_at lw_m5 237 rfl) rfl
theorem q1305 : (Jvm.Cond.soleField "MatrixPressModel" "rest") ∈ lw_all := lw_g (lw_at lw_m5 238 rfl) rfl
theorem q1306 : (Jvm.Cond.laysFinal "MatrixPressModel" "MatrixPressModel" "sums" "[I") ∈ lw_all := lw_g (lw_at lw_m5 239 rfl) rfl
theorem q1307 : (Jvm.Cond.soleField "MatrixPressModel" "sums") ∈ lw_all := lw_g (lw_at lw_m6 0 rfl) rfl
theorem q1308 : (Jvm.Cond.laysFinal "MatrixPressModel" "MatrixPressModel" "block" "[I") ∈ lw_all := lw_g (lw_at lw_m6 1 rfl) rfl
theorem q1309 : (Jvm.Cond.soleField "MatrixPressModel" "block") ∈ lw_all := lw_g (lw_at lw_m6 2 rfl) rfl
theorem q1310 : (Jvm.Cond.lays "MatrixPressModel" "MatrixPressModel" "blockSize" "I") ∈ lw_all := lw_g (lw_at lw_m6 3 rfl) rfl
theorem q1311 : (Jvm.Cond.soleField "MatrixPressModel" "blockSize") ∈ lw_all := lw_g (lw_at lw_m6 4 rfl) rfl
theorem q1312 : (Jvm.Cond.laysFinal "MatrixPressModel" "MatrixPressModel" "matrix" "[I") ∈ lw_all := lw_g (lw_at lw_m6 5 rfl) rfl
theorem q1313 : (Jvm.Cond.soleField "MatrixPressModel" "matrix") ∈ lw_all := lw_g (lw_at lw_m6 6 rfl) rfl
theorem q1314 : (Jvm.Cond.laysFinal "MatrixPressModel" "MatrixPressModel" "wrong" "[I") ∈ lw_all := lw_g (lw_at lw_m6 7 rfl) rfl
theorem q1315 : (Jvm.Cond.soleField "MatrixPressModel" "wrong") ∈ lw_all := lw_g (lw_at lw_m6 8 rfl) rfl
theorem q1316 : (Jvm.Cond.laysFinal "MatrixPressModel" "MatrixPressModel" "answer" "[I") ∈ lw_all := lw_g (lw_at lw_m6 9 rfl) rfl
theorem q1317 : (Jvm.Cond.soleField "MatrixPressModel" "answer") ∈ lw_all := lw_g (lw_at lw_m6 10 rfl) rfl
theorem q1318 : (Jvm.Cond.lays "MatrixPressModel" "MatrixPressModel" "changed" "I") ∈ lw_all := lw_g (lw_at lw_m6 11 rfl) rfl
theorem q1319 : (Jvm.Cond.soleField "MatrixPressModel" "changed") ∈ lw_all := lw_g (lw_at lw_m6 12 rfl) rfl
theorem q1320 : (Jvm.Cond.laysFinal "MatrixPressModel" "MatrixPressModel" "bytes" "[I") ∈ lw_all := lw_g (lw_at lw_m6 13 rfl) rfl
theorem q1321 : (Jvm.Cond.soleField "MatrixPressModel" "bytes") ∈ lw_all := lw_g (lw_at lw_m6 14 rfl) rfl
theorem q1322 : (Jvm.Cond.lays "MatrixPressModel" "MatrixPressModel" "told" "I") ∈ lw_all := lw_g (lw_at lw_m6 15 rfl) rfl
theorem q1323 : (Jvm.Cond.soleField "MatrixPressModel" "told") ∈ lw_all := lw_g (lw_at lw_m6 16 rfl) rfl
theorem q1324 : (Jvm.Cond.laysFinal "MatrixPressModel" "MatrixPressModel" "latest" "[I") ∈ lw_all := lw_g (lw_at lw_m6 17 rfl) rfl
theorem q1325 : (Jvm.Cond.soleField "MatrixPressModel" "latest") ∈ lw_all := lw_g (lw_at lw_m6 18 rfl) rfl
theorem q1326 : (Jvm.Cond.lays "MatrixPressModel" "MatrixPressModel" "latestMany" "I") ∈ lw_all := lw_g (lw_at lw_m6 19 rfl) rfl
theorem q1327 : (Jvm.Cond.soleField "MatrixPressModel" "latestMany") ∈ lw_all := lw_g (lw_at lw_m6 20 rfl) rfl
theorem q1328 : (Jvm.Cond.lays "MatrixPressModel" "MatrixPressModel" "next" "I") ∈ lw_all := lw_g (lw_at lw_m6 21 rfl) rfl
theorem q1329 : (Jvm.Cond.soleField "MatrixPressModel" "next") ∈ lw_all := lw_g (lw_at lw_m6 22 rfl) rfl
theorem q1330 : (Jvm.Cond.lays "MatrixPressModel" "MatrixPressModel" "all" "I") ∈ lw_all := lw_g (lw_at lw_m6 23 rfl) rfl
theorem q1331 : (Jvm.Cond.soleField "MatrixPressModel" "all") ∈ lw_all := lw_g (lw_at lw_m6 24 rfl) rfl
theorem q1332 : (Jvm.Cond.lays "MatrixPressModel" "MatrixPressModel" "good" "Z") ∈ lw_all := lw_g (lw_at lw_m6 25 rfl) rfl
theorem q1333 : (Jvm.Cond.soleField "MatrixPressModel" "good") ∈ lw_all := lw_g (lw_at lw_m6 26 rfl) rfl
theorem q1334 : (Jvm.Cond.lays "MatrixPressModel" "MatrixPressModel" "shift" "I") ∈ lw_all := lw_g (lw_at lw_m6 27 rfl) rfl
theorem q1335 : (Jvm.Cond.soleField "MatrixPressModel" "shift") ∈ lw_all := lw_g (lw_at lw_m6 28 rfl) rfl
theorem q1336 : (Jvm.Cond.lays "MatrixPressModel" "MatrixPressModel" "high" "Z") ∈ lw_all := lw_g (lw_at lw_m6 29 rfl) rfl
theorem q1337 : (Jvm.Cond.soleField "MatrixPressModel" "high") ∈ lw_all := lw_g (lw_at lw_m6 30 rfl) rfl
theorem q1338 : (Jvm.Cond.lays "MatrixPressModel" "MatrixPressModel" "shiftAt" "I") ∈ lw_all := lw_g (lw_at lw_m6 31 rfl) rfl
theorem q1339 : (Jvm.Cond.soleField "MatrixPressModel" "shiftAt") ∈ lw_all := lw_g (lw_at lw_m6 32 rfl) rfl
theorem q1340 : (Jvm.Cond.lays "MatrixPressModel" "MatrixPressModel" "decodeChanged" "I") ∈ lw_all := lw_g (lw_at lw_m6 33 rfl) rfl
theorem q1341 : (Jvm.Cond.soleField "MatrixPressModel" "decodeChanged") ∈ lw_all := lw_g (lw_at lw_m6 34 rfl) rfl
theorem q1342 : (Jvm.Cond.laysFinal "MatrixPressModel" "MatrixPressModel" "low" "[I") ∈ lw_all := lw_g (lw_at lw_m6 35 rfl) rfl
theorem q1343 : (Jvm.Cond.soleField "MatrixPressModel" "low") ∈ lw_all := lw_g (lw_at lw_m6 36 rfl) rfl
theorem q1344 : (Jvm.Cond.laysFinal "MatrixPressModel" "MatrixPressModel" "mask" "[I") ∈ lw_all := lw_g (lw_at lw_m6 37 rfl) rfl
theorem q1345 : (Jvm.Cond.soleField "MatrixPressModel" "mask") ∈ lw_all := lw_g (lw_at lw_m6 38 rfl) rfl
theorem q1346 : (Jvm.Cond.laysFinal "MatrixPressModel" "MatrixPressModel" "runLow" "[I") ∈ lw_all := lw_g (lw_at lw_m6 39 rfl) rfl
theorem q1347 : (Jvm.Cond.soleField "MatrixPressModel" "runLow") ∈ lw_all := lw_g (lw_at lw_m6 40 rfl) rfl
theorem q1348 : (Jvm.Cond.laysFinal "MatrixPressModel" "MatrixPressModel" "runMask" "[I") ∈ lw_all := lw_g (lw_at lw_m6 41 rfl) rfl
theorem q1349 : (Jvm.Cond.soleField "MatrixPressModel" "runMask") ∈ lw_all := lw_g (lw_at lw_m6 42 rfl) rfl
theorem q1350 : (Jvm.Cond.lays "MatrixPressModel" "MatrixPressModel" "sumLow" "I") ∈ lw_all := lw_g (lw_at lw_m6 43 rfl) rfl
theorem q1351 : (Jvm.Cond.soleField "MatrixPressModel" "sumLow") ∈ lw_all := lw_g (lw_at lw_m6 44 rfl) rfl
theorem q1352 : (Jvm.Cond.lays "MatrixPressModel" "MatrixPressModel" "sumMask" "I") ∈ lw_all := lw_g (lw_at lw_m6 45 rfl) rfl
theorem q1353 : (Jvm.Cond.soleField "MatrixPressModel" "sumMask") ∈ lw_all := lw_g (lw_at lw_m6 46 rfl) rfl
theorem q1354 : (Jvm.Cond.lays "MatrixPressModel" "MatrixPressModel" "pads" "I") ∈ lw_all := lw_g (lw_at lw_m6 47 rfl) rfl
theorem q1355 : (Jvm.Cond.soleField "MatrixPressModel" "pads") ∈ lw_all := lw_g (lw_at lw_m6 48 rfl) rfl
theorem q1356 : (Jvm.Cond.lays "MatrixPressModel" "MatrixPressModel" "closed" "Z") ∈ lw_all := lw_g (lw_at lw_m6 49 rfl) rfl
theorem q1357 : (Jvm.Cond.soleField "MatrixPressModel" "closed") ∈ lw_all := lw_g (lw_at lw_m6 50 rfl) rfl
theorem q1358 : (Jvm.Cond.lays "MatrixPressModel" "MatrixPressModel" "pass" "I") ∈ lw_all := lw_g (lw_at lw_m6 51 rfl) rfl
theorem q1359 : (Jvm.Cond.soleField "MatrixPressModel" "pass") ∈ lw_all := lw_g (lw_at lw_m6 52 rfl) rfl
theorem q1360 : (Jvm.Cond.laysFinal "MatrixPressModel" "MatrixPressModel" "values" "[I") ∈ lw_all := lw_g (lw_at lw_m6 53 rfl) rfl
theorem q1361 : (Jvm.Cond.soleField "MatrixPressModel" "values") ∈ lw_all := lw_g (lw_at lw_m6 54 rfl) rfl
theorem q1362 : (Jvm.Cond.lays "MatrixPressModel" "MatrixPressModel" "length" "I") ∈ lw_all := lw_g (lw_at lw_m6 55 rfl) rfl
theorem q1363 : (Jvm.Cond.soleField "MatrixPressModel" "length") ∈ lw_all := lw_g (lw_at lw_m6 56 rfl) rfl
theorem q1364 : (Jvm.Cond.lays "MatrixPressModel" "MatrixPressModel" "isClosed" "I") ∈ lw_all := lw_g (lw_at lw_m6 57 rfl) rfl
theorem q1365 : (Jvm.Cond.soleField "MatrixPressModel" "isClosed") ∈ lw_all := lw_g (lw_at lw_m6 58 rfl) rfl
theorem q1366 : (Jvm.Cond.lays "MatrixPressModel" "MatrixPressModel" "steps" "I") ∈ lw_all := lw_g (lw_at lw_m6 59 rfl) rfl
theorem q1367 : (Jvm.Cond.soleField "MatrixPressModel" "steps") ∈ lw_all := lw_g (lw_at lw_m6 60 rfl) rfl
theorem q1368 : (Jvm.Cond.laysFinal "MatrixPressModel" "MatrixPressModel" "stepSort" "[I") ∈ lw_all := lw_g (lw_at lw_m6 61 rfl) rfl
theorem q1369 : (Jvm.Cond.soleField "MatrixPressModel" "stepSort") ∈ lw_all := lw_g (lw_at lw_m6 62 rfl) rfl
theorem q1370 : (Jvm.Cond.laysFinal "MatrixPressModel" "MatrixPressModel" "stepFirst" "[I") ∈ lw_all := lw_g (lw_at lw_m6 63 rfl) rfl
theorem q1371 : (Jvm.Cond.soleField "MatrixPressModel" "stepFirst") ∈ lw_all := lw_g (lw_at lw_m6 64 rfl) rfl
theorem q1372 : (Jvm.Cond.laysFinal "MatrixPressModel" "MatrixPressModel" "stepBytes" "[I") ∈ lw_all := lw_g (lw_at lw_m6 65 rfl) rfl
theorem q1373 : (Jvm.Cond.soleField "MatrixPressModel" "stepBytes") ∈ lw_all := lw_g (lw_at lw_m6 66 rfl) rfl
theorem q1374 : (Jvm.Cond.laysFinal "MatrixPressModel" "MatrixPressModel" "stepWords" "[I") ∈ lw_all := lw_g (lw_at lw_m6 67 rfl) rfl
theorem q1375 : (Jvm.Cond.soleField "MatrixPressModel" "stepWords") ∈ lw_all := lw_g (lw_at lw_m6 68 rfl) rfl
theorem q1376 : (Jvm.Cond.lays "MatrixPressModel" "MatrixPressModel" "ends" "Z") ∈ lw_all := lw_g (lw_at lw_m6 69 rfl) rfl
theorem q1377 : (Jvm.Cond.soleField "MatrixPressModel" "ends") ∈ lw_all := lw_g (lw_at lw_m6 70 rfl) rfl
theorem q1378 : (Jvm.Cond.lays "MatrixPressModel" "MatrixPressModel" "at" "I") ∈ lw_all := lw_g (lw_at lw_m6 71 rfl) rfl
theorem q1379 : (Jvm.Cond.soleField "MatrixPressModel" "at") ∈ lw_all := lw_g (lw_at lw_m6 72 rfl) rfl
theorem q1380 : (Jvm.Cond.lays "MatrixPressModel" "MatrixPressModel" "given" "I") ∈ lw_all := lw_g (lw_at lw_m6 73 rfl) rfl
theorem q1381 : (Jvm.Cond.soleField "MatrixPressModel" "given") ∈ lw_all := lw_g (lw_at lw_m6 74 rfl) rfl
theorem q1382 : (Jvm.Cond.superclass "MatrixPressModel" "java/lang/Object") ∈ lw_all := lw_g (lw_at lw_m6 75 rfl) rfl
theorem q1384 : (Jvm.Cond.instanceMethod ({ cls := "MatrixPressModel", name := "size", desc := "(II)I" } : Jvm.MethodName)) ∈ lw_all := lw_g (lw_at lw_m6 77 rfl) rfl
theorem q1385 : (Jvm.Cond.selects "MatrixPressModel" ({ cls := "MatrixPressModel", name := "size", desc := "(II)I" } : Jvm.MethodName) ({ cls := "MatrixPressModel", name := "size", desc := "(II)I" } : Jvm.MethodName)) ∈ lw_all := lw_g (lw_at lw_m6 78 rfl) rfl
theorem q1386 : (Jvm.Cond.code ({ cls := "MatrixPressModel", name := "size", desc := "(II)I" } : Jvm.MethodName) prog_16_method_9_code (3 : Nat) (Option.some Jvm.ClassFile.FieldType.int)) ∈ lw_all := lw_g (lw_at lw_m6 79 rfl) rfl
theorem q1387 : (Jvm.Cond.methodLink "MatrixPressModel" (124 : Nat) ({ cls := "MatrixPressModel", name := "isSymbol", desc := "(I)Z" } : Jvm.MethodName)) ∈ lw_all := lw_g (lw_at lw_m6 80 rfl) rfl
theorem q1388 : (Jvm.Cond.static ({ cls := "MatrixPressModel", name := "isSymbol", desc := "(I)Z" } : Jvm.MethodName)) ∈ lw_all := lw_g (lw_at lw_m6 81 rfl) rfl
theorem q1389 : (Jvm.Cond.code ({ cls := "MatrixPressModel", name := "isSymbol", desc := "(I)Z" } : Jvm.MethodName) prog_16_method_8_code (1 : Nat) (Option.some Jvm.ClassFile.FieldType.boolean)) ∈ lw_all := lw_g (lw_at lw_m6 82 rfl) rfl
theorem q1390 : (Jvm.Cond.methodLink "MatrixPressModel" (128 : Nat) ({ cls := "MatrixPressModel", name := "dataOf", desc := "(I)I" } : Jvm.MethodName)) ∈ lw_all := lw_g (lw_at lw_m6 83 rfl) rfl
theorem q1391 : (Jvm.Cond.privateMethod ({ cls := "MatrixPressModel", name := "dataOf", desc := "(I)I" } : Jvm.MethodName)) ∈ lw_tbl := lw_at lw_m6 84 rfl
theorem q1392 : (Jvm.Cond.instanceMethod ({ cls := "MatrixPressModel", name := "dataOf", desc := "(I)I" } : Jvm.MethodName)) ∈ lw_all := lw_g (lw_at lw_m6 85 rfl) rfl
theorem q1393 : (Jvm.Cond.code ({ cls := "MatrixPressModel", name := "dataOf", desc := "(I)I" } : Jvm.MethodName) prog_16_method_7_code (2 : Nat) (Option.some Jvm.ClassFile.FieldType.int)) ∈ lw_all := lw_g (lw_at lw_m6 86 rfl) rfl
theorem q1394 : (Jvm.Cond.methodLink "MatrixPressModel" (121 : Nat) ({ cls := "MatrixPressModel", name := "allOf", desc := "(I)I" } : Jvm.MethodName)) ∈ lw_all := lw_g (lw_at lw_m6 87 rfl) rfl
theorem q1395 : (Jvm.Cond.privateMethod ({ cls := "MatrixPressModel", name := "allOf", desc := "(I)I" } : Jvm.MethodName)) ∈ lw_tbl := lw_at lw_m6 88 rfl
theorem q1396 : (Jvm.Cond.instanceMethod ({ cls := "MatrixPressModel", name := "allOf", desc := "(I)I" } : Jvm.MethodName)) ∈ lw_all := lw_g (lw_at lw_m6 89 rfl) rfl
theorem q1397 : (Jvm.Cond.code ({ cls := "MatrixPressModel", name := "allOf", desc := "(I)I" } : Jvm.MethodName) prog_16_method_6_code (2 : Nat) (Option.some Jvm.ClassFile.FieldType.int)) ∈ lw_all := lw_g (lw_at lw_m6 90 rfl) rfl
theorem q1398 : (Jvm.Cond.methodLink "MatrixPressModel" (114 : Nat) ({ cls := "MatrixPressModel", name := "planeRows", desc := "(I)I" } : Jvm.MethodName)) ∈ lw_all := lw_g (lw_at lw_m6 91 rfl) rfl
theorem q1399 : (Jvm.Cond.privateMethod ({ cls := "MatrixPressModel", name := "planeRows", desc := "(I)I" } : Jvm.MethodName)) ∈ lw_tbl := lw_at lw_m6 92 rfl
theorem q1400 : (Jvm.Cond.instanceMethod ({ cls := "MatrixPressModel", name := "planeRows", desc := "(I)I" } : Jvm.MethodName)) ∈ lw_all := lw_g (lw_at lw_m6 93 rfl) rfl
theorem q1401 : (Jvm.Cond.code ({ cls := "MatrixPressModel", name := "planeRows", desc := "(I)I" } : Jvm.MethodName) prog_16_method_4_code (2 : Nat) (Option.some Jvm.ClassFile.FieldType.int)) ∈ lw_all := lw_g (lw_at lw_m6 94 rfl) rfl
theorem q1402 : (Jvm.Cond.methodLink "MatrixPressModel" (118 : Nat) ({ cls := "MatrixPressModel", name := "planeColumns", desc := "(I)I" } : Jvm.MethodName)) ∈ lw_all := lw_g (lw_at lw_m6 95 rfl) rfl
theorem q1403 : (Jvm.Cond.privateMethod ({ cls := "MatrixPressModel", name := "planeColumns", desc := "(I)I" } : Jvm.MethodName)) ∈ lw_tbl := lw_at lw_m6 96 rfl
theorem q1404 : (Jvm.Cond.instanceMethod ({ cls := "MatrixPressModel", name := "planeColumns", desc := "(I)I" } : Jvm.MethodName)) ∈ lw_all := lw_g (lw_at lw_m6 97 rfl) rfl
theorem q1405 : (Jvm.Cond.code ({ cls := "MatrixPressModel", name := "planeColumns", desc := "(I)I" } : Jvm.MethodName) prog_16_method_5_code (2 : Nat) (Option.some Jvm.ClassFile.FieldType.int)) ∈ lw_all := lw_g (lw_at lw_m6 98 rfl) rfl
theorem q1407 : (Jvm.Cond.instanceMethod ({ cls := "MatrixPressModel", name := "feed", desc := "(IJJJ)I" } : Jvm.MethodName)) ∈ lw_all := lw_g (lw_at lw_m6 100 rfl) rfl
theorem q1408 : (Jvm.Cond.selects "MatrixPressModel" ({ cls := "MatrixPressModel", name := "feed", desc := "(IJJJ)I" } : Jvm.MethodName) ({ cls := "MatrixPressModel", name := "feed", desc := "(IJJJ)I" } : Jvm.MethodName)) ∈ lw_all := lw_g (lw_at lw_m6 101 rfl) rfl
theorem q1409 : (Jvm.Cond.code ({ cls := "MatrixPressModel", name := "feed", desc := "(IJJJ)I" } : Jvm.MethodName) prog_16_method_10_code (11 : Nat) (Option.some Jvm.ClassFile.FieldType.int)) ∈ lw_all := lw_g (lw_at lw_m6 102 rfl) rfl
theorem q1411 : (Jvm.Cond.instanceMethod ({ cls := "MatrixPressModel", name := "module", desc := "(II)I" } : Jvm.MethodName)) ∈ lw_all := lw_g (lw_at lw_m6 104 rfl) rfl
theorem q1412 : (Jvm.Cond.selects "MatrixPressModel" ({ cls := "MatrixPressModel", name := "module", desc := "(II)I" } : Jvm.MethodName) ({ cls := "MatrixPressModel", name := "module", desc := "(II)I" } : Jvm.MethodName)) ∈ lw_all := lw_g (lw_at lw_m6 105 rfl) rfl
theorem q1413 : (Jvm.Cond.code ({ cls := "MatrixPressModel", name := "module", desc := "(II)I" } : Jvm.MethodName) prog_16_method_22_code (3 : Nat) (Option.some Jvm.ClassFile.FieldType.int)) ∈ lw_all := lw_g (lw_at lw_m6 106 rfl) rfl
theorem q1414 : (Jvm.Cond.methodLink "MatrixPressModel" (182 : Nat) ({ cls := "MatrixPressModel", name := "isModule", desc := "(II)Z" } : Jvm.MethodName)) ∈ lw_all := lw_g (lw_at lw_m6 107 rfl) rfl
theorem q1415 : (Jvm.Cond.privateMethod ({ cls := "MatrixPressModel", name := "isModule", desc := "(II)Z" } : Jvm.MethodName)) ∈ lw_tbl := lw_at lw_m6 108 rfl
theorem q1416 : (Jvm.Cond.instanceMethod ({ cls := "MatrixPressModel", name := "isModule", desc := "(II)Z" } : Jvm.MethodName)) ∈ lw_all := lw_g (lw_at lw_m6 109 rfl) rfl
theorem q1417 : (Jvm.Cond.code ({ cls := "MatrixPressModel", name := "isModule", desc := "(II)Z" } : Jvm.MethodName) prog_16_method_21_code (3 : Nat) (Option.some Jvm.ClassFile.FieldType.boolean)) ∈ lw_all := lw_g (lw_at lw_m6 110 rfl) rfl
theorem q1418 : (Jvm.Cond.methodLink "MatrixPressModel" (178 : Nat) ({ cls := "MatrixPressModel", name := "isOf", desc := "(IIIII)Z" } : Jvm.MethodName)) ∈ lw_all := lw_g (lw_at lw_m6 111 rfl) rfl
theorem q1419 : (Jvm.Cond.static ({ cls := "MatrixPressModel", name := "isOf", desc := "(IIIII)Z" } : Jvm.MethodName)) ∈ lw_all := lw_g (lw_at lw_m6 112 rfl) rfl
theorem q1420 : (Jvm.Cond.code ({ cls := "MatrixPressModel", name := "isOf", desc := "(IIIII)Z" } : Jvm.MethodName) prog_16_method_20_code (5 : Nat) (Option.some Jvm.ClassFile.FieldType.boolean)) ∈ lw_all := lw_g (lw_at lw_m6 113 rfl) rfl
theorem q1422 : (Jvm.Cond.instanceMethod ({ cls := "MatrixPressModel", name := "flip", desc := "(II)Z" } : Jvm.MethodName)) ∈ lw_all := lw_g (lw_at lw_m6 115 rfl) rfl
theorem q1423 : (Jvm.Cond.selects "MatrixPressModel" ({ cls := "MatrixPressModel", name := "flip", desc := "(II)Z" } : Jvm.MethodName) ({ cls := "MatrixPressModel", name := "flip", desc := "(II)Z" } : Jvm.MethodName)) ∈ lw_all := lw_g (lw_at lw_m6 116 rfl) rfl
theorem q1424 : (Jvm.Cond.code ({ cls := "MatrixPressModel", name := "flip", desc := "(II)Z" } : Jvm.MethodName) prog_16_method_23_code (3 : Nat) (Option.some Jvm.ClassFile.FieldType.boolean)) ∈ lw_all := lw_g (lw_at lw_m6 117 rfl) rfl
theorem q1426 : (Jvm.Cond.instanceMethod ({ cls := "MatrixPressModel", name := "codeword", desc := "(I)I" } : Jvm.MethodName)) ∈ lw_all := lw_g (lw_at lw_m6 119 rfl) rfl
theorem q1427 : (Jvm.Cond.selects "MatrixPressModel" ({ cls := "MatrixPressModel", name := "codeword", desc := "(I)I" } : Jvm.MethodName) ({ cls := "MatrixPressModel", name := "codeword", desc := "(I)I" } : Jvm.MethodName)) ∈ lw_all := lw_g (lw_at lw_m6 120 rfl) rfl
theorem q1428 : (Jvm.Cond.code ({ cls := "MatrixPressModel", name := "codeword", desc := "(I)I" } : Jvm.MethodName) prog_16_method_27_code (2 : Nat) (Option.some Jvm.ClassFile.FieldType.int)) ∈ lw_all := lw_g (lw_at lw_m6 121 rfl) rfl
theorem q1429 : (Jvm.Cond.methodLink "MatrixPressModel" (185 : Nat) ({ cls := "MatrixPressModel", name := "isCodeword", desc := "(I)Z" } : Jvm.MethodName)) ∈ lw_all := lw_g (lw_at lw_m6 122 rfl) rfl
theorem q1430 : (Jvm.Cond.privateMethod ({ cls := "MatrixPressModel", name := "isCodeword", desc := "(I)Z" } : Jvm.MethodName)) ∈ lw_tbl := lw_at lw_m6 123 rfl
theorem q1431 : (Jvm.Cond.instanceMethod ({ cls := "MatrixPressModel", name := "isCodeword", desc := "(I)Z" } : Jvm.MethodName)) ∈ lw_all := lw_g (lw_at lw_m6 124 rfl) rfl
theorem q1432 : (Jvm.Cond.code ({ cls := "MatrixPressModel", name := "isCodeword", desc := "(I)Z" } : Jvm.MethodName) prog_16_method_24_code (2 : Nat) (Option.some Jvm.ClassFile.FieldType.boolean)) ∈ lw_all := lw_g (lw_at lw_m6 125 rfl) rfl
theorem q1433 : (Jvm.Cond.methodLink "MatrixPressModel" (188 : Nat) ({ cls := "MatrixPressModel", name := "map", desc := "(I)V" } : Jvm.MethodName)) ∈ lw_all := lw_g (lw_at lw_m6 126 rfl) rfl
theorem q1434 : (Jvm.Cond.privateMethod ({ cls := "MatrixPressModel", name := "map", desc := "(I)V" } : Jvm.MethodName)) ∈ lw_tbl := lw_at lw_m6 127 rfl
theorem q1435 : (Jvm.Cond.instanceMethod ({ cls := "MatrixPressModel", name := "map", desc := "(I)V" } : Jvm.MethodName)) ∈ lw_all := lw_g (lw_at lw_m6 128 rfl) rfl
theorem q1436 : (Jvm.Cond.code ({ cls := "MatrixPressModel", name := "map", desc := "(I)V" } : Jvm.MethodName) prog_16_method_18_code (4 : Nat) (Option.none : Option Jvm.ClassFile.FieldType)) ∈ lw_all := lw_g (lw_at lw_m6 129 rfl) rfl
theorem q1437 : (Jvm.Cond.methodLink "MatrixPressModel" (157 : Nat) ({ cls := "MatrixPressModel", name := "corners", desc := "(II)V" } : Jvm.MethodName)) ∈ lw_all := lw_g (lw_at lw_m6 130 rfl) rfl
theorem q1438 : (Jvm.Cond.privateMethod ({ cls := "MatrixPressModel", name := "corners", desc := "(II)V" } : Jvm.MethodName)) ∈ lw_tbl := lw_at lw_m6 131 rfl
theorem q1439 : (Jvm.Cond.instanceMethod ({ cls := "MatrixPressModel", name := "corners", desc := "(II)V" } : Jvm.MethodName)) ∈ lw_all := lw_g (lw_at lw_m6 132 rfl) rfl
theorem q1440 : (Jvm.Cond.code ({ cls := "MatrixPressModel", name := "corners", desc := "(II)V" } : Jvm.MethodName) prog_16_method_19_code (3 : Nat) (Option.none : Option Jvm.ClassFile.FieldType)) ∈ lw_all := lw_g (lw_at lw_m6 133 rfl) rfl
theorem q1441 : (Jvm.Cond.constant "MatrixPressModel" (168 : Nat) (61681 : Int32)) ∈ lw_all := lw_g (lw_at lw_m6 134 rfl) rfl
theorem q1442 : (Jvm.Cond.constant "MatrixPressModel" (169 : Nat) (61966 : Int32)) ∈ lw_all := lw_g (lw_at lw_m6 135 rfl) rfl
theorem q1443 : (Jvm.Cond.methodLink "MatrixPressModel" (170 : Nat) ({ cls := "MatrixPressModel", name := "corner", desc := "(IIII)V" } : Jvm.MethodName)) ∈ lw_all := lw_g (lw_at lw_m6 136 rfl) rfl
theorem q1444 : (Jvm.Cond.privateMethod ({ cls := "MatrixPressModel", name := "corner", desc := "(IIII)V" } : Jvm.MethodName)) ∈ lw_tbl := lw_at lw_m6 137 rfl
theorem q1445 : (Jvm.Cond.instanceMethod ({ cls := "MatrixPressModel", name := "corner", desc := "(IIII)V" } : Jvm.MethodName)) ∈ lw_all := lw_g (lw_at lw_m6 138 rfl) rfl
theorem q1446 : (Jvm.Cond.code ({ cls := "MatrixPressModel", name := "corner", desc := "(IIII)V" } : Jvm.MethodName) prog_16_method_16_code (10 : Nat) (Option.none : Option Jvm.ClassFile.FieldType)) ∈ lw_all := lw_g (lw_at lw_m6 139 rfl) rfl
theorem q1447 : (Jvm.Cond.methodLink "MatrixPressModel" (150 : Nat) ({ cls := "MatrixPressModel", name := "lie", desc := "(III)V" } : Jvm.MethodName)) ∈ lw_all := lw_g (lw_at lw_m6 140 rfl) rfl
theorem q1448 : (Jvm.Cond.privateMethod ({ cls := "MatrixPressModel", name := "lie", desc := "(III)V" } : Jvm.MethodName)) ∈ lw_tbl := lw_at lw_m6 141 rfl
theorem q1449 : (Jvm.Cond.instanceMethod ({ cls := "MatrixPressModel", name := "lie", desc := "(III)V" } : Jvm.MethodName)) ∈ lw_all := lw_g (lw_at lw_m6 142 rfl) rfl
theorem q1450 : (Jvm.Cond.code ({ cls := "MatrixPressModel", name := "lie", desc := "(III)V" } : Jvm.MethodName) prog_16_method_13_code (4 : Nat) (Option.none : Option Jvm.ClassFile.FieldType)) ∈ lw_all := lw_g (lw_at lw_m6 143 rfl) rfl
theorem q1451 : (Jvm.Cond.methodLink "MatrixPressModel" (146 : Nat) ({ cls := "MatrixPressModel", name := "moduleAt", desc := "(III)I" } : Jvm.MethodName)) ∈ lw_all := lw_g (lw_at lw_m6 144 rfl) rfl
theorem q1452 : (Jvm.Cond.privateMethod ({ cls := "MatrixPressModel", name := "moduleAt", desc := "(III)I" } : Jvm.MethodName)) ∈ lw_tbl := lw_at lw_m6 145 rfl
theorem q1453 : (Jvm.Cond.instanceMethod ({ cls := "MatrixPressModel", name := "moduleAt", desc := "(III)I" } : Jvm.MethodName)) ∈ lw_all := lw_g (lw_at lw_m6 146 rfl) rfl
theorem q1454 : (Jvm.Cond.code ({ cls := "MatrixPressModel", name := "moduleAt", desc := "(III)I" } : Jvm.MethodName) prog_16_method_12_code (6 : Nat) (Option.some Jvm.ClassFile.FieldType.int)) ∈ lw_all := lw_g (lw_at lw_m6 147 rfl) rfl
theorem q1455 : (Jvm.Cond.constant "MatrixPressModel" (174 : Nat) (53472 : Int32)) ∈ lw_all := lw_g (lw_at lw_m6 148 rfl) rfl
theorem q1456 : (Jvm.Cond.constant "MatrixPressModel" (175 : Nat) (61452 : Int32)) ∈ lw_all := lw_g (lw_at lw_m6 149 rfl) rfl
theorem q1457 : (Jvm.Cond.constant "MatrixPressModel" (176 : Nat) (61454 : Int32)) ∈ lw_all := lw_g (lw_at lw_m6 150 rfl) rfl
theorem q1458 : (Jvm.Cond.constant "MatrixPressModel" (177 : Nat) (61695 : Int32)) ∈ lw_all := lw_g (lw_at lw_m6 151 rfl) rfl
theorem q1459 : (Jvm.Cond.methodLink "MatrixPressModel" (161 : Nat) ({ cls := "MatrixPressModel", name := "isFree", desc := "(II)Z" } : Jvm.MethodName)) ∈ lw_all := lw_g (lw_at lw_m6 152 rfl) rfl
theorem q1460 : (Jvm.Cond.privateMethod ({ cls := "MatrixPressModel", name := "isFree", desc := "(II)Z" } : Jvm.MethodName)) ∈ lw_tbl := lw_at lw_m6 153 rfl
theorem q1461 : (Jvm.Cond.instanceMethod ({ cls := "MatrixPressModel", name := "isFree", desc := "(II)Z" } : Jvm.MethodName)) ∈ lw_all := lw_g (lw_at lw_m6 154 rfl) rfl
theorem q1462 : (Jvm.Cond.code ({ cls := "MatrixPressModel", name := "isFree", desc := "(II)Z" } : Jvm.MethodName) prog_16_method_17_code (3 : Nat) (Option.some Jvm.ClassFile.FieldType.boolean)) ∈ lw_all := lw_g (lw_at lw_m6 155 rfl) rfl
theorem q1463 : (Jvm.Cond.methodLink "MatrixPressModel" (165 : Nat) ({ cls := "MatrixPressModel", name := "utah", desc := "(II)V" } : Jvm.MethodName)) ∈ lw_all := lw_g (lw_at lw_m6 156 rfl) rfl
theorem q1464 : (Jvm.Cond.privateMethod ({ cls := "MatrixPressModel", name := "utah", desc := "(II)V" } : Jvm.MethodName)) ∈ lw_tbl := lw_at lw_m6 157 rfl
theorem q1465 : (Jvm.Cond.instanceMethod ({ cls := "MatrixPressModel", name := "utah", desc := "(II)V" } : Jvm.MethodName)) ∈ lw_all := lw_g (lw_at lw_m6 158 rfl) rfl
theorem q1466 : (Jvm.Cond.code ({ cls := "MatrixPressModel", name := "utah", desc := "(II)V" } : Jvm.MethodName) prog_16_method_15_code (3 : Nat) (Option.none : Option Jvm.ClassFile.FieldType)) ∈ lw_all := lw_g (lw_at lw_m6 159 rfl) rfl
theorem q1467 : (Jvm.Cond.methodLink "MatrixPressModel" (154 : Nat) ({ cls := "MatrixPressModel", name := "round", desc := "(III)V" } : Jvm.MethodName)) ∈ lw_all := lw_g (lw_at lw_m6 160 rfl) rfl
theorem q1468 : (Jvm.Cond.privateMethod ({ cls := "MatrixPressModel", name := "round", desc := "(III)V" } : Jvm.MethodName)) ∈ lw_tbl := lw_at lw_m6 161 rfl
theorem q1469 : (Jvm.Cond.instanceMethod ({ cls := "MatrixPressModel", name := "round", desc := "(III)V" } : Jvm.MethodName)) ∈ lw_all := lw_g (lw_at lw_m6 162 rfl) rfl
theorem q1470 : (Jvm.Cond.code ({ cls := "MatrixPressModel", name := "round", desc := "(III)V" } : Jvm.MethodName) prog_16_method_14_code (6 : Nat) (Option.none : Option Jvm.ClassFile.FieldType)) ∈ lw_all := lw_g (lw_at lw_m6 163 rfl) rfl
theorem q1471 : (Jvm.Cond.methodLink "MatrixPressModel" (192 : Nat) ({ cls := "MatrixPressModel", name := "read", desc := "(I)I" } : Jvm.MethodName)) ∈ lw_all := lw_g (lw_at lw_m6 164 rfl) rfl
theorem q1472 : (Jvm.Cond.privateMethod ({ cls := "MatrixPressModel", name := "read", desc := "(I)I" } : Jvm.MethodName)) ∈ lw_tbl := lw_at lw_m6 165 rfl
theorem q1473 : (Jvm.Cond.instanceMethod ({ cls := "MatrixPressModel", name := "read", desc := "(I)I" } : Jvm.MethodName)) ∈ lw_all := lw_g (lw_at lw_m6 166 rfl) rfl
theorem q1474 : (Jvm.Cond.code ({ cls := "MatrixPressModel", name := "read", desc := "(I)I" } : Jvm.MethodName) prog_16_method_25_code (4 : Nat) (Option.some Jvm.ClassFile.FieldType.int)) ∈ lw_all := lw_g (lw_at lw_m6 167 rfl) rfl
theorem q1476 : (Jvm.Cond.instanceMethod ({ cls := "MatrixPressModel", name := "set", desc := "(II)Z" } : Jvm.MethodName)) ∈ lw_all := lw_g (lw_at lw_m6 169 rfl) rfl
theorem q1477 : (Jvm.Cond.selects "MatrixPressModel" ({ cls := "MatrixPressModel", name := "set", desc := "(II)Z" } : Jvm.MethodName) ({ cls := "MatrixPressModel", name := "set", desc := "(II)Z" } : Jvm.MethodName)) ∈ lw_all := lw_g (lw_at lw_m6 170 rfl) rfl
theorem q1478 : (Jvm.Cond.code ({ cls := "MatrixPressModel", name := "set", desc := "(II)Z" } : Jvm.MethodName) prog_16_method_28_code (3 : Nat) (Option.some Jvm.ClassFile.FieldType.boolean)) ∈ lw_all := lw_g (lw_at lw_m6 171 rfl) rfl
theorem q1479 : (Jvm.Cond.methodLink "MatrixPressModel" (195 : Nat) ({ cls := "MatrixPressModel", name := "write", desc := "(II)V" } : Jvm.MethodName)) ∈ lw_all := lw_g (lw_at lw_m6 172 rfl) rfl
theorem q1480 : (Jvm.Cond.privateMethod ({ cls := "MatrixPressModel", name := "write", desc := "(II)V" } : Jvm.MethodName)) ∈ lw_tbl := lw_at lw_m6 173 rfl
theorem q1481 : (Jvm.Cond.instanceMethod ({ cls := "MatrixPressModel", name := "write", desc := "(II)V" } : Jvm.MethodName)) ∈ lw_all := lw_g (lw_at lw_m6 174 rfl) rfl
theorem q1482 : (Jvm.Cond.code ({ cls := "MatrixPressModel", name := "write", desc := "(II)V" } : Jvm.MethodName) prog_16_method_26_code (4 : Nat) (Option.none : Option Jvm.ClassFile.FieldType)) ∈ lw_all := lw_g (lw_at lw_m6 175 rfl) rfl
theorem q1484 : (Jvm.Cond.instanceMethod ({ cls := "MatrixPressModel", name := "load", desc := "(I)Z" } : Jvm.MethodName)) ∈ lw_all := lw_g (lw_at lw_m6 177 rfl) rfl
theorem q1485 : (Jvm.Cond.selects "MatrixPressModel" ({ cls := "MatrixPressModel", name := "load", desc := "(I)Z" } : Jvm.MethodName) ({ cls := "MatrixPressModel", name := "load", desc := "(I)Z" } : Jvm.MethodName)) ∈ lw_all := lw_g (lw_at lw_m6 178 rfl) rfl
theorem q1486 : (Jvm.Cond.code ({ cls := "MatrixPressModel", name := "load", desc := "(I)Z" } : Jvm.MethodName) prog_16_method_29_code (5 : Nat) (Option.some Jvm.ClassFile.FieldType.boolean)) ∈ lw_all := lw_g (lw_at lw_m6 179 rfl) rfl
theorem q1487 : (Jvm.Cond.methodLink "MatrixPressModel" (198 : Nat) ({ cls := "MatrixPressModel", name := "takeTape", desc := "()V" } : Jvm.MethodName)) ∈ lw_all := lw_g (lw_at lw_m6 180 rfl) rfl
theorem q1488 : (Jvm.Cond.privateMethod ({ cls := "MatrixPressModel", name := "takeTape", desc := "()V" } : Jvm.MethodName)) ∈ lw_tbl := lw_at lw_m6 181 rfl
theorem q1489 : (Jvm.Cond.instanceMethod ({ cls := "MatrixPressModel", name := "takeTape", desc := "()V" } : Jvm.MethodName)) ∈ lw_all := lw_g (lw_at lw_m6 182 rfl) rfl
theorem q1490 : (Jvm.Cond.code ({ cls := "MatrixPressModel", name := "takeTape", desc := "()V" } : Jvm.MethodName) prog_16_method_11_code (1 : Nat) (Option.none : Option Jvm.ClassFile.FieldType)) ∈ lw_all := lw_g (lw_at lw_m6 183 rfl) rfl
theorem q1492 : (Jvm.Cond.instanceMethod ({ cls := "MatrixPressModel", name := "stream", desc := "(I)I" } : Jvm.MethodName)) ∈ lw_all := lw_g (lw_at lw_m6 185 rfl) rfl
theorem q1493 : (Jvm.Cond.selects "MatrixPressModel" ({ cls := "MatrixPressModel", name := "stream", desc := "(I)I" } : Jvm.MethodName) ({ cls := "MatrixPressModel", name := "stream", desc := "(I)I" } : Jvm.MethodName)) ∈ lw_all := lw_g (lw_at lw_m6 186 rfl) rfl
theorem q1494 : (Jvm.Cond.code ({ cls := "MatrixPressModel", name := "stream", desc := "(I)I" } : Jvm.MethodName) prog_16_method_52_code (3 : Nat) (Option.some Jvm.ClassFile.FieldType.int)) ∈ lw_all := lw_g (lw_at lw_m6 187 rfl) rfl
theorem q1495 : (Jvm.Cond.methodLink "MatrixPressModel" (285 : Nat) ({ cls := "MatrixPressModel", name := "readStream", desc := "(I)I" } : Jvm.MethodName)) ∈ lw_all := lw_g (lw_at lw_m6 188 rfl) rfl
theorem q1496 : (Jvm.Cond.privateMethod ({ cls := "MatrixPressModel", name := "readStream", desc := "(I)I" } : Jvm.MethodName)) ∈ lw_tbl := lw_at lw_m6 189 rfl
theorem q1497 : (Jvm.Cond.instanceMethod ({ cls := "MatrixPressModel", name := "readStream", desc := "(I)I" } : Jvm.MethodName)) ∈ lw_all := lw_g (lw_at lw_m6 190 rfl) rfl
theorem q1498 : (Jvm.Cond.code ({ cls := "MatrixPressModel", name := "readStream", desc := "(I)I" } : Jvm.MethodName) prog_16_method_43_code (2 : Nat) (Option.some Jvm.ClassFile.FieldType.int)) ∈ lw_all := lw_g (lw_at lw_m6 191 rfl) rfl
theorem q1499 : (Jvm.Cond.methodLink "MatrixPressModel" (244 : Nat) ({ cls := "MatrixPressModel", name := "ascii", desc := "()V" } : Jvm.MethodName)) ∈ lw_all := lw_g (lw_at lw_m6 192 rfl) rfl
theorem q1500 : (Jvm.Cond.privateMethod ({ cls := "MatrixPressModel", name := "ascii", desc := "()V" } : Jvm.MethodName)) ∈ lw_tbl := lw_at lw_m6 193 rfl
theorem q1501 : (Jvm.Cond.instanceMethod ({ cls := "MatrixPressModel", name := "ascii", desc := "()V" } : Jvm.MethodName)) ∈ lw_all := lw_g (lw_at lw_m6 194 rfl) rfl
theorem q1502 : (Jvm.Cond.code ({ cls := "MatrixPressModel", name := "ascii", desc := "()V" } : Jvm.MethodName) prog_16_method_44_code (2 : Nat) (Option.none : Option Jvm.ClassFile.FieldType)) ∈ lw_all := lw_g (lw_at lw_m6 195 rfl) rfl
theorem q1503 : (Jvm.Cond.methodLink "MatrixPressModel" (247 : Nat) ({ cls := "MatrixPressModel", name := "tell", desc := "(I)V" } : Jvm.MethodName)) ∈ lw_all := lw_g (lw_at lw_m6 196 rfl) rfl
theorem q1504 : (Jvm.Cond.privateMethod ({ cls := "MatrixPressModel", name := "tell", desc := "(I)V" } : Jvm.MethodName)) ∈ lw_tbl := lw_at lw_m6 197 rfl
theorem q1505 : (Jvm.Cond.instanceMethod ({ cls := "MatrixPressModel", name := "tell", desc := "(I)V" } : Jvm.MethodName)) ∈ lw_all := lw_g (lw_at lw_m6 198 rfl) rfl
theorem q1506 : (Jvm.Cond.code ({ cls := "MatrixPressModel", name := "tell", desc := "(I)V" } : Jvm.MethodName) prog_16_method_41_code (2 : Nat) (Option.none : Option Jvm.ClassFile.FieldType)) ∈ lw_all := lw_g (lw_at lw_m6 199 rfl) rfl
theorem q1507 : (Jvm.Cond.methodLink "MatrixPressModel" (250 : Nat) ({ cls := "MatrixPressModel", name := "pad", desc := "(I)I" } : Jvm.MethodName)) ∈ lw_all := lw_g (lw_at lw_m6 200 rfl) rfl
theorem q1508 : (Jvm.Cond.static ({ cls := "MatrixPressModel", name := "pad", desc := "(I)I" } : Jvm.MethodName)) ∈ lw_all := lw_g (lw_at lw_m6 201 rfl) rfl
theorem q1509 : (Jvm.Cond.code ({ cls := "MatrixPressModel", name := "pad", desc := "(I)I" } : Jvm.MethodName) prog_16_method_42_code (2 : Nat) (Option.some Jvm.ClassFile.FieldType.int)) ∈ lw_all := lw_g (lw_at lw_m6 202 rfl) rfl
theorem q1510 : (Jvm.Cond.methodLink "MatrixPressModel" (253 : Nat) ({ cls := "MatrixPressModel", name := "threes", desc := "(I)V" } : Jvm.MethodName)) ∈ lw_all := lw_g (lw_at lw_m6 203 rfl) rfl
theorem q1511 : (Jvm.Cond.privateMethod ({ cls := "MatrixPressModel", name := "threes", desc := "(I)V" } : Jvm.MethodName)) ∈ lw_tbl := lw_at lw_m6 204 rfl
theorem q1512 : (Jvm.Cond.instanceMethod ({ cls := "MatrixPressModel", name := "threes", desc := "(I)V" } : Jvm.MethodName)) ∈ lw_all := lw_g (lw_at lw_m6 205 rfl) rfl
theorem q1513 : (Jvm.Cond.code ({ cls := "MatrixPressModel", name := "threes", desc := "(I)V" } : Jvm.MethodName) prog_16_method_45_code (5 : Nat) (Option.none : Option Jvm.ClassFile.FieldType)) ∈ lw_all := lw_g (lw_at lw_m6 206 rfl) rfl
theorem q1514 : (Jvm.Cond.constant "MatrixPressModel" (268 : Nat) (64000 : Int32)) ∈ lw_all := lw_g (lw_at lw_m6 207 rfl) rfl
theorem q1515 : (Jvm.Cond.methodLink "MatrixPressModel" (269 : Nat) ({ cls := "MatrixPressModel", name := "value", desc := "(III)V" } : Jvm.MethodName)) ∈ lw_all := lw_g (lw_at lw_m6 208 rfl) rfl
theorem q1516 : (Jvm.Cond.privateMethod ({ cls := "MatrixPressModel", name := "value", desc := "(III)V" } : Jvm.MethodName)) ∈ lw_tbl := lw_at lw_m6 209 rfl
theorem q1517 : (Jvm.Cond.instanceMethod ({ cls := "MatrixPressModel", name := "value", desc := "(III)V" } : Jvm.MethodName)) ∈ lw_all := lw_g (lw_at lw_m6 210 rfl) rfl
theorem q1518 : (Jvm.Cond.code ({ cls := "MatrixPressModel", name := "value", desc := "(III)V" } : Jvm.MethodName) prog_16_method_46_code (5 : Nat) (Option.none : Option Jvm.ClassFile.FieldType)) ∈ lw_all := lw_g (lw_at lw_m6 211 rfl) rfl
theorem q1519 : (Jvm.Cond.methodLink "MatrixPressModel" (275 : Nat) ({ cls := "MatrixPressModel", name := "shifted", desc := "(I)V" } : Jvm.MethodName)) ∈ lw_all := lw_g (lw_at lw_m6 212 rfl) rfl
theorem q1520 : (Jvm.Cond.privateMethod ({ cls := "MatrixPressModel", name := "shifted", desc := "(I)V" } : Jvm.MethodName)) ∈ lw_tbl := lw_at lw_m6 213 rfl
theorem q1521 : (Jvm.Cond.instanceMethod ({ cls := "MatrixPressModel", name := "shifted", desc := "(I)V" } : Jvm.MethodName)) ∈ lw_all := lw_g (lw_at lw_m6 214 rfl) rfl
theorem q1522 : (Jvm.Cond.code ({ cls := "MatrixPressModel", name := "shifted", desc := "(I)V" } : Jvm.MethodName) prog_16_method_47_code (2 : Nat) (Option.none : Option Jvm.ClassFile.FieldType)) ∈ lw_all := lw_g (lw_at lw_m6 215 rfl) rfl
theorem q1523 : (Jvm.Cond.methodLink "MatrixPressModel" (256 : Nat) ({ cls := "MatrixPressModel", name := "sixes", desc := "()V" } : Jvm.MethodName)) ∈ lw_all := lw_g (lw_at lw_m6 216 rfl) rfl
theorem q1524 : (Jvm.Cond.privateMethod ({ cls := "MatrixPressModel", name := "sixes", desc := "()V" } : Jvm.MethodName)) ∈ lw_tbl := lw_at lw_m6 217 rfl
theorem q1525 : (Jvm.Cond.instanceMethod ({ cls := "MatrixPressModel", name := "sixes", desc := "()V" } : Jvm.MethodName)) ∈ lw_all := lw_g (lw_at lw_m6 218 rfl) rfl
theorem q1526 : (Jvm.Cond.code ({ cls := "MatrixPressModel", name := "sixes", desc := "()V" } : Jvm.MethodName) prog_16_method_48_code (6 : Nat) (Option.none : Option Jvm.ClassFile.FieldType)) ∈ lw_all := lw_g (lw_at lw_m6 219 rfl) rfl
theorem q1527 : (Jvm.Cond.methodLink "MatrixPressModel" (259 : Nat) ({ cls := "MatrixPressModel", name := "base", desc := "()V" } : Jvm.MethodName)) ∈ lw_all := lw_g (lw_at lw_m6 220 rfl) rfl
theorem q1528 : (Jvm.Cond.privateMethod ({ cls := "MatrixPressModel", name := "base", desc := "()V" } : Jvm.MethodName)) ∈ lw_tbl := lw_at lw_m6 221 rfl
theorem q1529 : (Jvm.Cond.instanceMethod ({ cls := "MatrixPressModel", name := "base", desc := "()V" } : Jvm.MethodName)) ∈ lw_all := lw_g (lw_at lw_m6 222 rfl) rfl
theorem q1530 : (Jvm.Cond.code ({ cls := "MatrixPressModel", name := "base", desc := "()V" } : Jvm.MethodName) prog_16_method_50_code (4 : Nat) (Option.none : Option Jvm.ClassFile.FieldType)) ∈ lw_all := lw_g (lw_at lw_m6 223 rfl) rfl
theorem q1531 : (Jvm.Cond.methodLink "MatrixPressModel" (278 : Nat) ({ cls := "MatrixPressModel", name := "unmixed", desc := "()I" } : Jvm.MethodName)) ∈ lw_all := lw_g (lw_at lw_m6 224 rfl) rfl
theorem q1532 : (Jvm.Cond.privateMethod ({ cls := "MatrixPressModel", name := "unmixed", desc := "()I" } : Jvm.MethodName)) ∈ lw_tbl := lw_at lw_m6 225 rfl
theorem q1533 : (Jvm.Cond.instanceMethod ({ cls := "MatrixPressModel", name := "unmixed", desc := "()I" } : Jvm.MethodName)) ∈ lw_all := lw_g (lw_at lw_m6 226 rfl) rfl
theorem q1534 : (Jvm.Cond.code ({ cls := "MatrixPressModel", name := "unmixed", desc := "()I" } : Jvm.MethodName) prog_16_method_49_code (2 : Nat) (Option.some Jvm.ClassFile.FieldType.int)) ∈ lw_all := lw_g (lw_at lw_m6 227 rfl) rfl
theorem q1535 : (Jvm.Cond.methodLink "MatrixPressModel" (288 : Nat) ({ cls := "MatrixPressModel", name := "keepRead", desc := "()V" } : Jvm.MethodName)) ∈ lw_all := lw_g (lw_at lw_m6 228 rfl) rfl
theorem q1536 : (Jvm.Cond.privateMethod ({ cls := "MatrixPressModel", name := "keepRead", desc := "()V" } : Jvm.MethodName)) ∈ lw_tbl := lw_at lw_m6 229 rfl
theorem q1537 : (Jvm.Cond.instanceMethod ({ cls := "MatrixPressModel", name := "keepRead", desc := "()V" } : Jvm.MethodName)) ∈ lw_all := lw_g (lw_at lw_m6 230 rfl) rfl
theorem q1538 : (Jvm.Cond.code ({ cls := "MatrixPressModel", name := "keepRead", desc := "()V" } : Jvm.MethodName) prog_16_method_51_code (2 : Nat) (Option.none : Option Jvm.ClassFile.FieldType)) ∈ lw_all := lw_g (lw_at lw_m6 231 rfl) rfl
theorem q1540 : (Jvm.Cond.instanceMethod ({ cls := "MatrixPressModel", name := "decode", desc := "()I" } : Jvm.MethodName)) ∈ lw_all := lw_g (lw_at lw_m6 233 rfl) rfl
theorem q1541 : (Jvm.Cond.selects "MatrixPressModel" ({ cls := "MatrixPressModel", name := "decode", desc := "()I" } : Jvm.MethodName) ({ cls := "MatrixPressModel", name := "decode", desc := "()I" } : Jvm.MethodName)) ∈ lw_all := lw_g (lw_at lw_m6 234 rfl) rfl
theorem q1542 : (Jvm.Cond.code ({ cls := "MatrixPressModel", name := "decode", desc := "()I" } : Jvm.MethodName) prog_16_method_53_code (2 : Nat) (Option.some Jvm.ClassFile.FieldType.int)) ∈ lw_all := lw_g (lw_at lw_m6 235 rfl) rfl
theorem q1543 : (Jvm.Cond.methodLink "MatrixPressModel" (291 : Nat) ({ cls := "MatrixPressModel", name := "mendAll", desc := "(I)Z" } : Jvm.MethodName)) ∈ lw_all := lw_g (lw_at lw_m6 236 rfl) rfl
theorem q1544 : (Jvm.Cond.privateMethod ({ cls := "MatrixPressModel", name := "mendAll", desc := "(I)Z" } : Jvm.MethodName)) ∈ lw_tbl := lw_at lw_m6 237 rfl
theorem q1545 : (Jvm.Cond.instanceMethod ({ cls := "MatrixPressModel", name := "mendAll", desc := "(I)Z" } : Jvm.MethodName)) ∈ lw_all := lw_g (lw_at lw_m6 238 rfl) rfl
theorem q1546 : (Jvm.Cond.code ({ cls := "MatrixPressModel", name := "mendAll", desc := "(I)Z" } : Jvm.MethodName) prog_16_method_40_code (7 : Nat) (Option.some Jvm.ClassFile.FieldType.boolean)) ∈ lw_all := lw_g (lw_at lw_m6 239 rfl) rfl
theorem q1547 : (Jvm.Cond.methodLink "MatrixPressModel" (228 : Nat) ({ cls := "MatrixPressModel", name := "mend", desc := "(I)Z" } : Jvm.MethodName)) ∈ lw_all := lw_g (lw_at lw_m7 0 rfl) rfl
theorem q1548 : (Jvm.Cond.privateMethod ({ cls := "MatrixPressModel", name := "mend", desc := "(I)Z" } : Jvm.MethodName)) ∈ lw_tbl := lw_at lw_m7 1 rfl
theorem q1549 : (Jvm.Cond.instanceMethod ({ cls := "MatrixPressModel", name := "mend", desc := "(I)Z" } : Jvm.MethodName)) ∈ lw_all := lw_g (lw_at lw_m7 2 rfl) rfl
theorem q1550 : (Jvm.Cond.code ({ cls := "MatrixPressModel", name := "mend", desc := "(I)Z" } : Jvm.MethodName) prog_16_method_37_code (6 : Nat) (Option.some Jvm.ClassFile.FieldType.boolean)) ∈ lw_all := lw_g (lw_at lw_m7 3 rfl) rfl
theorem q1551 : (Jvm.Cond.methodLink "MatrixPressModel" (214 : Nat) ({ cls := "MatrixPressModel", name := "sum", desc := "(I)Z" } : Jvm.MethodName)) ∈ lw_all := lw_g (lw_at lw_m7 4 rfl) rfl
theorem q1552 : (Jvm.Cond.privateMethod ({ cls := "MatrixPressModel", name := "sum", desc := "(I)Z" } : Jvm.MethodName)) ∈ lw_tbl := lw_at lw_m7 5 rfl
theorem q1553 : (Jvm.Cond.instanceMethod ({ cls := "MatrixPressModel", name := "sum", desc := "(I)Z" } : Jvm.MethodName)) ∈ lw_all := lw_g (lw_at lw_m7 6 rfl) rfl
theorem q1554 : (Jvm.Cond.code ({ cls := "MatrixPressModel", name := "sum", desc := "(I)Z" } : Jvm.MethodName) prog_16_method_35_code (6 : Nat) (Option.some Jvm.ClassFile.FieldType.boolean)) ∈ lw_all := lw_g (lw_at lw_m7 7 rfl) rfl
theorem q1555 : (Jvm.Cond.methodLink "MatrixPressModel" (204 : Nat) ({ cls := "MatrixPressModel", name := "product", desc := "(II)I" } : Jvm.MethodName)) ∈ lw_all := lw_g (lw_at lw_m7 8 rfl) rfl
theorem q1556 : (Jvm.Cond.privateMethod ({ cls := "MatrixPressModel", name := "product", desc := "(II)I" } : Jvm.MethodName)) ∈ lw_tbl := lw_at lw_m7 9 rfl
theorem q1557 : (Jvm.Cond.instanceMethod ({ cls := "MatrixPressModel", name := "product", desc := "(II)I" } : Jvm.MethodName)) ∈ lw_all := lw_g (lw_at lw_m7 10 rfl) rfl
theorem q1558 : (Jvm.Cond.code ({ cls := "MatrixPressModel", name := "product", desc := "(II)I" } : Jvm.MethodName) prog_16_method_31_code (3 : Nat) (Option.some Jvm.ClassFile.FieldType.int)) ∈ lw_all := lw_g (lw_at lw_m7 11 rfl) rfl
theorem q1559 : (Jvm.Cond.methodLink "MatrixPressModel" (217 : Nat) ({ cls := "MatrixPressModel", name := "solve", desc := "(I)Z" } : Jvm.MethodName)) ∈ lw_all := lw_g (lw_at lw_m7 12 rfl) rfl
theorem q1560 : (Jvm.Cond.privateMethod ({ cls := "MatrixPressModel", name := "solve", desc := "(I)Z" } : Jvm.MethodName)) ∈ lw_tbl := lw_at lw_m7 13 rfl
theorem q1561 : (Jvm.Cond.instanceMethod ({ cls := "MatrixPressModel", name := "solve", desc := "(I)Z" } : Jvm.MethodName)) ∈ lw_all := lw_g (lw_at lw_m7 14 rfl) rfl
theorem q1562 : (Jvm.Cond.code ({ cls := "MatrixPressModel", name := "solve", desc := "(I)Z" } : Jvm.MethodName) prog_16_method_36_code (9 : Nat) (Option.some Jvm.ClassFile.FieldType.boolean)) ∈ lw_all := lw_g (lw_at lw_m7 15 rfl) rfl
theorem q1563 : (Jvm.Cond.methodLink "MatrixPressModel" (211 : Nat) ({ cls := "MatrixPressModel", name := "quotient", desc := "(II)I" } : Jvm.MethodName)) ∈ lw_all := lw_g (lw_at lw_m7 16 rfl) rfl
theorem q1564 : (Jvm.Cond.privateMethod ({ cls := "MatrixPressModel", name := "quotient", desc := "(II)I" } : Jvm.MethodName)) ∈ lw_tbl := lw_at lw_m7 17 rfl
theorem q1565 : (Jvm.Cond.instanceMethod ({ cls := "MatrixPressModel", name := "quotient", desc := "(II)I" } : Jvm.MethodName)) ∈ lw_all := lw_g (lw_at lw_m7 18 rfl) rfl
theorem q1566 : (Jvm.Cond.code ({ cls := "MatrixPressModel", name := "quotient", desc := "(II)I" } : Jvm.MethodName) prog_16_method_32_code (3 : Nat) (Option.some Jvm.ClassFile.FieldType.int)) ∈ lw_all := lw_g (lw_at lw_m7 19 rfl) rfl
theorem q1567 : (Jvm.Cond.methodLink "MatrixPressModel" (220 : Nat) ({ cls := "MatrixPressModel", name := "places", desc := "(I)Z" } : Jvm.MethodName)) ∈ lw_all := lw_g (lw_at lw_m7 20 rfl) rfl
theorem q1568 : (Jvm.Cond.privateMethod ({ cls := "MatrixPressModel", name := "places", desc := "(I)Z" } : Jvm.MethodName)) ∈ lw_tbl := lw_at lw_m7 21 rfl
theorem q1569 : (Jvm.Cond.instanceMethod ({ cls := "MatrixPressModel", name := "places", desc := "(I)Z" } : Jvm.MethodName)) ∈ lw_all := lw_g (lw_at lw_m7 22 rfl) rfl
theorem q1570 : (Jvm.Cond.code ({ cls := "MatrixPressModel", name := "places", desc := "(I)Z" } : Jvm.MethodName) prog_16_method_38_code (7 : Nat) (Option.some Jvm.ClassFile.FieldType.boolean)) ∈ lw_all := lw_g (lw_at lw_m7 23 rfl) rfl
theorem q1571 : (Jvm.Cond.methodLink "MatrixPressModel" (223 : Nat) ({ cls := "MatrixPressModel", name := "values", desc := "(II)Z" } : Jvm.MethodName)) ∈ lw_all := lw_g (lw_at lw_m7 24 rfl) rfl
theorem q1572 : (Jvm.Cond.privateMethod ({ cls := "MatrixPressModel", name := "values", desc := "(II)Z" } : Jvm.MethodName)) ∈ lw_tbl := lw_at lw_m7 25 rfl
theorem q1573 : (Jvm.Cond.instanceMethod ({ cls := "MatrixPressModel", name := "values", desc := "(II)Z" } : Jvm.MethodName)) ∈ lw_all := lw_g (lw_at lw_m7 26 rfl) rfl
theorem q1574 : (Jvm.Cond.code ({ cls := "MatrixPressModel", name := "values", desc := "(II)Z" } : Jvm.MethodName) prog_16_method_39_code (5 : Nat) (Option.some Jvm.ClassFile.FieldType.boolean)) ∈ lw_all := lw_g (lw_at lw_m7 27 rfl) rfl
theorem q1576 : (Jvm.Cond.instanceMethod ({ cls := "MatrixPressModel", name := "letter", desc := "(I)I" } : Jvm.MethodName)) ∈ lw_all := lw_g (lw_at lw_m7 29 rfl) rfl
theorem q1577 : (Jvm.Cond.selects "MatrixPressModel" ({ cls := "MatrixPressModel", name := "letter", desc := "(I)I" } : Jvm.MethodName) ({ cls := "MatrixPressModel", name := "letter", desc := "(I)I" } : Jvm.MethodName)) ∈ lw_all := lw_g (lw_at lw_m7 30 rfl) rfl
theorem q1578 : (Jvm.Cond.code ({ cls := "MatrixPressModel", name := "letter", desc := "(I)I" } : Jvm.MethodName) prog_16_method_54_code (2 : Nat) (Option.some Jvm.ClassFile.FieldType.int)) ∈ lw_all := lw_g (lw_at lw_m7 31 rfl) rfl
theorem q1580 : (Jvm.Cond.instanceMethod ({ cls := "MatrixPressModel", name := "encode", desc := "(I)I" } : Jvm.MethodName)) ∈ lw_all := lw_g (lw_at lw_m7 33 rfl) rfl
theorem q1581 : (Jvm.Cond.selects "MatrixPressModel" ({ cls := "MatrixPressModel", name := "encode", desc := "(I)I" } : Jvm.MethodName) ({ cls := "MatrixPressModel", name := "encode", desc := "(I)I" } : Jvm.MethodName)) ∈ lw_all := lw_g (lw_at lw_m7 34 rfl) rfl
theorem q1582 : (Jvm.Cond.code ({ cls := "MatrixPressModel", name := "encode", desc := "(I)I" } : Jvm.MethodName) prog_16_method_87_code (7 : Nat) (Option.some Jvm.ClassFile.FieldType.int)) ∈ lw_all := lw_g (lw_at lw_m7 35 rfl) rfl
theorem q1583 : (Jvm.Cond.methodLink "MatrixPressModel" (409 : Nat) ({ cls := "MatrixPressModel", name := "work", desc := "(I)V" } : Jvm.MethodName)) ∈ lw_all := lw_g (lw_at lw_m7 36 rfl) rfl
theorem q1584 : (Jvm.Cond.privateMethod ({ cls := "MatrixPressModel", name := "work", desc := "(I)V" } : Jvm.MethodName)) ∈ lw_tbl := lw_at lw_m7 37 rfl
theorem q1585 : (Jvm.Cond.instanceMethod ({ cls := "MatrixPressModel", name := "work", desc := "(I)V" } : Jvm.MethodName)) ∈ lw_all := lw_g (lw_at lw_m7 38 rfl) rfl
theorem q1586 : (Jvm.Cond.code ({ cls := "MatrixPressModel", name := "work", desc := "(I)V" } : Jvm.MethodName) prog_16_method_68_code (3 : Nat) (Option.none : Option Jvm.ClassFile.FieldType)) ∈ lw_all := lw_g (lw_at lw_m7 39 rfl) rfl
theorem q1587 : (Jvm.Cond.constant "MatrixPressModel" (297 : Nat) (1000000 : Int32)) ∈ lw_all := lw_g (lw_at lw_m7 40 rfl) rfl
theorem q1588 : (Jvm.Cond.methodLink "MatrixPressModel" (338 : Nat) ({ cls := "MatrixPressModel", name := "workAscii", desc := "(I)V" } : Jvm.MethodName)) ∈ lw_all := lw_g (lw_at lw_m7 41 rfl) rfl
theorem q1589 : (Jvm.Cond.privateMethod ({ cls := "MatrixPressModel", name := "workAscii", desc := "(I)V" } : Jvm.MethodName)) ∈ lw_tbl := lw_at lw_m7 42 rfl
theorem q1590 : (Jvm.Cond.instanceMethod ({ cls := "MatrixPressModel", name := "workAscii", desc := "(I)V" } : Jvm.MethodName)) ∈ lw_all := lw_g (lw_at lw_m7 43 rfl) rfl
theorem q1591 : (Jvm.Cond.code ({ cls := "MatrixPressModel", name := "workAscii", desc := "(I)V" } : Jvm.MethodName) prog_16_method_69_code (5 : Nat) (Option.none : Option Jvm.ClassFile.FieldType)) ∈ lw_all := lw_g (lw_at lw_m7 44 rfl) rfl
theorem q1592 : (Jvm.Cond.methodLink "MatrixPressModel" (344 : Nat) ({ cls := "MatrixPressModel", name := "none", desc := "()V" } : Jvm.MethodName)) ∈ lw_all := lw_g (lw_at lw_m7 45 rfl) rfl
theorem q1593 : (Jvm.Cond.privateMethod ({ cls := "MatrixPressModel", name := "none", desc := "()V" } : Jvm.MethodName)) ∈ lw_tbl := lw_at lw_m7 46 rfl
theorem q1594 : (Jvm.Cond.instanceMethod ({ cls := "MatrixPressModel", name := "none", desc := "()V" } : Jvm.MethodName)) ∈ lw_all := lw_g (lw_at lw_m7 47 rfl) rfl
theorem q1595 : (Jvm.Cond.code ({ cls := "MatrixPressModel", name := "none", desc := "()V" } : Jvm.MethodName) prog_16_method_55_code (1 : Nat) (Option.none : Option Jvm.ClassFile.FieldType)) ∈ lw_all := lw_g (lw_at lw_m7 48 rfl) rfl
theorem q1596 : (Jvm.Cond.methodLink "MatrixPressModel" (308 : Nat) ({ cls := "MatrixPressModel", name := "offer", desc := "(II)V" } : Jvm.MethodName)) ∈ lw_all := lw_g (lw_at lw_m7 49 rfl) rfl
theorem q1597 : (Jvm.Cond.privateMethod ({ cls := "MatrixPressModel", name := "offer", desc := "(II)V" } : Jvm.MethodName)) ∈ lw_tbl := lw_at lw_m7 50 rfl
theorem q1598 : (Jvm.Cond.instanceMethod ({ cls := "MatrixPressModel", name := "offer", desc := "(II)V" } : Jvm.MethodName)) ∈ lw_all := lw_g (lw_at lw_m7 51 rfl) rfl
theorem q1599 : (Jvm.Cond.code ({ cls := "MatrixPressModel", name := "offer", desc := "(II)V" } : Jvm.MethodName) prog_16_method_56_code (4 : Nat) (Option.none : Option Jvm.ClassFile.FieldType)) ∈ lw_all := lw_g (lw_at lw_m7 52 rfl) rfl
theorem q1600 : (Jvm.Cond.constant "MatrixPressModel" (304 : Nat) (2147483647 : Int32)) ∈ lw_all := lw_g (lw_at lw_m7 53 rfl) rfl
theorem q1601 : (Jvm.Cond.methodLink "MatrixPressModel" (311 : Nat) ({ cls := "MatrixPressModel", name := "isDigits", desc := "(I)Z" } : Jvm.MethodName)) ∈ lw_all := lw_g (lw_at lw_m7 54 rfl) rfl
theorem q1602 : (Jvm.Cond.privateMethod ({ cls := "MatrixPressModel", name := "isDigits", desc := "(I)Z" } : Jvm.MethodName)) ∈ lw_tbl := lw_at lw_m7 55 rfl
theorem q1603 : (Jvm.Cond.instanceMethod ({ cls := "MatrixPressModel", name := "isDigits", desc := "(I)Z" } : Jvm.MethodName)) ∈ lw_all := lw_g (lw_at lw_m7 56 rfl) rfl
theorem q1604 : (Jvm.Cond.code ({ cls := "MatrixPressModel", name := "isDigits", desc := "(I)Z" } : Jvm.MethodName) prog_16_method_59_code (2 : Nat) (Option.some Jvm.ClassFile.FieldType.boolean)) ∈ lw_all := lw_g (lw_at lw_m7 57 rfl) rfl
theorem q1605 : (Jvm.Cond.methodLink "MatrixPressModel" (314 : Nat) ({ cls := "MatrixPressModel", name := "isDigit", desc := "(I)Z" } : Jvm.MethodName)) ∈ lw_all := lw_g (lw_at lw_m7 58 rfl) rfl
theorem q1606 : (Jvm.Cond.static ({ cls := "MatrixPressModel", name := "isDigit", desc := "(I)Z" } : Jvm.MethodName)) ∈ lw_all := lw_g (lw_at lw_m7 59 rfl) rfl
theorem q1607 : (Jvm.Cond.code ({ cls := "MatrixPressModel", name := "isDigit", desc := "(I)Z" } : Jvm.MethodName) prog_16_method_60_code (1 : Nat) (Option.some Jvm.ClassFile.FieldType.boolean)) ∈ lw_all := lw_g (lw_at lw_m7 60 rfl) rfl
theorem q1608 : (Jvm.Cond.methodLink "MatrixPressModel" (326 : Nat) ({ cls := "MatrixPressModel", name := "offerFrom", desc := "(III)V" } : Jvm.MethodName)) ∈ lw_all := lw_g (lw_at lw_m7 61 rfl) rfl
theorem q1609 : (Jvm.Cond.privateMethod ({ cls := "MatrixPressModel", name := "offerFrom", desc := "(III)V" } : Jvm.MethodName)) ∈ lw_tbl := lw_at lw_m7 62 rfl
theorem q1610 : (Jvm.Cond.instanceMethod ({ cls := "MatrixPressModel", name := "offerFrom", desc := "(III)V" } : Jvm.MethodName)) ∈ lw_all := lw_g (lw_at lw_m7 63 rfl) rfl
theorem q1611 : (Jvm.Cond.code ({ cls := "MatrixPressModel", name := "offerFrom", desc := "(III)V" } : Jvm.MethodName) prog_16_method_57_code (6 : Nat) (Option.none : Option Jvm.ClassFile.FieldType)) ∈ lw_all := lw_g (lw_at lw_m7 64 rfl) rfl
theorem q1612 : (Jvm.Cond.methodLink "MatrixPressModel" (347 : Nat) ({ cls := "MatrixPressModel", name := "spell", desc := "(II)I" } : Jvm.MethodName)) ∈ lw_all := lw_g (lw_at lw_m7 65 rfl) rfl
theorem q1613 : (Jvm.Cond.privateMethod ({ cls := "MatrixPressModel", name := "spell", desc := "(II)I" } : Jvm.MethodName)) ∈ lw_tbl := lw_at lw_m7 66 rfl
theorem q1614 : (Jvm.Cond.instanceMethod ({ cls := "MatrixPressModel", name := "spell", desc := "(II)I" } : Jvm.MethodName)) ∈ lw_all := lw_g (lw_at lw_m7 67 rfl) rfl
theorem q1615 : (Jvm.Cond.code ({ cls := "MatrixPressModel", name := "spell", desc := "(II)I" } : Jvm.MethodName) prog_16_method_65_code (4 : Nat) (Option.some Jvm.ClassFile.FieldType.int)) ∈ lw_all := lw_g (lw_at lw_m7 68 rfl) rfl
theorem q1616 : (Jvm.Cond.methodLink "MatrixPressModel" (335 : Nat) ({ cls := "MatrixPressModel", name := "spellSmall", desc := "(III)I" } : Jvm.MethodName)) ∈ lw_all := lw_g (lw_at lw_m7 69 rfl) rfl
theorem q1617 : (Jvm.Cond.privateMethod ({ cls := "MatrixPressModel", name := "spellSmall", desc := "(III)I" } : Jvm.MethodName)) ∈ lw_tbl := lw_at lw_m7 70 rfl
theorem q1618 : (Jvm.Cond.instanceMethod ({ cls := "MatrixPressModel", name := "spellSmall", desc := "(III)I" } : Jvm.MethodName)) ∈ lw_all := lw_g (lw_at lw_m7 71 rfl) rfl
theorem q1619 : (Jvm.Cond.code ({ cls := "MatrixPressModel", name := "spellSmall", desc := "(III)I" } : Jvm.MethodName) prog_16_method_66_code (7 : Nat) (Option.some Jvm.ClassFile.FieldType.int)) ∈ lw_all := lw_g (lw_at lw_m7 72 rfl) rfl
theorem q1620 : (Jvm.Cond.methodLink "MatrixPressModel" (350 : Nat) ({ cls := "MatrixPressModel", name := "isSix", desc := "(I)Z" } : Jvm.MethodName)) ∈ lw_all := lw_g (lw_at lw_m7 73 rfl) rfl
theorem q1621 : (Jvm.Cond.static ({ cls := "MatrixPressModel", name := "isSix", desc := "(I)Z" } : Jvm.MethodName)) ∈ lw_all := lw_g (lw_at lw_m7 74 rfl) rfl
theorem q1622 : (Jvm.Cond.code ({ cls := "MatrixPressModel", name := "isSix", desc := "(I)Z" } : Jvm.MethodName) prog_16_method_67_code (1 : Nat) (Option.some Jvm.ClassFile.FieldType.boolean)) ∈ lw_all := lw_g (lw_at lw_m7 75 rfl) rfl
theorem q1623 : (Jvm.Cond.methodLink "MatrixPressModel" (341 : Nat) ({ cls := "MatrixPressModel", name := "workRuns", desc := "(I)V" } : Jvm.MethodName)) ∈ lw_all := lw_g (lw_at lw_m7 76 rfl) rfl
theorem q1624 : (Jvm.Cond.privateMethod ({ cls := "MatrixPressModel", name := "workRuns", desc := "(I)V" } : Jvm.MethodName)) ∈ lw_tbl := lw_at lw_m7 77 rfl
theorem q1625 : (Jvm.Cond.instanceMethod ({ cls := "MatrixPressModel", name := "workRuns", desc := "(I)V" } : Jvm.MethodName)) ∈ lw_all := lw_g (lw_at lw_m7 78 rfl) rfl
theorem q1626 : (Jvm.Cond.code ({ cls := "MatrixPressModel", name := "workRuns", desc := "(I)V" } : Jvm.MethodName) prog_16_method_70_code (6 : Nat) (Option.none : Option Jvm.ClassFile.FieldType)) ∈ lw_all := lw_g (lw_at lw_m7 79 rfl) rfl
theorem q1627 : (Jvm.Cond.methodLink "MatrixPressModel" (353 : Nat) ({ cls := "MatrixPressModel", name := "endThrees", desc := "(II)V" } : Jvm.MethodName)) ∈ lw_all := lw_g (lw_at lw_m7 80 rfl) rfl
theorem q1628 : (Jvm.Cond.privateMethod ({ cls := "MatrixPressModel", name := "endThrees", desc := "(II)V" } : Jvm.MethodName)) ∈ lw_tbl := lw_at lw_m7 81 rfl
theorem q1629 : (Jvm.Cond.instanceMethod ({ cls := "MatrixPressModel", name := "endThrees", desc := "(II)V" } : Jvm.MethodName)) ∈ lw_all := lw_g (lw_at lw_m7 82 rfl) rfl
theorem q1630 : (Jvm.Cond.code ({ cls := "MatrixPressModel", name := "endThrees", desc := "(II)V" } : Jvm.MethodName) prog_16_method_62_code (3 : Nat) (Option.none : Option Jvm.ClassFile.FieldType)) ∈ lw_all := lw_g (lw_at lw_m7 83 rfl) rfl
theorem q1631 : (Jvm.Cond.methodLink "MatrixPressModel" (329 : Nat) ({ cls := "MatrixPressModel", name := "offerOpen", desc := "(III)V" } : Jvm.MethodName)) ∈ lw_all := lw_g (lw_at lw_m7 84 rfl) rfl
theorem q1632 : (Jvm.Cond.privateMethod ({ cls := "MatrixPressModel", name := "offerOpen", desc := "(III)V" } : Jvm.MethodName)) ∈ lw_tbl := lw_at lw_m7 85 rfl
theorem q1633 : (Jvm.Cond.instanceMethod ({ cls := "MatrixPressModel", name := "offerOpen", desc := "(III)V" } : Jvm.MethodName)) ∈ lw_all := lw_g (lw_at lw_m7 86 rfl) rfl
theorem q1634 : (Jvm.Cond.code ({ cls := "MatrixPressModel", name := "offerOpen", desc := "(III)V" } : Jvm.MethodName) prog_16_method_61_code (5 : Nat) (Option.none : Option Jvm.ClassFile.FieldType)) ∈ lw_all := lw_g (lw_at lw_m7 87 rfl) rfl
theorem q1635 : (Jvm.Cond.methodLink "MatrixPressModel" (323 : Nat) ({ cls := "MatrixPressModel", name := "isTail", desc := "(II)Z" } : Jvm.MethodName)) ∈ lw_all := lw_g (lw_at lw_m7 88 rfl) rfl
theorem q1636 : (Jvm.Cond.privateMethod ({ cls := "MatrixPressModel", name := "isTail", desc := "(II)Z" } : Jvm.MethodName)) ∈ lw_tbl := lw_at lw_m7 89 rfl
theorem q1637 : (Jvm.Cond.instanceMethod ({ cls := "MatrixPressModel", name := "isTail", desc := "(II)Z" } : Jvm.MethodName)) ∈ lw_all := lw_g (lw_at lw_m7 90 rfl) rfl
theorem q1638 : (Jvm.Cond.code ({ cls := "MatrixPressModel", name := "isTail", desc := "(II)Z" } : Jvm.MethodName) prog_16_method_58_code (4 : Nat) (Option.some Jvm.ClassFile.FieldType.boolean)) ∈ lw_all := lw_g (lw_at lw_m7 91 rfl) rfl
theorem q1639 : (Jvm.Cond.methodLink "MatrixPressModel" (356 : Nat) ({ cls := "MatrixPressModel", name := "endSixes", desc := "(II)V" } : Jvm.MethodName)) ∈ lw_all := lw_g (lw_at lw_m7 92 rfl) rfl
theorem q1640 : (Jvm.Cond.privateMethod ({ cls := "MatrixPressModel", name := "endSixes", desc := "(II)V" } : Jvm.MethodName)) ∈ lw_tbl := lw_at lw_m7 93 rfl
theorem q1641 : (Jvm.Cond.instanceMethod ({ cls := "MatrixPressModel", name := "endSixes", desc := "(II)V" } : Jvm.MethodName)) ∈ lw_all := lw_g (lw_at lw_m7 94 rfl) rfl
theorem q1642 : (Jvm.Cond.code ({ cls := "MatrixPressModel", name := "endSixes", desc := "(II)V" } : Jvm.MethodName) prog_16_method_64_code (3 : Nat) (Option.none : Option Jvm.ClassFile.FieldType)) ∈ lw_all := lw_g (lw_at lw_m7 95 rfl) rfl
theorem q1643 : (Jvm.Cond.methodLink "MatrixPressModel" (332 : Nat) ({ cls := "MatrixPressModel", name := "lastWords", desc := "(I)I" } : Jvm.MethodName)) ∈ lw_all := lw_g (lw_at lw_m7 96 rfl) rfl
theorem q1644 : (Jvm.Cond.static ({ cls := "MatrixPressModel", name := "lastWords", desc := "(I)I" } : Jvm.MethodName)) ∈ lw_all := lw_g (lw_at lw_m7 97 rfl) rfl
theorem q1645 : (Jvm.Cond.code ({ cls := "MatrixPressModel", name := "lastWords", desc := "(I)I" } : Jvm.MethodName) prog_16_method_63_code (1 : Nat) (Option.some Jvm.ClassFile.FieldType.int)) ∈ lw_all := lw_g (lw_at lw_m7 98 rfl) rfl
theorem q1646 : (Jvm.Cond.methodLink "MatrixPressModel" (412 : Nat) ({ cls := "MatrixPressModel", name := "isAllowed", desc := "(II)Z" } : Jvm.MethodName)) ∈ lw_all := lw_g (lw_at lw_m7 99 rfl) rfl
theorem q1647 : (Jvm.Cond.privateMethod ({ cls := "MatrixPressModel", name := "isAllowed", desc := "(II)Z" } : Jvm.MethodName)) ∈ lw_tbl := lw_at lw_m7 100 rfl
theorem q1648 : (Jvm.Cond.instanceMethod ({ cls := "MatrixPressModel", name := "isAllowed", desc := "(II)Z" } : Jvm.MethodName)) ∈ lw_all := lw_g (lw_at lw_m7 101 rfl) rfl
theorem q1649 : (Jvm.Cond.code ({ cls := "MatrixPressModel", name := "isAllowed", desc := "(II)Z" } : Jvm.MethodName) prog_16_method_86_code (3 : Nat) (Option.some Jvm.ClassFile.FieldType.boolean)) ∈ lw_all := lw_g (lw_at lw_m7 102 rfl) rfl
theorem q1650 : (Jvm.Cond.methodLink "MatrixPressModel" (415 : Nat) ({ cls := "MatrixPressModel", name := "lengthIn", desc := "(I)I" } : Jvm.MethodName)) ∈ lw_all := lw_g (lw_at lw_m7 103 rfl) rfl
theorem q1651 : (Jvm.Cond.privateMethod ({ cls := "MatrixPressModel", name := "lengthIn", desc := "(I)I" } : Jvm.MethodName)) ∈ lw_tbl := lw_at lw_m7 104 rfl
theorem q1652 : (Jvm.Cond.instanceMethod ({ cls := "MatrixPressModel", name := "lengthIn", desc := "(I)I" } : Jvm.MethodName)) ∈ lw_all := lw_g (lw_at lw_m7 105 rfl) rfl
theorem q1653 : (Jvm.Cond.code ({ cls := "MatrixPressModel", name := "lengthIn", desc := "(I)I" } : Jvm.MethodName) prog_16_method_72_code (3 : Nat) (Option.some Jvm.ClassFile.FieldType.int)) ∈ lw_all := lw_g (lw_at lw_m7 106 rfl) rfl
theorem q1654 : (Jvm.Cond.methodLink "MatrixPressModel" (359 : Nat) ({ cls := "MatrixPressModel", name := "has", desc := "(III)Z" } : Jvm.MethodName)) ∈ lw_all := lw_g (lw_at lw_m7 107 rfl) rfl
theorem q1655 : (Jvm.Cond.privateMethod ({ cls := "MatrixPressModel", name := "has", desc := "(III)Z" } : Jvm.MethodName)) ∈ lw_tbl := lw_at lw_m7 108 rfl
theorem q1656 : (Jvm.Cond.instanceMethod ({ cls := "MatrixPressModel", name := "has", desc := "(III)Z" } : Jvm.MethodName)) ∈ lw_all := lw_g (lw_at lw_m7 109 rfl) rfl
theorem q1657 : (Jvm.Cond.code ({ cls := "MatrixPressModel", name := "has", desc := "(III)Z" } : Jvm.MethodName) prog_16_method_71_code (5 : Nat) (Option.some Jvm.ClassFile.FieldType.boolean)) ∈ lw_all := lw_g (lw_at lw_m7 110 rfl) rfl
theorem q1658 : (Jvm.Cond.methodLink "MatrixPressModel" (421 : Nat) ({ cls := "MatrixPressModel", name := "least", desc := "(II)I" } : Jvm.MethodName)) ∈ lw_all := lw_g (lw_at lw_m7 111 rfl) rfl
theorem q1659 : (Jvm.Cond.static ({ cls := "MatrixPressModel", name := "least", desc := "(II)I" } : Jvm.MethodName)) ∈ lw_all := lw_g (lw_at lw_m7 112 rfl) rfl
theorem q1660 : (Jvm.Cond.code ({ cls := "MatrixPressModel", name := "least", desc := "(II)I" } : Jvm.MethodName) prog_16_method_2_code (2 : Nat) (Option.some Jvm.ClassFile.FieldType.int)) ∈ lw_all := lw_g (lw_at lw_m7 113 rfl) rfl
theorem q1661 : (Jvm.Cond.methodLink "MatrixPressModel" (427 : Nat) ({ cls := "MatrixPressModel", name := "build", desc := "(I)V" } : Jvm.MethodName)) ∈ lw_all := lw_g (lw_at lw_m7 114 rfl) rfl
theorem q1662 : (Jvm.Cond.privateMethod ({ cls := "MatrixPressModel", name := "build", desc := "(I)V" } : Jvm.MethodName)) ∈ lw_tbl := lw_at lw_m7 115 rfl
theorem q1663 : (Jvm.Cond.instanceMethod ({ cls := "MatrixPressModel", name := "build", desc := "(I)V" } : Jvm.MethodName)) ∈ lw_all := lw_g (lw_at lw_m7 116 rfl) rfl
theorem q1664 : (Jvm.Cond.code ({ cls := "MatrixPressModel", name := "build", desc := "(I)V" } : Jvm.MethodName) prog_16_method_76_code (7 : Nat) (Option.none : Option Jvm.ClassFile.FieldType)) ∈ lw_all := lw_g (lw_at lw_m7 117 rfl) rfl
theorem q1665 : (Jvm.Cond.methodLink "MatrixPressModel" (372 : Nat) ({ cls := "MatrixPressModel", name := "oneOfAscii", desc := "(II)I" } : Jvm.MethodName)) ∈ lw_all := lw_g (lw_at lw_m7 118 rfl) rfl
theorem q1666 : (Jvm.Cond.privateMethod ({ cls := "MatrixPressModel", name := "oneOfAscii", desc := "(II)I" } : Jvm.MethodName)) ∈ lw_tbl := lw_at lw_m7 119 rfl
theorem q1667 : (Jvm.Cond.instanceMethod ({ cls := "MatrixPressModel", name := "oneOfAscii", desc := "(II)I" } : Jvm.MethodName)) ∈ lw_all := lw_g (lw_at lw_m7 120 rfl) rfl
theorem q1668 : (Jvm.Cond.code ({ cls := "MatrixPressModel", name := "oneOfAscii", desc := "(II)I" } : Jvm.MethodName) prog_16_method_77_code (3 : Nat) (Option.some Jvm.ClassFile.FieldType.int)) ∈ lw_all := lw_g (lw_at lw_m7 121 rfl) rfl
theorem q1669 : (Jvm.Cond.methodLink "MatrixPressModel" (381 : Nat) ({ cls := "MatrixPressModel", name := "fits", desc := "(II)Z" } : Jvm.MethodName)) ∈ lw_all := lw_g (lw_at lw_m7 122 rfl) rfl
theorem q1670 : (Jvm.Cond.privateMethod ({ cls := "MatrixPressModel", name := "fits", desc := "(II)Z" } : Jvm.MethodName)) ∈ lw_tbl := lw_at lw_m7 123 rfl
theorem q1671 : (Jvm.Cond.instanceMethod ({ cls := "MatrixPressModel", name := "fits", desc := "(II)Z" } : Jvm.MethodName)) ∈ lw_all := lw_g (lw_at lw_m7 124 rfl) rfl
theorem q1672 : (Jvm.Cond.code ({ cls := "MatrixPressModel", name := "fits", desc := "(II)Z" } : Jvm.MethodName) prog_16_method_74_code (3 : Nat) (Option.some Jvm.ClassFile.FieldType.boolean)) ∈ lw_all := lw_g (lw_at lw_m7 125 rfl) rfl
theorem q1673 : (Jvm.Cond.methodLink "MatrixPressModel" (384 : Nat) ({ cls := "MatrixPressModel", name := "put", desc := "(I)V" } : Jvm.MethodName)) ∈ lw_all := lw_g (lw_at lw_m7 126 rfl) rfl
theorem q1674 : (Jvm.Cond.privateMethod ({ cls := "MatrixPressModel", name := "put", desc := "(I)V" } : Jvm.MethodName)) ∈ lw_tbl := lw_at lw_m7 127 rfl
theorem q1675 : (Jvm.Cond.instanceMethod ({ cls := "MatrixPressModel", name := "put", desc := "(I)V" } : Jvm.MethodName)) ∈ lw_all := lw_g (lw_at lw_m7 128 rfl) rfl
theorem q1676 : (Jvm.Cond.code ({ cls := "MatrixPressModel", name := "put", desc := "(I)V" } : Jvm.MethodName) prog_16_method_73_code (2 : Nat) (Option.none : Option Jvm.ClassFile.FieldType)) ∈ lw_all := lw_g (lw_at lw_m7 129 rfl) rfl
theorem q1677 : (Jvm.Cond.methodLink "MatrixPressModel" (375 : Nat) ({ cls := "MatrixPressModel", name := "run", desc := "(III)I" } : Jvm.MethodName)) ∈ lw_all := lw_g (lw_at lw_m7 130 rfl) rfl
theorem q1678 : (Jvm.Cond.privateMethod ({ cls := "MatrixPressModel", name := "run", desc := "(III)I" } : Jvm.MethodName)) ∈ lw_tbl := lw_at lw_m7 131 rfl
theorem q1679 : (Jvm.Cond.instanceMethod ({ cls := "MatrixPressModel", name := "run", desc := "(III)I" } : Jvm.MethodName)) ∈ lw_all := lw_g (lw_at lw_m7 132 rfl) rfl
theorem q1680 : (Jvm.Cond.code ({ cls := "MatrixPressModel", name := "run", desc := "(III)I" } : Jvm.MethodName) prog_16_method_78_code (4 : Nat) (Option.some Jvm.ClassFile.FieldType.int)) ∈ lw_all := lw_g (lw_at lw_m7 133 rfl) rfl
theorem q1681 : (Jvm.Cond.methodLink "MatrixPressModel" (387 : Nat) ({ cls := "MatrixPressModel", name := "runBase", desc := "(II)I" } : Jvm.MethodName)) ∈ lw_all := lw_g (lw_at lw_m7 134 rfl) rfl
theorem q1682 : (Jvm.Cond.privateMethod ({ cls := "MatrixPressModel", name := "runBase", desc := "(II)I" } : Jvm.MethodName)) ∈ lw_tbl := lw_at lw_m7 135 rfl
theorem q1683 : (Jvm.Cond.instanceMethod ({ cls := "MatrixPressModel", name := "runBase", desc := "(II)I" } : Jvm.MethodName)) ∈ lw_all := lw_g (lw_at lw_m7 136 rfl) rfl
theorem q1684 : (Jvm.Cond.code ({ cls := "MatrixPressModel", name := "runBase", desc := "(II)I" } : Jvm.MethodName) prog_16_method_84_code (8 : Nat) (Option.some Jvm.ClassFile.FieldType.int)) ∈ lw_all := lw_g (lw_at lw_m7 137 rfl) rfl
theorem q1685 : (Jvm.Cond.methodLink "MatrixPressModel" (406 : Nat) ({ cls := "MatrixPressModel", name := "mix", desc := "(I)V" } : Jvm.MethodName)) ∈ lw_all := lw_g (lw_at lw_m7 138 rfl) rfl
theorem q1686 : (Jvm.Cond.privateMethod ({ cls := "MatrixPressModel", name := "mix", desc := "(I)V" } : Jvm.MethodName)) ∈ lw_tbl := lw_at lw_m7 139 rfl
theorem q1687 : (Jvm.Cond.instanceMethod ({ cls := "MatrixPressModel", name := "mix", desc := "(I)V" } : Jvm.MethodName)) ∈ lw_all := lw_g (lw_at lw_m7 140 rfl) rfl
theorem q1688 : (Jvm.Cond.code ({ cls := "MatrixPressModel", name := "mix", desc := "(I)V" } : Jvm.MethodName) prog_16_method_85_code (2 : Nat) (Option.none : Option Jvm.ClassFile.FieldType)) ∈ lw_all := lw_g (lw_at lw_m7 141 rfl) rfl
theorem q1689 : (Jvm.Cond.methodLink "MatrixPressModel" (390 : Nat) ({ cls := "MatrixPressModel", name := "runSixes", desc := "(II)I" } : Jvm.MethodName)) ∈ lw_all := lw_g (lw_at lw_m7 142 rfl) rfl
theorem q1690 : (Jvm.Cond.privateMethod ({ cls := "MatrixPressModel", name := "runSixes", desc := "(II)I" } : Jvm.MethodName)) ∈ lw_tbl := lw_at lw_m7 143 rfl
theorem q1691 : (Jvm.Cond.instanceMethod ({ cls := "MatrixPressModel", name := "runSixes", desc := "(II)I" } : Jvm.MethodName)) ∈ lw_all := lw_g (lw_at lw_m7 144 rfl) rfl
theorem q1692 : (Jvm.Cond.code ({ cls := "MatrixPressModel", name := "runSixes", desc := "(II)I" } : Jvm.MethodName) prog_16_method_82_code (8 : Nat) (Option.some Jvm.ClassFile.FieldType.int)) ∈ lw_all := lw_g (lw_at lw_m7 145 rfl) rfl
theorem q1693 : (Jvm.Cond.methodLink "MatrixPressModel" (396 : Nat) ({ cls := "MatrixPressModel", name := "endsOpen", desc := "(III)Z" } : Jvm.MethodName)) ∈ lw_all := lw_g (lw_at lw_m7 146 rfl) rfl
theorem q1694 : (Jvm.Cond.privateMethod ({ cls := "MatrixPressModel", name := "endsOpen", desc := "(III)Z" } : Jvm.MethodName)) ∈ lw_tbl := lw_at lw_m7 147 rfl
theorem q1695 : (Jvm.Cond.instanceMethod ({ cls := "MatrixPressModel", name := "endsOpen", desc := "(III)Z" } : Jvm.MethodName)) ∈ lw_all := lw_g (lw_at lw_m7 148 rfl) rfl
theorem q1696 : (Jvm.Cond.code ({ cls := "MatrixPressModel", name := "endsOpen", desc := "(III)Z" } : Jvm.MethodName) prog_16_method_79_code (4 : Nat) (Option.some Jvm.ClassFile.FieldType.boolean)) ∈ lw_all := lw_g (lw_at lw_m7 149 rfl) rfl
theorem q1697 : (Jvm.Cond.methodLink "MatrixPressModel" (402 : Nat) ({ cls := "MatrixPressModel", name := "putSixes", desc := "(IIZ)V" } : Jvm.MethodName)) ∈ lw_all := lw_g (lw_at lw_m7 150 rfl) rfl
theorem q1698 : (Jvm.Cond.privateMethod ({ cls := "MatrixPressModel", name := "putSixes", desc := "(IIZ)V" } : Jvm.MethodName)) ∈ lw_tbl := lw_at lw_m7 151 rfl
theorem q1699 : (Jvm.Cond.instanceMethod ({ cls := "MatrixPressModel", name := "putSixes", desc := "(IIZ)V" } : Jvm.MethodName)) ∈ lw_all := lw_g (lw_at lw_m7 152 rfl) rfl
theorem q1700 : (Jvm.Cond.code ({ cls := "MatrixPressModel", name := "putSixes", desc := "(IIZ)V" } : Jvm.MethodName) prog_16_method_83_code (7 : Nat) (Option.none : Option Jvm.ClassFile.FieldType)) ∈ lw_all := lw_g (lw_at lw_m7 153 rfl) rfl
theorem q1701 : (Jvm.Cond.methodLink "MatrixPressModel" (393 : Nat) ({ cls := "MatrixPressModel", name := "runThrees", desc := "(III)I" } : Jvm.MethodName)) ∈ lw_all := lw_g (lw_at lw_m7 154 rfl) rfl
theorem q1702 : (Jvm.Cond.privateMethod ({ cls := "MatrixPressModel", name := "runThrees", desc := "(III)I" } : Jvm.MethodName)) ∈ lw_tbl := lw_at lw_m7 155 rfl
theorem q1703 : (Jvm.Cond.instanceMethod ({ cls := "MatrixPressModel", name := "runThrees", desc := "(III)I" } : Jvm.MethodName)) ∈ lw_all := lw_g (lw_at lw_m7 156 rfl) rfl
theorem q1704 : (Jvm.Cond.code ({ cls := "MatrixPressModel", name := "runThrees", desc := "(III)I" } : Jvm.MethodName) prog_16_method_80_code (9 : Nat) (Option.some Jvm.ClassFile.FieldType.int)) ∈ lw_all := lw_g (lw_at lw_m7 157 rfl) rfl
theorem q1705 : (Jvm.Cond.methodLink "MatrixPressModel" (399 : Nat) ({ cls := "MatrixPressModel", name := "putThrees", desc := "(III)V" } : Jvm.MethodName)) ∈ lw_all := lw_g (lw_at lw_m7 158 rfl) rfl
theorem q1706 : (Jvm.Cond.privateMethod ({ cls := "MatrixPressModel", name := "putThrees", desc := "(III)V" } : Jvm.MethodName)) ∈ lw_tbl := lw_at lw_m7 159 rfl
theorem q1707 : (Jvm.Cond.instanceMethod ({ cls := "MatrixPressModel", name := "putThrees", desc := "(III)V" } : Jvm.MethodName)) ∈ lw_all := lw_g (lw_at lw_m7 160 rfl) rfl
theorem q1708 : (Jvm.Cond.code ({ cls := "MatrixPressModel", name := "putThrees", desc := "(III)V" } : Jvm.MethodName) prog_16_method_81_code (9 : Nat) (Option.none : Option Jvm.ClassFile.FieldType)) ∈ lw_all := lw_g (lw_at lw_m7 161 rfl) rfl
theorem q1709 : (Jvm.Cond.methodLink "MatrixPressModel" (378 : Nat) ({ cls := "MatrixPressModel", name := "note", desc := "(IIII)V" } : Jvm.MethodName)) ∈ lw_all := lw_g (lw_at lw_m7 162 rfl) rfl
theorem q1710 : (Jvm.Cond.privateMethod ({ cls := "MatrixPressModel", name := "note", desc := "(IIII)V" } : Jvm.MethodName)) ∈ lw_tbl := lw_at lw_m7 163 rfl
theorem q1711 : (Jvm.Cond.instanceMethod ({ cls := "MatrixPressModel", name := "note", desc := "(IIII)V" } : Jvm.MethodName)) ∈ lw_all := lw_g (lw_at lw_m7 164 rfl) rfl
theorem q1712 : (Jvm.Cond.code ({ cls := "MatrixPressModel", name := "note", desc := "(IIII)V" } : Jvm.MethodName) prog_16_method_75_code (5 : Nat) (Option.none : Option Jvm.ClassFile.FieldType)) ∈ lw_all := lw_g (lw_at lw_m7 165 rfl) rfl
theorem q1713 : (Jvm.Cond.methodLink "MatrixPressModel" (430 : Nat) ({ cls := "MatrixPressModel", name := "check", desc := "(I)V" } : Jvm.MethodName)) ∈ lw_all := lw_g (lw_at lw_m7 166 rfl) rfl
theorem q1714 : (Jvm.Cond.privateMethod ({ cls := "MatrixPressModel", name := "check", desc := "(I)V" } : Jvm.MethodName)) ∈ lw_tbl := lw_at lw_m7 167 rfl
theorem q1715 : (Jvm.Cond.instanceMethod ({ cls := "MatrixPressModel", name := "check", desc := "(I)V" } : Jvm.MethodName)) ∈ lw_all := lw_g (lw_at lw_m7 168 rfl) rfl
theorem q1716 : (Jvm.Cond.code ({ cls := "MatrixPressModel", name := "check", desc := "(I)V" } : Jvm.MethodName) prog_16_method_33_code (10 : Nat) (Option.none : Option Jvm.ClassFile.FieldType)) ∈ lw_all := lw_g (lw_at lw_m7 169 rfl) rfl
theorem q1717 : (Jvm.Cond.methodLink "MatrixPressModel" (201 : Nat) ({ cls := "MatrixPressModel", name := "makeDivisor", desc := "(I)V" } : Jvm.MethodName)) ∈ lw_all := lw_g (lw_at lw_m7 170 rfl) rfl
theorem q1718 : (Jvm.Cond.privateMethod ({ cls := "MatrixPressModel", name := "makeDivisor", desc := "(I)V" } : Jvm.MethodName)) ∈ lw_tbl := lw_at lw_m7 171 rfl
theorem q1719 : (Jvm.Cond.instanceMethod ({ cls := "MatrixPressModel", name := "makeDivisor", desc := "(I)V" } : Jvm.MethodName)) ∈ lw_all := lw_g (lw_at lw_m7 172 rfl) rfl
theorem q1720 : (Jvm.Cond.code ({ cls := "MatrixPressModel", name := "makeDivisor", desc := "(I)V" } : Jvm.MethodName) prog_16_method_34_code (4 : Nat) (Option.none : Option Jvm.ClassFile.FieldType)) ∈ lw_all := lw_g (lw_at lw_m7 173 rfl) rfl
theorem q1721 : (Jvm.Cond.methodLink "MatrixPressModel" (433 : Nat) ({ cls := "MatrixPressModel", name := "draw", desc := "(I)V" } : Jvm.MethodName)) ∈ lw_all := lw_g (lw_at lw_m7 174 rfl) rfl
theorem q1722 : (Jvm.Cond.privateMethod ({ cls := "MatrixPressModel", name := "draw", desc := "(I)V" } : Jvm.MethodName)) ∈ lw_tbl := lw_at lw_m7 175 rfl
theorem q1723 : (Jvm.Cond.instanceMethod ({ cls := "MatrixPressModel", name := "draw", desc := "(I)V" } : Jvm.MethodName)) ∈ lw_all := lw_g (lw_at lw_m7 176 rfl) rfl
theorem q1724 : (Jvm.Cond.code ({ cls := "MatrixPressModel", name := "draw", desc := "(I)V" } : Jvm.MethodName) prog_16_method_30_code (9 : Nat) (Option.none : Option Jvm.ClassFile.FieldType)) ∈ lw_all := lw_g (lw_at lw_m7 177 rfl) rfl
theorem q1726 : (Jvm.Cond.instanceMethod ({ cls := "MatrixPressModel", name := "step", desc := "(II)I" } : Jvm.MethodName)) ∈ lw_all := lw_g (lw_at lw_m7 179 rfl) rfl
theorem q1727 : (Jvm.Cond.selects "MatrixPressModel" ({ cls := "MatrixPressModel", name := "step", desc := "(II)I" } : Jvm.MethodName) ({ cls := "MatrixPressModel", name := "step", desc := "(II)I" } : Jvm.MethodName)) ∈ lw_all := lw_g (lw_at lw_m7 180 rfl) rfl
theorem q1728 : (Jvm.Cond.code ({ cls := "MatrixPressModel", name := "step", desc := "(II)I" } : Jvm.MethodName) prog_16_method_88_code (3 : Nat) (Option.some Jvm.ClassFile.FieldType.int)) ∈ lw_all := lw_g (lw_at lw_m7 181 rfl) rfl
theorem q1730 : (Jvm.Cond.instanceMethod ({ cls := "MatrixPressModel", name := "about", desc := "(I)I" } : Jvm.MethodName)) ∈ lw_all := lw_g (lw_at lw_m7 183 rfl) rfl
theorem q1731 : (Jvm.Cond.selects "MatrixPressModel" ({ cls := "MatrixPressModel", name := "about", desc := "(I)I" } : Jvm.MethodName) ({ cls := "MatrixPressModel", name := "about", desc := "(I)I" } : Jvm.MethodName)) ∈ lw_all := lw_g (lw_at lw_m7 184 rfl) rfl
theorem q1732 : (Jvm.Cond.code ({ cls := "MatrixPressModel", name := "about", desc := "(I)I" } : Jvm.MethodName) prog_16_method_89_code (2 : Nat) (Option.some Jvm.ClassFile.FieldType.int)) ∈ lw_all := lw_g (lw_at lw_m7 185 rfl) rfl
theorem q1755 : (Jvm.Cond.castable "MatrixPressModel" "java/lang/Object") ∈ lw_tbl := lw_at lw_m7 208 rfl
theorem in_X13 : ∀ w ∈ wsX130, w ∈ lw_all := lw_in wsX130 [1260, 1262, 1264, 1266, 1268, 1270, 1272, 1274, 1276, 1278, 1280, 1282, 1284, 1286, 1288, 1290, 1292, 1294, 1296, 1298, 1300, 1302, 1304, 1306, 1308, 1310, 1312, 1314, 1316, 1318, 1320, 1322, 1324, 1326, 1328, 1330, 1332, 1334, 1336, 1338, 1340, 1342, 1344, 1346, 1348, 1350, 1352, 1354, 1356, 1358, 1360, 1362, 1364, 1366, 1368, 1370, 1372, 1374, 1376, 1378, 1380] (by decide +kernel) (by decide +kernel)
