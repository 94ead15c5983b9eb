/-! WhatIfSheetModel -/
set_option maxRecDepth 100000
def RX5 : String := "WhatIfSheetModel"
def TX5 : u_T := fun k => match k with
  | 0 => ("WhatIfSheetModel", "kinds", "[I", true)
  | 1 => ("WhatIfSheetModel", "given", "[Z", true)
  | 2 => ("WhatIfSheetModel", "numbers", "[D", true)
  | 3 => ("WhatIfSheetModel", "sizes", "[I", true)
  | 4 => ("WhatIfSheetModel", "marks", "[[I", true)
  | 5 => ("WhatIfSheetModel", "figures", "[[D", true)
  | 6 => ("WhatIfSheetModel", "laid", "[Z", true)
  | 7 => ("WhatIfSheetModel", "outputs", "[I", true)
  | 8 => ("WhatIfSheetModel", "ones", "[I", true)
  | 9 => ("WhatIfSheetModel", "others", "[I", true)
  | 10 => ("WhatIfSheetModel", "axisSizes", "[I", true)
  | 11 => ("WhatIfSheetModel", "axes", "[[D", true)
  | 12 => ("WhatIfSheetModel", "cellNames", "[I", true)
  | 13 => ("WhatIfSheetModel", "tableTimes", "[[I", true)
  | 14 => ("WhatIfSheetModel", "hasRead", "[Z", true)
  | 15 => ("WhatIfSheetModel", "read", "[I", true)
  | 16 => ("WhatIfSheetModel", "hasBurden", "[Z", true)
  | 17 => ("WhatIfSheetModel", "burden", "[I", true)
  | 18 => ("WhatIfSheetModel", "deep", "I", false)
  | 19 => ("WhatIfSheetModel", "told", "[[Z", true)
  | 20 => ("WhatIfSheetModel", "values", "[[D", true)
  | 21 => ("WhatIfSheetModel", "errors", "[[I", true)
  | 22 => ("WhatIfSheetModel", "blames", "[[I", true)
  | 23 => ("WhatIfSheetModel", "summed", "[[Z", true)
  | 24 => ("WhatIfSheetModel", "sums", "[[D", true)
  | 25 => ("WhatIfSheetModel", "sumErrors", "[[I", true)
  | 26 => ("WhatIfSheetModel", "top", "I", false)
  | 27 => ("WhatIfSheetModel", "heap", "[D", true)
  | 28 => ("WhatIfSheetModel", "heapErrors", "[I", true)
  | 29 => ("WhatIfSheetModel", "heapBlames", "[I", true)
  | 30 => ("WhatIfSheetModel", "caseValue", "D", false)
  | 31 => ("WhatIfSheetModel", "caseError", "I", false)
  | 32 => ("WhatIfSheetModel", "caseBlame", "I", false)
  | 33 => ("WhatIfSheetModel", "tape", "[I", true)
  | 34 => ("WhatIfSheetModel", "taped", "I", false)
  | 35 => ("WhatIfSheetModel", "newMarks", "[I", true)
  | 36 => ("WhatIfSheetModel", "newFigures", "[D", true)
  | 37 => ("WhatIfSheetModel", "newSize", "I", false)
  | 38 => ("WhatIfSheetModel", "newFigureMany", "I", false)
  | 39 => ("WhatIfSheetModel", "at", "I", false)
  | 40 => ("WhatIfSheetModel", "begin", "I", false)
  | 41 => ("WhatIfSheetModel", "token", "I", false)
  | 42 => ("WhatIfSheetModel", "sign", "I", false)
  | 43 => ("WhatIfSheetModel", "whole", "I", false)
  | 44 => ("WhatIfSheetModel", "behind", "I", false)
  | 45 => ("WhatIfSheetModel", "opened", "I", false)
  | 46 => ("WhatIfSheetModel", "isWrong", "Z", false)
  | 47 => ("WhatIfSheetModel", "oldMarks", "[I", true)
  | 48 => ("WhatIfSheetModel", "oldFigures", "[D", true)
  | 49 => ("WhatIfSheetModel", "hasLeast", "[Z", true)
  | 50 => ("WhatIfSheetModel", "least", "[I", true)
  | 51 => ("WhatIfSheetModel", "fMany", "I", false)
  | 52 => ("WhatIfSheetModel", "fFails", "Z", false)
  | 53 => ("WhatIfSheetModel", "found", "D", false)
  | 54 => ("WhatIfSheetModel", "foundF", "D", false)
  | 55 => ("WhatIfSheetModel", "oldNumbers", "[D", true)
  | 56 => ("WhatIfSheetModel", "oldGiven", "[Z", true)
  | 57 => ("WhatIfSheetModel", "hasImage", "Z", false)
  | 58 => ("WhatIfSheetModel", "imageKinds", "[I", true)
  | 59 => ("WhatIfSheetModel", "imageSizes", "[I", true)
  | 60 => ("WhatIfSheetModel", "imageGiven", "[Z", true)
  | 61 => ("WhatIfSheetModel", "imageLaid", "[Z", true)
  | 62 => ("WhatIfSheetModel", "imageNumbers", "[D", true)
  | 63 => ("WhatIfSheetModel", "imageMarks", "[[I", true)
  | 64 => ("WhatIfSheetModel", "imageFigures", "[[D", true)
  | 65 => ("WhatIfSheetModel", "imageOutputs", "[I", true)
  | 66 => ("WhatIfSheetModel", "imageOnes", "[I", true)
  | 67 => ("WhatIfSheetModel", "imageOthers", "[I", true)
  | 68 => ("WhatIfSheetModel", "imageAxisSizes", "[I", true)
  | 69 => ("WhatIfSheetModel", "imageAxes", "[[D", true)
  | 70 => ("WhatIfSheetModel", "rows", "[I", true)
  | 71 => ("WhatIfSheetModel", "lengths", "[I", true)
  | 72 => ("WhatIfSheetModel", "items", "[[D", true)
  | 73 => ("WhatIfSheetModel", "isFailed", "[[Z", true)
  | 74 => ("WhatIfSheetModel", "passed", "[D", true)
  | _ => ("WhatIfSheetModel", "passedFailed", "[Z", true)
def tyX5 : Nat → FieldType := fun k => match k with
  | 0 => .array .int
  | 1 => .array .boolean
  | 2 => .array .double
  | 3 => .array .int
  | 4 => .array (.array .int)
  | 5 => .array (.array .double)
  | 6 => .array .boolean
  | 7 => .array .int
  | 8 => .array .int
  | 9 => .array .int
  | 10 => .array .int
  | 11 => .array (.array .double)
  | 12 => .array .int
  | 13 => .array (.array .int)
  | 14 => .array .boolean
  | 15 => .array .int
  | 16 => .array .boolean
  | 17 => .array .int
  | 18 => .int
  | 19 => .array (.array .boolean)
  | 20 => .array (.array .double)
  | 21 => .array (.array .int)
  | 22 => .array (.array .int)
  | 23 => .array (.array .boolean)
  | 24 => .array (.array .double)
  | 25 => .array (.array .int)
  | 26 => .int
  | 27 => .array .double
  | 28 => .array .int
  | 29 => .array .int
  | 30 => .double
  | 31 => .int
  | 32 => .int
  | 33 => .array .int
  | 34 => .int
  | 35 => .array .int
  | 36 => .array .double
  | 37 => .int
  | 38 => .int
  | 39 => .int
  | 40 => .int
  | 41 => .int
  | 42 => .int
  | 43 => .int
  | 44 => .int
  | 45 => .int
  | 46 => .boolean
  | 47 => .array .int
  | 48 => .array .double
  | 49 => .array .boolean
  | 50 => .array .int
  | 51 => .int
  | 52 => .boolean
  | 53 => .double
  | 54 => .double
  | 55 => .array .double
  | 56 => .array .boolean
  | 57 => .boolean
  | 58 => .array .int
  | 59 => .array .int
  | 60 => .array .boolean
  | 61 => .array .boolean
  | 62 => .array .double
  | 63 => .array (.array .int)
  | 64 => .array (.array .double)
  | 65 => .array .int
  | 66 => .array .int
  | 67 => .array .int
  | 68 => .array .int
  | 69 => .array (.array .double)
  | 70 => .array .int
  | 71 => .array .int
  | 72 => .array (.array .double)
  | 73 => .array (.array .boolean)
  | 74 => .array .double
  | _ => .array .boolean
abbrev wsX50 : List Cond := u_ws RX5 TX5 76
set_option maxRecDepth 100000 in
theorem nmX5 : ∀ a, a < 76 → ∀ b, b < 76 → a ≠ b → (TX5 a).2.1 ≠ (TX5 b).2.1 := by decide +kernel
set_option maxRecDepth 100000 in
theorem tyX5_ok : ∀ k, k < 76 → parseFieldDescriptor (TX5 k).2.2.1 = some (tyX5 k) := by decide +kernel
abbrev cX5_init : ByteArray := prog_35_method_1_code
def yX5_init : MethodName := ⟨RX5, "<init>", "()V"⟩
def dkwX5_init_22 : List UInt8 := [181, 0, 180, 177]
abbrev dktX5_init_22 : List UInt8 := dkwX5_init_22 ++ []
def dkwX5_init_21 : List UInt8 := [16, 64, 197, 0, 70, 2, 181, 0, 174, 42, 16, 64, 188, 7, 181, 0, 177, 42, 16, 64, 188, 4]
abbrev dktX5_init_21 : List UInt8 := dkwX5_init_21 ++ dktX5_init_22
def dkwX5_init_20 : List UInt8 := [181, 0, 165, 42, 7, 188, 10, 181, 0, 168, 42, 7, 16, 64, 197, 0, 29, 2, 181, 0, 171, 42, 7]
abbrev dktX5_init_20 : List UInt8 := dkwX5_init_20 ++ dktX5_init_21
def dkwX5_init_19 : List UInt8 := [181, 0, 162, 42, 7, 188, 10, 89, 3, 2, 79, 89, 4, 2, 79, 89, 5, 2, 79, 89, 6, 2, 79]
abbrev dktX5_init_19 : List UInt8 := dkwX5_init_19 ++ dktX5_init_20
def dkwX5_init_18 : List UInt8 := [16, 6, 188, 10, 181, 0, 156, 42, 16, 12, 188, 10, 181, 0, 159, 42, 16, 12, 16, 8, 197, 0, 29, 2]
abbrev dktX5_init_18 : List UInt8 := dkwX5_init_18 ++ dktX5_init_19
def dkwX5_init_17 : List UInt8 := [197, 0, 29, 2, 181, 0, 147, 42, 16, 6, 188, 10, 181, 0, 150, 42, 16, 6, 188, 10, 181, 0, 153, 42]
abbrev dktX5_init_17 : List UInt8 := dkwX5_init_17 ++ dktX5_init_18
def dkwX5_init_16 : List UInt8 := [16, 24, 188, 7, 181, 0, 141, 42, 16, 24, 16, 96, 197, 0, 24, 2, 181, 0, 144, 42, 16, 24, 16, 96]
abbrev dktX5_init_16 : List UInt8 := dkwX5_init_16 ++ dktX5_init_17
def dkwX5_init_15 : List UInt8 := [16, 24, 188, 10, 181, 0, 132, 42, 16, 24, 188, 4, 181, 0, 135, 42, 16, 6, 188, 4, 181, 0, 138, 42]
abbrev dktX5_init_15 : List UInt8 := dkwX5_init_15 ++ dktX5_init_16
def dkwX5_init_14 : List UInt8 := [16, 24, 188, 7, 181, 0, 123, 42, 16, 24, 188, 4, 181, 0, 126, 42, 16, 24, 188, 10, 181, 0, 129, 42]
abbrev dktX5_init_14 : List UInt8 := dkwX5_init_14 ++ dktX5_init_15
def dkwX5_init_13 : List UInt8 := [16, 96, 188, 7, 181, 0, 114, 42, 16, 6, 188, 4, 181, 0, 117, 42, 16, 6, 188, 10, 181, 0, 120, 42]
abbrev dktX5_init_13 : List UInt8 := dkwX5_init_13 ++ dktX5_init_14
def dkwX5_init_12 : List UInt8 := [16, 96, 188, 10, 181, 0, 105, 42, 16, 96, 188, 7, 181, 0, 108, 42, 16, 96, 188, 10, 181, 0, 111, 42]
abbrev dktX5_init_12 : List UInt8 := dkwX5_init_12 ++ dktX5_init_13
def dkwX5_init_11 : List UInt8 := [188, 10, 181, 0, 96, 42, 17, 18, 192, 188, 10, 181, 0, 99, 42, 16, 96, 188, 10, 181, 0, 102, 42]
abbrev dktX5_init_11 : List UInt8 := dkwX5_init_11 ++ dktX5_init_12
def dkwX5_init_10 : List UInt8 := [16, 7, 16, 30, 197, 0, 24, 2, 181, 0, 90, 42, 17, 18, 192, 188, 7, 181, 0, 93, 42, 17, 18, 192]
abbrev dktX5_init_10 : List UInt8 := dkwX5_init_10 ++ dktX5_init_11
def dkwX5_init_9 : List UInt8 := [16, 7, 16, 6, 197, 0, 70, 2, 181, 0, 84, 42, 16, 7, 16, 30, 197, 0, 29, 2, 181, 0, 87, 42]
abbrev dktX5_init_9 : List UInt8 := dkwX5_init_9 ++ dktX5_init_10
def dkwX5_init_8 : List UInt8 := [16, 7, 16, 24, 197, 0, 24, 2, 181, 0, 78, 42, 16, 7, 16, 24, 197, 0, 24, 2, 181, 0, 81, 42]
abbrev dktX5_init_8 : List UInt8 := dkwX5_init_8 ++ dktX5_init_9
def dkwX5_init_7 : List UInt8 := [16, 7, 16, 24, 197, 0, 70, 2, 181, 0, 72, 42, 16, 7, 16, 24, 197, 0, 29, 2, 181, 0, 75, 42]
abbrev dktX5_init_7 : List UInt8 := dkwX5_init_7 ++ dktX5_init_8
def dkwX5_init_6 : List UInt8 := [16, 24, 188, 10, 181, 0, 61, 42, 16, 24, 188, 4, 181, 0, 64, 42, 16, 24, 188, 10, 181, 0, 67, 42]
abbrev dktX5_init_6 : List UInt8 := dkwX5_init_6 ++ dktX5_init_7
def dkwX5_init_5 : List UInt8 := [181, 0, 52, 42, 16, 24, 16, 6, 197, 0, 24, 2, 181, 0, 55, 42, 16, 24, 188, 4, 181, 0, 58, 42]
abbrev dktX5_init_5 : List UInt8 := dkwX5_init_5 ++ dktX5_init_6
def dkwX5_init_4 : List UInt8 := [16, 12, 188, 10, 181, 0, 46, 42, 16, 12, 16, 8, 197, 0, 29, 2, 181, 0, 49, 42, 16, 24, 188, 10]
abbrev dktX5_init_4 : List UInt8 := dkwX5_init_4 ++ dktX5_init_5
def dkwX5_init_3 : List UInt8 := [16, 6, 188, 10, 181, 0, 37, 42, 16, 6, 188, 10, 181, 0, 40, 42, 16, 6, 188, 10, 181, 0, 43, 42]
abbrev dktX5_init_3 : List UInt8 := dkwX5_init_3 ++ dktX5_init_4
def dkwX5_init_2 : List UInt8 := [181, 0, 26, 42, 16, 24, 16, 96, 197, 0, 29, 2, 181, 0, 31, 42, 16, 6, 188, 4, 181, 0, 34, 42]
abbrev dktX5_init_2 : List UInt8 := dkwX5_init_2 ++ dktX5_init_3
def dkwX5_init_1 : List UInt8 := [188, 7, 181, 0, 17, 42, 16, 24, 188, 10, 181, 0, 21, 42, 16, 24, 16, 96, 197, 0, 24, 2]
abbrev dktX5_init_1 : List UInt8 := dkwX5_init_1 ++ dktX5_init_2
def dkwX5_init_0 : List UInt8 := [42, 183, 0, 1, 42, 16, 24, 188, 10, 181, 0, 9, 42, 16, 24, 188, 4, 181, 0, 13, 42, 16, 24]
abbrev dktX5_init_0 : List UInt8 := dkwX5_init_0 ++ dktX5_init_1
theorem dksX5_init_0 : cX5_init.data.toList.drop 0 = dktX5_init_0 := by decide +kernel
theorem dksX5_init_1 : cX5_init.data.toList.drop 23 = dktX5_init_1 := dk_seg dksX5_init_0 23 rfl rfl
theorem dksX5_init_2 : cX5_init.data.toList.drop 45 = dktX5_init_2 := dk_seg dksX5_init_1 22 rfl rfl
theorem dksX5_init_3 : cX5_init.data.toList.drop 69 = dktX5_init_3 := dk_seg dksX5_init_2 24 rfl rfl
theorem dksX5_init_4 : cX5_init.data.toList.drop 93 = dktX5_init_4 := dk_seg dksX5_init_3 24 rfl rfl
theorem dksX5_init_5 : cX5_init.data.toList.drop 117 = dktX5_init_5 := dk_seg dksX5_init_4 24 rfl rfl
theorem dksX5_init_6 : cX5_init.data.toList.drop 141 = dktX5_init_6 := dk_seg dksX5_init_5 24 rfl rfl
theorem dksX5_init_7 : cX5_init.data.toList.drop 165 = dktX5_init_7 := dk_seg dksX5_init_6 24 rfl rfl
theorem dksX5_init_8 : cX5_init.data.toList.drop 189 = dktX5_init_8 := dk_seg dksX5_init_7 24 rfl rfl
theorem dksX5_init_9 : cX5_init.data.toList.drop 213 = dktX5_init_9 := dk_seg dksX5_init_8 24 rfl rfl
theorem dksX5_init_10 : cX5_init.data.toList.drop 237 = dktX5_init_10 := dk_seg dksX5_init_9 24 rfl rfl
theorem dksX5_init_11 : cX5_init.data.toList.drop 261 = dktX5_init_11 := dk_seg dksX5_init_10 24 rfl rfl
theorem dksX5_init_12 : cX5_init.data.toList.drop 284 = dktX5_init_12 := dk_seg dksX5_init_11 23 rfl rfl
theorem dksX5_init_13 : cX5_init.data.toList.drop 308 = dktX5_init_13 := dk_seg dksX5_init_12 24 rfl rfl
theorem dksX5_init_14 : cX5_init.data.toList.drop 332 = dktX5_init_14 := dk_seg dksX5_init_13 24 rfl rfl
theorem dksX5_init_15 : cX5_init.data.toList.drop 356 = dktX5_init_15 := dk_seg dksX5_init_14 24 rfl rfl
theorem dksX5_init_16 : cX5_init.data.toList.drop 380 = dktX5_init_16 := dk_seg dksX5_init_15 24 rfl rfl
theorem dksX5_init_17 : cX5_init.data.toList.drop 404 = dktX5_init_17 := dk_seg dksX5_init_16 24 rfl rfl
theorem dksX5_init_18 : cX5_init.data.toList.drop 428 = dktX5_init_18 := dk_seg dksX5_init_17 24 rfl rfl
theorem dksX5_init_19 : cX5_init.data.toList.drop 452 = dktX5_init_19 := dk_seg dksX5_init_18 24 rfl rfl
theorem dksX5_init_20 : cX5_init.data.toList.drop 475 = dktX5_init_20 := dk_seg dksX5_init_19 23 rfl rfl
theorem dksX5_init_21 : cX5_init.data.toList.drop 498 = dktX5_init_21 := dk_seg dksX5_init_20 23 rfl rfl
theorem dksX5_init_22 : cX5_init.data.toList.drop 520 = dktX5_init_22 := dk_seg dksX5_init_21 22 rfl rfl
theorem dX5_init_0 : decode cX5_init 0 = .ok (.aload_n 0, 1) := dk_42 (dk_at dksX5_init_0 0 rfl rfl)
theorem dX5_init_1 : decode cX5_init 1 = .ok (.invokespecial 1, 3) := dk_183 0 1 (dk_at dksX5_init_0 1 rfl rfl)
theorem dX5_init_4 : decode cX5_init 4 = .ok (.aload_n 0, 1) := dk_42 (dk_at dksX5_init_0 4 rfl rfl)
theorem dX5_init_5 : decode cX5_init 5 = .ok (.bipush 24, 2) := dk_16 24 (dk_at dksX5_init_0 5 rfl rfl)
theorem dX5_init_7 : decode cX5_init 7 = .ok (.newarray .int, 2) := dk_188_10 (dk_at dksX5_init_0 7 rfl rfl)
theorem dX5_init_9 : decode cX5_init 9 = .ok (.putfield 9, 3) := dk_181 0 9 (dk_at dksX5_init_0 9 rfl rfl)
theorem dX5_init_12 : decode cX5_init 12 = .ok (.aload_n 0, 1) := dk_42 (dk_at dksX5_init_0 12 rfl rfl)
theorem dX5_init_13 : decode cX5_init 13 = .ok (.bipush 24, 2) := dk_16 24 (dk_at dksX5_init_0 13 rfl rfl)
theorem dX5_init_15 : decode cX5_init 15 = .ok (.newarray .boolean, 2) := dk_188_4 (dk_at dksX5_init_0 15 rfl rfl)
theorem dX5_init_17 : decode cX5_init 17 = .ok (.putfield 13, 3) := dk_181 0 13 (dk_at dksX5_init_0 17 rfl rfl)
theorem dX5_init_20 : decode cX5_init 20 = .ok (.aload_n 0, 1) := dk_42 (dk_at dksX5_init_0 20 rfl rfl)
theorem dX5_init_21 : decode cX5_init 21 = .ok (.bipush 24, 2) := dk_16 24 (dk_at dksX5_init_0 21 rfl rfl)
theorem dX5_init_23 : decode cX5_init 23 = .ok (.newarray .double, 2) := dk_188_7 (dk_at dksX5_init_1 0 rfl rfl)
theorem dX5_init_25 : decode cX5_init 25 = .ok (.putfield 17, 3) := dk_181 0 17 (dk_at dksX5_init_1 2 rfl rfl)
theorem dX5_init_28 : decode cX5_init 28 = .ok (.aload_n 0, 1) := dk_42 (dk_at dksX5_init_1 5 rfl rfl)
theorem dX5_init_29 : decode cX5_init 29 = .ok (.bipush 24, 2) := dk_16 24 (dk_at dksX5_init_1 6 rfl rfl)
theorem dX5_init_31 : decode cX5_init 31 = .ok (.newarray .int, 2) := dk_188_10 (dk_at dksX5_init_1 8 rfl rfl)
theorem dX5_init_33 : decode cX5_init 33 = .ok (.putfield 21, 3) := dk_181 0 21 (dk_at dksX5_init_1 10 rfl rfl)
theorem dX5_init_36 : decode cX5_init 36 = .ok (.aload_n 0, 1) := dk_42 (dk_at dksX5_init_1 13 rfl rfl)
theorem dX5_init_37 : decode cX5_init 37 = .ok (.bipush 24, 2) := dk_16 24 (dk_at dksX5_init_1 14 rfl rfl)
theorem dX5_init_39 : decode cX5_init 39 = .ok (.bipush 96, 2) := dk_16 96 (dk_at dksX5_init_1 16 rfl rfl)
theorem dX5_init_41 : decode cX5_init 41 = .ok (.multianewarray 24 2, 4) := by decide +kernel
theorem dX5_init_45 : decode cX5_init 45 = .ok (.putfield 26, 3) := dk_181 0 26 (dk_at dksX5_init_2 0 rfl rfl)
theorem dX5_init_48 : decode cX5_init 48 = .ok (.aload_n 0, 1) := dk_42 (dk_at dksX5_init_2 3 rfl rfl)
theorem dX5_init_49 : decode cX5_init 49 = .ok (.bipush 24, 2) := dk_16 24 (dk_at dksX5_init_2 4 rfl rfl)
theorem dX5_init_51 : decode cX5_init 51 = .ok (.bipush 96, 2) := dk_16 96 (dk_at dksX5_init_2 6 rfl rfl)
theorem dX5_init_53 : decode cX5_init 53 = .ok (.multianewarray 29 2, 4) := by decide +kernel
theorem dX5_init_57 : decode cX5_init 57 = .ok (.putfield 31, 3) := dk_181 0 31 (dk_at dksX5_init_2 12 rfl rfl)
theorem dX5_init_60 : decode cX5_init 60 = .ok (.aload_n 0, 1) := dk_42 (dk_at dksX5_init_2 15 rfl rfl)
theorem dX5_init_61 : decode cX5_init 61 = .ok (.bipush 6, 2) := dk_16 6 (dk_at dksX5_init_2 16 rfl rfl)
theorem dX5_init_63 : decode cX5_init 63 = .ok (.newarray .boolean, 2) := dk_188_4 (dk_at dksX5_init_2 18 rfl rfl)
theorem dX5_init_65 : decode cX5_init 65 = .ok (.putfield 34, 3) := dk_181 0 34 (dk_at dksX5_init_2 20 rfl rfl)
theorem dX5_init_68 : decode cX5_init 68 = .ok (.aload_n 0, 1) := dk_42 (dk_at dksX5_init_2 23 rfl rfl)
theorem dX5_init_69 : decode cX5_init 69 = .ok (.bipush 6, 2) := dk_16 6 (dk_at dksX5_init_3 0 rfl rfl)
theorem dX5_init_71 : decode cX5_init 71 = .ok (.newarray .int, 2) := dk_188_10 (dk_at dksX5_init_3 2 rfl rfl)
theorem dX5_init_73 : decode cX5_init 73 = .ok (.putfield 37, 3) := dk_181 0 37 (dk_at dksX5_init_3 4 rfl rfl)
theorem dX5_init_76 : decode cX5_init 76 = .ok (.aload_n 0, 1) := dk_42 (dk_at dksX5_init_3 7 rfl rfl)
theorem dX5_init_77 : decode cX5_init 77 = .ok (.bipush 6, 2) := dk_16 6 (dk_at dksX5_init_3 8 rfl rfl)
theorem dX5_init_79 : decode cX5_init 79 = .ok (.newarray .int, 2) := dk_188_10 (dk_at dksX5_init_3 10 rfl rfl)
theorem dX5_init_81 : decode cX5_init 81 = .ok (.putfield 40, 3) := dk_181 0 40 (dk_at dksX5_init_3 12 rfl rfl)
theorem dX5_init_84 : decode cX5_init 84 = .ok (.aload_n 0, 1) := dk_42 (dk_at dksX5_init_3 15 rfl rfl)
theorem dX5_init_85 : decode cX5_init 85 = .ok (.bipush 6, 2) := dk_16 6 (dk_at dksX5_init_3 16 rfl rfl)
theorem dX5_init_87 : decode cX5_init 87 = .ok (.newarray .int, 2) := dk_188_10 (dk_at dksX5_init_3 18 rfl rfl)
theorem dX5_init_89 : decode cX5_init 89 = .ok (.putfield 43, 3) := dk_181 0 43 (dk_at dksX5_init_3 20 rfl rfl)
theorem dX5_init_92 : decode cX5_init 92 = .ok (.aload_n 0, 1) := dk_42 (dk_at dksX5_init_3 23 rfl rfl)
theorem dX5_init_93 : decode cX5_init 93 = .ok (.bipush 12, 2) := dk_16 12 (dk_at dksX5_init_4 0 rfl rfl)
theorem dX5_init_95 : decode cX5_init 95 = .ok (.newarray .int, 2) := dk_188_10 (dk_at dksX5_init_4 2 rfl rfl)
theorem dX5_init_97 : decode cX5_init 97 = .ok (.putfield 46, 3) := dk_181 0 46 (dk_at dksX5_init_4 4 rfl rfl)
theorem dX5_init_100 : decode cX5_init 100 = .ok (.aload_n 0, 1) := dk_42 (dk_at dksX5_init_4 7 rfl rfl)
theorem dX5_init_101 : decode cX5_init 101 = .ok (.bipush 12, 2) := dk_16 12 (dk_at dksX5_init_4 8 rfl rfl)
theorem dX5_init_103 : decode cX5_init 103 = .ok (.bipush 8, 2) := dk_16 8 (dk_at dksX5_init_4 10 rfl rfl)
theorem dX5_init_105 : decode cX5_init 105 = .ok (.multianewarray 29 2, 4) := by decide +kernel
theorem dX5_init_109 : decode cX5_init 109 = .ok (.putfield 49, 3) := dk_181 0 49 (dk_at dksX5_init_4 16 rfl rfl)
theorem dX5_init_112 : decode cX5_init 112 = .ok (.aload_n 0, 1) := dk_42 (dk_at dksX5_init_4 19 rfl rfl)
theorem dX5_init_113 : decode cX5_init 113 = .ok (.bipush 24, 2) := dk_16 24 (dk_at dksX5_init_4 20 rfl rfl)
theorem dX5_init_115 : decode cX5_init 115 = .ok (.newarray .int, 2) := dk_188_10 (dk_at dksX5_init_4 22 rfl rfl)
theorem dX5_init_117 : decode cX5_init 117 = .ok (.putfield 52, 3) := dk_181 0 52 (dk_at dksX5_init_5 0 rfl rfl)
theorem dX5_init_120 : decode cX5_init 120 = .ok (.aload_n 0, 1) := dk_42 (dk_at dksX5_init_5 3 rfl rfl)
theorem dX5_init_121 : decode cX5_init 121 = .ok (.bipush 24, 2) := dk_16 24 (dk_at dksX5_init_5 4 rfl rfl)
theorem dX5_init_123 : decode cX5_init 123 = .ok (.bipush 6, 2) := dk_16 6 (dk_at dksX5_init_5 6 rfl rfl)
theorem dX5_init_125 : decode cX5_init 125 = .ok (.multianewarray 24 2, 4) := by decide +kernel
theorem dX5_init_129 : decode cX5_init 129 = .ok (.putfield 55, 3) := dk_181 0 55 (dk_at dksX5_init_5 12 rfl rfl)
theorem dX5_init_132 : decode cX5_init 132 = .ok (.aload_n 0, 1) := dk_42 (dk_at dksX5_init_5 15 rfl rfl)
theorem dX5_init_133 : decode cX5_init 133 = .ok (.bipush 24, 2) := dk_16 24 (dk_at dksX5_init_5 16 rfl rfl)
theorem dX5_init_135 : decode cX5_init 135 = .ok (.newarray .boolean, 2) := dk_188_4 (dk_at dksX5_init_5 18 rfl rfl)
theorem dX5_init_137 : decode cX5_init 137 = .ok (.putfield 58, 3) := dk_181 0 58 (dk_at dksX5_init_5 20 rfl rfl)
theorem dX5_init_140 : decode cX5_init 140 = .ok (.aload_n 0, 1) := dk_42 (dk_at dksX5_init_5 23 rfl rfl)
theorem dX5_init_141 : decode cX5_init 141 = .ok (.bipush 24, 2) := dk_16 24 (dk_at dksX5_init_6 0 rfl rfl)
theorem dX5_init_143 : decode cX5_init 143 = .ok (.newarray .int, 2) := dk_188_10 (dk_at dksX5_init_6 2 rfl rfl)
theorem dX5_init_145 : decode cX5_init 145 = .ok (.putfield 61, 3) := dk_181 0 61 (dk_at dksX5_init_6 4 rfl rfl)
theorem dX5_init_148 : decode cX5_init 148 = .ok (.aload_n 0, 1) := dk_42 (dk_at dksX5_init_6 7 rfl rfl)
theorem dX5_init_149 : decode cX5_init 149 = .ok (.bipush 24, 2) := dk_16 24 (dk_at dksX5_init_6 8 rfl rfl)
theorem dX5_init_151 : decode cX5_init 151 = .ok (.newarray .boolean, 2) := dk_188_4 (dk_at dksX5_init_6 10 rfl rfl)
theorem dX5_init_153 : decode cX5_init 153 = .ok (.putfield 64, 3) := dk_181 0 64 (dk_at dksX5_init_6 12 rfl rfl)
theorem dX5_init_156 : decode cX5_init 156 = .ok (.aload_n 0, 1) := dk_42 (dk_at dksX5_init_6 15 rfl rfl)
theorem dX5_init_157 : decode cX5_init 157 = .ok (.bipush 24, 2) := dk_16 24 (dk_at dksX5_init_6 16 rfl rfl)
theorem dX5_init_159 : decode cX5_init 159 = .ok (.newarray .int, 2) := dk_188_10 (dk_at dksX5_init_6 18 rfl rfl)
theorem dX5_init_161 : decode cX5_init 161 = .ok (.putfield 67, 3) := dk_181 0 67 (dk_at dksX5_init_6 20 rfl rfl)
theorem dX5_init_164 : decode cX5_init 164 = .ok (.aload_n 0, 1) := dk_42 (dk_at dksX5_init_6 23 rfl rfl)
theorem dX5_init_165 : decode cX5_init 165 = .ok (.bipush 7, 2) := dk_16 7 (dk_at dksX5_init_7 0 rfl rfl)
theorem dX5_init_167 : decode cX5_init 167 = .ok (.bipush 24, 2) := dk_16 24 (dk_at dksX5_init_7 2 rfl rfl)
theorem dX5_init_169 : decode cX5_init 169 = .ok (.multianewarray 70 2, 4) := by decide +kernel
theorem dX5_init_173 : decode cX5_init 173 = .ok (.putfield 72, 3) := dk_181 0 72 (dk_at dksX5_init_7 8 rfl rfl)
theorem dX5_init_176 : decode cX5_init 176 = .ok (.aload_n 0, 1) := dk_42 (dk_at dksX5_init_7 11 rfl rfl)
theorem dX5_init_177 : decode cX5_init 177 = .ok (.bipush 7, 2) := dk_16 7 (dk_at dksX5_init_7 12 rfl rfl)
theorem dX5_init_179 : decode cX5_init 179 = .ok (.bipush 24, 2) := dk_16 24 (dk_at dksX5_init_7 14 rfl rfl)
theorem dX5_init_181 : decode cX5_init 181 = .ok (.multianewarray 29 2, 4) := by decide +kernel
theorem dX5_init_185 : decode cX5_init 185 = .ok (.putfield 75, 3) := dk_181 0 75 (dk_at dksX5_init_7 20 rfl rfl)
theorem dX5_init_188 : decode cX5_init 188 = .ok (.aload_n 0, 1) := dk_42 (dk_at dksX5_init_7 23 rfl rfl)
theorem dX5_init_189 : decode cX5_init 189 = .ok (.bipush 7, 2) := dk_16 7 (dk_at dksX5_init_8 0 rfl rfl)
theorem dX5_init_191 : decode cX5_init 191 = .ok (.bipush 24, 2) := dk_16 24 (dk_at dksX5_init_8 2 rfl rfl)
theorem dX5_init_193 : decode cX5_init 193 = .ok (.multianewarray 24 2, 4) := by decide +kernel
theorem dX5_init_197 : decode cX5_init 197 = .ok (.putfield 78, 3) := dk_181 0 78 (dk_at dksX5_init_8 8 rfl rfl)
theorem dX5_init_200 : decode cX5_init 200 = .ok (.aload_n 0, 1) := dk_42 (dk_at dksX5_init_8 11 rfl rfl)
theorem dX5_init_201 : decode cX5_init 201 = .ok (.bipush 7, 2) := dk_16 7 (dk_at dksX5_init_8 12 rfl rfl)
theorem dX5_init_203 : decode cX5_init 203 = .ok (.bipush 24, 2) := dk_16 24 (dk_at dksX5_init_8 14 rfl rfl)
theorem dX5_init_205 : decode cX5_init 205 = .ok (.multianewarray 24 2, 4) := by decide +kernel
theorem dX5_init_209 : decode cX5_init 209 = .ok (.putfield 81, 3) := dk_181 0 81 (dk_at dksX5_init_8 20 rfl rfl)
theorem dX5_init_212 : decode cX5_init 212 = .ok (.aload_n 0, 1) := dk_42 (dk_at dksX5_init_8 23 rfl rfl)
theorem dX5_init_213 : decode cX5_init 213 = .ok (.bipush 7, 2) := dk_16 7 (dk_at dksX5_init_9 0 rfl rfl)
theorem dX5_init_215 : decode cX5_init 215 = .ok (.bipush 6, 2) := dk_16 6 (dk_at dksX5_init_9 2 rfl rfl)
theorem dX5_init_217 : decode cX5_init 217 = .ok (.multianewarray 70 2, 4) := by decide +kernel
theorem dX5_init_221 : decode cX5_init 221 = .ok (.putfield 84, 3) := dk_181 0 84 (dk_at dksX5_init_9 8 rfl rfl)
theorem dX5_init_224 : decode cX5_init 224 = .ok (.aload_n 0, 1) := dk_42 (dk_at dksX5_init_9 11 rfl rfl)
theorem dX5_init_225 : decode cX5_init 225 = .ok (.bipush 7, 2) := dk_16 7 (dk_at dksX5_init_9 12 rfl rfl)
theorem dX5_init_227 : decode cX5_init 227 = .ok (.bipush 30, 2) := dk_16 30 (dk_at dksX5_init_9 14 rfl rfl)
theorem dX5_init_229 : decode cX5_init 229 = .ok (.multianewarray 29 2, 4) := by decide +kernel
theorem dX5_init_233 : decode cX5_init 233 = .ok (.putfield 87, 3) := dk_181 0 87 (dk_at dksX5_init_9 20 rfl rfl)
theorem dX5_init_236 : decode cX5_init 236 = .ok (.aload_n 0, 1) := dk_42 (dk_at dksX5_init_9 23 rfl rfl)
theorem dX5_init_237 : decode cX5_init 237 = .ok (.bipush 7, 2) := dk_16 7 (dk_at dksX5_init_10 0 rfl rfl)
theorem dX5_init_239 : decode cX5_init 239 = .ok (.bipush 30, 2) := dk_16 30 (dk_at dksX5_init_10 2 rfl rfl)
theorem dX5_init_241 : decode cX5_init 241 = .ok (.multianewarray 24 2, 4) := by decide +kernel
theorem dX5_init_245 : decode cX5_init 245 = .ok (.putfield 90, 3) := dk_181 0 90 (dk_at dksX5_init_10 8 rfl rfl)
theorem dX5_init_248 : decode cX5_init 248 = .ok (.aload_n 0, 1) := dk_42 (dk_at dksX5_init_10 11 rfl rfl)
theorem dX5_init_249 : decode cX5_init 249 = .ok (.sipush 4800, 3) := dk_17 18 192 (dk_at dksX5_init_10 12 rfl rfl)
theorem dX5_init_252 : decode cX5_init 252 = .ok (.newarray .double, 2) := dk_188_7 (dk_at dksX5_init_10 15 rfl rfl)
theorem dX5_init_254 : decode cX5_init 254 = .ok (.putfield 93, 3) := dk_181 0 93 (dk_at dksX5_init_10 17 rfl rfl)
theorem dX5_init_257 : decode cX5_init 257 = .ok (.aload_n 0, 1) := dk_42 (dk_at dksX5_init_10 20 rfl rfl)
theorem dX5_init_258 : decode cX5_init 258 = .ok (.sipush 4800, 3) := dk_17 18 192 (dk_at dksX5_init_10 21 rfl rfl)
theorem dX5_init_261 : decode cX5_init 261 = .ok (.newarray .int, 2) := dk_188_10 (dk_at dksX5_init_11 0 rfl rfl)
theorem dX5_init_263 : decode cX5_init 263 = .ok (.putfield 96, 3) := dk_181 0 96 (dk_at dksX5_init_11 2 rfl rfl)
theorem dX5_init_266 : decode cX5_init 266 = .ok (.aload_n 0, 1) := dk_42 (dk_at dksX5_init_11 5 rfl rfl)
theorem dX5_init_267 : decode cX5_init 267 = .ok (.sipush 4800, 3) := dk_17 18 192 (dk_at dksX5_init_11 6 rfl rfl)
theorem dX5_init_270 : decode cX5_init 270 = .ok (.newarray .int, 2) := dk_188_10 (dk_at dksX5_init_11 9 rfl rfl)
theorem dX5_init_272 : decode cX5_init 272 = .ok (.putfield 99, 3) := dk_181 0 99 (dk_at dksX5_init_11 11 rfl rfl)
theorem dX5_init_275 : decode cX5_init 275 = .ok (.aload_n 0, 1) := dk_42 (dk_at dksX5_init_11 14 rfl rfl)
theorem dX5_init_276 : decode cX5_init 276 = .ok (.bipush 96, 2) := dk_16 96 (dk_at dksX5_init_11 15 rfl rfl)
theorem dX5_init_278 : decode cX5_init 278 = .ok (.newarray .int, 2) := dk_188_10 (dk_at dksX5_init_11 17 rfl rfl)
theorem dX5_init_280 : decode cX5_init 280 = .ok (.putfield 102, 3) := dk_181 0 102 (dk_at dksX5_init_11 19 rfl rfl)
theorem dX5_init_283 : decode cX5_init 283 = .ok (.aload_n 0, 1) := dk_42 (dk_at dksX5_init_11 22 rfl rfl)
theorem dX5_init_284 : decode cX5_init 284 = .ok (.bipush 96, 2) := dk_16 96 (dk_at dksX5_init_12 0 rfl rfl)
theorem dX5_init_286 : decode cX5_init 286 = .ok (.newarray .int, 2) := dk_188_10 (dk_at dksX5_init_12 2 rfl rfl)
theorem dX5_init_288 : decode cX5_init 288 = .ok (.putfield 105, 3) := dk_181 0 105 (dk_at dksX5_init_12 4 rfl rfl)
theorem dX5_init_291 : decode cX5_init 291 = .ok (.aload_n 0, 1) := dk_42 (dk_at dksX5_init_12 7 rfl rfl)
theorem dX5_init_292 : decode cX5_init 292 = .ok (.bipush 96, 2) := dk_16 96 (dk_at dksX5_init_12 8 rfl rfl)
theorem dX5_init_294 : decode cX5_init 294 = .ok (.newarray .double, 2) := dk_188_7 (dk_at dksX5_init_12 10 rfl rfl)
theorem dX5_init_296 : decode cX5_init 296 = .ok (.putfield 108, 3) := dk_181 0 108 (dk_at dksX5_init_12 12 rfl rfl)
theorem dX5_init_299 : decode cX5_init 299 = .ok (.aload_n 0, 1) := dk_42 (dk_at dksX5_init_12 15 rfl rfl)
theorem dX5_init_300 : decode cX5_init 300 = .ok (.bipush 96, 2) := dk_16 96 (dk_at dksX5_init_12 16 rfl rfl)
theorem dX5_init_302 : decode cX5_init 302 = .ok (.newarray .int, 2) := dk_188_10 (dk_at dksX5_init_12 18 rfl rfl)
theorem dX5_init_304 : decode cX5_init 304 = .ok (.putfield 111, 3) := dk_181 0 111 (dk_at dksX5_init_12 20 rfl rfl)
theorem dX5_init_307 : decode cX5_init 307 = .ok (.aload_n 0, 1) := dk_42 (dk_at dksX5_init_12 23 rfl rfl)
theorem dX5_init_308 : decode cX5_init 308 = .ok (.bipush 96, 2) := dk_16 96 (dk_at dksX5_init_13 0 rfl rfl)
theorem dX5_init_310 : decode cX5_init 310 = .ok (.newarray .double, 2) := dk_188_7 (dk_at dksX5_init_13 2 rfl rfl)
theorem dX5_init_312 : decode cX5_init 312 = .ok (.putfield 114, 3) := dk_181 0 114 (dk_at dksX5_init_13 4 rfl rfl)
theorem dX5_init_315 : decode cX5_init 315 = .ok (.aload_n 0, 1) := dk_42 (dk_at dksX5_init_13 7 rfl rfl)
theorem dX5_init_316 : decode cX5_init 316 = .ok (.bipush 6, 2) := dk_16 6 (dk_at dksX5_init_13 8 rfl rfl)
theorem dX5_init_318 : decode cX5_init 318 = .ok (.newarray .boolean, 2) := dk_188_4 (dk_at dksX5_init_13 10 rfl rfl)
theorem dX5_init_320 : decode cX5_init 320 = .ok (.putfield 117, 3) := dk_181 0 117 (dk_at dksX5_init_13 12 rfl rfl)
theorem dX5_init_323 : decode cX5_init 323 = .ok (.aload_n 0, 1) := dk_42 (dk_at dksX5_init_13 15 rfl rfl)
theorem dX5_init_324 : decode cX5_init 324 = .ok (.bipush 6, 2) := dk_16 6 (dk_at dksX5_init_13 16 rfl rfl)
theorem dX5_init_326 : decode cX5_init 326 = .ok (.newarray .int, 2) := dk_188_10 (dk_at dksX5_init_13 18 rfl rfl)
theorem dX5_init_328 : decode cX5_init 328 = .ok (.putfield 120, 3) := dk_181 0 120 (dk_at dksX5_init_13 20 rfl rfl)
theorem dX5_init_331 : decode cX5_init 331 = .ok (.aload_n 0, 1) := dk_42 (dk_at dksX5_init_13 23 rfl rfl)
theorem dX5_init_332 : decode cX5_init 332 = .ok (.bipush 24, 2) := dk_16 24 (dk_at dksX5_init_14 0 rfl rfl)
theorem dX5_init_334 : decode cX5_init 334 = .ok (.newarray .double, 2) := dk_188_7 (dk_at dksX5_init_14 2 rfl rfl)
theorem dX5_init_336 : decode cX5_init 336 = .ok (.putfield 123, 3) := dk_181 0 123 (dk_at dksX5_init_14 4 rfl rfl)
theorem dX5_init_339 : decode cX5_init 339 = .ok (.aload_n 0, 1) := dk_42 (dk_at dksX5_init_14 7 rfl rfl)
theorem dX5_init_340 : decode cX5_init 340 = .ok (.bipush 24, 2) := dk_16 24 (dk_at dksX5_init_14 8 rfl rfl)
theorem dX5_init_342 : decode cX5_init 342 = .ok (.newarray .boolean, 2) := dk_188_4 (dk_at dksX5_init_14 10 rfl rfl)
theorem dX5_init_344 : decode cX5_init 344 = .ok (.putfield 126, 3) := dk_181 0 126 (dk_at dksX5_init_14 12 rfl rfl)
theorem dX5_init_347 : decode cX5_init 347 = .ok (.aload_n 0, 1) := dk_42 (dk_at dksX5_init_14 15 rfl rfl)
theorem dX5_init_348 : decode cX5_init 348 = .ok (.bipush 24, 2) := dk_16 24 (dk_at dksX5_init_14 16 rfl rfl)
theorem dX5_init_350 : decode cX5_init 350 = .ok (.newarray .int, 2) := dk_188_10 (dk_at dksX5_init_14 18 rfl rfl)
theorem dX5_init_352 : decode cX5_init 352 = .ok (.putfield 129, 3) := dk_181 0 129 (dk_at dksX5_init_14 20 rfl rfl)
theorem dX5_init_355 : decode cX5_init 355 = .ok (.aload_n 0, 1) := dk_42 (dk_at dksX5_init_14 23 rfl rfl)
theorem dX5_init_356 : decode cX5_init 356 = .ok (.bipush 24, 2) := dk_16 24 (dk_at dksX5_init_15 0 rfl rfl)
theorem dX5_init_358 : decode cX5_init 358 = .ok (.newarray .int, 2) := dk_188_10 (dk_at dksX5_init_15 2 rfl rfl)
theorem dX5_init_360 : decode cX5_init 360 = .ok (.putfield 132, 3) := dk_181 0 132 (dk_at dksX5_init_15 4 rfl rfl)
theorem dX5_init_363 : decode cX5_init 363 = .ok (.aload_n 0, 1) := dk_42 (dk_at dksX5_init_15 7 rfl rfl)
theorem dX5_init_364 : decode cX5_init 364 = .ok (.bipush 24, 2) := dk_16 24 (dk_at dksX5_init_15 8 rfl rfl)
theorem dX5_init_366 : decode cX5_init 366 = .ok (.newarray .boolean, 2) := dk_188_4 (dk_at dksX5_init_15 10 rfl rfl)
theorem dX5_init_368 : decode cX5_init 368 = .ok (.putfield 135, 3) := dk_181 0 135 (dk_at dksX5_init_15 12 rfl rfl)
theorem dX5_init_371 : decode cX5_init 371 = .ok (.aload_n 0, 1) := dk_42 (dk_at dksX5_init_15 15 rfl rfl)
theorem dX5_init_372 : decode cX5_init 372 = .ok (.bipush 6, 2) := dk_16 6 (dk_at dksX5_init_15 16 rfl rfl)
theorem dX5_init_374 : decode cX5_init 374 = .ok (.newarray .boolean, 2) := dk_188_4 (dk_at dksX5_init_15 18 rfl rfl)
theorem dX5_init_376 : decode cX5_init 376 = .ok (.putfield 138, 3) := dk_181 0 138 (dk_at dksX5_init_15 20 rfl rfl)
theorem dX5_init_379 : decode cX5_init 379 = .ok (.aload_n 0, 1) := dk_42 (dk_at dksX5_init_15 23 rfl rfl)
theorem dX5_init_380 : decode cX5_init 380 = .ok (.bipush 24, 2) := dk_16 24 (dk_at dksX5_init_16 0 rfl rfl)
theorem dX5_init_382 : decode cX5_init 382 = .ok (.newarray .double, 2) := dk_188_7 (dk_at dksX5_init_16 2 rfl rfl)
theorem dX5_init_384 : decode cX5_init 384 = .ok (.putfield 141, 3) := dk_181 0 141 (dk_at dksX5_init_16 4 rfl rfl)
theorem dX5_init_387 : decode cX5_init 387 = .ok (.aload_n 0, 1) := dk_42 (dk_at dksX5_init_16 7 rfl rfl)
theorem dX5_init_388 : decode cX5_init 388 = .ok (.bipush 24, 2) := dk_16 24 (dk_at dksX5_init_16 8 rfl rfl)
theorem dX5_init_390 : decode cX5_init 390 = .ok (.bipush 96, 2) := dk_16 96 (dk_at dksX5_init_16 10 rfl rfl)
theorem dX5_init_392 : decode cX5_init 392 = .ok (.multianewarray 24 2, 4) := by decide +kernel
theorem dX5_init_396 : decode cX5_init 396 = .ok (.putfield 144, 3) := dk_181 0 144 (dk_at dksX5_init_16 16 rfl rfl)
theorem dX5_init_399 : decode cX5_init 399 = .ok (.aload_n 0, 1) := dk_42 (dk_at dksX5_init_16 19 rfl rfl)
theorem dX5_init_400 : decode cX5_init 400 = .ok (.bipush 24, 2) := dk_16 24 (dk_at dksX5_init_16 20 rfl rfl)
theorem dX5_init_402 : decode cX5_init 402 = .ok (.bipush 96, 2) := dk_16 96 (dk_at dksX5_init_16 22 rfl rfl)
theorem dX5_init_404 : decode cX5_init 404 = .ok (.multianewarray 29 2, 4) := by decide +kernel
theorem dX5_init_408 : decode cX5_init 408 = .ok (.putfield 147, 3) := dk_181 0 147 (dk_at dksX5_init_17 4 rfl rfl)
theorem dX5_init_411 : decode cX5_init 411 = .ok (.aload_n 0, 1) := dk_42 (dk_at dksX5_init_17 7 rfl rfl)
theorem dX5_init_412 : decode cX5_init 412 = .ok (.bipush 6, 2) := dk_16 6 (dk_at dksX5_init_17 8 rfl rfl)
theorem dX5_init_414 : decode cX5_init 414 = .ok (.newarray .int, 2) := dk_188_10 (dk_at dksX5_init_17 10 rfl rfl)
theorem dX5_init_416 : decode cX5_init 416 = .ok (.putfield 150, 3) := dk_181 0 150 (dk_at dksX5_init_17 12 rfl rfl)
theorem dX5_init_419 : decode cX5_init 419 = .ok (.aload_n 0, 1) := dk_42 (dk_at dksX5_init_17 15 rfl rfl)
theorem dX5_init_420 : decode cX5_init 420 = .ok (.bipush 6, 2) := dk_16 6 (dk_at dksX5_init_17 16 rfl rfl)
theorem dX5_init_422 : decode cX5_init 422 = .ok (.newarray .int, 2) := dk_188_10 (dk_at dksX5_init_17 18 rfl rfl)
theorem dX5_init_424 : decode cX5_init 424 = .ok (.putfield 153, 3) := dk_181 0 153 (dk_at dksX5_init_17 20 rfl rfl)
theorem dX5_init_427 : decode cX5_init 427 = .ok (.aload_n 0, 1) := dk_42 (dk_at dksX5_init_17 23 rfl rfl)
theorem dX5_init_428 : decode cX5_init 428 = .ok (.bipush 6, 2) := dk_16 6 (dk_at dksX5_init_18 0 rfl rfl)
theorem dX5_init_430 : decode cX5_init 430 = .ok (.newarray .int, 2) := dk_188_10 (dk_at dksX5_init_18 2 rfl rfl)
theorem dX5_init_432 : decode cX5_init 432 = .ok (.putfield 156, 3) := dk_181 0 156 (dk_at dksX5_init_18 4 rfl rfl)
theorem dX5_init_435 : decode cX5_init 435 = .ok (.aload_n 0, 1) := dk_42 (dk_at dksX5_init_18 7 rfl rfl)
theorem dX5_init_436 : decode cX5_init 436 = .ok (.bipush 12, 2) := dk_16 12 (dk_at dksX5_init_18 8 rfl rfl)
theorem dX5_init_438 : decode cX5_init 438 = .ok (.newarray .int, 2) := dk_188_10 (dk_at dksX5_init_18 10 rfl rfl)
theorem dX5_init_440 : decode cX5_init 440 = .ok (.putfield 159, 3) := dk_181 0 159 (dk_at dksX5_init_18 12 rfl rfl)
theorem dX5_init_443 : decode cX5_init 443 = .ok (.aload_n 0, 1) := dk_42 (dk_at dksX5_init_18 15 rfl rfl)
theorem dX5_init_444 : decode cX5_init 444 = .ok (.bipush 12, 2) := dk_16 12 (dk_at dksX5_init_18 16 rfl rfl)
theorem dX5_init_446 : decode cX5_init 446 = .ok (.bipush 8, 2) := dk_16 8 (dk_at dksX5_init_18 18 rfl rfl)
theorem dX5_init_448 : decode cX5_init 448 = .ok (.multianewarray 29 2, 4) := by decide +kernel
theorem dX5_init_452 : decode cX5_init 452 = .ok (.putfield 162, 3) := dk_181 0 162 (dk_at dksX5_init_19 0 rfl rfl)
theorem dX5_init_455 : decode cX5_init 455 = .ok (.aload_n 0, 1) := dk_42 (dk_at dksX5_init_19 3 rfl rfl)
theorem dX5_init_456 : decode cX5_init 456 = .ok (.iconst 4, 1) := dk_7 (dk_at dksX5_init_19 4 rfl rfl)
theorem dX5_init_457 : decode cX5_init 457 = .ok (.newarray .int, 2) := dk_188_10 (dk_at dksX5_init_19 5 rfl rfl)
theorem dX5_init_459 : decode cX5_init 459 = .ok (.dup, 1) := dk_89 (dk_at dksX5_init_19 7 rfl rfl)
theorem dX5_init_460 : decode cX5_init 460 = .ok (.iconst 0, 1) := dk_3 (dk_at dksX5_init_19 8 rfl rfl)
theorem dX5_init_461 : decode cX5_init 461 = .ok (.iconst (-1), 1) := dk_2 (dk_at dksX5_init_19 9 rfl rfl)
theorem dX5_init_462 : decode cX5_init 462 = .ok (.iastore, 1) := dk_79 (dk_at dksX5_init_19 10 rfl rfl)
theorem dX5_init_463 : decode cX5_init 463 = .ok (.dup, 1) := dk_89 (dk_at dksX5_init_19 11 rfl rfl)
theorem dX5_init_464 : decode cX5_init 464 = .ok (.iconst 1, 1) := dk_4 (dk_at dksX5_init_19 12 rfl rfl)
theorem dX5_init_465 : decode cX5_init 465 = .ok (.iconst (-1), 1) := dk_2 (dk_at dksX5_init_19 13 rfl rfl)
theorem dX5_init_466 : decode cX5_init 466 = .ok (.iastore, 1) := dk_79 (dk_at dksX5_init_19 14 rfl rfl)
theorem dX5_init_467 : decode cX5_init 467 = .ok (.dup, 1) := dk_89 (dk_at dksX5_init_19 15 rfl rfl)
theorem dX5_init_468 : decode cX5_init 468 = .ok (.iconst 2, 1) := dk_5 (dk_at dksX5_init_19 16 rfl rfl)
theorem dX5_init_469 : decode cX5_init 469 = .ok (.iconst (-1), 1) := dk_2 (dk_at dksX5_init_19 17 rfl rfl)
theorem dX5_init_470 : decode cX5_init 470 = .ok (.iastore, 1) := dk_79 (dk_at dksX5_init_19 18 rfl rfl)
theorem dX5_init_471 : decode cX5_init 471 = .ok (.dup, 1) := dk_89 (dk_at dksX5_init_19 19 rfl rfl)
theorem dX5_init_472 : decode cX5_init 472 = .ok (.iconst 3, 1) := dk_6 (dk_at dksX5_init_19 20 rfl rfl)
theorem dX5_init_473 : decode cX5_init 473 = .ok (.iconst (-1), 1) := dk_2 (dk_at dksX5_init_19 21 rfl rfl)
theorem dX5_init_474 : decode cX5_init 474 = .ok (.iastore, 1) := dk_79 (dk_at dksX5_init_19 22 rfl rfl)
theorem dX5_init_475 : decode cX5_init 475 = .ok (.putfield 165, 3) := dk_181 0 165 (dk_at dksX5_init_20 0 rfl rfl)
theorem dX5_init_478 : decode cX5_init 478 = .ok (.aload_n 0, 1) := dk_42 (dk_at dksX5_init_20 3 rfl rfl)
theorem dX5_init_479 : decode cX5_init 479 = .ok (.iconst 4, 1) := dk_7 (dk_at dksX5_init_20 4 rfl rfl)
theorem dX5_init_480 : decode cX5_init 480 = .ok (.newarray .int, 2) := dk_188_10 (dk_at dksX5_init_20 5 rfl rfl)
theorem dX5_init_482 : decode cX5_init 482 = .ok (.putfield 168, 3) := dk_181 0 168 (dk_at dksX5_init_20 7 rfl rfl)
theorem dX5_init_485 : decode cX5_init 485 = .ok (.aload_n 0, 1) := dk_42 (dk_at dksX5_init_20 10 rfl rfl)
theorem dX5_init_486 : decode cX5_init 486 = .ok (.iconst 4, 1) := dk_7 (dk_at dksX5_init_20 11 rfl rfl)
theorem dX5_init_487 : decode cX5_init 487 = .ok (.bipush 64, 2) := dk_16 64 (dk_at dksX5_init_20 12 rfl rfl)
theorem dX5_init_489 : decode cX5_init 489 = .ok (.multianewarray 29 2, 4) := by decide +kernel
theorem dX5_init_493 : decode cX5_init 493 = .ok (.putfield 171, 3) := dk_181 0 171 (dk_at dksX5_init_20 18 rfl rfl)
theorem dX5_init_496 : decode cX5_init 496 = .ok (.aload_n 0, 1) := dk_42 (dk_at dksX5_init_20 21 rfl rfl)
theorem dX5_init_497 : decode cX5_init 497 = .ok (.iconst 4, 1) := dk_7 (dk_at dksX5_init_20 22 rfl rfl)
theorem dX5_init_498 : decode cX5_init 498 = .ok (.bipush 64, 2) := dk_16 64 (dk_at dksX5_init_21 0 rfl rfl)
theorem dX5_init_500 : decode cX5_init 500 = .ok (.multianewarray 70 2, 4) := by decide +kernel
theorem dX5_init_504 : decode cX5_init 504 = .ok (.putfield 174, 3) := dk_181 0 174 (dk_at dksX5_init_21 6 rfl rfl)
theorem dX5_init_507 : decode cX5_init 507 = .ok (.aload_n 0, 1) := dk_42 (dk_at dksX5_init_21 9 rfl rfl)
theorem dX5_init_508 : decode cX5_init 508 = .ok (.bipush 64, 2) := dk_16 64 (dk_at dksX5_init_21 10 rfl rfl)
theorem dX5_init_510 : decode cX5_init 510 = .ok (.newarray .double, 2) := dk_188_7 (dk_at dksX5_init_21 12 rfl rfl)
theorem dX5_init_512 : decode cX5_init 512 = .ok (.putfield 177, 3) := dk_181 0 177 (dk_at dksX5_init_21 14 rfl rfl)
theorem dX5_init_515 : decode cX5_init 515 = .ok (.aload_n 0, 1) := dk_42 (dk_at dksX5_init_21 17 rfl rfl)
theorem dX5_init_516 : decode cX5_init 516 = .ok (.bipush 64, 2) := dk_16 64 (dk_at dksX5_init_21 18 rfl rfl)
theorem dX5_init_518 : decode cX5_init 518 = .ok (.newarray .boolean, 2) := dk_188_4 (dk_at dksX5_init_21 20 rfl rfl)
theorem dX5_init_520 : decode cX5_init 520 = .ok (.putfield 180, 3) := dk_181 0 180 (dk_at dksX5_init_22 0 rfl rfl)
theorem dX5_init_523 : decode cX5_init 523 = .ok (.return_, 1) := dk_177 (dk_at dksX5_init_22 3 rfl rfl)
abbrev cX5_set : ByteArray := prog_35_method_35_code
def yX5_set : MethodName := ⟨RX5, "set", "(II)I"⟩
def dkwX5_set_2 : List UInt8 := [184, 0, 250, 82, 42, 180, 0, 13, 27, 4, 84, 4, 172]
abbrev dktX5_set_2 : List UInt8 := dkwX5_set_2 ++ []
def dkwX5_set_1 : List UInt8 := [154, 0, 6, 16, 253, 172, 42, 180, 0, 17, 27, 42, 180, 0, 9, 27, 46, 28, 135, 20, 1, 62, 111]
abbrev dktX5_set_1 : List UInt8 := dkwX5_set_1 ++ dktX5_set_2
def dkwX5_set_0 : List UInt8 := [27, 184, 1, 56, 153, 0, 10, 28, 184, 1, 59, 154, 0, 6, 16, 254, 172, 42, 27, 182, 0, 204]
abbrev dktX5_set_0 : List UInt8 := dkwX5_set_0 ++ dktX5_set_1
theorem dksX5_set_0 : cX5_set.data.toList.drop 0 = dktX5_set_0 := by decide +kernel
theorem dksX5_set_1 : cX5_set.data.toList.drop 22 = dktX5_set_1 := dk_seg dksX5_set_0 22 rfl rfl
theorem dksX5_set_2 : cX5_set.data.toList.drop 45 = dktX5_set_2 := dk_seg dksX5_set_1 23 rfl rfl
theorem dX5_set_0 : decode cX5_set 0 = .ok (.iload_n 1, 1) := dk_27 (dk_at dksX5_set_0 0 rfl rfl)
theorem dX5_set_1 : decode cX5_set 1 = .ok (.invokestatic 312, 3) := dk_184 1 56 (dk_at dksX5_set_0 1 rfl rfl)
theorem dX5_set_4 : decode cX5_set 4 = .ok (.ifCond .eq 10, 3) := dk_153 0 10 (dk_at dksX5_set_0 4 rfl rfl)
theorem dX5_set_7 : decode cX5_set 7 = .ok (.iload_n 2, 1) := dk_28 (dk_at dksX5_set_0 7 rfl rfl)
theorem dX5_set_8 : decode cX5_set 8 = .ok (.invokestatic 315, 3) := dk_184 1 59 (dk_at dksX5_set_0 8 rfl rfl)
theorem dX5_set_11 : decode cX5_set 11 = .ok (.ifCond .ne 6, 3) := dk_154 0 6 (dk_at dksX5_set_0 11 rfl rfl)
theorem dX5_set_14 : decode cX5_set 14 = .ok (.bipush (-2), 2) := dk_16 254 (dk_at dksX5_set_0 14 rfl rfl)
theorem dX5_set_16 : decode cX5_set 16 = .ok (.ireturn, 1) := dk_172 (dk_at dksX5_set_0 16 rfl rfl)
theorem dX5_set_17 : decode cX5_set 17 = .ok (.aload_n 0, 1) := dk_42 (dk_at dksX5_set_0 17 rfl rfl)
theorem dX5_set_18 : decode cX5_set 18 = .ok (.iload_n 1, 1) := dk_27 (dk_at dksX5_set_0 18 rfl rfl)
theorem dX5_set_19 : decode cX5_set 19 = .ok (.invokevirtual 204, 3) := dk_182 0 204 (dk_at dksX5_set_0 19 rfl rfl)
theorem dX5_set_22 : decode cX5_set 22 = .ok (.ifCond .ne 6, 3) := dk_154 0 6 (dk_at dksX5_set_1 0 rfl rfl)
theorem dX5_set_25 : decode cX5_set 25 = .ok (.bipush (-3), 2) := dk_16 253 (dk_at dksX5_set_1 3 rfl rfl)
theorem dX5_set_27 : decode cX5_set 27 = .ok (.ireturn, 1) := dk_172 (dk_at dksX5_set_1 5 rfl rfl)
theorem dX5_set_28 : decode cX5_set 28 = .ok (.aload_n 0, 1) := dk_42 (dk_at dksX5_set_1 6 rfl rfl)
theorem dX5_set_29 : decode cX5_set 29 = .ok (.getfield 17, 3) := dk_180 0 17 (dk_at dksX5_set_1 7 rfl rfl)
theorem dX5_set_32 : decode cX5_set 32 = .ok (.iload_n 1, 1) := dk_27 (dk_at dksX5_set_1 10 rfl rfl)
theorem dX5_set_33 : decode cX5_set 33 = .ok (.aload_n 0, 1) := dk_42 (dk_at dksX5_set_1 11 rfl rfl)
theorem dX5_set_34 : decode cX5_set 34 = .ok (.getfield 9, 3) := dk_180 0 9 (dk_at dksX5_set_1 12 rfl rfl)
theorem dX5_set_37 : decode cX5_set 37 = .ok (.iload_n 1, 1) := dk_27 (dk_at dksX5_set_1 15 rfl rfl)
theorem dX5_set_38 : decode cX5_set 38 = .ok (.iaload, 1) := dk_46 (dk_at dksX5_set_1 16 rfl rfl)
theorem dX5_set_39 : decode cX5_set 39 = .ok (.iload_n 2, 1) := dk_28 (dk_at dksX5_set_1 17 rfl rfl)
theorem dX5_set_40 : decode cX5_set 40 = .ok (.i2d, 1) := dk_135 (dk_at dksX5_set_1 18 rfl rfl)
theorem dX5_set_41 : decode cX5_set 41 = .ok (.ldc2_w 318, 3) := dk_20 1 62 (dk_at dksX5_set_1 19 rfl rfl)
theorem dX5_set_44 : decode cX5_set 44 = .ok (.ddiv, 1) := dk_111 (dk_at dksX5_set_1 22 rfl rfl)
theorem dX5_set_45 : decode cX5_set 45 = .ok (.invokestatic 250, 3) := dk_184 0 250 (dk_at dksX5_set_2 0 rfl rfl)
theorem dX5_set_48 : decode cX5_set 48 = .ok (.dastore, 1) := dk_82 (dk_at dksX5_set_2 3 rfl rfl)
theorem dX5_set_49 : decode cX5_set 49 = .ok (.aload_n 0, 1) := dk_42 (dk_at dksX5_set_2 4 rfl rfl)
theorem dX5_set_50 : decode cX5_set 50 = .ok (.getfield 13, 3) := dk_180 0 13 (dk_at dksX5_set_2 5 rfl rfl)
theorem dX5_set_53 : decode cX5_set 53 = .ok (.iload_n 1, 1) := dk_27 (dk_at dksX5_set_2 8 rfl rfl)
theorem dX5_set_54 : decode cX5_set 54 = .ok (.iconst 1, 1) := dk_4 (dk_at dksX5_set_2 9 rfl rfl)
theorem dX5_set_55 : decode cX5_set 55 = .ok (.bastore, 1) := dk_84 (dk_at dksX5_set_2 10 rfl rfl)
theorem dX5_set_56 : decode cX5_set 56 = .ok (.iconst 1, 1) := dk_4 (dk_at dksX5_set_2 11 rfl rfl)
theorem dX5_set_57 : decode cX5_set 57 = .ok (.ireturn, 1) := dk_172 (dk_at dksX5_set_2 12 rfl rfl)
abbrev cX5_isCell : ByteArray := prog_35_method_3_code
def yX5_isCell : MethodName := ⟨RX5, "isCell", "(I)Z"⟩
def dkwX5_isCell_0 : List UInt8 := [26, 3, 16, 23, 184, 0, 183, 172]
abbrev dktX5_isCell_0 : List UInt8 := dkwX5_isCell_0 ++ []
theorem dksX5_isCell_0 : cX5_isCell.data.toList.drop 0 = dktX5_isCell_0 := by decide +kernel
theorem dX5_isCell_0 : decode cX5_isCell 0 = .ok (.iload_n 0, 1) := dk_26 (dk_at dksX5_isCell_0 0 rfl rfl)
theorem dX5_isCell_1 : decode cX5_isCell 1 = .ok (.iconst 0, 1) := dk_3 (dk_at dksX5_isCell_0 1 rfl rfl)
theorem dX5_isCell_2 : decode cX5_isCell 2 = .ok (.bipush 23, 2) := dk_16 23 (dk_at dksX5_isCell_0 2 rfl rfl)
theorem dX5_isCell_4 : decode cX5_isCell 4 = .ok (.invokestatic 183, 3) := dk_184 0 183 (dk_at dksX5_isCell_0 4 rfl rfl)
theorem dX5_isCell_7 : decode cX5_isCell 7 = .ok (.ireturn, 1) := dk_172 (dk_at dksX5_isCell_0 7 rfl rfl)
abbrev cX5_in : ByteArray := prog_35_method_2_code
def yX5_in : MethodName := ⟨RX5, "in", "(III)Z"⟩
def dkwX5_in_0 : List UInt8 := [26, 27, 161, 0, 12, 26, 28, 163, 0, 7, 4, 167, 0, 4, 3, 172]
abbrev dktX5_in_0 : List UInt8 := dkwX5_in_0 ++ []
theorem dksX5_in_0 : cX5_in.data.toList.drop 0 = dktX5_in_0 := by decide +kernel
theorem dX5_in_0 : decode cX5_in 0 = .ok (.iload_n 0, 1) := dk_26 (dk_at dksX5_in_0 0 rfl rfl)
theorem dX5_in_1 : decode cX5_in 1 = .ok (.iload_n 1, 1) := dk_27 (dk_at dksX5_in_0 1 rfl rfl)
theorem dX5_in_2 : decode cX5_in 2 = .ok (.if_icmp .lt 12, 3) := dk_161 0 12 (dk_at dksX5_in_0 2 rfl rfl)
theorem dX5_in_5 : decode cX5_in 5 = .ok (.iload_n 0, 1) := dk_26 (dk_at dksX5_in_0 5 rfl rfl)
theorem dX5_in_6 : decode cX5_in 6 = .ok (.iload_n 2, 1) := dk_28 (dk_at dksX5_in_0 6 rfl rfl)
theorem dX5_in_7 : decode cX5_in 7 = .ok (.if_icmp .gt 7, 3) := dk_163 0 7 (dk_at dksX5_in_0 7 rfl rfl)
theorem dX5_in_10 : decode cX5_in 10 = .ok (.iconst 1, 1) := dk_4 (dk_at dksX5_in_0 10 rfl rfl)
theorem dX5_in_11 : decode cX5_in 11 = .ok (.goto 4, 3) := dk_167 0 4 (dk_at dksX5_in_0 11 rfl rfl)
theorem dX5_in_14 : decode cX5_in 14 = .ok (.iconst 0, 1) := dk_3 (dk_at dksX5_in_0 14 rfl rfl)
theorem dX5_in_15 : decode cX5_in 15 = .ok (.ireturn, 1) := dk_172 (dk_at dksX5_in_0 15 rfl rfl)
abbrev cX5_isEighths : ByteArray := prog_35_method_34_code
def yX5_isEighths : MethodName := ⟨RX5, "isEighths", "(I)Z"⟩
def dkwX5_isEighths_0 : List UInt8 := [26, 19, 1, 54, 19, 1, 55, 184, 0, 183, 172]
abbrev dktX5_isEighths_0 : List UInt8 := dkwX5_isEighths_0 ++ []
theorem dksX5_isEighths_0 : cX5_isEighths.data.toList.drop 0 = dktX5_isEighths_0 := by decide +kernel
theorem dX5_isEighths_0 : decode cX5_isEighths 0 = .ok (.iload_n 0, 1) := dk_26 (dk_at dksX5_isEighths_0 0 rfl rfl)
theorem dX5_isEighths_1 : decode cX5_isEighths 1 = .ok (.ldc_w 310, 3) := dk_19 1 54 (dk_at dksX5_isEighths_0 1 rfl rfl)
theorem dX5_isEighths_4 : decode cX5_isEighths 4 = .ok (.ldc_w 311, 3) := dk_19 1 55 (dk_at dksX5_isEighths_0 4 rfl rfl)
theorem dX5_isEighths_7 : decode cX5_isEighths 7 = .ok (.invokestatic 183, 3) := dk_184 0 183 (dk_at dksX5_isEighths_0 7 rfl rfl)
theorem dX5_isEighths_10 : decode cX5_isEighths 10 = .ok (.ireturn, 1) := dk_172 (dk_at dksX5_isEighths_0 10 rfl rfl)
abbrev cX5_isInput : ByteArray := prog_35_method_5_code
def yX5_isInput : MethodName := ⟨RX5, "isInput", "(I)Z"⟩
def dkwX5_isInput_0 : List UInt8 := [42, 180, 0, 21, 27, 46, 154, 0, 7, 4, 167, 0, 4, 3, 172]
abbrev dktX5_isInput_0 : List UInt8 := dkwX5_isInput_0 ++ []
theorem dksX5_isInput_0 : cX5_isInput.data.toList.drop 0 = dktX5_isInput_0 := by decide +kernel
theorem dX5_isInput_0 : decode cX5_isInput 0 = .ok (.aload_n 0, 1) := dk_42 (dk_at dksX5_isInput_0 0 rfl rfl)
theorem dX5_isInput_1 : decode cX5_isInput 1 = .ok (.getfield 21, 3) := dk_180 0 21 (dk_at dksX5_isInput_0 1 rfl rfl)
theorem dX5_isInput_4 : decode cX5_isInput 4 = .ok (.iload_n 1, 1) := dk_27 (dk_at dksX5_isInput_0 4 rfl rfl)
theorem dX5_isInput_5 : decode cX5_isInput 5 = .ok (.iaload, 1) := dk_46 (dk_at dksX5_isInput_0 5 rfl rfl)
theorem dX5_isInput_6 : decode cX5_isInput 6 = .ok (.ifCond .ne 7, 3) := dk_154 0 7 (dk_at dksX5_isInput_0 6 rfl rfl)
theorem dX5_isInput_9 : decode cX5_isInput 9 = .ok (.iconst 1, 1) := dk_4 (dk_at dksX5_isInput_0 9 rfl rfl)
theorem dX5_isInput_10 : decode cX5_isInput 10 = .ok (.goto 4, 3) := dk_167 0 4 (dk_at dksX5_isInput_0 10 rfl rfl)
theorem dX5_isInput_13 : decode cX5_isInput 13 = .ok (.iconst 0, 1) := dk_3 (dk_at dksX5_isInput_0 13 rfl rfl)
theorem dX5_isInput_14 : decode cX5_isInput 14 = .ok (.ireturn, 1) := dk_172 (dk_at dksX5_isInput_0 14 rfl rfl)
abbrev cX5_kept : ByteArray := prog_35_method_7_code
def yX5_kept : MethodName := ⟨RX5, "kept", "(ID)D"⟩
def dkwX5_kept_3 : List UInt8 := [39, 20, 0, 194, 151, 158, 0, 9, 20, 0, 194, 167, 0, 4, 39, 184, 0, 187, 175, 39, 184, 0, 187, 175]
abbrev dktX5_kept_3 : List UInt8 := dkwX5_kept_3 ++ []
def dkwX5_kept_2 : List UInt8 := [141, 184, 0, 187, 175, 26, 8, 160, 0, 36, 39, 20, 0, 192, 152, 156, 0, 9, 20, 0, 192, 167, 0, 18]
abbrev dktX5_kept_2 : List UInt8 := dkwX5_kept_2 ++ dktX5_kept_3
def dkwX5_kept_1 : List UInt8 := [26, 6, 160, 0, 12, 39, 143, 136, 145, 135, 184, 0, 187, 175, 26, 7, 160, 0, 13, 39, 144, 18, 191, 114]
abbrev dktX5_kept_1 : List UInt8 := dkwX5_kept_1 ++ dktX5_kept_2
def dkwX5_kept_0 : List UInt8 := [26, 4, 160, 0, 10, 39, 143, 138, 184, 0, 187, 175, 26, 5, 160, 0, 10, 39, 144, 141, 184, 0, 187, 175]
abbrev dktX5_kept_0 : List UInt8 := dkwX5_kept_0 ++ dktX5_kept_1
theorem dksX5_kept_0 : cX5_kept.data.toList.drop 0 = dktX5_kept_0 := by decide +kernel
theorem dksX5_kept_1 : cX5_kept.data.toList.drop 24 = dktX5_kept_1 := dk_seg dksX5_kept_0 24 rfl rfl
theorem dksX5_kept_2 : cX5_kept.data.toList.drop 48 = dktX5_kept_2 := dk_seg dksX5_kept_1 24 rfl rfl
theorem dksX5_kept_3 : cX5_kept.data.toList.drop 72 = dktX5_kept_3 := dk_seg dksX5_kept_2 24 rfl rfl
theorem dX5_kept_0 : decode cX5_kept 0 = .ok (.iload_n 0, 1) := dk_26 (dk_at dksX5_kept_0 0 rfl rfl)
theorem dX5_kept_1 : decode cX5_kept 1 = .ok (.iconst 1, 1) := dk_4 (dk_at dksX5_kept_0 1 rfl rfl)
theorem dX5_kept_2 : decode cX5_kept 2 = .ok (.if_icmp .ne 10, 3) := dk_160 0 10 (dk_at dksX5_kept_0 2 rfl rfl)
theorem dX5_kept_5 : decode cX5_kept 5 = .ok (.dload_n 1, 1) := dk_39 (dk_at dksX5_kept_0 5 rfl rfl)
theorem dX5_kept_6 : decode cX5_kept 6 = .ok (.d2l, 1) := dk_143 (dk_at dksX5_kept_0 6 rfl rfl)
theorem dX5_kept_7 : decode cX5_kept 7 = .ok (.l2d, 1) := dk_138 (dk_at dksX5_kept_0 7 rfl rfl)
theorem dX5_kept_8 : decode cX5_kept 8 = .ok (.invokestatic 187, 3) := dk_184 0 187 (dk_at dksX5_kept_0 8 rfl rfl)
theorem dX5_kept_11 : decode cX5_kept 11 = .ok (.dreturn, 1) := dk_175 (dk_at dksX5_kept_0 11 rfl rfl)
theorem dX5_kept_12 : decode cX5_kept 12 = .ok (.iload_n 0, 1) := dk_26 (dk_at dksX5_kept_0 12 rfl rfl)
theorem dX5_kept_13 : decode cX5_kept 13 = .ok (.iconst 2, 1) := dk_5 (dk_at dksX5_kept_0 13 rfl rfl)
theorem dX5_kept_14 : decode cX5_kept 14 = .ok (.if_icmp .ne 10, 3) := dk_160 0 10 (dk_at dksX5_kept_0 14 rfl rfl)
theorem dX5_kept_17 : decode cX5_kept 17 = .ok (.dload_n 1, 1) := dk_39 (dk_at dksX5_kept_0 17 rfl rfl)
theorem dX5_kept_18 : decode cX5_kept 18 = .ok (.d2f, 1) := dk_144 (dk_at dksX5_kept_0 18 rfl rfl)
theorem dX5_kept_19 : decode cX5_kept 19 = .ok (.f2d, 1) := dk_141 (dk_at dksX5_kept_0 19 rfl rfl)
theorem dX5_kept_20 : decode cX5_kept 20 = .ok (.invokestatic 187, 3) := dk_184 0 187 (dk_at dksX5_kept_0 20 rfl rfl)
theorem dX5_kept_23 : decode cX5_kept 23 = .ok (.dreturn, 1) := dk_175 (dk_at dksX5_kept_0 23 rfl rfl)
theorem dX5_kept_24 : decode cX5_kept 24 = .ok (.iload_n 0, 1) := dk_26 (dk_at dksX5_kept_1 0 rfl rfl)
theorem dX5_kept_25 : decode cX5_kept 25 = .ok (.iconst 3, 1) := dk_6 (dk_at dksX5_kept_1 1 rfl rfl)
theorem dX5_kept_26 : decode cX5_kept 26 = .ok (.if_icmp .ne 12, 3) := dk_160 0 12 (dk_at dksX5_kept_1 2 rfl rfl)
theorem dX5_kept_29 : decode cX5_kept 29 = .ok (.dload_n 1, 1) := dk_39 (dk_at dksX5_kept_1 5 rfl rfl)
theorem dX5_kept_30 : decode cX5_kept 30 = .ok (.d2l, 1) := dk_143 (dk_at dksX5_kept_1 6 rfl rfl)
theorem dX5_kept_31 : decode cX5_kept 31 = .ok (.l2i, 1) := dk_136 (dk_at dksX5_kept_1 7 rfl rfl)
theorem dX5_kept_32 : decode cX5_kept 32 = .ok (.i2b, 1) := dk_145 (dk_at dksX5_kept_1 8 rfl rfl)
theorem dX5_kept_33 : decode cX5_kept 33 = .ok (.i2d, 1) := dk_135 (dk_at dksX5_kept_1 9 rfl rfl)
theorem dX5_kept_34 : decode cX5_kept 34 = .ok (.invokestatic 187, 3) := dk_184 0 187 (dk_at dksX5_kept_1 10 rfl rfl)
theorem dX5_kept_37 : decode cX5_kept 37 = .ok (.dreturn, 1) := dk_175 (dk_at dksX5_kept_1 13 rfl rfl)
theorem dX5_kept_38 : decode cX5_kept 38 = .ok (.iload_n 0, 1) := dk_26 (dk_at dksX5_kept_1 14 rfl rfl)
theorem dX5_kept_39 : decode cX5_kept 39 = .ok (.iconst 4, 1) := dk_7 (dk_at dksX5_kept_1 15 rfl rfl)
theorem dX5_kept_40 : decode cX5_kept 40 = .ok (.if_icmp .ne 13, 3) := dk_160 0 13 (dk_at dksX5_kept_1 16 rfl rfl)
theorem dX5_kept_43 : decode cX5_kept 43 = .ok (.dload_n 1, 1) := dk_39 (dk_at dksX5_kept_1 19 rfl rfl)
theorem dX5_kept_44 : decode cX5_kept 44 = .ok (.d2f, 1) := dk_144 (dk_at dksX5_kept_1 20 rfl rfl)
theorem dX5_kept_45 : decode cX5_kept 45 = .ok (.ldc 191, 2) := dk_18 191 (dk_at dksX5_kept_1 21 rfl rfl)
theorem dX5_kept_47 : decode cX5_kept 47 = .ok (.frem, 1) := dk_114 (dk_at dksX5_kept_1 23 rfl rfl)
theorem dX5_kept_48 : decode cX5_kept 48 = .ok (.f2d, 1) := dk_141 (dk_at dksX5_kept_2 0 rfl rfl)
theorem dX5_kept_49 : decode cX5_kept 49 = .ok (.invokestatic 187, 3) := dk_184 0 187 (dk_at dksX5_kept_2 1 rfl rfl)
theorem dX5_kept_52 : decode cX5_kept 52 = .ok (.dreturn, 1) := dk_175 (dk_at dksX5_kept_2 4 rfl rfl)
theorem dX5_kept_53 : decode cX5_kept 53 = .ok (.iload_n 0, 1) := dk_26 (dk_at dksX5_kept_2 5 rfl rfl)
theorem dX5_kept_54 : decode cX5_kept 54 = .ok (.iconst 5, 1) := dk_8 (dk_at dksX5_kept_2 6 rfl rfl)
theorem dX5_kept_55 : decode cX5_kept 55 = .ok (.if_icmp .ne 36, 3) := dk_160 0 36 (dk_at dksX5_kept_2 7 rfl rfl)
theorem dX5_kept_58 : decode cX5_kept 58 = .ok (.dload_n 1, 1) := dk_39 (dk_at dksX5_kept_2 10 rfl rfl)
theorem dX5_kept_59 : decode cX5_kept 59 = .ok (.ldc2_w 192, 3) := dk_20 0 192 (dk_at dksX5_kept_2 11 rfl rfl)
theorem dX5_kept_62 : decode cX5_kept 62 = .ok (.dcmp .g, 1) := dk_152 (dk_at dksX5_kept_2 14 rfl rfl)
theorem dX5_kept_63 : decode cX5_kept 63 = .ok (.ifCond .ge 9, 3) := dk_156 0 9 (dk_at dksX5_kept_2 15 rfl rfl)
theorem dX5_kept_66 : decode cX5_kept 66 = .ok (.ldc2_w 192, 3) := dk_20 0 192 (dk_at dksX5_kept_2 18 rfl rfl)
theorem dX5_kept_69 : decode cX5_kept 69 = .ok (.goto 18, 3) := dk_167 0 18 (dk_at dksX5_kept_2 21 rfl rfl)
theorem dX5_kept_72 : decode cX5_kept 72 = .ok (.dload_n 1, 1) := dk_39 (dk_at dksX5_kept_3 0 rfl rfl)
theorem dX5_kept_73 : decode cX5_kept 73 = .ok (.ldc2_w 194, 3) := dk_20 0 194 (dk_at dksX5_kept_3 1 rfl rfl)
theorem dX5_kept_76 : decode cX5_kept 76 = .ok (.dcmp .l, 1) := dk_151 (dk_at dksX5_kept_3 4 rfl rfl)
theorem dX5_kept_77 : decode cX5_kept 77 = .ok (.ifCond .le 9, 3) := dk_158 0 9 (dk_at dksX5_kept_3 5 rfl rfl)
theorem dX5_kept_80 : decode cX5_kept 80 = .ok (.ldc2_w 194, 3) := dk_20 0 194 (dk_at dksX5_kept_3 8 rfl rfl)
theorem dX5_kept_83 : decode cX5_kept 83 = .ok (.goto 4, 3) := dk_167 0 4 (dk_at dksX5_kept_3 11 rfl rfl)
theorem dX5_kept_86 : decode cX5_kept 86 = .ok (.dload_n 1, 1) := dk_39 (dk_at dksX5_kept_3 14 rfl rfl)
theorem dX5_kept_87 : decode cX5_kept 87 = .ok (.invokestatic 187, 3) := dk_184 0 187 (dk_at dksX5_kept_3 15 rfl rfl)
theorem dX5_kept_90 : decode cX5_kept 90 = .ok (.dreturn, 1) := dk_175 (dk_at dksX5_kept_3 18 rfl rfl)
theorem dX5_kept_91 : decode cX5_kept 91 = .ok (.dload_n 1, 1) := dk_39 (dk_at dksX5_kept_3 19 rfl rfl)
theorem dX5_kept_92 : decode cX5_kept 92 = .ok (.invokestatic 187, 3) := dk_184 0 187 (dk_at dksX5_kept_3 20 rfl rfl)
theorem dX5_kept_95 : decode cX5_kept 95 = .ok (.dreturn, 1) := dk_175 (dk_at dksX5_kept_3 23 rfl rfl)
abbrev cX5_plain : ByteArray := prog_35_method_6_code
def yX5_plain : MethodName := ⟨RX5, "plain", "(D)D"⟩
def dkwX5_plain_0 : List UInt8 := [38, 14, 151, 154, 0, 7, 14, 167, 0, 4, 38, 175]
abbrev dktX5_plain_0 : List UInt8 := dkwX5_plain_0 ++ []
theorem dksX5_plain_0 : cX5_plain.data.toList.drop 0 = dktX5_plain_0 := by decide +kernel
theorem dX5_plain_0 : decode cX5_plain 0 = .ok (.dload_n 0, 1) := dk_38 (dk_at dksX5_plain_0 0 rfl rfl)
theorem dX5_plain_1 : decode cX5_plain 1 = .ok (.dconst 0, 1) := dk_14 (dk_at dksX5_plain_0 1 rfl rfl)
theorem dX5_plain_2 : decode cX5_plain 2 = .ok (.dcmp .l, 1) := dk_151 (dk_at dksX5_plain_0 2 rfl rfl)
theorem dX5_plain_3 : decode cX5_plain 3 = .ok (.ifCond .ne 7, 3) := dk_154 0 7 (dk_at dksX5_plain_0 3 rfl rfl)
theorem dX5_plain_6 : decode cX5_plain 6 = .ok (.dconst 0, 1) := dk_14 (dk_at dksX5_plain_0 6 rfl rfl)
theorem dX5_plain_7 : decode cX5_plain 7 = .ok (.goto 4, 3) := dk_167 0 4 (dk_at dksX5_plain_0 7 rfl rfl)
theorem dX5_plain_10 : decode cX5_plain 10 = .ok (.dload_n 0, 1) := dk_38 (dk_at dksX5_plain_0 10 rfl rfl)
theorem dX5_plain_11 : decode cX5_plain 11 = .ok (.dreturn, 1) := dk_175 (dk_at dksX5_plain_0 11 rfl rfl)
abbrev cX5_clear : ByteArray := prog_35_method_36_code
def yX5_clear : MethodName := ⟨RX5, "clear", "(I)I"⟩
def dkwX5_clear_1 : List UInt8 := [180, 0, 13, 27, 3, 84, 42, 180, 0, 17, 27, 14, 82, 4, 172]
abbrev dktX5_clear_1 : List UInt8 := dkwX5_clear_1 ++ []
def dkwX5_clear_0 : List UInt8 := [27, 184, 1, 56, 154, 0, 6, 16, 254, 172, 42, 180, 0, 21, 27, 3, 79, 42, 27, 182, 1, 64, 42]
abbrev dktX5_clear_0 : List UInt8 := dkwX5_clear_0 ++ dktX5_clear_1
theorem dksX5_clear_0 : cX5_clear.data.toList.drop 0 = dktX5_clear_0 := by decide +kernel
theorem dksX5_clear_1 : cX5_clear.data.toList.drop 23 = dktX5_clear_1 := dk_seg dksX5_clear_0 23 rfl rfl
theorem dX5_clear_0 : decode cX5_clear 0 = .ok (.iload_n 1, 1) := dk_27 (dk_at dksX5_clear_0 0 rfl rfl)
theorem dX5_clear_1 : decode cX5_clear 1 = .ok (.invokestatic 312, 3) := dk_184 1 56 (dk_at dksX5_clear_0 1 rfl rfl)
theorem dX5_clear_4 : decode cX5_clear 4 = .ok (.ifCond .ne 6, 3) := dk_154 0 6 (dk_at dksX5_clear_0 4 rfl rfl)
theorem dX5_clear_7 : decode cX5_clear 7 = .ok (.bipush (-2), 2) := dk_16 254 (dk_at dksX5_clear_0 7 rfl rfl)
theorem dX5_clear_9 : decode cX5_clear 9 = .ok (.ireturn, 1) := dk_172 (dk_at dksX5_clear_0 9 rfl rfl)
theorem dX5_clear_10 : decode cX5_clear 10 = .ok (.aload_n 0, 1) := dk_42 (dk_at dksX5_clear_0 10 rfl rfl)
theorem dX5_clear_11 : decode cX5_clear 11 = .ok (.getfield 21, 3) := dk_180 0 21 (dk_at dksX5_clear_0 11 rfl rfl)
theorem dX5_clear_14 : decode cX5_clear 14 = .ok (.iload_n 1, 1) := dk_27 (dk_at dksX5_clear_0 14 rfl rfl)
theorem dX5_clear_15 : decode cX5_clear 15 = .ok (.iconst 0, 1) := dk_3 (dk_at dksX5_clear_0 15 rfl rfl)
theorem dX5_clear_16 : decode cX5_clear 16 = .ok (.iastore, 1) := dk_79 (dk_at dksX5_clear_0 16 rfl rfl)
theorem dX5_clear_17 : decode cX5_clear 17 = .ok (.aload_n 0, 1) := dk_42 (dk_at dksX5_clear_0 17 rfl rfl)
theorem dX5_clear_18 : decode cX5_clear 18 = .ok (.iload_n 1, 1) := dk_27 (dk_at dksX5_clear_0 18 rfl rfl)
theorem dX5_clear_19 : decode cX5_clear 19 = .ok (.invokevirtual 320, 3) := dk_182 1 64 (dk_at dksX5_clear_0 19 rfl rfl)
theorem dX5_clear_22 : decode cX5_clear 22 = .ok (.aload_n 0, 1) := dk_42 (dk_at dksX5_clear_0 22 rfl rfl)
theorem dX5_clear_23 : decode cX5_clear 23 = .ok (.getfield 13, 3) := dk_180 0 13 (dk_at dksX5_clear_1 0 rfl rfl)
theorem dX5_clear_26 : decode cX5_clear 26 = .ok (.iload_n 1, 1) := dk_27 (dk_at dksX5_clear_1 3 rfl rfl)
theorem dX5_clear_27 : decode cX5_clear 27 = .ok (.iconst 0, 1) := dk_3 (dk_at dksX5_clear_1 4 rfl rfl)
theorem dX5_clear_28 : decode cX5_clear 28 = .ok (.bastore, 1) := dk_84 (dk_at dksX5_clear_1 5 rfl rfl)
theorem dX5_clear_29 : decode cX5_clear 29 = .ok (.aload_n 0, 1) := dk_42 (dk_at dksX5_clear_1 6 rfl rfl)
theorem dX5_clear_30 : decode cX5_clear 30 = .ok (.getfield 17, 3) := dk_180 0 17 (dk_at dksX5_clear_1 7 rfl rfl)
theorem dX5_clear_33 : decode cX5_clear 33 = .ok (.iload_n 1, 1) := dk_27 (dk_at dksX5_clear_1 10 rfl rfl)
theorem dX5_clear_34 : decode cX5_clear 34 = .ok (.dconst 0, 1) := dk_14 (dk_at dksX5_clear_1 11 rfl rfl)
theorem dX5_clear_35 : decode cX5_clear 35 = .ok (.dastore, 1) := dk_82 (dk_at dksX5_clear_1 12 rfl rfl)
theorem dX5_clear_36 : decode cX5_clear 36 = .ok (.iconst 1, 1) := dk_4 (dk_at dksX5_clear_1 13 rfl rfl)
theorem dX5_clear_37 : decode cX5_clear 37 = .ok (.ireturn, 1) := dk_172 (dk_at dksX5_clear_1 14 rfl rfl)
abbrev cX5_tellNames : ByteArray := prog_35_method_8_code
def yX5_tellNames : MethodName := ⟨RX5, "tellNames", "(I)V"⟩
def dkwX5_tellNames_4 : List UInt8 := [180, 0, 26, 27, 50, 28, 46, 16, 10, 112, 92, 46, 4, 96, 79, 132, 2, 1, 167, 255, 175, 177]
abbrev dktX5_tellNames_4 : List UInt8 := dkwX5_tellNames_4 ++ []
def dkwX5_tellNames_3 : List UInt8 := [128, 79, 42, 180, 0, 26, 27, 50, 28, 46, 17, 1, 44, 161, 0, 25, 42, 180, 0, 55, 27, 50, 42]
abbrev dktX5_tellNames_3 : List UInt8 := dkwX5_tellNames_3 ++ dktX5_tellNames_4
def dkwX5_tellNames_2 : List UInt8 := [28, 46, 16, 24, 162, 0, 22, 42, 180, 0, 52, 27, 92, 46, 4, 42, 180, 0, 26, 27, 50, 28, 46, 120]
abbrev dktX5_tellNames_2 : List UInt8 := dkwX5_tellNames_2 ++ dktX5_tellNames_3
def dkwX5_tellNames_1 : List UInt8 := [132, 2, 1, 167, 255, 238, 3, 61, 28, 42, 180, 0, 21, 27, 46, 162, 0, 77, 42, 180, 0, 26, 27, 50]
abbrev dktX5_tellNames_1 : List UInt8 := dkwX5_tellNames_1 ++ dktX5_tellNames_2
def dkwX5_tellNames_0 : List UInt8 := [42, 180, 0, 52, 27, 3, 79, 3, 61, 28, 16, 6, 162, 0, 18, 42, 180, 0, 55, 27, 50, 28, 3, 79]
abbrev dktX5_tellNames_0 : List UInt8 := dkwX5_tellNames_0 ++ dktX5_tellNames_1
theorem dksX5_tellNames_0 : cX5_tellNames.data.toList.drop 0 = dktX5_tellNames_0 := by decide +kernel
theorem dksX5_tellNames_1 : cX5_tellNames.data.toList.drop 24 = dktX5_tellNames_1 := dk_seg dksX5_tellNames_0 24 rfl rfl
theorem dksX5_tellNames_2 : cX5_tellNames.data.toList.drop 48 = dktX5_tellNames_2 := dk_seg dksX5_tellNames_1 24 rfl rfl
theorem dksX5_tellNames_3 : cX5_tellNames.data.toList.drop 72 = dktX5_tellNames_3 := dk_seg dksX5_tellNames_2 24 rfl rfl
theorem dksX5_tellNames_4 : cX5_tellNames.data.toList.drop 95 = dktX5_tellNames_4 := dk_seg dksX5_tellNames_3 23 rfl rfl
theorem dX5_tellNames_0 : decode cX5_tellNames 0 = .ok (.aload_n 0, 1) := dk_42 (dk_at dksX5_tellNames_0 0 rfl rfl)
theorem dX5_tellNames_1 : decode cX5_tellNames 1 = .ok (.getfield 52, 3) := dk_180 0 52 (dk_at dksX5_tellNames_0 1 rfl rfl)
theorem dX5_tellNames_4 : decode cX5_tellNames 4 = .ok (.iload_n 1, 1) := dk_27 (dk_at dksX5_tellNames_0 4 rfl rfl)
theorem dX5_tellNames_5 : decode cX5_tellNames 5 = .ok (.iconst 0, 1) := dk_3 (dk_at dksX5_tellNames_0 5 rfl rfl)
theorem dX5_tellNames_6 : decode cX5_tellNames 6 = .ok (.iastore, 1) := dk_79 (dk_at dksX5_tellNames_0 6 rfl rfl)
theorem dX5_tellNames_7 : decode cX5_tellNames 7 = .ok (.iconst 0, 1) := dk_3 (dk_at dksX5_tellNames_0 7 rfl rfl)
theorem dX5_tellNames_8 : decode cX5_tellNames 8 = .ok (.istore_n 2, 1) := dk_61 (dk_at dksX5_tellNames_0 8 rfl rfl)
theorem dX5_tellNames_9 : decode cX5_tellNames 9 = .ok (.iload_n 2, 1) := dk_28 (dk_at dksX5_tellNames_0 9 rfl rfl)
theorem dX5_tellNames_10 : decode cX5_tellNames 10 = .ok (.bipush 6, 2) := dk_16 6 (dk_at dksX5_tellNames_0 10 rfl rfl)
theorem dX5_tellNames_12 : decode cX5_tellNames 12 = .ok (.if_icmp .ge 18, 3) := dk_162 0 18 (dk_at dksX5_tellNames_0 12 rfl rfl)
theorem dX5_tellNames_15 : decode cX5_tellNames 15 = .ok (.aload_n 0, 1) := dk_42 (dk_at dksX5_tellNames_0 15 rfl rfl)
theorem dX5_tellNames_16 : decode cX5_tellNames 16 = .ok (.getfield 55, 3) := dk_180 0 55 (dk_at dksX5_tellNames_0 16 rfl rfl)
theorem dX5_tellNames_19 : decode cX5_tellNames 19 = .ok (.iload_n 1, 1) := dk_27 (dk_at dksX5_tellNames_0 19 rfl rfl)
theorem dX5_tellNames_20 : decode cX5_tellNames 20 = .ok (.aaload, 1) := dk_50 (dk_at dksX5_tellNames_0 20 rfl rfl)
theorem dX5_tellNames_21 : decode cX5_tellNames 21 = .ok (.iload_n 2, 1) := dk_28 (dk_at dksX5_tellNames_0 21 rfl rfl)
theorem dX5_tellNames_22 : decode cX5_tellNames 22 = .ok (.iconst 0, 1) := dk_3 (dk_at dksX5_tellNames_0 22 rfl rfl)
theorem dX5_tellNames_23 : decode cX5_tellNames 23 = .ok (.iastore, 1) := dk_79 (dk_at dksX5_tellNames_0 23 rfl rfl)
theorem dX5_tellNames_24 : decode cX5_tellNames 24 = .ok (.iinc 2 1, 3) := dk_132 2 1 (dk_at dksX5_tellNames_1 0 rfl rfl)
theorem dX5_tellNames_27 : decode cX5_tellNames 27 = .ok (.goto (-18), 3) := dk_167 255 238 (dk_at dksX5_tellNames_1 3 rfl rfl)
theorem dX5_tellNames_30 : decode cX5_tellNames 30 = .ok (.iconst 0, 1) := dk_3 (dk_at dksX5_tellNames_1 6 rfl rfl)
theorem dX5_tellNames_31 : decode cX5_tellNames 31 = .ok (.istore_n 2, 1) := dk_61 (dk_at dksX5_tellNames_1 7 rfl rfl)
theorem dX5_tellNames_32 : decode cX5_tellNames 32 = .ok (.iload_n 2, 1) := dk_28 (dk_at dksX5_tellNames_1 8 rfl rfl)
theorem dX5_tellNames_33 : decode cX5_tellNames 33 = .ok (.aload_n 0, 1) := dk_42 (dk_at dksX5_tellNames_1 9 rfl rfl)
theorem dX5_tellNames_34 : decode cX5_tellNames 34 = .ok (.getfield 21, 3) := dk_180 0 21 (dk_at dksX5_tellNames_1 10 rfl rfl)
theorem dX5_tellNames_37 : decode cX5_tellNames 37 = .ok (.iload_n 1, 1) := dk_27 (dk_at dksX5_tellNames_1 13 rfl rfl)
theorem dX5_tellNames_38 : decode cX5_tellNames 38 = .ok (.iaload, 1) := dk_46 (dk_at dksX5_tellNames_1 14 rfl rfl)
theorem dX5_tellNames_39 : decode cX5_tellNames 39 = .ok (.if_icmp .ge 77, 3) := dk_162 0 77 (dk_at dksX5_tellNames_1 15 rfl rfl)
theorem dX5_tellNames_42 : decode cX5_tellNames 42 = .ok (.aload_n 0, 1) := dk_42 (dk_at dksX5_tellNames_1 18 rfl rfl)
theorem dX5_tellNames_43 : decode cX5_tellNames 43 = .ok (.getfield 26, 3) := dk_180 0 26 (dk_at dksX5_tellNames_1 19 rfl rfl)
theorem dX5_tellNames_46 : decode cX5_tellNames 46 = .ok (.iload_n 1, 1) := dk_27 (dk_at dksX5_tellNames_1 22 rfl rfl)
theorem dX5_tellNames_47 : decode cX5_tellNames 47 = .ok (.aaload, 1) := dk_50 (dk_at dksX5_tellNames_1 23 rfl rfl)
theorem dX5_tellNames_48 : decode cX5_tellNames 48 = .ok (.iload_n 2, 1) := dk_28 (dk_at dksX5_tellNames_2 0 rfl rfl)
theorem dX5_tellNames_49 : decode cX5_tellNames 49 = .ok (.iaload, 1) := dk_46 (dk_at dksX5_tellNames_2 1 rfl rfl)
theorem dX5_tellNames_50 : decode cX5_tellNames 50 = .ok (.bipush 24, 2) := dk_16 24 (dk_at dksX5_tellNames_2 2 rfl rfl)
theorem dX5_tellNames_52 : decode cX5_tellNames 52 = .ok (.if_icmp .ge 22, 3) := dk_162 0 22 (dk_at dksX5_tellNames_2 4 rfl rfl)
theorem dX5_tellNames_55 : decode cX5_tellNames 55 = .ok (.aload_n 0, 1) := dk_42 (dk_at dksX5_tellNames_2 7 rfl rfl)
theorem dX5_tellNames_56 : decode cX5_tellNames 56 = .ok (.getfield 52, 3) := dk_180 0 52 (dk_at dksX5_tellNames_2 8 rfl rfl)
theorem dX5_tellNames_59 : decode cX5_tellNames 59 = .ok (.iload_n 1, 1) := dk_27 (dk_at dksX5_tellNames_2 11 rfl rfl)
theorem dX5_tellNames_60 : decode cX5_tellNames 60 = .ok (.dup2, 1) := dk_92 (dk_at dksX5_tellNames_2 12 rfl rfl)
theorem dX5_tellNames_61 : decode cX5_tellNames 61 = .ok (.iaload, 1) := dk_46 (dk_at dksX5_tellNames_2 13 rfl rfl)
theorem dX5_tellNames_62 : decode cX5_tellNames 62 = .ok (.iconst 1, 1) := dk_4 (dk_at dksX5_tellNames_2 14 rfl rfl)
theorem dX5_tellNames_63 : decode cX5_tellNames 63 = .ok (.aload_n 0, 1) := dk_42 (dk_at dksX5_tellNames_2 15 rfl rfl)
theorem dX5_tellNames_64 : decode cX5_tellNames 64 = .ok (.getfield 26, 3) := dk_180 0 26 (dk_at dksX5_tellNames_2 16 rfl rfl)
theorem dX5_tellNames_67 : decode cX5_tellNames 67 = .ok (.iload_n 1, 1) := dk_27 (dk_at dksX5_tellNames_2 19 rfl rfl)
theorem dX5_tellNames_68 : decode cX5_tellNames 68 = .ok (.aaload, 1) := dk_50 (dk_at dksX5_tellNames_2 20 rfl rfl)
theorem dX5_tellNames_69 : decode cX5_tellNames 69 = .ok (.iload_n 2, 1) := dk_28 (dk_at dksX5_tellNames_2 21 rfl rfl)
theorem dX5_tellNames_70 : decode cX5_tellNames 70 = .ok (.iaload, 1) := dk_46 (dk_at dksX5_tellNames_2 22 rfl rfl)
theorem dX5_tellNames_71 : decode cX5_tellNames 71 = .ok (.ishl, 1) := dk_120 (dk_at dksX5_tellNames_2 23 rfl rfl)
theorem dX5_tellNames_72 : decode cX5_tellNames 72 = .ok (.ior, 1) := dk_128 (dk_at dksX5_tellNames_3 0 rfl rfl)
theorem dX5_tellNames_73 : decode cX5_tellNames 73 = .ok (.iastore, 1) := dk_79 (dk_at dksX5_tellNames_3 1 rfl rfl)
theorem dX5_tellNames_74 : decode cX5_tellNames 74 = .ok (.aload_n 0, 1) := dk_42 (dk_at dksX5_tellNames_3 2 rfl rfl)
theorem dX5_tellNames_75 : decode cX5_tellNames 75 = .ok (.getfield 26, 3) := dk_180 0 26 (dk_at dksX5_tellNames_3 3 rfl rfl)
theorem dX5_tellNames_78 : decode cX5_tellNames 78 = .ok (.iload_n 1, 1) := dk_27 (dk_at dksX5_tellNames_3 6 rfl rfl)
theorem dX5_tellNames_79 : decode cX5_tellNames 79 = .ok (.aaload, 1) := dk_50 (dk_at dksX5_tellNames_3 7 rfl rfl)
theorem dX5_tellNames_80 : decode cX5_tellNames 80 = .ok (.iload_n 2, 1) := dk_28 (dk_at dksX5_tellNames_3 8 rfl rfl)
theorem dX5_tellNames_81 : decode cX5_tellNames 81 = .ok (.iaload, 1) := dk_46 (dk_at dksX5_tellNames_3 9 rfl rfl)
theorem dX5_tellNames_82 : decode cX5_tellNames 82 = .ok (.sipush 300, 3) := dk_17 1 44 (dk_at dksX5_tellNames_3 10 rfl rfl)
theorem dX5_tellNames_85 : decode cX5_tellNames 85 = .ok (.if_icmp .lt 25, 3) := dk_161 0 25 (dk_at dksX5_tellNames_3 13 rfl rfl)
theorem dX5_tellNames_88 : decode cX5_tellNames 88 = .ok (.aload_n 0, 1) := dk_42 (dk_at dksX5_tellNames_3 16 rfl rfl)
theorem dX5_tellNames_89 : decode cX5_tellNames 89 = .ok (.getfield 55, 3) := dk_180 0 55 (dk_at dksX5_tellNames_3 17 rfl rfl)
theorem dX5_tellNames_92 : decode cX5_tellNames 92 = .ok (.iload_n 1, 1) := dk_27 (dk_at dksX5_tellNames_3 20 rfl rfl)
theorem dX5_tellNames_93 : decode cX5_tellNames 93 = .ok (.aaload, 1) := dk_50 (dk_at dksX5_tellNames_3 21 rfl rfl)
theorem dX5_tellNames_94 : decode cX5_tellNames 94 = .ok (.aload_n 0, 1) := dk_42 (dk_at dksX5_tellNames_3 22 rfl rfl)
theorem dX5_tellNames_95 : decode cX5_tellNames 95 = .ok (.getfield 26, 3) := dk_180 0 26 (dk_at dksX5_tellNames_4 0 rfl rfl)
theorem dX5_tellNames_98 : decode cX5_tellNames 98 = .ok (.iload_n 1, 1) := dk_27 (dk_at dksX5_tellNames_4 3 rfl rfl)
theorem dX5_tellNames_99 : decode cX5_tellNames 99 = .ok (.aaload, 1) := dk_50 (dk_at dksX5_tellNames_4 4 rfl rfl)
theorem dX5_tellNames_100 : decode cX5_tellNames 100 = .ok (.iload_n 2, 1) := dk_28 (dk_at dksX5_tellNames_4 5 rfl rfl)
theorem dX5_tellNames_101 : decode cX5_tellNames 101 = .ok (.iaload, 1) := dk_46 (dk_at dksX5_tellNames_4 6 rfl rfl)
theorem dX5_tellNames_102 : decode cX5_tellNames 102 = .ok (.bipush 10, 2) := dk_16 10 (dk_at dksX5_tellNames_4 7 rfl rfl)
theorem dX5_tellNames_104 : decode cX5_tellNames 104 = .ok (.irem, 1) := dk_112 (dk_at dksX5_tellNames_4 9 rfl rfl)
theorem dX5_tellNames_105 : decode cX5_tellNames 105 = .ok (.dup2, 1) := dk_92 (dk_at dksX5_tellNames_4 10 rfl rfl)
theorem dX5_tellNames_106 : decode cX5_tellNames 106 = .ok (.iaload, 1) := dk_46 (dk_at dksX5_tellNames_4 11 rfl rfl)
theorem dX5_tellNames_107 : decode cX5_tellNames 107 = .ok (.iconst 1, 1) := dk_4 (dk_at dksX5_tellNames_4 12 rfl rfl)
theorem dX5_tellNames_108 : decode cX5_tellNames 108 = .ok (.iadd, 1) := dk_96 (dk_at dksX5_tellNames_4 13 rfl rfl)
theorem dX5_tellNames_109 : decode cX5_tellNames 109 = .ok (.iastore, 1) := dk_79 (dk_at dksX5_tellNames_4 14 rfl rfl)
theorem dX5_tellNames_110 : decode cX5_tellNames 110 = .ok (.iinc 2 1, 3) := dk_132 2 1 (dk_at dksX5_tellNames_4 15 rfl rfl)
theorem dX5_tellNames_113 : decode cX5_tellNames 113 = .ok (.goto (-81), 3) := dk_167 255 175 (dk_at dksX5_tellNames_4 18 rfl rfl)
theorem dX5_tellNames_116 : decode cX5_tellNames 116 = .ok (.return_, 1) := dk_177 (dk_at dksX5_tellNames_4 21 rfl rfl)
abbrev cX5_kind : ByteArray := prog_35_method_37_code
def yX5_kind : MethodName := ⟨RX5, "kind", "(II)I"⟩
def dkwX5_kind_2 : List UInt8 := [180, 0, 17, 27, 49, 184, 0, 250, 82, 29, 172]
abbrev dktX5_kind_2 : List UInt8 := dkwX5_kind_2 ++ []
def dkwX5_kind_1 : List UInt8 := [46, 62, 42, 180, 0, 9, 27, 28, 79, 42, 27, 182, 0, 204, 153, 0, 19, 42, 180, 0, 17, 27, 28, 42]
abbrev dktX5_kind_1 : List UInt8 := dkwX5_kind_1 ++ dktX5_kind_2
def dkwX5_kind_0 : List UInt8 := [27, 184, 1, 56, 153, 0, 12, 28, 3, 8, 184, 0, 183, 154, 0, 6, 16, 254, 172, 42, 180, 0, 9, 27]
abbrev dktX5_kind_0 : List UInt8 := dkwX5_kind_0 ++ dktX5_kind_1
theorem dksX5_kind_0 : cX5_kind.data.toList.drop 0 = dktX5_kind_0 := by decide +kernel
theorem dksX5_kind_1 : cX5_kind.data.toList.drop 24 = dktX5_kind_1 := dk_seg dksX5_kind_0 24 rfl rfl
theorem dksX5_kind_2 : cX5_kind.data.toList.drop 48 = dktX5_kind_2 := dk_seg dksX5_kind_1 24 rfl rfl
theorem dX5_kind_0 : decode cX5_kind 0 = .ok (.iload_n 1, 1) := dk_27 (dk_at dksX5_kind_0 0 rfl rfl)
theorem dX5_kind_1 : decode cX5_kind 1 = .ok (.invokestatic 312, 3) := dk_184 1 56 (dk_at dksX5_kind_0 1 rfl rfl)
theorem dX5_kind_4 : decode cX5_kind 4 = .ok (.ifCond .eq 12, 3) := dk_153 0 12 (dk_at dksX5_kind_0 4 rfl rfl)
theorem dX5_kind_7 : decode cX5_kind 7 = .ok (.iload_n 2, 1) := dk_28 (dk_at dksX5_kind_0 7 rfl rfl)
theorem dX5_kind_8 : decode cX5_kind 8 = .ok (.iconst 0, 1) := dk_3 (dk_at dksX5_kind_0 8 rfl rfl)
theorem dX5_kind_9 : decode cX5_kind 9 = .ok (.iconst 5, 1) := dk_8 (dk_at dksX5_kind_0 9 rfl rfl)
theorem dX5_kind_10 : decode cX5_kind 10 = .ok (.invokestatic 183, 3) := dk_184 0 183 (dk_at dksX5_kind_0 10 rfl rfl)
theorem dX5_kind_13 : decode cX5_kind 13 = .ok (.ifCond .ne 6, 3) := dk_154 0 6 (dk_at dksX5_kind_0 13 rfl rfl)
theorem dX5_kind_16 : decode cX5_kind 16 = .ok (.bipush (-2), 2) := dk_16 254 (dk_at dksX5_kind_0 16 rfl rfl)
theorem dX5_kind_18 : decode cX5_kind 18 = .ok (.ireturn, 1) := dk_172 (dk_at dksX5_kind_0 18 rfl rfl)
theorem dX5_kind_19 : decode cX5_kind 19 = .ok (.aload_n 0, 1) := dk_42 (dk_at dksX5_kind_0 19 rfl rfl)
theorem dX5_kind_20 : decode cX5_kind 20 = .ok (.getfield 9, 3) := dk_180 0 9 (dk_at dksX5_kind_0 20 rfl rfl)
theorem dX5_kind_23 : decode cX5_kind 23 = .ok (.iload_n 1, 1) := dk_27 (dk_at dksX5_kind_0 23 rfl rfl)
theorem dX5_kind_24 : decode cX5_kind 24 = .ok (.iaload, 1) := dk_46 (dk_at dksX5_kind_1 0 rfl rfl)
theorem dX5_kind_25 : decode cX5_kind 25 = .ok (.istore_n 3, 1) := dk_62 (dk_at dksX5_kind_1 1 rfl rfl)
theorem dX5_kind_26 : decode cX5_kind 26 = .ok (.aload_n 0, 1) := dk_42 (dk_at dksX5_kind_1 2 rfl rfl)
theorem dX5_kind_27 : decode cX5_kind 27 = .ok (.getfield 9, 3) := dk_180 0 9 (dk_at dksX5_kind_1 3 rfl rfl)
theorem dX5_kind_30 : decode cX5_kind 30 = .ok (.iload_n 1, 1) := dk_27 (dk_at dksX5_kind_1 6 rfl rfl)
theorem dX5_kind_31 : decode cX5_kind 31 = .ok (.iload_n 2, 1) := dk_28 (dk_at dksX5_kind_1 7 rfl rfl)
theorem dX5_kind_32 : decode cX5_kind 32 = .ok (.iastore, 1) := dk_79 (dk_at dksX5_kind_1 8 rfl rfl)
theorem dX5_kind_33 : decode cX5_kind 33 = .ok (.aload_n 0, 1) := dk_42 (dk_at dksX5_kind_1 9 rfl rfl)
theorem dX5_kind_34 : decode cX5_kind 34 = .ok (.iload_n 1, 1) := dk_27 (dk_at dksX5_kind_1 10 rfl rfl)
theorem dX5_kind_35 : decode cX5_kind 35 = .ok (.invokevirtual 204, 3) := dk_182 0 204 (dk_at dksX5_kind_1 11 rfl rfl)
theorem dX5_kind_38 : decode cX5_kind 38 = .ok (.ifCond .eq 19, 3) := dk_153 0 19 (dk_at dksX5_kind_1 14 rfl rfl)
theorem dX5_kind_41 : decode cX5_kind 41 = .ok (.aload_n 0, 1) := dk_42 (dk_at dksX5_kind_1 17 rfl rfl)
theorem dX5_kind_42 : decode cX5_kind 42 = .ok (.getfield 17, 3) := dk_180 0 17 (dk_at dksX5_kind_1 18 rfl rfl)
theorem dX5_kind_45 : decode cX5_kind 45 = .ok (.iload_n 1, 1) := dk_27 (dk_at dksX5_kind_1 21 rfl rfl)
theorem dX5_kind_46 : decode cX5_kind 46 = .ok (.iload_n 2, 1) := dk_28 (dk_at dksX5_kind_1 22 rfl rfl)
theorem dX5_kind_47 : decode cX5_kind 47 = .ok (.aload_n 0, 1) := dk_42 (dk_at dksX5_kind_1 23 rfl rfl)
theorem dX5_kind_48 : decode cX5_kind 48 = .ok (.getfield 17, 3) := dk_180 0 17 (dk_at dksX5_kind_2 0 rfl rfl)
theorem dX5_kind_51 : decode cX5_kind 51 = .ok (.iload_n 1, 1) := dk_27 (dk_at dksX5_kind_2 3 rfl rfl)
theorem dX5_kind_52 : decode cX5_kind 52 = .ok (.daload, 1) := dk_49 (dk_at dksX5_kind_2 4 rfl rfl)
theorem dX5_kind_53 : decode cX5_kind 53 = .ok (.invokestatic 250, 3) := dk_184 0 250 (dk_at dksX5_kind_2 5 rfl rfl)
theorem dX5_kind_56 : decode cX5_kind 56 = .ok (.dastore, 1) := dk_82 (dk_at dksX5_kind_2 8 rfl rfl)
theorem dX5_kind_57 : decode cX5_kind 57 = .ok (.iload_n 3, 1) := dk_29 (dk_at dksX5_kind_2 9 rfl rfl)
theorem dX5_kind_58 : decode cX5_kind 58 = .ok (.ireturn, 1) := dk_172 (dk_at dksX5_kind_2 10 rfl rfl)
abbrev cX5_told : ByteArray := prog_35_method_38_code
def yX5_told : MethodName := ⟨RX5, "told", "(II)I"⟩
def dkwX5_told_5 : List UInt8 := [8, 160, 0, 14, 42, 180, 0, 78, 3, 50, 27, 46, 167, 0, 11, 42, 180, 0, 81, 3, 50, 27, 46, 172]
abbrev dktX5_told_5 : List UInt8 := dkwX5_told_5 ++ []
def dkwX5_told_4 : List UInt8 := [153, 0, 16, 42, 180, 0, 13, 27, 51, 154, 0, 7, 4, 167, 0, 4, 3, 172, 42, 27, 182, 1, 40, 28]
abbrev dktX5_told_4 : List UInt8 := dkwX5_told_4 ++ dktX5_told_5
def dkwX5_told_3 : List UInt8 := [28, 7, 160, 0, 9, 42, 27, 182, 0, 237, 172, 28, 16, 7, 160, 0, 26, 42, 27, 182, 0, 204]
abbrev dktX5_told_3 : List UInt8 := dkwX5_told_3 ++ dktX5_told_4
def dkwX5_told_2 : List UInt8 := [4, 172, 28, 5, 160, 0, 9, 42, 27, 182, 1, 67, 172, 28, 6, 160, 0, 9, 42, 27, 182, 0, 214, 172]
abbrev dktX5_told_2 : List UInt8 := dkwX5_told_2 ++ dktX5_told_3
def dkwX5_told_1 : List UInt8 := [42, 180, 0, 9, 27, 46, 172, 28, 4, 160, 0, 17, 42, 27, 182, 0, 204, 153, 0, 7, 3, 167, 0, 4]
abbrev dktX5_told_1 : List UInt8 := dkwX5_told_1 ++ dktX5_told_2
def dkwX5_told_0 : List UInt8 := [27, 184, 1, 56, 153, 0, 13, 28, 3, 16, 7, 184, 0, 183, 154, 0, 6, 16, 254, 172, 28, 154, 0, 10]
abbrev dktX5_told_0 : List UInt8 := dkwX5_told_0 ++ dktX5_told_1
theorem dksX5_told_0 : cX5_told.data.toList.drop 0 = dktX5_told_0 := by decide +kernel
theorem dksX5_told_1 : cX5_told.data.toList.drop 24 = dktX5_told_1 := dk_seg dksX5_told_0 24 rfl rfl
theorem dksX5_told_2 : cX5_told.data.toList.drop 48 = dktX5_told_2 := dk_seg dksX5_told_1 24 rfl rfl
theorem dksX5_told_3 : cX5_told.data.toList.drop 72 = dktX5_told_3 := dk_seg dksX5_told_2 24 rfl rfl
theorem dksX5_told_4 : cX5_told.data.toList.drop 94 = dktX5_told_4 := dk_seg dksX5_told_3 22 rfl rfl
theorem dksX5_told_5 : cX5_told.data.toList.drop 118 = dktX5_told_5 := dk_seg dksX5_told_4 24 rfl rfl
theorem dX5_told_0 : decode cX5_told 0 = .ok (.iload_n 1, 1) := dk_27 (dk_at dksX5_told_0 0 rfl rfl)
theorem dX5_told_1 : decode cX5_told 1 = .ok (.invokestatic 312, 3) := dk_184 1 56 (dk_at dksX5_told_0 1 rfl rfl)
theorem dX5_told_4 : decode cX5_told 4 = .ok (.ifCond .eq 13, 3) := dk_153 0 13 (dk_at dksX5_told_0 4 rfl rfl)
theorem dX5_told_7 : decode cX5_told 7 = .ok (.iload_n 2, 1) := dk_28 (dk_at dksX5_told_0 7 rfl rfl)
theorem dX5_told_8 : decode cX5_told 8 = .ok (.iconst 0, 1) := dk_3 (dk_at dksX5_told_0 8 rfl rfl)
theorem dX5_told_9 : decode cX5_told 9 = .ok (.bipush 7, 2) := dk_16 7 (dk_at dksX5_told_0 9 rfl rfl)
theorem dX5_told_11 : decode cX5_told 11 = .ok (.invokestatic 183, 3) := dk_184 0 183 (dk_at dksX5_told_0 11 rfl rfl)
theorem dX5_told_14 : decode cX5_told 14 = .ok (.ifCond .ne 6, 3) := dk_154 0 6 (dk_at dksX5_told_0 14 rfl rfl)
theorem dX5_told_17 : decode cX5_told 17 = .ok (.bipush (-2), 2) := dk_16 254 (dk_at dksX5_told_0 17 rfl rfl)
theorem dX5_told_19 : decode cX5_told 19 = .ok (.ireturn, 1) := dk_172 (dk_at dksX5_told_0 19 rfl rfl)
theorem dX5_told_20 : decode cX5_told 20 = .ok (.iload_n 2, 1) := dk_28 (dk_at dksX5_told_0 20 rfl rfl)
theorem dX5_told_21 : decode cX5_told 21 = .ok (.ifCond .ne 10, 3) := dk_154 0 10 (dk_at dksX5_told_0 21 rfl rfl)
theorem dX5_told_24 : decode cX5_told 24 = .ok (.aload_n 0, 1) := dk_42 (dk_at dksX5_told_1 0 rfl rfl)
theorem dX5_told_25 : decode cX5_told 25 = .ok (.getfield 9, 3) := dk_180 0 9 (dk_at dksX5_told_1 1 rfl rfl)
theorem dX5_told_28 : decode cX5_told 28 = .ok (.iload_n 1, 1) := dk_27 (dk_at dksX5_told_1 4 rfl rfl)
theorem dX5_told_29 : decode cX5_told 29 = .ok (.iaload, 1) := dk_46 (dk_at dksX5_told_1 5 rfl rfl)
theorem dX5_told_30 : decode cX5_told 30 = .ok (.ireturn, 1) := dk_172 (dk_at dksX5_told_1 6 rfl rfl)
theorem dX5_told_31 : decode cX5_told 31 = .ok (.iload_n 2, 1) := dk_28 (dk_at dksX5_told_1 7 rfl rfl)
theorem dX5_told_32 : decode cX5_told 32 = .ok (.iconst 1, 1) := dk_4 (dk_at dksX5_told_1 8 rfl rfl)
theorem dX5_told_33 : decode cX5_told 33 = .ok (.if_icmp .ne 17, 3) := dk_160 0 17 (dk_at dksX5_told_1 9 rfl rfl)
theorem dX5_told_36 : decode cX5_told 36 = .ok (.aload_n 0, 1) := dk_42 (dk_at dksX5_told_1 12 rfl rfl)
theorem dX5_told_37 : decode cX5_told 37 = .ok (.iload_n 1, 1) := dk_27 (dk_at dksX5_told_1 13 rfl rfl)
theorem dX5_told_38 : decode cX5_told 38 = .ok (.invokevirtual 204, 3) := dk_182 0 204 (dk_at dksX5_told_1 14 rfl rfl)
theorem dX5_told_41 : decode cX5_told 41 = .ok (.ifCond .eq 7, 3) := dk_153 0 7 (dk_at dksX5_told_1 17 rfl rfl)
theorem dX5_told_44 : decode cX5_told 44 = .ok (.iconst 0, 1) := dk_3 (dk_at dksX5_told_1 20 rfl rfl)
theorem dX5_told_45 : decode cX5_told 45 = .ok (.goto 4, 3) := dk_167 0 4 (dk_at dksX5_told_1 21 rfl rfl)
theorem dX5_told_48 : decode cX5_told 48 = .ok (.iconst 1, 1) := dk_4 (dk_at dksX5_told_2 0 rfl rfl)
theorem dX5_told_49 : decode cX5_told 49 = .ok (.ireturn, 1) := dk_172 (dk_at dksX5_told_2 1 rfl rfl)
theorem dX5_told_50 : decode cX5_told 50 = .ok (.iload_n 2, 1) := dk_28 (dk_at dksX5_told_2 2 rfl rfl)
theorem dX5_told_51 : decode cX5_told 51 = .ok (.iconst 2, 1) := dk_5 (dk_at dksX5_told_2 3 rfl rfl)
theorem dX5_told_52 : decode cX5_told 52 = .ok (.if_icmp .ne 9, 3) := dk_160 0 9 (dk_at dksX5_told_2 4 rfl rfl)
theorem dX5_told_55 : decode cX5_told 55 = .ok (.aload_n 0, 1) := dk_42 (dk_at dksX5_told_2 7 rfl rfl)
theorem dX5_told_56 : decode cX5_told 56 = .ok (.iload_n 1, 1) := dk_27 (dk_at dksX5_told_2 8 rfl rfl)
theorem dX5_told_57 : decode cX5_told 57 = .ok (.invokevirtual 323, 3) := dk_182 1 67 (dk_at dksX5_told_2 9 rfl rfl)
theorem dX5_told_60 : decode cX5_told 60 = .ok (.ireturn, 1) := dk_172 (dk_at dksX5_told_2 12 rfl rfl)
theorem dX5_told_61 : decode cX5_told 61 = .ok (.iload_n 2, 1) := dk_28 (dk_at dksX5_told_2 13 rfl rfl)
theorem dX5_told_62 : decode cX5_told 62 = .ok (.iconst 3, 1) := dk_6 (dk_at dksX5_told_2 14 rfl rfl)
theorem dX5_told_63 : decode cX5_told 63 = .ok (.if_icmp .ne 9, 3) := dk_160 0 9 (dk_at dksX5_told_2 15 rfl rfl)
theorem dX5_told_66 : decode cX5_told 66 = .ok (.aload_n 0, 1) := dk_42 (dk_at dksX5_told_2 18 rfl rfl)
theorem dX5_told_67 : decode cX5_told 67 = .ok (.iload_n 1, 1) := dk_27 (dk_at dksX5_told_2 19 rfl rfl)
theorem dX5_told_68 : decode cX5_told 68 = .ok (.invokevirtual 214, 3) := dk_182 0 214 (dk_at dksX5_told_2 20 rfl rfl)
theorem dX5_told_71 : decode cX5_told 71 = .ok (.ireturn, 1) := dk_172 (dk_at dksX5_told_2 23 rfl rfl)
theorem dX5_told_72 : decode cX5_told 72 = .ok (.iload_n 2, 1) := dk_28 (dk_at dksX5_told_3 0 rfl rfl)
theorem dX5_told_73 : decode cX5_told 73 = .ok (.iconst 4, 1) := dk_7 (dk_at dksX5_told_3 1 rfl rfl)
theorem dX5_told_74 : decode cX5_told 74 = .ok (.if_icmp .ne 9, 3) := dk_160 0 9 (dk_at dksX5_told_3 2 rfl rfl)
theorem dX5_told_77 : decode cX5_told 77 = .ok (.aload_n 0, 1) := dk_42 (dk_at dksX5_told_3 5 rfl rfl)
theorem dX5_told_78 : decode cX5_told 78 = .ok (.iload_n 1, 1) := dk_27 (dk_at dksX5_told_3 6 rfl rfl)
theorem dX5_told_79 : decode cX5_told 79 = .ok (.invokevirtual 237, 3) := dk_182 0 237 (dk_at dksX5_told_3 7 rfl rfl)
theorem dX5_told_82 : decode cX5_told 82 = .ok (.ireturn, 1) := dk_172 (dk_at dksX5_told_3 10 rfl rfl)
theorem dX5_told_83 : decode cX5_told 83 = .ok (.iload_n 2, 1) := dk_28 (dk_at dksX5_told_3 11 rfl rfl)
theorem dX5_told_84 : decode cX5_told 84 = .ok (.bipush 7, 2) := dk_16 7 (dk_at dksX5_told_3 12 rfl rfl)
theorem dX5_told_86 : decode cX5_told 86 = .ok (.if_icmp .ne 26, 3) := dk_160 0 26 (dk_at dksX5_told_3 14 rfl rfl)
theorem dX5_told_89 : decode cX5_told 89 = .ok (.aload_n 0, 1) := dk_42 (dk_at dksX5_told_3 17 rfl rfl)
theorem dX5_told_90 : decode cX5_told 90 = .ok (.iload_n 1, 1) := dk_27 (dk_at dksX5_told_3 18 rfl rfl)
theorem dX5_told_91 : decode cX5_told 91 = .ok (.invokevirtual 204, 3) := dk_182 0 204 (dk_at dksX5_told_3 19 rfl rfl)
theorem dX5_told_94 : decode cX5_told 94 = .ok (.ifCond .eq 16, 3) := dk_153 0 16 (dk_at dksX5_told_4 0 rfl rfl)
theorem dX5_told_97 : decode cX5_told 97 = .ok (.aload_n 0, 1) := dk_42 (dk_at dksX5_told_4 3 rfl rfl)
theorem dX5_told_98 : decode cX5_told 98 = .ok (.getfield 13, 3) := dk_180 0 13 (dk_at dksX5_told_4 4 rfl rfl)
theorem dX5_told_101 : decode cX5_told 101 = .ok (.iload_n 1, 1) := dk_27 (dk_at dksX5_told_4 7 rfl rfl)
theorem dX5_told_102 : decode cX5_told 102 = .ok (.baload, 1) := dk_51 (dk_at dksX5_told_4 8 rfl rfl)
theorem dX5_told_103 : decode cX5_told 103 = .ok (.ifCond .ne 7, 3) := dk_154 0 7 (dk_at dksX5_told_4 9 rfl rfl)
theorem dX5_told_106 : decode cX5_told 106 = .ok (.iconst 1, 1) := dk_4 (dk_at dksX5_told_4 12 rfl rfl)
theorem dX5_told_107 : decode cX5_told 107 = .ok (.goto 4, 3) := dk_167 0 4 (dk_at dksX5_told_4 13 rfl rfl)
theorem dX5_told_110 : decode cX5_told 110 = .ok (.iconst 0, 1) := dk_3 (dk_at dksX5_told_4 16 rfl rfl)
theorem dX5_told_111 : decode cX5_told 111 = .ok (.ireturn, 1) := dk_172 (dk_at dksX5_told_4 17 rfl rfl)
theorem dX5_told_112 : decode cX5_told 112 = .ok (.aload_n 0, 1) := dk_42 (dk_at dksX5_told_4 18 rfl rfl)
theorem dX5_told_113 : decode cX5_told 113 = .ok (.iload_n 1, 1) := dk_27 (dk_at dksX5_told_4 19 rfl rfl)
theorem dX5_told_114 : decode cX5_told 114 = .ok (.invokevirtual 296, 3) := dk_182 1 40 (dk_at dksX5_told_4 20 rfl rfl)
theorem dX5_told_117 : decode cX5_told 117 = .ok (.iload_n 2, 1) := dk_28 (dk_at dksX5_told_4 23 rfl rfl)
theorem dX5_told_118 : decode cX5_told 118 = .ok (.iconst 5, 1) := dk_8 (dk_at dksX5_told_5 0 rfl rfl)
theorem dX5_told_119 : decode cX5_told 119 = .ok (.if_icmp .ne 14, 3) := dk_160 0 14 (dk_at dksX5_told_5 1 rfl rfl)
theorem dX5_told_122 : decode cX5_told 122 = .ok (.aload_n 0, 1) := dk_42 (dk_at dksX5_told_5 4 rfl rfl)
theorem dX5_told_123 : decode cX5_told 123 = .ok (.getfield 78, 3) := dk_180 0 78 (dk_at dksX5_told_5 5 rfl rfl)
theorem dX5_told_126 : decode cX5_told 126 = .ok (.iconst 0, 1) := dk_3 (dk_at dksX5_told_5 8 rfl rfl)
theorem dX5_told_127 : decode cX5_told 127 = .ok (.aaload, 1) := dk_50 (dk_at dksX5_told_5 9 rfl rfl)
theorem dX5_told_128 : decode cX5_told 128 = .ok (.iload_n 1, 1) := dk_27 (dk_at dksX5_told_5 10 rfl rfl)
theorem dX5_told_129 : decode cX5_told 129 = .ok (.iaload, 1) := dk_46 (dk_at dksX5_told_5 11 rfl rfl)
theorem dX5_told_130 : decode cX5_told 130 = .ok (.goto 11, 3) := dk_167 0 11 (dk_at dksX5_told_5 12 rfl rfl)
theorem dX5_told_133 : decode cX5_told 133 = .ok (.aload_n 0, 1) := dk_42 (dk_at dksX5_told_5 15 rfl rfl)
theorem dX5_told_134 : decode cX5_told 134 = .ok (.getfield 81, 3) := dk_180 0 81 (dk_at dksX5_told_5 16 rfl rfl)
theorem dX5_told_137 : decode cX5_told 137 = .ok (.iconst 0, 1) := dk_3 (dk_at dksX5_told_5 19 rfl rfl)
theorem dX5_told_138 : decode cX5_told 138 = .ok (.aaload, 1) := dk_50 (dk_at dksX5_told_5 20 rfl rfl)
theorem dX5_told_139 : decode cX5_told 139 = .ok (.iload_n 1, 1) := dk_27 (dk_at dksX5_told_5 21 rfl rfl)
theorem dX5_told_140 : decode cX5_told 140 = .ok (.iaload, 1) := dk_46 (dk_at dksX5_told_5 22 rfl rfl)
theorem dX5_told_141 : decode cX5_told 141 = .ok (.ireturn, 1) := dk_172 (dk_at dksX5_told_5 23 rfl rfl)
abbrev cX5_reads : ByteArray := prog_35_method_15_code
def yX5_reads : MethodName := ⟨RX5, "reads", "(I)I"⟩
def dkwX5_reads_1 : List UInt8 := [182, 0, 208, 172]
abbrev dktX5_reads_1 : List UInt8 := dkwX5_reads_1 ++ []
def dkwX5_reads_0 : List UInt8 := [3, 61, 28, 16, 24, 162, 0, 16, 42, 180, 0, 58, 28, 3, 84, 132, 2, 1, 167, 255, 240, 42, 27]
abbrev dktX5_reads_0 : List UInt8 := dkwX5_reads_0 ++ dktX5_reads_1
theorem dksX5_reads_0 : cX5_reads.data.toList.drop 0 = dktX5_reads_0 := by decide +kernel
theorem dksX5_reads_1 : cX5_reads.data.toList.drop 23 = dktX5_reads_1 := dk_seg dksX5_reads_0 23 rfl rfl
theorem dX5_reads_0 : decode cX5_reads 0 = .ok (.iconst 0, 1) := dk_3 (dk_at dksX5_reads_0 0 rfl rfl)
theorem dX5_reads_1 : decode cX5_reads 1 = .ok (.istore_n 2, 1) := dk_61 (dk_at dksX5_reads_0 1 rfl rfl)
theorem dX5_reads_2 : decode cX5_reads 2 = .ok (.iload_n 2, 1) := dk_28 (dk_at dksX5_reads_0 2 rfl rfl)
theorem dX5_reads_3 : decode cX5_reads 3 = .ok (.bipush 24, 2) := dk_16 24 (dk_at dksX5_reads_0 3 rfl rfl)
theorem dX5_reads_5 : decode cX5_reads 5 = .ok (.if_icmp .ge 16, 3) := dk_162 0 16 (dk_at dksX5_reads_0 5 rfl rfl)
theorem dX5_reads_8 : decode cX5_reads 8 = .ok (.aload_n 0, 1) := dk_42 (dk_at dksX5_reads_0 8 rfl rfl)
theorem dX5_reads_9 : decode cX5_reads 9 = .ok (.getfield 58, 3) := dk_180 0 58 (dk_at dksX5_reads_0 9 rfl rfl)
theorem dX5_reads_12 : decode cX5_reads 12 = .ok (.iload_n 2, 1) := dk_28 (dk_at dksX5_reads_0 12 rfl rfl)
theorem dX5_reads_13 : decode cX5_reads 13 = .ok (.iconst 0, 1) := dk_3 (dk_at dksX5_reads_0 13 rfl rfl)
theorem dX5_reads_14 : decode cX5_reads 14 = .ok (.bastore, 1) := dk_84 (dk_at dksX5_reads_0 14 rfl rfl)
theorem dX5_reads_15 : decode cX5_reads 15 = .ok (.iinc 2 1, 3) := dk_132 2 1 (dk_at dksX5_reads_0 15 rfl rfl)
theorem dX5_reads_18 : decode cX5_reads 18 = .ok (.goto (-16), 3) := dk_167 255 240 (dk_at dksX5_reads_0 18 rfl rfl)
theorem dX5_reads_21 : decode cX5_reads 21 = .ok (.aload_n 0, 1) := dk_42 (dk_at dksX5_reads_0 21 rfl rfl)
theorem dX5_reads_22 : decode cX5_reads 22 = .ok (.iload_n 1, 1) := dk_27 (dk_at dksX5_reads_0 22 rfl rfl)
theorem dX5_reads_23 : decode cX5_reads 23 = .ok (.invokevirtual 208, 3) := dk_182 0 208 (dk_at dksX5_reads_1 0 rfl rfl)
theorem dX5_reads_26 : decode cX5_reads 26 = .ok (.ireturn, 1) := dk_172 (dk_at dksX5_reads_1 3 rfl rfl)
abbrev cX5_readOf : ByteArray := prog_35_method_13_code
def yX5_readOf : MethodName := ⟨RX5, "readOf", "(I)I"⟩
def dkwX5_readOf_5 : List UInt8 := [42, 180, 0, 58, 27, 4, 84, 42, 180, 0, 61, 27, 28, 79, 28, 172]
abbrev dktX5_readOf_5 : List UInt8 := dkwX5_readOf_5 ++ []
def dkwX5_readOf_4 : List UInt8 := [180, 0, 37, 29, 46, 182, 0, 208, 42, 29, 182, 0, 211, 2, 130, 126, 128, 61, 132, 3, 1, 167, 255, 208]
abbrev dktX5_readOf_4 : List UInt8 := dkwX5_readOf_4 ++ dktX5_readOf_5
def dkwX5_readOf_3 : List UInt8 := [162, 0, 48, 42, 180, 0, 34, 29, 51, 153, 0, 33, 42, 27, 29, 182, 0, 200, 158, 0, 24, 28, 42, 42]
abbrev dktX5_readOf_3 : List UInt8 := dkwX5_readOf_3 ++ dktX5_readOf_4
def dkwX5_readOf_2 : List UInt8 := [126, 4, 160, 0, 11, 28, 42, 29, 182, 0, 208, 128, 61, 132, 3, 1, 167, 255, 226, 3, 62, 29, 16, 6]
abbrev dktX5_readOf_2 : List UInt8 := dkwX5_readOf_2 ++ dktX5_readOf_3
def dkwX5_readOf_1 : List UInt8 := [4, 27, 120, 167, 0, 4, 3, 61, 3, 62, 29, 16, 24, 162, 0, 30, 42, 27, 182, 0, 196, 29, 122, 4]
abbrev dktX5_readOf_1 : List UInt8 := dkwX5_readOf_1 ++ dktX5_readOf_2
def dkwX5_readOf_0 : List UInt8 := [42, 180, 0, 58, 27, 51, 153, 0, 10, 42, 180, 0, 61, 27, 46, 172, 42, 27, 182, 0, 204, 153, 0, 9]
abbrev dktX5_readOf_0 : List UInt8 := dkwX5_readOf_0 ++ dktX5_readOf_1
theorem dksX5_readOf_0 : cX5_readOf.data.toList.drop 0 = dktX5_readOf_0 := by decide +kernel
theorem dksX5_readOf_1 : cX5_readOf.data.toList.drop 24 = dktX5_readOf_1 := dk_seg dksX5_readOf_0 24 rfl rfl
theorem dksX5_readOf_2 : cX5_readOf.data.toList.drop 48 = dktX5_readOf_2 := dk_seg dksX5_readOf_1 24 rfl rfl
theorem dksX5_readOf_3 : cX5_readOf.data.toList.drop 72 = dktX5_readOf_3 := dk_seg dksX5_readOf_2 24 rfl rfl
theorem dksX5_readOf_4 : cX5_readOf.data.toList.drop 96 = dktX5_readOf_4 := dk_seg dksX5_readOf_3 24 rfl rfl
theorem dksX5_readOf_5 : cX5_readOf.data.toList.drop 120 = dktX5_readOf_5 := dk_seg dksX5_readOf_4 24 rfl rfl
theorem dX5_readOf_0 : decode cX5_readOf 0 = .ok (.aload_n 0, 1) := dk_42 (dk_at dksX5_readOf_0 0 rfl rfl)
theorem dX5_readOf_1 : decode cX5_readOf 1 = .ok (.getfield 58, 3) := dk_180 0 58 (dk_at dksX5_readOf_0 1 rfl rfl)
theorem dX5_readOf_4 : decode cX5_readOf 4 = .ok (.iload_n 1, 1) := dk_27 (dk_at dksX5_readOf_0 4 rfl rfl)
theorem dX5_readOf_5 : decode cX5_readOf 5 = .ok (.baload, 1) := dk_51 (dk_at dksX5_readOf_0 5 rfl rfl)
theorem dX5_readOf_6 : decode cX5_readOf 6 = .ok (.ifCond .eq 10, 3) := dk_153 0 10 (dk_at dksX5_readOf_0 6 rfl rfl)
theorem dX5_readOf_9 : decode cX5_readOf 9 = .ok (.aload_n 0, 1) := dk_42 (dk_at dksX5_readOf_0 9 rfl rfl)
theorem dX5_readOf_10 : decode cX5_readOf 10 = .ok (.getfield 61, 3) := dk_180 0 61 (dk_at dksX5_readOf_0 10 rfl rfl)
theorem dX5_readOf_13 : decode cX5_readOf 13 = .ok (.iload_n 1, 1) := dk_27 (dk_at dksX5_readOf_0 13 rfl rfl)
theorem dX5_readOf_14 : decode cX5_readOf 14 = .ok (.iaload, 1) := dk_46 (dk_at dksX5_readOf_0 14 rfl rfl)
theorem dX5_readOf_15 : decode cX5_readOf 15 = .ok (.ireturn, 1) := dk_172 (dk_at dksX5_readOf_0 15 rfl rfl)
theorem dX5_readOf_16 : decode cX5_readOf 16 = .ok (.aload_n 0, 1) := dk_42 (dk_at dksX5_readOf_0 16 rfl rfl)
theorem dX5_readOf_17 : decode cX5_readOf 17 = .ok (.iload_n 1, 1) := dk_27 (dk_at dksX5_readOf_0 17 rfl rfl)
theorem dX5_readOf_18 : decode cX5_readOf 18 = .ok (.invokevirtual 204, 3) := dk_182 0 204 (dk_at dksX5_readOf_0 18 rfl rfl)
theorem dX5_readOf_21 : decode cX5_readOf 21 = .ok (.ifCond .eq 9, 3) := dk_153 0 9 (dk_at dksX5_readOf_0 21 rfl rfl)
theorem dX5_readOf_24 : decode cX5_readOf 24 = .ok (.iconst 1, 1) := dk_4 (dk_at dksX5_readOf_1 0 rfl rfl)
theorem dX5_readOf_25 : decode cX5_readOf 25 = .ok (.iload_n 1, 1) := dk_27 (dk_at dksX5_readOf_1 1 rfl rfl)
theorem dX5_readOf_26 : decode cX5_readOf 26 = .ok (.ishl, 1) := dk_120 (dk_at dksX5_readOf_1 2 rfl rfl)
theorem dX5_readOf_27 : decode cX5_readOf 27 = .ok (.goto 4, 3) := dk_167 0 4 (dk_at dksX5_readOf_1 3 rfl rfl)
theorem dX5_readOf_30 : decode cX5_readOf 30 = .ok (.iconst 0, 1) := dk_3 (dk_at dksX5_readOf_1 6 rfl rfl)
theorem dX5_readOf_31 : decode cX5_readOf 31 = .ok (.istore_n 2, 1) := dk_61 (dk_at dksX5_readOf_1 7 rfl rfl)
theorem dX5_readOf_32 : decode cX5_readOf 32 = .ok (.iconst 0, 1) := dk_3 (dk_at dksX5_readOf_1 8 rfl rfl)
theorem dX5_readOf_33 : decode cX5_readOf 33 = .ok (.istore_n 3, 1) := dk_62 (dk_at dksX5_readOf_1 9 rfl rfl)
theorem dX5_readOf_34 : decode cX5_readOf 34 = .ok (.iload_n 3, 1) := dk_29 (dk_at dksX5_readOf_1 10 rfl rfl)
theorem dX5_readOf_35 : decode cX5_readOf 35 = .ok (.bipush 24, 2) := dk_16 24 (dk_at dksX5_readOf_1 11 rfl rfl)
theorem dX5_readOf_37 : decode cX5_readOf 37 = .ok (.if_icmp .ge 30, 3) := dk_162 0 30 (dk_at dksX5_readOf_1 13 rfl rfl)
theorem dX5_readOf_40 : decode cX5_readOf 40 = .ok (.aload_n 0, 1) := dk_42 (dk_at dksX5_readOf_1 16 rfl rfl)
theorem dX5_readOf_41 : decode cX5_readOf 41 = .ok (.iload_n 1, 1) := dk_27 (dk_at dksX5_readOf_1 17 rfl rfl)
theorem dX5_readOf_42 : decode cX5_readOf 42 = .ok (.invokevirtual 196, 3) := dk_182 0 196 (dk_at dksX5_readOf_1 18 rfl rfl)
theorem dX5_readOf_45 : decode cX5_readOf 45 = .ok (.iload_n 3, 1) := dk_29 (dk_at dksX5_readOf_1 21 rfl rfl)
theorem dX5_readOf_46 : decode cX5_readOf 46 = .ok (.ishr, 1) := dk_122 (dk_at dksX5_readOf_1 22 rfl rfl)
theorem dX5_readOf_47 : decode cX5_readOf 47 = .ok (.iconst 1, 1) := dk_4 (dk_at dksX5_readOf_1 23 rfl rfl)
theorem dX5_readOf_48 : decode cX5_readOf 48 = .ok (.iand, 1) := dk_126 (dk_at dksX5_readOf_2 0 rfl rfl)
theorem dX5_readOf_49 : decode cX5_readOf 49 = .ok (.iconst 1, 1) := dk_4 (dk_at dksX5_readOf_2 1 rfl rfl)
theorem dX5_readOf_50 : decode cX5_readOf 50 = .ok (.if_icmp .ne 11, 3) := dk_160 0 11 (dk_at dksX5_readOf_2 2 rfl rfl)
theorem dX5_readOf_53 : decode cX5_readOf 53 = .ok (.iload_n 2, 1) := dk_28 (dk_at dksX5_readOf_2 5 rfl rfl)
theorem dX5_readOf_54 : decode cX5_readOf 54 = .ok (.aload_n 0, 1) := dk_42 (dk_at dksX5_readOf_2 6 rfl rfl)
theorem dX5_readOf_55 : decode cX5_readOf 55 = .ok (.iload_n 3, 1) := dk_29 (dk_at dksX5_readOf_2 7 rfl rfl)
theorem dX5_readOf_56 : decode cX5_readOf 56 = .ok (.invokevirtual 208, 3) := dk_182 0 208 (dk_at dksX5_readOf_2 8 rfl rfl)
theorem dX5_readOf_59 : decode cX5_readOf 59 = .ok (.ior, 1) := dk_128 (dk_at dksX5_readOf_2 11 rfl rfl)
theorem dX5_readOf_60 : decode cX5_readOf 60 = .ok (.istore_n 2, 1) := dk_61 (dk_at dksX5_readOf_2 12 rfl rfl)
theorem dX5_readOf_61 : decode cX5_readOf 61 = .ok (.iinc 3 1, 3) := dk_132 3 1 (dk_at dksX5_readOf_2 13 rfl rfl)
theorem dX5_readOf_64 : decode cX5_readOf 64 = .ok (.goto (-30), 3) := dk_167 255 226 (dk_at dksX5_readOf_2 16 rfl rfl)
theorem dX5_readOf_67 : decode cX5_readOf 67 = .ok (.iconst 0, 1) := dk_3 (dk_at dksX5_readOf_2 19 rfl rfl)
theorem dX5_readOf_68 : decode cX5_readOf 68 = .ok (.istore_n 3, 1) := dk_62 (dk_at dksX5_readOf_2 20 rfl rfl)
theorem dX5_readOf_69 : decode cX5_readOf 69 = .ok (.iload_n 3, 1) := dk_29 (dk_at dksX5_readOf_2 21 rfl rfl)
theorem dX5_readOf_70 : decode cX5_readOf 70 = .ok (.bipush 6, 2) := dk_16 6 (dk_at dksX5_readOf_2 22 rfl rfl)
theorem dX5_readOf_72 : decode cX5_readOf 72 = .ok (.if_icmp .ge 48, 3) := dk_162 0 48 (dk_at dksX5_readOf_3 0 rfl rfl)
theorem dX5_readOf_75 : decode cX5_readOf 75 = .ok (.aload_n 0, 1) := dk_42 (dk_at dksX5_readOf_3 3 rfl rfl)
theorem dX5_readOf_76 : decode cX5_readOf 76 = .ok (.getfield 34, 3) := dk_180 0 34 (dk_at dksX5_readOf_3 4 rfl rfl)
theorem dX5_readOf_79 : decode cX5_readOf 79 = .ok (.iload_n 3, 1) := dk_29 (dk_at dksX5_readOf_3 7 rfl rfl)
theorem dX5_readOf_80 : decode cX5_readOf 80 = .ok (.baload, 1) := dk_51 (dk_at dksX5_readOf_3 8 rfl rfl)
theorem dX5_readOf_81 : decode cX5_readOf 81 = .ok (.ifCond .eq 33, 3) := dk_153 0 33 (dk_at dksX5_readOf_3 9 rfl rfl)
theorem dX5_readOf_84 : decode cX5_readOf 84 = .ok (.aload_n 0, 1) := dk_42 (dk_at dksX5_readOf_3 12 rfl rfl)
theorem dX5_readOf_85 : decode cX5_readOf 85 = .ok (.iload_n 1, 1) := dk_27 (dk_at dksX5_readOf_3 13 rfl rfl)
theorem dX5_readOf_86 : decode cX5_readOf 86 = .ok (.iload_n 3, 1) := dk_29 (dk_at dksX5_readOf_3 14 rfl rfl)
theorem dX5_readOf_87 : decode cX5_readOf 87 = .ok (.invokevirtual 200, 3) := dk_182 0 200 (dk_at dksX5_readOf_3 15 rfl rfl)
theorem dX5_readOf_90 : decode cX5_readOf 90 = .ok (.ifCond .le 24, 3) := dk_158 0 24 (dk_at dksX5_readOf_3 18 rfl rfl)
theorem dX5_readOf_93 : decode cX5_readOf 93 = .ok (.iload_n 2, 1) := dk_28 (dk_at dksX5_readOf_3 21 rfl rfl)
theorem dX5_readOf_94 : decode cX5_readOf 94 = .ok (.aload_n 0, 1) := dk_42 (dk_at dksX5_readOf_3 22 rfl rfl)
theorem dX5_readOf_95 : decode cX5_readOf 95 = .ok (.aload_n 0, 1) := dk_42 (dk_at dksX5_readOf_3 23 rfl rfl)
theorem dX5_readOf_96 : decode cX5_readOf 96 = .ok (.getfield 37, 3) := dk_180 0 37 (dk_at dksX5_readOf_4 0 rfl rfl)
theorem dX5_readOf_99 : decode cX5_readOf 99 = .ok (.iload_n 3, 1) := dk_29 (dk_at dksX5_readOf_4 3 rfl rfl)
theorem dX5_readOf_100 : decode cX5_readOf 100 = .ok (.iaload, 1) := dk_46 (dk_at dksX5_readOf_4 4 rfl rfl)
theorem dX5_readOf_101 : decode cX5_readOf 101 = .ok (.invokevirtual 208, 3) := dk_182 0 208 (dk_at dksX5_readOf_4 5 rfl rfl)
theorem dX5_readOf_104 : decode cX5_readOf 104 = .ok (.aload_n 0, 1) := dk_42 (dk_at dksX5_readOf_4 8 rfl rfl)
theorem dX5_readOf_105 : decode cX5_readOf 105 = .ok (.iload_n 3, 1) := dk_29 (dk_at dksX5_readOf_4 9 rfl rfl)
theorem dX5_readOf_106 : decode cX5_readOf 106 = .ok (.invokevirtual 211, 3) := dk_182 0 211 (dk_at dksX5_readOf_4 10 rfl rfl)
theorem dX5_readOf_109 : decode cX5_readOf 109 = .ok (.iconst (-1), 1) := dk_2 (dk_at dksX5_readOf_4 13 rfl rfl)
theorem dX5_readOf_110 : decode cX5_readOf 110 = .ok (.ixor, 1) := dk_130 (dk_at dksX5_readOf_4 14 rfl rfl)
theorem dX5_readOf_111 : decode cX5_readOf 111 = .ok (.iand, 1) := dk_126 (dk_at dksX5_readOf_4 15 rfl rfl)
theorem dX5_readOf_112 : decode cX5_readOf 112 = .ok (.ior, 1) := dk_128 (dk_at dksX5_readOf_4 16 rfl rfl)
theorem dX5_readOf_113 : decode cX5_readOf 113 = .ok (.istore_n 2, 1) := dk_61 (dk_at dksX5_readOf_4 17 rfl rfl)
theorem dX5_readOf_114 : decode cX5_readOf 114 = .ok (.iinc 3 1, 3) := dk_132 3 1 (dk_at dksX5_readOf_4 18 rfl rfl)
theorem dX5_readOf_117 : decode cX5_readOf 117 = .ok (.goto (-48), 3) := dk_167 255 208 (dk_at dksX5_readOf_4 21 rfl rfl)
theorem dX5_readOf_120 : decode cX5_readOf 120 = .ok (.aload_n 0, 1) := dk_42 (dk_at dksX5_readOf_5 0 rfl rfl)
theorem dX5_readOf_121 : decode cX5_readOf 121 = .ok (.getfield 58, 3) := dk_180 0 58 (dk_at dksX5_readOf_5 1 rfl rfl)
theorem dX5_readOf_124 : decode cX5_readOf 124 = .ok (.iload_n 1, 1) := dk_27 (dk_at dksX5_readOf_5 4 rfl rfl)
theorem dX5_readOf_125 : decode cX5_readOf 125 = .ok (.iconst 1, 1) := dk_4 (dk_at dksX5_readOf_5 5 rfl rfl)
theorem dX5_readOf_126 : decode cX5_readOf 126 = .ok (.bastore, 1) := dk_84 (dk_at dksX5_readOf_5 6 rfl rfl)
theorem dX5_readOf_127 : decode cX5_readOf 127 = .ok (.aload_n 0, 1) := dk_42 (dk_at dksX5_readOf_5 7 rfl rfl)
theorem dX5_readOf_128 : decode cX5_readOf 128 = .ok (.getfield 61, 3) := dk_180 0 61 (dk_at dksX5_readOf_5 8 rfl rfl)
theorem dX5_readOf_131 : decode cX5_readOf 131 = .ok (.iload_n 1, 1) := dk_27 (dk_at dksX5_readOf_5 11 rfl rfl)
theorem dX5_readOf_132 : decode cX5_readOf 132 = .ok (.iload_n 2, 1) := dk_28 (dk_at dksX5_readOf_5 12 rfl rfl)
theorem dX5_readOf_133 : decode cX5_readOf 133 = .ok (.iastore, 1) := dk_79 (dk_at dksX5_readOf_5 13 rfl rfl)
theorem dX5_readOf_134 : decode cX5_readOf 134 = .ok (.iload_n 2, 1) := dk_28 (dk_at dksX5_readOf_5 14 rfl rfl)
theorem dX5_readOf_135 : decode cX5_readOf 135 = .ok (.ireturn, 1) := dk_172 (dk_at dksX5_readOf_5 15 rfl rfl)
abbrev cX5_namesCells : ByteArray := prog_35_method_9_code
def yX5_namesCells : MethodName := ⟨RX5, "namesCells", "(I)I"⟩
def dkwX5_namesCells_0 : List UInt8 := [42, 180, 0, 52, 27, 46, 172]
abbrev dktX5_namesCells_0 : List UInt8 := dkwX5_namesCells_0 ++ []
theorem dksX5_namesCells_0 : cX5_namesCells.data.toList.drop 0 = dktX5_namesCells_0 := by decide +kernel
theorem dX5_namesCells_0 : decode cX5_namesCells 0 = .ok (.aload_n 0, 1) := dk_42 (dk_at dksX5_namesCells_0 0 rfl rfl)
theorem dX5_namesCells_1 : decode cX5_namesCells 1 = .ok (.getfield 52, 3) := dk_180 0 52 (dk_at dksX5_namesCells_0 1 rfl rfl)
theorem dX5_namesCells_4 : decode cX5_namesCells 4 = .ok (.iload_n 1, 1) := dk_27 (dk_at dksX5_namesCells_0 4 rfl rfl)
theorem dX5_namesCells_5 : decode cX5_namesCells 5 = .ok (.iaload, 1) := dk_46 (dk_at dksX5_namesCells_0 5 rfl rfl)
theorem dX5_namesCells_6 : decode cX5_namesCells 6 = .ok (.ireturn, 1) := dk_172 (dk_at dksX5_namesCells_0 6 rfl rfl)
abbrev cX5_times : ByteArray := prog_35_method_10_code
def yX5_times : MethodName := ⟨RX5, "times", "(II)I"⟩
def dkwX5_times_0 : List UInt8 := [42, 180, 0, 55, 27, 50, 28, 46, 172]
abbrev dktX5_times_0 : List UInt8 := dkwX5_times_0 ++ []
theorem dksX5_times_0 : cX5_times.data.toList.drop 0 = dktX5_times_0 := by decide +kernel
theorem dX5_times_0 : decode cX5_times 0 = .ok (.aload_n 0, 1) := dk_42 (dk_at dksX5_times_0 0 rfl rfl)
theorem dX5_times_1 : decode cX5_times 1 = .ok (.getfield 55, 3) := dk_180 0 55 (dk_at dksX5_times_0 1 rfl rfl)
theorem dX5_times_4 : decode cX5_times 4 = .ok (.iload_n 1, 1) := dk_27 (dk_at dksX5_times_0 4 rfl rfl)
theorem dX5_times_5 : decode cX5_times 5 = .ok (.aaload, 1) := dk_50 (dk_at dksX5_times_0 5 rfl rfl)
theorem dX5_times_6 : decode cX5_times 6 = .ok (.iload_n 2, 1) := dk_28 (dk_at dksX5_times_0 6 rfl rfl)
theorem dX5_times_7 : decode cX5_times 7 = .ok (.iaload, 1) := dk_46 (dk_at dksX5_times_0 7 rfl rfl)
theorem dX5_times_8 : decode cX5_times 8 = .ok (.ireturn, 1) := dk_172 (dk_at dksX5_times_0 8 rfl rfl)
abbrev cX5_varied : ByteArray := prog_35_method_14_code
def yX5_varied : MethodName := ⟨RX5, "varied", "(I)I"⟩
def dkwX5_varied_1 : List UInt8 := [180, 0, 43, 27, 46, 120, 128, 172]
abbrev dktX5_varied_1 : List UInt8 := dkwX5_varied_1 ++ []
def dkwX5_varied_0 : List UInt8 := [4, 42, 180, 0, 40, 27, 46, 120, 42, 180, 0, 43, 27, 46, 2, 160, 0, 7, 3, 167, 0, 11, 4, 42]
abbrev dktX5_varied_0 : List UInt8 := dkwX5_varied_0 ++ dktX5_varied_1
theorem dksX5_varied_0 : cX5_varied.data.toList.drop 0 = dktX5_varied_0 := by decide +kernel
theorem dksX5_varied_1 : cX5_varied.data.toList.drop 24 = dktX5_varied_1 := dk_seg dksX5_varied_0 24 rfl rfl
theorem dX5_varied_0 : decode cX5_varied 0 = .ok (.iconst 1, 1) := dk_4 (dk_at dksX5_varied_0 0 rfl rfl)
theorem dX5_varied_1 : decode cX5_varied 1 = .ok (.aload_n 0, 1) := dk_42 (dk_at dksX5_varied_0 1 rfl rfl)
theorem dX5_varied_2 : decode cX5_varied 2 = .ok (.getfield 40, 3) := dk_180 0 40 (dk_at dksX5_varied_0 2 rfl rfl)
theorem dX5_varied_5 : decode cX5_varied 5 = .ok (.iload_n 1, 1) := dk_27 (dk_at dksX5_varied_0 5 rfl rfl)
theorem dX5_varied_6 : decode cX5_varied 6 = .ok (.iaload, 1) := dk_46 (dk_at dksX5_varied_0 6 rfl rfl)
theorem dX5_varied_7 : decode cX5_varied 7 = .ok (.ishl, 1) := dk_120 (dk_at dksX5_varied_0 7 rfl rfl)
theorem dX5_varied_8 : decode cX5_varied 8 = .ok (.aload_n 0, 1) := dk_42 (dk_at dksX5_varied_0 8 rfl rfl)
theorem dX5_varied_9 : decode cX5_varied 9 = .ok (.getfield 43, 3) := dk_180 0 43 (dk_at dksX5_varied_0 9 rfl rfl)
theorem dX5_varied_12 : decode cX5_varied 12 = .ok (.iload_n 1, 1) := dk_27 (dk_at dksX5_varied_0 12 rfl rfl)
theorem dX5_varied_13 : decode cX5_varied 13 = .ok (.iaload, 1) := dk_46 (dk_at dksX5_varied_0 13 rfl rfl)
theorem dX5_varied_14 : decode cX5_varied 14 = .ok (.iconst (-1), 1) := dk_2 (dk_at dksX5_varied_0 14 rfl rfl)
theorem dX5_varied_15 : decode cX5_varied 15 = .ok (.if_icmp .ne 7, 3) := dk_160 0 7 (dk_at dksX5_varied_0 15 rfl rfl)
theorem dX5_varied_18 : decode cX5_varied 18 = .ok (.iconst 0, 1) := dk_3 (dk_at dksX5_varied_0 18 rfl rfl)
theorem dX5_varied_19 : decode cX5_varied 19 = .ok (.goto 11, 3) := dk_167 0 11 (dk_at dksX5_varied_0 19 rfl rfl)
theorem dX5_varied_22 : decode cX5_varied 22 = .ok (.iconst 1, 1) := dk_4 (dk_at dksX5_varied_0 22 rfl rfl)
theorem dX5_varied_23 : decode cX5_varied 23 = .ok (.aload_n 0, 1) := dk_42 (dk_at dksX5_varied_0 23 rfl rfl)
theorem dX5_varied_24 : decode cX5_varied 24 = .ok (.getfield 43, 3) := dk_180 0 43 (dk_at dksX5_varied_1 0 rfl rfl)
theorem dX5_varied_27 : decode cX5_varied 27 = .ok (.iload_n 1, 1) := dk_27 (dk_at dksX5_varied_1 3 rfl rfl)
theorem dX5_varied_28 : decode cX5_varied 28 = .ok (.iaload, 1) := dk_46 (dk_at dksX5_varied_1 4 rfl rfl)
theorem dX5_varied_29 : decode cX5_varied 29 = .ok (.ishl, 1) := dk_120 (dk_at dksX5_varied_1 5 rfl rfl)
theorem dX5_varied_30 : decode cX5_varied 30 = .ok (.ior, 1) := dk_128 (dk_at dksX5_varied_1 6 rfl rfl)
theorem dX5_varied_31 : decode cX5_varied 31 = .ok (.ireturn, 1) := dk_172 (dk_at dksX5_varied_1 7 rfl rfl)
abbrev cX5_reached : ByteArray := prog_35_method_11_code
def yX5_reached : MethodName := ⟨RX5, "reached", "(I)I"⟩
def dkwX5_reached_2 : List UInt8 := [167, 255, 214, 28, 172]
abbrev dktX5_reached_2 : List UInt8 := dkwX5_reached_2 ++ []
def dkwX5_reached_1 : List UInt8 := [21, 4, 122, 4, 126, 4, 160, 0, 12, 28, 42, 21, 4, 182, 0, 196, 128, 61, 132, 4, 1, 167, 255, 227]
abbrev dktX5_reached_1 : List UInt8 := dkwX5_reached_1 ++ dktX5_reached_2
def dkwX5_reached_0 : List UInt8 := [4, 27, 120, 61, 3, 62, 28, 29, 159, 0, 43, 28, 62, 3, 54, 4, 21, 4, 16, 24, 162, 0, 28, 29]
abbrev dktX5_reached_0 : List UInt8 := dkwX5_reached_0 ++ dktX5_reached_1
theorem dksX5_reached_0 : cX5_reached.data.toList.drop 0 = dktX5_reached_0 := by decide +kernel
theorem dksX5_reached_1 : cX5_reached.data.toList.drop 24 = dktX5_reached_1 := dk_seg dksX5_reached_0 24 rfl rfl
theorem dksX5_reached_2 : cX5_reached.data.toList.drop 48 = dktX5_reached_2 := dk_seg dksX5_reached_1 24 rfl rfl
theorem dX5_reached_0 : decode cX5_reached 0 = .ok (.iconst 1, 1) := dk_4 (dk_at dksX5_reached_0 0 rfl rfl)
theorem dX5_reached_1 : decode cX5_reached 1 = .ok (.iload_n 1, 1) := dk_27 (dk_at dksX5_reached_0 1 rfl rfl)
theorem dX5_reached_2 : decode cX5_reached 2 = .ok (.ishl, 1) := dk_120 (dk_at dksX5_reached_0 2 rfl rfl)
theorem dX5_reached_3 : decode cX5_reached 3 = .ok (.istore_n 2, 1) := dk_61 (dk_at dksX5_reached_0 3 rfl rfl)
theorem dX5_reached_4 : decode cX5_reached 4 = .ok (.iconst 0, 1) := dk_3 (dk_at dksX5_reached_0 4 rfl rfl)
theorem dX5_reached_5 : decode cX5_reached 5 = .ok (.istore_n 3, 1) := dk_62 (dk_at dksX5_reached_0 5 rfl rfl)
theorem dX5_reached_6 : decode cX5_reached 6 = .ok (.iload_n 2, 1) := dk_28 (dk_at dksX5_reached_0 6 rfl rfl)
theorem dX5_reached_7 : decode cX5_reached 7 = .ok (.iload_n 3, 1) := dk_29 (dk_at dksX5_reached_0 7 rfl rfl)
theorem dX5_reached_8 : decode cX5_reached 8 = .ok (.if_icmp .eq 43, 3) := dk_159 0 43 (dk_at dksX5_reached_0 8 rfl rfl)
theorem dX5_reached_11 : decode cX5_reached 11 = .ok (.iload_n 2, 1) := dk_28 (dk_at dksX5_reached_0 11 rfl rfl)
theorem dX5_reached_12 : decode cX5_reached 12 = .ok (.istore_n 3, 1) := dk_62 (dk_at dksX5_reached_0 12 rfl rfl)
theorem dX5_reached_13 : decode cX5_reached 13 = .ok (.iconst 0, 1) := dk_3 (dk_at dksX5_reached_0 13 rfl rfl)
theorem dX5_reached_14 : decode cX5_reached 14 = .ok (.istore 4, 2) := dk_54 4 (dk_at dksX5_reached_0 14 rfl rfl)
theorem dX5_reached_16 : decode cX5_reached 16 = .ok (.iload 4, 2) := dk_21 4 (dk_at dksX5_reached_0 16 rfl rfl)
theorem dX5_reached_18 : decode cX5_reached 18 = .ok (.bipush 24, 2) := dk_16 24 (dk_at dksX5_reached_0 18 rfl rfl)
theorem dX5_reached_20 : decode cX5_reached 20 = .ok (.if_icmp .ge 28, 3) := dk_162 0 28 (dk_at dksX5_reached_0 20 rfl rfl)
theorem dX5_reached_23 : decode cX5_reached 23 = .ok (.iload_n 3, 1) := dk_29 (dk_at dksX5_reached_0 23 rfl rfl)
theorem dX5_reached_24 : decode cX5_reached 24 = .ok (.iload 4, 2) := dk_21 4 (dk_at dksX5_reached_1 0 rfl rfl)
theorem dX5_reached_26 : decode cX5_reached 26 = .ok (.ishr, 1) := dk_122 (dk_at dksX5_reached_1 2 rfl rfl)
theorem dX5_reached_27 : decode cX5_reached 27 = .ok (.iconst 1, 1) := dk_4 (dk_at dksX5_reached_1 3 rfl rfl)
theorem dX5_reached_28 : decode cX5_reached 28 = .ok (.iand, 1) := dk_126 (dk_at dksX5_reached_1 4 rfl rfl)
theorem dX5_reached_29 : decode cX5_reached 29 = .ok (.iconst 1, 1) := dk_4 (dk_at dksX5_reached_1 5 rfl rfl)
theorem dX5_reached_30 : decode cX5_reached 30 = .ok (.if_icmp .ne 12, 3) := dk_160 0 12 (dk_at dksX5_reached_1 6 rfl rfl)
theorem dX5_reached_33 : decode cX5_reached 33 = .ok (.iload_n 2, 1) := dk_28 (dk_at dksX5_reached_1 9 rfl rfl)
theorem dX5_reached_34 : decode cX5_reached 34 = .ok (.aload_n 0, 1) := dk_42 (dk_at dksX5_reached_1 10 rfl rfl)
theorem dX5_reached_35 : decode cX5_reached 35 = .ok (.iload 4, 2) := dk_21 4 (dk_at dksX5_reached_1 11 rfl rfl)
theorem dX5_reached_37 : decode cX5_reached 37 = .ok (.invokevirtual 196, 3) := dk_182 0 196 (dk_at dksX5_reached_1 13 rfl rfl)
theorem dX5_reached_40 : decode cX5_reached 40 = .ok (.ior, 1) := dk_128 (dk_at dksX5_reached_1 16 rfl rfl)
theorem dX5_reached_41 : decode cX5_reached 41 = .ok (.istore_n 2, 1) := dk_61 (dk_at dksX5_reached_1 17 rfl rfl)
theorem dX5_reached_42 : decode cX5_reached 42 = .ok (.iinc 4 1, 3) := dk_132 4 1 (dk_at dksX5_reached_1 18 rfl rfl)
theorem dX5_reached_45 : decode cX5_reached 45 = .ok (.goto (-29), 3) := dk_167 255 227 (dk_at dksX5_reached_1 21 rfl rfl)
theorem dX5_reached_48 : decode cX5_reached 48 = .ok (.goto (-42), 3) := dk_167 255 214 (dk_at dksX5_reached_2 0 rfl rfl)
theorem dX5_reached_51 : decode cX5_reached 51 = .ok (.iload_n 2, 1) := dk_28 (dk_at dksX5_reached_2 3 rfl rfl)
theorem dX5_reached_52 : decode cX5_reached 52 = .ok (.ireturn, 1) := dk_172 (dk_at dksX5_reached_2 4 rfl rfl)
abbrev cX5_burdenNow : ByteArray := prog_35_method_19_code
def yX5_burdenNow : MethodName := ⟨RX5, "burdenNow", "(I)I"⟩
def dkwX5_burdenNow_1 : List UInt8 := [182, 0, 229, 172]
abbrev dktX5_burdenNow_1 : List UInt8 := dkwX5_burdenNow_1 ++ []
def dkwX5_burdenNow_0 : List UInt8 := [3, 61, 28, 16, 24, 162, 0, 16, 42, 180, 0, 64, 28, 3, 84, 132, 2, 1, 167, 255, 240, 42, 27]
abbrev dktX5_burdenNow_0 : List UInt8 := dkwX5_burdenNow_0 ++ dktX5_burdenNow_1
theorem dksX5_burdenNow_0 : cX5_burdenNow.data.toList.drop 0 = dktX5_burdenNow_0 := by decide +kernel
theorem dksX5_burdenNow_1 : cX5_burdenNow.data.toList.drop 23 = dktX5_burdenNow_1 := dk_seg dksX5_burdenNow_0 23 rfl rfl
theorem dX5_burdenNow_0 : decode cX5_burdenNow 0 = .ok (.iconst 0, 1) := dk_3 (dk_at dksX5_burdenNow_0 0 rfl rfl)
theorem dX5_burdenNow_1 : decode cX5_burdenNow 1 = .ok (.istore_n 2, 1) := dk_61 (dk_at dksX5_burdenNow_0 1 rfl rfl)
theorem dX5_burdenNow_2 : decode cX5_burdenNow 2 = .ok (.iload_n 2, 1) := dk_28 (dk_at dksX5_burdenNow_0 2 rfl rfl)
theorem dX5_burdenNow_3 : decode cX5_burdenNow 3 = .ok (.bipush 24, 2) := dk_16 24 (dk_at dksX5_burdenNow_0 3 rfl rfl)
theorem dX5_burdenNow_5 : decode cX5_burdenNow 5 = .ok (.if_icmp .ge 16, 3) := dk_162 0 16 (dk_at dksX5_burdenNow_0 5 rfl rfl)
theorem dX5_burdenNow_8 : decode cX5_burdenNow 8 = .ok (.aload_n 0, 1) := dk_42 (dk_at dksX5_burdenNow_0 8 rfl rfl)
theorem dX5_burdenNow_9 : decode cX5_burdenNow 9 = .ok (.getfield 64, 3) := dk_180 0 64 (dk_at dksX5_burdenNow_0 9 rfl rfl)
theorem dX5_burdenNow_12 : decode cX5_burdenNow 12 = .ok (.iload_n 2, 1) := dk_28 (dk_at dksX5_burdenNow_0 12 rfl rfl)
theorem dX5_burdenNow_13 : decode cX5_burdenNow 13 = .ok (.iconst 0, 1) := dk_3 (dk_at dksX5_burdenNow_0 13 rfl rfl)
theorem dX5_burdenNow_14 : decode cX5_burdenNow 14 = .ok (.bastore, 1) := dk_84 (dk_at dksX5_burdenNow_0 14 rfl rfl)
theorem dX5_burdenNow_15 : decode cX5_burdenNow 15 = .ok (.iinc 2 1, 3) := dk_132 2 1 (dk_at dksX5_burdenNow_0 15 rfl rfl)
theorem dX5_burdenNow_18 : decode cX5_burdenNow 18 = .ok (.goto (-16), 3) := dk_167 255 240 (dk_at dksX5_burdenNow_0 18 rfl rfl)
theorem dX5_burdenNow_21 : decode cX5_burdenNow 21 = .ok (.aload_n 0, 1) := dk_42 (dk_at dksX5_burdenNow_0 21 rfl rfl)
theorem dX5_burdenNow_22 : decode cX5_burdenNow 22 = .ok (.iload_n 1, 1) := dk_27 (dk_at dksX5_burdenNow_0 22 rfl rfl)
theorem dX5_burdenNow_23 : decode cX5_burdenNow 23 = .ok (.invokevirtual 229, 3) := dk_182 0 229 (dk_at dksX5_burdenNow_1 0 rfl rfl)
theorem dX5_burdenNow_26 : decode cX5_burdenNow 26 = .ok (.ireturn, 1) := dk_172 (dk_at dksX5_burdenNow_1 3 rfl rfl)
abbrev cX5_burdenOf : ByteArray := prog_35_method_17_code
def yX5_burdenOf : MethodName := ⟨RX5, "burdenOf", "(I)I"⟩
def dkwX5_burdenOf_6 : List UInt8 := [4, 84, 42, 180, 0, 67, 27, 32, 20, 0, 220, 184, 0, 222, 136, 79, 42, 180, 0, 67, 27, 46, 172]
abbrev dktX5_burdenOf_6 : List UInt8 := dkwX5_burdenOf_6 ++ []
def dkwX5_burdenOf_5 : List UInt8 := [182, 0, 217, 133, 105, 97, 65, 132, 6, 1, 167, 255, 205, 132, 5, 1, 167, 255, 163, 42, 180, 0, 64, 27]
abbrev dktX5_burdenOf_5 : List UInt8 := dkwX5_burdenOf_5 ++ dktX5_burdenOf_6
def dkwX5_burdenOf_4 : List UInt8 := [21, 5, 21, 6, 182, 0, 200, 158, 0, 23, 32, 42, 21, 5, 21, 6, 182, 0, 200, 133, 42, 21, 6]
abbrev dktX5_burdenOf_4 : List UInt8 := dkwX5_burdenOf_4 ++ dktX5_burdenOf_5
def dkwX5_burdenOf_3 : List UInt8 := [97, 65, 3, 54, 6, 21, 6, 16, 6, 162, 0, 50, 42, 180, 0, 34, 21, 6, 51, 153, 0, 34, 42]
abbrev dktX5_burdenOf_3 : List UInt8 := dkwX5_burdenOf_3 ++ dktX5_burdenOf_4
def dkwX5_burdenOf_2 : List UInt8 := [21, 4, 21, 5, 122, 4, 126, 153, 0, 76, 42, 21, 5, 182, 0, 204, 153, 0, 6, 167, 0, 64, 32, 10]
abbrev dktX5_burdenOf_2 : List UInt8 := dkwX5_burdenOf_2 ++ dktX5_burdenOf_3
def dkwX5_burdenOf_1 : List UInt8 := [153, 0, 7, 3, 167, 0, 8, 42, 27, 182, 0, 214, 54, 4, 3, 54, 5, 21, 5, 16, 24, 162, 0, 92]
abbrev dktX5_burdenOf_1 : List UInt8 := dkwX5_burdenOf_1 ++ dktX5_burdenOf_2
def dkwX5_burdenOf_0 : List UInt8 := [42, 180, 0, 64, 27, 51, 153, 0, 10, 42, 180, 0, 67, 27, 46, 172, 9, 65, 42, 27, 182, 0, 204]
abbrev dktX5_burdenOf_0 : List UInt8 := dkwX5_burdenOf_0 ++ dktX5_burdenOf_1
theorem dksX5_burdenOf_0 : cX5_burdenOf.data.toList.drop 0 = dktX5_burdenOf_0 := by decide +kernel
theorem dksX5_burdenOf_1 : cX5_burdenOf.data.toList.drop 23 = dktX5_burdenOf_1 := dk_seg dksX5_burdenOf_0 23 rfl rfl
theorem dksX5_burdenOf_2 : cX5_burdenOf.data.toList.drop 47 = dktX5_burdenOf_2 := dk_seg dksX5_burdenOf_1 24 rfl rfl
theorem dksX5_burdenOf_3 : cX5_burdenOf.data.toList.drop 71 = dktX5_burdenOf_3 := dk_seg dksX5_burdenOf_2 24 rfl rfl
theorem dksX5_burdenOf_4 : cX5_burdenOf.data.toList.drop 94 = dktX5_burdenOf_4 := dk_seg dksX5_burdenOf_3 23 rfl rfl
theorem dksX5_burdenOf_5 : cX5_burdenOf.data.toList.drop 117 = dktX5_burdenOf_5 := dk_seg dksX5_burdenOf_4 23 rfl rfl
theorem dksX5_burdenOf_6 : cX5_burdenOf.data.toList.drop 141 = dktX5_burdenOf_6 := dk_seg dksX5_burdenOf_5 24 rfl rfl
theorem dX5_burdenOf_0 : decode cX5_burdenOf 0 = .ok (.aload_n 0, 1) := dk_42 (dk_at dksX5_burdenOf_0 0 rfl rfl)
theorem dX5_burdenOf_1 : decode cX5_burdenOf 1 = .ok (.getfield 64, 3) := dk_180 0 64 (dk_at dksX5_burdenOf_0 1 rfl rfl)
theorem dX5_burdenOf_4 : decode cX5_burdenOf 4 = .ok (.iload_n 1, 1) := dk_27 (dk_at dksX5_burdenOf_0 4 rfl rfl)
theorem dX5_burdenOf_5 : decode cX5_burdenOf 5 = .ok (.baload, 1) := dk_51 (dk_at dksX5_burdenOf_0 5 rfl rfl)
theorem dX5_burdenOf_6 : decode cX5_burdenOf 6 = .ok (.ifCond .eq 10, 3) := dk_153 0 10 (dk_at dksX5_burdenOf_0 6 rfl rfl)
theorem dX5_burdenOf_9 : decode cX5_burdenOf 9 = .ok (.aload_n 0, 1) := dk_42 (dk_at dksX5_burdenOf_0 9 rfl rfl)
theorem dX5_burdenOf_10 : decode cX5_burdenOf 10 = .ok (.getfield 67, 3) := dk_180 0 67 (dk_at dksX5_burdenOf_0 10 rfl rfl)
theorem dX5_burdenOf_13 : decode cX5_burdenOf 13 = .ok (.iload_n 1, 1) := dk_27 (dk_at dksX5_burdenOf_0 13 rfl rfl)
theorem dX5_burdenOf_14 : decode cX5_burdenOf 14 = .ok (.iaload, 1) := dk_46 (dk_at dksX5_burdenOf_0 14 rfl rfl)
theorem dX5_burdenOf_15 : decode cX5_burdenOf 15 = .ok (.ireturn, 1) := dk_172 (dk_at dksX5_burdenOf_0 15 rfl rfl)
theorem dX5_burdenOf_16 : decode cX5_burdenOf 16 = .ok (.lconst 0, 1) := dk_9 (dk_at dksX5_burdenOf_0 16 rfl rfl)
theorem dX5_burdenOf_17 : decode cX5_burdenOf 17 = .ok (.lstore_n 2, 1) := dk_65 (dk_at dksX5_burdenOf_0 17 rfl rfl)
theorem dX5_burdenOf_18 : decode cX5_burdenOf 18 = .ok (.aload_n 0, 1) := dk_42 (dk_at dksX5_burdenOf_0 18 rfl rfl)
theorem dX5_burdenOf_19 : decode cX5_burdenOf 19 = .ok (.iload_n 1, 1) := dk_27 (dk_at dksX5_burdenOf_0 19 rfl rfl)
theorem dX5_burdenOf_20 : decode cX5_burdenOf 20 = .ok (.invokevirtual 204, 3) := dk_182 0 204 (dk_at dksX5_burdenOf_0 20 rfl rfl)
theorem dX5_burdenOf_23 : decode cX5_burdenOf 23 = .ok (.ifCond .eq 7, 3) := dk_153 0 7 (dk_at dksX5_burdenOf_1 0 rfl rfl)
theorem dX5_burdenOf_26 : decode cX5_burdenOf 26 = .ok (.iconst 0, 1) := dk_3 (dk_at dksX5_burdenOf_1 3 rfl rfl)
theorem dX5_burdenOf_27 : decode cX5_burdenOf 27 = .ok (.goto 8, 3) := dk_167 0 8 (dk_at dksX5_burdenOf_1 4 rfl rfl)
theorem dX5_burdenOf_30 : decode cX5_burdenOf 30 = .ok (.aload_n 0, 1) := dk_42 (dk_at dksX5_burdenOf_1 7 rfl rfl)
theorem dX5_burdenOf_31 : decode cX5_burdenOf 31 = .ok (.iload_n 1, 1) := dk_27 (dk_at dksX5_burdenOf_1 8 rfl rfl)
theorem dX5_burdenOf_32 : decode cX5_burdenOf 32 = .ok (.invokevirtual 214, 3) := dk_182 0 214 (dk_at dksX5_burdenOf_1 9 rfl rfl)
theorem dX5_burdenOf_35 : decode cX5_burdenOf 35 = .ok (.istore 4, 2) := dk_54 4 (dk_at dksX5_burdenOf_1 12 rfl rfl)
theorem dX5_burdenOf_37 : decode cX5_burdenOf 37 = .ok (.iconst 0, 1) := dk_3 (dk_at dksX5_burdenOf_1 14 rfl rfl)
theorem dX5_burdenOf_38 : decode cX5_burdenOf 38 = .ok (.istore 5, 2) := dk_54 5 (dk_at dksX5_burdenOf_1 15 rfl rfl)
theorem dX5_burdenOf_40 : decode cX5_burdenOf 40 = .ok (.iload 5, 2) := dk_21 5 (dk_at dksX5_burdenOf_1 17 rfl rfl)
theorem dX5_burdenOf_42 : decode cX5_burdenOf 42 = .ok (.bipush 24, 2) := dk_16 24 (dk_at dksX5_burdenOf_1 19 rfl rfl)
theorem dX5_burdenOf_44 : decode cX5_burdenOf 44 = .ok (.if_icmp .ge 92, 3) := dk_162 0 92 (dk_at dksX5_burdenOf_1 21 rfl rfl)
theorem dX5_burdenOf_47 : decode cX5_burdenOf 47 = .ok (.iload 4, 2) := dk_21 4 (dk_at dksX5_burdenOf_2 0 rfl rfl)
theorem dX5_burdenOf_49 : decode cX5_burdenOf 49 = .ok (.iload 5, 2) := dk_21 5 (dk_at dksX5_burdenOf_2 2 rfl rfl)
theorem dX5_burdenOf_51 : decode cX5_burdenOf 51 = .ok (.ishr, 1) := dk_122 (dk_at dksX5_burdenOf_2 4 rfl rfl)
theorem dX5_burdenOf_52 : decode cX5_burdenOf 52 = .ok (.iconst 1, 1) := dk_4 (dk_at dksX5_burdenOf_2 5 rfl rfl)
theorem dX5_burdenOf_53 : decode cX5_burdenOf 53 = .ok (.iand, 1) := dk_126 (dk_at dksX5_burdenOf_2 6 rfl rfl)
theorem dX5_burdenOf_54 : decode cX5_burdenOf 54 = .ok (.ifCond .eq 76, 3) := dk_153 0 76 (dk_at dksX5_burdenOf_2 7 rfl rfl)
theorem dX5_burdenOf_57 : decode cX5_burdenOf 57 = .ok (.aload_n 0, 1) := dk_42 (dk_at dksX5_burdenOf_2 10 rfl rfl)
theorem dX5_burdenOf_58 : decode cX5_burdenOf 58 = .ok (.iload 5, 2) := dk_21 5 (dk_at dksX5_burdenOf_2 11 rfl rfl)
theorem dX5_burdenOf_60 : decode cX5_burdenOf 60 = .ok (.invokevirtual 204, 3) := dk_182 0 204 (dk_at dksX5_burdenOf_2 13 rfl rfl)
theorem dX5_burdenOf_63 : decode cX5_burdenOf 63 = .ok (.ifCond .eq 6, 3) := dk_153 0 6 (dk_at dksX5_burdenOf_2 16 rfl rfl)
theorem dX5_burdenOf_66 : decode cX5_burdenOf 66 = .ok (.goto 64, 3) := dk_167 0 64 (dk_at dksX5_burdenOf_2 19 rfl rfl)
theorem dX5_burdenOf_69 : decode cX5_burdenOf 69 = .ok (.lload_n 2, 1) := dk_32 (dk_at dksX5_burdenOf_2 22 rfl rfl)
theorem dX5_burdenOf_70 : decode cX5_burdenOf 70 = .ok (.lconst 1, 1) := dk_10 (dk_at dksX5_burdenOf_2 23 rfl rfl)
theorem dX5_burdenOf_71 : decode cX5_burdenOf 71 = .ok (.ladd, 1) := dk_97 (dk_at dksX5_burdenOf_3 0 rfl rfl)
theorem dX5_burdenOf_72 : decode cX5_burdenOf 72 = .ok (.lstore_n 2, 1) := dk_65 (dk_at dksX5_burdenOf_3 1 rfl rfl)
theorem dX5_burdenOf_73 : decode cX5_burdenOf 73 = .ok (.iconst 0, 1) := dk_3 (dk_at dksX5_burdenOf_3 2 rfl rfl)
theorem dX5_burdenOf_74 : decode cX5_burdenOf 74 = .ok (.istore 6, 2) := dk_54 6 (dk_at dksX5_burdenOf_3 3 rfl rfl)
theorem dX5_burdenOf_76 : decode cX5_burdenOf 76 = .ok (.iload 6, 2) := dk_21 6 (dk_at dksX5_burdenOf_3 5 rfl rfl)
theorem dX5_burdenOf_78 : decode cX5_burdenOf 78 = .ok (.bipush 6, 2) := dk_16 6 (dk_at dksX5_burdenOf_3 7 rfl rfl)
theorem dX5_burdenOf_80 : decode cX5_burdenOf 80 = .ok (.if_icmp .ge 50, 3) := dk_162 0 50 (dk_at dksX5_burdenOf_3 9 rfl rfl)
theorem dX5_burdenOf_83 : decode cX5_burdenOf 83 = .ok (.aload_n 0, 1) := dk_42 (dk_at dksX5_burdenOf_3 12 rfl rfl)
theorem dX5_burdenOf_84 : decode cX5_burdenOf 84 = .ok (.getfield 34, 3) := dk_180 0 34 (dk_at dksX5_burdenOf_3 13 rfl rfl)
theorem dX5_burdenOf_87 : decode cX5_burdenOf 87 = .ok (.iload 6, 2) := dk_21 6 (dk_at dksX5_burdenOf_3 16 rfl rfl)
theorem dX5_burdenOf_89 : decode cX5_burdenOf 89 = .ok (.baload, 1) := dk_51 (dk_at dksX5_burdenOf_3 18 rfl rfl)
theorem dX5_burdenOf_90 : decode cX5_burdenOf 90 = .ok (.ifCond .eq 34, 3) := dk_153 0 34 (dk_at dksX5_burdenOf_3 19 rfl rfl)
theorem dX5_burdenOf_93 : decode cX5_burdenOf 93 = .ok (.aload_n 0, 1) := dk_42 (dk_at dksX5_burdenOf_3 22 rfl rfl)
theorem dX5_burdenOf_94 : decode cX5_burdenOf 94 = .ok (.iload 5, 2) := dk_21 5 (dk_at dksX5_burdenOf_4 0 rfl rfl)
theorem dX5_burdenOf_96 : decode cX5_burdenOf 96 = .ok (.iload 6, 2) := dk_21 6 (dk_at dksX5_burdenOf_4 2 rfl rfl)
theorem dX5_burdenOf_98 : decode cX5_burdenOf 98 = .ok (.invokevirtual 200, 3) := dk_182 0 200 (dk_at dksX5_burdenOf_4 4 rfl rfl)
theorem dX5_burdenOf_101 : decode cX5_burdenOf 101 = .ok (.ifCond .le 23, 3) := dk_158 0 23 (dk_at dksX5_burdenOf_4 7 rfl rfl)
theorem dX5_burdenOf_104 : decode cX5_burdenOf 104 = .ok (.lload_n 2, 1) := dk_32 (dk_at dksX5_burdenOf_4 10 rfl rfl)
theorem dX5_burdenOf_105 : decode cX5_burdenOf 105 = .ok (.aload_n 0, 1) := dk_42 (dk_at dksX5_burdenOf_4 11 rfl rfl)
theorem dX5_burdenOf_106 : decode cX5_burdenOf 106 = .ok (.iload 5, 2) := dk_21 5 (dk_at dksX5_burdenOf_4 12 rfl rfl)
theorem dX5_burdenOf_108 : decode cX5_burdenOf 108 = .ok (.iload 6, 2) := dk_21 6 (dk_at dksX5_burdenOf_4 14 rfl rfl)
theorem dX5_burdenOf_110 : decode cX5_burdenOf 110 = .ok (.invokevirtual 200, 3) := dk_182 0 200 (dk_at dksX5_burdenOf_4 16 rfl rfl)
theorem dX5_burdenOf_113 : decode cX5_burdenOf 113 = .ok (.i2l, 1) := dk_133 (dk_at dksX5_burdenOf_4 19 rfl rfl)
theorem dX5_burdenOf_114 : decode cX5_burdenOf 114 = .ok (.aload_n 0, 1) := dk_42 (dk_at dksX5_burdenOf_4 20 rfl rfl)
theorem dX5_burdenOf_115 : decode cX5_burdenOf 115 = .ok (.iload 6, 2) := dk_21 6 (dk_at dksX5_burdenOf_4 21 rfl rfl)
theorem dX5_burdenOf_117 : decode cX5_burdenOf 117 = .ok (.invokevirtual 217, 3) := dk_182 0 217 (dk_at dksX5_burdenOf_5 0 rfl rfl)
theorem dX5_burdenOf_120 : decode cX5_burdenOf 120 = .ok (.i2l, 1) := dk_133 (dk_at dksX5_burdenOf_5 3 rfl rfl)
theorem dX5_burdenOf_121 : decode cX5_burdenOf 121 = .ok (.lmul, 1) := dk_105 (dk_at dksX5_burdenOf_5 4 rfl rfl)
theorem dX5_burdenOf_122 : decode cX5_burdenOf 122 = .ok (.ladd, 1) := dk_97 (dk_at dksX5_burdenOf_5 5 rfl rfl)
theorem dX5_burdenOf_123 : decode cX5_burdenOf 123 = .ok (.lstore_n 2, 1) := dk_65 (dk_at dksX5_burdenOf_5 6 rfl rfl)
theorem dX5_burdenOf_124 : decode cX5_burdenOf 124 = .ok (.iinc 6 1, 3) := dk_132 6 1 (dk_at dksX5_burdenOf_5 7 rfl rfl)
theorem dX5_burdenOf_127 : decode cX5_burdenOf 127 = .ok (.goto (-51), 3) := dk_167 255 205 (dk_at dksX5_burdenOf_5 10 rfl rfl)
theorem dX5_burdenOf_130 : decode cX5_burdenOf 130 = .ok (.iinc 5 1, 3) := dk_132 5 1 (dk_at dksX5_burdenOf_5 13 rfl rfl)
theorem dX5_burdenOf_133 : decode cX5_burdenOf 133 = .ok (.goto (-93), 3) := dk_167 255 163 (dk_at dksX5_burdenOf_5 16 rfl rfl)
theorem dX5_burdenOf_136 : decode cX5_burdenOf 136 = .ok (.aload_n 0, 1) := dk_42 (dk_at dksX5_burdenOf_5 19 rfl rfl)
theorem dX5_burdenOf_137 : decode cX5_burdenOf 137 = .ok (.getfield 64, 3) := dk_180 0 64 (dk_at dksX5_burdenOf_5 20 rfl rfl)
theorem dX5_burdenOf_140 : decode cX5_burdenOf 140 = .ok (.iload_n 1, 1) := dk_27 (dk_at dksX5_burdenOf_5 23 rfl rfl)
theorem dX5_burdenOf_141 : decode cX5_burdenOf 141 = .ok (.iconst 1, 1) := dk_4 (dk_at dksX5_burdenOf_6 0 rfl rfl)
theorem dX5_burdenOf_142 : decode cX5_burdenOf 142 = .ok (.bastore, 1) := dk_84 (dk_at dksX5_burdenOf_6 1 rfl rfl)
theorem dX5_burdenOf_143 : decode cX5_burdenOf 143 = .ok (.aload_n 0, 1) := dk_42 (dk_at dksX5_burdenOf_6 2 rfl rfl)
theorem dX5_burdenOf_144 : decode cX5_burdenOf 144 = .ok (.getfield 67, 3) := dk_180 0 67 (dk_at dksX5_burdenOf_6 3 rfl rfl)
theorem dX5_burdenOf_147 : decode cX5_burdenOf 147 = .ok (.iload_n 1, 1) := dk_27 (dk_at dksX5_burdenOf_6 6 rfl rfl)
theorem dX5_burdenOf_148 : decode cX5_burdenOf 148 = .ok (.lload_n 2, 1) := dk_32 (dk_at dksX5_burdenOf_6 7 rfl rfl)
theorem dX5_burdenOf_149 : decode cX5_burdenOf 149 = .ok (.ldc2_w 220, 3) := dk_20 0 220 (dk_at dksX5_burdenOf_6 8 rfl rfl)
theorem dX5_burdenOf_152 : decode cX5_burdenOf 152 = .ok (.invokestatic 222, 3) := dk_184 0 222 (dk_at dksX5_burdenOf_6 11 rfl rfl)
theorem dX5_burdenOf_155 : decode cX5_burdenOf 155 = .ok (.l2i, 1) := dk_136 (dk_at dksX5_burdenOf_6 14 rfl rfl)
theorem dX5_burdenOf_156 : decode cX5_burdenOf 156 = .ok (.iastore, 1) := dk_79 (dk_at dksX5_burdenOf_6 15 rfl rfl)
theorem dX5_burdenOf_157 : decode cX5_burdenOf 157 = .ok (.aload_n 0, 1) := dk_42 (dk_at dksX5_burdenOf_6 16 rfl rfl)
theorem dX5_burdenOf_158 : decode cX5_burdenOf 158 = .ok (.getfield 67, 3) := dk_180 0 67 (dk_at dksX5_burdenOf_6 17 rfl rfl)
theorem dX5_burdenOf_161 : decode cX5_burdenOf 161 = .ok (.iload_n 1, 1) := dk_27 (dk_at dksX5_burdenOf_6 20 rfl rfl)
theorem dX5_burdenOf_162 : decode cX5_burdenOf 162 = .ok (.iaload, 1) := dk_46 (dk_at dksX5_burdenOf_6 21 rfl rfl)
theorem dX5_burdenOf_163 : decode cX5_burdenOf 163 = .ok (.ireturn, 1) := dk_172 (dk_at dksX5_burdenOf_6 22 rfl rfl)
abbrev cX5_burdenOfTable : ByteArray := prog_35_method_18_code
def yX5_burdenOfTable : MethodName := ⟨RX5, "burdenOfTable", "(I)I"⟩
def dkwX5_burdenOfTable_0 : List UInt8 := [18, 228, 42, 42, 180, 0, 37, 27, 46, 182, 0, 229, 42, 27, 182, 0, 232, 104, 184, 0, 235, 172]
abbrev dktX5_burdenOfTable_0 : List UInt8 := dkwX5_burdenOfTable_0 ++ []
theorem dksX5_burdenOfTable_0 : cX5_burdenOfTable.data.toList.drop 0 = dktX5_burdenOfTable_0 := by decide +kernel
theorem dX5_burdenOfTable_0 : decode cX5_burdenOfTable 0 = .ok (.ldc 228, 2) := dk_18 228 (dk_at dksX5_burdenOfTable_0 0 rfl rfl)
theorem dX5_burdenOfTable_2 : decode cX5_burdenOfTable 2 = .ok (.aload_n 0, 1) := dk_42 (dk_at dksX5_burdenOfTable_0 2 rfl rfl)
theorem dX5_burdenOfTable_3 : decode cX5_burdenOfTable 3 = .ok (.aload_n 0, 1) := dk_42 (dk_at dksX5_burdenOfTable_0 3 rfl rfl)
theorem dX5_burdenOfTable_4 : decode cX5_burdenOfTable 4 = .ok (.getfield 37, 3) := dk_180 0 37 (dk_at dksX5_burdenOfTable_0 4 rfl rfl)
theorem dX5_burdenOfTable_7 : decode cX5_burdenOfTable 7 = .ok (.iload_n 1, 1) := dk_27 (dk_at dksX5_burdenOfTable_0 7 rfl rfl)
theorem dX5_burdenOfTable_8 : decode cX5_burdenOfTable 8 = .ok (.iaload, 1) := dk_46 (dk_at dksX5_burdenOfTable_0 8 rfl rfl)
theorem dX5_burdenOfTable_9 : decode cX5_burdenOfTable 9 = .ok (.invokevirtual 229, 3) := dk_182 0 229 (dk_at dksX5_burdenOfTable_0 9 rfl rfl)
theorem dX5_burdenOfTable_12 : decode cX5_burdenOfTable 12 = .ok (.aload_n 0, 1) := dk_42 (dk_at dksX5_burdenOfTable_0 12 rfl rfl)
theorem dX5_burdenOfTable_13 : decode cX5_burdenOfTable 13 = .ok (.iload_n 1, 1) := dk_27 (dk_at dksX5_burdenOfTable_0 13 rfl rfl)
theorem dX5_burdenOfTable_14 : decode cX5_burdenOfTable 14 = .ok (.invokevirtual 232, 3) := dk_182 0 232 (dk_at dksX5_burdenOfTable_0 14 rfl rfl)
theorem dX5_burdenOfTable_17 : decode cX5_burdenOfTable 17 = .ok (.imul, 1) := dk_104 (dk_at dksX5_burdenOfTable_0 17 rfl rfl)
theorem dX5_burdenOfTable_18 : decode cX5_burdenOfTable 18 = .ok (.invokestatic 235, 3) := dk_184 0 235 (dk_at dksX5_burdenOfTable_0 18 rfl rfl)
theorem dX5_burdenOfTable_21 : decode cX5_burdenOfTable 21 = .ok (.ireturn, 1) := dk_172 (dk_at dksX5_burdenOfTable_0 21 rfl rfl)
abbrev cX5_cases : ByteArray := prog_35_method_16_code
def yX5_cases : MethodName := ⟨RX5, "cases", "(I)I"⟩
def dkwX5_cases_1 : List UInt8 := [180, 0, 46, 5, 27, 104, 4, 96, 46, 104, 172]
abbrev dktX5_cases_1 : List UInt8 := dkwX5_cases_1 ++ []
def dkwX5_cases_0 : List UInt8 := [42, 180, 0, 46, 5, 27, 104, 46, 42, 180, 0, 43, 27, 46, 2, 160, 0, 7, 4, 167, 0, 13, 42]
abbrev dktX5_cases_0 : List UInt8 := dkwX5_cases_0 ++ dktX5_cases_1
theorem dksX5_cases_0 : cX5_cases.data.toList.drop 0 = dktX5_cases_0 := by decide +kernel
theorem dksX5_cases_1 : cX5_cases.data.toList.drop 23 = dktX5_cases_1 := dk_seg dksX5_cases_0 23 rfl rfl
theorem dX5_cases_0 : decode cX5_cases 0 = .ok (.aload_n 0, 1) := dk_42 (dk_at dksX5_cases_0 0 rfl rfl)
theorem dX5_cases_1 : decode cX5_cases 1 = .ok (.getfield 46, 3) := dk_180 0 46 (dk_at dksX5_cases_0 1 rfl rfl)
theorem dX5_cases_4 : decode cX5_cases 4 = .ok (.iconst 2, 1) := dk_5 (dk_at dksX5_cases_0 4 rfl rfl)
theorem dX5_cases_5 : decode cX5_cases 5 = .ok (.iload_n 1, 1) := dk_27 (dk_at dksX5_cases_0 5 rfl rfl)
theorem dX5_cases_6 : decode cX5_cases 6 = .ok (.imul, 1) := dk_104 (dk_at dksX5_cases_0 6 rfl rfl)
theorem dX5_cases_7 : decode cX5_cases 7 = .ok (.iaload, 1) := dk_46 (dk_at dksX5_cases_0 7 rfl rfl)
theorem dX5_cases_8 : decode cX5_cases 8 = .ok (.aload_n 0, 1) := dk_42 (dk_at dksX5_cases_0 8 rfl rfl)
theorem dX5_cases_9 : decode cX5_cases 9 = .ok (.getfield 43, 3) := dk_180 0 43 (dk_at dksX5_cases_0 9 rfl rfl)
theorem dX5_cases_12 : decode cX5_cases 12 = .ok (.iload_n 1, 1) := dk_27 (dk_at dksX5_cases_0 12 rfl rfl)
theorem dX5_cases_13 : decode cX5_cases 13 = .ok (.iaload, 1) := dk_46 (dk_at dksX5_cases_0 13 rfl rfl)
theorem dX5_cases_14 : decode cX5_cases 14 = .ok (.iconst (-1), 1) := dk_2 (dk_at dksX5_cases_0 14 rfl rfl)
theorem dX5_cases_15 : decode cX5_cases 15 = .ok (.if_icmp .ne 7, 3) := dk_160 0 7 (dk_at dksX5_cases_0 15 rfl rfl)
theorem dX5_cases_18 : decode cX5_cases 18 = .ok (.iconst 1, 1) := dk_4 (dk_at dksX5_cases_0 18 rfl rfl)
theorem dX5_cases_19 : decode cX5_cases 19 = .ok (.goto 13, 3) := dk_167 0 13 (dk_at dksX5_cases_0 19 rfl rfl)
theorem dX5_cases_22 : decode cX5_cases 22 = .ok (.aload_n 0, 1) := dk_42 (dk_at dksX5_cases_0 22 rfl rfl)
theorem dX5_cases_23 : decode cX5_cases 23 = .ok (.getfield 46, 3) := dk_180 0 46 (dk_at dksX5_cases_1 0 rfl rfl)
theorem dX5_cases_26 : decode cX5_cases 26 = .ok (.iconst 2, 1) := dk_5 (dk_at dksX5_cases_1 3 rfl rfl)
theorem dX5_cases_27 : decode cX5_cases 27 = .ok (.iload_n 1, 1) := dk_27 (dk_at dksX5_cases_1 4 rfl rfl)
theorem dX5_cases_28 : decode cX5_cases 28 = .ok (.imul, 1) := dk_104 (dk_at dksX5_cases_1 5 rfl rfl)
theorem dX5_cases_29 : decode cX5_cases 29 = .ok (.iconst 1, 1) := dk_4 (dk_at dksX5_cases_1 6 rfl rfl)
theorem dX5_cases_30 : decode cX5_cases 30 = .ok (.iadd, 1) := dk_96 (dk_at dksX5_cases_1 7 rfl rfl)
theorem dX5_cases_31 : decode cX5_cases 31 = .ok (.iaload, 1) := dk_46 (dk_at dksX5_cases_1 8 rfl rfl)
theorem dX5_cases_32 : decode cX5_cases 32 = .ok (.imul, 1) := dk_104 (dk_at dksX5_cases_1 9 rfl rfl)
theorem dX5_cases_33 : decode cX5_cases 33 = .ok (.ireturn, 1) := dk_172 (dk_at dksX5_cases_1 10 rfl rfl)
abbrev cX5_tellNow : ByteArray := prog_35_method_29_code
def yX5_tellNow : MethodName := ⟨RX5, "tellNow", "(I)V"⟩
def dkwX5_tellNow_0 : List UInt8 := [42, 3, 181, 0, 247, 42, 3, 181, 0, 243, 42, 182, 1, 23, 42, 27, 182, 1, 2, 177]
abbrev dktX5_tellNow_0 : List UInt8 := dkwX5_tellNow_0 ++ []
theorem dksX5_tellNow_0 : cX5_tellNow.data.toList.drop 0 = dktX5_tellNow_0 := by decide +kernel
theorem dX5_tellNow_0 : decode cX5_tellNow 0 = .ok (.aload_n 0, 1) := dk_42 (dk_at dksX5_tellNow_0 0 rfl rfl)
theorem dX5_tellNow_1 : decode cX5_tellNow 1 = .ok (.iconst 0, 1) := dk_3 (dk_at dksX5_tellNow_0 1 rfl rfl)
theorem dX5_tellNow_2 : decode cX5_tellNow 2 = .ok (.putfield 247, 3) := dk_181 0 247 (dk_at dksX5_tellNow_0 2 rfl rfl)
theorem dX5_tellNow_5 : decode cX5_tellNow 5 = .ok (.aload_n 0, 1) := dk_42 (dk_at dksX5_tellNow_0 5 rfl rfl)
theorem dX5_tellNow_6 : decode cX5_tellNow 6 = .ok (.iconst 0, 1) := dk_3 (dk_at dksX5_tellNow_0 6 rfl rfl)
theorem dX5_tellNow_7 : decode cX5_tellNow 7 = .ok (.putfield 243, 3) := dk_181 0 243 (dk_at dksX5_tellNow_0 7 rfl rfl)
theorem dX5_tellNow_10 : decode cX5_tellNow 10 = .ok (.aload_n 0, 1) := dk_42 (dk_at dksX5_tellNow_0 10 rfl rfl)
theorem dX5_tellNow_11 : decode cX5_tellNow 11 = .ok (.invokevirtual 279, 3) := dk_182 1 23 (dk_at dksX5_tellNow_0 11 rfl rfl)
theorem dX5_tellNow_14 : decode cX5_tellNow 14 = .ok (.aload_n 0, 1) := dk_42 (dk_at dksX5_tellNow_0 14 rfl rfl)
theorem dX5_tellNow_15 : decode cX5_tellNow 15 = .ok (.iload_n 1, 1) := dk_27 (dk_at dksX5_tellNow_0 15 rfl rfl)
theorem dX5_tellNow_16 : decode cX5_tellNow 16 = .ok (.invokevirtual 258, 3) := dk_182 1 2 (dk_at dksX5_tellNow_0 16 rfl rfl)
theorem dX5_tellNow_19 : decode cX5_tellNow 19 = .ok (.return_, 1) := dk_177 (dk_at dksX5_tellNow_0 19 rfl rfl)
abbrev cX5_afresh : ByteArray := prog_35_method_22_code
def yX5_afresh : MethodName := ⟨RX5, "afresh", "()V"⟩
def dkwX5_afresh_2 : List UInt8 := [132, 1, 1, 167, 255, 235, 177]
abbrev dktX5_afresh_2 : List UInt8 := dkwX5_afresh_2 ++ []
def dkwX5_afresh_1 : List UInt8 := [167, 255, 235, 3, 60, 27, 16, 6, 162, 0, 21, 42, 180, 0, 84, 42, 180, 0, 247, 50, 27, 3, 84]
abbrev dktX5_afresh_1 : List UInt8 := dkwX5_afresh_1 ++ dktX5_afresh_2
def dkwX5_afresh_0 : List UInt8 := [3, 60, 27, 16, 24, 162, 0, 21, 42, 180, 0, 72, 42, 180, 0, 247, 50, 27, 3, 84, 132, 1, 1]
abbrev dktX5_afresh_0 : List UInt8 := dkwX5_afresh_0 ++ dktX5_afresh_1
theorem dksX5_afresh_0 : cX5_afresh.data.toList.drop 0 = dktX5_afresh_0 := by decide +kernel
theorem dksX5_afresh_1 : cX5_afresh.data.toList.drop 23 = dktX5_afresh_1 := dk_seg dksX5_afresh_0 23 rfl rfl
theorem dksX5_afresh_2 : cX5_afresh.data.toList.drop 46 = dktX5_afresh_2 := dk_seg dksX5_afresh_1 23 rfl rfl
theorem dX5_afresh_0 : decode cX5_afresh 0 = .ok (.iconst 0, 1) := dk_3 (dk_at dksX5_afresh_0 0 rfl rfl)
theorem dX5_afresh_1 : decode cX5_afresh 1 = .ok (.istore_n 1, 1) := dk_60 (dk_at dksX5_afresh_0 1 rfl rfl)
theorem dX5_afresh_2 : decode cX5_afresh 2 = .ok (.iload_n 1, 1) := dk_27 (dk_at dksX5_afresh_0 2 rfl rfl)
theorem dX5_afresh_3 : decode cX5_afresh 3 = .ok (.bipush 24, 2) := dk_16 24 (dk_at dksX5_afresh_0 3 rfl rfl)
theorem dX5_afresh_5 : decode cX5_afresh 5 = .ok (.if_icmp .ge 21, 3) := dk_162 0 21 (dk_at dksX5_afresh_0 5 rfl rfl)
theorem dX5_afresh_8 : decode cX5_afresh 8 = .ok (.aload_n 0, 1) := dk_42 (dk_at dksX5_afresh_0 8 rfl rfl)
theorem dX5_afresh_9 : decode cX5_afresh 9 = .ok (.getfield 72, 3) := dk_180 0 72 (dk_at dksX5_afresh_0 9 rfl rfl)
theorem dX5_afresh_12 : decode cX5_afresh 12 = .ok (.aload_n 0, 1) := dk_42 (dk_at dksX5_afresh_0 12 rfl rfl)
theorem dX5_afresh_13 : decode cX5_afresh 13 = .ok (.getfield 247, 3) := dk_180 0 247 (dk_at dksX5_afresh_0 13 rfl rfl)
theorem dX5_afresh_16 : decode cX5_afresh 16 = .ok (.aaload, 1) := dk_50 (dk_at dksX5_afresh_0 16 rfl rfl)
theorem dX5_afresh_17 : decode cX5_afresh 17 = .ok (.iload_n 1, 1) := dk_27 (dk_at dksX5_afresh_0 17 rfl rfl)
theorem dX5_afresh_18 : decode cX5_afresh 18 = .ok (.iconst 0, 1) := dk_3 (dk_at dksX5_afresh_0 18 rfl rfl)
theorem dX5_afresh_19 : decode cX5_afresh 19 = .ok (.bastore, 1) := dk_84 (dk_at dksX5_afresh_0 19 rfl rfl)
theorem dX5_afresh_20 : decode cX5_afresh 20 = .ok (.iinc 1 1, 3) := dk_132 1 1 (dk_at dksX5_afresh_0 20 rfl rfl)
theorem dX5_afresh_23 : decode cX5_afresh 23 = .ok (.goto (-21), 3) := dk_167 255 235 (dk_at dksX5_afresh_1 0 rfl rfl)
theorem dX5_afresh_26 : decode cX5_afresh 26 = .ok (.iconst 0, 1) := dk_3 (dk_at dksX5_afresh_1 3 rfl rfl)
theorem dX5_afresh_27 : decode cX5_afresh 27 = .ok (.istore_n 1, 1) := dk_60 (dk_at dksX5_afresh_1 4 rfl rfl)
theorem dX5_afresh_28 : decode cX5_afresh 28 = .ok (.iload_n 1, 1) := dk_27 (dk_at dksX5_afresh_1 5 rfl rfl)
theorem dX5_afresh_29 : decode cX5_afresh 29 = .ok (.bipush 6, 2) := dk_16 6 (dk_at dksX5_afresh_1 6 rfl rfl)
theorem dX5_afresh_31 : decode cX5_afresh 31 = .ok (.if_icmp .ge 21, 3) := dk_162 0 21 (dk_at dksX5_afresh_1 8 rfl rfl)
theorem dX5_afresh_34 : decode cX5_afresh 34 = .ok (.aload_n 0, 1) := dk_42 (dk_at dksX5_afresh_1 11 rfl rfl)
theorem dX5_afresh_35 : decode cX5_afresh 35 = .ok (.getfield 84, 3) := dk_180 0 84 (dk_at dksX5_afresh_1 12 rfl rfl)
theorem dX5_afresh_38 : decode cX5_afresh 38 = .ok (.aload_n 0, 1) := dk_42 (dk_at dksX5_afresh_1 15 rfl rfl)
theorem dX5_afresh_39 : decode cX5_afresh 39 = .ok (.getfield 247, 3) := dk_180 0 247 (dk_at dksX5_afresh_1 16 rfl rfl)
theorem dX5_afresh_42 : decode cX5_afresh 42 = .ok (.aaload, 1) := dk_50 (dk_at dksX5_afresh_1 19 rfl rfl)
theorem dX5_afresh_43 : decode cX5_afresh 43 = .ok (.iload_n 1, 1) := dk_27 (dk_at dksX5_afresh_1 20 rfl rfl)
theorem dX5_afresh_44 : decode cX5_afresh 44 = .ok (.iconst 0, 1) := dk_3 (dk_at dksX5_afresh_1 21 rfl rfl)
theorem dX5_afresh_45 : decode cX5_afresh 45 = .ok (.bastore, 1) := dk_84 (dk_at dksX5_afresh_1 22 rfl rfl)
theorem dX5_afresh_46 : decode cX5_afresh 46 = .ok (.iinc 1 1, 3) := dk_132 1 1 (dk_at dksX5_afresh_2 0 rfl rfl)
theorem dX5_afresh_49 : decode cX5_afresh 49 = .ok (.goto (-21), 3) := dk_167 255 235 (dk_at dksX5_afresh_2 3 rfl rfl)
theorem dX5_afresh_52 : decode cX5_afresh 52 = .ok (.return_, 1) := dk_177 (dk_at dksX5_afresh_2 6 rfl rfl)
abbrev cX5_tell : ByteArray := prog_35_method_23_code
def yX5_tell : MethodName := ⟨RX5, "tell", "(I)V"⟩
def dkwX5_tell_10 : List UInt8 := [180, 0, 243, 46, 79, 42, 180, 0, 72, 42, 180, 0, 247, 50, 27, 4, 84, 177]
abbrev dktX5_tell_10 : List UInt8 := dkwX5_tell_10 ++ []
def dkwX5_tell_9 : List UInt8 := [180, 0, 96, 42, 180, 0, 243, 46, 79, 42, 180, 0, 81, 42, 180, 0, 247, 50, 27, 42, 180, 0, 99, 42]
abbrev dktX5_tell_9 : List UInt8 := dkwX5_tell_9 ++ dktX5_tell_10
def dkwX5_tell_8 : List UInt8 := [180, 0, 243, 49, 184, 0, 250, 167, 0, 4, 14, 82, 42, 180, 0, 78, 42, 180, 0, 247, 50, 27, 42]
abbrev dktX5_tell_8 : List UInt8 := dkwX5_tell_8 ++ dktX5_tell_9
def dkwX5_tell_7 : List UInt8 := [180, 0, 96, 42, 180, 0, 243, 46, 154, 0, 24, 42, 180, 0, 9, 27, 46, 42, 180, 0, 93, 42]
abbrev dktX5_tell_7 : List UInt8 := dkwX5_tell_7 ++ dktX5_tell_8
def dkwX5_tell_6 : List UInt8 := [167, 255, 230, 42, 89, 180, 0, 243, 4, 100, 181, 0, 243, 42, 180, 0, 75, 42, 180, 0, 247, 50, 27, 42]
abbrev dktX5_tell_6 : List UInt8 := dkwX5_tell_6 ++ dktX5_tell_7
def dkwX5_tell_5 : List UInt8 := [180, 0, 21, 27, 46, 162, 0, 22, 42, 27, 42, 180, 0, 26, 27, 50, 28, 46, 182, 0, 254, 132, 2, 1]
abbrev dktX5_tell_5 : List UInt8 := dkwX5_tell_5 ++ dktX5_tell_6
def dkwX5_tell_4 : List UInt8 := [27, 42, 180, 0, 13, 27, 51, 153, 0, 7, 2, 167, 0, 4, 27, 79, 167, 0, 129, 3, 61, 28, 42]
abbrev dktX5_tell_4 : List UInt8 := dkwX5_tell_4 ++ dktX5_tell_5
def dkwX5_tell_3 : List UInt8 := [42, 180, 0, 13, 27, 51, 153, 0, 7, 3, 167, 0, 4, 4, 79, 42, 180, 0, 81, 42, 180, 0, 247, 50]
abbrev dktX5_tell_3 : List UInt8 := dkwX5_tell_3 ++ dktX5_tell_4
def dkwX5_tell_2 : List UInt8 := [42, 180, 0, 17, 27, 49, 184, 0, 250, 167, 0, 4, 14, 82, 42, 180, 0, 78, 42, 180, 0, 247, 50, 27]
abbrev dktX5_tell_2 : List UInt8 := dkwX5_tell_2 ++ dktX5_tell_3
def dkwX5_tell_1 : List UInt8 := [180, 0, 75, 42, 180, 0, 247, 50, 27, 42, 180, 0, 13, 27, 51, 153, 0, 21, 42, 180, 0, 9, 27, 46]
abbrev dktX5_tell_1 : List UInt8 := dkwX5_tell_1 ++ dktX5_tell_2
def dkwX5_tell_0 : List UInt8 := [42, 180, 0, 72, 42, 180, 0, 247, 50, 27, 51, 153, 0, 4, 177, 42, 27, 182, 0, 204, 153, 0, 95, 42]
abbrev dktX5_tell_0 : List UInt8 := dkwX5_tell_0 ++ dktX5_tell_1
theorem dksX5_tell_0 : cX5_tell.data.toList.drop 0 = dktX5_tell_0 := by decide +kernel
theorem dksX5_tell_1 : cX5_tell.data.toList.drop 24 = dktX5_tell_1 := dk_seg dksX5_tell_0 24 rfl rfl
theorem dksX5_tell_2 : cX5_tell.data.toList.drop 48 = dktX5_tell_2 := dk_seg dksX5_tell_1 24 rfl rfl
theorem dksX5_tell_3 : cX5_tell.data.toList.drop 72 = dktX5_tell_3 := dk_seg dksX5_tell_2 24 rfl rfl
theorem dksX5_tell_4 : cX5_tell.data.toList.drop 96 = dktX5_tell_4 := dk_seg dksX5_tell_3 24 rfl rfl
theorem dksX5_tell_5 : cX5_tell.data.toList.drop 119 = dktX5_tell_5 := dk_seg dksX5_tell_4 23 rfl rfl
theorem dksX5_tell_6 : cX5_tell.data.toList.drop 143 = dktX5_tell_6 := dk_seg dksX5_tell_5 24 rfl rfl
theorem dksX5_tell_7 : cX5_tell.data.toList.drop 167 = dktX5_tell_7 := dk_seg dksX5_tell_6 24 rfl rfl
theorem dksX5_tell_8 : cX5_tell.data.toList.drop 189 = dktX5_tell_8 := dk_seg dksX5_tell_7 22 rfl rfl
theorem dksX5_tell_9 : cX5_tell.data.toList.drop 212 = dktX5_tell_9 := dk_seg dksX5_tell_8 23 rfl rfl
theorem dksX5_tell_10 : cX5_tell.data.toList.drop 236 = dktX5_tell_10 := dk_seg dksX5_tell_9 24 rfl rfl
theorem dX5_tell_0 : decode cX5_tell 0 = .ok (.aload_n 0, 1) := dk_42 (dk_at dksX5_tell_0 0 rfl rfl)
theorem dX5_tell_1 : decode cX5_tell 1 = .ok (.getfield 72, 3) := dk_180 0 72 (dk_at dksX5_tell_0 1 rfl rfl)
theorem dX5_tell_4 : decode cX5_tell 4 = .ok (.aload_n 0, 1) := dk_42 (dk_at dksX5_tell_0 4 rfl rfl)
theorem dX5_tell_5 : decode cX5_tell 5 = .ok (.getfield 247, 3) := dk_180 0 247 (dk_at dksX5_tell_0 5 rfl rfl)
theorem dX5_tell_8 : decode cX5_tell 8 = .ok (.aaload, 1) := dk_50 (dk_at dksX5_tell_0 8 rfl rfl)
theorem dX5_tell_9 : decode cX5_tell 9 = .ok (.iload_n 1, 1) := dk_27 (dk_at dksX5_tell_0 9 rfl rfl)
theorem dX5_tell_10 : decode cX5_tell 10 = .ok (.baload, 1) := dk_51 (dk_at dksX5_tell_0 10 rfl rfl)
theorem dX5_tell_11 : decode cX5_tell 11 = .ok (.ifCond .eq 4, 3) := dk_153 0 4 (dk_at dksX5_tell_0 11 rfl rfl)
theorem dX5_tell_14 : decode cX5_tell 14 = .ok (.return_, 1) := dk_177 (dk_at dksX5_tell_0 14 rfl rfl)
theorem dX5_tell_15 : decode cX5_tell 15 = .ok (.aload_n 0, 1) := dk_42 (dk_at dksX5_tell_0 15 rfl rfl)
theorem dX5_tell_16 : decode cX5_tell 16 = .ok (.iload_n 1, 1) := dk_27 (dk_at dksX5_tell_0 16 rfl rfl)
theorem dX5_tell_17 : decode cX5_tell 17 = .ok (.invokevirtual 204, 3) := dk_182 0 204 (dk_at dksX5_tell_0 17 rfl rfl)
theorem dX5_tell_20 : decode cX5_tell 20 = .ok (.ifCond .eq 95, 3) := dk_153 0 95 (dk_at dksX5_tell_0 20 rfl rfl)
theorem dX5_tell_23 : decode cX5_tell 23 = .ok (.aload_n 0, 1) := dk_42 (dk_at dksX5_tell_0 23 rfl rfl)
theorem dX5_tell_24 : decode cX5_tell 24 = .ok (.getfield 75, 3) := dk_180 0 75 (dk_at dksX5_tell_1 0 rfl rfl)
theorem dX5_tell_27 : decode cX5_tell 27 = .ok (.aload_n 0, 1) := dk_42 (dk_at dksX5_tell_1 3 rfl rfl)
theorem dX5_tell_28 : decode cX5_tell 28 = .ok (.getfield 247, 3) := dk_180 0 247 (dk_at dksX5_tell_1 4 rfl rfl)
theorem dX5_tell_31 : decode cX5_tell 31 = .ok (.aaload, 1) := dk_50 (dk_at dksX5_tell_1 7 rfl rfl)
theorem dX5_tell_32 : decode cX5_tell 32 = .ok (.iload_n 1, 1) := dk_27 (dk_at dksX5_tell_1 8 rfl rfl)
theorem dX5_tell_33 : decode cX5_tell 33 = .ok (.aload_n 0, 1) := dk_42 (dk_at dksX5_tell_1 9 rfl rfl)
theorem dX5_tell_34 : decode cX5_tell 34 = .ok (.getfield 13, 3) := dk_180 0 13 (dk_at dksX5_tell_1 10 rfl rfl)
theorem dX5_tell_37 : decode cX5_tell 37 = .ok (.iload_n 1, 1) := dk_27 (dk_at dksX5_tell_1 13 rfl rfl)
theorem dX5_tell_38 : decode cX5_tell 38 = .ok (.baload, 1) := dk_51 (dk_at dksX5_tell_1 14 rfl rfl)
theorem dX5_tell_39 : decode cX5_tell 39 = .ok (.ifCond .eq 21, 3) := dk_153 0 21 (dk_at dksX5_tell_1 15 rfl rfl)
theorem dX5_tell_42 : decode cX5_tell 42 = .ok (.aload_n 0, 1) := dk_42 (dk_at dksX5_tell_1 18 rfl rfl)
theorem dX5_tell_43 : decode cX5_tell 43 = .ok (.getfield 9, 3) := dk_180 0 9 (dk_at dksX5_tell_1 19 rfl rfl)
theorem dX5_tell_46 : decode cX5_tell 46 = .ok (.iload_n 1, 1) := dk_27 (dk_at dksX5_tell_1 22 rfl rfl)
theorem dX5_tell_47 : decode cX5_tell 47 = .ok (.iaload, 1) := dk_46 (dk_at dksX5_tell_1 23 rfl rfl)
theorem dX5_tell_48 : decode cX5_tell 48 = .ok (.aload_n 0, 1) := dk_42 (dk_at dksX5_tell_2 0 rfl rfl)
theorem dX5_tell_49 : decode cX5_tell 49 = .ok (.getfield 17, 3) := dk_180 0 17 (dk_at dksX5_tell_2 1 rfl rfl)
theorem dX5_tell_52 : decode cX5_tell 52 = .ok (.iload_n 1, 1) := dk_27 (dk_at dksX5_tell_2 4 rfl rfl)
theorem dX5_tell_53 : decode cX5_tell 53 = .ok (.daload, 1) := dk_49 (dk_at dksX5_tell_2 5 rfl rfl)
theorem dX5_tell_54 : decode cX5_tell 54 = .ok (.invokestatic 250, 3) := dk_184 0 250 (dk_at dksX5_tell_2 6 rfl rfl)
theorem dX5_tell_57 : decode cX5_tell 57 = .ok (.goto 4, 3) := dk_167 0 4 (dk_at dksX5_tell_2 9 rfl rfl)
theorem dX5_tell_60 : decode cX5_tell 60 = .ok (.dconst 0, 1) := dk_14 (dk_at dksX5_tell_2 12 rfl rfl)
theorem dX5_tell_61 : decode cX5_tell 61 = .ok (.dastore, 1) := dk_82 (dk_at dksX5_tell_2 13 rfl rfl)
theorem dX5_tell_62 : decode cX5_tell 62 = .ok (.aload_n 0, 1) := dk_42 (dk_at dksX5_tell_2 14 rfl rfl)
theorem dX5_tell_63 : decode cX5_tell 63 = .ok (.getfield 78, 3) := dk_180 0 78 (dk_at dksX5_tell_2 15 rfl rfl)
theorem dX5_tell_66 : decode cX5_tell 66 = .ok (.aload_n 0, 1) := dk_42 (dk_at dksX5_tell_2 18 rfl rfl)
theorem dX5_tell_67 : decode cX5_tell 67 = .ok (.getfield 247, 3) := dk_180 0 247 (dk_at dksX5_tell_2 19 rfl rfl)
theorem dX5_tell_70 : decode cX5_tell 70 = .ok (.aaload, 1) := dk_50 (dk_at dksX5_tell_2 22 rfl rfl)
theorem dX5_tell_71 : decode cX5_tell 71 = .ok (.iload_n 1, 1) := dk_27 (dk_at dksX5_tell_2 23 rfl rfl)
theorem dX5_tell_72 : decode cX5_tell 72 = .ok (.aload_n 0, 1) := dk_42 (dk_at dksX5_tell_3 0 rfl rfl)
theorem dX5_tell_73 : decode cX5_tell 73 = .ok (.getfield 13, 3) := dk_180 0 13 (dk_at dksX5_tell_3 1 rfl rfl)
theorem dX5_tell_76 : decode cX5_tell 76 = .ok (.iload_n 1, 1) := dk_27 (dk_at dksX5_tell_3 4 rfl rfl)
theorem dX5_tell_77 : decode cX5_tell 77 = .ok (.baload, 1) := dk_51 (dk_at dksX5_tell_3 5 rfl rfl)
theorem dX5_tell_78 : decode cX5_tell 78 = .ok (.ifCond .eq 7, 3) := dk_153 0 7 (dk_at dksX5_tell_3 6 rfl rfl)
theorem dX5_tell_81 : decode cX5_tell 81 = .ok (.iconst 0, 1) := dk_3 (dk_at dksX5_tell_3 9 rfl rfl)
theorem dX5_tell_82 : decode cX5_tell 82 = .ok (.goto 4, 3) := dk_167 0 4 (dk_at dksX5_tell_3 10 rfl rfl)
theorem dX5_tell_85 : decode cX5_tell 85 = .ok (.iconst 1, 1) := dk_4 (dk_at dksX5_tell_3 13 rfl rfl)
theorem dX5_tell_86 : decode cX5_tell 86 = .ok (.iastore, 1) := dk_79 (dk_at dksX5_tell_3 14 rfl rfl)
theorem dX5_tell_87 : decode cX5_tell 87 = .ok (.aload_n 0, 1) := dk_42 (dk_at dksX5_tell_3 15 rfl rfl)
theorem dX5_tell_88 : decode cX5_tell 88 = .ok (.getfield 81, 3) := dk_180 0 81 (dk_at dksX5_tell_3 16 rfl rfl)
theorem dX5_tell_91 : decode cX5_tell 91 = .ok (.aload_n 0, 1) := dk_42 (dk_at dksX5_tell_3 19 rfl rfl)
theorem dX5_tell_92 : decode cX5_tell 92 = .ok (.getfield 247, 3) := dk_180 0 247 (dk_at dksX5_tell_3 20 rfl rfl)
theorem dX5_tell_95 : decode cX5_tell 95 = .ok (.aaload, 1) := dk_50 (dk_at dksX5_tell_3 23 rfl rfl)
theorem dX5_tell_96 : decode cX5_tell 96 = .ok (.iload_n 1, 1) := dk_27 (dk_at dksX5_tell_4 0 rfl rfl)
theorem dX5_tell_97 : decode cX5_tell 97 = .ok (.aload_n 0, 1) := dk_42 (dk_at dksX5_tell_4 1 rfl rfl)
theorem dX5_tell_98 : decode cX5_tell 98 = .ok (.getfield 13, 3) := dk_180 0 13 (dk_at dksX5_tell_4 2 rfl rfl)
theorem dX5_tell_101 : decode cX5_tell 101 = .ok (.iload_n 1, 1) := dk_27 (dk_at dksX5_tell_4 5 rfl rfl)
theorem dX5_tell_102 : decode cX5_tell 102 = .ok (.baload, 1) := dk_51 (dk_at dksX5_tell_4 6 rfl rfl)
theorem dX5_tell_103 : decode cX5_tell 103 = .ok (.ifCond .eq 7, 3) := dk_153 0 7 (dk_at dksX5_tell_4 7 rfl rfl)
theorem dX5_tell_106 : decode cX5_tell 106 = .ok (.iconst (-1), 1) := dk_2 (dk_at dksX5_tell_4 10 rfl rfl)
theorem dX5_tell_107 : decode cX5_tell 107 = .ok (.goto 4, 3) := dk_167 0 4 (dk_at dksX5_tell_4 11 rfl rfl)
theorem dX5_tell_110 : decode cX5_tell 110 = .ok (.iload_n 1, 1) := dk_27 (dk_at dksX5_tell_4 14 rfl rfl)
theorem dX5_tell_111 : decode cX5_tell 111 = .ok (.iastore, 1) := dk_79 (dk_at dksX5_tell_4 15 rfl rfl)
theorem dX5_tell_112 : decode cX5_tell 112 = .ok (.goto 129, 3) := dk_167 0 129 (dk_at dksX5_tell_4 16 rfl rfl)
theorem dX5_tell_115 : decode cX5_tell 115 = .ok (.iconst 0, 1) := dk_3 (dk_at dksX5_tell_4 19 rfl rfl)
theorem dX5_tell_116 : decode cX5_tell 116 = .ok (.istore_n 2, 1) := dk_61 (dk_at dksX5_tell_4 20 rfl rfl)
theorem dX5_tell_117 : decode cX5_tell 117 = .ok (.iload_n 2, 1) := dk_28 (dk_at dksX5_tell_4 21 rfl rfl)
theorem dX5_tell_118 : decode cX5_tell 118 = .ok (.aload_n 0, 1) := dk_42 (dk_at dksX5_tell_4 22 rfl rfl)
theorem dX5_tell_119 : decode cX5_tell 119 = .ok (.getfield 21, 3) := dk_180 0 21 (dk_at dksX5_tell_5 0 rfl rfl)
theorem dX5_tell_122 : decode cX5_tell 122 = .ok (.iload_n 1, 1) := dk_27 (dk_at dksX5_tell_5 3 rfl rfl)
theorem dX5_tell_123 : decode cX5_tell 123 = .ok (.iaload, 1) := dk_46 (dk_at dksX5_tell_5 4 rfl rfl)
theorem dX5_tell_124 : decode cX5_tell 124 = .ok (.if_icmp .ge 22, 3) := dk_162 0 22 (dk_at dksX5_tell_5 5 rfl rfl)
theorem dX5_tell_127 : decode cX5_tell 127 = .ok (.aload_n 0, 1) := dk_42 (dk_at dksX5_tell_5 8 rfl rfl)
theorem dX5_tell_128 : decode cX5_tell 128 = .ok (.iload_n 1, 1) := dk_27 (dk_at dksX5_tell_5 9 rfl rfl)
theorem dX5_tell_129 : decode cX5_tell 129 = .ok (.aload_n 0, 1) := dk_42 (dk_at dksX5_tell_5 10 rfl rfl)
theorem dX5_tell_130 : decode cX5_tell 130 = .ok (.getfield 26, 3) := dk_180 0 26 (dk_at dksX5_tell_5 11 rfl rfl)
theorem dX5_tell_133 : decode cX5_tell 133 = .ok (.iload_n 1, 1) := dk_27 (dk_at dksX5_tell_5 14 rfl rfl)
theorem dX5_tell_134 : decode cX5_tell 134 = .ok (.aaload, 1) := dk_50 (dk_at dksX5_tell_5 15 rfl rfl)
theorem dX5_tell_135 : decode cX5_tell 135 = .ok (.iload_n 2, 1) := dk_28 (dk_at dksX5_tell_5 16 rfl rfl)
theorem dX5_tell_136 : decode cX5_tell 136 = .ok (.iaload, 1) := dk_46 (dk_at dksX5_tell_5 17 rfl rfl)
theorem dX5_tell_137 : decode cX5_tell 137 = .ok (.invokevirtual 254, 3) := dk_182 0 254 (dk_at dksX5_tell_5 18 rfl rfl)
theorem dX5_tell_140 : decode cX5_tell 140 = .ok (.iinc 2 1, 3) := dk_132 2 1 (dk_at dksX5_tell_5 21 rfl rfl)
theorem dX5_tell_143 : decode cX5_tell 143 = .ok (.goto (-26), 3) := dk_167 255 230 (dk_at dksX5_tell_6 0 rfl rfl)
theorem dX5_tell_146 : decode cX5_tell 146 = .ok (.aload_n 0, 1) := dk_42 (dk_at dksX5_tell_6 3 rfl rfl)
theorem dX5_tell_147 : decode cX5_tell 147 = .ok (.dup, 1) := dk_89 (dk_at dksX5_tell_6 4 rfl rfl)
theorem dX5_tell_148 : decode cX5_tell 148 = .ok (.getfield 243, 3) := dk_180 0 243 (dk_at dksX5_tell_6 5 rfl rfl)
theorem dX5_tell_151 : decode cX5_tell 151 = .ok (.iconst 1, 1) := dk_4 (dk_at dksX5_tell_6 8 rfl rfl)
theorem dX5_tell_152 : decode cX5_tell 152 = .ok (.isub, 1) := dk_100 (dk_at dksX5_tell_6 9 rfl rfl)
theorem dX5_tell_153 : decode cX5_tell 153 = .ok (.putfield 243, 3) := dk_181 0 243 (dk_at dksX5_tell_6 10 rfl rfl)
theorem dX5_tell_156 : decode cX5_tell 156 = .ok (.aload_n 0, 1) := dk_42 (dk_at dksX5_tell_6 13 rfl rfl)
theorem dX5_tell_157 : decode cX5_tell 157 = .ok (.getfield 75, 3) := dk_180 0 75 (dk_at dksX5_tell_6 14 rfl rfl)
theorem dX5_tell_160 : decode cX5_tell 160 = .ok (.aload_n 0, 1) := dk_42 (dk_at dksX5_tell_6 17 rfl rfl)
theorem dX5_tell_161 : decode cX5_tell 161 = .ok (.getfield 247, 3) := dk_180 0 247 (dk_at dksX5_tell_6 18 rfl rfl)
theorem dX5_tell_164 : decode cX5_tell 164 = .ok (.aaload, 1) := dk_50 (dk_at dksX5_tell_6 21 rfl rfl)
theorem dX5_tell_165 : decode cX5_tell 165 = .ok (.iload_n 1, 1) := dk_27 (dk_at dksX5_tell_6 22 rfl rfl)
theorem dX5_tell_166 : decode cX5_tell 166 = .ok (.aload_n 0, 1) := dk_42 (dk_at dksX5_tell_6 23 rfl rfl)
theorem dX5_tell_167 : decode cX5_tell 167 = .ok (.getfield 96, 3) := dk_180 0 96 (dk_at dksX5_tell_7 0 rfl rfl)
theorem dX5_tell_170 : decode cX5_tell 170 = .ok (.aload_n 0, 1) := dk_42 (dk_at dksX5_tell_7 3 rfl rfl)
theorem dX5_tell_171 : decode cX5_tell 171 = .ok (.getfield 243, 3) := dk_180 0 243 (dk_at dksX5_tell_7 4 rfl rfl)
theorem dX5_tell_174 : decode cX5_tell 174 = .ok (.iaload, 1) := dk_46 (dk_at dksX5_tell_7 7 rfl rfl)
theorem dX5_tell_175 : decode cX5_tell 175 = .ok (.ifCond .ne 24, 3) := dk_154 0 24 (dk_at dksX5_tell_7 8 rfl rfl)
theorem dX5_tell_178 : decode cX5_tell 178 = .ok (.aload_n 0, 1) := dk_42 (dk_at dksX5_tell_7 11 rfl rfl)
theorem dX5_tell_179 : decode cX5_tell 179 = .ok (.getfield 9, 3) := dk_180 0 9 (dk_at dksX5_tell_7 12 rfl rfl)
theorem dX5_tell_182 : decode cX5_tell 182 = .ok (.iload_n 1, 1) := dk_27 (dk_at dksX5_tell_7 15 rfl rfl)
theorem dX5_tell_183 : decode cX5_tell 183 = .ok (.iaload, 1) := dk_46 (dk_at dksX5_tell_7 16 rfl rfl)
theorem dX5_tell_184 : decode cX5_tell 184 = .ok (.aload_n 0, 1) := dk_42 (dk_at dksX5_tell_7 17 rfl rfl)
theorem dX5_tell_185 : decode cX5_tell 185 = .ok (.getfield 93, 3) := dk_180 0 93 (dk_at dksX5_tell_7 18 rfl rfl)
theorem dX5_tell_188 : decode cX5_tell 188 = .ok (.aload_n 0, 1) := dk_42 (dk_at dksX5_tell_7 21 rfl rfl)
theorem dX5_tell_189 : decode cX5_tell 189 = .ok (.getfield 243, 3) := dk_180 0 243 (dk_at dksX5_tell_8 0 rfl rfl)
theorem dX5_tell_192 : decode cX5_tell 192 = .ok (.daload, 1) := dk_49 (dk_at dksX5_tell_8 3 rfl rfl)
theorem dX5_tell_193 : decode cX5_tell 193 = .ok (.invokestatic 250, 3) := dk_184 0 250 (dk_at dksX5_tell_8 4 rfl rfl)
theorem dX5_tell_196 : decode cX5_tell 196 = .ok (.goto 4, 3) := dk_167 0 4 (dk_at dksX5_tell_8 7 rfl rfl)
theorem dX5_tell_199 : decode cX5_tell 199 = .ok (.dconst 0, 1) := dk_14 (dk_at dksX5_tell_8 10 rfl rfl)
theorem dX5_tell_200 : decode cX5_tell 200 = .ok (.dastore, 1) := dk_82 (dk_at dksX5_tell_8 11 rfl rfl)
theorem dX5_tell_201 : decode cX5_tell 201 = .ok (.aload_n 0, 1) := dk_42 (dk_at dksX5_tell_8 12 rfl rfl)
theorem dX5_tell_202 : decode cX5_tell 202 = .ok (.getfield 78, 3) := dk_180 0 78 (dk_at dksX5_tell_8 13 rfl rfl)
theorem dX5_tell_205 : decode cX5_tell 205 = .ok (.aload_n 0, 1) := dk_42 (dk_at dksX5_tell_8 16 rfl rfl)
theorem dX5_tell_206 : decode cX5_tell 206 = .ok (.getfield 247, 3) := dk_180 0 247 (dk_at dksX5_tell_8 17 rfl rfl)
theorem dX5_tell_209 : decode cX5_tell 209 = .ok (.aaload, 1) := dk_50 (dk_at dksX5_tell_8 20 rfl rfl)
theorem dX5_tell_210 : decode cX5_tell 210 = .ok (.iload_n 1, 1) := dk_27 (dk_at dksX5_tell_8 21 rfl rfl)
theorem dX5_tell_211 : decode cX5_tell 211 = .ok (.aload_n 0, 1) := dk_42 (dk_at dksX5_tell_8 22 rfl rfl)
theorem dX5_tell_212 : decode cX5_tell 212 = .ok (.getfield 96, 3) := dk_180 0 96 (dk_at dksX5_tell_9 0 rfl rfl)
theorem dX5_tell_215 : decode cX5_tell 215 = .ok (.aload_n 0, 1) := dk_42 (dk_at dksX5_tell_9 3 rfl rfl)
theorem dX5_tell_216 : decode cX5_tell 216 = .ok (.getfield 243, 3) := dk_180 0 243 (dk_at dksX5_tell_9 4 rfl rfl)
theorem dX5_tell_219 : decode cX5_tell 219 = .ok (.iaload, 1) := dk_46 (dk_at dksX5_tell_9 7 rfl rfl)
theorem dX5_tell_220 : decode cX5_tell 220 = .ok (.iastore, 1) := dk_79 (dk_at dksX5_tell_9 8 rfl rfl)
theorem dX5_tell_221 : decode cX5_tell 221 = .ok (.aload_n 0, 1) := dk_42 (dk_at dksX5_tell_9 9 rfl rfl)
theorem dX5_tell_222 : decode cX5_tell 222 = .ok (.getfield 81, 3) := dk_180 0 81 (dk_at dksX5_tell_9 10 rfl rfl)
theorem dX5_tell_225 : decode cX5_tell 225 = .ok (.aload_n 0, 1) := dk_42 (dk_at dksX5_tell_9 13 rfl rfl)
theorem dX5_tell_226 : decode cX5_tell 226 = .ok (.getfield 247, 3) := dk_180 0 247 (dk_at dksX5_tell_9 14 rfl rfl)
theorem dX5_tell_229 : decode cX5_tell 229 = .ok (.aaload, 1) := dk_50 (dk_at dksX5_tell_9 17 rfl rfl)
theorem dX5_tell_230 : decode cX5_tell 230 = .ok (.iload_n 1, 1) := dk_27 (dk_at dksX5_tell_9 18 rfl rfl)
theorem dX5_tell_231 : decode cX5_tell 231 = .ok (.aload_n 0, 1) := dk_42 (dk_at dksX5_tell_9 19 rfl rfl)
theorem dX5_tell_232 : decode cX5_tell 232 = .ok (.getfield 99, 3) := dk_180 0 99 (dk_at dksX5_tell_9 20 rfl rfl)
theorem dX5_tell_235 : decode cX5_tell 235 = .ok (.aload_n 0, 1) := dk_42 (dk_at dksX5_tell_9 23 rfl rfl)
theorem dX5_tell_236 : decode cX5_tell 236 = .ok (.getfield 243, 3) := dk_180 0 243 (dk_at dksX5_tell_10 0 rfl rfl)
theorem dX5_tell_239 : decode cX5_tell 239 = .ok (.iaload, 1) := dk_46 (dk_at dksX5_tell_10 3 rfl rfl)
theorem dX5_tell_240 : decode cX5_tell 240 = .ok (.iastore, 1) := dk_79 (dk_at dksX5_tell_10 4 rfl rfl)
theorem dX5_tell_241 : decode cX5_tell 241 = .ok (.aload_n 0, 1) := dk_42 (dk_at dksX5_tell_10 5 rfl rfl)
theorem dX5_tell_242 : decode cX5_tell 242 = .ok (.getfield 72, 3) := dk_180 0 72 (dk_at dksX5_tell_10 6 rfl rfl)
theorem dX5_tell_245 : decode cX5_tell 245 = .ok (.aload_n 0, 1) := dk_42 (dk_at dksX5_tell_10 9 rfl rfl)
theorem dX5_tell_246 : decode cX5_tell 246 = .ok (.getfield 247, 3) := dk_180 0 247 (dk_at dksX5_tell_10 10 rfl rfl)
theorem dX5_tell_249 : decode cX5_tell 249 = .ok (.aaload, 1) := dk_50 (dk_at dksX5_tell_10 13 rfl rfl)
theorem dX5_tell_250 : decode cX5_tell 250 = .ok (.iload_n 1, 1) := dk_27 (dk_at dksX5_tell_10 14 rfl rfl)
theorem dX5_tell_251 : decode cX5_tell 251 = .ok (.iconst 1, 1) := dk_4 (dk_at dksX5_tell_10 15 rfl rfl)
theorem dX5_tell_252 : decode cX5_tell 252 = .ok (.bastore, 1) := dk_84 (dk_at dksX5_tell_10 16 rfl rfl)
theorem dX5_tell_253 : decode cX5_tell 253 = .ok (.return_, 1) := dk_177 (dk_at dksX5_tell_10 17 rfl rfl)
abbrev cX5_act : ByteArray := prog_35_method_24_code
def yX5_act : MethodName := ⟨RX5, "act", "(II)V"⟩
def dkwX5_act_9 : List UInt8 := [17, 0, 210, 160, 0, 10, 42, 182, 1, 13, 167, 0, 13, 42, 27, 28, 17, 0, 200, 100, 182, 1, 16, 177]
abbrev dktX5_act_9 : List UInt8 := dkwX5_act_9 ++ []
def dkwX5_act_8 : List UInt8 := [42, 180, 0, 243, 4, 100, 42, 180, 0, 93, 42, 180, 0, 243, 4, 100, 49, 119, 82, 167, 0, 27, 28]
abbrev dktX5_act_8 : List UInt8 := dkwX5_act_8 ++ dktX5_act_9
def dkwX5_act_7 : List UInt8 := [96, 46, 167, 0, 4, 7, 27, 182, 1, 6, 167, 0, 60, 28, 17, 0, 200, 160, 0, 29, 42, 180, 0, 93]
abbrev dktX5_act_7 : List UInt8 := dkwX5_act_7 ++ dktX5_act_8
def dkwX5_act_6 : List UInt8 := [14, 42, 180, 0, 34, 29, 51, 153, 0, 22, 42, 180, 0, 90, 42, 180, 0, 247, 50, 8, 29, 104, 21, 4]
abbrev dktX5_act_6 : List UInt8 := dkwX5_act_6 ++ dktX5_act_7
def dkwX5_act_5 : List UInt8 := [29, 51, 153, 0, 22, 42, 180, 0, 87, 42, 180, 0, 247, 50, 8, 29, 104, 21, 4, 96, 49, 167, 0, 4]
abbrev dktX5_act_5 : List UInt8 := dkwX5_act_5 ++ dktX5_act_6
def dkwX5_act_4 : List UInt8 := [16, 10, 108, 54, 4, 42, 180, 0, 34, 29, 51, 153, 0, 8, 42, 29, 182, 1, 10, 42, 42, 180, 0, 34]
abbrev dktX5_act_4 : List UInt8 := dkwX5_act_4 ++ dktX5_act_5
def dkwX5_act_3 : List UInt8 := [182, 1, 6, 167, 0, 162, 28, 17, 1, 44, 161, 0, 98, 28, 16, 10, 112, 62, 28, 17, 1, 44, 100]
abbrev dktX5_act_3 : List UInt8 := dkwX5_act_3 ++ dktX5_act_4
def dkwX5_act_2 : List UInt8 := [167, 0, 189, 28, 17, 0, 200, 162, 0, 23, 42, 42, 180, 0, 31, 27, 50, 28, 16, 100, 100, 49, 3, 2]
abbrev dktX5_act_2 : List UInt8 := dkwX5_act_2 ++ dktX5_act_3
def dkwX5_act_1 : List UInt8 := [180, 0, 78, 42, 180, 0, 247, 50, 28, 46, 42, 180, 0, 81, 42, 180, 0, 247, 50, 28, 46, 182, 1, 6]
abbrev dktX5_act_1 : List UInt8 := dkwX5_act_1 ++ dktX5_act_2
def dkwX5_act_0 : List UInt8 := [28, 16, 24, 162, 0, 48, 42, 28, 182, 1, 2, 42, 42, 180, 0, 75, 42, 180, 0, 247, 50, 28, 49, 42]
abbrev dktX5_act_0 : List UInt8 := dkwX5_act_0 ++ dktX5_act_1
theorem dksX5_act_0 : cX5_act.data.toList.drop 0 = dktX5_act_0 := by decide +kernel
theorem dksX5_act_1 : cX5_act.data.toList.drop 24 = dktX5_act_1 := dk_seg dksX5_act_0 24 rfl rfl
theorem dksX5_act_2 : cX5_act.data.toList.drop 48 = dktX5_act_2 := dk_seg dksX5_act_1 24 rfl rfl
theorem dksX5_act_3 : cX5_act.data.toList.drop 72 = dktX5_act_3 := dk_seg dksX5_act_2 24 rfl rfl
theorem dksX5_act_4 : cX5_act.data.toList.drop 95 = dktX5_act_4 := dk_seg dksX5_act_3 23 rfl rfl
theorem dksX5_act_5 : cX5_act.data.toList.drop 119 = dktX5_act_5 := dk_seg dksX5_act_4 24 rfl rfl
theorem dksX5_act_6 : cX5_act.data.toList.drop 143 = dktX5_act_6 := dk_seg dksX5_act_5 24 rfl rfl
theorem dksX5_act_7 : cX5_act.data.toList.drop 167 = dktX5_act_7 := dk_seg dksX5_act_6 24 rfl rfl
theorem dksX5_act_8 : cX5_act.data.toList.drop 191 = dktX5_act_8 := dk_seg dksX5_act_7 24 rfl rfl
theorem dksX5_act_9 : cX5_act.data.toList.drop 214 = dktX5_act_9 := dk_seg dksX5_act_8 23 rfl rfl
theorem dX5_act_0 : decode cX5_act 0 = .ok (.iload_n 2, 1) := dk_28 (dk_at dksX5_act_0 0 rfl rfl)
theorem dX5_act_1 : decode cX5_act 1 = .ok (.bipush 24, 2) := dk_16 24 (dk_at dksX5_act_0 1 rfl rfl)
theorem dX5_act_3 : decode cX5_act 3 = .ok (.if_icmp .ge 48, 3) := dk_162 0 48 (dk_at dksX5_act_0 3 rfl rfl)
theorem dX5_act_6 : decode cX5_act 6 = .ok (.aload_n 0, 1) := dk_42 (dk_at dksX5_act_0 6 rfl rfl)
theorem dX5_act_7 : decode cX5_act 7 = .ok (.iload_n 2, 1) := dk_28 (dk_at dksX5_act_0 7 rfl rfl)
theorem dX5_act_8 : decode cX5_act 8 = .ok (.invokevirtual 258, 3) := dk_182 1 2 (dk_at dksX5_act_0 8 rfl rfl)
theorem dX5_act_11 : decode cX5_act 11 = .ok (.aload_n 0, 1) := dk_42 (dk_at dksX5_act_0 11 rfl rfl)
theorem dX5_act_12 : decode cX5_act 12 = .ok (.aload_n 0, 1) := dk_42 (dk_at dksX5_act_0 12 rfl rfl)
theorem dX5_act_13 : decode cX5_act 13 = .ok (.getfield 75, 3) := dk_180 0 75 (dk_at dksX5_act_0 13 rfl rfl)
theorem dX5_act_16 : decode cX5_act 16 = .ok (.aload_n 0, 1) := dk_42 (dk_at dksX5_act_0 16 rfl rfl)
theorem dX5_act_17 : decode cX5_act 17 = .ok (.getfield 247, 3) := dk_180 0 247 (dk_at dksX5_act_0 17 rfl rfl)
theorem dX5_act_20 : decode cX5_act 20 = .ok (.aaload, 1) := dk_50 (dk_at dksX5_act_0 20 rfl rfl)
theorem dX5_act_21 : decode cX5_act 21 = .ok (.iload_n 2, 1) := dk_28 (dk_at dksX5_act_0 21 rfl rfl)
theorem dX5_act_22 : decode cX5_act 22 = .ok (.daload, 1) := dk_49 (dk_at dksX5_act_0 22 rfl rfl)
theorem dX5_act_23 : decode cX5_act 23 = .ok (.aload_n 0, 1) := dk_42 (dk_at dksX5_act_0 23 rfl rfl)
theorem dX5_act_24 : decode cX5_act 24 = .ok (.getfield 78, 3) := dk_180 0 78 (dk_at dksX5_act_1 0 rfl rfl)
theorem dX5_act_27 : decode cX5_act 27 = .ok (.aload_n 0, 1) := dk_42 (dk_at dksX5_act_1 3 rfl rfl)
theorem dX5_act_28 : decode cX5_act 28 = .ok (.getfield 247, 3) := dk_180 0 247 (dk_at dksX5_act_1 4 rfl rfl)
theorem dX5_act_31 : decode cX5_act 31 = .ok (.aaload, 1) := dk_50 (dk_at dksX5_act_1 7 rfl rfl)
theorem dX5_act_32 : decode cX5_act 32 = .ok (.iload_n 2, 1) := dk_28 (dk_at dksX5_act_1 8 rfl rfl)
theorem dX5_act_33 : decode cX5_act 33 = .ok (.iaload, 1) := dk_46 (dk_at dksX5_act_1 9 rfl rfl)
theorem dX5_act_34 : decode cX5_act 34 = .ok (.aload_n 0, 1) := dk_42 (dk_at dksX5_act_1 10 rfl rfl)
theorem dX5_act_35 : decode cX5_act 35 = .ok (.getfield 81, 3) := dk_180 0 81 (dk_at dksX5_act_1 11 rfl rfl)
theorem dX5_act_38 : decode cX5_act 38 = .ok (.aload_n 0, 1) := dk_42 (dk_at dksX5_act_1 14 rfl rfl)
theorem dX5_act_39 : decode cX5_act 39 = .ok (.getfield 247, 3) := dk_180 0 247 (dk_at dksX5_act_1 15 rfl rfl)
theorem dX5_act_42 : decode cX5_act 42 = .ok (.aaload, 1) := dk_50 (dk_at dksX5_act_1 18 rfl rfl)
theorem dX5_act_43 : decode cX5_act 43 = .ok (.iload_n 2, 1) := dk_28 (dk_at dksX5_act_1 19 rfl rfl)
theorem dX5_act_44 : decode cX5_act 44 = .ok (.iaload, 1) := dk_46 (dk_at dksX5_act_1 20 rfl rfl)
theorem dX5_act_45 : decode cX5_act 45 = .ok (.invokevirtual 262, 3) := dk_182 1 6 (dk_at dksX5_act_1 21 rfl rfl)
theorem dX5_act_48 : decode cX5_act 48 = .ok (.goto 189, 3) := dk_167 0 189 (dk_at dksX5_act_2 0 rfl rfl)
theorem dX5_act_51 : decode cX5_act 51 = .ok (.iload_n 2, 1) := dk_28 (dk_at dksX5_act_2 3 rfl rfl)
theorem dX5_act_52 : decode cX5_act 52 = .ok (.sipush 200, 3) := dk_17 0 200 (dk_at dksX5_act_2 4 rfl rfl)
theorem dX5_act_55 : decode cX5_act 55 = .ok (.if_icmp .ge 23, 3) := dk_162 0 23 (dk_at dksX5_act_2 7 rfl rfl)
theorem dX5_act_58 : decode cX5_act 58 = .ok (.aload_n 0, 1) := dk_42 (dk_at dksX5_act_2 10 rfl rfl)
theorem dX5_act_59 : decode cX5_act 59 = .ok (.aload_n 0, 1) := dk_42 (dk_at dksX5_act_2 11 rfl rfl)
theorem dX5_act_60 : decode cX5_act 60 = .ok (.getfield 31, 3) := dk_180 0 31 (dk_at dksX5_act_2 12 rfl rfl)
theorem dX5_act_63 : decode cX5_act 63 = .ok (.iload_n 1, 1) := dk_27 (dk_at dksX5_act_2 15 rfl rfl)
theorem dX5_act_64 : decode cX5_act 64 = .ok (.aaload, 1) := dk_50 (dk_at dksX5_act_2 16 rfl rfl)
theorem dX5_act_65 : decode cX5_act 65 = .ok (.iload_n 2, 1) := dk_28 (dk_at dksX5_act_2 17 rfl rfl)
theorem dX5_act_66 : decode cX5_act 66 = .ok (.bipush 100, 2) := dk_16 100 (dk_at dksX5_act_2 18 rfl rfl)
theorem dX5_act_68 : decode cX5_act 68 = .ok (.isub, 1) := dk_100 (dk_at dksX5_act_2 20 rfl rfl)
theorem dX5_act_69 : decode cX5_act 69 = .ok (.daload, 1) := dk_49 (dk_at dksX5_act_2 21 rfl rfl)
theorem dX5_act_70 : decode cX5_act 70 = .ok (.iconst 0, 1) := dk_3 (dk_at dksX5_act_2 22 rfl rfl)
theorem dX5_act_71 : decode cX5_act 71 = .ok (.iconst (-1), 1) := dk_2 (dk_at dksX5_act_2 23 rfl rfl)
theorem dX5_act_72 : decode cX5_act 72 = .ok (.invokevirtual 262, 3) := dk_182 1 6 (dk_at dksX5_act_3 0 rfl rfl)
theorem dX5_act_75 : decode cX5_act 75 = .ok (.goto 162, 3) := dk_167 0 162 (dk_at dksX5_act_3 3 rfl rfl)
theorem dX5_act_78 : decode cX5_act 78 = .ok (.iload_n 2, 1) := dk_28 (dk_at dksX5_act_3 6 rfl rfl)
theorem dX5_act_79 : decode cX5_act 79 = .ok (.sipush 300, 3) := dk_17 1 44 (dk_at dksX5_act_3 7 rfl rfl)
theorem dX5_act_82 : decode cX5_act 82 = .ok (.if_icmp .lt 98, 3) := dk_161 0 98 (dk_at dksX5_act_3 10 rfl rfl)
theorem dX5_act_85 : decode cX5_act 85 = .ok (.iload_n 2, 1) := dk_28 (dk_at dksX5_act_3 13 rfl rfl)
theorem dX5_act_86 : decode cX5_act 86 = .ok (.bipush 10, 2) := dk_16 10 (dk_at dksX5_act_3 14 rfl rfl)
theorem dX5_act_88 : decode cX5_act 88 = .ok (.irem, 1) := dk_112 (dk_at dksX5_act_3 16 rfl rfl)
theorem dX5_act_89 : decode cX5_act 89 = .ok (.istore_n 3, 1) := dk_62 (dk_at dksX5_act_3 17 rfl rfl)
theorem dX5_act_90 : decode cX5_act 90 = .ok (.iload_n 2, 1) := dk_28 (dk_at dksX5_act_3 18 rfl rfl)
theorem dX5_act_91 : decode cX5_act 91 = .ok (.sipush 300, 3) := dk_17 1 44 (dk_at dksX5_act_3 19 rfl rfl)
theorem dX5_act_94 : decode cX5_act 94 = .ok (.isub, 1) := dk_100 (dk_at dksX5_act_3 22 rfl rfl)
theorem dX5_act_95 : decode cX5_act 95 = .ok (.bipush 10, 2) := dk_16 10 (dk_at dksX5_act_4 0 rfl rfl)
theorem dX5_act_97 : decode cX5_act 97 = .ok (.idiv, 1) := dk_108 (dk_at dksX5_act_4 2 rfl rfl)
theorem dX5_act_98 : decode cX5_act 98 = .ok (.istore 4, 2) := dk_54 4 (dk_at dksX5_act_4 3 rfl rfl)
theorem dX5_act_100 : decode cX5_act 100 = .ok (.aload_n 0, 1) := dk_42 (dk_at dksX5_act_4 5 rfl rfl)
theorem dX5_act_101 : decode cX5_act 101 = .ok (.getfield 34, 3) := dk_180 0 34 (dk_at dksX5_act_4 6 rfl rfl)
theorem dX5_act_104 : decode cX5_act 104 = .ok (.iload_n 3, 1) := dk_29 (dk_at dksX5_act_4 9 rfl rfl)
theorem dX5_act_105 : decode cX5_act 105 = .ok (.baload, 1) := dk_51 (dk_at dksX5_act_4 10 rfl rfl)
theorem dX5_act_106 : decode cX5_act 106 = .ok (.ifCond .eq 8, 3) := dk_153 0 8 (dk_at dksX5_act_4 11 rfl rfl)
theorem dX5_act_109 : decode cX5_act 109 = .ok (.aload_n 0, 1) := dk_42 (dk_at dksX5_act_4 14 rfl rfl)
theorem dX5_act_110 : decode cX5_act 110 = .ok (.iload_n 3, 1) := dk_29 (dk_at dksX5_act_4 15 rfl rfl)
theorem dX5_act_111 : decode cX5_act 111 = .ok (.invokevirtual 266, 3) := dk_182 1 10 (dk_at dksX5_act_4 16 rfl rfl)
theorem dX5_act_114 : decode cX5_act 114 = .ok (.aload_n 0, 1) := dk_42 (dk_at dksX5_act_4 19 rfl rfl)
theorem dX5_act_115 : decode cX5_act 115 = .ok (.aload_n 0, 1) := dk_42 (dk_at dksX5_act_4 20 rfl rfl)
theorem dX5_act_116 : decode cX5_act 116 = .ok (.getfield 34, 3) := dk_180 0 34 (dk_at dksX5_act_4 21 rfl rfl)
theorem dX5_act_119 : decode cX5_act 119 = .ok (.iload_n 3, 1) := dk_29 (dk_at dksX5_act_5 0 rfl rfl)
theorem dX5_act_120 : decode cX5_act 120 = .ok (.baload, 1) := dk_51 (dk_at dksX5_act_5 1 rfl rfl)
theorem dX5_act_121 : decode cX5_act 121 = .ok (.ifCond .eq 22, 3) := dk_153 0 22 (dk_at dksX5_act_5 2 rfl rfl)
theorem dX5_act_124 : decode cX5_act 124 = .ok (.aload_n 0, 1) := dk_42 (dk_at dksX5_act_5 5 rfl rfl)
theorem dX5_act_125 : decode cX5_act 125 = .ok (.getfield 87, 3) := dk_180 0 87 (dk_at dksX5_act_5 6 rfl rfl)
theorem dX5_act_128 : decode cX5_act 128 = .ok (.aload_n 0, 1) := dk_42 (dk_at dksX5_act_5 9 rfl rfl)
theorem dX5_act_129 : decode cX5_act 129 = .ok (.getfield 247, 3) := dk_180 0 247 (dk_at dksX5_act_5 10 rfl rfl)
theorem dX5_act_132 : decode cX5_act 132 = .ok (.aaload, 1) := dk_50 (dk_at dksX5_act_5 13 rfl rfl)
theorem dX5_act_133 : decode cX5_act 133 = .ok (.iconst 5, 1) := dk_8 (dk_at dksX5_act_5 14 rfl rfl)
theorem dX5_act_134 : decode cX5_act 134 = .ok (.iload_n 3, 1) := dk_29 (dk_at dksX5_act_5 15 rfl rfl)
theorem dX5_act_135 : decode cX5_act 135 = .ok (.imul, 1) := dk_104 (dk_at dksX5_act_5 16 rfl rfl)
theorem dX5_act_136 : decode cX5_act 136 = .ok (.iload 4, 2) := dk_21 4 (dk_at dksX5_act_5 17 rfl rfl)
theorem dX5_act_138 : decode cX5_act 138 = .ok (.iadd, 1) := dk_96 (dk_at dksX5_act_5 19 rfl rfl)
theorem dX5_act_139 : decode cX5_act 139 = .ok (.daload, 1) := dk_49 (dk_at dksX5_act_5 20 rfl rfl)
theorem dX5_act_140 : decode cX5_act 140 = .ok (.goto 4, 3) := dk_167 0 4 (dk_at dksX5_act_5 21 rfl rfl)
theorem dX5_act_143 : decode cX5_act 143 = .ok (.dconst 0, 1) := dk_14 (dk_at dksX5_act_6 0 rfl rfl)
theorem dX5_act_144 : decode cX5_act 144 = .ok (.aload_n 0, 1) := dk_42 (dk_at dksX5_act_6 1 rfl rfl)
theorem dX5_act_145 : decode cX5_act 145 = .ok (.getfield 34, 3) := dk_180 0 34 (dk_at dksX5_act_6 2 rfl rfl)
theorem dX5_act_148 : decode cX5_act 148 = .ok (.iload_n 3, 1) := dk_29 (dk_at dksX5_act_6 5 rfl rfl)
theorem dX5_act_149 : decode cX5_act 149 = .ok (.baload, 1) := dk_51 (dk_at dksX5_act_6 6 rfl rfl)
theorem dX5_act_150 : decode cX5_act 150 = .ok (.ifCond .eq 22, 3) := dk_153 0 22 (dk_at dksX5_act_6 7 rfl rfl)
theorem dX5_act_153 : decode cX5_act 153 = .ok (.aload_n 0, 1) := dk_42 (dk_at dksX5_act_6 10 rfl rfl)
theorem dX5_act_154 : decode cX5_act 154 = .ok (.getfield 90, 3) := dk_180 0 90 (dk_at dksX5_act_6 11 rfl rfl)
theorem dX5_act_157 : decode cX5_act 157 = .ok (.aload_n 0, 1) := dk_42 (dk_at dksX5_act_6 14 rfl rfl)
theorem dX5_act_158 : decode cX5_act 158 = .ok (.getfield 247, 3) := dk_180 0 247 (dk_at dksX5_act_6 15 rfl rfl)
theorem dX5_act_161 : decode cX5_act 161 = .ok (.aaload, 1) := dk_50 (dk_at dksX5_act_6 18 rfl rfl)
theorem dX5_act_162 : decode cX5_act 162 = .ok (.iconst 5, 1) := dk_8 (dk_at dksX5_act_6 19 rfl rfl)
theorem dX5_act_163 : decode cX5_act 163 = .ok (.iload_n 3, 1) := dk_29 (dk_at dksX5_act_6 20 rfl rfl)
theorem dX5_act_164 : decode cX5_act 164 = .ok (.imul, 1) := dk_104 (dk_at dksX5_act_6 21 rfl rfl)
theorem dX5_act_165 : decode cX5_act 165 = .ok (.iload 4, 2) := dk_21 4 (dk_at dksX5_act_6 22 rfl rfl)
theorem dX5_act_167 : decode cX5_act 167 = .ok (.iadd, 1) := dk_96 (dk_at dksX5_act_7 0 rfl rfl)
theorem dX5_act_168 : decode cX5_act 168 = .ok (.iaload, 1) := dk_46 (dk_at dksX5_act_7 1 rfl rfl)
theorem dX5_act_169 : decode cX5_act 169 = .ok (.goto 4, 3) := dk_167 0 4 (dk_at dksX5_act_7 2 rfl rfl)
theorem dX5_act_172 : decode cX5_act 172 = .ok (.iconst 4, 1) := dk_7 (dk_at dksX5_act_7 5 rfl rfl)
theorem dX5_act_173 : decode cX5_act 173 = .ok (.iload_n 1, 1) := dk_27 (dk_at dksX5_act_7 6 rfl rfl)
theorem dX5_act_174 : decode cX5_act 174 = .ok (.invokevirtual 262, 3) := dk_182 1 6 (dk_at dksX5_act_7 7 rfl rfl)
theorem dX5_act_177 : decode cX5_act 177 = .ok (.goto 60, 3) := dk_167 0 60 (dk_at dksX5_act_7 10 rfl rfl)
theorem dX5_act_180 : decode cX5_act 180 = .ok (.iload_n 2, 1) := dk_28 (dk_at dksX5_act_7 13 rfl rfl)
theorem dX5_act_181 : decode cX5_act 181 = .ok (.sipush 200, 3) := dk_17 0 200 (dk_at dksX5_act_7 14 rfl rfl)
theorem dX5_act_184 : decode cX5_act 184 = .ok (.if_icmp .ne 29, 3) := dk_160 0 29 (dk_at dksX5_act_7 17 rfl rfl)
theorem dX5_act_187 : decode cX5_act 187 = .ok (.aload_n 0, 1) := dk_42 (dk_at dksX5_act_7 20 rfl rfl)
theorem dX5_act_188 : decode cX5_act 188 = .ok (.getfield 93, 3) := dk_180 0 93 (dk_at dksX5_act_7 21 rfl rfl)
theorem dX5_act_191 : decode cX5_act 191 = .ok (.aload_n 0, 1) := dk_42 (dk_at dksX5_act_8 0 rfl rfl)
theorem dX5_act_192 : decode cX5_act 192 = .ok (.getfield 243, 3) := dk_180 0 243 (dk_at dksX5_act_8 1 rfl rfl)
theorem dX5_act_195 : decode cX5_act 195 = .ok (.iconst 1, 1) := dk_4 (dk_at dksX5_act_8 4 rfl rfl)
theorem dX5_act_196 : decode cX5_act 196 = .ok (.isub, 1) := dk_100 (dk_at dksX5_act_8 5 rfl rfl)
theorem dX5_act_197 : decode cX5_act 197 = .ok (.aload_n 0, 1) := dk_42 (dk_at dksX5_act_8 6 rfl rfl)
theorem dX5_act_198 : decode cX5_act 198 = .ok (.getfield 93, 3) := dk_180 0 93 (dk_at dksX5_act_8 7 rfl rfl)
theorem dX5_act_201 : decode cX5_act 201 = .ok (.aload_n 0, 1) := dk_42 (dk_at dksX5_act_8 10 rfl rfl)
theorem dX5_act_202 : decode cX5_act 202 = .ok (.getfield 243, 3) := dk_180 0 243 (dk_at dksX5_act_8 11 rfl rfl)
theorem dX5_act_205 : decode cX5_act 205 = .ok (.iconst 1, 1) := dk_4 (dk_at dksX5_act_8 14 rfl rfl)
theorem dX5_act_206 : decode cX5_act 206 = .ok (.isub, 1) := dk_100 (dk_at dksX5_act_8 15 rfl rfl)
theorem dX5_act_207 : decode cX5_act 207 = .ok (.daload, 1) := dk_49 (dk_at dksX5_act_8 16 rfl rfl)
theorem dX5_act_208 : decode cX5_act 208 = .ok (.dneg, 1) := dk_119 (dk_at dksX5_act_8 17 rfl rfl)
theorem dX5_act_209 : decode cX5_act 209 = .ok (.dastore, 1) := dk_82 (dk_at dksX5_act_8 18 rfl rfl)
theorem dX5_act_210 : decode cX5_act 210 = .ok (.goto 27, 3) := dk_167 0 27 (dk_at dksX5_act_8 19 rfl rfl)
theorem dX5_act_213 : decode cX5_act 213 = .ok (.iload_n 2, 1) := dk_28 (dk_at dksX5_act_8 22 rfl rfl)
theorem dX5_act_214 : decode cX5_act 214 = .ok (.sipush 210, 3) := dk_17 0 210 (dk_at dksX5_act_9 0 rfl rfl)
theorem dX5_act_217 : decode cX5_act 217 = .ok (.if_icmp .ne 10, 3) := dk_160 0 10 (dk_at dksX5_act_9 3 rfl rfl)
theorem dX5_act_220 : decode cX5_act 220 = .ok (.aload_n 0, 1) := dk_42 (dk_at dksX5_act_9 6 rfl rfl)
theorem dX5_act_221 : decode cX5_act 221 = .ok (.invokevirtual 269, 3) := dk_182 1 13 (dk_at dksX5_act_9 7 rfl rfl)
theorem dX5_act_224 : decode cX5_act 224 = .ok (.goto 13, 3) := dk_167 0 13 (dk_at dksX5_act_9 10 rfl rfl)
theorem dX5_act_227 : decode cX5_act 227 = .ok (.aload_n 0, 1) := dk_42 (dk_at dksX5_act_9 13 rfl rfl)
theorem dX5_act_228 : decode cX5_act 228 = .ok (.iload_n 1, 1) := dk_27 (dk_at dksX5_act_9 14 rfl rfl)
theorem dX5_act_229 : decode cX5_act 229 = .ok (.iload_n 2, 1) := dk_28 (dk_at dksX5_act_9 15 rfl rfl)
theorem dX5_act_230 : decode cX5_act 230 = .ok (.sipush 200, 3) := dk_17 0 200 (dk_at dksX5_act_9 16 rfl rfl)
theorem dX5_act_233 : decode cX5_act 233 = .ok (.isub, 1) := dk_100 (dk_at dksX5_act_9 19 rfl rfl)
theorem dX5_act_234 : decode cX5_act 234 = .ok (.invokevirtual 272, 3) := dk_182 1 16 (dk_at dksX5_act_9 20 rfl rfl)
theorem dX5_act_237 : decode cX5_act 237 = .ok (.return_, 1) := dk_177 (dk_at dksX5_act_9 23 rfl rfl)
abbrev cX5_push : ByteArray := prog_35_method_21_code
def yX5_push : MethodName := ⟨RX5, "push", "(DII)V"⟩
def dkwX5_push_2 : List UInt8 := [181, 0, 243, 177]
abbrev dktX5_push_2 : List UInt8 := dkwX5_push_2 ++ []
def dkwX5_push_1 : List UInt8 := [42, 180, 0, 243, 29, 154, 0, 7, 2, 167, 0, 5, 21, 4, 79, 42, 89, 180, 0, 243, 4, 96]
abbrev dktX5_push_1 : List UInt8 := dkwX5_push_1 ++ dktX5_push_2
def dkwX5_push_0 : List UInt8 := [42, 180, 0, 93, 42, 180, 0, 243, 39, 82, 42, 180, 0, 96, 42, 180, 0, 243, 29, 79, 42, 180, 0, 99]
abbrev dktX5_push_0 : List UInt8 := dkwX5_push_0 ++ dktX5_push_1
theorem dksX5_push_0 : cX5_push.data.toList.drop 0 = dktX5_push_0 := by decide +kernel
theorem dksX5_push_1 : cX5_push.data.toList.drop 24 = dktX5_push_1 := dk_seg dksX5_push_0 24 rfl rfl
theorem dksX5_push_2 : cX5_push.data.toList.drop 46 = dktX5_push_2 := dk_seg dksX5_push_1 22 rfl rfl
theorem dX5_push_0 : decode cX5_push 0 = .ok (.aload_n 0, 1) := dk_42 (dk_at dksX5_push_0 0 rfl rfl)
theorem dX5_push_1 : decode cX5_push 1 = .ok (.getfield 93, 3) := dk_180 0 93 (dk_at dksX5_push_0 1 rfl rfl)
theorem dX5_push_4 : decode cX5_push 4 = .ok (.aload_n 0, 1) := dk_42 (dk_at dksX5_push_0 4 rfl rfl)
theorem dX5_push_5 : decode cX5_push 5 = .ok (.getfield 243, 3) := dk_180 0 243 (dk_at dksX5_push_0 5 rfl rfl)
theorem dX5_push_8 : decode cX5_push 8 = .ok (.dload_n 1, 1) := dk_39 (dk_at dksX5_push_0 8 rfl rfl)
theorem dX5_push_9 : decode cX5_push 9 = .ok (.dastore, 1) := dk_82 (dk_at dksX5_push_0 9 rfl rfl)
theorem dX5_push_10 : decode cX5_push 10 = .ok (.aload_n 0, 1) := dk_42 (dk_at dksX5_push_0 10 rfl rfl)
theorem dX5_push_11 : decode cX5_push 11 = .ok (.getfield 96, 3) := dk_180 0 96 (dk_at dksX5_push_0 11 rfl rfl)
theorem dX5_push_14 : decode cX5_push 14 = .ok (.aload_n 0, 1) := dk_42 (dk_at dksX5_push_0 14 rfl rfl)
theorem dX5_push_15 : decode cX5_push 15 = .ok (.getfield 243, 3) := dk_180 0 243 (dk_at dksX5_push_0 15 rfl rfl)
theorem dX5_push_18 : decode cX5_push 18 = .ok (.iload_n 3, 1) := dk_29 (dk_at dksX5_push_0 18 rfl rfl)
theorem dX5_push_19 : decode cX5_push 19 = .ok (.iastore, 1) := dk_79 (dk_at dksX5_push_0 19 rfl rfl)
theorem dX5_push_20 : decode cX5_push 20 = .ok (.aload_n 0, 1) := dk_42 (dk_at dksX5_push_0 20 rfl rfl)
theorem dX5_push_21 : decode cX5_push 21 = .ok (.getfield 99, 3) := dk_180 0 99 (dk_at dksX5_push_0 21 rfl rfl)
theorem dX5_push_24 : decode cX5_push 24 = .ok (.aload_n 0, 1) := dk_42 (dk_at dksX5_push_1 0 rfl rfl)
theorem dX5_push_25 : decode cX5_push 25 = .ok (.getfield 243, 3) := dk_180 0 243 (dk_at dksX5_push_1 1 rfl rfl)
theorem dX5_push_28 : decode cX5_push 28 = .ok (.iload_n 3, 1) := dk_29 (dk_at dksX5_push_1 4 rfl rfl)
theorem dX5_push_29 : decode cX5_push 29 = .ok (.ifCond .ne 7, 3) := dk_154 0 7 (dk_at dksX5_push_1 5 rfl rfl)
theorem dX5_push_32 : decode cX5_push 32 = .ok (.iconst (-1), 1) := dk_2 (dk_at dksX5_push_1 8 rfl rfl)
theorem dX5_push_33 : decode cX5_push 33 = .ok (.goto 5, 3) := dk_167 0 5 (dk_at dksX5_push_1 9 rfl rfl)
theorem dX5_push_36 : decode cX5_push 36 = .ok (.iload 4, 2) := dk_21 4 (dk_at dksX5_push_1 12 rfl rfl)
theorem dX5_push_38 : decode cX5_push 38 = .ok (.iastore, 1) := dk_79 (dk_at dksX5_push_1 14 rfl rfl)
theorem dX5_push_39 : decode cX5_push 39 = .ok (.aload_n 0, 1) := dk_42 (dk_at dksX5_push_1 15 rfl rfl)
theorem dX5_push_40 : decode cX5_push 40 = .ok (.dup, 1) := dk_89 (dk_at dksX5_push_1 16 rfl rfl)
theorem dX5_push_41 : decode cX5_push 41 = .ok (.getfield 243, 3) := dk_180 0 243 (dk_at dksX5_push_1 17 rfl rfl)
theorem dX5_push_44 : decode cX5_push 44 = .ok (.iconst 1, 1) := dk_4 (dk_at dksX5_push_1 20 rfl rfl)
theorem dX5_push_45 : decode cX5_push 45 = .ok (.iadd, 1) := dk_96 (dk_at dksX5_push_1 21 rfl rfl)
theorem dX5_push_46 : decode cX5_push 46 = .ok (.putfield 243, 3) := dk_181 0 243 (dk_at dksX5_push_2 0 rfl rfl)
theorem dX5_push_49 : decode cX5_push 49 = .ok (.return_, 1) := dk_177 (dk_at dksX5_push_2 3 rfl rfl)
abbrev cX5_sumUp : ByteArray := prog_35_method_28_code
def yX5_sumUp : MethodName := ⟨RX5, "sumUp", "(I)V"⟩
def dkwX5_sumUp_16 : List UInt8 := [180, 0, 84, 42, 180, 0, 247, 50, 27, 4, 84, 177]
abbrev dktX5_sumUp_16 : List UInt8 := dkwX5_sumUp_16 ++ []
def dkwX5_sumUp_15 : List UInt8 := [3, 79, 25, 12, 8, 27, 104, 7, 96, 21, 10, 135, 82, 25, 13, 8, 27, 104, 7, 96, 3, 79, 42]
abbrev dktX5_sumUp_15 : List UInt8 := dkwX5_sumUp_15 ++ dktX5_sumUp_16
def dkwX5_sumUp_14 : List UInt8 := [8, 27, 104, 6, 96, 24, 7, 82, 25, 13, 8, 27, 104, 6, 96, 21, 9, 154, 0, 7, 7, 167, 0, 4]
abbrev dktX5_sumUp_14 : List UInt8 := dkwX5_sumUp_14 ++ dktX5_sumUp_15
def dkwX5_sumUp_13 : List UInt8 := [96, 24, 5, 82, 25, 13, 8, 27, 104, 5, 96, 21, 9, 154, 0, 7, 7, 167, 0, 4, 3, 79, 25, 12]
abbrev dktX5_sumUp_13 : List UInt8 := dkwX5_sumUp_13 ++ dktX5_sumUp_14
def dkwX5_sumUp_12 : List UInt8 := [154, 0, 7, 7, 167, 0, 13, 21, 4, 153, 0, 7, 6, 167, 0, 4, 3, 79, 25, 12, 8, 27, 104, 5]
abbrev dktX5_sumUp_12 : List UInt8 := dkwX5_sumUp_12 ++ dktX5_sumUp_13
def dkwX5_sumUp_11 : List UInt8 := [21, 9, 154, 0, 7, 14, 167, 0, 8, 40, 21, 9, 135, 111, 82, 25, 13, 8, 27, 104, 4, 96, 21, 9]
abbrev dktX5_sumUp_11 : List UInt8 := dkwX5_sumUp_11 ++ dktX5_sumUp_12
def dkwX5_sumUp_10 : List UInt8 := [25, 13, 8, 27, 104, 21, 4, 153, 0, 7, 6, 167, 0, 4, 3, 79, 25, 12, 8, 27, 104, 4, 96]
abbrev dktX5_sumUp_10 : List UInt8 := dkwX5_sumUp_10 ++ dktX5_sumUp_11
def dkwX5_sumUp_9 : List UInt8 := [180, 0, 247, 50, 58, 12, 42, 180, 0, 90, 42, 180, 0, 247, 50, 58, 13, 25, 12, 8, 27, 104, 40, 82]
abbrev dktX5_sumUp_9 : List UInt8 := dkwX5_sumUp_9 ++ dktX5_sumUp_10
def dkwX5_sumUp_8 : List UInt8 := [24, 7, 57, 7, 132, 9, 1, 132, 13, 1, 167, 255, 136, 132, 12, 1, 167, 255, 114, 42, 180, 0, 87, 42]
abbrev dktX5_sumUp_8 : List UInt8 := dkwX5_sumUp_8 ++ dktX5_sumUp_9
def dkwX5_sumUp_7 : List UInt8 := [57, 5, 21, 9, 153, 0, 13, 42, 180, 1, 26, 24, 7, 151, 158, 0, 10, 42, 180, 1, 26, 167, 0, 5]
abbrev dktX5_sumUp_7 : List UInt8 := dkwX5_sumUp_7 ++ dktX5_sumUp_8
def dkwX5_sumUp_6 : List UInt8 := [21, 9, 153, 0, 13, 42, 180, 1, 26, 24, 5, 152, 156, 0, 10, 42, 180, 1, 26, 167, 0, 5, 24, 5]
abbrev dktX5_sumUp_6 : List UInt8 := dkwX5_sumUp_6 ++ dktX5_sumUp_7
def dkwX5_sumUp_5 : List UInt8 := [20, 1, 19, 151, 157, 0, 11, 40, 20, 1, 21, 152, 156, 0, 7, 4, 167, 0, 4, 3, 128, 54, 4]
abbrev dktX5_sumUp_5 : List UInt8 := dkwX5_sumUp_5 ++ dktX5_sumUp_6
def dkwX5_sumUp_4 : List UInt8 := [180, 1, 30, 153, 0, 9, 132, 10, 1, 167, 0, 91, 40, 42, 180, 1, 26, 99, 73, 21, 4, 40]
abbrev dktX5_sumUp_4 : List UInt8 := dkwX5_sumUp_4 ++ dktX5_sumUp_5
def dkwX5_sumUp_3 : List UInt8 := [162, 0, 135, 3, 54, 13, 21, 13, 21, 11, 162, 0, 119, 42, 27, 21, 12, 21, 13, 182, 1, 36, 42]
abbrev dktX5_sumUp_3 : List UInt8 := dkwX5_sumUp_3 ++ dktX5_sumUp_4
def dkwX5_sumUp_2 : List UInt8 := [180, 0, 46, 5, 27, 104, 4, 96, 46, 54, 11, 3, 54, 12, 21, 12, 42, 180, 0, 46, 5, 27, 104, 46]
abbrev dktX5_sumUp_2 : List UInt8 := dkwX5_sumUp_2 ++ dktX5_sumUp_3
def dkwX5_sumUp_1 : List UInt8 := [57, 7, 3, 54, 9, 3, 54, 10, 42, 180, 0, 43, 27, 46, 2, 160, 0, 7, 4, 167, 0, 13, 42]
abbrev dktX5_sumUp_1 : List UInt8 := dkwX5_sumUp_1 ++ dktX5_sumUp_2
def dkwX5_sumUp_0 : List UInt8 := [42, 180, 0, 84, 42, 180, 0, 247, 50, 27, 51, 153, 0, 4, 177, 14, 73, 3, 54, 4, 14, 57, 5, 14]
abbrev dktX5_sumUp_0 : List UInt8 := dkwX5_sumUp_0 ++ dktX5_sumUp_1
theorem dksX5_sumUp_0 : cX5_sumUp.data.toList.drop 0 = dktX5_sumUp_0 := by decide +kernel
theorem dksX5_sumUp_1 : cX5_sumUp.data.toList.drop 24 = dktX5_sumUp_1 := dk_seg dksX5_sumUp_0 24 rfl rfl
theorem dksX5_sumUp_2 : cX5_sumUp.data.toList.drop 47 = dktX5_sumUp_2 := dk_seg dksX5_sumUp_1 23 rfl rfl
theorem dksX5_sumUp_3 : cX5_sumUp.data.toList.drop 71 = dktX5_sumUp_3 := dk_seg dksX5_sumUp_2 24 rfl rfl
theorem dksX5_sumUp_4 : cX5_sumUp.data.toList.drop 94 = dktX5_sumUp_4 := dk_seg dksX5_sumUp_3 23 rfl rfl
theorem dksX5_sumUp_5 : cX5_sumUp.data.toList.drop 116 = dktX5_sumUp_5 := dk_seg dksX5_sumUp_4 22 rfl rfl
theorem dksX5_sumUp_6 : cX5_sumUp.data.toList.drop 139 = dktX5_sumUp_6 := dk_seg dksX5_sumUp_5 23 rfl rfl
theorem dksX5_sumUp_7 : cX5_sumUp.data.toList.drop 163 = dktX5_sumUp_7 := dk_seg dksX5_sumUp_6 24 rfl rfl
theorem dksX5_sumUp_8 : cX5_sumUp.data.toList.drop 187 = dktX5_sumUp_8 := dk_seg dksX5_sumUp_7 24 rfl rfl
theorem dksX5_sumUp_9 : cX5_sumUp.data.toList.drop 211 = dktX5_sumUp_9 := dk_seg dksX5_sumUp_8 24 rfl rfl
theorem dksX5_sumUp_10 : cX5_sumUp.data.toList.drop 235 = dktX5_sumUp_10 := dk_seg dksX5_sumUp_9 24 rfl rfl
theorem dksX5_sumUp_11 : cX5_sumUp.data.toList.drop 258 = dktX5_sumUp_11 := dk_seg dksX5_sumUp_10 23 rfl rfl
theorem dksX5_sumUp_12 : cX5_sumUp.data.toList.drop 282 = dktX5_sumUp_12 := dk_seg dksX5_sumUp_11 24 rfl rfl
theorem dksX5_sumUp_13 : cX5_sumUp.data.toList.drop 306 = dktX5_sumUp_13 := dk_seg dksX5_sumUp_12 24 rfl rfl
theorem dksX5_sumUp_14 : cX5_sumUp.data.toList.drop 330 = dktX5_sumUp_14 := dk_seg dksX5_sumUp_13 24 rfl rfl
theorem dksX5_sumUp_15 : cX5_sumUp.data.toList.drop 354 = dktX5_sumUp_15 := dk_seg dksX5_sumUp_14 24 rfl rfl
theorem dksX5_sumUp_16 : cX5_sumUp.data.toList.drop 377 = dktX5_sumUp_16 := dk_seg dksX5_sumUp_15 23 rfl rfl
theorem dX5_sumUp_0 : decode cX5_sumUp 0 = .ok (.aload_n 0, 1) := dk_42 (dk_at dksX5_sumUp_0 0 rfl rfl)
theorem dX5_sumUp_1 : decode cX5_sumUp 1 = .ok (.getfield 84, 3) := dk_180 0 84 (dk_at dksX5_sumUp_0 1 rfl rfl)
theorem dX5_sumUp_4 : decode cX5_sumUp 4 = .ok (.aload_n 0, 1) := dk_42 (dk_at dksX5_sumUp_0 4 rfl rfl)
theorem dX5_sumUp_5 : decode cX5_sumUp 5 = .ok (.getfield 247, 3) := dk_180 0 247 (dk_at dksX5_sumUp_0 5 rfl rfl)
theorem dX5_sumUp_8 : decode cX5_sumUp 8 = .ok (.aaload, 1) := dk_50 (dk_at dksX5_sumUp_0 8 rfl rfl)
theorem dX5_sumUp_9 : decode cX5_sumUp 9 = .ok (.iload_n 1, 1) := dk_27 (dk_at dksX5_sumUp_0 9 rfl rfl)
theorem dX5_sumUp_10 : decode cX5_sumUp 10 = .ok (.baload, 1) := dk_51 (dk_at dksX5_sumUp_0 10 rfl rfl)
theorem dX5_sumUp_11 : decode cX5_sumUp 11 = .ok (.ifCond .eq 4, 3) := dk_153 0 4 (dk_at dksX5_sumUp_0 11 rfl rfl)
theorem dX5_sumUp_14 : decode cX5_sumUp 14 = .ok (.return_, 1) := dk_177 (dk_at dksX5_sumUp_0 14 rfl rfl)
theorem dX5_sumUp_15 : decode cX5_sumUp 15 = .ok (.dconst 0, 1) := dk_14 (dk_at dksX5_sumUp_0 15 rfl rfl)
theorem dX5_sumUp_16 : decode cX5_sumUp 16 = .ok (.dstore_n 2, 1) := dk_73 (dk_at dksX5_sumUp_0 16 rfl rfl)
theorem dX5_sumUp_17 : decode cX5_sumUp 17 = .ok (.iconst 0, 1) := dk_3 (dk_at dksX5_sumUp_0 17 rfl rfl)
theorem dX5_sumUp_18 : decode cX5_sumUp 18 = .ok (.istore 4, 2) := dk_54 4 (dk_at dksX5_sumUp_0 18 rfl rfl)
theorem dX5_sumUp_20 : decode cX5_sumUp 20 = .ok (.dconst 0, 1) := dk_14 (dk_at dksX5_sumUp_0 20 rfl rfl)
theorem dX5_sumUp_21 : decode cX5_sumUp 21 = .ok (.dstore 5, 2) := dk_57 5 (dk_at dksX5_sumUp_0 21 rfl rfl)
theorem dX5_sumUp_23 : decode cX5_sumUp 23 = .ok (.dconst 0, 1) := dk_14 (dk_at dksX5_sumUp_0 23 rfl rfl)
theorem dX5_sumUp_24 : decode cX5_sumUp 24 = .ok (.dstore 7, 2) := dk_57 7 (dk_at dksX5_sumUp_1 0 rfl rfl)
theorem dX5_sumUp_26 : decode cX5_sumUp 26 = .ok (.iconst 0, 1) := dk_3 (dk_at dksX5_sumUp_1 2 rfl rfl)
theorem dX5_sumUp_27 : decode cX5_sumUp 27 = .ok (.istore 9, 2) := dk_54 9 (dk_at dksX5_sumUp_1 3 rfl rfl)
theorem dX5_sumUp_29 : decode cX5_sumUp 29 = .ok (.iconst 0, 1) := dk_3 (dk_at dksX5_sumUp_1 5 rfl rfl)
theorem dX5_sumUp_30 : decode cX5_sumUp 30 = .ok (.istore 10, 2) := dk_54 10 (dk_at dksX5_sumUp_1 6 rfl rfl)
theorem dX5_sumUp_32 : decode cX5_sumUp 32 = .ok (.aload_n 0, 1) := dk_42 (dk_at dksX5_sumUp_1 8 rfl rfl)
theorem dX5_sumUp_33 : decode cX5_sumUp 33 = .ok (.getfield 43, 3) := dk_180 0 43 (dk_at dksX5_sumUp_1 9 rfl rfl)
theorem dX5_sumUp_36 : decode cX5_sumUp 36 = .ok (.iload_n 1, 1) := dk_27 (dk_at dksX5_sumUp_1 12 rfl rfl)
theorem dX5_sumUp_37 : decode cX5_sumUp 37 = .ok (.iaload, 1) := dk_46 (dk_at dksX5_sumUp_1 13 rfl rfl)
theorem dX5_sumUp_38 : decode cX5_sumUp 38 = .ok (.iconst (-1), 1) := dk_2 (dk_at dksX5_sumUp_1 14 rfl rfl)
theorem dX5_sumUp_39 : decode cX5_sumUp 39 = .ok (.if_icmp .ne 7, 3) := dk_160 0 7 (dk_at dksX5_sumUp_1 15 rfl rfl)
theorem dX5_sumUp_42 : decode cX5_sumUp 42 = .ok (.iconst 1, 1) := dk_4 (dk_at dksX5_sumUp_1 18 rfl rfl)
theorem dX5_sumUp_43 : decode cX5_sumUp 43 = .ok (.goto 13, 3) := dk_167 0 13 (dk_at dksX5_sumUp_1 19 rfl rfl)
theorem dX5_sumUp_46 : decode cX5_sumUp 46 = .ok (.aload_n 0, 1) := dk_42 (dk_at dksX5_sumUp_1 22 rfl rfl)
theorem dX5_sumUp_47 : decode cX5_sumUp 47 = .ok (.getfield 46, 3) := dk_180 0 46 (dk_at dksX5_sumUp_2 0 rfl rfl)
theorem dX5_sumUp_50 : decode cX5_sumUp 50 = .ok (.iconst 2, 1) := dk_5 (dk_at dksX5_sumUp_2 3 rfl rfl)
theorem dX5_sumUp_51 : decode cX5_sumUp 51 = .ok (.iload_n 1, 1) := dk_27 (dk_at dksX5_sumUp_2 4 rfl rfl)
theorem dX5_sumUp_52 : decode cX5_sumUp 52 = .ok (.imul, 1) := dk_104 (dk_at dksX5_sumUp_2 5 rfl rfl)
theorem dX5_sumUp_53 : decode cX5_sumUp 53 = .ok (.iconst 1, 1) := dk_4 (dk_at dksX5_sumUp_2 6 rfl rfl)
theorem dX5_sumUp_54 : decode cX5_sumUp 54 = .ok (.iadd, 1) := dk_96 (dk_at dksX5_sumUp_2 7 rfl rfl)
theorem dX5_sumUp_55 : decode cX5_sumUp 55 = .ok (.iaload, 1) := dk_46 (dk_at dksX5_sumUp_2 8 rfl rfl)
theorem dX5_sumUp_56 : decode cX5_sumUp 56 = .ok (.istore 11, 2) := dk_54 11 (dk_at dksX5_sumUp_2 9 rfl rfl)
theorem dX5_sumUp_58 : decode cX5_sumUp 58 = .ok (.iconst 0, 1) := dk_3 (dk_at dksX5_sumUp_2 11 rfl rfl)
theorem dX5_sumUp_59 : decode cX5_sumUp 59 = .ok (.istore 12, 2) := dk_54 12 (dk_at dksX5_sumUp_2 12 rfl rfl)
theorem dX5_sumUp_61 : decode cX5_sumUp 61 = .ok (.iload 12, 2) := dk_21 12 (dk_at dksX5_sumUp_2 14 rfl rfl)
theorem dX5_sumUp_63 : decode cX5_sumUp 63 = .ok (.aload_n 0, 1) := dk_42 (dk_at dksX5_sumUp_2 16 rfl rfl)
theorem dX5_sumUp_64 : decode cX5_sumUp 64 = .ok (.getfield 46, 3) := dk_180 0 46 (dk_at dksX5_sumUp_2 17 rfl rfl)
theorem dX5_sumUp_67 : decode cX5_sumUp 67 = .ok (.iconst 2, 1) := dk_5 (dk_at dksX5_sumUp_2 20 rfl rfl)
theorem dX5_sumUp_68 : decode cX5_sumUp 68 = .ok (.iload_n 1, 1) := dk_27 (dk_at dksX5_sumUp_2 21 rfl rfl)
theorem dX5_sumUp_69 : decode cX5_sumUp 69 = .ok (.imul, 1) := dk_104 (dk_at dksX5_sumUp_2 22 rfl rfl)
theorem dX5_sumUp_70 : decode cX5_sumUp 70 = .ok (.iaload, 1) := dk_46 (dk_at dksX5_sumUp_2 23 rfl rfl)
theorem dX5_sumUp_71 : decode cX5_sumUp 71 = .ok (.if_icmp .ge 135, 3) := dk_162 0 135 (dk_at dksX5_sumUp_3 0 rfl rfl)
theorem dX5_sumUp_74 : decode cX5_sumUp 74 = .ok (.iconst 0, 1) := dk_3 (dk_at dksX5_sumUp_3 3 rfl rfl)
theorem dX5_sumUp_75 : decode cX5_sumUp 75 = .ok (.istore 13, 2) := dk_54 13 (dk_at dksX5_sumUp_3 4 rfl rfl)
theorem dX5_sumUp_77 : decode cX5_sumUp 77 = .ok (.iload 13, 2) := dk_21 13 (dk_at dksX5_sumUp_3 6 rfl rfl)
theorem dX5_sumUp_79 : decode cX5_sumUp 79 = .ok (.iload 11, 2) := dk_21 11 (dk_at dksX5_sumUp_3 8 rfl rfl)
theorem dX5_sumUp_81 : decode cX5_sumUp 81 = .ok (.if_icmp .ge 119, 3) := dk_162 0 119 (dk_at dksX5_sumUp_3 10 rfl rfl)
theorem dX5_sumUp_84 : decode cX5_sumUp 84 = .ok (.aload_n 0, 1) := dk_42 (dk_at dksX5_sumUp_3 13 rfl rfl)
theorem dX5_sumUp_85 : decode cX5_sumUp 85 = .ok (.iload_n 1, 1) := dk_27 (dk_at dksX5_sumUp_3 14 rfl rfl)
theorem dX5_sumUp_86 : decode cX5_sumUp 86 = .ok (.iload 12, 2) := dk_21 12 (dk_at dksX5_sumUp_3 15 rfl rfl)
theorem dX5_sumUp_88 : decode cX5_sumUp 88 = .ok (.iload 13, 2) := dk_21 13 (dk_at dksX5_sumUp_3 17 rfl rfl)
theorem dX5_sumUp_90 : decode cX5_sumUp 90 = .ok (.invokevirtual 292, 3) := dk_182 1 36 (dk_at dksX5_sumUp_3 19 rfl rfl)
theorem dX5_sumUp_93 : decode cX5_sumUp 93 = .ok (.aload_n 0, 1) := dk_42 (dk_at dksX5_sumUp_3 22 rfl rfl)
theorem dX5_sumUp_94 : decode cX5_sumUp 94 = .ok (.getfield 286, 3) := dk_180 1 30 (dk_at dksX5_sumUp_4 0 rfl rfl)
theorem dX5_sumUp_97 : decode cX5_sumUp 97 = .ok (.ifCond .eq 9, 3) := dk_153 0 9 (dk_at dksX5_sumUp_4 3 rfl rfl)
theorem dX5_sumUp_100 : decode cX5_sumUp 100 = .ok (.iinc 10 1, 3) := dk_132 10 1 (dk_at dksX5_sumUp_4 6 rfl rfl)
theorem dX5_sumUp_103 : decode cX5_sumUp 103 = .ok (.goto 91, 3) := dk_167 0 91 (dk_at dksX5_sumUp_4 9 rfl rfl)
theorem dX5_sumUp_106 : decode cX5_sumUp 106 = .ok (.dload_n 2, 1) := dk_40 (dk_at dksX5_sumUp_4 12 rfl rfl)
theorem dX5_sumUp_107 : decode cX5_sumUp 107 = .ok (.aload_n 0, 1) := dk_42 (dk_at dksX5_sumUp_4 13 rfl rfl)
theorem dX5_sumUp_108 : decode cX5_sumUp 108 = .ok (.getfield 282, 3) := dk_180 1 26 (dk_at dksX5_sumUp_4 14 rfl rfl)
theorem dX5_sumUp_111 : decode cX5_sumUp 111 = .ok (.dadd, 1) := dk_99 (dk_at dksX5_sumUp_4 17 rfl rfl)
theorem dX5_sumUp_112 : decode cX5_sumUp 112 = .ok (.dstore_n 2, 1) := dk_73 (dk_at dksX5_sumUp_4 18 rfl rfl)
theorem dX5_sumUp_113 : decode cX5_sumUp 113 = .ok (.iload 4, 2) := dk_21 4 (dk_at dksX5_sumUp_4 19 rfl rfl)
theorem dX5_sumUp_115 : decode cX5_sumUp 115 = .ok (.dload_n 2, 1) := dk_40 (dk_at dksX5_sumUp_4 21 rfl rfl)
theorem dX5_sumUp_116 : decode cX5_sumUp 116 = .ok (.ldc2_w 275, 3) := dk_20 1 19 (dk_at dksX5_sumUp_5 0 rfl rfl)
theorem dX5_sumUp_119 : decode cX5_sumUp 119 = .ok (.dcmp .l, 1) := dk_151 (dk_at dksX5_sumUp_5 3 rfl rfl)
theorem dX5_sumUp_120 : decode cX5_sumUp 120 = .ok (.ifCond .gt 11, 3) := dk_157 0 11 (dk_at dksX5_sumUp_5 4 rfl rfl)
theorem dX5_sumUp_123 : decode cX5_sumUp 123 = .ok (.dload_n 2, 1) := dk_40 (dk_at dksX5_sumUp_5 7 rfl rfl)
theorem dX5_sumUp_124 : decode cX5_sumUp 124 = .ok (.ldc2_w 277, 3) := dk_20 1 21 (dk_at dksX5_sumUp_5 8 rfl rfl)
theorem dX5_sumUp_127 : decode cX5_sumUp 127 = .ok (.dcmp .g, 1) := dk_152 (dk_at dksX5_sumUp_5 11 rfl rfl)
theorem dX5_sumUp_128 : decode cX5_sumUp 128 = .ok (.ifCond .ge 7, 3) := dk_156 0 7 (dk_at dksX5_sumUp_5 12 rfl rfl)
theorem dX5_sumUp_131 : decode cX5_sumUp 131 = .ok (.iconst 1, 1) := dk_4 (dk_at dksX5_sumUp_5 15 rfl rfl)
theorem dX5_sumUp_132 : decode cX5_sumUp 132 = .ok (.goto 4, 3) := dk_167 0 4 (dk_at dksX5_sumUp_5 16 rfl rfl)
theorem dX5_sumUp_135 : decode cX5_sumUp 135 = .ok (.iconst 0, 1) := dk_3 (dk_at dksX5_sumUp_5 19 rfl rfl)
theorem dX5_sumUp_136 : decode cX5_sumUp 136 = .ok (.ior, 1) := dk_128 (dk_at dksX5_sumUp_5 20 rfl rfl)
theorem dX5_sumUp_137 : decode cX5_sumUp 137 = .ok (.istore 4, 2) := dk_54 4 (dk_at dksX5_sumUp_5 21 rfl rfl)
theorem dX5_sumUp_139 : decode cX5_sumUp 139 = .ok (.iload 9, 2) := dk_21 9 (dk_at dksX5_sumUp_6 0 rfl rfl)
theorem dX5_sumUp_141 : decode cX5_sumUp 141 = .ok (.ifCond .eq 13, 3) := dk_153 0 13 (dk_at dksX5_sumUp_6 2 rfl rfl)
theorem dX5_sumUp_144 : decode cX5_sumUp 144 = .ok (.aload_n 0, 1) := dk_42 (dk_at dksX5_sumUp_6 5 rfl rfl)
theorem dX5_sumUp_145 : decode cX5_sumUp 145 = .ok (.getfield 282, 3) := dk_180 1 26 (dk_at dksX5_sumUp_6 6 rfl rfl)
theorem dX5_sumUp_148 : decode cX5_sumUp 148 = .ok (.dload 5, 2) := dk_24 5 (dk_at dksX5_sumUp_6 9 rfl rfl)
theorem dX5_sumUp_150 : decode cX5_sumUp 150 = .ok (.dcmp .g, 1) := dk_152 (dk_at dksX5_sumUp_6 11 rfl rfl)
theorem dX5_sumUp_151 : decode cX5_sumUp 151 = .ok (.ifCond .ge 10, 3) := dk_156 0 10 (dk_at dksX5_sumUp_6 12 rfl rfl)
theorem dX5_sumUp_154 : decode cX5_sumUp 154 = .ok (.aload_n 0, 1) := dk_42 (dk_at dksX5_sumUp_6 15 rfl rfl)
theorem dX5_sumUp_155 : decode cX5_sumUp 155 = .ok (.getfield 282, 3) := dk_180 1 26 (dk_at dksX5_sumUp_6 16 rfl rfl)
theorem dX5_sumUp_158 : decode cX5_sumUp 158 = .ok (.goto 5, 3) := dk_167 0 5 (dk_at dksX5_sumUp_6 19 rfl rfl)
theorem dX5_sumUp_161 : decode cX5_sumUp 161 = .ok (.dload 5, 2) := dk_24 5 (dk_at dksX5_sumUp_6 22 rfl rfl)
theorem dX5_sumUp_163 : decode cX5_sumUp 163 = .ok (.dstore 5, 2) := dk_57 5 (dk_at dksX5_sumUp_7 0 rfl rfl)
theorem dX5_sumUp_165 : decode cX5_sumUp 165 = .ok (.iload 9, 2) := dk_21 9 (dk_at dksX5_sumUp_7 2 rfl rfl)
theorem dX5_sumUp_167 : decode cX5_sumUp 167 = .ok (.ifCond .eq 13, 3) := dk_153 0 13 (dk_at dksX5_sumUp_7 4 rfl rfl)
theorem dX5_sumUp_170 : decode cX5_sumUp 170 = .ok (.aload_n 0, 1) := dk_42 (dk_at dksX5_sumUp_7 7 rfl rfl)
theorem dX5_sumUp_171 : decode cX5_sumUp 171 = .ok (.getfield 282, 3) := dk_180 1 26 (dk_at dksX5_sumUp_7 8 rfl rfl)
theorem dX5_sumUp_174 : decode cX5_sumUp 174 = .ok (.dload 7, 2) := dk_24 7 (dk_at dksX5_sumUp_7 11 rfl rfl)
theorem dX5_sumUp_176 : decode cX5_sumUp 176 = .ok (.dcmp .l, 1) := dk_151 (dk_at dksX5_sumUp_7 13 rfl rfl)
theorem dX5_sumUp_177 : decode cX5_sumUp 177 = .ok (.ifCond .le 10, 3) := dk_158 0 10 (dk_at dksX5_sumUp_7 14 rfl rfl)
theorem dX5_sumUp_180 : decode cX5_sumUp 180 = .ok (.aload_n 0, 1) := dk_42 (dk_at dksX5_sumUp_7 17 rfl rfl)
theorem dX5_sumUp_181 : decode cX5_sumUp 181 = .ok (.getfield 282, 3) := dk_180 1 26 (dk_at dksX5_sumUp_7 18 rfl rfl)
theorem dX5_sumUp_184 : decode cX5_sumUp 184 = .ok (.goto 5, 3) := dk_167 0 5 (dk_at dksX5_sumUp_7 21 rfl rfl)
theorem dX5_sumUp_187 : decode cX5_sumUp 187 = .ok (.dload 7, 2) := dk_24 7 (dk_at dksX5_sumUp_8 0 rfl rfl)
theorem dX5_sumUp_189 : decode cX5_sumUp 189 = .ok (.dstore 7, 2) := dk_57 7 (dk_at dksX5_sumUp_8 2 rfl rfl)
theorem dX5_sumUp_191 : decode cX5_sumUp 191 = .ok (.iinc 9 1, 3) := dk_132 9 1 (dk_at dksX5_sumUp_8 4 rfl rfl)
theorem dX5_sumUp_194 : decode cX5_sumUp 194 = .ok (.iinc 13 1, 3) := dk_132 13 1 (dk_at dksX5_sumUp_8 7 rfl rfl)
theorem dX5_sumUp_197 : decode cX5_sumUp 197 = .ok (.goto (-120), 3) := dk_167 255 136 (dk_at dksX5_sumUp_8 10 rfl rfl)
theorem dX5_sumUp_200 : decode cX5_sumUp 200 = .ok (.iinc 12 1, 3) := dk_132 12 1 (dk_at dksX5_sumUp_8 13 rfl rfl)
theorem dX5_sumUp_203 : decode cX5_sumUp 203 = .ok (.goto (-142), 3) := dk_167 255 114 (dk_at dksX5_sumUp_8 16 rfl rfl)
theorem dX5_sumUp_206 : decode cX5_sumUp 206 = .ok (.aload_n 0, 1) := dk_42 (dk_at dksX5_sumUp_8 19 rfl rfl)
theorem dX5_sumUp_207 : decode cX5_sumUp 207 = .ok (.getfield 87, 3) := dk_180 0 87 (dk_at dksX5_sumUp_8 20 rfl rfl)
theorem dX5_sumUp_210 : decode cX5_sumUp 210 = .ok (.aload_n 0, 1) := dk_42 (dk_at dksX5_sumUp_8 23 rfl rfl)
theorem dX5_sumUp_211 : decode cX5_sumUp 211 = .ok (.getfield 247, 3) := dk_180 0 247 (dk_at dksX5_sumUp_9 0 rfl rfl)
theorem dX5_sumUp_214 : decode cX5_sumUp 214 = .ok (.aaload, 1) := dk_50 (dk_at dksX5_sumUp_9 3 rfl rfl)
theorem dX5_sumUp_215 : decode cX5_sumUp 215 = .ok (.astore 12, 2) := dk_58 12 (dk_at dksX5_sumUp_9 4 rfl rfl)
theorem dX5_sumUp_217 : decode cX5_sumUp 217 = .ok (.aload_n 0, 1) := dk_42 (dk_at dksX5_sumUp_9 6 rfl rfl)
theorem dX5_sumUp_218 : decode cX5_sumUp 218 = .ok (.getfield 90, 3) := dk_180 0 90 (dk_at dksX5_sumUp_9 7 rfl rfl)
theorem dX5_sumUp_221 : decode cX5_sumUp 221 = .ok (.aload_n 0, 1) := dk_42 (dk_at dksX5_sumUp_9 10 rfl rfl)
theorem dX5_sumUp_222 : decode cX5_sumUp 222 = .ok (.getfield 247, 3) := dk_180 0 247 (dk_at dksX5_sumUp_9 11 rfl rfl)
theorem dX5_sumUp_225 : decode cX5_sumUp 225 = .ok (.aaload, 1) := dk_50 (dk_at dksX5_sumUp_9 14 rfl rfl)
theorem dX5_sumUp_226 : decode cX5_sumUp 226 = .ok (.astore 13, 2) := dk_58 13 (dk_at dksX5_sumUp_9 15 rfl rfl)
theorem dX5_sumUp_228 : decode cX5_sumUp 228 = .ok (.aload 12, 2) := dk_25 12 (dk_at dksX5_sumUp_9 17 rfl rfl)
theorem dX5_sumUp_230 : decode cX5_sumUp 230 = .ok (.iconst 5, 1) := dk_8 (dk_at dksX5_sumUp_9 19 rfl rfl)
theorem dX5_sumUp_231 : decode cX5_sumUp 231 = .ok (.iload_n 1, 1) := dk_27 (dk_at dksX5_sumUp_9 20 rfl rfl)
theorem dX5_sumUp_232 : decode cX5_sumUp 232 = .ok (.imul, 1) := dk_104 (dk_at dksX5_sumUp_9 21 rfl rfl)
theorem dX5_sumUp_233 : decode cX5_sumUp 233 = .ok (.dload_n 2, 1) := dk_40 (dk_at dksX5_sumUp_9 22 rfl rfl)
theorem dX5_sumUp_234 : decode cX5_sumUp 234 = .ok (.dastore, 1) := dk_82 (dk_at dksX5_sumUp_9 23 rfl rfl)
theorem dX5_sumUp_235 : decode cX5_sumUp 235 = .ok (.aload 13, 2) := dk_25 13 (dk_at dksX5_sumUp_10 0 rfl rfl)
theorem dX5_sumUp_237 : decode cX5_sumUp 237 = .ok (.iconst 5, 1) := dk_8 (dk_at dksX5_sumUp_10 2 rfl rfl)
theorem dX5_sumUp_238 : decode cX5_sumUp 238 = .ok (.iload_n 1, 1) := dk_27 (dk_at dksX5_sumUp_10 3 rfl rfl)
theorem dX5_sumUp_239 : decode cX5_sumUp 239 = .ok (.imul, 1) := dk_104 (dk_at dksX5_sumUp_10 4 rfl rfl)
theorem dX5_sumUp_240 : decode cX5_sumUp 240 = .ok (.iload 4, 2) := dk_21 4 (dk_at dksX5_sumUp_10 5 rfl rfl)
theorem dX5_sumUp_242 : decode cX5_sumUp 242 = .ok (.ifCond .eq 7, 3) := dk_153 0 7 (dk_at dksX5_sumUp_10 7 rfl rfl)
theorem dX5_sumUp_245 : decode cX5_sumUp 245 = .ok (.iconst 3, 1) := dk_6 (dk_at dksX5_sumUp_10 10 rfl rfl)
theorem dX5_sumUp_246 : decode cX5_sumUp 246 = .ok (.goto 4, 3) := dk_167 0 4 (dk_at dksX5_sumUp_10 11 rfl rfl)
theorem dX5_sumUp_249 : decode cX5_sumUp 249 = .ok (.iconst 0, 1) := dk_3 (dk_at dksX5_sumUp_10 14 rfl rfl)
theorem dX5_sumUp_250 : decode cX5_sumUp 250 = .ok (.iastore, 1) := dk_79 (dk_at dksX5_sumUp_10 15 rfl rfl)
theorem dX5_sumUp_251 : decode cX5_sumUp 251 = .ok (.aload 12, 2) := dk_25 12 (dk_at dksX5_sumUp_10 16 rfl rfl)
theorem dX5_sumUp_253 : decode cX5_sumUp 253 = .ok (.iconst 5, 1) := dk_8 (dk_at dksX5_sumUp_10 18 rfl rfl)
theorem dX5_sumUp_254 : decode cX5_sumUp 254 = .ok (.iload_n 1, 1) := dk_27 (dk_at dksX5_sumUp_10 19 rfl rfl)
theorem dX5_sumUp_255 : decode cX5_sumUp 255 = .ok (.imul, 1) := dk_104 (dk_at dksX5_sumUp_10 20 rfl rfl)
theorem dX5_sumUp_256 : decode cX5_sumUp 256 = .ok (.iconst 1, 1) := dk_4 (dk_at dksX5_sumUp_10 21 rfl rfl)
theorem dX5_sumUp_257 : decode cX5_sumUp 257 = .ok (.iadd, 1) := dk_96 (dk_at dksX5_sumUp_10 22 rfl rfl)
theorem dX5_sumUp_258 : decode cX5_sumUp 258 = .ok (.iload 9, 2) := dk_21 9 (dk_at dksX5_sumUp_11 0 rfl rfl)
theorem dX5_sumUp_260 : decode cX5_sumUp 260 = .ok (.ifCond .ne 7, 3) := dk_154 0 7 (dk_at dksX5_sumUp_11 2 rfl rfl)
theorem dX5_sumUp_263 : decode cX5_sumUp 263 = .ok (.dconst 0, 1) := dk_14 (dk_at dksX5_sumUp_11 5 rfl rfl)
theorem dX5_sumUp_264 : decode cX5_sumUp 264 = .ok (.goto 8, 3) := dk_167 0 8 (dk_at dksX5_sumUp_11 6 rfl rfl)
theorem dX5_sumUp_267 : decode cX5_sumUp 267 = .ok (.dload_n 2, 1) := dk_40 (dk_at dksX5_sumUp_11 9 rfl rfl)
theorem dX5_sumUp_268 : decode cX5_sumUp 268 = .ok (.iload 9, 2) := dk_21 9 (dk_at dksX5_sumUp_11 10 rfl rfl)
theorem dX5_sumUp_270 : decode cX5_sumUp 270 = .ok (.i2d, 1) := dk_135 (dk_at dksX5_sumUp_11 12 rfl rfl)
theorem dX5_sumUp_271 : decode cX5_sumUp 271 = .ok (.ddiv, 1) := dk_111 (dk_at dksX5_sumUp_11 13 rfl rfl)
theorem dX5_sumUp_272 : decode cX5_sumUp 272 = .ok (.dastore, 1) := dk_82 (dk_at dksX5_sumUp_11 14 rfl rfl)
theorem dX5_sumUp_273 : decode cX5_sumUp 273 = .ok (.aload 13, 2) := dk_25 13 (dk_at dksX5_sumUp_11 15 rfl rfl)
theorem dX5_sumUp_275 : decode cX5_sumUp 275 = .ok (.iconst 5, 1) := dk_8 (dk_at dksX5_sumUp_11 17 rfl rfl)
theorem dX5_sumUp_276 : decode cX5_sumUp 276 = .ok (.iload_n 1, 1) := dk_27 (dk_at dksX5_sumUp_11 18 rfl rfl)
theorem dX5_sumUp_277 : decode cX5_sumUp 277 = .ok (.imul, 1) := dk_104 (dk_at dksX5_sumUp_11 19 rfl rfl)
theorem dX5_sumUp_278 : decode cX5_sumUp 278 = .ok (.iconst 1, 1) := dk_4 (dk_at dksX5_sumUp_11 20 rfl rfl)
theorem dX5_sumUp_279 : decode cX5_sumUp 279 = .ok (.iadd, 1) := dk_96 (dk_at dksX5_sumUp_11 21 rfl rfl)
theorem dX5_sumUp_280 : decode cX5_sumUp 280 = .ok (.iload 9, 2) := dk_21 9 (dk_at dksX5_sumUp_11 22 rfl rfl)
theorem dX5_sumUp_282 : decode cX5_sumUp 282 = .ok (.ifCond .ne 7, 3) := dk_154 0 7 (dk_at dksX5_sumUp_12 0 rfl rfl)
theorem dX5_sumUp_285 : decode cX5_sumUp 285 = .ok (.iconst 4, 1) := dk_7 (dk_at dksX5_sumUp_12 3 rfl rfl)
theorem dX5_sumUp_286 : decode cX5_sumUp 286 = .ok (.goto 13, 3) := dk_167 0 13 (dk_at dksX5_sumUp_12 4 rfl rfl)
theorem dX5_sumUp_289 : decode cX5_sumUp 289 = .ok (.iload 4, 2) := dk_21 4 (dk_at dksX5_sumUp_12 7 rfl rfl)
theorem dX5_sumUp_291 : decode cX5_sumUp 291 = .ok (.ifCond .eq 7, 3) := dk_153 0 7 (dk_at dksX5_sumUp_12 9 rfl rfl)
theorem dX5_sumUp_294 : decode cX5_sumUp 294 = .ok (.iconst 3, 1) := dk_6 (dk_at dksX5_sumUp_12 12 rfl rfl)
theorem dX5_sumUp_295 : decode cX5_sumUp 295 = .ok (.goto 4, 3) := dk_167 0 4 (dk_at dksX5_sumUp_12 13 rfl rfl)
theorem dX5_sumUp_298 : decode cX5_sumUp 298 = .ok (.iconst 0, 1) := dk_3 (dk_at dksX5_sumUp_12 16 rfl rfl)
theorem dX5_sumUp_299 : decode cX5_sumUp 299 = .ok (.iastore, 1) := dk_79 (dk_at dksX5_sumUp_12 17 rfl rfl)
theorem dX5_sumUp_300 : decode cX5_sumUp 300 = .ok (.aload 12, 2) := dk_25 12 (dk_at dksX5_sumUp_12 18 rfl rfl)
theorem dX5_sumUp_302 : decode cX5_sumUp 302 = .ok (.iconst 5, 1) := dk_8 (dk_at dksX5_sumUp_12 20 rfl rfl)
theorem dX5_sumUp_303 : decode cX5_sumUp 303 = .ok (.iload_n 1, 1) := dk_27 (dk_at dksX5_sumUp_12 21 rfl rfl)
theorem dX5_sumUp_304 : decode cX5_sumUp 304 = .ok (.imul, 1) := dk_104 (dk_at dksX5_sumUp_12 22 rfl rfl)
theorem dX5_sumUp_305 : decode cX5_sumUp 305 = .ok (.iconst 2, 1) := dk_5 (dk_at dksX5_sumUp_12 23 rfl rfl)
theorem dX5_sumUp_306 : decode cX5_sumUp 306 = .ok (.iadd, 1) := dk_96 (dk_at dksX5_sumUp_13 0 rfl rfl)
theorem dX5_sumUp_307 : decode cX5_sumUp 307 = .ok (.dload 5, 2) := dk_24 5 (dk_at dksX5_sumUp_13 1 rfl rfl)
theorem dX5_sumUp_309 : decode cX5_sumUp 309 = .ok (.dastore, 1) := dk_82 (dk_at dksX5_sumUp_13 3 rfl rfl)
theorem dX5_sumUp_310 : decode cX5_sumUp 310 = .ok (.aload 13, 2) := dk_25 13 (dk_at dksX5_sumUp_13 4 rfl rfl)
theorem dX5_sumUp_312 : decode cX5_sumUp 312 = .ok (.iconst 5, 1) := dk_8 (dk_at dksX5_sumUp_13 6 rfl rfl)
theorem dX5_sumUp_313 : decode cX5_sumUp 313 = .ok (.iload_n 1, 1) := dk_27 (dk_at dksX5_sumUp_13 7 rfl rfl)
theorem dX5_sumUp_314 : decode cX5_sumUp 314 = .ok (.imul, 1) := dk_104 (dk_at dksX5_sumUp_13 8 rfl rfl)
theorem dX5_sumUp_315 : decode cX5_sumUp 315 = .ok (.iconst 2, 1) := dk_5 (dk_at dksX5_sumUp_13 9 rfl rfl)
theorem dX5_sumUp_316 : decode cX5_sumUp 316 = .ok (.iadd, 1) := dk_96 (dk_at dksX5_sumUp_13 10 rfl rfl)
theorem dX5_sumUp_317 : decode cX5_sumUp 317 = .ok (.iload 9, 2) := dk_21 9 (dk_at dksX5_sumUp_13 11 rfl rfl)
theorem dX5_sumUp_319 : decode cX5_sumUp 319 = .ok (.ifCond .ne 7, 3) := dk_154 0 7 (dk_at dksX5_sumUp_13 13 rfl rfl)
theorem dX5_sumUp_322 : decode cX5_sumUp 322 = .ok (.iconst 4, 1) := dk_7 (dk_at dksX5_sumUp_13 16 rfl rfl)
theorem dX5_sumUp_323 : decode cX5_sumUp 323 = .ok (.goto 4, 3) := dk_167 0 4 (dk_at dksX5_sumUp_13 17 rfl rfl)
theorem dX5_sumUp_326 : decode cX5_sumUp 326 = .ok (.iconst 0, 1) := dk_3 (dk_at dksX5_sumUp_13 20 rfl rfl)
theorem dX5_sumUp_327 : decode cX5_sumUp 327 = .ok (.iastore, 1) := dk_79 (dk_at dksX5_sumUp_13 21 rfl rfl)
theorem dX5_sumUp_328 : decode cX5_sumUp 328 = .ok (.aload 12, 2) := dk_25 12 (dk_at dksX5_sumUp_13 22 rfl rfl)
theorem dX5_sumUp_330 : decode cX5_sumUp 330 = .ok (.iconst 5, 1) := dk_8 (dk_at dksX5_sumUp_14 0 rfl rfl)
theorem dX5_sumUp_331 : decode cX5_sumUp 331 = .ok (.iload_n 1, 1) := dk_27 (dk_at dksX5_sumUp_14 1 rfl rfl)
theorem dX5_sumUp_332 : decode cX5_sumUp 332 = .ok (.imul, 1) := dk_104 (dk_at dksX5_sumUp_14 2 rfl rfl)
theorem dX5_sumUp_333 : decode cX5_sumUp 333 = .ok (.iconst 3, 1) := dk_6 (dk_at dksX5_sumUp_14 3 rfl rfl)
theorem dX5_sumUp_334 : decode cX5_sumUp 334 = .ok (.iadd, 1) := dk_96 (dk_at dksX5_sumUp_14 4 rfl rfl)
theorem dX5_sumUp_335 : decode cX5_sumUp 335 = .ok (.dload 7, 2) := dk_24 7 (dk_at dksX5_sumUp_14 5 rfl rfl)
theorem dX5_sumUp_337 : decode cX5_sumUp 337 = .ok (.dastore, 1) := dk_82 (dk_at dksX5_sumUp_14 7 rfl rfl)
theorem dX5_sumUp_338 : decode cX5_sumUp 338 = .ok (.aload 13, 2) := dk_25 13 (dk_at dksX5_sumUp_14 8 rfl rfl)
theorem dX5_sumUp_340 : decode cX5_sumUp 340 = .ok (.iconst 5, 1) := dk_8 (dk_at dksX5_sumUp_14 10 rfl rfl)
theorem dX5_sumUp_341 : decode cX5_sumUp 341 = .ok (.iload_n 1, 1) := dk_27 (dk_at dksX5_sumUp_14 11 rfl rfl)
theorem dX5_sumUp_342 : decode cX5_sumUp 342 = .ok (.imul, 1) := dk_104 (dk_at dksX5_sumUp_14 12 rfl rfl)
theorem dX5_sumUp_343 : decode cX5_sumUp 343 = .ok (.iconst 3, 1) := dk_6 (dk_at dksX5_sumUp_14 13 rfl rfl)
theorem dX5_sumUp_344 : decode cX5_sumUp 344 = .ok (.iadd, 1) := dk_96 (dk_at dksX5_sumUp_14 14 rfl rfl)
theorem dX5_sumUp_345 : decode cX5_sumUp 345 = .ok (.iload 9, 2) := dk_21 9 (dk_at dksX5_sumUp_14 15 rfl rfl)
theorem dX5_sumUp_347 : decode cX5_sumUp 347 = .ok (.ifCond .ne 7, 3) := dk_154 0 7 (dk_at dksX5_sumUp_14 17 rfl rfl)
theorem dX5_sumUp_350 : decode cX5_sumUp 350 = .ok (.iconst 4, 1) := dk_7 (dk_at dksX5_sumUp_14 20 rfl rfl)
theorem dX5_sumUp_351 : decode cX5_sumUp 351 = .ok (.goto 4, 3) := dk_167 0 4 (dk_at dksX5_sumUp_14 21 rfl rfl)
theorem dX5_sumUp_354 : decode cX5_sumUp 354 = .ok (.iconst 0, 1) := dk_3 (dk_at dksX5_sumUp_15 0 rfl rfl)
theorem dX5_sumUp_355 : decode cX5_sumUp 355 = .ok (.iastore, 1) := dk_79 (dk_at dksX5_sumUp_15 1 rfl rfl)
theorem dX5_sumUp_356 : decode cX5_sumUp 356 = .ok (.aload 12, 2) := dk_25 12 (dk_at dksX5_sumUp_15 2 rfl rfl)
theorem dX5_sumUp_358 : decode cX5_sumUp 358 = .ok (.iconst 5, 1) := dk_8 (dk_at dksX5_sumUp_15 4 rfl rfl)
theorem dX5_sumUp_359 : decode cX5_sumUp 359 = .ok (.iload_n 1, 1) := dk_27 (dk_at dksX5_sumUp_15 5 rfl rfl)
theorem dX5_sumUp_360 : decode cX5_sumUp 360 = .ok (.imul, 1) := dk_104 (dk_at dksX5_sumUp_15 6 rfl rfl)
theorem dX5_sumUp_361 : decode cX5_sumUp 361 = .ok (.iconst 4, 1) := dk_7 (dk_at dksX5_sumUp_15 7 rfl rfl)
theorem dX5_sumUp_362 : decode cX5_sumUp 362 = .ok (.iadd, 1) := dk_96 (dk_at dksX5_sumUp_15 8 rfl rfl)
theorem dX5_sumUp_363 : decode cX5_sumUp 363 = .ok (.iload 10, 2) := dk_21 10 (dk_at dksX5_sumUp_15 9 rfl rfl)
theorem dX5_sumUp_365 : decode cX5_sumUp 365 = .ok (.i2d, 1) := dk_135 (dk_at dksX5_sumUp_15 11 rfl rfl)
theorem dX5_sumUp_366 : decode cX5_sumUp 366 = .ok (.dastore, 1) := dk_82 (dk_at dksX5_sumUp_15 12 rfl rfl)
theorem dX5_sumUp_367 : decode cX5_sumUp 367 = .ok (.aload 13, 2) := dk_25 13 (dk_at dksX5_sumUp_15 13 rfl rfl)
theorem dX5_sumUp_369 : decode cX5_sumUp 369 = .ok (.iconst 5, 1) := dk_8 (dk_at dksX5_sumUp_15 15 rfl rfl)
theorem dX5_sumUp_370 : decode cX5_sumUp 370 = .ok (.iload_n 1, 1) := dk_27 (dk_at dksX5_sumUp_15 16 rfl rfl)
theorem dX5_sumUp_371 : decode cX5_sumUp 371 = .ok (.imul, 1) := dk_104 (dk_at dksX5_sumUp_15 17 rfl rfl)
theorem dX5_sumUp_372 : decode cX5_sumUp 372 = .ok (.iconst 4, 1) := dk_7 (dk_at dksX5_sumUp_15 18 rfl rfl)
theorem dX5_sumUp_373 : decode cX5_sumUp 373 = .ok (.iadd, 1) := dk_96 (dk_at dksX5_sumUp_15 19 rfl rfl)
theorem dX5_sumUp_374 : decode cX5_sumUp 374 = .ok (.iconst 0, 1) := dk_3 (dk_at dksX5_sumUp_15 20 rfl rfl)
theorem dX5_sumUp_375 : decode cX5_sumUp 375 = .ok (.iastore, 1) := dk_79 (dk_at dksX5_sumUp_15 21 rfl rfl)
theorem dX5_sumUp_376 : decode cX5_sumUp 376 = .ok (.aload_n 0, 1) := dk_42 (dk_at dksX5_sumUp_15 22 rfl rfl)
theorem dX5_sumUp_377 : decode cX5_sumUp 377 = .ok (.getfield 84, 3) := dk_180 0 84 (dk_at dksX5_sumUp_16 0 rfl rfl)
theorem dX5_sumUp_380 : decode cX5_sumUp 380 = .ok (.aload_n 0, 1) := dk_42 (dk_at dksX5_sumUp_16 3 rfl rfl)
theorem dX5_sumUp_381 : decode cX5_sumUp 381 = .ok (.getfield 247, 3) := dk_180 0 247 (dk_at dksX5_sumUp_16 4 rfl rfl)
theorem dX5_sumUp_384 : decode cX5_sumUp 384 = .ok (.aaload, 1) := dk_50 (dk_at dksX5_sumUp_16 7 rfl rfl)
theorem dX5_sumUp_385 : decode cX5_sumUp 385 = .ok (.iload_n 1, 1) := dk_27 (dk_at dksX5_sumUp_16 8 rfl rfl)
theorem dX5_sumUp_386 : decode cX5_sumUp 386 = .ok (.iconst 1, 1) := dk_4 (dk_at dksX5_sumUp_16 9 rfl rfl)
theorem dX5_sumUp_387 : decode cX5_sumUp 387 = .ok (.bastore, 1) := dk_84 (dk_at dksX5_sumUp_16 10 rfl rfl)
theorem dX5_sumUp_388 : decode cX5_sumUp 388 = .ok (.return_, 1) := dk_177 (dk_at dksX5_sumUp_16 11 rfl rfl)
abbrev cX5_tellCase : ByteArray := prog_35_method_27_code
def yX5_tellCase : MethodName := ⟨RX5, "tellCase", "(III)V"⟩
def dkwX5_tellCase_10 : List UInt8 := [21, 11, 84, 42, 180, 0, 17, 21, 4, 24, 6, 82, 42, 180, 0, 13, 21, 4, 21, 10, 84, 177]
abbrev dktX5_tellCase_10 : List UInt8 := dkwX5_tellCase_10 ++ []
def dkwX5_tellCase_9 : List UInt8 := [89, 180, 0, 247, 4, 100, 181, 0, 247, 42, 180, 0, 17, 21, 5, 24, 8, 82, 42, 180, 0, 13, 21, 5]
abbrev dktX5_tellCase_9 : List UInt8 := dkwX5_tellCase_9 ++ dktX5_tellCase_10
def dkwX5_tellCase_8 : List UInt8 := [181, 1, 30, 42, 42, 180, 0, 81, 42, 180, 0, 247, 50, 42, 180, 0, 37, 27, 46, 46, 181, 1, 33, 42]
abbrev dktX5_tellCase_8 : List UInt8 := dkwX5_tellCase_8 ++ dktX5_tellCase_9
def dkwX5_tellCase_7 : List UInt8 := [27, 46, 49, 181, 1, 26, 42, 42, 180, 0, 78, 42, 180, 0, 247, 50, 42, 180, 0, 37, 27, 46, 46]
abbrev dktX5_tellCase_7 : List UInt8 := dkwX5_tellCase_7 ++ dktX5_tellCase_8
def dkwX5_tellCase_6 : List UInt8 := [42, 42, 180, 0, 37, 27, 46, 182, 1, 2, 42, 42, 180, 0, 75, 42, 180, 0, 247, 50, 42, 180, 0, 37]
abbrev dktX5_tellCase_6 : List UInt8 := dkwX5_tellCase_6 ++ dktX5_tellCase_7
def dkwX5_tellCase_5 : List UInt8 := [49, 82, 42, 180, 0, 13, 21, 4, 4, 84, 42, 89, 180, 0, 247, 4, 96, 181, 0, 247, 42, 182, 1, 23]
abbrev dktX5_tellCase_5 : List UInt8 := dkwX5_tellCase_5 ++ dktX5_tellCase_6
def dkwX5_tellCase_4 : List UInt8 := [82, 42, 180, 0, 13, 21, 5, 4, 84, 42, 180, 0, 17, 21, 4, 42, 180, 0, 49, 5, 27, 104, 50, 28]
abbrev dktX5_tellCase_4 : List UInt8 := dkwX5_tellCase_4 ++ dktX5_tellCase_5
def dkwX5_tellCase_3 : List UInt8 := [27, 46, 2, 159, 0, 30, 42, 180, 0, 17, 21, 5, 42, 180, 0, 49, 5, 27, 104, 4, 96, 50, 29, 49]
abbrev dktX5_tellCase_3 : List UInt8 := dkwX5_tellCase_3 ++ dktX5_tellCase_4
def dkwX5_tellCase_2 : List UInt8 := [57, 8, 42, 180, 0, 13, 21, 4, 51, 54, 10, 42, 180, 0, 13, 21, 5, 51, 54, 11, 42, 180, 0, 43]
abbrev dktX5_tellCase_2 : List UInt8 := dkwX5_tellCase_2 ++ dktX5_tellCase_3
def dkwX5_tellCase_1 : List UInt8 := [180, 0, 43, 27, 46, 54, 5, 42, 180, 0, 17, 21, 4, 49, 57, 6, 42, 180, 0, 17, 21, 5, 49]
abbrev dktX5_tellCase_1 : List UInt8 := dkwX5_tellCase_1 ++ dktX5_tellCase_2
def dkwX5_tellCase_0 : List UInt8 := [42, 180, 0, 40, 27, 46, 54, 4, 42, 180, 0, 43, 27, 46, 2, 160, 0, 8, 21, 4, 167, 0, 9, 42]
abbrev dktX5_tellCase_0 : List UInt8 := dkwX5_tellCase_0 ++ dktX5_tellCase_1
theorem dksX5_tellCase_0 : cX5_tellCase.data.toList.drop 0 = dktX5_tellCase_0 := by decide +kernel
theorem dksX5_tellCase_1 : cX5_tellCase.data.toList.drop 24 = dktX5_tellCase_1 := dk_seg dksX5_tellCase_0 24 rfl rfl
theorem dksX5_tellCase_2 : cX5_tellCase.data.toList.drop 47 = dktX5_tellCase_2 := dk_seg dksX5_tellCase_1 23 rfl rfl
theorem dksX5_tellCase_3 : cX5_tellCase.data.toList.drop 71 = dktX5_tellCase_3 := dk_seg dksX5_tellCase_2 24 rfl rfl
theorem dksX5_tellCase_4 : cX5_tellCase.data.toList.drop 95 = dktX5_tellCase_4 := dk_seg dksX5_tellCase_3 24 rfl rfl
theorem dksX5_tellCase_5 : cX5_tellCase.data.toList.drop 119 = dktX5_tellCase_5 := dk_seg dksX5_tellCase_4 24 rfl rfl
theorem dksX5_tellCase_6 : cX5_tellCase.data.toList.drop 143 = dktX5_tellCase_6 := dk_seg dksX5_tellCase_5 24 rfl rfl
theorem dksX5_tellCase_7 : cX5_tellCase.data.toList.drop 167 = dktX5_tellCase_7 := dk_seg dksX5_tellCase_6 24 rfl rfl
theorem dksX5_tellCase_8 : cX5_tellCase.data.toList.drop 190 = dktX5_tellCase_8 := dk_seg dksX5_tellCase_7 23 rfl rfl
theorem dksX5_tellCase_9 : cX5_tellCase.data.toList.drop 214 = dktX5_tellCase_9 := dk_seg dksX5_tellCase_8 24 rfl rfl
theorem dksX5_tellCase_10 : cX5_tellCase.data.toList.drop 238 = dktX5_tellCase_10 := dk_seg dksX5_tellCase_9 24 rfl rfl
theorem dX5_tellCase_0 : decode cX5_tellCase 0 = .ok (.aload_n 0, 1) := dk_42 (dk_at dksX5_tellCase_0 0 rfl rfl)
theorem dX5_tellCase_1 : decode cX5_tellCase 1 = .ok (.getfield 40, 3) := dk_180 0 40 (dk_at dksX5_tellCase_0 1 rfl rfl)
theorem dX5_tellCase_4 : decode cX5_tellCase 4 = .ok (.iload_n 1, 1) := dk_27 (dk_at dksX5_tellCase_0 4 rfl rfl)
theorem dX5_tellCase_5 : decode cX5_tellCase 5 = .ok (.iaload, 1) := dk_46 (dk_at dksX5_tellCase_0 5 rfl rfl)
theorem dX5_tellCase_6 : decode cX5_tellCase 6 = .ok (.istore 4, 2) := dk_54 4 (dk_at dksX5_tellCase_0 6 rfl rfl)
theorem dX5_tellCase_8 : decode cX5_tellCase 8 = .ok (.aload_n 0, 1) := dk_42 (dk_at dksX5_tellCase_0 8 rfl rfl)
theorem dX5_tellCase_9 : decode cX5_tellCase 9 = .ok (.getfield 43, 3) := dk_180 0 43 (dk_at dksX5_tellCase_0 9 rfl rfl)
theorem dX5_tellCase_12 : decode cX5_tellCase 12 = .ok (.iload_n 1, 1) := dk_27 (dk_at dksX5_tellCase_0 12 rfl rfl)
theorem dX5_tellCase_13 : decode cX5_tellCase 13 = .ok (.iaload, 1) := dk_46 (dk_at dksX5_tellCase_0 13 rfl rfl)
theorem dX5_tellCase_14 : decode cX5_tellCase 14 = .ok (.iconst (-1), 1) := dk_2 (dk_at dksX5_tellCase_0 14 rfl rfl)
theorem dX5_tellCase_15 : decode cX5_tellCase 15 = .ok (.if_icmp .ne 8, 3) := dk_160 0 8 (dk_at dksX5_tellCase_0 15 rfl rfl)
theorem dX5_tellCase_18 : decode cX5_tellCase 18 = .ok (.iload 4, 2) := dk_21 4 (dk_at dksX5_tellCase_0 18 rfl rfl)
theorem dX5_tellCase_20 : decode cX5_tellCase 20 = .ok (.goto 9, 3) := dk_167 0 9 (dk_at dksX5_tellCase_0 20 rfl rfl)
theorem dX5_tellCase_23 : decode cX5_tellCase 23 = .ok (.aload_n 0, 1) := dk_42 (dk_at dksX5_tellCase_0 23 rfl rfl)
theorem dX5_tellCase_24 : decode cX5_tellCase 24 = .ok (.getfield 43, 3) := dk_180 0 43 (dk_at dksX5_tellCase_1 0 rfl rfl)
theorem dX5_tellCase_27 : decode cX5_tellCase 27 = .ok (.iload_n 1, 1) := dk_27 (dk_at dksX5_tellCase_1 3 rfl rfl)
theorem dX5_tellCase_28 : decode cX5_tellCase 28 = .ok (.iaload, 1) := dk_46 (dk_at dksX5_tellCase_1 4 rfl rfl)
theorem dX5_tellCase_29 : decode cX5_tellCase 29 = .ok (.istore 5, 2) := dk_54 5 (dk_at dksX5_tellCase_1 5 rfl rfl)
theorem dX5_tellCase_31 : decode cX5_tellCase 31 = .ok (.aload_n 0, 1) := dk_42 (dk_at dksX5_tellCase_1 7 rfl rfl)
theorem dX5_tellCase_32 : decode cX5_tellCase 32 = .ok (.getfield 17, 3) := dk_180 0 17 (dk_at dksX5_tellCase_1 8 rfl rfl)
theorem dX5_tellCase_35 : decode cX5_tellCase 35 = .ok (.iload 4, 2) := dk_21 4 (dk_at dksX5_tellCase_1 11 rfl rfl)
theorem dX5_tellCase_37 : decode cX5_tellCase 37 = .ok (.daload, 1) := dk_49 (dk_at dksX5_tellCase_1 13 rfl rfl)
theorem dX5_tellCase_38 : decode cX5_tellCase 38 = .ok (.dstore 6, 2) := dk_57 6 (dk_at dksX5_tellCase_1 14 rfl rfl)
theorem dX5_tellCase_40 : decode cX5_tellCase 40 = .ok (.aload_n 0, 1) := dk_42 (dk_at dksX5_tellCase_1 16 rfl rfl)
theorem dX5_tellCase_41 : decode cX5_tellCase 41 = .ok (.getfield 17, 3) := dk_180 0 17 (dk_at dksX5_tellCase_1 17 rfl rfl)
theorem dX5_tellCase_44 : decode cX5_tellCase 44 = .ok (.iload 5, 2) := dk_21 5 (dk_at dksX5_tellCase_1 20 rfl rfl)
theorem dX5_tellCase_46 : decode cX5_tellCase 46 = .ok (.daload, 1) := dk_49 (dk_at dksX5_tellCase_1 22 rfl rfl)
theorem dX5_tellCase_47 : decode cX5_tellCase 47 = .ok (.dstore 8, 2) := dk_57 8 (dk_at dksX5_tellCase_2 0 rfl rfl)
theorem dX5_tellCase_49 : decode cX5_tellCase 49 = .ok (.aload_n 0, 1) := dk_42 (dk_at dksX5_tellCase_2 2 rfl rfl)
theorem dX5_tellCase_50 : decode cX5_tellCase 50 = .ok (.getfield 13, 3) := dk_180 0 13 (dk_at dksX5_tellCase_2 3 rfl rfl)
theorem dX5_tellCase_53 : decode cX5_tellCase 53 = .ok (.iload 4, 2) := dk_21 4 (dk_at dksX5_tellCase_2 6 rfl rfl)
theorem dX5_tellCase_55 : decode cX5_tellCase 55 = .ok (.baload, 1) := dk_51 (dk_at dksX5_tellCase_2 8 rfl rfl)
theorem dX5_tellCase_56 : decode cX5_tellCase 56 = .ok (.istore 10, 2) := dk_54 10 (dk_at dksX5_tellCase_2 9 rfl rfl)
theorem dX5_tellCase_58 : decode cX5_tellCase 58 = .ok (.aload_n 0, 1) := dk_42 (dk_at dksX5_tellCase_2 11 rfl rfl)
theorem dX5_tellCase_59 : decode cX5_tellCase 59 = .ok (.getfield 13, 3) := dk_180 0 13 (dk_at dksX5_tellCase_2 12 rfl rfl)
theorem dX5_tellCase_62 : decode cX5_tellCase 62 = .ok (.iload 5, 2) := dk_21 5 (dk_at dksX5_tellCase_2 15 rfl rfl)
theorem dX5_tellCase_64 : decode cX5_tellCase 64 = .ok (.baload, 1) := dk_51 (dk_at dksX5_tellCase_2 17 rfl rfl)
theorem dX5_tellCase_65 : decode cX5_tellCase 65 = .ok (.istore 11, 2) := dk_54 11 (dk_at dksX5_tellCase_2 18 rfl rfl)
theorem dX5_tellCase_67 : decode cX5_tellCase 67 = .ok (.aload_n 0, 1) := dk_42 (dk_at dksX5_tellCase_2 20 rfl rfl)
theorem dX5_tellCase_68 : decode cX5_tellCase 68 = .ok (.getfield 43, 3) := dk_180 0 43 (dk_at dksX5_tellCase_2 21 rfl rfl)
theorem dX5_tellCase_71 : decode cX5_tellCase 71 = .ok (.iload_n 1, 1) := dk_27 (dk_at dksX5_tellCase_3 0 rfl rfl)
theorem dX5_tellCase_72 : decode cX5_tellCase 72 = .ok (.iaload, 1) := dk_46 (dk_at dksX5_tellCase_3 1 rfl rfl)
theorem dX5_tellCase_73 : decode cX5_tellCase 73 = .ok (.iconst (-1), 1) := dk_2 (dk_at dksX5_tellCase_3 2 rfl rfl)
theorem dX5_tellCase_74 : decode cX5_tellCase 74 = .ok (.if_icmp .eq 30, 3) := dk_159 0 30 (dk_at dksX5_tellCase_3 3 rfl rfl)
theorem dX5_tellCase_77 : decode cX5_tellCase 77 = .ok (.aload_n 0, 1) := dk_42 (dk_at dksX5_tellCase_3 6 rfl rfl)
theorem dX5_tellCase_78 : decode cX5_tellCase 78 = .ok (.getfield 17, 3) := dk_180 0 17 (dk_at dksX5_tellCase_3 7 rfl rfl)
theorem dX5_tellCase_81 : decode cX5_tellCase 81 = .ok (.iload 5, 2) := dk_21 5 (dk_at dksX5_tellCase_3 10 rfl rfl)
theorem dX5_tellCase_83 : decode cX5_tellCase 83 = .ok (.aload_n 0, 1) := dk_42 (dk_at dksX5_tellCase_3 12 rfl rfl)
theorem dX5_tellCase_84 : decode cX5_tellCase 84 = .ok (.getfield 49, 3) := dk_180 0 49 (dk_at dksX5_tellCase_3 13 rfl rfl)
theorem dX5_tellCase_87 : decode cX5_tellCase 87 = .ok (.iconst 2, 1) := dk_5 (dk_at dksX5_tellCase_3 16 rfl rfl)
theorem dX5_tellCase_88 : decode cX5_tellCase 88 = .ok (.iload_n 1, 1) := dk_27 (dk_at dksX5_tellCase_3 17 rfl rfl)
theorem dX5_tellCase_89 : decode cX5_tellCase 89 = .ok (.imul, 1) := dk_104 (dk_at dksX5_tellCase_3 18 rfl rfl)
theorem dX5_tellCase_90 : decode cX5_tellCase 90 = .ok (.iconst 1, 1) := dk_4 (dk_at dksX5_tellCase_3 19 rfl rfl)
theorem dX5_tellCase_91 : decode cX5_tellCase 91 = .ok (.iadd, 1) := dk_96 (dk_at dksX5_tellCase_3 20 rfl rfl)
theorem dX5_tellCase_92 : decode cX5_tellCase 92 = .ok (.aaload, 1) := dk_50 (dk_at dksX5_tellCase_3 21 rfl rfl)
theorem dX5_tellCase_93 : decode cX5_tellCase 93 = .ok (.iload_n 3, 1) := dk_29 (dk_at dksX5_tellCase_3 22 rfl rfl)
theorem dX5_tellCase_94 : decode cX5_tellCase 94 = .ok (.daload, 1) := dk_49 (dk_at dksX5_tellCase_3 23 rfl rfl)
theorem dX5_tellCase_95 : decode cX5_tellCase 95 = .ok (.dastore, 1) := dk_82 (dk_at dksX5_tellCase_4 0 rfl rfl)
theorem dX5_tellCase_96 : decode cX5_tellCase 96 = .ok (.aload_n 0, 1) := dk_42 (dk_at dksX5_tellCase_4 1 rfl rfl)
theorem dX5_tellCase_97 : decode cX5_tellCase 97 = .ok (.getfield 13, 3) := dk_180 0 13 (dk_at dksX5_tellCase_4 2 rfl rfl)
theorem dX5_tellCase_100 : decode cX5_tellCase 100 = .ok (.iload 5, 2) := dk_21 5 (dk_at dksX5_tellCase_4 5 rfl rfl)
theorem dX5_tellCase_102 : decode cX5_tellCase 102 = .ok (.iconst 1, 1) := dk_4 (dk_at dksX5_tellCase_4 7 rfl rfl)
theorem dX5_tellCase_103 : decode cX5_tellCase 103 = .ok (.bastore, 1) := dk_84 (dk_at dksX5_tellCase_4 8 rfl rfl)
theorem dX5_tellCase_104 : decode cX5_tellCase 104 = .ok (.aload_n 0, 1) := dk_42 (dk_at dksX5_tellCase_4 9 rfl rfl)
theorem dX5_tellCase_105 : decode cX5_tellCase 105 = .ok (.getfield 17, 3) := dk_180 0 17 (dk_at dksX5_tellCase_4 10 rfl rfl)
theorem dX5_tellCase_108 : decode cX5_tellCase 108 = .ok (.iload 4, 2) := dk_21 4 (dk_at dksX5_tellCase_4 13 rfl rfl)
theorem dX5_tellCase_110 : decode cX5_tellCase 110 = .ok (.aload_n 0, 1) := dk_42 (dk_at dksX5_tellCase_4 15 rfl rfl)
theorem dX5_tellCase_111 : decode cX5_tellCase 111 = .ok (.getfield 49, 3) := dk_180 0 49 (dk_at dksX5_tellCase_4 16 rfl rfl)
theorem dX5_tellCase_114 : decode cX5_tellCase 114 = .ok (.iconst 2, 1) := dk_5 (dk_at dksX5_tellCase_4 19 rfl rfl)
theorem dX5_tellCase_115 : decode cX5_tellCase 115 = .ok (.iload_n 1, 1) := dk_27 (dk_at dksX5_tellCase_4 20 rfl rfl)
theorem dX5_tellCase_116 : decode cX5_tellCase 116 = .ok (.imul, 1) := dk_104 (dk_at dksX5_tellCase_4 21 rfl rfl)
theorem dX5_tellCase_117 : decode cX5_tellCase 117 = .ok (.aaload, 1) := dk_50 (dk_at dksX5_tellCase_4 22 rfl rfl)
theorem dX5_tellCase_118 : decode cX5_tellCase 118 = .ok (.iload_n 2, 1) := dk_28 (dk_at dksX5_tellCase_4 23 rfl rfl)
theorem dX5_tellCase_119 : decode cX5_tellCase 119 = .ok (.daload, 1) := dk_49 (dk_at dksX5_tellCase_5 0 rfl rfl)
theorem dX5_tellCase_120 : decode cX5_tellCase 120 = .ok (.dastore, 1) := dk_82 (dk_at dksX5_tellCase_5 1 rfl rfl)
theorem dX5_tellCase_121 : decode cX5_tellCase 121 = .ok (.aload_n 0, 1) := dk_42 (dk_at dksX5_tellCase_5 2 rfl rfl)
theorem dX5_tellCase_122 : decode cX5_tellCase 122 = .ok (.getfield 13, 3) := dk_180 0 13 (dk_at dksX5_tellCase_5 3 rfl rfl)
theorem dX5_tellCase_125 : decode cX5_tellCase 125 = .ok (.iload 4, 2) := dk_21 4 (dk_at dksX5_tellCase_5 6 rfl rfl)
theorem dX5_tellCase_127 : decode cX5_tellCase 127 = .ok (.iconst 1, 1) := dk_4 (dk_at dksX5_tellCase_5 8 rfl rfl)
theorem dX5_tellCase_128 : decode cX5_tellCase 128 = .ok (.bastore, 1) := dk_84 (dk_at dksX5_tellCase_5 9 rfl rfl)
theorem dX5_tellCase_129 : decode cX5_tellCase 129 = .ok (.aload_n 0, 1) := dk_42 (dk_at dksX5_tellCase_5 10 rfl rfl)
theorem dX5_tellCase_130 : decode cX5_tellCase 130 = .ok (.dup, 1) := dk_89 (dk_at dksX5_tellCase_5 11 rfl rfl)
theorem dX5_tellCase_131 : decode cX5_tellCase 131 = .ok (.getfield 247, 3) := dk_180 0 247 (dk_at dksX5_tellCase_5 12 rfl rfl)
theorem dX5_tellCase_134 : decode cX5_tellCase 134 = .ok (.iconst 1, 1) := dk_4 (dk_at dksX5_tellCase_5 15 rfl rfl)
theorem dX5_tellCase_135 : decode cX5_tellCase 135 = .ok (.iadd, 1) := dk_96 (dk_at dksX5_tellCase_5 16 rfl rfl)
theorem dX5_tellCase_136 : decode cX5_tellCase 136 = .ok (.putfield 247, 3) := dk_181 0 247 (dk_at dksX5_tellCase_5 17 rfl rfl)
theorem dX5_tellCase_139 : decode cX5_tellCase 139 = .ok (.aload_n 0, 1) := dk_42 (dk_at dksX5_tellCase_5 20 rfl rfl)
theorem dX5_tellCase_140 : decode cX5_tellCase 140 = .ok (.invokevirtual 279, 3) := dk_182 1 23 (dk_at dksX5_tellCase_5 21 rfl rfl)
theorem dX5_tellCase_143 : decode cX5_tellCase 143 = .ok (.aload_n 0, 1) := dk_42 (dk_at dksX5_tellCase_6 0 rfl rfl)
theorem dX5_tellCase_144 : decode cX5_tellCase 144 = .ok (.aload_n 0, 1) := dk_42 (dk_at dksX5_tellCase_6 1 rfl rfl)
theorem dX5_tellCase_145 : decode cX5_tellCase 145 = .ok (.getfield 37, 3) := dk_180 0 37 (dk_at dksX5_tellCase_6 2 rfl rfl)
theorem dX5_tellCase_148 : decode cX5_tellCase 148 = .ok (.iload_n 1, 1) := dk_27 (dk_at dksX5_tellCase_6 5 rfl rfl)
theorem dX5_tellCase_149 : decode cX5_tellCase 149 = .ok (.iaload, 1) := dk_46 (dk_at dksX5_tellCase_6 6 rfl rfl)
theorem dX5_tellCase_150 : decode cX5_tellCase 150 = .ok (.invokevirtual 258, 3) := dk_182 1 2 (dk_at dksX5_tellCase_6 7 rfl rfl)
theorem dX5_tellCase_153 : decode cX5_tellCase 153 = .ok (.aload_n 0, 1) := dk_42 (dk_at dksX5_tellCase_6 10 rfl rfl)
theorem dX5_tellCase_154 : decode cX5_tellCase 154 = .ok (.aload_n 0, 1) := dk_42 (dk_at dksX5_tellCase_6 11 rfl rfl)
theorem dX5_tellCase_155 : decode cX5_tellCase 155 = .ok (.getfield 75, 3) := dk_180 0 75 (dk_at dksX5_tellCase_6 12 rfl rfl)
theorem dX5_tellCase_158 : decode cX5_tellCase 158 = .ok (.aload_n 0, 1) := dk_42 (dk_at dksX5_tellCase_6 15 rfl rfl)
theorem dX5_tellCase_159 : decode cX5_tellCase 159 = .ok (.getfield 247, 3) := dk_180 0 247 (dk_at dksX5_tellCase_6 16 rfl rfl)
theorem dX5_tellCase_162 : decode cX5_tellCase 162 = .ok (.aaload, 1) := dk_50 (dk_at dksX5_tellCase_6 19 rfl rfl)
theorem dX5_tellCase_163 : decode cX5_tellCase 163 = .ok (.aload_n 0, 1) := dk_42 (dk_at dksX5_tellCase_6 20 rfl rfl)
theorem dX5_tellCase_164 : decode cX5_tellCase 164 = .ok (.getfield 37, 3) := dk_180 0 37 (dk_at dksX5_tellCase_6 21 rfl rfl)
theorem dX5_tellCase_167 : decode cX5_tellCase 167 = .ok (.iload_n 1, 1) := dk_27 (dk_at dksX5_tellCase_7 0 rfl rfl)
theorem dX5_tellCase_168 : decode cX5_tellCase 168 = .ok (.iaload, 1) := dk_46 (dk_at dksX5_tellCase_7 1 rfl rfl)
theorem dX5_tellCase_169 : decode cX5_tellCase 169 = .ok (.daload, 1) := dk_49 (dk_at dksX5_tellCase_7 2 rfl rfl)
theorem dX5_tellCase_170 : decode cX5_tellCase 170 = .ok (.putfield 282, 3) := dk_181 1 26 (dk_at dksX5_tellCase_7 3 rfl rfl)
theorem dX5_tellCase_173 : decode cX5_tellCase 173 = .ok (.aload_n 0, 1) := dk_42 (dk_at dksX5_tellCase_7 6 rfl rfl)
theorem dX5_tellCase_174 : decode cX5_tellCase 174 = .ok (.aload_n 0, 1) := dk_42 (dk_at dksX5_tellCase_7 7 rfl rfl)
theorem dX5_tellCase_175 : decode cX5_tellCase 175 = .ok (.getfield 78, 3) := dk_180 0 78 (dk_at dksX5_tellCase_7 8 rfl rfl)
theorem dX5_tellCase_178 : decode cX5_tellCase 178 = .ok (.aload_n 0, 1) := dk_42 (dk_at dksX5_tellCase_7 11 rfl rfl)
theorem dX5_tellCase_179 : decode cX5_tellCase 179 = .ok (.getfield 247, 3) := dk_180 0 247 (dk_at dksX5_tellCase_7 12 rfl rfl)
theorem dX5_tellCase_182 : decode cX5_tellCase 182 = .ok (.aaload, 1) := dk_50 (dk_at dksX5_tellCase_7 15 rfl rfl)
theorem dX5_tellCase_183 : decode cX5_tellCase 183 = .ok (.aload_n 0, 1) := dk_42 (dk_at dksX5_tellCase_7 16 rfl rfl)
theorem dX5_tellCase_184 : decode cX5_tellCase 184 = .ok (.getfield 37, 3) := dk_180 0 37 (dk_at dksX5_tellCase_7 17 rfl rfl)
theorem dX5_tellCase_187 : decode cX5_tellCase 187 = .ok (.iload_n 1, 1) := dk_27 (dk_at dksX5_tellCase_7 20 rfl rfl)
theorem dX5_tellCase_188 : decode cX5_tellCase 188 = .ok (.iaload, 1) := dk_46 (dk_at dksX5_tellCase_7 21 rfl rfl)
theorem dX5_tellCase_189 : decode cX5_tellCase 189 = .ok (.iaload, 1) := dk_46 (dk_at dksX5_tellCase_7 22 rfl rfl)
theorem dX5_tellCase_190 : decode cX5_tellCase 190 = .ok (.putfield 286, 3) := dk_181 1 30 (dk_at dksX5_tellCase_8 0 rfl rfl)
theorem dX5_tellCase_193 : decode cX5_tellCase 193 = .ok (.aload_n 0, 1) := dk_42 (dk_at dksX5_tellCase_8 3 rfl rfl)
theorem dX5_tellCase_194 : decode cX5_tellCase 194 = .ok (.aload_n 0, 1) := dk_42 (dk_at dksX5_tellCase_8 4 rfl rfl)
theorem dX5_tellCase_195 : decode cX5_tellCase 195 = .ok (.getfield 81, 3) := dk_180 0 81 (dk_at dksX5_tellCase_8 5 rfl rfl)
theorem dX5_tellCase_198 : decode cX5_tellCase 198 = .ok (.aload_n 0, 1) := dk_42 (dk_at dksX5_tellCase_8 8 rfl rfl)
theorem dX5_tellCase_199 : decode cX5_tellCase 199 = .ok (.getfield 247, 3) := dk_180 0 247 (dk_at dksX5_tellCase_8 9 rfl rfl)
theorem dX5_tellCase_202 : decode cX5_tellCase 202 = .ok (.aaload, 1) := dk_50 (dk_at dksX5_tellCase_8 12 rfl rfl)
theorem dX5_tellCase_203 : decode cX5_tellCase 203 = .ok (.aload_n 0, 1) := dk_42 (dk_at dksX5_tellCase_8 13 rfl rfl)
theorem dX5_tellCase_204 : decode cX5_tellCase 204 = .ok (.getfield 37, 3) := dk_180 0 37 (dk_at dksX5_tellCase_8 14 rfl rfl)
theorem dX5_tellCase_207 : decode cX5_tellCase 207 = .ok (.iload_n 1, 1) := dk_27 (dk_at dksX5_tellCase_8 17 rfl rfl)
theorem dX5_tellCase_208 : decode cX5_tellCase 208 = .ok (.iaload, 1) := dk_46 (dk_at dksX5_tellCase_8 18 rfl rfl)
theorem dX5_tellCase_209 : decode cX5_tellCase 209 = .ok (.iaload, 1) := dk_46 (dk_at dksX5_tellCase_8 19 rfl rfl)
theorem dX5_tellCase_210 : decode cX5_tellCase 210 = .ok (.putfield 289, 3) := dk_181 1 33 (dk_at dksX5_tellCase_8 20 rfl rfl)
theorem dX5_tellCase_213 : decode cX5_tellCase 213 = .ok (.aload_n 0, 1) := dk_42 (dk_at dksX5_tellCase_8 23 rfl rfl)
theorem dX5_tellCase_214 : decode cX5_tellCase 214 = .ok (.dup, 1) := dk_89 (dk_at dksX5_tellCase_9 0 rfl rfl)
theorem dX5_tellCase_215 : decode cX5_tellCase 215 = .ok (.getfield 247, 3) := dk_180 0 247 (dk_at dksX5_tellCase_9 1 rfl rfl)
theorem dX5_tellCase_218 : decode cX5_tellCase 218 = .ok (.iconst 1, 1) := dk_4 (dk_at dksX5_tellCase_9 4 rfl rfl)
theorem dX5_tellCase_219 : decode cX5_tellCase 219 = .ok (.isub, 1) := dk_100 (dk_at dksX5_tellCase_9 5 rfl rfl)
theorem dX5_tellCase_220 : decode cX5_tellCase 220 = .ok (.putfield 247, 3) := dk_181 0 247 (dk_at dksX5_tellCase_9 6 rfl rfl)
theorem dX5_tellCase_223 : decode cX5_tellCase 223 = .ok (.aload_n 0, 1) := dk_42 (dk_at dksX5_tellCase_9 9 rfl rfl)
theorem dX5_tellCase_224 : decode cX5_tellCase 224 = .ok (.getfield 17, 3) := dk_180 0 17 (dk_at dksX5_tellCase_9 10 rfl rfl)
theorem dX5_tellCase_227 : decode cX5_tellCase 227 = .ok (.iload 5, 2) := dk_21 5 (dk_at dksX5_tellCase_9 13 rfl rfl)
theorem dX5_tellCase_229 : decode cX5_tellCase 229 = .ok (.dload 8, 2) := dk_24 8 (dk_at dksX5_tellCase_9 15 rfl rfl)
theorem dX5_tellCase_231 : decode cX5_tellCase 231 = .ok (.dastore, 1) := dk_82 (dk_at dksX5_tellCase_9 17 rfl rfl)
theorem dX5_tellCase_232 : decode cX5_tellCase 232 = .ok (.aload_n 0, 1) := dk_42 (dk_at dksX5_tellCase_9 18 rfl rfl)
theorem dX5_tellCase_233 : decode cX5_tellCase 233 = .ok (.getfield 13, 3) := dk_180 0 13 (dk_at dksX5_tellCase_9 19 rfl rfl)
theorem dX5_tellCase_236 : decode cX5_tellCase 236 = .ok (.iload 5, 2) := dk_21 5 (dk_at dksX5_tellCase_9 22 rfl rfl)
theorem dX5_tellCase_238 : decode cX5_tellCase 238 = .ok (.iload 11, 2) := dk_21 11 (dk_at dksX5_tellCase_10 0 rfl rfl)
theorem dX5_tellCase_240 : decode cX5_tellCase 240 = .ok (.bastore, 1) := dk_84 (dk_at dksX5_tellCase_10 2 rfl rfl)
theorem dX5_tellCase_241 : decode cX5_tellCase 241 = .ok (.aload_n 0, 1) := dk_42 (dk_at dksX5_tellCase_10 3 rfl rfl)
theorem dX5_tellCase_242 : decode cX5_tellCase 242 = .ok (.getfield 17, 3) := dk_180 0 17 (dk_at dksX5_tellCase_10 4 rfl rfl)
theorem dX5_tellCase_245 : decode cX5_tellCase 245 = .ok (.iload 4, 2) := dk_21 4 (dk_at dksX5_tellCase_10 7 rfl rfl)
theorem dX5_tellCase_247 : decode cX5_tellCase 247 = .ok (.dload 6, 2) := dk_24 6 (dk_at dksX5_tellCase_10 9 rfl rfl)
theorem dX5_tellCase_249 : decode cX5_tellCase 249 = .ok (.dastore, 1) := dk_82 (dk_at dksX5_tellCase_10 11 rfl rfl)
theorem dX5_tellCase_250 : decode cX5_tellCase 250 = .ok (.aload_n 0, 1) := dk_42 (dk_at dksX5_tellCase_10 12 rfl rfl)
theorem dX5_tellCase_251 : decode cX5_tellCase 251 = .ok (.getfield 13, 3) := dk_180 0 13 (dk_at dksX5_tellCase_10 13 rfl rfl)
theorem dX5_tellCase_254 : decode cX5_tellCase 254 = .ok (.iload 4, 2) := dk_21 4 (dk_at dksX5_tellCase_10 16 rfl rfl)
theorem dX5_tellCase_256 : decode cX5_tellCase 256 = .ok (.iload 10, 2) := dk_21 10 (dk_at dksX5_tellCase_10 18 rfl rfl)
theorem dX5_tellCase_258 : decode cX5_tellCase 258 = .ok (.bastore, 1) := dk_84 (dk_at dksX5_tellCase_10 20 rfl rfl)
theorem dX5_tellCase_259 : decode cX5_tellCase 259 = .ok (.return_, 1) := dk_177 (dk_at dksX5_tellCase_10 21 rfl rfl)
abbrev cX5_pick : ByteArray := prog_35_method_25_code
def yX5_pick : MethodName := ⟨RX5, "pick", "()V"⟩
def dkwX5_pick_4 : List UInt8 := [180, 0, 96, 27, 46, 79, 42, 180, 0, 99, 42, 180, 0, 243, 4, 100, 42, 180, 0, 99, 27, 46, 79, 177]
abbrev dktX5_pick_4 : List UInt8 := dkwX5_pick_4 ++ []
def dkwX5_pick_3 : List UInt8 := [180, 0, 243, 4, 100, 42, 180, 0, 93, 27, 49, 82, 42, 180, 0, 96, 42, 180, 0, 243, 4, 100, 42]
abbrev dktX5_pick_3 : List UInt8 := dkwX5_pick_3 ++ dktX5_pick_4
def dkwX5_pick_2 : List UInt8 := [153, 0, 10, 42, 180, 0, 243, 167, 0, 9, 42, 180, 0, 243, 4, 96, 60, 42, 180, 0, 93, 42]
abbrev dktX5_pick_2 : List UInt8 := dkwX5_pick_2 ++ dktX5_pick_3
def dkwX5_pick_1 : List UInt8 := [42, 180, 0, 243, 4, 100, 167, 0, 32, 42, 180, 0, 93, 42, 180, 0, 243, 4, 100, 49, 14, 151]
abbrev dktX5_pick_1 : List UInt8 := dkwX5_pick_1 ++ dktX5_pick_2
def dkwX5_pick_0 : List UInt8 := [42, 89, 180, 0, 243, 5, 100, 181, 0, 243, 42, 180, 0, 96, 42, 180, 0, 243, 4, 100, 46, 153, 0, 12]
abbrev dktX5_pick_0 : List UInt8 := dkwX5_pick_0 ++ dktX5_pick_1
theorem dksX5_pick_0 : cX5_pick.data.toList.drop 0 = dktX5_pick_0 := by decide +kernel
theorem dksX5_pick_1 : cX5_pick.data.toList.drop 24 = dktX5_pick_1 := dk_seg dksX5_pick_0 24 rfl rfl
theorem dksX5_pick_2 : cX5_pick.data.toList.drop 46 = dktX5_pick_2 := dk_seg dksX5_pick_1 22 rfl rfl
theorem dksX5_pick_3 : cX5_pick.data.toList.drop 68 = dktX5_pick_3 := dk_seg dksX5_pick_2 22 rfl rfl
theorem dksX5_pick_4 : cX5_pick.data.toList.drop 91 = dktX5_pick_4 := dk_seg dksX5_pick_3 23 rfl rfl
theorem dX5_pick_0 : decode cX5_pick 0 = .ok (.aload_n 0, 1) := dk_42 (dk_at dksX5_pick_0 0 rfl rfl)
theorem dX5_pick_1 : decode cX5_pick 1 = .ok (.dup, 1) := dk_89 (dk_at dksX5_pick_0 1 rfl rfl)
theorem dX5_pick_2 : decode cX5_pick 2 = .ok (.getfield 243, 3) := dk_180 0 243 (dk_at dksX5_pick_0 2 rfl rfl)
theorem dX5_pick_5 : decode cX5_pick 5 = .ok (.iconst 2, 1) := dk_5 (dk_at dksX5_pick_0 5 rfl rfl)
theorem dX5_pick_6 : decode cX5_pick 6 = .ok (.isub, 1) := dk_100 (dk_at dksX5_pick_0 6 rfl rfl)
theorem dX5_pick_7 : decode cX5_pick 7 = .ok (.putfield 243, 3) := dk_181 0 243 (dk_at dksX5_pick_0 7 rfl rfl)
theorem dX5_pick_10 : decode cX5_pick 10 = .ok (.aload_n 0, 1) := dk_42 (dk_at dksX5_pick_0 10 rfl rfl)
theorem dX5_pick_11 : decode cX5_pick 11 = .ok (.getfield 96, 3) := dk_180 0 96 (dk_at dksX5_pick_0 11 rfl rfl)
theorem dX5_pick_14 : decode cX5_pick 14 = .ok (.aload_n 0, 1) := dk_42 (dk_at dksX5_pick_0 14 rfl rfl)
theorem dX5_pick_15 : decode cX5_pick 15 = .ok (.getfield 243, 3) := dk_180 0 243 (dk_at dksX5_pick_0 15 rfl rfl)
theorem dX5_pick_18 : decode cX5_pick 18 = .ok (.iconst 1, 1) := dk_4 (dk_at dksX5_pick_0 18 rfl rfl)
theorem dX5_pick_19 : decode cX5_pick 19 = .ok (.isub, 1) := dk_100 (dk_at dksX5_pick_0 19 rfl rfl)
theorem dX5_pick_20 : decode cX5_pick 20 = .ok (.iaload, 1) := dk_46 (dk_at dksX5_pick_0 20 rfl rfl)
theorem dX5_pick_21 : decode cX5_pick 21 = .ok (.ifCond .eq 12, 3) := dk_153 0 12 (dk_at dksX5_pick_0 21 rfl rfl)
theorem dX5_pick_24 : decode cX5_pick 24 = .ok (.aload_n 0, 1) := dk_42 (dk_at dksX5_pick_1 0 rfl rfl)
theorem dX5_pick_25 : decode cX5_pick 25 = .ok (.getfield 243, 3) := dk_180 0 243 (dk_at dksX5_pick_1 1 rfl rfl)
theorem dX5_pick_28 : decode cX5_pick 28 = .ok (.iconst 1, 1) := dk_4 (dk_at dksX5_pick_1 4 rfl rfl)
theorem dX5_pick_29 : decode cX5_pick 29 = .ok (.isub, 1) := dk_100 (dk_at dksX5_pick_1 5 rfl rfl)
theorem dX5_pick_30 : decode cX5_pick 30 = .ok (.goto 32, 3) := dk_167 0 32 (dk_at dksX5_pick_1 6 rfl rfl)
theorem dX5_pick_33 : decode cX5_pick 33 = .ok (.aload_n 0, 1) := dk_42 (dk_at dksX5_pick_1 9 rfl rfl)
theorem dX5_pick_34 : decode cX5_pick 34 = .ok (.getfield 93, 3) := dk_180 0 93 (dk_at dksX5_pick_1 10 rfl rfl)
theorem dX5_pick_37 : decode cX5_pick 37 = .ok (.aload_n 0, 1) := dk_42 (dk_at dksX5_pick_1 13 rfl rfl)
theorem dX5_pick_38 : decode cX5_pick 38 = .ok (.getfield 243, 3) := dk_180 0 243 (dk_at dksX5_pick_1 14 rfl rfl)
theorem dX5_pick_41 : decode cX5_pick 41 = .ok (.iconst 1, 1) := dk_4 (dk_at dksX5_pick_1 17 rfl rfl)
theorem dX5_pick_42 : decode cX5_pick 42 = .ok (.isub, 1) := dk_100 (dk_at dksX5_pick_1 18 rfl rfl)
theorem dX5_pick_43 : decode cX5_pick 43 = .ok (.daload, 1) := dk_49 (dk_at dksX5_pick_1 19 rfl rfl)
theorem dX5_pick_44 : decode cX5_pick 44 = .ok (.dconst 0, 1) := dk_14 (dk_at dksX5_pick_1 20 rfl rfl)
theorem dX5_pick_45 : decode cX5_pick 45 = .ok (.dcmp .l, 1) := dk_151 (dk_at dksX5_pick_1 21 rfl rfl)
theorem dX5_pick_46 : decode cX5_pick 46 = .ok (.ifCond .eq 10, 3) := dk_153 0 10 (dk_at dksX5_pick_2 0 rfl rfl)
theorem dX5_pick_49 : decode cX5_pick 49 = .ok (.aload_n 0, 1) := dk_42 (dk_at dksX5_pick_2 3 rfl rfl)
theorem dX5_pick_50 : decode cX5_pick 50 = .ok (.getfield 243, 3) := dk_180 0 243 (dk_at dksX5_pick_2 4 rfl rfl)
theorem dX5_pick_53 : decode cX5_pick 53 = .ok (.goto 9, 3) := dk_167 0 9 (dk_at dksX5_pick_2 7 rfl rfl)
theorem dX5_pick_56 : decode cX5_pick 56 = .ok (.aload_n 0, 1) := dk_42 (dk_at dksX5_pick_2 10 rfl rfl)
theorem dX5_pick_57 : decode cX5_pick 57 = .ok (.getfield 243, 3) := dk_180 0 243 (dk_at dksX5_pick_2 11 rfl rfl)
theorem dX5_pick_60 : decode cX5_pick 60 = .ok (.iconst 1, 1) := dk_4 (dk_at dksX5_pick_2 14 rfl rfl)
theorem dX5_pick_61 : decode cX5_pick 61 = .ok (.iadd, 1) := dk_96 (dk_at dksX5_pick_2 15 rfl rfl)
theorem dX5_pick_62 : decode cX5_pick 62 = .ok (.istore_n 1, 1) := dk_60 (dk_at dksX5_pick_2 16 rfl rfl)
theorem dX5_pick_63 : decode cX5_pick 63 = .ok (.aload_n 0, 1) := dk_42 (dk_at dksX5_pick_2 17 rfl rfl)
theorem dX5_pick_64 : decode cX5_pick 64 = .ok (.getfield 93, 3) := dk_180 0 93 (dk_at dksX5_pick_2 18 rfl rfl)
theorem dX5_pick_67 : decode cX5_pick 67 = .ok (.aload_n 0, 1) := dk_42 (dk_at dksX5_pick_2 21 rfl rfl)
theorem dX5_pick_68 : decode cX5_pick 68 = .ok (.getfield 243, 3) := dk_180 0 243 (dk_at dksX5_pick_3 0 rfl rfl)
theorem dX5_pick_71 : decode cX5_pick 71 = .ok (.iconst 1, 1) := dk_4 (dk_at dksX5_pick_3 3 rfl rfl)
theorem dX5_pick_72 : decode cX5_pick 72 = .ok (.isub, 1) := dk_100 (dk_at dksX5_pick_3 4 rfl rfl)
theorem dX5_pick_73 : decode cX5_pick 73 = .ok (.aload_n 0, 1) := dk_42 (dk_at dksX5_pick_3 5 rfl rfl)
theorem dX5_pick_74 : decode cX5_pick 74 = .ok (.getfield 93, 3) := dk_180 0 93 (dk_at dksX5_pick_3 6 rfl rfl)
theorem dX5_pick_77 : decode cX5_pick 77 = .ok (.iload_n 1, 1) := dk_27 (dk_at dksX5_pick_3 9 rfl rfl)
theorem dX5_pick_78 : decode cX5_pick 78 = .ok (.daload, 1) := dk_49 (dk_at dksX5_pick_3 10 rfl rfl)
theorem dX5_pick_79 : decode cX5_pick 79 = .ok (.dastore, 1) := dk_82 (dk_at dksX5_pick_3 11 rfl rfl)
theorem dX5_pick_80 : decode cX5_pick 80 = .ok (.aload_n 0, 1) := dk_42 (dk_at dksX5_pick_3 12 rfl rfl)
theorem dX5_pick_81 : decode cX5_pick 81 = .ok (.getfield 96, 3) := dk_180 0 96 (dk_at dksX5_pick_3 13 rfl rfl)
theorem dX5_pick_84 : decode cX5_pick 84 = .ok (.aload_n 0, 1) := dk_42 (dk_at dksX5_pick_3 16 rfl rfl)
theorem dX5_pick_85 : decode cX5_pick 85 = .ok (.getfield 243, 3) := dk_180 0 243 (dk_at dksX5_pick_3 17 rfl rfl)
theorem dX5_pick_88 : decode cX5_pick 88 = .ok (.iconst 1, 1) := dk_4 (dk_at dksX5_pick_3 20 rfl rfl)
theorem dX5_pick_89 : decode cX5_pick 89 = .ok (.isub, 1) := dk_100 (dk_at dksX5_pick_3 21 rfl rfl)
theorem dX5_pick_90 : decode cX5_pick 90 = .ok (.aload_n 0, 1) := dk_42 (dk_at dksX5_pick_3 22 rfl rfl)
theorem dX5_pick_91 : decode cX5_pick 91 = .ok (.getfield 96, 3) := dk_180 0 96 (dk_at dksX5_pick_4 0 rfl rfl)
theorem dX5_pick_94 : decode cX5_pick 94 = .ok (.iload_n 1, 1) := dk_27 (dk_at dksX5_pick_4 3 rfl rfl)
theorem dX5_pick_95 : decode cX5_pick 95 = .ok (.iaload, 1) := dk_46 (dk_at dksX5_pick_4 4 rfl rfl)
theorem dX5_pick_96 : decode cX5_pick 96 = .ok (.iastore, 1) := dk_79 (dk_at dksX5_pick_4 5 rfl rfl)
theorem dX5_pick_97 : decode cX5_pick 97 = .ok (.aload_n 0, 1) := dk_42 (dk_at dksX5_pick_4 6 rfl rfl)
theorem dX5_pick_98 : decode cX5_pick 98 = .ok (.getfield 99, 3) := dk_180 0 99 (dk_at dksX5_pick_4 7 rfl rfl)
theorem dX5_pick_101 : decode cX5_pick 101 = .ok (.aload_n 0, 1) := dk_42 (dk_at dksX5_pick_4 10 rfl rfl)
theorem dX5_pick_102 : decode cX5_pick 102 = .ok (.getfield 243, 3) := dk_180 0 243 (dk_at dksX5_pick_4 11 rfl rfl)
theorem dX5_pick_105 : decode cX5_pick 105 = .ok (.iconst 1, 1) := dk_4 (dk_at dksX5_pick_4 14 rfl rfl)
theorem dX5_pick_106 : decode cX5_pick 106 = .ok (.isub, 1) := dk_100 (dk_at dksX5_pick_4 15 rfl rfl)
theorem dX5_pick_107 : decode cX5_pick 107 = .ok (.aload_n 0, 1) := dk_42 (dk_at dksX5_pick_4 16 rfl rfl)
theorem dX5_pick_108 : decode cX5_pick 108 = .ok (.getfield 99, 3) := dk_180 0 99 (dk_at dksX5_pick_4 17 rfl rfl)
theorem dX5_pick_111 : decode cX5_pick 111 = .ok (.iload_n 1, 1) := dk_27 (dk_at dksX5_pick_4 20 rfl rfl)
theorem dX5_pick_112 : decode cX5_pick 112 = .ok (.iaload, 1) := dk_46 (dk_at dksX5_pick_4 21 rfl rfl)
theorem dX5_pick_113 : decode cX5_pick 113 = .ok (.iastore, 1) := dk_79 (dk_at dksX5_pick_4 22 rfl rfl)
theorem dX5_pick_114 : decode cX5_pick 114 = .ok (.return_, 1) := dk_177 (dk_at dksX5_pick_4 23 rfl rfl)
abbrev cX5_two : ByteArray := prog_35_method_26_code
def yX5_two : MethodName := ⟨RX5, "two", "(II)V"⟩
def dkwX5_two_13 : List UInt8 := [156, 0, 17, 42, 180, 0, 96, 29, 6, 79, 42, 180, 0, 99, 29, 27, 79, 177]
abbrev dktX5_two_13 : List UInt8 := dkwX5_two_13 ++ []
def dkwX5_two_12 : List UInt8 := [29, 24, 8, 82, 28, 7, 163, 0, 35, 24, 8, 20, 1, 19, 151, 157, 0, 12, 24, 8, 20, 1, 21, 152]
abbrev dktX5_two_12 : List UInt8 := dkwX5_two_12 ++ dktX5_two_13
def dkwX5_two_11 : List UInt8 := [167, 0, 18, 24, 6, 24, 4, 151, 158, 0, 8, 24, 6, 167, 0, 5, 24, 4, 57, 8, 42, 180, 0, 93]
abbrev dktX5_two_11 : List UInt8 := dkwX5_two_11 ++ dktX5_two_12
def dkwX5_two_10 : List UInt8 := [167, 0, 42, 28, 16, 8, 160, 0, 21, 24, 6, 24, 4, 152, 156, 0, 8, 24, 6, 167, 0, 23, 24, 4]
abbrev dktX5_two_10 : List UInt8 := dkwX5_two_10 ++ dktX5_two_11
def dkwX5_two_9 : List UInt8 := [167, 0, 64, 28, 16, 7, 160, 0, 19, 24, 4, 24, 6, 151, 154, 0, 7, 15, 167, 0, 46, 14]
abbrev dktX5_two_9 : List UInt8 := dkwX5_two_9 ++ dktX5_two_10
def dkwX5_two_8 : List UInt8 := [167, 0, 86, 28, 16, 6, 160, 0, 19, 24, 4, 24, 6, 152, 156, 0, 7, 15, 167, 0, 68, 14]
abbrev dktX5_two_8 : List UInt8 := dkwX5_two_8 ++ dktX5_two_9
def dkwX5_two_7 : List UInt8 := [28, 7, 160, 0, 11, 24, 4, 24, 6, 111, 167, 0, 99, 28, 8, 160, 0, 11, 24, 4, 24, 6, 115]
abbrev dktX5_two_7 : List UInt8 := dkwX5_two_7 ++ dktX5_two_8
def dkwX5_two_6 : List UInt8 := [160, 0, 11, 24, 4, 24, 6, 103, 167, 0, 125, 28, 6, 160, 0, 11, 24, 4, 24, 6, 107, 167, 0, 112]
abbrev dktX5_two_6 : List UInt8 := dkwX5_two_6 ++ dktX5_two_7
def dkwX5_two_5 : List UInt8 := [180, 0, 99, 29, 27, 79, 177, 28, 4, 160, 0, 11, 24, 4, 24, 6, 99, 167, 0, 138, 28, 5]
abbrev dktX5_two_5 : List UInt8 := dkwX5_two_5 ++ dktX5_two_6
def dkwX5_two_4 : List UInt8 := [159, 0, 8, 28, 8, 160, 0, 25, 24, 6, 14, 151, 154, 0, 18, 42, 180, 0, 96, 29, 5, 79, 42]
abbrev dktX5_two_4 : List UInt8 := dkwX5_two_4 ++ dktX5_two_5
def dkwX5_two_3 : List UInt8 := [177, 42, 180, 0, 93, 29, 49, 57, 4, 42, 180, 0, 93, 42, 180, 0, 243, 49, 57, 6, 28, 7]
abbrev dktX5_two_3 : List UInt8 := dkwX5_two_3 ++ dktX5_two_4
def dkwX5_two_2 : List UInt8 := [180, 0, 96, 42, 180, 0, 243, 46, 79, 42, 180, 0, 99, 29, 42, 180, 0, 99, 42, 180, 0, 243, 46, 79]
abbrev dktX5_two_2 : List UInt8 := dkwX5_two_2 ++ dktX5_two_3
def dkwX5_two_1 : List UInt8 := [153, 0, 4, 177, 42, 180, 0, 96, 42, 180, 0, 243, 46, 153, 0, 34, 42, 180, 0, 96, 29, 42]
abbrev dktX5_two_1 : List UInt8 := dkwX5_two_1 ++ dktX5_two_2
def dkwX5_two_0 : List UInt8 := [42, 89, 180, 0, 243, 4, 100, 181, 0, 243, 42, 180, 0, 243, 4, 100, 62, 42, 180, 0, 96, 29, 46]
abbrev dktX5_two_0 : List UInt8 := dkwX5_two_0 ++ dktX5_two_1
theorem dksX5_two_0 : cX5_two.data.toList.drop 0 = dktX5_two_0 := by decide +kernel
theorem dksX5_two_1 : cX5_two.data.toList.drop 23 = dktX5_two_1 := dk_seg dksX5_two_0 23 rfl rfl
theorem dksX5_two_2 : cX5_two.data.toList.drop 45 = dktX5_two_2 := dk_seg dksX5_two_1 22 rfl rfl
theorem dksX5_two_3 : cX5_two.data.toList.drop 69 = dktX5_two_3 := dk_seg dksX5_two_2 24 rfl rfl
theorem dksX5_two_4 : cX5_two.data.toList.drop 91 = dktX5_two_4 := dk_seg dksX5_two_3 22 rfl rfl
theorem dksX5_two_5 : cX5_two.data.toList.drop 114 = dktX5_two_5 := dk_seg dksX5_two_4 23 rfl rfl
theorem dksX5_two_6 : cX5_two.data.toList.drop 136 = dktX5_two_6 := dk_seg dksX5_two_5 22 rfl rfl
theorem dksX5_two_7 : cX5_two.data.toList.drop 160 = dktX5_two_7 := dk_seg dksX5_two_6 24 rfl rfl
theorem dksX5_two_8 : cX5_two.data.toList.drop 183 = dktX5_two_8 := dk_seg dksX5_two_7 23 rfl rfl
theorem dksX5_two_9 : cX5_two.data.toList.drop 205 = dktX5_two_9 := dk_seg dksX5_two_8 22 rfl rfl
theorem dksX5_two_10 : cX5_two.data.toList.drop 227 = dktX5_two_10 := dk_seg dksX5_two_9 22 rfl rfl
theorem dksX5_two_11 : cX5_two.data.toList.drop 251 = dktX5_two_11 := dk_seg dksX5_two_10 24 rfl rfl
theorem dksX5_two_12 : cX5_two.data.toList.drop 275 = dktX5_two_12 := dk_seg dksX5_two_11 24 rfl rfl
theorem dksX5_two_13 : cX5_two.data.toList.drop 299 = dktX5_two_13 := dk_seg dksX5_two_12 24 rfl rfl
theorem dX5_two_0 : decode cX5_two 0 = .ok (.aload_n 0, 1) := dk_42 (dk_at dksX5_two_0 0 rfl rfl)
theorem dX5_two_1 : decode cX5_two 1 = .ok (.dup, 1) := dk_89 (dk_at dksX5_two_0 1 rfl rfl)
theorem dX5_two_2 : decode cX5_two 2 = .ok (.getfield 243, 3) := dk_180 0 243 (dk_at dksX5_two_0 2 rfl rfl)
theorem dX5_two_5 : decode cX5_two 5 = .ok (.iconst 1, 1) := dk_4 (dk_at dksX5_two_0 5 rfl rfl)
theorem dX5_two_6 : decode cX5_two 6 = .ok (.isub, 1) := dk_100 (dk_at dksX5_two_0 6 rfl rfl)
theorem dX5_two_7 : decode cX5_two 7 = .ok (.putfield 243, 3) := dk_181 0 243 (dk_at dksX5_two_0 7 rfl rfl)
theorem dX5_two_10 : decode cX5_two 10 = .ok (.aload_n 0, 1) := dk_42 (dk_at dksX5_two_0 10 rfl rfl)
theorem dX5_two_11 : decode cX5_two 11 = .ok (.getfield 243, 3) := dk_180 0 243 (dk_at dksX5_two_0 11 rfl rfl)
theorem dX5_two_14 : decode cX5_two 14 = .ok (.iconst 1, 1) := dk_4 (dk_at dksX5_two_0 14 rfl rfl)
theorem dX5_two_15 : decode cX5_two 15 = .ok (.isub, 1) := dk_100 (dk_at dksX5_two_0 15 rfl rfl)
theorem dX5_two_16 : decode cX5_two 16 = .ok (.istore_n 3, 1) := dk_62 (dk_at dksX5_two_0 16 rfl rfl)
theorem dX5_two_17 : decode cX5_two 17 = .ok (.aload_n 0, 1) := dk_42 (dk_at dksX5_two_0 17 rfl rfl)
theorem dX5_two_18 : decode cX5_two 18 = .ok (.getfield 96, 3) := dk_180 0 96 (dk_at dksX5_two_0 18 rfl rfl)
theorem dX5_two_21 : decode cX5_two 21 = .ok (.iload_n 3, 1) := dk_29 (dk_at dksX5_two_0 21 rfl rfl)
theorem dX5_two_22 : decode cX5_two 22 = .ok (.iaload, 1) := dk_46 (dk_at dksX5_two_0 22 rfl rfl)
theorem dX5_two_23 : decode cX5_two 23 = .ok (.ifCond .eq 4, 3) := dk_153 0 4 (dk_at dksX5_two_1 0 rfl rfl)
theorem dX5_two_26 : decode cX5_two 26 = .ok (.return_, 1) := dk_177 (dk_at dksX5_two_1 3 rfl rfl)
theorem dX5_two_27 : decode cX5_two 27 = .ok (.aload_n 0, 1) := dk_42 (dk_at dksX5_two_1 4 rfl rfl)
theorem dX5_two_28 : decode cX5_two 28 = .ok (.getfield 96, 3) := dk_180 0 96 (dk_at dksX5_two_1 5 rfl rfl)
theorem dX5_two_31 : decode cX5_two 31 = .ok (.aload_n 0, 1) := dk_42 (dk_at dksX5_two_1 8 rfl rfl)
theorem dX5_two_32 : decode cX5_two 32 = .ok (.getfield 243, 3) := dk_180 0 243 (dk_at dksX5_two_1 9 rfl rfl)
theorem dX5_two_35 : decode cX5_two 35 = .ok (.iaload, 1) := dk_46 (dk_at dksX5_two_1 12 rfl rfl)
theorem dX5_two_36 : decode cX5_two 36 = .ok (.ifCond .eq 34, 3) := dk_153 0 34 (dk_at dksX5_two_1 13 rfl rfl)
theorem dX5_two_39 : decode cX5_two 39 = .ok (.aload_n 0, 1) := dk_42 (dk_at dksX5_two_1 16 rfl rfl)
theorem dX5_two_40 : decode cX5_two 40 = .ok (.getfield 96, 3) := dk_180 0 96 (dk_at dksX5_two_1 17 rfl rfl)
theorem dX5_two_43 : decode cX5_two 43 = .ok (.iload_n 3, 1) := dk_29 (dk_at dksX5_two_1 20 rfl rfl)
theorem dX5_two_44 : decode cX5_two 44 = .ok (.aload_n 0, 1) := dk_42 (dk_at dksX5_two_1 21 rfl rfl)
theorem dX5_two_45 : decode cX5_two 45 = .ok (.getfield 96, 3) := dk_180 0 96 (dk_at dksX5_two_2 0 rfl rfl)
theorem dX5_two_48 : decode cX5_two 48 = .ok (.aload_n 0, 1) := dk_42 (dk_at dksX5_two_2 3 rfl rfl)
theorem dX5_two_49 : decode cX5_two 49 = .ok (.getfield 243, 3) := dk_180 0 243 (dk_at dksX5_two_2 4 rfl rfl)
theorem dX5_two_52 : decode cX5_two 52 = .ok (.iaload, 1) := dk_46 (dk_at dksX5_two_2 7 rfl rfl)
theorem dX5_two_53 : decode cX5_two 53 = .ok (.iastore, 1) := dk_79 (dk_at dksX5_two_2 8 rfl rfl)
theorem dX5_two_54 : decode cX5_two 54 = .ok (.aload_n 0, 1) := dk_42 (dk_at dksX5_two_2 9 rfl rfl)
theorem dX5_two_55 : decode cX5_two 55 = .ok (.getfield 99, 3) := dk_180 0 99 (dk_at dksX5_two_2 10 rfl rfl)
theorem dX5_two_58 : decode cX5_two 58 = .ok (.iload_n 3, 1) := dk_29 (dk_at dksX5_two_2 13 rfl rfl)
theorem dX5_two_59 : decode cX5_two 59 = .ok (.aload_n 0, 1) := dk_42 (dk_at dksX5_two_2 14 rfl rfl)
theorem dX5_two_60 : decode cX5_two 60 = .ok (.getfield 99, 3) := dk_180 0 99 (dk_at dksX5_two_2 15 rfl rfl)
theorem dX5_two_63 : decode cX5_two 63 = .ok (.aload_n 0, 1) := dk_42 (dk_at dksX5_two_2 18 rfl rfl)
theorem dX5_two_64 : decode cX5_two 64 = .ok (.getfield 243, 3) := dk_180 0 243 (dk_at dksX5_two_2 19 rfl rfl)
theorem dX5_two_67 : decode cX5_two 67 = .ok (.iaload, 1) := dk_46 (dk_at dksX5_two_2 22 rfl rfl)
theorem dX5_two_68 : decode cX5_two 68 = .ok (.iastore, 1) := dk_79 (dk_at dksX5_two_2 23 rfl rfl)
theorem dX5_two_69 : decode cX5_two 69 = .ok (.return_, 1) := dk_177 (dk_at dksX5_two_3 0 rfl rfl)
theorem dX5_two_70 : decode cX5_two 70 = .ok (.aload_n 0, 1) := dk_42 (dk_at dksX5_two_3 1 rfl rfl)
theorem dX5_two_71 : decode cX5_two 71 = .ok (.getfield 93, 3) := dk_180 0 93 (dk_at dksX5_two_3 2 rfl rfl)
theorem dX5_two_74 : decode cX5_two 74 = .ok (.iload_n 3, 1) := dk_29 (dk_at dksX5_two_3 5 rfl rfl)
theorem dX5_two_75 : decode cX5_two 75 = .ok (.daload, 1) := dk_49 (dk_at dksX5_two_3 6 rfl rfl)
theorem dX5_two_76 : decode cX5_two 76 = .ok (.dstore 4, 2) := dk_57 4 (dk_at dksX5_two_3 7 rfl rfl)
theorem dX5_two_78 : decode cX5_two 78 = .ok (.aload_n 0, 1) := dk_42 (dk_at dksX5_two_3 9 rfl rfl)
theorem dX5_two_79 : decode cX5_two 79 = .ok (.getfield 93, 3) := dk_180 0 93 (dk_at dksX5_two_3 10 rfl rfl)
theorem dX5_two_82 : decode cX5_two 82 = .ok (.aload_n 0, 1) := dk_42 (dk_at dksX5_two_3 13 rfl rfl)
theorem dX5_two_83 : decode cX5_two 83 = .ok (.getfield 243, 3) := dk_180 0 243 (dk_at dksX5_two_3 14 rfl rfl)
theorem dX5_two_86 : decode cX5_two 86 = .ok (.daload, 1) := dk_49 (dk_at dksX5_two_3 17 rfl rfl)
theorem dX5_two_87 : decode cX5_two 87 = .ok (.dstore 6, 2) := dk_57 6 (dk_at dksX5_two_3 18 rfl rfl)
theorem dX5_two_89 : decode cX5_two 89 = .ok (.iload_n 2, 1) := dk_28 (dk_at dksX5_two_3 20 rfl rfl)
theorem dX5_two_90 : decode cX5_two 90 = .ok (.iconst 4, 1) := dk_7 (dk_at dksX5_two_3 21 rfl rfl)
theorem dX5_two_91 : decode cX5_two 91 = .ok (.if_icmp .eq 8, 3) := dk_159 0 8 (dk_at dksX5_two_4 0 rfl rfl)
theorem dX5_two_94 : decode cX5_two 94 = .ok (.iload_n 2, 1) := dk_28 (dk_at dksX5_two_4 3 rfl rfl)
theorem dX5_two_95 : decode cX5_two 95 = .ok (.iconst 5, 1) := dk_8 (dk_at dksX5_two_4 4 rfl rfl)
theorem dX5_two_96 : decode cX5_two 96 = .ok (.if_icmp .ne 25, 3) := dk_160 0 25 (dk_at dksX5_two_4 5 rfl rfl)
theorem dX5_two_99 : decode cX5_two 99 = .ok (.dload 6, 2) := dk_24 6 (dk_at dksX5_two_4 8 rfl rfl)
theorem dX5_two_101 : decode cX5_two 101 = .ok (.dconst 0, 1) := dk_14 (dk_at dksX5_two_4 10 rfl rfl)
theorem dX5_two_102 : decode cX5_two 102 = .ok (.dcmp .l, 1) := dk_151 (dk_at dksX5_two_4 11 rfl rfl)
theorem dX5_two_103 : decode cX5_two 103 = .ok (.ifCond .ne 18, 3) := dk_154 0 18 (dk_at dksX5_two_4 12 rfl rfl)
theorem dX5_two_106 : decode cX5_two 106 = .ok (.aload_n 0, 1) := dk_42 (dk_at dksX5_two_4 15 rfl rfl)
theorem dX5_two_107 : decode cX5_two 107 = .ok (.getfield 96, 3) := dk_180 0 96 (dk_at dksX5_two_4 16 rfl rfl)
theorem dX5_two_110 : decode cX5_two 110 = .ok (.iload_n 3, 1) := dk_29 (dk_at dksX5_two_4 19 rfl rfl)
theorem dX5_two_111 : decode cX5_two 111 = .ok (.iconst 2, 1) := dk_5 (dk_at dksX5_two_4 20 rfl rfl)
theorem dX5_two_112 : decode cX5_two 112 = .ok (.iastore, 1) := dk_79 (dk_at dksX5_two_4 21 rfl rfl)
theorem dX5_two_113 : decode cX5_two 113 = .ok (.aload_n 0, 1) := dk_42 (dk_at dksX5_two_4 22 rfl rfl)
theorem dX5_two_114 : decode cX5_two 114 = .ok (.getfield 99, 3) := dk_180 0 99 (dk_at dksX5_two_5 0 rfl rfl)
theorem dX5_two_117 : decode cX5_two 117 = .ok (.iload_n 3, 1) := dk_29 (dk_at dksX5_two_5 3 rfl rfl)
theorem dX5_two_118 : decode cX5_two 118 = .ok (.iload_n 1, 1) := dk_27 (dk_at dksX5_two_5 4 rfl rfl)
theorem dX5_two_119 : decode cX5_two 119 = .ok (.iastore, 1) := dk_79 (dk_at dksX5_two_5 5 rfl rfl)
theorem dX5_two_120 : decode cX5_two 120 = .ok (.return_, 1) := dk_177 (dk_at dksX5_two_5 6 rfl rfl)
theorem dX5_two_121 : decode cX5_two 121 = .ok (.iload_n 2, 1) := dk_28 (dk_at dksX5_two_5 7 rfl rfl)
theorem dX5_two_122 : decode cX5_two 122 = .ok (.iconst 1, 1) := dk_4 (dk_at dksX5_two_5 8 rfl rfl)
theorem dX5_two_123 : decode cX5_two 123 = .ok (.if_icmp .ne 11, 3) := dk_160 0 11 (dk_at dksX5_two_5 9 rfl rfl)
theorem dX5_two_126 : decode cX5_two 126 = .ok (.dload 4, 2) := dk_24 4 (dk_at dksX5_two_5 12 rfl rfl)
theorem dX5_two_128 : decode cX5_two 128 = .ok (.dload 6, 2) := dk_24 6 (dk_at dksX5_two_5 14 rfl rfl)
theorem dX5_two_130 : decode cX5_two 130 = .ok (.dadd, 1) := dk_99 (dk_at dksX5_two_5 16 rfl rfl)
theorem dX5_two_131 : decode cX5_two 131 = .ok (.goto 138, 3) := dk_167 0 138 (dk_at dksX5_two_5 17 rfl rfl)
theorem dX5_two_134 : decode cX5_two 134 = .ok (.iload_n 2, 1) := dk_28 (dk_at dksX5_two_5 20 rfl rfl)
theorem dX5_two_135 : decode cX5_two 135 = .ok (.iconst 2, 1) := dk_5 (dk_at dksX5_two_5 21 rfl rfl)
theorem dX5_two_136 : decode cX5_two 136 = .ok (.if_icmp .ne 11, 3) := dk_160 0 11 (dk_at dksX5_two_6 0 rfl rfl)
theorem dX5_two_139 : decode cX5_two 139 = .ok (.dload 4, 2) := dk_24 4 (dk_at dksX5_two_6 3 rfl rfl)
theorem dX5_two_141 : decode cX5_two 141 = .ok (.dload 6, 2) := dk_24 6 (dk_at dksX5_two_6 5 rfl rfl)
theorem dX5_two_143 : decode cX5_two 143 = .ok (.dsub, 1) := dk_103 (dk_at dksX5_two_6 7 rfl rfl)
theorem dX5_two_144 : decode cX5_two 144 = .ok (.goto 125, 3) := dk_167 0 125 (dk_at dksX5_two_6 8 rfl rfl)
theorem dX5_two_147 : decode cX5_two 147 = .ok (.iload_n 2, 1) := dk_28 (dk_at dksX5_two_6 11 rfl rfl)
theorem dX5_two_148 : decode cX5_two 148 = .ok (.iconst 3, 1) := dk_6 (dk_at dksX5_two_6 12 rfl rfl)
theorem dX5_two_149 : decode cX5_two 149 = .ok (.if_icmp .ne 11, 3) := dk_160 0 11 (dk_at dksX5_two_6 13 rfl rfl)
theorem dX5_two_152 : decode cX5_two 152 = .ok (.dload 4, 2) := dk_24 4 (dk_at dksX5_two_6 16 rfl rfl)
theorem dX5_two_154 : decode cX5_two 154 = .ok (.dload 6, 2) := dk_24 6 (dk_at dksX5_two_6 18 rfl rfl)
theorem dX5_two_156 : decode cX5_two 156 = .ok (.dmul, 1) := dk_107 (dk_at dksX5_two_6 20 rfl rfl)
theorem dX5_two_157 : decode cX5_two 157 = .ok (.goto 112, 3) := dk_167 0 112 (dk_at dksX5_two_6 21 rfl rfl)
theorem dX5_two_160 : decode cX5_two 160 = .ok (.iload_n 2, 1) := dk_28 (dk_at dksX5_two_7 0 rfl rfl)
theorem dX5_two_161 : decode cX5_two 161 = .ok (.iconst 4, 1) := dk_7 (dk_at dksX5_two_7 1 rfl rfl)
theorem dX5_two_162 : decode cX5_two 162 = .ok (.if_icmp .ne 11, 3) := dk_160 0 11 (dk_at dksX5_two_7 2 rfl rfl)
theorem dX5_two_165 : decode cX5_two 165 = .ok (.dload 4, 2) := dk_24 4 (dk_at dksX5_two_7 5 rfl rfl)
theorem dX5_two_167 : decode cX5_two 167 = .ok (.dload 6, 2) := dk_24 6 (dk_at dksX5_two_7 7 rfl rfl)
theorem dX5_two_169 : decode cX5_two 169 = .ok (.ddiv, 1) := dk_111 (dk_at dksX5_two_7 9 rfl rfl)
theorem dX5_two_170 : decode cX5_two 170 = .ok (.goto 99, 3) := dk_167 0 99 (dk_at dksX5_two_7 10 rfl rfl)
theorem dX5_two_173 : decode cX5_two 173 = .ok (.iload_n 2, 1) := dk_28 (dk_at dksX5_two_7 13 rfl rfl)
theorem dX5_two_174 : decode cX5_two 174 = .ok (.iconst 5, 1) := dk_8 (dk_at dksX5_two_7 14 rfl rfl)
theorem dX5_two_175 : decode cX5_two 175 = .ok (.if_icmp .ne 11, 3) := dk_160 0 11 (dk_at dksX5_two_7 15 rfl rfl)
theorem dX5_two_178 : decode cX5_two 178 = .ok (.dload 4, 2) := dk_24 4 (dk_at dksX5_two_7 18 rfl rfl)
theorem dX5_two_180 : decode cX5_two 180 = .ok (.dload 6, 2) := dk_24 6 (dk_at dksX5_two_7 20 rfl rfl)
theorem dX5_two_182 : decode cX5_two 182 = .ok (.drem, 1) := dk_115 (dk_at dksX5_two_7 22 rfl rfl)
theorem dX5_two_183 : decode cX5_two 183 = .ok (.goto 86, 3) := dk_167 0 86 (dk_at dksX5_two_8 0 rfl rfl)
theorem dX5_two_186 : decode cX5_two 186 = .ok (.iload_n 2, 1) := dk_28 (dk_at dksX5_two_8 3 rfl rfl)
theorem dX5_two_187 : decode cX5_two 187 = .ok (.bipush 6, 2) := dk_16 6 (dk_at dksX5_two_8 4 rfl rfl)
theorem dX5_two_189 : decode cX5_two 189 = .ok (.if_icmp .ne 19, 3) := dk_160 0 19 (dk_at dksX5_two_8 6 rfl rfl)
theorem dX5_two_192 : decode cX5_two 192 = .ok (.dload 4, 2) := dk_24 4 (dk_at dksX5_two_8 9 rfl rfl)
theorem dX5_two_194 : decode cX5_two 194 = .ok (.dload 6, 2) := dk_24 6 (dk_at dksX5_two_8 11 rfl rfl)
theorem dX5_two_196 : decode cX5_two 196 = .ok (.dcmp .g, 1) := dk_152 (dk_at dksX5_two_8 13 rfl rfl)
theorem dX5_two_197 : decode cX5_two 197 = .ok (.ifCond .ge 7, 3) := dk_156 0 7 (dk_at dksX5_two_8 14 rfl rfl)
theorem dX5_two_200 : decode cX5_two 200 = .ok (.dconst 1, 1) := dk_15 (dk_at dksX5_two_8 17 rfl rfl)
theorem dX5_two_201 : decode cX5_two 201 = .ok (.goto 68, 3) := dk_167 0 68 (dk_at dksX5_two_8 18 rfl rfl)
theorem dX5_two_204 : decode cX5_two 204 = .ok (.dconst 0, 1) := dk_14 (dk_at dksX5_two_8 21 rfl rfl)
theorem dX5_two_205 : decode cX5_two 205 = .ok (.goto 64, 3) := dk_167 0 64 (dk_at dksX5_two_9 0 rfl rfl)
theorem dX5_two_208 : decode cX5_two 208 = .ok (.iload_n 2, 1) := dk_28 (dk_at dksX5_two_9 3 rfl rfl)
theorem dX5_two_209 : decode cX5_two 209 = .ok (.bipush 7, 2) := dk_16 7 (dk_at dksX5_two_9 4 rfl rfl)
theorem dX5_two_211 : decode cX5_two 211 = .ok (.if_icmp .ne 19, 3) := dk_160 0 19 (dk_at dksX5_two_9 6 rfl rfl)
theorem dX5_two_214 : decode cX5_two 214 = .ok (.dload 4, 2) := dk_24 4 (dk_at dksX5_two_9 9 rfl rfl)
theorem dX5_two_216 : decode cX5_two 216 = .ok (.dload 6, 2) := dk_24 6 (dk_at dksX5_two_9 11 rfl rfl)
theorem dX5_two_218 : decode cX5_two 218 = .ok (.dcmp .l, 1) := dk_151 (dk_at dksX5_two_9 13 rfl rfl)
theorem dX5_two_219 : decode cX5_two 219 = .ok (.ifCond .ne 7, 3) := dk_154 0 7 (dk_at dksX5_two_9 14 rfl rfl)
theorem dX5_two_222 : decode cX5_two 222 = .ok (.dconst 1, 1) := dk_15 (dk_at dksX5_two_9 17 rfl rfl)
theorem dX5_two_223 : decode cX5_two 223 = .ok (.goto 46, 3) := dk_167 0 46 (dk_at dksX5_two_9 18 rfl rfl)
theorem dX5_two_226 : decode cX5_two 226 = .ok (.dconst 0, 1) := dk_14 (dk_at dksX5_two_9 21 rfl rfl)
theorem dX5_two_227 : decode cX5_two 227 = .ok (.goto 42, 3) := dk_167 0 42 (dk_at dksX5_two_10 0 rfl rfl)
theorem dX5_two_230 : decode cX5_two 230 = .ok (.iload_n 2, 1) := dk_28 (dk_at dksX5_two_10 3 rfl rfl)
theorem dX5_two_231 : decode cX5_two 231 = .ok (.bipush 8, 2) := dk_16 8 (dk_at dksX5_two_10 4 rfl rfl)
theorem dX5_two_233 : decode cX5_two 233 = .ok (.if_icmp .ne 21, 3) := dk_160 0 21 (dk_at dksX5_two_10 6 rfl rfl)
theorem dX5_two_236 : decode cX5_two 236 = .ok (.dload 6, 2) := dk_24 6 (dk_at dksX5_two_10 9 rfl rfl)
theorem dX5_two_238 : decode cX5_two 238 = .ok (.dload 4, 2) := dk_24 4 (dk_at dksX5_two_10 11 rfl rfl)
theorem dX5_two_240 : decode cX5_two 240 = .ok (.dcmp .g, 1) := dk_152 (dk_at dksX5_two_10 13 rfl rfl)
theorem dX5_two_241 : decode cX5_two 241 = .ok (.ifCond .ge 8, 3) := dk_156 0 8 (dk_at dksX5_two_10 14 rfl rfl)
theorem dX5_two_244 : decode cX5_two 244 = .ok (.dload 6, 2) := dk_24 6 (dk_at dksX5_two_10 17 rfl rfl)
theorem dX5_two_246 : decode cX5_two 246 = .ok (.goto 23, 3) := dk_167 0 23 (dk_at dksX5_two_10 19 rfl rfl)
theorem dX5_two_249 : decode cX5_two 249 = .ok (.dload 4, 2) := dk_24 4 (dk_at dksX5_two_10 22 rfl rfl)
theorem dX5_two_251 : decode cX5_two 251 = .ok (.goto 18, 3) := dk_167 0 18 (dk_at dksX5_two_11 0 rfl rfl)
theorem dX5_two_254 : decode cX5_two 254 = .ok (.dload 6, 2) := dk_24 6 (dk_at dksX5_two_11 3 rfl rfl)
theorem dX5_two_256 : decode cX5_two 256 = .ok (.dload 4, 2) := dk_24 4 (dk_at dksX5_two_11 5 rfl rfl)
theorem dX5_two_258 : decode cX5_two 258 = .ok (.dcmp .l, 1) := dk_151 (dk_at dksX5_two_11 7 rfl rfl)
theorem dX5_two_259 : decode cX5_two 259 = .ok (.ifCond .le 8, 3) := dk_158 0 8 (dk_at dksX5_two_11 8 rfl rfl)
theorem dX5_two_262 : decode cX5_two 262 = .ok (.dload 6, 2) := dk_24 6 (dk_at dksX5_two_11 11 rfl rfl)
theorem dX5_two_264 : decode cX5_two 264 = .ok (.goto 5, 3) := dk_167 0 5 (dk_at dksX5_two_11 13 rfl rfl)
theorem dX5_two_267 : decode cX5_two 267 = .ok (.dload 4, 2) := dk_24 4 (dk_at dksX5_two_11 16 rfl rfl)
theorem dX5_two_269 : decode cX5_two 269 = .ok (.dstore 8, 2) := dk_57 8 (dk_at dksX5_two_11 18 rfl rfl)
theorem dX5_two_271 : decode cX5_two 271 = .ok (.aload_n 0, 1) := dk_42 (dk_at dksX5_two_11 20 rfl rfl)
theorem dX5_two_272 : decode cX5_two 272 = .ok (.getfield 93, 3) := dk_180 0 93 (dk_at dksX5_two_11 21 rfl rfl)
theorem dX5_two_275 : decode cX5_two 275 = .ok (.iload_n 3, 1) := dk_29 (dk_at dksX5_two_12 0 rfl rfl)
theorem dX5_two_276 : decode cX5_two 276 = .ok (.dload 8, 2) := dk_24 8 (dk_at dksX5_two_12 1 rfl rfl)
theorem dX5_two_278 : decode cX5_two 278 = .ok (.dastore, 1) := dk_82 (dk_at dksX5_two_12 3 rfl rfl)
theorem dX5_two_279 : decode cX5_two 279 = .ok (.iload_n 2, 1) := dk_28 (dk_at dksX5_two_12 4 rfl rfl)
theorem dX5_two_280 : decode cX5_two 280 = .ok (.iconst 4, 1) := dk_7 (dk_at dksX5_two_12 5 rfl rfl)
theorem dX5_two_281 : decode cX5_two 281 = .ok (.if_icmp .gt 35, 3) := dk_163 0 35 (dk_at dksX5_two_12 6 rfl rfl)
theorem dX5_two_284 : decode cX5_two 284 = .ok (.dload 8, 2) := dk_24 8 (dk_at dksX5_two_12 9 rfl rfl)
theorem dX5_two_286 : decode cX5_two 286 = .ok (.ldc2_w 275, 3) := dk_20 1 19 (dk_at dksX5_two_12 11 rfl rfl)
theorem dX5_two_289 : decode cX5_two 289 = .ok (.dcmp .l, 1) := dk_151 (dk_at dksX5_two_12 14 rfl rfl)
theorem dX5_two_290 : decode cX5_two 290 = .ok (.ifCond .gt 12, 3) := dk_157 0 12 (dk_at dksX5_two_12 15 rfl rfl)
theorem dX5_two_293 : decode cX5_two 293 = .ok (.dload 8, 2) := dk_24 8 (dk_at dksX5_two_12 18 rfl rfl)
theorem dX5_two_295 : decode cX5_two 295 = .ok (.ldc2_w 277, 3) := dk_20 1 21 (dk_at dksX5_two_12 20 rfl rfl)
theorem dX5_two_298 : decode cX5_two 298 = .ok (.dcmp .g, 1) := dk_152 (dk_at dksX5_two_12 23 rfl rfl)
theorem dX5_two_299 : decode cX5_two 299 = .ok (.ifCond .ge 17, 3) := dk_156 0 17 (dk_at dksX5_two_13 0 rfl rfl)
theorem dX5_two_302 : decode cX5_two 302 = .ok (.aload_n 0, 1) := dk_42 (dk_at dksX5_two_13 3 rfl rfl)
theorem dX5_two_303 : decode cX5_two 303 = .ok (.getfield 96, 3) := dk_180 0 96 (dk_at dksX5_two_13 4 rfl rfl)
theorem dX5_two_306 : decode cX5_two 306 = .ok (.iload_n 3, 1) := dk_29 (dk_at dksX5_two_13 7 rfl rfl)
theorem dX5_two_307 : decode cX5_two 307 = .ok (.iconst 3, 1) := dk_6 (dk_at dksX5_two_13 8 rfl rfl)
theorem dX5_two_308 : decode cX5_two 308 = .ok (.iastore, 1) := dk_79 (dk_at dksX5_two_13 9 rfl rfl)
theorem dX5_two_309 : decode cX5_two 309 = .ok (.aload_n 0, 1) := dk_42 (dk_at dksX5_two_13 10 rfl rfl)
theorem dX5_two_310 : decode cX5_two 310 = .ok (.getfield 99, 3) := dk_180 0 99 (dk_at dksX5_two_13 11 rfl rfl)
theorem dX5_two_313 : decode cX5_two 313 = .ok (.iload_n 3, 1) := dk_29 (dk_at dksX5_two_13 14 rfl rfl)
theorem dX5_two_314 : decode cX5_two 314 = .ok (.iload_n 1, 1) := dk_27 (dk_at dksX5_two_13 15 rfl rfl)
theorem dX5_two_315 : decode cX5_two 315 = .ok (.iastore, 1) := dk_79 (dk_at dksX5_two_13 16 rfl rfl)
theorem dX5_two_316 : decode cX5_two 316 = .ok (.return_, 1) := dk_177 (dk_at dksX5_two_13 17 rfl rfl)
abbrev cX5_value : ByteArray := prog_35_method_39_code
def yX5_value : MethodName := ⟨RX5, "value", "(I)J"⟩
def dkwX5_value_1 : List UInt8 := [184, 1, 79, 173]
abbrev dktX5_value_1 : List UInt8 := dkwX5_value_1 ++ []
def dkwX5_value_0 : List UInt8 := [27, 184, 1, 56, 154, 0, 7, 20, 1, 70, 173, 42, 27, 182, 1, 72, 73, 40, 42, 27, 182, 1, 76]
abbrev dktX5_value_0 : List UInt8 := dkwX5_value_0 ++ dktX5_value_1
theorem dksX5_value_0 : cX5_value.data.toList.drop 0 = dktX5_value_0 := by decide +kernel
theorem dksX5_value_1 : cX5_value.data.toList.drop 23 = dktX5_value_1 := dk_seg dksX5_value_0 23 rfl rfl
theorem dX5_value_0 : decode cX5_value 0 = .ok (.iload_n 1, 1) := dk_27 (dk_at dksX5_value_0 0 rfl rfl)
theorem dX5_value_1 : decode cX5_value 1 = .ok (.invokestatic 312, 3) := dk_184 1 56 (dk_at dksX5_value_0 1 rfl rfl)
theorem dX5_value_4 : decode cX5_value 4 = .ok (.ifCond .ne 7, 3) := dk_154 0 7 (dk_at dksX5_value_0 4 rfl rfl)
theorem dX5_value_7 : decode cX5_value 7 = .ok (.ldc2_w 326, 3) := dk_20 1 70 (dk_at dksX5_value_0 7 rfl rfl)
theorem dX5_value_10 : decode cX5_value 10 = .ok (.lreturn, 1) := dk_173 (dk_at dksX5_value_0 10 rfl rfl)
theorem dX5_value_11 : decode cX5_value 11 = .ok (.aload_n 0, 1) := dk_42 (dk_at dksX5_value_0 11 rfl rfl)
theorem dX5_value_12 : decode cX5_value 12 = .ok (.iload_n 1, 1) := dk_27 (dk_at dksX5_value_0 12 rfl rfl)
theorem dX5_value_13 : decode cX5_value 13 = .ok (.invokevirtual 328, 3) := dk_182 1 72 (dk_at dksX5_value_0 13 rfl rfl)
theorem dX5_value_16 : decode cX5_value 16 = .ok (.dstore_n 2, 1) := dk_73 (dk_at dksX5_value_0 16 rfl rfl)
theorem dX5_value_17 : decode cX5_value 17 = .ok (.dload_n 2, 1) := dk_40 (dk_at dksX5_value_0 17 rfl rfl)
theorem dX5_value_18 : decode cX5_value 18 = .ok (.aload_n 0, 1) := dk_42 (dk_at dksX5_value_0 18 rfl rfl)
theorem dX5_value_19 : decode cX5_value 19 = .ok (.iload_n 1, 1) := dk_27 (dk_at dksX5_value_0 19 rfl rfl)
theorem dX5_value_20 : decode cX5_value 20 = .ok (.invokevirtual 332, 3) := dk_182 1 76 (dk_at dksX5_value_0 20 rfl rfl)
theorem dX5_value_23 : decode cX5_value 23 = .ok (.invokestatic 335, 3) := dk_184 1 79 (dk_at dksX5_value_1 0 rfl rfl)
theorem dX5_value_26 : decode cX5_value 26 = .ok (.lreturn, 1) := dk_173 (dk_at dksX5_value_1 3 rfl rfl)
abbrev cX5_valueNow : ByteArray := prog_35_method_30_code
def yX5_valueNow : MethodName := ⟨RX5, "valueNow", "(I)D"⟩
def dkwX5_valueNow_0 : List UInt8 := [42, 27, 182, 1, 40, 42, 180, 0, 75, 3, 50, 27, 49, 175]
abbrev dktX5_valueNow_0 : List UInt8 := dkwX5_valueNow_0 ++ []
theorem dksX5_valueNow_0 : cX5_valueNow.data.toList.drop 0 = dktX5_valueNow_0 := by decide +kernel
theorem dX5_valueNow_0 : decode cX5_valueNow 0 = .ok (.aload_n 0, 1) := dk_42 (dk_at dksX5_valueNow_0 0 rfl rfl)
theorem dX5_valueNow_1 : decode cX5_valueNow 1 = .ok (.iload_n 1, 1) := dk_27 (dk_at dksX5_valueNow_0 1 rfl rfl)
theorem dX5_valueNow_2 : decode cX5_valueNow 2 = .ok (.invokevirtual 296, 3) := dk_182 1 40 (dk_at dksX5_valueNow_0 2 rfl rfl)
theorem dX5_valueNow_5 : decode cX5_valueNow 5 = .ok (.aload_n 0, 1) := dk_42 (dk_at dksX5_valueNow_0 5 rfl rfl)
theorem dX5_valueNow_6 : decode cX5_valueNow 6 = .ok (.getfield 75, 3) := dk_180 0 75 (dk_at dksX5_valueNow_0 6 rfl rfl)
theorem dX5_valueNow_9 : decode cX5_valueNow 9 = .ok (.iconst 0, 1) := dk_3 (dk_at dksX5_valueNow_0 9 rfl rfl)
theorem dX5_valueNow_10 : decode cX5_valueNow 10 = .ok (.aaload, 1) := dk_50 (dk_at dksX5_valueNow_0 10 rfl rfl)
theorem dX5_valueNow_11 : decode cX5_valueNow 11 = .ok (.iload_n 1, 1) := dk_27 (dk_at dksX5_valueNow_0 11 rfl rfl)
theorem dX5_valueNow_12 : decode cX5_valueNow 12 = .ok (.daload, 1) := dk_49 (dk_at dksX5_valueNow_0 12 rfl rfl)
theorem dX5_valueNow_13 : decode cX5_valueNow 13 = .ok (.dreturn, 1) := dk_175 (dk_at dksX5_valueNow_0 13 rfl rfl)
abbrev cX5_errorOf : ByteArray := prog_35_method_31_code
def yX5_errorOf : MethodName := ⟨RX5, "errorOf", "(I)I"⟩
def dkwX5_errorOf_0 : List UInt8 := [42, 180, 0, 78, 3, 50, 27, 46, 172]
abbrev dktX5_errorOf_0 : List UInt8 := dkwX5_errorOf_0 ++ []
theorem dksX5_errorOf_0 : cX5_errorOf.data.toList.drop 0 = dktX5_errorOf_0 := by decide +kernel
theorem dX5_errorOf_0 : decode cX5_errorOf 0 = .ok (.aload_n 0, 1) := dk_42 (dk_at dksX5_errorOf_0 0 rfl rfl)
theorem dX5_errorOf_1 : decode cX5_errorOf 1 = .ok (.getfield 78, 3) := dk_180 0 78 (dk_at dksX5_errorOf_0 1 rfl rfl)
theorem dX5_errorOf_4 : decode cX5_errorOf 4 = .ok (.iconst 0, 1) := dk_3 (dk_at dksX5_errorOf_0 4 rfl rfl)
theorem dX5_errorOf_5 : decode cX5_errorOf 5 = .ok (.aaload, 1) := dk_50 (dk_at dksX5_errorOf_0 5 rfl rfl)
theorem dX5_errorOf_6 : decode cX5_errorOf 6 = .ok (.iload_n 1, 1) := dk_27 (dk_at dksX5_errorOf_0 6 rfl rfl)
theorem dX5_errorOf_7 : decode cX5_errorOf 7 = .ok (.iaload, 1) := dk_46 (dk_at dksX5_errorOf_0 7 rfl rfl)
theorem dX5_errorOf_8 : decode cX5_errorOf 8 = .ok (.ireturn, 1) := dk_172 (dk_at dksX5_errorOf_0 8 rfl rfl)
abbrev cX5_answer : ByteArray := prog_35_method_33_code
def yX5_answer : MethodName := ⟨RX5, "answer", "(DI)J"⟩
def dkwX5_answer_0 : List UInt8 := [28, 154, 0, 10, 38, 184, 1, 49, 167, 0, 9, 20, 1, 52, 28, 133, 101, 173]
abbrev dktX5_answer_0 : List UInt8 := dkwX5_answer_0 ++ []
theorem dksX5_answer_0 : cX5_answer.data.toList.drop 0 = dktX5_answer_0 := by decide +kernel
theorem dX5_answer_0 : decode cX5_answer 0 = .ok (.iload_n 2, 1) := dk_28 (dk_at dksX5_answer_0 0 rfl rfl)
theorem dX5_answer_1 : decode cX5_answer 1 = .ok (.ifCond .ne 10, 3) := dk_154 0 10 (dk_at dksX5_answer_0 1 rfl rfl)
theorem dX5_answer_4 : decode cX5_answer 4 = .ok (.dload_n 0, 1) := dk_38 (dk_at dksX5_answer_0 4 rfl rfl)
theorem dX5_answer_5 : decode cX5_answer 5 = .ok (.invokestatic 305, 3) := dk_184 1 49 (dk_at dksX5_answer_0 5 rfl rfl)
theorem dX5_answer_8 : decode cX5_answer 8 = .ok (.goto 9, 3) := dk_167 0 9 (dk_at dksX5_answer_0 8 rfl rfl)
theorem dX5_answer_11 : decode cX5_answer 11 = .ok (.ldc2_w 308, 3) := dk_20 1 52 (dk_at dksX5_answer_0 11 rfl rfl)
theorem dX5_answer_14 : decode cX5_answer 14 = .ok (.iload_n 2, 1) := dk_28 (dk_at dksX5_answer_0 14 rfl rfl)
theorem dX5_answer_15 : decode cX5_answer 15 = .ok (.i2l, 1) := dk_133 (dk_at dksX5_answer_0 15 rfl rfl)
theorem dX5_answer_16 : decode cX5_answer 16 = .ok (.lsub, 1) := dk_101 (dk_at dksX5_answer_0 16 rfl rfl)
theorem dX5_answer_17 : decode cX5_answer 17 = .ok (.lreturn, 1) := dk_173 (dk_at dksX5_answer_0 17 rfl rfl)
abbrev cX5_bits : ByteArray := prog_35_method_32_code
def yX5_bits : MethodName := ⟨RX5, "bits", "(D)J"⟩
theorem dX5_bits_0 : decode cX5_bits 0 = .ok (.dload_n 0, 1) := by decide +kernel
theorem dX5_bits_1 : decode cX5_bits 1 = .ok (.invokestatic 299, 3) := by decide +kernel
theorem dX5_bits_4 : decode cX5_bits 4 = .ok (.lreturn, 1) := by decide +kernel
abbrev cX5_would : ByteArray := prog_35_method_41_code
def yX5_would : MethodName := ⟨RX5, "would", "(III)J"⟩
def dkwX5_would_2 : List UInt8 := [182, 1, 85, 57, 4, 24, 4, 42, 29, 182, 1, 76, 184, 1, 79, 173]
abbrev dktX5_would_2 : List UInt8 := dkwX5_would_2 ++ []
def dkwX5_would_1 : List UInt8 := [173, 42, 27, 182, 0, 204, 154, 0, 7, 20, 1, 83, 173, 42, 27, 28, 135, 20, 1, 62, 111, 29]
abbrev dktX5_would_1 : List UInt8 := dkwX5_would_1 ++ dktX5_would_2
def dkwX5_would_0 : List UInt8 := [27, 184, 1, 56, 153, 0, 17, 28, 184, 1, 59, 153, 0, 10, 29, 184, 1, 56, 154, 0, 7, 20, 1, 70]
abbrev dktX5_would_0 : List UInt8 := dkwX5_would_0 ++ dktX5_would_1
theorem dksX5_would_0 : cX5_would.data.toList.drop 0 = dktX5_would_0 := by decide +kernel
theorem dksX5_would_1 : cX5_would.data.toList.drop 24 = dktX5_would_1 := dk_seg dksX5_would_0 24 rfl rfl
theorem dksX5_would_2 : cX5_would.data.toList.drop 46 = dktX5_would_2 := dk_seg dksX5_would_1 22 rfl rfl
theorem dX5_would_0 : decode cX5_would 0 = .ok (.iload_n 1, 1) := dk_27 (dk_at dksX5_would_0 0 rfl rfl)
theorem dX5_would_1 : decode cX5_would 1 = .ok (.invokestatic 312, 3) := dk_184 1 56 (dk_at dksX5_would_0 1 rfl rfl)
theorem dX5_would_4 : decode cX5_would 4 = .ok (.ifCond .eq 17, 3) := dk_153 0 17 (dk_at dksX5_would_0 4 rfl rfl)
theorem dX5_would_7 : decode cX5_would 7 = .ok (.iload_n 2, 1) := dk_28 (dk_at dksX5_would_0 7 rfl rfl)
theorem dX5_would_8 : decode cX5_would 8 = .ok (.invokestatic 315, 3) := dk_184 1 59 (dk_at dksX5_would_0 8 rfl rfl)
theorem dX5_would_11 : decode cX5_would 11 = .ok (.ifCond .eq 10, 3) := dk_153 0 10 (dk_at dksX5_would_0 11 rfl rfl)
theorem dX5_would_14 : decode cX5_would 14 = .ok (.iload_n 3, 1) := dk_29 (dk_at dksX5_would_0 14 rfl rfl)
theorem dX5_would_15 : decode cX5_would 15 = .ok (.invokestatic 312, 3) := dk_184 1 56 (dk_at dksX5_would_0 15 rfl rfl)
theorem dX5_would_18 : decode cX5_would 18 = .ok (.ifCond .ne 7, 3) := dk_154 0 7 (dk_at dksX5_would_0 18 rfl rfl)
theorem dX5_would_21 : decode cX5_would 21 = .ok (.ldc2_w 326, 3) := dk_20 1 70 (dk_at dksX5_would_0 21 rfl rfl)
theorem dX5_would_24 : decode cX5_would 24 = .ok (.lreturn, 1) := dk_173 (dk_at dksX5_would_1 0 rfl rfl)
theorem dX5_would_25 : decode cX5_would 25 = .ok (.aload_n 0, 1) := dk_42 (dk_at dksX5_would_1 1 rfl rfl)
theorem dX5_would_26 : decode cX5_would 26 = .ok (.iload_n 1, 1) := dk_27 (dk_at dksX5_would_1 2 rfl rfl)
theorem dX5_would_27 : decode cX5_would 27 = .ok (.invokevirtual 204, 3) := dk_182 0 204 (dk_at dksX5_would_1 3 rfl rfl)
theorem dX5_would_30 : decode cX5_would 30 = .ok (.ifCond .ne 7, 3) := dk_154 0 7 (dk_at dksX5_would_1 6 rfl rfl)
theorem dX5_would_33 : decode cX5_would 33 = .ok (.ldc2_w 339, 3) := dk_20 1 83 (dk_at dksX5_would_1 9 rfl rfl)
theorem dX5_would_36 : decode cX5_would 36 = .ok (.lreturn, 1) := dk_173 (dk_at dksX5_would_1 12 rfl rfl)
theorem dX5_would_37 : decode cX5_would 37 = .ok (.aload_n 0, 1) := dk_42 (dk_at dksX5_would_1 13 rfl rfl)
theorem dX5_would_38 : decode cX5_would 38 = .ok (.iload_n 1, 1) := dk_27 (dk_at dksX5_would_1 14 rfl rfl)
theorem dX5_would_39 : decode cX5_would 39 = .ok (.iload_n 2, 1) := dk_28 (dk_at dksX5_would_1 15 rfl rfl)
theorem dX5_would_40 : decode cX5_would 40 = .ok (.i2d, 1) := dk_135 (dk_at dksX5_would_1 16 rfl rfl)
theorem dX5_would_41 : decode cX5_would 41 = .ok (.ldc2_w 318, 3) := dk_20 1 62 (dk_at dksX5_would_1 17 rfl rfl)
theorem dX5_would_44 : decode cX5_would 44 = .ok (.ddiv, 1) := dk_111 (dk_at dksX5_would_1 20 rfl rfl)
theorem dX5_would_45 : decode cX5_would 45 = .ok (.iload_n 3, 1) := dk_29 (dk_at dksX5_would_1 21 rfl rfl)
theorem dX5_would_46 : decode cX5_would 46 = .ok (.invokevirtual 341, 3) := dk_182 1 85 (dk_at dksX5_would_2 0 rfl rfl)
theorem dX5_would_49 : decode cX5_would 49 = .ok (.dstore 4, 2) := dk_57 4 (dk_at dksX5_would_2 3 rfl rfl)
theorem dX5_would_51 : decode cX5_would 51 = .ok (.dload 4, 2) := dk_24 4 (dk_at dksX5_would_2 5 rfl rfl)
theorem dX5_would_53 : decode cX5_would 53 = .ok (.aload_n 0, 1) := dk_42 (dk_at dksX5_would_2 7 rfl rfl)
theorem dX5_would_54 : decode cX5_would 54 = .ok (.iload_n 3, 1) := dk_29 (dk_at dksX5_would_2 8 rfl rfl)
theorem dX5_would_55 : decode cX5_would 55 = .ok (.invokevirtual 332, 3) := dk_182 1 76 (dk_at dksX5_would_2 9 rfl rfl)
theorem dX5_would_58 : decode cX5_would 58 = .ok (.invokestatic 335, 3) := dk_184 1 79 (dk_at dksX5_would_2 12 rfl rfl)
theorem dX5_would_61 : decode cX5_would 61 = .ok (.lreturn, 1) := dk_173 (dk_at dksX5_would_2 15 rfl rfl)
abbrev cX5_valueBy : ByteArray := prog_35_method_40_code
def yX5_valueBy : MethodName := ⟨RX5, "valueBy", "(IDI)D"⟩
def dkwX5_valueBy_2 : List UInt8 := [180, 0, 13, 27, 21, 7, 84, 24, 8, 175]
abbrev dktX5_valueBy_2 : List UInt8 := dkwX5_valueBy_2 ++ []
def dkwX5_valueBy_1 : List UInt8 := [180, 0, 13, 27, 4, 84, 42, 21, 4, 182, 1, 72, 57, 8, 42, 180, 0, 17, 27, 24, 5, 82, 42]
abbrev dktX5_valueBy_1 : List UInt8 := dkwX5_valueBy_1 ++ dktX5_valueBy_2
def dkwX5_valueBy_0 : List UInt8 := [42, 180, 0, 17, 27, 49, 57, 5, 42, 180, 0, 13, 27, 51, 54, 7, 42, 180, 0, 17, 27, 40, 82, 42]
abbrev dktX5_valueBy_0 : List UInt8 := dkwX5_valueBy_0 ++ dktX5_valueBy_1
theorem dksX5_valueBy_0 : cX5_valueBy.data.toList.drop 0 = dktX5_valueBy_0 := by decide +kernel
theorem dksX5_valueBy_1 : cX5_valueBy.data.toList.drop 24 = dktX5_valueBy_1 := dk_seg dksX5_valueBy_0 24 rfl rfl
theorem dksX5_valueBy_2 : cX5_valueBy.data.toList.drop 47 = dktX5_valueBy_2 := dk_seg dksX5_valueBy_1 23 rfl rfl
theorem dX5_valueBy_0 : decode cX5_valueBy 0 = .ok (.aload_n 0, 1) := dk_42 (dk_at dksX5_valueBy_0 0 rfl rfl)
theorem dX5_valueBy_1 : decode cX5_valueBy 1 = .ok (.getfield 17, 3) := dk_180 0 17 (dk_at dksX5_valueBy_0 1 rfl rfl)
theorem dX5_valueBy_4 : decode cX5_valueBy 4 = .ok (.iload_n 1, 1) := dk_27 (dk_at dksX5_valueBy_0 4 rfl rfl)
theorem dX5_valueBy_5 : decode cX5_valueBy 5 = .ok (.daload, 1) := dk_49 (dk_at dksX5_valueBy_0 5 rfl rfl)
theorem dX5_valueBy_6 : decode cX5_valueBy 6 = .ok (.dstore 5, 2) := dk_57 5 (dk_at dksX5_valueBy_0 6 rfl rfl)
theorem dX5_valueBy_8 : decode cX5_valueBy 8 = .ok (.aload_n 0, 1) := dk_42 (dk_at dksX5_valueBy_0 8 rfl rfl)
theorem dX5_valueBy_9 : decode cX5_valueBy 9 = .ok (.getfield 13, 3) := dk_180 0 13 (dk_at dksX5_valueBy_0 9 rfl rfl)
theorem dX5_valueBy_12 : decode cX5_valueBy 12 = .ok (.iload_n 1, 1) := dk_27 (dk_at dksX5_valueBy_0 12 rfl rfl)
theorem dX5_valueBy_13 : decode cX5_valueBy 13 = .ok (.baload, 1) := dk_51 (dk_at dksX5_valueBy_0 13 rfl rfl)
theorem dX5_valueBy_14 : decode cX5_valueBy 14 = .ok (.istore 7, 2) := dk_54 7 (dk_at dksX5_valueBy_0 14 rfl rfl)
theorem dX5_valueBy_16 : decode cX5_valueBy 16 = .ok (.aload_n 0, 1) := dk_42 (dk_at dksX5_valueBy_0 16 rfl rfl)
theorem dX5_valueBy_17 : decode cX5_valueBy 17 = .ok (.getfield 17, 3) := dk_180 0 17 (dk_at dksX5_valueBy_0 17 rfl rfl)
theorem dX5_valueBy_20 : decode cX5_valueBy 20 = .ok (.iload_n 1, 1) := dk_27 (dk_at dksX5_valueBy_0 20 rfl rfl)
theorem dX5_valueBy_21 : decode cX5_valueBy 21 = .ok (.dload_n 2, 1) := dk_40 (dk_at dksX5_valueBy_0 21 rfl rfl)
theorem dX5_valueBy_22 : decode cX5_valueBy 22 = .ok (.dastore, 1) := dk_82 (dk_at dksX5_valueBy_0 22 rfl rfl)
theorem dX5_valueBy_23 : decode cX5_valueBy 23 = .ok (.aload_n 0, 1) := dk_42 (dk_at dksX5_valueBy_0 23 rfl rfl)
theorem dX5_valueBy_24 : decode cX5_valueBy 24 = .ok (.getfield 13, 3) := dk_180 0 13 (dk_at dksX5_valueBy_1 0 rfl rfl)
theorem dX5_valueBy_27 : decode cX5_valueBy 27 = .ok (.iload_n 1, 1) := dk_27 (dk_at dksX5_valueBy_1 3 rfl rfl)
theorem dX5_valueBy_28 : decode cX5_valueBy 28 = .ok (.iconst 1, 1) := dk_4 (dk_at dksX5_valueBy_1 4 rfl rfl)
theorem dX5_valueBy_29 : decode cX5_valueBy 29 = .ok (.bastore, 1) := dk_84 (dk_at dksX5_valueBy_1 5 rfl rfl)
theorem dX5_valueBy_30 : decode cX5_valueBy 30 = .ok (.aload_n 0, 1) := dk_42 (dk_at dksX5_valueBy_1 6 rfl rfl)
theorem dX5_valueBy_31 : decode cX5_valueBy 31 = .ok (.iload 4, 2) := dk_21 4 (dk_at dksX5_valueBy_1 7 rfl rfl)
theorem dX5_valueBy_33 : decode cX5_valueBy 33 = .ok (.invokevirtual 328, 3) := dk_182 1 72 (dk_at dksX5_valueBy_1 9 rfl rfl)
theorem dX5_valueBy_36 : decode cX5_valueBy 36 = .ok (.dstore 8, 2) := dk_57 8 (dk_at dksX5_valueBy_1 12 rfl rfl)
theorem dX5_valueBy_38 : decode cX5_valueBy 38 = .ok (.aload_n 0, 1) := dk_42 (dk_at dksX5_valueBy_1 14 rfl rfl)
theorem dX5_valueBy_39 : decode cX5_valueBy 39 = .ok (.getfield 17, 3) := dk_180 0 17 (dk_at dksX5_valueBy_1 15 rfl rfl)
theorem dX5_valueBy_42 : decode cX5_valueBy 42 = .ok (.iload_n 1, 1) := dk_27 (dk_at dksX5_valueBy_1 18 rfl rfl)
theorem dX5_valueBy_43 : decode cX5_valueBy 43 = .ok (.dload 5, 2) := dk_24 5 (dk_at dksX5_valueBy_1 19 rfl rfl)
theorem dX5_valueBy_45 : decode cX5_valueBy 45 = .ok (.dastore, 1) := dk_82 (dk_at dksX5_valueBy_1 21 rfl rfl)
theorem dX5_valueBy_46 : decode cX5_valueBy 46 = .ok (.aload_n 0, 1) := dk_42 (dk_at dksX5_valueBy_1 22 rfl rfl)
theorem dX5_valueBy_47 : decode cX5_valueBy 47 = .ok (.getfield 13, 3) := dk_180 0 13 (dk_at dksX5_valueBy_2 0 rfl rfl)
theorem dX5_valueBy_50 : decode cX5_valueBy 50 = .ok (.iload_n 1, 1) := dk_27 (dk_at dksX5_valueBy_2 3 rfl rfl)
theorem dX5_valueBy_51 : decode cX5_valueBy 51 = .ok (.iload 7, 2) := dk_21 7 (dk_at dksX5_valueBy_2 4 rfl rfl)
theorem dX5_valueBy_53 : decode cX5_valueBy 53 = .ok (.bastore, 1) := dk_84 (dk_at dksX5_valueBy_2 6 rfl rfl)
theorem dX5_valueBy_54 : decode cX5_valueBy 54 = .ok (.dload 8, 2) := dk_24 8 (dk_at dksX5_valueBy_2 7 rfl rfl)
theorem dX5_valueBy_56 : decode cX5_valueBy 56 = .ok (.dreturn, 1) := dk_175 (dk_at dksX5_valueBy_2 9 rfl rfl)
abbrev cX5_taken : ByteArray := prog_35_method_42_code
def yX5_taken : MethodName := ⟨RX5, "taken", "(II)I"⟩
def dkwX5_taken_3 : List UInt8 := [16, 243, 172]
abbrev dktX5_taken_3 : List UInt8 := dkwX5_taken_3 ++ []
def dkwX5_taken_2 : List UInt8 := [160, 0, 12, 29, 7, 160, 0, 7, 4, 167, 0, 4, 3, 54, 4, 21, 4, 153, 0, 7, 29, 167, 0, 5]
abbrev dktX5_taken_2 : List UInt8 := dkwX5_taken_2 ++ dktX5_taken_3
def dkwX5_taken_1 : List UInt8 := [46, 62, 28, 153, 0, 28, 28, 29, 159, 0, 23, 28, 4, 160, 0, 8, 29, 6, 159, 0, 13, 28, 5]
abbrev dktX5_taken_1 : List UInt8 := dkwX5_taken_1 ++ dktX5_taken_2
def dkwX5_taken_0 : List UInt8 := [27, 184, 1, 56, 153, 0, 12, 28, 3, 8, 184, 0, 183, 154, 0, 6, 16, 254, 172, 42, 180, 0, 9, 27]
abbrev dktX5_taken_0 : List UInt8 := dkwX5_taken_0 ++ dktX5_taken_1
theorem dksX5_taken_0 : cX5_taken.data.toList.drop 0 = dktX5_taken_0 := by decide +kernel
theorem dksX5_taken_1 : cX5_taken.data.toList.drop 24 = dktX5_taken_1 := dk_seg dksX5_taken_0 24 rfl rfl
theorem dksX5_taken_2 : cX5_taken.data.toList.drop 47 = dktX5_taken_2 := dk_seg dksX5_taken_1 23 rfl rfl
theorem dksX5_taken_3 : cX5_taken.data.toList.drop 71 = dktX5_taken_3 := dk_seg dksX5_taken_2 24 rfl rfl
theorem dX5_taken_0 : decode cX5_taken 0 = .ok (.iload_n 1, 1) := dk_27 (dk_at dksX5_taken_0 0 rfl rfl)
theorem dX5_taken_1 : decode cX5_taken 1 = .ok (.invokestatic 312, 3) := dk_184 1 56 (dk_at dksX5_taken_0 1 rfl rfl)
theorem dX5_taken_4 : decode cX5_taken 4 = .ok (.ifCond .eq 12, 3) := dk_153 0 12 (dk_at dksX5_taken_0 4 rfl rfl)
theorem dX5_taken_7 : decode cX5_taken 7 = .ok (.iload_n 2, 1) := dk_28 (dk_at dksX5_taken_0 7 rfl rfl)
theorem dX5_taken_8 : decode cX5_taken 8 = .ok (.iconst 0, 1) := dk_3 (dk_at dksX5_taken_0 8 rfl rfl)
theorem dX5_taken_9 : decode cX5_taken 9 = .ok (.iconst 5, 1) := dk_8 (dk_at dksX5_taken_0 9 rfl rfl)
theorem dX5_taken_10 : decode cX5_taken 10 = .ok (.invokestatic 183, 3) := dk_184 0 183 (dk_at dksX5_taken_0 10 rfl rfl)
theorem dX5_taken_13 : decode cX5_taken 13 = .ok (.ifCond .ne 6, 3) := dk_154 0 6 (dk_at dksX5_taken_0 13 rfl rfl)
theorem dX5_taken_16 : decode cX5_taken 16 = .ok (.bipush (-2), 2) := dk_16 254 (dk_at dksX5_taken_0 16 rfl rfl)
theorem dX5_taken_18 : decode cX5_taken 18 = .ok (.ireturn, 1) := dk_172 (dk_at dksX5_taken_0 18 rfl rfl)
theorem dX5_taken_19 : decode cX5_taken 19 = .ok (.aload_n 0, 1) := dk_42 (dk_at dksX5_taken_0 19 rfl rfl)
theorem dX5_taken_20 : decode cX5_taken 20 = .ok (.getfield 9, 3) := dk_180 0 9 (dk_at dksX5_taken_0 20 rfl rfl)
theorem dX5_taken_23 : decode cX5_taken 23 = .ok (.iload_n 1, 1) := dk_27 (dk_at dksX5_taken_0 23 rfl rfl)
theorem dX5_taken_24 : decode cX5_taken 24 = .ok (.iaload, 1) := dk_46 (dk_at dksX5_taken_1 0 rfl rfl)
theorem dX5_taken_25 : decode cX5_taken 25 = .ok (.istore_n 3, 1) := dk_62 (dk_at dksX5_taken_1 1 rfl rfl)
theorem dX5_taken_26 : decode cX5_taken 26 = .ok (.iload_n 2, 1) := dk_28 (dk_at dksX5_taken_1 2 rfl rfl)
theorem dX5_taken_27 : decode cX5_taken 27 = .ok (.ifCond .eq 28, 3) := dk_153 0 28 (dk_at dksX5_taken_1 3 rfl rfl)
theorem dX5_taken_30 : decode cX5_taken 30 = .ok (.iload_n 2, 1) := dk_28 (dk_at dksX5_taken_1 6 rfl rfl)
theorem dX5_taken_31 : decode cX5_taken 31 = .ok (.iload_n 3, 1) := dk_29 (dk_at dksX5_taken_1 7 rfl rfl)
theorem dX5_taken_32 : decode cX5_taken 32 = .ok (.if_icmp .eq 23, 3) := dk_159 0 23 (dk_at dksX5_taken_1 8 rfl rfl)
theorem dX5_taken_35 : decode cX5_taken 35 = .ok (.iload_n 2, 1) := dk_28 (dk_at dksX5_taken_1 11 rfl rfl)
theorem dX5_taken_36 : decode cX5_taken 36 = .ok (.iconst 1, 1) := dk_4 (dk_at dksX5_taken_1 12 rfl rfl)
theorem dX5_taken_37 : decode cX5_taken 37 = .ok (.if_icmp .ne 8, 3) := dk_160 0 8 (dk_at dksX5_taken_1 13 rfl rfl)
theorem dX5_taken_40 : decode cX5_taken 40 = .ok (.iload_n 3, 1) := dk_29 (dk_at dksX5_taken_1 16 rfl rfl)
theorem dX5_taken_41 : decode cX5_taken 41 = .ok (.iconst 3, 1) := dk_6 (dk_at dksX5_taken_1 17 rfl rfl)
theorem dX5_taken_42 : decode cX5_taken 42 = .ok (.if_icmp .eq 13, 3) := dk_159 0 13 (dk_at dksX5_taken_1 18 rfl rfl)
theorem dX5_taken_45 : decode cX5_taken 45 = .ok (.iload_n 2, 1) := dk_28 (dk_at dksX5_taken_1 21 rfl rfl)
theorem dX5_taken_46 : decode cX5_taken 46 = .ok (.iconst 2, 1) := dk_5 (dk_at dksX5_taken_1 22 rfl rfl)
theorem dX5_taken_47 : decode cX5_taken 47 = .ok (.if_icmp .ne 12, 3) := dk_160 0 12 (dk_at dksX5_taken_2 0 rfl rfl)
theorem dX5_taken_50 : decode cX5_taken 50 = .ok (.iload_n 3, 1) := dk_29 (dk_at dksX5_taken_2 3 rfl rfl)
theorem dX5_taken_51 : decode cX5_taken 51 = .ok (.iconst 4, 1) := dk_7 (dk_at dksX5_taken_2 4 rfl rfl)
theorem dX5_taken_52 : decode cX5_taken 52 = .ok (.if_icmp .ne 7, 3) := dk_160 0 7 (dk_at dksX5_taken_2 5 rfl rfl)
theorem dX5_taken_55 : decode cX5_taken 55 = .ok (.iconst 1, 1) := dk_4 (dk_at dksX5_taken_2 8 rfl rfl)
theorem dX5_taken_56 : decode cX5_taken 56 = .ok (.goto 4, 3) := dk_167 0 4 (dk_at dksX5_taken_2 9 rfl rfl)
theorem dX5_taken_59 : decode cX5_taken 59 = .ok (.iconst 0, 1) := dk_3 (dk_at dksX5_taken_2 12 rfl rfl)
theorem dX5_taken_60 : decode cX5_taken 60 = .ok (.istore 4, 2) := dk_54 4 (dk_at dksX5_taken_2 13 rfl rfl)
theorem dX5_taken_62 : decode cX5_taken 62 = .ok (.iload 4, 2) := dk_21 4 (dk_at dksX5_taken_2 15 rfl rfl)
theorem dX5_taken_64 : decode cX5_taken 64 = .ok (.ifCond .eq 7, 3) := dk_153 0 7 (dk_at dksX5_taken_2 17 rfl rfl)
theorem dX5_taken_67 : decode cX5_taken 67 = .ok (.iload_n 3, 1) := dk_29 (dk_at dksX5_taken_2 20 rfl rfl)
theorem dX5_taken_68 : decode cX5_taken 68 = .ok (.goto 5, 3) := dk_167 0 5 (dk_at dksX5_taken_2 21 rfl rfl)
theorem dX5_taken_71 : decode cX5_taken 71 = .ok (.bipush (-13), 2) := dk_16 243 (dk_at dksX5_taken_3 0 rfl rfl)
theorem dX5_taken_73 : decode cX5_taken 73 = .ok (.ireturn, 1) := dk_172 (dk_at dksX5_taken_3 2 rfl rfl)
abbrev cX5_feed : ByteArray := prog_35_method_44_code
def yX5_feed : MethodName := ⟨RX5, "feed", "(IIIIII)I"⟩
def dkwX5_feed_6 : List UInt8 := [181, 1, 92, 42, 180, 1, 92, 172]
abbrev dktX5_feed_6 : List UInt8 := dkwX5_feed_6 ++ []
def dkwX5_feed_5 : List UInt8 := [160, 0, 8, 21, 5, 167, 0, 5, 21, 6, 79, 132, 7, 1, 167, 255, 192, 42, 89, 180, 1, 92, 27, 96]
abbrev dktX5_feed_5 : List UInt8 := dkwX5_feed_5 ++ dktX5_feed_6
def dkwX5_feed_4 : List UInt8 := [21, 7, 4, 160, 0, 7, 29, 167, 0, 27, 21, 7, 5, 160, 0, 8, 21, 4, 167, 0, 16, 21, 7, 6]
abbrev dktX5_feed_4 : List UInt8 := dkwX5_feed_4 ++ dktX5_feed_5
def dkwX5_feed_3 : List UInt8 := [162, 0, 64, 42, 180, 0, 102, 42, 180, 1, 92, 21, 7, 96, 21, 7, 154, 0, 7, 28, 167, 0, 37]
abbrev dktX5_feed_3 : List UInt8 := dkwX5_feed_3 ++ dktX5_feed_4
def dkwX5_feed_2 : List UInt8 := [16, 254, 172, 42, 180, 1, 92, 27, 96, 16, 96, 164, 0, 6, 16, 252, 172, 3, 54, 7, 21, 7, 27]
abbrev dktX5_feed_2 : List UInt8 := dkwX5_feed_2 ++ dktX5_feed_3
def dkwX5_feed_1 : List UInt8 := [21, 4, 184, 1, 89, 153, 0, 19, 21, 5, 184, 1, 89, 153, 0, 11, 21, 6, 184, 1, 89, 154, 0, 6]
abbrev dktX5_feed_1 : List UInt8 := dkwX5_feed_1 ++ dktX5_feed_2
def dkwX5_feed_0 : List UInt8 := [27, 4, 8, 184, 0, 183, 153, 0, 41, 28, 184, 1, 89, 153, 0, 34, 29, 184, 1, 89, 153, 0, 27]
abbrev dktX5_feed_0 : List UInt8 := dkwX5_feed_0 ++ dktX5_feed_1
theorem dksX5_feed_0 : cX5_feed.data.toList.drop 0 = dktX5_feed_0 := by decide +kernel
theorem dksX5_feed_1 : cX5_feed.data.toList.drop 23 = dktX5_feed_1 := dk_seg dksX5_feed_0 23 rfl rfl
theorem dksX5_feed_2 : cX5_feed.data.toList.drop 47 = dktX5_feed_2 := dk_seg dksX5_feed_1 24 rfl rfl
theorem dksX5_feed_3 : cX5_feed.data.toList.drop 70 = dktX5_feed_3 := dk_seg dksX5_feed_2 23 rfl rfl
theorem dksX5_feed_4 : cX5_feed.data.toList.drop 93 = dktX5_feed_4 := dk_seg dksX5_feed_3 23 rfl rfl
theorem dksX5_feed_5 : cX5_feed.data.toList.drop 117 = dktX5_feed_5 := dk_seg dksX5_feed_4 24 rfl rfl
theorem dksX5_feed_6 : cX5_feed.data.toList.drop 141 = dktX5_feed_6 := dk_seg dksX5_feed_5 24 rfl rfl
theorem dX5_feed_0 : decode cX5_feed 0 = .ok (.iload_n 1, 1) := dk_27 (dk_at dksX5_feed_0 0 rfl rfl)
theorem dX5_feed_1 : decode cX5_feed 1 = .ok (.iconst 1, 1) := dk_4 (dk_at dksX5_feed_0 1 rfl rfl)
theorem dX5_feed_2 : decode cX5_feed 2 = .ok (.iconst 5, 1) := dk_8 (dk_at dksX5_feed_0 2 rfl rfl)
theorem dX5_feed_3 : decode cX5_feed 3 = .ok (.invokestatic 183, 3) := dk_184 0 183 (dk_at dksX5_feed_0 3 rfl rfl)
theorem dX5_feed_6 : decode cX5_feed 6 = .ok (.ifCond .eq 41, 3) := dk_153 0 41 (dk_at dksX5_feed_0 6 rfl rfl)
theorem dX5_feed_9 : decode cX5_feed 9 = .ok (.iload_n 2, 1) := dk_28 (dk_at dksX5_feed_0 9 rfl rfl)
theorem dX5_feed_10 : decode cX5_feed 10 = .ok (.invokestatic 345, 3) := dk_184 1 89 (dk_at dksX5_feed_0 10 rfl rfl)
theorem dX5_feed_13 : decode cX5_feed 13 = .ok (.ifCond .eq 34, 3) := dk_153 0 34 (dk_at dksX5_feed_0 13 rfl rfl)
theorem dX5_feed_16 : decode cX5_feed 16 = .ok (.iload_n 3, 1) := dk_29 (dk_at dksX5_feed_0 16 rfl rfl)
theorem dX5_feed_17 : decode cX5_feed 17 = .ok (.invokestatic 345, 3) := dk_184 1 89 (dk_at dksX5_feed_0 17 rfl rfl)
theorem dX5_feed_20 : decode cX5_feed 20 = .ok (.ifCond .eq 27, 3) := dk_153 0 27 (dk_at dksX5_feed_0 20 rfl rfl)
theorem dX5_feed_23 : decode cX5_feed 23 = .ok (.iload 4, 2) := dk_21 4 (dk_at dksX5_feed_1 0 rfl rfl)
theorem dX5_feed_25 : decode cX5_feed 25 = .ok (.invokestatic 345, 3) := dk_184 1 89 (dk_at dksX5_feed_1 2 rfl rfl)
theorem dX5_feed_28 : decode cX5_feed 28 = .ok (.ifCond .eq 19, 3) := dk_153 0 19 (dk_at dksX5_feed_1 5 rfl rfl)
theorem dX5_feed_31 : decode cX5_feed 31 = .ok (.iload 5, 2) := dk_21 5 (dk_at dksX5_feed_1 8 rfl rfl)
theorem dX5_feed_33 : decode cX5_feed 33 = .ok (.invokestatic 345, 3) := dk_184 1 89 (dk_at dksX5_feed_1 10 rfl rfl)
theorem dX5_feed_36 : decode cX5_feed 36 = .ok (.ifCond .eq 11, 3) := dk_153 0 11 (dk_at dksX5_feed_1 13 rfl rfl)
theorem dX5_feed_39 : decode cX5_feed 39 = .ok (.iload 6, 2) := dk_21 6 (dk_at dksX5_feed_1 16 rfl rfl)
theorem dX5_feed_41 : decode cX5_feed 41 = .ok (.invokestatic 345, 3) := dk_184 1 89 (dk_at dksX5_feed_1 18 rfl rfl)
theorem dX5_feed_44 : decode cX5_feed 44 = .ok (.ifCond .ne 6, 3) := dk_154 0 6 (dk_at dksX5_feed_1 21 rfl rfl)
theorem dX5_feed_47 : decode cX5_feed 47 = .ok (.bipush (-2), 2) := dk_16 254 (dk_at dksX5_feed_2 0 rfl rfl)
theorem dX5_feed_49 : decode cX5_feed 49 = .ok (.ireturn, 1) := dk_172 (dk_at dksX5_feed_2 2 rfl rfl)
theorem dX5_feed_50 : decode cX5_feed 50 = .ok (.aload_n 0, 1) := dk_42 (dk_at dksX5_feed_2 3 rfl rfl)
theorem dX5_feed_51 : decode cX5_feed 51 = .ok (.getfield 348, 3) := dk_180 1 92 (dk_at dksX5_feed_2 4 rfl rfl)
theorem dX5_feed_54 : decode cX5_feed 54 = .ok (.iload_n 1, 1) := dk_27 (dk_at dksX5_feed_2 7 rfl rfl)
theorem dX5_feed_55 : decode cX5_feed 55 = .ok (.iadd, 1) := dk_96 (dk_at dksX5_feed_2 8 rfl rfl)
theorem dX5_feed_56 : decode cX5_feed 56 = .ok (.bipush 96, 2) := dk_16 96 (dk_at dksX5_feed_2 9 rfl rfl)
theorem dX5_feed_58 : decode cX5_feed 58 = .ok (.if_icmp .le 6, 3) := dk_164 0 6 (dk_at dksX5_feed_2 11 rfl rfl)
theorem dX5_feed_61 : decode cX5_feed 61 = .ok (.bipush (-4), 2) := dk_16 252 (dk_at dksX5_feed_2 14 rfl rfl)
theorem dX5_feed_63 : decode cX5_feed 63 = .ok (.ireturn, 1) := dk_172 (dk_at dksX5_feed_2 16 rfl rfl)
theorem dX5_feed_64 : decode cX5_feed 64 = .ok (.iconst 0, 1) := dk_3 (dk_at dksX5_feed_2 17 rfl rfl)
theorem dX5_feed_65 : decode cX5_feed 65 = .ok (.istore 7, 2) := dk_54 7 (dk_at dksX5_feed_2 18 rfl rfl)
theorem dX5_feed_67 : decode cX5_feed 67 = .ok (.iload 7, 2) := dk_21 7 (dk_at dksX5_feed_2 20 rfl rfl)
theorem dX5_feed_69 : decode cX5_feed 69 = .ok (.iload_n 1, 1) := dk_27 (dk_at dksX5_feed_2 22 rfl rfl)
theorem dX5_feed_70 : decode cX5_feed 70 = .ok (.if_icmp .ge 64, 3) := dk_162 0 64 (dk_at dksX5_feed_3 0 rfl rfl)
theorem dX5_feed_73 : decode cX5_feed 73 = .ok (.aload_n 0, 1) := dk_42 (dk_at dksX5_feed_3 3 rfl rfl)
theorem dX5_feed_74 : decode cX5_feed 74 = .ok (.getfield 102, 3) := dk_180 0 102 (dk_at dksX5_feed_3 4 rfl rfl)
theorem dX5_feed_77 : decode cX5_feed 77 = .ok (.aload_n 0, 1) := dk_42 (dk_at dksX5_feed_3 7 rfl rfl)
theorem dX5_feed_78 : decode cX5_feed 78 = .ok (.getfield 348, 3) := dk_180 1 92 (dk_at dksX5_feed_3 8 rfl rfl)
theorem dX5_feed_81 : decode cX5_feed 81 = .ok (.iload 7, 2) := dk_21 7 (dk_at dksX5_feed_3 11 rfl rfl)
theorem dX5_feed_83 : decode cX5_feed 83 = .ok (.iadd, 1) := dk_96 (dk_at dksX5_feed_3 13 rfl rfl)
theorem dX5_feed_84 : decode cX5_feed 84 = .ok (.iload 7, 2) := dk_21 7 (dk_at dksX5_feed_3 14 rfl rfl)
theorem dX5_feed_86 : decode cX5_feed 86 = .ok (.ifCond .ne 7, 3) := dk_154 0 7 (dk_at dksX5_feed_3 16 rfl rfl)
theorem dX5_feed_89 : decode cX5_feed 89 = .ok (.iload_n 2, 1) := dk_28 (dk_at dksX5_feed_3 19 rfl rfl)
theorem dX5_feed_90 : decode cX5_feed 90 = .ok (.goto 37, 3) := dk_167 0 37 (dk_at dksX5_feed_3 20 rfl rfl)
theorem dX5_feed_93 : decode cX5_feed 93 = .ok (.iload 7, 2) := dk_21 7 (dk_at dksX5_feed_4 0 rfl rfl)
theorem dX5_feed_95 : decode cX5_feed 95 = .ok (.iconst 1, 1) := dk_4 (dk_at dksX5_feed_4 2 rfl rfl)
theorem dX5_feed_96 : decode cX5_feed 96 = .ok (.if_icmp .ne 7, 3) := dk_160 0 7 (dk_at dksX5_feed_4 3 rfl rfl)
theorem dX5_feed_99 : decode cX5_feed 99 = .ok (.iload_n 3, 1) := dk_29 (dk_at dksX5_feed_4 6 rfl rfl)
theorem dX5_feed_100 : decode cX5_feed 100 = .ok (.goto 27, 3) := dk_167 0 27 (dk_at dksX5_feed_4 7 rfl rfl)
theorem dX5_feed_103 : decode cX5_feed 103 = .ok (.iload 7, 2) := dk_21 7 (dk_at dksX5_feed_4 10 rfl rfl)
theorem dX5_feed_105 : decode cX5_feed 105 = .ok (.iconst 2, 1) := dk_5 (dk_at dksX5_feed_4 12 rfl rfl)
theorem dX5_feed_106 : decode cX5_feed 106 = .ok (.if_icmp .ne 8, 3) := dk_160 0 8 (dk_at dksX5_feed_4 13 rfl rfl)
theorem dX5_feed_109 : decode cX5_feed 109 = .ok (.iload 4, 2) := dk_21 4 (dk_at dksX5_feed_4 16 rfl rfl)
theorem dX5_feed_111 : decode cX5_feed 111 = .ok (.goto 16, 3) := dk_167 0 16 (dk_at dksX5_feed_4 18 rfl rfl)
theorem dX5_feed_114 : decode cX5_feed 114 = .ok (.iload 7, 2) := dk_21 7 (dk_at dksX5_feed_4 21 rfl rfl)
theorem dX5_feed_116 : decode cX5_feed 116 = .ok (.iconst 3, 1) := dk_6 (dk_at dksX5_feed_4 23 rfl rfl)
theorem dX5_feed_117 : decode cX5_feed 117 = .ok (.if_icmp .ne 8, 3) := dk_160 0 8 (dk_at dksX5_feed_5 0 rfl rfl)
theorem dX5_feed_120 : decode cX5_feed 120 = .ok (.iload 5, 2) := dk_21 5 (dk_at dksX5_feed_5 3 rfl rfl)
theorem dX5_feed_122 : decode cX5_feed 122 = .ok (.goto 5, 3) := dk_167 0 5 (dk_at dksX5_feed_5 5 rfl rfl)
theorem dX5_feed_125 : decode cX5_feed 125 = .ok (.iload 6, 2) := dk_21 6 (dk_at dksX5_feed_5 8 rfl rfl)
theorem dX5_feed_127 : decode cX5_feed 127 = .ok (.iastore, 1) := dk_79 (dk_at dksX5_feed_5 10 rfl rfl)
theorem dX5_feed_128 : decode cX5_feed 128 = .ok (.iinc 7 1, 3) := dk_132 7 1 (dk_at dksX5_feed_5 11 rfl rfl)
theorem dX5_feed_131 : decode cX5_feed 131 = .ok (.goto (-64), 3) := dk_167 255 192 (dk_at dksX5_feed_5 14 rfl rfl)
theorem dX5_feed_134 : decode cX5_feed 134 = .ok (.aload_n 0, 1) := dk_42 (dk_at dksX5_feed_5 17 rfl rfl)
theorem dX5_feed_135 : decode cX5_feed 135 = .ok (.dup, 1) := dk_89 (dk_at dksX5_feed_5 18 rfl rfl)
theorem dX5_feed_136 : decode cX5_feed 136 = .ok (.getfield 348, 3) := dk_180 1 92 (dk_at dksX5_feed_5 19 rfl rfl)
theorem dX5_feed_139 : decode cX5_feed 139 = .ok (.iload_n 1, 1) := dk_27 (dk_at dksX5_feed_5 22 rfl rfl)
theorem dX5_feed_140 : decode cX5_feed 140 = .ok (.iadd, 1) := dk_96 (dk_at dksX5_feed_5 23 rfl rfl)
theorem dX5_feed_141 : decode cX5_feed 141 = .ok (.putfield 348, 3) := dk_181 1 92 (dk_at dksX5_feed_6 0 rfl rfl)
theorem dX5_feed_144 : decode cX5_feed 144 = .ok (.aload_n 0, 1) := dk_42 (dk_at dksX5_feed_6 3 rfl rfl)
theorem dX5_feed_145 : decode cX5_feed 145 = .ok (.getfield 348, 3) := dk_180 1 92 (dk_at dksX5_feed_6 4 rfl rfl)
theorem dX5_feed_148 : decode cX5_feed 148 = .ok (.ireturn, 1) := dk_172 (dk_at dksX5_feed_6 7 rfl rfl)
abbrev cX5_isByte : ByteArray := prog_35_method_43_code
def yX5_isByte : MethodName := ⟨RX5, "isByte", "(I)Z"⟩
def dkwX5_isByte_0 : List UInt8 := [26, 3, 17, 0, 255, 184, 0, 183, 172]
abbrev dktX5_isByte_0 : List UInt8 := dkwX5_isByte_0 ++ []
theorem dksX5_isByte_0 : cX5_isByte.data.toList.drop 0 = dktX5_isByte_0 := by decide +kernel
theorem dX5_isByte_0 : decode cX5_isByte 0 = .ok (.iload_n 0, 1) := dk_26 (dk_at dksX5_isByte_0 0 rfl rfl)
theorem dX5_isByte_1 : decode cX5_isByte 1 = .ok (.iconst 0, 1) := dk_3 (dk_at dksX5_isByte_0 1 rfl rfl)
theorem dX5_isByte_2 : decode cX5_isByte 2 = .ok (.sipush 255, 3) := dk_17 0 255 (dk_at dksX5_isByte_0 2 rfl rfl)
theorem dX5_isByte_5 : decode cX5_isByte 5 = .ok (.invokestatic 183, 3) := dk_184 0 183 (dk_at dksX5_isByte_0 5 rfl rfl)
theorem dX5_isByte_8 : decode cX5_isByte 8 = .ok (.ireturn, 1) := dk_172 (dk_at dksX5_isByte_0 8 rfl rfl)
abbrev cX5_formula : ByteArray := prog_35_method_64_code
def yX5_formula : MethodName := ⟨RX5, "formula", "(I)I"⟩
def dkwX5_formula_9 : List UInt8 := [3, 84, 42, 180, 0, 17, 27, 14, 82, 4, 172]
abbrev dktX5_formula_9 : List UInt8 := dkwX5_formula_9 ++ []
def dkwX5_formula_8 : List UInt8 := [180, 0, 31, 27, 50, 3, 16, 96, 184, 1, 215, 42, 27, 182, 1, 64, 16, 252, 172, 42, 180, 0, 13, 27]
abbrev dktX5_formula_8 : List UInt8 := dkwX5_formula_8 ++ dktX5_formula_9
def dkwX5_formula_7 : List UInt8 := [79, 42, 180, 0, 111, 3, 42, 180, 0, 26, 27, 50, 3, 16, 96, 184, 1, 215, 42, 180, 0, 114, 3, 42]
abbrev dktX5_formula_7 : List UInt8 := dkwX5_formula_7 ++ dktX5_formula_8
def dkwX5_formula_6 : List UInt8 := [27, 42, 180, 1, 168, 79, 42, 27, 182, 1, 64, 42, 182, 1, 221, 153, 0, 52, 42, 180, 0, 21, 27, 29]
abbrev dktX5_formula_6 : List UInt8 := dkwX5_formula_6 ++ dktX5_formula_7
def dkwX5_formula_5 : List UInt8 := [184, 1, 215, 42, 180, 0, 108, 3, 42, 180, 0, 31, 27, 50, 3, 16, 96, 184, 1, 215, 42, 180, 0, 21]
abbrev dktX5_formula_5 : List UInt8 := dkwX5_formula_5 ++ dktX5_formula_6
def dkwX5_formula_4 : List UInt8 := [180, 0, 114, 3, 16, 96, 184, 1, 215, 42, 180, 0, 105, 3, 42, 180, 0, 26, 27, 50, 3, 16, 96]
abbrev dktX5_formula_4 : List UInt8 := dkwX5_formula_4 ++ dktX5_formula_5
def dkwX5_formula_3 : List UInt8 := [180, 0, 26, 27, 50, 3, 42, 180, 0, 111, 3, 16, 96, 184, 1, 215, 42, 180, 0, 31, 27, 50, 3, 42]
abbrev dktX5_formula_3 : List UInt8 := dkwX5_formula_3 ++ dktX5_formula_4
def dkwX5_formula_2 : List UInt8 := [182, 1, 212, 27, 122, 4, 126, 4, 160, 0, 6, 16, 251, 172, 42, 180, 0, 21, 27, 46, 62, 42]
abbrev dktX5_formula_2 : List UInt8 := dkwX5_formula_2 ++ dktX5_formula_3
def dkwX5_formula_1 : List UInt8 := [16, 156, 42, 180, 1, 105, 100, 172, 42, 27, 182, 1, 206, 153, 0, 6, 16, 253, 172, 42, 42, 182, 1, 209]
abbrev dktX5_formula_1 : List UInt8 := dkwX5_formula_1 ++ dktX5_formula_2
def dkwX5_formula_0 : List UInt8 := [27, 184, 1, 56, 154, 0, 6, 16, 254, 172, 42, 182, 1, 203, 61, 42, 3, 181, 1, 92, 28, 154, 0, 11]
abbrev dktX5_formula_0 : List UInt8 := dkwX5_formula_0 ++ dktX5_formula_1
theorem dksX5_formula_0 : cX5_formula.data.toList.drop 0 = dktX5_formula_0 := by decide +kernel
theorem dksX5_formula_1 : cX5_formula.data.toList.drop 24 = dktX5_formula_1 := dk_seg dksX5_formula_0 24 rfl rfl
theorem dksX5_formula_2 : cX5_formula.data.toList.drop 48 = dktX5_formula_2 := dk_seg dksX5_formula_1 24 rfl rfl
theorem dksX5_formula_3 : cX5_formula.data.toList.drop 70 = dktX5_formula_3 := dk_seg dksX5_formula_2 22 rfl rfl
theorem dksX5_formula_4 : cX5_formula.data.toList.drop 94 = dktX5_formula_4 := dk_seg dksX5_formula_3 24 rfl rfl
theorem dksX5_formula_5 : cX5_formula.data.toList.drop 117 = dktX5_formula_5 := dk_seg dksX5_formula_4 23 rfl rfl
theorem dksX5_formula_6 : cX5_formula.data.toList.drop 141 = dktX5_formula_6 := dk_seg dksX5_formula_5 24 rfl rfl
theorem dksX5_formula_7 : cX5_formula.data.toList.drop 165 = dktX5_formula_7 := dk_seg dksX5_formula_6 24 rfl rfl
theorem dksX5_formula_8 : cX5_formula.data.toList.drop 189 = dktX5_formula_8 := dk_seg dksX5_formula_7 24 rfl rfl
theorem dksX5_formula_9 : cX5_formula.data.toList.drop 213 = dktX5_formula_9 := dk_seg dksX5_formula_8 24 rfl rfl
theorem dX5_formula_0 : decode cX5_formula 0 = .ok (.iload_n 1, 1) := dk_27 (dk_at dksX5_formula_0 0 rfl rfl)
theorem dX5_formula_1 : decode cX5_formula 1 = .ok (.invokestatic 312, 3) := dk_184 1 56 (dk_at dksX5_formula_0 1 rfl rfl)
theorem dX5_formula_4 : decode cX5_formula 4 = .ok (.ifCond .ne 6, 3) := dk_154 0 6 (dk_at dksX5_formula_0 4 rfl rfl)
theorem dX5_formula_7 : decode cX5_formula 7 = .ok (.bipush (-2), 2) := dk_16 254 (dk_at dksX5_formula_0 7 rfl rfl)
theorem dX5_formula_9 : decode cX5_formula 9 = .ok (.ireturn, 1) := dk_172 (dk_at dksX5_formula_0 9 rfl rfl)
theorem dX5_formula_10 : decode cX5_formula 10 = .ok (.aload_n 0, 1) := dk_42 (dk_at dksX5_formula_0 10 rfl rfl)
theorem dX5_formula_11 : decode cX5_formula 11 = .ok (.invokevirtual 459, 3) := dk_182 1 203 (dk_at dksX5_formula_0 11 rfl rfl)
theorem dX5_formula_14 : decode cX5_formula 14 = .ok (.istore_n 2, 1) := dk_61 (dk_at dksX5_formula_0 14 rfl rfl)
theorem dX5_formula_15 : decode cX5_formula 15 = .ok (.aload_n 0, 1) := dk_42 (dk_at dksX5_formula_0 15 rfl rfl)
theorem dX5_formula_16 : decode cX5_formula 16 = .ok (.iconst 0, 1) := dk_3 (dk_at dksX5_formula_0 16 rfl rfl)
theorem dX5_formula_17 : decode cX5_formula 17 = .ok (.putfield 348, 3) := dk_181 1 92 (dk_at dksX5_formula_0 17 rfl rfl)
theorem dX5_formula_20 : decode cX5_formula 20 = .ok (.iload_n 2, 1) := dk_28 (dk_at dksX5_formula_0 20 rfl rfl)
theorem dX5_formula_21 : decode cX5_formula 21 = .ok (.ifCond .ne 11, 3) := dk_154 0 11 (dk_at dksX5_formula_0 21 rfl rfl)
theorem dX5_formula_24 : decode cX5_formula 24 = .ok (.bipush (-100), 2) := dk_16 156 (dk_at dksX5_formula_1 0 rfl rfl)
theorem dX5_formula_26 : decode cX5_formula 26 = .ok (.aload_n 0, 1) := dk_42 (dk_at dksX5_formula_1 2 rfl rfl)
theorem dX5_formula_27 : decode cX5_formula 27 = .ok (.getfield 361, 3) := dk_180 1 105 (dk_at dksX5_formula_1 3 rfl rfl)
theorem dX5_formula_30 : decode cX5_formula 30 = .ok (.isub, 1) := dk_100 (dk_at dksX5_formula_1 6 rfl rfl)
theorem dX5_formula_31 : decode cX5_formula 31 = .ok (.ireturn, 1) := dk_172 (dk_at dksX5_formula_1 7 rfl rfl)
theorem dX5_formula_32 : decode cX5_formula 32 = .ok (.aload_n 0, 1) := dk_42 (dk_at dksX5_formula_1 8 rfl rfl)
theorem dX5_formula_33 : decode cX5_formula 33 = .ok (.iload_n 1, 1) := dk_27 (dk_at dksX5_formula_1 9 rfl rfl)
theorem dX5_formula_34 : decode cX5_formula 34 = .ok (.invokevirtual 462, 3) := dk_182 1 206 (dk_at dksX5_formula_1 10 rfl rfl)
theorem dX5_formula_37 : decode cX5_formula 37 = .ok (.ifCond .eq 6, 3) := dk_153 0 6 (dk_at dksX5_formula_1 13 rfl rfl)
theorem dX5_formula_40 : decode cX5_formula 40 = .ok (.bipush (-3), 2) := dk_16 253 (dk_at dksX5_formula_1 16 rfl rfl)
theorem dX5_formula_42 : decode cX5_formula 42 = .ok (.ireturn, 1) := dk_172 (dk_at dksX5_formula_1 18 rfl rfl)
theorem dX5_formula_43 : decode cX5_formula 43 = .ok (.aload_n 0, 1) := dk_42 (dk_at dksX5_formula_1 19 rfl rfl)
theorem dX5_formula_44 : decode cX5_formula 44 = .ok (.aload_n 0, 1) := dk_42 (dk_at dksX5_formula_1 20 rfl rfl)
theorem dX5_formula_45 : decode cX5_formula 45 = .ok (.invokevirtual 465, 3) := dk_182 1 209 (dk_at dksX5_formula_1 21 rfl rfl)
theorem dX5_formula_48 : decode cX5_formula 48 = .ok (.invokevirtual 468, 3) := dk_182 1 212 (dk_at dksX5_formula_2 0 rfl rfl)
theorem dX5_formula_51 : decode cX5_formula 51 = .ok (.iload_n 1, 1) := dk_27 (dk_at dksX5_formula_2 3 rfl rfl)
theorem dX5_formula_52 : decode cX5_formula 52 = .ok (.ishr, 1) := dk_122 (dk_at dksX5_formula_2 4 rfl rfl)
theorem dX5_formula_53 : decode cX5_formula 53 = .ok (.iconst 1, 1) := dk_4 (dk_at dksX5_formula_2 5 rfl rfl)
theorem dX5_formula_54 : decode cX5_formula 54 = .ok (.iand, 1) := dk_126 (dk_at dksX5_formula_2 6 rfl rfl)
theorem dX5_formula_55 : decode cX5_formula 55 = .ok (.iconst 1, 1) := dk_4 (dk_at dksX5_formula_2 7 rfl rfl)
theorem dX5_formula_56 : decode cX5_formula 56 = .ok (.if_icmp .ne 6, 3) := dk_160 0 6 (dk_at dksX5_formula_2 8 rfl rfl)
theorem dX5_formula_59 : decode cX5_formula 59 = .ok (.bipush (-5), 2) := dk_16 251 (dk_at dksX5_formula_2 11 rfl rfl)
theorem dX5_formula_61 : decode cX5_formula 61 = .ok (.ireturn, 1) := dk_172 (dk_at dksX5_formula_2 13 rfl rfl)
theorem dX5_formula_62 : decode cX5_formula 62 = .ok (.aload_n 0, 1) := dk_42 (dk_at dksX5_formula_2 14 rfl rfl)
theorem dX5_formula_63 : decode cX5_formula 63 = .ok (.getfield 21, 3) := dk_180 0 21 (dk_at dksX5_formula_2 15 rfl rfl)
theorem dX5_formula_66 : decode cX5_formula 66 = .ok (.iload_n 1, 1) := dk_27 (dk_at dksX5_formula_2 18 rfl rfl)
theorem dX5_formula_67 : decode cX5_formula 67 = .ok (.iaload, 1) := dk_46 (dk_at dksX5_formula_2 19 rfl rfl)
theorem dX5_formula_68 : decode cX5_formula 68 = .ok (.istore_n 3, 1) := dk_62 (dk_at dksX5_formula_2 20 rfl rfl)
theorem dX5_formula_69 : decode cX5_formula 69 = .ok (.aload_n 0, 1) := dk_42 (dk_at dksX5_formula_2 21 rfl rfl)
theorem dX5_formula_70 : decode cX5_formula 70 = .ok (.getfield 26, 3) := dk_180 0 26 (dk_at dksX5_formula_3 0 rfl rfl)
theorem dX5_formula_73 : decode cX5_formula 73 = .ok (.iload_n 1, 1) := dk_27 (dk_at dksX5_formula_3 3 rfl rfl)
theorem dX5_formula_74 : decode cX5_formula 74 = .ok (.aaload, 1) := dk_50 (dk_at dksX5_formula_3 4 rfl rfl)
theorem dX5_formula_75 : decode cX5_formula 75 = .ok (.iconst 0, 1) := dk_3 (dk_at dksX5_formula_3 5 rfl rfl)
theorem dX5_formula_76 : decode cX5_formula 76 = .ok (.aload_n 0, 1) := dk_42 (dk_at dksX5_formula_3 6 rfl rfl)
theorem dX5_formula_77 : decode cX5_formula 77 = .ok (.getfield 111, 3) := dk_180 0 111 (dk_at dksX5_formula_3 7 rfl rfl)
theorem dX5_formula_80 : decode cX5_formula 80 = .ok (.iconst 0, 1) := dk_3 (dk_at dksX5_formula_3 10 rfl rfl)
theorem dX5_formula_81 : decode cX5_formula 81 = .ok (.bipush 96, 2) := dk_16 96 (dk_at dksX5_formula_3 11 rfl rfl)
theorem dX5_formula_83 : decode cX5_formula 83 = .ok (.invokestatic 471, 3) := dk_184 1 215 (dk_at dksX5_formula_3 13 rfl rfl)
theorem dX5_formula_86 : decode cX5_formula 86 = .ok (.aload_n 0, 1) := dk_42 (dk_at dksX5_formula_3 16 rfl rfl)
theorem dX5_formula_87 : decode cX5_formula 87 = .ok (.getfield 31, 3) := dk_180 0 31 (dk_at dksX5_formula_3 17 rfl rfl)
theorem dX5_formula_90 : decode cX5_formula 90 = .ok (.iload_n 1, 1) := dk_27 (dk_at dksX5_formula_3 20 rfl rfl)
theorem dX5_formula_91 : decode cX5_formula 91 = .ok (.aaload, 1) := dk_50 (dk_at dksX5_formula_3 21 rfl rfl)
theorem dX5_formula_92 : decode cX5_formula 92 = .ok (.iconst 0, 1) := dk_3 (dk_at dksX5_formula_3 22 rfl rfl)
theorem dX5_formula_93 : decode cX5_formula 93 = .ok (.aload_n 0, 1) := dk_42 (dk_at dksX5_formula_3 23 rfl rfl)
theorem dX5_formula_94 : decode cX5_formula 94 = .ok (.getfield 114, 3) := dk_180 0 114 (dk_at dksX5_formula_4 0 rfl rfl)
theorem dX5_formula_97 : decode cX5_formula 97 = .ok (.iconst 0, 1) := dk_3 (dk_at dksX5_formula_4 3 rfl rfl)
theorem dX5_formula_98 : decode cX5_formula 98 = .ok (.bipush 96, 2) := dk_16 96 (dk_at dksX5_formula_4 4 rfl rfl)
theorem dX5_formula_100 : decode cX5_formula 100 = .ok (.invokestatic 471, 3) := dk_184 1 215 (dk_at dksX5_formula_4 6 rfl rfl)
theorem dX5_formula_103 : decode cX5_formula 103 = .ok (.aload_n 0, 1) := dk_42 (dk_at dksX5_formula_4 9 rfl rfl)
theorem dX5_formula_104 : decode cX5_formula 104 = .ok (.getfield 105, 3) := dk_180 0 105 (dk_at dksX5_formula_4 10 rfl rfl)
theorem dX5_formula_107 : decode cX5_formula 107 = .ok (.iconst 0, 1) := dk_3 (dk_at dksX5_formula_4 13 rfl rfl)
theorem dX5_formula_108 : decode cX5_formula 108 = .ok (.aload_n 0, 1) := dk_42 (dk_at dksX5_formula_4 14 rfl rfl)
theorem dX5_formula_109 : decode cX5_formula 109 = .ok (.getfield 26, 3) := dk_180 0 26 (dk_at dksX5_formula_4 15 rfl rfl)
theorem dX5_formula_112 : decode cX5_formula 112 = .ok (.iload_n 1, 1) := dk_27 (dk_at dksX5_formula_4 18 rfl rfl)
theorem dX5_formula_113 : decode cX5_formula 113 = .ok (.aaload, 1) := dk_50 (dk_at dksX5_formula_4 19 rfl rfl)
theorem dX5_formula_114 : decode cX5_formula 114 = .ok (.iconst 0, 1) := dk_3 (dk_at dksX5_formula_4 20 rfl rfl)
theorem dX5_formula_115 : decode cX5_formula 115 = .ok (.bipush 96, 2) := dk_16 96 (dk_at dksX5_formula_4 21 rfl rfl)
theorem dX5_formula_117 : decode cX5_formula 117 = .ok (.invokestatic 471, 3) := dk_184 1 215 (dk_at dksX5_formula_5 0 rfl rfl)
theorem dX5_formula_120 : decode cX5_formula 120 = .ok (.aload_n 0, 1) := dk_42 (dk_at dksX5_formula_5 3 rfl rfl)
theorem dX5_formula_121 : decode cX5_formula 121 = .ok (.getfield 108, 3) := dk_180 0 108 (dk_at dksX5_formula_5 4 rfl rfl)
theorem dX5_formula_124 : decode cX5_formula 124 = .ok (.iconst 0, 1) := dk_3 (dk_at dksX5_formula_5 7 rfl rfl)
theorem dX5_formula_125 : decode cX5_formula 125 = .ok (.aload_n 0, 1) := dk_42 (dk_at dksX5_formula_5 8 rfl rfl)
theorem dX5_formula_126 : decode cX5_formula 126 = .ok (.getfield 31, 3) := dk_180 0 31 (dk_at dksX5_formula_5 9 rfl rfl)
theorem dX5_formula_129 : decode cX5_formula 129 = .ok (.iload_n 1, 1) := dk_27 (dk_at dksX5_formula_5 12 rfl rfl)
theorem dX5_formula_130 : decode cX5_formula 130 = .ok (.aaload, 1) := dk_50 (dk_at dksX5_formula_5 13 rfl rfl)
theorem dX5_formula_131 : decode cX5_formula 131 = .ok (.iconst 0, 1) := dk_3 (dk_at dksX5_formula_5 14 rfl rfl)
theorem dX5_formula_132 : decode cX5_formula 132 = .ok (.bipush 96, 2) := dk_16 96 (dk_at dksX5_formula_5 15 rfl rfl)
theorem dX5_formula_134 : decode cX5_formula 134 = .ok (.invokestatic 471, 3) := dk_184 1 215 (dk_at dksX5_formula_5 17 rfl rfl)
theorem dX5_formula_137 : decode cX5_formula 137 = .ok (.aload_n 0, 1) := dk_42 (dk_at dksX5_formula_5 20 rfl rfl)
theorem dX5_formula_138 : decode cX5_formula 138 = .ok (.getfield 21, 3) := dk_180 0 21 (dk_at dksX5_formula_5 21 rfl rfl)
theorem dX5_formula_141 : decode cX5_formula 141 = .ok (.iload_n 1, 1) := dk_27 (dk_at dksX5_formula_6 0 rfl rfl)
theorem dX5_formula_142 : decode cX5_formula 142 = .ok (.aload_n 0, 1) := dk_42 (dk_at dksX5_formula_6 1 rfl rfl)
theorem dX5_formula_143 : decode cX5_formula 143 = .ok (.getfield 424, 3) := dk_180 1 168 (dk_at dksX5_formula_6 2 rfl rfl)
theorem dX5_formula_146 : decode cX5_formula 146 = .ok (.iastore, 1) := dk_79 (dk_at dksX5_formula_6 5 rfl rfl)
theorem dX5_formula_147 : decode cX5_formula 147 = .ok (.aload_n 0, 1) := dk_42 (dk_at dksX5_formula_6 6 rfl rfl)
theorem dX5_formula_148 : decode cX5_formula 148 = .ok (.iload_n 1, 1) := dk_27 (dk_at dksX5_formula_6 7 rfl rfl)
theorem dX5_formula_149 : decode cX5_formula 149 = .ok (.invokevirtual 320, 3) := dk_182 1 64 (dk_at dksX5_formula_6 8 rfl rfl)
theorem dX5_formula_152 : decode cX5_formula 152 = .ok (.aload_n 0, 1) := dk_42 (dk_at dksX5_formula_6 11 rfl rfl)
theorem dX5_formula_153 : decode cX5_formula 153 = .ok (.invokevirtual 477, 3) := dk_182 1 221 (dk_at dksX5_formula_6 12 rfl rfl)
theorem dX5_formula_156 : decode cX5_formula 156 = .ok (.ifCond .eq 52, 3) := dk_153 0 52 (dk_at dksX5_formula_6 15 rfl rfl)
theorem dX5_formula_159 : decode cX5_formula 159 = .ok (.aload_n 0, 1) := dk_42 (dk_at dksX5_formula_6 18 rfl rfl)
theorem dX5_formula_160 : decode cX5_formula 160 = .ok (.getfield 21, 3) := dk_180 0 21 (dk_at dksX5_formula_6 19 rfl rfl)
theorem dX5_formula_163 : decode cX5_formula 163 = .ok (.iload_n 1, 1) := dk_27 (dk_at dksX5_formula_6 22 rfl rfl)
theorem dX5_formula_164 : decode cX5_formula 164 = .ok (.iload_n 3, 1) := dk_29 (dk_at dksX5_formula_6 23 rfl rfl)
theorem dX5_formula_165 : decode cX5_formula 165 = .ok (.iastore, 1) := dk_79 (dk_at dksX5_formula_7 0 rfl rfl)
theorem dX5_formula_166 : decode cX5_formula 166 = .ok (.aload_n 0, 1) := dk_42 (dk_at dksX5_formula_7 1 rfl rfl)
theorem dX5_formula_167 : decode cX5_formula 167 = .ok (.getfield 111, 3) := dk_180 0 111 (dk_at dksX5_formula_7 2 rfl rfl)
theorem dX5_formula_170 : decode cX5_formula 170 = .ok (.iconst 0, 1) := dk_3 (dk_at dksX5_formula_7 5 rfl rfl)
theorem dX5_formula_171 : decode cX5_formula 171 = .ok (.aload_n 0, 1) := dk_42 (dk_at dksX5_formula_7 6 rfl rfl)
theorem dX5_formula_172 : decode cX5_formula 172 = .ok (.getfield 26, 3) := dk_180 0 26 (dk_at dksX5_formula_7 7 rfl rfl)
theorem dX5_formula_175 : decode cX5_formula 175 = .ok (.iload_n 1, 1) := dk_27 (dk_at dksX5_formula_7 10 rfl rfl)
theorem dX5_formula_176 : decode cX5_formula 176 = .ok (.aaload, 1) := dk_50 (dk_at dksX5_formula_7 11 rfl rfl)
theorem dX5_formula_177 : decode cX5_formula 177 = .ok (.iconst 0, 1) := dk_3 (dk_at dksX5_formula_7 12 rfl rfl)
theorem dX5_formula_178 : decode cX5_formula 178 = .ok (.bipush 96, 2) := dk_16 96 (dk_at dksX5_formula_7 13 rfl rfl)
theorem dX5_formula_180 : decode cX5_formula 180 = .ok (.invokestatic 471, 3) := dk_184 1 215 (dk_at dksX5_formula_7 15 rfl rfl)
theorem dX5_formula_183 : decode cX5_formula 183 = .ok (.aload_n 0, 1) := dk_42 (dk_at dksX5_formula_7 18 rfl rfl)
theorem dX5_formula_184 : decode cX5_formula 184 = .ok (.getfield 114, 3) := dk_180 0 114 (dk_at dksX5_formula_7 19 rfl rfl)
theorem dX5_formula_187 : decode cX5_formula 187 = .ok (.iconst 0, 1) := dk_3 (dk_at dksX5_formula_7 22 rfl rfl)
theorem dX5_formula_188 : decode cX5_formula 188 = .ok (.aload_n 0, 1) := dk_42 (dk_at dksX5_formula_7 23 rfl rfl)
theorem dX5_formula_189 : decode cX5_formula 189 = .ok (.getfield 31, 3) := dk_180 0 31 (dk_at dksX5_formula_8 0 rfl rfl)
theorem dX5_formula_192 : decode cX5_formula 192 = .ok (.iload_n 1, 1) := dk_27 (dk_at dksX5_formula_8 3 rfl rfl)
theorem dX5_formula_193 : decode cX5_formula 193 = .ok (.aaload, 1) := dk_50 (dk_at dksX5_formula_8 4 rfl rfl)
theorem dX5_formula_194 : decode cX5_formula 194 = .ok (.iconst 0, 1) := dk_3 (dk_at dksX5_formula_8 5 rfl rfl)
theorem dX5_formula_195 : decode cX5_formula 195 = .ok (.bipush 96, 2) := dk_16 96 (dk_at dksX5_formula_8 6 rfl rfl)
theorem dX5_formula_197 : decode cX5_formula 197 = .ok (.invokestatic 471, 3) := dk_184 1 215 (dk_at dksX5_formula_8 8 rfl rfl)
theorem dX5_formula_200 : decode cX5_formula 200 = .ok (.aload_n 0, 1) := dk_42 (dk_at dksX5_formula_8 11 rfl rfl)
theorem dX5_formula_201 : decode cX5_formula 201 = .ok (.iload_n 1, 1) := dk_27 (dk_at dksX5_formula_8 12 rfl rfl)
theorem dX5_formula_202 : decode cX5_formula 202 = .ok (.invokevirtual 320, 3) := dk_182 1 64 (dk_at dksX5_formula_8 13 rfl rfl)
theorem dX5_formula_205 : decode cX5_formula 205 = .ok (.bipush (-4), 2) := dk_16 252 (dk_at dksX5_formula_8 16 rfl rfl)
theorem dX5_formula_207 : decode cX5_formula 207 = .ok (.ireturn, 1) := dk_172 (dk_at dksX5_formula_8 18 rfl rfl)
theorem dX5_formula_208 : decode cX5_formula 208 = .ok (.aload_n 0, 1) := dk_42 (dk_at dksX5_formula_8 19 rfl rfl)
theorem dX5_formula_209 : decode cX5_formula 209 = .ok (.getfield 13, 3) := dk_180 0 13 (dk_at dksX5_formula_8 20 rfl rfl)
theorem dX5_formula_212 : decode cX5_formula 212 = .ok (.iload_n 1, 1) := dk_27 (dk_at dksX5_formula_8 23 rfl rfl)
theorem dX5_formula_213 : decode cX5_formula 213 = .ok (.iconst 0, 1) := dk_3 (dk_at dksX5_formula_9 0 rfl rfl)
theorem dX5_formula_214 : decode cX5_formula 214 = .ok (.bastore, 1) := dk_84 (dk_at dksX5_formula_9 1 rfl rfl)
theorem dX5_formula_215 : decode cX5_formula 215 = .ok (.aload_n 0, 1) := dk_42 (dk_at dksX5_formula_9 2 rfl rfl)
theorem dX5_formula_216 : decode cX5_formula 216 = .ok (.getfield 17, 3) := dk_180 0 17 (dk_at dksX5_formula_9 3 rfl rfl)
theorem dX5_formula_219 : decode cX5_formula 219 = .ok (.iload_n 1, 1) := dk_27 (dk_at dksX5_formula_9 6 rfl rfl)
theorem dX5_formula_220 : decode cX5_formula 220 = .ok (.dconst 0, 1) := dk_14 (dk_at dksX5_formula_9 7 rfl rfl)
theorem dX5_formula_221 : decode cX5_formula 221 = .ok (.dastore, 1) := dk_82 (dk_at dksX5_formula_9 8 rfl rfl)
theorem dX5_formula_222 : decode cX5_formula 222 = .ok (.iconst 1, 1) := dk_4 (dk_at dksX5_formula_9 9 rfl rfl)
theorem dX5_formula_223 : decode cX5_formula 223 = .ok (.ireturn, 1) := dk_172 (dk_at dksX5_formula_9 10 rfl rfl)
abbrev cX5_isRead : ByteArray := prog_35_method_61_code
def yX5_isRead : MethodName := ⟨RX5, "isRead", "()Z"⟩
def dkwX5_isRead_2 : List UInt8 := [167, 0, 4, 3, 128, 181, 1, 101, 42, 180, 1, 101, 154, 0, 7, 4, 167, 0, 4, 3, 172]
abbrev dktX5_isRead_2 : List UInt8 := dkwX5_isRead_2 ++ []
def dkwX5_isRead_1 : List UInt8 := [181, 1, 101, 42, 182, 1, 165, 42, 182, 1, 191, 42, 89, 180, 1, 101, 42, 180, 1, 108, 153, 0, 7, 4]
abbrev dktX5_isRead_1 : List UInt8 := dkwX5_isRead_1 ++ dktX5_isRead_2
def dkwX5_isRead_0 : List UInt8 := [42, 3, 181, 1, 95, 42, 3, 181, 1, 168, 42, 3, 181, 1, 194, 42, 3, 181, 1, 182, 42, 3]
abbrev dktX5_isRead_0 : List UInt8 := dkwX5_isRead_0 ++ dktX5_isRead_1
theorem dksX5_isRead_0 : cX5_isRead.data.toList.drop 0 = dktX5_isRead_0 := by decide +kernel
theorem dksX5_isRead_1 : cX5_isRead.data.toList.drop 22 = dktX5_isRead_1 := dk_seg dksX5_isRead_0 22 rfl rfl
theorem dksX5_isRead_2 : cX5_isRead.data.toList.drop 46 = dktX5_isRead_2 := dk_seg dksX5_isRead_1 24 rfl rfl
theorem dX5_isRead_0 : decode cX5_isRead 0 = .ok (.aload_n 0, 1) := dk_42 (dk_at dksX5_isRead_0 0 rfl rfl)
theorem dX5_isRead_1 : decode cX5_isRead 1 = .ok (.iconst 0, 1) := dk_3 (dk_at dksX5_isRead_0 1 rfl rfl)
theorem dX5_isRead_2 : decode cX5_isRead 2 = .ok (.putfield 351, 3) := dk_181 1 95 (dk_at dksX5_isRead_0 2 rfl rfl)
theorem dX5_isRead_5 : decode cX5_isRead 5 = .ok (.aload_n 0, 1) := dk_42 (dk_at dksX5_isRead_0 5 rfl rfl)
theorem dX5_isRead_6 : decode cX5_isRead 6 = .ok (.iconst 0, 1) := dk_3 (dk_at dksX5_isRead_0 6 rfl rfl)
theorem dX5_isRead_7 : decode cX5_isRead 7 = .ok (.putfield 424, 3) := dk_181 1 168 (dk_at dksX5_isRead_0 7 rfl rfl)
theorem dX5_isRead_10 : decode cX5_isRead 10 = .ok (.aload_n 0, 1) := dk_42 (dk_at dksX5_isRead_0 10 rfl rfl)
theorem dX5_isRead_11 : decode cX5_isRead 11 = .ok (.iconst 0, 1) := dk_3 (dk_at dksX5_isRead_0 11 rfl rfl)
theorem dX5_isRead_12 : decode cX5_isRead 12 = .ok (.putfield 450, 3) := dk_181 1 194 (dk_at dksX5_isRead_0 12 rfl rfl)
theorem dX5_isRead_15 : decode cX5_isRead 15 = .ok (.aload_n 0, 1) := dk_42 (dk_at dksX5_isRead_0 15 rfl rfl)
theorem dX5_isRead_16 : decode cX5_isRead 16 = .ok (.iconst 0, 1) := dk_3 (dk_at dksX5_isRead_0 16 rfl rfl)
theorem dX5_isRead_17 : decode cX5_isRead 17 = .ok (.putfield 438, 3) := dk_181 1 182 (dk_at dksX5_isRead_0 17 rfl rfl)
theorem dX5_isRead_20 : decode cX5_isRead 20 = .ok (.aload_n 0, 1) := dk_42 (dk_at dksX5_isRead_0 20 rfl rfl)
theorem dX5_isRead_21 : decode cX5_isRead 21 = .ok (.iconst 0, 1) := dk_3 (dk_at dksX5_isRead_0 21 rfl rfl)
theorem dX5_isRead_22 : decode cX5_isRead 22 = .ok (.putfield 357, 3) := dk_181 1 101 (dk_at dksX5_isRead_1 0 rfl rfl)
theorem dX5_isRead_25 : decode cX5_isRead 25 = .ok (.aload_n 0, 1) := dk_42 (dk_at dksX5_isRead_1 3 rfl rfl)
theorem dX5_isRead_26 : decode cX5_isRead 26 = .ok (.invokevirtual 421, 3) := dk_182 1 165 (dk_at dksX5_isRead_1 4 rfl rfl)
theorem dX5_isRead_29 : decode cX5_isRead 29 = .ok (.aload_n 0, 1) := dk_42 (dk_at dksX5_isRead_1 7 rfl rfl)
theorem dX5_isRead_30 : decode cX5_isRead 30 = .ok (.invokevirtual 447, 3) := dk_182 1 191 (dk_at dksX5_isRead_1 8 rfl rfl)
theorem dX5_isRead_33 : decode cX5_isRead 33 = .ok (.aload_n 0, 1) := dk_42 (dk_at dksX5_isRead_1 11 rfl rfl)
theorem dX5_isRead_34 : decode cX5_isRead 34 = .ok (.dup, 1) := dk_89 (dk_at dksX5_isRead_1 12 rfl rfl)
theorem dX5_isRead_35 : decode cX5_isRead 35 = .ok (.getfield 357, 3) := dk_180 1 101 (dk_at dksX5_isRead_1 13 rfl rfl)
theorem dX5_isRead_38 : decode cX5_isRead 38 = .ok (.aload_n 0, 1) := dk_42 (dk_at dksX5_isRead_1 16 rfl rfl)
theorem dX5_isRead_39 : decode cX5_isRead 39 = .ok (.getfield 364, 3) := dk_180 1 108 (dk_at dksX5_isRead_1 17 rfl rfl)
theorem dX5_isRead_42 : decode cX5_isRead 42 = .ok (.ifCond .eq 7, 3) := dk_153 0 7 (dk_at dksX5_isRead_1 20 rfl rfl)
theorem dX5_isRead_45 : decode cX5_isRead 45 = .ok (.iconst 1, 1) := dk_4 (dk_at dksX5_isRead_1 23 rfl rfl)
theorem dX5_isRead_46 : decode cX5_isRead 46 = .ok (.goto 4, 3) := dk_167 0 4 (dk_at dksX5_isRead_2 0 rfl rfl)
theorem dX5_isRead_49 : decode cX5_isRead 49 = .ok (.iconst 0, 1) := dk_3 (dk_at dksX5_isRead_2 3 rfl rfl)
theorem dX5_isRead_50 : decode cX5_isRead 50 = .ok (.ior, 1) := dk_128 (dk_at dksX5_isRead_2 4 rfl rfl)
theorem dX5_isRead_51 : decode cX5_isRead 51 = .ok (.putfield 357, 3) := dk_181 1 101 (dk_at dksX5_isRead_2 5 rfl rfl)
theorem dX5_isRead_54 : decode cX5_isRead 54 = .ok (.aload_n 0, 1) := dk_42 (dk_at dksX5_isRead_2 8 rfl rfl)
theorem dX5_isRead_55 : decode cX5_isRead 55 = .ok (.getfield 357, 3) := dk_180 1 101 (dk_at dksX5_isRead_2 9 rfl rfl)
theorem dX5_isRead_58 : decode cX5_isRead 58 = .ok (.ifCond .ne 7, 3) := dk_154 0 7 (dk_at dksX5_isRead_2 12 rfl rfl)
theorem dX5_isRead_61 : decode cX5_isRead 61 = .ok (.iconst 1, 1) := dk_4 (dk_at dksX5_isRead_2 15 rfl rfl)
theorem dX5_isRead_62 : decode cX5_isRead 62 = .ok (.goto 4, 3) := dk_167 0 4 (dk_at dksX5_isRead_2 16 rfl rfl)
theorem dX5_isRead_65 : decode cX5_isRead 65 = .ok (.iconst 0, 1) := dk_3 (dk_at dksX5_isRead_2 19 rfl rfl)
theorem dX5_isRead_66 : decode cX5_isRead 66 = .ok (.ireturn, 1) := dk_172 (dk_at dksX5_isRead_2 20 rfl rfl)
abbrev cX5_next : ByteArray := prog_35_method_47_code
def yX5_next : MethodName := ⟨RX5, "next", "()V"⟩
def dkwX5_next_10 : List UInt8 := [167, 0, 4, 3, 181, 1, 101, 177]
abbrev dktX5_next_10 : List UInt8 := dkwX5_next_10 ++ []
def dkwX5_next_9 : List UInt8 := [89, 180, 1, 95, 4, 96, 181, 1, 95, 42, 19, 1, 125, 42, 180, 1, 122, 182, 1, 127, 156, 0, 7, 4]
abbrev dktX5_next_9 : List UInt8 := dkwX5_next_9 ++ dktX5_next_10
def dkwX5_next_8 : List UInt8 := [182, 1, 119, 167, 0, 52, 42, 6, 181, 1, 108, 42, 42, 42, 180, 1, 95, 182, 1, 98, 181, 1, 122, 42]
abbrev dktX5_next_8 : List UInt8 := dkwX5_next_8 ++ dktX5_next_9
def dkwX5_next_7 : List UInt8 := [4, 167, 0, 4, 3, 181, 1, 101, 167, 0, 71, 42, 182, 1, 115, 153, 0, 15, 42, 5, 181, 1, 108, 42]
abbrev dktX5_next_7 : List UInt8 := dkwX5_next_7 ++ dktX5_next_8
def dkwX5_next_6 : List UInt8 := [160, 0, 16, 42, 42, 180, 1, 105, 182, 1, 98, 16, 120, 164, 0, 15, 42, 182, 1, 111, 2, 160, 0, 7]
abbrev dktX5_next_6 : List UInt8 := dkwX5_next_6 ++ dktX5_next_7
def dkwX5_next_5 : List UInt8 := [180, 1, 95, 4, 96, 181, 1, 95, 167, 255, 228, 42, 42, 180, 1, 95, 42, 180, 1, 105, 100, 4]
abbrev dktX5_next_5 : List UInt8 := dkwX5_next_5 ++ dktX5_next_6
def dkwX5_next_4 : List UInt8 := [181, 1, 108, 42, 42, 180, 1, 95, 182, 1, 98, 16, 97, 16, 122, 184, 0, 183, 153, 0, 16, 42, 89]
abbrev dktX5_next_4 : List UInt8 := dkwX5_next_4 ++ dktX5_next_5
def dkwX5_next_3 : List UInt8 := [167, 0, 171, 42, 42, 180, 1, 95, 182, 1, 98, 16, 97, 16, 122, 184, 0, 183, 153, 0, 85, 42, 4]
abbrev dktX5_next_3 : List UInt8 := dkwX5_next_3 ++ dktX5_next_4
def dkwX5_next_2 : List UInt8 := [42, 42, 180, 1, 95, 181, 1, 105, 42, 180, 1, 95, 42, 180, 1, 92, 160, 0, 11, 42, 3, 181, 1, 108]
abbrev dktX5_next_2 : List UInt8 := dkwX5_next_2 ++ dktX5_next_3
def dkwX5_next_1 : List UInt8 := [180, 1, 95, 182, 1, 98, 16, 10, 160, 0, 16, 42, 89, 180, 1, 95, 4, 96, 181, 1, 95, 167, 255, 220]
abbrev dktX5_next_1 : List UInt8 := dkwX5_next_1 ++ dktX5_next_2
def dkwX5_next_0 : List UInt8 := [42, 180, 1, 101, 153, 0, 4, 177, 42, 42, 180, 1, 95, 182, 1, 98, 16, 32, 159, 0, 16, 42, 42]
abbrev dktX5_next_0 : List UInt8 := dkwX5_next_0 ++ dktX5_next_1
theorem dksX5_next_0 : cX5_next.data.toList.drop 0 = dktX5_next_0 := by decide +kernel
theorem dksX5_next_1 : cX5_next.data.toList.drop 23 = dktX5_next_1 := dk_seg dksX5_next_0 23 rfl rfl
theorem dksX5_next_2 : cX5_next.data.toList.drop 47 = dktX5_next_2 := dk_seg dksX5_next_1 24 rfl rfl
theorem dksX5_next_3 : cX5_next.data.toList.drop 71 = dktX5_next_3 := dk_seg dksX5_next_2 24 rfl rfl
theorem dksX5_next_4 : cX5_next.data.toList.drop 94 = dktX5_next_4 := dk_seg dksX5_next_3 23 rfl rfl
theorem dksX5_next_5 : cX5_next.data.toList.drop 117 = dktX5_next_5 := dk_seg dksX5_next_4 23 rfl rfl
theorem dksX5_next_6 : cX5_next.data.toList.drop 139 = dktX5_next_6 := dk_seg dksX5_next_5 22 rfl rfl
theorem dksX5_next_7 : cX5_next.data.toList.drop 163 = dktX5_next_7 := dk_seg dksX5_next_6 24 rfl rfl
theorem dksX5_next_8 : cX5_next.data.toList.drop 187 = dktX5_next_8 := dk_seg dksX5_next_7 24 rfl rfl
theorem dksX5_next_9 : cX5_next.data.toList.drop 211 = dktX5_next_9 := dk_seg dksX5_next_8 24 rfl rfl
theorem dksX5_next_10 : cX5_next.data.toList.drop 235 = dktX5_next_10 := dk_seg dksX5_next_9 24 rfl rfl
theorem dX5_next_0 : decode cX5_next 0 = .ok (.aload_n 0, 1) := dk_42 (dk_at dksX5_next_0 0 rfl rfl)
theorem dX5_next_1 : decode cX5_next 1 = .ok (.getfield 357, 3) := dk_180 1 101 (dk_at dksX5_next_0 1 rfl rfl)
theorem dX5_next_4 : decode cX5_next 4 = .ok (.ifCond .eq 4, 3) := dk_153 0 4 (dk_at dksX5_next_0 4 rfl rfl)
theorem dX5_next_7 : decode cX5_next 7 = .ok (.return_, 1) := dk_177 (dk_at dksX5_next_0 7 rfl rfl)
theorem dX5_next_8 : decode cX5_next 8 = .ok (.aload_n 0, 1) := dk_42 (dk_at dksX5_next_0 8 rfl rfl)
theorem dX5_next_9 : decode cX5_next 9 = .ok (.aload_n 0, 1) := dk_42 (dk_at dksX5_next_0 9 rfl rfl)
theorem dX5_next_10 : decode cX5_next 10 = .ok (.getfield 351, 3) := dk_180 1 95 (dk_at dksX5_next_0 10 rfl rfl)
theorem dX5_next_13 : decode cX5_next 13 = .ok (.invokevirtual 354, 3) := dk_182 1 98 (dk_at dksX5_next_0 13 rfl rfl)
theorem dX5_next_16 : decode cX5_next 16 = .ok (.bipush 32, 2) := dk_16 32 (dk_at dksX5_next_0 16 rfl rfl)
theorem dX5_next_18 : decode cX5_next 18 = .ok (.if_icmp .eq 16, 3) := dk_159 0 16 (dk_at dksX5_next_0 18 rfl rfl)
theorem dX5_next_21 : decode cX5_next 21 = .ok (.aload_n 0, 1) := dk_42 (dk_at dksX5_next_0 21 rfl rfl)
theorem dX5_next_22 : decode cX5_next 22 = .ok (.aload_n 0, 1) := dk_42 (dk_at dksX5_next_0 22 rfl rfl)
theorem dX5_next_23 : decode cX5_next 23 = .ok (.getfield 351, 3) := dk_180 1 95 (dk_at dksX5_next_1 0 rfl rfl)
theorem dX5_next_26 : decode cX5_next 26 = .ok (.invokevirtual 354, 3) := dk_182 1 98 (dk_at dksX5_next_1 3 rfl rfl)
theorem dX5_next_29 : decode cX5_next 29 = .ok (.bipush 10, 2) := dk_16 10 (dk_at dksX5_next_1 6 rfl rfl)
theorem dX5_next_31 : decode cX5_next 31 = .ok (.if_icmp .ne 16, 3) := dk_160 0 16 (dk_at dksX5_next_1 8 rfl rfl)
theorem dX5_next_34 : decode cX5_next 34 = .ok (.aload_n 0, 1) := dk_42 (dk_at dksX5_next_1 11 rfl rfl)
theorem dX5_next_35 : decode cX5_next 35 = .ok (.dup, 1) := dk_89 (dk_at dksX5_next_1 12 rfl rfl)
theorem dX5_next_36 : decode cX5_next 36 = .ok (.getfield 351, 3) := dk_180 1 95 (dk_at dksX5_next_1 13 rfl rfl)
theorem dX5_next_39 : decode cX5_next 39 = .ok (.iconst 1, 1) := dk_4 (dk_at dksX5_next_1 16 rfl rfl)
theorem dX5_next_40 : decode cX5_next 40 = .ok (.iadd, 1) := dk_96 (dk_at dksX5_next_1 17 rfl rfl)
theorem dX5_next_41 : decode cX5_next 41 = .ok (.putfield 351, 3) := dk_181 1 95 (dk_at dksX5_next_1 18 rfl rfl)
theorem dX5_next_44 : decode cX5_next 44 = .ok (.goto (-36), 3) := dk_167 255 220 (dk_at dksX5_next_1 21 rfl rfl)
theorem dX5_next_47 : decode cX5_next 47 = .ok (.aload_n 0, 1) := dk_42 (dk_at dksX5_next_2 0 rfl rfl)
theorem dX5_next_48 : decode cX5_next 48 = .ok (.aload_n 0, 1) := dk_42 (dk_at dksX5_next_2 1 rfl rfl)
theorem dX5_next_49 : decode cX5_next 49 = .ok (.getfield 351, 3) := dk_180 1 95 (dk_at dksX5_next_2 2 rfl rfl)
theorem dX5_next_52 : decode cX5_next 52 = .ok (.putfield 361, 3) := dk_181 1 105 (dk_at dksX5_next_2 5 rfl rfl)
theorem dX5_next_55 : decode cX5_next 55 = .ok (.aload_n 0, 1) := dk_42 (dk_at dksX5_next_2 8 rfl rfl)
theorem dX5_next_56 : decode cX5_next 56 = .ok (.getfield 351, 3) := dk_180 1 95 (dk_at dksX5_next_2 9 rfl rfl)
theorem dX5_next_59 : decode cX5_next 59 = .ok (.aload_n 0, 1) := dk_42 (dk_at dksX5_next_2 12 rfl rfl)
theorem dX5_next_60 : decode cX5_next 60 = .ok (.getfield 348, 3) := dk_180 1 92 (dk_at dksX5_next_2 13 rfl rfl)
theorem dX5_next_63 : decode cX5_next 63 = .ok (.if_icmp .ne 11, 3) := dk_160 0 11 (dk_at dksX5_next_2 16 rfl rfl)
theorem dX5_next_66 : decode cX5_next 66 = .ok (.aload_n 0, 1) := dk_42 (dk_at dksX5_next_2 19 rfl rfl)
theorem dX5_next_67 : decode cX5_next 67 = .ok (.iconst 0, 1) := dk_3 (dk_at dksX5_next_2 20 rfl rfl)
theorem dX5_next_68 : decode cX5_next 68 = .ok (.putfield 364, 3) := dk_181 1 108 (dk_at dksX5_next_2 21 rfl rfl)
theorem dX5_next_71 : decode cX5_next 71 = .ok (.goto 171, 3) := dk_167 0 171 (dk_at dksX5_next_3 0 rfl rfl)
theorem dX5_next_74 : decode cX5_next 74 = .ok (.aload_n 0, 1) := dk_42 (dk_at dksX5_next_3 3 rfl rfl)
theorem dX5_next_75 : decode cX5_next 75 = .ok (.aload_n 0, 1) := dk_42 (dk_at dksX5_next_3 4 rfl rfl)
theorem dX5_next_76 : decode cX5_next 76 = .ok (.getfield 351, 3) := dk_180 1 95 (dk_at dksX5_next_3 5 rfl rfl)
theorem dX5_next_79 : decode cX5_next 79 = .ok (.invokevirtual 354, 3) := dk_182 1 98 (dk_at dksX5_next_3 8 rfl rfl)
theorem dX5_next_82 : decode cX5_next 82 = .ok (.bipush 97, 2) := dk_16 97 (dk_at dksX5_next_3 11 rfl rfl)
theorem dX5_next_84 : decode cX5_next 84 = .ok (.bipush 122, 2) := dk_16 122 (dk_at dksX5_next_3 13 rfl rfl)
theorem dX5_next_86 : decode cX5_next 86 = .ok (.invokestatic 183, 3) := dk_184 0 183 (dk_at dksX5_next_3 15 rfl rfl)
theorem dX5_next_89 : decode cX5_next 89 = .ok (.ifCond .eq 85, 3) := dk_153 0 85 (dk_at dksX5_next_3 18 rfl rfl)
theorem dX5_next_92 : decode cX5_next 92 = .ok (.aload_n 0, 1) := dk_42 (dk_at dksX5_next_3 21 rfl rfl)
theorem dX5_next_93 : decode cX5_next 93 = .ok (.iconst 1, 1) := dk_4 (dk_at dksX5_next_3 22 rfl rfl)
theorem dX5_next_94 : decode cX5_next 94 = .ok (.putfield 364, 3) := dk_181 1 108 (dk_at dksX5_next_4 0 rfl rfl)
theorem dX5_next_97 : decode cX5_next 97 = .ok (.aload_n 0, 1) := dk_42 (dk_at dksX5_next_4 3 rfl rfl)
theorem dX5_next_98 : decode cX5_next 98 = .ok (.aload_n 0, 1) := dk_42 (dk_at dksX5_next_4 4 rfl rfl)
theorem dX5_next_99 : decode cX5_next 99 = .ok (.getfield 351, 3) := dk_180 1 95 (dk_at dksX5_next_4 5 rfl rfl)
theorem dX5_next_102 : decode cX5_next 102 = .ok (.invokevirtual 354, 3) := dk_182 1 98 (dk_at dksX5_next_4 8 rfl rfl)
theorem dX5_next_105 : decode cX5_next 105 = .ok (.bipush 97, 2) := dk_16 97 (dk_at dksX5_next_4 11 rfl rfl)
theorem dX5_next_107 : decode cX5_next 107 = .ok (.bipush 122, 2) := dk_16 122 (dk_at dksX5_next_4 13 rfl rfl)
theorem dX5_next_109 : decode cX5_next 109 = .ok (.invokestatic 183, 3) := dk_184 0 183 (dk_at dksX5_next_4 15 rfl rfl)
theorem dX5_next_112 : decode cX5_next 112 = .ok (.ifCond .eq 16, 3) := dk_153 0 16 (dk_at dksX5_next_4 18 rfl rfl)
theorem dX5_next_115 : decode cX5_next 115 = .ok (.aload_n 0, 1) := dk_42 (dk_at dksX5_next_4 21 rfl rfl)
theorem dX5_next_116 : decode cX5_next 116 = .ok (.dup, 1) := dk_89 (dk_at dksX5_next_4 22 rfl rfl)
theorem dX5_next_117 : decode cX5_next 117 = .ok (.getfield 351, 3) := dk_180 1 95 (dk_at dksX5_next_5 0 rfl rfl)
theorem dX5_next_120 : decode cX5_next 120 = .ok (.iconst 1, 1) := dk_4 (dk_at dksX5_next_5 3 rfl rfl)
theorem dX5_next_121 : decode cX5_next 121 = .ok (.iadd, 1) := dk_96 (dk_at dksX5_next_5 4 rfl rfl)
theorem dX5_next_122 : decode cX5_next 122 = .ok (.putfield 351, 3) := dk_181 1 95 (dk_at dksX5_next_5 5 rfl rfl)
theorem dX5_next_125 : decode cX5_next 125 = .ok (.goto (-28), 3) := dk_167 255 228 (dk_at dksX5_next_5 8 rfl rfl)
theorem dX5_next_128 : decode cX5_next 128 = .ok (.aload_n 0, 1) := dk_42 (dk_at dksX5_next_5 11 rfl rfl)
theorem dX5_next_129 : decode cX5_next 129 = .ok (.aload_n 0, 1) := dk_42 (dk_at dksX5_next_5 12 rfl rfl)
theorem dX5_next_130 : decode cX5_next 130 = .ok (.getfield 351, 3) := dk_180 1 95 (dk_at dksX5_next_5 13 rfl rfl)
theorem dX5_next_133 : decode cX5_next 133 = .ok (.aload_n 0, 1) := dk_42 (dk_at dksX5_next_5 16 rfl rfl)
theorem dX5_next_134 : decode cX5_next 134 = .ok (.getfield 361, 3) := dk_180 1 105 (dk_at dksX5_next_5 17 rfl rfl)
theorem dX5_next_137 : decode cX5_next 137 = .ok (.isub, 1) := dk_100 (dk_at dksX5_next_5 20 rfl rfl)
theorem dX5_next_138 : decode cX5_next 138 = .ok (.iconst 1, 1) := dk_4 (dk_at dksX5_next_5 21 rfl rfl)
theorem dX5_next_139 : decode cX5_next 139 = .ok (.if_icmp .ne 16, 3) := dk_160 0 16 (dk_at dksX5_next_6 0 rfl rfl)
theorem dX5_next_142 : decode cX5_next 142 = .ok (.aload_n 0, 1) := dk_42 (dk_at dksX5_next_6 3 rfl rfl)
theorem dX5_next_143 : decode cX5_next 143 = .ok (.aload_n 0, 1) := dk_42 (dk_at dksX5_next_6 4 rfl rfl)
theorem dX5_next_144 : decode cX5_next 144 = .ok (.getfield 361, 3) := dk_180 1 105 (dk_at dksX5_next_6 5 rfl rfl)
theorem dX5_next_147 : decode cX5_next 147 = .ok (.invokevirtual 354, 3) := dk_182 1 98 (dk_at dksX5_next_6 8 rfl rfl)
theorem dX5_next_150 : decode cX5_next 150 = .ok (.bipush 120, 2) := dk_16 120 (dk_at dksX5_next_6 11 rfl rfl)
theorem dX5_next_152 : decode cX5_next 152 = .ok (.if_icmp .le 15, 3) := dk_164 0 15 (dk_at dksX5_next_6 13 rfl rfl)
theorem dX5_next_155 : decode cX5_next 155 = .ok (.aload_n 0, 1) := dk_42 (dk_at dksX5_next_6 16 rfl rfl)
theorem dX5_next_156 : decode cX5_next 156 = .ok (.invokevirtual 367, 3) := dk_182 1 111 (dk_at dksX5_next_6 17 rfl rfl)
theorem dX5_next_159 : decode cX5_next 159 = .ok (.iconst (-1), 1) := dk_2 (dk_at dksX5_next_6 20 rfl rfl)
theorem dX5_next_160 : decode cX5_next 160 = .ok (.if_icmp .ne 7, 3) := dk_160 0 7 (dk_at dksX5_next_6 21 rfl rfl)
theorem dX5_next_163 : decode cX5_next 163 = .ok (.iconst 1, 1) := dk_4 (dk_at dksX5_next_7 0 rfl rfl)
theorem dX5_next_164 : decode cX5_next 164 = .ok (.goto 4, 3) := dk_167 0 4 (dk_at dksX5_next_7 1 rfl rfl)
theorem dX5_next_167 : decode cX5_next 167 = .ok (.iconst 0, 1) := dk_3 (dk_at dksX5_next_7 4 rfl rfl)
theorem dX5_next_168 : decode cX5_next 168 = .ok (.putfield 357, 3) := dk_181 1 101 (dk_at dksX5_next_7 5 rfl rfl)
theorem dX5_next_171 : decode cX5_next 171 = .ok (.goto 71, 3) := dk_167 0 71 (dk_at dksX5_next_7 8 rfl rfl)
theorem dX5_next_174 : decode cX5_next 174 = .ok (.aload_n 0, 1) := dk_42 (dk_at dksX5_next_7 11 rfl rfl)
theorem dX5_next_175 : decode cX5_next 175 = .ok (.invokevirtual 371, 3) := dk_182 1 115 (dk_at dksX5_next_7 12 rfl rfl)
theorem dX5_next_178 : decode cX5_next 178 = .ok (.ifCond .eq 15, 3) := dk_153 0 15 (dk_at dksX5_next_7 15 rfl rfl)
theorem dX5_next_181 : decode cX5_next 181 = .ok (.aload_n 0, 1) := dk_42 (dk_at dksX5_next_7 18 rfl rfl)
theorem dX5_next_182 : decode cX5_next 182 = .ok (.iconst 2, 1) := dk_5 (dk_at dksX5_next_7 19 rfl rfl)
theorem dX5_next_183 : decode cX5_next 183 = .ok (.putfield 364, 3) := dk_181 1 108 (dk_at dksX5_next_7 20 rfl rfl)
theorem dX5_next_186 : decode cX5_next 186 = .ok (.aload_n 0, 1) := dk_42 (dk_at dksX5_next_7 23 rfl rfl)
theorem dX5_next_187 : decode cX5_next 187 = .ok (.invokevirtual 375, 3) := dk_182 1 119 (dk_at dksX5_next_8 0 rfl rfl)
theorem dX5_next_190 : decode cX5_next 190 = .ok (.goto 52, 3) := dk_167 0 52 (dk_at dksX5_next_8 3 rfl rfl)
theorem dX5_next_193 : decode cX5_next 193 = .ok (.aload_n 0, 1) := dk_42 (dk_at dksX5_next_8 6 rfl rfl)
theorem dX5_next_194 : decode cX5_next 194 = .ok (.iconst 3, 1) := dk_6 (dk_at dksX5_next_8 7 rfl rfl)
theorem dX5_next_195 : decode cX5_next 195 = .ok (.putfield 364, 3) := dk_181 1 108 (dk_at dksX5_next_8 8 rfl rfl)
theorem dX5_next_198 : decode cX5_next 198 = .ok (.aload_n 0, 1) := dk_42 (dk_at dksX5_next_8 11 rfl rfl)
theorem dX5_next_199 : decode cX5_next 199 = .ok (.aload_n 0, 1) := dk_42 (dk_at dksX5_next_8 12 rfl rfl)
theorem dX5_next_200 : decode cX5_next 200 = .ok (.aload_n 0, 1) := dk_42 (dk_at dksX5_next_8 13 rfl rfl)
theorem dX5_next_201 : decode cX5_next 201 = .ok (.getfield 351, 3) := dk_180 1 95 (dk_at dksX5_next_8 14 rfl rfl)
theorem dX5_next_204 : decode cX5_next 204 = .ok (.invokevirtual 354, 3) := dk_182 1 98 (dk_at dksX5_next_8 17 rfl rfl)
theorem dX5_next_207 : decode cX5_next 207 = .ok (.putfield 378, 3) := dk_181 1 122 (dk_at dksX5_next_8 20 rfl rfl)
theorem dX5_next_210 : decode cX5_next 210 = .ok (.aload_n 0, 1) := dk_42 (dk_at dksX5_next_8 23 rfl rfl)
theorem dX5_next_211 : decode cX5_next 211 = .ok (.dup, 1) := dk_89 (dk_at dksX5_next_9 0 rfl rfl)
theorem dX5_next_212 : decode cX5_next 212 = .ok (.getfield 351, 3) := dk_180 1 95 (dk_at dksX5_next_9 1 rfl rfl)
theorem dX5_next_215 : decode cX5_next 215 = .ok (.iconst 1, 1) := dk_4 (dk_at dksX5_next_9 4 rfl rfl)
theorem dX5_next_216 : decode cX5_next 216 = .ok (.iadd, 1) := dk_96 (dk_at dksX5_next_9 5 rfl rfl)
theorem dX5_next_217 : decode cX5_next 217 = .ok (.putfield 351, 3) := dk_181 1 95 (dk_at dksX5_next_9 6 rfl rfl)
theorem dX5_next_220 : decode cX5_next 220 = .ok (.aload_n 0, 1) := dk_42 (dk_at dksX5_next_9 9 rfl rfl)
theorem dX5_next_221 : decode cX5_next 221 = .ok (.ldc_w 381, 3) := dk_19 1 125 (dk_at dksX5_next_9 10 rfl rfl)
theorem dX5_next_224 : decode cX5_next 224 = .ok (.aload_n 0, 1) := dk_42 (dk_at dksX5_next_9 13 rfl rfl)
theorem dX5_next_225 : decode cX5_next 225 = .ok (.getfield 378, 3) := dk_180 1 122 (dk_at dksX5_next_9 14 rfl rfl)
theorem dX5_next_228 : decode cX5_next 228 = .ok (.invokevirtual 383, 3) := dk_182 1 127 (dk_at dksX5_next_9 17 rfl rfl)
theorem dX5_next_231 : decode cX5_next 231 = .ok (.ifCond .ge 7, 3) := dk_156 0 7 (dk_at dksX5_next_9 20 rfl rfl)
theorem dX5_next_234 : decode cX5_next 234 = .ok (.iconst 1, 1) := dk_4 (dk_at dksX5_next_9 23 rfl rfl)
theorem dX5_next_235 : decode cX5_next 235 = .ok (.goto 4, 3) := dk_167 0 4 (dk_at dksX5_next_10 0 rfl rfl)
theorem dX5_next_238 : decode cX5_next 238 = .ok (.iconst 0, 1) := dk_3 (dk_at dksX5_next_10 3 rfl rfl)
theorem dX5_next_239 : decode cX5_next 239 = .ok (.putfield 357, 3) := dk_181 1 101 (dk_at dksX5_next_10 4 rfl rfl)
theorem dX5_next_242 : decode cX5_next 242 = .ok (.return_, 1) := dk_177 (dk_at dksX5_next_10 7 rfl rfl)
abbrev cX5_byteAt : ByteArray := prog_35_method_45_code
def yX5_byteAt : MethodName := ⟨RX5, "byteAt", "(I)I"⟩
def dkwX5_byteAt_0 : List UInt8 := [27, 42, 180, 1, 92, 162, 0, 12, 42, 180, 0, 102, 27, 46, 167, 0, 4, 2, 172]
abbrev dktX5_byteAt_0 : List UInt8 := dkwX5_byteAt_0 ++ []
theorem dksX5_byteAt_0 : cX5_byteAt.data.toList.drop 0 = dktX5_byteAt_0 := by decide +kernel
theorem dX5_byteAt_0 : decode cX5_byteAt 0 = .ok (.iload_n 1, 1) := dk_27 (dk_at dksX5_byteAt_0 0 rfl rfl)
theorem dX5_byteAt_1 : decode cX5_byteAt 1 = .ok (.aload_n 0, 1) := dk_42 (dk_at dksX5_byteAt_0 1 rfl rfl)
theorem dX5_byteAt_2 : decode cX5_byteAt 2 = .ok (.getfield 348, 3) := dk_180 1 92 (dk_at dksX5_byteAt_0 2 rfl rfl)
theorem dX5_byteAt_5 : decode cX5_byteAt 5 = .ok (.if_icmp .ge 12, 3) := dk_162 0 12 (dk_at dksX5_byteAt_0 5 rfl rfl)
theorem dX5_byteAt_8 : decode cX5_byteAt 8 = .ok (.aload_n 0, 1) := dk_42 (dk_at dksX5_byteAt_0 8 rfl rfl)
theorem dX5_byteAt_9 : decode cX5_byteAt 9 = .ok (.getfield 102, 3) := dk_180 0 102 (dk_at dksX5_byteAt_0 9 rfl rfl)
theorem dX5_byteAt_12 : decode cX5_byteAt 12 = .ok (.iload_n 1, 1) := dk_27 (dk_at dksX5_byteAt_0 12 rfl rfl)
theorem dX5_byteAt_13 : decode cX5_byteAt 13 = .ok (.iaload, 1) := dk_46 (dk_at dksX5_byteAt_0 13 rfl rfl)
theorem dX5_byteAt_14 : decode cX5_byteAt 14 = .ok (.goto 4, 3) := dk_167 0 4 (dk_at dksX5_byteAt_0 14 rfl rfl)
theorem dX5_byteAt_17 : decode cX5_byteAt 17 = .ok (.iconst (-1), 1) := dk_2 (dk_at dksX5_byteAt_0 17 rfl rfl)
theorem dX5_byteAt_18 : decode cX5_byteAt 18 = .ok (.ireturn, 1) := dk_172 (dk_at dksX5_byteAt_0 18 rfl rfl)
abbrev cX5_word : ByteArray := prog_35_method_50_code
def yX5_word : MethodName := ⟨RX5, "word", "()I"⟩
def dkwX5_word_4 : List UInt8 := [16, 6, 167, 0, 19, 42, 19, 1, 161, 182, 1, 148, 153, 0, 8, 16, 7, 167, 0, 4, 2, 172]
abbrev dktX5_word_4 : List UInt8 := dkwX5_word_4 ++ []
def dkwX5_word_3 : List UInt8 := [42, 19, 1, 159, 182, 1, 148, 153, 0, 7, 8, 167, 0, 34, 42, 19, 1, 160, 182, 1, 148, 153, 0, 8]
abbrev dktX5_word_3 : List UInt8 := dkwX5_word_3 ++ dktX5_word_4
def dkwX5_word_2 : List UInt8 := [182, 1, 148, 153, 0, 7, 6, 167, 0, 62, 42, 19, 1, 157, 182, 1, 148, 153, 0, 7, 7, 167, 0, 48]
abbrev dktX5_word_2 : List UInt8 := dkwX5_word_2 ++ dktX5_word_3
def dkwX5_word_1 : List UInt8 := [4, 167, 0, 90, 42, 19, 1, 154, 182, 1, 148, 153, 0, 7, 5, 167, 0, 76, 42, 19, 1, 155]
abbrev dktX5_word_1 : List UInt8 := dkwX5_word_1 ++ dktX5_word_2
def dkwX5_word_0 : List UInt8 := [42, 19, 1, 146, 182, 1, 148, 153, 0, 7, 3, 167, 0, 104, 42, 19, 1, 152, 182, 1, 148, 153, 0, 7]
abbrev dktX5_word_0 : List UInt8 := dkwX5_word_0 ++ dktX5_word_1
theorem dksX5_word_0 : cX5_word.data.toList.drop 0 = dktX5_word_0 := by decide +kernel
theorem dksX5_word_1 : cX5_word.data.toList.drop 24 = dktX5_word_1 := dk_seg dksX5_word_0 24 rfl rfl
theorem dksX5_word_2 : cX5_word.data.toList.drop 46 = dktX5_word_2 := dk_seg dksX5_word_1 22 rfl rfl
theorem dksX5_word_3 : cX5_word.data.toList.drop 70 = dktX5_word_3 := dk_seg dksX5_word_2 24 rfl rfl
theorem dksX5_word_4 : cX5_word.data.toList.drop 94 = dktX5_word_4 := dk_seg dksX5_word_3 24 rfl rfl
theorem dX5_word_0 : decode cX5_word 0 = .ok (.aload_n 0, 1) := dk_42 (dk_at dksX5_word_0 0 rfl rfl)
theorem dX5_word_1 : decode cX5_word 1 = .ok (.ldc_w 402, 3) := dk_19 1 146 (dk_at dksX5_word_0 1 rfl rfl)
theorem dX5_word_4 : decode cX5_word 4 = .ok (.invokevirtual 404, 3) := dk_182 1 148 (dk_at dksX5_word_0 4 rfl rfl)
theorem dX5_word_7 : decode cX5_word 7 = .ok (.ifCond .eq 7, 3) := dk_153 0 7 (dk_at dksX5_word_0 7 rfl rfl)
theorem dX5_word_10 : decode cX5_word 10 = .ok (.iconst 0, 1) := dk_3 (dk_at dksX5_word_0 10 rfl rfl)
theorem dX5_word_11 : decode cX5_word 11 = .ok (.goto 104, 3) := dk_167 0 104 (dk_at dksX5_word_0 11 rfl rfl)
theorem dX5_word_14 : decode cX5_word 14 = .ok (.aload_n 0, 1) := dk_42 (dk_at dksX5_word_0 14 rfl rfl)
theorem dX5_word_15 : decode cX5_word 15 = .ok (.ldc_w 408, 3) := dk_19 1 152 (dk_at dksX5_word_0 15 rfl rfl)
theorem dX5_word_18 : decode cX5_word 18 = .ok (.invokevirtual 404, 3) := dk_182 1 148 (dk_at dksX5_word_0 18 rfl rfl)
theorem dX5_word_21 : decode cX5_word 21 = .ok (.ifCond .eq 7, 3) := dk_153 0 7 (dk_at dksX5_word_0 21 rfl rfl)
theorem dX5_word_24 : decode cX5_word 24 = .ok (.iconst 1, 1) := dk_4 (dk_at dksX5_word_1 0 rfl rfl)
theorem dX5_word_25 : decode cX5_word 25 = .ok (.goto 90, 3) := dk_167 0 90 (dk_at dksX5_word_1 1 rfl rfl)
theorem dX5_word_28 : decode cX5_word 28 = .ok (.aload_n 0, 1) := dk_42 (dk_at dksX5_word_1 4 rfl rfl)
theorem dX5_word_29 : decode cX5_word 29 = .ok (.ldc_w 410, 3) := dk_19 1 154 (dk_at dksX5_word_1 5 rfl rfl)
theorem dX5_word_32 : decode cX5_word 32 = .ok (.invokevirtual 404, 3) := dk_182 1 148 (dk_at dksX5_word_1 8 rfl rfl)
theorem dX5_word_35 : decode cX5_word 35 = .ok (.ifCond .eq 7, 3) := dk_153 0 7 (dk_at dksX5_word_1 11 rfl rfl)
theorem dX5_word_38 : decode cX5_word 38 = .ok (.iconst 2, 1) := dk_5 (dk_at dksX5_word_1 14 rfl rfl)
theorem dX5_word_39 : decode cX5_word 39 = .ok (.goto 76, 3) := dk_167 0 76 (dk_at dksX5_word_1 15 rfl rfl)
theorem dX5_word_42 : decode cX5_word 42 = .ok (.aload_n 0, 1) := dk_42 (dk_at dksX5_word_1 18 rfl rfl)
theorem dX5_word_43 : decode cX5_word 43 = .ok (.ldc_w 411, 3) := dk_19 1 155 (dk_at dksX5_word_1 19 rfl rfl)
theorem dX5_word_46 : decode cX5_word 46 = .ok (.invokevirtual 404, 3) := dk_182 1 148 (dk_at dksX5_word_2 0 rfl rfl)
theorem dX5_word_49 : decode cX5_word 49 = .ok (.ifCond .eq 7, 3) := dk_153 0 7 (dk_at dksX5_word_2 3 rfl rfl)
theorem dX5_word_52 : decode cX5_word 52 = .ok (.iconst 3, 1) := dk_6 (dk_at dksX5_word_2 6 rfl rfl)
theorem dX5_word_53 : decode cX5_word 53 = .ok (.goto 62, 3) := dk_167 0 62 (dk_at dksX5_word_2 7 rfl rfl)
theorem dX5_word_56 : decode cX5_word 56 = .ok (.aload_n 0, 1) := dk_42 (dk_at dksX5_word_2 10 rfl rfl)
theorem dX5_word_57 : decode cX5_word 57 = .ok (.ldc_w 413, 3) := dk_19 1 157 (dk_at dksX5_word_2 11 rfl rfl)
theorem dX5_word_60 : decode cX5_word 60 = .ok (.invokevirtual 404, 3) := dk_182 1 148 (dk_at dksX5_word_2 14 rfl rfl)
theorem dX5_word_63 : decode cX5_word 63 = .ok (.ifCond .eq 7, 3) := dk_153 0 7 (dk_at dksX5_word_2 17 rfl rfl)
theorem dX5_word_66 : decode cX5_word 66 = .ok (.iconst 4, 1) := dk_7 (dk_at dksX5_word_2 20 rfl rfl)
theorem dX5_word_67 : decode cX5_word 67 = .ok (.goto 48, 3) := dk_167 0 48 (dk_at dksX5_word_2 21 rfl rfl)
theorem dX5_word_70 : decode cX5_word 70 = .ok (.aload_n 0, 1) := dk_42 (dk_at dksX5_word_3 0 rfl rfl)
theorem dX5_word_71 : decode cX5_word 71 = .ok (.ldc_w 415, 3) := dk_19 1 159 (dk_at dksX5_word_3 1 rfl rfl)
theorem dX5_word_74 : decode cX5_word 74 = .ok (.invokevirtual 404, 3) := dk_182 1 148 (dk_at dksX5_word_3 4 rfl rfl)
theorem dX5_word_77 : decode cX5_word 77 = .ok (.ifCond .eq 7, 3) := dk_153 0 7 (dk_at dksX5_word_3 7 rfl rfl)
theorem dX5_word_80 : decode cX5_word 80 = .ok (.iconst 5, 1) := dk_8 (dk_at dksX5_word_3 10 rfl rfl)
theorem dX5_word_81 : decode cX5_word 81 = .ok (.goto 34, 3) := dk_167 0 34 (dk_at dksX5_word_3 11 rfl rfl)
theorem dX5_word_84 : decode cX5_word 84 = .ok (.aload_n 0, 1) := dk_42 (dk_at dksX5_word_3 14 rfl rfl)
theorem dX5_word_85 : decode cX5_word 85 = .ok (.ldc_w 416, 3) := dk_19 1 160 (dk_at dksX5_word_3 15 rfl rfl)
theorem dX5_word_88 : decode cX5_word 88 = .ok (.invokevirtual 404, 3) := dk_182 1 148 (dk_at dksX5_word_3 18 rfl rfl)
theorem dX5_word_91 : decode cX5_word 91 = .ok (.ifCond .eq 8, 3) := dk_153 0 8 (dk_at dksX5_word_3 21 rfl rfl)
theorem dX5_word_94 : decode cX5_word 94 = .ok (.bipush 6, 2) := dk_16 6 (dk_at dksX5_word_4 0 rfl rfl)
theorem dX5_word_96 : decode cX5_word 96 = .ok (.goto 19, 3) := dk_167 0 19 (dk_at dksX5_word_4 2 rfl rfl)
theorem dX5_word_99 : decode cX5_word 99 = .ok (.aload_n 0, 1) := dk_42 (dk_at dksX5_word_4 5 rfl rfl)
theorem dX5_word_100 : decode cX5_word 100 = .ok (.ldc_w 417, 3) := dk_19 1 161 (dk_at dksX5_word_4 6 rfl rfl)
theorem dX5_word_103 : decode cX5_word 103 = .ok (.invokevirtual 404, 3) := dk_182 1 148 (dk_at dksX5_word_4 9 rfl rfl)
theorem dX5_word_106 : decode cX5_word 106 = .ok (.ifCond .eq 8, 3) := dk_153 0 8 (dk_at dksX5_word_4 12 rfl rfl)
theorem dX5_word_109 : decode cX5_word 109 = .ok (.bipush 7, 2) := dk_16 7 (dk_at dksX5_word_4 15 rfl rfl)
theorem dX5_word_111 : decode cX5_word 111 = .ok (.goto 4, 3) := dk_167 0 4 (dk_at dksX5_word_4 17 rfl rfl)
theorem dX5_word_114 : decode cX5_word 114 = .ok (.iconst (-1), 1) := dk_2 (dk_at dksX5_word_4 20 rfl rfl)
theorem dX5_word_115 : decode cX5_word 115 = .ok (.ireturn, 1) := dk_172 (dk_at dksX5_word_4 21 rfl rfl)
abbrev cX5_isWord : ByteArray := prog_35_method_49_code
def yX5_isWord : MethodName := ⟨RX5, "isWord", "(Ljava/lang/String;)Z"⟩
def dkwX5_isWord_2 : List UInt8 := [3, 172, 132, 2, 1, 167, 255, 225, 4, 172]
abbrev dktX5_isWord_2 : List UInt8 := dkwX5_isWord_2 ++ []
def dkwX5_isWord_1 : List UInt8 := [182, 1, 139, 162, 0, 29, 43, 28, 182, 1, 142, 42, 42, 180, 1, 105, 28, 96, 182, 1, 98, 159, 0, 5]
abbrev dktX5_isWord_1 : List UInt8 := dkwX5_isWord_1 ++ dktX5_isWord_2
def dkwX5_isWord_0 : List UInt8 := [43, 182, 1, 139, 42, 180, 1, 95, 42, 180, 1, 105, 100, 159, 0, 5, 3, 172, 3, 61, 28, 43]
abbrev dktX5_isWord_0 : List UInt8 := dkwX5_isWord_0 ++ dktX5_isWord_1
theorem dksX5_isWord_0 : cX5_isWord.data.toList.drop 0 = dktX5_isWord_0 := by decide +kernel
theorem dksX5_isWord_1 : cX5_isWord.data.toList.drop 22 = dktX5_isWord_1 := dk_seg dksX5_isWord_0 22 rfl rfl
theorem dksX5_isWord_2 : cX5_isWord.data.toList.drop 46 = dktX5_isWord_2 := dk_seg dksX5_isWord_1 24 rfl rfl
theorem dX5_isWord_0 : decode cX5_isWord 0 = .ok (.aload_n 1, 1) := dk_43 (dk_at dksX5_isWord_0 0 rfl rfl)
theorem dX5_isWord_1 : decode cX5_isWord 1 = .ok (.invokevirtual 395, 3) := dk_182 1 139 (dk_at dksX5_isWord_0 1 rfl rfl)
theorem dX5_isWord_4 : decode cX5_isWord 4 = .ok (.aload_n 0, 1) := dk_42 (dk_at dksX5_isWord_0 4 rfl rfl)
theorem dX5_isWord_5 : decode cX5_isWord 5 = .ok (.getfield 351, 3) := dk_180 1 95 (dk_at dksX5_isWord_0 5 rfl rfl)
theorem dX5_isWord_8 : decode cX5_isWord 8 = .ok (.aload_n 0, 1) := dk_42 (dk_at dksX5_isWord_0 8 rfl rfl)
theorem dX5_isWord_9 : decode cX5_isWord 9 = .ok (.getfield 361, 3) := dk_180 1 105 (dk_at dksX5_isWord_0 9 rfl rfl)
theorem dX5_isWord_12 : decode cX5_isWord 12 = .ok (.isub, 1) := dk_100 (dk_at dksX5_isWord_0 12 rfl rfl)
theorem dX5_isWord_13 : decode cX5_isWord 13 = .ok (.if_icmp .eq 5, 3) := dk_159 0 5 (dk_at dksX5_isWord_0 13 rfl rfl)
theorem dX5_isWord_16 : decode cX5_isWord 16 = .ok (.iconst 0, 1) := dk_3 (dk_at dksX5_isWord_0 16 rfl rfl)
theorem dX5_isWord_17 : decode cX5_isWord 17 = .ok (.ireturn, 1) := dk_172 (dk_at dksX5_isWord_0 17 rfl rfl)
theorem dX5_isWord_18 : decode cX5_isWord 18 = .ok (.iconst 0, 1) := dk_3 (dk_at dksX5_isWord_0 18 rfl rfl)
theorem dX5_isWord_19 : decode cX5_isWord 19 = .ok (.istore_n 2, 1) := dk_61 (dk_at dksX5_isWord_0 19 rfl rfl)
theorem dX5_isWord_20 : decode cX5_isWord 20 = .ok (.iload_n 2, 1) := dk_28 (dk_at dksX5_isWord_0 20 rfl rfl)
theorem dX5_isWord_21 : decode cX5_isWord 21 = .ok (.aload_n 1, 1) := dk_43 (dk_at dksX5_isWord_0 21 rfl rfl)
theorem dX5_isWord_22 : decode cX5_isWord 22 = .ok (.invokevirtual 395, 3) := dk_182 1 139 (dk_at dksX5_isWord_1 0 rfl rfl)
theorem dX5_isWord_25 : decode cX5_isWord 25 = .ok (.if_icmp .ge 29, 3) := dk_162 0 29 (dk_at dksX5_isWord_1 3 rfl rfl)
theorem dX5_isWord_28 : decode cX5_isWord 28 = .ok (.aload_n 1, 1) := dk_43 (dk_at dksX5_isWord_1 6 rfl rfl)
theorem dX5_isWord_29 : decode cX5_isWord 29 = .ok (.iload_n 2, 1) := dk_28 (dk_at dksX5_isWord_1 7 rfl rfl)
theorem dX5_isWord_30 : decode cX5_isWord 30 = .ok (.invokevirtual 398, 3) := dk_182 1 142 (dk_at dksX5_isWord_1 8 rfl rfl)
theorem dX5_isWord_33 : decode cX5_isWord 33 = .ok (.aload_n 0, 1) := dk_42 (dk_at dksX5_isWord_1 11 rfl rfl)
theorem dX5_isWord_34 : decode cX5_isWord 34 = .ok (.aload_n 0, 1) := dk_42 (dk_at dksX5_isWord_1 12 rfl rfl)
theorem dX5_isWord_35 : decode cX5_isWord 35 = .ok (.getfield 361, 3) := dk_180 1 105 (dk_at dksX5_isWord_1 13 rfl rfl)
theorem dX5_isWord_38 : decode cX5_isWord 38 = .ok (.iload_n 2, 1) := dk_28 (dk_at dksX5_isWord_1 16 rfl rfl)
theorem dX5_isWord_39 : decode cX5_isWord 39 = .ok (.iadd, 1) := dk_96 (dk_at dksX5_isWord_1 17 rfl rfl)
theorem dX5_isWord_40 : decode cX5_isWord 40 = .ok (.invokevirtual 354, 3) := dk_182 1 98 (dk_at dksX5_isWord_1 18 rfl rfl)
theorem dX5_isWord_43 : decode cX5_isWord 43 = .ok (.if_icmp .eq 5, 3) := dk_159 0 5 (dk_at dksX5_isWord_1 21 rfl rfl)
theorem dX5_isWord_46 : decode cX5_isWord 46 = .ok (.iconst 0, 1) := dk_3 (dk_at dksX5_isWord_2 0 rfl rfl)
theorem dX5_isWord_47 : decode cX5_isWord 47 = .ok (.ireturn, 1) := dk_172 (dk_at dksX5_isWord_2 1 rfl rfl)
theorem dX5_isWord_48 : decode cX5_isWord 48 = .ok (.iinc 2 1, 3) := dk_132 2 1 (dk_at dksX5_isWord_2 2 rfl rfl)
theorem dX5_isWord_51 : decode cX5_isWord 51 = .ok (.goto (-31), 3) := dk_167 255 225 (dk_at dksX5_isWord_2 5 rfl rfl)
theorem dX5_isWord_54 : decode cX5_isWord 54 = .ok (.iconst 1, 1) := dk_4 (dk_at dksX5_isWord_2 8 rfl rfl)
theorem dX5_isWord_55 : decode cX5_isWord 55 = .ok (.ireturn, 1) := dk_172 (dk_at dksX5_isWord_2 9 rfl rfl)
abbrev cX5_isDigit : ByteArray := prog_35_method_46_code
def yX5_isDigit : MethodName := ⟨RX5, "isDigit", "()Z"⟩
def dkwX5_isDigit_0 : List UInt8 := [42, 42, 180, 1, 95, 182, 1, 98, 16, 48, 16, 57, 184, 0, 183, 172]
abbrev dktX5_isDigit_0 : List UInt8 := dkwX5_isDigit_0 ++ []
theorem dksX5_isDigit_0 : cX5_isDigit.data.toList.drop 0 = dktX5_isDigit_0 := by decide +kernel
theorem dX5_isDigit_0 : decode cX5_isDigit 0 = .ok (.aload_n 0, 1) := dk_42 (dk_at dksX5_isDigit_0 0 rfl rfl)
theorem dX5_isDigit_1 : decode cX5_isDigit 1 = .ok (.aload_n 0, 1) := dk_42 (dk_at dksX5_isDigit_0 1 rfl rfl)
theorem dX5_isDigit_2 : decode cX5_isDigit 2 = .ok (.getfield 351, 3) := dk_180 1 95 (dk_at dksX5_isDigit_0 2 rfl rfl)
theorem dX5_isDigit_5 : decode cX5_isDigit 5 = .ok (.invokevirtual 354, 3) := dk_182 1 98 (dk_at dksX5_isDigit_0 5 rfl rfl)
theorem dX5_isDigit_8 : decode cX5_isDigit 8 = .ok (.bipush 48, 2) := dk_16 48 (dk_at dksX5_isDigit_0 8 rfl rfl)
theorem dX5_isDigit_10 : decode cX5_isDigit 10 = .ok (.bipush 57, 2) := dk_16 57 (dk_at dksX5_isDigit_0 10 rfl rfl)
theorem dX5_isDigit_12 : decode cX5_isDigit 12 = .ok (.invokestatic 183, 3) := dk_184 0 183 (dk_at dksX5_isDigit_0 12 rfl rfl)
theorem dX5_isDigit_15 : decode cX5_isDigit 15 = .ok (.ireturn, 1) := dk_172 (dk_at dksX5_isDigit_0 15 rfl rfl)
abbrev cX5_number : ByteArray := prog_35_method_48_code
def yX5_number : MethodName := ⟨RX5, "number", "()V"⟩
def dkwX5_number_9 : List UInt8 := [16, 10, 104, 181, 1, 135, 132, 3, 1, 167, 255, 237, 177]
abbrev dktX5_number_9 : List UInt8 := dkwX5_number_9 ++ []
def dkwX5_number_8 : List UInt8 := [154, 0, 7, 4, 167, 0, 4, 3, 128, 181, 1, 101, 28, 62, 29, 6, 162, 0, 20, 42, 89, 180, 1, 135]
abbrev dktX5_number_8 : List UInt8 := dkwX5_number_8 ++ dktX5_number_9
def dkwX5_number_7 : List UInt8 := [181, 1, 95, 167, 255, 206, 42, 180, 1, 95, 27, 100, 61, 42, 89, 180, 1, 101, 28, 4, 6, 184, 0, 183]
abbrev dktX5_number_7 : List UInt8 := dkwX5_number_7 ++ dktX5_number_8
def dkwX5_number_6 : List UInt8 := [42, 42, 180, 1, 95, 182, 1, 98, 96, 16, 48, 100, 181, 1, 135, 42, 89, 180, 1, 95, 4, 96]
abbrev dktX5_number_6 : List UInt8 := dkwX5_number_6 ++ dktX5_number_7
def dkwX5_number_5 : List UInt8 := [182, 1, 115, 153, 0, 49, 42, 180, 1, 95, 27, 100, 6, 162, 0, 26, 42, 16, 10, 42, 180, 1, 135, 104]
abbrev dktX5_number_5 : List UInt8 := dkwX5_number_5 ++ dktX5_number_6
def dkwX5_number_4 : List UInt8 := [177, 42, 89, 180, 1, 95, 4, 96, 181, 1, 95, 42, 180, 1, 95, 60, 42, 3, 181, 1, 135, 42]
abbrev dktX5_number_4 : List UInt8 := dkwX5_number_4 ++ dktX5_number_5
def dkwX5_number_3 : List UInt8 := [164, 0, 7, 4, 167, 0, 4, 3, 181, 1, 101, 42, 42, 180, 1, 95, 182, 1, 98, 16, 46, 159, 0, 4]
abbrev dktX5_number_3 : List UInt8 := dkwX5_number_3 ++ dktX5_number_4
def dkwX5_number_2 : List UInt8 := [180, 1, 95, 4, 96, 181, 1, 95, 167, 255, 210, 42, 42, 180, 1, 95, 42, 180, 1, 105, 100, 7]
abbrev dktX5_number_2 : List UInt8 := dkwX5_number_2 ++ dktX5_number_3
def dkwX5_number_1 : List UInt8 := [180, 1, 132, 104, 42, 42, 180, 1, 95, 182, 1, 98, 96, 16, 48, 100, 184, 0, 235, 181, 1, 132, 42, 89]
abbrev dktX5_number_1 : List UInt8 := dkwX5_number_1 ++ dktX5_number_2
def dkwX5_number_0 : List UInt8 := [42, 3, 181, 1, 132, 42, 2, 181, 1, 135, 42, 182, 1, 115, 153, 0, 45, 42, 19, 1, 138, 16, 10, 42]
abbrev dktX5_number_0 : List UInt8 := dkwX5_number_0 ++ dktX5_number_1
theorem dksX5_number_0 : cX5_number.data.toList.drop 0 = dktX5_number_0 := by decide +kernel
theorem dksX5_number_1 : cX5_number.data.toList.drop 24 = dktX5_number_1 := dk_seg dksX5_number_0 24 rfl rfl
theorem dksX5_number_2 : cX5_number.data.toList.drop 48 = dktX5_number_2 := dk_seg dksX5_number_1 24 rfl rfl
theorem dksX5_number_3 : cX5_number.data.toList.drop 70 = dktX5_number_3 := dk_seg dksX5_number_2 22 rfl rfl
theorem dksX5_number_4 : cX5_number.data.toList.drop 94 = dktX5_number_4 := dk_seg dksX5_number_3 24 rfl rfl
theorem dksX5_number_5 : cX5_number.data.toList.drop 116 = dktX5_number_5 := dk_seg dksX5_number_4 22 rfl rfl
theorem dksX5_number_6 : cX5_number.data.toList.drop 140 = dktX5_number_6 := dk_seg dksX5_number_5 24 rfl rfl
theorem dksX5_number_7 : cX5_number.data.toList.drop 162 = dktX5_number_7 := dk_seg dksX5_number_6 22 rfl rfl
theorem dksX5_number_8 : cX5_number.data.toList.drop 186 = dktX5_number_8 := dk_seg dksX5_number_7 24 rfl rfl
theorem dksX5_number_9 : cX5_number.data.toList.drop 210 = dktX5_number_9 := dk_seg dksX5_number_8 24 rfl rfl
theorem dX5_number_0 : decode cX5_number 0 = .ok (.aload_n 0, 1) := dk_42 (dk_at dksX5_number_0 0 rfl rfl)
theorem dX5_number_1 : decode cX5_number 1 = .ok (.iconst 0, 1) := dk_3 (dk_at dksX5_number_0 1 rfl rfl)
theorem dX5_number_2 : decode cX5_number 2 = .ok (.putfield 388, 3) := dk_181 1 132 (dk_at dksX5_number_0 2 rfl rfl)
theorem dX5_number_5 : decode cX5_number 5 = .ok (.aload_n 0, 1) := dk_42 (dk_at dksX5_number_0 5 rfl rfl)
theorem dX5_number_6 : decode cX5_number 6 = .ok (.iconst (-1), 1) := dk_2 (dk_at dksX5_number_0 6 rfl rfl)
theorem dX5_number_7 : decode cX5_number 7 = .ok (.putfield 391, 3) := dk_181 1 135 (dk_at dksX5_number_0 7 rfl rfl)
theorem dX5_number_10 : decode cX5_number 10 = .ok (.aload_n 0, 1) := dk_42 (dk_at dksX5_number_0 10 rfl rfl)
theorem dX5_number_11 : decode cX5_number 11 = .ok (.invokevirtual 371, 3) := dk_182 1 115 (dk_at dksX5_number_0 11 rfl rfl)
theorem dX5_number_14 : decode cX5_number 14 = .ok (.ifCond .eq 45, 3) := dk_153 0 45 (dk_at dksX5_number_0 14 rfl rfl)
theorem dX5_number_17 : decode cX5_number 17 = .ok (.aload_n 0, 1) := dk_42 (dk_at dksX5_number_0 17 rfl rfl)
theorem dX5_number_18 : decode cX5_number 18 = .ok (.ldc_w 394, 3) := dk_19 1 138 (dk_at dksX5_number_0 18 rfl rfl)
theorem dX5_number_21 : decode cX5_number 21 = .ok (.bipush 10, 2) := dk_16 10 (dk_at dksX5_number_0 21 rfl rfl)
theorem dX5_number_23 : decode cX5_number 23 = .ok (.aload_n 0, 1) := dk_42 (dk_at dksX5_number_0 23 rfl rfl)
theorem dX5_number_24 : decode cX5_number 24 = .ok (.getfield 388, 3) := dk_180 1 132 (dk_at dksX5_number_1 0 rfl rfl)
theorem dX5_number_27 : decode cX5_number 27 = .ok (.imul, 1) := dk_104 (dk_at dksX5_number_1 3 rfl rfl)
theorem dX5_number_28 : decode cX5_number 28 = .ok (.aload_n 0, 1) := dk_42 (dk_at dksX5_number_1 4 rfl rfl)
theorem dX5_number_29 : decode cX5_number 29 = .ok (.aload_n 0, 1) := dk_42 (dk_at dksX5_number_1 5 rfl rfl)
theorem dX5_number_30 : decode cX5_number 30 = .ok (.getfield 351, 3) := dk_180 1 95 (dk_at dksX5_number_1 6 rfl rfl)
theorem dX5_number_33 : decode cX5_number 33 = .ok (.invokevirtual 354, 3) := dk_182 1 98 (dk_at dksX5_number_1 9 rfl rfl)
theorem dX5_number_36 : decode cX5_number 36 = .ok (.iadd, 1) := dk_96 (dk_at dksX5_number_1 12 rfl rfl)
theorem dX5_number_37 : decode cX5_number 37 = .ok (.bipush 48, 2) := dk_16 48 (dk_at dksX5_number_1 13 rfl rfl)
theorem dX5_number_39 : decode cX5_number 39 = .ok (.isub, 1) := dk_100 (dk_at dksX5_number_1 15 rfl rfl)
theorem dX5_number_40 : decode cX5_number 40 = .ok (.invokestatic 235, 3) := dk_184 0 235 (dk_at dksX5_number_1 16 rfl rfl)
theorem dX5_number_43 : decode cX5_number 43 = .ok (.putfield 388, 3) := dk_181 1 132 (dk_at dksX5_number_1 19 rfl rfl)
theorem dX5_number_46 : decode cX5_number 46 = .ok (.aload_n 0, 1) := dk_42 (dk_at dksX5_number_1 22 rfl rfl)
theorem dX5_number_47 : decode cX5_number 47 = .ok (.dup, 1) := dk_89 (dk_at dksX5_number_1 23 rfl rfl)
theorem dX5_number_48 : decode cX5_number 48 = .ok (.getfield 351, 3) := dk_180 1 95 (dk_at dksX5_number_2 0 rfl rfl)
theorem dX5_number_51 : decode cX5_number 51 = .ok (.iconst 1, 1) := dk_4 (dk_at dksX5_number_2 3 rfl rfl)
theorem dX5_number_52 : decode cX5_number 52 = .ok (.iadd, 1) := dk_96 (dk_at dksX5_number_2 4 rfl rfl)
theorem dX5_number_53 : decode cX5_number 53 = .ok (.putfield 351, 3) := dk_181 1 95 (dk_at dksX5_number_2 5 rfl rfl)
theorem dX5_number_56 : decode cX5_number 56 = .ok (.goto (-46), 3) := dk_167 255 210 (dk_at dksX5_number_2 8 rfl rfl)
theorem dX5_number_59 : decode cX5_number 59 = .ok (.aload_n 0, 1) := dk_42 (dk_at dksX5_number_2 11 rfl rfl)
theorem dX5_number_60 : decode cX5_number 60 = .ok (.aload_n 0, 1) := dk_42 (dk_at dksX5_number_2 12 rfl rfl)
theorem dX5_number_61 : decode cX5_number 61 = .ok (.getfield 351, 3) := dk_180 1 95 (dk_at dksX5_number_2 13 rfl rfl)
theorem dX5_number_64 : decode cX5_number 64 = .ok (.aload_n 0, 1) := dk_42 (dk_at dksX5_number_2 16 rfl rfl)
theorem dX5_number_65 : decode cX5_number 65 = .ok (.getfield 361, 3) := dk_180 1 105 (dk_at dksX5_number_2 17 rfl rfl)
theorem dX5_number_68 : decode cX5_number 68 = .ok (.isub, 1) := dk_100 (dk_at dksX5_number_2 20 rfl rfl)
theorem dX5_number_69 : decode cX5_number 69 = .ok (.iconst 4, 1) := dk_7 (dk_at dksX5_number_2 21 rfl rfl)
theorem dX5_number_70 : decode cX5_number 70 = .ok (.if_icmp .le 7, 3) := dk_164 0 7 (dk_at dksX5_number_3 0 rfl rfl)
theorem dX5_number_73 : decode cX5_number 73 = .ok (.iconst 1, 1) := dk_4 (dk_at dksX5_number_3 3 rfl rfl)
theorem dX5_number_74 : decode cX5_number 74 = .ok (.goto 4, 3) := dk_167 0 4 (dk_at dksX5_number_3 4 rfl rfl)
theorem dX5_number_77 : decode cX5_number 77 = .ok (.iconst 0, 1) := dk_3 (dk_at dksX5_number_3 7 rfl rfl)
theorem dX5_number_78 : decode cX5_number 78 = .ok (.putfield 357, 3) := dk_181 1 101 (dk_at dksX5_number_3 8 rfl rfl)
theorem dX5_number_81 : decode cX5_number 81 = .ok (.aload_n 0, 1) := dk_42 (dk_at dksX5_number_3 11 rfl rfl)
theorem dX5_number_82 : decode cX5_number 82 = .ok (.aload_n 0, 1) := dk_42 (dk_at dksX5_number_3 12 rfl rfl)
theorem dX5_number_83 : decode cX5_number 83 = .ok (.getfield 351, 3) := dk_180 1 95 (dk_at dksX5_number_3 13 rfl rfl)
theorem dX5_number_86 : decode cX5_number 86 = .ok (.invokevirtual 354, 3) := dk_182 1 98 (dk_at dksX5_number_3 16 rfl rfl)
theorem dX5_number_89 : decode cX5_number 89 = .ok (.bipush 46, 2) := dk_16 46 (dk_at dksX5_number_3 19 rfl rfl)
theorem dX5_number_91 : decode cX5_number 91 = .ok (.if_icmp .eq 4, 3) := dk_159 0 4 (dk_at dksX5_number_3 21 rfl rfl)
theorem dX5_number_94 : decode cX5_number 94 = .ok (.return_, 1) := dk_177 (dk_at dksX5_number_4 0 rfl rfl)
theorem dX5_number_95 : decode cX5_number 95 = .ok (.aload_n 0, 1) := dk_42 (dk_at dksX5_number_4 1 rfl rfl)
theorem dX5_number_96 : decode cX5_number 96 = .ok (.dup, 1) := dk_89 (dk_at dksX5_number_4 2 rfl rfl)
theorem dX5_number_97 : decode cX5_number 97 = .ok (.getfield 351, 3) := dk_180 1 95 (dk_at dksX5_number_4 3 rfl rfl)
theorem dX5_number_100 : decode cX5_number 100 = .ok (.iconst 1, 1) := dk_4 (dk_at dksX5_number_4 6 rfl rfl)
theorem dX5_number_101 : decode cX5_number 101 = .ok (.iadd, 1) := dk_96 (dk_at dksX5_number_4 7 rfl rfl)
theorem dX5_number_102 : decode cX5_number 102 = .ok (.putfield 351, 3) := dk_181 1 95 (dk_at dksX5_number_4 8 rfl rfl)
theorem dX5_number_105 : decode cX5_number 105 = .ok (.aload_n 0, 1) := dk_42 (dk_at dksX5_number_4 11 rfl rfl)
theorem dX5_number_106 : decode cX5_number 106 = .ok (.getfield 351, 3) := dk_180 1 95 (dk_at dksX5_number_4 12 rfl rfl)
theorem dX5_number_109 : decode cX5_number 109 = .ok (.istore_n 1, 1) := dk_60 (dk_at dksX5_number_4 15 rfl rfl)
theorem dX5_number_110 : decode cX5_number 110 = .ok (.aload_n 0, 1) := dk_42 (dk_at dksX5_number_4 16 rfl rfl)
theorem dX5_number_111 : decode cX5_number 111 = .ok (.iconst 0, 1) := dk_3 (dk_at dksX5_number_4 17 rfl rfl)
theorem dX5_number_112 : decode cX5_number 112 = .ok (.putfield 391, 3) := dk_181 1 135 (dk_at dksX5_number_4 18 rfl rfl)
theorem dX5_number_115 : decode cX5_number 115 = .ok (.aload_n 0, 1) := dk_42 (dk_at dksX5_number_4 21 rfl rfl)
theorem dX5_number_116 : decode cX5_number 116 = .ok (.invokevirtual 371, 3) := dk_182 1 115 (dk_at dksX5_number_5 0 rfl rfl)
theorem dX5_number_119 : decode cX5_number 119 = .ok (.ifCond .eq 49, 3) := dk_153 0 49 (dk_at dksX5_number_5 3 rfl rfl)
theorem dX5_number_122 : decode cX5_number 122 = .ok (.aload_n 0, 1) := dk_42 (dk_at dksX5_number_5 6 rfl rfl)
theorem dX5_number_123 : decode cX5_number 123 = .ok (.getfield 351, 3) := dk_180 1 95 (dk_at dksX5_number_5 7 rfl rfl)
theorem dX5_number_126 : decode cX5_number 126 = .ok (.iload_n 1, 1) := dk_27 (dk_at dksX5_number_5 10 rfl rfl)
theorem dX5_number_127 : decode cX5_number 127 = .ok (.isub, 1) := dk_100 (dk_at dksX5_number_5 11 rfl rfl)
theorem dX5_number_128 : decode cX5_number 128 = .ok (.iconst 3, 1) := dk_6 (dk_at dksX5_number_5 12 rfl rfl)
theorem dX5_number_129 : decode cX5_number 129 = .ok (.if_icmp .ge 26, 3) := dk_162 0 26 (dk_at dksX5_number_5 13 rfl rfl)
theorem dX5_number_132 : decode cX5_number 132 = .ok (.aload_n 0, 1) := dk_42 (dk_at dksX5_number_5 16 rfl rfl)
theorem dX5_number_133 : decode cX5_number 133 = .ok (.bipush 10, 2) := dk_16 10 (dk_at dksX5_number_5 17 rfl rfl)
theorem dX5_number_135 : decode cX5_number 135 = .ok (.aload_n 0, 1) := dk_42 (dk_at dksX5_number_5 19 rfl rfl)
theorem dX5_number_136 : decode cX5_number 136 = .ok (.getfield 391, 3) := dk_180 1 135 (dk_at dksX5_number_5 20 rfl rfl)
theorem dX5_number_139 : decode cX5_number 139 = .ok (.imul, 1) := dk_104 (dk_at dksX5_number_5 23 rfl rfl)
theorem dX5_number_140 : decode cX5_number 140 = .ok (.aload_n 0, 1) := dk_42 (dk_at dksX5_number_6 0 rfl rfl)
theorem dX5_number_141 : decode cX5_number 141 = .ok (.aload_n 0, 1) := dk_42 (dk_at dksX5_number_6 1 rfl rfl)
theorem dX5_number_142 : decode cX5_number 142 = .ok (.getfield 351, 3) := dk_180 1 95 (dk_at dksX5_number_6 2 rfl rfl)
theorem dX5_number_145 : decode cX5_number 145 = .ok (.invokevirtual 354, 3) := dk_182 1 98 (dk_at dksX5_number_6 5 rfl rfl)
theorem dX5_number_148 : decode cX5_number 148 = .ok (.iadd, 1) := dk_96 (dk_at dksX5_number_6 8 rfl rfl)
theorem dX5_number_149 : decode cX5_number 149 = .ok (.bipush 48, 2) := dk_16 48 (dk_at dksX5_number_6 9 rfl rfl)
theorem dX5_number_151 : decode cX5_number 151 = .ok (.isub, 1) := dk_100 (dk_at dksX5_number_6 11 rfl rfl)
theorem dX5_number_152 : decode cX5_number 152 = .ok (.putfield 391, 3) := dk_181 1 135 (dk_at dksX5_number_6 12 rfl rfl)
theorem dX5_number_155 : decode cX5_number 155 = .ok (.aload_n 0, 1) := dk_42 (dk_at dksX5_number_6 15 rfl rfl)
theorem dX5_number_156 : decode cX5_number 156 = .ok (.dup, 1) := dk_89 (dk_at dksX5_number_6 16 rfl rfl)
theorem dX5_number_157 : decode cX5_number 157 = .ok (.getfield 351, 3) := dk_180 1 95 (dk_at dksX5_number_6 17 rfl rfl)
theorem dX5_number_160 : decode cX5_number 160 = .ok (.iconst 1, 1) := dk_4 (dk_at dksX5_number_6 20 rfl rfl)
theorem dX5_number_161 : decode cX5_number 161 = .ok (.iadd, 1) := dk_96 (dk_at dksX5_number_6 21 rfl rfl)
theorem dX5_number_162 : decode cX5_number 162 = .ok (.putfield 351, 3) := dk_181 1 95 (dk_at dksX5_number_7 0 rfl rfl)
theorem dX5_number_165 : decode cX5_number 165 = .ok (.goto (-50), 3) := dk_167 255 206 (dk_at dksX5_number_7 3 rfl rfl)
theorem dX5_number_168 : decode cX5_number 168 = .ok (.aload_n 0, 1) := dk_42 (dk_at dksX5_number_7 6 rfl rfl)
theorem dX5_number_169 : decode cX5_number 169 = .ok (.getfield 351, 3) := dk_180 1 95 (dk_at dksX5_number_7 7 rfl rfl)
theorem dX5_number_172 : decode cX5_number 172 = .ok (.iload_n 1, 1) := dk_27 (dk_at dksX5_number_7 10 rfl rfl)
theorem dX5_number_173 : decode cX5_number 173 = .ok (.isub, 1) := dk_100 (dk_at dksX5_number_7 11 rfl rfl)
theorem dX5_number_174 : decode cX5_number 174 = .ok (.istore_n 2, 1) := dk_61 (dk_at dksX5_number_7 12 rfl rfl)
theorem dX5_number_175 : decode cX5_number 175 = .ok (.aload_n 0, 1) := dk_42 (dk_at dksX5_number_7 13 rfl rfl)
theorem dX5_number_176 : decode cX5_number 176 = .ok (.dup, 1) := dk_89 (dk_at dksX5_number_7 14 rfl rfl)
theorem dX5_number_177 : decode cX5_number 177 = .ok (.getfield 357, 3) := dk_180 1 101 (dk_at dksX5_number_7 15 rfl rfl)
theorem dX5_number_180 : decode cX5_number 180 = .ok (.iload_n 2, 1) := dk_28 (dk_at dksX5_number_7 18 rfl rfl)
theorem dX5_number_181 : decode cX5_number 181 = .ok (.iconst 1, 1) := dk_4 (dk_at dksX5_number_7 19 rfl rfl)
theorem dX5_number_182 : decode cX5_number 182 = .ok (.iconst 3, 1) := dk_6 (dk_at dksX5_number_7 20 rfl rfl)
theorem dX5_number_183 : decode cX5_number 183 = .ok (.invokestatic 183, 3) := dk_184 0 183 (dk_at dksX5_number_7 21 rfl rfl)
theorem dX5_number_186 : decode cX5_number 186 = .ok (.ifCond .ne 7, 3) := dk_154 0 7 (dk_at dksX5_number_8 0 rfl rfl)
theorem dX5_number_189 : decode cX5_number 189 = .ok (.iconst 1, 1) := dk_4 (dk_at dksX5_number_8 3 rfl rfl)
theorem dX5_number_190 : decode cX5_number 190 = .ok (.goto 4, 3) := dk_167 0 4 (dk_at dksX5_number_8 4 rfl rfl)
theorem dX5_number_193 : decode cX5_number 193 = .ok (.iconst 0, 1) := dk_3 (dk_at dksX5_number_8 7 rfl rfl)
theorem dX5_number_194 : decode cX5_number 194 = .ok (.ior, 1) := dk_128 (dk_at dksX5_number_8 8 rfl rfl)
theorem dX5_number_195 : decode cX5_number 195 = .ok (.putfield 357, 3) := dk_181 1 101 (dk_at dksX5_number_8 9 rfl rfl)
theorem dX5_number_198 : decode cX5_number 198 = .ok (.iload_n 2, 1) := dk_28 (dk_at dksX5_number_8 12 rfl rfl)
theorem dX5_number_199 : decode cX5_number 199 = .ok (.istore_n 3, 1) := dk_62 (dk_at dksX5_number_8 13 rfl rfl)
theorem dX5_number_200 : decode cX5_number 200 = .ok (.iload_n 3, 1) := dk_29 (dk_at dksX5_number_8 14 rfl rfl)
theorem dX5_number_201 : decode cX5_number 201 = .ok (.iconst 3, 1) := dk_6 (dk_at dksX5_number_8 15 rfl rfl)
theorem dX5_number_202 : decode cX5_number 202 = .ok (.if_icmp .ge 20, 3) := dk_162 0 20 (dk_at dksX5_number_8 16 rfl rfl)
theorem dX5_number_205 : decode cX5_number 205 = .ok (.aload_n 0, 1) := dk_42 (dk_at dksX5_number_8 19 rfl rfl)
theorem dX5_number_206 : decode cX5_number 206 = .ok (.dup, 1) := dk_89 (dk_at dksX5_number_8 20 rfl rfl)
theorem dX5_number_207 : decode cX5_number 207 = .ok (.getfield 391, 3) := dk_180 1 135 (dk_at dksX5_number_8 21 rfl rfl)
theorem dX5_number_210 : decode cX5_number 210 = .ok (.bipush 10, 2) := dk_16 10 (dk_at dksX5_number_9 0 rfl rfl)
theorem dX5_number_212 : decode cX5_number 212 = .ok (.imul, 1) := dk_104 (dk_at dksX5_number_9 2 rfl rfl)
theorem dX5_number_213 : decode cX5_number 213 = .ok (.putfield 391, 3) := dk_181 1 135 (dk_at dksX5_number_9 3 rfl rfl)
theorem dX5_number_216 : decode cX5_number 216 = .ok (.iinc 3 1, 3) := dk_132 3 1 (dk_at dksX5_number_9 6 rfl rfl)
theorem dX5_number_219 : decode cX5_number 219 = .ok (.goto (-19), 3) := dk_167 255 237 (dk_at dksX5_number_9 9 rfl rfl)
theorem dX5_number_222 : decode cX5_number 222 = .ok (.return_, 1) := dk_177 (dk_at dksX5_number_9 12 rfl rfl)
abbrev cX5_all : ByteArray := prog_35_method_54_code
def yX5_all : MethodName := ⟨RX5, "all", "()V"⟩
def dkwX5_all_2 : List UInt8 := [182, 1, 171, 42, 27, 182, 1, 173, 177]
abbrev dktX5_all_2 : List UInt8 := dkwX5_all_2 ++ []
def dkwX5_all_1 : List UInt8 := [16, 60, 182, 1, 162, 153, 0, 9, 17, 0, 206, 167, 0, 6, 17, 0, 207, 60, 42, 182, 1, 165, 42]
abbrev dktX5_all_1 : List UInt8 := dkwX5_all_1 ++ dktX5_all_2
def dkwX5_all_0 : List UInt8 := [42, 182, 1, 171, 42, 16, 60, 182, 1, 162, 154, 0, 13, 42, 16, 61, 182, 1, 162, 154, 0, 4, 177, 42]
abbrev dktX5_all_0 : List UInt8 := dkwX5_all_0 ++ dktX5_all_1
theorem dksX5_all_0 : cX5_all.data.toList.drop 0 = dktX5_all_0 := by decide +kernel
theorem dksX5_all_1 : cX5_all.data.toList.drop 24 = dktX5_all_1 := dk_seg dksX5_all_0 24 rfl rfl
theorem dksX5_all_2 : cX5_all.data.toList.drop 47 = dktX5_all_2 := dk_seg dksX5_all_1 23 rfl rfl
theorem dX5_all_0 : decode cX5_all 0 = .ok (.aload_n 0, 1) := dk_42 (dk_at dksX5_all_0 0 rfl rfl)
theorem dX5_all_1 : decode cX5_all 1 = .ok (.invokevirtual 427, 3) := dk_182 1 171 (dk_at dksX5_all_0 1 rfl rfl)
theorem dX5_all_4 : decode cX5_all 4 = .ok (.aload_n 0, 1) := dk_42 (dk_at dksX5_all_0 4 rfl rfl)
theorem dX5_all_5 : decode cX5_all 5 = .ok (.bipush 60, 2) := dk_16 60 (dk_at dksX5_all_0 5 rfl rfl)
theorem dX5_all_7 : decode cX5_all 7 = .ok (.invokevirtual 418, 3) := dk_182 1 162 (dk_at dksX5_all_0 7 rfl rfl)
theorem dX5_all_10 : decode cX5_all 10 = .ok (.ifCond .ne 13, 3) := dk_154 0 13 (dk_at dksX5_all_0 10 rfl rfl)
theorem dX5_all_13 : decode cX5_all 13 = .ok (.aload_n 0, 1) := dk_42 (dk_at dksX5_all_0 13 rfl rfl)
theorem dX5_all_14 : decode cX5_all 14 = .ok (.bipush 61, 2) := dk_16 61 (dk_at dksX5_all_0 14 rfl rfl)
theorem dX5_all_16 : decode cX5_all 16 = .ok (.invokevirtual 418, 3) := dk_182 1 162 (dk_at dksX5_all_0 16 rfl rfl)
theorem dX5_all_19 : decode cX5_all 19 = .ok (.ifCond .ne 4, 3) := dk_154 0 4 (dk_at dksX5_all_0 19 rfl rfl)
theorem dX5_all_22 : decode cX5_all 22 = .ok (.return_, 1) := dk_177 (dk_at dksX5_all_0 22 rfl rfl)
theorem dX5_all_23 : decode cX5_all 23 = .ok (.aload_n 0, 1) := dk_42 (dk_at dksX5_all_0 23 rfl rfl)
theorem dX5_all_24 : decode cX5_all 24 = .ok (.bipush 60, 2) := dk_16 60 (dk_at dksX5_all_1 0 rfl rfl)
theorem dX5_all_26 : decode cX5_all 26 = .ok (.invokevirtual 418, 3) := dk_182 1 162 (dk_at dksX5_all_1 2 rfl rfl)
theorem dX5_all_29 : decode cX5_all 29 = .ok (.ifCond .eq 9, 3) := dk_153 0 9 (dk_at dksX5_all_1 5 rfl rfl)
theorem dX5_all_32 : decode cX5_all 32 = .ok (.sipush 206, 3) := dk_17 0 206 (dk_at dksX5_all_1 8 rfl rfl)
theorem dX5_all_35 : decode cX5_all 35 = .ok (.goto 6, 3) := dk_167 0 6 (dk_at dksX5_all_1 11 rfl rfl)
theorem dX5_all_38 : decode cX5_all 38 = .ok (.sipush 207, 3) := dk_17 0 207 (dk_at dksX5_all_1 14 rfl rfl)
theorem dX5_all_41 : decode cX5_all 41 = .ok (.istore_n 1, 1) := dk_60 (dk_at dksX5_all_1 17 rfl rfl)
theorem dX5_all_42 : decode cX5_all 42 = .ok (.aload_n 0, 1) := dk_42 (dk_at dksX5_all_1 18 rfl rfl)
theorem dX5_all_43 : decode cX5_all 43 = .ok (.invokevirtual 421, 3) := dk_182 1 165 (dk_at dksX5_all_1 19 rfl rfl)
theorem dX5_all_46 : decode cX5_all 46 = .ok (.aload_n 0, 1) := dk_42 (dk_at dksX5_all_1 22 rfl rfl)
theorem dX5_all_47 : decode cX5_all 47 = .ok (.invokevirtual 427, 3) := dk_182 1 171 (dk_at dksX5_all_2 0 rfl rfl)
theorem dX5_all_50 : decode cX5_all 50 = .ok (.aload_n 0, 1) := dk_42 (dk_at dksX5_all_2 3 rfl rfl)
theorem dX5_all_51 : decode cX5_all 51 = .ok (.iload_n 1, 1) := dk_27 (dk_at dksX5_all_2 4 rfl rfl)
theorem dX5_all_52 : decode cX5_all 52 = .ok (.invokevirtual 429, 3) := dk_182 1 173 (dk_at dksX5_all_2 5 rfl rfl)
theorem dX5_all_55 : decode cX5_all 55 = .ok (.return_, 1) := dk_177 (dk_at dksX5_all_2 8 rfl rfl)
abbrev cX5_sum : ByteArray := prog_35_method_55_code
def yX5_sum : MethodName := ⟨RX5, "sum", "()V"⟩
def dkwX5_sum_2 : List UInt8 := [182, 1, 176, 42, 27, 182, 1, 173, 167, 255, 206, 177]
abbrev dktX5_sum_2 : List UInt8 := dkwX5_sum_2 ++ []
def dkwX5_sum_1 : List UInt8 := [16, 43, 182, 1, 162, 153, 0, 9, 17, 0, 201, 167, 0, 6, 17, 0, 202, 60, 42, 182, 1, 165, 42]
abbrev dktX5_sum_1 : List UInt8 := dkwX5_sum_1 ++ dktX5_sum_2
def dkwX5_sum_0 : List UInt8 := [42, 182, 1, 176, 42, 16, 43, 182, 1, 162, 154, 0, 12, 42, 16, 45, 182, 1, 162, 153, 0, 38, 42]
abbrev dktX5_sum_0 : List UInt8 := dkwX5_sum_0 ++ dktX5_sum_1
theorem dksX5_sum_0 : cX5_sum.data.toList.drop 0 = dktX5_sum_0 := by decide +kernel
theorem dksX5_sum_1 : cX5_sum.data.toList.drop 23 = dktX5_sum_1 := dk_seg dksX5_sum_0 23 rfl rfl
theorem dksX5_sum_2 : cX5_sum.data.toList.drop 46 = dktX5_sum_2 := dk_seg dksX5_sum_1 23 rfl rfl
theorem dX5_sum_0 : decode cX5_sum 0 = .ok (.aload_n 0, 1) := dk_42 (dk_at dksX5_sum_0 0 rfl rfl)
theorem dX5_sum_1 : decode cX5_sum 1 = .ok (.invokevirtual 432, 3) := dk_182 1 176 (dk_at dksX5_sum_0 1 rfl rfl)
theorem dX5_sum_4 : decode cX5_sum 4 = .ok (.aload_n 0, 1) := dk_42 (dk_at dksX5_sum_0 4 rfl rfl)
theorem dX5_sum_5 : decode cX5_sum 5 = .ok (.bipush 43, 2) := dk_16 43 (dk_at dksX5_sum_0 5 rfl rfl)
theorem dX5_sum_7 : decode cX5_sum 7 = .ok (.invokevirtual 418, 3) := dk_182 1 162 (dk_at dksX5_sum_0 7 rfl rfl)
theorem dX5_sum_10 : decode cX5_sum 10 = .ok (.ifCond .ne 12, 3) := dk_154 0 12 (dk_at dksX5_sum_0 10 rfl rfl)
theorem dX5_sum_13 : decode cX5_sum 13 = .ok (.aload_n 0, 1) := dk_42 (dk_at dksX5_sum_0 13 rfl rfl)
theorem dX5_sum_14 : decode cX5_sum 14 = .ok (.bipush 45, 2) := dk_16 45 (dk_at dksX5_sum_0 14 rfl rfl)
theorem dX5_sum_16 : decode cX5_sum 16 = .ok (.invokevirtual 418, 3) := dk_182 1 162 (dk_at dksX5_sum_0 16 rfl rfl)
theorem dX5_sum_19 : decode cX5_sum 19 = .ok (.ifCond .eq 38, 3) := dk_153 0 38 (dk_at dksX5_sum_0 19 rfl rfl)
theorem dX5_sum_22 : decode cX5_sum 22 = .ok (.aload_n 0, 1) := dk_42 (dk_at dksX5_sum_0 22 rfl rfl)
theorem dX5_sum_23 : decode cX5_sum 23 = .ok (.bipush 43, 2) := dk_16 43 (dk_at dksX5_sum_1 0 rfl rfl)
theorem dX5_sum_25 : decode cX5_sum 25 = .ok (.invokevirtual 418, 3) := dk_182 1 162 (dk_at dksX5_sum_1 2 rfl rfl)
theorem dX5_sum_28 : decode cX5_sum 28 = .ok (.ifCond .eq 9, 3) := dk_153 0 9 (dk_at dksX5_sum_1 5 rfl rfl)
theorem dX5_sum_31 : decode cX5_sum 31 = .ok (.sipush 201, 3) := dk_17 0 201 (dk_at dksX5_sum_1 8 rfl rfl)
theorem dX5_sum_34 : decode cX5_sum 34 = .ok (.goto 6, 3) := dk_167 0 6 (dk_at dksX5_sum_1 11 rfl rfl)
theorem dX5_sum_37 : decode cX5_sum 37 = .ok (.sipush 202, 3) := dk_17 0 202 (dk_at dksX5_sum_1 14 rfl rfl)
theorem dX5_sum_40 : decode cX5_sum 40 = .ok (.istore_n 1, 1) := dk_60 (dk_at dksX5_sum_1 17 rfl rfl)
theorem dX5_sum_41 : decode cX5_sum 41 = .ok (.aload_n 0, 1) := dk_42 (dk_at dksX5_sum_1 18 rfl rfl)
theorem dX5_sum_42 : decode cX5_sum 42 = .ok (.invokevirtual 421, 3) := dk_182 1 165 (dk_at dksX5_sum_1 19 rfl rfl)
theorem dX5_sum_45 : decode cX5_sum 45 = .ok (.aload_n 0, 1) := dk_42 (dk_at dksX5_sum_1 22 rfl rfl)
theorem dX5_sum_46 : decode cX5_sum 46 = .ok (.invokevirtual 432, 3) := dk_182 1 176 (dk_at dksX5_sum_2 0 rfl rfl)
theorem dX5_sum_49 : decode cX5_sum 49 = .ok (.aload_n 0, 1) := dk_42 (dk_at dksX5_sum_2 3 rfl rfl)
theorem dX5_sum_50 : decode cX5_sum 50 = .ok (.iload_n 1, 1) := dk_27 (dk_at dksX5_sum_2 4 rfl rfl)
theorem dX5_sum_51 : decode cX5_sum 51 = .ok (.invokevirtual 429, 3) := dk_182 1 173 (dk_at dksX5_sum_2 5 rfl rfl)
theorem dX5_sum_54 : decode cX5_sum 54 = .ok (.goto (-50), 3) := dk_167 255 206 (dk_at dksX5_sum_2 8 rfl rfl)
theorem dX5_sum_57 : decode cX5_sum 57 = .ok (.return_, 1) := dk_177 (dk_at dksX5_sum_2 11 rfl rfl)
abbrev cX5_term : ByteArray := prog_35_method_56_code
def yX5_term : MethodName := ⟨RX5, "term", "()V"⟩
def dkwX5_term_3 : List UInt8 := [182, 1, 179, 42, 27, 182, 1, 173, 167, 255, 182, 177]
abbrev dktX5_term_3 : List UInt8 := dkwX5_term_3 ++ []
def dkwX5_term_2 : List UInt8 := [16, 47, 182, 1, 162, 153, 0, 9, 17, 0, 204, 167, 0, 6, 17, 0, 205, 60, 42, 182, 1, 165, 42]
abbrev dktX5_term_2 : List UInt8 := dkwX5_term_2 ++ dktX5_term_3
def dkwX5_term_1 : List UInt8 := [16, 37, 182, 1, 162, 153, 0, 53, 42, 16, 42, 182, 1, 162, 153, 0, 9, 17, 0, 203, 167, 0, 21, 42]
abbrev dktX5_term_1 : List UInt8 := dkwX5_term_1 ++ dktX5_term_2
def dkwX5_term_0 : List UInt8 := [42, 182, 1, 179, 42, 16, 42, 182, 1, 162, 154, 0, 21, 42, 16, 47, 182, 1, 162, 154, 0, 12, 42]
abbrev dktX5_term_0 : List UInt8 := dkwX5_term_0 ++ dktX5_term_1
theorem dksX5_term_0 : cX5_term.data.toList.drop 0 = dktX5_term_0 := by decide +kernel
theorem dksX5_term_1 : cX5_term.data.toList.drop 23 = dktX5_term_1 := dk_seg dksX5_term_0 23 rfl rfl
theorem dksX5_term_2 : cX5_term.data.toList.drop 47 = dktX5_term_2 := dk_seg dksX5_term_1 24 rfl rfl
theorem dksX5_term_3 : cX5_term.data.toList.drop 70 = dktX5_term_3 := dk_seg dksX5_term_2 23 rfl rfl
theorem dX5_term_0 : decode cX5_term 0 = .ok (.aload_n 0, 1) := dk_42 (dk_at dksX5_term_0 0 rfl rfl)
theorem dX5_term_1 : decode cX5_term 1 = .ok (.invokevirtual 435, 3) := dk_182 1 179 (dk_at dksX5_term_0 1 rfl rfl)
theorem dX5_term_4 : decode cX5_term 4 = .ok (.aload_n 0, 1) := dk_42 (dk_at dksX5_term_0 4 rfl rfl)
theorem dX5_term_5 : decode cX5_term 5 = .ok (.bipush 42, 2) := dk_16 42 (dk_at dksX5_term_0 5 rfl rfl)
theorem dX5_term_7 : decode cX5_term 7 = .ok (.invokevirtual 418, 3) := dk_182 1 162 (dk_at dksX5_term_0 7 rfl rfl)
theorem dX5_term_10 : decode cX5_term 10 = .ok (.ifCond .ne 21, 3) := dk_154 0 21 (dk_at dksX5_term_0 10 rfl rfl)
theorem dX5_term_13 : decode cX5_term 13 = .ok (.aload_n 0, 1) := dk_42 (dk_at dksX5_term_0 13 rfl rfl)
theorem dX5_term_14 : decode cX5_term 14 = .ok (.bipush 47, 2) := dk_16 47 (dk_at dksX5_term_0 14 rfl rfl)
theorem dX5_term_16 : decode cX5_term 16 = .ok (.invokevirtual 418, 3) := dk_182 1 162 (dk_at dksX5_term_0 16 rfl rfl)
theorem dX5_term_19 : decode cX5_term 19 = .ok (.ifCond .ne 12, 3) := dk_154 0 12 (dk_at dksX5_term_0 19 rfl rfl)
theorem dX5_term_22 : decode cX5_term 22 = .ok (.aload_n 0, 1) := dk_42 (dk_at dksX5_term_0 22 rfl rfl)
theorem dX5_term_23 : decode cX5_term 23 = .ok (.bipush 37, 2) := dk_16 37 (dk_at dksX5_term_1 0 rfl rfl)
theorem dX5_term_25 : decode cX5_term 25 = .ok (.invokevirtual 418, 3) := dk_182 1 162 (dk_at dksX5_term_1 2 rfl rfl)
theorem dX5_term_28 : decode cX5_term 28 = .ok (.ifCond .eq 53, 3) := dk_153 0 53 (dk_at dksX5_term_1 5 rfl rfl)
theorem dX5_term_31 : decode cX5_term 31 = .ok (.aload_n 0, 1) := dk_42 (dk_at dksX5_term_1 8 rfl rfl)
theorem dX5_term_32 : decode cX5_term 32 = .ok (.bipush 42, 2) := dk_16 42 (dk_at dksX5_term_1 9 rfl rfl)
theorem dX5_term_34 : decode cX5_term 34 = .ok (.invokevirtual 418, 3) := dk_182 1 162 (dk_at dksX5_term_1 11 rfl rfl)
theorem dX5_term_37 : decode cX5_term 37 = .ok (.ifCond .eq 9, 3) := dk_153 0 9 (dk_at dksX5_term_1 14 rfl rfl)
theorem dX5_term_40 : decode cX5_term 40 = .ok (.sipush 203, 3) := dk_17 0 203 (dk_at dksX5_term_1 17 rfl rfl)
theorem dX5_term_43 : decode cX5_term 43 = .ok (.goto 21, 3) := dk_167 0 21 (dk_at dksX5_term_1 20 rfl rfl)
theorem dX5_term_46 : decode cX5_term 46 = .ok (.aload_n 0, 1) := dk_42 (dk_at dksX5_term_1 23 rfl rfl)
theorem dX5_term_47 : decode cX5_term 47 = .ok (.bipush 47, 2) := dk_16 47 (dk_at dksX5_term_2 0 rfl rfl)
theorem dX5_term_49 : decode cX5_term 49 = .ok (.invokevirtual 418, 3) := dk_182 1 162 (dk_at dksX5_term_2 2 rfl rfl)
theorem dX5_term_52 : decode cX5_term 52 = .ok (.ifCond .eq 9, 3) := dk_153 0 9 (dk_at dksX5_term_2 5 rfl rfl)
theorem dX5_term_55 : decode cX5_term 55 = .ok (.sipush 204, 3) := dk_17 0 204 (dk_at dksX5_term_2 8 rfl rfl)
theorem dX5_term_58 : decode cX5_term 58 = .ok (.goto 6, 3) := dk_167 0 6 (dk_at dksX5_term_2 11 rfl rfl)
theorem dX5_term_61 : decode cX5_term 61 = .ok (.sipush 205, 3) := dk_17 0 205 (dk_at dksX5_term_2 14 rfl rfl)
theorem dX5_term_64 : decode cX5_term 64 = .ok (.istore_n 1, 1) := dk_60 (dk_at dksX5_term_2 17 rfl rfl)
theorem dX5_term_65 : decode cX5_term 65 = .ok (.aload_n 0, 1) := dk_42 (dk_at dksX5_term_2 18 rfl rfl)
theorem dX5_term_66 : decode cX5_term 66 = .ok (.invokevirtual 421, 3) := dk_182 1 165 (dk_at dksX5_term_2 19 rfl rfl)
theorem dX5_term_69 : decode cX5_term 69 = .ok (.aload_n 0, 1) := dk_42 (dk_at dksX5_term_2 22 rfl rfl)
theorem dX5_term_70 : decode cX5_term 70 = .ok (.invokevirtual 435, 3) := dk_182 1 179 (dk_at dksX5_term_3 0 rfl rfl)
theorem dX5_term_73 : decode cX5_term 73 = .ok (.aload_n 0, 1) := dk_42 (dk_at dksX5_term_3 3 rfl rfl)
theorem dX5_term_74 : decode cX5_term 74 = .ok (.iload_n 1, 1) := dk_27 (dk_at dksX5_term_3 4 rfl rfl)
theorem dX5_term_75 : decode cX5_term 75 = .ok (.invokevirtual 429, 3) := dk_182 1 173 (dk_at dksX5_term_3 5 rfl rfl)
theorem dX5_term_78 : decode cX5_term 78 = .ok (.goto (-74), 3) := dk_167 255 182 (dk_at dksX5_term_3 8 rfl rfl)
theorem dX5_term_81 : decode cX5_term 81 = .ok (.return_, 1) := dk_177 (dk_at dksX5_term_3 11 rfl rfl)
abbrev cX5_one : ByteArray := prog_35_method_59_code
def yX5_one : MethodName := ⟨RX5, "one", "()V"⟩
def dkwX5_one_11 : List UInt8 := [167, 0, 8, 42, 4, 181, 1, 101, 177]
abbrev dktX5_one_11 : List UInt8 := dkwX5_one_11 ++ []
def dkwX5_one_10 : List UInt8 := [17, 0, 200, 182, 1, 173, 167, 0, 25, 42, 16, 40, 182, 1, 162, 153, 0, 11, 42, 4, 182, 1, 200]
abbrev dktX5_one_10 : List UInt8 := dkwX5_one_10 ++ dktX5_one_11
def dkwX5_one_9 : List UInt8 := [42, 182, 1, 185, 154, 0, 4, 177, 42, 182, 1, 179, 42, 89, 180, 1, 182, 4, 100, 181, 1, 182, 42]
abbrev dktX5_one_9 : List UInt8 := dkwX5_one_9 ++ dktX5_one_10
def dkwX5_one_8 : List UInt8 := [17, 0, 208, 167, 0, 6, 17, 0, 209, 182, 1, 173, 167, 0, 66, 42, 16, 45, 182, 1, 162, 153, 0, 35]
abbrev dktX5_one_8 : List UInt8 := dkwX5_one_8 ++ dktX5_one_9
def dkwX5_one_7 : List UInt8 := [5, 182, 1, 200, 42, 27, 8, 160, 0, 9, 17, 0, 210, 167, 0, 18, 27, 16, 6, 160, 0, 9]
abbrev dktX5_one_7 : List UInt8 := dkwX5_one_7 ++ dktX5_one_8
def dkwX5_one_6 : List UInt8 := [182, 1, 165, 27, 8, 162, 0, 9, 42, 27, 182, 1, 197, 177, 42, 27, 8, 160, 0, 7, 6, 167, 0, 4]
abbrev dktX5_one_6 : List UInt8 := dkwX5_one_6 ++ dktX5_one_7
def dkwX5_one_5 : List UInt8 := [182, 1, 173, 42, 182, 1, 165, 167, 0, 141, 42, 180, 1, 108, 4, 160, 0, 70, 42, 182, 1, 111, 60, 42]
abbrev dktX5_one_5 : List UInt8 := dkwX5_one_5 ++ dktX5_one_6
def dkwX5_one_4 : List UInt8 := [180, 1, 95, 42, 180, 1, 105, 100, 4, 160, 0, 25, 42, 42, 42, 180, 1, 105, 182, 1, 98, 16, 97, 100]
abbrev dktX5_one_4 : List UInt8 := dkwX5_one_4 ++ dktX5_one_5
def dkwX5_one_3 : List UInt8 := [180, 1, 194, 4, 96, 181, 1, 194, 42, 182, 1, 165, 167, 0, 184, 42, 180, 1, 108, 4, 160, 0, 38, 42]
abbrev dktX5_one_3 : List UInt8 := dkwX5_one_3 ++ dktX5_one_4
def dkwX5_one_2 : List UInt8 := [42, 180, 1, 135, 96, 135, 20, 0, 194, 111, 82, 42, 16, 100, 42, 180, 1, 194, 96, 182, 1, 173, 42, 89]
abbrev dktX5_one_2 : List UInt8 := dkwX5_one_2 ++ dktX5_one_3
def dkwX5_one_1 : List UInt8 := [42, 180, 1, 135, 2, 160, 0, 11, 42, 180, 1, 132, 135, 167, 0, 21, 17, 3, 232, 42, 180, 1, 132, 104]
abbrev dktX5_one_1 : List UInt8 := dkwX5_one_1 ++ dktX5_one_2
def dkwX5_one_0 : List UInt8 := [42, 180, 1, 101, 153, 0, 4, 177, 42, 180, 1, 108, 5, 160, 0, 74, 42, 180, 0, 108, 42, 180, 1, 194]
abbrev dktX5_one_0 : List UInt8 := dkwX5_one_0 ++ dktX5_one_1
theorem dksX5_one_0 : cX5_one.data.toList.drop 0 = dktX5_one_0 := by decide +kernel
theorem dksX5_one_1 : cX5_one.data.toList.drop 24 = dktX5_one_1 := dk_seg dksX5_one_0 24 rfl rfl
theorem dksX5_one_2 : cX5_one.data.toList.drop 48 = dktX5_one_2 := dk_seg dksX5_one_1 24 rfl rfl
theorem dksX5_one_3 : cX5_one.data.toList.drop 72 = dktX5_one_3 := dk_seg dksX5_one_2 24 rfl rfl
theorem dksX5_one_4 : cX5_one.data.toList.drop 96 = dktX5_one_4 := dk_seg dksX5_one_3 24 rfl rfl
theorem dksX5_one_5 : cX5_one.data.toList.drop 120 = dktX5_one_5 := dk_seg dksX5_one_4 24 rfl rfl
theorem dksX5_one_6 : cX5_one.data.toList.drop 144 = dktX5_one_6 := dk_seg dksX5_one_5 24 rfl rfl
theorem dksX5_one_7 : cX5_one.data.toList.drop 168 = dktX5_one_7 := dk_seg dksX5_one_6 24 rfl rfl
theorem dksX5_one_8 : cX5_one.data.toList.drop 190 = dktX5_one_8 := dk_seg dksX5_one_7 22 rfl rfl
theorem dksX5_one_9 : cX5_one.data.toList.drop 214 = dktX5_one_9 := dk_seg dksX5_one_8 24 rfl rfl
theorem dksX5_one_10 : cX5_one.data.toList.drop 237 = dktX5_one_10 := dk_seg dksX5_one_9 23 rfl rfl
theorem dksX5_one_11 : cX5_one.data.toList.drop 260 = dktX5_one_11 := dk_seg dksX5_one_10 23 rfl rfl
theorem dX5_one_0 : decode cX5_one 0 = .ok (.aload_n 0, 1) := dk_42 (dk_at dksX5_one_0 0 rfl rfl)
theorem dX5_one_1 : decode cX5_one 1 = .ok (.getfield 357, 3) := dk_180 1 101 (dk_at dksX5_one_0 1 rfl rfl)
theorem dX5_one_4 : decode cX5_one 4 = .ok (.ifCond .eq 4, 3) := dk_153 0 4 (dk_at dksX5_one_0 4 rfl rfl)
theorem dX5_one_7 : decode cX5_one 7 = .ok (.return_, 1) := dk_177 (dk_at dksX5_one_0 7 rfl rfl)
theorem dX5_one_8 : decode cX5_one 8 = .ok (.aload_n 0, 1) := dk_42 (dk_at dksX5_one_0 8 rfl rfl)
theorem dX5_one_9 : decode cX5_one 9 = .ok (.getfield 364, 3) := dk_180 1 108 (dk_at dksX5_one_0 9 rfl rfl)
theorem dX5_one_12 : decode cX5_one 12 = .ok (.iconst 2, 1) := dk_5 (dk_at dksX5_one_0 12 rfl rfl)
theorem dX5_one_13 : decode cX5_one 13 = .ok (.if_icmp .ne 74, 3) := dk_160 0 74 (dk_at dksX5_one_0 13 rfl rfl)
theorem dX5_one_16 : decode cX5_one 16 = .ok (.aload_n 0, 1) := dk_42 (dk_at dksX5_one_0 16 rfl rfl)
theorem dX5_one_17 : decode cX5_one 17 = .ok (.getfield 108, 3) := dk_180 0 108 (dk_at dksX5_one_0 17 rfl rfl)
theorem dX5_one_20 : decode cX5_one 20 = .ok (.aload_n 0, 1) := dk_42 (dk_at dksX5_one_0 20 rfl rfl)
theorem dX5_one_21 : decode cX5_one 21 = .ok (.getfield 450, 3) := dk_180 1 194 (dk_at dksX5_one_0 21 rfl rfl)
theorem dX5_one_24 : decode cX5_one 24 = .ok (.aload_n 0, 1) := dk_42 (dk_at dksX5_one_1 0 rfl rfl)
theorem dX5_one_25 : decode cX5_one 25 = .ok (.getfield 391, 3) := dk_180 1 135 (dk_at dksX5_one_1 1 rfl rfl)
theorem dX5_one_28 : decode cX5_one 28 = .ok (.iconst (-1), 1) := dk_2 (dk_at dksX5_one_1 4 rfl rfl)
theorem dX5_one_29 : decode cX5_one 29 = .ok (.if_icmp .ne 11, 3) := dk_160 0 11 (dk_at dksX5_one_1 5 rfl rfl)
theorem dX5_one_32 : decode cX5_one 32 = .ok (.aload_n 0, 1) := dk_42 (dk_at dksX5_one_1 8 rfl rfl)
theorem dX5_one_33 : decode cX5_one 33 = .ok (.getfield 388, 3) := dk_180 1 132 (dk_at dksX5_one_1 9 rfl rfl)
theorem dX5_one_36 : decode cX5_one 36 = .ok (.i2d, 1) := dk_135 (dk_at dksX5_one_1 12 rfl rfl)
theorem dX5_one_37 : decode cX5_one 37 = .ok (.goto 21, 3) := dk_167 0 21 (dk_at dksX5_one_1 13 rfl rfl)
theorem dX5_one_40 : decode cX5_one 40 = .ok (.sipush 1000, 3) := dk_17 3 232 (dk_at dksX5_one_1 16 rfl rfl)
theorem dX5_one_43 : decode cX5_one 43 = .ok (.aload_n 0, 1) := dk_42 (dk_at dksX5_one_1 19 rfl rfl)
theorem dX5_one_44 : decode cX5_one 44 = .ok (.getfield 388, 3) := dk_180 1 132 (dk_at dksX5_one_1 20 rfl rfl)
theorem dX5_one_47 : decode cX5_one 47 = .ok (.imul, 1) := dk_104 (dk_at dksX5_one_1 23 rfl rfl)
theorem dX5_one_48 : decode cX5_one 48 = .ok (.aload_n 0, 1) := dk_42 (dk_at dksX5_one_2 0 rfl rfl)
theorem dX5_one_49 : decode cX5_one 49 = .ok (.getfield 391, 3) := dk_180 1 135 (dk_at dksX5_one_2 1 rfl rfl)
theorem dX5_one_52 : decode cX5_one 52 = .ok (.iadd, 1) := dk_96 (dk_at dksX5_one_2 4 rfl rfl)
theorem dX5_one_53 : decode cX5_one 53 = .ok (.i2d, 1) := dk_135 (dk_at dksX5_one_2 5 rfl rfl)
theorem dX5_one_54 : decode cX5_one 54 = .ok (.ldc2_w 194, 3) := dk_20 0 194 (dk_at dksX5_one_2 6 rfl rfl)
theorem dX5_one_57 : decode cX5_one 57 = .ok (.ddiv, 1) := dk_111 (dk_at dksX5_one_2 9 rfl rfl)
theorem dX5_one_58 : decode cX5_one 58 = .ok (.dastore, 1) := dk_82 (dk_at dksX5_one_2 10 rfl rfl)
theorem dX5_one_59 : decode cX5_one 59 = .ok (.aload_n 0, 1) := dk_42 (dk_at dksX5_one_2 11 rfl rfl)
theorem dX5_one_60 : decode cX5_one 60 = .ok (.bipush 100, 2) := dk_16 100 (dk_at dksX5_one_2 12 rfl rfl)
theorem dX5_one_62 : decode cX5_one 62 = .ok (.aload_n 0, 1) := dk_42 (dk_at dksX5_one_2 14 rfl rfl)
theorem dX5_one_63 : decode cX5_one 63 = .ok (.getfield 450, 3) := dk_180 1 194 (dk_at dksX5_one_2 15 rfl rfl)
theorem dX5_one_66 : decode cX5_one 66 = .ok (.iadd, 1) := dk_96 (dk_at dksX5_one_2 18 rfl rfl)
theorem dX5_one_67 : decode cX5_one 67 = .ok (.invokevirtual 429, 3) := dk_182 1 173 (dk_at dksX5_one_2 19 rfl rfl)
theorem dX5_one_70 : decode cX5_one 70 = .ok (.aload_n 0, 1) := dk_42 (dk_at dksX5_one_2 22 rfl rfl)
theorem dX5_one_71 : decode cX5_one 71 = .ok (.dup, 1) := dk_89 (dk_at dksX5_one_2 23 rfl rfl)
theorem dX5_one_72 : decode cX5_one 72 = .ok (.getfield 450, 3) := dk_180 1 194 (dk_at dksX5_one_3 0 rfl rfl)
theorem dX5_one_75 : decode cX5_one 75 = .ok (.iconst 1, 1) := dk_4 (dk_at dksX5_one_3 3 rfl rfl)
theorem dX5_one_76 : decode cX5_one 76 = .ok (.iadd, 1) := dk_96 (dk_at dksX5_one_3 4 rfl rfl)
theorem dX5_one_77 : decode cX5_one 77 = .ok (.putfield 450, 3) := dk_181 1 194 (dk_at dksX5_one_3 5 rfl rfl)
theorem dX5_one_80 : decode cX5_one 80 = .ok (.aload_n 0, 1) := dk_42 (dk_at dksX5_one_3 8 rfl rfl)
theorem dX5_one_81 : decode cX5_one 81 = .ok (.invokevirtual 421, 3) := dk_182 1 165 (dk_at dksX5_one_3 9 rfl rfl)
theorem dX5_one_84 : decode cX5_one 84 = .ok (.goto 184, 3) := dk_167 0 184 (dk_at dksX5_one_3 12 rfl rfl)
theorem dX5_one_87 : decode cX5_one 87 = .ok (.aload_n 0, 1) := dk_42 (dk_at dksX5_one_3 15 rfl rfl)
theorem dX5_one_88 : decode cX5_one 88 = .ok (.getfield 364, 3) := dk_180 1 108 (dk_at dksX5_one_3 16 rfl rfl)
theorem dX5_one_91 : decode cX5_one 91 = .ok (.iconst 1, 1) := dk_4 (dk_at dksX5_one_3 19 rfl rfl)
theorem dX5_one_92 : decode cX5_one 92 = .ok (.if_icmp .ne 38, 3) := dk_160 0 38 (dk_at dksX5_one_3 20 rfl rfl)
theorem dX5_one_95 : decode cX5_one 95 = .ok (.aload_n 0, 1) := dk_42 (dk_at dksX5_one_3 23 rfl rfl)
theorem dX5_one_96 : decode cX5_one 96 = .ok (.getfield 351, 3) := dk_180 1 95 (dk_at dksX5_one_4 0 rfl rfl)
theorem dX5_one_99 : decode cX5_one 99 = .ok (.aload_n 0, 1) := dk_42 (dk_at dksX5_one_4 3 rfl rfl)
theorem dX5_one_100 : decode cX5_one 100 = .ok (.getfield 361, 3) := dk_180 1 105 (dk_at dksX5_one_4 4 rfl rfl)
theorem dX5_one_103 : decode cX5_one 103 = .ok (.isub, 1) := dk_100 (dk_at dksX5_one_4 7 rfl rfl)
theorem dX5_one_104 : decode cX5_one 104 = .ok (.iconst 1, 1) := dk_4 (dk_at dksX5_one_4 8 rfl rfl)
theorem dX5_one_105 : decode cX5_one 105 = .ok (.if_icmp .ne 25, 3) := dk_160 0 25 (dk_at dksX5_one_4 9 rfl rfl)
theorem dX5_one_108 : decode cX5_one 108 = .ok (.aload_n 0, 1) := dk_42 (dk_at dksX5_one_4 12 rfl rfl)
theorem dX5_one_109 : decode cX5_one 109 = .ok (.aload_n 0, 1) := dk_42 (dk_at dksX5_one_4 13 rfl rfl)
theorem dX5_one_110 : decode cX5_one 110 = .ok (.aload_n 0, 1) := dk_42 (dk_at dksX5_one_4 14 rfl rfl)
theorem dX5_one_111 : decode cX5_one 111 = .ok (.getfield 361, 3) := dk_180 1 105 (dk_at dksX5_one_4 15 rfl rfl)
theorem dX5_one_114 : decode cX5_one 114 = .ok (.invokevirtual 354, 3) := dk_182 1 98 (dk_at dksX5_one_4 18 rfl rfl)
theorem dX5_one_117 : decode cX5_one 117 = .ok (.bipush 97, 2) := dk_16 97 (dk_at dksX5_one_4 21 rfl rfl)
theorem dX5_one_119 : decode cX5_one 119 = .ok (.isub, 1) := dk_100 (dk_at dksX5_one_4 23 rfl rfl)
theorem dX5_one_120 : decode cX5_one 120 = .ok (.invokevirtual 429, 3) := dk_182 1 173 (dk_at dksX5_one_5 0 rfl rfl)
theorem dX5_one_123 : decode cX5_one 123 = .ok (.aload_n 0, 1) := dk_42 (dk_at dksX5_one_5 3 rfl rfl)
theorem dX5_one_124 : decode cX5_one 124 = .ok (.invokevirtual 421, 3) := dk_182 1 165 (dk_at dksX5_one_5 4 rfl rfl)
theorem dX5_one_127 : decode cX5_one 127 = .ok (.goto 141, 3) := dk_167 0 141 (dk_at dksX5_one_5 7 rfl rfl)
theorem dX5_one_130 : decode cX5_one 130 = .ok (.aload_n 0, 1) := dk_42 (dk_at dksX5_one_5 10 rfl rfl)
theorem dX5_one_131 : decode cX5_one 131 = .ok (.getfield 364, 3) := dk_180 1 108 (dk_at dksX5_one_5 11 rfl rfl)
theorem dX5_one_134 : decode cX5_one 134 = .ok (.iconst 1, 1) := dk_4 (dk_at dksX5_one_5 14 rfl rfl)
theorem dX5_one_135 : decode cX5_one 135 = .ok (.if_icmp .ne 70, 3) := dk_160 0 70 (dk_at dksX5_one_5 15 rfl rfl)
theorem dX5_one_138 : decode cX5_one 138 = .ok (.aload_n 0, 1) := dk_42 (dk_at dksX5_one_5 18 rfl rfl)
theorem dX5_one_139 : decode cX5_one 139 = .ok (.invokevirtual 367, 3) := dk_182 1 111 (dk_at dksX5_one_5 19 rfl rfl)
theorem dX5_one_142 : decode cX5_one 142 = .ok (.istore_n 1, 1) := dk_60 (dk_at dksX5_one_5 22 rfl rfl)
theorem dX5_one_143 : decode cX5_one 143 = .ok (.aload_n 0, 1) := dk_42 (dk_at dksX5_one_5 23 rfl rfl)
theorem dX5_one_144 : decode cX5_one 144 = .ok (.invokevirtual 421, 3) := dk_182 1 165 (dk_at dksX5_one_6 0 rfl rfl)
theorem dX5_one_147 : decode cX5_one 147 = .ok (.iload_n 1, 1) := dk_27 (dk_at dksX5_one_6 3 rfl rfl)
theorem dX5_one_148 : decode cX5_one 148 = .ok (.iconst 5, 1) := dk_8 (dk_at dksX5_one_6 4 rfl rfl)
theorem dX5_one_149 : decode cX5_one 149 = .ok (.if_icmp .ge 9, 3) := dk_162 0 9 (dk_at dksX5_one_6 5 rfl rfl)
theorem dX5_one_152 : decode cX5_one 152 = .ok (.aload_n 0, 1) := dk_42 (dk_at dksX5_one_6 8 rfl rfl)
theorem dX5_one_153 : decode cX5_one 153 = .ok (.iload_n 1, 1) := dk_27 (dk_at dksX5_one_6 9 rfl rfl)
theorem dX5_one_154 : decode cX5_one 154 = .ok (.invokevirtual 453, 3) := dk_182 1 197 (dk_at dksX5_one_6 10 rfl rfl)
theorem dX5_one_157 : decode cX5_one 157 = .ok (.return_, 1) := dk_177 (dk_at dksX5_one_6 13 rfl rfl)
theorem dX5_one_158 : decode cX5_one 158 = .ok (.aload_n 0, 1) := dk_42 (dk_at dksX5_one_6 14 rfl rfl)
theorem dX5_one_159 : decode cX5_one 159 = .ok (.iload_n 1, 1) := dk_27 (dk_at dksX5_one_6 15 rfl rfl)
theorem dX5_one_160 : decode cX5_one 160 = .ok (.iconst 5, 1) := dk_8 (dk_at dksX5_one_6 16 rfl rfl)
theorem dX5_one_161 : decode cX5_one 161 = .ok (.if_icmp .ne 7, 3) := dk_160 0 7 (dk_at dksX5_one_6 17 rfl rfl)
theorem dX5_one_164 : decode cX5_one 164 = .ok (.iconst 3, 1) := dk_6 (dk_at dksX5_one_6 20 rfl rfl)
theorem dX5_one_165 : decode cX5_one 165 = .ok (.goto 4, 3) := dk_167 0 4 (dk_at dksX5_one_6 21 rfl rfl)
theorem dX5_one_168 : decode cX5_one 168 = .ok (.iconst 2, 1) := dk_5 (dk_at dksX5_one_7 0 rfl rfl)
theorem dX5_one_169 : decode cX5_one 169 = .ok (.invokevirtual 456, 3) := dk_182 1 200 (dk_at dksX5_one_7 1 rfl rfl)
theorem dX5_one_172 : decode cX5_one 172 = .ok (.aload_n 0, 1) := dk_42 (dk_at dksX5_one_7 4 rfl rfl)
theorem dX5_one_173 : decode cX5_one 173 = .ok (.iload_n 1, 1) := dk_27 (dk_at dksX5_one_7 5 rfl rfl)
theorem dX5_one_174 : decode cX5_one 174 = .ok (.iconst 5, 1) := dk_8 (dk_at dksX5_one_7 6 rfl rfl)
theorem dX5_one_175 : decode cX5_one 175 = .ok (.if_icmp .ne 9, 3) := dk_160 0 9 (dk_at dksX5_one_7 7 rfl rfl)
theorem dX5_one_178 : decode cX5_one 178 = .ok (.sipush 210, 3) := dk_17 0 210 (dk_at dksX5_one_7 10 rfl rfl)
theorem dX5_one_181 : decode cX5_one 181 = .ok (.goto 18, 3) := dk_167 0 18 (dk_at dksX5_one_7 13 rfl rfl)
theorem dX5_one_184 : decode cX5_one 184 = .ok (.iload_n 1, 1) := dk_27 (dk_at dksX5_one_7 16 rfl rfl)
theorem dX5_one_185 : decode cX5_one 185 = .ok (.bipush 6, 2) := dk_16 6 (dk_at dksX5_one_7 17 rfl rfl)
theorem dX5_one_187 : decode cX5_one 187 = .ok (.if_icmp .ne 9, 3) := dk_160 0 9 (dk_at dksX5_one_7 19 rfl rfl)
theorem dX5_one_190 : decode cX5_one 190 = .ok (.sipush 208, 3) := dk_17 0 208 (dk_at dksX5_one_8 0 rfl rfl)
theorem dX5_one_193 : decode cX5_one 193 = .ok (.goto 6, 3) := dk_167 0 6 (dk_at dksX5_one_8 3 rfl rfl)
theorem dX5_one_196 : decode cX5_one 196 = .ok (.sipush 209, 3) := dk_17 0 209 (dk_at dksX5_one_8 6 rfl rfl)
theorem dX5_one_199 : decode cX5_one 199 = .ok (.invokevirtual 429, 3) := dk_182 1 173 (dk_at dksX5_one_8 9 rfl rfl)
theorem dX5_one_202 : decode cX5_one 202 = .ok (.goto 66, 3) := dk_167 0 66 (dk_at dksX5_one_8 12 rfl rfl)
theorem dX5_one_205 : decode cX5_one 205 = .ok (.aload_n 0, 1) := dk_42 (dk_at dksX5_one_8 15 rfl rfl)
theorem dX5_one_206 : decode cX5_one 206 = .ok (.bipush 45, 2) := dk_16 45 (dk_at dksX5_one_8 16 rfl rfl)
theorem dX5_one_208 : decode cX5_one 208 = .ok (.invokevirtual 418, 3) := dk_182 1 162 (dk_at dksX5_one_8 18 rfl rfl)
theorem dX5_one_211 : decode cX5_one 211 = .ok (.ifCond .eq 35, 3) := dk_153 0 35 (dk_at dksX5_one_8 21 rfl rfl)
theorem dX5_one_214 : decode cX5_one 214 = .ok (.aload_n 0, 1) := dk_42 (dk_at dksX5_one_9 0 rfl rfl)
theorem dX5_one_215 : decode cX5_one 215 = .ok (.invokevirtual 441, 3) := dk_182 1 185 (dk_at dksX5_one_9 1 rfl rfl)
theorem dX5_one_218 : decode cX5_one 218 = .ok (.ifCond .ne 4, 3) := dk_154 0 4 (dk_at dksX5_one_9 4 rfl rfl)
theorem dX5_one_221 : decode cX5_one 221 = .ok (.return_, 1) := dk_177 (dk_at dksX5_one_9 7 rfl rfl)
theorem dX5_one_222 : decode cX5_one 222 = .ok (.aload_n 0, 1) := dk_42 (dk_at dksX5_one_9 8 rfl rfl)
theorem dX5_one_223 : decode cX5_one 223 = .ok (.invokevirtual 435, 3) := dk_182 1 179 (dk_at dksX5_one_9 9 rfl rfl)
theorem dX5_one_226 : decode cX5_one 226 = .ok (.aload_n 0, 1) := dk_42 (dk_at dksX5_one_9 12 rfl rfl)
theorem dX5_one_227 : decode cX5_one 227 = .ok (.dup, 1) := dk_89 (dk_at dksX5_one_9 13 rfl rfl)
theorem dX5_one_228 : decode cX5_one 228 = .ok (.getfield 438, 3) := dk_180 1 182 (dk_at dksX5_one_9 14 rfl rfl)
theorem dX5_one_231 : decode cX5_one 231 = .ok (.iconst 1, 1) := dk_4 (dk_at dksX5_one_9 17 rfl rfl)
theorem dX5_one_232 : decode cX5_one 232 = .ok (.isub, 1) := dk_100 (dk_at dksX5_one_9 18 rfl rfl)
theorem dX5_one_233 : decode cX5_one 233 = .ok (.putfield 438, 3) := dk_181 1 182 (dk_at dksX5_one_9 19 rfl rfl)
theorem dX5_one_236 : decode cX5_one 236 = .ok (.aload_n 0, 1) := dk_42 (dk_at dksX5_one_9 22 rfl rfl)
theorem dX5_one_237 : decode cX5_one 237 = .ok (.sipush 200, 3) := dk_17 0 200 (dk_at dksX5_one_10 0 rfl rfl)
theorem dX5_one_240 : decode cX5_one 240 = .ok (.invokevirtual 429, 3) := dk_182 1 173 (dk_at dksX5_one_10 3 rfl rfl)
theorem dX5_one_243 : decode cX5_one 243 = .ok (.goto 25, 3) := dk_167 0 25 (dk_at dksX5_one_10 6 rfl rfl)
theorem dX5_one_246 : decode cX5_one 246 = .ok (.aload_n 0, 1) := dk_42 (dk_at dksX5_one_10 9 rfl rfl)
theorem dX5_one_247 : decode cX5_one 247 = .ok (.bipush 40, 2) := dk_16 40 (dk_at dksX5_one_10 10 rfl rfl)
theorem dX5_one_249 : decode cX5_one 249 = .ok (.invokevirtual 418, 3) := dk_182 1 162 (dk_at dksX5_one_10 12 rfl rfl)
theorem dX5_one_252 : decode cX5_one 252 = .ok (.ifCond .eq 11, 3) := dk_153 0 11 (dk_at dksX5_one_10 15 rfl rfl)
theorem dX5_one_255 : decode cX5_one 255 = .ok (.aload_n 0, 1) := dk_42 (dk_at dksX5_one_10 18 rfl rfl)
theorem dX5_one_256 : decode cX5_one 256 = .ok (.iconst 1, 1) := dk_4 (dk_at dksX5_one_10 19 rfl rfl)
theorem dX5_one_257 : decode cX5_one 257 = .ok (.invokevirtual 456, 3) := dk_182 1 200 (dk_at dksX5_one_10 20 rfl rfl)
theorem dX5_one_260 : decode cX5_one 260 = .ok (.goto 8, 3) := dk_167 0 8 (dk_at dksX5_one_11 0 rfl rfl)
theorem dX5_one_263 : decode cX5_one 263 = .ok (.aload_n 0, 1) := dk_42 (dk_at dksX5_one_11 3 rfl rfl)
theorem dX5_one_264 : decode cX5_one 264 = .ok (.iconst 1, 1) := dk_4 (dk_at dksX5_one_11 4 rfl rfl)
theorem dX5_one_265 : decode cX5_one 265 = .ok (.putfield 357, 3) := dk_181 1 101 (dk_at dksX5_one_11 5 rfl rfl)
theorem dX5_one_268 : decode cX5_one 268 = .ok (.return_, 1) := dk_177 (dk_at dksX5_one_11 8 rfl rfl)
abbrev cX5_mark : ByteArray := prog_35_method_53_code
def yX5_mark : MethodName := ⟨RX5, "mark", "(I)V"⟩
def dkwX5_mark_1 : List UInt8 := [96, 181, 1, 168, 177]
abbrev dktX5_mark_1 : List UInt8 := dkwX5_mark_1 ++ []
def dkwX5_mark_0 : List UInt8 := [42, 180, 1, 101, 153, 0, 4, 177, 42, 180, 0, 105, 42, 180, 1, 168, 27, 79, 42, 89, 180, 1, 168, 4]
abbrev dktX5_mark_0 : List UInt8 := dkwX5_mark_0 ++ dktX5_mark_1
theorem dksX5_mark_0 : cX5_mark.data.toList.drop 0 = dktX5_mark_0 := by decide +kernel
theorem dksX5_mark_1 : cX5_mark.data.toList.drop 24 = dktX5_mark_1 := dk_seg dksX5_mark_0 24 rfl rfl
theorem dX5_mark_0 : decode cX5_mark 0 = .ok (.aload_n 0, 1) := dk_42 (dk_at dksX5_mark_0 0 rfl rfl)
theorem dX5_mark_1 : decode cX5_mark 1 = .ok (.getfield 357, 3) := dk_180 1 101 (dk_at dksX5_mark_0 1 rfl rfl)
theorem dX5_mark_4 : decode cX5_mark 4 = .ok (.ifCond .eq 4, 3) := dk_153 0 4 (dk_at dksX5_mark_0 4 rfl rfl)
theorem dX5_mark_7 : decode cX5_mark 7 = .ok (.return_, 1) := dk_177 (dk_at dksX5_mark_0 7 rfl rfl)
theorem dX5_mark_8 : decode cX5_mark 8 = .ok (.aload_n 0, 1) := dk_42 (dk_at dksX5_mark_0 8 rfl rfl)
theorem dX5_mark_9 : decode cX5_mark 9 = .ok (.getfield 105, 3) := dk_180 0 105 (dk_at dksX5_mark_0 9 rfl rfl)
theorem dX5_mark_12 : decode cX5_mark 12 = .ok (.aload_n 0, 1) := dk_42 (dk_at dksX5_mark_0 12 rfl rfl)
theorem dX5_mark_13 : decode cX5_mark 13 = .ok (.getfield 424, 3) := dk_180 1 168 (dk_at dksX5_mark_0 13 rfl rfl)
theorem dX5_mark_16 : decode cX5_mark 16 = .ok (.iload_n 1, 1) := dk_27 (dk_at dksX5_mark_0 16 rfl rfl)
theorem dX5_mark_17 : decode cX5_mark 17 = .ok (.iastore, 1) := dk_79 (dk_at dksX5_mark_0 17 rfl rfl)
theorem dX5_mark_18 : decode cX5_mark 18 = .ok (.aload_n 0, 1) := dk_42 (dk_at dksX5_mark_0 18 rfl rfl)
theorem dX5_mark_19 : decode cX5_mark 19 = .ok (.dup, 1) := dk_89 (dk_at dksX5_mark_0 19 rfl rfl)
theorem dX5_mark_20 : decode cX5_mark 20 = .ok (.getfield 424, 3) := dk_180 1 168 (dk_at dksX5_mark_0 20 rfl rfl)
theorem dX5_mark_23 : decode cX5_mark 23 = .ok (.iconst 1, 1) := dk_4 (dk_at dksX5_mark_0 23 rfl rfl)
theorem dX5_mark_24 : decode cX5_mark 24 = .ok (.iadd, 1) := dk_96 (dk_at dksX5_mark_1 0 rfl rfl)
theorem dX5_mark_25 : decode cX5_mark 25 = .ok (.putfield 424, 3) := dk_181 1 168 (dk_at dksX5_mark_1 1 rfl rfl)
theorem dX5_mark_28 : decode cX5_mark 28 = .ok (.return_, 1) := dk_177 (dk_at dksX5_mark_1 4 rfl rfl)
abbrev cX5_ofTable : ByteArray := prog_35_method_60_code
def yX5_ofTable : MethodName := ⟨RX5, "ofTable", "(I)V"⟩
def dkwX5_ofTable_2 : List UInt8 := [42, 180, 1, 132, 96, 182, 1, 173, 42, 182, 1, 165, 177]
abbrev dktX5_ofTable_2 : List UInt8 := dkwX5_ofTable_2 ++ []
def dkwX5_ofTable_1 : List UInt8 := [42, 180, 1, 132, 16, 6, 161, 0, 9, 42, 4, 181, 1, 101, 177, 42, 17, 1, 44, 16, 10, 27, 104, 96]
abbrev dktX5_ofTable_1 : List UInt8 := dkwX5_ofTable_1 ++ dktX5_ofTable_2
def dkwX5_ofTable_0 : List UInt8 := [42, 180, 1, 101, 153, 0, 4, 177, 42, 180, 1, 108, 5, 160, 0, 20, 42, 180, 1, 135, 2, 160, 0, 12]
abbrev dktX5_ofTable_0 : List UInt8 := dkwX5_ofTable_0 ++ dktX5_ofTable_1
theorem dksX5_ofTable_0 : cX5_ofTable.data.toList.drop 0 = dktX5_ofTable_0 := by decide +kernel
theorem dksX5_ofTable_1 : cX5_ofTable.data.toList.drop 24 = dktX5_ofTable_1 := dk_seg dksX5_ofTable_0 24 rfl rfl
theorem dksX5_ofTable_2 : cX5_ofTable.data.toList.drop 48 = dktX5_ofTable_2 := dk_seg dksX5_ofTable_1 24 rfl rfl
theorem dX5_ofTable_0 : decode cX5_ofTable 0 = .ok (.aload_n 0, 1) := dk_42 (dk_at dksX5_ofTable_0 0 rfl rfl)
theorem dX5_ofTable_1 : decode cX5_ofTable 1 = .ok (.getfield 357, 3) := dk_180 1 101 (dk_at dksX5_ofTable_0 1 rfl rfl)
theorem dX5_ofTable_4 : decode cX5_ofTable 4 = .ok (.ifCond .eq 4, 3) := dk_153 0 4 (dk_at dksX5_ofTable_0 4 rfl rfl)
theorem dX5_ofTable_7 : decode cX5_ofTable 7 = .ok (.return_, 1) := dk_177 (dk_at dksX5_ofTable_0 7 rfl rfl)
theorem dX5_ofTable_8 : decode cX5_ofTable 8 = .ok (.aload_n 0, 1) := dk_42 (dk_at dksX5_ofTable_0 8 rfl rfl)
theorem dX5_ofTable_9 : decode cX5_ofTable 9 = .ok (.getfield 364, 3) := dk_180 1 108 (dk_at dksX5_ofTable_0 9 rfl rfl)
theorem dX5_ofTable_12 : decode cX5_ofTable 12 = .ok (.iconst 2, 1) := dk_5 (dk_at dksX5_ofTable_0 12 rfl rfl)
theorem dX5_ofTable_13 : decode cX5_ofTable 13 = .ok (.if_icmp .ne 20, 3) := dk_160 0 20 (dk_at dksX5_ofTable_0 13 rfl rfl)
theorem dX5_ofTable_16 : decode cX5_ofTable 16 = .ok (.aload_n 0, 1) := dk_42 (dk_at dksX5_ofTable_0 16 rfl rfl)
theorem dX5_ofTable_17 : decode cX5_ofTable 17 = .ok (.getfield 391, 3) := dk_180 1 135 (dk_at dksX5_ofTable_0 17 rfl rfl)
theorem dX5_ofTable_20 : decode cX5_ofTable 20 = .ok (.iconst (-1), 1) := dk_2 (dk_at dksX5_ofTable_0 20 rfl rfl)
theorem dX5_ofTable_21 : decode cX5_ofTable 21 = .ok (.if_icmp .ne 12, 3) := dk_160 0 12 (dk_at dksX5_ofTable_0 21 rfl rfl)
theorem dX5_ofTable_24 : decode cX5_ofTable 24 = .ok (.aload_n 0, 1) := dk_42 (dk_at dksX5_ofTable_1 0 rfl rfl)
theorem dX5_ofTable_25 : decode cX5_ofTable 25 = .ok (.getfield 388, 3) := dk_180 1 132 (dk_at dksX5_ofTable_1 1 rfl rfl)
theorem dX5_ofTable_28 : decode cX5_ofTable 28 = .ok (.bipush 6, 2) := dk_16 6 (dk_at dksX5_ofTable_1 4 rfl rfl)
theorem dX5_ofTable_30 : decode cX5_ofTable 30 = .ok (.if_icmp .lt 9, 3) := dk_161 0 9 (dk_at dksX5_ofTable_1 6 rfl rfl)
theorem dX5_ofTable_33 : decode cX5_ofTable 33 = .ok (.aload_n 0, 1) := dk_42 (dk_at dksX5_ofTable_1 9 rfl rfl)
theorem dX5_ofTable_34 : decode cX5_ofTable 34 = .ok (.iconst 1, 1) := dk_4 (dk_at dksX5_ofTable_1 10 rfl rfl)
theorem dX5_ofTable_35 : decode cX5_ofTable 35 = .ok (.putfield 357, 3) := dk_181 1 101 (dk_at dksX5_ofTable_1 11 rfl rfl)
theorem dX5_ofTable_38 : decode cX5_ofTable 38 = .ok (.return_, 1) := dk_177 (dk_at dksX5_ofTable_1 14 rfl rfl)
theorem dX5_ofTable_39 : decode cX5_ofTable 39 = .ok (.aload_n 0, 1) := dk_42 (dk_at dksX5_ofTable_1 15 rfl rfl)
theorem dX5_ofTable_40 : decode cX5_ofTable 40 = .ok (.sipush 300, 3) := dk_17 1 44 (dk_at dksX5_ofTable_1 16 rfl rfl)
theorem dX5_ofTable_43 : decode cX5_ofTable 43 = .ok (.bipush 10, 2) := dk_16 10 (dk_at dksX5_ofTable_1 19 rfl rfl)
theorem dX5_ofTable_45 : decode cX5_ofTable 45 = .ok (.iload_n 1, 1) := dk_27 (dk_at dksX5_ofTable_1 21 rfl rfl)
theorem dX5_ofTable_46 : decode cX5_ofTable 46 = .ok (.imul, 1) := dk_104 (dk_at dksX5_ofTable_1 22 rfl rfl)
theorem dX5_ofTable_47 : decode cX5_ofTable 47 = .ok (.iadd, 1) := dk_96 (dk_at dksX5_ofTable_1 23 rfl rfl)
theorem dX5_ofTable_48 : decode cX5_ofTable 48 = .ok (.aload_n 0, 1) := dk_42 (dk_at dksX5_ofTable_2 0 rfl rfl)
theorem dX5_ofTable_49 : decode cX5_ofTable 49 = .ok (.getfield 388, 3) := dk_180 1 132 (dk_at dksX5_ofTable_2 1 rfl rfl)
theorem dX5_ofTable_52 : decode cX5_ofTable 52 = .ok (.iadd, 1) := dk_96 (dk_at dksX5_ofTable_2 4 rfl rfl)
theorem dX5_ofTable_53 : decode cX5_ofTable 53 = .ok (.invokevirtual 429, 3) := dk_182 1 173 (dk_at dksX5_ofTable_2 5 rfl rfl)
theorem dX5_ofTable_56 : decode cX5_ofTable 56 = .ok (.aload_n 0, 1) := dk_42 (dk_at dksX5_ofTable_2 8 rfl rfl)
theorem dX5_ofTable_57 : decode cX5_ofTable 57 = .ok (.invokevirtual 421, 3) := dk_182 1 165 (dk_at dksX5_ofTable_2 9 rfl rfl)
theorem dX5_ofTable_60 : decode cX5_ofTable 60 = .ok (.return_, 1) := dk_177 (dk_at dksX5_ofTable_2 12 rfl rfl)
abbrev cX5_parts : ByteArray := prog_35_method_58_code
def yX5_parts : MethodName := ⟨RX5, "parts", "(I)V"⟩
def dkwX5_parts_3 : List UInt8 := [100, 181, 1, 182, 42, 182, 1, 165, 177]
abbrev dktX5_parts_3 : List UInt8 := dkwX5_parts_3 ++ []
def dkwX5_parts_2 : List UInt8 := [167, 255, 234, 42, 16, 41, 182, 1, 162, 154, 0, 9, 42, 4, 181, 1, 101, 177, 42, 89, 180, 1, 182, 4]
abbrev dktX5_parts_2 : List UInt8 := dkwX5_parts_2 ++ dktX5_parts_3
def dkwX5_parts_1 : List UInt8 := [61, 28, 27, 162, 0, 23, 28, 158, 0, 9, 42, 16, 44, 182, 1, 188, 42, 182, 1, 191, 132, 2, 1]
abbrev dktX5_parts_1 : List UInt8 := dkwX5_parts_1 ++ dktX5_parts_2
def dkwX5_parts_0 : List UInt8 := [42, 16, 40, 182, 1, 162, 154, 0, 9, 42, 4, 181, 1, 101, 177, 42, 182, 1, 185, 154, 0, 4, 177, 3]
abbrev dktX5_parts_0 : List UInt8 := dkwX5_parts_0 ++ dktX5_parts_1
theorem dksX5_parts_0 : cX5_parts.data.toList.drop 0 = dktX5_parts_0 := by decide +kernel
theorem dksX5_parts_1 : cX5_parts.data.toList.drop 24 = dktX5_parts_1 := dk_seg dksX5_parts_0 24 rfl rfl
theorem dksX5_parts_2 : cX5_parts.data.toList.drop 47 = dktX5_parts_2 := dk_seg dksX5_parts_1 23 rfl rfl
theorem dksX5_parts_3 : cX5_parts.data.toList.drop 71 = dktX5_parts_3 := dk_seg dksX5_parts_2 24 rfl rfl
theorem dX5_parts_0 : decode cX5_parts 0 = .ok (.aload_n 0, 1) := dk_42 (dk_at dksX5_parts_0 0 rfl rfl)
theorem dX5_parts_1 : decode cX5_parts 1 = .ok (.bipush 40, 2) := dk_16 40 (dk_at dksX5_parts_0 1 rfl rfl)
theorem dX5_parts_3 : decode cX5_parts 3 = .ok (.invokevirtual 418, 3) := dk_182 1 162 (dk_at dksX5_parts_0 3 rfl rfl)
theorem dX5_parts_6 : decode cX5_parts 6 = .ok (.ifCond .ne 9, 3) := dk_154 0 9 (dk_at dksX5_parts_0 6 rfl rfl)
theorem dX5_parts_9 : decode cX5_parts 9 = .ok (.aload_n 0, 1) := dk_42 (dk_at dksX5_parts_0 9 rfl rfl)
theorem dX5_parts_10 : decode cX5_parts 10 = .ok (.iconst 1, 1) := dk_4 (dk_at dksX5_parts_0 10 rfl rfl)
theorem dX5_parts_11 : decode cX5_parts 11 = .ok (.putfield 357, 3) := dk_181 1 101 (dk_at dksX5_parts_0 11 rfl rfl)
theorem dX5_parts_14 : decode cX5_parts 14 = .ok (.return_, 1) := dk_177 (dk_at dksX5_parts_0 14 rfl rfl)
theorem dX5_parts_15 : decode cX5_parts 15 = .ok (.aload_n 0, 1) := dk_42 (dk_at dksX5_parts_0 15 rfl rfl)
theorem dX5_parts_16 : decode cX5_parts 16 = .ok (.invokevirtual 441, 3) := dk_182 1 185 (dk_at dksX5_parts_0 16 rfl rfl)
theorem dX5_parts_19 : decode cX5_parts 19 = .ok (.ifCond .ne 4, 3) := dk_154 0 4 (dk_at dksX5_parts_0 19 rfl rfl)
theorem dX5_parts_22 : decode cX5_parts 22 = .ok (.return_, 1) := dk_177 (dk_at dksX5_parts_0 22 rfl rfl)
theorem dX5_parts_23 : decode cX5_parts 23 = .ok (.iconst 0, 1) := dk_3 (dk_at dksX5_parts_0 23 rfl rfl)
theorem dX5_parts_24 : decode cX5_parts 24 = .ok (.istore_n 2, 1) := dk_61 (dk_at dksX5_parts_1 0 rfl rfl)
theorem dX5_parts_25 : decode cX5_parts 25 = .ok (.iload_n 2, 1) := dk_28 (dk_at dksX5_parts_1 1 rfl rfl)
theorem dX5_parts_26 : decode cX5_parts 26 = .ok (.iload_n 1, 1) := dk_27 (dk_at dksX5_parts_1 2 rfl rfl)
theorem dX5_parts_27 : decode cX5_parts 27 = .ok (.if_icmp .ge 23, 3) := dk_162 0 23 (dk_at dksX5_parts_1 3 rfl rfl)
theorem dX5_parts_30 : decode cX5_parts 30 = .ok (.iload_n 2, 1) := dk_28 (dk_at dksX5_parts_1 6 rfl rfl)
theorem dX5_parts_31 : decode cX5_parts 31 = .ok (.ifCond .le 9, 3) := dk_158 0 9 (dk_at dksX5_parts_1 7 rfl rfl)
theorem dX5_parts_34 : decode cX5_parts 34 = .ok (.aload_n 0, 1) := dk_42 (dk_at dksX5_parts_1 10 rfl rfl)
theorem dX5_parts_35 : decode cX5_parts 35 = .ok (.bipush 44, 2) := dk_16 44 (dk_at dksX5_parts_1 11 rfl rfl)
theorem dX5_parts_37 : decode cX5_parts 37 = .ok (.invokevirtual 444, 3) := dk_182 1 188 (dk_at dksX5_parts_1 13 rfl rfl)
theorem dX5_parts_40 : decode cX5_parts 40 = .ok (.aload_n 0, 1) := dk_42 (dk_at dksX5_parts_1 16 rfl rfl)
theorem dX5_parts_41 : decode cX5_parts 41 = .ok (.invokevirtual 447, 3) := dk_182 1 191 (dk_at dksX5_parts_1 17 rfl rfl)
theorem dX5_parts_44 : decode cX5_parts 44 = .ok (.iinc 2 1, 3) := dk_132 2 1 (dk_at dksX5_parts_1 20 rfl rfl)
theorem dX5_parts_47 : decode cX5_parts 47 = .ok (.goto (-22), 3) := dk_167 255 234 (dk_at dksX5_parts_2 0 rfl rfl)
theorem dX5_parts_50 : decode cX5_parts 50 = .ok (.aload_n 0, 1) := dk_42 (dk_at dksX5_parts_2 3 rfl rfl)
theorem dX5_parts_51 : decode cX5_parts 51 = .ok (.bipush 41, 2) := dk_16 41 (dk_at dksX5_parts_2 4 rfl rfl)
theorem dX5_parts_53 : decode cX5_parts 53 = .ok (.invokevirtual 418, 3) := dk_182 1 162 (dk_at dksX5_parts_2 6 rfl rfl)
theorem dX5_parts_56 : decode cX5_parts 56 = .ok (.ifCond .ne 9, 3) := dk_154 0 9 (dk_at dksX5_parts_2 9 rfl rfl)
theorem dX5_parts_59 : decode cX5_parts 59 = .ok (.aload_n 0, 1) := dk_42 (dk_at dksX5_parts_2 12 rfl rfl)
theorem dX5_parts_60 : decode cX5_parts 60 = .ok (.iconst 1, 1) := dk_4 (dk_at dksX5_parts_2 13 rfl rfl)
theorem dX5_parts_61 : decode cX5_parts 61 = .ok (.putfield 357, 3) := dk_181 1 101 (dk_at dksX5_parts_2 14 rfl rfl)
theorem dX5_parts_64 : decode cX5_parts 64 = .ok (.return_, 1) := dk_177 (dk_at dksX5_parts_2 17 rfl rfl)
theorem dX5_parts_65 : decode cX5_parts 65 = .ok (.aload_n 0, 1) := dk_42 (dk_at dksX5_parts_2 18 rfl rfl)
theorem dX5_parts_66 : decode cX5_parts 66 = .ok (.dup, 1) := dk_89 (dk_at dksX5_parts_2 19 rfl rfl)
theorem dX5_parts_67 : decode cX5_parts 67 = .ok (.getfield 438, 3) := dk_180 1 182 (dk_at dksX5_parts_2 20 rfl rfl)
theorem dX5_parts_70 : decode cX5_parts 70 = .ok (.iconst 1, 1) := dk_4 (dk_at dksX5_parts_2 23 rfl rfl)
theorem dX5_parts_71 : decode cX5_parts 71 = .ok (.isub, 1) := dk_100 (dk_at dksX5_parts_3 0 rfl rfl)
theorem dX5_parts_72 : decode cX5_parts 72 = .ok (.putfield 438, 3) := dk_181 1 182 (dk_at dksX5_parts_3 1 rfl rfl)
theorem dX5_parts_75 : decode cX5_parts 75 = .ok (.aload_n 0, 1) := dk_42 (dk_at dksX5_parts_3 4 rfl rfl)
theorem dX5_parts_76 : decode cX5_parts 76 = .ok (.invokevirtual 421, 3) := dk_182 1 165 (dk_at dksX5_parts_3 5 rfl rfl)
theorem dX5_parts_79 : decode cX5_parts 79 = .ok (.return_, 1) := dk_177 (dk_at dksX5_parts_3 8 rfl rfl)
abbrev cX5_isSign : ByteArray := prog_35_method_51_code
def yX5_isSign : MethodName := ⟨RX5, "isSign", "(I)Z"⟩
def dkwX5_isSign_1 : List UInt8 := [167, 0, 4, 3, 172]
abbrev dktX5_isSign_1 : List UInt8 := dkwX5_isSign_1 ++ []
def dkwX5_isSign_0 : List UInt8 := [42, 180, 1, 101, 154, 0, 23, 42, 180, 1, 108, 6, 160, 0, 15, 42, 180, 1, 122, 27, 160, 0, 7, 4]
abbrev dktX5_isSign_0 : List UInt8 := dkwX5_isSign_0 ++ dktX5_isSign_1
theorem dksX5_isSign_0 : cX5_isSign.data.toList.drop 0 = dktX5_isSign_0 := by decide +kernel
theorem dksX5_isSign_1 : cX5_isSign.data.toList.drop 24 = dktX5_isSign_1 := dk_seg dksX5_isSign_0 24 rfl rfl
theorem dX5_isSign_0 : decode cX5_isSign 0 = .ok (.aload_n 0, 1) := dk_42 (dk_at dksX5_isSign_0 0 rfl rfl)
theorem dX5_isSign_1 : decode cX5_isSign 1 = .ok (.getfield 357, 3) := dk_180 1 101 (dk_at dksX5_isSign_0 1 rfl rfl)
theorem dX5_isSign_4 : decode cX5_isSign 4 = .ok (.ifCond .ne 23, 3) := dk_154 0 23 (dk_at dksX5_isSign_0 4 rfl rfl)
theorem dX5_isSign_7 : decode cX5_isSign 7 = .ok (.aload_n 0, 1) := dk_42 (dk_at dksX5_isSign_0 7 rfl rfl)
theorem dX5_isSign_8 : decode cX5_isSign 8 = .ok (.getfield 364, 3) := dk_180 1 108 (dk_at dksX5_isSign_0 8 rfl rfl)
theorem dX5_isSign_11 : decode cX5_isSign 11 = .ok (.iconst 3, 1) := dk_6 (dk_at dksX5_isSign_0 11 rfl rfl)
theorem dX5_isSign_12 : decode cX5_isSign 12 = .ok (.if_icmp .ne 15, 3) := dk_160 0 15 (dk_at dksX5_isSign_0 12 rfl rfl)
theorem dX5_isSign_15 : decode cX5_isSign 15 = .ok (.aload_n 0, 1) := dk_42 (dk_at dksX5_isSign_0 15 rfl rfl)
theorem dX5_isSign_16 : decode cX5_isSign 16 = .ok (.getfield 378, 3) := dk_180 1 122 (dk_at dksX5_isSign_0 16 rfl rfl)
theorem dX5_isSign_19 : decode cX5_isSign 19 = .ok (.iload_n 1, 1) := dk_27 (dk_at dksX5_isSign_0 19 rfl rfl)
theorem dX5_isSign_20 : decode cX5_isSign 20 = .ok (.if_icmp .ne 7, 3) := dk_160 0 7 (dk_at dksX5_isSign_0 20 rfl rfl)
theorem dX5_isSign_23 : decode cX5_isSign 23 = .ok (.iconst 1, 1) := dk_4 (dk_at dksX5_isSign_0 23 rfl rfl)
theorem dX5_isSign_24 : decode cX5_isSign 24 = .ok (.goto 4, 3) := dk_167 0 4 (dk_at dksX5_isSign_1 0 rfl rfl)
theorem dX5_isSign_27 : decode cX5_isSign 27 = .ok (.iconst 0, 1) := dk_3 (dk_at dksX5_isSign_1 3 rfl rfl)
theorem dX5_isSign_28 : decode cX5_isSign 28 = .ok (.ireturn, 1) := dk_172 (dk_at dksX5_isSign_1 4 rfl rfl)
abbrev cX5_opens : ByteArray := prog_35_method_57_code
def yX5_opens : MethodName := ⟨RX5, "opens", "()Z"⟩
def dkwX5_opens_1 : List UInt8 := [180, 1, 182, 4, 96, 181, 1, 182, 42, 182, 1, 165, 4, 172]
abbrev dktX5_opens_1 : List UInt8 := dkwX5_opens_1 ++ []
def dkwX5_opens_0 : List UInt8 := [42, 180, 1, 182, 7, 160, 0, 8, 42, 4, 181, 1, 101, 42, 180, 1, 101, 153, 0, 5, 3, 172, 42, 89]
abbrev dktX5_opens_0 : List UInt8 := dkwX5_opens_0 ++ dktX5_opens_1
theorem dksX5_opens_0 : cX5_opens.data.toList.drop 0 = dktX5_opens_0 := by decide +kernel
theorem dksX5_opens_1 : cX5_opens.data.toList.drop 24 = dktX5_opens_1 := dk_seg dksX5_opens_0 24 rfl rfl
theorem dX5_opens_0 : decode cX5_opens 0 = .ok (.aload_n 0, 1) := dk_42 (dk_at dksX5_opens_0 0 rfl rfl)
theorem dX5_opens_1 : decode cX5_opens 1 = .ok (.getfield 438, 3) := dk_180 1 182 (dk_at dksX5_opens_0 1 rfl rfl)
theorem dX5_opens_4 : decode cX5_opens 4 = .ok (.iconst 4, 1) := dk_7 (dk_at dksX5_opens_0 4 rfl rfl)
theorem dX5_opens_5 : decode cX5_opens 5 = .ok (.if_icmp .ne 8, 3) := dk_160 0 8 (dk_at dksX5_opens_0 5 rfl rfl)
theorem dX5_opens_8 : decode cX5_opens 8 = .ok (.aload_n 0, 1) := dk_42 (dk_at dksX5_opens_0 8 rfl rfl)
theorem dX5_opens_9 : decode cX5_opens 9 = .ok (.iconst 1, 1) := dk_4 (dk_at dksX5_opens_0 9 rfl rfl)
theorem dX5_opens_10 : decode cX5_opens 10 = .ok (.putfield 357, 3) := dk_181 1 101 (dk_at dksX5_opens_0 10 rfl rfl)
theorem dX5_opens_13 : decode cX5_opens 13 = .ok (.aload_n 0, 1) := dk_42 (dk_at dksX5_opens_0 13 rfl rfl)
theorem dX5_opens_14 : decode cX5_opens 14 = .ok (.getfield 357, 3) := dk_180 1 101 (dk_at dksX5_opens_0 14 rfl rfl)
theorem dX5_opens_17 : decode cX5_opens 17 = .ok (.ifCond .eq 5, 3) := dk_153 0 5 (dk_at dksX5_opens_0 17 rfl rfl)
theorem dX5_opens_20 : decode cX5_opens 20 = .ok (.iconst 0, 1) := dk_3 (dk_at dksX5_opens_0 20 rfl rfl)
theorem dX5_opens_21 : decode cX5_opens 21 = .ok (.ireturn, 1) := dk_172 (dk_at dksX5_opens_0 21 rfl rfl)
theorem dX5_opens_22 : decode cX5_opens 22 = .ok (.aload_n 0, 1) := dk_42 (dk_at dksX5_opens_0 22 rfl rfl)
theorem dX5_opens_23 : decode cX5_opens 23 = .ok (.dup, 1) := dk_89 (dk_at dksX5_opens_0 23 rfl rfl)
theorem dX5_opens_24 : decode cX5_opens 24 = .ok (.getfield 438, 3) := dk_180 1 182 (dk_at dksX5_opens_1 0 rfl rfl)
theorem dX5_opens_27 : decode cX5_opens 27 = .ok (.iconst 1, 1) := dk_4 (dk_at dksX5_opens_1 3 rfl rfl)
theorem dX5_opens_28 : decode cX5_opens 28 = .ok (.iadd, 1) := dk_96 (dk_at dksX5_opens_1 4 rfl rfl)
theorem dX5_opens_29 : decode cX5_opens 29 = .ok (.putfield 438, 3) := dk_181 1 182 (dk_at dksX5_opens_1 5 rfl rfl)
theorem dX5_opens_32 : decode cX5_opens 32 = .ok (.aload_n 0, 1) := dk_42 (dk_at dksX5_opens_1 8 rfl rfl)
theorem dX5_opens_33 : decode cX5_opens 33 = .ok (.invokevirtual 421, 3) := dk_182 1 165 (dk_at dksX5_opens_1 9 rfl rfl)
theorem dX5_opens_36 : decode cX5_opens 36 = .ok (.iconst 1, 1) := dk_4 (dk_at dksX5_opens_1 12 rfl rfl)
theorem dX5_opens_37 : decode cX5_opens 37 = .ok (.ireturn, 1) := dk_172 (dk_at dksX5_opens_1 13 rfl rfl)
abbrev cX5_need : ByteArray := prog_35_method_52_code
def yX5_need : MethodName := ⟨RX5, "need", "(I)V"⟩
def dkwX5_need_0 : List UInt8 := [42, 27, 182, 1, 162, 153, 0, 10, 42, 182, 1, 165, 167, 0, 8, 42, 4, 181, 1, 101, 177]
abbrev dktX5_need_0 : List UInt8 := dkwX5_need_0 ++ []
theorem dksX5_need_0 : cX5_need.data.toList.drop 0 = dktX5_need_0 := by decide +kernel
theorem dX5_need_0 : decode cX5_need 0 = .ok (.aload_n 0, 1) := dk_42 (dk_at dksX5_need_0 0 rfl rfl)
theorem dX5_need_1 : decode cX5_need 1 = .ok (.iload_n 1, 1) := dk_27 (dk_at dksX5_need_0 1 rfl rfl)
theorem dX5_need_2 : decode cX5_need 2 = .ok (.invokevirtual 418, 3) := dk_182 1 162 (dk_at dksX5_need_0 2 rfl rfl)
theorem dX5_need_5 : decode cX5_need 5 = .ok (.ifCond .eq 10, 3) := dk_153 0 10 (dk_at dksX5_need_0 5 rfl rfl)
theorem dX5_need_8 : decode cX5_need 8 = .ok (.aload_n 0, 1) := dk_42 (dk_at dksX5_need_0 8 rfl rfl)
theorem dX5_need_9 : decode cX5_need 9 = .ok (.invokevirtual 421, 3) := dk_182 1 165 (dk_at dksX5_need_0 9 rfl rfl)
theorem dX5_need_12 : decode cX5_need 12 = .ok (.goto 8, 3) := dk_167 0 8 (dk_at dksX5_need_0 12 rfl rfl)
theorem dX5_need_15 : decode cX5_need 15 = .ok (.aload_n 0, 1) := dk_42 (dk_at dksX5_need_0 15 rfl rfl)
theorem dX5_need_16 : decode cX5_need 16 = .ok (.iconst 1, 1) := dk_4 (dk_at dksX5_need_0 16 rfl rfl)
theorem dX5_need_17 : decode cX5_need 17 = .ok (.putfield 357, 3) := dk_181 1 101 (dk_at dksX5_need_0 17 rfl rfl)
theorem dX5_need_20 : decode cX5_need 20 = .ok (.return_, 1) := dk_177 (dk_at dksX5_need_0 20 rfl rfl)
abbrev cX5_isVaried : ByteArray := prog_35_method_62_code
def yX5_isVaried : MethodName := ⟨RX5, "isVaried", "(I)Z"⟩
def dkwX5_isVaried_1 : List UInt8 := [4, 126, 4, 160, 0, 5, 4, 172, 132, 2, 1, 167, 255, 223, 3, 172]
abbrev dktX5_isVaried_1 : List UInt8 := dkwX5_isVaried_1 ++ []
def dkwX5_isVaried_0 : List UInt8 := [3, 61, 28, 16, 6, 162, 0, 33, 42, 180, 0, 34, 28, 51, 153, 0, 18, 42, 28, 182, 0, 211, 27, 122]
abbrev dktX5_isVaried_0 : List UInt8 := dkwX5_isVaried_0 ++ dktX5_isVaried_1
theorem dksX5_isVaried_0 : cX5_isVaried.data.toList.drop 0 = dktX5_isVaried_0 := by decide +kernel
theorem dksX5_isVaried_1 : cX5_isVaried.data.toList.drop 24 = dktX5_isVaried_1 := dk_seg dksX5_isVaried_0 24 rfl rfl
theorem dX5_isVaried_0 : decode cX5_isVaried 0 = .ok (.iconst 0, 1) := dk_3 (dk_at dksX5_isVaried_0 0 rfl rfl)
theorem dX5_isVaried_1 : decode cX5_isVaried 1 = .ok (.istore_n 2, 1) := dk_61 (dk_at dksX5_isVaried_0 1 rfl rfl)
theorem dX5_isVaried_2 : decode cX5_isVaried 2 = .ok (.iload_n 2, 1) := dk_28 (dk_at dksX5_isVaried_0 2 rfl rfl)
theorem dX5_isVaried_3 : decode cX5_isVaried 3 = .ok (.bipush 6, 2) := dk_16 6 (dk_at dksX5_isVaried_0 3 rfl rfl)
theorem dX5_isVaried_5 : decode cX5_isVaried 5 = .ok (.if_icmp .ge 33, 3) := dk_162 0 33 (dk_at dksX5_isVaried_0 5 rfl rfl)
theorem dX5_isVaried_8 : decode cX5_isVaried 8 = .ok (.aload_n 0, 1) := dk_42 (dk_at dksX5_isVaried_0 8 rfl rfl)
theorem dX5_isVaried_9 : decode cX5_isVaried 9 = .ok (.getfield 34, 3) := dk_180 0 34 (dk_at dksX5_isVaried_0 9 rfl rfl)
theorem dX5_isVaried_12 : decode cX5_isVaried 12 = .ok (.iload_n 2, 1) := dk_28 (dk_at dksX5_isVaried_0 12 rfl rfl)
theorem dX5_isVaried_13 : decode cX5_isVaried 13 = .ok (.baload, 1) := dk_51 (dk_at dksX5_isVaried_0 13 rfl rfl)
theorem dX5_isVaried_14 : decode cX5_isVaried 14 = .ok (.ifCond .eq 18, 3) := dk_153 0 18 (dk_at dksX5_isVaried_0 14 rfl rfl)
theorem dX5_isVaried_17 : decode cX5_isVaried 17 = .ok (.aload_n 0, 1) := dk_42 (dk_at dksX5_isVaried_0 17 rfl rfl)
theorem dX5_isVaried_18 : decode cX5_isVaried 18 = .ok (.iload_n 2, 1) := dk_28 (dk_at dksX5_isVaried_0 18 rfl rfl)
theorem dX5_isVaried_19 : decode cX5_isVaried 19 = .ok (.invokevirtual 211, 3) := dk_182 0 211 (dk_at dksX5_isVaried_0 19 rfl rfl)
theorem dX5_isVaried_22 : decode cX5_isVaried 22 = .ok (.iload_n 1, 1) := dk_27 (dk_at dksX5_isVaried_0 22 rfl rfl)
theorem dX5_isVaried_23 : decode cX5_isVaried 23 = .ok (.ishr, 1) := dk_122 (dk_at dksX5_isVaried_0 23 rfl rfl)
theorem dX5_isVaried_24 : decode cX5_isVaried 24 = .ok (.iconst 1, 1) := dk_4 (dk_at dksX5_isVaried_1 0 rfl rfl)
theorem dX5_isVaried_25 : decode cX5_isVaried 25 = .ok (.iand, 1) := dk_126 (dk_at dksX5_isVaried_1 1 rfl rfl)
theorem dX5_isVaried_26 : decode cX5_isVaried 26 = .ok (.iconst 1, 1) := dk_4 (dk_at dksX5_isVaried_1 2 rfl rfl)
theorem dX5_isVaried_27 : decode cX5_isVaried 27 = .ok (.if_icmp .ne 5, 3) := dk_160 0 5 (dk_at dksX5_isVaried_1 3 rfl rfl)
theorem dX5_isVaried_30 : decode cX5_isVaried 30 = .ok (.iconst 1, 1) := dk_4 (dk_at dksX5_isVaried_1 6 rfl rfl)
theorem dX5_isVaried_31 : decode cX5_isVaried 31 = .ok (.ireturn, 1) := dk_172 (dk_at dksX5_isVaried_1 7 rfl rfl)
theorem dX5_isVaried_32 : decode cX5_isVaried 32 = .ok (.iinc 2 1, 3) := dk_132 2 1 (dk_at dksX5_isVaried_1 8 rfl rfl)
theorem dX5_isVaried_35 : decode cX5_isVaried 35 = .ok (.goto (-33), 3) := dk_167 255 223 (dk_at dksX5_isVaried_1 11 rfl rfl)
theorem dX5_isVaried_38 : decode cX5_isVaried 38 = .ok (.iconst 0, 1) := dk_3 (dk_at dksX5_isVaried_1 14 rfl rfl)
theorem dX5_isVaried_39 : decode cX5_isVaried 39 = .ok (.ireturn, 1) := dk_172 (dk_at dksX5_isVaried_1 15 rfl rfl)
abbrev cX5_newNames : ByteArray := prog_35_method_63_code
def yX5_newNames : MethodName := ⟨RX5, "newNames", "()I"⟩
def dkwX5_newNames_2 : List UInt8 := [16, 24, 42, 180, 0, 105, 28, 46, 16, 10, 112, 96, 120, 128, 60, 132, 2, 1, 167, 255, 194, 27, 172]
abbrev dktX5_newNames_2 : List UInt8 := dkwX5_newNames_2 ++ []
def dkwX5_newNames_1 : List UInt8 := [4, 42, 180, 0, 105, 28, 46, 120, 128, 60, 42, 180, 0, 105, 28, 46, 17, 1, 44, 161, 0, 20, 27, 4]
abbrev dktX5_newNames_1 : List UInt8 := dkwX5_newNames_1 ++ dktX5_newNames_2
def dkwX5_newNames_0 : List UInt8 := [3, 60, 3, 61, 28, 42, 180, 1, 168, 162, 0, 60, 42, 180, 0, 105, 28, 46, 16, 24, 162, 0, 14, 27]
abbrev dktX5_newNames_0 : List UInt8 := dkwX5_newNames_0 ++ dktX5_newNames_1
theorem dksX5_newNames_0 : cX5_newNames.data.toList.drop 0 = dktX5_newNames_0 := by decide +kernel
theorem dksX5_newNames_1 : cX5_newNames.data.toList.drop 24 = dktX5_newNames_1 := dk_seg dksX5_newNames_0 24 rfl rfl
theorem dksX5_newNames_2 : cX5_newNames.data.toList.drop 48 = dktX5_newNames_2 := dk_seg dksX5_newNames_1 24 rfl rfl
theorem dX5_newNames_0 : decode cX5_newNames 0 = .ok (.iconst 0, 1) := dk_3 (dk_at dksX5_newNames_0 0 rfl rfl)
theorem dX5_newNames_1 : decode cX5_newNames 1 = .ok (.istore_n 1, 1) := dk_60 (dk_at dksX5_newNames_0 1 rfl rfl)
theorem dX5_newNames_2 : decode cX5_newNames 2 = .ok (.iconst 0, 1) := dk_3 (dk_at dksX5_newNames_0 2 rfl rfl)
theorem dX5_newNames_3 : decode cX5_newNames 3 = .ok (.istore_n 2, 1) := dk_61 (dk_at dksX5_newNames_0 3 rfl rfl)
theorem dX5_newNames_4 : decode cX5_newNames 4 = .ok (.iload_n 2, 1) := dk_28 (dk_at dksX5_newNames_0 4 rfl rfl)
theorem dX5_newNames_5 : decode cX5_newNames 5 = .ok (.aload_n 0, 1) := dk_42 (dk_at dksX5_newNames_0 5 rfl rfl)
theorem dX5_newNames_6 : decode cX5_newNames 6 = .ok (.getfield 424, 3) := dk_180 1 168 (dk_at dksX5_newNames_0 6 rfl rfl)
theorem dX5_newNames_9 : decode cX5_newNames 9 = .ok (.if_icmp .ge 60, 3) := dk_162 0 60 (dk_at dksX5_newNames_0 9 rfl rfl)
theorem dX5_newNames_12 : decode cX5_newNames 12 = .ok (.aload_n 0, 1) := dk_42 (dk_at dksX5_newNames_0 12 rfl rfl)
theorem dX5_newNames_13 : decode cX5_newNames 13 = .ok (.getfield 105, 3) := dk_180 0 105 (dk_at dksX5_newNames_0 13 rfl rfl)
theorem dX5_newNames_16 : decode cX5_newNames 16 = .ok (.iload_n 2, 1) := dk_28 (dk_at dksX5_newNames_0 16 rfl rfl)
theorem dX5_newNames_17 : decode cX5_newNames 17 = .ok (.iaload, 1) := dk_46 (dk_at dksX5_newNames_0 17 rfl rfl)
theorem dX5_newNames_18 : decode cX5_newNames 18 = .ok (.bipush 24, 2) := dk_16 24 (dk_at dksX5_newNames_0 18 rfl rfl)
theorem dX5_newNames_20 : decode cX5_newNames 20 = .ok (.if_icmp .ge 14, 3) := dk_162 0 14 (dk_at dksX5_newNames_0 20 rfl rfl)
theorem dX5_newNames_23 : decode cX5_newNames 23 = .ok (.iload_n 1, 1) := dk_27 (dk_at dksX5_newNames_0 23 rfl rfl)
theorem dX5_newNames_24 : decode cX5_newNames 24 = .ok (.iconst 1, 1) := dk_4 (dk_at dksX5_newNames_1 0 rfl rfl)
theorem dX5_newNames_25 : decode cX5_newNames 25 = .ok (.aload_n 0, 1) := dk_42 (dk_at dksX5_newNames_1 1 rfl rfl)
theorem dX5_newNames_26 : decode cX5_newNames 26 = .ok (.getfield 105, 3) := dk_180 0 105 (dk_at dksX5_newNames_1 2 rfl rfl)
theorem dX5_newNames_29 : decode cX5_newNames 29 = .ok (.iload_n 2, 1) := dk_28 (dk_at dksX5_newNames_1 5 rfl rfl)
theorem dX5_newNames_30 : decode cX5_newNames 30 = .ok (.iaload, 1) := dk_46 (dk_at dksX5_newNames_1 6 rfl rfl)
theorem dX5_newNames_31 : decode cX5_newNames 31 = .ok (.ishl, 1) := dk_120 (dk_at dksX5_newNames_1 7 rfl rfl)
theorem dX5_newNames_32 : decode cX5_newNames 32 = .ok (.ior, 1) := dk_128 (dk_at dksX5_newNames_1 8 rfl rfl)
theorem dX5_newNames_33 : decode cX5_newNames 33 = .ok (.istore_n 1, 1) := dk_60 (dk_at dksX5_newNames_1 9 rfl rfl)
theorem dX5_newNames_34 : decode cX5_newNames 34 = .ok (.aload_n 0, 1) := dk_42 (dk_at dksX5_newNames_1 10 rfl rfl)
theorem dX5_newNames_35 : decode cX5_newNames 35 = .ok (.getfield 105, 3) := dk_180 0 105 (dk_at dksX5_newNames_1 11 rfl rfl)
theorem dX5_newNames_38 : decode cX5_newNames 38 = .ok (.iload_n 2, 1) := dk_28 (dk_at dksX5_newNames_1 14 rfl rfl)
theorem dX5_newNames_39 : decode cX5_newNames 39 = .ok (.iaload, 1) := dk_46 (dk_at dksX5_newNames_1 15 rfl rfl)
theorem dX5_newNames_40 : decode cX5_newNames 40 = .ok (.sipush 300, 3) := dk_17 1 44 (dk_at dksX5_newNames_1 16 rfl rfl)
theorem dX5_newNames_43 : decode cX5_newNames 43 = .ok (.if_icmp .lt 20, 3) := dk_161 0 20 (dk_at dksX5_newNames_1 19 rfl rfl)
theorem dX5_newNames_46 : decode cX5_newNames 46 = .ok (.iload_n 1, 1) := dk_27 (dk_at dksX5_newNames_1 22 rfl rfl)
theorem dX5_newNames_47 : decode cX5_newNames 47 = .ok (.iconst 1, 1) := dk_4 (dk_at dksX5_newNames_1 23 rfl rfl)
theorem dX5_newNames_48 : decode cX5_newNames 48 = .ok (.bipush 24, 2) := dk_16 24 (dk_at dksX5_newNames_2 0 rfl rfl)
theorem dX5_newNames_50 : decode cX5_newNames 50 = .ok (.aload_n 0, 1) := dk_42 (dk_at dksX5_newNames_2 2 rfl rfl)
theorem dX5_newNames_51 : decode cX5_newNames 51 = .ok (.getfield 105, 3) := dk_180 0 105 (dk_at dksX5_newNames_2 3 rfl rfl)
theorem dX5_newNames_54 : decode cX5_newNames 54 = .ok (.iload_n 2, 1) := dk_28 (dk_at dksX5_newNames_2 6 rfl rfl)
theorem dX5_newNames_55 : decode cX5_newNames 55 = .ok (.iaload, 1) := dk_46 (dk_at dksX5_newNames_2 7 rfl rfl)
theorem dX5_newNames_56 : decode cX5_newNames 56 = .ok (.bipush 10, 2) := dk_16 10 (dk_at dksX5_newNames_2 8 rfl rfl)
theorem dX5_newNames_58 : decode cX5_newNames 58 = .ok (.irem, 1) := dk_112 (dk_at dksX5_newNames_2 10 rfl rfl)
theorem dX5_newNames_59 : decode cX5_newNames 59 = .ok (.iadd, 1) := dk_96 (dk_at dksX5_newNames_2 11 rfl rfl)
theorem dX5_newNames_60 : decode cX5_newNames 60 = .ok (.ishl, 1) := dk_120 (dk_at dksX5_newNames_2 12 rfl rfl)
theorem dX5_newNames_61 : decode cX5_newNames 61 = .ok (.ior, 1) := dk_128 (dk_at dksX5_newNames_2 13 rfl rfl)
theorem dX5_newNames_62 : decode cX5_newNames 62 = .ok (.istore_n 1, 1) := dk_60 (dk_at dksX5_newNames_2 14 rfl rfl)
theorem dX5_newNames_63 : decode cX5_newNames 63 = .ok (.iinc 2 1, 3) := dk_132 2 1 (dk_at dksX5_newNames_2 15 rfl rfl)
theorem dX5_newNames_66 : decode cX5_newNames 66 = .ok (.goto (-62), 3) := dk_167 255 194 (dk_at dksX5_newNames_2 18 rfl rfl)
theorem dX5_newNames_69 : decode cX5_newNames 69 = .ok (.iload_n 1, 1) := dk_27 (dk_at dksX5_newNames_2 21 rfl rfl)
theorem dX5_newNames_70 : decode cX5_newNames 70 = .ok (.ireturn, 1) := dk_172 (dk_at dksX5_newNames_2 22 rfl rfl)
abbrev cX5_comeTo : ByteArray := prog_35_method_12_code
def yX5_comeTo : MethodName := ⟨RX5, "comeTo", "(I)I"⟩
def dkwX5_comeTo_5 : List UInt8 := [4, 42, 180, 0, 37, 21, 4, 46, 120, 128, 61, 132, 4, 1, 167, 255, 211, 167, 255, 124, 28, 172]
abbrev dktX5_comeTo_5 : List UInt8 := dkwX5_comeTo_5 ++ []
def dkwX5_comeTo_4 : List UInt8 := [29, 16, 24, 21, 4, 96, 122, 4, 126, 4, 160, 0, 25, 42, 180, 0, 34, 21, 4, 51, 153, 0, 15, 28]
abbrev dktX5_comeTo_4 : List UInt8 := dkwX5_comeTo_4 ++ dktX5_comeTo_5
def dkwX5_comeTo_3 : List UInt8 := [128, 61, 132, 5, 1, 167, 255, 225, 132, 4, 1, 167, 255, 188, 3, 54, 4, 21, 4, 16, 6, 162, 0, 44]
abbrev dktX5_comeTo_3 : List UInt8 := dkwX5_comeTo_3 ++ dktX5_comeTo_4
def dkwX5_comeTo_2 : List UInt8 := [16, 6, 162, 0, 30, 42, 21, 4, 21, 5, 182, 0, 200, 158, 0, 13, 28, 4, 16, 24, 21, 5, 96, 120]
abbrev dktX5_comeTo_2 : List UInt8 := dkwX5_comeTo_2 ++ dktX5_comeTo_3
def dkwX5_comeTo_1 : List UInt8 := [122, 4, 126, 154, 0, 6, 167, 0, 49, 28, 42, 21, 4, 182, 0, 196, 128, 61, 3, 54, 5, 21, 5]
abbrev dktX5_comeTo_1 : List UInt8 := dkwX5_comeTo_1 ++ dktX5_comeTo_2
def dkwX5_comeTo_0 : List UInt8 := [27, 61, 3, 62, 28, 29, 159, 0, 133, 28, 62, 3, 54, 4, 21, 4, 16, 24, 162, 0, 67, 29, 21, 4]
abbrev dktX5_comeTo_0 : List UInt8 := dkwX5_comeTo_0 ++ dktX5_comeTo_1
theorem dksX5_comeTo_0 : cX5_comeTo.data.toList.drop 0 = dktX5_comeTo_0 := by decide +kernel
theorem dksX5_comeTo_1 : cX5_comeTo.data.toList.drop 24 = dktX5_comeTo_1 := dk_seg dksX5_comeTo_0 24 rfl rfl
theorem dksX5_comeTo_2 : cX5_comeTo.data.toList.drop 47 = dktX5_comeTo_2 := dk_seg dksX5_comeTo_1 23 rfl rfl
theorem dksX5_comeTo_3 : cX5_comeTo.data.toList.drop 71 = dktX5_comeTo_3 := dk_seg dksX5_comeTo_2 24 rfl rfl
theorem dksX5_comeTo_4 : cX5_comeTo.data.toList.drop 95 = dktX5_comeTo_4 := dk_seg dksX5_comeTo_3 24 rfl rfl
theorem dksX5_comeTo_5 : cX5_comeTo.data.toList.drop 119 = dktX5_comeTo_5 := dk_seg dksX5_comeTo_4 24 rfl rfl
theorem dX5_comeTo_0 : decode cX5_comeTo 0 = .ok (.iload_n 1, 1) := dk_27 (dk_at dksX5_comeTo_0 0 rfl rfl)
theorem dX5_comeTo_1 : decode cX5_comeTo 1 = .ok (.istore_n 2, 1) := dk_61 (dk_at dksX5_comeTo_0 1 rfl rfl)
theorem dX5_comeTo_2 : decode cX5_comeTo 2 = .ok (.iconst 0, 1) := dk_3 (dk_at dksX5_comeTo_0 2 rfl rfl)
theorem dX5_comeTo_3 : decode cX5_comeTo 3 = .ok (.istore_n 3, 1) := dk_62 (dk_at dksX5_comeTo_0 3 rfl rfl)
theorem dX5_comeTo_4 : decode cX5_comeTo 4 = .ok (.iload_n 2, 1) := dk_28 (dk_at dksX5_comeTo_0 4 rfl rfl)
theorem dX5_comeTo_5 : decode cX5_comeTo 5 = .ok (.iload_n 3, 1) := dk_29 (dk_at dksX5_comeTo_0 5 rfl rfl)
theorem dX5_comeTo_6 : decode cX5_comeTo 6 = .ok (.if_icmp .eq 133, 3) := dk_159 0 133 (dk_at dksX5_comeTo_0 6 rfl rfl)
theorem dX5_comeTo_9 : decode cX5_comeTo 9 = .ok (.iload_n 2, 1) := dk_28 (dk_at dksX5_comeTo_0 9 rfl rfl)
theorem dX5_comeTo_10 : decode cX5_comeTo 10 = .ok (.istore_n 3, 1) := dk_62 (dk_at dksX5_comeTo_0 10 rfl rfl)
theorem dX5_comeTo_11 : decode cX5_comeTo 11 = .ok (.iconst 0, 1) := dk_3 (dk_at dksX5_comeTo_0 11 rfl rfl)
theorem dX5_comeTo_12 : decode cX5_comeTo 12 = .ok (.istore 4, 2) := dk_54 4 (dk_at dksX5_comeTo_0 12 rfl rfl)
theorem dX5_comeTo_14 : decode cX5_comeTo 14 = .ok (.iload 4, 2) := dk_21 4 (dk_at dksX5_comeTo_0 14 rfl rfl)
theorem dX5_comeTo_16 : decode cX5_comeTo 16 = .ok (.bipush 24, 2) := dk_16 24 (dk_at dksX5_comeTo_0 16 rfl rfl)
theorem dX5_comeTo_18 : decode cX5_comeTo 18 = .ok (.if_icmp .ge 67, 3) := dk_162 0 67 (dk_at dksX5_comeTo_0 18 rfl rfl)
theorem dX5_comeTo_21 : decode cX5_comeTo 21 = .ok (.iload_n 3, 1) := dk_29 (dk_at dksX5_comeTo_0 21 rfl rfl)
theorem dX5_comeTo_22 : decode cX5_comeTo 22 = .ok (.iload 4, 2) := dk_21 4 (dk_at dksX5_comeTo_0 22 rfl rfl)
theorem dX5_comeTo_24 : decode cX5_comeTo 24 = .ok (.ishr, 1) := dk_122 (dk_at dksX5_comeTo_1 0 rfl rfl)
theorem dX5_comeTo_25 : decode cX5_comeTo 25 = .ok (.iconst 1, 1) := dk_4 (dk_at dksX5_comeTo_1 1 rfl rfl)
theorem dX5_comeTo_26 : decode cX5_comeTo 26 = .ok (.iand, 1) := dk_126 (dk_at dksX5_comeTo_1 2 rfl rfl)
theorem dX5_comeTo_27 : decode cX5_comeTo 27 = .ok (.ifCond .ne 6, 3) := dk_154 0 6 (dk_at dksX5_comeTo_1 3 rfl rfl)
theorem dX5_comeTo_30 : decode cX5_comeTo 30 = .ok (.goto 49, 3) := dk_167 0 49 (dk_at dksX5_comeTo_1 6 rfl rfl)
theorem dX5_comeTo_33 : decode cX5_comeTo 33 = .ok (.iload_n 2, 1) := dk_28 (dk_at dksX5_comeTo_1 9 rfl rfl)
theorem dX5_comeTo_34 : decode cX5_comeTo 34 = .ok (.aload_n 0, 1) := dk_42 (dk_at dksX5_comeTo_1 10 rfl rfl)
theorem dX5_comeTo_35 : decode cX5_comeTo 35 = .ok (.iload 4, 2) := dk_21 4 (dk_at dksX5_comeTo_1 11 rfl rfl)
theorem dX5_comeTo_37 : decode cX5_comeTo 37 = .ok (.invokevirtual 196, 3) := dk_182 0 196 (dk_at dksX5_comeTo_1 13 rfl rfl)
theorem dX5_comeTo_40 : decode cX5_comeTo 40 = .ok (.ior, 1) := dk_128 (dk_at dksX5_comeTo_1 16 rfl rfl)
theorem dX5_comeTo_41 : decode cX5_comeTo 41 = .ok (.istore_n 2, 1) := dk_61 (dk_at dksX5_comeTo_1 17 rfl rfl)
theorem dX5_comeTo_42 : decode cX5_comeTo 42 = .ok (.iconst 0, 1) := dk_3 (dk_at dksX5_comeTo_1 18 rfl rfl)
theorem dX5_comeTo_43 : decode cX5_comeTo 43 = .ok (.istore 5, 2) := dk_54 5 (dk_at dksX5_comeTo_1 19 rfl rfl)
theorem dX5_comeTo_45 : decode cX5_comeTo 45 = .ok (.iload 5, 2) := dk_21 5 (dk_at dksX5_comeTo_1 21 rfl rfl)
theorem dX5_comeTo_47 : decode cX5_comeTo 47 = .ok (.bipush 6, 2) := dk_16 6 (dk_at dksX5_comeTo_2 0 rfl rfl)
theorem dX5_comeTo_49 : decode cX5_comeTo 49 = .ok (.if_icmp .ge 30, 3) := dk_162 0 30 (dk_at dksX5_comeTo_2 2 rfl rfl)
theorem dX5_comeTo_52 : decode cX5_comeTo 52 = .ok (.aload_n 0, 1) := dk_42 (dk_at dksX5_comeTo_2 5 rfl rfl)
theorem dX5_comeTo_53 : decode cX5_comeTo 53 = .ok (.iload 4, 2) := dk_21 4 (dk_at dksX5_comeTo_2 6 rfl rfl)
theorem dX5_comeTo_55 : decode cX5_comeTo 55 = .ok (.iload 5, 2) := dk_21 5 (dk_at dksX5_comeTo_2 8 rfl rfl)
theorem dX5_comeTo_57 : decode cX5_comeTo 57 = .ok (.invokevirtual 200, 3) := dk_182 0 200 (dk_at dksX5_comeTo_2 10 rfl rfl)
theorem dX5_comeTo_60 : decode cX5_comeTo 60 = .ok (.ifCond .le 13, 3) := dk_158 0 13 (dk_at dksX5_comeTo_2 13 rfl rfl)
theorem dX5_comeTo_63 : decode cX5_comeTo 63 = .ok (.iload_n 2, 1) := dk_28 (dk_at dksX5_comeTo_2 16 rfl rfl)
theorem dX5_comeTo_64 : decode cX5_comeTo 64 = .ok (.iconst 1, 1) := dk_4 (dk_at dksX5_comeTo_2 17 rfl rfl)
theorem dX5_comeTo_65 : decode cX5_comeTo 65 = .ok (.bipush 24, 2) := dk_16 24 (dk_at dksX5_comeTo_2 18 rfl rfl)
theorem dX5_comeTo_67 : decode cX5_comeTo 67 = .ok (.iload 5, 2) := dk_21 5 (dk_at dksX5_comeTo_2 20 rfl rfl)
theorem dX5_comeTo_69 : decode cX5_comeTo 69 = .ok (.iadd, 1) := dk_96 (dk_at dksX5_comeTo_2 22 rfl rfl)
theorem dX5_comeTo_70 : decode cX5_comeTo 70 = .ok (.ishl, 1) := dk_120 (dk_at dksX5_comeTo_2 23 rfl rfl)
theorem dX5_comeTo_71 : decode cX5_comeTo 71 = .ok (.ior, 1) := dk_128 (dk_at dksX5_comeTo_3 0 rfl rfl)
theorem dX5_comeTo_72 : decode cX5_comeTo 72 = .ok (.istore_n 2, 1) := dk_61 (dk_at dksX5_comeTo_3 1 rfl rfl)
theorem dX5_comeTo_73 : decode cX5_comeTo 73 = .ok (.iinc 5 1, 3) := dk_132 5 1 (dk_at dksX5_comeTo_3 2 rfl rfl)
theorem dX5_comeTo_76 : decode cX5_comeTo 76 = .ok (.goto (-31), 3) := dk_167 255 225 (dk_at dksX5_comeTo_3 5 rfl rfl)
theorem dX5_comeTo_79 : decode cX5_comeTo 79 = .ok (.iinc 4 1, 3) := dk_132 4 1 (dk_at dksX5_comeTo_3 8 rfl rfl)
theorem dX5_comeTo_82 : decode cX5_comeTo 82 = .ok (.goto (-68), 3) := dk_167 255 188 (dk_at dksX5_comeTo_3 11 rfl rfl)
theorem dX5_comeTo_85 : decode cX5_comeTo 85 = .ok (.iconst 0, 1) := dk_3 (dk_at dksX5_comeTo_3 14 rfl rfl)
theorem dX5_comeTo_86 : decode cX5_comeTo 86 = .ok (.istore 4, 2) := dk_54 4 (dk_at dksX5_comeTo_3 15 rfl rfl)
theorem dX5_comeTo_88 : decode cX5_comeTo 88 = .ok (.iload 4, 2) := dk_21 4 (dk_at dksX5_comeTo_3 17 rfl rfl)
theorem dX5_comeTo_90 : decode cX5_comeTo 90 = .ok (.bipush 6, 2) := dk_16 6 (dk_at dksX5_comeTo_3 19 rfl rfl)
theorem dX5_comeTo_92 : decode cX5_comeTo 92 = .ok (.if_icmp .ge 44, 3) := dk_162 0 44 (dk_at dksX5_comeTo_3 21 rfl rfl)
theorem dX5_comeTo_95 : decode cX5_comeTo 95 = .ok (.iload_n 3, 1) := dk_29 (dk_at dksX5_comeTo_4 0 rfl rfl)
theorem dX5_comeTo_96 : decode cX5_comeTo 96 = .ok (.bipush 24, 2) := dk_16 24 (dk_at dksX5_comeTo_4 1 rfl rfl)
theorem dX5_comeTo_98 : decode cX5_comeTo 98 = .ok (.iload 4, 2) := dk_21 4 (dk_at dksX5_comeTo_4 3 rfl rfl)
theorem dX5_comeTo_100 : decode cX5_comeTo 100 = .ok (.iadd, 1) := dk_96 (dk_at dksX5_comeTo_4 5 rfl rfl)
theorem dX5_comeTo_101 : decode cX5_comeTo 101 = .ok (.ishr, 1) := dk_122 (dk_at dksX5_comeTo_4 6 rfl rfl)
theorem dX5_comeTo_102 : decode cX5_comeTo 102 = .ok (.iconst 1, 1) := dk_4 (dk_at dksX5_comeTo_4 7 rfl rfl)
theorem dX5_comeTo_103 : decode cX5_comeTo 103 = .ok (.iand, 1) := dk_126 (dk_at dksX5_comeTo_4 8 rfl rfl)
theorem dX5_comeTo_104 : decode cX5_comeTo 104 = .ok (.iconst 1, 1) := dk_4 (dk_at dksX5_comeTo_4 9 rfl rfl)
theorem dX5_comeTo_105 : decode cX5_comeTo 105 = .ok (.if_icmp .ne 25, 3) := dk_160 0 25 (dk_at dksX5_comeTo_4 10 rfl rfl)
theorem dX5_comeTo_108 : decode cX5_comeTo 108 = .ok (.aload_n 0, 1) := dk_42 (dk_at dksX5_comeTo_4 13 rfl rfl)
theorem dX5_comeTo_109 : decode cX5_comeTo 109 = .ok (.getfield 34, 3) := dk_180 0 34 (dk_at dksX5_comeTo_4 14 rfl rfl)
theorem dX5_comeTo_112 : decode cX5_comeTo 112 = .ok (.iload 4, 2) := dk_21 4 (dk_at dksX5_comeTo_4 17 rfl rfl)
theorem dX5_comeTo_114 : decode cX5_comeTo 114 = .ok (.baload, 1) := dk_51 (dk_at dksX5_comeTo_4 19 rfl rfl)
theorem dX5_comeTo_115 : decode cX5_comeTo 115 = .ok (.ifCond .eq 15, 3) := dk_153 0 15 (dk_at dksX5_comeTo_4 20 rfl rfl)
theorem dX5_comeTo_118 : decode cX5_comeTo 118 = .ok (.iload_n 2, 1) := dk_28 (dk_at dksX5_comeTo_4 23 rfl rfl)
theorem dX5_comeTo_119 : decode cX5_comeTo 119 = .ok (.iconst 1, 1) := dk_4 (dk_at dksX5_comeTo_5 0 rfl rfl)
theorem dX5_comeTo_120 : decode cX5_comeTo 120 = .ok (.aload_n 0, 1) := dk_42 (dk_at dksX5_comeTo_5 1 rfl rfl)
theorem dX5_comeTo_121 : decode cX5_comeTo 121 = .ok (.getfield 37, 3) := dk_180 0 37 (dk_at dksX5_comeTo_5 2 rfl rfl)
theorem dX5_comeTo_124 : decode cX5_comeTo 124 = .ok (.iload 4, 2) := dk_21 4 (dk_at dksX5_comeTo_5 5 rfl rfl)
theorem dX5_comeTo_126 : decode cX5_comeTo 126 = .ok (.iaload, 1) := dk_46 (dk_at dksX5_comeTo_5 7 rfl rfl)
theorem dX5_comeTo_127 : decode cX5_comeTo 127 = .ok (.ishl, 1) := dk_120 (dk_at dksX5_comeTo_5 8 rfl rfl)
theorem dX5_comeTo_128 : decode cX5_comeTo 128 = .ok (.ior, 1) := dk_128 (dk_at dksX5_comeTo_5 9 rfl rfl)
theorem dX5_comeTo_129 : decode cX5_comeTo 129 = .ok (.istore_n 2, 1) := dk_61 (dk_at dksX5_comeTo_5 10 rfl rfl)
theorem dX5_comeTo_130 : decode cX5_comeTo 130 = .ok (.iinc 4 1, 3) := dk_132 4 1 (dk_at dksX5_comeTo_5 11 rfl rfl)
theorem dX5_comeTo_133 : decode cX5_comeTo 133 = .ok (.goto (-45), 3) := dk_167 255 211 (dk_at dksX5_comeTo_5 14 rfl rfl)
theorem dX5_comeTo_136 : decode cX5_comeTo 136 = .ok (.goto (-132), 3) := dk_167 255 124 (dk_at dksX5_comeTo_5 17 rfl rfl)
theorem dX5_comeTo_139 : decode cX5_comeTo 139 = .ok (.iload_n 2, 1) := dk_28 (dk_at dksX5_comeTo_5 20 rfl rfl)
theorem dX5_comeTo_140 : decode cX5_comeTo 140 = .ok (.ireturn, 1) := dk_172 (dk_at dksX5_comeTo_5 21 rfl rfl)
abbrev cX5_isTooMuch : ByteArray := prog_35_method_20_code
def yX5_isTooMuch : MethodName := ⟨RX5, "isTooMuch", "()Z"⟩
def dkwX5_isTooMuch_3 : List UInt8 := [167, 0, 4, 3, 172]
abbrev dktX5_isTooMuch_3 : List UInt8 := dkwX5_isTooMuch_3 ++ []
def dkwX5_isTooMuch_2 : List UInt8 := [42, 28, 182, 0, 217, 184, 0, 240, 60, 132, 2, 1, 167, 255, 228, 27, 17, 7, 208, 164, 0, 7, 4]
abbrev dktX5_isTooMuch_2 : List UInt8 := dkwX5_isTooMuch_2 ++ dktX5_isTooMuch_3
def dkwX5_isTooMuch_1 : List UInt8 := [132, 2, 1, 167, 255, 237, 3, 61, 28, 16, 6, 162, 0, 28, 42, 180, 0, 34, 28, 51, 153, 0, 13, 27]
abbrev dktX5_isTooMuch_1 : List UInt8 := dkwX5_isTooMuch_1 ++ dktX5_isTooMuch_2
def dkwX5_isTooMuch_0 : List UInt8 := [42, 3, 182, 0, 237, 60, 3, 61, 28, 16, 24, 162, 0, 19, 27, 42, 28, 182, 0, 229, 184, 0, 240, 60]
abbrev dktX5_isTooMuch_0 : List UInt8 := dkwX5_isTooMuch_0 ++ dktX5_isTooMuch_1
theorem dksX5_isTooMuch_0 : cX5_isTooMuch.data.toList.drop 0 = dktX5_isTooMuch_0 := by decide +kernel
theorem dksX5_isTooMuch_1 : cX5_isTooMuch.data.toList.drop 24 = dktX5_isTooMuch_1 := dk_seg dksX5_isTooMuch_0 24 rfl rfl
theorem dksX5_isTooMuch_2 : cX5_isTooMuch.data.toList.drop 48 = dktX5_isTooMuch_2 := dk_seg dksX5_isTooMuch_1 24 rfl rfl
theorem dksX5_isTooMuch_3 : cX5_isTooMuch.data.toList.drop 71 = dktX5_isTooMuch_3 := dk_seg dksX5_isTooMuch_2 23 rfl rfl
theorem dX5_isTooMuch_0 : decode cX5_isTooMuch 0 = .ok (.aload_n 0, 1) := dk_42 (dk_at dksX5_isTooMuch_0 0 rfl rfl)
theorem dX5_isTooMuch_1 : decode cX5_isTooMuch 1 = .ok (.iconst 0, 1) := dk_3 (dk_at dksX5_isTooMuch_0 1 rfl rfl)
theorem dX5_isTooMuch_2 : decode cX5_isTooMuch 2 = .ok (.invokevirtual 237, 3) := dk_182 0 237 (dk_at dksX5_isTooMuch_0 2 rfl rfl)
theorem dX5_isTooMuch_5 : decode cX5_isTooMuch 5 = .ok (.istore_n 1, 1) := dk_60 (dk_at dksX5_isTooMuch_0 5 rfl rfl)
theorem dX5_isTooMuch_6 : decode cX5_isTooMuch 6 = .ok (.iconst 0, 1) := dk_3 (dk_at dksX5_isTooMuch_0 6 rfl rfl)
theorem dX5_isTooMuch_7 : decode cX5_isTooMuch 7 = .ok (.istore_n 2, 1) := dk_61 (dk_at dksX5_isTooMuch_0 7 rfl rfl)
theorem dX5_isTooMuch_8 : decode cX5_isTooMuch 8 = .ok (.iload_n 2, 1) := dk_28 (dk_at dksX5_isTooMuch_0 8 rfl rfl)
theorem dX5_isTooMuch_9 : decode cX5_isTooMuch 9 = .ok (.bipush 24, 2) := dk_16 24 (dk_at dksX5_isTooMuch_0 9 rfl rfl)
theorem dX5_isTooMuch_11 : decode cX5_isTooMuch 11 = .ok (.if_icmp .ge 19, 3) := dk_162 0 19 (dk_at dksX5_isTooMuch_0 11 rfl rfl)
theorem dX5_isTooMuch_14 : decode cX5_isTooMuch 14 = .ok (.iload_n 1, 1) := dk_27 (dk_at dksX5_isTooMuch_0 14 rfl rfl)
theorem dX5_isTooMuch_15 : decode cX5_isTooMuch 15 = .ok (.aload_n 0, 1) := dk_42 (dk_at dksX5_isTooMuch_0 15 rfl rfl)
theorem dX5_isTooMuch_16 : decode cX5_isTooMuch 16 = .ok (.iload_n 2, 1) := dk_28 (dk_at dksX5_isTooMuch_0 16 rfl rfl)
theorem dX5_isTooMuch_17 : decode cX5_isTooMuch 17 = .ok (.invokevirtual 229, 3) := dk_182 0 229 (dk_at dksX5_isTooMuch_0 17 rfl rfl)
theorem dX5_isTooMuch_20 : decode cX5_isTooMuch 20 = .ok (.invokestatic 240, 3) := dk_184 0 240 (dk_at dksX5_isTooMuch_0 20 rfl rfl)
theorem dX5_isTooMuch_23 : decode cX5_isTooMuch 23 = .ok (.istore_n 1, 1) := dk_60 (dk_at dksX5_isTooMuch_0 23 rfl rfl)
theorem dX5_isTooMuch_24 : decode cX5_isTooMuch 24 = .ok (.iinc 2 1, 3) := dk_132 2 1 (dk_at dksX5_isTooMuch_1 0 rfl rfl)
theorem dX5_isTooMuch_27 : decode cX5_isTooMuch 27 = .ok (.goto (-19), 3) := dk_167 255 237 (dk_at dksX5_isTooMuch_1 3 rfl rfl)
theorem dX5_isTooMuch_30 : decode cX5_isTooMuch 30 = .ok (.iconst 0, 1) := dk_3 (dk_at dksX5_isTooMuch_1 6 rfl rfl)
theorem dX5_isTooMuch_31 : decode cX5_isTooMuch 31 = .ok (.istore_n 2, 1) := dk_61 (dk_at dksX5_isTooMuch_1 7 rfl rfl)
theorem dX5_isTooMuch_32 : decode cX5_isTooMuch 32 = .ok (.iload_n 2, 1) := dk_28 (dk_at dksX5_isTooMuch_1 8 rfl rfl)
theorem dX5_isTooMuch_33 : decode cX5_isTooMuch 33 = .ok (.bipush 6, 2) := dk_16 6 (dk_at dksX5_isTooMuch_1 9 rfl rfl)
theorem dX5_isTooMuch_35 : decode cX5_isTooMuch 35 = .ok (.if_icmp .ge 28, 3) := dk_162 0 28 (dk_at dksX5_isTooMuch_1 11 rfl rfl)
theorem dX5_isTooMuch_38 : decode cX5_isTooMuch 38 = .ok (.aload_n 0, 1) := dk_42 (dk_at dksX5_isTooMuch_1 14 rfl rfl)
theorem dX5_isTooMuch_39 : decode cX5_isTooMuch 39 = .ok (.getfield 34, 3) := dk_180 0 34 (dk_at dksX5_isTooMuch_1 15 rfl rfl)
theorem dX5_isTooMuch_42 : decode cX5_isTooMuch 42 = .ok (.iload_n 2, 1) := dk_28 (dk_at dksX5_isTooMuch_1 18 rfl rfl)
theorem dX5_isTooMuch_43 : decode cX5_isTooMuch 43 = .ok (.baload, 1) := dk_51 (dk_at dksX5_isTooMuch_1 19 rfl rfl)
theorem dX5_isTooMuch_44 : decode cX5_isTooMuch 44 = .ok (.ifCond .eq 13, 3) := dk_153 0 13 (dk_at dksX5_isTooMuch_1 20 rfl rfl)
theorem dX5_isTooMuch_47 : decode cX5_isTooMuch 47 = .ok (.iload_n 1, 1) := dk_27 (dk_at dksX5_isTooMuch_1 23 rfl rfl)
theorem dX5_isTooMuch_48 : decode cX5_isTooMuch 48 = .ok (.aload_n 0, 1) := dk_42 (dk_at dksX5_isTooMuch_2 0 rfl rfl)
theorem dX5_isTooMuch_49 : decode cX5_isTooMuch 49 = .ok (.iload_n 2, 1) := dk_28 (dk_at dksX5_isTooMuch_2 1 rfl rfl)
theorem dX5_isTooMuch_50 : decode cX5_isTooMuch 50 = .ok (.invokevirtual 217, 3) := dk_182 0 217 (dk_at dksX5_isTooMuch_2 2 rfl rfl)
theorem dX5_isTooMuch_53 : decode cX5_isTooMuch 53 = .ok (.invokestatic 240, 3) := dk_184 0 240 (dk_at dksX5_isTooMuch_2 5 rfl rfl)
theorem dX5_isTooMuch_56 : decode cX5_isTooMuch 56 = .ok (.istore_n 1, 1) := dk_60 (dk_at dksX5_isTooMuch_2 8 rfl rfl)
theorem dX5_isTooMuch_57 : decode cX5_isTooMuch 57 = .ok (.iinc 2 1, 3) := dk_132 2 1 (dk_at dksX5_isTooMuch_2 9 rfl rfl)
theorem dX5_isTooMuch_60 : decode cX5_isTooMuch 60 = .ok (.goto (-28), 3) := dk_167 255 228 (dk_at dksX5_isTooMuch_2 12 rfl rfl)
theorem dX5_isTooMuch_63 : decode cX5_isTooMuch 63 = .ok (.iload_n 1, 1) := dk_27 (dk_at dksX5_isTooMuch_2 15 rfl rfl)
theorem dX5_isTooMuch_64 : decode cX5_isTooMuch 64 = .ok (.sipush 2000, 3) := dk_17 7 208 (dk_at dksX5_isTooMuch_2 16 rfl rfl)
theorem dX5_isTooMuch_67 : decode cX5_isTooMuch 67 = .ok (.if_icmp .le 7, 3) := dk_164 0 7 (dk_at dksX5_isTooMuch_2 19 rfl rfl)
theorem dX5_isTooMuch_70 : decode cX5_isTooMuch 70 = .ok (.iconst 1, 1) := dk_4 (dk_at dksX5_isTooMuch_2 22 rfl rfl)
theorem dX5_isTooMuch_71 : decode cX5_isTooMuch 71 = .ok (.goto 4, 3) := dk_167 0 4 (dk_at dksX5_isTooMuch_3 0 rfl rfl)
theorem dX5_isTooMuch_74 : decode cX5_isTooMuch 74 = .ok (.iconst 0, 1) := dk_3 (dk_at dksX5_isTooMuch_3 3 rfl rfl)
theorem dX5_isTooMuch_75 : decode cX5_isTooMuch 75 = .ok (.ireturn, 1) := dk_172 (dk_at dksX5_isTooMuch_3 4 rfl rfl)
abbrev cX5_table : ByteArray := prog_35_method_65_code
def yX5_table : MethodName := ⟨RX5, "table", "(IIII)I"⟩
def dkwX5_table_13 : List UInt8 := [5, 27, 104, 4, 96, 50, 3, 14, 82, 4, 172]
abbrev dktX5_table_13 : List UInt8 := dkwX5_table_13 ++ []
def dkwX5_table_12 : List UInt8 := [104, 4, 96, 21, 11, 79, 16, 252, 172, 42, 180, 0, 49, 5, 27, 104, 50, 3, 14, 82, 42, 180, 0, 49]
abbrev dktX5_table_12 : List UInt8 := dkwX5_table_12 ++ dktX5_table_13
def dkwX5_table_11 : List UInt8 := [42, 180, 0, 43, 27, 21, 9, 79, 42, 180, 0, 46, 5, 27, 104, 21, 10, 79, 42, 180, 0, 46, 5, 27]
abbrev dktX5_table_11 : List UInt8 := dkwX5_table_11 ++ dktX5_table_12
def dkwX5_table_10 : List UInt8 := [42, 180, 0, 34, 27, 21, 5, 84, 42, 180, 0, 37, 27, 21, 7, 79, 42, 180, 0, 40, 27, 21, 8, 79]
abbrev dktX5_table_10 : List UInt8 := dkwX5_table_10 ++ dktX5_table_11
def dkwX5_table_9 : List UInt8 := [5, 27, 104, 4, 96, 21, 4, 2, 160, 0, 7, 3, 167, 0, 4, 4, 79, 42, 182, 1, 221, 153, 0, 60]
abbrev dktX5_table_9 : List UInt8 := dkwX5_table_9 ++ dktX5_table_10
def dkwX5_table_8 : List UInt8 := [27, 29, 79, 42, 180, 0, 43, 27, 21, 4, 79, 42, 180, 0, 46, 5, 27, 104, 4, 79, 42, 180, 0, 46]
abbrev dktX5_table_8 : List UInt8 := dkwX5_table_8 ++ dktX5_table_9
def dkwX5_table_7 : List UInt8 := [104, 4, 96, 46, 54, 11, 42, 180, 0, 34, 27, 4, 84, 42, 180, 0, 37, 27, 28, 79, 42, 180, 0, 40]
abbrev dktX5_table_7 : List UInt8 := dkwX5_table_7 ++ dktX5_table_8
def dkwX5_table_6 : List UInt8 := [42, 180, 0, 43, 27, 46, 54, 9, 42, 180, 0, 46, 5, 27, 104, 46, 54, 10, 42, 180, 0, 46, 5, 27]
abbrev dktX5_table_6 : List UInt8 := dkwX5_table_6 ++ dktX5_table_7
def dkwX5_table_5 : List UInt8 := [21, 6, 153, 0, 6, 16, 251, 172, 42, 180, 0, 37, 27, 46, 54, 7, 42, 180, 0, 40, 27, 46, 54, 8]
abbrev dktX5_table_5 : List UInt8 := dkwX5_table_5 ++ dktX5_table_6
def dkwX5_table_4 : List UInt8 := [27, 96, 122, 4, 126, 4, 160, 0, 7, 4, 167, 0, 4, 3, 54, 6, 42, 180, 0, 34, 27, 21, 5, 84]
abbrev dktX5_table_4 : List UInt8 := dkwX5_table_4 ++ dktX5_table_5
def dkwX5_table_3 : List UInt8 := [42, 180, 0, 34, 27, 51, 54, 5, 42, 180, 0, 34, 27, 3, 84, 42, 4, 28, 120, 182, 1, 212, 16, 24]
abbrev dktX5_table_3 : List UInt8 := dkwX5_table_3 ++ dktX5_table_4
def dkwX5_table_2 : List UInt8 := [182, 0, 204, 153, 0, 18, 21, 4, 2, 159, 0, 15, 42, 21, 4, 182, 0, 204, 154, 0, 6, 16, 253, 172]
abbrev dktX5_table_2 : List UInt8 := dkwX5_table_2 ++ dktX5_table_3
def dkwX5_table_1 : List UInt8 := [159, 0, 11, 21, 4, 184, 1, 56, 153, 0, 9, 29, 21, 4, 160, 0, 6, 16, 254, 172, 42, 29]
abbrev dktX5_table_1 : List UInt8 := dkwX5_table_1 ++ dktX5_table_2
def dkwX5_table_0 : List UInt8 := [27, 184, 1, 224, 153, 0, 37, 28, 184, 1, 56, 153, 0, 30, 29, 184, 1, 56, 153, 0, 23, 21, 4, 2]
abbrev dktX5_table_0 : List UInt8 := dkwX5_table_0 ++ dktX5_table_1
theorem dksX5_table_0 : cX5_table.data.toList.drop 0 = dktX5_table_0 := by decide +kernel
theorem dksX5_table_1 : cX5_table.data.toList.drop 24 = dktX5_table_1 := dk_seg dksX5_table_0 24 rfl rfl
theorem dksX5_table_2 : cX5_table.data.toList.drop 46 = dktX5_table_2 := dk_seg dksX5_table_1 22 rfl rfl
theorem dksX5_table_3 : cX5_table.data.toList.drop 70 = dktX5_table_3 := dk_seg dksX5_table_2 24 rfl rfl
theorem dksX5_table_4 : cX5_table.data.toList.drop 94 = dktX5_table_4 := dk_seg dksX5_table_3 24 rfl rfl
theorem dksX5_table_5 : cX5_table.data.toList.drop 118 = dktX5_table_5 := dk_seg dksX5_table_4 24 rfl rfl
theorem dksX5_table_6 : cX5_table.data.toList.drop 142 = dktX5_table_6 := dk_seg dksX5_table_5 24 rfl rfl
theorem dksX5_table_7 : cX5_table.data.toList.drop 166 = dktX5_table_7 := dk_seg dksX5_table_6 24 rfl rfl
theorem dksX5_table_8 : cX5_table.data.toList.drop 190 = dktX5_table_8 := dk_seg dksX5_table_7 24 rfl rfl
theorem dksX5_table_9 : cX5_table.data.toList.drop 214 = dktX5_table_9 := dk_seg dksX5_table_8 24 rfl rfl
theorem dksX5_table_10 : cX5_table.data.toList.drop 238 = dktX5_table_10 := dk_seg dksX5_table_9 24 rfl rfl
theorem dksX5_table_11 : cX5_table.data.toList.drop 262 = dktX5_table_11 := dk_seg dksX5_table_10 24 rfl rfl
theorem dksX5_table_12 : cX5_table.data.toList.drop 286 = dktX5_table_12 := dk_seg dksX5_table_11 24 rfl rfl
theorem dksX5_table_13 : cX5_table.data.toList.drop 310 = dktX5_table_13 := dk_seg dksX5_table_12 24 rfl rfl
theorem dX5_table_0 : decode cX5_table 0 = .ok (.iload_n 1, 1) := dk_27 (dk_at dksX5_table_0 0 rfl rfl)
theorem dX5_table_1 : decode cX5_table 1 = .ok (.invokestatic 480, 3) := dk_184 1 224 (dk_at dksX5_table_0 1 rfl rfl)
theorem dX5_table_4 : decode cX5_table 4 = .ok (.ifCond .eq 37, 3) := dk_153 0 37 (dk_at dksX5_table_0 4 rfl rfl)
theorem dX5_table_7 : decode cX5_table 7 = .ok (.iload_n 2, 1) := dk_28 (dk_at dksX5_table_0 7 rfl rfl)
theorem dX5_table_8 : decode cX5_table 8 = .ok (.invokestatic 312, 3) := dk_184 1 56 (dk_at dksX5_table_0 8 rfl rfl)
theorem dX5_table_11 : decode cX5_table 11 = .ok (.ifCond .eq 30, 3) := dk_153 0 30 (dk_at dksX5_table_0 11 rfl rfl)
theorem dX5_table_14 : decode cX5_table 14 = .ok (.iload_n 3, 1) := dk_29 (dk_at dksX5_table_0 14 rfl rfl)
theorem dX5_table_15 : decode cX5_table 15 = .ok (.invokestatic 312, 3) := dk_184 1 56 (dk_at dksX5_table_0 15 rfl rfl)
theorem dX5_table_18 : decode cX5_table 18 = .ok (.ifCond .eq 23, 3) := dk_153 0 23 (dk_at dksX5_table_0 18 rfl rfl)
theorem dX5_table_21 : decode cX5_table 21 = .ok (.iload 4, 2) := dk_21 4 (dk_at dksX5_table_0 21 rfl rfl)
theorem dX5_table_23 : decode cX5_table 23 = .ok (.iconst (-1), 1) := dk_2 (dk_at dksX5_table_0 23 rfl rfl)
theorem dX5_table_24 : decode cX5_table 24 = .ok (.if_icmp .eq 11, 3) := dk_159 0 11 (dk_at dksX5_table_1 0 rfl rfl)
theorem dX5_table_27 : decode cX5_table 27 = .ok (.iload 4, 2) := dk_21 4 (dk_at dksX5_table_1 3 rfl rfl)
theorem dX5_table_29 : decode cX5_table 29 = .ok (.invokestatic 312, 3) := dk_184 1 56 (dk_at dksX5_table_1 5 rfl rfl)
theorem dX5_table_32 : decode cX5_table 32 = .ok (.ifCond .eq 9, 3) := dk_153 0 9 (dk_at dksX5_table_1 8 rfl rfl)
theorem dX5_table_35 : decode cX5_table 35 = .ok (.iload_n 3, 1) := dk_29 (dk_at dksX5_table_1 11 rfl rfl)
theorem dX5_table_36 : decode cX5_table 36 = .ok (.iload 4, 2) := dk_21 4 (dk_at dksX5_table_1 12 rfl rfl)
theorem dX5_table_38 : decode cX5_table 38 = .ok (.if_icmp .ne 6, 3) := dk_160 0 6 (dk_at dksX5_table_1 14 rfl rfl)
theorem dX5_table_41 : decode cX5_table 41 = .ok (.bipush (-2), 2) := dk_16 254 (dk_at dksX5_table_1 17 rfl rfl)
theorem dX5_table_43 : decode cX5_table 43 = .ok (.ireturn, 1) := dk_172 (dk_at dksX5_table_1 19 rfl rfl)
theorem dX5_table_44 : decode cX5_table 44 = .ok (.aload_n 0, 1) := dk_42 (dk_at dksX5_table_1 20 rfl rfl)
theorem dX5_table_45 : decode cX5_table 45 = .ok (.iload_n 3, 1) := dk_29 (dk_at dksX5_table_1 21 rfl rfl)
theorem dX5_table_46 : decode cX5_table 46 = .ok (.invokevirtual 204, 3) := dk_182 0 204 (dk_at dksX5_table_2 0 rfl rfl)
theorem dX5_table_49 : decode cX5_table 49 = .ok (.ifCond .eq 18, 3) := dk_153 0 18 (dk_at dksX5_table_2 3 rfl rfl)
theorem dX5_table_52 : decode cX5_table 52 = .ok (.iload 4, 2) := dk_21 4 (dk_at dksX5_table_2 6 rfl rfl)
theorem dX5_table_54 : decode cX5_table 54 = .ok (.iconst (-1), 1) := dk_2 (dk_at dksX5_table_2 8 rfl rfl)
theorem dX5_table_55 : decode cX5_table 55 = .ok (.if_icmp .eq 15, 3) := dk_159 0 15 (dk_at dksX5_table_2 9 rfl rfl)
theorem dX5_table_58 : decode cX5_table 58 = .ok (.aload_n 0, 1) := dk_42 (dk_at dksX5_table_2 12 rfl rfl)
theorem dX5_table_59 : decode cX5_table 59 = .ok (.iload 4, 2) := dk_21 4 (dk_at dksX5_table_2 13 rfl rfl)
theorem dX5_table_61 : decode cX5_table 61 = .ok (.invokevirtual 204, 3) := dk_182 0 204 (dk_at dksX5_table_2 15 rfl rfl)
theorem dX5_table_64 : decode cX5_table 64 = .ok (.ifCond .ne 6, 3) := dk_154 0 6 (dk_at dksX5_table_2 18 rfl rfl)
theorem dX5_table_67 : decode cX5_table 67 = .ok (.bipush (-3), 2) := dk_16 253 (dk_at dksX5_table_2 21 rfl rfl)
theorem dX5_table_69 : decode cX5_table 69 = .ok (.ireturn, 1) := dk_172 (dk_at dksX5_table_2 23 rfl rfl)
theorem dX5_table_70 : decode cX5_table 70 = .ok (.aload_n 0, 1) := dk_42 (dk_at dksX5_table_3 0 rfl rfl)
theorem dX5_table_71 : decode cX5_table 71 = .ok (.getfield 34, 3) := dk_180 0 34 (dk_at dksX5_table_3 1 rfl rfl)
theorem dX5_table_74 : decode cX5_table 74 = .ok (.iload_n 1, 1) := dk_27 (dk_at dksX5_table_3 4 rfl rfl)
theorem dX5_table_75 : decode cX5_table 75 = .ok (.baload, 1) := dk_51 (dk_at dksX5_table_3 5 rfl rfl)
theorem dX5_table_76 : decode cX5_table 76 = .ok (.istore 5, 2) := dk_54 5 (dk_at dksX5_table_3 6 rfl rfl)
theorem dX5_table_78 : decode cX5_table 78 = .ok (.aload_n 0, 1) := dk_42 (dk_at dksX5_table_3 8 rfl rfl)
theorem dX5_table_79 : decode cX5_table 79 = .ok (.getfield 34, 3) := dk_180 0 34 (dk_at dksX5_table_3 9 rfl rfl)
theorem dX5_table_82 : decode cX5_table 82 = .ok (.iload_n 1, 1) := dk_27 (dk_at dksX5_table_3 12 rfl rfl)
theorem dX5_table_83 : decode cX5_table 83 = .ok (.iconst 0, 1) := dk_3 (dk_at dksX5_table_3 13 rfl rfl)
theorem dX5_table_84 : decode cX5_table 84 = .ok (.bastore, 1) := dk_84 (dk_at dksX5_table_3 14 rfl rfl)
theorem dX5_table_85 : decode cX5_table 85 = .ok (.aload_n 0, 1) := dk_42 (dk_at dksX5_table_3 15 rfl rfl)
theorem dX5_table_86 : decode cX5_table 86 = .ok (.iconst 1, 1) := dk_4 (dk_at dksX5_table_3 16 rfl rfl)
theorem dX5_table_87 : decode cX5_table 87 = .ok (.iload_n 2, 1) := dk_28 (dk_at dksX5_table_3 17 rfl rfl)
theorem dX5_table_88 : decode cX5_table 88 = .ok (.ishl, 1) := dk_120 (dk_at dksX5_table_3 18 rfl rfl)
theorem dX5_table_89 : decode cX5_table 89 = .ok (.invokevirtual 468, 3) := dk_182 1 212 (dk_at dksX5_table_3 19 rfl rfl)
theorem dX5_table_92 : decode cX5_table 92 = .ok (.bipush 24, 2) := dk_16 24 (dk_at dksX5_table_3 22 rfl rfl)
theorem dX5_table_94 : decode cX5_table 94 = .ok (.iload_n 1, 1) := dk_27 (dk_at dksX5_table_4 0 rfl rfl)
theorem dX5_table_95 : decode cX5_table 95 = .ok (.iadd, 1) := dk_96 (dk_at dksX5_table_4 1 rfl rfl)
theorem dX5_table_96 : decode cX5_table 96 = .ok (.ishr, 1) := dk_122 (dk_at dksX5_table_4 2 rfl rfl)
theorem dX5_table_97 : decode cX5_table 97 = .ok (.iconst 1, 1) := dk_4 (dk_at dksX5_table_4 3 rfl rfl)
theorem dX5_table_98 : decode cX5_table 98 = .ok (.iand, 1) := dk_126 (dk_at dksX5_table_4 4 rfl rfl)
theorem dX5_table_99 : decode cX5_table 99 = .ok (.iconst 1, 1) := dk_4 (dk_at dksX5_table_4 5 rfl rfl)
theorem dX5_table_100 : decode cX5_table 100 = .ok (.if_icmp .ne 7, 3) := dk_160 0 7 (dk_at dksX5_table_4 6 rfl rfl)
theorem dX5_table_103 : decode cX5_table 103 = .ok (.iconst 1, 1) := dk_4 (dk_at dksX5_table_4 9 rfl rfl)
theorem dX5_table_104 : decode cX5_table 104 = .ok (.goto 4, 3) := dk_167 0 4 (dk_at dksX5_table_4 10 rfl rfl)
theorem dX5_table_107 : decode cX5_table 107 = .ok (.iconst 0, 1) := dk_3 (dk_at dksX5_table_4 13 rfl rfl)
theorem dX5_table_108 : decode cX5_table 108 = .ok (.istore 6, 2) := dk_54 6 (dk_at dksX5_table_4 14 rfl rfl)
theorem dX5_table_110 : decode cX5_table 110 = .ok (.aload_n 0, 1) := dk_42 (dk_at dksX5_table_4 16 rfl rfl)
theorem dX5_table_111 : decode cX5_table 111 = .ok (.getfield 34, 3) := dk_180 0 34 (dk_at dksX5_table_4 17 rfl rfl)
theorem dX5_table_114 : decode cX5_table 114 = .ok (.iload_n 1, 1) := dk_27 (dk_at dksX5_table_4 20 rfl rfl)
theorem dX5_table_115 : decode cX5_table 115 = .ok (.iload 5, 2) := dk_21 5 (dk_at dksX5_table_4 21 rfl rfl)
theorem dX5_table_117 : decode cX5_table 117 = .ok (.bastore, 1) := dk_84 (dk_at dksX5_table_4 23 rfl rfl)
theorem dX5_table_118 : decode cX5_table 118 = .ok (.iload 6, 2) := dk_21 6 (dk_at dksX5_table_5 0 rfl rfl)
theorem dX5_table_120 : decode cX5_table 120 = .ok (.ifCond .eq 6, 3) := dk_153 0 6 (dk_at dksX5_table_5 2 rfl rfl)
theorem dX5_table_123 : decode cX5_table 123 = .ok (.bipush (-5), 2) := dk_16 251 (dk_at dksX5_table_5 5 rfl rfl)
theorem dX5_table_125 : decode cX5_table 125 = .ok (.ireturn, 1) := dk_172 (dk_at dksX5_table_5 7 rfl rfl)
theorem dX5_table_126 : decode cX5_table 126 = .ok (.aload_n 0, 1) := dk_42 (dk_at dksX5_table_5 8 rfl rfl)
theorem dX5_table_127 : decode cX5_table 127 = .ok (.getfield 37, 3) := dk_180 0 37 (dk_at dksX5_table_5 9 rfl rfl)
theorem dX5_table_130 : decode cX5_table 130 = .ok (.iload_n 1, 1) := dk_27 (dk_at dksX5_table_5 12 rfl rfl)
theorem dX5_table_131 : decode cX5_table 131 = .ok (.iaload, 1) := dk_46 (dk_at dksX5_table_5 13 rfl rfl)
theorem dX5_table_132 : decode cX5_table 132 = .ok (.istore 7, 2) := dk_54 7 (dk_at dksX5_table_5 14 rfl rfl)
theorem dX5_table_134 : decode cX5_table 134 = .ok (.aload_n 0, 1) := dk_42 (dk_at dksX5_table_5 16 rfl rfl)
theorem dX5_table_135 : decode cX5_table 135 = .ok (.getfield 40, 3) := dk_180 0 40 (dk_at dksX5_table_5 17 rfl rfl)
theorem dX5_table_138 : decode cX5_table 138 = .ok (.iload_n 1, 1) := dk_27 (dk_at dksX5_table_5 20 rfl rfl)
theorem dX5_table_139 : decode cX5_table 139 = .ok (.iaload, 1) := dk_46 (dk_at dksX5_table_5 21 rfl rfl)
theorem dX5_table_140 : decode cX5_table 140 = .ok (.istore 8, 2) := dk_54 8 (dk_at dksX5_table_5 22 rfl rfl)
theorem dX5_table_142 : decode cX5_table 142 = .ok (.aload_n 0, 1) := dk_42 (dk_at dksX5_table_6 0 rfl rfl)
theorem dX5_table_143 : decode cX5_table 143 = .ok (.getfield 43, 3) := dk_180 0 43 (dk_at dksX5_table_6 1 rfl rfl)
theorem dX5_table_146 : decode cX5_table 146 = .ok (.iload_n 1, 1) := dk_27 (dk_at dksX5_table_6 4 rfl rfl)
theorem dX5_table_147 : decode cX5_table 147 = .ok (.iaload, 1) := dk_46 (dk_at dksX5_table_6 5 rfl rfl)
theorem dX5_table_148 : decode cX5_table 148 = .ok (.istore 9, 2) := dk_54 9 (dk_at dksX5_table_6 6 rfl rfl)
theorem dX5_table_150 : decode cX5_table 150 = .ok (.aload_n 0, 1) := dk_42 (dk_at dksX5_table_6 8 rfl rfl)
theorem dX5_table_151 : decode cX5_table 151 = .ok (.getfield 46, 3) := dk_180 0 46 (dk_at dksX5_table_6 9 rfl rfl)
theorem dX5_table_154 : decode cX5_table 154 = .ok (.iconst 2, 1) := dk_5 (dk_at dksX5_table_6 12 rfl rfl)
theorem dX5_table_155 : decode cX5_table 155 = .ok (.iload_n 1, 1) := dk_27 (dk_at dksX5_table_6 13 rfl rfl)
theorem dX5_table_156 : decode cX5_table 156 = .ok (.imul, 1) := dk_104 (dk_at dksX5_table_6 14 rfl rfl)
theorem dX5_table_157 : decode cX5_table 157 = .ok (.iaload, 1) := dk_46 (dk_at dksX5_table_6 15 rfl rfl)
theorem dX5_table_158 : decode cX5_table 158 = .ok (.istore 10, 2) := dk_54 10 (dk_at dksX5_table_6 16 rfl rfl)
theorem dX5_table_160 : decode cX5_table 160 = .ok (.aload_n 0, 1) := dk_42 (dk_at dksX5_table_6 18 rfl rfl)
theorem dX5_table_161 : decode cX5_table 161 = .ok (.getfield 46, 3) := dk_180 0 46 (dk_at dksX5_table_6 19 rfl rfl)
theorem dX5_table_164 : decode cX5_table 164 = .ok (.iconst 2, 1) := dk_5 (dk_at dksX5_table_6 22 rfl rfl)
theorem dX5_table_165 : decode cX5_table 165 = .ok (.iload_n 1, 1) := dk_27 (dk_at dksX5_table_6 23 rfl rfl)
theorem dX5_table_166 : decode cX5_table 166 = .ok (.imul, 1) := dk_104 (dk_at dksX5_table_7 0 rfl rfl)
theorem dX5_table_167 : decode cX5_table 167 = .ok (.iconst 1, 1) := dk_4 (dk_at dksX5_table_7 1 rfl rfl)
theorem dX5_table_168 : decode cX5_table 168 = .ok (.iadd, 1) := dk_96 (dk_at dksX5_table_7 2 rfl rfl)
theorem dX5_table_169 : decode cX5_table 169 = .ok (.iaload, 1) := dk_46 (dk_at dksX5_table_7 3 rfl rfl)
theorem dX5_table_170 : decode cX5_table 170 = .ok (.istore 11, 2) := dk_54 11 (dk_at dksX5_table_7 4 rfl rfl)
theorem dX5_table_172 : decode cX5_table 172 = .ok (.aload_n 0, 1) := dk_42 (dk_at dksX5_table_7 6 rfl rfl)
theorem dX5_table_173 : decode cX5_table 173 = .ok (.getfield 34, 3) := dk_180 0 34 (dk_at dksX5_table_7 7 rfl rfl)
theorem dX5_table_176 : decode cX5_table 176 = .ok (.iload_n 1, 1) := dk_27 (dk_at dksX5_table_7 10 rfl rfl)
theorem dX5_table_177 : decode cX5_table 177 = .ok (.iconst 1, 1) := dk_4 (dk_at dksX5_table_7 11 rfl rfl)
theorem dX5_table_178 : decode cX5_table 178 = .ok (.bastore, 1) := dk_84 (dk_at dksX5_table_7 12 rfl rfl)
theorem dX5_table_179 : decode cX5_table 179 = .ok (.aload_n 0, 1) := dk_42 (dk_at dksX5_table_7 13 rfl rfl)
theorem dX5_table_180 : decode cX5_table 180 = .ok (.getfield 37, 3) := dk_180 0 37 (dk_at dksX5_table_7 14 rfl rfl)
theorem dX5_table_183 : decode cX5_table 183 = .ok (.iload_n 1, 1) := dk_27 (dk_at dksX5_table_7 17 rfl rfl)
theorem dX5_table_184 : decode cX5_table 184 = .ok (.iload_n 2, 1) := dk_28 (dk_at dksX5_table_7 18 rfl rfl)
theorem dX5_table_185 : decode cX5_table 185 = .ok (.iastore, 1) := dk_79 (dk_at dksX5_table_7 19 rfl rfl)
theorem dX5_table_186 : decode cX5_table 186 = .ok (.aload_n 0, 1) := dk_42 (dk_at dksX5_table_7 20 rfl rfl)
theorem dX5_table_187 : decode cX5_table 187 = .ok (.getfield 40, 3) := dk_180 0 40 (dk_at dksX5_table_7 21 rfl rfl)
theorem dX5_table_190 : decode cX5_table 190 = .ok (.iload_n 1, 1) := dk_27 (dk_at dksX5_table_8 0 rfl rfl)
theorem dX5_table_191 : decode cX5_table 191 = .ok (.iload_n 3, 1) := dk_29 (dk_at dksX5_table_8 1 rfl rfl)
theorem dX5_table_192 : decode cX5_table 192 = .ok (.iastore, 1) := dk_79 (dk_at dksX5_table_8 2 rfl rfl)
theorem dX5_table_193 : decode cX5_table 193 = .ok (.aload_n 0, 1) := dk_42 (dk_at dksX5_table_8 3 rfl rfl)
theorem dX5_table_194 : decode cX5_table 194 = .ok (.getfield 43, 3) := dk_180 0 43 (dk_at dksX5_table_8 4 rfl rfl)
theorem dX5_table_197 : decode cX5_table 197 = .ok (.iload_n 1, 1) := dk_27 (dk_at dksX5_table_8 7 rfl rfl)
theorem dX5_table_198 : decode cX5_table 198 = .ok (.iload 4, 2) := dk_21 4 (dk_at dksX5_table_8 8 rfl rfl)
theorem dX5_table_200 : decode cX5_table 200 = .ok (.iastore, 1) := dk_79 (dk_at dksX5_table_8 10 rfl rfl)
theorem dX5_table_201 : decode cX5_table 201 = .ok (.aload_n 0, 1) := dk_42 (dk_at dksX5_table_8 11 rfl rfl)
theorem dX5_table_202 : decode cX5_table 202 = .ok (.getfield 46, 3) := dk_180 0 46 (dk_at dksX5_table_8 12 rfl rfl)
theorem dX5_table_205 : decode cX5_table 205 = .ok (.iconst 2, 1) := dk_5 (dk_at dksX5_table_8 15 rfl rfl)
theorem dX5_table_206 : decode cX5_table 206 = .ok (.iload_n 1, 1) := dk_27 (dk_at dksX5_table_8 16 rfl rfl)
theorem dX5_table_207 : decode cX5_table 207 = .ok (.imul, 1) := dk_104 (dk_at dksX5_table_8 17 rfl rfl)
theorem dX5_table_208 : decode cX5_table 208 = .ok (.iconst 1, 1) := dk_4 (dk_at dksX5_table_8 18 rfl rfl)
theorem dX5_table_209 : decode cX5_table 209 = .ok (.iastore, 1) := dk_79 (dk_at dksX5_table_8 19 rfl rfl)
theorem dX5_table_210 : decode cX5_table 210 = .ok (.aload_n 0, 1) := dk_42 (dk_at dksX5_table_8 20 rfl rfl)
theorem dX5_table_211 : decode cX5_table 211 = .ok (.getfield 46, 3) := dk_180 0 46 (dk_at dksX5_table_8 21 rfl rfl)
theorem dX5_table_214 : decode cX5_table 214 = .ok (.iconst 2, 1) := dk_5 (dk_at dksX5_table_9 0 rfl rfl)
theorem dX5_table_215 : decode cX5_table 215 = .ok (.iload_n 1, 1) := dk_27 (dk_at dksX5_table_9 1 rfl rfl)
theorem dX5_table_216 : decode cX5_table 216 = .ok (.imul, 1) := dk_104 (dk_at dksX5_table_9 2 rfl rfl)
theorem dX5_table_217 : decode cX5_table 217 = .ok (.iconst 1, 1) := dk_4 (dk_at dksX5_table_9 3 rfl rfl)
theorem dX5_table_218 : decode cX5_table 218 = .ok (.iadd, 1) := dk_96 (dk_at dksX5_table_9 4 rfl rfl)
theorem dX5_table_219 : decode cX5_table 219 = .ok (.iload 4, 2) := dk_21 4 (dk_at dksX5_table_9 5 rfl rfl)
theorem dX5_table_221 : decode cX5_table 221 = .ok (.iconst (-1), 1) := dk_2 (dk_at dksX5_table_9 7 rfl rfl)
theorem dX5_table_222 : decode cX5_table 222 = .ok (.if_icmp .ne 7, 3) := dk_160 0 7 (dk_at dksX5_table_9 8 rfl rfl)
theorem dX5_table_225 : decode cX5_table 225 = .ok (.iconst 0, 1) := dk_3 (dk_at dksX5_table_9 11 rfl rfl)
theorem dX5_table_226 : decode cX5_table 226 = .ok (.goto 4, 3) := dk_167 0 4 (dk_at dksX5_table_9 12 rfl rfl)
theorem dX5_table_229 : decode cX5_table 229 = .ok (.iconst 1, 1) := dk_4 (dk_at dksX5_table_9 15 rfl rfl)
theorem dX5_table_230 : decode cX5_table 230 = .ok (.iastore, 1) := dk_79 (dk_at dksX5_table_9 16 rfl rfl)
theorem dX5_table_231 : decode cX5_table 231 = .ok (.aload_n 0, 1) := dk_42 (dk_at dksX5_table_9 17 rfl rfl)
theorem dX5_table_232 : decode cX5_table 232 = .ok (.invokevirtual 477, 3) := dk_182 1 221 (dk_at dksX5_table_9 18 rfl rfl)
theorem dX5_table_235 : decode cX5_table 235 = .ok (.ifCond .eq 60, 3) := dk_153 0 60 (dk_at dksX5_table_9 21 rfl rfl)
theorem dX5_table_238 : decode cX5_table 238 = .ok (.aload_n 0, 1) := dk_42 (dk_at dksX5_table_10 0 rfl rfl)
theorem dX5_table_239 : decode cX5_table 239 = .ok (.getfield 34, 3) := dk_180 0 34 (dk_at dksX5_table_10 1 rfl rfl)
theorem dX5_table_242 : decode cX5_table 242 = .ok (.iload_n 1, 1) := dk_27 (dk_at dksX5_table_10 4 rfl rfl)
theorem dX5_table_243 : decode cX5_table 243 = .ok (.iload 5, 2) := dk_21 5 (dk_at dksX5_table_10 5 rfl rfl)
theorem dX5_table_245 : decode cX5_table 245 = .ok (.bastore, 1) := dk_84 (dk_at dksX5_table_10 7 rfl rfl)
theorem dX5_table_246 : decode cX5_table 246 = .ok (.aload_n 0, 1) := dk_42 (dk_at dksX5_table_10 8 rfl rfl)
theorem dX5_table_247 : decode cX5_table 247 = .ok (.getfield 37, 3) := dk_180 0 37 (dk_at dksX5_table_10 9 rfl rfl)
theorem dX5_table_250 : decode cX5_table 250 = .ok (.iload_n 1, 1) := dk_27 (dk_at dksX5_table_10 12 rfl rfl)
theorem dX5_table_251 : decode cX5_table 251 = .ok (.iload 7, 2) := dk_21 7 (dk_at dksX5_table_10 13 rfl rfl)
theorem dX5_table_253 : decode cX5_table 253 = .ok (.iastore, 1) := dk_79 (dk_at dksX5_table_10 15 rfl rfl)
theorem dX5_table_254 : decode cX5_table 254 = .ok (.aload_n 0, 1) := dk_42 (dk_at dksX5_table_10 16 rfl rfl)
theorem dX5_table_255 : decode cX5_table 255 = .ok (.getfield 40, 3) := dk_180 0 40 (dk_at dksX5_table_10 17 rfl rfl)
theorem dX5_table_258 : decode cX5_table 258 = .ok (.iload_n 1, 1) := dk_27 (dk_at dksX5_table_10 20 rfl rfl)
theorem dX5_table_259 : decode cX5_table 259 = .ok (.iload 8, 2) := dk_21 8 (dk_at dksX5_table_10 21 rfl rfl)
theorem dX5_table_261 : decode cX5_table 261 = .ok (.iastore, 1) := dk_79 (dk_at dksX5_table_10 23 rfl rfl)
theorem dX5_table_262 : decode cX5_table 262 = .ok (.aload_n 0, 1) := dk_42 (dk_at dksX5_table_11 0 rfl rfl)
theorem dX5_table_263 : decode cX5_table 263 = .ok (.getfield 43, 3) := dk_180 0 43 (dk_at dksX5_table_11 1 rfl rfl)
theorem dX5_table_266 : decode cX5_table 266 = .ok (.iload_n 1, 1) := dk_27 (dk_at dksX5_table_11 4 rfl rfl)
theorem dX5_table_267 : decode cX5_table 267 = .ok (.iload 9, 2) := dk_21 9 (dk_at dksX5_table_11 5 rfl rfl)
theorem dX5_table_269 : decode cX5_table 269 = .ok (.iastore, 1) := dk_79 (dk_at dksX5_table_11 7 rfl rfl)
theorem dX5_table_270 : decode cX5_table 270 = .ok (.aload_n 0, 1) := dk_42 (dk_at dksX5_table_11 8 rfl rfl)
theorem dX5_table_271 : decode cX5_table 271 = .ok (.getfield 46, 3) := dk_180 0 46 (dk_at dksX5_table_11 9 rfl rfl)
theorem dX5_table_274 : decode cX5_table 274 = .ok (.iconst 2, 1) := dk_5 (dk_at dksX5_table_11 12 rfl rfl)
theorem dX5_table_275 : decode cX5_table 275 = .ok (.iload_n 1, 1) := dk_27 (dk_at dksX5_table_11 13 rfl rfl)
theorem dX5_table_276 : decode cX5_table 276 = .ok (.imul, 1) := dk_104 (dk_at dksX5_table_11 14 rfl rfl)
theorem dX5_table_277 : decode cX5_table 277 = .ok (.iload 10, 2) := dk_21 10 (dk_at dksX5_table_11 15 rfl rfl)
theorem dX5_table_279 : decode cX5_table 279 = .ok (.iastore, 1) := dk_79 (dk_at dksX5_table_11 17 rfl rfl)
theorem dX5_table_280 : decode cX5_table 280 = .ok (.aload_n 0, 1) := dk_42 (dk_at dksX5_table_11 18 rfl rfl)
theorem dX5_table_281 : decode cX5_table 281 = .ok (.getfield 46, 3) := dk_180 0 46 (dk_at dksX5_table_11 19 rfl rfl)
theorem dX5_table_284 : decode cX5_table 284 = .ok (.iconst 2, 1) := dk_5 (dk_at dksX5_table_11 22 rfl rfl)
theorem dX5_table_285 : decode cX5_table 285 = .ok (.iload_n 1, 1) := dk_27 (dk_at dksX5_table_11 23 rfl rfl)
theorem dX5_table_286 : decode cX5_table 286 = .ok (.imul, 1) := dk_104 (dk_at dksX5_table_12 0 rfl rfl)
theorem dX5_table_287 : decode cX5_table 287 = .ok (.iconst 1, 1) := dk_4 (dk_at dksX5_table_12 1 rfl rfl)
theorem dX5_table_288 : decode cX5_table 288 = .ok (.iadd, 1) := dk_96 (dk_at dksX5_table_12 2 rfl rfl)
theorem dX5_table_289 : decode cX5_table 289 = .ok (.iload 11, 2) := dk_21 11 (dk_at dksX5_table_12 3 rfl rfl)
theorem dX5_table_291 : decode cX5_table 291 = .ok (.iastore, 1) := dk_79 (dk_at dksX5_table_12 5 rfl rfl)
theorem dX5_table_292 : decode cX5_table 292 = .ok (.bipush (-4), 2) := dk_16 252 (dk_at dksX5_table_12 6 rfl rfl)
theorem dX5_table_294 : decode cX5_table 294 = .ok (.ireturn, 1) := dk_172 (dk_at dksX5_table_12 8 rfl rfl)
theorem dX5_table_295 : decode cX5_table 295 = .ok (.aload_n 0, 1) := dk_42 (dk_at dksX5_table_12 9 rfl rfl)
theorem dX5_table_296 : decode cX5_table 296 = .ok (.getfield 49, 3) := dk_180 0 49 (dk_at dksX5_table_12 10 rfl rfl)
theorem dX5_table_299 : decode cX5_table 299 = .ok (.iconst 2, 1) := dk_5 (dk_at dksX5_table_12 13 rfl rfl)
theorem dX5_table_300 : decode cX5_table 300 = .ok (.iload_n 1, 1) := dk_27 (dk_at dksX5_table_12 14 rfl rfl)
theorem dX5_table_301 : decode cX5_table 301 = .ok (.imul, 1) := dk_104 (dk_at dksX5_table_12 15 rfl rfl)
theorem dX5_table_302 : decode cX5_table 302 = .ok (.aaload, 1) := dk_50 (dk_at dksX5_table_12 16 rfl rfl)
theorem dX5_table_303 : decode cX5_table 303 = .ok (.iconst 0, 1) := dk_3 (dk_at dksX5_table_12 17 rfl rfl)
theorem dX5_table_304 : decode cX5_table 304 = .ok (.dconst 0, 1) := dk_14 (dk_at dksX5_table_12 18 rfl rfl)
theorem dX5_table_305 : decode cX5_table 305 = .ok (.dastore, 1) := dk_82 (dk_at dksX5_table_12 19 rfl rfl)
theorem dX5_table_306 : decode cX5_table 306 = .ok (.aload_n 0, 1) := dk_42 (dk_at dksX5_table_12 20 rfl rfl)
theorem dX5_table_307 : decode cX5_table 307 = .ok (.getfield 49, 3) := dk_180 0 49 (dk_at dksX5_table_12 21 rfl rfl)
theorem dX5_table_310 : decode cX5_table 310 = .ok (.iconst 2, 1) := dk_5 (dk_at dksX5_table_13 0 rfl rfl)
theorem dX5_table_311 : decode cX5_table 311 = .ok (.iload_n 1, 1) := dk_27 (dk_at dksX5_table_13 1 rfl rfl)
theorem dX5_table_312 : decode cX5_table 312 = .ok (.imul, 1) := dk_104 (dk_at dksX5_table_13 2 rfl rfl)
theorem dX5_table_313 : decode cX5_table 313 = .ok (.iconst 1, 1) := dk_4 (dk_at dksX5_table_13 3 rfl rfl)
theorem dX5_table_314 : decode cX5_table 314 = .ok (.iadd, 1) := dk_96 (dk_at dksX5_table_13 4 rfl rfl)
theorem dX5_table_315 : decode cX5_table 315 = .ok (.aaload, 1) := dk_50 (dk_at dksX5_table_13 5 rfl rfl)
theorem dX5_table_316 : decode cX5_table 316 = .ok (.iconst 0, 1) := dk_3 (dk_at dksX5_table_13 6 rfl rfl)
theorem dX5_table_317 : decode cX5_table 317 = .ok (.dconst 0, 1) := dk_14 (dk_at dksX5_table_13 7 rfl rfl)
theorem dX5_table_318 : decode cX5_table 318 = .ok (.dastore, 1) := dk_82 (dk_at dksX5_table_13 8 rfl rfl)
theorem dX5_table_319 : decode cX5_table 319 = .ok (.iconst 1, 1) := dk_4 (dk_at dksX5_table_13 9 rfl rfl)
theorem dX5_table_320 : decode cX5_table 320 = .ok (.ireturn, 1) := dk_172 (dk_at dksX5_table_13 10 rfl rfl)
abbrev cX5_isTable : ByteArray := prog_35_method_4_code
def yX5_isTable : MethodName := ⟨RX5, "isTable", "(I)Z"⟩
def dkwX5_isTable_0 : List UInt8 := [26, 3, 8, 184, 0, 183, 172]
abbrev dktX5_isTable_0 : List UInt8 := dkwX5_isTable_0 ++ []
theorem dksX5_isTable_0 : cX5_isTable.data.toList.drop 0 = dktX5_isTable_0 := by decide +kernel
theorem dX5_isTable_0 : decode cX5_isTable 0 = .ok (.iload_n 0, 1) := dk_26 (dk_at dksX5_isTable_0 0 rfl rfl)
theorem dX5_isTable_1 : decode cX5_isTable 1 = .ok (.iconst 0, 1) := dk_3 (dk_at dksX5_isTable_0 1 rfl rfl)
theorem dX5_isTable_2 : decode cX5_isTable 2 = .ok (.iconst 5, 1) := dk_8 (dk_at dksX5_isTable_0 2 rfl rfl)
theorem dX5_isTable_3 : decode cX5_isTable 3 = .ok (.invokestatic 183, 3) := dk_184 0 183 (dk_at dksX5_isTable_0 3 rfl rfl)
theorem dX5_isTable_6 : decode cX5_isTable 6 = .ok (.ireturn, 1) := dk_172 (dk_at dksX5_isTable_0 6 rfl rfl)
abbrev cX5_axis : ByteArray := prog_35_method_67_code
def yX5_axis : MethodName := ⟨RX5, "axis", "(IIIII)I"⟩
def dkwX5_axis_6 : List UInt8 := [27, 182, 0, 232, 172]
abbrev dktX5_axis_6 : List UInt8 := dkwX5_axis_6 ++ []
def dkwX5_axis_5 : List UInt8 := [96, 50, 21, 6, 29, 21, 6, 21, 4, 104, 96, 135, 20, 1, 62, 111, 82, 132, 6, 1, 167, 255, 221, 42]
abbrev dktX5_axis_5 : List UInt8 := dkwX5_axis_5 ++ dktX5_axis_6
def dkwX5_axis_4 : List UInt8 := [154, 0, 6, 16, 252, 172, 3, 54, 6, 21, 6, 21, 5, 162, 0, 34, 42, 180, 0, 49, 5, 27, 104, 28]
abbrev dktX5_axis_4 : List UInt8 := dkwX5_axis_4 ++ dktX5_axis_5
def dkwX5_axis_3 : List UInt8 := [160, 0, 16, 42, 180, 0, 43, 27, 46, 2, 160, 0, 6, 16, 253, 172, 42, 27, 28, 21, 5, 182, 1, 229]
abbrev dktX5_axis_3 : List UInt8 := dkwX5_axis_3 ++ dktX5_axis_4
def dkwX5_axis_2 : List UInt8 := [16, 8, 184, 0, 183, 154, 0, 6, 16, 254, 172, 42, 180, 0, 34, 27, 51, 153, 0, 18, 28, 4]
abbrev dktX5_axis_2 : List UInt8 := dkwX5_axis_2 ++ dktX5_axis_3
def dkwX5_axis_1 : List UInt8 := [184, 0, 183, 153, 0, 28, 21, 4, 17, 224, 192, 17, 31, 64, 184, 0, 183, 153, 0, 14, 21, 5, 4]
abbrev dktX5_axis_1 : List UInt8 := dkwX5_axis_1 ++ dktX5_axis_2
def dkwX5_axis_0 : List UInt8 := [27, 184, 1, 224, 153, 0, 50, 28, 3, 4, 184, 0, 183, 153, 0, 41, 29, 19, 1, 227, 19, 1, 228]
abbrev dktX5_axis_0 : List UInt8 := dkwX5_axis_0 ++ dktX5_axis_1
theorem dksX5_axis_0 : cX5_axis.data.toList.drop 0 = dktX5_axis_0 := by decide +kernel
theorem dksX5_axis_1 : cX5_axis.data.toList.drop 23 = dktX5_axis_1 := dk_seg dksX5_axis_0 23 rfl rfl
theorem dksX5_axis_2 : cX5_axis.data.toList.drop 46 = dktX5_axis_2 := dk_seg dksX5_axis_1 23 rfl rfl
theorem dksX5_axis_3 : cX5_axis.data.toList.drop 68 = dktX5_axis_3 := dk_seg dksX5_axis_2 22 rfl rfl
theorem dksX5_axis_4 : cX5_axis.data.toList.drop 92 = dktX5_axis_4 := dk_seg dksX5_axis_3 24 rfl rfl
theorem dksX5_axis_5 : cX5_axis.data.toList.drop 116 = dktX5_axis_5 := dk_seg dksX5_axis_4 24 rfl rfl
theorem dksX5_axis_6 : cX5_axis.data.toList.drop 140 = dktX5_axis_6 := dk_seg dksX5_axis_5 24 rfl rfl
theorem dX5_axis_0 : decode cX5_axis 0 = .ok (.iload_n 1, 1) := dk_27 (dk_at dksX5_axis_0 0 rfl rfl)
theorem dX5_axis_1 : decode cX5_axis 1 = .ok (.invokestatic 480, 3) := dk_184 1 224 (dk_at dksX5_axis_0 1 rfl rfl)
theorem dX5_axis_4 : decode cX5_axis 4 = .ok (.ifCond .eq 50, 3) := dk_153 0 50 (dk_at dksX5_axis_0 4 rfl rfl)
theorem dX5_axis_7 : decode cX5_axis 7 = .ok (.iload_n 2, 1) := dk_28 (dk_at dksX5_axis_0 7 rfl rfl)
theorem dX5_axis_8 : decode cX5_axis 8 = .ok (.iconst 0, 1) := dk_3 (dk_at dksX5_axis_0 8 rfl rfl)
theorem dX5_axis_9 : decode cX5_axis 9 = .ok (.iconst 1, 1) := dk_4 (dk_at dksX5_axis_0 9 rfl rfl)
theorem dX5_axis_10 : decode cX5_axis 10 = .ok (.invokestatic 183, 3) := dk_184 0 183 (dk_at dksX5_axis_0 10 rfl rfl)
theorem dX5_axis_13 : decode cX5_axis 13 = .ok (.ifCond .eq 41, 3) := dk_153 0 41 (dk_at dksX5_axis_0 13 rfl rfl)
theorem dX5_axis_16 : decode cX5_axis 16 = .ok (.iload_n 3, 1) := dk_29 (dk_at dksX5_axis_0 16 rfl rfl)
theorem dX5_axis_17 : decode cX5_axis 17 = .ok (.ldc_w 483, 3) := dk_19 1 227 (dk_at dksX5_axis_0 17 rfl rfl)
theorem dX5_axis_20 : decode cX5_axis 20 = .ok (.ldc_w 484, 3) := dk_19 1 228 (dk_at dksX5_axis_0 20 rfl rfl)
theorem dX5_axis_23 : decode cX5_axis 23 = .ok (.invokestatic 183, 3) := dk_184 0 183 (dk_at dksX5_axis_1 0 rfl rfl)
theorem dX5_axis_26 : decode cX5_axis 26 = .ok (.ifCond .eq 28, 3) := dk_153 0 28 (dk_at dksX5_axis_1 3 rfl rfl)
theorem dX5_axis_29 : decode cX5_axis 29 = .ok (.iload 4, 2) := dk_21 4 (dk_at dksX5_axis_1 6 rfl rfl)
theorem dX5_axis_31 : decode cX5_axis 31 = .ok (.sipush (-8000), 3) := dk_17 224 192 (dk_at dksX5_axis_1 8 rfl rfl)
theorem dX5_axis_34 : decode cX5_axis 34 = .ok (.sipush 8000, 3) := dk_17 31 64 (dk_at dksX5_axis_1 11 rfl rfl)
theorem dX5_axis_37 : decode cX5_axis 37 = .ok (.invokestatic 183, 3) := dk_184 0 183 (dk_at dksX5_axis_1 14 rfl rfl)
theorem dX5_axis_40 : decode cX5_axis 40 = .ok (.ifCond .eq 14, 3) := dk_153 0 14 (dk_at dksX5_axis_1 17 rfl rfl)
theorem dX5_axis_43 : decode cX5_axis 43 = .ok (.iload 5, 2) := dk_21 5 (dk_at dksX5_axis_1 20 rfl rfl)
theorem dX5_axis_45 : decode cX5_axis 45 = .ok (.iconst 1, 1) := dk_4 (dk_at dksX5_axis_1 22 rfl rfl)
theorem dX5_axis_46 : decode cX5_axis 46 = .ok (.bipush 8, 2) := dk_16 8 (dk_at dksX5_axis_2 0 rfl rfl)
theorem dX5_axis_48 : decode cX5_axis 48 = .ok (.invokestatic 183, 3) := dk_184 0 183 (dk_at dksX5_axis_2 2 rfl rfl)
theorem dX5_axis_51 : decode cX5_axis 51 = .ok (.ifCond .ne 6, 3) := dk_154 0 6 (dk_at dksX5_axis_2 5 rfl rfl)
theorem dX5_axis_54 : decode cX5_axis 54 = .ok (.bipush (-2), 2) := dk_16 254 (dk_at dksX5_axis_2 8 rfl rfl)
theorem dX5_axis_56 : decode cX5_axis 56 = .ok (.ireturn, 1) := dk_172 (dk_at dksX5_axis_2 10 rfl rfl)
theorem dX5_axis_57 : decode cX5_axis 57 = .ok (.aload_n 0, 1) := dk_42 (dk_at dksX5_axis_2 11 rfl rfl)
theorem dX5_axis_58 : decode cX5_axis 58 = .ok (.getfield 34, 3) := dk_180 0 34 (dk_at dksX5_axis_2 12 rfl rfl)
theorem dX5_axis_61 : decode cX5_axis 61 = .ok (.iload_n 1, 1) := dk_27 (dk_at dksX5_axis_2 15 rfl rfl)
theorem dX5_axis_62 : decode cX5_axis 62 = .ok (.baload, 1) := dk_51 (dk_at dksX5_axis_2 16 rfl rfl)
theorem dX5_axis_63 : decode cX5_axis 63 = .ok (.ifCond .eq 18, 3) := dk_153 0 18 (dk_at dksX5_axis_2 17 rfl rfl)
theorem dX5_axis_66 : decode cX5_axis 66 = .ok (.iload_n 2, 1) := dk_28 (dk_at dksX5_axis_2 20 rfl rfl)
theorem dX5_axis_67 : decode cX5_axis 67 = .ok (.iconst 1, 1) := dk_4 (dk_at dksX5_axis_2 21 rfl rfl)
theorem dX5_axis_68 : decode cX5_axis 68 = .ok (.if_icmp .ne 16, 3) := dk_160 0 16 (dk_at dksX5_axis_3 0 rfl rfl)
theorem dX5_axis_71 : decode cX5_axis 71 = .ok (.aload_n 0, 1) := dk_42 (dk_at dksX5_axis_3 3 rfl rfl)
theorem dX5_axis_72 : decode cX5_axis 72 = .ok (.getfield 43, 3) := dk_180 0 43 (dk_at dksX5_axis_3 4 rfl rfl)
theorem dX5_axis_75 : decode cX5_axis 75 = .ok (.iload_n 1, 1) := dk_27 (dk_at dksX5_axis_3 7 rfl rfl)
theorem dX5_axis_76 : decode cX5_axis 76 = .ok (.iaload, 1) := dk_46 (dk_at dksX5_axis_3 8 rfl rfl)
theorem dX5_axis_77 : decode cX5_axis 77 = .ok (.iconst (-1), 1) := dk_2 (dk_at dksX5_axis_3 9 rfl rfl)
theorem dX5_axis_78 : decode cX5_axis 78 = .ok (.if_icmp .ne 6, 3) := dk_160 0 6 (dk_at dksX5_axis_3 10 rfl rfl)
theorem dX5_axis_81 : decode cX5_axis 81 = .ok (.bipush (-3), 2) := dk_16 253 (dk_at dksX5_axis_3 13 rfl rfl)
theorem dX5_axis_83 : decode cX5_axis 83 = .ok (.ireturn, 1) := dk_172 (dk_at dksX5_axis_3 15 rfl rfl)
theorem dX5_axis_84 : decode cX5_axis 84 = .ok (.aload_n 0, 1) := dk_42 (dk_at dksX5_axis_3 16 rfl rfl)
theorem dX5_axis_85 : decode cX5_axis 85 = .ok (.iload_n 1, 1) := dk_27 (dk_at dksX5_axis_3 17 rfl rfl)
theorem dX5_axis_86 : decode cX5_axis 86 = .ok (.iload_n 2, 1) := dk_28 (dk_at dksX5_axis_3 18 rfl rfl)
theorem dX5_axis_87 : decode cX5_axis 87 = .ok (.iload 5, 2) := dk_21 5 (dk_at dksX5_axis_3 19 rfl rfl)
theorem dX5_axis_89 : decode cX5_axis 89 = .ok (.invokevirtual 485, 3) := dk_182 1 229 (dk_at dksX5_axis_3 21 rfl rfl)
theorem dX5_axis_92 : decode cX5_axis 92 = .ok (.ifCond .ne 6, 3) := dk_154 0 6 (dk_at dksX5_axis_4 0 rfl rfl)
theorem dX5_axis_95 : decode cX5_axis 95 = .ok (.bipush (-4), 2) := dk_16 252 (dk_at dksX5_axis_4 3 rfl rfl)
theorem dX5_axis_97 : decode cX5_axis 97 = .ok (.ireturn, 1) := dk_172 (dk_at dksX5_axis_4 5 rfl rfl)
theorem dX5_axis_98 : decode cX5_axis 98 = .ok (.iconst 0, 1) := dk_3 (dk_at dksX5_axis_4 6 rfl rfl)
theorem dX5_axis_99 : decode cX5_axis 99 = .ok (.istore 6, 2) := dk_54 6 (dk_at dksX5_axis_4 7 rfl rfl)
theorem dX5_axis_101 : decode cX5_axis 101 = .ok (.iload 6, 2) := dk_21 6 (dk_at dksX5_axis_4 9 rfl rfl)
theorem dX5_axis_103 : decode cX5_axis 103 = .ok (.iload 5, 2) := dk_21 5 (dk_at dksX5_axis_4 11 rfl rfl)
theorem dX5_axis_105 : decode cX5_axis 105 = .ok (.if_icmp .ge 34, 3) := dk_162 0 34 (dk_at dksX5_axis_4 13 rfl rfl)
theorem dX5_axis_108 : decode cX5_axis 108 = .ok (.aload_n 0, 1) := dk_42 (dk_at dksX5_axis_4 16 rfl rfl)
theorem dX5_axis_109 : decode cX5_axis 109 = .ok (.getfield 49, 3) := dk_180 0 49 (dk_at dksX5_axis_4 17 rfl rfl)
theorem dX5_axis_112 : decode cX5_axis 112 = .ok (.iconst 2, 1) := dk_5 (dk_at dksX5_axis_4 20 rfl rfl)
theorem dX5_axis_113 : decode cX5_axis 113 = .ok (.iload_n 1, 1) := dk_27 (dk_at dksX5_axis_4 21 rfl rfl)
theorem dX5_axis_114 : decode cX5_axis 114 = .ok (.imul, 1) := dk_104 (dk_at dksX5_axis_4 22 rfl rfl)
theorem dX5_axis_115 : decode cX5_axis 115 = .ok (.iload_n 2, 1) := dk_28 (dk_at dksX5_axis_4 23 rfl rfl)
theorem dX5_axis_116 : decode cX5_axis 116 = .ok (.iadd, 1) := dk_96 (dk_at dksX5_axis_5 0 rfl rfl)
theorem dX5_axis_117 : decode cX5_axis 117 = .ok (.aaload, 1) := dk_50 (dk_at dksX5_axis_5 1 rfl rfl)
theorem dX5_axis_118 : decode cX5_axis 118 = .ok (.iload 6, 2) := dk_21 6 (dk_at dksX5_axis_5 2 rfl rfl)
theorem dX5_axis_120 : decode cX5_axis 120 = .ok (.iload_n 3, 1) := dk_29 (dk_at dksX5_axis_5 4 rfl rfl)
theorem dX5_axis_121 : decode cX5_axis 121 = .ok (.iload 6, 2) := dk_21 6 (dk_at dksX5_axis_5 5 rfl rfl)
theorem dX5_axis_123 : decode cX5_axis 123 = .ok (.iload 4, 2) := dk_21 4 (dk_at dksX5_axis_5 7 rfl rfl)
theorem dX5_axis_125 : decode cX5_axis 125 = .ok (.imul, 1) := dk_104 (dk_at dksX5_axis_5 9 rfl rfl)
theorem dX5_axis_126 : decode cX5_axis 126 = .ok (.iadd, 1) := dk_96 (dk_at dksX5_axis_5 10 rfl rfl)
theorem dX5_axis_127 : decode cX5_axis 127 = .ok (.i2d, 1) := dk_135 (dk_at dksX5_axis_5 11 rfl rfl)
theorem dX5_axis_128 : decode cX5_axis 128 = .ok (.ldc2_w 318, 3) := dk_20 1 62 (dk_at dksX5_axis_5 12 rfl rfl)
theorem dX5_axis_131 : decode cX5_axis 131 = .ok (.ddiv, 1) := dk_111 (dk_at dksX5_axis_5 15 rfl rfl)
theorem dX5_axis_132 : decode cX5_axis 132 = .ok (.dastore, 1) := dk_82 (dk_at dksX5_axis_5 16 rfl rfl)
theorem dX5_axis_133 : decode cX5_axis 133 = .ok (.iinc 6 1, 3) := dk_132 6 1 (dk_at dksX5_axis_5 17 rfl rfl)
theorem dX5_axis_136 : decode cX5_axis 136 = .ok (.goto (-35), 3) := dk_167 255 221 (dk_at dksX5_axis_5 20 rfl rfl)
theorem dX5_axis_139 : decode cX5_axis 139 = .ok (.aload_n 0, 1) := dk_42 (dk_at dksX5_axis_5 23 rfl rfl)
theorem dX5_axis_140 : decode cX5_axis 140 = .ok (.iload_n 1, 1) := dk_27 (dk_at dksX5_axis_6 0 rfl rfl)
theorem dX5_axis_141 : decode cX5_axis 141 = .ok (.invokevirtual 232, 3) := dk_182 0 232 (dk_at dksX5_axis_6 1 rfl rfl)
theorem dX5_axis_144 : decode cX5_axis 144 = .ok (.ireturn, 1) := dk_172 (dk_at dksX5_axis_6 4 rfl rfl)
abbrev cX5_hasRoom : ByteArray := prog_35_method_66_code
def yX5_hasRoom : MethodName := ⟨RX5, "hasRoom", "(III)Z"⟩
def dkwX5_hasRoom_2 : List UInt8 := [21, 4, 21, 5, 79, 21, 6, 172]
abbrev dktX5_hasRoom_2 : List UInt8 := dkwX5_hasRoom_2 ++ []
def dkwX5_hasRoom_1 : List UInt8 := [42, 182, 1, 221, 154, 0, 7, 4, 167, 0, 4, 3, 54, 6, 21, 6, 154, 0, 12, 42, 180, 0, 46]
abbrev dktX5_hasRoom_1 : List UInt8 := dkwX5_hasRoom_1 ++ dktX5_hasRoom_2
def dkwX5_hasRoom_0 : List UInt8 := [5, 27, 104, 28, 96, 54, 4, 42, 180, 0, 46, 21, 4, 46, 54, 5, 42, 180, 0, 46, 21, 4, 29, 79]
abbrev dktX5_hasRoom_0 : List UInt8 := dkwX5_hasRoom_0 ++ dktX5_hasRoom_1
theorem dksX5_hasRoom_0 : cX5_hasRoom.data.toList.drop 0 = dktX5_hasRoom_0 := by decide +kernel
theorem dksX5_hasRoom_1 : cX5_hasRoom.data.toList.drop 24 = dktX5_hasRoom_1 := dk_seg dksX5_hasRoom_0 24 rfl rfl
theorem dksX5_hasRoom_2 : cX5_hasRoom.data.toList.drop 47 = dktX5_hasRoom_2 := dk_seg dksX5_hasRoom_1 23 rfl rfl
theorem dX5_hasRoom_0 : decode cX5_hasRoom 0 = .ok (.iconst 2, 1) := dk_5 (dk_at dksX5_hasRoom_0 0 rfl rfl)
theorem dX5_hasRoom_1 : decode cX5_hasRoom 1 = .ok (.iload_n 1, 1) := dk_27 (dk_at dksX5_hasRoom_0 1 rfl rfl)
theorem dX5_hasRoom_2 : decode cX5_hasRoom 2 = .ok (.imul, 1) := dk_104 (dk_at dksX5_hasRoom_0 2 rfl rfl)
theorem dX5_hasRoom_3 : decode cX5_hasRoom 3 = .ok (.iload_n 2, 1) := dk_28 (dk_at dksX5_hasRoom_0 3 rfl rfl)
theorem dX5_hasRoom_4 : decode cX5_hasRoom 4 = .ok (.iadd, 1) := dk_96 (dk_at dksX5_hasRoom_0 4 rfl rfl)
theorem dX5_hasRoom_5 : decode cX5_hasRoom 5 = .ok (.istore 4, 2) := dk_54 4 (dk_at dksX5_hasRoom_0 5 rfl rfl)
theorem dX5_hasRoom_7 : decode cX5_hasRoom 7 = .ok (.aload_n 0, 1) := dk_42 (dk_at dksX5_hasRoom_0 7 rfl rfl)
theorem dX5_hasRoom_8 : decode cX5_hasRoom 8 = .ok (.getfield 46, 3) := dk_180 0 46 (dk_at dksX5_hasRoom_0 8 rfl rfl)
theorem dX5_hasRoom_11 : decode cX5_hasRoom 11 = .ok (.iload 4, 2) := dk_21 4 (dk_at dksX5_hasRoom_0 11 rfl rfl)
theorem dX5_hasRoom_13 : decode cX5_hasRoom 13 = .ok (.iaload, 1) := dk_46 (dk_at dksX5_hasRoom_0 13 rfl rfl)
theorem dX5_hasRoom_14 : decode cX5_hasRoom 14 = .ok (.istore 5, 2) := dk_54 5 (dk_at dksX5_hasRoom_0 14 rfl rfl)
theorem dX5_hasRoom_16 : decode cX5_hasRoom 16 = .ok (.aload_n 0, 1) := dk_42 (dk_at dksX5_hasRoom_0 16 rfl rfl)
theorem dX5_hasRoom_17 : decode cX5_hasRoom 17 = .ok (.getfield 46, 3) := dk_180 0 46 (dk_at dksX5_hasRoom_0 17 rfl rfl)
theorem dX5_hasRoom_20 : decode cX5_hasRoom 20 = .ok (.iload 4, 2) := dk_21 4 (dk_at dksX5_hasRoom_0 20 rfl rfl)
theorem dX5_hasRoom_22 : decode cX5_hasRoom 22 = .ok (.iload_n 3, 1) := dk_29 (dk_at dksX5_hasRoom_0 22 rfl rfl)
theorem dX5_hasRoom_23 : decode cX5_hasRoom 23 = .ok (.iastore, 1) := dk_79 (dk_at dksX5_hasRoom_0 23 rfl rfl)
theorem dX5_hasRoom_24 : decode cX5_hasRoom 24 = .ok (.aload_n 0, 1) := dk_42 (dk_at dksX5_hasRoom_1 0 rfl rfl)
theorem dX5_hasRoom_25 : decode cX5_hasRoom 25 = .ok (.invokevirtual 477, 3) := dk_182 1 221 (dk_at dksX5_hasRoom_1 1 rfl rfl)
theorem dX5_hasRoom_28 : decode cX5_hasRoom 28 = .ok (.ifCond .ne 7, 3) := dk_154 0 7 (dk_at dksX5_hasRoom_1 4 rfl rfl)
theorem dX5_hasRoom_31 : decode cX5_hasRoom 31 = .ok (.iconst 1, 1) := dk_4 (dk_at dksX5_hasRoom_1 7 rfl rfl)
theorem dX5_hasRoom_32 : decode cX5_hasRoom 32 = .ok (.goto 4, 3) := dk_167 0 4 (dk_at dksX5_hasRoom_1 8 rfl rfl)
theorem dX5_hasRoom_35 : decode cX5_hasRoom 35 = .ok (.iconst 0, 1) := dk_3 (dk_at dksX5_hasRoom_1 11 rfl rfl)
theorem dX5_hasRoom_36 : decode cX5_hasRoom 36 = .ok (.istore 6, 2) := dk_54 6 (dk_at dksX5_hasRoom_1 12 rfl rfl)
theorem dX5_hasRoom_38 : decode cX5_hasRoom 38 = .ok (.iload 6, 2) := dk_21 6 (dk_at dksX5_hasRoom_1 14 rfl rfl)
theorem dX5_hasRoom_40 : decode cX5_hasRoom 40 = .ok (.ifCond .ne 12, 3) := dk_154 0 12 (dk_at dksX5_hasRoom_1 16 rfl rfl)
theorem dX5_hasRoom_43 : decode cX5_hasRoom 43 = .ok (.aload_n 0, 1) := dk_42 (dk_at dksX5_hasRoom_1 19 rfl rfl)
theorem dX5_hasRoom_44 : decode cX5_hasRoom 44 = .ok (.getfield 46, 3) := dk_180 0 46 (dk_at dksX5_hasRoom_1 20 rfl rfl)
theorem dX5_hasRoom_47 : decode cX5_hasRoom 47 = .ok (.iload 4, 2) := dk_21 4 (dk_at dksX5_hasRoom_2 0 rfl rfl)
theorem dX5_hasRoom_49 : decode cX5_hasRoom 49 = .ok (.iload 5, 2) := dk_21 5 (dk_at dksX5_hasRoom_2 2 rfl rfl)
theorem dX5_hasRoom_51 : decode cX5_hasRoom 51 = .ok (.iastore, 1) := dk_79 (dk_at dksX5_hasRoom_2 4 rfl rfl)
theorem dX5_hasRoom_52 : decode cX5_hasRoom 52 = .ok (.iload 6, 2) := dk_21 6 (dk_at dksX5_hasRoom_2 5 rfl rfl)
theorem dX5_hasRoom_54 : decode cX5_hasRoom 54 = .ok (.ireturn, 1) := dk_172 (dk_at dksX5_hasRoom_2 7 rfl rfl)
abbrev cX5_axisBy : ByteArray := prog_35_method_68_code
def yX5_axisBy : MethodName := ⟨RX5, "axisBy", "(IIIII)I"⟩
def dkwX5_axisBy_8 : List UInt8 := [21, 6, 96, 49, 82, 132, 6, 1, 167, 255, 221, 42, 27, 182, 0, 232, 172]
abbrev dktX5_axisBy_8 : List UInt8 := dkwX5_axisBy_8 ++ []
def dkwX5_axisBy_7 : List UInt8 := [162, 0, 34, 42, 180, 0, 49, 5, 27, 104, 28, 96, 50, 21, 6, 42, 180, 0, 171, 29, 50, 21, 4]
abbrev dktX5_axisBy_7 : List UInt8 := dkwX5_axisBy_7 ++ dktX5_axisBy_8
def dkwX5_axisBy_6 : List UInt8 := [167, 255, 228, 42, 27, 28, 21, 5, 182, 1, 229, 154, 0, 6, 16, 252, 172, 3, 54, 6, 21, 6, 21, 5]
abbrev dktX5_axisBy_6 : List UInt8 := dkwX5_axisBy_6 ++ dktX5_axisBy_7
def dkwX5_axisBy_5 : List UInt8 := [162, 0, 27, 42, 180, 0, 174, 29, 50, 21, 4, 21, 6, 96, 51, 153, 0, 6, 16, 253, 172, 132, 6, 1]
abbrev dktX5_axisBy_5 : List UInt8 := dkwX5_axisBy_5 ++ dktX5_axisBy_6
def dkwX5_axisBy_4 : List UInt8 := [21, 4, 42, 180, 0, 168, 29, 46, 21, 5, 100, 164, 0, 6, 16, 244, 172, 3, 54, 6, 21, 6, 21, 5]
abbrev dktX5_axisBy_4 : List UInt8 := dkwX5_axisBy_4 ++ dktX5_axisBy_5
def dkwX5_axisBy_3 : List UInt8 := [156, 0, 6, 16, 245, 172, 42, 180, 0, 165, 29, 46, 6, 159, 0, 6, 16, 243, 172, 21, 4, 155, 0, 17]
abbrev dktX5_axisBy_3 : List UInt8 := dkwX5_axisBy_3 ++ dktX5_axisBy_4
def dkwX5_axisBy_2 : List UInt8 := [4, 160, 0, 16, 42, 180, 0, 43, 27, 46, 2, 160, 0, 6, 16, 253, 172, 42, 180, 0, 165, 29, 46]
abbrev dktX5_axisBy_2 : List UInt8 := dkwX5_axisBy_2 ++ dktX5_axisBy_3
def dkwX5_axisBy_1 : List UInt8 := [21, 5, 4, 16, 8, 184, 0, 183, 154, 0, 6, 16, 254, 172, 42, 180, 0, 34, 27, 51, 153, 0, 18, 28]
abbrev dktX5_axisBy_1 : List UInt8 := dkwX5_axisBy_1 ++ dktX5_axisBy_2
def dkwX5_axisBy_0 : List UInt8 := [27, 184, 1, 224, 153, 0, 30, 28, 3, 4, 184, 0, 183, 153, 0, 21, 29, 184, 1, 232, 153, 0, 14]
abbrev dktX5_axisBy_0 : List UInt8 := dkwX5_axisBy_0 ++ dktX5_axisBy_1
theorem dksX5_axisBy_0 : cX5_axisBy.data.toList.drop 0 = dktX5_axisBy_0 := by decide +kernel
theorem dksX5_axisBy_1 : cX5_axisBy.data.toList.drop 23 = dktX5_axisBy_1 := dk_seg dksX5_axisBy_0 23 rfl rfl
theorem dksX5_axisBy_2 : cX5_axisBy.data.toList.drop 47 = dktX5_axisBy_2 := dk_seg dksX5_axisBy_1 24 rfl rfl
theorem dksX5_axisBy_3 : cX5_axisBy.data.toList.drop 70 = dktX5_axisBy_3 := dk_seg dksX5_axisBy_2 23 rfl rfl
theorem dksX5_axisBy_4 : cX5_axisBy.data.toList.drop 94 = dktX5_axisBy_4 := dk_seg dksX5_axisBy_3 24 rfl rfl
theorem dksX5_axisBy_5 : cX5_axisBy.data.toList.drop 118 = dktX5_axisBy_5 := dk_seg dksX5_axisBy_4 24 rfl rfl
theorem dksX5_axisBy_6 : cX5_axisBy.data.toList.drop 142 = dktX5_axisBy_6 := dk_seg dksX5_axisBy_5 24 rfl rfl
theorem dksX5_axisBy_7 : cX5_axisBy.data.toList.drop 166 = dktX5_axisBy_7 := dk_seg dksX5_axisBy_6 24 rfl rfl
theorem dksX5_axisBy_8 : cX5_axisBy.data.toList.drop 189 = dktX5_axisBy_8 := dk_seg dksX5_axisBy_7 23 rfl rfl
theorem dX5_axisBy_0 : decode cX5_axisBy 0 = .ok (.iload_n 1, 1) := dk_27 (dk_at dksX5_axisBy_0 0 rfl rfl)
theorem dX5_axisBy_1 : decode cX5_axisBy 1 = .ok (.invokestatic 480, 3) := dk_184 1 224 (dk_at dksX5_axisBy_0 1 rfl rfl)
theorem dX5_axisBy_4 : decode cX5_axisBy 4 = .ok (.ifCond .eq 30, 3) := dk_153 0 30 (dk_at dksX5_axisBy_0 4 rfl rfl)
theorem dX5_axisBy_7 : decode cX5_axisBy 7 = .ok (.iload_n 2, 1) := dk_28 (dk_at dksX5_axisBy_0 7 rfl rfl)
theorem dX5_axisBy_8 : decode cX5_axisBy 8 = .ok (.iconst 0, 1) := dk_3 (dk_at dksX5_axisBy_0 8 rfl rfl)
theorem dX5_axisBy_9 : decode cX5_axisBy 9 = .ok (.iconst 1, 1) := dk_4 (dk_at dksX5_axisBy_0 9 rfl rfl)
theorem dX5_axisBy_10 : decode cX5_axisBy 10 = .ok (.invokestatic 183, 3) := dk_184 0 183 (dk_at dksX5_axisBy_0 10 rfl rfl)
theorem dX5_axisBy_13 : decode cX5_axisBy 13 = .ok (.ifCond .eq 21, 3) := dk_153 0 21 (dk_at dksX5_axisBy_0 13 rfl rfl)
theorem dX5_axisBy_16 : decode cX5_axisBy 16 = .ok (.iload_n 3, 1) := dk_29 (dk_at dksX5_axisBy_0 16 rfl rfl)
theorem dX5_axisBy_17 : decode cX5_axisBy 17 = .ok (.invokestatic 488, 3) := dk_184 1 232 (dk_at dksX5_axisBy_0 17 rfl rfl)
theorem dX5_axisBy_20 : decode cX5_axisBy 20 = .ok (.ifCond .eq 14, 3) := dk_153 0 14 (dk_at dksX5_axisBy_0 20 rfl rfl)
theorem dX5_axisBy_23 : decode cX5_axisBy 23 = .ok (.iload 5, 2) := dk_21 5 (dk_at dksX5_axisBy_1 0 rfl rfl)
theorem dX5_axisBy_25 : decode cX5_axisBy 25 = .ok (.iconst 1, 1) := dk_4 (dk_at dksX5_axisBy_1 2 rfl rfl)
theorem dX5_axisBy_26 : decode cX5_axisBy 26 = .ok (.bipush 8, 2) := dk_16 8 (dk_at dksX5_axisBy_1 3 rfl rfl)
theorem dX5_axisBy_28 : decode cX5_axisBy 28 = .ok (.invokestatic 183, 3) := dk_184 0 183 (dk_at dksX5_axisBy_1 5 rfl rfl)
theorem dX5_axisBy_31 : decode cX5_axisBy 31 = .ok (.ifCond .ne 6, 3) := dk_154 0 6 (dk_at dksX5_axisBy_1 8 rfl rfl)
theorem dX5_axisBy_34 : decode cX5_axisBy 34 = .ok (.bipush (-2), 2) := dk_16 254 (dk_at dksX5_axisBy_1 11 rfl rfl)
theorem dX5_axisBy_36 : decode cX5_axisBy 36 = .ok (.ireturn, 1) := dk_172 (dk_at dksX5_axisBy_1 13 rfl rfl)
theorem dX5_axisBy_37 : decode cX5_axisBy 37 = .ok (.aload_n 0, 1) := dk_42 (dk_at dksX5_axisBy_1 14 rfl rfl)
theorem dX5_axisBy_38 : decode cX5_axisBy 38 = .ok (.getfield 34, 3) := dk_180 0 34 (dk_at dksX5_axisBy_1 15 rfl rfl)
theorem dX5_axisBy_41 : decode cX5_axisBy 41 = .ok (.iload_n 1, 1) := dk_27 (dk_at dksX5_axisBy_1 18 rfl rfl)
theorem dX5_axisBy_42 : decode cX5_axisBy 42 = .ok (.baload, 1) := dk_51 (dk_at dksX5_axisBy_1 19 rfl rfl)
theorem dX5_axisBy_43 : decode cX5_axisBy 43 = .ok (.ifCond .eq 18, 3) := dk_153 0 18 (dk_at dksX5_axisBy_1 20 rfl rfl)
theorem dX5_axisBy_46 : decode cX5_axisBy 46 = .ok (.iload_n 2, 1) := dk_28 (dk_at dksX5_axisBy_1 23 rfl rfl)
theorem dX5_axisBy_47 : decode cX5_axisBy 47 = .ok (.iconst 1, 1) := dk_4 (dk_at dksX5_axisBy_2 0 rfl rfl)
theorem dX5_axisBy_48 : decode cX5_axisBy 48 = .ok (.if_icmp .ne 16, 3) := dk_160 0 16 (dk_at dksX5_axisBy_2 1 rfl rfl)
theorem dX5_axisBy_51 : decode cX5_axisBy 51 = .ok (.aload_n 0, 1) := dk_42 (dk_at dksX5_axisBy_2 4 rfl rfl)
theorem dX5_axisBy_52 : decode cX5_axisBy 52 = .ok (.getfield 43, 3) := dk_180 0 43 (dk_at dksX5_axisBy_2 5 rfl rfl)
theorem dX5_axisBy_55 : decode cX5_axisBy 55 = .ok (.iload_n 1, 1) := dk_27 (dk_at dksX5_axisBy_2 8 rfl rfl)
theorem dX5_axisBy_56 : decode cX5_axisBy 56 = .ok (.iaload, 1) := dk_46 (dk_at dksX5_axisBy_2 9 rfl rfl)
theorem dX5_axisBy_57 : decode cX5_axisBy 57 = .ok (.iconst (-1), 1) := dk_2 (dk_at dksX5_axisBy_2 10 rfl rfl)
theorem dX5_axisBy_58 : decode cX5_axisBy 58 = .ok (.if_icmp .ne 6, 3) := dk_160 0 6 (dk_at dksX5_axisBy_2 11 rfl rfl)
theorem dX5_axisBy_61 : decode cX5_axisBy 61 = .ok (.bipush (-3), 2) := dk_16 253 (dk_at dksX5_axisBy_2 14 rfl rfl)
theorem dX5_axisBy_63 : decode cX5_axisBy 63 = .ok (.ireturn, 1) := dk_172 (dk_at dksX5_axisBy_2 16 rfl rfl)
theorem dX5_axisBy_64 : decode cX5_axisBy 64 = .ok (.aload_n 0, 1) := dk_42 (dk_at dksX5_axisBy_2 17 rfl rfl)
theorem dX5_axisBy_65 : decode cX5_axisBy 65 = .ok (.getfield 165, 3) := dk_180 0 165 (dk_at dksX5_axisBy_2 18 rfl rfl)
theorem dX5_axisBy_68 : decode cX5_axisBy 68 = .ok (.iload_n 3, 1) := dk_29 (dk_at dksX5_axisBy_2 21 rfl rfl)
theorem dX5_axisBy_69 : decode cX5_axisBy 69 = .ok (.iaload, 1) := dk_46 (dk_at dksX5_axisBy_2 22 rfl rfl)
theorem dX5_axisBy_70 : decode cX5_axisBy 70 = .ok (.ifCond .ge 6, 3) := dk_156 0 6 (dk_at dksX5_axisBy_3 0 rfl rfl)
theorem dX5_axisBy_73 : decode cX5_axisBy 73 = .ok (.bipush (-11), 2) := dk_16 245 (dk_at dksX5_axisBy_3 3 rfl rfl)
theorem dX5_axisBy_75 : decode cX5_axisBy 75 = .ok (.ireturn, 1) := dk_172 (dk_at dksX5_axisBy_3 5 rfl rfl)
theorem dX5_axisBy_76 : decode cX5_axisBy 76 = .ok (.aload_n 0, 1) := dk_42 (dk_at dksX5_axisBy_3 6 rfl rfl)
theorem dX5_axisBy_77 : decode cX5_axisBy 77 = .ok (.getfield 165, 3) := dk_180 0 165 (dk_at dksX5_axisBy_3 7 rfl rfl)
theorem dX5_axisBy_80 : decode cX5_axisBy 80 = .ok (.iload_n 3, 1) := dk_29 (dk_at dksX5_axisBy_3 10 rfl rfl)
theorem dX5_axisBy_81 : decode cX5_axisBy 81 = .ok (.iaload, 1) := dk_46 (dk_at dksX5_axisBy_3 11 rfl rfl)
theorem dX5_axisBy_82 : decode cX5_axisBy 82 = .ok (.iconst 3, 1) := dk_6 (dk_at dksX5_axisBy_3 12 rfl rfl)
theorem dX5_axisBy_83 : decode cX5_axisBy 83 = .ok (.if_icmp .eq 6, 3) := dk_159 0 6 (dk_at dksX5_axisBy_3 13 rfl rfl)
theorem dX5_axisBy_86 : decode cX5_axisBy 86 = .ok (.bipush (-13), 2) := dk_16 243 (dk_at dksX5_axisBy_3 16 rfl rfl)
theorem dX5_axisBy_88 : decode cX5_axisBy 88 = .ok (.ireturn, 1) := dk_172 (dk_at dksX5_axisBy_3 18 rfl rfl)
theorem dX5_axisBy_89 : decode cX5_axisBy 89 = .ok (.iload 4, 2) := dk_21 4 (dk_at dksX5_axisBy_3 19 rfl rfl)
theorem dX5_axisBy_91 : decode cX5_axisBy 91 = .ok (.ifCond .lt 17, 3) := dk_155 0 17 (dk_at dksX5_axisBy_3 21 rfl rfl)
theorem dX5_axisBy_94 : decode cX5_axisBy 94 = .ok (.iload 4, 2) := dk_21 4 (dk_at dksX5_axisBy_4 0 rfl rfl)
theorem dX5_axisBy_96 : decode cX5_axisBy 96 = .ok (.aload_n 0, 1) := dk_42 (dk_at dksX5_axisBy_4 2 rfl rfl)
theorem dX5_axisBy_97 : decode cX5_axisBy 97 = .ok (.getfield 168, 3) := dk_180 0 168 (dk_at dksX5_axisBy_4 3 rfl rfl)
theorem dX5_axisBy_100 : decode cX5_axisBy 100 = .ok (.iload_n 3, 1) := dk_29 (dk_at dksX5_axisBy_4 6 rfl rfl)
theorem dX5_axisBy_101 : decode cX5_axisBy 101 = .ok (.iaload, 1) := dk_46 (dk_at dksX5_axisBy_4 7 rfl rfl)
theorem dX5_axisBy_102 : decode cX5_axisBy 102 = .ok (.iload 5, 2) := dk_21 5 (dk_at dksX5_axisBy_4 8 rfl rfl)
theorem dX5_axisBy_104 : decode cX5_axisBy 104 = .ok (.isub, 1) := dk_100 (dk_at dksX5_axisBy_4 10 rfl rfl)
theorem dX5_axisBy_105 : decode cX5_axisBy 105 = .ok (.if_icmp .le 6, 3) := dk_164 0 6 (dk_at dksX5_axisBy_4 11 rfl rfl)
theorem dX5_axisBy_108 : decode cX5_axisBy 108 = .ok (.bipush (-12), 2) := dk_16 244 (dk_at dksX5_axisBy_4 14 rfl rfl)
theorem dX5_axisBy_110 : decode cX5_axisBy 110 = .ok (.ireturn, 1) := dk_172 (dk_at dksX5_axisBy_4 16 rfl rfl)
theorem dX5_axisBy_111 : decode cX5_axisBy 111 = .ok (.iconst 0, 1) := dk_3 (dk_at dksX5_axisBy_4 17 rfl rfl)
theorem dX5_axisBy_112 : decode cX5_axisBy 112 = .ok (.istore 6, 2) := dk_54 6 (dk_at dksX5_axisBy_4 18 rfl rfl)
theorem dX5_axisBy_114 : decode cX5_axisBy 114 = .ok (.iload 6, 2) := dk_21 6 (dk_at dksX5_axisBy_4 20 rfl rfl)
theorem dX5_axisBy_116 : decode cX5_axisBy 116 = .ok (.iload 5, 2) := dk_21 5 (dk_at dksX5_axisBy_4 22 rfl rfl)
theorem dX5_axisBy_118 : decode cX5_axisBy 118 = .ok (.if_icmp .ge 27, 3) := dk_162 0 27 (dk_at dksX5_axisBy_5 0 rfl rfl)
theorem dX5_axisBy_121 : decode cX5_axisBy 121 = .ok (.aload_n 0, 1) := dk_42 (dk_at dksX5_axisBy_5 3 rfl rfl)
theorem dX5_axisBy_122 : decode cX5_axisBy 122 = .ok (.getfield 174, 3) := dk_180 0 174 (dk_at dksX5_axisBy_5 4 rfl rfl)
theorem dX5_axisBy_125 : decode cX5_axisBy 125 = .ok (.iload_n 3, 1) := dk_29 (dk_at dksX5_axisBy_5 7 rfl rfl)
theorem dX5_axisBy_126 : decode cX5_axisBy 126 = .ok (.aaload, 1) := dk_50 (dk_at dksX5_axisBy_5 8 rfl rfl)
theorem dX5_axisBy_127 : decode cX5_axisBy 127 = .ok (.iload 4, 2) := dk_21 4 (dk_at dksX5_axisBy_5 9 rfl rfl)
theorem dX5_axisBy_129 : decode cX5_axisBy 129 = .ok (.iload 6, 2) := dk_21 6 (dk_at dksX5_axisBy_5 11 rfl rfl)
theorem dX5_axisBy_131 : decode cX5_axisBy 131 = .ok (.iadd, 1) := dk_96 (dk_at dksX5_axisBy_5 13 rfl rfl)
theorem dX5_axisBy_132 : decode cX5_axisBy 132 = .ok (.baload, 1) := dk_51 (dk_at dksX5_axisBy_5 14 rfl rfl)
theorem dX5_axisBy_133 : decode cX5_axisBy 133 = .ok (.ifCond .eq 6, 3) := dk_153 0 6 (dk_at dksX5_axisBy_5 15 rfl rfl)
theorem dX5_axisBy_136 : decode cX5_axisBy 136 = .ok (.bipush (-3), 2) := dk_16 253 (dk_at dksX5_axisBy_5 18 rfl rfl)
theorem dX5_axisBy_138 : decode cX5_axisBy 138 = .ok (.ireturn, 1) := dk_172 (dk_at dksX5_axisBy_5 20 rfl rfl)
theorem dX5_axisBy_139 : decode cX5_axisBy 139 = .ok (.iinc 6 1, 3) := dk_132 6 1 (dk_at dksX5_axisBy_5 21 rfl rfl)
theorem dX5_axisBy_142 : decode cX5_axisBy 142 = .ok (.goto (-28), 3) := dk_167 255 228 (dk_at dksX5_axisBy_6 0 rfl rfl)
theorem dX5_axisBy_145 : decode cX5_axisBy 145 = .ok (.aload_n 0, 1) := dk_42 (dk_at dksX5_axisBy_6 3 rfl rfl)
theorem dX5_axisBy_146 : decode cX5_axisBy 146 = .ok (.iload_n 1, 1) := dk_27 (dk_at dksX5_axisBy_6 4 rfl rfl)
theorem dX5_axisBy_147 : decode cX5_axisBy 147 = .ok (.iload_n 2, 1) := dk_28 (dk_at dksX5_axisBy_6 5 rfl rfl)
theorem dX5_axisBy_148 : decode cX5_axisBy 148 = .ok (.iload 5, 2) := dk_21 5 (dk_at dksX5_axisBy_6 6 rfl rfl)
theorem dX5_axisBy_150 : decode cX5_axisBy 150 = .ok (.invokevirtual 485, 3) := dk_182 1 229 (dk_at dksX5_axisBy_6 8 rfl rfl)
theorem dX5_axisBy_153 : decode cX5_axisBy 153 = .ok (.ifCond .ne 6, 3) := dk_154 0 6 (dk_at dksX5_axisBy_6 11 rfl rfl)
theorem dX5_axisBy_156 : decode cX5_axisBy 156 = .ok (.bipush (-4), 2) := dk_16 252 (dk_at dksX5_axisBy_6 14 rfl rfl)
theorem dX5_axisBy_158 : decode cX5_axisBy 158 = .ok (.ireturn, 1) := dk_172 (dk_at dksX5_axisBy_6 16 rfl rfl)
theorem dX5_axisBy_159 : decode cX5_axisBy 159 = .ok (.iconst 0, 1) := dk_3 (dk_at dksX5_axisBy_6 17 rfl rfl)
theorem dX5_axisBy_160 : decode cX5_axisBy 160 = .ok (.istore 6, 2) := dk_54 6 (dk_at dksX5_axisBy_6 18 rfl rfl)
theorem dX5_axisBy_162 : decode cX5_axisBy 162 = .ok (.iload 6, 2) := dk_21 6 (dk_at dksX5_axisBy_6 20 rfl rfl)
theorem dX5_axisBy_164 : decode cX5_axisBy 164 = .ok (.iload 5, 2) := dk_21 5 (dk_at dksX5_axisBy_6 22 rfl rfl)
theorem dX5_axisBy_166 : decode cX5_axisBy 166 = .ok (.if_icmp .ge 34, 3) := dk_162 0 34 (dk_at dksX5_axisBy_7 0 rfl rfl)
theorem dX5_axisBy_169 : decode cX5_axisBy 169 = .ok (.aload_n 0, 1) := dk_42 (dk_at dksX5_axisBy_7 3 rfl rfl)
theorem dX5_axisBy_170 : decode cX5_axisBy 170 = .ok (.getfield 49, 3) := dk_180 0 49 (dk_at dksX5_axisBy_7 4 rfl rfl)
theorem dX5_axisBy_173 : decode cX5_axisBy 173 = .ok (.iconst 2, 1) := dk_5 (dk_at dksX5_axisBy_7 7 rfl rfl)
theorem dX5_axisBy_174 : decode cX5_axisBy 174 = .ok (.iload_n 1, 1) := dk_27 (dk_at dksX5_axisBy_7 8 rfl rfl)
theorem dX5_axisBy_175 : decode cX5_axisBy 175 = .ok (.imul, 1) := dk_104 (dk_at dksX5_axisBy_7 9 rfl rfl)
theorem dX5_axisBy_176 : decode cX5_axisBy 176 = .ok (.iload_n 2, 1) := dk_28 (dk_at dksX5_axisBy_7 10 rfl rfl)
theorem dX5_axisBy_177 : decode cX5_axisBy 177 = .ok (.iadd, 1) := dk_96 (dk_at dksX5_axisBy_7 11 rfl rfl)
theorem dX5_axisBy_178 : decode cX5_axisBy 178 = .ok (.aaload, 1) := dk_50 (dk_at dksX5_axisBy_7 12 rfl rfl)
theorem dX5_axisBy_179 : decode cX5_axisBy 179 = .ok (.iload 6, 2) := dk_21 6 (dk_at dksX5_axisBy_7 13 rfl rfl)
theorem dX5_axisBy_181 : decode cX5_axisBy 181 = .ok (.aload_n 0, 1) := dk_42 (dk_at dksX5_axisBy_7 15 rfl rfl)
theorem dX5_axisBy_182 : decode cX5_axisBy 182 = .ok (.getfield 171, 3) := dk_180 0 171 (dk_at dksX5_axisBy_7 16 rfl rfl)
theorem dX5_axisBy_185 : decode cX5_axisBy 185 = .ok (.iload_n 3, 1) := dk_29 (dk_at dksX5_axisBy_7 19 rfl rfl)
theorem dX5_axisBy_186 : decode cX5_axisBy 186 = .ok (.aaload, 1) := dk_50 (dk_at dksX5_axisBy_7 20 rfl rfl)
theorem dX5_axisBy_187 : decode cX5_axisBy 187 = .ok (.iload 4, 2) := dk_21 4 (dk_at dksX5_axisBy_7 21 rfl rfl)
theorem dX5_axisBy_189 : decode cX5_axisBy 189 = .ok (.iload 6, 2) := dk_21 6 (dk_at dksX5_axisBy_8 0 rfl rfl)
theorem dX5_axisBy_191 : decode cX5_axisBy 191 = .ok (.iadd, 1) := dk_96 (dk_at dksX5_axisBy_8 2 rfl rfl)
theorem dX5_axisBy_192 : decode cX5_axisBy 192 = .ok (.daload, 1) := dk_49 (dk_at dksX5_axisBy_8 3 rfl rfl)
theorem dX5_axisBy_193 : decode cX5_axisBy 193 = .ok (.dastore, 1) := dk_82 (dk_at dksX5_axisBy_8 4 rfl rfl)
theorem dX5_axisBy_194 : decode cX5_axisBy 194 = .ok (.iinc 6 1, 3) := dk_132 6 1 (dk_at dksX5_axisBy_8 5 rfl rfl)
theorem dX5_axisBy_197 : decode cX5_axisBy 197 = .ok (.goto (-35), 3) := dk_167 255 221 (dk_at dksX5_axisBy_8 8 rfl rfl)
theorem dX5_axisBy_200 : decode cX5_axisBy 200 = .ok (.aload_n 0, 1) := dk_42 (dk_at dksX5_axisBy_8 11 rfl rfl)
theorem dX5_axisBy_201 : decode cX5_axisBy 201 = .ok (.iload_n 1, 1) := dk_27 (dk_at dksX5_axisBy_8 12 rfl rfl)
theorem dX5_axisBy_202 : decode cX5_axisBy 202 = .ok (.invokevirtual 232, 3) := dk_182 0 232 (dk_at dksX5_axisBy_8 13 rfl rfl)
theorem dX5_axisBy_205 : decode cX5_axisBy 205 = .ok (.ireturn, 1) := dk_172 (dk_at dksX5_axisBy_8 16 rfl rfl)
abbrev cX5_isRow : ByteArray := prog_35_method_98_code
def yX5_isRow : MethodName := ⟨RX5, "isRow", "(I)Z"⟩
def dkwX5_isRow_0 : List UInt8 := [26, 3, 6, 184, 0, 183, 172]
abbrev dktX5_isRow_0 : List UInt8 := dkwX5_isRow_0 ++ []
theorem dksX5_isRow_0 : cX5_isRow.data.toList.drop 0 = dktX5_isRow_0 := by decide +kernel
theorem dX5_isRow_0 : decode cX5_isRow 0 = .ok (.iload_n 0, 1) := dk_26 (dk_at dksX5_isRow_0 0 rfl rfl)
theorem dX5_isRow_1 : decode cX5_isRow 1 = .ok (.iconst 0, 1) := dk_3 (dk_at dksX5_isRow_0 1 rfl rfl)
theorem dX5_isRow_2 : decode cX5_isRow 2 = .ok (.iconst 3, 1) := dk_6 (dk_at dksX5_isRow_0 2 rfl rfl)
theorem dX5_isRow_3 : decode cX5_isRow 3 = .ok (.invokestatic 183, 3) := dk_184 0 183 (dk_at dksX5_isRow_0 3 rfl rfl)
theorem dX5_isRow_6 : decode cX5_isRow 6 = .ok (.ireturn, 1) := dk_172 (dk_at dksX5_isRow_0 6 rfl rfl)
abbrev cX5_drop : ByteArray := prog_35_method_69_code
def yX5_drop : MethodName := ⟨RX5, "drop", "(I)I"⟩
def dkwX5_drop_1 : List UInt8 := [180, 0, 34, 27, 3, 84, 4, 172]
abbrev dktX5_drop_1 : List UInt8 := dkwX5_drop_1 ++ []
def dkwX5_drop_0 : List UInt8 := [27, 184, 1, 224, 154, 0, 6, 16, 254, 172, 42, 180, 0, 34, 27, 51, 154, 0, 6, 16, 253, 172, 42]
abbrev dktX5_drop_0 : List UInt8 := dkwX5_drop_0 ++ dktX5_drop_1
theorem dksX5_drop_0 : cX5_drop.data.toList.drop 0 = dktX5_drop_0 := by decide +kernel
theorem dksX5_drop_1 : cX5_drop.data.toList.drop 23 = dktX5_drop_1 := dk_seg dksX5_drop_0 23 rfl rfl
theorem dX5_drop_0 : decode cX5_drop 0 = .ok (.iload_n 1, 1) := dk_27 (dk_at dksX5_drop_0 0 rfl rfl)
theorem dX5_drop_1 : decode cX5_drop 1 = .ok (.invokestatic 480, 3) := dk_184 1 224 (dk_at dksX5_drop_0 1 rfl rfl)
theorem dX5_drop_4 : decode cX5_drop 4 = .ok (.ifCond .ne 6, 3) := dk_154 0 6 (dk_at dksX5_drop_0 4 rfl rfl)
theorem dX5_drop_7 : decode cX5_drop 7 = .ok (.bipush (-2), 2) := dk_16 254 (dk_at dksX5_drop_0 7 rfl rfl)
theorem dX5_drop_9 : decode cX5_drop 9 = .ok (.ireturn, 1) := dk_172 (dk_at dksX5_drop_0 9 rfl rfl)
theorem dX5_drop_10 : decode cX5_drop 10 = .ok (.aload_n 0, 1) := dk_42 (dk_at dksX5_drop_0 10 rfl rfl)
theorem dX5_drop_11 : decode cX5_drop 11 = .ok (.getfield 34, 3) := dk_180 0 34 (dk_at dksX5_drop_0 11 rfl rfl)
theorem dX5_drop_14 : decode cX5_drop 14 = .ok (.iload_n 1, 1) := dk_27 (dk_at dksX5_drop_0 14 rfl rfl)
theorem dX5_drop_15 : decode cX5_drop 15 = .ok (.baload, 1) := dk_51 (dk_at dksX5_drop_0 15 rfl rfl)
theorem dX5_drop_16 : decode cX5_drop 16 = .ok (.ifCond .ne 6, 3) := dk_154 0 6 (dk_at dksX5_drop_0 16 rfl rfl)
theorem dX5_drop_19 : decode cX5_drop 19 = .ok (.bipush (-3), 2) := dk_16 253 (dk_at dksX5_drop_0 19 rfl rfl)
theorem dX5_drop_21 : decode cX5_drop 21 = .ok (.ireturn, 1) := dk_172 (dk_at dksX5_drop_0 21 rfl rfl)
theorem dX5_drop_22 : decode cX5_drop 22 = .ok (.aload_n 0, 1) := dk_42 (dk_at dksX5_drop_0 22 rfl rfl)
theorem dX5_drop_23 : decode cX5_drop 23 = .ok (.getfield 34, 3) := dk_180 0 34 (dk_at dksX5_drop_1 0 rfl rfl)
theorem dX5_drop_26 : decode cX5_drop 26 = .ok (.iload_n 1, 1) := dk_27 (dk_at dksX5_drop_1 3 rfl rfl)
theorem dX5_drop_27 : decode cX5_drop 27 = .ok (.iconst 0, 1) := dk_3 (dk_at dksX5_drop_1 4 rfl rfl)
theorem dX5_drop_28 : decode cX5_drop 28 = .ok (.bastore, 1) := dk_84 (dk_at dksX5_drop_1 5 rfl rfl)
theorem dX5_drop_29 : decode cX5_drop 29 = .ok (.iconst 1, 1) := dk_4 (dk_at dksX5_drop_1 6 rfl rfl)
theorem dX5_drop_30 : decode cX5_drop 30 = .ok (.ireturn, 1) := dk_172 (dk_at dksX5_drop_1 7 rfl rfl)
abbrev cX5_at : ByteArray := prog_35_method_72_code
def yX5_at : MethodName := ⟨RX5, "at", "(III)J"⟩
def dkwX5_at_1 : List UInt8 := [182, 1, 239, 42, 180, 1, 26, 42, 180, 1, 30, 184, 1, 79, 173]
abbrev dktX5_at_1 : List UInt8 := dkwX5_at_1 ++ []
def dkwX5_at_0 : List UInt8 := [42, 27, 28, 29, 182, 1, 235, 54, 4, 21, 4, 153, 0, 7, 21, 4, 133, 173, 42, 27, 28, 29]
abbrev dktX5_at_0 : List UInt8 := dkwX5_at_0 ++ dktX5_at_1
theorem dksX5_at_0 : cX5_at.data.toList.drop 0 = dktX5_at_0 := by decide +kernel
theorem dksX5_at_1 : cX5_at.data.toList.drop 22 = dktX5_at_1 := dk_seg dksX5_at_0 22 rfl rfl
theorem dX5_at_0 : decode cX5_at 0 = .ok (.aload_n 0, 1) := dk_42 (dk_at dksX5_at_0 0 rfl rfl)
theorem dX5_at_1 : decode cX5_at 1 = .ok (.iload_n 1, 1) := dk_27 (dk_at dksX5_at_0 1 rfl rfl)
theorem dX5_at_2 : decode cX5_at 2 = .ok (.iload_n 2, 1) := dk_28 (dk_at dksX5_at_0 2 rfl rfl)
theorem dX5_at_3 : decode cX5_at 3 = .ok (.iload_n 3, 1) := dk_29 (dk_at dksX5_at_0 3 rfl rfl)
theorem dX5_at_4 : decode cX5_at 4 = .ok (.invokevirtual 491, 3) := dk_182 1 235 (dk_at dksX5_at_0 4 rfl rfl)
theorem dX5_at_7 : decode cX5_at 7 = .ok (.istore 4, 2) := dk_54 4 (dk_at dksX5_at_0 7 rfl rfl)
theorem dX5_at_9 : decode cX5_at 9 = .ok (.iload 4, 2) := dk_21 4 (dk_at dksX5_at_0 9 rfl rfl)
theorem dX5_at_11 : decode cX5_at 11 = .ok (.ifCond .eq 7, 3) := dk_153 0 7 (dk_at dksX5_at_0 11 rfl rfl)
theorem dX5_at_14 : decode cX5_at 14 = .ok (.iload 4, 2) := dk_21 4 (dk_at dksX5_at_0 14 rfl rfl)
theorem dX5_at_16 : decode cX5_at 16 = .ok (.i2l, 1) := dk_133 (dk_at dksX5_at_0 16 rfl rfl)
theorem dX5_at_17 : decode cX5_at 17 = .ok (.lreturn, 1) := dk_173 (dk_at dksX5_at_0 17 rfl rfl)
theorem dX5_at_18 : decode cX5_at 18 = .ok (.aload_n 0, 1) := dk_42 (dk_at dksX5_at_0 18 rfl rfl)
theorem dX5_at_19 : decode cX5_at 19 = .ok (.iload_n 1, 1) := dk_27 (dk_at dksX5_at_0 19 rfl rfl)
theorem dX5_at_20 : decode cX5_at 20 = .ok (.iload_n 2, 1) := dk_28 (dk_at dksX5_at_0 20 rfl rfl)
theorem dX5_at_21 : decode cX5_at 21 = .ok (.iload_n 3, 1) := dk_29 (dk_at dksX5_at_0 21 rfl rfl)
theorem dX5_at_22 : decode cX5_at 22 = .ok (.invokevirtual 495, 3) := dk_182 1 239 (dk_at dksX5_at_1 0 rfl rfl)
theorem dX5_at_25 : decode cX5_at 25 = .ok (.aload_n 0, 1) := dk_42 (dk_at dksX5_at_1 3 rfl rfl)
theorem dX5_at_26 : decode cX5_at 26 = .ok (.getfield 282, 3) := dk_180 1 26 (dk_at dksX5_at_1 4 rfl rfl)
theorem dX5_at_29 : decode cX5_at 29 = .ok (.aload_n 0, 1) := dk_42 (dk_at dksX5_at_1 7 rfl rfl)
theorem dX5_at_30 : decode cX5_at 30 = .ok (.getfield 286, 3) := dk_180 1 30 (dk_at dksX5_at_1 8 rfl rfl)
theorem dX5_at_33 : decode cX5_at 33 = .ok (.invokestatic 335, 3) := dk_184 1 79 (dk_at dksX5_at_1 11 rfl rfl)
theorem dX5_at_36 : decode cX5_at 36 = .ok (.lreturn, 1) := dk_173 (dk_at dksX5_at_1 14 rfl rfl)
abbrev cX5_refusal : ByteArray := prog_35_method_70_code
def yX5_refusal : MethodName := ⟨RX5, "refusal", "(III)I"⟩
def dkwX5_refusal_3 : List UInt8 := [153, 0, 7, 3, 167, 0, 5, 16, 254, 172]
abbrev dktX5_refusal_3 : List UInt8 := dkwX5_refusal_3 ++ []
def dkwX5_refusal_2 : List UInt8 := [2, 160, 0, 7, 3, 167, 0, 15, 42, 180, 0, 46, 5, 27, 104, 4, 96, 46, 4, 100, 184, 0, 183]
abbrev dktX5_refusal_2 : List UInt8 := dkwX5_refusal_2 ++ dktX5_refusal_3
def dkwX5_refusal_1 : List UInt8 := [42, 180, 0, 46, 5, 27, 104, 46, 4, 100, 184, 0, 183, 153, 0, 41, 29, 3, 42, 180, 0, 43, 27, 46]
abbrev dktX5_refusal_1 : List UInt8 := dkwX5_refusal_1 ++ dktX5_refusal_2
def dkwX5_refusal_0 : List UInt8 := [27, 184, 1, 224, 154, 0, 6, 16, 254, 172, 42, 180, 0, 34, 27, 51, 154, 0, 6, 16, 253, 172, 28, 3]
abbrev dktX5_refusal_0 : List UInt8 := dkwX5_refusal_0 ++ dktX5_refusal_1
theorem dksX5_refusal_0 : cX5_refusal.data.toList.drop 0 = dktX5_refusal_0 := by decide +kernel
theorem dksX5_refusal_1 : cX5_refusal.data.toList.drop 24 = dktX5_refusal_1 := dk_seg dksX5_refusal_0 24 rfl rfl
theorem dksX5_refusal_2 : cX5_refusal.data.toList.drop 48 = dktX5_refusal_2 := dk_seg dksX5_refusal_1 24 rfl rfl
theorem dksX5_refusal_3 : cX5_refusal.data.toList.drop 71 = dktX5_refusal_3 := dk_seg dksX5_refusal_2 23 rfl rfl
theorem dX5_refusal_0 : decode cX5_refusal 0 = .ok (.iload_n 1, 1) := dk_27 (dk_at dksX5_refusal_0 0 rfl rfl)
theorem dX5_refusal_1 : decode cX5_refusal 1 = .ok (.invokestatic 480, 3) := dk_184 1 224 (dk_at dksX5_refusal_0 1 rfl rfl)
theorem dX5_refusal_4 : decode cX5_refusal 4 = .ok (.ifCond .ne 6, 3) := dk_154 0 6 (dk_at dksX5_refusal_0 4 rfl rfl)
theorem dX5_refusal_7 : decode cX5_refusal 7 = .ok (.bipush (-2), 2) := dk_16 254 (dk_at dksX5_refusal_0 7 rfl rfl)
theorem dX5_refusal_9 : decode cX5_refusal 9 = .ok (.ireturn, 1) := dk_172 (dk_at dksX5_refusal_0 9 rfl rfl)
theorem dX5_refusal_10 : decode cX5_refusal 10 = .ok (.aload_n 0, 1) := dk_42 (dk_at dksX5_refusal_0 10 rfl rfl)
theorem dX5_refusal_11 : decode cX5_refusal 11 = .ok (.getfield 34, 3) := dk_180 0 34 (dk_at dksX5_refusal_0 11 rfl rfl)
theorem dX5_refusal_14 : decode cX5_refusal 14 = .ok (.iload_n 1, 1) := dk_27 (dk_at dksX5_refusal_0 14 rfl rfl)
theorem dX5_refusal_15 : decode cX5_refusal 15 = .ok (.baload, 1) := dk_51 (dk_at dksX5_refusal_0 15 rfl rfl)
theorem dX5_refusal_16 : decode cX5_refusal 16 = .ok (.ifCond .ne 6, 3) := dk_154 0 6 (dk_at dksX5_refusal_0 16 rfl rfl)
theorem dX5_refusal_19 : decode cX5_refusal 19 = .ok (.bipush (-3), 2) := dk_16 253 (dk_at dksX5_refusal_0 19 rfl rfl)
theorem dX5_refusal_21 : decode cX5_refusal 21 = .ok (.ireturn, 1) := dk_172 (dk_at dksX5_refusal_0 21 rfl rfl)
theorem dX5_refusal_22 : decode cX5_refusal 22 = .ok (.iload_n 2, 1) := dk_28 (dk_at dksX5_refusal_0 22 rfl rfl)
theorem dX5_refusal_23 : decode cX5_refusal 23 = .ok (.iconst 0, 1) := dk_3 (dk_at dksX5_refusal_0 23 rfl rfl)
theorem dX5_refusal_24 : decode cX5_refusal 24 = .ok (.aload_n 0, 1) := dk_42 (dk_at dksX5_refusal_1 0 rfl rfl)
theorem dX5_refusal_25 : decode cX5_refusal 25 = .ok (.getfield 46, 3) := dk_180 0 46 (dk_at dksX5_refusal_1 1 rfl rfl)
theorem dX5_refusal_28 : decode cX5_refusal 28 = .ok (.iconst 2, 1) := dk_5 (dk_at dksX5_refusal_1 4 rfl rfl)
theorem dX5_refusal_29 : decode cX5_refusal 29 = .ok (.iload_n 1, 1) := dk_27 (dk_at dksX5_refusal_1 5 rfl rfl)
theorem dX5_refusal_30 : decode cX5_refusal 30 = .ok (.imul, 1) := dk_104 (dk_at dksX5_refusal_1 6 rfl rfl)
theorem dX5_refusal_31 : decode cX5_refusal 31 = .ok (.iaload, 1) := dk_46 (dk_at dksX5_refusal_1 7 rfl rfl)
theorem dX5_refusal_32 : decode cX5_refusal 32 = .ok (.iconst 1, 1) := dk_4 (dk_at dksX5_refusal_1 8 rfl rfl)
theorem dX5_refusal_33 : decode cX5_refusal 33 = .ok (.isub, 1) := dk_100 (dk_at dksX5_refusal_1 9 rfl rfl)
theorem dX5_refusal_34 : decode cX5_refusal 34 = .ok (.invokestatic 183, 3) := dk_184 0 183 (dk_at dksX5_refusal_1 10 rfl rfl)
theorem dX5_refusal_37 : decode cX5_refusal 37 = .ok (.ifCond .eq 41, 3) := dk_153 0 41 (dk_at dksX5_refusal_1 13 rfl rfl)
theorem dX5_refusal_40 : decode cX5_refusal 40 = .ok (.iload_n 3, 1) := dk_29 (dk_at dksX5_refusal_1 16 rfl rfl)
theorem dX5_refusal_41 : decode cX5_refusal 41 = .ok (.iconst 0, 1) := dk_3 (dk_at dksX5_refusal_1 17 rfl rfl)
theorem dX5_refusal_42 : decode cX5_refusal 42 = .ok (.aload_n 0, 1) := dk_42 (dk_at dksX5_refusal_1 18 rfl rfl)
theorem dX5_refusal_43 : decode cX5_refusal 43 = .ok (.getfield 43, 3) := dk_180 0 43 (dk_at dksX5_refusal_1 19 rfl rfl)
theorem dX5_refusal_46 : decode cX5_refusal 46 = .ok (.iload_n 1, 1) := dk_27 (dk_at dksX5_refusal_1 22 rfl rfl)
theorem dX5_refusal_47 : decode cX5_refusal 47 = .ok (.iaload, 1) := dk_46 (dk_at dksX5_refusal_1 23 rfl rfl)
theorem dX5_refusal_48 : decode cX5_refusal 48 = .ok (.iconst (-1), 1) := dk_2 (dk_at dksX5_refusal_2 0 rfl rfl)
theorem dX5_refusal_49 : decode cX5_refusal 49 = .ok (.if_icmp .ne 7, 3) := dk_160 0 7 (dk_at dksX5_refusal_2 1 rfl rfl)
theorem dX5_refusal_52 : decode cX5_refusal 52 = .ok (.iconst 0, 1) := dk_3 (dk_at dksX5_refusal_2 4 rfl rfl)
theorem dX5_refusal_53 : decode cX5_refusal 53 = .ok (.goto 15, 3) := dk_167 0 15 (dk_at dksX5_refusal_2 5 rfl rfl)
theorem dX5_refusal_56 : decode cX5_refusal 56 = .ok (.aload_n 0, 1) := dk_42 (dk_at dksX5_refusal_2 8 rfl rfl)
theorem dX5_refusal_57 : decode cX5_refusal 57 = .ok (.getfield 46, 3) := dk_180 0 46 (dk_at dksX5_refusal_2 9 rfl rfl)
theorem dX5_refusal_60 : decode cX5_refusal 60 = .ok (.iconst 2, 1) := dk_5 (dk_at dksX5_refusal_2 12 rfl rfl)
theorem dX5_refusal_61 : decode cX5_refusal 61 = .ok (.iload_n 1, 1) := dk_27 (dk_at dksX5_refusal_2 13 rfl rfl)
theorem dX5_refusal_62 : decode cX5_refusal 62 = .ok (.imul, 1) := dk_104 (dk_at dksX5_refusal_2 14 rfl rfl)
theorem dX5_refusal_63 : decode cX5_refusal 63 = .ok (.iconst 1, 1) := dk_4 (dk_at dksX5_refusal_2 15 rfl rfl)
theorem dX5_refusal_64 : decode cX5_refusal 64 = .ok (.iadd, 1) := dk_96 (dk_at dksX5_refusal_2 16 rfl rfl)
theorem dX5_refusal_65 : decode cX5_refusal 65 = .ok (.iaload, 1) := dk_46 (dk_at dksX5_refusal_2 17 rfl rfl)
theorem dX5_refusal_66 : decode cX5_refusal 66 = .ok (.iconst 1, 1) := dk_4 (dk_at dksX5_refusal_2 18 rfl rfl)
theorem dX5_refusal_67 : decode cX5_refusal 67 = .ok (.isub, 1) := dk_100 (dk_at dksX5_refusal_2 19 rfl rfl)
theorem dX5_refusal_68 : decode cX5_refusal 68 = .ok (.invokestatic 183, 3) := dk_184 0 183 (dk_at dksX5_refusal_2 20 rfl rfl)
theorem dX5_refusal_71 : decode cX5_refusal 71 = .ok (.ifCond .eq 7, 3) := dk_153 0 7 (dk_at dksX5_refusal_3 0 rfl rfl)
theorem dX5_refusal_74 : decode cX5_refusal 74 = .ok (.iconst 0, 1) := dk_3 (dk_at dksX5_refusal_3 3 rfl rfl)
theorem dX5_refusal_75 : decode cX5_refusal 75 = .ok (.goto 5, 3) := dk_167 0 5 (dk_at dksX5_refusal_3 4 rfl rfl)
theorem dX5_refusal_78 : decode cX5_refusal 78 = .ok (.bipush (-2), 2) := dk_16 254 (dk_at dksX5_refusal_3 7 rfl rfl)
theorem dX5_refusal_80 : decode cX5_refusal 80 = .ok (.ireturn, 1) := dk_172 (dk_at dksX5_refusal_3 9 rfl rfl)
abbrev cX5_tellCaseNow : ByteArray := prog_35_method_71_code
def yX5_tellCaseNow : MethodName := ⟨RX5, "tellCaseNow", "(III)V"⟩
def dkwX5_tellCaseNow_0 : List UInt8 := [42, 3, 181, 0, 247, 42, 3, 181, 0, 243, 42, 27, 28, 29, 182, 1, 36, 177]
abbrev dktX5_tellCaseNow_0 : List UInt8 := dkwX5_tellCaseNow_0 ++ []
theorem dksX5_tellCaseNow_0 : cX5_tellCaseNow.data.toList.drop 0 = dktX5_tellCaseNow_0 := by decide +kernel
theorem dX5_tellCaseNow_0 : decode cX5_tellCaseNow 0 = .ok (.aload_n 0, 1) := dk_42 (dk_at dksX5_tellCaseNow_0 0 rfl rfl)
theorem dX5_tellCaseNow_1 : decode cX5_tellCaseNow 1 = .ok (.iconst 0, 1) := dk_3 (dk_at dksX5_tellCaseNow_0 1 rfl rfl)
theorem dX5_tellCaseNow_2 : decode cX5_tellCaseNow 2 = .ok (.putfield 247, 3) := dk_181 0 247 (dk_at dksX5_tellCaseNow_0 2 rfl rfl)
theorem dX5_tellCaseNow_5 : decode cX5_tellCaseNow 5 = .ok (.aload_n 0, 1) := dk_42 (dk_at dksX5_tellCaseNow_0 5 rfl rfl)
theorem dX5_tellCaseNow_6 : decode cX5_tellCaseNow 6 = .ok (.iconst 0, 1) := dk_3 (dk_at dksX5_tellCaseNow_0 6 rfl rfl)
theorem dX5_tellCaseNow_7 : decode cX5_tellCaseNow 7 = .ok (.putfield 243, 3) := dk_181 0 243 (dk_at dksX5_tellCaseNow_0 7 rfl rfl)
theorem dX5_tellCaseNow_10 : decode cX5_tellCaseNow 10 = .ok (.aload_n 0, 1) := dk_42 (dk_at dksX5_tellCaseNow_0 10 rfl rfl)
theorem dX5_tellCaseNow_11 : decode cX5_tellCaseNow 11 = .ok (.iload_n 1, 1) := dk_27 (dk_at dksX5_tellCaseNow_0 11 rfl rfl)
theorem dX5_tellCaseNow_12 : decode cX5_tellCaseNow 12 = .ok (.iload_n 2, 1) := dk_28 (dk_at dksX5_tellCaseNow_0 12 rfl rfl)
theorem dX5_tellCaseNow_13 : decode cX5_tellCaseNow 13 = .ok (.iload_n 3, 1) := dk_29 (dk_at dksX5_tellCaseNow_0 13 rfl rfl)
theorem dX5_tellCaseNow_14 : decode cX5_tellCaseNow 14 = .ok (.invokevirtual 292, 3) := dk_182 1 36 (dk_at dksX5_tellCaseNow_0 14 rfl rfl)
theorem dX5_tellCaseNow_17 : decode cX5_tellCaseNow 17 = .ok (.return_, 1) := dk_177 (dk_at dksX5_tellCaseNow_0 17 rfl rfl)
abbrev cX5_blame : ByteArray := prog_35_method_73_code
def yX5_blame : MethodName := ⟨RX5, "blame", "(III)I"⟩
def dkwX5_blame_1 : List UInt8 := [42, 180, 1, 33, 172]
abbrev dktX5_blame_1 : List UInt8 := dkwX5_blame_1 ++ []
def dkwX5_blame_0 : List UInt8 := [42, 27, 28, 29, 182, 1, 235, 54, 4, 21, 4, 153, 0, 6, 21, 4, 172, 42, 27, 28, 29, 182, 1, 239]
abbrev dktX5_blame_0 : List UInt8 := dkwX5_blame_0 ++ dktX5_blame_1
theorem dksX5_blame_0 : cX5_blame.data.toList.drop 0 = dktX5_blame_0 := by decide +kernel
theorem dksX5_blame_1 : cX5_blame.data.toList.drop 24 = dktX5_blame_1 := dk_seg dksX5_blame_0 24 rfl rfl
theorem dX5_blame_0 : decode cX5_blame 0 = .ok (.aload_n 0, 1) := dk_42 (dk_at dksX5_blame_0 0 rfl rfl)
theorem dX5_blame_1 : decode cX5_blame 1 = .ok (.iload_n 1, 1) := dk_27 (dk_at dksX5_blame_0 1 rfl rfl)
theorem dX5_blame_2 : decode cX5_blame 2 = .ok (.iload_n 2, 1) := dk_28 (dk_at dksX5_blame_0 2 rfl rfl)
theorem dX5_blame_3 : decode cX5_blame 3 = .ok (.iload_n 3, 1) := dk_29 (dk_at dksX5_blame_0 3 rfl rfl)
theorem dX5_blame_4 : decode cX5_blame 4 = .ok (.invokevirtual 491, 3) := dk_182 1 235 (dk_at dksX5_blame_0 4 rfl rfl)
theorem dX5_blame_7 : decode cX5_blame 7 = .ok (.istore 4, 2) := dk_54 4 (dk_at dksX5_blame_0 7 rfl rfl)
theorem dX5_blame_9 : decode cX5_blame 9 = .ok (.iload 4, 2) := dk_21 4 (dk_at dksX5_blame_0 9 rfl rfl)
theorem dX5_blame_11 : decode cX5_blame 11 = .ok (.ifCond .eq 6, 3) := dk_153 0 6 (dk_at dksX5_blame_0 11 rfl rfl)
theorem dX5_blame_14 : decode cX5_blame 14 = .ok (.iload 4, 2) := dk_21 4 (dk_at dksX5_blame_0 14 rfl rfl)
theorem dX5_blame_16 : decode cX5_blame 16 = .ok (.ireturn, 1) := dk_172 (dk_at dksX5_blame_0 16 rfl rfl)
theorem dX5_blame_17 : decode cX5_blame 17 = .ok (.aload_n 0, 1) := dk_42 (dk_at dksX5_blame_0 17 rfl rfl)
theorem dX5_blame_18 : decode cX5_blame 18 = .ok (.iload_n 1, 1) := dk_27 (dk_at dksX5_blame_0 18 rfl rfl)
theorem dX5_blame_19 : decode cX5_blame 19 = .ok (.iload_n 2, 1) := dk_28 (dk_at dksX5_blame_0 19 rfl rfl)
theorem dX5_blame_20 : decode cX5_blame 20 = .ok (.iload_n 3, 1) := dk_29 (dk_at dksX5_blame_0 20 rfl rfl)
theorem dX5_blame_21 : decode cX5_blame 21 = .ok (.invokevirtual 495, 3) := dk_182 1 239 (dk_at dksX5_blame_0 21 rfl rfl)
theorem dX5_blame_24 : decode cX5_blame 24 = .ok (.aload_n 0, 1) := dk_42 (dk_at dksX5_blame_1 0 rfl rfl)
theorem dX5_blame_25 : decode cX5_blame 25 = .ok (.getfield 289, 3) := dk_180 1 33 (dk_at dksX5_blame_1 1 rfl rfl)
theorem dX5_blame_28 : decode cX5_blame 28 = .ok (.ireturn, 1) := dk_172 (dk_at dksX5_blame_1 4 rfl rfl)
abbrev cX5_adds : ByteArray := prog_35_method_74_code
def yX5_adds : MethodName := ⟨RX5, "adds", "(II)J"⟩
def dkwX5_adds_4 : List UInt8 := [184, 1, 79, 173]
abbrev dktX5_adds_4 : List UInt8 := dkwX5_adds_4 ++ []
def dkwX5_adds_3 : List UInt8 := [180, 0, 87, 3, 50, 8, 27, 104, 28, 96, 49, 42, 180, 0, 90, 3, 50, 8, 27, 104, 28, 96, 46]
abbrev dktX5_adds_3 : List UInt8 := dkwX5_adds_3 ++ dktX5_adds_4
def dkwX5_adds_2 : List UInt8 := [27, 182, 1, 10, 28, 7, 160, 0, 17, 42, 180, 0, 87, 3, 50, 8, 27, 104, 7, 96, 49, 143, 173, 42]
abbrev dktX5_adds_2 : List UInt8 := dkwX5_adds_2 ++ dktX5_adds_3
def dkwX5_adds_1 : List UInt8 := [27, 51, 154, 0, 7, 20, 1, 83, 173, 42, 3, 181, 0, 247, 42, 3, 181, 0, 243, 42, 182, 1, 23, 42]
abbrev dktX5_adds_1 : List UInt8 := dkwX5_adds_1 ++ dktX5_adds_2
def dkwX5_adds_0 : List UInt8 := [27, 184, 1, 224, 153, 0, 12, 28, 3, 7, 184, 0, 183, 154, 0, 7, 20, 1, 70, 173, 42, 180, 0, 34]
abbrev dktX5_adds_0 : List UInt8 := dkwX5_adds_0 ++ dktX5_adds_1
theorem dksX5_adds_0 : cX5_adds.data.toList.drop 0 = dktX5_adds_0 := by decide +kernel
theorem dksX5_adds_1 : cX5_adds.data.toList.drop 24 = dktX5_adds_1 := dk_seg dksX5_adds_0 24 rfl rfl
theorem dksX5_adds_2 : cX5_adds.data.toList.drop 48 = dktX5_adds_2 := dk_seg dksX5_adds_1 24 rfl rfl
theorem dksX5_adds_3 : cX5_adds.data.toList.drop 72 = dktX5_adds_3 := dk_seg dksX5_adds_2 24 rfl rfl
theorem dksX5_adds_4 : cX5_adds.data.toList.drop 95 = dktX5_adds_4 := dk_seg dksX5_adds_3 23 rfl rfl
theorem dX5_adds_0 : decode cX5_adds 0 = .ok (.iload_n 1, 1) := dk_27 (dk_at dksX5_adds_0 0 rfl rfl)
theorem dX5_adds_1 : decode cX5_adds 1 = .ok (.invokestatic 480, 3) := dk_184 1 224 (dk_at dksX5_adds_0 1 rfl rfl)
theorem dX5_adds_4 : decode cX5_adds 4 = .ok (.ifCond .eq 12, 3) := dk_153 0 12 (dk_at dksX5_adds_0 4 rfl rfl)
theorem dX5_adds_7 : decode cX5_adds 7 = .ok (.iload_n 2, 1) := dk_28 (dk_at dksX5_adds_0 7 rfl rfl)
theorem dX5_adds_8 : decode cX5_adds 8 = .ok (.iconst 0, 1) := dk_3 (dk_at dksX5_adds_0 8 rfl rfl)
theorem dX5_adds_9 : decode cX5_adds 9 = .ok (.iconst 4, 1) := dk_7 (dk_at dksX5_adds_0 9 rfl rfl)
theorem dX5_adds_10 : decode cX5_adds 10 = .ok (.invokestatic 183, 3) := dk_184 0 183 (dk_at dksX5_adds_0 10 rfl rfl)
theorem dX5_adds_13 : decode cX5_adds 13 = .ok (.ifCond .ne 7, 3) := dk_154 0 7 (dk_at dksX5_adds_0 13 rfl rfl)
theorem dX5_adds_16 : decode cX5_adds 16 = .ok (.ldc2_w 326, 3) := dk_20 1 70 (dk_at dksX5_adds_0 16 rfl rfl)
theorem dX5_adds_19 : decode cX5_adds 19 = .ok (.lreturn, 1) := dk_173 (dk_at dksX5_adds_0 19 rfl rfl)
theorem dX5_adds_20 : decode cX5_adds 20 = .ok (.aload_n 0, 1) := dk_42 (dk_at dksX5_adds_0 20 rfl rfl)
theorem dX5_adds_21 : decode cX5_adds 21 = .ok (.getfield 34, 3) := dk_180 0 34 (dk_at dksX5_adds_0 21 rfl rfl)
theorem dX5_adds_24 : decode cX5_adds 24 = .ok (.iload_n 1, 1) := dk_27 (dk_at dksX5_adds_1 0 rfl rfl)
theorem dX5_adds_25 : decode cX5_adds 25 = .ok (.baload, 1) := dk_51 (dk_at dksX5_adds_1 1 rfl rfl)
theorem dX5_adds_26 : decode cX5_adds 26 = .ok (.ifCond .ne 7, 3) := dk_154 0 7 (dk_at dksX5_adds_1 2 rfl rfl)
theorem dX5_adds_29 : decode cX5_adds 29 = .ok (.ldc2_w 339, 3) := dk_20 1 83 (dk_at dksX5_adds_1 5 rfl rfl)
theorem dX5_adds_32 : decode cX5_adds 32 = .ok (.lreturn, 1) := dk_173 (dk_at dksX5_adds_1 8 rfl rfl)
theorem dX5_adds_33 : decode cX5_adds 33 = .ok (.aload_n 0, 1) := dk_42 (dk_at dksX5_adds_1 9 rfl rfl)
theorem dX5_adds_34 : decode cX5_adds 34 = .ok (.iconst 0, 1) := dk_3 (dk_at dksX5_adds_1 10 rfl rfl)
theorem dX5_adds_35 : decode cX5_adds 35 = .ok (.putfield 247, 3) := dk_181 0 247 (dk_at dksX5_adds_1 11 rfl rfl)
theorem dX5_adds_38 : decode cX5_adds 38 = .ok (.aload_n 0, 1) := dk_42 (dk_at dksX5_adds_1 14 rfl rfl)
theorem dX5_adds_39 : decode cX5_adds 39 = .ok (.iconst 0, 1) := dk_3 (dk_at dksX5_adds_1 15 rfl rfl)
theorem dX5_adds_40 : decode cX5_adds 40 = .ok (.putfield 243, 3) := dk_181 0 243 (dk_at dksX5_adds_1 16 rfl rfl)
theorem dX5_adds_43 : decode cX5_adds 43 = .ok (.aload_n 0, 1) := dk_42 (dk_at dksX5_adds_1 19 rfl rfl)
theorem dX5_adds_44 : decode cX5_adds 44 = .ok (.invokevirtual 279, 3) := dk_182 1 23 (dk_at dksX5_adds_1 20 rfl rfl)
theorem dX5_adds_47 : decode cX5_adds 47 = .ok (.aload_n 0, 1) := dk_42 (dk_at dksX5_adds_1 23 rfl rfl)
theorem dX5_adds_48 : decode cX5_adds 48 = .ok (.iload_n 1, 1) := dk_27 (dk_at dksX5_adds_2 0 rfl rfl)
theorem dX5_adds_49 : decode cX5_adds 49 = .ok (.invokevirtual 266, 3) := dk_182 1 10 (dk_at dksX5_adds_2 1 rfl rfl)
theorem dX5_adds_52 : decode cX5_adds 52 = .ok (.iload_n 2, 1) := dk_28 (dk_at dksX5_adds_2 4 rfl rfl)
theorem dX5_adds_53 : decode cX5_adds 53 = .ok (.iconst 4, 1) := dk_7 (dk_at dksX5_adds_2 5 rfl rfl)
theorem dX5_adds_54 : decode cX5_adds 54 = .ok (.if_icmp .ne 17, 3) := dk_160 0 17 (dk_at dksX5_adds_2 6 rfl rfl)
theorem dX5_adds_57 : decode cX5_adds 57 = .ok (.aload_n 0, 1) := dk_42 (dk_at dksX5_adds_2 9 rfl rfl)
theorem dX5_adds_58 : decode cX5_adds 58 = .ok (.getfield 87, 3) := dk_180 0 87 (dk_at dksX5_adds_2 10 rfl rfl)
theorem dX5_adds_61 : decode cX5_adds 61 = .ok (.iconst 0, 1) := dk_3 (dk_at dksX5_adds_2 13 rfl rfl)
theorem dX5_adds_62 : decode cX5_adds 62 = .ok (.aaload, 1) := dk_50 (dk_at dksX5_adds_2 14 rfl rfl)
theorem dX5_adds_63 : decode cX5_adds 63 = .ok (.iconst 5, 1) := dk_8 (dk_at dksX5_adds_2 15 rfl rfl)
theorem dX5_adds_64 : decode cX5_adds 64 = .ok (.iload_n 1, 1) := dk_27 (dk_at dksX5_adds_2 16 rfl rfl)
theorem dX5_adds_65 : decode cX5_adds 65 = .ok (.imul, 1) := dk_104 (dk_at dksX5_adds_2 17 rfl rfl)
theorem dX5_adds_66 : decode cX5_adds 66 = .ok (.iconst 4, 1) := dk_7 (dk_at dksX5_adds_2 18 rfl rfl)
theorem dX5_adds_67 : decode cX5_adds 67 = .ok (.iadd, 1) := dk_96 (dk_at dksX5_adds_2 19 rfl rfl)
theorem dX5_adds_68 : decode cX5_adds 68 = .ok (.daload, 1) := dk_49 (dk_at dksX5_adds_2 20 rfl rfl)
theorem dX5_adds_69 : decode cX5_adds 69 = .ok (.d2l, 1) := dk_143 (dk_at dksX5_adds_2 21 rfl rfl)
theorem dX5_adds_70 : decode cX5_adds 70 = .ok (.lreturn, 1) := dk_173 (dk_at dksX5_adds_2 22 rfl rfl)
theorem dX5_adds_71 : decode cX5_adds 71 = .ok (.aload_n 0, 1) := dk_42 (dk_at dksX5_adds_2 23 rfl rfl)
theorem dX5_adds_72 : decode cX5_adds 72 = .ok (.getfield 87, 3) := dk_180 0 87 (dk_at dksX5_adds_3 0 rfl rfl)
theorem dX5_adds_75 : decode cX5_adds 75 = .ok (.iconst 0, 1) := dk_3 (dk_at dksX5_adds_3 3 rfl rfl)
theorem dX5_adds_76 : decode cX5_adds 76 = .ok (.aaload, 1) := dk_50 (dk_at dksX5_adds_3 4 rfl rfl)
theorem dX5_adds_77 : decode cX5_adds 77 = .ok (.iconst 5, 1) := dk_8 (dk_at dksX5_adds_3 5 rfl rfl)
theorem dX5_adds_78 : decode cX5_adds 78 = .ok (.iload_n 1, 1) := dk_27 (dk_at dksX5_adds_3 6 rfl rfl)
theorem dX5_adds_79 : decode cX5_adds 79 = .ok (.imul, 1) := dk_104 (dk_at dksX5_adds_3 7 rfl rfl)
theorem dX5_adds_80 : decode cX5_adds 80 = .ok (.iload_n 2, 1) := dk_28 (dk_at dksX5_adds_3 8 rfl rfl)
theorem dX5_adds_81 : decode cX5_adds 81 = .ok (.iadd, 1) := dk_96 (dk_at dksX5_adds_3 9 rfl rfl)
theorem dX5_adds_82 : decode cX5_adds 82 = .ok (.daload, 1) := dk_49 (dk_at dksX5_adds_3 10 rfl rfl)
theorem dX5_adds_83 : decode cX5_adds 83 = .ok (.aload_n 0, 1) := dk_42 (dk_at dksX5_adds_3 11 rfl rfl)
theorem dX5_adds_84 : decode cX5_adds 84 = .ok (.getfield 90, 3) := dk_180 0 90 (dk_at dksX5_adds_3 12 rfl rfl)
theorem dX5_adds_87 : decode cX5_adds 87 = .ok (.iconst 0, 1) := dk_3 (dk_at dksX5_adds_3 15 rfl rfl)
theorem dX5_adds_88 : decode cX5_adds 88 = .ok (.aaload, 1) := dk_50 (dk_at dksX5_adds_3 16 rfl rfl)
theorem dX5_adds_89 : decode cX5_adds 89 = .ok (.iconst 5, 1) := dk_8 (dk_at dksX5_adds_3 17 rfl rfl)
theorem dX5_adds_90 : decode cX5_adds 90 = .ok (.iload_n 1, 1) := dk_27 (dk_at dksX5_adds_3 18 rfl rfl)
theorem dX5_adds_91 : decode cX5_adds 91 = .ok (.imul, 1) := dk_104 (dk_at dksX5_adds_3 19 rfl rfl)
theorem dX5_adds_92 : decode cX5_adds 92 = .ok (.iload_n 2, 1) := dk_28 (dk_at dksX5_adds_3 20 rfl rfl)
theorem dX5_adds_93 : decode cX5_adds 93 = .ok (.iadd, 1) := dk_96 (dk_at dksX5_adds_3 21 rfl rfl)
theorem dX5_adds_94 : decode cX5_adds 94 = .ok (.iaload, 1) := dk_46 (dk_at dksX5_adds_3 22 rfl rfl)
theorem dX5_adds_95 : decode cX5_adds 95 = .ok (.invokestatic 335, 3) := dk_184 1 79 (dk_at dksX5_adds_4 0 rfl rfl)
theorem dX5_adds_98 : decode cX5_adds 98 = .ok (.lreturn, 1) := dk_173 (dk_at dksX5_adds_4 3 rfl rfl)
abbrev cX5_asks : ByteArray := prog_35_method_79_code
def yX5_asks : MethodName := ⟨RX5, "asks", "(II)I"⟩
def dkwX5_asks_7 : List UInt8 := [132, 3, 1, 167, 255, 240, 42, 27, 182, 1, 242, 172]
abbrev dktX5_asks_7 : List UInt8 := dkwX5_asks_7 ++ []
def dkwX5_asks_6 : List UInt8 := [16, 7, 100, 182, 1, 245, 172, 3, 62, 29, 16, 6, 162, 0, 16, 42, 180, 0, 117, 29, 3, 84]
abbrev dktX5_asks_6 : List UInt8 := dkwX5_asks_6 ++ dktX5_asks_7
def dkwX5_asks_5 : List UInt8 := [167, 0, 13, 42, 180, 0, 46, 5, 27, 104, 4, 96, 46, 172, 28, 16, 6, 164, 0, 13, 42, 27, 28]
abbrev dktX5_asks_5 : List UInt8 := dkwX5_asks_5 ++ dktX5_asks_6
def dkwX5_asks_4 : List UInt8 := [5, 27, 104, 46, 172, 28, 16, 6, 160, 0, 28, 42, 180, 0, 43, 27, 46, 2, 160, 0, 7, 3]
abbrev dktX5_asks_4 : List UInt8 := dkwX5_asks_4 ++ dktX5_asks_5
def dkwX5_asks_3 : List UInt8 := [180, 0, 37, 27, 46, 182, 0, 237, 87, 42, 27, 182, 0, 217, 172, 28, 8, 160, 0, 12, 42, 180, 0, 46]
abbrev dktX5_asks_3 : List UInt8 := dkwX5_asks_3 ++ dktX5_asks_4
def dkwX5_asks_2 : List UInt8 := [182, 1, 248, 172, 28, 5, 160, 0, 9, 42, 27, 182, 1, 252, 172, 28, 7, 160, 0, 20, 42, 42]
abbrev dktX5_asks_2 : List UInt8 := dkwX5_asks_2 ++ dktX5_asks_3
def dkwX5_asks_1 : List UInt8 := [27, 51, 154, 0, 6, 16, 253, 172, 28, 5, 162, 0, 18, 42, 27, 28, 154, 0, 7, 4, 167, 0, 4, 3]
abbrev dktX5_asks_1 : List UInt8 := dkwX5_asks_1 ++ dktX5_asks_2
def dkwX5_asks_0 : List UInt8 := [27, 184, 1, 224, 153, 0, 13, 28, 3, 16, 8, 184, 0, 183, 154, 0, 6, 16, 254, 172, 42, 180, 0, 34]
abbrev dktX5_asks_0 : List UInt8 := dkwX5_asks_0 ++ dktX5_asks_1
theorem dksX5_asks_0 : cX5_asks.data.toList.drop 0 = dktX5_asks_0 := by decide +kernel
theorem dksX5_asks_1 : cX5_asks.data.toList.drop 24 = dktX5_asks_1 := dk_seg dksX5_asks_0 24 rfl rfl
theorem dksX5_asks_2 : cX5_asks.data.toList.drop 48 = dktX5_asks_2 := dk_seg dksX5_asks_1 24 rfl rfl
theorem dksX5_asks_3 : cX5_asks.data.toList.drop 70 = dktX5_asks_3 := dk_seg dksX5_asks_2 22 rfl rfl
theorem dksX5_asks_4 : cX5_asks.data.toList.drop 94 = dktX5_asks_4 := dk_seg dksX5_asks_3 24 rfl rfl
theorem dksX5_asks_5 : cX5_asks.data.toList.drop 116 = dktX5_asks_5 := dk_seg dksX5_asks_4 22 rfl rfl
theorem dksX5_asks_6 : cX5_asks.data.toList.drop 139 = dktX5_asks_6 := dk_seg dksX5_asks_5 23 rfl rfl
theorem dksX5_asks_7 : cX5_asks.data.toList.drop 161 = dktX5_asks_7 := dk_seg dksX5_asks_6 22 rfl rfl
theorem dX5_asks_0 : decode cX5_asks 0 = .ok (.iload_n 1, 1) := dk_27 (dk_at dksX5_asks_0 0 rfl rfl)
theorem dX5_asks_1 : decode cX5_asks 1 = .ok (.invokestatic 480, 3) := dk_184 1 224 (dk_at dksX5_asks_0 1 rfl rfl)
theorem dX5_asks_4 : decode cX5_asks 4 = .ok (.ifCond .eq 13, 3) := dk_153 0 13 (dk_at dksX5_asks_0 4 rfl rfl)
theorem dX5_asks_7 : decode cX5_asks 7 = .ok (.iload_n 2, 1) := dk_28 (dk_at dksX5_asks_0 7 rfl rfl)
theorem dX5_asks_8 : decode cX5_asks 8 = .ok (.iconst 0, 1) := dk_3 (dk_at dksX5_asks_0 8 rfl rfl)
theorem dX5_asks_9 : decode cX5_asks 9 = .ok (.bipush 8, 2) := dk_16 8 (dk_at dksX5_asks_0 9 rfl rfl)
theorem dX5_asks_11 : decode cX5_asks 11 = .ok (.invokestatic 183, 3) := dk_184 0 183 (dk_at dksX5_asks_0 11 rfl rfl)
theorem dX5_asks_14 : decode cX5_asks 14 = .ok (.ifCond .ne 6, 3) := dk_154 0 6 (dk_at dksX5_asks_0 14 rfl rfl)
theorem dX5_asks_17 : decode cX5_asks 17 = .ok (.bipush (-2), 2) := dk_16 254 (dk_at dksX5_asks_0 17 rfl rfl)
theorem dX5_asks_19 : decode cX5_asks 19 = .ok (.ireturn, 1) := dk_172 (dk_at dksX5_asks_0 19 rfl rfl)
theorem dX5_asks_20 : decode cX5_asks 20 = .ok (.aload_n 0, 1) := dk_42 (dk_at dksX5_asks_0 20 rfl rfl)
theorem dX5_asks_21 : decode cX5_asks 21 = .ok (.getfield 34, 3) := dk_180 0 34 (dk_at dksX5_asks_0 21 rfl rfl)
theorem dX5_asks_24 : decode cX5_asks 24 = .ok (.iload_n 1, 1) := dk_27 (dk_at dksX5_asks_1 0 rfl rfl)
theorem dX5_asks_25 : decode cX5_asks 25 = .ok (.baload, 1) := dk_51 (dk_at dksX5_asks_1 1 rfl rfl)
theorem dX5_asks_26 : decode cX5_asks 26 = .ok (.ifCond .ne 6, 3) := dk_154 0 6 (dk_at dksX5_asks_1 2 rfl rfl)
theorem dX5_asks_29 : decode cX5_asks 29 = .ok (.bipush (-3), 2) := dk_16 253 (dk_at dksX5_asks_1 5 rfl rfl)
theorem dX5_asks_31 : decode cX5_asks 31 = .ok (.ireturn, 1) := dk_172 (dk_at dksX5_asks_1 7 rfl rfl)
theorem dX5_asks_32 : decode cX5_asks 32 = .ok (.iload_n 2, 1) := dk_28 (dk_at dksX5_asks_1 8 rfl rfl)
theorem dX5_asks_33 : decode cX5_asks 33 = .ok (.iconst 2, 1) := dk_5 (dk_at dksX5_asks_1 9 rfl rfl)
theorem dX5_asks_34 : decode cX5_asks 34 = .ok (.if_icmp .ge 18, 3) := dk_162 0 18 (dk_at dksX5_asks_1 10 rfl rfl)
theorem dX5_asks_37 : decode cX5_asks 37 = .ok (.aload_n 0, 1) := dk_42 (dk_at dksX5_asks_1 13 rfl rfl)
theorem dX5_asks_38 : decode cX5_asks 38 = .ok (.iload_n 1, 1) := dk_27 (dk_at dksX5_asks_1 14 rfl rfl)
theorem dX5_asks_39 : decode cX5_asks 39 = .ok (.iload_n 2, 1) := dk_28 (dk_at dksX5_asks_1 15 rfl rfl)
theorem dX5_asks_40 : decode cX5_asks 40 = .ok (.ifCond .ne 7, 3) := dk_154 0 7 (dk_at dksX5_asks_1 16 rfl rfl)
theorem dX5_asks_43 : decode cX5_asks 43 = .ok (.iconst 1, 1) := dk_4 (dk_at dksX5_asks_1 19 rfl rfl)
theorem dX5_asks_44 : decode cX5_asks 44 = .ok (.goto 4, 3) := dk_167 0 4 (dk_at dksX5_asks_1 20 rfl rfl)
theorem dX5_asks_47 : decode cX5_asks 47 = .ok (.iconst 0, 1) := dk_3 (dk_at dksX5_asks_1 23 rfl rfl)
theorem dX5_asks_48 : decode cX5_asks 48 = .ok (.invokevirtual 504, 3) := dk_182 1 248 (dk_at dksX5_asks_2 0 rfl rfl)
theorem dX5_asks_51 : decode cX5_asks 51 = .ok (.ireturn, 1) := dk_172 (dk_at dksX5_asks_2 3 rfl rfl)
theorem dX5_asks_52 : decode cX5_asks 52 = .ok (.iload_n 2, 1) := dk_28 (dk_at dksX5_asks_2 4 rfl rfl)
theorem dX5_asks_53 : decode cX5_asks 53 = .ok (.iconst 2, 1) := dk_5 (dk_at dksX5_asks_2 5 rfl rfl)
theorem dX5_asks_54 : decode cX5_asks 54 = .ok (.if_icmp .ne 9, 3) := dk_160 0 9 (dk_at dksX5_asks_2 6 rfl rfl)
theorem dX5_asks_57 : decode cX5_asks 57 = .ok (.aload_n 0, 1) := dk_42 (dk_at dksX5_asks_2 9 rfl rfl)
theorem dX5_asks_58 : decode cX5_asks 58 = .ok (.iload_n 1, 1) := dk_27 (dk_at dksX5_asks_2 10 rfl rfl)
theorem dX5_asks_59 : decode cX5_asks 59 = .ok (.invokevirtual 508, 3) := dk_182 1 252 (dk_at dksX5_asks_2 11 rfl rfl)
theorem dX5_asks_62 : decode cX5_asks 62 = .ok (.ireturn, 1) := dk_172 (dk_at dksX5_asks_2 14 rfl rfl)
theorem dX5_asks_63 : decode cX5_asks 63 = .ok (.iload_n 2, 1) := dk_28 (dk_at dksX5_asks_2 15 rfl rfl)
theorem dX5_asks_64 : decode cX5_asks 64 = .ok (.iconst 4, 1) := dk_7 (dk_at dksX5_asks_2 16 rfl rfl)
theorem dX5_asks_65 : decode cX5_asks 65 = .ok (.if_icmp .ne 20, 3) := dk_160 0 20 (dk_at dksX5_asks_2 17 rfl rfl)
theorem dX5_asks_68 : decode cX5_asks 68 = .ok (.aload_n 0, 1) := dk_42 (dk_at dksX5_asks_2 20 rfl rfl)
theorem dX5_asks_69 : decode cX5_asks 69 = .ok (.aload_n 0, 1) := dk_42 (dk_at dksX5_asks_2 21 rfl rfl)
theorem dX5_asks_70 : decode cX5_asks 70 = .ok (.getfield 37, 3) := dk_180 0 37 (dk_at dksX5_asks_3 0 rfl rfl)
theorem dX5_asks_73 : decode cX5_asks 73 = .ok (.iload_n 1, 1) := dk_27 (dk_at dksX5_asks_3 3 rfl rfl)
theorem dX5_asks_74 : decode cX5_asks 74 = .ok (.iaload, 1) := dk_46 (dk_at dksX5_asks_3 4 rfl rfl)
theorem dX5_asks_75 : decode cX5_asks 75 = .ok (.invokevirtual 237, 3) := dk_182 0 237 (dk_at dksX5_asks_3 5 rfl rfl)
theorem dX5_asks_78 : decode cX5_asks 78 = .ok (.pop, 1) := dk_87 (dk_at dksX5_asks_3 8 rfl rfl)
theorem dX5_asks_79 : decode cX5_asks 79 = .ok (.aload_n 0, 1) := dk_42 (dk_at dksX5_asks_3 9 rfl rfl)
theorem dX5_asks_80 : decode cX5_asks 80 = .ok (.iload_n 1, 1) := dk_27 (dk_at dksX5_asks_3 10 rfl rfl)
theorem dX5_asks_81 : decode cX5_asks 81 = .ok (.invokevirtual 217, 3) := dk_182 0 217 (dk_at dksX5_asks_3 11 rfl rfl)
theorem dX5_asks_84 : decode cX5_asks 84 = .ok (.ireturn, 1) := dk_172 (dk_at dksX5_asks_3 14 rfl rfl)
theorem dX5_asks_85 : decode cX5_asks 85 = .ok (.iload_n 2, 1) := dk_28 (dk_at dksX5_asks_3 15 rfl rfl)
theorem dX5_asks_86 : decode cX5_asks 86 = .ok (.iconst 5, 1) := dk_8 (dk_at dksX5_asks_3 16 rfl rfl)
theorem dX5_asks_87 : decode cX5_asks 87 = .ok (.if_icmp .ne 12, 3) := dk_160 0 12 (dk_at dksX5_asks_3 17 rfl rfl)
theorem dX5_asks_90 : decode cX5_asks 90 = .ok (.aload_n 0, 1) := dk_42 (dk_at dksX5_asks_3 20 rfl rfl)
theorem dX5_asks_91 : decode cX5_asks 91 = .ok (.getfield 46, 3) := dk_180 0 46 (dk_at dksX5_asks_3 21 rfl rfl)
theorem dX5_asks_94 : decode cX5_asks 94 = .ok (.iconst 2, 1) := dk_5 (dk_at dksX5_asks_4 0 rfl rfl)
theorem dX5_asks_95 : decode cX5_asks 95 = .ok (.iload_n 1, 1) := dk_27 (dk_at dksX5_asks_4 1 rfl rfl)
theorem dX5_asks_96 : decode cX5_asks 96 = .ok (.imul, 1) := dk_104 (dk_at dksX5_asks_4 2 rfl rfl)
theorem dX5_asks_97 : decode cX5_asks 97 = .ok (.iaload, 1) := dk_46 (dk_at dksX5_asks_4 3 rfl rfl)
theorem dX5_asks_98 : decode cX5_asks 98 = .ok (.ireturn, 1) := dk_172 (dk_at dksX5_asks_4 4 rfl rfl)
theorem dX5_asks_99 : decode cX5_asks 99 = .ok (.iload_n 2, 1) := dk_28 (dk_at dksX5_asks_4 5 rfl rfl)
theorem dX5_asks_100 : decode cX5_asks 100 = .ok (.bipush 6, 2) := dk_16 6 (dk_at dksX5_asks_4 6 rfl rfl)
theorem dX5_asks_102 : decode cX5_asks 102 = .ok (.if_icmp .ne 28, 3) := dk_160 0 28 (dk_at dksX5_asks_4 8 rfl rfl)
theorem dX5_asks_105 : decode cX5_asks 105 = .ok (.aload_n 0, 1) := dk_42 (dk_at dksX5_asks_4 11 rfl rfl)
theorem dX5_asks_106 : decode cX5_asks 106 = .ok (.getfield 43, 3) := dk_180 0 43 (dk_at dksX5_asks_4 12 rfl rfl)
theorem dX5_asks_109 : decode cX5_asks 109 = .ok (.iload_n 1, 1) := dk_27 (dk_at dksX5_asks_4 15 rfl rfl)
theorem dX5_asks_110 : decode cX5_asks 110 = .ok (.iaload, 1) := dk_46 (dk_at dksX5_asks_4 16 rfl rfl)
theorem dX5_asks_111 : decode cX5_asks 111 = .ok (.iconst (-1), 1) := dk_2 (dk_at dksX5_asks_4 17 rfl rfl)
theorem dX5_asks_112 : decode cX5_asks 112 = .ok (.if_icmp .ne 7, 3) := dk_160 0 7 (dk_at dksX5_asks_4 18 rfl rfl)
theorem dX5_asks_115 : decode cX5_asks 115 = .ok (.iconst 0, 1) := dk_3 (dk_at dksX5_asks_4 21 rfl rfl)
theorem dX5_asks_116 : decode cX5_asks 116 = .ok (.goto 13, 3) := dk_167 0 13 (dk_at dksX5_asks_5 0 rfl rfl)
theorem dX5_asks_119 : decode cX5_asks 119 = .ok (.aload_n 0, 1) := dk_42 (dk_at dksX5_asks_5 3 rfl rfl)
theorem dX5_asks_120 : decode cX5_asks 120 = .ok (.getfield 46, 3) := dk_180 0 46 (dk_at dksX5_asks_5 4 rfl rfl)
theorem dX5_asks_123 : decode cX5_asks 123 = .ok (.iconst 2, 1) := dk_5 (dk_at dksX5_asks_5 7 rfl rfl)
theorem dX5_asks_124 : decode cX5_asks 124 = .ok (.iload_n 1, 1) := dk_27 (dk_at dksX5_asks_5 8 rfl rfl)
theorem dX5_asks_125 : decode cX5_asks 125 = .ok (.imul, 1) := dk_104 (dk_at dksX5_asks_5 9 rfl rfl)
theorem dX5_asks_126 : decode cX5_asks 126 = .ok (.iconst 1, 1) := dk_4 (dk_at dksX5_asks_5 10 rfl rfl)
theorem dX5_asks_127 : decode cX5_asks 127 = .ok (.iadd, 1) := dk_96 (dk_at dksX5_asks_5 11 rfl rfl)
theorem dX5_asks_128 : decode cX5_asks 128 = .ok (.iaload, 1) := dk_46 (dk_at dksX5_asks_5 12 rfl rfl)
theorem dX5_asks_129 : decode cX5_asks 129 = .ok (.ireturn, 1) := dk_172 (dk_at dksX5_asks_5 13 rfl rfl)
theorem dX5_asks_130 : decode cX5_asks 130 = .ok (.iload_n 2, 1) := dk_28 (dk_at dksX5_asks_5 14 rfl rfl)
theorem dX5_asks_131 : decode cX5_asks 131 = .ok (.bipush 6, 2) := dk_16 6 (dk_at dksX5_asks_5 15 rfl rfl)
theorem dX5_asks_133 : decode cX5_asks 133 = .ok (.if_icmp .le 13, 3) := dk_164 0 13 (dk_at dksX5_asks_5 17 rfl rfl)
theorem dX5_asks_136 : decode cX5_asks 136 = .ok (.aload_n 0, 1) := dk_42 (dk_at dksX5_asks_5 20 rfl rfl)
theorem dX5_asks_137 : decode cX5_asks 137 = .ok (.iload_n 1, 1) := dk_27 (dk_at dksX5_asks_5 21 rfl rfl)
theorem dX5_asks_138 : decode cX5_asks 138 = .ok (.iload_n 2, 1) := dk_28 (dk_at dksX5_asks_5 22 rfl rfl)
theorem dX5_asks_139 : decode cX5_asks 139 = .ok (.bipush 7, 2) := dk_16 7 (dk_at dksX5_asks_6 0 rfl rfl)
theorem dX5_asks_141 : decode cX5_asks 141 = .ok (.isub, 1) := dk_100 (dk_at dksX5_asks_6 2 rfl rfl)
theorem dX5_asks_142 : decode cX5_asks 142 = .ok (.invokevirtual 501, 3) := dk_182 1 245 (dk_at dksX5_asks_6 3 rfl rfl)
theorem dX5_asks_145 : decode cX5_asks 145 = .ok (.ireturn, 1) := dk_172 (dk_at dksX5_asks_6 6 rfl rfl)
theorem dX5_asks_146 : decode cX5_asks 146 = .ok (.iconst 0, 1) := dk_3 (dk_at dksX5_asks_6 7 rfl rfl)
theorem dX5_asks_147 : decode cX5_asks 147 = .ok (.istore_n 3, 1) := dk_62 (dk_at dksX5_asks_6 8 rfl rfl)
theorem dX5_asks_148 : decode cX5_asks 148 = .ok (.iload_n 3, 1) := dk_29 (dk_at dksX5_asks_6 9 rfl rfl)
theorem dX5_asks_149 : decode cX5_asks 149 = .ok (.bipush 6, 2) := dk_16 6 (dk_at dksX5_asks_6 10 rfl rfl)
theorem dX5_asks_151 : decode cX5_asks 151 = .ok (.if_icmp .ge 16, 3) := dk_162 0 16 (dk_at dksX5_asks_6 12 rfl rfl)
theorem dX5_asks_154 : decode cX5_asks 154 = .ok (.aload_n 0, 1) := dk_42 (dk_at dksX5_asks_6 15 rfl rfl)
theorem dX5_asks_155 : decode cX5_asks 155 = .ok (.getfield 117, 3) := dk_180 0 117 (dk_at dksX5_asks_6 16 rfl rfl)
theorem dX5_asks_158 : decode cX5_asks 158 = .ok (.iload_n 3, 1) := dk_29 (dk_at dksX5_asks_6 19 rfl rfl)
theorem dX5_asks_159 : decode cX5_asks 159 = .ok (.iconst 0, 1) := dk_3 (dk_at dksX5_asks_6 20 rfl rfl)
theorem dX5_asks_160 : decode cX5_asks 160 = .ok (.bastore, 1) := dk_84 (dk_at dksX5_asks_6 21 rfl rfl)
theorem dX5_asks_161 : decode cX5_asks 161 = .ok (.iinc 3 1, 3) := dk_132 3 1 (dk_at dksX5_asks_7 0 rfl rfl)
theorem dX5_asks_164 : decode cX5_asks 164 = .ok (.goto (-16), 3) := dk_167 255 240 (dk_at dksX5_asks_7 3 rfl rfl)
theorem dX5_asks_167 : decode cX5_asks 167 = .ok (.aload_n 0, 1) := dk_42 (dk_at dksX5_asks_7 6 rfl rfl)
theorem dX5_asks_168 : decode cX5_asks 168 = .ok (.iload_n 1, 1) := dk_27 (dk_at dksX5_asks_7 7 rfl rfl)
theorem dX5_asks_169 : decode cX5_asks 169 = .ok (.invokevirtual 498, 3) := dk_182 1 242 (dk_at dksX5_asks_7 8 rfl rfl)
theorem dX5_asks_172 : decode cX5_asks 172 = .ok (.ireturn, 1) := dk_172 (dk_at dksX5_asks_7 11 rfl rfl)
abbrev cX5_caseOf : ByteArray := prog_35_method_75_code
def yX5_caseOf : MethodName := ⟨RX5, "caseOf", "(IZ)I"⟩
def dkwX5_caseOf_5 : List UInt8 := [62, 42, 180, 1, 26, 57, 4, 132, 8, 1, 167, 255, 180, 132, 7, 1, 167, 255, 158, 29, 172]
abbrev dktX5_caseOf_5 : List UInt8 := dkwX5_caseOf_5 ++ []
def dkwX5_caseOf_4 : List UInt8 := [167, 0, 31, 42, 180, 1, 26, 24, 4, 152, 157, 0, 6, 167, 0, 18, 16, 10, 21, 7, 104, 21, 8, 96]
abbrev dktX5_caseOf_4 : List UInt8 := dkwX5_caseOf_4 ++ dktX5_caseOf_5
def dkwX5_caseOf_3 : List UInt8 := [154, 0, 53, 29, 2, 159, 0, 33, 28, 153, 0, 16, 42, 180, 1, 26, 24, 4, 151, 155, 0, 19]
abbrev dktX5_caseOf_3 : List UInt8 := dkwX5_caseOf_3 ++ dktX5_caseOf_4
def dkwX5_caseOf_2 : List UInt8 := [54, 8, 21, 8, 21, 6, 162, 0, 75, 42, 27, 21, 7, 21, 8, 182, 1, 239, 42, 180, 1, 30]
abbrev dktX5_caseOf_2 : List UInt8 := dkwX5_caseOf_2 ++ dktX5_caseOf_3
def dkwX5_caseOf_1 : List UInt8 := [27, 104, 4, 96, 46, 54, 6, 3, 54, 7, 21, 7, 42, 180, 0, 46, 5, 27, 104, 46, 162, 0, 91, 3]
abbrev dktX5_caseOf_1 : List UInt8 := dkwX5_caseOf_1 ++ dktX5_caseOf_2
def dkwX5_caseOf_0 : List UInt8 := [2, 62, 14, 57, 4, 42, 180, 0, 43, 27, 46, 2, 160, 0, 7, 4, 167, 0, 13, 42, 180, 0, 46, 5]
abbrev dktX5_caseOf_0 : List UInt8 := dkwX5_caseOf_0 ++ dktX5_caseOf_1
theorem dksX5_caseOf_0 : cX5_caseOf.data.toList.drop 0 = dktX5_caseOf_0 := by decide +kernel
theorem dksX5_caseOf_1 : cX5_caseOf.data.toList.drop 24 = dktX5_caseOf_1 := dk_seg dksX5_caseOf_0 24 rfl rfl
theorem dksX5_caseOf_2 : cX5_caseOf.data.toList.drop 48 = dktX5_caseOf_2 := dk_seg dksX5_caseOf_1 24 rfl rfl
theorem dksX5_caseOf_3 : cX5_caseOf.data.toList.drop 70 = dktX5_caseOf_3 := dk_seg dksX5_caseOf_2 22 rfl rfl
theorem dksX5_caseOf_4 : cX5_caseOf.data.toList.drop 92 = dktX5_caseOf_4 := dk_seg dksX5_caseOf_3 22 rfl rfl
theorem dksX5_caseOf_5 : cX5_caseOf.data.toList.drop 116 = dktX5_caseOf_5 := dk_seg dksX5_caseOf_4 24 rfl rfl
theorem dX5_caseOf_0 : decode cX5_caseOf 0 = .ok (.iconst (-1), 1) := dk_2 (dk_at dksX5_caseOf_0 0 rfl rfl)
theorem dX5_caseOf_1 : decode cX5_caseOf 1 = .ok (.istore_n 3, 1) := dk_62 (dk_at dksX5_caseOf_0 1 rfl rfl)
theorem dX5_caseOf_2 : decode cX5_caseOf 2 = .ok (.dconst 0, 1) := dk_14 (dk_at dksX5_caseOf_0 2 rfl rfl)
theorem dX5_caseOf_3 : decode cX5_caseOf 3 = .ok (.dstore 4, 2) := dk_57 4 (dk_at dksX5_caseOf_0 3 rfl rfl)
theorem dX5_caseOf_5 : decode cX5_caseOf 5 = .ok (.aload_n 0, 1) := dk_42 (dk_at dksX5_caseOf_0 5 rfl rfl)
theorem dX5_caseOf_6 : decode cX5_caseOf 6 = .ok (.getfield 43, 3) := dk_180 0 43 (dk_at dksX5_caseOf_0 6 rfl rfl)
theorem dX5_caseOf_9 : decode cX5_caseOf 9 = .ok (.iload_n 1, 1) := dk_27 (dk_at dksX5_caseOf_0 9 rfl rfl)
theorem dX5_caseOf_10 : decode cX5_caseOf 10 = .ok (.iaload, 1) := dk_46 (dk_at dksX5_caseOf_0 10 rfl rfl)
theorem dX5_caseOf_11 : decode cX5_caseOf 11 = .ok (.iconst (-1), 1) := dk_2 (dk_at dksX5_caseOf_0 11 rfl rfl)
theorem dX5_caseOf_12 : decode cX5_caseOf 12 = .ok (.if_icmp .ne 7, 3) := dk_160 0 7 (dk_at dksX5_caseOf_0 12 rfl rfl)
theorem dX5_caseOf_15 : decode cX5_caseOf 15 = .ok (.iconst 1, 1) := dk_4 (dk_at dksX5_caseOf_0 15 rfl rfl)
theorem dX5_caseOf_16 : decode cX5_caseOf 16 = .ok (.goto 13, 3) := dk_167 0 13 (dk_at dksX5_caseOf_0 16 rfl rfl)
theorem dX5_caseOf_19 : decode cX5_caseOf 19 = .ok (.aload_n 0, 1) := dk_42 (dk_at dksX5_caseOf_0 19 rfl rfl)
theorem dX5_caseOf_20 : decode cX5_caseOf 20 = .ok (.getfield 46, 3) := dk_180 0 46 (dk_at dksX5_caseOf_0 20 rfl rfl)
theorem dX5_caseOf_23 : decode cX5_caseOf 23 = .ok (.iconst 2, 1) := dk_5 (dk_at dksX5_caseOf_0 23 rfl rfl)
theorem dX5_caseOf_24 : decode cX5_caseOf 24 = .ok (.iload_n 1, 1) := dk_27 (dk_at dksX5_caseOf_1 0 rfl rfl)
theorem dX5_caseOf_25 : decode cX5_caseOf 25 = .ok (.imul, 1) := dk_104 (dk_at dksX5_caseOf_1 1 rfl rfl)
theorem dX5_caseOf_26 : decode cX5_caseOf 26 = .ok (.iconst 1, 1) := dk_4 (dk_at dksX5_caseOf_1 2 rfl rfl)
theorem dX5_caseOf_27 : decode cX5_caseOf 27 = .ok (.iadd, 1) := dk_96 (dk_at dksX5_caseOf_1 3 rfl rfl)
theorem dX5_caseOf_28 : decode cX5_caseOf 28 = .ok (.iaload, 1) := dk_46 (dk_at dksX5_caseOf_1 4 rfl rfl)
theorem dX5_caseOf_29 : decode cX5_caseOf 29 = .ok (.istore 6, 2) := dk_54 6 (dk_at dksX5_caseOf_1 5 rfl rfl)
theorem dX5_caseOf_31 : decode cX5_caseOf 31 = .ok (.iconst 0, 1) := dk_3 (dk_at dksX5_caseOf_1 7 rfl rfl)
theorem dX5_caseOf_32 : decode cX5_caseOf 32 = .ok (.istore 7, 2) := dk_54 7 (dk_at dksX5_caseOf_1 8 rfl rfl)
theorem dX5_caseOf_34 : decode cX5_caseOf 34 = .ok (.iload 7, 2) := dk_21 7 (dk_at dksX5_caseOf_1 10 rfl rfl)
theorem dX5_caseOf_36 : decode cX5_caseOf 36 = .ok (.aload_n 0, 1) := dk_42 (dk_at dksX5_caseOf_1 12 rfl rfl)
theorem dX5_caseOf_37 : decode cX5_caseOf 37 = .ok (.getfield 46, 3) := dk_180 0 46 (dk_at dksX5_caseOf_1 13 rfl rfl)
theorem dX5_caseOf_40 : decode cX5_caseOf 40 = .ok (.iconst 2, 1) := dk_5 (dk_at dksX5_caseOf_1 16 rfl rfl)
theorem dX5_caseOf_41 : decode cX5_caseOf 41 = .ok (.iload_n 1, 1) := dk_27 (dk_at dksX5_caseOf_1 17 rfl rfl)
theorem dX5_caseOf_42 : decode cX5_caseOf 42 = .ok (.imul, 1) := dk_104 (dk_at dksX5_caseOf_1 18 rfl rfl)
theorem dX5_caseOf_43 : decode cX5_caseOf 43 = .ok (.iaload, 1) := dk_46 (dk_at dksX5_caseOf_1 19 rfl rfl)
theorem dX5_caseOf_44 : decode cX5_caseOf 44 = .ok (.if_icmp .ge 91, 3) := dk_162 0 91 (dk_at dksX5_caseOf_1 20 rfl rfl)
theorem dX5_caseOf_47 : decode cX5_caseOf 47 = .ok (.iconst 0, 1) := dk_3 (dk_at dksX5_caseOf_1 23 rfl rfl)
theorem dX5_caseOf_48 : decode cX5_caseOf 48 = .ok (.istore 8, 2) := dk_54 8 (dk_at dksX5_caseOf_2 0 rfl rfl)
theorem dX5_caseOf_50 : decode cX5_caseOf 50 = .ok (.iload 8, 2) := dk_21 8 (dk_at dksX5_caseOf_2 2 rfl rfl)
theorem dX5_caseOf_52 : decode cX5_caseOf 52 = .ok (.iload 6, 2) := dk_21 6 (dk_at dksX5_caseOf_2 4 rfl rfl)
theorem dX5_caseOf_54 : decode cX5_caseOf 54 = .ok (.if_icmp .ge 75, 3) := dk_162 0 75 (dk_at dksX5_caseOf_2 6 rfl rfl)
theorem dX5_caseOf_57 : decode cX5_caseOf 57 = .ok (.aload_n 0, 1) := dk_42 (dk_at dksX5_caseOf_2 9 rfl rfl)
theorem dX5_caseOf_58 : decode cX5_caseOf 58 = .ok (.iload_n 1, 1) := dk_27 (dk_at dksX5_caseOf_2 10 rfl rfl)
theorem dX5_caseOf_59 : decode cX5_caseOf 59 = .ok (.iload 7, 2) := dk_21 7 (dk_at dksX5_caseOf_2 11 rfl rfl)
theorem dX5_caseOf_61 : decode cX5_caseOf 61 = .ok (.iload 8, 2) := dk_21 8 (dk_at dksX5_caseOf_2 13 rfl rfl)
theorem dX5_caseOf_63 : decode cX5_caseOf 63 = .ok (.invokevirtual 495, 3) := dk_182 1 239 (dk_at dksX5_caseOf_2 15 rfl rfl)
theorem dX5_caseOf_66 : decode cX5_caseOf 66 = .ok (.aload_n 0, 1) := dk_42 (dk_at dksX5_caseOf_2 18 rfl rfl)
theorem dX5_caseOf_67 : decode cX5_caseOf 67 = .ok (.getfield 286, 3) := dk_180 1 30 (dk_at dksX5_caseOf_2 19 rfl rfl)
theorem dX5_caseOf_70 : decode cX5_caseOf 70 = .ok (.ifCond .ne 53, 3) := dk_154 0 53 (dk_at dksX5_caseOf_3 0 rfl rfl)
theorem dX5_caseOf_73 : decode cX5_caseOf 73 = .ok (.iload_n 3, 1) := dk_29 (dk_at dksX5_caseOf_3 3 rfl rfl)
theorem dX5_caseOf_74 : decode cX5_caseOf 74 = .ok (.iconst (-1), 1) := dk_2 (dk_at dksX5_caseOf_3 4 rfl rfl)
theorem dX5_caseOf_75 : decode cX5_caseOf 75 = .ok (.if_icmp .eq 33, 3) := dk_159 0 33 (dk_at dksX5_caseOf_3 5 rfl rfl)
theorem dX5_caseOf_78 : decode cX5_caseOf 78 = .ok (.iload_n 2, 1) := dk_28 (dk_at dksX5_caseOf_3 8 rfl rfl)
theorem dX5_caseOf_79 : decode cX5_caseOf 79 = .ok (.ifCond .eq 16, 3) := dk_153 0 16 (dk_at dksX5_caseOf_3 9 rfl rfl)
theorem dX5_caseOf_82 : decode cX5_caseOf 82 = .ok (.aload_n 0, 1) := dk_42 (dk_at dksX5_caseOf_3 12 rfl rfl)
theorem dX5_caseOf_83 : decode cX5_caseOf 83 = .ok (.getfield 282, 3) := dk_180 1 26 (dk_at dksX5_caseOf_3 13 rfl rfl)
theorem dX5_caseOf_86 : decode cX5_caseOf 86 = .ok (.dload 4, 2) := dk_24 4 (dk_at dksX5_caseOf_3 16 rfl rfl)
theorem dX5_caseOf_88 : decode cX5_caseOf 88 = .ok (.dcmp .l, 1) := dk_151 (dk_at dksX5_caseOf_3 18 rfl rfl)
theorem dX5_caseOf_89 : decode cX5_caseOf 89 = .ok (.ifCond .lt 19, 3) := dk_155 0 19 (dk_at dksX5_caseOf_3 19 rfl rfl)
theorem dX5_caseOf_92 : decode cX5_caseOf 92 = .ok (.goto 31, 3) := dk_167 0 31 (dk_at dksX5_caseOf_4 0 rfl rfl)
theorem dX5_caseOf_95 : decode cX5_caseOf 95 = .ok (.aload_n 0, 1) := dk_42 (dk_at dksX5_caseOf_4 3 rfl rfl)
theorem dX5_caseOf_96 : decode cX5_caseOf 96 = .ok (.getfield 282, 3) := dk_180 1 26 (dk_at dksX5_caseOf_4 4 rfl rfl)
theorem dX5_caseOf_99 : decode cX5_caseOf 99 = .ok (.dload 4, 2) := dk_24 4 (dk_at dksX5_caseOf_4 7 rfl rfl)
theorem dX5_caseOf_101 : decode cX5_caseOf 101 = .ok (.dcmp .g, 1) := dk_152 (dk_at dksX5_caseOf_4 9 rfl rfl)
theorem dX5_caseOf_102 : decode cX5_caseOf 102 = .ok (.ifCond .gt 6, 3) := dk_157 0 6 (dk_at dksX5_caseOf_4 10 rfl rfl)
theorem dX5_caseOf_105 : decode cX5_caseOf 105 = .ok (.goto 18, 3) := dk_167 0 18 (dk_at dksX5_caseOf_4 13 rfl rfl)
theorem dX5_caseOf_108 : decode cX5_caseOf 108 = .ok (.bipush 10, 2) := dk_16 10 (dk_at dksX5_caseOf_4 16 rfl rfl)
theorem dX5_caseOf_110 : decode cX5_caseOf 110 = .ok (.iload 7, 2) := dk_21 7 (dk_at dksX5_caseOf_4 18 rfl rfl)
theorem dX5_caseOf_112 : decode cX5_caseOf 112 = .ok (.imul, 1) := dk_104 (dk_at dksX5_caseOf_4 20 rfl rfl)
theorem dX5_caseOf_113 : decode cX5_caseOf 113 = .ok (.iload 8, 2) := dk_21 8 (dk_at dksX5_caseOf_4 21 rfl rfl)
theorem dX5_caseOf_115 : decode cX5_caseOf 115 = .ok (.iadd, 1) := dk_96 (dk_at dksX5_caseOf_4 23 rfl rfl)
theorem dX5_caseOf_116 : decode cX5_caseOf 116 = .ok (.istore_n 3, 1) := dk_62 (dk_at dksX5_caseOf_5 0 rfl rfl)
theorem dX5_caseOf_117 : decode cX5_caseOf 117 = .ok (.aload_n 0, 1) := dk_42 (dk_at dksX5_caseOf_5 1 rfl rfl)
theorem dX5_caseOf_118 : decode cX5_caseOf 118 = .ok (.getfield 282, 3) := dk_180 1 26 (dk_at dksX5_caseOf_5 2 rfl rfl)
theorem dX5_caseOf_121 : decode cX5_caseOf 121 = .ok (.dstore 4, 2) := dk_57 4 (dk_at dksX5_caseOf_5 5 rfl rfl)
theorem dX5_caseOf_123 : decode cX5_caseOf 123 = .ok (.iinc 8 1, 3) := dk_132 8 1 (dk_at dksX5_caseOf_5 7 rfl rfl)
theorem dX5_caseOf_126 : decode cX5_caseOf 126 = .ok (.goto (-76), 3) := dk_167 255 180 (dk_at dksX5_caseOf_5 10 rfl rfl)
theorem dX5_caseOf_129 : decode cX5_caseOf 129 = .ok (.iinc 7 1, 3) := dk_132 7 1 (dk_at dksX5_caseOf_5 13 rfl rfl)
theorem dX5_caseOf_132 : decode cX5_caseOf 132 = .ok (.goto (-98), 3) := dk_167 255 158 (dk_at dksX5_caseOf_5 16 rfl rfl)
theorem dX5_caseOf_135 : decode cX5_caseOf 135 = .ok (.iload_n 3, 1) := dk_29 (dk_at dksX5_caseOf_5 19 rfl rfl)
theorem dX5_caseOf_136 : decode cX5_caseOf 136 = .ok (.ireturn, 1) := dk_172 (dk_at dksX5_caseOf_5 20 rfl rfl)
abbrev cX5_slice : ByteArray := prog_35_method_76_code
def yX5_slice : MethodName := ⟨RX5, "slice", "(I)I"⟩
def dkwX5_slice_2 : List UInt8 := [42, 27, 182, 0, 211, 126, 153, 0, 10, 28, 4, 21, 4, 120, 128, 61, 132, 4, 1, 167, 255, 205, 28, 172]
abbrev dktX5_slice_2 : List UInt8 := dkwX5_slice_2 ++ []
def dkwX5_slice_1 : List UInt8 := [21, 4, 122, 4, 126, 4, 160, 0, 34, 42, 21, 4, 182, 0, 204, 154, 0, 25, 42, 21, 4, 182, 1, 67]
abbrev dktX5_slice_1 : List UInt8 := dkwX5_slice_1 ++ dktX5_slice_2
def dkwX5_slice_0 : List UInt8 := [3, 61, 42, 42, 180, 0, 37, 27, 46, 182, 0, 214, 62, 3, 54, 4, 21, 4, 16, 24, 162, 0, 50, 29]
abbrev dktX5_slice_0 : List UInt8 := dkwX5_slice_0 ++ dktX5_slice_1
theorem dksX5_slice_0 : cX5_slice.data.toList.drop 0 = dktX5_slice_0 := by decide +kernel
theorem dksX5_slice_1 : cX5_slice.data.toList.drop 24 = dktX5_slice_1 := dk_seg dksX5_slice_0 24 rfl rfl
theorem dksX5_slice_2 : cX5_slice.data.toList.drop 48 = dktX5_slice_2 := dk_seg dksX5_slice_1 24 rfl rfl
theorem dX5_slice_0 : decode cX5_slice 0 = .ok (.iconst 0, 1) := dk_3 (dk_at dksX5_slice_0 0 rfl rfl)
theorem dX5_slice_1 : decode cX5_slice 1 = .ok (.istore_n 2, 1) := dk_61 (dk_at dksX5_slice_0 1 rfl rfl)
theorem dX5_slice_2 : decode cX5_slice 2 = .ok (.aload_n 0, 1) := dk_42 (dk_at dksX5_slice_0 2 rfl rfl)
theorem dX5_slice_3 : decode cX5_slice 3 = .ok (.aload_n 0, 1) := dk_42 (dk_at dksX5_slice_0 3 rfl rfl)
theorem dX5_slice_4 : decode cX5_slice 4 = .ok (.getfield 37, 3) := dk_180 0 37 (dk_at dksX5_slice_0 4 rfl rfl)
theorem dX5_slice_7 : decode cX5_slice 7 = .ok (.iload_n 1, 1) := dk_27 (dk_at dksX5_slice_0 7 rfl rfl)
theorem dX5_slice_8 : decode cX5_slice 8 = .ok (.iaload, 1) := dk_46 (dk_at dksX5_slice_0 8 rfl rfl)
theorem dX5_slice_9 : decode cX5_slice 9 = .ok (.invokevirtual 214, 3) := dk_182 0 214 (dk_at dksX5_slice_0 9 rfl rfl)
theorem dX5_slice_12 : decode cX5_slice 12 = .ok (.istore_n 3, 1) := dk_62 (dk_at dksX5_slice_0 12 rfl rfl)
theorem dX5_slice_13 : decode cX5_slice 13 = .ok (.iconst 0, 1) := dk_3 (dk_at dksX5_slice_0 13 rfl rfl)
theorem dX5_slice_14 : decode cX5_slice 14 = .ok (.istore 4, 2) := dk_54 4 (dk_at dksX5_slice_0 14 rfl rfl)
theorem dX5_slice_16 : decode cX5_slice 16 = .ok (.iload 4, 2) := dk_21 4 (dk_at dksX5_slice_0 16 rfl rfl)
theorem dX5_slice_18 : decode cX5_slice 18 = .ok (.bipush 24, 2) := dk_16 24 (dk_at dksX5_slice_0 18 rfl rfl)
theorem dX5_slice_20 : decode cX5_slice 20 = .ok (.if_icmp .ge 50, 3) := dk_162 0 50 (dk_at dksX5_slice_0 20 rfl rfl)
theorem dX5_slice_23 : decode cX5_slice 23 = .ok (.iload_n 3, 1) := dk_29 (dk_at dksX5_slice_0 23 rfl rfl)
theorem dX5_slice_24 : decode cX5_slice 24 = .ok (.iload 4, 2) := dk_21 4 (dk_at dksX5_slice_1 0 rfl rfl)
theorem dX5_slice_26 : decode cX5_slice 26 = .ok (.ishr, 1) := dk_122 (dk_at dksX5_slice_1 2 rfl rfl)
theorem dX5_slice_27 : decode cX5_slice 27 = .ok (.iconst 1, 1) := dk_4 (dk_at dksX5_slice_1 3 rfl rfl)
theorem dX5_slice_28 : decode cX5_slice 28 = .ok (.iand, 1) := dk_126 (dk_at dksX5_slice_1 4 rfl rfl)
theorem dX5_slice_29 : decode cX5_slice 29 = .ok (.iconst 1, 1) := dk_4 (dk_at dksX5_slice_1 5 rfl rfl)
theorem dX5_slice_30 : decode cX5_slice 30 = .ok (.if_icmp .ne 34, 3) := dk_160 0 34 (dk_at dksX5_slice_1 6 rfl rfl)
theorem dX5_slice_33 : decode cX5_slice 33 = .ok (.aload_n 0, 1) := dk_42 (dk_at dksX5_slice_1 9 rfl rfl)
theorem dX5_slice_34 : decode cX5_slice 34 = .ok (.iload 4, 2) := dk_21 4 (dk_at dksX5_slice_1 10 rfl rfl)
theorem dX5_slice_36 : decode cX5_slice 36 = .ok (.invokevirtual 204, 3) := dk_182 0 204 (dk_at dksX5_slice_1 12 rfl rfl)
theorem dX5_slice_39 : decode cX5_slice 39 = .ok (.ifCond .ne 25, 3) := dk_154 0 25 (dk_at dksX5_slice_1 15 rfl rfl)
theorem dX5_slice_42 : decode cX5_slice 42 = .ok (.aload_n 0, 1) := dk_42 (dk_at dksX5_slice_1 18 rfl rfl)
theorem dX5_slice_43 : decode cX5_slice 43 = .ok (.iload 4, 2) := dk_21 4 (dk_at dksX5_slice_1 19 rfl rfl)
theorem dX5_slice_45 : decode cX5_slice 45 = .ok (.invokevirtual 323, 3) := dk_182 1 67 (dk_at dksX5_slice_1 21 rfl rfl)
theorem dX5_slice_48 : decode cX5_slice 48 = .ok (.aload_n 0, 1) := dk_42 (dk_at dksX5_slice_2 0 rfl rfl)
theorem dX5_slice_49 : decode cX5_slice 49 = .ok (.iload_n 1, 1) := dk_27 (dk_at dksX5_slice_2 1 rfl rfl)
theorem dX5_slice_50 : decode cX5_slice 50 = .ok (.invokevirtual 211, 3) := dk_182 0 211 (dk_at dksX5_slice_2 2 rfl rfl)
theorem dX5_slice_53 : decode cX5_slice 53 = .ok (.iand, 1) := dk_126 (dk_at dksX5_slice_2 5 rfl rfl)
theorem dX5_slice_54 : decode cX5_slice 54 = .ok (.ifCond .eq 10, 3) := dk_153 0 10 (dk_at dksX5_slice_2 6 rfl rfl)
theorem dX5_slice_57 : decode cX5_slice 57 = .ok (.iload_n 2, 1) := dk_28 (dk_at dksX5_slice_2 9 rfl rfl)
theorem dX5_slice_58 : decode cX5_slice 58 = .ok (.iconst 1, 1) := dk_4 (dk_at dksX5_slice_2 10 rfl rfl)
theorem dX5_slice_59 : decode cX5_slice 59 = .ok (.iload 4, 2) := dk_21 4 (dk_at dksX5_slice_2 11 rfl rfl)
theorem dX5_slice_61 : decode cX5_slice 61 = .ok (.ishl, 1) := dk_120 (dk_at dksX5_slice_2 13 rfl rfl)
theorem dX5_slice_62 : decode cX5_slice 62 = .ok (.ior, 1) := dk_128 (dk_at dksX5_slice_2 14 rfl rfl)
theorem dX5_slice_63 : decode cX5_slice 63 = .ok (.istore_n 2, 1) := dk_61 (dk_at dksX5_slice_2 15 rfl rfl)
theorem dX5_slice_64 : decode cX5_slice 64 = .ok (.iinc 4 1, 3) := dk_132 4 1 (dk_at dksX5_slice_2 16 rfl rfl)
theorem dX5_slice_67 : decode cX5_slice 67 = .ok (.goto (-51), 3) := dk_167 255 205 (dk_at dksX5_slice_2 19 rfl rfl)
theorem dX5_slice_70 : decode cX5_slice 70 = .ok (.iload_n 2, 1) := dk_28 (dk_at dksX5_slice_2 22 rfl rfl)
theorem dX5_slice_71 : decode cX5_slice 71 = .ok (.ireturn, 1) := dk_172 (dk_at dksX5_slice_2 23 rfl rfl)
abbrev cX5_unlikeOnes : ByteArray := prog_35_method_77_code
def yX5_unlikeOnes : MethodName := ⟨RX5, "unlikeOnes", "(II)I"⟩
def dkwX5_unlikeOnes_6 : List UInt8 := [21, 4, 172]
abbrev dktX5_unlikeOnes_6 : List UInt8 := dkwX5_unlikeOnes_6 ++ []
def dkwX5_unlikeOnes_5 : List UInt8 := [126, 54, 6, 132, 7, 1, 167, 255, 188, 21, 6, 153, 0, 6, 132, 4, 1, 132, 5, 1, 167, 255, 153]
abbrev dktX5_unlikeOnes_5 : List UInt8 := dkwX5_unlikeOnes_5 ++ dktX5_unlikeOnes_6
def dkwX5_unlikeOnes_4 : List UInt8 := [180, 0, 49, 5, 27, 104, 28, 96, 50, 21, 5, 49, 184, 0, 250, 151, 153, 0, 7, 4, 167, 0, 4, 3]
abbrev dktX5_unlikeOnes_4 : List UInt8 := dkwX5_unlikeOnes_4 ++ dktX5_unlikeOnes_5
def dkwX5_unlikeOnes_3 : List UInt8 := [42, 180, 0, 49, 5, 27, 104, 28, 96, 50, 21, 7, 49, 184, 0, 250, 42, 180, 0, 9, 29, 46, 42]
abbrev dktX5_unlikeOnes_3 : List UInt8 := dkwX5_unlikeOnes_3 ++ dktX5_unlikeOnes_4
def dkwX5_unlikeOnes_2 : List UInt8 := [162, 0, 94, 4, 54, 6, 3, 54, 7, 21, 7, 21, 5, 162, 0, 67, 21, 6, 42, 180, 0, 9, 29, 46]
abbrev dktX5_unlikeOnes_2 : List UInt8 := dkwX5_unlikeOnes_2 ++ dktX5_unlikeOnes_3
def dkwX5_unlikeOnes_1 : List UInt8 := [160, 0, 5, 3, 172, 3, 54, 4, 3, 54, 5, 21, 5, 42, 180, 0, 46, 5, 27, 104, 28, 96, 46]
abbrev dktX5_unlikeOnes_1 : List UInt8 := dkwX5_unlikeOnes_1 ++ dktX5_unlikeOnes_2
def dkwX5_unlikeOnes_0 : List UInt8 := [28, 154, 0, 12, 42, 180, 0, 40, 27, 46, 167, 0, 9, 42, 180, 0, 43, 27, 46, 62, 29, 2]
abbrev dktX5_unlikeOnes_0 : List UInt8 := dkwX5_unlikeOnes_0 ++ dktX5_unlikeOnes_1
theorem dksX5_unlikeOnes_0 : cX5_unlikeOnes.data.toList.drop 0 = dktX5_unlikeOnes_0 := by decide +kernel
theorem dksX5_unlikeOnes_1 : cX5_unlikeOnes.data.toList.drop 22 = dktX5_unlikeOnes_1 := dk_seg dksX5_unlikeOnes_0 22 rfl rfl
theorem dksX5_unlikeOnes_2 : cX5_unlikeOnes.data.toList.drop 45 = dktX5_unlikeOnes_2 := dk_seg dksX5_unlikeOnes_1 23 rfl rfl
theorem dksX5_unlikeOnes_3 : cX5_unlikeOnes.data.toList.drop 69 = dktX5_unlikeOnes_3 := dk_seg dksX5_unlikeOnes_2 24 rfl rfl
theorem dksX5_unlikeOnes_4 : cX5_unlikeOnes.data.toList.drop 92 = dktX5_unlikeOnes_4 := dk_seg dksX5_unlikeOnes_3 23 rfl rfl
theorem dksX5_unlikeOnes_5 : cX5_unlikeOnes.data.toList.drop 116 = dktX5_unlikeOnes_5 := dk_seg dksX5_unlikeOnes_4 24 rfl rfl
theorem dksX5_unlikeOnes_6 : cX5_unlikeOnes.data.toList.drop 139 = dktX5_unlikeOnes_6 := dk_seg dksX5_unlikeOnes_5 23 rfl rfl
theorem dX5_unlikeOnes_0 : decode cX5_unlikeOnes 0 = .ok (.iload_n 2, 1) := dk_28 (dk_at dksX5_unlikeOnes_0 0 rfl rfl)
theorem dX5_unlikeOnes_1 : decode cX5_unlikeOnes 1 = .ok (.ifCond .ne 12, 3) := dk_154 0 12 (dk_at dksX5_unlikeOnes_0 1 rfl rfl)
theorem dX5_unlikeOnes_4 : decode cX5_unlikeOnes 4 = .ok (.aload_n 0, 1) := dk_42 (dk_at dksX5_unlikeOnes_0 4 rfl rfl)
theorem dX5_unlikeOnes_5 : decode cX5_unlikeOnes 5 = .ok (.getfield 40, 3) := dk_180 0 40 (dk_at dksX5_unlikeOnes_0 5 rfl rfl)
theorem dX5_unlikeOnes_8 : decode cX5_unlikeOnes 8 = .ok (.iload_n 1, 1) := dk_27 (dk_at dksX5_unlikeOnes_0 8 rfl rfl)
theorem dX5_unlikeOnes_9 : decode cX5_unlikeOnes 9 = .ok (.iaload, 1) := dk_46 (dk_at dksX5_unlikeOnes_0 9 rfl rfl)
theorem dX5_unlikeOnes_10 : decode cX5_unlikeOnes 10 = .ok (.goto 9, 3) := dk_167 0 9 (dk_at dksX5_unlikeOnes_0 10 rfl rfl)
theorem dX5_unlikeOnes_13 : decode cX5_unlikeOnes 13 = .ok (.aload_n 0, 1) := dk_42 (dk_at dksX5_unlikeOnes_0 13 rfl rfl)
theorem dX5_unlikeOnes_14 : decode cX5_unlikeOnes 14 = .ok (.getfield 43, 3) := dk_180 0 43 (dk_at dksX5_unlikeOnes_0 14 rfl rfl)
theorem dX5_unlikeOnes_17 : decode cX5_unlikeOnes 17 = .ok (.iload_n 1, 1) := dk_27 (dk_at dksX5_unlikeOnes_0 17 rfl rfl)
theorem dX5_unlikeOnes_18 : decode cX5_unlikeOnes 18 = .ok (.iaload, 1) := dk_46 (dk_at dksX5_unlikeOnes_0 18 rfl rfl)
theorem dX5_unlikeOnes_19 : decode cX5_unlikeOnes 19 = .ok (.istore_n 3, 1) := dk_62 (dk_at dksX5_unlikeOnes_0 19 rfl rfl)
theorem dX5_unlikeOnes_20 : decode cX5_unlikeOnes 20 = .ok (.iload_n 3, 1) := dk_29 (dk_at dksX5_unlikeOnes_0 20 rfl rfl)
theorem dX5_unlikeOnes_21 : decode cX5_unlikeOnes 21 = .ok (.iconst (-1), 1) := dk_2 (dk_at dksX5_unlikeOnes_0 21 rfl rfl)
theorem dX5_unlikeOnes_22 : decode cX5_unlikeOnes 22 = .ok (.if_icmp .ne 5, 3) := dk_160 0 5 (dk_at dksX5_unlikeOnes_1 0 rfl rfl)
theorem dX5_unlikeOnes_25 : decode cX5_unlikeOnes 25 = .ok (.iconst 0, 1) := dk_3 (dk_at dksX5_unlikeOnes_1 3 rfl rfl)
theorem dX5_unlikeOnes_26 : decode cX5_unlikeOnes 26 = .ok (.ireturn, 1) := dk_172 (dk_at dksX5_unlikeOnes_1 4 rfl rfl)
theorem dX5_unlikeOnes_27 : decode cX5_unlikeOnes 27 = .ok (.iconst 0, 1) := dk_3 (dk_at dksX5_unlikeOnes_1 5 rfl rfl)
theorem dX5_unlikeOnes_28 : decode cX5_unlikeOnes 28 = .ok (.istore 4, 2) := dk_54 4 (dk_at dksX5_unlikeOnes_1 6 rfl rfl)
theorem dX5_unlikeOnes_30 : decode cX5_unlikeOnes 30 = .ok (.iconst 0, 1) := dk_3 (dk_at dksX5_unlikeOnes_1 8 rfl rfl)
theorem dX5_unlikeOnes_31 : decode cX5_unlikeOnes 31 = .ok (.istore 5, 2) := dk_54 5 (dk_at dksX5_unlikeOnes_1 9 rfl rfl)
theorem dX5_unlikeOnes_33 : decode cX5_unlikeOnes 33 = .ok (.iload 5, 2) := dk_21 5 (dk_at dksX5_unlikeOnes_1 11 rfl rfl)
theorem dX5_unlikeOnes_35 : decode cX5_unlikeOnes 35 = .ok (.aload_n 0, 1) := dk_42 (dk_at dksX5_unlikeOnes_1 13 rfl rfl)
theorem dX5_unlikeOnes_36 : decode cX5_unlikeOnes 36 = .ok (.getfield 46, 3) := dk_180 0 46 (dk_at dksX5_unlikeOnes_1 14 rfl rfl)
theorem dX5_unlikeOnes_39 : decode cX5_unlikeOnes 39 = .ok (.iconst 2, 1) := dk_5 (dk_at dksX5_unlikeOnes_1 17 rfl rfl)
theorem dX5_unlikeOnes_40 : decode cX5_unlikeOnes 40 = .ok (.iload_n 1, 1) := dk_27 (dk_at dksX5_unlikeOnes_1 18 rfl rfl)
theorem dX5_unlikeOnes_41 : decode cX5_unlikeOnes 41 = .ok (.imul, 1) := dk_104 (dk_at dksX5_unlikeOnes_1 19 rfl rfl)
theorem dX5_unlikeOnes_42 : decode cX5_unlikeOnes 42 = .ok (.iload_n 2, 1) := dk_28 (dk_at dksX5_unlikeOnes_1 20 rfl rfl)
theorem dX5_unlikeOnes_43 : decode cX5_unlikeOnes 43 = .ok (.iadd, 1) := dk_96 (dk_at dksX5_unlikeOnes_1 21 rfl rfl)
theorem dX5_unlikeOnes_44 : decode cX5_unlikeOnes 44 = .ok (.iaload, 1) := dk_46 (dk_at dksX5_unlikeOnes_1 22 rfl rfl)
theorem dX5_unlikeOnes_45 : decode cX5_unlikeOnes 45 = .ok (.if_icmp .ge 94, 3) := dk_162 0 94 (dk_at dksX5_unlikeOnes_2 0 rfl rfl)
theorem dX5_unlikeOnes_48 : decode cX5_unlikeOnes 48 = .ok (.iconst 1, 1) := dk_4 (dk_at dksX5_unlikeOnes_2 3 rfl rfl)
theorem dX5_unlikeOnes_49 : decode cX5_unlikeOnes 49 = .ok (.istore 6, 2) := dk_54 6 (dk_at dksX5_unlikeOnes_2 4 rfl rfl)
theorem dX5_unlikeOnes_51 : decode cX5_unlikeOnes 51 = .ok (.iconst 0, 1) := dk_3 (dk_at dksX5_unlikeOnes_2 6 rfl rfl)
theorem dX5_unlikeOnes_52 : decode cX5_unlikeOnes 52 = .ok (.istore 7, 2) := dk_54 7 (dk_at dksX5_unlikeOnes_2 7 rfl rfl)
theorem dX5_unlikeOnes_54 : decode cX5_unlikeOnes 54 = .ok (.iload 7, 2) := dk_21 7 (dk_at dksX5_unlikeOnes_2 9 rfl rfl)
theorem dX5_unlikeOnes_56 : decode cX5_unlikeOnes 56 = .ok (.iload 5, 2) := dk_21 5 (dk_at dksX5_unlikeOnes_2 11 rfl rfl)
theorem dX5_unlikeOnes_58 : decode cX5_unlikeOnes 58 = .ok (.if_icmp .ge 67, 3) := dk_162 0 67 (dk_at dksX5_unlikeOnes_2 13 rfl rfl)
theorem dX5_unlikeOnes_61 : decode cX5_unlikeOnes 61 = .ok (.iload 6, 2) := dk_21 6 (dk_at dksX5_unlikeOnes_2 16 rfl rfl)
theorem dX5_unlikeOnes_63 : decode cX5_unlikeOnes 63 = .ok (.aload_n 0, 1) := dk_42 (dk_at dksX5_unlikeOnes_2 18 rfl rfl)
theorem dX5_unlikeOnes_64 : decode cX5_unlikeOnes 64 = .ok (.getfield 9, 3) := dk_180 0 9 (dk_at dksX5_unlikeOnes_2 19 rfl rfl)
theorem dX5_unlikeOnes_67 : decode cX5_unlikeOnes 67 = .ok (.iload_n 3, 1) := dk_29 (dk_at dksX5_unlikeOnes_2 22 rfl rfl)
theorem dX5_unlikeOnes_68 : decode cX5_unlikeOnes 68 = .ok (.iaload, 1) := dk_46 (dk_at dksX5_unlikeOnes_2 23 rfl rfl)
theorem dX5_unlikeOnes_69 : decode cX5_unlikeOnes 69 = .ok (.aload_n 0, 1) := dk_42 (dk_at dksX5_unlikeOnes_3 0 rfl rfl)
theorem dX5_unlikeOnes_70 : decode cX5_unlikeOnes 70 = .ok (.getfield 49, 3) := dk_180 0 49 (dk_at dksX5_unlikeOnes_3 1 rfl rfl)
theorem dX5_unlikeOnes_73 : decode cX5_unlikeOnes 73 = .ok (.iconst 2, 1) := dk_5 (dk_at dksX5_unlikeOnes_3 4 rfl rfl)
theorem dX5_unlikeOnes_74 : decode cX5_unlikeOnes 74 = .ok (.iload_n 1, 1) := dk_27 (dk_at dksX5_unlikeOnes_3 5 rfl rfl)
theorem dX5_unlikeOnes_75 : decode cX5_unlikeOnes 75 = .ok (.imul, 1) := dk_104 (dk_at dksX5_unlikeOnes_3 6 rfl rfl)
theorem dX5_unlikeOnes_76 : decode cX5_unlikeOnes 76 = .ok (.iload_n 2, 1) := dk_28 (dk_at dksX5_unlikeOnes_3 7 rfl rfl)
theorem dX5_unlikeOnes_77 : decode cX5_unlikeOnes 77 = .ok (.iadd, 1) := dk_96 (dk_at dksX5_unlikeOnes_3 8 rfl rfl)
theorem dX5_unlikeOnes_78 : decode cX5_unlikeOnes 78 = .ok (.aaload, 1) := dk_50 (dk_at dksX5_unlikeOnes_3 9 rfl rfl)
theorem dX5_unlikeOnes_79 : decode cX5_unlikeOnes 79 = .ok (.iload 7, 2) := dk_21 7 (dk_at dksX5_unlikeOnes_3 10 rfl rfl)
theorem dX5_unlikeOnes_81 : decode cX5_unlikeOnes 81 = .ok (.daload, 1) := dk_49 (dk_at dksX5_unlikeOnes_3 12 rfl rfl)
theorem dX5_unlikeOnes_82 : decode cX5_unlikeOnes 82 = .ok (.invokestatic 250, 3) := dk_184 0 250 (dk_at dksX5_unlikeOnes_3 13 rfl rfl)
theorem dX5_unlikeOnes_85 : decode cX5_unlikeOnes 85 = .ok (.aload_n 0, 1) := dk_42 (dk_at dksX5_unlikeOnes_3 16 rfl rfl)
theorem dX5_unlikeOnes_86 : decode cX5_unlikeOnes 86 = .ok (.getfield 9, 3) := dk_180 0 9 (dk_at dksX5_unlikeOnes_3 17 rfl rfl)
theorem dX5_unlikeOnes_89 : decode cX5_unlikeOnes 89 = .ok (.iload_n 3, 1) := dk_29 (dk_at dksX5_unlikeOnes_3 20 rfl rfl)
theorem dX5_unlikeOnes_90 : decode cX5_unlikeOnes 90 = .ok (.iaload, 1) := dk_46 (dk_at dksX5_unlikeOnes_3 21 rfl rfl)
theorem dX5_unlikeOnes_91 : decode cX5_unlikeOnes 91 = .ok (.aload_n 0, 1) := dk_42 (dk_at dksX5_unlikeOnes_3 22 rfl rfl)
theorem dX5_unlikeOnes_92 : decode cX5_unlikeOnes 92 = .ok (.getfield 49, 3) := dk_180 0 49 (dk_at dksX5_unlikeOnes_4 0 rfl rfl)
theorem dX5_unlikeOnes_95 : decode cX5_unlikeOnes 95 = .ok (.iconst 2, 1) := dk_5 (dk_at dksX5_unlikeOnes_4 3 rfl rfl)
theorem dX5_unlikeOnes_96 : decode cX5_unlikeOnes 96 = .ok (.iload_n 1, 1) := dk_27 (dk_at dksX5_unlikeOnes_4 4 rfl rfl)
theorem dX5_unlikeOnes_97 : decode cX5_unlikeOnes 97 = .ok (.imul, 1) := dk_104 (dk_at dksX5_unlikeOnes_4 5 rfl rfl)
theorem dX5_unlikeOnes_98 : decode cX5_unlikeOnes 98 = .ok (.iload_n 2, 1) := dk_28 (dk_at dksX5_unlikeOnes_4 6 rfl rfl)
theorem dX5_unlikeOnes_99 : decode cX5_unlikeOnes 99 = .ok (.iadd, 1) := dk_96 (dk_at dksX5_unlikeOnes_4 7 rfl rfl)
theorem dX5_unlikeOnes_100 : decode cX5_unlikeOnes 100 = .ok (.aaload, 1) := dk_50 (dk_at dksX5_unlikeOnes_4 8 rfl rfl)
theorem dX5_unlikeOnes_101 : decode cX5_unlikeOnes 101 = .ok (.iload 5, 2) := dk_21 5 (dk_at dksX5_unlikeOnes_4 9 rfl rfl)
theorem dX5_unlikeOnes_103 : decode cX5_unlikeOnes 103 = .ok (.daload, 1) := dk_49 (dk_at dksX5_unlikeOnes_4 11 rfl rfl)
theorem dX5_unlikeOnes_104 : decode cX5_unlikeOnes 104 = .ok (.invokestatic 250, 3) := dk_184 0 250 (dk_at dksX5_unlikeOnes_4 12 rfl rfl)
theorem dX5_unlikeOnes_107 : decode cX5_unlikeOnes 107 = .ok (.dcmp .l, 1) := dk_151 (dk_at dksX5_unlikeOnes_4 15 rfl rfl)
theorem dX5_unlikeOnes_108 : decode cX5_unlikeOnes 108 = .ok (.ifCond .eq 7, 3) := dk_153 0 7 (dk_at dksX5_unlikeOnes_4 16 rfl rfl)
theorem dX5_unlikeOnes_111 : decode cX5_unlikeOnes 111 = .ok (.iconst 1, 1) := dk_4 (dk_at dksX5_unlikeOnes_4 19 rfl rfl)
theorem dX5_unlikeOnes_112 : decode cX5_unlikeOnes 112 = .ok (.goto 4, 3) := dk_167 0 4 (dk_at dksX5_unlikeOnes_4 20 rfl rfl)
theorem dX5_unlikeOnes_115 : decode cX5_unlikeOnes 115 = .ok (.iconst 0, 1) := dk_3 (dk_at dksX5_unlikeOnes_4 23 rfl rfl)
theorem dX5_unlikeOnes_116 : decode cX5_unlikeOnes 116 = .ok (.iand, 1) := dk_126 (dk_at dksX5_unlikeOnes_5 0 rfl rfl)
theorem dX5_unlikeOnes_117 : decode cX5_unlikeOnes 117 = .ok (.istore 6, 2) := dk_54 6 (dk_at dksX5_unlikeOnes_5 1 rfl rfl)
theorem dX5_unlikeOnes_119 : decode cX5_unlikeOnes 119 = .ok (.iinc 7 1, 3) := dk_132 7 1 (dk_at dksX5_unlikeOnes_5 3 rfl rfl)
theorem dX5_unlikeOnes_122 : decode cX5_unlikeOnes 122 = .ok (.goto (-68), 3) := dk_167 255 188 (dk_at dksX5_unlikeOnes_5 6 rfl rfl)
theorem dX5_unlikeOnes_125 : decode cX5_unlikeOnes 125 = .ok (.iload 6, 2) := dk_21 6 (dk_at dksX5_unlikeOnes_5 9 rfl rfl)
theorem dX5_unlikeOnes_127 : decode cX5_unlikeOnes 127 = .ok (.ifCond .eq 6, 3) := dk_153 0 6 (dk_at dksX5_unlikeOnes_5 11 rfl rfl)
theorem dX5_unlikeOnes_130 : decode cX5_unlikeOnes 130 = .ok (.iinc 4 1, 3) := dk_132 4 1 (dk_at dksX5_unlikeOnes_5 14 rfl rfl)
theorem dX5_unlikeOnes_133 : decode cX5_unlikeOnes 133 = .ok (.iinc 5 1, 3) := dk_132 5 1 (dk_at dksX5_unlikeOnes_5 17 rfl rfl)
theorem dX5_unlikeOnes_136 : decode cX5_unlikeOnes 136 = .ok (.goto (-103), 3) := dk_167 255 153 (dk_at dksX5_unlikeOnes_5 20 rfl rfl)
theorem dX5_unlikeOnes_139 : decode cX5_unlikeOnes 139 = .ok (.iload 4, 2) := dk_21 4 (dk_at dksX5_unlikeOnes_6 0 rfl rfl)
theorem dX5_unlikeOnes_141 : decode cX5_unlikeOnes 141 = .ok (.ireturn, 1) := dk_172 (dk_at dksX5_unlikeOnes_6 2 rfl rfl)
abbrev cX5_toldLeast : ByteArray := prog_35_method_78_code
def yX5_toldLeast : MethodName := ⟨RX5, "toldLeast", "(I)I"⟩
def dkwX5_toldLeast_9 : List UInt8 := [27, 28, 79, 28, 172]
abbrev dktX5_toldLeast_9 : List UInt8 := dkwX5_toldLeast_9 ++ []
def dkwX5_toldLeast_8 : List UInt8 := [54, 5, 28, 21, 5, 96, 61, 132, 4, 1, 167, 255, 90, 42, 180, 0, 117, 27, 4, 84, 42, 180, 0, 120]
abbrev dktX5_toldLeast_8 : List UInt8 := dkwX5_toldLeast_8 ++ dktX5_toldLeast_9
def dkwX5_toldLeast_7 : List UInt8 := [21, 6, 42, 180, 0, 43, 27, 46, 122, 4, 126, 4, 160, 0, 14, 21, 5, 42, 27, 4, 182, 1, 245, 104]
abbrev dktX5_toldLeast_7 : List UInt8 := dkwX5_toldLeast_7 ++ dktX5_toldLeast_8
def dkwX5_toldLeast_6 : List UInt8 := [160, 0, 14, 21, 5, 42, 27, 3, 182, 1, 245, 104, 54, 5, 42, 180, 0, 43, 27, 46, 2, 159, 0, 29]
abbrev dktX5_toldLeast_6 : List UInt8 := dkwX5_toldLeast_6 ++ dktX5_toldLeast_7
def dkwX5_toldLeast_5 : List UInt8 := [167, 255, 205, 42, 21, 4, 182, 1, 67, 54, 6, 21, 6, 42, 180, 0, 40, 27, 46, 122, 4, 126, 4]
abbrev dktX5_toldLeast_5 : List UInt8 := dkwX5_toldLeast_5 ++ dktX5_toldLeast_6
def dkwX5_toldLeast_4 : List UInt8 := [21, 5, 42, 21, 4, 21, 6, 182, 0, 200, 42, 21, 6, 182, 1, 242, 104, 96, 54, 5, 132, 6, 1]
abbrev dktX5_toldLeast_4 : List UInt8 := dkwX5_toldLeast_4 ++ dktX5_toldLeast_5
def dkwX5_toldLeast_3 : List UInt8 := [162, 0, 50, 42, 180, 0, 34, 21, 6, 51, 153, 0, 34, 42, 21, 4, 21, 6, 182, 0, 200, 158, 0, 23]
abbrev dktX5_toldLeast_3 : List UInt8 := dkwX5_toldLeast_3 ++ dktX5_toldLeast_4
def dkwX5_toldLeast_2 : List UInt8 := [42, 21, 4, 182, 0, 204, 153, 0, 6, 167, 0, 138, 4, 54, 5, 3, 54, 6, 21, 6, 16, 6]
abbrev dktX5_toldLeast_2 : List UInt8 := dkwX5_toldLeast_2 ++ dktX5_toldLeast_3
def dkwX5_toldLeast_1 : List UInt8 := [46, 182, 0, 214, 62, 3, 54, 4, 21, 4, 16, 24, 162, 0, 165, 29, 21, 4, 122, 4, 126, 153, 0, 150]
abbrev dktX5_toldLeast_1 : List UInt8 := dkwX5_toldLeast_1 ++ dktX5_toldLeast_2
def dkwX5_toldLeast_0 : List UInt8 := [42, 180, 0, 117, 27, 51, 153, 0, 10, 42, 180, 0, 120, 27, 46, 172, 3, 61, 42, 42, 180, 0, 37, 27]
abbrev dktX5_toldLeast_0 : List UInt8 := dkwX5_toldLeast_0 ++ dktX5_toldLeast_1
theorem dksX5_toldLeast_0 : cX5_toldLeast.data.toList.drop 0 = dktX5_toldLeast_0 := by decide +kernel
theorem dksX5_toldLeast_1 : cX5_toldLeast.data.toList.drop 24 = dktX5_toldLeast_1 := dk_seg dksX5_toldLeast_0 24 rfl rfl
theorem dksX5_toldLeast_2 : cX5_toldLeast.data.toList.drop 48 = dktX5_toldLeast_2 := dk_seg dksX5_toldLeast_1 24 rfl rfl
theorem dksX5_toldLeast_3 : cX5_toldLeast.data.toList.drop 70 = dktX5_toldLeast_3 := dk_seg dksX5_toldLeast_2 22 rfl rfl
theorem dksX5_toldLeast_4 : cX5_toldLeast.data.toList.drop 94 = dktX5_toldLeast_4 := dk_seg dksX5_toldLeast_3 24 rfl rfl
theorem dksX5_toldLeast_5 : cX5_toldLeast.data.toList.drop 117 = dktX5_toldLeast_5 := dk_seg dksX5_toldLeast_4 23 rfl rfl
theorem dksX5_toldLeast_6 : cX5_toldLeast.data.toList.drop 140 = dktX5_toldLeast_6 := dk_seg dksX5_toldLeast_5 23 rfl rfl
theorem dksX5_toldLeast_7 : cX5_toldLeast.data.toList.drop 164 = dktX5_toldLeast_7 := dk_seg dksX5_toldLeast_6 24 rfl rfl
theorem dksX5_toldLeast_8 : cX5_toldLeast.data.toList.drop 188 = dktX5_toldLeast_8 := dk_seg dksX5_toldLeast_7 24 rfl rfl
theorem dksX5_toldLeast_9 : cX5_toldLeast.data.toList.drop 212 = dktX5_toldLeast_9 := dk_seg dksX5_toldLeast_8 24 rfl rfl
theorem dX5_toldLeast_0 : decode cX5_toldLeast 0 = .ok (.aload_n 0, 1) := dk_42 (dk_at dksX5_toldLeast_0 0 rfl rfl)
theorem dX5_toldLeast_1 : decode cX5_toldLeast 1 = .ok (.getfield 117, 3) := dk_180 0 117 (dk_at dksX5_toldLeast_0 1 rfl rfl)
theorem dX5_toldLeast_4 : decode cX5_toldLeast 4 = .ok (.iload_n 1, 1) := dk_27 (dk_at dksX5_toldLeast_0 4 rfl rfl)
theorem dX5_toldLeast_5 : decode cX5_toldLeast 5 = .ok (.baload, 1) := dk_51 (dk_at dksX5_toldLeast_0 5 rfl rfl)
theorem dX5_toldLeast_6 : decode cX5_toldLeast 6 = .ok (.ifCond .eq 10, 3) := dk_153 0 10 (dk_at dksX5_toldLeast_0 6 rfl rfl)
theorem dX5_toldLeast_9 : decode cX5_toldLeast 9 = .ok (.aload_n 0, 1) := dk_42 (dk_at dksX5_toldLeast_0 9 rfl rfl)
theorem dX5_toldLeast_10 : decode cX5_toldLeast 10 = .ok (.getfield 120, 3) := dk_180 0 120 (dk_at dksX5_toldLeast_0 10 rfl rfl)
theorem dX5_toldLeast_13 : decode cX5_toldLeast 13 = .ok (.iload_n 1, 1) := dk_27 (dk_at dksX5_toldLeast_0 13 rfl rfl)
theorem dX5_toldLeast_14 : decode cX5_toldLeast 14 = .ok (.iaload, 1) := dk_46 (dk_at dksX5_toldLeast_0 14 rfl rfl)
theorem dX5_toldLeast_15 : decode cX5_toldLeast 15 = .ok (.ireturn, 1) := dk_172 (dk_at dksX5_toldLeast_0 15 rfl rfl)
theorem dX5_toldLeast_16 : decode cX5_toldLeast 16 = .ok (.iconst 0, 1) := dk_3 (dk_at dksX5_toldLeast_0 16 rfl rfl)
theorem dX5_toldLeast_17 : decode cX5_toldLeast 17 = .ok (.istore_n 2, 1) := dk_61 (dk_at dksX5_toldLeast_0 17 rfl rfl)
theorem dX5_toldLeast_18 : decode cX5_toldLeast 18 = .ok (.aload_n 0, 1) := dk_42 (dk_at dksX5_toldLeast_0 18 rfl rfl)
theorem dX5_toldLeast_19 : decode cX5_toldLeast 19 = .ok (.aload_n 0, 1) := dk_42 (dk_at dksX5_toldLeast_0 19 rfl rfl)
theorem dX5_toldLeast_20 : decode cX5_toldLeast 20 = .ok (.getfield 37, 3) := dk_180 0 37 (dk_at dksX5_toldLeast_0 20 rfl rfl)
theorem dX5_toldLeast_23 : decode cX5_toldLeast 23 = .ok (.iload_n 1, 1) := dk_27 (dk_at dksX5_toldLeast_0 23 rfl rfl)
theorem dX5_toldLeast_24 : decode cX5_toldLeast 24 = .ok (.iaload, 1) := dk_46 (dk_at dksX5_toldLeast_1 0 rfl rfl)
theorem dX5_toldLeast_25 : decode cX5_toldLeast 25 = .ok (.invokevirtual 214, 3) := dk_182 0 214 (dk_at dksX5_toldLeast_1 1 rfl rfl)
theorem dX5_toldLeast_28 : decode cX5_toldLeast 28 = .ok (.istore_n 3, 1) := dk_62 (dk_at dksX5_toldLeast_1 4 rfl rfl)
theorem dX5_toldLeast_29 : decode cX5_toldLeast 29 = .ok (.iconst 0, 1) := dk_3 (dk_at dksX5_toldLeast_1 5 rfl rfl)
theorem dX5_toldLeast_30 : decode cX5_toldLeast 30 = .ok (.istore 4, 2) := dk_54 4 (dk_at dksX5_toldLeast_1 6 rfl rfl)
theorem dX5_toldLeast_32 : decode cX5_toldLeast 32 = .ok (.iload 4, 2) := dk_21 4 (dk_at dksX5_toldLeast_1 8 rfl rfl)
theorem dX5_toldLeast_34 : decode cX5_toldLeast 34 = .ok (.bipush 24, 2) := dk_16 24 (dk_at dksX5_toldLeast_1 10 rfl rfl)
theorem dX5_toldLeast_36 : decode cX5_toldLeast 36 = .ok (.if_icmp .ge 165, 3) := dk_162 0 165 (dk_at dksX5_toldLeast_1 12 rfl rfl)
theorem dX5_toldLeast_39 : decode cX5_toldLeast 39 = .ok (.iload_n 3, 1) := dk_29 (dk_at dksX5_toldLeast_1 15 rfl rfl)
theorem dX5_toldLeast_40 : decode cX5_toldLeast 40 = .ok (.iload 4, 2) := dk_21 4 (dk_at dksX5_toldLeast_1 16 rfl rfl)
theorem dX5_toldLeast_42 : decode cX5_toldLeast 42 = .ok (.ishr, 1) := dk_122 (dk_at dksX5_toldLeast_1 18 rfl rfl)
theorem dX5_toldLeast_43 : decode cX5_toldLeast 43 = .ok (.iconst 1, 1) := dk_4 (dk_at dksX5_toldLeast_1 19 rfl rfl)
theorem dX5_toldLeast_44 : decode cX5_toldLeast 44 = .ok (.iand, 1) := dk_126 (dk_at dksX5_toldLeast_1 20 rfl rfl)
theorem dX5_toldLeast_45 : decode cX5_toldLeast 45 = .ok (.ifCond .eq 150, 3) := dk_153 0 150 (dk_at dksX5_toldLeast_1 21 rfl rfl)
theorem dX5_toldLeast_48 : decode cX5_toldLeast 48 = .ok (.aload_n 0, 1) := dk_42 (dk_at dksX5_toldLeast_2 0 rfl rfl)
theorem dX5_toldLeast_49 : decode cX5_toldLeast 49 = .ok (.iload 4, 2) := dk_21 4 (dk_at dksX5_toldLeast_2 1 rfl rfl)
theorem dX5_toldLeast_51 : decode cX5_toldLeast 51 = .ok (.invokevirtual 204, 3) := dk_182 0 204 (dk_at dksX5_toldLeast_2 3 rfl rfl)
theorem dX5_toldLeast_54 : decode cX5_toldLeast 54 = .ok (.ifCond .eq 6, 3) := dk_153 0 6 (dk_at dksX5_toldLeast_2 6 rfl rfl)
theorem dX5_toldLeast_57 : decode cX5_toldLeast 57 = .ok (.goto 138, 3) := dk_167 0 138 (dk_at dksX5_toldLeast_2 9 rfl rfl)
theorem dX5_toldLeast_60 : decode cX5_toldLeast 60 = .ok (.iconst 1, 1) := dk_4 (dk_at dksX5_toldLeast_2 12 rfl rfl)
theorem dX5_toldLeast_61 : decode cX5_toldLeast 61 = .ok (.istore 5, 2) := dk_54 5 (dk_at dksX5_toldLeast_2 13 rfl rfl)
theorem dX5_toldLeast_63 : decode cX5_toldLeast 63 = .ok (.iconst 0, 1) := dk_3 (dk_at dksX5_toldLeast_2 15 rfl rfl)
theorem dX5_toldLeast_64 : decode cX5_toldLeast 64 = .ok (.istore 6, 2) := dk_54 6 (dk_at dksX5_toldLeast_2 16 rfl rfl)
theorem dX5_toldLeast_66 : decode cX5_toldLeast 66 = .ok (.iload 6, 2) := dk_21 6 (dk_at dksX5_toldLeast_2 18 rfl rfl)
theorem dX5_toldLeast_68 : decode cX5_toldLeast 68 = .ok (.bipush 6, 2) := dk_16 6 (dk_at dksX5_toldLeast_2 20 rfl rfl)
theorem dX5_toldLeast_70 : decode cX5_toldLeast 70 = .ok (.if_icmp .ge 50, 3) := dk_162 0 50 (dk_at dksX5_toldLeast_3 0 rfl rfl)
theorem dX5_toldLeast_73 : decode cX5_toldLeast 73 = .ok (.aload_n 0, 1) := dk_42 (dk_at dksX5_toldLeast_3 3 rfl rfl)
theorem dX5_toldLeast_74 : decode cX5_toldLeast 74 = .ok (.getfield 34, 3) := dk_180 0 34 (dk_at dksX5_toldLeast_3 4 rfl rfl)
theorem dX5_toldLeast_77 : decode cX5_toldLeast 77 = .ok (.iload 6, 2) := dk_21 6 (dk_at dksX5_toldLeast_3 7 rfl rfl)
theorem dX5_toldLeast_79 : decode cX5_toldLeast 79 = .ok (.baload, 1) := dk_51 (dk_at dksX5_toldLeast_3 9 rfl rfl)
theorem dX5_toldLeast_80 : decode cX5_toldLeast 80 = .ok (.ifCond .eq 34, 3) := dk_153 0 34 (dk_at dksX5_toldLeast_3 10 rfl rfl)
theorem dX5_toldLeast_83 : decode cX5_toldLeast 83 = .ok (.aload_n 0, 1) := dk_42 (dk_at dksX5_toldLeast_3 13 rfl rfl)
theorem dX5_toldLeast_84 : decode cX5_toldLeast 84 = .ok (.iload 4, 2) := dk_21 4 (dk_at dksX5_toldLeast_3 14 rfl rfl)
theorem dX5_toldLeast_86 : decode cX5_toldLeast 86 = .ok (.iload 6, 2) := dk_21 6 (dk_at dksX5_toldLeast_3 16 rfl rfl)
theorem dX5_toldLeast_88 : decode cX5_toldLeast 88 = .ok (.invokevirtual 200, 3) := dk_182 0 200 (dk_at dksX5_toldLeast_3 18 rfl rfl)
theorem dX5_toldLeast_91 : decode cX5_toldLeast 91 = .ok (.ifCond .le 23, 3) := dk_158 0 23 (dk_at dksX5_toldLeast_3 21 rfl rfl)
theorem dX5_toldLeast_94 : decode cX5_toldLeast 94 = .ok (.iload 5, 2) := dk_21 5 (dk_at dksX5_toldLeast_4 0 rfl rfl)
theorem dX5_toldLeast_96 : decode cX5_toldLeast 96 = .ok (.aload_n 0, 1) := dk_42 (dk_at dksX5_toldLeast_4 2 rfl rfl)
theorem dX5_toldLeast_97 : decode cX5_toldLeast 97 = .ok (.iload 4, 2) := dk_21 4 (dk_at dksX5_toldLeast_4 3 rfl rfl)
theorem dX5_toldLeast_99 : decode cX5_toldLeast 99 = .ok (.iload 6, 2) := dk_21 6 (dk_at dksX5_toldLeast_4 5 rfl rfl)
theorem dX5_toldLeast_101 : decode cX5_toldLeast 101 = .ok (.invokevirtual 200, 3) := dk_182 0 200 (dk_at dksX5_toldLeast_4 7 rfl rfl)
theorem dX5_toldLeast_104 : decode cX5_toldLeast 104 = .ok (.aload_n 0, 1) := dk_42 (dk_at dksX5_toldLeast_4 10 rfl rfl)
theorem dX5_toldLeast_105 : decode cX5_toldLeast 105 = .ok (.iload 6, 2) := dk_21 6 (dk_at dksX5_toldLeast_4 11 rfl rfl)
theorem dX5_toldLeast_107 : decode cX5_toldLeast 107 = .ok (.invokevirtual 498, 3) := dk_182 1 242 (dk_at dksX5_toldLeast_4 13 rfl rfl)
theorem dX5_toldLeast_110 : decode cX5_toldLeast 110 = .ok (.imul, 1) := dk_104 (dk_at dksX5_toldLeast_4 16 rfl rfl)
theorem dX5_toldLeast_111 : decode cX5_toldLeast 111 = .ok (.iadd, 1) := dk_96 (dk_at dksX5_toldLeast_4 17 rfl rfl)
theorem dX5_toldLeast_112 : decode cX5_toldLeast 112 = .ok (.istore 5, 2) := dk_54 5 (dk_at dksX5_toldLeast_4 18 rfl rfl)
theorem dX5_toldLeast_114 : decode cX5_toldLeast 114 = .ok (.iinc 6 1, 3) := dk_132 6 1 (dk_at dksX5_toldLeast_4 20 rfl rfl)
theorem dX5_toldLeast_117 : decode cX5_toldLeast 117 = .ok (.goto (-51), 3) := dk_167 255 205 (dk_at dksX5_toldLeast_5 0 rfl rfl)
theorem dX5_toldLeast_120 : decode cX5_toldLeast 120 = .ok (.aload_n 0, 1) := dk_42 (dk_at dksX5_toldLeast_5 3 rfl rfl)
theorem dX5_toldLeast_121 : decode cX5_toldLeast 121 = .ok (.iload 4, 2) := dk_21 4 (dk_at dksX5_toldLeast_5 4 rfl rfl)
theorem dX5_toldLeast_123 : decode cX5_toldLeast 123 = .ok (.invokevirtual 323, 3) := dk_182 1 67 (dk_at dksX5_toldLeast_5 6 rfl rfl)
theorem dX5_toldLeast_126 : decode cX5_toldLeast 126 = .ok (.istore 6, 2) := dk_54 6 (dk_at dksX5_toldLeast_5 9 rfl rfl)
theorem dX5_toldLeast_128 : decode cX5_toldLeast 128 = .ok (.iload 6, 2) := dk_21 6 (dk_at dksX5_toldLeast_5 11 rfl rfl)
theorem dX5_toldLeast_130 : decode cX5_toldLeast 130 = .ok (.aload_n 0, 1) := dk_42 (dk_at dksX5_toldLeast_5 13 rfl rfl)
theorem dX5_toldLeast_131 : decode cX5_toldLeast 131 = .ok (.getfield 40, 3) := dk_180 0 40 (dk_at dksX5_toldLeast_5 14 rfl rfl)
theorem dX5_toldLeast_134 : decode cX5_toldLeast 134 = .ok (.iload_n 1, 1) := dk_27 (dk_at dksX5_toldLeast_5 17 rfl rfl)
theorem dX5_toldLeast_135 : decode cX5_toldLeast 135 = .ok (.iaload, 1) := dk_46 (dk_at dksX5_toldLeast_5 18 rfl rfl)
theorem dX5_toldLeast_136 : decode cX5_toldLeast 136 = .ok (.ishr, 1) := dk_122 (dk_at dksX5_toldLeast_5 19 rfl rfl)
theorem dX5_toldLeast_137 : decode cX5_toldLeast 137 = .ok (.iconst 1, 1) := dk_4 (dk_at dksX5_toldLeast_5 20 rfl rfl)
theorem dX5_toldLeast_138 : decode cX5_toldLeast 138 = .ok (.iand, 1) := dk_126 (dk_at dksX5_toldLeast_5 21 rfl rfl)
theorem dX5_toldLeast_139 : decode cX5_toldLeast 139 = .ok (.iconst 1, 1) := dk_4 (dk_at dksX5_toldLeast_5 22 rfl rfl)
theorem dX5_toldLeast_140 : decode cX5_toldLeast 140 = .ok (.if_icmp .ne 14, 3) := dk_160 0 14 (dk_at dksX5_toldLeast_6 0 rfl rfl)
theorem dX5_toldLeast_143 : decode cX5_toldLeast 143 = .ok (.iload 5, 2) := dk_21 5 (dk_at dksX5_toldLeast_6 3 rfl rfl)
theorem dX5_toldLeast_145 : decode cX5_toldLeast 145 = .ok (.aload_n 0, 1) := dk_42 (dk_at dksX5_toldLeast_6 5 rfl rfl)
theorem dX5_toldLeast_146 : decode cX5_toldLeast 146 = .ok (.iload_n 1, 1) := dk_27 (dk_at dksX5_toldLeast_6 6 rfl rfl)
theorem dX5_toldLeast_147 : decode cX5_toldLeast 147 = .ok (.iconst 0, 1) := dk_3 (dk_at dksX5_toldLeast_6 7 rfl rfl)
theorem dX5_toldLeast_148 : decode cX5_toldLeast 148 = .ok (.invokevirtual 501, 3) := dk_182 1 245 (dk_at dksX5_toldLeast_6 8 rfl rfl)
theorem dX5_toldLeast_151 : decode cX5_toldLeast 151 = .ok (.imul, 1) := dk_104 (dk_at dksX5_toldLeast_6 11 rfl rfl)
theorem dX5_toldLeast_152 : decode cX5_toldLeast 152 = .ok (.istore 5, 2) := dk_54 5 (dk_at dksX5_toldLeast_6 12 rfl rfl)
theorem dX5_toldLeast_154 : decode cX5_toldLeast 154 = .ok (.aload_n 0, 1) := dk_42 (dk_at dksX5_toldLeast_6 14 rfl rfl)
theorem dX5_toldLeast_155 : decode cX5_toldLeast 155 = .ok (.getfield 43, 3) := dk_180 0 43 (dk_at dksX5_toldLeast_6 15 rfl rfl)
theorem dX5_toldLeast_158 : decode cX5_toldLeast 158 = .ok (.iload_n 1, 1) := dk_27 (dk_at dksX5_toldLeast_6 18 rfl rfl)
theorem dX5_toldLeast_159 : decode cX5_toldLeast 159 = .ok (.iaload, 1) := dk_46 (dk_at dksX5_toldLeast_6 19 rfl rfl)
theorem dX5_toldLeast_160 : decode cX5_toldLeast 160 = .ok (.iconst (-1), 1) := dk_2 (dk_at dksX5_toldLeast_6 20 rfl rfl)
theorem dX5_toldLeast_161 : decode cX5_toldLeast 161 = .ok (.if_icmp .eq 29, 3) := dk_159 0 29 (dk_at dksX5_toldLeast_6 21 rfl rfl)
theorem dX5_toldLeast_164 : decode cX5_toldLeast 164 = .ok (.iload 6, 2) := dk_21 6 (dk_at dksX5_toldLeast_7 0 rfl rfl)
theorem dX5_toldLeast_166 : decode cX5_toldLeast 166 = .ok (.aload_n 0, 1) := dk_42 (dk_at dksX5_toldLeast_7 2 rfl rfl)
theorem dX5_toldLeast_167 : decode cX5_toldLeast 167 = .ok (.getfield 43, 3) := dk_180 0 43 (dk_at dksX5_toldLeast_7 3 rfl rfl)
theorem dX5_toldLeast_170 : decode cX5_toldLeast 170 = .ok (.iload_n 1, 1) := dk_27 (dk_at dksX5_toldLeast_7 6 rfl rfl)
theorem dX5_toldLeast_171 : decode cX5_toldLeast 171 = .ok (.iaload, 1) := dk_46 (dk_at dksX5_toldLeast_7 7 rfl rfl)
theorem dX5_toldLeast_172 : decode cX5_toldLeast 172 = .ok (.ishr, 1) := dk_122 (dk_at dksX5_toldLeast_7 8 rfl rfl)
theorem dX5_toldLeast_173 : decode cX5_toldLeast 173 = .ok (.iconst 1, 1) := dk_4 (dk_at dksX5_toldLeast_7 9 rfl rfl)
theorem dX5_toldLeast_174 : decode cX5_toldLeast 174 = .ok (.iand, 1) := dk_126 (dk_at dksX5_toldLeast_7 10 rfl rfl)
theorem dX5_toldLeast_175 : decode cX5_toldLeast 175 = .ok (.iconst 1, 1) := dk_4 (dk_at dksX5_toldLeast_7 11 rfl rfl)
theorem dX5_toldLeast_176 : decode cX5_toldLeast 176 = .ok (.if_icmp .ne 14, 3) := dk_160 0 14 (dk_at dksX5_toldLeast_7 12 rfl rfl)
theorem dX5_toldLeast_179 : decode cX5_toldLeast 179 = .ok (.iload 5, 2) := dk_21 5 (dk_at dksX5_toldLeast_7 15 rfl rfl)
theorem dX5_toldLeast_181 : decode cX5_toldLeast 181 = .ok (.aload_n 0, 1) := dk_42 (dk_at dksX5_toldLeast_7 17 rfl rfl)
theorem dX5_toldLeast_182 : decode cX5_toldLeast 182 = .ok (.iload_n 1, 1) := dk_27 (dk_at dksX5_toldLeast_7 18 rfl rfl)
theorem dX5_toldLeast_183 : decode cX5_toldLeast 183 = .ok (.iconst 1, 1) := dk_4 (dk_at dksX5_toldLeast_7 19 rfl rfl)
theorem dX5_toldLeast_184 : decode cX5_toldLeast 184 = .ok (.invokevirtual 501, 3) := dk_182 1 245 (dk_at dksX5_toldLeast_7 20 rfl rfl)
theorem dX5_toldLeast_187 : decode cX5_toldLeast 187 = .ok (.imul, 1) := dk_104 (dk_at dksX5_toldLeast_7 23 rfl rfl)
theorem dX5_toldLeast_188 : decode cX5_toldLeast 188 = .ok (.istore 5, 2) := dk_54 5 (dk_at dksX5_toldLeast_8 0 rfl rfl)
theorem dX5_toldLeast_190 : decode cX5_toldLeast 190 = .ok (.iload_n 2, 1) := dk_28 (dk_at dksX5_toldLeast_8 2 rfl rfl)
theorem dX5_toldLeast_191 : decode cX5_toldLeast 191 = .ok (.iload 5, 2) := dk_21 5 (dk_at dksX5_toldLeast_8 3 rfl rfl)
theorem dX5_toldLeast_193 : decode cX5_toldLeast 193 = .ok (.iadd, 1) := dk_96 (dk_at dksX5_toldLeast_8 5 rfl rfl)
theorem dX5_toldLeast_194 : decode cX5_toldLeast 194 = .ok (.istore_n 2, 1) := dk_61 (dk_at dksX5_toldLeast_8 6 rfl rfl)
theorem dX5_toldLeast_195 : decode cX5_toldLeast 195 = .ok (.iinc 4 1, 3) := dk_132 4 1 (dk_at dksX5_toldLeast_8 7 rfl rfl)
theorem dX5_toldLeast_198 : decode cX5_toldLeast 198 = .ok (.goto (-166), 3) := dk_167 255 90 (dk_at dksX5_toldLeast_8 10 rfl rfl)
theorem dX5_toldLeast_201 : decode cX5_toldLeast 201 = .ok (.aload_n 0, 1) := dk_42 (dk_at dksX5_toldLeast_8 13 rfl rfl)
theorem dX5_toldLeast_202 : decode cX5_toldLeast 202 = .ok (.getfield 117, 3) := dk_180 0 117 (dk_at dksX5_toldLeast_8 14 rfl rfl)
theorem dX5_toldLeast_205 : decode cX5_toldLeast 205 = .ok (.iload_n 1, 1) := dk_27 (dk_at dksX5_toldLeast_8 17 rfl rfl)
theorem dX5_toldLeast_206 : decode cX5_toldLeast 206 = .ok (.iconst 1, 1) := dk_4 (dk_at dksX5_toldLeast_8 18 rfl rfl)
theorem dX5_toldLeast_207 : decode cX5_toldLeast 207 = .ok (.bastore, 1) := dk_84 (dk_at dksX5_toldLeast_8 19 rfl rfl)
theorem dX5_toldLeast_208 : decode cX5_toldLeast 208 = .ok (.aload_n 0, 1) := dk_42 (dk_at dksX5_toldLeast_8 20 rfl rfl)
theorem dX5_toldLeast_209 : decode cX5_toldLeast 209 = .ok (.getfield 120, 3) := dk_180 0 120 (dk_at dksX5_toldLeast_8 21 rfl rfl)
theorem dX5_toldLeast_212 : decode cX5_toldLeast 212 = .ok (.iload_n 1, 1) := dk_27 (dk_at dksX5_toldLeast_9 0 rfl rfl)
theorem dX5_toldLeast_213 : decode cX5_toldLeast 213 = .ok (.iload_n 2, 1) := dk_28 (dk_at dksX5_toldLeast_9 1 rfl rfl)
theorem dX5_toldLeast_214 : decode cX5_toldLeast 214 = .ok (.iastore, 1) := dk_79 (dk_at dksX5_toldLeast_9 2 rfl rfl)
theorem dX5_toldLeast_215 : decode cX5_toldLeast 215 = .ok (.iload_n 2, 1) := dk_28 (dk_at dksX5_toldLeast_9 3 rfl rfl)
theorem dX5_toldLeast_216 : decode cX5_toldLeast 216 = .ok (.ireturn, 1) := dk_172 (dk_at dksX5_toldLeast_9 4 rfl rfl)
abbrev cX5_seek : ByteArray := prog_35_method_84_code
def yX5_seek : MethodName := ⟨RX5, "seek", "(IIIIII)J"⟩
def dkwX5_seek_6 : List UInt8 := [180, 2, 8, 184, 1, 49, 173]
abbrev dktX5_seek_6 : List UInt8 := dkwX5_seek_6 ++ []
def dkwX5_seek_5 : List UInt8 := [21, 7, 154, 0, 7, 20, 2, 31, 173, 21, 6, 154, 0, 10, 42, 180, 2, 5, 167, 0, 7, 42]
abbrev dktX5_seek_5 : List UInt8 := dkwX5_seek_5 ++ dktX5_seek_6
def dkwX5_seek_4 : List UInt8 := [21, 5, 135, 20, 1, 62, 111, 182, 2, 27, 54, 7, 21, 6, 5, 160, 0, 9, 42, 180, 1, 255, 133, 173]
abbrev dktX5_seek_4 : List UInt8 := dkwX5_seek_4 ++ dktX5_seek_5
def dkwX5_seek_3 : List UInt8 := [181, 1, 255, 42, 3, 181, 2, 2, 42, 27, 28, 29, 135, 20, 1, 62, 111, 21, 4, 135, 20, 1, 62, 111]
abbrev dktX5_seek_3 : List UInt8 := dkwX5_seek_3 ++ dktX5_seek_4
def dkwX5_seek_2 : List UInt8 := [184, 0, 183, 154, 0, 7, 20, 1, 70, 173, 42, 27, 182, 0, 204, 154, 0, 7, 20, 1, 83, 173, 42, 3]
abbrev dktX5_seek_2 : List UInt8 := dkwX5_seek_2 ++ dktX5_seek_3
def dkwX5_seek_1 : List UInt8 := [184, 2, 24, 153, 0, 27, 29, 21, 4, 162, 0, 21, 21, 5, 184, 2, 24, 153, 0, 13, 21, 6, 3, 5]
abbrev dktX5_seek_1 : List UInt8 := dkwX5_seek_1 ++ dktX5_seek_2
def dkwX5_seek_0 : List UInt8 := [27, 184, 1, 56, 153, 0, 49, 28, 184, 1, 56, 153, 0, 42, 29, 184, 2, 24, 153, 0, 35, 21, 4]
abbrev dktX5_seek_0 : List UInt8 := dkwX5_seek_0 ++ dktX5_seek_1
theorem dksX5_seek_0 : cX5_seek.data.toList.drop 0 = dktX5_seek_0 := by decide +kernel
theorem dksX5_seek_1 : cX5_seek.data.toList.drop 23 = dktX5_seek_1 := dk_seg dksX5_seek_0 23 rfl rfl
theorem dksX5_seek_2 : cX5_seek.data.toList.drop 47 = dktX5_seek_2 := dk_seg dksX5_seek_1 24 rfl rfl
theorem dksX5_seek_3 : cX5_seek.data.toList.drop 71 = dktX5_seek_3 := dk_seg dksX5_seek_2 24 rfl rfl
theorem dksX5_seek_4 : cX5_seek.data.toList.drop 95 = dktX5_seek_4 := dk_seg dksX5_seek_3 24 rfl rfl
theorem dksX5_seek_5 : cX5_seek.data.toList.drop 119 = dktX5_seek_5 := dk_seg dksX5_seek_4 24 rfl rfl
theorem dksX5_seek_6 : cX5_seek.data.toList.drop 141 = dktX5_seek_6 := dk_seg dksX5_seek_5 22 rfl rfl
theorem dX5_seek_0 : decode cX5_seek 0 = .ok (.iload_n 1, 1) := dk_27 (dk_at dksX5_seek_0 0 rfl rfl)
theorem dX5_seek_1 : decode cX5_seek 1 = .ok (.invokestatic 312, 3) := dk_184 1 56 (dk_at dksX5_seek_0 1 rfl rfl)
theorem dX5_seek_4 : decode cX5_seek 4 = .ok (.ifCond .eq 49, 3) := dk_153 0 49 (dk_at dksX5_seek_0 4 rfl rfl)
theorem dX5_seek_7 : decode cX5_seek 7 = .ok (.iload_n 2, 1) := dk_28 (dk_at dksX5_seek_0 7 rfl rfl)
theorem dX5_seek_8 : decode cX5_seek 8 = .ok (.invokestatic 312, 3) := dk_184 1 56 (dk_at dksX5_seek_0 8 rfl rfl)
theorem dX5_seek_11 : decode cX5_seek 11 = .ok (.ifCond .eq 42, 3) := dk_153 0 42 (dk_at dksX5_seek_0 11 rfl rfl)
theorem dX5_seek_14 : decode cX5_seek 14 = .ok (.iload_n 3, 1) := dk_29 (dk_at dksX5_seek_0 14 rfl rfl)
theorem dX5_seek_15 : decode cX5_seek 15 = .ok (.invokestatic 536, 3) := dk_184 2 24 (dk_at dksX5_seek_0 15 rfl rfl)
theorem dX5_seek_18 : decode cX5_seek 18 = .ok (.ifCond .eq 35, 3) := dk_153 0 35 (dk_at dksX5_seek_0 18 rfl rfl)
theorem dX5_seek_21 : decode cX5_seek 21 = .ok (.iload 4, 2) := dk_21 4 (dk_at dksX5_seek_0 21 rfl rfl)
theorem dX5_seek_23 : decode cX5_seek 23 = .ok (.invokestatic 536, 3) := dk_184 2 24 (dk_at dksX5_seek_1 0 rfl rfl)
theorem dX5_seek_26 : decode cX5_seek 26 = .ok (.ifCond .eq 27, 3) := dk_153 0 27 (dk_at dksX5_seek_1 3 rfl rfl)
theorem dX5_seek_29 : decode cX5_seek 29 = .ok (.iload_n 3, 1) := dk_29 (dk_at dksX5_seek_1 6 rfl rfl)
theorem dX5_seek_30 : decode cX5_seek 30 = .ok (.iload 4, 2) := dk_21 4 (dk_at dksX5_seek_1 7 rfl rfl)
theorem dX5_seek_32 : decode cX5_seek 32 = .ok (.if_icmp .ge 21, 3) := dk_162 0 21 (dk_at dksX5_seek_1 9 rfl rfl)
theorem dX5_seek_35 : decode cX5_seek 35 = .ok (.iload 5, 2) := dk_21 5 (dk_at dksX5_seek_1 12 rfl rfl)
theorem dX5_seek_37 : decode cX5_seek 37 = .ok (.invokestatic 536, 3) := dk_184 2 24 (dk_at dksX5_seek_1 14 rfl rfl)
theorem dX5_seek_40 : decode cX5_seek 40 = .ok (.ifCond .eq 13, 3) := dk_153 0 13 (dk_at dksX5_seek_1 17 rfl rfl)
theorem dX5_seek_43 : decode cX5_seek 43 = .ok (.iload 6, 2) := dk_21 6 (dk_at dksX5_seek_1 20 rfl rfl)
theorem dX5_seek_45 : decode cX5_seek 45 = .ok (.iconst 0, 1) := dk_3 (dk_at dksX5_seek_1 22 rfl rfl)
theorem dX5_seek_46 : decode cX5_seek 46 = .ok (.iconst 2, 1) := dk_5 (dk_at dksX5_seek_1 23 rfl rfl)
theorem dX5_seek_47 : decode cX5_seek 47 = .ok (.invokestatic 183, 3) := dk_184 0 183 (dk_at dksX5_seek_2 0 rfl rfl)
theorem dX5_seek_50 : decode cX5_seek 50 = .ok (.ifCond .ne 7, 3) := dk_154 0 7 (dk_at dksX5_seek_2 3 rfl rfl)
theorem dX5_seek_53 : decode cX5_seek 53 = .ok (.ldc2_w 326, 3) := dk_20 1 70 (dk_at dksX5_seek_2 6 rfl rfl)
theorem dX5_seek_56 : decode cX5_seek 56 = .ok (.lreturn, 1) := dk_173 (dk_at dksX5_seek_2 9 rfl rfl)
theorem dX5_seek_57 : decode cX5_seek 57 = .ok (.aload_n 0, 1) := dk_42 (dk_at dksX5_seek_2 10 rfl rfl)
theorem dX5_seek_58 : decode cX5_seek 58 = .ok (.iload_n 1, 1) := dk_27 (dk_at dksX5_seek_2 11 rfl rfl)
theorem dX5_seek_59 : decode cX5_seek 59 = .ok (.invokevirtual 204, 3) := dk_182 0 204 (dk_at dksX5_seek_2 12 rfl rfl)
theorem dX5_seek_62 : decode cX5_seek 62 = .ok (.ifCond .ne 7, 3) := dk_154 0 7 (dk_at dksX5_seek_2 15 rfl rfl)
theorem dX5_seek_65 : decode cX5_seek 65 = .ok (.ldc2_w 339, 3) := dk_20 1 83 (dk_at dksX5_seek_2 18 rfl rfl)
theorem dX5_seek_68 : decode cX5_seek 68 = .ok (.lreturn, 1) := dk_173 (dk_at dksX5_seek_2 21 rfl rfl)
theorem dX5_seek_69 : decode cX5_seek 69 = .ok (.aload_n 0, 1) := dk_42 (dk_at dksX5_seek_2 22 rfl rfl)
theorem dX5_seek_70 : decode cX5_seek 70 = .ok (.iconst 0, 1) := dk_3 (dk_at dksX5_seek_2 23 rfl rfl)
theorem dX5_seek_71 : decode cX5_seek 71 = .ok (.putfield 511, 3) := dk_181 1 255 (dk_at dksX5_seek_3 0 rfl rfl)
theorem dX5_seek_74 : decode cX5_seek 74 = .ok (.aload_n 0, 1) := dk_42 (dk_at dksX5_seek_3 3 rfl rfl)
theorem dX5_seek_75 : decode cX5_seek 75 = .ok (.iconst 0, 1) := dk_3 (dk_at dksX5_seek_3 4 rfl rfl)
theorem dX5_seek_76 : decode cX5_seek 76 = .ok (.putfield 514, 3) := dk_181 2 2 (dk_at dksX5_seek_3 5 rfl rfl)
theorem dX5_seek_79 : decode cX5_seek 79 = .ok (.aload_n 0, 1) := dk_42 (dk_at dksX5_seek_3 8 rfl rfl)
theorem dX5_seek_80 : decode cX5_seek 80 = .ok (.iload_n 1, 1) := dk_27 (dk_at dksX5_seek_3 9 rfl rfl)
theorem dX5_seek_81 : decode cX5_seek 81 = .ok (.iload_n 2, 1) := dk_28 (dk_at dksX5_seek_3 10 rfl rfl)
theorem dX5_seek_82 : decode cX5_seek 82 = .ok (.iload_n 3, 1) := dk_29 (dk_at dksX5_seek_3 11 rfl rfl)
theorem dX5_seek_83 : decode cX5_seek 83 = .ok (.i2d, 1) := dk_135 (dk_at dksX5_seek_3 12 rfl rfl)
theorem dX5_seek_84 : decode cX5_seek 84 = .ok (.ldc2_w 318, 3) := dk_20 1 62 (dk_at dksX5_seek_3 13 rfl rfl)
theorem dX5_seek_87 : decode cX5_seek 87 = .ok (.ddiv, 1) := dk_111 (dk_at dksX5_seek_3 16 rfl rfl)
theorem dX5_seek_88 : decode cX5_seek 88 = .ok (.iload 4, 2) := dk_21 4 (dk_at dksX5_seek_3 17 rfl rfl)
theorem dX5_seek_90 : decode cX5_seek 90 = .ok (.i2d, 1) := dk_135 (dk_at dksX5_seek_3 19 rfl rfl)
theorem dX5_seek_91 : decode cX5_seek 91 = .ok (.ldc2_w 318, 3) := dk_20 1 62 (dk_at dksX5_seek_3 20 rfl rfl)
theorem dX5_seek_94 : decode cX5_seek 94 = .ok (.ddiv, 1) := dk_111 (dk_at dksX5_seek_3 23 rfl rfl)
theorem dX5_seek_95 : decode cX5_seek 95 = .ok (.iload 5, 2) := dk_21 5 (dk_at dksX5_seek_4 0 rfl rfl)
theorem dX5_seek_97 : decode cX5_seek 97 = .ok (.i2d, 1) := dk_135 (dk_at dksX5_seek_4 2 rfl rfl)
theorem dX5_seek_98 : decode cX5_seek 98 = .ok (.ldc2_w 318, 3) := dk_20 1 62 (dk_at dksX5_seek_4 3 rfl rfl)
theorem dX5_seek_101 : decode cX5_seek 101 = .ok (.ddiv, 1) := dk_111 (dk_at dksX5_seek_4 6 rfl rfl)
theorem dX5_seek_102 : decode cX5_seek 102 = .ok (.invokevirtual 539, 3) := dk_182 2 27 (dk_at dksX5_seek_4 7 rfl rfl)
theorem dX5_seek_105 : decode cX5_seek 105 = .ok (.istore 7, 2) := dk_54 7 (dk_at dksX5_seek_4 10 rfl rfl)
theorem dX5_seek_107 : decode cX5_seek 107 = .ok (.iload 6, 2) := dk_21 6 (dk_at dksX5_seek_4 12 rfl rfl)
theorem dX5_seek_109 : decode cX5_seek 109 = .ok (.iconst 2, 1) := dk_5 (dk_at dksX5_seek_4 14 rfl rfl)
theorem dX5_seek_110 : decode cX5_seek 110 = .ok (.if_icmp .ne 9, 3) := dk_160 0 9 (dk_at dksX5_seek_4 15 rfl rfl)
theorem dX5_seek_113 : decode cX5_seek 113 = .ok (.aload_n 0, 1) := dk_42 (dk_at dksX5_seek_4 18 rfl rfl)
theorem dX5_seek_114 : decode cX5_seek 114 = .ok (.getfield 511, 3) := dk_180 1 255 (dk_at dksX5_seek_4 19 rfl rfl)
theorem dX5_seek_117 : decode cX5_seek 117 = .ok (.i2l, 1) := dk_133 (dk_at dksX5_seek_4 22 rfl rfl)
theorem dX5_seek_118 : decode cX5_seek 118 = .ok (.lreturn, 1) := dk_173 (dk_at dksX5_seek_4 23 rfl rfl)
theorem dX5_seek_119 : decode cX5_seek 119 = .ok (.iload 7, 2) := dk_21 7 (dk_at dksX5_seek_5 0 rfl rfl)
theorem dX5_seek_121 : decode cX5_seek 121 = .ok (.ifCond .ne 7, 3) := dk_154 0 7 (dk_at dksX5_seek_5 2 rfl rfl)
theorem dX5_seek_124 : decode cX5_seek 124 = .ok (.ldc2_w 543, 3) := dk_20 2 31 (dk_at dksX5_seek_5 5 rfl rfl)
theorem dX5_seek_127 : decode cX5_seek 127 = .ok (.lreturn, 1) := dk_173 (dk_at dksX5_seek_5 8 rfl rfl)
theorem dX5_seek_128 : decode cX5_seek 128 = .ok (.iload 6, 2) := dk_21 6 (dk_at dksX5_seek_5 9 rfl rfl)
theorem dX5_seek_130 : decode cX5_seek 130 = .ok (.ifCond .ne 10, 3) := dk_154 0 10 (dk_at dksX5_seek_5 11 rfl rfl)
theorem dX5_seek_133 : decode cX5_seek 133 = .ok (.aload_n 0, 1) := dk_42 (dk_at dksX5_seek_5 14 rfl rfl)
theorem dX5_seek_134 : decode cX5_seek 134 = .ok (.getfield 517, 3) := dk_180 2 5 (dk_at dksX5_seek_5 15 rfl rfl)
theorem dX5_seek_137 : decode cX5_seek 137 = .ok (.goto 7, 3) := dk_167 0 7 (dk_at dksX5_seek_5 18 rfl rfl)
theorem dX5_seek_140 : decode cX5_seek 140 = .ok (.aload_n 0, 1) := dk_42 (dk_at dksX5_seek_5 21 rfl rfl)
theorem dX5_seek_141 : decode cX5_seek 141 = .ok (.getfield 520, 3) := dk_180 2 8 (dk_at dksX5_seek_6 0 rfl rfl)
theorem dX5_seek_144 : decode cX5_seek 144 = .ok (.invokestatic 305, 3) := dk_184 1 49 (dk_at dksX5_seek_6 3 rfl rfl)
theorem dX5_seek_147 : decode cX5_seek 147 = .ok (.lreturn, 1) := dk_173 (dk_at dksX5_seek_6 6 rfl rfl)
abbrev cX5_isWanted : ByteArray := prog_35_method_83_code
def yX5_isWanted : MethodName := ⟨RX5, "isWanted", "(I)Z"⟩
def dkwX5_isWanted_0 : List UInt8 := [26, 19, 1, 227, 19, 1, 228, 184, 0, 183, 172]
abbrev dktX5_isWanted_0 : List UInt8 := dkwX5_isWanted_0 ++ []
theorem dksX5_isWanted_0 : cX5_isWanted.data.toList.drop 0 = dktX5_isWanted_0 := by decide +kernel
theorem dX5_isWanted_0 : decode cX5_isWanted 0 = .ok (.iload_n 0, 1) := dk_26 (dk_at dksX5_isWanted_0 0 rfl rfl)
theorem dX5_isWanted_1 : decode cX5_isWanted 1 = .ok (.ldc_w 483, 3) := dk_19 1 227 (dk_at dksX5_isWanted_0 1 rfl rfl)
theorem dX5_isWanted_4 : decode cX5_isWanted 4 = .ok (.ldc_w 484, 3) := dk_19 1 228 (dk_at dksX5_isWanted_0 4 rfl rfl)
theorem dX5_isWanted_7 : decode cX5_isWanted 7 = .ok (.invokestatic 183, 3) := dk_184 0 183 (dk_at dksX5_isWanted_0 7 rfl rfl)
theorem dX5_isWanted_10 : decode cX5_isWanted 10 = .ok (.ireturn, 1) := dk_172 (dk_at dksX5_isWanted_0 10 rfl rfl)
abbrev cX5_seeks : ByteArray := prog_35_method_82_code
def yX5_seeks : MethodName := ⟨RX5, "seeks", "(IIDDD)Z"⟩
def dkwX5_seeks_16 : List UInt8 := [167, 0, 5, 24, 15, 182, 2, 15, 4, 172]
abbrev dktX5_seeks_16 : List UInt8 := dkwX5_seeks_16 ++ []
def dkwX5_seeks_15 : List UInt8 := [54, 18, 42, 21, 18, 153, 0, 8, 24, 9, 167, 0, 5, 24, 11, 21, 18, 153, 0, 8, 24, 13]
abbrev dktX5_seeks_15 : List UInt8 := dkwX5_seeks_15 ++ dktX5_seeks_16
def dkwX5_seeks_14 : List UInt8 := [24, 7, 103, 184, 2, 21, 24, 15, 24, 7, 103, 184, 2, 21, 152, 157, 0, 7, 4, 167, 0, 4, 3]
abbrev dktX5_seeks_14 : List UInt8 := dkwX5_seeks_14 ++ dktX5_seeks_15
def dkwX5_seeks_13 : List UInt8 := [20, 2, 19, 111, 152, 157, 0, 7, 4, 167, 0, 4, 3, 54, 17, 132, 18, 1, 167, 255, 58, 24, 13]
abbrev dktX5_seeks_13 : List UInt8 := dkwX5_seeks_13 ++ dktX5_seeks_14
def dkwX5_seeks_12 : List UInt8 := [24, 23, 57, 13, 167, 0, 11, 24, 21, 57, 11, 24, 23, 57, 15, 24, 11, 24, 9, 103, 24, 19]
abbrev dktX5_seeks_12 : List UInt8 := dkwX5_seeks_12 ++ dktX5_seeks_13
def dkwX5_seeks_11 : List UInt8 := [167, 0, 4, 3, 24, 13, 24, 7, 152, 156, 0, 7, 4, 167, 0, 4, 3, 160, 0, 14, 24, 21, 57, 9]
abbrev dktX5_seeks_11 : List UInt8 := dkwX5_seeks_11 ++ dktX5_seeks_12
def dkwX5_seeks_10 : List UInt8 := [154, 0, 13, 42, 24, 21, 24, 23, 182, 2, 15, 4, 172, 24, 23, 24, 7, 152, 156, 0, 7, 4]
abbrev dktX5_seeks_10 : List UInt8 := dkwX5_seeks_10 ++ dktX5_seeks_11
def dkwX5_seeks_9 : List UInt8 := [27, 28, 24, 21, 182, 2, 11, 57, 23, 42, 180, 2, 2, 153, 0, 5, 3, 172, 24, 23, 24, 7, 151]
abbrev dktX5_seeks_9 : List UInt8 := dkwX5_seeks_9 ++ dktX5_seeks_10
def dkwX5_seeks_8 : List UInt8 := [24, 23, 57, 21, 24, 21, 24, 9, 151, 158, 0, 127, 24, 21, 24, 11, 152, 155, 0, 6, 167, 0, 116, 42]
abbrev dktX5_seeks_8 : List UInt8 := dkwX5_seeks_8 ++ dktX5_seeks_9
def dkwX5_seeks_7 : List UInt8 := [24, 13, 103, 111, 99, 57, 23, 24, 23, 24, 9, 151, 158, 0, 15, 24, 23, 24, 11, 152, 156, 0, 7]
abbrev dktX5_seeks_7 : List UInt8 := dkwX5_seeks_7 ++ dktX5_seeks_8
def dkwX5_seeks_6 : List UInt8 := [20, 2, 19, 111, 99, 57, 21, 21, 17, 153, 0, 42, 24, 9, 24, 7, 24, 13, 103, 24, 19, 107, 24, 15]
abbrev dktX5_seeks_6 : List UInt8 := dkwX5_seeks_6 ++ dktX5_seeks_7
def dkwX5_seeks_5 : List UInt8 := [54, 17, 3, 54, 18, 21, 18, 16, 40, 162, 0, 197, 24, 11, 24, 9, 103, 57, 19, 24, 9, 24, 19]
abbrev dktX5_seeks_5 : List UInt8 := dkwX5_seeks_5 ++ dktX5_seeks_6
def dkwX5_seeks_4 : List UInt8 := [167, 0, 4, 3, 24, 15, 24, 7, 152, 156, 0, 7, 4, 167, 0, 4, 3, 160, 0, 5, 3, 172, 3]
abbrev dktX5_seeks_4 : List UInt8 := dkwX5_seeks_4 ++ dktX5_seeks_5
def dkwX5_seeks_3 : List UInt8 := [24, 9, 167, 0, 5, 24, 11, 24, 7, 182, 2, 15, 4, 172, 24, 13, 24, 7, 152, 156, 0, 7, 4]
abbrev dktX5_seeks_3 : List UInt8 := dkwX5_seeks_3 ++ dktX5_seeks_4
def dkwX5_seeks_2 : List UInt8 := [24, 7, 151, 153, 0, 11, 24, 15, 24, 7, 151, 154, 0, 26, 42, 24, 13, 24, 7, 151, 154, 0, 8]
abbrev dktX5_seeks_2 : List UInt8 := dkwX5_seeks_2 ++ dktX5_seeks_3
def dkwX5_seeks_1 : List UInt8 := [3, 172, 42, 27, 28, 24, 11, 182, 2, 11, 57, 15, 42, 180, 2, 2, 153, 0, 5, 3, 172, 24, 13]
abbrev dktX5_seeks_1 : List UInt8 := dkwX5_seeks_1 ++ dktX5_seeks_2
def dkwX5_seeks_0 : List UInt8 := [41, 57, 9, 24, 5, 57, 11, 42, 27, 28, 24, 9, 182, 2, 11, 57, 13, 42, 180, 2, 2, 153, 0, 5]
abbrev dktX5_seeks_0 : List UInt8 := dkwX5_seeks_0 ++ dktX5_seeks_1
theorem dksX5_seeks_0 : cX5_seeks.data.toList.drop 0 = dktX5_seeks_0 := by decide +kernel
theorem dksX5_seeks_1 : cX5_seeks.data.toList.drop 24 = dktX5_seeks_1 := dk_seg dksX5_seeks_0 24 rfl rfl
theorem dksX5_seeks_2 : cX5_seeks.data.toList.drop 47 = dktX5_seeks_2 := dk_seg dksX5_seeks_1 23 rfl rfl
theorem dksX5_seeks_3 : cX5_seeks.data.toList.drop 70 = dktX5_seeks_3 := dk_seg dksX5_seeks_2 23 rfl rfl
theorem dksX5_seeks_4 : cX5_seeks.data.toList.drop 93 = dktX5_seeks_4 := dk_seg dksX5_seeks_3 23 rfl rfl
theorem dksX5_seeks_5 : cX5_seeks.data.toList.drop 116 = dktX5_seeks_5 := dk_seg dksX5_seeks_4 23 rfl rfl
theorem dksX5_seeks_6 : cX5_seeks.data.toList.drop 139 = dktX5_seeks_6 := dk_seg dksX5_seeks_5 23 rfl rfl
theorem dksX5_seeks_7 : cX5_seeks.data.toList.drop 163 = dktX5_seeks_7 := dk_seg dksX5_seeks_6 24 rfl rfl
theorem dksX5_seeks_8 : cX5_seeks.data.toList.drop 186 = dktX5_seeks_8 := dk_seg dksX5_seeks_7 23 rfl rfl
theorem dksX5_seeks_9 : cX5_seeks.data.toList.drop 210 = dktX5_seeks_9 := dk_seg dksX5_seeks_8 24 rfl rfl
theorem dksX5_seeks_10 : cX5_seeks.data.toList.drop 233 = dktX5_seeks_10 := dk_seg dksX5_seeks_9 23 rfl rfl
theorem dksX5_seeks_11 : cX5_seeks.data.toList.drop 255 = dktX5_seeks_11 := dk_seg dksX5_seeks_10 22 rfl rfl
theorem dksX5_seeks_12 : cX5_seeks.data.toList.drop 279 = dktX5_seeks_12 := dk_seg dksX5_seeks_11 24 rfl rfl
theorem dksX5_seeks_13 : cX5_seeks.data.toList.drop 301 = dktX5_seeks_13 := dk_seg dksX5_seeks_12 22 rfl rfl
theorem dksX5_seeks_14 : cX5_seeks.data.toList.drop 324 = dktX5_seeks_14 := dk_seg dksX5_seeks_13 23 rfl rfl
theorem dksX5_seeks_15 : cX5_seeks.data.toList.drop 347 = dktX5_seeks_15 := dk_seg dksX5_seeks_14 23 rfl rfl
theorem dksX5_seeks_16 : cX5_seeks.data.toList.drop 369 = dktX5_seeks_16 := dk_seg dksX5_seeks_15 22 rfl rfl
theorem dX5_seeks_0 : decode cX5_seeks 0 = .ok (.dload_n 3, 1) := dk_41 (dk_at dksX5_seeks_0 0 rfl rfl)
theorem dX5_seeks_1 : decode cX5_seeks 1 = .ok (.dstore 9, 2) := dk_57 9 (dk_at dksX5_seeks_0 1 rfl rfl)
theorem dX5_seeks_3 : decode cX5_seeks 3 = .ok (.dload 5, 2) := dk_24 5 (dk_at dksX5_seeks_0 3 rfl rfl)
theorem dX5_seeks_5 : decode cX5_seeks 5 = .ok (.dstore 11, 2) := dk_57 11 (dk_at dksX5_seeks_0 5 rfl rfl)
theorem dX5_seeks_7 : decode cX5_seeks 7 = .ok (.aload_n 0, 1) := dk_42 (dk_at dksX5_seeks_0 7 rfl rfl)
theorem dX5_seeks_8 : decode cX5_seeks 8 = .ok (.iload_n 1, 1) := dk_27 (dk_at dksX5_seeks_0 8 rfl rfl)
theorem dX5_seeks_9 : decode cX5_seeks 9 = .ok (.iload_n 2, 1) := dk_28 (dk_at dksX5_seeks_0 9 rfl rfl)
theorem dX5_seeks_10 : decode cX5_seeks 10 = .ok (.dload 9, 2) := dk_24 9 (dk_at dksX5_seeks_0 10 rfl rfl)
theorem dX5_seeks_12 : decode cX5_seeks 12 = .ok (.invokevirtual 523, 3) := dk_182 2 11 (dk_at dksX5_seeks_0 12 rfl rfl)
theorem dX5_seeks_15 : decode cX5_seeks 15 = .ok (.dstore 13, 2) := dk_57 13 (dk_at dksX5_seeks_0 15 rfl rfl)
theorem dX5_seeks_17 : decode cX5_seeks 17 = .ok (.aload_n 0, 1) := dk_42 (dk_at dksX5_seeks_0 17 rfl rfl)
theorem dX5_seeks_18 : decode cX5_seeks 18 = .ok (.getfield 514, 3) := dk_180 2 2 (dk_at dksX5_seeks_0 18 rfl rfl)
theorem dX5_seeks_21 : decode cX5_seeks 21 = .ok (.ifCond .eq 5, 3) := dk_153 0 5 (dk_at dksX5_seeks_0 21 rfl rfl)
theorem dX5_seeks_24 : decode cX5_seeks 24 = .ok (.iconst 0, 1) := dk_3 (dk_at dksX5_seeks_1 0 rfl rfl)
theorem dX5_seeks_25 : decode cX5_seeks 25 = .ok (.ireturn, 1) := dk_172 (dk_at dksX5_seeks_1 1 rfl rfl)
theorem dX5_seeks_26 : decode cX5_seeks 26 = .ok (.aload_n 0, 1) := dk_42 (dk_at dksX5_seeks_1 2 rfl rfl)
theorem dX5_seeks_27 : decode cX5_seeks 27 = .ok (.iload_n 1, 1) := dk_27 (dk_at dksX5_seeks_1 3 rfl rfl)
theorem dX5_seeks_28 : decode cX5_seeks 28 = .ok (.iload_n 2, 1) := dk_28 (dk_at dksX5_seeks_1 4 rfl rfl)
theorem dX5_seeks_29 : decode cX5_seeks 29 = .ok (.dload 11, 2) := dk_24 11 (dk_at dksX5_seeks_1 5 rfl rfl)
theorem dX5_seeks_31 : decode cX5_seeks 31 = .ok (.invokevirtual 523, 3) := dk_182 2 11 (dk_at dksX5_seeks_1 7 rfl rfl)
theorem dX5_seeks_34 : decode cX5_seeks 34 = .ok (.dstore 15, 2) := dk_57 15 (dk_at dksX5_seeks_1 10 rfl rfl)
theorem dX5_seeks_36 : decode cX5_seeks 36 = .ok (.aload_n 0, 1) := dk_42 (dk_at dksX5_seeks_1 12 rfl rfl)
theorem dX5_seeks_37 : decode cX5_seeks 37 = .ok (.getfield 514, 3) := dk_180 2 2 (dk_at dksX5_seeks_1 13 rfl rfl)
theorem dX5_seeks_40 : decode cX5_seeks 40 = .ok (.ifCond .eq 5, 3) := dk_153 0 5 (dk_at dksX5_seeks_1 16 rfl rfl)
theorem dX5_seeks_43 : decode cX5_seeks 43 = .ok (.iconst 0, 1) := dk_3 (dk_at dksX5_seeks_1 19 rfl rfl)
theorem dX5_seeks_44 : decode cX5_seeks 44 = .ok (.ireturn, 1) := dk_172 (dk_at dksX5_seeks_1 20 rfl rfl)
theorem dX5_seeks_45 : decode cX5_seeks 45 = .ok (.dload 13, 2) := dk_24 13 (dk_at dksX5_seeks_1 21 rfl rfl)
theorem dX5_seeks_47 : decode cX5_seeks 47 = .ok (.dload 7, 2) := dk_24 7 (dk_at dksX5_seeks_2 0 rfl rfl)
theorem dX5_seeks_49 : decode cX5_seeks 49 = .ok (.dcmp .l, 1) := dk_151 (dk_at dksX5_seeks_2 2 rfl rfl)
theorem dX5_seeks_50 : decode cX5_seeks 50 = .ok (.ifCond .eq 11, 3) := dk_153 0 11 (dk_at dksX5_seeks_2 3 rfl rfl)
theorem dX5_seeks_53 : decode cX5_seeks 53 = .ok (.dload 15, 2) := dk_24 15 (dk_at dksX5_seeks_2 6 rfl rfl)
theorem dX5_seeks_55 : decode cX5_seeks 55 = .ok (.dload 7, 2) := dk_24 7 (dk_at dksX5_seeks_2 8 rfl rfl)
theorem dX5_seeks_57 : decode cX5_seeks 57 = .ok (.dcmp .l, 1) := dk_151 (dk_at dksX5_seeks_2 10 rfl rfl)
theorem dX5_seeks_58 : decode cX5_seeks 58 = .ok (.ifCond .ne 26, 3) := dk_154 0 26 (dk_at dksX5_seeks_2 11 rfl rfl)
theorem dX5_seeks_61 : decode cX5_seeks 61 = .ok (.aload_n 0, 1) := dk_42 (dk_at dksX5_seeks_2 14 rfl rfl)
theorem dX5_seeks_62 : decode cX5_seeks 62 = .ok (.dload 13, 2) := dk_24 13 (dk_at dksX5_seeks_2 15 rfl rfl)
theorem dX5_seeks_64 : decode cX5_seeks 64 = .ok (.dload 7, 2) := dk_24 7 (dk_at dksX5_seeks_2 17 rfl rfl)
theorem dX5_seeks_66 : decode cX5_seeks 66 = .ok (.dcmp .l, 1) := dk_151 (dk_at dksX5_seeks_2 19 rfl rfl)
theorem dX5_seeks_67 : decode cX5_seeks 67 = .ok (.ifCond .ne 8, 3) := dk_154 0 8 (dk_at dksX5_seeks_2 20 rfl rfl)
theorem dX5_seeks_70 : decode cX5_seeks 70 = .ok (.dload 9, 2) := dk_24 9 (dk_at dksX5_seeks_3 0 rfl rfl)
theorem dX5_seeks_72 : decode cX5_seeks 72 = .ok (.goto 5, 3) := dk_167 0 5 (dk_at dksX5_seeks_3 2 rfl rfl)
theorem dX5_seeks_75 : decode cX5_seeks 75 = .ok (.dload 11, 2) := dk_24 11 (dk_at dksX5_seeks_3 5 rfl rfl)
theorem dX5_seeks_77 : decode cX5_seeks 77 = .ok (.dload 7, 2) := dk_24 7 (dk_at dksX5_seeks_3 7 rfl rfl)
theorem dX5_seeks_79 : decode cX5_seeks 79 = .ok (.invokevirtual 527, 3) := dk_182 2 15 (dk_at dksX5_seeks_3 9 rfl rfl)
theorem dX5_seeks_82 : decode cX5_seeks 82 = .ok (.iconst 1, 1) := dk_4 (dk_at dksX5_seeks_3 12 rfl rfl)
theorem dX5_seeks_83 : decode cX5_seeks 83 = .ok (.ireturn, 1) := dk_172 (dk_at dksX5_seeks_3 13 rfl rfl)
theorem dX5_seeks_84 : decode cX5_seeks 84 = .ok (.dload 13, 2) := dk_24 13 (dk_at dksX5_seeks_3 14 rfl rfl)
theorem dX5_seeks_86 : decode cX5_seeks 86 = .ok (.dload 7, 2) := dk_24 7 (dk_at dksX5_seeks_3 16 rfl rfl)
theorem dX5_seeks_88 : decode cX5_seeks 88 = .ok (.dcmp .g, 1) := dk_152 (dk_at dksX5_seeks_3 18 rfl rfl)
theorem dX5_seeks_89 : decode cX5_seeks 89 = .ok (.ifCond .ge 7, 3) := dk_156 0 7 (dk_at dksX5_seeks_3 19 rfl rfl)
theorem dX5_seeks_92 : decode cX5_seeks 92 = .ok (.iconst 1, 1) := dk_4 (dk_at dksX5_seeks_3 22 rfl rfl)
theorem dX5_seeks_93 : decode cX5_seeks 93 = .ok (.goto 4, 3) := dk_167 0 4 (dk_at dksX5_seeks_4 0 rfl rfl)
theorem dX5_seeks_96 : decode cX5_seeks 96 = .ok (.iconst 0, 1) := dk_3 (dk_at dksX5_seeks_4 3 rfl rfl)
theorem dX5_seeks_97 : decode cX5_seeks 97 = .ok (.dload 15, 2) := dk_24 15 (dk_at dksX5_seeks_4 4 rfl rfl)
theorem dX5_seeks_99 : decode cX5_seeks 99 = .ok (.dload 7, 2) := dk_24 7 (dk_at dksX5_seeks_4 6 rfl rfl)
theorem dX5_seeks_101 : decode cX5_seeks 101 = .ok (.dcmp .g, 1) := dk_152 (dk_at dksX5_seeks_4 8 rfl rfl)
theorem dX5_seeks_102 : decode cX5_seeks 102 = .ok (.ifCond .ge 7, 3) := dk_156 0 7 (dk_at dksX5_seeks_4 9 rfl rfl)
theorem dX5_seeks_105 : decode cX5_seeks 105 = .ok (.iconst 1, 1) := dk_4 (dk_at dksX5_seeks_4 12 rfl rfl)
theorem dX5_seeks_106 : decode cX5_seeks 106 = .ok (.goto 4, 3) := dk_167 0 4 (dk_at dksX5_seeks_4 13 rfl rfl)
theorem dX5_seeks_109 : decode cX5_seeks 109 = .ok (.iconst 0, 1) := dk_3 (dk_at dksX5_seeks_4 16 rfl rfl)
theorem dX5_seeks_110 : decode cX5_seeks 110 = .ok (.if_icmp .ne 5, 3) := dk_160 0 5 (dk_at dksX5_seeks_4 17 rfl rfl)
theorem dX5_seeks_113 : decode cX5_seeks 113 = .ok (.iconst 0, 1) := dk_3 (dk_at dksX5_seeks_4 20 rfl rfl)
theorem dX5_seeks_114 : decode cX5_seeks 114 = .ok (.ireturn, 1) := dk_172 (dk_at dksX5_seeks_4 21 rfl rfl)
theorem dX5_seeks_115 : decode cX5_seeks 115 = .ok (.iconst 0, 1) := dk_3 (dk_at dksX5_seeks_4 22 rfl rfl)
theorem dX5_seeks_116 : decode cX5_seeks 116 = .ok (.istore 17, 2) := dk_54 17 (dk_at dksX5_seeks_5 0 rfl rfl)
theorem dX5_seeks_118 : decode cX5_seeks 118 = .ok (.iconst 0, 1) := dk_3 (dk_at dksX5_seeks_5 2 rfl rfl)
theorem dX5_seeks_119 : decode cX5_seeks 119 = .ok (.istore 18, 2) := dk_54 18 (dk_at dksX5_seeks_5 3 rfl rfl)
theorem dX5_seeks_121 : decode cX5_seeks 121 = .ok (.iload 18, 2) := dk_21 18 (dk_at dksX5_seeks_5 5 rfl rfl)
theorem dX5_seeks_123 : decode cX5_seeks 123 = .ok (.bipush 40, 2) := dk_16 40 (dk_at dksX5_seeks_5 7 rfl rfl)
theorem dX5_seeks_125 : decode cX5_seeks 125 = .ok (.if_icmp .ge 197, 3) := dk_162 0 197 (dk_at dksX5_seeks_5 9 rfl rfl)
theorem dX5_seeks_128 : decode cX5_seeks 128 = .ok (.dload 11, 2) := dk_24 11 (dk_at dksX5_seeks_5 12 rfl rfl)
theorem dX5_seeks_130 : decode cX5_seeks 130 = .ok (.dload 9, 2) := dk_24 9 (dk_at dksX5_seeks_5 14 rfl rfl)
theorem dX5_seeks_132 : decode cX5_seeks 132 = .ok (.dsub, 1) := dk_103 (dk_at dksX5_seeks_5 16 rfl rfl)
theorem dX5_seeks_133 : decode cX5_seeks 133 = .ok (.dstore 19, 2) := dk_57 19 (dk_at dksX5_seeks_5 17 rfl rfl)
theorem dX5_seeks_135 : decode cX5_seeks 135 = .ok (.dload 9, 2) := dk_24 9 (dk_at dksX5_seeks_5 19 rfl rfl)
theorem dX5_seeks_137 : decode cX5_seeks 137 = .ok (.dload 19, 2) := dk_24 19 (dk_at dksX5_seeks_5 21 rfl rfl)
theorem dX5_seeks_139 : decode cX5_seeks 139 = .ok (.ldc2_w 531, 3) := dk_20 2 19 (dk_at dksX5_seeks_6 0 rfl rfl)
theorem dX5_seeks_142 : decode cX5_seeks 142 = .ok (.ddiv, 1) := dk_111 (dk_at dksX5_seeks_6 3 rfl rfl)
theorem dX5_seeks_143 : decode cX5_seeks 143 = .ok (.dadd, 1) := dk_99 (dk_at dksX5_seeks_6 4 rfl rfl)
theorem dX5_seeks_144 : decode cX5_seeks 144 = .ok (.dstore 21, 2) := dk_57 21 (dk_at dksX5_seeks_6 5 rfl rfl)
theorem dX5_seeks_146 : decode cX5_seeks 146 = .ok (.iload 17, 2) := dk_21 17 (dk_at dksX5_seeks_6 7 rfl rfl)
theorem dX5_seeks_148 : decode cX5_seeks 148 = .ok (.ifCond .eq 42, 3) := dk_153 0 42 (dk_at dksX5_seeks_6 9 rfl rfl)
theorem dX5_seeks_151 : decode cX5_seeks 151 = .ok (.dload 9, 2) := dk_24 9 (dk_at dksX5_seeks_6 12 rfl rfl)
theorem dX5_seeks_153 : decode cX5_seeks 153 = .ok (.dload 7, 2) := dk_24 7 (dk_at dksX5_seeks_6 14 rfl rfl)
theorem dX5_seeks_155 : decode cX5_seeks 155 = .ok (.dload 13, 2) := dk_24 13 (dk_at dksX5_seeks_6 16 rfl rfl)
theorem dX5_seeks_157 : decode cX5_seeks 157 = .ok (.dsub, 1) := dk_103 (dk_at dksX5_seeks_6 18 rfl rfl)
theorem dX5_seeks_158 : decode cX5_seeks 158 = .ok (.dload 19, 2) := dk_24 19 (dk_at dksX5_seeks_6 19 rfl rfl)
theorem dX5_seeks_160 : decode cX5_seeks 160 = .ok (.dmul, 1) := dk_107 (dk_at dksX5_seeks_6 21 rfl rfl)
theorem dX5_seeks_161 : decode cX5_seeks 161 = .ok (.dload 15, 2) := dk_24 15 (dk_at dksX5_seeks_6 22 rfl rfl)
theorem dX5_seeks_163 : decode cX5_seeks 163 = .ok (.dload 13, 2) := dk_24 13 (dk_at dksX5_seeks_7 0 rfl rfl)
theorem dX5_seeks_165 : decode cX5_seeks 165 = .ok (.dsub, 1) := dk_103 (dk_at dksX5_seeks_7 2 rfl rfl)
theorem dX5_seeks_166 : decode cX5_seeks 166 = .ok (.ddiv, 1) := dk_111 (dk_at dksX5_seeks_7 3 rfl rfl)
theorem dX5_seeks_167 : decode cX5_seeks 167 = .ok (.dadd, 1) := dk_99 (dk_at dksX5_seeks_7 4 rfl rfl)
theorem dX5_seeks_168 : decode cX5_seeks 168 = .ok (.dstore 23, 2) := dk_57 23 (dk_at dksX5_seeks_7 5 rfl rfl)
theorem dX5_seeks_170 : decode cX5_seeks 170 = .ok (.dload 23, 2) := dk_24 23 (dk_at dksX5_seeks_7 7 rfl rfl)
theorem dX5_seeks_172 : decode cX5_seeks 172 = .ok (.dload 9, 2) := dk_24 9 (dk_at dksX5_seeks_7 9 rfl rfl)
theorem dX5_seeks_174 : decode cX5_seeks 174 = .ok (.dcmp .l, 1) := dk_151 (dk_at dksX5_seeks_7 11 rfl rfl)
theorem dX5_seeks_175 : decode cX5_seeks 175 = .ok (.ifCond .le 15, 3) := dk_158 0 15 (dk_at dksX5_seeks_7 12 rfl rfl)
theorem dX5_seeks_178 : decode cX5_seeks 178 = .ok (.dload 23, 2) := dk_24 23 (dk_at dksX5_seeks_7 15 rfl rfl)
theorem dX5_seeks_180 : decode cX5_seeks 180 = .ok (.dload 11, 2) := dk_24 11 (dk_at dksX5_seeks_7 17 rfl rfl)
theorem dX5_seeks_182 : decode cX5_seeks 182 = .ok (.dcmp .g, 1) := dk_152 (dk_at dksX5_seeks_7 19 rfl rfl)
theorem dX5_seeks_183 : decode cX5_seeks 183 = .ok (.ifCond .ge 7, 3) := dk_156 0 7 (dk_at dksX5_seeks_7 20 rfl rfl)
theorem dX5_seeks_186 : decode cX5_seeks 186 = .ok (.dload 23, 2) := dk_24 23 (dk_at dksX5_seeks_8 0 rfl rfl)
theorem dX5_seeks_188 : decode cX5_seeks 188 = .ok (.dstore 21, 2) := dk_57 21 (dk_at dksX5_seeks_8 2 rfl rfl)
theorem dX5_seeks_190 : decode cX5_seeks 190 = .ok (.dload 21, 2) := dk_24 21 (dk_at dksX5_seeks_8 4 rfl rfl)
theorem dX5_seeks_192 : decode cX5_seeks 192 = .ok (.dload 9, 2) := dk_24 9 (dk_at dksX5_seeks_8 6 rfl rfl)
theorem dX5_seeks_194 : decode cX5_seeks 194 = .ok (.dcmp .l, 1) := dk_151 (dk_at dksX5_seeks_8 8 rfl rfl)
theorem dX5_seeks_195 : decode cX5_seeks 195 = .ok (.ifCond .le 127, 3) := dk_158 0 127 (dk_at dksX5_seeks_8 9 rfl rfl)
theorem dX5_seeks_198 : decode cX5_seeks 198 = .ok (.dload 21, 2) := dk_24 21 (dk_at dksX5_seeks_8 12 rfl rfl)
theorem dX5_seeks_200 : decode cX5_seeks 200 = .ok (.dload 11, 2) := dk_24 11 (dk_at dksX5_seeks_8 14 rfl rfl)
theorem dX5_seeks_202 : decode cX5_seeks 202 = .ok (.dcmp .g, 1) := dk_152 (dk_at dksX5_seeks_8 16 rfl rfl)
theorem dX5_seeks_203 : decode cX5_seeks 203 = .ok (.ifCond .lt 6, 3) := dk_155 0 6 (dk_at dksX5_seeks_8 17 rfl rfl)
theorem dX5_seeks_206 : decode cX5_seeks 206 = .ok (.goto 116, 3) := dk_167 0 116 (dk_at dksX5_seeks_8 20 rfl rfl)
theorem dX5_seeks_209 : decode cX5_seeks 209 = .ok (.aload_n 0, 1) := dk_42 (dk_at dksX5_seeks_8 23 rfl rfl)
theorem dX5_seeks_210 : decode cX5_seeks 210 = .ok (.iload_n 1, 1) := dk_27 (dk_at dksX5_seeks_9 0 rfl rfl)
theorem dX5_seeks_211 : decode cX5_seeks 211 = .ok (.iload_n 2, 1) := dk_28 (dk_at dksX5_seeks_9 1 rfl rfl)
theorem dX5_seeks_212 : decode cX5_seeks 212 = .ok (.dload 21, 2) := dk_24 21 (dk_at dksX5_seeks_9 2 rfl rfl)
theorem dX5_seeks_214 : decode cX5_seeks 214 = .ok (.invokevirtual 523, 3) := dk_182 2 11 (dk_at dksX5_seeks_9 4 rfl rfl)
theorem dX5_seeks_217 : decode cX5_seeks 217 = .ok (.dstore 23, 2) := dk_57 23 (dk_at dksX5_seeks_9 7 rfl rfl)
theorem dX5_seeks_219 : decode cX5_seeks 219 = .ok (.aload_n 0, 1) := dk_42 (dk_at dksX5_seeks_9 9 rfl rfl)
theorem dX5_seeks_220 : decode cX5_seeks 220 = .ok (.getfield 514, 3) := dk_180 2 2 (dk_at dksX5_seeks_9 10 rfl rfl)
theorem dX5_seeks_223 : decode cX5_seeks 223 = .ok (.ifCond .eq 5, 3) := dk_153 0 5 (dk_at dksX5_seeks_9 13 rfl rfl)
theorem dX5_seeks_226 : decode cX5_seeks 226 = .ok (.iconst 0, 1) := dk_3 (dk_at dksX5_seeks_9 16 rfl rfl)
theorem dX5_seeks_227 : decode cX5_seeks 227 = .ok (.ireturn, 1) := dk_172 (dk_at dksX5_seeks_9 17 rfl rfl)
theorem dX5_seeks_228 : decode cX5_seeks 228 = .ok (.dload 23, 2) := dk_24 23 (dk_at dksX5_seeks_9 18 rfl rfl)
theorem dX5_seeks_230 : decode cX5_seeks 230 = .ok (.dload 7, 2) := dk_24 7 (dk_at dksX5_seeks_9 20 rfl rfl)
theorem dX5_seeks_232 : decode cX5_seeks 232 = .ok (.dcmp .l, 1) := dk_151 (dk_at dksX5_seeks_9 22 rfl rfl)
theorem dX5_seeks_233 : decode cX5_seeks 233 = .ok (.ifCond .ne 13, 3) := dk_154 0 13 (dk_at dksX5_seeks_10 0 rfl rfl)
theorem dX5_seeks_236 : decode cX5_seeks 236 = .ok (.aload_n 0, 1) := dk_42 (dk_at dksX5_seeks_10 3 rfl rfl)
theorem dX5_seeks_237 : decode cX5_seeks 237 = .ok (.dload 21, 2) := dk_24 21 (dk_at dksX5_seeks_10 4 rfl rfl)
theorem dX5_seeks_239 : decode cX5_seeks 239 = .ok (.dload 23, 2) := dk_24 23 (dk_at dksX5_seeks_10 6 rfl rfl)
theorem dX5_seeks_241 : decode cX5_seeks 241 = .ok (.invokevirtual 527, 3) := dk_182 2 15 (dk_at dksX5_seeks_10 8 rfl rfl)
theorem dX5_seeks_244 : decode cX5_seeks 244 = .ok (.iconst 1, 1) := dk_4 (dk_at dksX5_seeks_10 11 rfl rfl)
theorem dX5_seeks_245 : decode cX5_seeks 245 = .ok (.ireturn, 1) := dk_172 (dk_at dksX5_seeks_10 12 rfl rfl)
theorem dX5_seeks_246 : decode cX5_seeks 246 = .ok (.dload 23, 2) := dk_24 23 (dk_at dksX5_seeks_10 13 rfl rfl)
theorem dX5_seeks_248 : decode cX5_seeks 248 = .ok (.dload 7, 2) := dk_24 7 (dk_at dksX5_seeks_10 15 rfl rfl)
theorem dX5_seeks_250 : decode cX5_seeks 250 = .ok (.dcmp .g, 1) := dk_152 (dk_at dksX5_seeks_10 17 rfl rfl)
theorem dX5_seeks_251 : decode cX5_seeks 251 = .ok (.ifCond .ge 7, 3) := dk_156 0 7 (dk_at dksX5_seeks_10 18 rfl rfl)
theorem dX5_seeks_254 : decode cX5_seeks 254 = .ok (.iconst 1, 1) := dk_4 (dk_at dksX5_seeks_10 21 rfl rfl)
theorem dX5_seeks_255 : decode cX5_seeks 255 = .ok (.goto 4, 3) := dk_167 0 4 (dk_at dksX5_seeks_11 0 rfl rfl)
theorem dX5_seeks_258 : decode cX5_seeks 258 = .ok (.iconst 0, 1) := dk_3 (dk_at dksX5_seeks_11 3 rfl rfl)
theorem dX5_seeks_259 : decode cX5_seeks 259 = .ok (.dload 13, 2) := dk_24 13 (dk_at dksX5_seeks_11 4 rfl rfl)
theorem dX5_seeks_261 : decode cX5_seeks 261 = .ok (.dload 7, 2) := dk_24 7 (dk_at dksX5_seeks_11 6 rfl rfl)
theorem dX5_seeks_263 : decode cX5_seeks 263 = .ok (.dcmp .g, 1) := dk_152 (dk_at dksX5_seeks_11 8 rfl rfl)
theorem dX5_seeks_264 : decode cX5_seeks 264 = .ok (.ifCond .ge 7, 3) := dk_156 0 7 (dk_at dksX5_seeks_11 9 rfl rfl)
theorem dX5_seeks_267 : decode cX5_seeks 267 = .ok (.iconst 1, 1) := dk_4 (dk_at dksX5_seeks_11 12 rfl rfl)
theorem dX5_seeks_268 : decode cX5_seeks 268 = .ok (.goto 4, 3) := dk_167 0 4 (dk_at dksX5_seeks_11 13 rfl rfl)
theorem dX5_seeks_271 : decode cX5_seeks 271 = .ok (.iconst 0, 1) := dk_3 (dk_at dksX5_seeks_11 16 rfl rfl)
theorem dX5_seeks_272 : decode cX5_seeks 272 = .ok (.if_icmp .ne 14, 3) := dk_160 0 14 (dk_at dksX5_seeks_11 17 rfl rfl)
theorem dX5_seeks_275 : decode cX5_seeks 275 = .ok (.dload 21, 2) := dk_24 21 (dk_at dksX5_seeks_11 20 rfl rfl)
theorem dX5_seeks_277 : decode cX5_seeks 277 = .ok (.dstore 9, 2) := dk_57 9 (dk_at dksX5_seeks_11 22 rfl rfl)
theorem dX5_seeks_279 : decode cX5_seeks 279 = .ok (.dload 23, 2) := dk_24 23 (dk_at dksX5_seeks_12 0 rfl rfl)
theorem dX5_seeks_281 : decode cX5_seeks 281 = .ok (.dstore 13, 2) := dk_57 13 (dk_at dksX5_seeks_12 2 rfl rfl)
theorem dX5_seeks_283 : decode cX5_seeks 283 = .ok (.goto 11, 3) := dk_167 0 11 (dk_at dksX5_seeks_12 4 rfl rfl)
theorem dX5_seeks_286 : decode cX5_seeks 286 = .ok (.dload 21, 2) := dk_24 21 (dk_at dksX5_seeks_12 7 rfl rfl)
theorem dX5_seeks_288 : decode cX5_seeks 288 = .ok (.dstore 11, 2) := dk_57 11 (dk_at dksX5_seeks_12 9 rfl rfl)
theorem dX5_seeks_290 : decode cX5_seeks 290 = .ok (.dload 23, 2) := dk_24 23 (dk_at dksX5_seeks_12 11 rfl rfl)
theorem dX5_seeks_292 : decode cX5_seeks 292 = .ok (.dstore 15, 2) := dk_57 15 (dk_at dksX5_seeks_12 13 rfl rfl)
theorem dX5_seeks_294 : decode cX5_seeks 294 = .ok (.dload 11, 2) := dk_24 11 (dk_at dksX5_seeks_12 15 rfl rfl)
theorem dX5_seeks_296 : decode cX5_seeks 296 = .ok (.dload 9, 2) := dk_24 9 (dk_at dksX5_seeks_12 17 rfl rfl)
theorem dX5_seeks_298 : decode cX5_seeks 298 = .ok (.dsub, 1) := dk_103 (dk_at dksX5_seeks_12 19 rfl rfl)
theorem dX5_seeks_299 : decode cX5_seeks 299 = .ok (.dload 19, 2) := dk_24 19 (dk_at dksX5_seeks_12 20 rfl rfl)
theorem dX5_seeks_301 : decode cX5_seeks 301 = .ok (.ldc2_w 531, 3) := dk_20 2 19 (dk_at dksX5_seeks_13 0 rfl rfl)
theorem dX5_seeks_304 : decode cX5_seeks 304 = .ok (.ddiv, 1) := dk_111 (dk_at dksX5_seeks_13 3 rfl rfl)
theorem dX5_seeks_305 : decode cX5_seeks 305 = .ok (.dcmp .g, 1) := dk_152 (dk_at dksX5_seeks_13 4 rfl rfl)
theorem dX5_seeks_306 : decode cX5_seeks 306 = .ok (.ifCond .gt 7, 3) := dk_157 0 7 (dk_at dksX5_seeks_13 5 rfl rfl)
theorem dX5_seeks_309 : decode cX5_seeks 309 = .ok (.iconst 1, 1) := dk_4 (dk_at dksX5_seeks_13 8 rfl rfl)
theorem dX5_seeks_310 : decode cX5_seeks 310 = .ok (.goto 4, 3) := dk_167 0 4 (dk_at dksX5_seeks_13 9 rfl rfl)
theorem dX5_seeks_313 : decode cX5_seeks 313 = .ok (.iconst 0, 1) := dk_3 (dk_at dksX5_seeks_13 12 rfl rfl)
theorem dX5_seeks_314 : decode cX5_seeks 314 = .ok (.istore 17, 2) := dk_54 17 (dk_at dksX5_seeks_13 13 rfl rfl)
theorem dX5_seeks_316 : decode cX5_seeks 316 = .ok (.iinc 18 1, 3) := dk_132 18 1 (dk_at dksX5_seeks_13 15 rfl rfl)
theorem dX5_seeks_319 : decode cX5_seeks 319 = .ok (.goto (-198), 3) := dk_167 255 58 (dk_at dksX5_seeks_13 18 rfl rfl)
theorem dX5_seeks_322 : decode cX5_seeks 322 = .ok (.dload 13, 2) := dk_24 13 (dk_at dksX5_seeks_13 21 rfl rfl)
theorem dX5_seeks_324 : decode cX5_seeks 324 = .ok (.dload 7, 2) := dk_24 7 (dk_at dksX5_seeks_14 0 rfl rfl)
theorem dX5_seeks_326 : decode cX5_seeks 326 = .ok (.dsub, 1) := dk_103 (dk_at dksX5_seeks_14 2 rfl rfl)
theorem dX5_seeks_327 : decode cX5_seeks 327 = .ok (.invokestatic 533, 3) := dk_184 2 21 (dk_at dksX5_seeks_14 3 rfl rfl)
theorem dX5_seeks_330 : decode cX5_seeks 330 = .ok (.dload 15, 2) := dk_24 15 (dk_at dksX5_seeks_14 6 rfl rfl)
theorem dX5_seeks_332 : decode cX5_seeks 332 = .ok (.dload 7, 2) := dk_24 7 (dk_at dksX5_seeks_14 8 rfl rfl)
theorem dX5_seeks_334 : decode cX5_seeks 334 = .ok (.dsub, 1) := dk_103 (dk_at dksX5_seeks_14 10 rfl rfl)
theorem dX5_seeks_335 : decode cX5_seeks 335 = .ok (.invokestatic 533, 3) := dk_184 2 21 (dk_at dksX5_seeks_14 11 rfl rfl)
theorem dX5_seeks_338 : decode cX5_seeks 338 = .ok (.dcmp .g, 1) := dk_152 (dk_at dksX5_seeks_14 14 rfl rfl)
theorem dX5_seeks_339 : decode cX5_seeks 339 = .ok (.ifCond .gt 7, 3) := dk_157 0 7 (dk_at dksX5_seeks_14 15 rfl rfl)
theorem dX5_seeks_342 : decode cX5_seeks 342 = .ok (.iconst 1, 1) := dk_4 (dk_at dksX5_seeks_14 18 rfl rfl)
theorem dX5_seeks_343 : decode cX5_seeks 343 = .ok (.goto 4, 3) := dk_167 0 4 (dk_at dksX5_seeks_14 19 rfl rfl)
theorem dX5_seeks_346 : decode cX5_seeks 346 = .ok (.iconst 0, 1) := dk_3 (dk_at dksX5_seeks_14 22 rfl rfl)
theorem dX5_seeks_347 : decode cX5_seeks 347 = .ok (.istore 18, 2) := dk_54 18 (dk_at dksX5_seeks_15 0 rfl rfl)
theorem dX5_seeks_349 : decode cX5_seeks 349 = .ok (.aload_n 0, 1) := dk_42 (dk_at dksX5_seeks_15 2 rfl rfl)
theorem dX5_seeks_350 : decode cX5_seeks 350 = .ok (.iload 18, 2) := dk_21 18 (dk_at dksX5_seeks_15 3 rfl rfl)
theorem dX5_seeks_352 : decode cX5_seeks 352 = .ok (.ifCond .eq 8, 3) := dk_153 0 8 (dk_at dksX5_seeks_15 5 rfl rfl)
theorem dX5_seeks_355 : decode cX5_seeks 355 = .ok (.dload 9, 2) := dk_24 9 (dk_at dksX5_seeks_15 8 rfl rfl)
theorem dX5_seeks_357 : decode cX5_seeks 357 = .ok (.goto 5, 3) := dk_167 0 5 (dk_at dksX5_seeks_15 10 rfl rfl)
theorem dX5_seeks_360 : decode cX5_seeks 360 = .ok (.dload 11, 2) := dk_24 11 (dk_at dksX5_seeks_15 13 rfl rfl)
theorem dX5_seeks_362 : decode cX5_seeks 362 = .ok (.iload 18, 2) := dk_21 18 (dk_at dksX5_seeks_15 15 rfl rfl)
theorem dX5_seeks_364 : decode cX5_seeks 364 = .ok (.ifCond .eq 8, 3) := dk_153 0 8 (dk_at dksX5_seeks_15 17 rfl rfl)
theorem dX5_seeks_367 : decode cX5_seeks 367 = .ok (.dload 13, 2) := dk_24 13 (dk_at dksX5_seeks_15 20 rfl rfl)
theorem dX5_seeks_369 : decode cX5_seeks 369 = .ok (.goto 5, 3) := dk_167 0 5 (dk_at dksX5_seeks_16 0 rfl rfl)
theorem dX5_seeks_372 : decode cX5_seeks 372 = .ok (.dload 15, 2) := dk_24 15 (dk_at dksX5_seeks_16 3 rfl rfl)
theorem dX5_seeks_374 : decode cX5_seeks 374 = .ok (.invokevirtual 527, 3) := dk_182 2 15 (dk_at dksX5_seeks_16 5 rfl rfl)
theorem dX5_seeks_377 : decode cX5_seeks 377 = .ok (.iconst 1, 1) := dk_4 (dk_at dksX5_seeks_16 8 rfl rfl)
theorem dX5_seeks_378 : decode cX5_seeks 378 = .ok (.ireturn, 1) := dk_172 (dk_at dksX5_seeks_16 9 rfl rfl)
abbrev cX5_f : ByteArray := prog_35_method_80_code
def yX5_f : MethodName := ⟨RX5, "f", "(IID)D"⟩
def dkwX5_f_1 : List UInt8 := [42, 28, 182, 1, 76, 153, 0, 7, 4, 167, 0, 4, 3, 128, 181, 2, 2, 24, 5, 175]
abbrev dktX5_f_1 : List UInt8 := dkwX5_f_1 ++ []
def dkwX5_f_0 : List UInt8 := [42, 89, 180, 1, 255, 4, 96, 181, 1, 255, 42, 27, 41, 28, 182, 1, 85, 57, 5, 42, 89, 180, 2, 2]
abbrev dktX5_f_0 : List UInt8 := dkwX5_f_0 ++ dktX5_f_1
theorem dksX5_f_0 : cX5_f.data.toList.drop 0 = dktX5_f_0 := by decide +kernel
theorem dksX5_f_1 : cX5_f.data.toList.drop 24 = dktX5_f_1 := dk_seg dksX5_f_0 24 rfl rfl
theorem dX5_f_0 : decode cX5_f 0 = .ok (.aload_n 0, 1) := dk_42 (dk_at dksX5_f_0 0 rfl rfl)
theorem dX5_f_1 : decode cX5_f 1 = .ok (.dup, 1) := dk_89 (dk_at dksX5_f_0 1 rfl rfl)
theorem dX5_f_2 : decode cX5_f 2 = .ok (.getfield 511, 3) := dk_180 1 255 (dk_at dksX5_f_0 2 rfl rfl)
theorem dX5_f_5 : decode cX5_f 5 = .ok (.iconst 1, 1) := dk_4 (dk_at dksX5_f_0 5 rfl rfl)
theorem dX5_f_6 : decode cX5_f 6 = .ok (.iadd, 1) := dk_96 (dk_at dksX5_f_0 6 rfl rfl)
theorem dX5_f_7 : decode cX5_f 7 = .ok (.putfield 511, 3) := dk_181 1 255 (dk_at dksX5_f_0 7 rfl rfl)
theorem dX5_f_10 : decode cX5_f 10 = .ok (.aload_n 0, 1) := dk_42 (dk_at dksX5_f_0 10 rfl rfl)
theorem dX5_f_11 : decode cX5_f 11 = .ok (.iload_n 1, 1) := dk_27 (dk_at dksX5_f_0 11 rfl rfl)
theorem dX5_f_12 : decode cX5_f 12 = .ok (.dload_n 3, 1) := dk_41 (dk_at dksX5_f_0 12 rfl rfl)
theorem dX5_f_13 : decode cX5_f 13 = .ok (.iload_n 2, 1) := dk_28 (dk_at dksX5_f_0 13 rfl rfl)
theorem dX5_f_14 : decode cX5_f 14 = .ok (.invokevirtual 341, 3) := dk_182 1 85 (dk_at dksX5_f_0 14 rfl rfl)
theorem dX5_f_17 : decode cX5_f 17 = .ok (.dstore 5, 2) := dk_57 5 (dk_at dksX5_f_0 17 rfl rfl)
theorem dX5_f_19 : decode cX5_f 19 = .ok (.aload_n 0, 1) := dk_42 (dk_at dksX5_f_0 19 rfl rfl)
theorem dX5_f_20 : decode cX5_f 20 = .ok (.dup, 1) := dk_89 (dk_at dksX5_f_0 20 rfl rfl)
theorem dX5_f_21 : decode cX5_f 21 = .ok (.getfield 514, 3) := dk_180 2 2 (dk_at dksX5_f_0 21 rfl rfl)
theorem dX5_f_24 : decode cX5_f 24 = .ok (.aload_n 0, 1) := dk_42 (dk_at dksX5_f_1 0 rfl rfl)
theorem dX5_f_25 : decode cX5_f 25 = .ok (.iload_n 2, 1) := dk_28 (dk_at dksX5_f_1 1 rfl rfl)
theorem dX5_f_26 : decode cX5_f 26 = .ok (.invokevirtual 332, 3) := dk_182 1 76 (dk_at dksX5_f_1 2 rfl rfl)
theorem dX5_f_29 : decode cX5_f 29 = .ok (.ifCond .eq 7, 3) := dk_153 0 7 (dk_at dksX5_f_1 5 rfl rfl)
theorem dX5_f_32 : decode cX5_f 32 = .ok (.iconst 1, 1) := dk_4 (dk_at dksX5_f_1 8 rfl rfl)
theorem dX5_f_33 : decode cX5_f 33 = .ok (.goto 4, 3) := dk_167 0 4 (dk_at dksX5_f_1 9 rfl rfl)
theorem dX5_f_36 : decode cX5_f 36 = .ok (.iconst 0, 1) := dk_3 (dk_at dksX5_f_1 12 rfl rfl)
theorem dX5_f_37 : decode cX5_f 37 = .ok (.ior, 1) := dk_128 (dk_at dksX5_f_1 13 rfl rfl)
theorem dX5_f_38 : decode cX5_f 38 = .ok (.putfield 514, 3) := dk_181 2 2 (dk_at dksX5_f_1 14 rfl rfl)
theorem dX5_f_41 : decode cX5_f 41 = .ok (.dload 5, 2) := dk_24 5 (dk_at dksX5_f_1 17 rfl rfl)
theorem dX5_f_43 : decode cX5_f 43 = .ok (.dreturn, 1) := dk_175 (dk_at dksX5_f_1 19 rfl rfl)
abbrev cX5_finds : ByteArray := prog_35_method_81_code
def yX5_finds : MethodName := ⟨RX5, "finds", "(DD)V"⟩
def dkwX5_finds_0 : List UInt8 := [42, 39, 181, 2, 5, 42, 41, 181, 2, 8, 177]
abbrev dktX5_finds_0 : List UInt8 := dkwX5_finds_0 ++ []
theorem dksX5_finds_0 : cX5_finds.data.toList.drop 0 = dktX5_finds_0 := by decide +kernel
theorem dX5_finds_0 : decode cX5_finds 0 = .ok (.aload_n 0, 1) := dk_42 (dk_at dksX5_finds_0 0 rfl rfl)
theorem dX5_finds_1 : decode cX5_finds 1 = .ok (.dload_n 1, 1) := dk_39 (dk_at dksX5_finds_0 1 rfl rfl)
theorem dX5_finds_2 : decode cX5_finds 2 = .ok (.putfield 517, 3) := dk_181 2 5 (dk_at dksX5_finds_0 2 rfl rfl)
theorem dX5_finds_5 : decode cX5_finds 5 = .ok (.aload_n 0, 1) := dk_42 (dk_at dksX5_finds_0 5 rfl rfl)
theorem dX5_finds_6 : decode cX5_finds 6 = .ok (.dload_n 3, 1) := dk_41 (dk_at dksX5_finds_0 6 rfl rfl)
theorem dX5_finds_7 : decode cX5_finds 7 = .ok (.putfield 520, 3) := dk_181 2 8 (dk_at dksX5_finds_0 7 rfl rfl)
theorem dX5_finds_10 : decode cX5_finds 10 = .ok (.return_, 1) := dk_177 (dk_at dksX5_finds_0 10 rfl rfl)
abbrev cX5_swing : ByteArray := prog_35_method_85_code
def yX5_swing : MethodName := ⟨RX5, "swing", "(III)J"⟩
def dkwX5_swing_9 : List UInt8 := [133, 167, 0, 8, 24, 5, 184, 1, 49, 173]
abbrev dktX5_swing_9 : List UInt8 := dkwX5_swing_9 ++ []
def dkwX5_swing_8 : List UInt8 := [54, 4, 24, 14, 57, 5, 132, 8, 1, 167, 255, 104, 29, 153, 0, 9, 21, 4, 2, 160, 0, 9, 21, 4]
abbrev dktX5_swing_8 : List UInt8 := dkwX5_swing_8 ++ dktX5_swing_9
def dkwX5_swing_7 : List UInt8 := [21, 11, 154, 0, 28, 21, 4, 2, 159, 0, 14, 24, 14, 24, 5, 152, 157, 0, 6, 167, 0, 11, 21, 8]
abbrev dktX5_swing_7 : List UInt8 := dkwX5_swing_7 ++ dktX5_swing_8
def dkwX5_swing_6 : List UInt8 := [182, 1, 76, 153, 0, 7, 4, 167, 0, 4, 3, 128, 54, 11, 24, 9, 24, 12, 103, 184, 2, 21, 57, 14]
abbrev dktX5_swing_6 : List UInt8 := dkwX5_swing_6 ++ dktX5_swing_7
def dkwX5_swing_5 : List UInt8 := [180, 0, 17, 21, 8, 49, 28, 135, 20, 1, 62, 111, 103, 27, 182, 1, 85, 57, 12, 21, 11, 42, 27]
abbrev dktX5_swing_5 : List UInt8 := dkwX5_swing_5 ++ dktX5_swing_6
def dkwX5_swing_4 : List UInt8 := [182, 1, 85, 57, 9, 42, 27, 182, 1, 76, 153, 0, 7, 4, 167, 0, 4, 3, 54, 11, 42, 21, 8, 42]
abbrev dktX5_swing_4 : List UInt8 := dkwX5_swing_4 ++ dktX5_swing_5
def dkwX5_swing_3 : List UInt8 := [154, 0, 6, 167, 0, 122, 42, 21, 8, 42, 180, 0, 17, 21, 8, 49, 28, 135, 20, 1, 62, 111, 99, 27]
abbrev dktX5_swing_3 : List UInt8 := dkwX5_swing_3 ++ dktX5_swing_4
def dkwX5_swing_2 : List UInt8 := [21, 8, 16, 24, 162, 0, 151, 21, 7, 21, 8, 122, 4, 126, 153, 0, 135, 42, 180, 0, 13, 21, 8, 51]
abbrev dktX5_swing_2 : List UInt8 := dkwX5_swing_2 ++ dktX5_swing_3
def dkwX5_swing_1 : List UInt8 := [154, 0, 7, 20, 1, 70, 173, 2, 54, 4, 14, 57, 5, 42, 27, 182, 1, 67, 54, 7, 3, 54, 8]
abbrev dktX5_swing_1 : List UInt8 := dkwX5_swing_1 ++ dktX5_swing_2
def dkwX5_swing_0 : List UInt8 := [27, 184, 1, 56, 153, 0, 23, 28, 4, 19, 1, 228, 184, 0, 183, 153, 0, 12, 29, 3, 4, 184, 0, 183]
abbrev dktX5_swing_0 : List UInt8 := dkwX5_swing_0 ++ dktX5_swing_1
theorem dksX5_swing_0 : cX5_swing.data.toList.drop 0 = dktX5_swing_0 := by decide +kernel
theorem dksX5_swing_1 : cX5_swing.data.toList.drop 24 = dktX5_swing_1 := dk_seg dksX5_swing_0 24 rfl rfl
theorem dksX5_swing_2 : cX5_swing.data.toList.drop 47 = dktX5_swing_2 := dk_seg dksX5_swing_1 23 rfl rfl
theorem dksX5_swing_3 : cX5_swing.data.toList.drop 71 = dktX5_swing_3 := dk_seg dksX5_swing_2 24 rfl rfl
theorem dksX5_swing_4 : cX5_swing.data.toList.drop 95 = dktX5_swing_4 := dk_seg dksX5_swing_3 24 rfl rfl
theorem dksX5_swing_5 : cX5_swing.data.toList.drop 119 = dktX5_swing_5 := dk_seg dksX5_swing_4 24 rfl rfl
theorem dksX5_swing_6 : cX5_swing.data.toList.drop 142 = dktX5_swing_6 := dk_seg dksX5_swing_5 23 rfl rfl
theorem dksX5_swing_7 : cX5_swing.data.toList.drop 166 = dktX5_swing_7 := dk_seg dksX5_swing_6 24 rfl rfl
theorem dksX5_swing_8 : cX5_swing.data.toList.drop 190 = dktX5_swing_8 := dk_seg dksX5_swing_7 24 rfl rfl
theorem dksX5_swing_9 : cX5_swing.data.toList.drop 214 = dktX5_swing_9 := dk_seg dksX5_swing_8 24 rfl rfl
theorem dX5_swing_0 : decode cX5_swing 0 = .ok (.iload_n 1, 1) := dk_27 (dk_at dksX5_swing_0 0 rfl rfl)
theorem dX5_swing_1 : decode cX5_swing 1 = .ok (.invokestatic 312, 3) := dk_184 1 56 (dk_at dksX5_swing_0 1 rfl rfl)
theorem dX5_swing_4 : decode cX5_swing 4 = .ok (.ifCond .eq 23, 3) := dk_153 0 23 (dk_at dksX5_swing_0 4 rfl rfl)
theorem dX5_swing_7 : decode cX5_swing 7 = .ok (.iload_n 2, 1) := dk_28 (dk_at dksX5_swing_0 7 rfl rfl)
theorem dX5_swing_8 : decode cX5_swing 8 = .ok (.iconst 1, 1) := dk_4 (dk_at dksX5_swing_0 8 rfl rfl)
theorem dX5_swing_9 : decode cX5_swing 9 = .ok (.ldc_w 484, 3) := dk_19 1 228 (dk_at dksX5_swing_0 9 rfl rfl)
theorem dX5_swing_12 : decode cX5_swing 12 = .ok (.invokestatic 183, 3) := dk_184 0 183 (dk_at dksX5_swing_0 12 rfl rfl)
theorem dX5_swing_15 : decode cX5_swing 15 = .ok (.ifCond .eq 12, 3) := dk_153 0 12 (dk_at dksX5_swing_0 15 rfl rfl)
theorem dX5_swing_18 : decode cX5_swing 18 = .ok (.iload_n 3, 1) := dk_29 (dk_at dksX5_swing_0 18 rfl rfl)
theorem dX5_swing_19 : decode cX5_swing 19 = .ok (.iconst 0, 1) := dk_3 (dk_at dksX5_swing_0 19 rfl rfl)
theorem dX5_swing_20 : decode cX5_swing 20 = .ok (.iconst 1, 1) := dk_4 (dk_at dksX5_swing_0 20 rfl rfl)
theorem dX5_swing_21 : decode cX5_swing 21 = .ok (.invokestatic 183, 3) := dk_184 0 183 (dk_at dksX5_swing_0 21 rfl rfl)
theorem dX5_swing_24 : decode cX5_swing 24 = .ok (.ifCond .ne 7, 3) := dk_154 0 7 (dk_at dksX5_swing_1 0 rfl rfl)
theorem dX5_swing_27 : decode cX5_swing 27 = .ok (.ldc2_w 326, 3) := dk_20 1 70 (dk_at dksX5_swing_1 3 rfl rfl)
theorem dX5_swing_30 : decode cX5_swing 30 = .ok (.lreturn, 1) := dk_173 (dk_at dksX5_swing_1 6 rfl rfl)
theorem dX5_swing_31 : decode cX5_swing 31 = .ok (.iconst (-1), 1) := dk_2 (dk_at dksX5_swing_1 7 rfl rfl)
theorem dX5_swing_32 : decode cX5_swing 32 = .ok (.istore 4, 2) := dk_54 4 (dk_at dksX5_swing_1 8 rfl rfl)
theorem dX5_swing_34 : decode cX5_swing 34 = .ok (.dconst 0, 1) := dk_14 (dk_at dksX5_swing_1 10 rfl rfl)
theorem dX5_swing_35 : decode cX5_swing 35 = .ok (.dstore 5, 2) := dk_57 5 (dk_at dksX5_swing_1 11 rfl rfl)
theorem dX5_swing_37 : decode cX5_swing 37 = .ok (.aload_n 0, 1) := dk_42 (dk_at dksX5_swing_1 13 rfl rfl)
theorem dX5_swing_38 : decode cX5_swing 38 = .ok (.iload_n 1, 1) := dk_27 (dk_at dksX5_swing_1 14 rfl rfl)
theorem dX5_swing_39 : decode cX5_swing 39 = .ok (.invokevirtual 323, 3) := dk_182 1 67 (dk_at dksX5_swing_1 15 rfl rfl)
theorem dX5_swing_42 : decode cX5_swing 42 = .ok (.istore 7, 2) := dk_54 7 (dk_at dksX5_swing_1 18 rfl rfl)
theorem dX5_swing_44 : decode cX5_swing 44 = .ok (.iconst 0, 1) := dk_3 (dk_at dksX5_swing_1 20 rfl rfl)
theorem dX5_swing_45 : decode cX5_swing 45 = .ok (.istore 8, 2) := dk_54 8 (dk_at dksX5_swing_1 21 rfl rfl)
theorem dX5_swing_47 : decode cX5_swing 47 = .ok (.iload 8, 2) := dk_21 8 (dk_at dksX5_swing_2 0 rfl rfl)
theorem dX5_swing_49 : decode cX5_swing 49 = .ok (.bipush 24, 2) := dk_16 24 (dk_at dksX5_swing_2 2 rfl rfl)
theorem dX5_swing_51 : decode cX5_swing 51 = .ok (.if_icmp .ge 151, 3) := dk_162 0 151 (dk_at dksX5_swing_2 4 rfl rfl)
theorem dX5_swing_54 : decode cX5_swing 54 = .ok (.iload 7, 2) := dk_21 7 (dk_at dksX5_swing_2 7 rfl rfl)
theorem dX5_swing_56 : decode cX5_swing 56 = .ok (.iload 8, 2) := dk_21 8 (dk_at dksX5_swing_2 9 rfl rfl)
theorem dX5_swing_58 : decode cX5_swing 58 = .ok (.ishr, 1) := dk_122 (dk_at dksX5_swing_2 11 rfl rfl)
theorem dX5_swing_59 : decode cX5_swing 59 = .ok (.iconst 1, 1) := dk_4 (dk_at dksX5_swing_2 12 rfl rfl)
theorem dX5_swing_60 : decode cX5_swing 60 = .ok (.iand, 1) := dk_126 (dk_at dksX5_swing_2 13 rfl rfl)
theorem dX5_swing_61 : decode cX5_swing 61 = .ok (.ifCond .eq 135, 3) := dk_153 0 135 (dk_at dksX5_swing_2 14 rfl rfl)
theorem dX5_swing_64 : decode cX5_swing 64 = .ok (.aload_n 0, 1) := dk_42 (dk_at dksX5_swing_2 17 rfl rfl)
theorem dX5_swing_65 : decode cX5_swing 65 = .ok (.getfield 13, 3) := dk_180 0 13 (dk_at dksX5_swing_2 18 rfl rfl)
theorem dX5_swing_68 : decode cX5_swing 68 = .ok (.iload 8, 2) := dk_21 8 (dk_at dksX5_swing_2 21 rfl rfl)
theorem dX5_swing_70 : decode cX5_swing 70 = .ok (.baload, 1) := dk_51 (dk_at dksX5_swing_2 23 rfl rfl)
theorem dX5_swing_71 : decode cX5_swing 71 = .ok (.ifCond .ne 6, 3) := dk_154 0 6 (dk_at dksX5_swing_3 0 rfl rfl)
theorem dX5_swing_74 : decode cX5_swing 74 = .ok (.goto 122, 3) := dk_167 0 122 (dk_at dksX5_swing_3 3 rfl rfl)
theorem dX5_swing_77 : decode cX5_swing 77 = .ok (.aload_n 0, 1) := dk_42 (dk_at dksX5_swing_3 6 rfl rfl)
theorem dX5_swing_78 : decode cX5_swing 78 = .ok (.iload 8, 2) := dk_21 8 (dk_at dksX5_swing_3 7 rfl rfl)
theorem dX5_swing_80 : decode cX5_swing 80 = .ok (.aload_n 0, 1) := dk_42 (dk_at dksX5_swing_3 9 rfl rfl)
theorem dX5_swing_81 : decode cX5_swing 81 = .ok (.getfield 17, 3) := dk_180 0 17 (dk_at dksX5_swing_3 10 rfl rfl)
theorem dX5_swing_84 : decode cX5_swing 84 = .ok (.iload 8, 2) := dk_21 8 (dk_at dksX5_swing_3 13 rfl rfl)
theorem dX5_swing_86 : decode cX5_swing 86 = .ok (.daload, 1) := dk_49 (dk_at dksX5_swing_3 15 rfl rfl)
theorem dX5_swing_87 : decode cX5_swing 87 = .ok (.iload_n 2, 1) := dk_28 (dk_at dksX5_swing_3 16 rfl rfl)
theorem dX5_swing_88 : decode cX5_swing 88 = .ok (.i2d, 1) := dk_135 (dk_at dksX5_swing_3 17 rfl rfl)
theorem dX5_swing_89 : decode cX5_swing 89 = .ok (.ldc2_w 318, 3) := dk_20 1 62 (dk_at dksX5_swing_3 18 rfl rfl)
theorem dX5_swing_92 : decode cX5_swing 92 = .ok (.ddiv, 1) := dk_111 (dk_at dksX5_swing_3 21 rfl rfl)
theorem dX5_swing_93 : decode cX5_swing 93 = .ok (.dadd, 1) := dk_99 (dk_at dksX5_swing_3 22 rfl rfl)
theorem dX5_swing_94 : decode cX5_swing 94 = .ok (.iload_n 1, 1) := dk_27 (dk_at dksX5_swing_3 23 rfl rfl)
theorem dX5_swing_95 : decode cX5_swing 95 = .ok (.invokevirtual 341, 3) := dk_182 1 85 (dk_at dksX5_swing_4 0 rfl rfl)
theorem dX5_swing_98 : decode cX5_swing 98 = .ok (.dstore 9, 2) := dk_57 9 (dk_at dksX5_swing_4 3 rfl rfl)
theorem dX5_swing_100 : decode cX5_swing 100 = .ok (.aload_n 0, 1) := dk_42 (dk_at dksX5_swing_4 5 rfl rfl)
theorem dX5_swing_101 : decode cX5_swing 101 = .ok (.iload_n 1, 1) := dk_27 (dk_at dksX5_swing_4 6 rfl rfl)
theorem dX5_swing_102 : decode cX5_swing 102 = .ok (.invokevirtual 332, 3) := dk_182 1 76 (dk_at dksX5_swing_4 7 rfl rfl)
theorem dX5_swing_105 : decode cX5_swing 105 = .ok (.ifCond .eq 7, 3) := dk_153 0 7 (dk_at dksX5_swing_4 10 rfl rfl)
theorem dX5_swing_108 : decode cX5_swing 108 = .ok (.iconst 1, 1) := dk_4 (dk_at dksX5_swing_4 13 rfl rfl)
theorem dX5_swing_109 : decode cX5_swing 109 = .ok (.goto 4, 3) := dk_167 0 4 (dk_at dksX5_swing_4 14 rfl rfl)
theorem dX5_swing_112 : decode cX5_swing 112 = .ok (.iconst 0, 1) := dk_3 (dk_at dksX5_swing_4 17 rfl rfl)
theorem dX5_swing_113 : decode cX5_swing 113 = .ok (.istore 11, 2) := dk_54 11 (dk_at dksX5_swing_4 18 rfl rfl)
theorem dX5_swing_115 : decode cX5_swing 115 = .ok (.aload_n 0, 1) := dk_42 (dk_at dksX5_swing_4 20 rfl rfl)
theorem dX5_swing_116 : decode cX5_swing 116 = .ok (.iload 8, 2) := dk_21 8 (dk_at dksX5_swing_4 21 rfl rfl)
theorem dX5_swing_118 : decode cX5_swing 118 = .ok (.aload_n 0, 1) := dk_42 (dk_at dksX5_swing_4 23 rfl rfl)
theorem dX5_swing_119 : decode cX5_swing 119 = .ok (.getfield 17, 3) := dk_180 0 17 (dk_at dksX5_swing_5 0 rfl rfl)
theorem dX5_swing_122 : decode cX5_swing 122 = .ok (.iload 8, 2) := dk_21 8 (dk_at dksX5_swing_5 3 rfl rfl)
theorem dX5_swing_124 : decode cX5_swing 124 = .ok (.daload, 1) := dk_49 (dk_at dksX5_swing_5 5 rfl rfl)
theorem dX5_swing_125 : decode cX5_swing 125 = .ok (.iload_n 2, 1) := dk_28 (dk_at dksX5_swing_5 6 rfl rfl)
theorem dX5_swing_126 : decode cX5_swing 126 = .ok (.i2d, 1) := dk_135 (dk_at dksX5_swing_5 7 rfl rfl)
theorem dX5_swing_127 : decode cX5_swing 127 = .ok (.ldc2_w 318, 3) := dk_20 1 62 (dk_at dksX5_swing_5 8 rfl rfl)
theorem dX5_swing_130 : decode cX5_swing 130 = .ok (.ddiv, 1) := dk_111 (dk_at dksX5_swing_5 11 rfl rfl)
theorem dX5_swing_131 : decode cX5_swing 131 = .ok (.dsub, 1) := dk_103 (dk_at dksX5_swing_5 12 rfl rfl)
theorem dX5_swing_132 : decode cX5_swing 132 = .ok (.iload_n 1, 1) := dk_27 (dk_at dksX5_swing_5 13 rfl rfl)
theorem dX5_swing_133 : decode cX5_swing 133 = .ok (.invokevirtual 341, 3) := dk_182 1 85 (dk_at dksX5_swing_5 14 rfl rfl)
theorem dX5_swing_136 : decode cX5_swing 136 = .ok (.dstore 12, 2) := dk_57 12 (dk_at dksX5_swing_5 17 rfl rfl)
theorem dX5_swing_138 : decode cX5_swing 138 = .ok (.iload 11, 2) := dk_21 11 (dk_at dksX5_swing_5 19 rfl rfl)
theorem dX5_swing_140 : decode cX5_swing 140 = .ok (.aload_n 0, 1) := dk_42 (dk_at dksX5_swing_5 21 rfl rfl)
theorem dX5_swing_141 : decode cX5_swing 141 = .ok (.iload_n 1, 1) := dk_27 (dk_at dksX5_swing_5 22 rfl rfl)
theorem dX5_swing_142 : decode cX5_swing 142 = .ok (.invokevirtual 332, 3) := dk_182 1 76 (dk_at dksX5_swing_6 0 rfl rfl)
theorem dX5_swing_145 : decode cX5_swing 145 = .ok (.ifCond .eq 7, 3) := dk_153 0 7 (dk_at dksX5_swing_6 3 rfl rfl)
theorem dX5_swing_148 : decode cX5_swing 148 = .ok (.iconst 1, 1) := dk_4 (dk_at dksX5_swing_6 6 rfl rfl)
theorem dX5_swing_149 : decode cX5_swing 149 = .ok (.goto 4, 3) := dk_167 0 4 (dk_at dksX5_swing_6 7 rfl rfl)
theorem dX5_swing_152 : decode cX5_swing 152 = .ok (.iconst 0, 1) := dk_3 (dk_at dksX5_swing_6 10 rfl rfl)
theorem dX5_swing_153 : decode cX5_swing 153 = .ok (.ior, 1) := dk_128 (dk_at dksX5_swing_6 11 rfl rfl)
theorem dX5_swing_154 : decode cX5_swing 154 = .ok (.istore 11, 2) := dk_54 11 (dk_at dksX5_swing_6 12 rfl rfl)
theorem dX5_swing_156 : decode cX5_swing 156 = .ok (.dload 9, 2) := dk_24 9 (dk_at dksX5_swing_6 14 rfl rfl)
theorem dX5_swing_158 : decode cX5_swing 158 = .ok (.dload 12, 2) := dk_24 12 (dk_at dksX5_swing_6 16 rfl rfl)
theorem dX5_swing_160 : decode cX5_swing 160 = .ok (.dsub, 1) := dk_103 (dk_at dksX5_swing_6 18 rfl rfl)
theorem dX5_swing_161 : decode cX5_swing 161 = .ok (.invokestatic 533, 3) := dk_184 2 21 (dk_at dksX5_swing_6 19 rfl rfl)
theorem dX5_swing_164 : decode cX5_swing 164 = .ok (.dstore 14, 2) := dk_57 14 (dk_at dksX5_swing_6 22 rfl rfl)
theorem dX5_swing_166 : decode cX5_swing 166 = .ok (.iload 11, 2) := dk_21 11 (dk_at dksX5_swing_7 0 rfl rfl)
theorem dX5_swing_168 : decode cX5_swing 168 = .ok (.ifCond .ne 28, 3) := dk_154 0 28 (dk_at dksX5_swing_7 2 rfl rfl)
theorem dX5_swing_171 : decode cX5_swing 171 = .ok (.iload 4, 2) := dk_21 4 (dk_at dksX5_swing_7 5 rfl rfl)
theorem dX5_swing_173 : decode cX5_swing 173 = .ok (.iconst (-1), 1) := dk_2 (dk_at dksX5_swing_7 7 rfl rfl)
theorem dX5_swing_174 : decode cX5_swing 174 = .ok (.if_icmp .eq 14, 3) := dk_159 0 14 (dk_at dksX5_swing_7 8 rfl rfl)
theorem dX5_swing_177 : decode cX5_swing 177 = .ok (.dload 14, 2) := dk_24 14 (dk_at dksX5_swing_7 11 rfl rfl)
theorem dX5_swing_179 : decode cX5_swing 179 = .ok (.dload 5, 2) := dk_24 5 (dk_at dksX5_swing_7 13 rfl rfl)
theorem dX5_swing_181 : decode cX5_swing 181 = .ok (.dcmp .g, 1) := dk_152 (dk_at dksX5_swing_7 15 rfl rfl)
theorem dX5_swing_182 : decode cX5_swing 182 = .ok (.ifCond .gt 6, 3) := dk_157 0 6 (dk_at dksX5_swing_7 16 rfl rfl)
theorem dX5_swing_185 : decode cX5_swing 185 = .ok (.goto 11, 3) := dk_167 0 11 (dk_at dksX5_swing_7 19 rfl rfl)
theorem dX5_swing_188 : decode cX5_swing 188 = .ok (.iload 8, 2) := dk_21 8 (dk_at dksX5_swing_7 22 rfl rfl)
theorem dX5_swing_190 : decode cX5_swing 190 = .ok (.istore 4, 2) := dk_54 4 (dk_at dksX5_swing_8 0 rfl rfl)
theorem dX5_swing_192 : decode cX5_swing 192 = .ok (.dload 14, 2) := dk_24 14 (dk_at dksX5_swing_8 2 rfl rfl)
theorem dX5_swing_194 : decode cX5_swing 194 = .ok (.dstore 5, 2) := dk_57 5 (dk_at dksX5_swing_8 4 rfl rfl)
theorem dX5_swing_196 : decode cX5_swing 196 = .ok (.iinc 8 1, 3) := dk_132 8 1 (dk_at dksX5_swing_8 6 rfl rfl)
theorem dX5_swing_199 : decode cX5_swing 199 = .ok (.goto (-152), 3) := dk_167 255 104 (dk_at dksX5_swing_8 9 rfl rfl)
theorem dX5_swing_202 : decode cX5_swing 202 = .ok (.iload_n 3, 1) := dk_29 (dk_at dksX5_swing_8 12 rfl rfl)
theorem dX5_swing_203 : decode cX5_swing 203 = .ok (.ifCond .eq 9, 3) := dk_153 0 9 (dk_at dksX5_swing_8 13 rfl rfl)
theorem dX5_swing_206 : decode cX5_swing 206 = .ok (.iload 4, 2) := dk_21 4 (dk_at dksX5_swing_8 16 rfl rfl)
theorem dX5_swing_208 : decode cX5_swing 208 = .ok (.iconst (-1), 1) := dk_2 (dk_at dksX5_swing_8 18 rfl rfl)
theorem dX5_swing_209 : decode cX5_swing 209 = .ok (.if_icmp .ne 9, 3) := dk_160 0 9 (dk_at dksX5_swing_8 19 rfl rfl)
theorem dX5_swing_212 : decode cX5_swing 212 = .ok (.iload 4, 2) := dk_21 4 (dk_at dksX5_swing_8 22 rfl rfl)
theorem dX5_swing_214 : decode cX5_swing 214 = .ok (.i2l, 1) := dk_133 (dk_at dksX5_swing_9 0 rfl rfl)
theorem dX5_swing_215 : decode cX5_swing 215 = .ok (.goto 8, 3) := dk_167 0 8 (dk_at dksX5_swing_9 1 rfl rfl)
theorem dX5_swing_218 : decode cX5_swing 218 = .ok (.dload 5, 2) := dk_24 5 (dk_at dksX5_swing_9 4 rfl rfl)
theorem dX5_swing_220 : decode cX5_swing 220 = .ok (.invokestatic 305, 3) := dk_184 1 49 (dk_at dksX5_swing_9 6 rfl rfl)
theorem dX5_swing_223 : decode cX5_swing 223 = .ok (.lreturn, 1) := dk_173 (dk_at dksX5_swing_9 9 rfl rfl)
abbrev cX5_chance : ByteArray := prog_35_method_88_code
def yX5_chance : MethodName := ⟨RX5, "chance", "(IIIII)I"⟩
def dkwX5_chance_4 : List UInt8 := [21, 6, 167, 0, 4, 29, 21, 6, 29, 184, 2, 34, 108, 172]
abbrev dktX5_chance_4 : List UInt8 := dkwX5_chance_4 ++ []
def dkwX5_chance_3 : List UInt8 := [20, 1, 62, 111, 182, 2, 37, 153, 0, 6, 132, 6, 1, 132, 8, 1, 167, 255, 223, 21, 5, 154, 0, 8]
abbrev dktX5_chance_3 : List UInt8 := dkwX5_chance_3 ++ dktX5_chance_4
def dkwX5_chance_2 : List UInt8 := [54, 7, 3, 54, 8, 21, 8, 29, 162, 0, 33, 42, 27, 21, 7, 28, 21, 8, 96, 21, 4, 135]
abbrev dktX5_chance_2 : List UInt8 := dkwX5_chance_2 ++ dktX5_chance_3
def dkwX5_chance_1 : List UInt8 := [153, 0, 13, 21, 5, 3, 4, 184, 0, 183, 154, 0, 6, 16, 254, 172, 3, 54, 6, 42, 27, 182, 1, 67]
abbrev dktX5_chance_1 : List UInt8 := dkwX5_chance_1 ++ dktX5_chance_2
def dkwX5_chance_0 : List UInt8 := [27, 184, 1, 56, 153, 0, 31, 29, 4, 16, 20, 184, 0, 183, 153, 0, 21, 21, 4, 184, 2, 24]
abbrev dktX5_chance_0 : List UInt8 := dkwX5_chance_0 ++ dktX5_chance_1
theorem dksX5_chance_0 : cX5_chance.data.toList.drop 0 = dktX5_chance_0 := by decide +kernel
theorem dksX5_chance_1 : cX5_chance.data.toList.drop 22 = dktX5_chance_1 := dk_seg dksX5_chance_0 22 rfl rfl
theorem dksX5_chance_2 : cX5_chance.data.toList.drop 46 = dktX5_chance_2 := dk_seg dksX5_chance_1 24 rfl rfl
theorem dksX5_chance_3 : cX5_chance.data.toList.drop 68 = dktX5_chance_3 := dk_seg dksX5_chance_2 22 rfl rfl
theorem dksX5_chance_4 : cX5_chance.data.toList.drop 92 = dktX5_chance_4 := dk_seg dksX5_chance_3 24 rfl rfl
theorem dX5_chance_0 : decode cX5_chance 0 = .ok (.iload_n 1, 1) := dk_27 (dk_at dksX5_chance_0 0 rfl rfl)
theorem dX5_chance_1 : decode cX5_chance 1 = .ok (.invokestatic 312, 3) := dk_184 1 56 (dk_at dksX5_chance_0 1 rfl rfl)
theorem dX5_chance_4 : decode cX5_chance 4 = .ok (.ifCond .eq 31, 3) := dk_153 0 31 (dk_at dksX5_chance_0 4 rfl rfl)
theorem dX5_chance_7 : decode cX5_chance 7 = .ok (.iload_n 3, 1) := dk_29 (dk_at dksX5_chance_0 7 rfl rfl)
theorem dX5_chance_8 : decode cX5_chance 8 = .ok (.iconst 1, 1) := dk_4 (dk_at dksX5_chance_0 8 rfl rfl)
theorem dX5_chance_9 : decode cX5_chance 9 = .ok (.bipush 20, 2) := dk_16 20 (dk_at dksX5_chance_0 9 rfl rfl)
theorem dX5_chance_11 : decode cX5_chance 11 = .ok (.invokestatic 183, 3) := dk_184 0 183 (dk_at dksX5_chance_0 11 rfl rfl)
theorem dX5_chance_14 : decode cX5_chance 14 = .ok (.ifCond .eq 21, 3) := dk_153 0 21 (dk_at dksX5_chance_0 14 rfl rfl)
theorem dX5_chance_17 : decode cX5_chance 17 = .ok (.iload 4, 2) := dk_21 4 (dk_at dksX5_chance_0 17 rfl rfl)
theorem dX5_chance_19 : decode cX5_chance 19 = .ok (.invokestatic 536, 3) := dk_184 2 24 (dk_at dksX5_chance_0 19 rfl rfl)
theorem dX5_chance_22 : decode cX5_chance 22 = .ok (.ifCond .eq 13, 3) := dk_153 0 13 (dk_at dksX5_chance_1 0 rfl rfl)
theorem dX5_chance_25 : decode cX5_chance 25 = .ok (.iload 5, 2) := dk_21 5 (dk_at dksX5_chance_1 3 rfl rfl)
theorem dX5_chance_27 : decode cX5_chance 27 = .ok (.iconst 0, 1) := dk_3 (dk_at dksX5_chance_1 5 rfl rfl)
theorem dX5_chance_28 : decode cX5_chance 28 = .ok (.iconst 1, 1) := dk_4 (dk_at dksX5_chance_1 6 rfl rfl)
theorem dX5_chance_29 : decode cX5_chance 29 = .ok (.invokestatic 183, 3) := dk_184 0 183 (dk_at dksX5_chance_1 7 rfl rfl)
theorem dX5_chance_32 : decode cX5_chance 32 = .ok (.ifCond .ne 6, 3) := dk_154 0 6 (dk_at dksX5_chance_1 10 rfl rfl)
theorem dX5_chance_35 : decode cX5_chance 35 = .ok (.bipush (-2), 2) := dk_16 254 (dk_at dksX5_chance_1 13 rfl rfl)
theorem dX5_chance_37 : decode cX5_chance 37 = .ok (.ireturn, 1) := dk_172 (dk_at dksX5_chance_1 15 rfl rfl)
theorem dX5_chance_38 : decode cX5_chance 38 = .ok (.iconst 0, 1) := dk_3 (dk_at dksX5_chance_1 16 rfl rfl)
theorem dX5_chance_39 : decode cX5_chance 39 = .ok (.istore 6, 2) := dk_54 6 (dk_at dksX5_chance_1 17 rfl rfl)
theorem dX5_chance_41 : decode cX5_chance 41 = .ok (.aload_n 0, 1) := dk_42 (dk_at dksX5_chance_1 19 rfl rfl)
theorem dX5_chance_42 : decode cX5_chance 42 = .ok (.iload_n 1, 1) := dk_27 (dk_at dksX5_chance_1 20 rfl rfl)
theorem dX5_chance_43 : decode cX5_chance 43 = .ok (.invokevirtual 323, 3) := dk_182 1 67 (dk_at dksX5_chance_1 21 rfl rfl)
theorem dX5_chance_46 : decode cX5_chance 46 = .ok (.istore 7, 2) := dk_54 7 (dk_at dksX5_chance_2 0 rfl rfl)
theorem dX5_chance_48 : decode cX5_chance 48 = .ok (.iconst 0, 1) := dk_3 (dk_at dksX5_chance_2 2 rfl rfl)
theorem dX5_chance_49 : decode cX5_chance 49 = .ok (.istore 8, 2) := dk_54 8 (dk_at dksX5_chance_2 3 rfl rfl)
theorem dX5_chance_51 : decode cX5_chance 51 = .ok (.iload 8, 2) := dk_21 8 (dk_at dksX5_chance_2 5 rfl rfl)
theorem dX5_chance_53 : decode cX5_chance 53 = .ok (.iload_n 3, 1) := dk_29 (dk_at dksX5_chance_2 7 rfl rfl)
theorem dX5_chance_54 : decode cX5_chance 54 = .ok (.if_icmp .ge 33, 3) := dk_162 0 33 (dk_at dksX5_chance_2 8 rfl rfl)
theorem dX5_chance_57 : decode cX5_chance 57 = .ok (.aload_n 0, 1) := dk_42 (dk_at dksX5_chance_2 11 rfl rfl)
theorem dX5_chance_58 : decode cX5_chance 58 = .ok (.iload_n 1, 1) := dk_27 (dk_at dksX5_chance_2 12 rfl rfl)
theorem dX5_chance_59 : decode cX5_chance 59 = .ok (.iload 7, 2) := dk_21 7 (dk_at dksX5_chance_2 13 rfl rfl)
theorem dX5_chance_61 : decode cX5_chance 61 = .ok (.iload_n 2, 1) := dk_28 (dk_at dksX5_chance_2 15 rfl rfl)
theorem dX5_chance_62 : decode cX5_chance 62 = .ok (.iload 8, 2) := dk_21 8 (dk_at dksX5_chance_2 16 rfl rfl)
theorem dX5_chance_64 : decode cX5_chance 64 = .ok (.iadd, 1) := dk_96 (dk_at dksX5_chance_2 18 rfl rfl)
theorem dX5_chance_65 : decode cX5_chance 65 = .ok (.iload 4, 2) := dk_21 4 (dk_at dksX5_chance_2 19 rfl rfl)
theorem dX5_chance_67 : decode cX5_chance 67 = .ok (.i2d, 1) := dk_135 (dk_at dksX5_chance_2 21 rfl rfl)
theorem dX5_chance_68 : decode cX5_chance 68 = .ok (.ldc2_w 318, 3) := dk_20 1 62 (dk_at dksX5_chance_3 0 rfl rfl)
theorem dX5_chance_71 : decode cX5_chance 71 = .ok (.ddiv, 1) := dk_111 (dk_at dksX5_chance_3 3 rfl rfl)
theorem dX5_chance_72 : decode cX5_chance 72 = .ok (.invokevirtual 549, 3) := dk_182 2 37 (dk_at dksX5_chance_3 4 rfl rfl)
theorem dX5_chance_75 : decode cX5_chance 75 = .ok (.ifCond .eq 6, 3) := dk_153 0 6 (dk_at dksX5_chance_3 7 rfl rfl)
theorem dX5_chance_78 : decode cX5_chance 78 = .ok (.iinc 6 1, 3) := dk_132 6 1 (dk_at dksX5_chance_3 10 rfl rfl)
theorem dX5_chance_81 : decode cX5_chance 81 = .ok (.iinc 8 1, 3) := dk_132 8 1 (dk_at dksX5_chance_3 13 rfl rfl)
theorem dX5_chance_84 : decode cX5_chance 84 = .ok (.goto (-33), 3) := dk_167 255 223 (dk_at dksX5_chance_3 16 rfl rfl)
theorem dX5_chance_87 : decode cX5_chance 87 = .ok (.iload 5, 2) := dk_21 5 (dk_at dksX5_chance_3 19 rfl rfl)
theorem dX5_chance_89 : decode cX5_chance 89 = .ok (.ifCond .ne 8, 3) := dk_154 0 8 (dk_at dksX5_chance_3 21 rfl rfl)
theorem dX5_chance_92 : decode cX5_chance 92 = .ok (.iload 6, 2) := dk_21 6 (dk_at dksX5_chance_4 0 rfl rfl)
theorem dX5_chance_94 : decode cX5_chance 94 = .ok (.goto 4, 3) := dk_167 0 4 (dk_at dksX5_chance_4 2 rfl rfl)
theorem dX5_chance_97 : decode cX5_chance 97 = .ok (.iload_n 3, 1) := dk_29 (dk_at dksX5_chance_4 5 rfl rfl)
theorem dX5_chance_98 : decode cX5_chance 98 = .ok (.iload 6, 2) := dk_21 6 (dk_at dksX5_chance_4 6 rfl rfl)
theorem dX5_chance_100 : decode cX5_chance 100 = .ok (.iload_n 3, 1) := dk_29 (dk_at dksX5_chance_4 8 rfl rfl)
theorem dX5_chance_101 : decode cX5_chance 101 = .ok (.invokestatic 546, 3) := dk_184 2 34 (dk_at dksX5_chance_4 9 rfl rfl)
theorem dX5_chance_104 : decode cX5_chance 104 = .ok (.idiv, 1) := dk_108 (dk_at dksX5_chance_4 12 rfl rfl)
theorem dX5_chance_105 : decode cX5_chance 105 = .ok (.ireturn, 1) := dk_172 (dk_at dksX5_chance_4 13 rfl rfl)
abbrev cX5_isSoByLot : ByteArray := prog_35_method_86_code
def yX5_isSoByLot : MethodName := ⟨RX5, "isSoByLot", "(IIID)Z"⟩
def dkwX5_isSoByLot_7 : List UInt8 := [16, 24, 184, 1, 215, 21, 9, 172]
abbrev dktX5_isSoByLot_7 : List UInt8 := dkwX5_isSoByLot_7 ++ []
def dkwX5_isSoByLot_6 : List UInt8 := [180, 0, 123, 3, 42, 180, 0, 17, 3, 16, 24, 184, 1, 215, 42, 180, 0, 126, 3, 42, 180, 0, 13, 3]
abbrev dktX5_isSoByLot_6 : List UInt8 := dkwX5_isSoByLot_6 ++ dktX5_isSoByLot_7
def dkwX5_isSoByLot_5 : List UInt8 := [182, 1, 76, 154, 0, 15, 24, 7, 24, 4, 151, 155, 0, 7, 4, 167, 0, 4, 3, 54, 9, 42]
abbrev dktX5_isSoByLot_5 : List UInt8 := dkwX5_isSoByLot_5 ++ dktX5_isSoByLot_6
def dkwX5_isSoByLot_4 : List UInt8 := [180, 0, 13, 21, 7, 4, 84, 132, 7, 1, 167, 255, 189, 42, 27, 182, 1, 72, 57, 7, 42, 27]
abbrev dktX5_isSoByLot_4 : List UInt8 := dkwX5_isSoByLot_4 ++ dktX5_isSoByLot_5
def dkwX5_isSoByLot_3 : List UInt8 := [21, 7, 21, 6, 16, 9, 124, 17, 1, 145, 112, 17, 0, 200, 100, 135, 20, 1, 62, 111, 82, 42]
abbrev dktX5_isSoByLot_3 : List UInt8 := dkwX5_isSoByLot_3 ++ dktX5_isSoByLot_4
def dkwX5_isSoByLot_2 : List UInt8 := [126, 154, 0, 6, 167, 0, 48, 21, 6, 19, 2, 33, 104, 17, 48, 57, 96, 54, 6, 42, 180, 0, 17]
abbrev dktX5_isSoByLot_2 : List UInt8 := dkwX5_isSoByLot_2 ++ dktX5_isSoByLot_3
def dkwX5_isSoByLot_1 : List UInt8 := [3, 16, 24, 184, 1, 215, 29, 54, 6, 3, 54, 7, 21, 7, 16, 24, 162, 0, 66, 28, 21, 7, 122, 4]
abbrev dktX5_isSoByLot_1 : List UInt8 := dkwX5_isSoByLot_1 ++ dktX5_isSoByLot_2
def dkwX5_isSoByLot_0 : List UInt8 := [42, 180, 0, 17, 3, 42, 180, 0, 123, 3, 16, 24, 184, 1, 215, 42, 180, 0, 13, 3, 42, 180, 0, 126]
abbrev dktX5_isSoByLot_0 : List UInt8 := dkwX5_isSoByLot_0 ++ dktX5_isSoByLot_1
theorem dksX5_isSoByLot_0 : cX5_isSoByLot.data.toList.drop 0 = dktX5_isSoByLot_0 := by decide +kernel
theorem dksX5_isSoByLot_1 : cX5_isSoByLot.data.toList.drop 24 = dktX5_isSoByLot_1 := dk_seg dksX5_isSoByLot_0 24 rfl rfl
theorem dksX5_isSoByLot_2 : cX5_isSoByLot.data.toList.drop 48 = dktX5_isSoByLot_2 := dk_seg dksX5_isSoByLot_1 24 rfl rfl
theorem dksX5_isSoByLot_3 : cX5_isSoByLot.data.toList.drop 71 = dktX5_isSoByLot_3 := dk_seg dksX5_isSoByLot_2 23 rfl rfl
theorem dksX5_isSoByLot_4 : cX5_isSoByLot.data.toList.drop 93 = dktX5_isSoByLot_4 := dk_seg dksX5_isSoByLot_3 22 rfl rfl
theorem dksX5_isSoByLot_5 : cX5_isSoByLot.data.toList.drop 115 = dktX5_isSoByLot_5 := dk_seg dksX5_isSoByLot_4 22 rfl rfl
theorem dksX5_isSoByLot_6 : cX5_isSoByLot.data.toList.drop 137 = dktX5_isSoByLot_6 := dk_seg dksX5_isSoByLot_5 22 rfl rfl
theorem dksX5_isSoByLot_7 : cX5_isSoByLot.data.toList.drop 161 = dktX5_isSoByLot_7 := dk_seg dksX5_isSoByLot_6 24 rfl rfl
theorem dX5_isSoByLot_0 : decode cX5_isSoByLot 0 = .ok (.aload_n 0, 1) := dk_42 (dk_at dksX5_isSoByLot_0 0 rfl rfl)
theorem dX5_isSoByLot_1 : decode cX5_isSoByLot 1 = .ok (.getfield 17, 3) := dk_180 0 17 (dk_at dksX5_isSoByLot_0 1 rfl rfl)
theorem dX5_isSoByLot_4 : decode cX5_isSoByLot 4 = .ok (.iconst 0, 1) := dk_3 (dk_at dksX5_isSoByLot_0 4 rfl rfl)
theorem dX5_isSoByLot_5 : decode cX5_isSoByLot 5 = .ok (.aload_n 0, 1) := dk_42 (dk_at dksX5_isSoByLot_0 5 rfl rfl)
theorem dX5_isSoByLot_6 : decode cX5_isSoByLot 6 = .ok (.getfield 123, 3) := dk_180 0 123 (dk_at dksX5_isSoByLot_0 6 rfl rfl)
theorem dX5_isSoByLot_9 : decode cX5_isSoByLot 9 = .ok (.iconst 0, 1) := dk_3 (dk_at dksX5_isSoByLot_0 9 rfl rfl)
theorem dX5_isSoByLot_10 : decode cX5_isSoByLot 10 = .ok (.bipush 24, 2) := dk_16 24 (dk_at dksX5_isSoByLot_0 10 rfl rfl)
theorem dX5_isSoByLot_12 : decode cX5_isSoByLot 12 = .ok (.invokestatic 471, 3) := dk_184 1 215 (dk_at dksX5_isSoByLot_0 12 rfl rfl)
theorem dX5_isSoByLot_15 : decode cX5_isSoByLot 15 = .ok (.aload_n 0, 1) := dk_42 (dk_at dksX5_isSoByLot_0 15 rfl rfl)
theorem dX5_isSoByLot_16 : decode cX5_isSoByLot 16 = .ok (.getfield 13, 3) := dk_180 0 13 (dk_at dksX5_isSoByLot_0 16 rfl rfl)
theorem dX5_isSoByLot_19 : decode cX5_isSoByLot 19 = .ok (.iconst 0, 1) := dk_3 (dk_at dksX5_isSoByLot_0 19 rfl rfl)
theorem dX5_isSoByLot_20 : decode cX5_isSoByLot 20 = .ok (.aload_n 0, 1) := dk_42 (dk_at dksX5_isSoByLot_0 20 rfl rfl)
theorem dX5_isSoByLot_21 : decode cX5_isSoByLot 21 = .ok (.getfield 126, 3) := dk_180 0 126 (dk_at dksX5_isSoByLot_0 21 rfl rfl)
theorem dX5_isSoByLot_24 : decode cX5_isSoByLot 24 = .ok (.iconst 0, 1) := dk_3 (dk_at dksX5_isSoByLot_1 0 rfl rfl)
theorem dX5_isSoByLot_25 : decode cX5_isSoByLot 25 = .ok (.bipush 24, 2) := dk_16 24 (dk_at dksX5_isSoByLot_1 1 rfl rfl)
theorem dX5_isSoByLot_27 : decode cX5_isSoByLot 27 = .ok (.invokestatic 471, 3) := dk_184 1 215 (dk_at dksX5_isSoByLot_1 3 rfl rfl)
theorem dX5_isSoByLot_30 : decode cX5_isSoByLot 30 = .ok (.iload_n 3, 1) := dk_29 (dk_at dksX5_isSoByLot_1 6 rfl rfl)
theorem dX5_isSoByLot_31 : decode cX5_isSoByLot 31 = .ok (.istore 6, 2) := dk_54 6 (dk_at dksX5_isSoByLot_1 7 rfl rfl)
theorem dX5_isSoByLot_33 : decode cX5_isSoByLot 33 = .ok (.iconst 0, 1) := dk_3 (dk_at dksX5_isSoByLot_1 9 rfl rfl)
theorem dX5_isSoByLot_34 : decode cX5_isSoByLot 34 = .ok (.istore 7, 2) := dk_54 7 (dk_at dksX5_isSoByLot_1 10 rfl rfl)
theorem dX5_isSoByLot_36 : decode cX5_isSoByLot 36 = .ok (.iload 7, 2) := dk_21 7 (dk_at dksX5_isSoByLot_1 12 rfl rfl)
theorem dX5_isSoByLot_38 : decode cX5_isSoByLot 38 = .ok (.bipush 24, 2) := dk_16 24 (dk_at dksX5_isSoByLot_1 14 rfl rfl)
theorem dX5_isSoByLot_40 : decode cX5_isSoByLot 40 = .ok (.if_icmp .ge 66, 3) := dk_162 0 66 (dk_at dksX5_isSoByLot_1 16 rfl rfl)
theorem dX5_isSoByLot_43 : decode cX5_isSoByLot 43 = .ok (.iload_n 2, 1) := dk_28 (dk_at dksX5_isSoByLot_1 19 rfl rfl)
theorem dX5_isSoByLot_44 : decode cX5_isSoByLot 44 = .ok (.iload 7, 2) := dk_21 7 (dk_at dksX5_isSoByLot_1 20 rfl rfl)
theorem dX5_isSoByLot_46 : decode cX5_isSoByLot 46 = .ok (.ishr, 1) := dk_122 (dk_at dksX5_isSoByLot_1 22 rfl rfl)
theorem dX5_isSoByLot_47 : decode cX5_isSoByLot 47 = .ok (.iconst 1, 1) := dk_4 (dk_at dksX5_isSoByLot_1 23 rfl rfl)
theorem dX5_isSoByLot_48 : decode cX5_isSoByLot 48 = .ok (.iand, 1) := dk_126 (dk_at dksX5_isSoByLot_2 0 rfl rfl)
theorem dX5_isSoByLot_49 : decode cX5_isSoByLot 49 = .ok (.ifCond .ne 6, 3) := dk_154 0 6 (dk_at dksX5_isSoByLot_2 1 rfl rfl)
theorem dX5_isSoByLot_52 : decode cX5_isSoByLot 52 = .ok (.goto 48, 3) := dk_167 0 48 (dk_at dksX5_isSoByLot_2 4 rfl rfl)
theorem dX5_isSoByLot_55 : decode cX5_isSoByLot 55 = .ok (.iload 6, 2) := dk_21 6 (dk_at dksX5_isSoByLot_2 7 rfl rfl)
theorem dX5_isSoByLot_57 : decode cX5_isSoByLot 57 = .ok (.ldc_w 545, 3) := dk_19 2 33 (dk_at dksX5_isSoByLot_2 9 rfl rfl)
theorem dX5_isSoByLot_60 : decode cX5_isSoByLot 60 = .ok (.imul, 1) := dk_104 (dk_at dksX5_isSoByLot_2 12 rfl rfl)
theorem dX5_isSoByLot_61 : decode cX5_isSoByLot 61 = .ok (.sipush 12345, 3) := dk_17 48 57 (dk_at dksX5_isSoByLot_2 13 rfl rfl)
theorem dX5_isSoByLot_64 : decode cX5_isSoByLot 64 = .ok (.iadd, 1) := dk_96 (dk_at dksX5_isSoByLot_2 16 rfl rfl)
theorem dX5_isSoByLot_65 : decode cX5_isSoByLot 65 = .ok (.istore 6, 2) := dk_54 6 (dk_at dksX5_isSoByLot_2 17 rfl rfl)
theorem dX5_isSoByLot_67 : decode cX5_isSoByLot 67 = .ok (.aload_n 0, 1) := dk_42 (dk_at dksX5_isSoByLot_2 19 rfl rfl)
theorem dX5_isSoByLot_68 : decode cX5_isSoByLot 68 = .ok (.getfield 17, 3) := dk_180 0 17 (dk_at dksX5_isSoByLot_2 20 rfl rfl)
theorem dX5_isSoByLot_71 : decode cX5_isSoByLot 71 = .ok (.iload 7, 2) := dk_21 7 (dk_at dksX5_isSoByLot_3 0 rfl rfl)
theorem dX5_isSoByLot_73 : decode cX5_isSoByLot 73 = .ok (.iload 6, 2) := dk_21 6 (dk_at dksX5_isSoByLot_3 2 rfl rfl)
theorem dX5_isSoByLot_75 : decode cX5_isSoByLot 75 = .ok (.bipush 9, 2) := dk_16 9 (dk_at dksX5_isSoByLot_3 4 rfl rfl)
theorem dX5_isSoByLot_77 : decode cX5_isSoByLot 77 = .ok (.iushr, 1) := dk_124 (dk_at dksX5_isSoByLot_3 6 rfl rfl)
theorem dX5_isSoByLot_78 : decode cX5_isSoByLot 78 = .ok (.sipush 401, 3) := dk_17 1 145 (dk_at dksX5_isSoByLot_3 7 rfl rfl)
theorem dX5_isSoByLot_81 : decode cX5_isSoByLot 81 = .ok (.irem, 1) := dk_112 (dk_at dksX5_isSoByLot_3 10 rfl rfl)
theorem dX5_isSoByLot_82 : decode cX5_isSoByLot 82 = .ok (.sipush 200, 3) := dk_17 0 200 (dk_at dksX5_isSoByLot_3 11 rfl rfl)
theorem dX5_isSoByLot_85 : decode cX5_isSoByLot 85 = .ok (.isub, 1) := dk_100 (dk_at dksX5_isSoByLot_3 14 rfl rfl)
theorem dX5_isSoByLot_86 : decode cX5_isSoByLot 86 = .ok (.i2d, 1) := dk_135 (dk_at dksX5_isSoByLot_3 15 rfl rfl)
theorem dX5_isSoByLot_87 : decode cX5_isSoByLot 87 = .ok (.ldc2_w 318, 3) := dk_20 1 62 (dk_at dksX5_isSoByLot_3 16 rfl rfl)
theorem dX5_isSoByLot_90 : decode cX5_isSoByLot 90 = .ok (.ddiv, 1) := dk_111 (dk_at dksX5_isSoByLot_3 19 rfl rfl)
theorem dX5_isSoByLot_91 : decode cX5_isSoByLot 91 = .ok (.dastore, 1) := dk_82 (dk_at dksX5_isSoByLot_3 20 rfl rfl)
theorem dX5_isSoByLot_92 : decode cX5_isSoByLot 92 = .ok (.aload_n 0, 1) := dk_42 (dk_at dksX5_isSoByLot_3 21 rfl rfl)
theorem dX5_isSoByLot_93 : decode cX5_isSoByLot 93 = .ok (.getfield 13, 3) := dk_180 0 13 (dk_at dksX5_isSoByLot_4 0 rfl rfl)
theorem dX5_isSoByLot_96 : decode cX5_isSoByLot 96 = .ok (.iload 7, 2) := dk_21 7 (dk_at dksX5_isSoByLot_4 3 rfl rfl)
theorem dX5_isSoByLot_98 : decode cX5_isSoByLot 98 = .ok (.iconst 1, 1) := dk_4 (dk_at dksX5_isSoByLot_4 5 rfl rfl)
theorem dX5_isSoByLot_99 : decode cX5_isSoByLot 99 = .ok (.bastore, 1) := dk_84 (dk_at dksX5_isSoByLot_4 6 rfl rfl)
theorem dX5_isSoByLot_100 : decode cX5_isSoByLot 100 = .ok (.iinc 7 1, 3) := dk_132 7 1 (dk_at dksX5_isSoByLot_4 7 rfl rfl)
theorem dX5_isSoByLot_103 : decode cX5_isSoByLot 103 = .ok (.goto (-67), 3) := dk_167 255 189 (dk_at dksX5_isSoByLot_4 10 rfl rfl)
theorem dX5_isSoByLot_106 : decode cX5_isSoByLot 106 = .ok (.aload_n 0, 1) := dk_42 (dk_at dksX5_isSoByLot_4 13 rfl rfl)
theorem dX5_isSoByLot_107 : decode cX5_isSoByLot 107 = .ok (.iload_n 1, 1) := dk_27 (dk_at dksX5_isSoByLot_4 14 rfl rfl)
theorem dX5_isSoByLot_108 : decode cX5_isSoByLot 108 = .ok (.invokevirtual 328, 3) := dk_182 1 72 (dk_at dksX5_isSoByLot_4 15 rfl rfl)
theorem dX5_isSoByLot_111 : decode cX5_isSoByLot 111 = .ok (.dstore 7, 2) := dk_57 7 (dk_at dksX5_isSoByLot_4 18 rfl rfl)
theorem dX5_isSoByLot_113 : decode cX5_isSoByLot 113 = .ok (.aload_n 0, 1) := dk_42 (dk_at dksX5_isSoByLot_4 20 rfl rfl)
theorem dX5_isSoByLot_114 : decode cX5_isSoByLot 114 = .ok (.iload_n 1, 1) := dk_27 (dk_at dksX5_isSoByLot_4 21 rfl rfl)
theorem dX5_isSoByLot_115 : decode cX5_isSoByLot 115 = .ok (.invokevirtual 332, 3) := dk_182 1 76 (dk_at dksX5_isSoByLot_5 0 rfl rfl)
theorem dX5_isSoByLot_118 : decode cX5_isSoByLot 118 = .ok (.ifCond .ne 15, 3) := dk_154 0 15 (dk_at dksX5_isSoByLot_5 3 rfl rfl)
theorem dX5_isSoByLot_121 : decode cX5_isSoByLot 121 = .ok (.dload 7, 2) := dk_24 7 (dk_at dksX5_isSoByLot_5 6 rfl rfl)
theorem dX5_isSoByLot_123 : decode cX5_isSoByLot 123 = .ok (.dload 4, 2) := dk_24 4 (dk_at dksX5_isSoByLot_5 8 rfl rfl)
theorem dX5_isSoByLot_125 : decode cX5_isSoByLot 125 = .ok (.dcmp .l, 1) := dk_151 (dk_at dksX5_isSoByLot_5 10 rfl rfl)
theorem dX5_isSoByLot_126 : decode cX5_isSoByLot 126 = .ok (.ifCond .lt 7, 3) := dk_155 0 7 (dk_at dksX5_isSoByLot_5 11 rfl rfl)
theorem dX5_isSoByLot_129 : decode cX5_isSoByLot 129 = .ok (.iconst 1, 1) := dk_4 (dk_at dksX5_isSoByLot_5 14 rfl rfl)
theorem dX5_isSoByLot_130 : decode cX5_isSoByLot 130 = .ok (.goto 4, 3) := dk_167 0 4 (dk_at dksX5_isSoByLot_5 15 rfl rfl)
theorem dX5_isSoByLot_133 : decode cX5_isSoByLot 133 = .ok (.iconst 0, 1) := dk_3 (dk_at dksX5_isSoByLot_5 18 rfl rfl)
theorem dX5_isSoByLot_134 : decode cX5_isSoByLot 134 = .ok (.istore 9, 2) := dk_54 9 (dk_at dksX5_isSoByLot_5 19 rfl rfl)
theorem dX5_isSoByLot_136 : decode cX5_isSoByLot 136 = .ok (.aload_n 0, 1) := dk_42 (dk_at dksX5_isSoByLot_5 21 rfl rfl)
theorem dX5_isSoByLot_137 : decode cX5_isSoByLot 137 = .ok (.getfield 123, 3) := dk_180 0 123 (dk_at dksX5_isSoByLot_6 0 rfl rfl)
theorem dX5_isSoByLot_140 : decode cX5_isSoByLot 140 = .ok (.iconst 0, 1) := dk_3 (dk_at dksX5_isSoByLot_6 3 rfl rfl)
theorem dX5_isSoByLot_141 : decode cX5_isSoByLot 141 = .ok (.aload_n 0, 1) := dk_42 (dk_at dksX5_isSoByLot_6 4 rfl rfl)
theorem dX5_isSoByLot_142 : decode cX5_isSoByLot 142 = .ok (.getfield 17, 3) := dk_180 0 17 (dk_at dksX5_isSoByLot_6 5 rfl rfl)
theorem dX5_isSoByLot_145 : decode cX5_isSoByLot 145 = .ok (.iconst 0, 1) := dk_3 (dk_at dksX5_isSoByLot_6 8 rfl rfl)
theorem dX5_isSoByLot_146 : decode cX5_isSoByLot 146 = .ok (.bipush 24, 2) := dk_16 24 (dk_at dksX5_isSoByLot_6 9 rfl rfl)
theorem dX5_isSoByLot_148 : decode cX5_isSoByLot 148 = .ok (.invokestatic 471, 3) := dk_184 1 215 (dk_at dksX5_isSoByLot_6 11 rfl rfl)
theorem dX5_isSoByLot_151 : decode cX5_isSoByLot 151 = .ok (.aload_n 0, 1) := dk_42 (dk_at dksX5_isSoByLot_6 14 rfl rfl)
theorem dX5_isSoByLot_152 : decode cX5_isSoByLot 152 = .ok (.getfield 126, 3) := dk_180 0 126 (dk_at dksX5_isSoByLot_6 15 rfl rfl)
theorem dX5_isSoByLot_155 : decode cX5_isSoByLot 155 = .ok (.iconst 0, 1) := dk_3 (dk_at dksX5_isSoByLot_6 18 rfl rfl)
theorem dX5_isSoByLot_156 : decode cX5_isSoByLot 156 = .ok (.aload_n 0, 1) := dk_42 (dk_at dksX5_isSoByLot_6 19 rfl rfl)
theorem dX5_isSoByLot_157 : decode cX5_isSoByLot 157 = .ok (.getfield 13, 3) := dk_180 0 13 (dk_at dksX5_isSoByLot_6 20 rfl rfl)
theorem dX5_isSoByLot_160 : decode cX5_isSoByLot 160 = .ok (.iconst 0, 1) := dk_3 (dk_at dksX5_isSoByLot_6 23 rfl rfl)
theorem dX5_isSoByLot_161 : decode cX5_isSoByLot 161 = .ok (.bipush 24, 2) := dk_16 24 (dk_at dksX5_isSoByLot_7 0 rfl rfl)
theorem dX5_isSoByLot_163 : decode cX5_isSoByLot 163 = .ok (.invokestatic 471, 3) := dk_184 1 215 (dk_at dksX5_isSoByLot_7 2 rfl rfl)
theorem dX5_isSoByLot_166 : decode cX5_isSoByLot 166 = .ok (.iload 9, 2) := dk_21 9 (dk_at dksX5_isSoByLot_7 5 rfl rfl)
theorem dX5_isSoByLot_168 : decode cX5_isSoByLot 168 = .ok (.ireturn, 1) := dk_172 (dk_at dksX5_isSoByLot_7 7 rfl rfl)
abbrev cX5_common : ByteArray := prog_35_method_87_code
def yX5_common : MethodName := ⟨RX5, "common", "(II)I"⟩
def dkwX5_common_0 : List UInt8 := [27, 154, 0, 7, 26, 167, 0, 10, 27, 26, 27, 112, 184, 2, 34, 172]
abbrev dktX5_common_0 : List UInt8 := dkwX5_common_0 ++ []
theorem dksX5_common_0 : cX5_common.data.toList.drop 0 = dktX5_common_0 := by decide +kernel
theorem dX5_common_0 : decode cX5_common 0 = .ok (.iload_n 1, 1) := dk_27 (dk_at dksX5_common_0 0 rfl rfl)
theorem dX5_common_1 : decode cX5_common 1 = .ok (.ifCond .ne 7, 3) := dk_154 0 7 (dk_at dksX5_common_0 1 rfl rfl)
theorem dX5_common_4 : decode cX5_common 4 = .ok (.iload_n 0, 1) := dk_26 (dk_at dksX5_common_0 4 rfl rfl)
theorem dX5_common_5 : decode cX5_common 5 = .ok (.goto 10, 3) := dk_167 0 10 (dk_at dksX5_common_0 5 rfl rfl)
theorem dX5_common_8 : decode cX5_common 8 = .ok (.iload_n 1, 1) := dk_27 (dk_at dksX5_common_0 8 rfl rfl)
theorem dX5_common_9 : decode cX5_common 9 = .ok (.iload_n 0, 1) := dk_26 (dk_at dksX5_common_0 9 rfl rfl)
theorem dX5_common_10 : decode cX5_common 10 = .ok (.iload_n 1, 1) := dk_27 (dk_at dksX5_common_0 10 rfl rfl)
theorem dX5_common_11 : decode cX5_common 11 = .ok (.irem, 1) := dk_112 (dk_at dksX5_common_0 11 rfl rfl)
theorem dX5_common_12 : decode cX5_common 12 = .ok (.invokestatic 546, 3) := dk_184 2 34 (dk_at dksX5_common_0 12 rfl rfl)
theorem dX5_common_15 : decode cX5_common 15 = .ok (.ireturn, 1) := dk_172 (dk_at dksX5_common_0 15 rfl rfl)
abbrev cX5_film : ByteArray := prog_35_method_89_code
def yX5_film : MethodName := ⟨RX5, "film", "(II)I"⟩
def dkwX5_film_6 : List UInt8 := [3, 84, 132, 4, 1, 167, 255, 184, 42, 180, 0, 168, 28, 46, 172]
abbrev dktX5_film_6 : List UInt8 := dkwX5_film_6 ++ []
def dkwX5_film_5 : List UInt8 := [167, 0, 4, 14, 82, 42, 180, 0, 174, 28, 50, 21, 4, 42, 180, 1, 30, 153, 0, 7, 4, 167, 0, 4]
abbrev dktX5_film_5 : List UInt8 := dkwX5_film_5 ++ dktX5_film_6
def dkwX5_film_4 : List UInt8 := [112, 182, 1, 239, 42, 180, 0, 171, 28, 50, 21, 4, 42, 180, 1, 30, 154, 0, 10, 42, 180, 1, 26]
abbrev dktX5_film_4 : List UInt8 := dkwX5_film_4 ++ dktX5_film_5
def dkwX5_film_3 : List UInt8 := [79, 3, 54, 4, 21, 4, 42, 180, 0, 168, 28, 46, 162, 0, 67, 42, 27, 21, 4, 29, 108, 21, 4, 29]
abbrev dktX5_film_3 : List UInt8 := dkwX5_film_3 ++ dktX5_film_4
def dkwX5_film_2 : List UInt8 := [5, 27, 104, 4, 96, 46, 62, 42, 180, 0, 165, 28, 6, 79, 42, 180, 0, 168, 28, 42, 27, 182, 0, 232]
abbrev dktX5_film_2 : List UInt8 := dkwX5_film_2 ++ dktX5_film_3
def dkwX5_film_1 : List UInt8 := [154, 0, 6, 16, 253, 172, 42, 180, 0, 43, 27, 46, 2, 160, 0, 7, 4, 167, 0, 13, 42, 180, 0, 46]
abbrev dktX5_film_1 : List UInt8 := dkwX5_film_1 ++ dktX5_film_2
def dkwX5_film_0 : List UInt8 := [27, 184, 1, 224, 153, 0, 10, 28, 184, 1, 232, 154, 0, 6, 16, 254, 172, 42, 180, 0, 34, 27, 51]
abbrev dktX5_film_0 : List UInt8 := dkwX5_film_0 ++ dktX5_film_1
theorem dksX5_film_0 : cX5_film.data.toList.drop 0 = dktX5_film_0 := by decide +kernel
theorem dksX5_film_1 : cX5_film.data.toList.drop 23 = dktX5_film_1 := dk_seg dksX5_film_0 23 rfl rfl
theorem dksX5_film_2 : cX5_film.data.toList.drop 47 = dktX5_film_2 := dk_seg dksX5_film_1 24 rfl rfl
theorem dksX5_film_3 : cX5_film.data.toList.drop 71 = dktX5_film_3 := dk_seg dksX5_film_2 24 rfl rfl
theorem dksX5_film_4 : cX5_film.data.toList.drop 95 = dktX5_film_4 := dk_seg dksX5_film_3 24 rfl rfl
theorem dksX5_film_5 : cX5_film.data.toList.drop 118 = dktX5_film_5 := dk_seg dksX5_film_4 23 rfl rfl
theorem dksX5_film_6 : cX5_film.data.toList.drop 142 = dktX5_film_6 := dk_seg dksX5_film_5 24 rfl rfl
theorem dX5_film_0 : decode cX5_film 0 = .ok (.iload_n 1, 1) := dk_27 (dk_at dksX5_film_0 0 rfl rfl)
theorem dX5_film_1 : decode cX5_film 1 = .ok (.invokestatic 480, 3) := dk_184 1 224 (dk_at dksX5_film_0 1 rfl rfl)
theorem dX5_film_4 : decode cX5_film 4 = .ok (.ifCond .eq 10, 3) := dk_153 0 10 (dk_at dksX5_film_0 4 rfl rfl)
theorem dX5_film_7 : decode cX5_film 7 = .ok (.iload_n 2, 1) := dk_28 (dk_at dksX5_film_0 7 rfl rfl)
theorem dX5_film_8 : decode cX5_film 8 = .ok (.invokestatic 488, 3) := dk_184 1 232 (dk_at dksX5_film_0 8 rfl rfl)
theorem dX5_film_11 : decode cX5_film 11 = .ok (.ifCond .ne 6, 3) := dk_154 0 6 (dk_at dksX5_film_0 11 rfl rfl)
theorem dX5_film_14 : decode cX5_film 14 = .ok (.bipush (-2), 2) := dk_16 254 (dk_at dksX5_film_0 14 rfl rfl)
theorem dX5_film_16 : decode cX5_film 16 = .ok (.ireturn, 1) := dk_172 (dk_at dksX5_film_0 16 rfl rfl)
theorem dX5_film_17 : decode cX5_film 17 = .ok (.aload_n 0, 1) := dk_42 (dk_at dksX5_film_0 17 rfl rfl)
theorem dX5_film_18 : decode cX5_film 18 = .ok (.getfield 34, 3) := dk_180 0 34 (dk_at dksX5_film_0 18 rfl rfl)
theorem dX5_film_21 : decode cX5_film 21 = .ok (.iload_n 1, 1) := dk_27 (dk_at dksX5_film_0 21 rfl rfl)
theorem dX5_film_22 : decode cX5_film 22 = .ok (.baload, 1) := dk_51 (dk_at dksX5_film_0 22 rfl rfl)
theorem dX5_film_23 : decode cX5_film 23 = .ok (.ifCond .ne 6, 3) := dk_154 0 6 (dk_at dksX5_film_1 0 rfl rfl)
theorem dX5_film_26 : decode cX5_film 26 = .ok (.bipush (-3), 2) := dk_16 253 (dk_at dksX5_film_1 3 rfl rfl)
theorem dX5_film_28 : decode cX5_film 28 = .ok (.ireturn, 1) := dk_172 (dk_at dksX5_film_1 5 rfl rfl)
theorem dX5_film_29 : decode cX5_film 29 = .ok (.aload_n 0, 1) := dk_42 (dk_at dksX5_film_1 6 rfl rfl)
theorem dX5_film_30 : decode cX5_film 30 = .ok (.getfield 43, 3) := dk_180 0 43 (dk_at dksX5_film_1 7 rfl rfl)
theorem dX5_film_33 : decode cX5_film 33 = .ok (.iload_n 1, 1) := dk_27 (dk_at dksX5_film_1 10 rfl rfl)
theorem dX5_film_34 : decode cX5_film 34 = .ok (.iaload, 1) := dk_46 (dk_at dksX5_film_1 11 rfl rfl)
theorem dX5_film_35 : decode cX5_film 35 = .ok (.iconst (-1), 1) := dk_2 (dk_at dksX5_film_1 12 rfl rfl)
theorem dX5_film_36 : decode cX5_film 36 = .ok (.if_icmp .ne 7, 3) := dk_160 0 7 (dk_at dksX5_film_1 13 rfl rfl)
theorem dX5_film_39 : decode cX5_film 39 = .ok (.iconst 1, 1) := dk_4 (dk_at dksX5_film_1 16 rfl rfl)
theorem dX5_film_40 : decode cX5_film 40 = .ok (.goto 13, 3) := dk_167 0 13 (dk_at dksX5_film_1 17 rfl rfl)
theorem dX5_film_43 : decode cX5_film 43 = .ok (.aload_n 0, 1) := dk_42 (dk_at dksX5_film_1 20 rfl rfl)
theorem dX5_film_44 : decode cX5_film 44 = .ok (.getfield 46, 3) := dk_180 0 46 (dk_at dksX5_film_1 21 rfl rfl)
theorem dX5_film_47 : decode cX5_film 47 = .ok (.iconst 2, 1) := dk_5 (dk_at dksX5_film_2 0 rfl rfl)
theorem dX5_film_48 : decode cX5_film 48 = .ok (.iload_n 1, 1) := dk_27 (dk_at dksX5_film_2 1 rfl rfl)
theorem dX5_film_49 : decode cX5_film 49 = .ok (.imul, 1) := dk_104 (dk_at dksX5_film_2 2 rfl rfl)
theorem dX5_film_50 : decode cX5_film 50 = .ok (.iconst 1, 1) := dk_4 (dk_at dksX5_film_2 3 rfl rfl)
theorem dX5_film_51 : decode cX5_film 51 = .ok (.iadd, 1) := dk_96 (dk_at dksX5_film_2 4 rfl rfl)
theorem dX5_film_52 : decode cX5_film 52 = .ok (.iaload, 1) := dk_46 (dk_at dksX5_film_2 5 rfl rfl)
theorem dX5_film_53 : decode cX5_film 53 = .ok (.istore_n 3, 1) := dk_62 (dk_at dksX5_film_2 6 rfl rfl)
theorem dX5_film_54 : decode cX5_film 54 = .ok (.aload_n 0, 1) := dk_42 (dk_at dksX5_film_2 7 rfl rfl)
theorem dX5_film_55 : decode cX5_film 55 = .ok (.getfield 165, 3) := dk_180 0 165 (dk_at dksX5_film_2 8 rfl rfl)
theorem dX5_film_58 : decode cX5_film 58 = .ok (.iload_n 2, 1) := dk_28 (dk_at dksX5_film_2 11 rfl rfl)
theorem dX5_film_59 : decode cX5_film 59 = .ok (.iconst 3, 1) := dk_6 (dk_at dksX5_film_2 12 rfl rfl)
theorem dX5_film_60 : decode cX5_film 60 = .ok (.iastore, 1) := dk_79 (dk_at dksX5_film_2 13 rfl rfl)
theorem dX5_film_61 : decode cX5_film 61 = .ok (.aload_n 0, 1) := dk_42 (dk_at dksX5_film_2 14 rfl rfl)
theorem dX5_film_62 : decode cX5_film 62 = .ok (.getfield 168, 3) := dk_180 0 168 (dk_at dksX5_film_2 15 rfl rfl)
theorem dX5_film_65 : decode cX5_film 65 = .ok (.iload_n 2, 1) := dk_28 (dk_at dksX5_film_2 18 rfl rfl)
theorem dX5_film_66 : decode cX5_film 66 = .ok (.aload_n 0, 1) := dk_42 (dk_at dksX5_film_2 19 rfl rfl)
theorem dX5_film_67 : decode cX5_film 67 = .ok (.iload_n 1, 1) := dk_27 (dk_at dksX5_film_2 20 rfl rfl)
theorem dX5_film_68 : decode cX5_film 68 = .ok (.invokevirtual 232, 3) := dk_182 0 232 (dk_at dksX5_film_2 21 rfl rfl)
theorem dX5_film_71 : decode cX5_film 71 = .ok (.iastore, 1) := dk_79 (dk_at dksX5_film_3 0 rfl rfl)
theorem dX5_film_72 : decode cX5_film 72 = .ok (.iconst 0, 1) := dk_3 (dk_at dksX5_film_3 1 rfl rfl)
theorem dX5_film_73 : decode cX5_film 73 = .ok (.istore 4, 2) := dk_54 4 (dk_at dksX5_film_3 2 rfl rfl)
theorem dX5_film_75 : decode cX5_film 75 = .ok (.iload 4, 2) := dk_21 4 (dk_at dksX5_film_3 4 rfl rfl)
theorem dX5_film_77 : decode cX5_film 77 = .ok (.aload_n 0, 1) := dk_42 (dk_at dksX5_film_3 6 rfl rfl)
theorem dX5_film_78 : decode cX5_film 78 = .ok (.getfield 168, 3) := dk_180 0 168 (dk_at dksX5_film_3 7 rfl rfl)
theorem dX5_film_81 : decode cX5_film 81 = .ok (.iload_n 2, 1) := dk_28 (dk_at dksX5_film_3 10 rfl rfl)
theorem dX5_film_82 : decode cX5_film 82 = .ok (.iaload, 1) := dk_46 (dk_at dksX5_film_3 11 rfl rfl)
theorem dX5_film_83 : decode cX5_film 83 = .ok (.if_icmp .ge 67, 3) := dk_162 0 67 (dk_at dksX5_film_3 12 rfl rfl)
theorem dX5_film_86 : decode cX5_film 86 = .ok (.aload_n 0, 1) := dk_42 (dk_at dksX5_film_3 15 rfl rfl)
theorem dX5_film_87 : decode cX5_film 87 = .ok (.iload_n 1, 1) := dk_27 (dk_at dksX5_film_3 16 rfl rfl)
theorem dX5_film_88 : decode cX5_film 88 = .ok (.iload 4, 2) := dk_21 4 (dk_at dksX5_film_3 17 rfl rfl)
theorem dX5_film_90 : decode cX5_film 90 = .ok (.iload_n 3, 1) := dk_29 (dk_at dksX5_film_3 19 rfl rfl)
theorem dX5_film_91 : decode cX5_film 91 = .ok (.idiv, 1) := dk_108 (dk_at dksX5_film_3 20 rfl rfl)
theorem dX5_film_92 : decode cX5_film 92 = .ok (.iload 4, 2) := dk_21 4 (dk_at dksX5_film_3 21 rfl rfl)
theorem dX5_film_94 : decode cX5_film 94 = .ok (.iload_n 3, 1) := dk_29 (dk_at dksX5_film_3 23 rfl rfl)
theorem dX5_film_95 : decode cX5_film 95 = .ok (.irem, 1) := dk_112 (dk_at dksX5_film_4 0 rfl rfl)
theorem dX5_film_96 : decode cX5_film 96 = .ok (.invokevirtual 495, 3) := dk_182 1 239 (dk_at dksX5_film_4 1 rfl rfl)
theorem dX5_film_99 : decode cX5_film 99 = .ok (.aload_n 0, 1) := dk_42 (dk_at dksX5_film_4 4 rfl rfl)
theorem dX5_film_100 : decode cX5_film 100 = .ok (.getfield 171, 3) := dk_180 0 171 (dk_at dksX5_film_4 5 rfl rfl)
theorem dX5_film_103 : decode cX5_film 103 = .ok (.iload_n 2, 1) := dk_28 (dk_at dksX5_film_4 8 rfl rfl)
theorem dX5_film_104 : decode cX5_film 104 = .ok (.aaload, 1) := dk_50 (dk_at dksX5_film_4 9 rfl rfl)
theorem dX5_film_105 : decode cX5_film 105 = .ok (.iload 4, 2) := dk_21 4 (dk_at dksX5_film_4 10 rfl rfl)
theorem dX5_film_107 : decode cX5_film 107 = .ok (.aload_n 0, 1) := dk_42 (dk_at dksX5_film_4 12 rfl rfl)
theorem dX5_film_108 : decode cX5_film 108 = .ok (.getfield 286, 3) := dk_180 1 30 (dk_at dksX5_film_4 13 rfl rfl)
theorem dX5_film_111 : decode cX5_film 111 = .ok (.ifCond .ne 10, 3) := dk_154 0 10 (dk_at dksX5_film_4 16 rfl rfl)
theorem dX5_film_114 : decode cX5_film 114 = .ok (.aload_n 0, 1) := dk_42 (dk_at dksX5_film_4 19 rfl rfl)
theorem dX5_film_115 : decode cX5_film 115 = .ok (.getfield 282, 3) := dk_180 1 26 (dk_at dksX5_film_4 20 rfl rfl)
theorem dX5_film_118 : decode cX5_film 118 = .ok (.goto 4, 3) := dk_167 0 4 (dk_at dksX5_film_5 0 rfl rfl)
theorem dX5_film_121 : decode cX5_film 121 = .ok (.dconst 0, 1) := dk_14 (dk_at dksX5_film_5 3 rfl rfl)
theorem dX5_film_122 : decode cX5_film 122 = .ok (.dastore, 1) := dk_82 (dk_at dksX5_film_5 4 rfl rfl)
theorem dX5_film_123 : decode cX5_film 123 = .ok (.aload_n 0, 1) := dk_42 (dk_at dksX5_film_5 5 rfl rfl)
theorem dX5_film_124 : decode cX5_film 124 = .ok (.getfield 174, 3) := dk_180 0 174 (dk_at dksX5_film_5 6 rfl rfl)
theorem dX5_film_127 : decode cX5_film 127 = .ok (.iload_n 2, 1) := dk_28 (dk_at dksX5_film_5 9 rfl rfl)
theorem dX5_film_128 : decode cX5_film 128 = .ok (.aaload, 1) := dk_50 (dk_at dksX5_film_5 10 rfl rfl)
theorem dX5_film_129 : decode cX5_film 129 = .ok (.iload 4, 2) := dk_21 4 (dk_at dksX5_film_5 11 rfl rfl)
theorem dX5_film_131 : decode cX5_film 131 = .ok (.aload_n 0, 1) := dk_42 (dk_at dksX5_film_5 13 rfl rfl)
theorem dX5_film_132 : decode cX5_film 132 = .ok (.getfield 286, 3) := dk_180 1 30 (dk_at dksX5_film_5 14 rfl rfl)
theorem dX5_film_135 : decode cX5_film 135 = .ok (.ifCond .eq 7, 3) := dk_153 0 7 (dk_at dksX5_film_5 17 rfl rfl)
theorem dX5_film_138 : decode cX5_film 138 = .ok (.iconst 1, 1) := dk_4 (dk_at dksX5_film_5 20 rfl rfl)
theorem dX5_film_139 : decode cX5_film 139 = .ok (.goto 4, 3) := dk_167 0 4 (dk_at dksX5_film_5 21 rfl rfl)
theorem dX5_film_142 : decode cX5_film 142 = .ok (.iconst 0, 1) := dk_3 (dk_at dksX5_film_6 0 rfl rfl)
theorem dX5_film_143 : decode cX5_film 143 = .ok (.bastore, 1) := dk_84 (dk_at dksX5_film_6 1 rfl rfl)
theorem dX5_film_144 : decode cX5_film 144 = .ok (.iinc 4 1, 3) := dk_132 4 1 (dk_at dksX5_film_6 2 rfl rfl)
theorem dX5_film_147 : decode cX5_film 147 = .ok (.goto (-72), 3) := dk_167 255 184 (dk_at dksX5_film_6 5 rfl rfl)
theorem dX5_film_150 : decode cX5_film 150 = .ok (.aload_n 0, 1) := dk_42 (dk_at dksX5_film_6 8 rfl rfl)
theorem dX5_film_151 : decode cX5_film 151 = .ok (.getfield 168, 3) := dk_180 0 168 (dk_at dksX5_film_6 9 rfl rfl)
theorem dX5_film_154 : decode cX5_film 154 = .ok (.iload_n 2, 1) := dk_28 (dk_at dksX5_film_6 12 rfl rfl)
theorem dX5_film_155 : decode cX5_film 155 = .ok (.iaload, 1) := dk_46 (dk_at dksX5_film_6 13 rfl rfl)
theorem dX5_film_156 : decode cX5_film 156 = .ok (.ireturn, 1) := dk_172 (dk_at dksX5_film_6 14 rfl rfl)
abbrev cX5_tells : ByteArray := prog_35_method_93_code
def yX5_tells : MethodName := ⟨RX5, "tells", "(IIII)I"⟩
def dkwX5_tells_6 : List UInt8 := [160, 0, 7, 4, 167, 0, 4, 3, 182, 2, 47, 172]
abbrev dktX5_tells_6 : List UInt8 := dkwX5_tells_6 ++ []
def dkwX5_tells_5 : List UInt8 := [21, 4, 4, 160, 0, 13, 42, 27, 28, 29, 182, 2, 44, 167, 0, 21, 42, 27, 28, 29, 21, 4, 6]
abbrev dktX5_tells_5 : List UInt8 := dkwX5_tells_5 ++ dktX5_tells_6
def dkwX5_tells_4 : List UInt8 := [182, 0, 232, 159, 0, 6, 16, 254, 172, 21, 4, 154, 0, 12, 42, 27, 28, 182, 2, 41, 167, 0, 37]
abbrev dktX5_tells_4 : List UInt8 := dkwX5_tells_4 ++ dktX5_tells_5
def dkwX5_tells_3 : List UInt8 := [16, 245, 172, 42, 180, 0, 165, 28, 46, 6, 159, 0, 6, 16, 243, 172, 42, 180, 0, 168, 28, 46, 42, 27]
abbrev dktX5_tells_3 : List UInt8 := dkwX5_tells_3 ++ dktX5_tells_4
def dkwX5_tells_2 : List UInt8 := [164, 0, 14, 42, 29, 182, 0, 204, 154, 0, 6, 16, 253, 172, 42, 180, 0, 165, 28, 46, 156, 0, 6]
abbrev dktX5_tells_2 : List UInt8 := dkwX5_tells_2 ++ dktX5_tells_3
def dkwX5_tells_1 : List UInt8 := [6, 184, 0, 183, 154, 0, 6, 16, 254, 172, 42, 180, 0, 34, 27, 51, 153, 0, 17, 21, 4, 4]
abbrev dktX5_tells_1 : List UInt8 := dkwX5_tells_1 ++ dktX5_tells_2
def dkwX5_tells_0 : List UInt8 := [27, 184, 1, 224, 153, 0, 27, 28, 184, 1, 232, 153, 0, 20, 29, 184, 1, 56, 153, 0, 13, 21, 4, 3]
abbrev dktX5_tells_0 : List UInt8 := dkwX5_tells_0 ++ dktX5_tells_1
theorem dksX5_tells_0 : cX5_tells.data.toList.drop 0 = dktX5_tells_0 := by decide +kernel
theorem dksX5_tells_1 : cX5_tells.data.toList.drop 24 = dktX5_tells_1 := dk_seg dksX5_tells_0 24 rfl rfl
theorem dksX5_tells_2 : cX5_tells.data.toList.drop 46 = dktX5_tells_2 := dk_seg dksX5_tells_1 22 rfl rfl
theorem dksX5_tells_3 : cX5_tells.data.toList.drop 69 = dktX5_tells_3 := dk_seg dksX5_tells_2 23 rfl rfl
theorem dksX5_tells_4 : cX5_tells.data.toList.drop 93 = dktX5_tells_4 := dk_seg dksX5_tells_3 24 rfl rfl
theorem dksX5_tells_5 : cX5_tells.data.toList.drop 116 = dktX5_tells_5 := dk_seg dksX5_tells_4 23 rfl rfl
theorem dksX5_tells_6 : cX5_tells.data.toList.drop 139 = dktX5_tells_6 := dk_seg dksX5_tells_5 23 rfl rfl
theorem dX5_tells_0 : decode cX5_tells 0 = .ok (.iload_n 1, 1) := dk_27 (dk_at dksX5_tells_0 0 rfl rfl)
theorem dX5_tells_1 : decode cX5_tells 1 = .ok (.invokestatic 480, 3) := dk_184 1 224 (dk_at dksX5_tells_0 1 rfl rfl)
theorem dX5_tells_4 : decode cX5_tells 4 = .ok (.ifCond .eq 27, 3) := dk_153 0 27 (dk_at dksX5_tells_0 4 rfl rfl)
theorem dX5_tells_7 : decode cX5_tells 7 = .ok (.iload_n 2, 1) := dk_28 (dk_at dksX5_tells_0 7 rfl rfl)
theorem dX5_tells_8 : decode cX5_tells 8 = .ok (.invokestatic 488, 3) := dk_184 1 232 (dk_at dksX5_tells_0 8 rfl rfl)
theorem dX5_tells_11 : decode cX5_tells 11 = .ok (.ifCond .eq 20, 3) := dk_153 0 20 (dk_at dksX5_tells_0 11 rfl rfl)
theorem dX5_tells_14 : decode cX5_tells 14 = .ok (.iload_n 3, 1) := dk_29 (dk_at dksX5_tells_0 14 rfl rfl)
theorem dX5_tells_15 : decode cX5_tells 15 = .ok (.invokestatic 312, 3) := dk_184 1 56 (dk_at dksX5_tells_0 15 rfl rfl)
theorem dX5_tells_18 : decode cX5_tells 18 = .ok (.ifCond .eq 13, 3) := dk_153 0 13 (dk_at dksX5_tells_0 18 rfl rfl)
theorem dX5_tells_21 : decode cX5_tells 21 = .ok (.iload 4, 2) := dk_21 4 (dk_at dksX5_tells_0 21 rfl rfl)
theorem dX5_tells_23 : decode cX5_tells 23 = .ok (.iconst 0, 1) := dk_3 (dk_at dksX5_tells_0 23 rfl rfl)
theorem dX5_tells_24 : decode cX5_tells 24 = .ok (.iconst 3, 1) := dk_6 (dk_at dksX5_tells_1 0 rfl rfl)
theorem dX5_tells_25 : decode cX5_tells 25 = .ok (.invokestatic 183, 3) := dk_184 0 183 (dk_at dksX5_tells_1 1 rfl rfl)
theorem dX5_tells_28 : decode cX5_tells 28 = .ok (.ifCond .ne 6, 3) := dk_154 0 6 (dk_at dksX5_tells_1 4 rfl rfl)
theorem dX5_tells_31 : decode cX5_tells 31 = .ok (.bipush (-2), 2) := dk_16 254 (dk_at dksX5_tells_1 7 rfl rfl)
theorem dX5_tells_33 : decode cX5_tells 33 = .ok (.ireturn, 1) := dk_172 (dk_at dksX5_tells_1 9 rfl rfl)
theorem dX5_tells_34 : decode cX5_tells 34 = .ok (.aload_n 0, 1) := dk_42 (dk_at dksX5_tells_1 10 rfl rfl)
theorem dX5_tells_35 : decode cX5_tells 35 = .ok (.getfield 34, 3) := dk_180 0 34 (dk_at dksX5_tells_1 11 rfl rfl)
theorem dX5_tells_38 : decode cX5_tells 38 = .ok (.iload_n 1, 1) := dk_27 (dk_at dksX5_tells_1 14 rfl rfl)
theorem dX5_tells_39 : decode cX5_tells 39 = .ok (.baload, 1) := dk_51 (dk_at dksX5_tells_1 15 rfl rfl)
theorem dX5_tells_40 : decode cX5_tells 40 = .ok (.ifCond .eq 17, 3) := dk_153 0 17 (dk_at dksX5_tells_1 16 rfl rfl)
theorem dX5_tells_43 : decode cX5_tells 43 = .ok (.iload 4, 2) := dk_21 4 (dk_at dksX5_tells_1 19 rfl rfl)
theorem dX5_tells_45 : decode cX5_tells 45 = .ok (.iconst 1, 1) := dk_4 (dk_at dksX5_tells_1 21 rfl rfl)
theorem dX5_tells_46 : decode cX5_tells 46 = .ok (.if_icmp .le 14, 3) := dk_164 0 14 (dk_at dksX5_tells_2 0 rfl rfl)
theorem dX5_tells_49 : decode cX5_tells 49 = .ok (.aload_n 0, 1) := dk_42 (dk_at dksX5_tells_2 3 rfl rfl)
theorem dX5_tells_50 : decode cX5_tells 50 = .ok (.iload_n 3, 1) := dk_29 (dk_at dksX5_tells_2 4 rfl rfl)
theorem dX5_tells_51 : decode cX5_tells 51 = .ok (.invokevirtual 204, 3) := dk_182 0 204 (dk_at dksX5_tells_2 5 rfl rfl)
theorem dX5_tells_54 : decode cX5_tells 54 = .ok (.ifCond .ne 6, 3) := dk_154 0 6 (dk_at dksX5_tells_2 8 rfl rfl)
theorem dX5_tells_57 : decode cX5_tells 57 = .ok (.bipush (-3), 2) := dk_16 253 (dk_at dksX5_tells_2 11 rfl rfl)
theorem dX5_tells_59 : decode cX5_tells 59 = .ok (.ireturn, 1) := dk_172 (dk_at dksX5_tells_2 13 rfl rfl)
theorem dX5_tells_60 : decode cX5_tells 60 = .ok (.aload_n 0, 1) := dk_42 (dk_at dksX5_tells_2 14 rfl rfl)
theorem dX5_tells_61 : decode cX5_tells 61 = .ok (.getfield 165, 3) := dk_180 0 165 (dk_at dksX5_tells_2 15 rfl rfl)
theorem dX5_tells_64 : decode cX5_tells 64 = .ok (.iload_n 2, 1) := dk_28 (dk_at dksX5_tells_2 18 rfl rfl)
theorem dX5_tells_65 : decode cX5_tells 65 = .ok (.iaload, 1) := dk_46 (dk_at dksX5_tells_2 19 rfl rfl)
theorem dX5_tells_66 : decode cX5_tells 66 = .ok (.ifCond .ge 6, 3) := dk_156 0 6 (dk_at dksX5_tells_2 20 rfl rfl)
theorem dX5_tells_69 : decode cX5_tells 69 = .ok (.bipush (-11), 2) := dk_16 245 (dk_at dksX5_tells_3 0 rfl rfl)
theorem dX5_tells_71 : decode cX5_tells 71 = .ok (.ireturn, 1) := dk_172 (dk_at dksX5_tells_3 2 rfl rfl)
theorem dX5_tells_72 : decode cX5_tells 72 = .ok (.aload_n 0, 1) := dk_42 (dk_at dksX5_tells_3 3 rfl rfl)
theorem dX5_tells_73 : decode cX5_tells 73 = .ok (.getfield 165, 3) := dk_180 0 165 (dk_at dksX5_tells_3 4 rfl rfl)
theorem dX5_tells_76 : decode cX5_tells 76 = .ok (.iload_n 2, 1) := dk_28 (dk_at dksX5_tells_3 7 rfl rfl)
theorem dX5_tells_77 : decode cX5_tells 77 = .ok (.iaload, 1) := dk_46 (dk_at dksX5_tells_3 8 rfl rfl)
theorem dX5_tells_78 : decode cX5_tells 78 = .ok (.iconst 3, 1) := dk_6 (dk_at dksX5_tells_3 9 rfl rfl)
theorem dX5_tells_79 : decode cX5_tells 79 = .ok (.if_icmp .eq 6, 3) := dk_159 0 6 (dk_at dksX5_tells_3 10 rfl rfl)
theorem dX5_tells_82 : decode cX5_tells 82 = .ok (.bipush (-13), 2) := dk_16 243 (dk_at dksX5_tells_3 13 rfl rfl)
theorem dX5_tells_84 : decode cX5_tells 84 = .ok (.ireturn, 1) := dk_172 (dk_at dksX5_tells_3 15 rfl rfl)
theorem dX5_tells_85 : decode cX5_tells 85 = .ok (.aload_n 0, 1) := dk_42 (dk_at dksX5_tells_3 16 rfl rfl)
theorem dX5_tells_86 : decode cX5_tells 86 = .ok (.getfield 168, 3) := dk_180 0 168 (dk_at dksX5_tells_3 17 rfl rfl)
theorem dX5_tells_89 : decode cX5_tells 89 = .ok (.iload_n 2, 1) := dk_28 (dk_at dksX5_tells_3 20 rfl rfl)
theorem dX5_tells_90 : decode cX5_tells 90 = .ok (.iaload, 1) := dk_46 (dk_at dksX5_tells_3 21 rfl rfl)
theorem dX5_tells_91 : decode cX5_tells 91 = .ok (.aload_n 0, 1) := dk_42 (dk_at dksX5_tells_3 22 rfl rfl)
theorem dX5_tells_92 : decode cX5_tells 92 = .ok (.iload_n 1, 1) := dk_27 (dk_at dksX5_tells_3 23 rfl rfl)
theorem dX5_tells_93 : decode cX5_tells 93 = .ok (.invokevirtual 232, 3) := dk_182 0 232 (dk_at dksX5_tells_4 0 rfl rfl)
theorem dX5_tells_96 : decode cX5_tells 96 = .ok (.if_icmp .eq 6, 3) := dk_159 0 6 (dk_at dksX5_tells_4 3 rfl rfl)
theorem dX5_tells_99 : decode cX5_tells 99 = .ok (.bipush (-2), 2) := dk_16 254 (dk_at dksX5_tells_4 6 rfl rfl)
theorem dX5_tells_101 : decode cX5_tells 101 = .ok (.ireturn, 1) := dk_172 (dk_at dksX5_tells_4 8 rfl rfl)
theorem dX5_tells_102 : decode cX5_tells 102 = .ok (.iload 4, 2) := dk_21 4 (dk_at dksX5_tells_4 9 rfl rfl)
theorem dX5_tells_104 : decode cX5_tells 104 = .ok (.ifCond .ne 12, 3) := dk_154 0 12 (dk_at dksX5_tells_4 11 rfl rfl)
theorem dX5_tells_107 : decode cX5_tells 107 = .ok (.aload_n 0, 1) := dk_42 (dk_at dksX5_tells_4 14 rfl rfl)
theorem dX5_tells_108 : decode cX5_tells 108 = .ok (.iload_n 1, 1) := dk_27 (dk_at dksX5_tells_4 15 rfl rfl)
theorem dX5_tells_109 : decode cX5_tells 109 = .ok (.iload_n 2, 1) := dk_28 (dk_at dksX5_tells_4 16 rfl rfl)
theorem dX5_tells_110 : decode cX5_tells 110 = .ok (.invokevirtual 553, 3) := dk_182 2 41 (dk_at dksX5_tells_4 17 rfl rfl)
theorem dX5_tells_113 : decode cX5_tells 113 = .ok (.goto 37, 3) := dk_167 0 37 (dk_at dksX5_tells_4 20 rfl rfl)
theorem dX5_tells_116 : decode cX5_tells 116 = .ok (.iload 4, 2) := dk_21 4 (dk_at dksX5_tells_5 0 rfl rfl)
theorem dX5_tells_118 : decode cX5_tells 118 = .ok (.iconst 1, 1) := dk_4 (dk_at dksX5_tells_5 2 rfl rfl)
theorem dX5_tells_119 : decode cX5_tells 119 = .ok (.if_icmp .ne 13, 3) := dk_160 0 13 (dk_at dksX5_tells_5 3 rfl rfl)
theorem dX5_tells_122 : decode cX5_tells 122 = .ok (.aload_n 0, 1) := dk_42 (dk_at dksX5_tells_5 6 rfl rfl)
theorem dX5_tells_123 : decode cX5_tells 123 = .ok (.iload_n 1, 1) := dk_27 (dk_at dksX5_tells_5 7 rfl rfl)
theorem dX5_tells_124 : decode cX5_tells 124 = .ok (.iload_n 2, 1) := dk_28 (dk_at dksX5_tells_5 8 rfl rfl)
theorem dX5_tells_125 : decode cX5_tells 125 = .ok (.iload_n 3, 1) := dk_29 (dk_at dksX5_tells_5 9 rfl rfl)
theorem dX5_tells_126 : decode cX5_tells 126 = .ok (.invokevirtual 556, 3) := dk_182 2 44 (dk_at dksX5_tells_5 10 rfl rfl)
theorem dX5_tells_129 : decode cX5_tells 129 = .ok (.goto 21, 3) := dk_167 0 21 (dk_at dksX5_tells_5 13 rfl rfl)
theorem dX5_tells_132 : decode cX5_tells 132 = .ok (.aload_n 0, 1) := dk_42 (dk_at dksX5_tells_5 16 rfl rfl)
theorem dX5_tells_133 : decode cX5_tells 133 = .ok (.iload_n 1, 1) := dk_27 (dk_at dksX5_tells_5 17 rfl rfl)
theorem dX5_tells_134 : decode cX5_tells 134 = .ok (.iload_n 2, 1) := dk_28 (dk_at dksX5_tells_5 18 rfl rfl)
theorem dX5_tells_135 : decode cX5_tells 135 = .ok (.iload_n 3, 1) := dk_29 (dk_at dksX5_tells_5 19 rfl rfl)
theorem dX5_tells_136 : decode cX5_tells 136 = .ok (.iload 4, 2) := dk_21 4 (dk_at dksX5_tells_5 20 rfl rfl)
theorem dX5_tells_138 : decode cX5_tells 138 = .ok (.iconst 3, 1) := dk_6 (dk_at dksX5_tells_5 22 rfl rfl)
theorem dX5_tells_139 : decode cX5_tells 139 = .ok (.if_icmp .ne 7, 3) := dk_160 0 7 (dk_at dksX5_tells_6 0 rfl rfl)
theorem dX5_tells_142 : decode cX5_tells 142 = .ok (.iconst 1, 1) := dk_4 (dk_at dksX5_tells_6 3 rfl rfl)
theorem dX5_tells_143 : decode cX5_tells 143 = .ok (.goto 4, 3) := dk_167 0 4 (dk_at dksX5_tells_6 4 rfl rfl)
theorem dX5_tells_146 : decode cX5_tells 146 = .ok (.iconst 0, 1) := dk_3 (dk_at dksX5_tells_6 7 rfl rfl)
theorem dX5_tells_147 : decode cX5_tells 147 = .ok (.invokevirtual 559, 3) := dk_182 2 47 (dk_at dksX5_tells_6 8 rfl rfl)
theorem dX5_tells_150 : decode cX5_tells 150 = .ok (.ireturn, 1) := dk_172 (dk_at dksX5_tells_6 11 rfl rfl)
abbrev cX5_otherwise : ByteArray := prog_35_method_90_code
def yX5_otherwise : MethodName := ⟨RX5, "otherwise", "(II)I"⟩
def dkwX5_otherwise_4 : List UInt8 := [151, 153, 0, 6, 21, 4, 172, 132, 4, 1, 167, 255, 178, 2, 172]
abbrev dktX5_otherwise_4 : List UInt8 := dkwX5_otherwise_4 ++ []
def dkwX5_otherwise_3 : List UInt8 := [3, 160, 0, 27, 42, 180, 1, 30, 154, 0, 23, 42, 180, 1, 26, 42, 180, 0, 171, 28, 50, 21, 4, 49]
abbrev dktX5_otherwise_3 : List UInt8 := dkwX5_otherwise_3 ++ dktX5_otherwise_4
def dkwX5_otherwise_2 : List UInt8 := [112, 182, 1, 239, 42, 180, 0, 174, 28, 50, 21, 4, 51, 42, 180, 1, 30, 153, 0, 7, 4, 167, 0, 4]
abbrev dktX5_otherwise_2 : List UInt8 := dkwX5_otherwise_2 ++ dktX5_otherwise_3
def dkwX5_otherwise_1 : List UInt8 := [62, 3, 54, 4, 21, 4, 42, 180, 0, 168, 28, 46, 162, 0, 73, 42, 27, 21, 4, 29, 108, 21, 4, 29]
abbrev dktX5_otherwise_1 : List UInt8 := dkwX5_otherwise_1 ++ dktX5_otherwise_2
def dkwX5_otherwise_0 : List UInt8 := [42, 180, 0, 43, 27, 46, 2, 160, 0, 7, 4, 167, 0, 13, 42, 180, 0, 46, 5, 27, 104, 4, 96, 46]
abbrev dktX5_otherwise_0 : List UInt8 := dkwX5_otherwise_0 ++ dktX5_otherwise_1
theorem dksX5_otherwise_0 : cX5_otherwise.data.toList.drop 0 = dktX5_otherwise_0 := by decide +kernel
theorem dksX5_otherwise_1 : cX5_otherwise.data.toList.drop 24 = dktX5_otherwise_1 := dk_seg dksX5_otherwise_0 24 rfl rfl
theorem dksX5_otherwise_2 : cX5_otherwise.data.toList.drop 48 = dktX5_otherwise_2 := dk_seg dksX5_otherwise_1 24 rfl rfl
theorem dksX5_otherwise_3 : cX5_otherwise.data.toList.drop 72 = dktX5_otherwise_3 := dk_seg dksX5_otherwise_2 24 rfl rfl
theorem dksX5_otherwise_4 : cX5_otherwise.data.toList.drop 96 = dktX5_otherwise_4 := dk_seg dksX5_otherwise_3 24 rfl rfl
theorem dX5_otherwise_0 : decode cX5_otherwise 0 = .ok (.aload_n 0, 1) := dk_42 (dk_at dksX5_otherwise_0 0 rfl rfl)
theorem dX5_otherwise_1 : decode cX5_otherwise 1 = .ok (.getfield 43, 3) := dk_180 0 43 (dk_at dksX5_otherwise_0 1 rfl rfl)
theorem dX5_otherwise_4 : decode cX5_otherwise 4 = .ok (.iload_n 1, 1) := dk_27 (dk_at dksX5_otherwise_0 4 rfl rfl)
theorem dX5_otherwise_5 : decode cX5_otherwise 5 = .ok (.iaload, 1) := dk_46 (dk_at dksX5_otherwise_0 5 rfl rfl)
theorem dX5_otherwise_6 : decode cX5_otherwise 6 = .ok (.iconst (-1), 1) := dk_2 (dk_at dksX5_otherwise_0 6 rfl rfl)
theorem dX5_otherwise_7 : decode cX5_otherwise 7 = .ok (.if_icmp .ne 7, 3) := dk_160 0 7 (dk_at dksX5_otherwise_0 7 rfl rfl)
theorem dX5_otherwise_10 : decode cX5_otherwise 10 = .ok (.iconst 1, 1) := dk_4 (dk_at dksX5_otherwise_0 10 rfl rfl)
theorem dX5_otherwise_11 : decode cX5_otherwise 11 = .ok (.goto 13, 3) := dk_167 0 13 (dk_at dksX5_otherwise_0 11 rfl rfl)
theorem dX5_otherwise_14 : decode cX5_otherwise 14 = .ok (.aload_n 0, 1) := dk_42 (dk_at dksX5_otherwise_0 14 rfl rfl)
theorem dX5_otherwise_15 : decode cX5_otherwise 15 = .ok (.getfield 46, 3) := dk_180 0 46 (dk_at dksX5_otherwise_0 15 rfl rfl)
theorem dX5_otherwise_18 : decode cX5_otherwise 18 = .ok (.iconst 2, 1) := dk_5 (dk_at dksX5_otherwise_0 18 rfl rfl)
theorem dX5_otherwise_19 : decode cX5_otherwise 19 = .ok (.iload_n 1, 1) := dk_27 (dk_at dksX5_otherwise_0 19 rfl rfl)
theorem dX5_otherwise_20 : decode cX5_otherwise 20 = .ok (.imul, 1) := dk_104 (dk_at dksX5_otherwise_0 20 rfl rfl)
theorem dX5_otherwise_21 : decode cX5_otherwise 21 = .ok (.iconst 1, 1) := dk_4 (dk_at dksX5_otherwise_0 21 rfl rfl)
theorem dX5_otherwise_22 : decode cX5_otherwise 22 = .ok (.iadd, 1) := dk_96 (dk_at dksX5_otherwise_0 22 rfl rfl)
theorem dX5_otherwise_23 : decode cX5_otherwise 23 = .ok (.iaload, 1) := dk_46 (dk_at dksX5_otherwise_0 23 rfl rfl)
theorem dX5_otherwise_24 : decode cX5_otherwise 24 = .ok (.istore_n 3, 1) := dk_62 (dk_at dksX5_otherwise_1 0 rfl rfl)
theorem dX5_otherwise_25 : decode cX5_otherwise 25 = .ok (.iconst 0, 1) := dk_3 (dk_at dksX5_otherwise_1 1 rfl rfl)
theorem dX5_otherwise_26 : decode cX5_otherwise 26 = .ok (.istore 4, 2) := dk_54 4 (dk_at dksX5_otherwise_1 2 rfl rfl)
theorem dX5_otherwise_28 : decode cX5_otherwise 28 = .ok (.iload 4, 2) := dk_21 4 (dk_at dksX5_otherwise_1 4 rfl rfl)
theorem dX5_otherwise_30 : decode cX5_otherwise 30 = .ok (.aload_n 0, 1) := dk_42 (dk_at dksX5_otherwise_1 6 rfl rfl)
theorem dX5_otherwise_31 : decode cX5_otherwise 31 = .ok (.getfield 168, 3) := dk_180 0 168 (dk_at dksX5_otherwise_1 7 rfl rfl)
theorem dX5_otherwise_34 : decode cX5_otherwise 34 = .ok (.iload_n 2, 1) := dk_28 (dk_at dksX5_otherwise_1 10 rfl rfl)
theorem dX5_otherwise_35 : decode cX5_otherwise 35 = .ok (.iaload, 1) := dk_46 (dk_at dksX5_otherwise_1 11 rfl rfl)
theorem dX5_otherwise_36 : decode cX5_otherwise 36 = .ok (.if_icmp .ge 73, 3) := dk_162 0 73 (dk_at dksX5_otherwise_1 12 rfl rfl)
theorem dX5_otherwise_39 : decode cX5_otherwise 39 = .ok (.aload_n 0, 1) := dk_42 (dk_at dksX5_otherwise_1 15 rfl rfl)
theorem dX5_otherwise_40 : decode cX5_otherwise 40 = .ok (.iload_n 1, 1) := dk_27 (dk_at dksX5_otherwise_1 16 rfl rfl)
theorem dX5_otherwise_41 : decode cX5_otherwise 41 = .ok (.iload 4, 2) := dk_21 4 (dk_at dksX5_otherwise_1 17 rfl rfl)
theorem dX5_otherwise_43 : decode cX5_otherwise 43 = .ok (.iload_n 3, 1) := dk_29 (dk_at dksX5_otherwise_1 19 rfl rfl)
theorem dX5_otherwise_44 : decode cX5_otherwise 44 = .ok (.idiv, 1) := dk_108 (dk_at dksX5_otherwise_1 20 rfl rfl)
theorem dX5_otherwise_45 : decode cX5_otherwise 45 = .ok (.iload 4, 2) := dk_21 4 (dk_at dksX5_otherwise_1 21 rfl rfl)
theorem dX5_otherwise_47 : decode cX5_otherwise 47 = .ok (.iload_n 3, 1) := dk_29 (dk_at dksX5_otherwise_1 23 rfl rfl)
theorem dX5_otherwise_48 : decode cX5_otherwise 48 = .ok (.irem, 1) := dk_112 (dk_at dksX5_otherwise_2 0 rfl rfl)
theorem dX5_otherwise_49 : decode cX5_otherwise 49 = .ok (.invokevirtual 495, 3) := dk_182 1 239 (dk_at dksX5_otherwise_2 1 rfl rfl)
theorem dX5_otherwise_52 : decode cX5_otherwise 52 = .ok (.aload_n 0, 1) := dk_42 (dk_at dksX5_otherwise_2 4 rfl rfl)
theorem dX5_otherwise_53 : decode cX5_otherwise 53 = .ok (.getfield 174, 3) := dk_180 0 174 (dk_at dksX5_otherwise_2 5 rfl rfl)
theorem dX5_otherwise_56 : decode cX5_otherwise 56 = .ok (.iload_n 2, 1) := dk_28 (dk_at dksX5_otherwise_2 8 rfl rfl)
theorem dX5_otherwise_57 : decode cX5_otherwise 57 = .ok (.aaload, 1) := dk_50 (dk_at dksX5_otherwise_2 9 rfl rfl)
theorem dX5_otherwise_58 : decode cX5_otherwise 58 = .ok (.iload 4, 2) := dk_21 4 (dk_at dksX5_otherwise_2 10 rfl rfl)
theorem dX5_otherwise_60 : decode cX5_otherwise 60 = .ok (.baload, 1) := dk_51 (dk_at dksX5_otherwise_2 12 rfl rfl)
theorem dX5_otherwise_61 : decode cX5_otherwise 61 = .ok (.aload_n 0, 1) := dk_42 (dk_at dksX5_otherwise_2 13 rfl rfl)
theorem dX5_otherwise_62 : decode cX5_otherwise 62 = .ok (.getfield 286, 3) := dk_180 1 30 (dk_at dksX5_otherwise_2 14 rfl rfl)
theorem dX5_otherwise_65 : decode cX5_otherwise 65 = .ok (.ifCond .eq 7, 3) := dk_153 0 7 (dk_at dksX5_otherwise_2 17 rfl rfl)
theorem dX5_otherwise_68 : decode cX5_otherwise 68 = .ok (.iconst 1, 1) := dk_4 (dk_at dksX5_otherwise_2 20 rfl rfl)
theorem dX5_otherwise_69 : decode cX5_otherwise 69 = .ok (.goto 4, 3) := dk_167 0 4 (dk_at dksX5_otherwise_2 21 rfl rfl)
theorem dX5_otherwise_72 : decode cX5_otherwise 72 = .ok (.iconst 0, 1) := dk_3 (dk_at dksX5_otherwise_3 0 rfl rfl)
theorem dX5_otherwise_73 : decode cX5_otherwise 73 = .ok (.if_icmp .ne 27, 3) := dk_160 0 27 (dk_at dksX5_otherwise_3 1 rfl rfl)
theorem dX5_otherwise_76 : decode cX5_otherwise 76 = .ok (.aload_n 0, 1) := dk_42 (dk_at dksX5_otherwise_3 4 rfl rfl)
theorem dX5_otherwise_77 : decode cX5_otherwise 77 = .ok (.getfield 286, 3) := dk_180 1 30 (dk_at dksX5_otherwise_3 5 rfl rfl)
theorem dX5_otherwise_80 : decode cX5_otherwise 80 = .ok (.ifCond .ne 23, 3) := dk_154 0 23 (dk_at dksX5_otherwise_3 8 rfl rfl)
theorem dX5_otherwise_83 : decode cX5_otherwise 83 = .ok (.aload_n 0, 1) := dk_42 (dk_at dksX5_otherwise_3 11 rfl rfl)
theorem dX5_otherwise_84 : decode cX5_otherwise 84 = .ok (.getfield 282, 3) := dk_180 1 26 (dk_at dksX5_otherwise_3 12 rfl rfl)
theorem dX5_otherwise_87 : decode cX5_otherwise 87 = .ok (.aload_n 0, 1) := dk_42 (dk_at dksX5_otherwise_3 15 rfl rfl)
theorem dX5_otherwise_88 : decode cX5_otherwise 88 = .ok (.getfield 171, 3) := dk_180 0 171 (dk_at dksX5_otherwise_3 16 rfl rfl)
theorem dX5_otherwise_91 : decode cX5_otherwise 91 = .ok (.iload_n 2, 1) := dk_28 (dk_at dksX5_otherwise_3 19 rfl rfl)
theorem dX5_otherwise_92 : decode cX5_otherwise 92 = .ok (.aaload, 1) := dk_50 (dk_at dksX5_otherwise_3 20 rfl rfl)
theorem dX5_otherwise_93 : decode cX5_otherwise 93 = .ok (.iload 4, 2) := dk_21 4 (dk_at dksX5_otherwise_3 21 rfl rfl)
theorem dX5_otherwise_95 : decode cX5_otherwise 95 = .ok (.daload, 1) := dk_49 (dk_at dksX5_otherwise_3 23 rfl rfl)
theorem dX5_otherwise_96 : decode cX5_otherwise 96 = .ok (.dcmp .l, 1) := dk_151 (dk_at dksX5_otherwise_4 0 rfl rfl)
theorem dX5_otherwise_97 : decode cX5_otherwise 97 = .ok (.ifCond .eq 6, 3) := dk_153 0 6 (dk_at dksX5_otherwise_4 1 rfl rfl)
theorem dX5_otherwise_100 : decode cX5_otherwise 100 = .ok (.iload 4, 2) := dk_21 4 (dk_at dksX5_otherwise_4 4 rfl rfl)
theorem dX5_otherwise_102 : decode cX5_otherwise 102 = .ok (.ireturn, 1) := dk_172 (dk_at dksX5_otherwise_4 6 rfl rfl)
theorem dX5_otherwise_103 : decode cX5_otherwise 103 = .ok (.iinc 4 1, 3) := dk_132 4 1 (dk_at dksX5_otherwise_4 7 rfl rfl)
theorem dX5_otherwise_106 : decode cX5_otherwise 106 = .ok (.goto (-78), 3) := dk_167 255 178 (dk_at dksX5_otherwise_4 10 rfl rfl)
theorem dX5_otherwise_109 : decode cX5_otherwise 109 = .ok (.iconst (-1), 1) := dk_2 (dk_at dksX5_otherwise_4 13 rfl rfl)
theorem dX5_otherwise_110 : decode cX5_otherwise 110 = .ok (.ireturn, 1) := dk_172 (dk_at dksX5_otherwise_4 14 rfl rfl)
abbrev cX5_kindsBy : ByteArray := prog_35_method_91_code
def yX5_kindsBy : MethodName := ⟨RX5, "kindsBy", "(III)I"⟩
def dkwX5_kindsBy_2 : List UInt8 := [54, 5, 132, 6, 1, 167, 255, 219, 42, 180, 0, 9, 29, 21, 4, 79, 21, 5, 172]
abbrev dktX5_kindsBy_2 : List UInt8 := dkwX5_kindsBy_2 ++ []
def dkwX5_kindsBy_1 : List UInt8 := [180, 0, 9, 29, 21, 6, 79, 42, 27, 28, 182, 2, 41, 2, 160, 0, 12, 21, 5, 4, 21, 6, 120, 128]
abbrev dktX5_kindsBy_1 : List UInt8 := dkwX5_kindsBy_1 ++ dktX5_kindsBy_2
def dkwX5_kindsBy_0 : List UInt8 := [42, 180, 0, 9, 29, 46, 54, 4, 3, 54, 5, 3, 54, 6, 21, 6, 16, 6, 162, 0, 36, 42]
abbrev dktX5_kindsBy_0 : List UInt8 := dkwX5_kindsBy_0 ++ dktX5_kindsBy_1
theorem dksX5_kindsBy_0 : cX5_kindsBy.data.toList.drop 0 = dktX5_kindsBy_0 := by decide +kernel
theorem dksX5_kindsBy_1 : cX5_kindsBy.data.toList.drop 22 = dktX5_kindsBy_1 := dk_seg dksX5_kindsBy_0 22 rfl rfl
theorem dksX5_kindsBy_2 : cX5_kindsBy.data.toList.drop 46 = dktX5_kindsBy_2 := dk_seg dksX5_kindsBy_1 24 rfl rfl
theorem dX5_kindsBy_0 : decode cX5_kindsBy 0 = .ok (.aload_n 0, 1) := dk_42 (dk_at dksX5_kindsBy_0 0 rfl rfl)
theorem dX5_kindsBy_1 : decode cX5_kindsBy 1 = .ok (.getfield 9, 3) := dk_180 0 9 (dk_at dksX5_kindsBy_0 1 rfl rfl)
theorem dX5_kindsBy_4 : decode cX5_kindsBy 4 = .ok (.iload_n 3, 1) := dk_29 (dk_at dksX5_kindsBy_0 4 rfl rfl)
theorem dX5_kindsBy_5 : decode cX5_kindsBy 5 = .ok (.iaload, 1) := dk_46 (dk_at dksX5_kindsBy_0 5 rfl rfl)
theorem dX5_kindsBy_6 : decode cX5_kindsBy 6 = .ok (.istore 4, 2) := dk_54 4 (dk_at dksX5_kindsBy_0 6 rfl rfl)
theorem dX5_kindsBy_8 : decode cX5_kindsBy 8 = .ok (.iconst 0, 1) := dk_3 (dk_at dksX5_kindsBy_0 8 rfl rfl)
theorem dX5_kindsBy_9 : decode cX5_kindsBy 9 = .ok (.istore 5, 2) := dk_54 5 (dk_at dksX5_kindsBy_0 9 rfl rfl)
theorem dX5_kindsBy_11 : decode cX5_kindsBy 11 = .ok (.iconst 0, 1) := dk_3 (dk_at dksX5_kindsBy_0 11 rfl rfl)
theorem dX5_kindsBy_12 : decode cX5_kindsBy 12 = .ok (.istore 6, 2) := dk_54 6 (dk_at dksX5_kindsBy_0 12 rfl rfl)
theorem dX5_kindsBy_14 : decode cX5_kindsBy 14 = .ok (.iload 6, 2) := dk_21 6 (dk_at dksX5_kindsBy_0 14 rfl rfl)
theorem dX5_kindsBy_16 : decode cX5_kindsBy 16 = .ok (.bipush 6, 2) := dk_16 6 (dk_at dksX5_kindsBy_0 16 rfl rfl)
theorem dX5_kindsBy_18 : decode cX5_kindsBy 18 = .ok (.if_icmp .ge 36, 3) := dk_162 0 36 (dk_at dksX5_kindsBy_0 18 rfl rfl)
theorem dX5_kindsBy_21 : decode cX5_kindsBy 21 = .ok (.aload_n 0, 1) := dk_42 (dk_at dksX5_kindsBy_0 21 rfl rfl)
theorem dX5_kindsBy_22 : decode cX5_kindsBy 22 = .ok (.getfield 9, 3) := dk_180 0 9 (dk_at dksX5_kindsBy_1 0 rfl rfl)
theorem dX5_kindsBy_25 : decode cX5_kindsBy 25 = .ok (.iload_n 3, 1) := dk_29 (dk_at dksX5_kindsBy_1 3 rfl rfl)
theorem dX5_kindsBy_26 : decode cX5_kindsBy 26 = .ok (.iload 6, 2) := dk_21 6 (dk_at dksX5_kindsBy_1 4 rfl rfl)
theorem dX5_kindsBy_28 : decode cX5_kindsBy 28 = .ok (.iastore, 1) := dk_79 (dk_at dksX5_kindsBy_1 6 rfl rfl)
theorem dX5_kindsBy_29 : decode cX5_kindsBy 29 = .ok (.aload_n 0, 1) := dk_42 (dk_at dksX5_kindsBy_1 7 rfl rfl)
theorem dX5_kindsBy_30 : decode cX5_kindsBy 30 = .ok (.iload_n 1, 1) := dk_27 (dk_at dksX5_kindsBy_1 8 rfl rfl)
theorem dX5_kindsBy_31 : decode cX5_kindsBy 31 = .ok (.iload_n 2, 1) := dk_28 (dk_at dksX5_kindsBy_1 9 rfl rfl)
theorem dX5_kindsBy_32 : decode cX5_kindsBy 32 = .ok (.invokevirtual 553, 3) := dk_182 2 41 (dk_at dksX5_kindsBy_1 10 rfl rfl)
theorem dX5_kindsBy_35 : decode cX5_kindsBy 35 = .ok (.iconst (-1), 1) := dk_2 (dk_at dksX5_kindsBy_1 13 rfl rfl)
theorem dX5_kindsBy_36 : decode cX5_kindsBy 36 = .ok (.if_icmp .ne 12, 3) := dk_160 0 12 (dk_at dksX5_kindsBy_1 14 rfl rfl)
theorem dX5_kindsBy_39 : decode cX5_kindsBy 39 = .ok (.iload 5, 2) := dk_21 5 (dk_at dksX5_kindsBy_1 17 rfl rfl)
theorem dX5_kindsBy_41 : decode cX5_kindsBy 41 = .ok (.iconst 1, 1) := dk_4 (dk_at dksX5_kindsBy_1 19 rfl rfl)
theorem dX5_kindsBy_42 : decode cX5_kindsBy 42 = .ok (.iload 6, 2) := dk_21 6 (dk_at dksX5_kindsBy_1 20 rfl rfl)
theorem dX5_kindsBy_44 : decode cX5_kindsBy 44 = .ok (.ishl, 1) := dk_120 (dk_at dksX5_kindsBy_1 22 rfl rfl)
theorem dX5_kindsBy_45 : decode cX5_kindsBy 45 = .ok (.ior, 1) := dk_128 (dk_at dksX5_kindsBy_1 23 rfl rfl)
theorem dX5_kindsBy_46 : decode cX5_kindsBy 46 = .ok (.istore 5, 2) := dk_54 5 (dk_at dksX5_kindsBy_2 0 rfl rfl)
theorem dX5_kindsBy_48 : decode cX5_kindsBy 48 = .ok (.iinc 6 1, 3) := dk_132 6 1 (dk_at dksX5_kindsBy_2 2 rfl rfl)
theorem dX5_kindsBy_51 : decode cX5_kindsBy 51 = .ok (.goto (-37), 3) := dk_167 255 219 (dk_at dksX5_kindsBy_2 5 rfl rfl)
theorem dX5_kindsBy_54 : decode cX5_kindsBy 54 = .ok (.aload_n 0, 1) := dk_42 (dk_at dksX5_kindsBy_2 8 rfl rfl)
theorem dX5_kindsBy_55 : decode cX5_kindsBy 55 = .ok (.getfield 9, 3) := dk_180 0 9 (dk_at dksX5_kindsBy_2 9 rfl rfl)
theorem dX5_kindsBy_58 : decode cX5_kindsBy 58 = .ok (.iload_n 3, 1) := dk_29 (dk_at dksX5_kindsBy_2 12 rfl rfl)
theorem dX5_kindsBy_59 : decode cX5_kindsBy 59 = .ok (.iload 4, 2) := dk_21 4 (dk_at dksX5_kindsBy_2 13 rfl rfl)
theorem dX5_kindsBy_61 : decode cX5_kindsBy 61 = .ok (.iastore, 1) := dk_79 (dk_at dksX5_kindsBy_2 15 rfl rfl)
theorem dX5_kindsBy_62 : decode cX5_kindsBy 62 = .ok (.iload 5, 2) := dk_21 5 (dk_at dksX5_kindsBy_2 16 rfl rfl)
theorem dX5_kindsBy_64 : decode cX5_kindsBy 64 = .ok (.ireturn, 1) := dk_172 (dk_at dksX5_kindsBy_2 18 rfl rfl)
abbrev cX5_numbersBy : ByteArray := prog_35_method_92_code
def yX5_numbersBy : MethodName := ⟨RX5, "numbersBy", "(IIIZ)I"⟩
def dkwX5_numbersBy_4 : List UInt8 := [82, 42, 180, 0, 13, 29, 21, 7, 84, 21, 4, 153, 0, 8, 21, 9, 167, 0, 5, 21, 8, 172]
abbrev dktX5_numbersBy_4 : List UInt8 := dkwX5_numbersBy_4 ++ []
def dkwX5_numbersBy_3 : List UInt8 := [96, 167, 0, 5, 21, 9, 54, 9, 132, 8, 1, 132, 10, 1, 167, 255, 203, 42, 180, 0, 17, 29, 24, 5]
abbrev dktX5_numbersBy_3 : List UInt8 := dkwX5_numbersBy_3 ++ dktX5_numbersBy_4
def dkwX5_numbersBy_2 : List UInt8 := [82, 42, 27, 28, 182, 2, 41, 2, 159, 0, 6, 167, 0, 24, 21, 8, 154, 0, 12, 17, 3, 232, 21, 10]
abbrev dktX5_numbersBy_2 : List UInt8 := dkwX5_numbersBy_2 ++ dktX5_numbersBy_3
def dkwX5_numbersBy_1 : List UInt8 := [54, 8, 2, 54, 9, 16, 236, 54, 10, 21, 10, 16, 20, 163, 0, 52, 42, 180, 0, 17, 29, 21, 10, 135]
abbrev dktX5_numbersBy_1 : List UInt8 := dkwX5_numbersBy_1 ++ dktX5_numbersBy_2
def dkwX5_numbersBy_0 : List UInt8 := [42, 180, 0, 17, 29, 49, 57, 5, 42, 180, 0, 13, 29, 51, 54, 7, 42, 180, 0, 13, 29, 4, 84, 3]
abbrev dktX5_numbersBy_0 : List UInt8 := dkwX5_numbersBy_0 ++ dktX5_numbersBy_1
theorem dksX5_numbersBy_0 : cX5_numbersBy.data.toList.drop 0 = dktX5_numbersBy_0 := by decide +kernel
theorem dksX5_numbersBy_1 : cX5_numbersBy.data.toList.drop 24 = dktX5_numbersBy_1 := dk_seg dksX5_numbersBy_0 24 rfl rfl
theorem dksX5_numbersBy_2 : cX5_numbersBy.data.toList.drop 48 = dktX5_numbersBy_2 := dk_seg dksX5_numbersBy_1 24 rfl rfl
theorem dksX5_numbersBy_3 : cX5_numbersBy.data.toList.drop 72 = dktX5_numbersBy_3 := dk_seg dksX5_numbersBy_2 24 rfl rfl
theorem dksX5_numbersBy_4 : cX5_numbersBy.data.toList.drop 96 = dktX5_numbersBy_4 := dk_seg dksX5_numbersBy_3 24 rfl rfl
theorem dX5_numbersBy_0 : decode cX5_numbersBy 0 = .ok (.aload_n 0, 1) := dk_42 (dk_at dksX5_numbersBy_0 0 rfl rfl)
theorem dX5_numbersBy_1 : decode cX5_numbersBy 1 = .ok (.getfield 17, 3) := dk_180 0 17 (dk_at dksX5_numbersBy_0 1 rfl rfl)
theorem dX5_numbersBy_4 : decode cX5_numbersBy 4 = .ok (.iload_n 3, 1) := dk_29 (dk_at dksX5_numbersBy_0 4 rfl rfl)
theorem dX5_numbersBy_5 : decode cX5_numbersBy 5 = .ok (.daload, 1) := dk_49 (dk_at dksX5_numbersBy_0 5 rfl rfl)
theorem dX5_numbersBy_6 : decode cX5_numbersBy 6 = .ok (.dstore 5, 2) := dk_57 5 (dk_at dksX5_numbersBy_0 6 rfl rfl)
theorem dX5_numbersBy_8 : decode cX5_numbersBy 8 = .ok (.aload_n 0, 1) := dk_42 (dk_at dksX5_numbersBy_0 8 rfl rfl)
theorem dX5_numbersBy_9 : decode cX5_numbersBy 9 = .ok (.getfield 13, 3) := dk_180 0 13 (dk_at dksX5_numbersBy_0 9 rfl rfl)
theorem dX5_numbersBy_12 : decode cX5_numbersBy 12 = .ok (.iload_n 3, 1) := dk_29 (dk_at dksX5_numbersBy_0 12 rfl rfl)
theorem dX5_numbersBy_13 : decode cX5_numbersBy 13 = .ok (.baload, 1) := dk_51 (dk_at dksX5_numbersBy_0 13 rfl rfl)
theorem dX5_numbersBy_14 : decode cX5_numbersBy 14 = .ok (.istore 7, 2) := dk_54 7 (dk_at dksX5_numbersBy_0 14 rfl rfl)
theorem dX5_numbersBy_16 : decode cX5_numbersBy 16 = .ok (.aload_n 0, 1) := dk_42 (dk_at dksX5_numbersBy_0 16 rfl rfl)
theorem dX5_numbersBy_17 : decode cX5_numbersBy 17 = .ok (.getfield 13, 3) := dk_180 0 13 (dk_at dksX5_numbersBy_0 17 rfl rfl)
theorem dX5_numbersBy_20 : decode cX5_numbersBy 20 = .ok (.iload_n 3, 1) := dk_29 (dk_at dksX5_numbersBy_0 20 rfl rfl)
theorem dX5_numbersBy_21 : decode cX5_numbersBy 21 = .ok (.iconst 1, 1) := dk_4 (dk_at dksX5_numbersBy_0 21 rfl rfl)
theorem dX5_numbersBy_22 : decode cX5_numbersBy 22 = .ok (.bastore, 1) := dk_84 (dk_at dksX5_numbersBy_0 22 rfl rfl)
theorem dX5_numbersBy_23 : decode cX5_numbersBy 23 = .ok (.iconst 0, 1) := dk_3 (dk_at dksX5_numbersBy_0 23 rfl rfl)
theorem dX5_numbersBy_24 : decode cX5_numbersBy 24 = .ok (.istore 8, 2) := dk_54 8 (dk_at dksX5_numbersBy_1 0 rfl rfl)
theorem dX5_numbersBy_26 : decode cX5_numbersBy 26 = .ok (.iconst (-1), 1) := dk_2 (dk_at dksX5_numbersBy_1 2 rfl rfl)
theorem dX5_numbersBy_27 : decode cX5_numbersBy 27 = .ok (.istore 9, 2) := dk_54 9 (dk_at dksX5_numbersBy_1 3 rfl rfl)
theorem dX5_numbersBy_29 : decode cX5_numbersBy 29 = .ok (.bipush (-20), 2) := dk_16 236 (dk_at dksX5_numbersBy_1 5 rfl rfl)
theorem dX5_numbersBy_31 : decode cX5_numbersBy 31 = .ok (.istore 10, 2) := dk_54 10 (dk_at dksX5_numbersBy_1 7 rfl rfl)
theorem dX5_numbersBy_33 : decode cX5_numbersBy 33 = .ok (.iload 10, 2) := dk_21 10 (dk_at dksX5_numbersBy_1 9 rfl rfl)
theorem dX5_numbersBy_35 : decode cX5_numbersBy 35 = .ok (.bipush 20, 2) := dk_16 20 (dk_at dksX5_numbersBy_1 11 rfl rfl)
theorem dX5_numbersBy_37 : decode cX5_numbersBy 37 = .ok (.if_icmp .gt 52, 3) := dk_163 0 52 (dk_at dksX5_numbersBy_1 13 rfl rfl)
theorem dX5_numbersBy_40 : decode cX5_numbersBy 40 = .ok (.aload_n 0, 1) := dk_42 (dk_at dksX5_numbersBy_1 16 rfl rfl)
theorem dX5_numbersBy_41 : decode cX5_numbersBy 41 = .ok (.getfield 17, 3) := dk_180 0 17 (dk_at dksX5_numbersBy_1 17 rfl rfl)
theorem dX5_numbersBy_44 : decode cX5_numbersBy 44 = .ok (.iload_n 3, 1) := dk_29 (dk_at dksX5_numbersBy_1 20 rfl rfl)
theorem dX5_numbersBy_45 : decode cX5_numbersBy 45 = .ok (.iload 10, 2) := dk_21 10 (dk_at dksX5_numbersBy_1 21 rfl rfl)
theorem dX5_numbersBy_47 : decode cX5_numbersBy 47 = .ok (.i2d, 1) := dk_135 (dk_at dksX5_numbersBy_1 23 rfl rfl)
theorem dX5_numbersBy_48 : decode cX5_numbersBy 48 = .ok (.dastore, 1) := dk_82 (dk_at dksX5_numbersBy_2 0 rfl rfl)
theorem dX5_numbersBy_49 : decode cX5_numbersBy 49 = .ok (.aload_n 0, 1) := dk_42 (dk_at dksX5_numbersBy_2 1 rfl rfl)
theorem dX5_numbersBy_50 : decode cX5_numbersBy 50 = .ok (.iload_n 1, 1) := dk_27 (dk_at dksX5_numbersBy_2 2 rfl rfl)
theorem dX5_numbersBy_51 : decode cX5_numbersBy 51 = .ok (.iload_n 2, 1) := dk_28 (dk_at dksX5_numbersBy_2 3 rfl rfl)
theorem dX5_numbersBy_52 : decode cX5_numbersBy 52 = .ok (.invokevirtual 553, 3) := dk_182 2 41 (dk_at dksX5_numbersBy_2 4 rfl rfl)
theorem dX5_numbersBy_55 : decode cX5_numbersBy 55 = .ok (.iconst (-1), 1) := dk_2 (dk_at dksX5_numbersBy_2 7 rfl rfl)
theorem dX5_numbersBy_56 : decode cX5_numbersBy 56 = .ok (.if_icmp .eq 6, 3) := dk_159 0 6 (dk_at dksX5_numbersBy_2 8 rfl rfl)
theorem dX5_numbersBy_59 : decode cX5_numbersBy 59 = .ok (.goto 24, 3) := dk_167 0 24 (dk_at dksX5_numbersBy_2 11 rfl rfl)
theorem dX5_numbersBy_62 : decode cX5_numbersBy 62 = .ok (.iload 8, 2) := dk_21 8 (dk_at dksX5_numbersBy_2 14 rfl rfl)
theorem dX5_numbersBy_64 : decode cX5_numbersBy 64 = .ok (.ifCond .ne 12, 3) := dk_154 0 12 (dk_at dksX5_numbersBy_2 16 rfl rfl)
theorem dX5_numbersBy_67 : decode cX5_numbersBy 67 = .ok (.sipush 1000, 3) := dk_17 3 232 (dk_at dksX5_numbersBy_2 19 rfl rfl)
theorem dX5_numbersBy_70 : decode cX5_numbersBy 70 = .ok (.iload 10, 2) := dk_21 10 (dk_at dksX5_numbersBy_2 22 rfl rfl)
theorem dX5_numbersBy_72 : decode cX5_numbersBy 72 = .ok (.iadd, 1) := dk_96 (dk_at dksX5_numbersBy_3 0 rfl rfl)
theorem dX5_numbersBy_73 : decode cX5_numbersBy 73 = .ok (.goto 5, 3) := dk_167 0 5 (dk_at dksX5_numbersBy_3 1 rfl rfl)
theorem dX5_numbersBy_76 : decode cX5_numbersBy 76 = .ok (.iload 9, 2) := dk_21 9 (dk_at dksX5_numbersBy_3 4 rfl rfl)
theorem dX5_numbersBy_78 : decode cX5_numbersBy 78 = .ok (.istore 9, 2) := dk_54 9 (dk_at dksX5_numbersBy_3 6 rfl rfl)
theorem dX5_numbersBy_80 : decode cX5_numbersBy 80 = .ok (.iinc 8 1, 3) := dk_132 8 1 (dk_at dksX5_numbersBy_3 8 rfl rfl)
theorem dX5_numbersBy_83 : decode cX5_numbersBy 83 = .ok (.iinc 10 1, 3) := dk_132 10 1 (dk_at dksX5_numbersBy_3 11 rfl rfl)
theorem dX5_numbersBy_86 : decode cX5_numbersBy 86 = .ok (.goto (-53), 3) := dk_167 255 203 (dk_at dksX5_numbersBy_3 14 rfl rfl)
theorem dX5_numbersBy_89 : decode cX5_numbersBy 89 = .ok (.aload_n 0, 1) := dk_42 (dk_at dksX5_numbersBy_3 17 rfl rfl)
theorem dX5_numbersBy_90 : decode cX5_numbersBy 90 = .ok (.getfield 17, 3) := dk_180 0 17 (dk_at dksX5_numbersBy_3 18 rfl rfl)
theorem dX5_numbersBy_93 : decode cX5_numbersBy 93 = .ok (.iload_n 3, 1) := dk_29 (dk_at dksX5_numbersBy_3 21 rfl rfl)
theorem dX5_numbersBy_94 : decode cX5_numbersBy 94 = .ok (.dload 5, 2) := dk_24 5 (dk_at dksX5_numbersBy_3 22 rfl rfl)
theorem dX5_numbersBy_96 : decode cX5_numbersBy 96 = .ok (.dastore, 1) := dk_82 (dk_at dksX5_numbersBy_4 0 rfl rfl)
theorem dX5_numbersBy_97 : decode cX5_numbersBy 97 = .ok (.aload_n 0, 1) := dk_42 (dk_at dksX5_numbersBy_4 1 rfl rfl)
theorem dX5_numbersBy_98 : decode cX5_numbersBy 98 = .ok (.getfield 13, 3) := dk_180 0 13 (dk_at dksX5_numbersBy_4 2 rfl rfl)
theorem dX5_numbersBy_101 : decode cX5_numbersBy 101 = .ok (.iload_n 3, 1) := dk_29 (dk_at dksX5_numbersBy_4 5 rfl rfl)
theorem dX5_numbersBy_102 : decode cX5_numbersBy 102 = .ok (.iload 7, 2) := dk_21 7 (dk_at dksX5_numbersBy_4 6 rfl rfl)
theorem dX5_numbersBy_104 : decode cX5_numbersBy 104 = .ok (.bastore, 1) := dk_84 (dk_at dksX5_numbersBy_4 8 rfl rfl)
theorem dX5_numbersBy_105 : decode cX5_numbersBy 105 = .ok (.iload 4, 2) := dk_21 4 (dk_at dksX5_numbersBy_4 9 rfl rfl)
theorem dX5_numbersBy_107 : decode cX5_numbersBy 107 = .ok (.ifCond .eq 8, 3) := dk_153 0 8 (dk_at dksX5_numbersBy_4 11 rfl rfl)
theorem dX5_numbersBy_110 : decode cX5_numbersBy 110 = .ok (.iload 9, 2) := dk_21 9 (dk_at dksX5_numbersBy_4 14 rfl rfl)
theorem dX5_numbersBy_112 : decode cX5_numbersBy 112 = .ok (.goto 5, 3) := dk_167 0 5 (dk_at dksX5_numbersBy_4 16 rfl rfl)
theorem dX5_numbersBy_115 : decode cX5_numbersBy 115 = .ok (.iload 8, 2) := dk_21 8 (dk_at dksX5_numbersBy_4 19 rfl rfl)
theorem dX5_numbersBy_117 : decode cX5_numbersBy 117 = .ok (.ireturn, 1) := dk_172 (dk_at dksX5_numbersBy_4 21 rfl rfl)
abbrev cX5_image : ByteArray := prog_35_method_95_code
def yX5_image : MethodName := ⟨RX5, "image", "()I"⟩
def dkwX5_image_9 : List UInt8 := [184, 1, 215, 132, 1, 1, 167, 255, 228, 42, 4, 181, 2, 51, 42, 182, 2, 54, 172]
abbrev dktX5_image_9 : List UInt8 := dkwX5_image_9 ++ []
def dkwX5_image_8 : List UInt8 := [3, 60, 27, 16, 12, 162, 0, 28, 42, 180, 0, 49, 27, 50, 3, 42, 180, 0, 162, 27, 50, 3, 16, 8]
abbrev dktX5_image_8 : List UInt8 := dkwX5_image_8 ++ dktX5_image_9
def dkwX5_image_7 : List UInt8 := [180, 0, 156, 3, 16, 6, 184, 1, 215, 42, 180, 0, 46, 3, 42, 180, 0, 159, 3, 16, 12, 184, 1, 215]
abbrev dktX5_image_7 : List UInt8 := dkwX5_image_7 ++ dktX5_image_8
def dkwX5_image_6 : List UInt8 := [184, 1, 215, 42, 180, 0, 40, 3, 42, 180, 0, 153, 3, 16, 6, 184, 1, 215, 42, 180, 0, 43, 3, 42]
abbrev dktX5_image_6 : List UInt8 := dkwX5_image_6 ++ dktX5_image_7
def dkwX5_image_5 : List UInt8 := [42, 180, 0, 138, 3, 16, 6, 184, 1, 215, 42, 180, 0, 37, 3, 42, 180, 0, 150, 3, 16, 6]
abbrev dktX5_image_5 : List UInt8 := dkwX5_image_5 ++ dktX5_image_6
def dkwX5_image_4 : List UInt8 := [3, 42, 180, 0, 147, 27, 50, 3, 16, 96, 184, 1, 215, 132, 1, 1, 167, 255, 209, 42, 180, 0, 34, 3]
abbrev dktX5_image_4 : List UInt8 := dkwX5_image_4 ++ dktX5_image_5
def dkwX5_image_3 : List UInt8 := [180, 0, 26, 27, 50, 3, 42, 180, 0, 144, 27, 50, 3, 16, 96, 184, 1, 215, 42, 180, 0, 31, 27, 50]
abbrev dktX5_image_3 : List UInt8 := dkwX5_image_3 ++ dktX5_image_4
def dkwX5_image_2 : List UInt8 := [180, 0, 17, 3, 42, 180, 0, 141, 3, 16, 24, 184, 1, 215, 3, 60, 27, 16, 24, 162, 0, 47, 42]
abbrev dktX5_image_2 : List UInt8 := dkwX5_image_2 ++ dktX5_image_3
def dkwX5_image_1 : List UInt8 := [3, 16, 24, 184, 1, 215, 42, 180, 0, 13, 3, 42, 180, 0, 135, 3, 16, 24, 184, 1, 215, 42]
abbrev dktX5_image_1 : List UInt8 := dkwX5_image_1 ++ dktX5_image_2
def dkwX5_image_0 : List UInt8 := [42, 180, 0, 9, 3, 42, 180, 0, 129, 3, 16, 24, 184, 1, 215, 42, 180, 0, 21, 3, 42, 180, 0, 132]
abbrev dktX5_image_0 : List UInt8 := dkwX5_image_0 ++ dktX5_image_1
theorem dksX5_image_0 : cX5_image.data.toList.drop 0 = dktX5_image_0 := by decide +kernel
theorem dksX5_image_1 : cX5_image.data.toList.drop 24 = dktX5_image_1 := dk_seg dksX5_image_0 24 rfl rfl
theorem dksX5_image_2 : cX5_image.data.toList.drop 46 = dktX5_image_2 := dk_seg dksX5_image_1 22 rfl rfl
theorem dksX5_image_3 : cX5_image.data.toList.drop 69 = dktX5_image_3 := dk_seg dksX5_image_2 23 rfl rfl
theorem dksX5_image_4 : cX5_image.data.toList.drop 93 = dktX5_image_4 := dk_seg dksX5_image_3 24 rfl rfl
theorem dksX5_image_5 : cX5_image.data.toList.drop 117 = dktX5_image_5 := dk_seg dksX5_image_4 24 rfl rfl
theorem dksX5_image_6 : cX5_image.data.toList.drop 139 = dktX5_image_6 := dk_seg dksX5_image_5 22 rfl rfl
theorem dksX5_image_7 : cX5_image.data.toList.drop 163 = dktX5_image_7 := dk_seg dksX5_image_6 24 rfl rfl
theorem dksX5_image_8 : cX5_image.data.toList.drop 187 = dktX5_image_8 := dk_seg dksX5_image_7 24 rfl rfl
theorem dksX5_image_9 : cX5_image.data.toList.drop 211 = dktX5_image_9 := dk_seg dksX5_image_8 24 rfl rfl
theorem dX5_image_0 : decode cX5_image 0 = .ok (.aload_n 0, 1) := dk_42 (dk_at dksX5_image_0 0 rfl rfl)
theorem dX5_image_1 : decode cX5_image 1 = .ok (.getfield 9, 3) := dk_180 0 9 (dk_at dksX5_image_0 1 rfl rfl)
theorem dX5_image_4 : decode cX5_image 4 = .ok (.iconst 0, 1) := dk_3 (dk_at dksX5_image_0 4 rfl rfl)
theorem dX5_image_5 : decode cX5_image 5 = .ok (.aload_n 0, 1) := dk_42 (dk_at dksX5_image_0 5 rfl rfl)
theorem dX5_image_6 : decode cX5_image 6 = .ok (.getfield 129, 3) := dk_180 0 129 (dk_at dksX5_image_0 6 rfl rfl)
theorem dX5_image_9 : decode cX5_image 9 = .ok (.iconst 0, 1) := dk_3 (dk_at dksX5_image_0 9 rfl rfl)
theorem dX5_image_10 : decode cX5_image 10 = .ok (.bipush 24, 2) := dk_16 24 (dk_at dksX5_image_0 10 rfl rfl)
theorem dX5_image_12 : decode cX5_image 12 = .ok (.invokestatic 471, 3) := dk_184 1 215 (dk_at dksX5_image_0 12 rfl rfl)
theorem dX5_image_15 : decode cX5_image 15 = .ok (.aload_n 0, 1) := dk_42 (dk_at dksX5_image_0 15 rfl rfl)
theorem dX5_image_16 : decode cX5_image 16 = .ok (.getfield 21, 3) := dk_180 0 21 (dk_at dksX5_image_0 16 rfl rfl)
theorem dX5_image_19 : decode cX5_image 19 = .ok (.iconst 0, 1) := dk_3 (dk_at dksX5_image_0 19 rfl rfl)
theorem dX5_image_20 : decode cX5_image 20 = .ok (.aload_n 0, 1) := dk_42 (dk_at dksX5_image_0 20 rfl rfl)
theorem dX5_image_21 : decode cX5_image 21 = .ok (.getfield 132, 3) := dk_180 0 132 (dk_at dksX5_image_0 21 rfl rfl)
theorem dX5_image_24 : decode cX5_image 24 = .ok (.iconst 0, 1) := dk_3 (dk_at dksX5_image_1 0 rfl rfl)
theorem dX5_image_25 : decode cX5_image 25 = .ok (.bipush 24, 2) := dk_16 24 (dk_at dksX5_image_1 1 rfl rfl)
theorem dX5_image_27 : decode cX5_image 27 = .ok (.invokestatic 471, 3) := dk_184 1 215 (dk_at dksX5_image_1 3 rfl rfl)
theorem dX5_image_30 : decode cX5_image 30 = .ok (.aload_n 0, 1) := dk_42 (dk_at dksX5_image_1 6 rfl rfl)
theorem dX5_image_31 : decode cX5_image 31 = .ok (.getfield 13, 3) := dk_180 0 13 (dk_at dksX5_image_1 7 rfl rfl)
theorem dX5_image_34 : decode cX5_image 34 = .ok (.iconst 0, 1) := dk_3 (dk_at dksX5_image_1 10 rfl rfl)
theorem dX5_image_35 : decode cX5_image 35 = .ok (.aload_n 0, 1) := dk_42 (dk_at dksX5_image_1 11 rfl rfl)
theorem dX5_image_36 : decode cX5_image 36 = .ok (.getfield 135, 3) := dk_180 0 135 (dk_at dksX5_image_1 12 rfl rfl)
theorem dX5_image_39 : decode cX5_image 39 = .ok (.iconst 0, 1) := dk_3 (dk_at dksX5_image_1 15 rfl rfl)
theorem dX5_image_40 : decode cX5_image 40 = .ok (.bipush 24, 2) := dk_16 24 (dk_at dksX5_image_1 16 rfl rfl)
theorem dX5_image_42 : decode cX5_image 42 = .ok (.invokestatic 471, 3) := dk_184 1 215 (dk_at dksX5_image_1 18 rfl rfl)
theorem dX5_image_45 : decode cX5_image 45 = .ok (.aload_n 0, 1) := dk_42 (dk_at dksX5_image_1 21 rfl rfl)
theorem dX5_image_46 : decode cX5_image 46 = .ok (.getfield 17, 3) := dk_180 0 17 (dk_at dksX5_image_2 0 rfl rfl)
theorem dX5_image_49 : decode cX5_image 49 = .ok (.iconst 0, 1) := dk_3 (dk_at dksX5_image_2 3 rfl rfl)
theorem dX5_image_50 : decode cX5_image 50 = .ok (.aload_n 0, 1) := dk_42 (dk_at dksX5_image_2 4 rfl rfl)
theorem dX5_image_51 : decode cX5_image 51 = .ok (.getfield 141, 3) := dk_180 0 141 (dk_at dksX5_image_2 5 rfl rfl)
theorem dX5_image_54 : decode cX5_image 54 = .ok (.iconst 0, 1) := dk_3 (dk_at dksX5_image_2 8 rfl rfl)
theorem dX5_image_55 : decode cX5_image 55 = .ok (.bipush 24, 2) := dk_16 24 (dk_at dksX5_image_2 9 rfl rfl)
theorem dX5_image_57 : decode cX5_image 57 = .ok (.invokestatic 471, 3) := dk_184 1 215 (dk_at dksX5_image_2 11 rfl rfl)
theorem dX5_image_60 : decode cX5_image 60 = .ok (.iconst 0, 1) := dk_3 (dk_at dksX5_image_2 14 rfl rfl)
theorem dX5_image_61 : decode cX5_image 61 = .ok (.istore_n 1, 1) := dk_60 (dk_at dksX5_image_2 15 rfl rfl)
theorem dX5_image_62 : decode cX5_image 62 = .ok (.iload_n 1, 1) := dk_27 (dk_at dksX5_image_2 16 rfl rfl)
theorem dX5_image_63 : decode cX5_image 63 = .ok (.bipush 24, 2) := dk_16 24 (dk_at dksX5_image_2 17 rfl rfl)
theorem dX5_image_65 : decode cX5_image 65 = .ok (.if_icmp .ge 47, 3) := dk_162 0 47 (dk_at dksX5_image_2 19 rfl rfl)
theorem dX5_image_68 : decode cX5_image 68 = .ok (.aload_n 0, 1) := dk_42 (dk_at dksX5_image_2 22 rfl rfl)
theorem dX5_image_69 : decode cX5_image 69 = .ok (.getfield 26, 3) := dk_180 0 26 (dk_at dksX5_image_3 0 rfl rfl)
theorem dX5_image_72 : decode cX5_image 72 = .ok (.iload_n 1, 1) := dk_27 (dk_at dksX5_image_3 3 rfl rfl)
theorem dX5_image_73 : decode cX5_image 73 = .ok (.aaload, 1) := dk_50 (dk_at dksX5_image_3 4 rfl rfl)
theorem dX5_image_74 : decode cX5_image 74 = .ok (.iconst 0, 1) := dk_3 (dk_at dksX5_image_3 5 rfl rfl)
theorem dX5_image_75 : decode cX5_image 75 = .ok (.aload_n 0, 1) := dk_42 (dk_at dksX5_image_3 6 rfl rfl)
theorem dX5_image_76 : decode cX5_image 76 = .ok (.getfield 144, 3) := dk_180 0 144 (dk_at dksX5_image_3 7 rfl rfl)
theorem dX5_image_79 : decode cX5_image 79 = .ok (.iload_n 1, 1) := dk_27 (dk_at dksX5_image_3 10 rfl rfl)
theorem dX5_image_80 : decode cX5_image 80 = .ok (.aaload, 1) := dk_50 (dk_at dksX5_image_3 11 rfl rfl)
theorem dX5_image_81 : decode cX5_image 81 = .ok (.iconst 0, 1) := dk_3 (dk_at dksX5_image_3 12 rfl rfl)
theorem dX5_image_82 : decode cX5_image 82 = .ok (.bipush 96, 2) := dk_16 96 (dk_at dksX5_image_3 13 rfl rfl)
theorem dX5_image_84 : decode cX5_image 84 = .ok (.invokestatic 471, 3) := dk_184 1 215 (dk_at dksX5_image_3 15 rfl rfl)
theorem dX5_image_87 : decode cX5_image 87 = .ok (.aload_n 0, 1) := dk_42 (dk_at dksX5_image_3 18 rfl rfl)
theorem dX5_image_88 : decode cX5_image 88 = .ok (.getfield 31, 3) := dk_180 0 31 (dk_at dksX5_image_3 19 rfl rfl)
theorem dX5_image_91 : decode cX5_image 91 = .ok (.iload_n 1, 1) := dk_27 (dk_at dksX5_image_3 22 rfl rfl)
theorem dX5_image_92 : decode cX5_image 92 = .ok (.aaload, 1) := dk_50 (dk_at dksX5_image_3 23 rfl rfl)
theorem dX5_image_93 : decode cX5_image 93 = .ok (.iconst 0, 1) := dk_3 (dk_at dksX5_image_4 0 rfl rfl)
theorem dX5_image_94 : decode cX5_image 94 = .ok (.aload_n 0, 1) := dk_42 (dk_at dksX5_image_4 1 rfl rfl)
theorem dX5_image_95 : decode cX5_image 95 = .ok (.getfield 147, 3) := dk_180 0 147 (dk_at dksX5_image_4 2 rfl rfl)
theorem dX5_image_98 : decode cX5_image 98 = .ok (.iload_n 1, 1) := dk_27 (dk_at dksX5_image_4 5 rfl rfl)
theorem dX5_image_99 : decode cX5_image 99 = .ok (.aaload, 1) := dk_50 (dk_at dksX5_image_4 6 rfl rfl)
theorem dX5_image_100 : decode cX5_image 100 = .ok (.iconst 0, 1) := dk_3 (dk_at dksX5_image_4 7 rfl rfl)
theorem dX5_image_101 : decode cX5_image 101 = .ok (.bipush 96, 2) := dk_16 96 (dk_at dksX5_image_4 8 rfl rfl)
theorem dX5_image_103 : decode cX5_image 103 = .ok (.invokestatic 471, 3) := dk_184 1 215 (dk_at dksX5_image_4 10 rfl rfl)
theorem dX5_image_106 : decode cX5_image 106 = .ok (.iinc 1 1, 3) := dk_132 1 1 (dk_at dksX5_image_4 13 rfl rfl)
theorem dX5_image_109 : decode cX5_image 109 = .ok (.goto (-47), 3) := dk_167 255 209 (dk_at dksX5_image_4 16 rfl rfl)
theorem dX5_image_112 : decode cX5_image 112 = .ok (.aload_n 0, 1) := dk_42 (dk_at dksX5_image_4 19 rfl rfl)
theorem dX5_image_113 : decode cX5_image 113 = .ok (.getfield 34, 3) := dk_180 0 34 (dk_at dksX5_image_4 20 rfl rfl)
theorem dX5_image_116 : decode cX5_image 116 = .ok (.iconst 0, 1) := dk_3 (dk_at dksX5_image_4 23 rfl rfl)
theorem dX5_image_117 : decode cX5_image 117 = .ok (.aload_n 0, 1) := dk_42 (dk_at dksX5_image_5 0 rfl rfl)
theorem dX5_image_118 : decode cX5_image 118 = .ok (.getfield 138, 3) := dk_180 0 138 (dk_at dksX5_image_5 1 rfl rfl)
theorem dX5_image_121 : decode cX5_image 121 = .ok (.iconst 0, 1) := dk_3 (dk_at dksX5_image_5 4 rfl rfl)
theorem dX5_image_122 : decode cX5_image 122 = .ok (.bipush 6, 2) := dk_16 6 (dk_at dksX5_image_5 5 rfl rfl)
theorem dX5_image_124 : decode cX5_image 124 = .ok (.invokestatic 471, 3) := dk_184 1 215 (dk_at dksX5_image_5 7 rfl rfl)
theorem dX5_image_127 : decode cX5_image 127 = .ok (.aload_n 0, 1) := dk_42 (dk_at dksX5_image_5 10 rfl rfl)
theorem dX5_image_128 : decode cX5_image 128 = .ok (.getfield 37, 3) := dk_180 0 37 (dk_at dksX5_image_5 11 rfl rfl)
theorem dX5_image_131 : decode cX5_image 131 = .ok (.iconst 0, 1) := dk_3 (dk_at dksX5_image_5 14 rfl rfl)
theorem dX5_image_132 : decode cX5_image 132 = .ok (.aload_n 0, 1) := dk_42 (dk_at dksX5_image_5 15 rfl rfl)
theorem dX5_image_133 : decode cX5_image 133 = .ok (.getfield 150, 3) := dk_180 0 150 (dk_at dksX5_image_5 16 rfl rfl)
theorem dX5_image_136 : decode cX5_image 136 = .ok (.iconst 0, 1) := dk_3 (dk_at dksX5_image_5 19 rfl rfl)
theorem dX5_image_137 : decode cX5_image 137 = .ok (.bipush 6, 2) := dk_16 6 (dk_at dksX5_image_5 20 rfl rfl)
theorem dX5_image_139 : decode cX5_image 139 = .ok (.invokestatic 471, 3) := dk_184 1 215 (dk_at dksX5_image_6 0 rfl rfl)
theorem dX5_image_142 : decode cX5_image 142 = .ok (.aload_n 0, 1) := dk_42 (dk_at dksX5_image_6 3 rfl rfl)
theorem dX5_image_143 : decode cX5_image 143 = .ok (.getfield 40, 3) := dk_180 0 40 (dk_at dksX5_image_6 4 rfl rfl)
theorem dX5_image_146 : decode cX5_image 146 = .ok (.iconst 0, 1) := dk_3 (dk_at dksX5_image_6 7 rfl rfl)
theorem dX5_image_147 : decode cX5_image 147 = .ok (.aload_n 0, 1) := dk_42 (dk_at dksX5_image_6 8 rfl rfl)
theorem dX5_image_148 : decode cX5_image 148 = .ok (.getfield 153, 3) := dk_180 0 153 (dk_at dksX5_image_6 9 rfl rfl)
theorem dX5_image_151 : decode cX5_image 151 = .ok (.iconst 0, 1) := dk_3 (dk_at dksX5_image_6 12 rfl rfl)
theorem dX5_image_152 : decode cX5_image 152 = .ok (.bipush 6, 2) := dk_16 6 (dk_at dksX5_image_6 13 rfl rfl)
theorem dX5_image_154 : decode cX5_image 154 = .ok (.invokestatic 471, 3) := dk_184 1 215 (dk_at dksX5_image_6 15 rfl rfl)
theorem dX5_image_157 : decode cX5_image 157 = .ok (.aload_n 0, 1) := dk_42 (dk_at dksX5_image_6 18 rfl rfl)
theorem dX5_image_158 : decode cX5_image 158 = .ok (.getfield 43, 3) := dk_180 0 43 (dk_at dksX5_image_6 19 rfl rfl)
theorem dX5_image_161 : decode cX5_image 161 = .ok (.iconst 0, 1) := dk_3 (dk_at dksX5_image_6 22 rfl rfl)
theorem dX5_image_162 : decode cX5_image 162 = .ok (.aload_n 0, 1) := dk_42 (dk_at dksX5_image_6 23 rfl rfl)
theorem dX5_image_163 : decode cX5_image 163 = .ok (.getfield 156, 3) := dk_180 0 156 (dk_at dksX5_image_7 0 rfl rfl)
theorem dX5_image_166 : decode cX5_image 166 = .ok (.iconst 0, 1) := dk_3 (dk_at dksX5_image_7 3 rfl rfl)
theorem dX5_image_167 : decode cX5_image 167 = .ok (.bipush 6, 2) := dk_16 6 (dk_at dksX5_image_7 4 rfl rfl)
theorem dX5_image_169 : decode cX5_image 169 = .ok (.invokestatic 471, 3) := dk_184 1 215 (dk_at dksX5_image_7 6 rfl rfl)
theorem dX5_image_172 : decode cX5_image 172 = .ok (.aload_n 0, 1) := dk_42 (dk_at dksX5_image_7 9 rfl rfl)
theorem dX5_image_173 : decode cX5_image 173 = .ok (.getfield 46, 3) := dk_180 0 46 (dk_at dksX5_image_7 10 rfl rfl)
theorem dX5_image_176 : decode cX5_image 176 = .ok (.iconst 0, 1) := dk_3 (dk_at dksX5_image_7 13 rfl rfl)
theorem dX5_image_177 : decode cX5_image 177 = .ok (.aload_n 0, 1) := dk_42 (dk_at dksX5_image_7 14 rfl rfl)
theorem dX5_image_178 : decode cX5_image 178 = .ok (.getfield 159, 3) := dk_180 0 159 (dk_at dksX5_image_7 15 rfl rfl)
theorem dX5_image_181 : decode cX5_image 181 = .ok (.iconst 0, 1) := dk_3 (dk_at dksX5_image_7 18 rfl rfl)
theorem dX5_image_182 : decode cX5_image 182 = .ok (.bipush 12, 2) := dk_16 12 (dk_at dksX5_image_7 19 rfl rfl)
theorem dX5_image_184 : decode cX5_image 184 = .ok (.invokestatic 471, 3) := dk_184 1 215 (dk_at dksX5_image_7 21 rfl rfl)
theorem dX5_image_187 : decode cX5_image 187 = .ok (.iconst 0, 1) := dk_3 (dk_at dksX5_image_8 0 rfl rfl)
theorem dX5_image_188 : decode cX5_image 188 = .ok (.istore_n 1, 1) := dk_60 (dk_at dksX5_image_8 1 rfl rfl)
theorem dX5_image_189 : decode cX5_image 189 = .ok (.iload_n 1, 1) := dk_27 (dk_at dksX5_image_8 2 rfl rfl)
theorem dX5_image_190 : decode cX5_image 190 = .ok (.bipush 12, 2) := dk_16 12 (dk_at dksX5_image_8 3 rfl rfl)
theorem dX5_image_192 : decode cX5_image 192 = .ok (.if_icmp .ge 28, 3) := dk_162 0 28 (dk_at dksX5_image_8 5 rfl rfl)
theorem dX5_image_195 : decode cX5_image 195 = .ok (.aload_n 0, 1) := dk_42 (dk_at dksX5_image_8 8 rfl rfl)
theorem dX5_image_196 : decode cX5_image 196 = .ok (.getfield 49, 3) := dk_180 0 49 (dk_at dksX5_image_8 9 rfl rfl)
theorem dX5_image_199 : decode cX5_image 199 = .ok (.iload_n 1, 1) := dk_27 (dk_at dksX5_image_8 12 rfl rfl)
theorem dX5_image_200 : decode cX5_image 200 = .ok (.aaload, 1) := dk_50 (dk_at dksX5_image_8 13 rfl rfl)
theorem dX5_image_201 : decode cX5_image 201 = .ok (.iconst 0, 1) := dk_3 (dk_at dksX5_image_8 14 rfl rfl)
theorem dX5_image_202 : decode cX5_image 202 = .ok (.aload_n 0, 1) := dk_42 (dk_at dksX5_image_8 15 rfl rfl)
theorem dX5_image_203 : decode cX5_image 203 = .ok (.getfield 162, 3) := dk_180 0 162 (dk_at dksX5_image_8 16 rfl rfl)
theorem dX5_image_206 : decode cX5_image 206 = .ok (.iload_n 1, 1) := dk_27 (dk_at dksX5_image_8 19 rfl rfl)
theorem dX5_image_207 : decode cX5_image 207 = .ok (.aaload, 1) := dk_50 (dk_at dksX5_image_8 20 rfl rfl)
theorem dX5_image_208 : decode cX5_image 208 = .ok (.iconst 0, 1) := dk_3 (dk_at dksX5_image_8 21 rfl rfl)
theorem dX5_image_209 : decode cX5_image 209 = .ok (.bipush 8, 2) := dk_16 8 (dk_at dksX5_image_8 22 rfl rfl)
theorem dX5_image_211 : decode cX5_image 211 = .ok (.invokestatic 471, 3) := dk_184 1 215 (dk_at dksX5_image_9 0 rfl rfl)
theorem dX5_image_214 : decode cX5_image 214 = .ok (.iinc 1 1, 3) := dk_132 1 1 (dk_at dksX5_image_9 3 rfl rfl)
theorem dX5_image_217 : decode cX5_image 217 = .ok (.goto (-28), 3) := dk_167 255 228 (dk_at dksX5_image_9 6 rfl rfl)
theorem dX5_image_220 : decode cX5_image 220 = .ok (.aload_n 0, 1) := dk_42 (dk_at dksX5_image_9 9 rfl rfl)
theorem dX5_image_221 : decode cX5_image 221 = .ok (.iconst 1, 1) := dk_4 (dk_at dksX5_image_9 10 rfl rfl)
theorem dX5_image_222 : decode cX5_image 222 = .ok (.putfield 563, 3) := dk_181 2 51 (dk_at dksX5_image_9 11 rfl rfl)
theorem dX5_image_225 : decode cX5_image 225 = .ok (.aload_n 0, 1) := dk_42 (dk_at dksX5_image_9 14 rfl rfl)
theorem dX5_image_226 : decode cX5_image 226 = .ok (.invokevirtual 566, 3) := dk_182 2 54 (dk_at dksX5_image_9 15 rfl rfl)
theorem dX5_image_229 : decode cX5_image 229 = .ok (.ireturn, 1) := dk_172 (dk_at dksX5_image_9 18 rfl rfl)
abbrev cX5_formulas : ByteArray := prog_35_method_94_code
def yX5_formulas : MethodName := ⟨RX5, "formulas", "()I"⟩
def dkwX5_formulas_1 : List UInt8 := [167, 255, 236, 27, 172]
abbrev dktX5_formulas_1 : List UInt8 := dkwX5_formulas_1 ++ []
def dkwX5_formulas_0 : List UInt8 := [3, 60, 3, 61, 28, 16, 24, 162, 0, 20, 42, 28, 182, 0, 204, 154, 0, 6, 132, 1, 1, 132, 2, 1]
abbrev dktX5_formulas_0 : List UInt8 := dkwX5_formulas_0 ++ dktX5_formulas_1
theorem dksX5_formulas_0 : cX5_formulas.data.toList.drop 0 = dktX5_formulas_0 := by decide +kernel
theorem dksX5_formulas_1 : cX5_formulas.data.toList.drop 24 = dktX5_formulas_1 := dk_seg dksX5_formulas_0 24 rfl rfl
theorem dX5_formulas_0 : decode cX5_formulas 0 = .ok (.iconst 0, 1) := dk_3 (dk_at dksX5_formulas_0 0 rfl rfl)
theorem dX5_formulas_1 : decode cX5_formulas 1 = .ok (.istore_n 1, 1) := dk_60 (dk_at dksX5_formulas_0 1 rfl rfl)
theorem dX5_formulas_2 : decode cX5_formulas 2 = .ok (.iconst 0, 1) := dk_3 (dk_at dksX5_formulas_0 2 rfl rfl)
theorem dX5_formulas_3 : decode cX5_formulas 3 = .ok (.istore_n 2, 1) := dk_61 (dk_at dksX5_formulas_0 3 rfl rfl)
theorem dX5_formulas_4 : decode cX5_formulas 4 = .ok (.iload_n 2, 1) := dk_28 (dk_at dksX5_formulas_0 4 rfl rfl)
theorem dX5_formulas_5 : decode cX5_formulas 5 = .ok (.bipush 24, 2) := dk_16 24 (dk_at dksX5_formulas_0 5 rfl rfl)
theorem dX5_formulas_7 : decode cX5_formulas 7 = .ok (.if_icmp .ge 20, 3) := dk_162 0 20 (dk_at dksX5_formulas_0 7 rfl rfl)
theorem dX5_formulas_10 : decode cX5_formulas 10 = .ok (.aload_n 0, 1) := dk_42 (dk_at dksX5_formulas_0 10 rfl rfl)
theorem dX5_formulas_11 : decode cX5_formulas 11 = .ok (.iload_n 2, 1) := dk_28 (dk_at dksX5_formulas_0 11 rfl rfl)
theorem dX5_formulas_12 : decode cX5_formulas 12 = .ok (.invokevirtual 204, 3) := dk_182 0 204 (dk_at dksX5_formulas_0 12 rfl rfl)
theorem dX5_formulas_15 : decode cX5_formulas 15 = .ok (.ifCond .ne 6, 3) := dk_154 0 6 (dk_at dksX5_formulas_0 15 rfl rfl)
theorem dX5_formulas_18 : decode cX5_formulas 18 = .ok (.iinc 1 1, 3) := dk_132 1 1 (dk_at dksX5_formulas_0 18 rfl rfl)
theorem dX5_formulas_21 : decode cX5_formulas 21 = .ok (.iinc 2 1, 3) := dk_132 2 1 (dk_at dksX5_formulas_0 21 rfl rfl)
theorem dX5_formulas_24 : decode cX5_formulas 24 = .ok (.goto (-20), 3) := dk_167 255 236 (dk_at dksX5_formulas_1 0 rfl rfl)
theorem dX5_formulas_27 : decode cX5_formulas 27 = .ok (.iload_n 1, 1) := dk_27 (dk_at dksX5_formulas_1 3 rfl rfl)
theorem dX5_formulas_28 : decode cX5_formulas 28 = .ok (.ireturn, 1) := dk_172 (dk_at dksX5_formulas_1 4 rfl rfl)
abbrev cX5_back : ByteArray := prog_35_method_96_code
def yX5_back : MethodName := ⟨RX5, "back", "()I"⟩
def dkwX5_back_10 : List UInt8 := [42, 182, 2, 54, 172]
abbrev dktX5_back_10 : List UInt8 := dkwX5_back_10 ++ []
def dkwX5_back_9 : List UInt8 := [180, 0, 162, 27, 50, 3, 42, 180, 0, 49, 27, 50, 3, 16, 8, 184, 1, 215, 132, 1, 1, 167, 255, 228]
abbrev dktX5_back_9 : List UInt8 := dkwX5_back_9 ++ dktX5_back_10
def dkwX5_back_8 : List UInt8 := [180, 0, 159, 3, 42, 180, 0, 46, 3, 16, 12, 184, 1, 215, 3, 60, 27, 16, 12, 162, 0, 28, 42]
abbrev dktX5_back_8 : List UInt8 := dkwX5_back_8 ++ dktX5_back_9
def dkwX5_back_7 : List UInt8 := [3, 16, 6, 184, 1, 215, 42, 180, 0, 156, 3, 42, 180, 0, 43, 3, 16, 6, 184, 1, 215, 42]
abbrev dktX5_back_7 : List UInt8 := dkwX5_back_7 ++ dktX5_back_8
def dkwX5_back_6 : List UInt8 := [42, 180, 0, 150, 3, 42, 180, 0, 37, 3, 16, 6, 184, 1, 215, 42, 180, 0, 153, 3, 42, 180, 0, 40]
abbrev dktX5_back_6 : List UInt8 := dkwX5_back_6 ++ dktX5_back_7
def dkwX5_back_5 : List UInt8 := [182, 1, 64, 132, 1, 1, 167, 255, 204, 42, 180, 0, 138, 3, 42, 180, 0, 34, 3, 16, 6, 184, 1, 215]
abbrev dktX5_back_5 : List UInt8 := dkwX5_back_5 ++ dktX5_back_6
def dkwX5_back_4 : List UInt8 := [184, 1, 215, 42, 180, 0, 147, 27, 50, 3, 42, 180, 0, 31, 27, 50, 3, 16, 96, 184, 1, 215, 42, 27]
abbrev dktX5_back_4 : List UInt8 := dkwX5_back_4 ++ dktX5_back_5
def dkwX5_back_3 : List UInt8 := [3, 60, 27, 16, 24, 162, 0, 52, 42, 180, 0, 144, 27, 50, 3, 42, 180, 0, 26, 27, 50, 3, 16, 96]
abbrev dktX5_back_3 : List UInt8 := dkwX5_back_3 ++ dktX5_back_4
def dkwX5_back_2 : List UInt8 := [180, 0, 13, 3, 16, 24, 184, 1, 215, 42, 180, 0, 141, 3, 42, 180, 0, 17, 3, 16, 24, 184, 1, 215]
abbrev dktX5_back_2 : List UInt8 := dkwX5_back_2 ++ dktX5_back_3
def dkwX5_back_1 : List UInt8 := [184, 1, 215, 42, 180, 0, 132, 3, 42, 180, 0, 21, 3, 16, 24, 184, 1, 215, 42, 180, 0, 135, 3, 42]
abbrev dktX5_back_1 : List UInt8 := dkwX5_back_1 ++ dktX5_back_2
def dkwX5_back_0 : List UInt8 := [42, 180, 2, 51, 154, 0, 6, 16, 253, 172, 42, 180, 0, 129, 3, 42, 180, 0, 9, 3, 16, 24]
abbrev dktX5_back_0 : List UInt8 := dkwX5_back_0 ++ dktX5_back_1
theorem dksX5_back_0 : cX5_back.data.toList.drop 0 = dktX5_back_0 := by decide +kernel
theorem dksX5_back_1 : cX5_back.data.toList.drop 22 = dktX5_back_1 := dk_seg dksX5_back_0 22 rfl rfl
theorem dksX5_back_2 : cX5_back.data.toList.drop 46 = dktX5_back_2 := dk_seg dksX5_back_1 24 rfl rfl
theorem dksX5_back_3 : cX5_back.data.toList.drop 70 = dktX5_back_3 := dk_seg dksX5_back_2 24 rfl rfl
theorem dksX5_back_4 : cX5_back.data.toList.drop 94 = dktX5_back_4 := dk_seg dksX5_back_3 24 rfl rfl
theorem dksX5_back_5 : cX5_back.data.toList.drop 118 = dktX5_back_5 := dk_seg dksX5_back_4 24 rfl rfl
theorem dksX5_back_6 : cX5_back.data.toList.drop 142 = dktX5_back_6 := dk_seg dksX5_back_5 24 rfl rfl
theorem dksX5_back_7 : cX5_back.data.toList.drop 166 = dktX5_back_7 := dk_seg dksX5_back_6 24 rfl rfl
theorem dksX5_back_8 : cX5_back.data.toList.drop 188 = dktX5_back_8 := dk_seg dksX5_back_7 22 rfl rfl
theorem dksX5_back_9 : cX5_back.data.toList.drop 211 = dktX5_back_9 := dk_seg dksX5_back_8 23 rfl rfl
theorem dksX5_back_10 : cX5_back.data.toList.drop 235 = dktX5_back_10 := dk_seg dksX5_back_9 24 rfl rfl
theorem dX5_back_0 : decode cX5_back 0 = .ok (.aload_n 0, 1) := dk_42 (dk_at dksX5_back_0 0 rfl rfl)
theorem dX5_back_1 : decode cX5_back 1 = .ok (.getfield 563, 3) := dk_180 2 51 (dk_at dksX5_back_0 1 rfl rfl)
theorem dX5_back_4 : decode cX5_back 4 = .ok (.ifCond .ne 6, 3) := dk_154 0 6 (dk_at dksX5_back_0 4 rfl rfl)
theorem dX5_back_7 : decode cX5_back 7 = .ok (.bipush (-3), 2) := dk_16 253 (dk_at dksX5_back_0 7 rfl rfl)
theorem dX5_back_9 : decode cX5_back 9 = .ok (.ireturn, 1) := dk_172 (dk_at dksX5_back_0 9 rfl rfl)
theorem dX5_back_10 : decode cX5_back 10 = .ok (.aload_n 0, 1) := dk_42 (dk_at dksX5_back_0 10 rfl rfl)
theorem dX5_back_11 : decode cX5_back 11 = .ok (.getfield 129, 3) := dk_180 0 129 (dk_at dksX5_back_0 11 rfl rfl)
theorem dX5_back_14 : decode cX5_back 14 = .ok (.iconst 0, 1) := dk_3 (dk_at dksX5_back_0 14 rfl rfl)
theorem dX5_back_15 : decode cX5_back 15 = .ok (.aload_n 0, 1) := dk_42 (dk_at dksX5_back_0 15 rfl rfl)
theorem dX5_back_16 : decode cX5_back 16 = .ok (.getfield 9, 3) := dk_180 0 9 (dk_at dksX5_back_0 16 rfl rfl)
theorem dX5_back_19 : decode cX5_back 19 = .ok (.iconst 0, 1) := dk_3 (dk_at dksX5_back_0 19 rfl rfl)
theorem dX5_back_20 : decode cX5_back 20 = .ok (.bipush 24, 2) := dk_16 24 (dk_at dksX5_back_0 20 rfl rfl)
theorem dX5_back_22 : decode cX5_back 22 = .ok (.invokestatic 471, 3) := dk_184 1 215 (dk_at dksX5_back_1 0 rfl rfl)
theorem dX5_back_25 : decode cX5_back 25 = .ok (.aload_n 0, 1) := dk_42 (dk_at dksX5_back_1 3 rfl rfl)
theorem dX5_back_26 : decode cX5_back 26 = .ok (.getfield 132, 3) := dk_180 0 132 (dk_at dksX5_back_1 4 rfl rfl)
theorem dX5_back_29 : decode cX5_back 29 = .ok (.iconst 0, 1) := dk_3 (dk_at dksX5_back_1 7 rfl rfl)
theorem dX5_back_30 : decode cX5_back 30 = .ok (.aload_n 0, 1) := dk_42 (dk_at dksX5_back_1 8 rfl rfl)
theorem dX5_back_31 : decode cX5_back 31 = .ok (.getfield 21, 3) := dk_180 0 21 (dk_at dksX5_back_1 9 rfl rfl)
theorem dX5_back_34 : decode cX5_back 34 = .ok (.iconst 0, 1) := dk_3 (dk_at dksX5_back_1 12 rfl rfl)
theorem dX5_back_35 : decode cX5_back 35 = .ok (.bipush 24, 2) := dk_16 24 (dk_at dksX5_back_1 13 rfl rfl)
theorem dX5_back_37 : decode cX5_back 37 = .ok (.invokestatic 471, 3) := dk_184 1 215 (dk_at dksX5_back_1 15 rfl rfl)
theorem dX5_back_40 : decode cX5_back 40 = .ok (.aload_n 0, 1) := dk_42 (dk_at dksX5_back_1 18 rfl rfl)
theorem dX5_back_41 : decode cX5_back 41 = .ok (.getfield 135, 3) := dk_180 0 135 (dk_at dksX5_back_1 19 rfl rfl)
theorem dX5_back_44 : decode cX5_back 44 = .ok (.iconst 0, 1) := dk_3 (dk_at dksX5_back_1 22 rfl rfl)
theorem dX5_back_45 : decode cX5_back 45 = .ok (.aload_n 0, 1) := dk_42 (dk_at dksX5_back_1 23 rfl rfl)
theorem dX5_back_46 : decode cX5_back 46 = .ok (.getfield 13, 3) := dk_180 0 13 (dk_at dksX5_back_2 0 rfl rfl)
theorem dX5_back_49 : decode cX5_back 49 = .ok (.iconst 0, 1) := dk_3 (dk_at dksX5_back_2 3 rfl rfl)
theorem dX5_back_50 : decode cX5_back 50 = .ok (.bipush 24, 2) := dk_16 24 (dk_at dksX5_back_2 4 rfl rfl)
theorem dX5_back_52 : decode cX5_back 52 = .ok (.invokestatic 471, 3) := dk_184 1 215 (dk_at dksX5_back_2 6 rfl rfl)
theorem dX5_back_55 : decode cX5_back 55 = .ok (.aload_n 0, 1) := dk_42 (dk_at dksX5_back_2 9 rfl rfl)
theorem dX5_back_56 : decode cX5_back 56 = .ok (.getfield 141, 3) := dk_180 0 141 (dk_at dksX5_back_2 10 rfl rfl)
theorem dX5_back_59 : decode cX5_back 59 = .ok (.iconst 0, 1) := dk_3 (dk_at dksX5_back_2 13 rfl rfl)
theorem dX5_back_60 : decode cX5_back 60 = .ok (.aload_n 0, 1) := dk_42 (dk_at dksX5_back_2 14 rfl rfl)
theorem dX5_back_61 : decode cX5_back 61 = .ok (.getfield 17, 3) := dk_180 0 17 (dk_at dksX5_back_2 15 rfl rfl)
theorem dX5_back_64 : decode cX5_back 64 = .ok (.iconst 0, 1) := dk_3 (dk_at dksX5_back_2 18 rfl rfl)
theorem dX5_back_65 : decode cX5_back 65 = .ok (.bipush 24, 2) := dk_16 24 (dk_at dksX5_back_2 19 rfl rfl)
theorem dX5_back_67 : decode cX5_back 67 = .ok (.invokestatic 471, 3) := dk_184 1 215 (dk_at dksX5_back_2 21 rfl rfl)
theorem dX5_back_70 : decode cX5_back 70 = .ok (.iconst 0, 1) := dk_3 (dk_at dksX5_back_3 0 rfl rfl)
theorem dX5_back_71 : decode cX5_back 71 = .ok (.istore_n 1, 1) := dk_60 (dk_at dksX5_back_3 1 rfl rfl)
theorem dX5_back_72 : decode cX5_back 72 = .ok (.iload_n 1, 1) := dk_27 (dk_at dksX5_back_3 2 rfl rfl)
theorem dX5_back_73 : decode cX5_back 73 = .ok (.bipush 24, 2) := dk_16 24 (dk_at dksX5_back_3 3 rfl rfl)
theorem dX5_back_75 : decode cX5_back 75 = .ok (.if_icmp .ge 52, 3) := dk_162 0 52 (dk_at dksX5_back_3 5 rfl rfl)
theorem dX5_back_78 : decode cX5_back 78 = .ok (.aload_n 0, 1) := dk_42 (dk_at dksX5_back_3 8 rfl rfl)
theorem dX5_back_79 : decode cX5_back 79 = .ok (.getfield 144, 3) := dk_180 0 144 (dk_at dksX5_back_3 9 rfl rfl)
theorem dX5_back_82 : decode cX5_back 82 = .ok (.iload_n 1, 1) := dk_27 (dk_at dksX5_back_3 12 rfl rfl)
theorem dX5_back_83 : decode cX5_back 83 = .ok (.aaload, 1) := dk_50 (dk_at dksX5_back_3 13 rfl rfl)
theorem dX5_back_84 : decode cX5_back 84 = .ok (.iconst 0, 1) := dk_3 (dk_at dksX5_back_3 14 rfl rfl)
theorem dX5_back_85 : decode cX5_back 85 = .ok (.aload_n 0, 1) := dk_42 (dk_at dksX5_back_3 15 rfl rfl)
theorem dX5_back_86 : decode cX5_back 86 = .ok (.getfield 26, 3) := dk_180 0 26 (dk_at dksX5_back_3 16 rfl rfl)
theorem dX5_back_89 : decode cX5_back 89 = .ok (.iload_n 1, 1) := dk_27 (dk_at dksX5_back_3 19 rfl rfl)
theorem dX5_back_90 : decode cX5_back 90 = .ok (.aaload, 1) := dk_50 (dk_at dksX5_back_3 20 rfl rfl)
theorem dX5_back_91 : decode cX5_back 91 = .ok (.iconst 0, 1) := dk_3 (dk_at dksX5_back_3 21 rfl rfl)
theorem dX5_back_92 : decode cX5_back 92 = .ok (.bipush 96, 2) := dk_16 96 (dk_at dksX5_back_3 22 rfl rfl)
theorem dX5_back_94 : decode cX5_back 94 = .ok (.invokestatic 471, 3) := dk_184 1 215 (dk_at dksX5_back_4 0 rfl rfl)
theorem dX5_back_97 : decode cX5_back 97 = .ok (.aload_n 0, 1) := dk_42 (dk_at dksX5_back_4 3 rfl rfl)
theorem dX5_back_98 : decode cX5_back 98 = .ok (.getfield 147, 3) := dk_180 0 147 (dk_at dksX5_back_4 4 rfl rfl)
theorem dX5_back_101 : decode cX5_back 101 = .ok (.iload_n 1, 1) := dk_27 (dk_at dksX5_back_4 7 rfl rfl)
theorem dX5_back_102 : decode cX5_back 102 = .ok (.aaload, 1) := dk_50 (dk_at dksX5_back_4 8 rfl rfl)
theorem dX5_back_103 : decode cX5_back 103 = .ok (.iconst 0, 1) := dk_3 (dk_at dksX5_back_4 9 rfl rfl)
theorem dX5_back_104 : decode cX5_back 104 = .ok (.aload_n 0, 1) := dk_42 (dk_at dksX5_back_4 10 rfl rfl)
theorem dX5_back_105 : decode cX5_back 105 = .ok (.getfield 31, 3) := dk_180 0 31 (dk_at dksX5_back_4 11 rfl rfl)
theorem dX5_back_108 : decode cX5_back 108 = .ok (.iload_n 1, 1) := dk_27 (dk_at dksX5_back_4 14 rfl rfl)
theorem dX5_back_109 : decode cX5_back 109 = .ok (.aaload, 1) := dk_50 (dk_at dksX5_back_4 15 rfl rfl)
theorem dX5_back_110 : decode cX5_back 110 = .ok (.iconst 0, 1) := dk_3 (dk_at dksX5_back_4 16 rfl rfl)
theorem dX5_back_111 : decode cX5_back 111 = .ok (.bipush 96, 2) := dk_16 96 (dk_at dksX5_back_4 17 rfl rfl)
theorem dX5_back_113 : decode cX5_back 113 = .ok (.invokestatic 471, 3) := dk_184 1 215 (dk_at dksX5_back_4 19 rfl rfl)
theorem dX5_back_116 : decode cX5_back 116 = .ok (.aload_n 0, 1) := dk_42 (dk_at dksX5_back_4 22 rfl rfl)
theorem dX5_back_117 : decode cX5_back 117 = .ok (.iload_n 1, 1) := dk_27 (dk_at dksX5_back_4 23 rfl rfl)
theorem dX5_back_118 : decode cX5_back 118 = .ok (.invokevirtual 320, 3) := dk_182 1 64 (dk_at dksX5_back_5 0 rfl rfl)
theorem dX5_back_121 : decode cX5_back 121 = .ok (.iinc 1 1, 3) := dk_132 1 1 (dk_at dksX5_back_5 3 rfl rfl)
theorem dX5_back_124 : decode cX5_back 124 = .ok (.goto (-52), 3) := dk_167 255 204 (dk_at dksX5_back_5 6 rfl rfl)
theorem dX5_back_127 : decode cX5_back 127 = .ok (.aload_n 0, 1) := dk_42 (dk_at dksX5_back_5 9 rfl rfl)
theorem dX5_back_128 : decode cX5_back 128 = .ok (.getfield 138, 3) := dk_180 0 138 (dk_at dksX5_back_5 10 rfl rfl)
theorem dX5_back_131 : decode cX5_back 131 = .ok (.iconst 0, 1) := dk_3 (dk_at dksX5_back_5 13 rfl rfl)
theorem dX5_back_132 : decode cX5_back 132 = .ok (.aload_n 0, 1) := dk_42 (dk_at dksX5_back_5 14 rfl rfl)
theorem dX5_back_133 : decode cX5_back 133 = .ok (.getfield 34, 3) := dk_180 0 34 (dk_at dksX5_back_5 15 rfl rfl)
theorem dX5_back_136 : decode cX5_back 136 = .ok (.iconst 0, 1) := dk_3 (dk_at dksX5_back_5 18 rfl rfl)
theorem dX5_back_137 : decode cX5_back 137 = .ok (.bipush 6, 2) := dk_16 6 (dk_at dksX5_back_5 19 rfl rfl)
theorem dX5_back_139 : decode cX5_back 139 = .ok (.invokestatic 471, 3) := dk_184 1 215 (dk_at dksX5_back_5 21 rfl rfl)
theorem dX5_back_142 : decode cX5_back 142 = .ok (.aload_n 0, 1) := dk_42 (dk_at dksX5_back_6 0 rfl rfl)
theorem dX5_back_143 : decode cX5_back 143 = .ok (.getfield 150, 3) := dk_180 0 150 (dk_at dksX5_back_6 1 rfl rfl)
theorem dX5_back_146 : decode cX5_back 146 = .ok (.iconst 0, 1) := dk_3 (dk_at dksX5_back_6 4 rfl rfl)
theorem dX5_back_147 : decode cX5_back 147 = .ok (.aload_n 0, 1) := dk_42 (dk_at dksX5_back_6 5 rfl rfl)
theorem dX5_back_148 : decode cX5_back 148 = .ok (.getfield 37, 3) := dk_180 0 37 (dk_at dksX5_back_6 6 rfl rfl)
theorem dX5_back_151 : decode cX5_back 151 = .ok (.iconst 0, 1) := dk_3 (dk_at dksX5_back_6 9 rfl rfl)
theorem dX5_back_152 : decode cX5_back 152 = .ok (.bipush 6, 2) := dk_16 6 (dk_at dksX5_back_6 10 rfl rfl)
theorem dX5_back_154 : decode cX5_back 154 = .ok (.invokestatic 471, 3) := dk_184 1 215 (dk_at dksX5_back_6 12 rfl rfl)
theorem dX5_back_157 : decode cX5_back 157 = .ok (.aload_n 0, 1) := dk_42 (dk_at dksX5_back_6 15 rfl rfl)
theorem dX5_back_158 : decode cX5_back 158 = .ok (.getfield 153, 3) := dk_180 0 153 (dk_at dksX5_back_6 16 rfl rfl)
theorem dX5_back_161 : decode cX5_back 161 = .ok (.iconst 0, 1) := dk_3 (dk_at dksX5_back_6 19 rfl rfl)
theorem dX5_back_162 : decode cX5_back 162 = .ok (.aload_n 0, 1) := dk_42 (dk_at dksX5_back_6 20 rfl rfl)
theorem dX5_back_163 : decode cX5_back 163 = .ok (.getfield 40, 3) := dk_180 0 40 (dk_at dksX5_back_6 21 rfl rfl)
theorem dX5_back_166 : decode cX5_back 166 = .ok (.iconst 0, 1) := dk_3 (dk_at dksX5_back_7 0 rfl rfl)
theorem dX5_back_167 : decode cX5_back 167 = .ok (.bipush 6, 2) := dk_16 6 (dk_at dksX5_back_7 1 rfl rfl)
theorem dX5_back_169 : decode cX5_back 169 = .ok (.invokestatic 471, 3) := dk_184 1 215 (dk_at dksX5_back_7 3 rfl rfl)
theorem dX5_back_172 : decode cX5_back 172 = .ok (.aload_n 0, 1) := dk_42 (dk_at dksX5_back_7 6 rfl rfl)
theorem dX5_back_173 : decode cX5_back 173 = .ok (.getfield 156, 3) := dk_180 0 156 (dk_at dksX5_back_7 7 rfl rfl)
theorem dX5_back_176 : decode cX5_back 176 = .ok (.iconst 0, 1) := dk_3 (dk_at dksX5_back_7 10 rfl rfl)
theorem dX5_back_177 : decode cX5_back 177 = .ok (.aload_n 0, 1) := dk_42 (dk_at dksX5_back_7 11 rfl rfl)
theorem dX5_back_178 : decode cX5_back 178 = .ok (.getfield 43, 3) := dk_180 0 43 (dk_at dksX5_back_7 12 rfl rfl)
theorem dX5_back_181 : decode cX5_back 181 = .ok (.iconst 0, 1) := dk_3 (dk_at dksX5_back_7 15 rfl rfl)
theorem dX5_back_182 : decode cX5_back 182 = .ok (.bipush 6, 2) := dk_16 6 (dk_at dksX5_back_7 16 rfl rfl)
theorem dX5_back_184 : decode cX5_back 184 = .ok (.invokestatic 471, 3) := dk_184 1 215 (dk_at dksX5_back_7 18 rfl rfl)
theorem dX5_back_187 : decode cX5_back 187 = .ok (.aload_n 0, 1) := dk_42 (dk_at dksX5_back_7 21 rfl rfl)
theorem dX5_back_188 : decode cX5_back 188 = .ok (.getfield 159, 3) := dk_180 0 159 (dk_at dksX5_back_8 0 rfl rfl)
theorem dX5_back_191 : decode cX5_back 191 = .ok (.iconst 0, 1) := dk_3 (dk_at dksX5_back_8 3 rfl rfl)
theorem dX5_back_192 : decode cX5_back 192 = .ok (.aload_n 0, 1) := dk_42 (dk_at dksX5_back_8 4 rfl rfl)
theorem dX5_back_193 : decode cX5_back 193 = .ok (.getfield 46, 3) := dk_180 0 46 (dk_at dksX5_back_8 5 rfl rfl)
theorem dX5_back_196 : decode cX5_back 196 = .ok (.iconst 0, 1) := dk_3 (dk_at dksX5_back_8 8 rfl rfl)
theorem dX5_back_197 : decode cX5_back 197 = .ok (.bipush 12, 2) := dk_16 12 (dk_at dksX5_back_8 9 rfl rfl)
theorem dX5_back_199 : decode cX5_back 199 = .ok (.invokestatic 471, 3) := dk_184 1 215 (dk_at dksX5_back_8 11 rfl rfl)
theorem dX5_back_202 : decode cX5_back 202 = .ok (.iconst 0, 1) := dk_3 (dk_at dksX5_back_8 14 rfl rfl)
theorem dX5_back_203 : decode cX5_back 203 = .ok (.istore_n 1, 1) := dk_60 (dk_at dksX5_back_8 15 rfl rfl)
theorem dX5_back_204 : decode cX5_back 204 = .ok (.iload_n 1, 1) := dk_27 (dk_at dksX5_back_8 16 rfl rfl)
theorem dX5_back_205 : decode cX5_back 205 = .ok (.bipush 12, 2) := dk_16 12 (dk_at dksX5_back_8 17 rfl rfl)
theorem dX5_back_207 : decode cX5_back 207 = .ok (.if_icmp .ge 28, 3) := dk_162 0 28 (dk_at dksX5_back_8 19 rfl rfl)
theorem dX5_back_210 : decode cX5_back 210 = .ok (.aload_n 0, 1) := dk_42 (dk_at dksX5_back_8 22 rfl rfl)
theorem dX5_back_211 : decode cX5_back 211 = .ok (.getfield 162, 3) := dk_180 0 162 (dk_at dksX5_back_9 0 rfl rfl)
theorem dX5_back_214 : decode cX5_back 214 = .ok (.iload_n 1, 1) := dk_27 (dk_at dksX5_back_9 3 rfl rfl)
theorem dX5_back_215 : decode cX5_back 215 = .ok (.aaload, 1) := dk_50 (dk_at dksX5_back_9 4 rfl rfl)
theorem dX5_back_216 : decode cX5_back 216 = .ok (.iconst 0, 1) := dk_3 (dk_at dksX5_back_9 5 rfl rfl)
theorem dX5_back_217 : decode cX5_back 217 = .ok (.aload_n 0, 1) := dk_42 (dk_at dksX5_back_9 6 rfl rfl)
theorem dX5_back_218 : decode cX5_back 218 = .ok (.getfield 49, 3) := dk_180 0 49 (dk_at dksX5_back_9 7 rfl rfl)
theorem dX5_back_221 : decode cX5_back 221 = .ok (.iload_n 1, 1) := dk_27 (dk_at dksX5_back_9 10 rfl rfl)
theorem dX5_back_222 : decode cX5_back 222 = .ok (.aaload, 1) := dk_50 (dk_at dksX5_back_9 11 rfl rfl)
theorem dX5_back_223 : decode cX5_back 223 = .ok (.iconst 0, 1) := dk_3 (dk_at dksX5_back_9 12 rfl rfl)
theorem dX5_back_224 : decode cX5_back 224 = .ok (.bipush 8, 2) := dk_16 8 (dk_at dksX5_back_9 13 rfl rfl)
theorem dX5_back_226 : decode cX5_back 226 = .ok (.invokestatic 471, 3) := dk_184 1 215 (dk_at dksX5_back_9 15 rfl rfl)
theorem dX5_back_229 : decode cX5_back 229 = .ok (.iinc 1 1, 3) := dk_132 1 1 (dk_at dksX5_back_9 18 rfl rfl)
theorem dX5_back_232 : decode cX5_back 232 = .ok (.goto (-28), 3) := dk_167 255 228 (dk_at dksX5_back_9 21 rfl rfl)
theorem dX5_back_235 : decode cX5_back 235 = .ok (.aload_n 0, 1) := dk_42 (dk_at dksX5_back_10 0 rfl rfl)
theorem dX5_back_236 : decode cX5_back 236 = .ok (.invokevirtual 566, 3) := dk_182 2 54 (dk_at dksX5_back_10 1 rfl rfl)
theorem dX5_back_239 : decode cX5_back 239 = .ok (.ireturn, 1) := dk_172 (dk_at dksX5_back_10 4 rfl rfl)
abbrev cX5_count : ByteArray := prog_35_method_97_code
def yX5_count : MethodName := ⟨RX5, "count", "(I)I"⟩
def dkwX5_count_4 : List UInt8 := [167, 255, 235, 28, 172]
abbrev dktX5_count_4 : List UInt8 := dkwX5_count_4 ++ []
def dkwX5_count_3 : List UInt8 := [62, 29, 16, 6, 162, 0, 21, 42, 180, 0, 34, 29, 51, 153, 0, 6, 132, 2, 1, 132, 3, 1]
abbrev dktX5_count_3 : List UInt8 := dkwX5_count_3 ++ dktX5_count_4
def dkwX5_count_2 : List UInt8 := [51, 153, 0, 6, 132, 2, 1, 132, 3, 1, 167, 255, 227, 28, 172, 27, 5, 159, 0, 6, 16, 254, 172, 3]
abbrev dktX5_count_2 : List UInt8 := dkwX5_count_2 ++ dktX5_count_3
def dkwX5_count_1 : List UInt8 := [160, 0, 39, 3, 62, 29, 16, 24, 162, 0, 29, 42, 29, 182, 0, 204, 153, 0, 15, 42, 180, 0, 13, 29]
abbrev dktX5_count_1 : List UInt8 := dkwX5_count_1 ++ dktX5_count_2
def dkwX5_count_0 : List UInt8 := [3, 61, 27, 154, 0, 8, 42, 182, 2, 54, 172, 27, 6, 160, 0, 8, 42, 180, 1, 92, 172, 27, 4]
abbrev dktX5_count_0 : List UInt8 := dkwX5_count_0 ++ dktX5_count_1
theorem dksX5_count_0 : cX5_count.data.toList.drop 0 = dktX5_count_0 := by decide +kernel
theorem dksX5_count_1 : cX5_count.data.toList.drop 23 = dktX5_count_1 := dk_seg dksX5_count_0 23 rfl rfl
theorem dksX5_count_2 : cX5_count.data.toList.drop 47 = dktX5_count_2 := dk_seg dksX5_count_1 24 rfl rfl
theorem dksX5_count_3 : cX5_count.data.toList.drop 71 = dktX5_count_3 := dk_seg dksX5_count_2 24 rfl rfl
theorem dksX5_count_4 : cX5_count.data.toList.drop 93 = dktX5_count_4 := dk_seg dksX5_count_3 22 rfl rfl
theorem dX5_count_0 : decode cX5_count 0 = .ok (.iconst 0, 1) := dk_3 (dk_at dksX5_count_0 0 rfl rfl)
theorem dX5_count_1 : decode cX5_count 1 = .ok (.istore_n 2, 1) := dk_61 (dk_at dksX5_count_0 1 rfl rfl)
theorem dX5_count_2 : decode cX5_count 2 = .ok (.iload_n 1, 1) := dk_27 (dk_at dksX5_count_0 2 rfl rfl)
theorem dX5_count_3 : decode cX5_count 3 = .ok (.ifCond .ne 8, 3) := dk_154 0 8 (dk_at dksX5_count_0 3 rfl rfl)
theorem dX5_count_6 : decode cX5_count 6 = .ok (.aload_n 0, 1) := dk_42 (dk_at dksX5_count_0 6 rfl rfl)
theorem dX5_count_7 : decode cX5_count 7 = .ok (.invokevirtual 566, 3) := dk_182 2 54 (dk_at dksX5_count_0 7 rfl rfl)
theorem dX5_count_10 : decode cX5_count 10 = .ok (.ireturn, 1) := dk_172 (dk_at dksX5_count_0 10 rfl rfl)
theorem dX5_count_11 : decode cX5_count 11 = .ok (.iload_n 1, 1) := dk_27 (dk_at dksX5_count_0 11 rfl rfl)
theorem dX5_count_12 : decode cX5_count 12 = .ok (.iconst 3, 1) := dk_6 (dk_at dksX5_count_0 12 rfl rfl)
theorem dX5_count_13 : decode cX5_count 13 = .ok (.if_icmp .ne 8, 3) := dk_160 0 8 (dk_at dksX5_count_0 13 rfl rfl)
theorem dX5_count_16 : decode cX5_count 16 = .ok (.aload_n 0, 1) := dk_42 (dk_at dksX5_count_0 16 rfl rfl)
theorem dX5_count_17 : decode cX5_count 17 = .ok (.getfield 348, 3) := dk_180 1 92 (dk_at dksX5_count_0 17 rfl rfl)
theorem dX5_count_20 : decode cX5_count 20 = .ok (.ireturn, 1) := dk_172 (dk_at dksX5_count_0 20 rfl rfl)
theorem dX5_count_21 : decode cX5_count 21 = .ok (.iload_n 1, 1) := dk_27 (dk_at dksX5_count_0 21 rfl rfl)
theorem dX5_count_22 : decode cX5_count 22 = .ok (.iconst 1, 1) := dk_4 (dk_at dksX5_count_0 22 rfl rfl)
theorem dX5_count_23 : decode cX5_count 23 = .ok (.if_icmp .ne 39, 3) := dk_160 0 39 (dk_at dksX5_count_1 0 rfl rfl)
theorem dX5_count_26 : decode cX5_count 26 = .ok (.iconst 0, 1) := dk_3 (dk_at dksX5_count_1 3 rfl rfl)
theorem dX5_count_27 : decode cX5_count 27 = .ok (.istore_n 3, 1) := dk_62 (dk_at dksX5_count_1 4 rfl rfl)
theorem dX5_count_28 : decode cX5_count 28 = .ok (.iload_n 3, 1) := dk_29 (dk_at dksX5_count_1 5 rfl rfl)
theorem dX5_count_29 : decode cX5_count 29 = .ok (.bipush 24, 2) := dk_16 24 (dk_at dksX5_count_1 6 rfl rfl)
theorem dX5_count_31 : decode cX5_count 31 = .ok (.if_icmp .ge 29, 3) := dk_162 0 29 (dk_at dksX5_count_1 8 rfl rfl)
theorem dX5_count_34 : decode cX5_count 34 = .ok (.aload_n 0, 1) := dk_42 (dk_at dksX5_count_1 11 rfl rfl)
theorem dX5_count_35 : decode cX5_count 35 = .ok (.iload_n 3, 1) := dk_29 (dk_at dksX5_count_1 12 rfl rfl)
theorem dX5_count_36 : decode cX5_count 36 = .ok (.invokevirtual 204, 3) := dk_182 0 204 (dk_at dksX5_count_1 13 rfl rfl)
theorem dX5_count_39 : decode cX5_count 39 = .ok (.ifCond .eq 15, 3) := dk_153 0 15 (dk_at dksX5_count_1 16 rfl rfl)
theorem dX5_count_42 : decode cX5_count 42 = .ok (.aload_n 0, 1) := dk_42 (dk_at dksX5_count_1 19 rfl rfl)
theorem dX5_count_43 : decode cX5_count 43 = .ok (.getfield 13, 3) := dk_180 0 13 (dk_at dksX5_count_1 20 rfl rfl)
theorem dX5_count_46 : decode cX5_count 46 = .ok (.iload_n 3, 1) := dk_29 (dk_at dksX5_count_1 23 rfl rfl)
theorem dX5_count_47 : decode cX5_count 47 = .ok (.baload, 1) := dk_51 (dk_at dksX5_count_2 0 rfl rfl)
theorem dX5_count_48 : decode cX5_count 48 = .ok (.ifCond .eq 6, 3) := dk_153 0 6 (dk_at dksX5_count_2 1 rfl rfl)
theorem dX5_count_51 : decode cX5_count 51 = .ok (.iinc 2 1, 3) := dk_132 2 1 (dk_at dksX5_count_2 4 rfl rfl)
theorem dX5_count_54 : decode cX5_count 54 = .ok (.iinc 3 1, 3) := dk_132 3 1 (dk_at dksX5_count_2 7 rfl rfl)
theorem dX5_count_57 : decode cX5_count 57 = .ok (.goto (-29), 3) := dk_167 255 227 (dk_at dksX5_count_2 10 rfl rfl)
theorem dX5_count_60 : decode cX5_count 60 = .ok (.iload_n 2, 1) := dk_28 (dk_at dksX5_count_2 13 rfl rfl)
theorem dX5_count_61 : decode cX5_count 61 = .ok (.ireturn, 1) := dk_172 (dk_at dksX5_count_2 14 rfl rfl)
theorem dX5_count_62 : decode cX5_count 62 = .ok (.iload_n 1, 1) := dk_27 (dk_at dksX5_count_2 15 rfl rfl)
theorem dX5_count_63 : decode cX5_count 63 = .ok (.iconst 2, 1) := dk_5 (dk_at dksX5_count_2 16 rfl rfl)
theorem dX5_count_64 : decode cX5_count 64 = .ok (.if_icmp .eq 6, 3) := dk_159 0 6 (dk_at dksX5_count_2 17 rfl rfl)
theorem dX5_count_67 : decode cX5_count 67 = .ok (.bipush (-2), 2) := dk_16 254 (dk_at dksX5_count_2 20 rfl rfl)
theorem dX5_count_69 : decode cX5_count 69 = .ok (.ireturn, 1) := dk_172 (dk_at dksX5_count_2 22 rfl rfl)
theorem dX5_count_70 : decode cX5_count 70 = .ok (.iconst 0, 1) := dk_3 (dk_at dksX5_count_2 23 rfl rfl)
theorem dX5_count_71 : decode cX5_count 71 = .ok (.istore_n 3, 1) := dk_62 (dk_at dksX5_count_3 0 rfl rfl)
theorem dX5_count_72 : decode cX5_count 72 = .ok (.iload_n 3, 1) := dk_29 (dk_at dksX5_count_3 1 rfl rfl)
theorem dX5_count_73 : decode cX5_count 73 = .ok (.bipush 6, 2) := dk_16 6 (dk_at dksX5_count_3 2 rfl rfl)
theorem dX5_count_75 : decode cX5_count 75 = .ok (.if_icmp .ge 21, 3) := dk_162 0 21 (dk_at dksX5_count_3 4 rfl rfl)
theorem dX5_count_78 : decode cX5_count 78 = .ok (.aload_n 0, 1) := dk_42 (dk_at dksX5_count_3 7 rfl rfl)
theorem dX5_count_79 : decode cX5_count 79 = .ok (.getfield 34, 3) := dk_180 0 34 (dk_at dksX5_count_3 8 rfl rfl)
theorem dX5_count_82 : decode cX5_count 82 = .ok (.iload_n 3, 1) := dk_29 (dk_at dksX5_count_3 11 rfl rfl)
theorem dX5_count_83 : decode cX5_count 83 = .ok (.baload, 1) := dk_51 (dk_at dksX5_count_3 12 rfl rfl)
theorem dX5_count_84 : decode cX5_count 84 = .ok (.ifCond .eq 6, 3) := dk_153 0 6 (dk_at dksX5_count_3 13 rfl rfl)
theorem dX5_count_87 : decode cX5_count 87 = .ok (.iinc 2 1, 3) := dk_132 2 1 (dk_at dksX5_count_3 16 rfl rfl)
theorem dX5_count_90 : decode cX5_count 90 = .ok (.iinc 3 1, 3) := dk_132 3 1 (dk_at dksX5_count_3 19 rfl rfl)
theorem dX5_count_93 : decode cX5_count 93 = .ok (.goto (-21), 3) := dk_167 255 235 (dk_at dksX5_count_4 0 rfl rfl)
theorem dX5_count_96 : decode cX5_count 96 = .ok (.iload_n 2, 1) := dk_28 (dk_at dksX5_count_4 3 rfl rfl)
theorem dX5_count_97 : decode cX5_count 97 = .ok (.ireturn, 1) := dk_172 (dk_at dksX5_count_4 4 rfl rfl)
abbrev cX5_row : ByteArray := prog_35_method_99_code
def yX5_row : MethodName := ⟨RX5, "row", "(III)I"⟩
def dkwX5_row_4 : List UInt8 := [132, 4, 1, 167, 255, 226, 4, 172]
abbrev dktX5_row_4 : List UInt8 := dkwX5_row_4 ++ []
def dkwX5_row_3 : List UInt8 := [162, 0, 29, 42, 180, 0, 171, 27, 50, 21, 4, 14, 82, 42, 180, 0, 174, 27, 50, 21, 4, 3, 84]
abbrev dktX5_row_3 : List UInt8 := dkwX5_row_3 ++ dktX5_row_4
def dkwX5_row_2 : List UInt8 := [42, 180, 0, 168, 27, 28, 156, 0, 7, 3, 167, 0, 4, 29, 79, 3, 54, 4, 21, 4, 16, 64]
abbrev dktX5_row_2 : List UInt8 := dkwX5_row_2 ++ dktX5_row_3
def dkwX5_row_1 : List UInt8 := [164, 0, 6, 16, 254, 172, 28, 155, 0, 10, 29, 156, 0, 6, 16, 242, 172, 42, 180, 0, 165, 27, 28, 79]
abbrev dktX5_row_1 : List UInt8 := dkwX5_row_1 ++ dktX5_row_2
def dkwX5_row_0 : List UInt8 := [27, 184, 1, 232, 153, 0, 22, 28, 2, 6, 184, 0, 183, 153, 0, 13, 28, 155, 0, 12, 29, 16, 64]
abbrev dktX5_row_0 : List UInt8 := dkwX5_row_0 ++ dktX5_row_1
theorem dksX5_row_0 : cX5_row.data.toList.drop 0 = dktX5_row_0 := by decide +kernel
theorem dksX5_row_1 : cX5_row.data.toList.drop 23 = dktX5_row_1 := dk_seg dksX5_row_0 23 rfl rfl
theorem dksX5_row_2 : cX5_row.data.toList.drop 47 = dktX5_row_2 := dk_seg dksX5_row_1 24 rfl rfl
theorem dksX5_row_3 : cX5_row.data.toList.drop 69 = dktX5_row_3 := dk_seg dksX5_row_2 22 rfl rfl
theorem dksX5_row_4 : cX5_row.data.toList.drop 92 = dktX5_row_4 := dk_seg dksX5_row_3 23 rfl rfl
theorem dX5_row_0 : decode cX5_row 0 = .ok (.iload_n 1, 1) := dk_27 (dk_at dksX5_row_0 0 rfl rfl)
theorem dX5_row_1 : decode cX5_row 1 = .ok (.invokestatic 488, 3) := dk_184 1 232 (dk_at dksX5_row_0 1 rfl rfl)
theorem dX5_row_4 : decode cX5_row 4 = .ok (.ifCond .eq 22, 3) := dk_153 0 22 (dk_at dksX5_row_0 4 rfl rfl)
theorem dX5_row_7 : decode cX5_row 7 = .ok (.iload_n 2, 1) := dk_28 (dk_at dksX5_row_0 7 rfl rfl)
theorem dX5_row_8 : decode cX5_row 8 = .ok (.iconst (-1), 1) := dk_2 (dk_at dksX5_row_0 8 rfl rfl)
theorem dX5_row_9 : decode cX5_row 9 = .ok (.iconst 3, 1) := dk_6 (dk_at dksX5_row_0 9 rfl rfl)
theorem dX5_row_10 : decode cX5_row 10 = .ok (.invokestatic 183, 3) := dk_184 0 183 (dk_at dksX5_row_0 10 rfl rfl)
theorem dX5_row_13 : decode cX5_row 13 = .ok (.ifCond .eq 13, 3) := dk_153 0 13 (dk_at dksX5_row_0 13 rfl rfl)
theorem dX5_row_16 : decode cX5_row 16 = .ok (.iload_n 2, 1) := dk_28 (dk_at dksX5_row_0 16 rfl rfl)
theorem dX5_row_17 : decode cX5_row 17 = .ok (.ifCond .lt 12, 3) := dk_155 0 12 (dk_at dksX5_row_0 17 rfl rfl)
theorem dX5_row_20 : decode cX5_row 20 = .ok (.iload_n 3, 1) := dk_29 (dk_at dksX5_row_0 20 rfl rfl)
theorem dX5_row_21 : decode cX5_row 21 = .ok (.bipush 64, 2) := dk_16 64 (dk_at dksX5_row_0 21 rfl rfl)
theorem dX5_row_23 : decode cX5_row 23 = .ok (.if_icmp .le 6, 3) := dk_164 0 6 (dk_at dksX5_row_1 0 rfl rfl)
theorem dX5_row_26 : decode cX5_row 26 = .ok (.bipush (-2), 2) := dk_16 254 (dk_at dksX5_row_1 3 rfl rfl)
theorem dX5_row_28 : decode cX5_row 28 = .ok (.ireturn, 1) := dk_172 (dk_at dksX5_row_1 5 rfl rfl)
theorem dX5_row_29 : decode cX5_row 29 = .ok (.iload_n 2, 1) := dk_28 (dk_at dksX5_row_1 6 rfl rfl)
theorem dX5_row_30 : decode cX5_row 30 = .ok (.ifCond .lt 10, 3) := dk_155 0 10 (dk_at dksX5_row_1 7 rfl rfl)
theorem dX5_row_33 : decode cX5_row 33 = .ok (.iload_n 3, 1) := dk_29 (dk_at dksX5_row_1 10 rfl rfl)
theorem dX5_row_34 : decode cX5_row 34 = .ok (.ifCond .ge 6, 3) := dk_156 0 6 (dk_at dksX5_row_1 11 rfl rfl)
theorem dX5_row_37 : decode cX5_row 37 = .ok (.bipush (-14), 2) := dk_16 242 (dk_at dksX5_row_1 14 rfl rfl)
theorem dX5_row_39 : decode cX5_row 39 = .ok (.ireturn, 1) := dk_172 (dk_at dksX5_row_1 16 rfl rfl)
theorem dX5_row_40 : decode cX5_row 40 = .ok (.aload_n 0, 1) := dk_42 (dk_at dksX5_row_1 17 rfl rfl)
theorem dX5_row_41 : decode cX5_row 41 = .ok (.getfield 165, 3) := dk_180 0 165 (dk_at dksX5_row_1 18 rfl rfl)
theorem dX5_row_44 : decode cX5_row 44 = .ok (.iload_n 1, 1) := dk_27 (dk_at dksX5_row_1 21 rfl rfl)
theorem dX5_row_45 : decode cX5_row 45 = .ok (.iload_n 2, 1) := dk_28 (dk_at dksX5_row_1 22 rfl rfl)
theorem dX5_row_46 : decode cX5_row 46 = .ok (.iastore, 1) := dk_79 (dk_at dksX5_row_1 23 rfl rfl)
theorem dX5_row_47 : decode cX5_row 47 = .ok (.aload_n 0, 1) := dk_42 (dk_at dksX5_row_2 0 rfl rfl)
theorem dX5_row_48 : decode cX5_row 48 = .ok (.getfield 168, 3) := dk_180 0 168 (dk_at dksX5_row_2 1 rfl rfl)
theorem dX5_row_51 : decode cX5_row 51 = .ok (.iload_n 1, 1) := dk_27 (dk_at dksX5_row_2 4 rfl rfl)
theorem dX5_row_52 : decode cX5_row 52 = .ok (.iload_n 2, 1) := dk_28 (dk_at dksX5_row_2 5 rfl rfl)
theorem dX5_row_53 : decode cX5_row 53 = .ok (.ifCond .ge 7, 3) := dk_156 0 7 (dk_at dksX5_row_2 6 rfl rfl)
theorem dX5_row_56 : decode cX5_row 56 = .ok (.iconst 0, 1) := dk_3 (dk_at dksX5_row_2 9 rfl rfl)
theorem dX5_row_57 : decode cX5_row 57 = .ok (.goto 4, 3) := dk_167 0 4 (dk_at dksX5_row_2 10 rfl rfl)
theorem dX5_row_60 : decode cX5_row 60 = .ok (.iload_n 3, 1) := dk_29 (dk_at dksX5_row_2 13 rfl rfl)
theorem dX5_row_61 : decode cX5_row 61 = .ok (.iastore, 1) := dk_79 (dk_at dksX5_row_2 14 rfl rfl)
theorem dX5_row_62 : decode cX5_row 62 = .ok (.iconst 0, 1) := dk_3 (dk_at dksX5_row_2 15 rfl rfl)
theorem dX5_row_63 : decode cX5_row 63 = .ok (.istore 4, 2) := dk_54 4 (dk_at dksX5_row_2 16 rfl rfl)
theorem dX5_row_65 : decode cX5_row 65 = .ok (.iload 4, 2) := dk_21 4 (dk_at dksX5_row_2 18 rfl rfl)
theorem dX5_row_67 : decode cX5_row 67 = .ok (.bipush 64, 2) := dk_16 64 (dk_at dksX5_row_2 20 rfl rfl)
theorem dX5_row_69 : decode cX5_row 69 = .ok (.if_icmp .ge 29, 3) := dk_162 0 29 (dk_at dksX5_row_3 0 rfl rfl)
theorem dX5_row_72 : decode cX5_row 72 = .ok (.aload_n 0, 1) := dk_42 (dk_at dksX5_row_3 3 rfl rfl)
theorem dX5_row_73 : decode cX5_row 73 = .ok (.getfield 171, 3) := dk_180 0 171 (dk_at dksX5_row_3 4 rfl rfl)
theorem dX5_row_76 : decode cX5_row 76 = .ok (.iload_n 1, 1) := dk_27 (dk_at dksX5_row_3 7 rfl rfl)
theorem dX5_row_77 : decode cX5_row 77 = .ok (.aaload, 1) := dk_50 (dk_at dksX5_row_3 8 rfl rfl)
theorem dX5_row_78 : decode cX5_row 78 = .ok (.iload 4, 2) := dk_21 4 (dk_at dksX5_row_3 9 rfl rfl)
theorem dX5_row_80 : decode cX5_row 80 = .ok (.dconst 0, 1) := dk_14 (dk_at dksX5_row_3 11 rfl rfl)
theorem dX5_row_81 : decode cX5_row 81 = .ok (.dastore, 1) := dk_82 (dk_at dksX5_row_3 12 rfl rfl)
theorem dX5_row_82 : decode cX5_row 82 = .ok (.aload_n 0, 1) := dk_42 (dk_at dksX5_row_3 13 rfl rfl)
theorem dX5_row_83 : decode cX5_row 83 = .ok (.getfield 174, 3) := dk_180 0 174 (dk_at dksX5_row_3 14 rfl rfl)
theorem dX5_row_86 : decode cX5_row 86 = .ok (.iload_n 1, 1) := dk_27 (dk_at dksX5_row_3 17 rfl rfl)
theorem dX5_row_87 : decode cX5_row 87 = .ok (.aaload, 1) := dk_50 (dk_at dksX5_row_3 18 rfl rfl)
theorem dX5_row_88 : decode cX5_row 88 = .ok (.iload 4, 2) := dk_21 4 (dk_at dksX5_row_3 19 rfl rfl)
theorem dX5_row_90 : decode cX5_row 90 = .ok (.iconst 0, 1) := dk_3 (dk_at dksX5_row_3 21 rfl rfl)
theorem dX5_row_91 : decode cX5_row 91 = .ok (.bastore, 1) := dk_84 (dk_at dksX5_row_3 22 rfl rfl)
theorem dX5_row_92 : decode cX5_row 92 = .ok (.iinc 4 1, 3) := dk_132 4 1 (dk_at dksX5_row_4 0 rfl rfl)
theorem dX5_row_95 : decode cX5_row 95 = .ok (.goto (-30), 3) := dk_167 255 226 (dk_at dksX5_row_4 3 rfl rfl)
theorem dX5_row_98 : decode cX5_row 98 = .ok (.iconst 1, 1) := dk_4 (dk_at dksX5_row_4 6 rfl rfl)
theorem dX5_row_99 : decode cX5_row 99 = .ok (.ireturn, 1) := dk_172 (dk_at dksX5_row_4 7 rfl rfl)
abbrev cX5_put : ByteArray := prog_35_method_101_code
def yX5_put : MethodName := ⟨RX5, "put", "(III)I"⟩
def dkwX5_put_3 : List UInt8 := [167, 0, 9, 29, 135, 20, 1, 62, 111, 82, 42, 180, 0, 174, 27, 50, 28, 3, 84, 4, 172]
abbrev dktX5_put_3 : List UInt8 := dkwX5_put_3 ++ []
def dkwX5_put_2 : List UInt8 := [29, 135, 167, 0, 30, 42, 180, 0, 165, 27, 46, 5, 160, 0, 14, 29, 135, 20, 1, 62, 111, 144, 141]
abbrev dktX5_put_2 : List UInt8 := dkwX5_put_2 ++ dktX5_put_3
def dkwX5_put_1 : List UInt8 := [180, 0, 165, 27, 46, 154, 0, 9, 29, 145, 135, 167, 0, 45, 42, 180, 0, 165, 27, 46, 4, 160, 0, 8]
abbrev dktX5_put_1 : List UInt8 := dkwX5_put_1 ++ dktX5_put_2
def dkwX5_put_0 : List UInt8 := [42, 27, 28, 182, 2, 57, 54, 4, 21, 4, 153, 0, 6, 21, 4, 172, 42, 180, 0, 171, 27, 50, 28, 42]
abbrev dktX5_put_0 : List UInt8 := dkwX5_put_0 ++ dktX5_put_1
theorem dksX5_put_0 : cX5_put.data.toList.drop 0 = dktX5_put_0 := by decide +kernel
theorem dksX5_put_1 : cX5_put.data.toList.drop 24 = dktX5_put_1 := dk_seg dksX5_put_0 24 rfl rfl
theorem dksX5_put_2 : cX5_put.data.toList.drop 48 = dktX5_put_2 := dk_seg dksX5_put_1 24 rfl rfl
theorem dksX5_put_3 : cX5_put.data.toList.drop 71 = dktX5_put_3 := dk_seg dksX5_put_2 23 rfl rfl
theorem dX5_put_0 : decode cX5_put 0 = .ok (.aload_n 0, 1) := dk_42 (dk_at dksX5_put_0 0 rfl rfl)
theorem dX5_put_1 : decode cX5_put 1 = .ok (.iload_n 1, 1) := dk_27 (dk_at dksX5_put_0 1 rfl rfl)
theorem dX5_put_2 : decode cX5_put 2 = .ok (.iload_n 2, 1) := dk_28 (dk_at dksX5_put_0 2 rfl rfl)
theorem dX5_put_3 : decode cX5_put 3 = .ok (.invokevirtual 569, 3) := dk_182 2 57 (dk_at dksX5_put_0 3 rfl rfl)
theorem dX5_put_6 : decode cX5_put 6 = .ok (.istore 4, 2) := dk_54 4 (dk_at dksX5_put_0 6 rfl rfl)
theorem dX5_put_8 : decode cX5_put 8 = .ok (.iload 4, 2) := dk_21 4 (dk_at dksX5_put_0 8 rfl rfl)
theorem dX5_put_10 : decode cX5_put 10 = .ok (.ifCond .eq 6, 3) := dk_153 0 6 (dk_at dksX5_put_0 10 rfl rfl)
theorem dX5_put_13 : decode cX5_put 13 = .ok (.iload 4, 2) := dk_21 4 (dk_at dksX5_put_0 13 rfl rfl)
theorem dX5_put_15 : decode cX5_put 15 = .ok (.ireturn, 1) := dk_172 (dk_at dksX5_put_0 15 rfl rfl)
theorem dX5_put_16 : decode cX5_put 16 = .ok (.aload_n 0, 1) := dk_42 (dk_at dksX5_put_0 16 rfl rfl)
theorem dX5_put_17 : decode cX5_put 17 = .ok (.getfield 171, 3) := dk_180 0 171 (dk_at dksX5_put_0 17 rfl rfl)
theorem dX5_put_20 : decode cX5_put 20 = .ok (.iload_n 1, 1) := dk_27 (dk_at dksX5_put_0 20 rfl rfl)
theorem dX5_put_21 : decode cX5_put 21 = .ok (.aaload, 1) := dk_50 (dk_at dksX5_put_0 21 rfl rfl)
theorem dX5_put_22 : decode cX5_put 22 = .ok (.iload_n 2, 1) := dk_28 (dk_at dksX5_put_0 22 rfl rfl)
theorem dX5_put_23 : decode cX5_put 23 = .ok (.aload_n 0, 1) := dk_42 (dk_at dksX5_put_0 23 rfl rfl)
theorem dX5_put_24 : decode cX5_put 24 = .ok (.getfield 165, 3) := dk_180 0 165 (dk_at dksX5_put_1 0 rfl rfl)
theorem dX5_put_27 : decode cX5_put 27 = .ok (.iload_n 1, 1) := dk_27 (dk_at dksX5_put_1 3 rfl rfl)
theorem dX5_put_28 : decode cX5_put 28 = .ok (.iaload, 1) := dk_46 (dk_at dksX5_put_1 4 rfl rfl)
theorem dX5_put_29 : decode cX5_put 29 = .ok (.ifCond .ne 9, 3) := dk_154 0 9 (dk_at dksX5_put_1 5 rfl rfl)
theorem dX5_put_32 : decode cX5_put 32 = .ok (.iload_n 3, 1) := dk_29 (dk_at dksX5_put_1 8 rfl rfl)
theorem dX5_put_33 : decode cX5_put 33 = .ok (.i2b, 1) := dk_145 (dk_at dksX5_put_1 9 rfl rfl)
theorem dX5_put_34 : decode cX5_put 34 = .ok (.i2d, 1) := dk_135 (dk_at dksX5_put_1 10 rfl rfl)
theorem dX5_put_35 : decode cX5_put 35 = .ok (.goto 45, 3) := dk_167 0 45 (dk_at dksX5_put_1 11 rfl rfl)
theorem dX5_put_38 : decode cX5_put 38 = .ok (.aload_n 0, 1) := dk_42 (dk_at dksX5_put_1 14 rfl rfl)
theorem dX5_put_39 : decode cX5_put 39 = .ok (.getfield 165, 3) := dk_180 0 165 (dk_at dksX5_put_1 15 rfl rfl)
theorem dX5_put_42 : decode cX5_put 42 = .ok (.iload_n 1, 1) := dk_27 (dk_at dksX5_put_1 18 rfl rfl)
theorem dX5_put_43 : decode cX5_put 43 = .ok (.iaload, 1) := dk_46 (dk_at dksX5_put_1 19 rfl rfl)
theorem dX5_put_44 : decode cX5_put 44 = .ok (.iconst 1, 1) := dk_4 (dk_at dksX5_put_1 20 rfl rfl)
theorem dX5_put_45 : decode cX5_put 45 = .ok (.if_icmp .ne 8, 3) := dk_160 0 8 (dk_at dksX5_put_1 21 rfl rfl)
theorem dX5_put_48 : decode cX5_put 48 = .ok (.iload_n 3, 1) := dk_29 (dk_at dksX5_put_2 0 rfl rfl)
theorem dX5_put_49 : decode cX5_put 49 = .ok (.i2d, 1) := dk_135 (dk_at dksX5_put_2 1 rfl rfl)
theorem dX5_put_50 : decode cX5_put 50 = .ok (.goto 30, 3) := dk_167 0 30 (dk_at dksX5_put_2 2 rfl rfl)
theorem dX5_put_53 : decode cX5_put 53 = .ok (.aload_n 0, 1) := dk_42 (dk_at dksX5_put_2 5 rfl rfl)
theorem dX5_put_54 : decode cX5_put 54 = .ok (.getfield 165, 3) := dk_180 0 165 (dk_at dksX5_put_2 6 rfl rfl)
theorem dX5_put_57 : decode cX5_put 57 = .ok (.iload_n 1, 1) := dk_27 (dk_at dksX5_put_2 9 rfl rfl)
theorem dX5_put_58 : decode cX5_put 58 = .ok (.iaload, 1) := dk_46 (dk_at dksX5_put_2 10 rfl rfl)
theorem dX5_put_59 : decode cX5_put 59 = .ok (.iconst 2, 1) := dk_5 (dk_at dksX5_put_2 11 rfl rfl)
theorem dX5_put_60 : decode cX5_put 60 = .ok (.if_icmp .ne 14, 3) := dk_160 0 14 (dk_at dksX5_put_2 12 rfl rfl)
theorem dX5_put_63 : decode cX5_put 63 = .ok (.iload_n 3, 1) := dk_29 (dk_at dksX5_put_2 15 rfl rfl)
theorem dX5_put_64 : decode cX5_put 64 = .ok (.i2d, 1) := dk_135 (dk_at dksX5_put_2 16 rfl rfl)
theorem dX5_put_65 : decode cX5_put 65 = .ok (.ldc2_w 318, 3) := dk_20 1 62 (dk_at dksX5_put_2 17 rfl rfl)
theorem dX5_put_68 : decode cX5_put 68 = .ok (.ddiv, 1) := dk_111 (dk_at dksX5_put_2 20 rfl rfl)
theorem dX5_put_69 : decode cX5_put 69 = .ok (.d2f, 1) := dk_144 (dk_at dksX5_put_2 21 rfl rfl)
theorem dX5_put_70 : decode cX5_put 70 = .ok (.f2d, 1) := dk_141 (dk_at dksX5_put_2 22 rfl rfl)
theorem dX5_put_71 : decode cX5_put 71 = .ok (.goto 9, 3) := dk_167 0 9 (dk_at dksX5_put_3 0 rfl rfl)
theorem dX5_put_74 : decode cX5_put 74 = .ok (.iload_n 3, 1) := dk_29 (dk_at dksX5_put_3 3 rfl rfl)
theorem dX5_put_75 : decode cX5_put 75 = .ok (.i2d, 1) := dk_135 (dk_at dksX5_put_3 4 rfl rfl)
theorem dX5_put_76 : decode cX5_put 76 = .ok (.ldc2_w 318, 3) := dk_20 1 62 (dk_at dksX5_put_3 5 rfl rfl)
theorem dX5_put_79 : decode cX5_put 79 = .ok (.ddiv, 1) := dk_111 (dk_at dksX5_put_3 8 rfl rfl)
theorem dX5_put_80 : decode cX5_put 80 = .ok (.dastore, 1) := dk_82 (dk_at dksX5_put_3 9 rfl rfl)
theorem dX5_put_81 : decode cX5_put 81 = .ok (.aload_n 0, 1) := dk_42 (dk_at dksX5_put_3 10 rfl rfl)
theorem dX5_put_82 : decode cX5_put 82 = .ok (.getfield 174, 3) := dk_180 0 174 (dk_at dksX5_put_3 11 rfl rfl)
theorem dX5_put_85 : decode cX5_put 85 = .ok (.iload_n 1, 1) := dk_27 (dk_at dksX5_put_3 14 rfl rfl)
theorem dX5_put_86 : decode cX5_put 86 = .ok (.aaload, 1) := dk_50 (dk_at dksX5_put_3 15 rfl rfl)
theorem dX5_put_87 : decode cX5_put 87 = .ok (.iload_n 2, 1) := dk_28 (dk_at dksX5_put_3 16 rfl rfl)
theorem dX5_put_88 : decode cX5_put 88 = .ok (.iconst 0, 1) := dk_3 (dk_at dksX5_put_3 17 rfl rfl)
theorem dX5_put_89 : decode cX5_put 89 = .ok (.bastore, 1) := dk_84 (dk_at dksX5_put_3 18 rfl rfl)
theorem dX5_put_90 : decode cX5_put 90 = .ok (.iconst 1, 1) := dk_4 (dk_at dksX5_put_3 19 rfl rfl)
theorem dX5_put_91 : decode cX5_put 91 = .ok (.ireturn, 1) := dk_172 (dk_at dksX5_put_3 20 rfl rfl)
abbrev cX5_itemRefusal : ByteArray := prog_35_method_100_code
def yX5_itemRefusal : MethodName := ⟨RX5, "itemRefusal", "(II)I"⟩
def dkwX5_itemRefusal_1 : List UInt8 := [42, 180, 0, 168, 27, 46, 4, 100, 184, 0, 183, 153, 0, 7, 3, 167, 0, 5, 16, 244, 172]
abbrev dktX5_itemRefusal_1 : List UInt8 := dkwX5_itemRefusal_1 ++ []
def dkwX5_itemRefusal_0 : List UInt8 := [27, 184, 1, 232, 154, 0, 6, 16, 254, 172, 42, 180, 0, 165, 27, 46, 156, 0, 6, 16, 245, 172, 28, 3]
abbrev dktX5_itemRefusal_0 : List UInt8 := dkwX5_itemRefusal_0 ++ dktX5_itemRefusal_1
theorem dksX5_itemRefusal_0 : cX5_itemRefusal.data.toList.drop 0 = dktX5_itemRefusal_0 := by decide +kernel
theorem dksX5_itemRefusal_1 : cX5_itemRefusal.data.toList.drop 24 = dktX5_itemRefusal_1 := dk_seg dksX5_itemRefusal_0 24 rfl rfl
theorem dX5_itemRefusal_0 : decode cX5_itemRefusal 0 = .ok (.iload_n 1, 1) := dk_27 (dk_at dksX5_itemRefusal_0 0 rfl rfl)
theorem dX5_itemRefusal_1 : decode cX5_itemRefusal 1 = .ok (.invokestatic 488, 3) := dk_184 1 232 (dk_at dksX5_itemRefusal_0 1 rfl rfl)
theorem dX5_itemRefusal_4 : decode cX5_itemRefusal 4 = .ok (.ifCond .ne 6, 3) := dk_154 0 6 (dk_at dksX5_itemRefusal_0 4 rfl rfl)
theorem dX5_itemRefusal_7 : decode cX5_itemRefusal 7 = .ok (.bipush (-2), 2) := dk_16 254 (dk_at dksX5_itemRefusal_0 7 rfl rfl)
theorem dX5_itemRefusal_9 : decode cX5_itemRefusal 9 = .ok (.ireturn, 1) := dk_172 (dk_at dksX5_itemRefusal_0 9 rfl rfl)
theorem dX5_itemRefusal_10 : decode cX5_itemRefusal 10 = .ok (.aload_n 0, 1) := dk_42 (dk_at dksX5_itemRefusal_0 10 rfl rfl)
theorem dX5_itemRefusal_11 : decode cX5_itemRefusal 11 = .ok (.getfield 165, 3) := dk_180 0 165 (dk_at dksX5_itemRefusal_0 11 rfl rfl)
theorem dX5_itemRefusal_14 : decode cX5_itemRefusal 14 = .ok (.iload_n 1, 1) := dk_27 (dk_at dksX5_itemRefusal_0 14 rfl rfl)
theorem dX5_itemRefusal_15 : decode cX5_itemRefusal 15 = .ok (.iaload, 1) := dk_46 (dk_at dksX5_itemRefusal_0 15 rfl rfl)
theorem dX5_itemRefusal_16 : decode cX5_itemRefusal 16 = .ok (.ifCond .ge 6, 3) := dk_156 0 6 (dk_at dksX5_itemRefusal_0 16 rfl rfl)
theorem dX5_itemRefusal_19 : decode cX5_itemRefusal 19 = .ok (.bipush (-11), 2) := dk_16 245 (dk_at dksX5_itemRefusal_0 19 rfl rfl)
theorem dX5_itemRefusal_21 : decode cX5_itemRefusal 21 = .ok (.ireturn, 1) := dk_172 (dk_at dksX5_itemRefusal_0 21 rfl rfl)
theorem dX5_itemRefusal_22 : decode cX5_itemRefusal 22 = .ok (.iload_n 2, 1) := dk_28 (dk_at dksX5_itemRefusal_0 22 rfl rfl)
theorem dX5_itemRefusal_23 : decode cX5_itemRefusal 23 = .ok (.iconst 0, 1) := dk_3 (dk_at dksX5_itemRefusal_0 23 rfl rfl)
theorem dX5_itemRefusal_24 : decode cX5_itemRefusal 24 = .ok (.aload_n 0, 1) := dk_42 (dk_at dksX5_itemRefusal_1 0 rfl rfl)
theorem dX5_itemRefusal_25 : decode cX5_itemRefusal 25 = .ok (.getfield 168, 3) := dk_180 0 168 (dk_at dksX5_itemRefusal_1 1 rfl rfl)
theorem dX5_itemRefusal_28 : decode cX5_itemRefusal 28 = .ok (.iload_n 1, 1) := dk_27 (dk_at dksX5_itemRefusal_1 4 rfl rfl)
theorem dX5_itemRefusal_29 : decode cX5_itemRefusal 29 = .ok (.iaload, 1) := dk_46 (dk_at dksX5_itemRefusal_1 5 rfl rfl)
theorem dX5_itemRefusal_30 : decode cX5_itemRefusal 30 = .ok (.iconst 1, 1) := dk_4 (dk_at dksX5_itemRefusal_1 6 rfl rfl)
theorem dX5_itemRefusal_31 : decode cX5_itemRefusal 31 = .ok (.isub, 1) := dk_100 (dk_at dksX5_itemRefusal_1 7 rfl rfl)
theorem dX5_itemRefusal_32 : decode cX5_itemRefusal 32 = .ok (.invokestatic 183, 3) := dk_184 0 183 (dk_at dksX5_itemRefusal_1 8 rfl rfl)
theorem dX5_itemRefusal_35 : decode cX5_itemRefusal 35 = .ok (.ifCond .eq 7, 3) := dk_153 0 7 (dk_at dksX5_itemRefusal_1 11 rfl rfl)
theorem dX5_itemRefusal_38 : decode cX5_itemRefusal 38 = .ok (.iconst 0, 1) := dk_3 (dk_at dksX5_itemRefusal_1 14 rfl rfl)
theorem dX5_itemRefusal_39 : decode cX5_itemRefusal 39 = .ok (.goto 5, 3) := dk_167 0 5 (dk_at dksX5_itemRefusal_1 15 rfl rfl)
theorem dX5_itemRefusal_42 : decode cX5_itemRefusal 42 = .ok (.bipush (-12), 2) := dk_16 244 (dk_at dksX5_itemRefusal_1 18 rfl rfl)
theorem dX5_itemRefusal_44 : decode cX5_itemRefusal 44 = .ok (.ireturn, 1) := dk_172 (dk_at dksX5_itemRefusal_1 20 rfl rfl)
abbrev cX5_item : ByteArray := prog_35_method_102_code
def yX5_item : MethodName := ⟨RX5, "item", "(II)J"⟩
def dkwX5_item_1 : List UInt8 := [153, 0, 9, 20, 2, 31, 167, 0, 14, 42, 180, 0, 171, 27, 50, 28, 49, 184, 1, 49, 173]
abbrev dktX5_item_1 : List UInt8 := dkwX5_item_1 ++ []
def dkwX5_item_0 : List UInt8 := [42, 27, 28, 182, 2, 57, 62, 29, 153, 0, 6, 29, 133, 173, 42, 180, 0, 174, 27, 50, 28, 51]
abbrev dktX5_item_0 : List UInt8 := dkwX5_item_0 ++ dktX5_item_1
theorem dksX5_item_0 : cX5_item.data.toList.drop 0 = dktX5_item_0 := by decide +kernel
theorem dksX5_item_1 : cX5_item.data.toList.drop 22 = dktX5_item_1 := dk_seg dksX5_item_0 22 rfl rfl
theorem dX5_item_0 : decode cX5_item 0 = .ok (.aload_n 0, 1) := dk_42 (dk_at dksX5_item_0 0 rfl rfl)
theorem dX5_item_1 : decode cX5_item 1 = .ok (.iload_n 1, 1) := dk_27 (dk_at dksX5_item_0 1 rfl rfl)
theorem dX5_item_2 : decode cX5_item 2 = .ok (.iload_n 2, 1) := dk_28 (dk_at dksX5_item_0 2 rfl rfl)
theorem dX5_item_3 : decode cX5_item 3 = .ok (.invokevirtual 569, 3) := dk_182 2 57 (dk_at dksX5_item_0 3 rfl rfl)
theorem dX5_item_6 : decode cX5_item 6 = .ok (.istore_n 3, 1) := dk_62 (dk_at dksX5_item_0 6 rfl rfl)
theorem dX5_item_7 : decode cX5_item 7 = .ok (.iload_n 3, 1) := dk_29 (dk_at dksX5_item_0 7 rfl rfl)
theorem dX5_item_8 : decode cX5_item 8 = .ok (.ifCond .eq 6, 3) := dk_153 0 6 (dk_at dksX5_item_0 8 rfl rfl)
theorem dX5_item_11 : decode cX5_item 11 = .ok (.iload_n 3, 1) := dk_29 (dk_at dksX5_item_0 11 rfl rfl)
theorem dX5_item_12 : decode cX5_item 12 = .ok (.i2l, 1) := dk_133 (dk_at dksX5_item_0 12 rfl rfl)
theorem dX5_item_13 : decode cX5_item 13 = .ok (.lreturn, 1) := dk_173 (dk_at dksX5_item_0 13 rfl rfl)
theorem dX5_item_14 : decode cX5_item 14 = .ok (.aload_n 0, 1) := dk_42 (dk_at dksX5_item_0 14 rfl rfl)
theorem dX5_item_15 : decode cX5_item 15 = .ok (.getfield 174, 3) := dk_180 0 174 (dk_at dksX5_item_0 15 rfl rfl)
theorem dX5_item_18 : decode cX5_item 18 = .ok (.iload_n 1, 1) := dk_27 (dk_at dksX5_item_0 18 rfl rfl)
theorem dX5_item_19 : decode cX5_item 19 = .ok (.aaload, 1) := dk_50 (dk_at dksX5_item_0 19 rfl rfl)
theorem dX5_item_20 : decode cX5_item 20 = .ok (.iload_n 2, 1) := dk_28 (dk_at dksX5_item_0 20 rfl rfl)
theorem dX5_item_21 : decode cX5_item 21 = .ok (.baload, 1) := dk_51 (dk_at dksX5_item_0 21 rfl rfl)
theorem dX5_item_22 : decode cX5_item 22 = .ok (.ifCond .eq 9, 3) := dk_153 0 9 (dk_at dksX5_item_1 0 rfl rfl)
theorem dX5_item_25 : decode cX5_item 25 = .ok (.ldc2_w 543, 3) := dk_20 2 31 (dk_at dksX5_item_1 3 rfl rfl)
theorem dX5_item_28 : decode cX5_item 28 = .ok (.goto 14, 3) := dk_167 0 14 (dk_at dksX5_item_1 6 rfl rfl)
theorem dX5_item_31 : decode cX5_item 31 = .ok (.aload_n 0, 1) := dk_42 (dk_at dksX5_item_1 9 rfl rfl)
theorem dX5_item_32 : decode cX5_item 32 = .ok (.getfield 171, 3) := dk_180 0 171 (dk_at dksX5_item_1 10 rfl rfl)
theorem dX5_item_35 : decode cX5_item 35 = .ok (.iload_n 1, 1) := dk_27 (dk_at dksX5_item_1 13 rfl rfl)
theorem dX5_item_36 : decode cX5_item 36 = .ok (.aaload, 1) := dk_50 (dk_at dksX5_item_1 14 rfl rfl)
theorem dX5_item_37 : decode cX5_item 37 = .ok (.iload_n 2, 1) := dk_28 (dk_at dksX5_item_1 15 rfl rfl)
theorem dX5_item_38 : decode cX5_item 38 = .ok (.daload, 1) := dk_49 (dk_at dksX5_item_1 16 rfl rfl)
theorem dX5_item_39 : decode cX5_item 39 = .ok (.invokestatic 305, 3) := dk_184 1 49 (dk_at dksX5_item_1 17 rfl rfl)
theorem dX5_item_42 : decode cX5_item 42 = .ok (.lreturn, 1) := dk_173 (dk_at dksX5_item_1 20 rfl rfl)
abbrev cX5_copy : ByteArray := prog_35_method_103_code
def yX5_copy : MethodName := ⟨RX5, "copy", "(IIIII)I"⟩
def dkwX5_copy_7 : List UInt8 := [50, 21, 4, 21, 5, 184, 1, 215, 21, 5, 172]
abbrev dktX5_copy_7 : List UInt8 := dkwX5_copy_7 ++ []
def dkwX5_copy_6 : List UInt8 := [3, 42, 180, 0, 171, 29, 50, 21, 4, 21, 5, 184, 1, 215, 42, 180, 0, 180, 3, 42, 180, 0, 174, 29]
abbrev dktX5_copy_6 : List UInt8 := dkwX5_copy_6 ++ dktX5_copy_7
def dkwX5_copy_5 : List UInt8 := [184, 1, 215, 42, 180, 0, 174, 27, 50, 28, 42, 180, 0, 180, 3, 21, 5, 184, 1, 215, 42, 180, 0, 177]
abbrev dktX5_copy_5 : List UInt8 := dkwX5_copy_5 ++ dktX5_copy_6
def dkwX5_copy_4 : List UInt8 := [21, 5, 100, 164, 0, 6, 16, 244, 172, 42, 180, 0, 171, 27, 50, 28, 42, 180, 0, 177, 3, 21, 5]
abbrev dktX5_copy_4 : List UInt8 := dkwX5_copy_4 ++ dktX5_copy_5
def dkwX5_copy_3 : List UInt8 := [155, 0, 30, 28, 42, 180, 0, 168, 27, 46, 21, 5, 100, 163, 0, 17, 21, 4, 42, 180, 0, 168, 29, 46]
abbrev dktX5_copy_3 : List UInt8 := dkwX5_copy_3 ++ dktX5_copy_4
def dkwX5_copy_2 : List UInt8 := [180, 0, 165, 29, 46, 159, 0, 6, 16, 243, 172, 21, 5, 155, 0, 39, 28, 155, 0, 35, 21, 4]
abbrev dktX5_copy_2 : List UInt8 := dkwX5_copy_2 ++ dktX5_copy_3
def dkwX5_copy_1 : List UInt8 := [155, 0, 12, 42, 180, 0, 165, 29, 46, 156, 0, 6, 16, 245, 172, 42, 180, 0, 165, 27, 46, 42]
abbrev dktX5_copy_1 : List UInt8 := dkwX5_copy_1 ++ dktX5_copy_2
def dkwX5_copy_0 : List UInt8 := [27, 184, 1, 232, 153, 0, 10, 29, 184, 1, 232, 154, 0, 6, 16, 254, 172, 42, 180, 0, 165, 27, 46]
abbrev dktX5_copy_0 : List UInt8 := dkwX5_copy_0 ++ dktX5_copy_1
theorem dksX5_copy_0 : cX5_copy.data.toList.drop 0 = dktX5_copy_0 := by decide +kernel
theorem dksX5_copy_1 : cX5_copy.data.toList.drop 23 = dktX5_copy_1 := dk_seg dksX5_copy_0 23 rfl rfl
theorem dksX5_copy_2 : cX5_copy.data.toList.drop 45 = dktX5_copy_2 := dk_seg dksX5_copy_1 22 rfl rfl
theorem dksX5_copy_3 : cX5_copy.data.toList.drop 67 = dktX5_copy_3 := dk_seg dksX5_copy_2 22 rfl rfl
theorem dksX5_copy_4 : cX5_copy.data.toList.drop 91 = dktX5_copy_4 := dk_seg dksX5_copy_3 24 rfl rfl
theorem dksX5_copy_5 : cX5_copy.data.toList.drop 114 = dktX5_copy_5 := dk_seg dksX5_copy_4 23 rfl rfl
theorem dksX5_copy_6 : cX5_copy.data.toList.drop 138 = dktX5_copy_6 := dk_seg dksX5_copy_5 24 rfl rfl
theorem dksX5_copy_7 : cX5_copy.data.toList.drop 162 = dktX5_copy_7 := dk_seg dksX5_copy_6 24 rfl rfl
theorem dX5_copy_0 : decode cX5_copy 0 = .ok (.iload_n 1, 1) := dk_27 (dk_at dksX5_copy_0 0 rfl rfl)
theorem dX5_copy_1 : decode cX5_copy 1 = .ok (.invokestatic 488, 3) := dk_184 1 232 (dk_at dksX5_copy_0 1 rfl rfl)
theorem dX5_copy_4 : decode cX5_copy 4 = .ok (.ifCond .eq 10, 3) := dk_153 0 10 (dk_at dksX5_copy_0 4 rfl rfl)
theorem dX5_copy_7 : decode cX5_copy 7 = .ok (.iload_n 3, 1) := dk_29 (dk_at dksX5_copy_0 7 rfl rfl)
theorem dX5_copy_8 : decode cX5_copy 8 = .ok (.invokestatic 488, 3) := dk_184 1 232 (dk_at dksX5_copy_0 8 rfl rfl)
theorem dX5_copy_11 : decode cX5_copy 11 = .ok (.ifCond .ne 6, 3) := dk_154 0 6 (dk_at dksX5_copy_0 11 rfl rfl)
theorem dX5_copy_14 : decode cX5_copy 14 = .ok (.bipush (-2), 2) := dk_16 254 (dk_at dksX5_copy_0 14 rfl rfl)
theorem dX5_copy_16 : decode cX5_copy 16 = .ok (.ireturn, 1) := dk_172 (dk_at dksX5_copy_0 16 rfl rfl)
theorem dX5_copy_17 : decode cX5_copy 17 = .ok (.aload_n 0, 1) := dk_42 (dk_at dksX5_copy_0 17 rfl rfl)
theorem dX5_copy_18 : decode cX5_copy 18 = .ok (.getfield 165, 3) := dk_180 0 165 (dk_at dksX5_copy_0 18 rfl rfl)
theorem dX5_copy_21 : decode cX5_copy 21 = .ok (.iload_n 1, 1) := dk_27 (dk_at dksX5_copy_0 21 rfl rfl)
theorem dX5_copy_22 : decode cX5_copy 22 = .ok (.iaload, 1) := dk_46 (dk_at dksX5_copy_0 22 rfl rfl)
theorem dX5_copy_23 : decode cX5_copy 23 = .ok (.ifCond .lt 12, 3) := dk_155 0 12 (dk_at dksX5_copy_1 0 rfl rfl)
theorem dX5_copy_26 : decode cX5_copy 26 = .ok (.aload_n 0, 1) := dk_42 (dk_at dksX5_copy_1 3 rfl rfl)
theorem dX5_copy_27 : decode cX5_copy 27 = .ok (.getfield 165, 3) := dk_180 0 165 (dk_at dksX5_copy_1 4 rfl rfl)
theorem dX5_copy_30 : decode cX5_copy 30 = .ok (.iload_n 3, 1) := dk_29 (dk_at dksX5_copy_1 7 rfl rfl)
theorem dX5_copy_31 : decode cX5_copy 31 = .ok (.iaload, 1) := dk_46 (dk_at dksX5_copy_1 8 rfl rfl)
theorem dX5_copy_32 : decode cX5_copy 32 = .ok (.ifCond .ge 6, 3) := dk_156 0 6 (dk_at dksX5_copy_1 9 rfl rfl)
theorem dX5_copy_35 : decode cX5_copy 35 = .ok (.bipush (-11), 2) := dk_16 245 (dk_at dksX5_copy_1 12 rfl rfl)
theorem dX5_copy_37 : decode cX5_copy 37 = .ok (.ireturn, 1) := dk_172 (dk_at dksX5_copy_1 14 rfl rfl)
theorem dX5_copy_38 : decode cX5_copy 38 = .ok (.aload_n 0, 1) := dk_42 (dk_at dksX5_copy_1 15 rfl rfl)
theorem dX5_copy_39 : decode cX5_copy 39 = .ok (.getfield 165, 3) := dk_180 0 165 (dk_at dksX5_copy_1 16 rfl rfl)
theorem dX5_copy_42 : decode cX5_copy 42 = .ok (.iload_n 1, 1) := dk_27 (dk_at dksX5_copy_1 19 rfl rfl)
theorem dX5_copy_43 : decode cX5_copy 43 = .ok (.iaload, 1) := dk_46 (dk_at dksX5_copy_1 20 rfl rfl)
theorem dX5_copy_44 : decode cX5_copy 44 = .ok (.aload_n 0, 1) := dk_42 (dk_at dksX5_copy_1 21 rfl rfl)
theorem dX5_copy_45 : decode cX5_copy 45 = .ok (.getfield 165, 3) := dk_180 0 165 (dk_at dksX5_copy_2 0 rfl rfl)
theorem dX5_copy_48 : decode cX5_copy 48 = .ok (.iload_n 3, 1) := dk_29 (dk_at dksX5_copy_2 3 rfl rfl)
theorem dX5_copy_49 : decode cX5_copy 49 = .ok (.iaload, 1) := dk_46 (dk_at dksX5_copy_2 4 rfl rfl)
theorem dX5_copy_50 : decode cX5_copy 50 = .ok (.if_icmp .eq 6, 3) := dk_159 0 6 (dk_at dksX5_copy_2 5 rfl rfl)
theorem dX5_copy_53 : decode cX5_copy 53 = .ok (.bipush (-13), 2) := dk_16 243 (dk_at dksX5_copy_2 8 rfl rfl)
theorem dX5_copy_55 : decode cX5_copy 55 = .ok (.ireturn, 1) := dk_172 (dk_at dksX5_copy_2 10 rfl rfl)
theorem dX5_copy_56 : decode cX5_copy 56 = .ok (.iload 5, 2) := dk_21 5 (dk_at dksX5_copy_2 11 rfl rfl)
theorem dX5_copy_58 : decode cX5_copy 58 = .ok (.ifCond .lt 39, 3) := dk_155 0 39 (dk_at dksX5_copy_2 13 rfl rfl)
theorem dX5_copy_61 : decode cX5_copy 61 = .ok (.iload_n 2, 1) := dk_28 (dk_at dksX5_copy_2 16 rfl rfl)
theorem dX5_copy_62 : decode cX5_copy 62 = .ok (.ifCond .lt 35, 3) := dk_155 0 35 (dk_at dksX5_copy_2 17 rfl rfl)
theorem dX5_copy_65 : decode cX5_copy 65 = .ok (.iload 4, 2) := dk_21 4 (dk_at dksX5_copy_2 20 rfl rfl)
theorem dX5_copy_67 : decode cX5_copy 67 = .ok (.ifCond .lt 30, 3) := dk_155 0 30 (dk_at dksX5_copy_3 0 rfl rfl)
theorem dX5_copy_70 : decode cX5_copy 70 = .ok (.iload_n 2, 1) := dk_28 (dk_at dksX5_copy_3 3 rfl rfl)
theorem dX5_copy_71 : decode cX5_copy 71 = .ok (.aload_n 0, 1) := dk_42 (dk_at dksX5_copy_3 4 rfl rfl)
theorem dX5_copy_72 : decode cX5_copy 72 = .ok (.getfield 168, 3) := dk_180 0 168 (dk_at dksX5_copy_3 5 rfl rfl)
theorem dX5_copy_75 : decode cX5_copy 75 = .ok (.iload_n 1, 1) := dk_27 (dk_at dksX5_copy_3 8 rfl rfl)
theorem dX5_copy_76 : decode cX5_copy 76 = .ok (.iaload, 1) := dk_46 (dk_at dksX5_copy_3 9 rfl rfl)
theorem dX5_copy_77 : decode cX5_copy 77 = .ok (.iload 5, 2) := dk_21 5 (dk_at dksX5_copy_3 10 rfl rfl)
theorem dX5_copy_79 : decode cX5_copy 79 = .ok (.isub, 1) := dk_100 (dk_at dksX5_copy_3 12 rfl rfl)
theorem dX5_copy_80 : decode cX5_copy 80 = .ok (.if_icmp .gt 17, 3) := dk_163 0 17 (dk_at dksX5_copy_3 13 rfl rfl)
theorem dX5_copy_83 : decode cX5_copy 83 = .ok (.iload 4, 2) := dk_21 4 (dk_at dksX5_copy_3 16 rfl rfl)
theorem dX5_copy_85 : decode cX5_copy 85 = .ok (.aload_n 0, 1) := dk_42 (dk_at dksX5_copy_3 18 rfl rfl)
theorem dX5_copy_86 : decode cX5_copy 86 = .ok (.getfield 168, 3) := dk_180 0 168 (dk_at dksX5_copy_3 19 rfl rfl)
theorem dX5_copy_89 : decode cX5_copy 89 = .ok (.iload_n 3, 1) := dk_29 (dk_at dksX5_copy_3 22 rfl rfl)
theorem dX5_copy_90 : decode cX5_copy 90 = .ok (.iaload, 1) := dk_46 (dk_at dksX5_copy_3 23 rfl rfl)
theorem dX5_copy_91 : decode cX5_copy 91 = .ok (.iload 5, 2) := dk_21 5 (dk_at dksX5_copy_4 0 rfl rfl)
theorem dX5_copy_93 : decode cX5_copy 93 = .ok (.isub, 1) := dk_100 (dk_at dksX5_copy_4 2 rfl rfl)
theorem dX5_copy_94 : decode cX5_copy 94 = .ok (.if_icmp .le 6, 3) := dk_164 0 6 (dk_at dksX5_copy_4 3 rfl rfl)
theorem dX5_copy_97 : decode cX5_copy 97 = .ok (.bipush (-12), 2) := dk_16 244 (dk_at dksX5_copy_4 6 rfl rfl)
theorem dX5_copy_99 : decode cX5_copy 99 = .ok (.ireturn, 1) := dk_172 (dk_at dksX5_copy_4 8 rfl rfl)
theorem dX5_copy_100 : decode cX5_copy 100 = .ok (.aload_n 0, 1) := dk_42 (dk_at dksX5_copy_4 9 rfl rfl)
theorem dX5_copy_101 : decode cX5_copy 101 = .ok (.getfield 171, 3) := dk_180 0 171 (dk_at dksX5_copy_4 10 rfl rfl)
theorem dX5_copy_104 : decode cX5_copy 104 = .ok (.iload_n 1, 1) := dk_27 (dk_at dksX5_copy_4 13 rfl rfl)
theorem dX5_copy_105 : decode cX5_copy 105 = .ok (.aaload, 1) := dk_50 (dk_at dksX5_copy_4 14 rfl rfl)
theorem dX5_copy_106 : decode cX5_copy 106 = .ok (.iload_n 2, 1) := dk_28 (dk_at dksX5_copy_4 15 rfl rfl)
theorem dX5_copy_107 : decode cX5_copy 107 = .ok (.aload_n 0, 1) := dk_42 (dk_at dksX5_copy_4 16 rfl rfl)
theorem dX5_copy_108 : decode cX5_copy 108 = .ok (.getfield 177, 3) := dk_180 0 177 (dk_at dksX5_copy_4 17 rfl rfl)
theorem dX5_copy_111 : decode cX5_copy 111 = .ok (.iconst 0, 1) := dk_3 (dk_at dksX5_copy_4 20 rfl rfl)
theorem dX5_copy_112 : decode cX5_copy 112 = .ok (.iload 5, 2) := dk_21 5 (dk_at dksX5_copy_4 21 rfl rfl)
theorem dX5_copy_114 : decode cX5_copy 114 = .ok (.invokestatic 471, 3) := dk_184 1 215 (dk_at dksX5_copy_5 0 rfl rfl)
theorem dX5_copy_117 : decode cX5_copy 117 = .ok (.aload_n 0, 1) := dk_42 (dk_at dksX5_copy_5 3 rfl rfl)
theorem dX5_copy_118 : decode cX5_copy 118 = .ok (.getfield 174, 3) := dk_180 0 174 (dk_at dksX5_copy_5 4 rfl rfl)
theorem dX5_copy_121 : decode cX5_copy 121 = .ok (.iload_n 1, 1) := dk_27 (dk_at dksX5_copy_5 7 rfl rfl)
theorem dX5_copy_122 : decode cX5_copy 122 = .ok (.aaload, 1) := dk_50 (dk_at dksX5_copy_5 8 rfl rfl)
theorem dX5_copy_123 : decode cX5_copy 123 = .ok (.iload_n 2, 1) := dk_28 (dk_at dksX5_copy_5 9 rfl rfl)
theorem dX5_copy_124 : decode cX5_copy 124 = .ok (.aload_n 0, 1) := dk_42 (dk_at dksX5_copy_5 10 rfl rfl)
theorem dX5_copy_125 : decode cX5_copy 125 = .ok (.getfield 180, 3) := dk_180 0 180 (dk_at dksX5_copy_5 11 rfl rfl)
theorem dX5_copy_128 : decode cX5_copy 128 = .ok (.iconst 0, 1) := dk_3 (dk_at dksX5_copy_5 14 rfl rfl)
theorem dX5_copy_129 : decode cX5_copy 129 = .ok (.iload 5, 2) := dk_21 5 (dk_at dksX5_copy_5 15 rfl rfl)
theorem dX5_copy_131 : decode cX5_copy 131 = .ok (.invokestatic 471, 3) := dk_184 1 215 (dk_at dksX5_copy_5 17 rfl rfl)
theorem dX5_copy_134 : decode cX5_copy 134 = .ok (.aload_n 0, 1) := dk_42 (dk_at dksX5_copy_5 20 rfl rfl)
theorem dX5_copy_135 : decode cX5_copy 135 = .ok (.getfield 177, 3) := dk_180 0 177 (dk_at dksX5_copy_5 21 rfl rfl)
theorem dX5_copy_138 : decode cX5_copy 138 = .ok (.iconst 0, 1) := dk_3 (dk_at dksX5_copy_6 0 rfl rfl)
theorem dX5_copy_139 : decode cX5_copy 139 = .ok (.aload_n 0, 1) := dk_42 (dk_at dksX5_copy_6 1 rfl rfl)
theorem dX5_copy_140 : decode cX5_copy 140 = .ok (.getfield 171, 3) := dk_180 0 171 (dk_at dksX5_copy_6 2 rfl rfl)
theorem dX5_copy_143 : decode cX5_copy 143 = .ok (.iload_n 3, 1) := dk_29 (dk_at dksX5_copy_6 5 rfl rfl)
theorem dX5_copy_144 : decode cX5_copy 144 = .ok (.aaload, 1) := dk_50 (dk_at dksX5_copy_6 6 rfl rfl)
theorem dX5_copy_145 : decode cX5_copy 145 = .ok (.iload 4, 2) := dk_21 4 (dk_at dksX5_copy_6 7 rfl rfl)
theorem dX5_copy_147 : decode cX5_copy 147 = .ok (.iload 5, 2) := dk_21 5 (dk_at dksX5_copy_6 9 rfl rfl)
theorem dX5_copy_149 : decode cX5_copy 149 = .ok (.invokestatic 471, 3) := dk_184 1 215 (dk_at dksX5_copy_6 11 rfl rfl)
theorem dX5_copy_152 : decode cX5_copy 152 = .ok (.aload_n 0, 1) := dk_42 (dk_at dksX5_copy_6 14 rfl rfl)
theorem dX5_copy_153 : decode cX5_copy 153 = .ok (.getfield 180, 3) := dk_180 0 180 (dk_at dksX5_copy_6 15 rfl rfl)
theorem dX5_copy_156 : decode cX5_copy 156 = .ok (.iconst 0, 1) := dk_3 (dk_at dksX5_copy_6 18 rfl rfl)
theorem dX5_copy_157 : decode cX5_copy 157 = .ok (.aload_n 0, 1) := dk_42 (dk_at dksX5_copy_6 19 rfl rfl)
theorem dX5_copy_158 : decode cX5_copy 158 = .ok (.getfield 174, 3) := dk_180 0 174 (dk_at dksX5_copy_6 20 rfl rfl)
theorem dX5_copy_161 : decode cX5_copy 161 = .ok (.iload_n 3, 1) := dk_29 (dk_at dksX5_copy_6 23 rfl rfl)
theorem dX5_copy_162 : decode cX5_copy 162 = .ok (.aaload, 1) := dk_50 (dk_at dksX5_copy_7 0 rfl rfl)
theorem dX5_copy_163 : decode cX5_copy 163 = .ok (.iload 4, 2) := dk_21 4 (dk_at dksX5_copy_7 1 rfl rfl)
theorem dX5_copy_165 : decode cX5_copy 165 = .ok (.iload 5, 2) := dk_21 5 (dk_at dksX5_copy_7 3 rfl rfl)
theorem dX5_copy_167 : decode cX5_copy 167 = .ok (.invokestatic 471, 3) := dk_184 1 215 (dk_at dksX5_copy_7 5 rfl rfl)
theorem dX5_copy_170 : decode cX5_copy 170 = .ok (.iload 5, 2) := dk_21 5 (dk_at dksX5_copy_7 8 rfl rfl)
theorem dX5_copy_172 : decode cX5_copy 172 = .ok (.ireturn, 1) := dk_172 (dk_at dksX5_copy_7 10 rfl rfl)
theorem q162 : (Jvm.Cond.initialized "WhatIfSheetModel") ∈ lw_all := lw_g (lw_at lw_m1 32 rfl) rfl
theorem q797 : (Jvm.Cond.selects "WhatIfSheetModel" ({ cls := "java/lang/Object", name := "equals", desc := "(Ljava/lang/Object;)Z" } : Jvm.MethodName) ({ cls := "java/lang/Object", name := "equals", desc := "(Ljava/lang/Object;)Z" } : Jvm.MethodName)) ∈ lw_all := lw_g (lw_at lw_m3 187 rfl) rfl
theorem q874 : (Jvm.Cond.selects "WhatIfSheetModel" ({ cls := "java/lang/Object", name := "getClass", desc := "()Ljava/lang/Class;" } : Jvm.MethodName) ({ cls := "java/lang/Object", name := "getClass", desc := "()Ljava/lang/Class;" } : Jvm.MethodName)) ∈ lw_all := lw_g (lw_at lw_m4 24 rfl) rfl
theorem q2663 : (Jvm.Cond.instantiable "WhatIfSheetModel" (76 : Nat)) ∈ lw_all := lw_g (lw_at lw_m11 133 rfl) rfl
theorem q2665 : (Jvm.Cond.instanceMethod ({ cls := "WhatIfSheetModel", name := "<init>", desc := "()V" } : Jvm.MethodName)) ∈ lw_all := lw_g (lw_at lw_m11 135 rfl) rfl
theorem q2666 : (Jvm.Cond.code ({ cls := "WhatIfSheetModel", name := "<init>", desc := "()V" } : Jvm.MethodName) prog_35_method_1_code (1 : Nat) (Option.none : Option Jvm.ClassFile.FieldType)) ∈ lw_all := lw_g (lw_at lw_m11 136 rfl) rfl
theorem q2667 : (Jvm.Cond.methodLink "WhatIfSheetModel" (1 : Nat) ({ cls := "java/lang/Object", name := "<init>", desc := "()V" } : Jvm.MethodName)) ∈ lw_all := lw_g (lw_at lw_m11 137 rfl) rfl
theorem q2668 : (Jvm.Cond.classLink "WhatIfSheetModel" (24 : Nat) "[[I") ∈ lw_all := lw_g (lw_at lw_m11 138 rfl) rfl
theorem q2670 : (Jvm.Cond.classLink "WhatIfSheetModel" (29 : Nat) "[[D") ∈ lw_all := lw_g (lw_at lw_m11 140 rfl) rfl
theorem q2672 : (Jvm.Cond.classLink "WhatIfSheetModel" (70 : Nat) "[[Z") ∈ lw_all := lw_g (lw_at lw_m11 142 rfl) rfl
theorem q2674 : (Jvm.Cond.fieldLink "WhatIfSheetModel" (9 : Nat) "WhatIfSheetModel" "kinds" "[I") ∈ lw_all := lw_g (lw_at lw_m11 144 rfl) rfl
theorem q2675 : (Jvm.Cond.fieldLink "WhatIfSheetModel" (13 : Nat) "WhatIfSheetModel" "given" "[Z") ∈ lw_all := lw_g (lw_at lw_m11 145 rfl) rfl
theorem q2676 : (Jvm.Cond.fieldLink "WhatIfSheetModel" (17 : Nat) "WhatIfSheetModel" "numbers" "[D") ∈ lw_all := lw_g (lw_at lw_m11 146 rfl) rfl
theorem q2677 : (Jvm.Cond.fieldLink "WhatIfSheetModel" (21 : Nat) "WhatIfSheetModel" "sizes" "[I") ∈ lw_all := lw_g (lw_at lw_m11 147 rfl) rfl
theorem q2678 : (Jvm.Cond.fieldLink "WhatIfSheetModel" (26 : Nat) "WhatIfSheetModel" "marks" "[[I") ∈ lw_all := lw_g (lw_at lw_m11 148 rfl) rfl
theorem q2679 : (Jvm.Cond.fieldLink "WhatIfSheetModel" (31 : Nat) "WhatIfSheetModel" "figures" "[[D") ∈ lw_all := lw_g (lw_at lw_m11 149 rfl) rfl
theorem q2680 : (Jvm.Cond.fieldLink "WhatIfSheetModel" (34 : Nat) "WhatIfSheetModel" "laid" "[Z") ∈ lw_all := lw_g (lw_at lw_m11 150 rfl) rfl
theorem q2681 : (Jvm.Cond.fieldLink "WhatIfSheetModel" (37 : Nat) "WhatIfSheetModel" "outputs" "[I") ∈ lw_all := lw_g (lw_at lw_m11 151 rfl) rfl
theorem q2682 : (Jvm.Cond.fieldLink "WhatIfSheetModel" (40 : Nat) "WhatIfSheetModel" "ones" "[I") ∈ lw_all := lw_g (lw_at lw_m11 152 rfl) rfl
theorem q2683 : (Jvm.Cond.fieldLink "WhatIfSheetModel" (43 : Nat) "WhatIfSheetModel" "others" "[I") ∈ lw_all := lw_g (lw_at lw_m11 153 rfl) rfl
theorem q2684 : (Jvm.Cond.fieldLink "WhatIfSheetModel" (46 : Nat) "WhatIfSheetModel" "axisSizes" "[I") ∈ lw_all := lw_g (lw_at lw_m11 154 rfl) rfl
theorem q2685 : (Jvm.Cond.fieldLink "WhatIfSheetModel" (49 : Nat) "WhatIfSheetModel" "axes" "[[D") ∈ lw_all := lw_g (lw_at lw_m11 155 rfl) rfl
theorem q2686 : (Jvm.Cond.fieldLink "WhatIfSheetModel" (52 : Nat) "WhatIfSheetModel" "cellNames" "[I") ∈ lw_all := lw_g (lw_at lw_m11 156 rfl) rfl
theorem q2687 : (Jvm.Cond.fieldLink "WhatIfSheetModel" (55 : Nat) "WhatIfSheetModel" "tableTimes" "[[I") ∈ lw_all := lw_g (lw_at lw_m11 157 rfl) rfl
theorem q2688 : (Jvm.Cond.fieldLink "WhatIfSheetModel" (58 : Nat) "WhatIfSheetModel" "hasRead" "[Z") ∈ lw_all := lw_g (lw_at lw_m11 158 rfl) rfl
theorem q2689 : (Jvm.Cond.fieldLink "WhatIfSheetModel" (61 : Nat) "WhatIfSheetModel" "read" "[I") ∈ lw_all := lw_g (lw_at lw_m11 159 rfl) rfl
theorem q2690 : (Jvm.Cond.fieldLink "WhatIfSheetModel" (64 : Nat) "WhatIfSheetModel" "hasBurden" "[Z") ∈ lw_all := lw_g (lw_at lw_m11 160 rfl) rfl
theorem q2691 : (Jvm.Cond.fieldLink "WhatIfSheetModel" (67 : Nat) "WhatIfSheetModel" "burden" "[I") ∈ lw_all := lw_g (lw_at lw_m11 161 rfl) rfl
theorem q2692 : (Jvm.Cond.fieldLink "WhatIfSheetModel" (247 : Nat) "WhatIfSheetModel" "deep" "I") ∈ lw_all := lw_g (lw_at lw_m11 162 rfl) rfl
theorem q2693 : (Jvm.Cond.fieldLink "WhatIfSheetModel" (72 : Nat) "WhatIfSheetModel" "told" "[[Z") ∈ lw_all := lw_g (lw_at lw_m11 163 rfl) rfl
theorem q2694 : (Jvm.Cond.fieldLink "WhatIfSheetModel" (75 : Nat) "WhatIfSheetModel" "values" "[[D") ∈ lw_all := lw_g (lw_at lw_m11 164 rfl) rfl
theorem q2695 : (Jvm.Cond.fieldLink "WhatIfSheetModel" (78 : Nat) "WhatIfSheetModel" "errors" "[[I") ∈ lw_all := lw_g (lw_at lw_m11 165 rfl) rfl
theorem q2696 : (Jvm.Cond.fieldLink "WhatIfSheetModel" (81 : Nat) "WhatIfSheetModel" "blames" "[[I") ∈ lw_all := lw_g (lw_at lw_m11 166 rfl) rfl
theorem q2697 : (Jvm.Cond.fieldLink "WhatIfSheetModel" (84 : Nat) "WhatIfSheetModel" "summed" "[[Z") ∈ lw_all := lw_g (lw_at lw_m11 167 rfl) rfl
theorem q2698 : (Jvm.Cond.fieldLink "WhatIfSheetModel" (87 : Nat) "WhatIfSheetModel" "sums" "[[D") ∈ lw_all := lw_g (lw_at lw_m11 168 rfl) rfl
theorem q2699 : (Jvm.Cond.fieldLink "WhatIfSheetModel" (90 : Nat) "WhatIfSheetModel" "sumErrors" "[[I") ∈ lw_all := lw_g (lw_at lw_m11 169 rfl) rfl
theorem q2700 : (Jvm.Cond.fieldLink "WhatIfSheetModel" (243 : Nat) "WhatIfSheetModel" "top" "I") ∈ lw_all := lw_g (lw_at lw_m11 170 rfl) rfl
theorem q2701 : (Jvm.Cond.fieldLink "WhatIfSheetModel" (93 : Nat) "WhatIfSheetModel" "heap" "[D") ∈ lw_all := lw_g (lw_at lw_m11 171 rfl) rfl
theorem q2702 : (Jvm.Cond.fieldLink "WhatIfSheetModel" (96 : Nat) "WhatIfSheetModel" "heapErrors" "[I") ∈ lw_all := lw_g (lw_at lw_m11 172 rfl) rfl
theorem q2703 : (Jvm.Cond.fieldLink "WhatIfSheetModel" (99 : Nat) "WhatIfSheetModel" "heapBlames" "[I") ∈ lw_all := lw_g (lw_at lw_m11 173 rfl) rfl
theorem q2704 : (Jvm.Cond.fieldLink "WhatIfSheetModel" (282 : Nat) "WhatIfSheetModel" "caseValue" "D") ∈ lw_all := lw_g (lw_at lw_m11 174 rfl) rfl
theorem q2705 : (Jvm.Cond.fieldLink "WhatIfSheetModel" (286 : Nat) "WhatIfSheetModel" "caseError" "I") ∈ lw_all := lw_g (lw_at lw_m11 175 rfl) rfl
theorem q2706 : (Jvm.Cond.fieldLink "WhatIfSheetModel" (289 : Nat) "WhatIfSheetModel" "caseBlame" "I") ∈ lw_all := lw_g (lw_at lw_m11 176 rfl) rfl
theorem q2707 : (Jvm.Cond.fieldLink "WhatIfSheetModel" (102 : Nat) "WhatIfSheetModel" "tape" "[I") ∈ lw_all := lw_g (lw_at lw_m11 177 rfl) rfl
theorem q2708 : (Jvm.Cond.fieldLink "WhatIfSheetModel" (348 : Nat) "WhatIfSheetModel" "taped" "I") ∈ lw_all := lw_g (lw_at lw_m11 178 rfl) rfl
theorem q2709 : (Jvm.Cond.fieldLink "WhatIfSheetModel" (105 : Nat) "WhatIfSheetModel" "newMarks" "[I") ∈ lw_all := lw_g (lw_at lw_m11 179 rfl) rfl
theorem q2710 : (Jvm.Cond.fieldLink "WhatIfSheetModel" (108 : Nat) "WhatIfSheetModel" "newFigures" "[D") ∈ lw_all := lw_g (lw_at lw_m11 180 rfl) rfl
theorem q2711 : (Jvm.Cond.fieldLink "WhatIfSheetModel" (424 : Nat) "WhatIfSheetModel" "newSize" "I") ∈ lw_all := lw_g (lw_at lw_m11 181 rfl) rfl
theorem q2712 : (Jvm.Cond.fieldLink "WhatIfSheetModel" (450 : Nat) "WhatIfSheetModel" "newFigureMany" "I") ∈ lw_all := lw_g (lw_at lw_m11 182 rfl) rfl
theorem q2713 : (Jvm.Cond.fieldLink "WhatIfSheetModel" (351 : Nat) "WhatIfSheetModel" "at" "I") ∈ lw_all := lw_g (lw_at lw_m11 183 rfl) rfl
theorem q2714 : (Jvm.Cond.fieldLink "WhatIfSheetModel" (361 : Nat) "WhatIfSheetModel" "begin" "I") ∈ lw_all := lw_g (lw_at lw_m11 184 rfl) rfl
theorem q2715 : (Jvm.Cond.fieldLink "WhatIfSheetModel" (364 : Nat) "WhatIfSheetModel" "token" "I") ∈ lw_all := lw_g (lw_at lw_m11 185 rfl) rfl
theorem q2716 : (Jvm.Cond.fieldLink "WhatIfSheetModel" (378 : Nat) "WhatIfSheetModel" "sign" "I") ∈ lw_all := lw_g (lw_at lw_m11 186 rfl) rfl
theorem q2717 : (Jvm.Cond.fieldLink "WhatIfSheetModel" (388 : Nat) "WhatIfSheetModel" "whole" "I") ∈ lw_all := lw_g (lw_at lw_m11 187 rfl) rfl
theorem q2718 : (Jvm.Cond.fieldLink "WhatIfSheetModel" (391 : Nat) "WhatIfSheetModel" "behind" "I") ∈ lw_all := lw_g (lw_at lw_m11 188 rfl) rfl
theorem q2719 : (Jvm.Cond.fieldLink "WhatIfSheetModel" (438 : Nat) "WhatIfSheetModel" "opened" "I") ∈ lw_all := lw_g (lw_at lw_m11 189 rfl) rfl
theorem q2720 : (Jvm.Cond.fieldLink "WhatIfSheetModel" (357 : Nat) "WhatIfSheetModel" "isWrong" "Z") ∈ lw_all := lw_g (lw_at lw_m11 190 rfl) rfl
theorem q2721 : (Jvm.Cond.fieldLink "WhatIfSheetModel" (111 : Nat) "WhatIfSheetModel" "oldMarks" "[I") ∈ lw_all := lw_g (lw_at lw_m11 191 rfl) rfl
theorem q2722 : (Jvm.Cond.fieldLink "WhatIfSheetModel" (114 : Nat) "WhatIfSheetModel" "oldFigures" "[D") ∈ lw_all := lw_g (lw_at lw_m11 192 rfl) rfl
theorem q2723 : (Jvm.Cond.fieldLink "WhatIfSheetModel" (117 : Nat) "WhatIfSheetModel" "hasLeast" "[Z") ∈ lw_all := lw_g (lw_at lw_m11 193 rfl) rfl
theorem q2724 : (Jvm.Cond.fieldLink "WhatIfSheetModel" (120 : Nat) "WhatIfSheetModel" "least" "[I") ∈ lw_all := lw_g (lw_at lw_m11 194 rfl) rfl
theorem q2725 : (Jvm.Cond.fieldLink "WhatIfSheetModel" (511 : Nat) "WhatIfSheetModel" "fMany" "I") ∈ lw_all := lw_g (lw_at lw_m11 195 rfl) rfl
theorem q2726 : (Jvm.Cond.fieldLink "WhatIfSheetModel" (514 : Nat) "WhatIfSheetModel" "fFails" "Z") ∈ lw_all := lw_g (lw_at lw_m11 196 rfl) rfl
theorem q2727 : (Jvm.Cond.fieldLink "WhatIfSheetModel" (517 : Nat) "WhatIfSheetModel" "found" "D") ∈ lw_all := lw_g (lw_at lw_m11 197 rfl) rfl
theorem q2728 : (Jvm.Cond.fieldLink "WhatIfSheetModel" (520 : Nat) "WhatIfSheetModel" "foundF" "D") ∈ lw_all := lw_g (lw_at lw_m11 198 rfl) rfl
theorem q2729 : (Jvm.Cond.fieldLink "WhatIfSheetModel" (123 : Nat) "WhatIfSheetModel" "oldNumbers" "[D") ∈ lw_all := lw_g (lw_at lw_m11 199 rfl) rfl
theorem q2730 : (Jvm.Cond.fieldLink "WhatIfSheetModel" (126 : Nat) "WhatIfSheetModel" "oldGiven" "[Z") ∈ lw_all := lw_g (lw_at lw_m11 200 rfl) rfl
theorem q2731 : (Jvm.Cond.fieldLink "WhatIfSheetModel" (563 : Nat) "WhatIfSheetModel" "hasImage" "Z") ∈ lw_all := lw_g (lw_at lw_m11 201 rfl) rfl
theorem q2732 : (Jvm.Cond.fieldLink "WhatIfSheetModel" (129 : Nat) "WhatIfSheetModel" "imageKinds" "[I") ∈ lw_all := lw_g (lw_at lw_m11 202 rfl) rfl
theorem q2733 : (Jvm.Cond.fieldLink "WhatIfSheetModel" (132 : Nat) "WhatIfSheetModel" "imageSizes" "[I") ∈ lw_all := lw_g (lw_at lw_m11 203 rfl) rfl
theorem q2734 : (Jvm.Cond.fieldLink "WhatIfSheetModel" (135 : Nat) "WhatIfSheetModel" "imageGiven" "[Z") ∈ lw_all := lw_g (lw_at lw_m11 204 rfl) rfl
theorem q2735 : (Jvm.Cond.fieldLink "WhatIfSheetModel" (138 : Nat) "WhatIfSheetModel" "imageLaid" "[Z") ∈ lw_all := lw_g (lw_at lw_m11 205 rfl) rfl
theorem q2736 : (Jvm.Cond.fieldLink "WhatIfSheetModel" (141 : Nat) "WhatIfSheetModel" "imageNumbers" "[D") ∈ lw_all := lw_g (lw_at lw_m11 206 rfl) rfl
theorem q2737 : (Jvm.Cond.fieldLink "WhatIfSheetModel" (144 : Nat) "WhatIfSheetModel" "imageMarks" "[[I") ∈ lw_all := lw_g (lw_at lw_m11 207 rfl) rfl
theorem q2738 : (Jvm.Cond.fieldLink "WhatIfSheetModel" (147 : Nat) "WhatIfSheetModel" "imageFigures" "[[D") ∈ lw_all := lw_g (lw_at lw_m11 208 rfl) rfl
theorem q2739 : (Jvm.Cond.fieldLink "WhatIfSheetModel" (150 : Nat) "WhatIfSheetModel" "imageOutputs" "[I") ∈ lw_all := lw_g (lw_at lw_m11 209 rfl) rfl
theorem q2740 : (Jvm.Cond.fieldLink "WhatIfSheetModel" (153 : Nat) "WhatIfSheetModel" "imageOnes" "[I") ∈ lw_all := lw_g (lw_at lw_m11 210 rfl) rfl
theorem q2741 : (Jvm.Cond.fieldLink "WhatIfSheetModel" (156 : Nat) "WhatIfSheetModel" "imageOthers" "[I") ∈ lw_all := lw_g (lw_at lw_m11 211 rfl) rfl
theorem q2742 : (Jvm.Cond.fieldLink "WhatIfSheetModel" (159 : Nat) "WhatIfSheetModel" "imageAxisSizes" "[I") ∈ lw_all := lw_g (lw_at lw_m11 212 rfl) rfl
theorem q2743 : (Jvm.Cond.fieldLink "WhatIfSheetModel" (162 : Nat) "WhatIfSheetModel" "imageAxes" "[[D") ∈ lw_all := lw_g (lw_at lw_m11 213 rfl) rfl
theorem q2744 : (Jvm.Cond.fieldLink "WhatIfSheetModel" (165 : Nat) "WhatIfSheetModel" "rows" "[I") ∈ lw_all := lw_g (lw_at lw_m11 214 rfl) rfl
theorem q2745 : (Jvm.Cond.fieldLink "WhatIfSheetModel" (168 : Nat) "WhatIfSheetModel" "lengths" "[I") ∈ lw_all := lw_g (lw_at lw_m11 215 rfl) rfl
theorem q2746 : (Jvm.Cond.fieldLink "WhatIfSheetModel" (171 : Nat) "WhatIfSheetModel" "items" "[[D") ∈ lw_all := lw_g (lw_at lw_m11 216 rfl) rfl
theorem q2747 : (Jvm.Cond.fieldLink "WhatIfSheetModel" (174 : Nat) "WhatIfSheetModel" "isFailed" "[[Z") ∈ lw_all := lw_g (lw_at lw_m11 217 rfl) rfl
theorem q2748 : (Jvm.Cond.fieldLink "WhatIfSheetModel" (177 : Nat) "WhatIfSheetModel" "passed" "[D") ∈ lw_all := lw_g (lw_at lw_m11 218 rfl) rfl
theorem q2749 : (Jvm.Cond.fieldLink "WhatIfSheetModel" (180 : Nat) "WhatIfSheetModel" "passedFailed" "[Z") ∈ lw_all := lw_g (lw_at lw_m11 219 rfl) rfl
theorem q2750 : (Jvm.Cond.laysFinal "WhatIfSheetModel" "WhatIfSheetModel" "kinds" "[I") ∈ lw_all := lw_g (lw_at lw_m11 220 rfl) rfl
theorem q2751 : (Jvm.Cond.soleField "WhatIfSheetModel" "kinds") ∈ lw_all := lw_g (lw_at lw_m11 221 rfl) rfl
theorem q2752 : (Jvm.Cond.laysFinal "WhatIfSheetModel" "WhatIfSheetModel" "given" "[Z") ∈ lw_all := lw_g (lw_at lw_m11 222 rfl) rfl
theorem q2753 : (Jvm.Cond.soleField "WhatIfSheetModel" "given") ∈ lw_all := lw_g (lw_at lw_m11 223 rfl) rfl
theorem q2754 : (Jvm.Cond.laysFinal "WhatIfSheetModel" "WhatIfSheetModel" "numbers" "[D") ∈ lw_all := lw_g (lw_at lw_m11 224 rfl) rfl
theorem q2755 : (Jvm.Cond.soleField "WhatIfSheetModel" "numbers") ∈ lw_all := lw_g (lw_at lw_m11 225 rfl) rfl
theorem q2756 : (Jvm.Cond.laysFinal "WhatIfSheetModel" "WhatIfSheetModel" "sizes" "[I") ∈ lw_all := lw_g (lw_at lw_m11 226 rfl) rfl
theorem q2757 : (Jvm.Cond.soleField "WhatIfSheetModel" "sizes") ∈ lw_all := lw_g (lw_at lw_m11 227 rfl) rfl
theorem q2758 : (Jvm.Cond.laysFinal "WhatIfSheetModel" "WhatIfSheetModel" "marks" "[[I") ∈ lw_all := lw_g (lw_at lw_m11 228 rfl) rfl
theorem q2759 : (Jvm.Cond.soleField "WhatIfSheetModel" "marks") ∈ lw_all := lw_g (lw_at lw_m11 229 rfl) rfl
theorem q2760 : (Jvm.Cond.laysFinal "WhatIfSheetModel" "WhatIfSheetModel" "figures" "[[D") ∈ lw_all := lw_g (lw_at lw_m11 230 rfl) rfl
theorem q2761 : (Jvm.Cond.soleField "WhatIfSheetModel" "figures") ∈ lw_all := lw_g (lw_at lw_m11 231 rfl) rfl
theorem q2762 : (Jvm.Cond.laysFinal "WhatIfSheetModel" "WhatIfSheetModel" "laid" "[Z") ∈ lw_all := lw_g (lw_at lw_m11 232 rfl) rfl
theorem q2763 : (Jvm.Cond.soleField "WhatIfSheetModel" "laid") ∈ lw_all := lw_g (lw_at lw_m11 233 rfl) rfl
theorem q2764 : (Jvm.Cond.laysFinal "WhatIfSheetModel" "WhatIfSheetModel" "outputs" "[I") ∈ lw_all := lw_g (lw_at lw_m11 234 rfl) rfl
theorem q2765 : (Jvm.Cond.soleField "WhatIfSheetModel" "outputs") ∈ lw_all := lw_g (lw_at lw_m11 235 rfl) rfl
theorem q2766 : (Jvm.Cond.laysFinal "WhatIfSheetModel" "WhatIfSheetModel" "ones" "[I") ∈ lw_all := lw_g (lw_at lw_m11 236 rfl) rfl
theorem q2767 : (Jvm.Cond.soleField "WhatIfSheetModel" "ones") ∈ lw_all := lw_g (lw_at lw_m11 237 rfl) rfl
theorem q2768 : (Jvm.Cond.laysFinal "WhatIfSheetModel" "WhatIfSheetModel" "others" "[I") ∈ lw_all := lw_g (lw_at lw_m11 238 rfl) rfl
theorem q2769 : (Jvm.Cond.soleField "WhatIfSheetModel" "others") ∈ lw_all := lw_g (lw_at lw_m11 239 rfl) rfl
theorem q2770 : (Jvm.Cond.laysFinal "WhatIfSheetModel" "WhatIfSheetModel" "axisSizes" "[I") ∈ lw_all := lw_g (lw_at lw_m12 0 rfl) rfl
theorem q2771 : (Jvm.Cond.soleField "WhatIfSheetModel" "axisSizes") ∈ lw_all := lw_g (lw_at lw_m12 1 rfl) rfl
theorem q2772 : (Jvm.Cond.laysFinal "WhatIfSheetModel" "WhatIfSheetModel" "axes" "[[D") ∈ lw_all := lw_g (lw_at lw_m12 2 rfl) rfl
theorem q2773 : (Jvm.Cond.soleField "WhatIfSheetModel" "axes") ∈ lw_all := lw_g (lw_at lw_m12 3 rfl) rfl
theorem q2774 : (Jvm.Cond.laysFinal "WhatIfSheetModel" "WhatIfSheetModel" "cellNames" "[I") ∈ lw_all := lw_g (lw_at lw_m12 4 rfl) rfl
theorem q2775 : (Jvm.Cond.soleField "WhatIfSheetModel" "cellNames") ∈ lw_all := lw_g (lw_at lw_m12 5 rfl) rfl
theorem q2776 : (Jvm.Cond.laysFinal "WhatIfSheetModel" "WhatIfSheetModel" "tableTimes" "[[I") ∈ lw_all := lw_g (lw_at lw_m12 6 rfl) rfl
theorem q2777 : (Jvm.Cond.soleField "WhatIfSheetModel" "tableTimes") ∈ lw_all := lw_g (lw_at lw_m12 7 rfl) rfl
theorem q2778 : (Jvm.Cond.laysFinal "WhatIfSheetModel" "WhatIfSheetModel" "hasRead" "[Z") ∈ lw_all := lw_g (lw_at lw_m12 8 rfl) rfl
theorem q2779 : (Jvm.Cond.soleField "WhatIfSheetModel" "hasRead") ∈ lw_all := lw_g (lw_at lw_m12 9 rfl) rfl
theorem q2780 : (Jvm.Cond.laysFinal "WhatIfSheetModel" "WhatIfSheetModel" "read" "[I") ∈ lw_all := lw_g (lw_at lw_m12 10 rfl) rfl
theorem q2781 : (Jvm.Cond.soleField "WhatIfSheetModel" "read") ∈ lw_all := lw_g (lw_at lw_m12 11 rfl) rfl
theorem q2782 : (Jvm.Cond.laysFinal "WhatIfSheetModel" "WhatIfSheetModel" "hasBurden" "[Z") ∈ lw_all := lw_g (lw_at lw_m12 12 rfl) rfl
theorem q2783 : (Jvm.Cond.soleField "WhatIfSheetModel" "hasBurden") ∈ lw_all := lw_g (lw_at lw_m12 13 rfl) rfl
theorem q2784 : (Jvm.Cond.laysFinal "WhatIfSheetModel" "WhatIfSheetModel" "burden" "[I") ∈ lw_all := lw_g (lw_at lw_m12 14 rfl) rfl
theorem q2785 : (Jvm.Cond.soleField "WhatIfSheetModel" "burden") ∈ lw_all := lw_g (lw_at lw_m12 15 rfl) rfl
theorem q2786 : (Jvm.Cond.lays "WhatIfSheetModel" "WhatIfSheetModel" "deep" "I") ∈ lw_all := lw_g (lw_at lw_m12 16 rfl) rfl
theorem q2787 : (Jvm.Cond.soleField "WhatIfSheetModel" "deep") ∈ lw_all := lw_g (lw_at lw_m12 17 rfl) rfl
theorem q2788 : (Jvm.Cond.laysFinal "WhatIfSheetModel" "WhatIfSheetModel" "told" "[[Z") ∈ lw_all := lw_g (lw_at lw_m12 18 rfl) rfl
theorem q2789 : (Jvm.Cond.soleField "WhatIfSheetModel" "told") ∈ lw_all := lw_g (lw_at lw_m12 19 rfl) rfl
theorem q2790 : (Jvm.Cond.laysFinal "WhatIfSheetModel" "WhatIfSheetModel" "values" "[[D") ∈ lw_all := lw_g (lw_at lw_m12 20 rfl) rfl
theorem q2791 : (Jvm.Cond.soleField "WhatIfSheetModel" "values") ∈ lw_all := lw_g (lw_at lw_m12 21 rfl) rfl
theorem q2792 : (Jvm.Cond.laysFinal "WhatIfSheetModel" "WhatIfSheetModel" "errors" "[[I") ∈ lw_all := lw_g (lw_at lw_m12 22 rfl) rfl
theorem q2793 : (Jvm.Cond.soleField "WhatIfSheetModel" "errors") ∈ lw_all := lw_g (lw_at lw_m12 23 rfl) rfl
theorem q2794 : (Jvm.Cond.laysFinal "WhatIfSheetModel" "WhatIfSheetModel" "blames" "[[I") ∈ lw_all := lw_g (lw_at lw_m12 24 rfl) rfl
theorem q2795 : (Jvm.Cond.soleField "WhatIfSheetModel" "blames") ∈ lw_all := lw_g (lw_at lw_m12 25 rfl) rfl
theorem q2796 : (Jvm.Cond.laysFinal "WhatIfSheetModel" "WhatIfSheetModel" "summed" "[[Z") ∈ lw_all := lw_g (lw_at lw_m12 26 rfl) rfl
theorem q2797 : (Jvm.Cond.soleField "WhatIfSheetModel" "summed") ∈ lw_all := lw_g (lw_at lw_m12 27 rfl) rfl
theorem q2798 : (Jvm.Cond.laysFinal "WhatIfSheetModel" "WhatIfSheetModel" "sums" "[[D") ∈ lw_all := lw_g (lw_at lw_m12 28 rfl) rfl
theorem q2799 : (Jvm.Cond.soleField "WhatIfSheetModel" "sums") ∈ lw_all := lw_g (lw_at lw_m12 29 rfl) rfl
theorem q2800 : (Jvm.Cond.laysFinal "WhatIfSheetModel" "WhatIfSheetModel" "sumErrors" "[[I") ∈ lw_all := lw_g (lw_at lw_m12 30 rfl) rfl
theorem q2801 : (Jvm.Cond.soleField "WhatIfSheetModel" "sumErrors") ∈ lw_all := lw_g (lw_at lw_m12 31 rfl) rfl
theorem q2802 : (Jvm.Cond.lays "WhatIfSheetModel" "WhatIfSheetModel" "top" "I") ∈ lw_all := lw_g (lw_at lw_m12 32 rfl) rfl
theorem q2803 : (Jvm.Cond.soleField "WhatIfSheetModel" "top") ∈ lw_all := lw_g (lw_at lw_m12 33 rfl) rfl
theorem q2804 : (Jvm.Cond.laysFinal "WhatIfSheetModel" "WhatIfSheetModel" "heap" "[D") ∈ lw_all := lw_g (lw_at lw_m12 34 rfl) rfl
theorem q2805 : (Jvm.Cond.soleField "WhatIfSheetModel" "heap") ∈ lw_all := lw_g (lw_at lw_m12 35 rfl) rfl
theorem q2806 : (Jvm.Cond.laysFinal "WhatIfSheetModel" "WhatIfSheetModel" "heapErrors" "[I") ∈ lw_all := lw_g (lw_at lw_m12 36 rfl) rfl
theorem q2807 : (Jvm.Cond.soleField "WhatIfSheetModel" "heapErrors") ∈ lw_all := lw_g (lw_at lw_m12 37 rfl) rfl
theorem q2808 : (Jvm.Cond.laysFinal "WhatIfSheetModel" "WhatIfSheetModel" "heapBlames" "[I") ∈ lw_all := lw_g (lw_at lw_m12 38 rfl) rfl
theorem q2809 : (Jvm.Cond.soleField "WhatIfSheetModel" "heapBlames") ∈ lw_all := lw_g (lw_at lw_m12 39 rfl) rfl
theorem q2810 : (Jvm.Cond.lays "WhatIfSheetModel" "WhatIfSheetModel" "caseValue" "D") ∈ lw_all := lw_g (lw_at lw_m12 40 rfl) rfl
theorem q2811 : (Jvm.Cond.soleField "WhatIfSheetModel" "caseValue") ∈ lw_all := lw_g (lw_at lw_m12 41 rfl) rfl
theorem q2812 : (Jvm.Cond.lays "WhatIfSheetModel" "WhatIfSheetModel" "caseError" "I") ∈ lw_all := lw_g (lw_at lw_m12 42 rfl) rfl
theorem q2813 : (Jvm.Cond.soleField "WhatIfSheetModel" "caseError") ∈ lw_all := lw_g (lw_at lw_m12 43 rfl) rfl
theorem q2814 : (Jvm.Cond.lays "WhatIfSheetModel" "WhatIfSheetModel" "caseBlame" "I") ∈ lw_all := lw_g (lw_at lw_m12 44 rfl) rfl
theorem q2815 : (Jvm.Cond.soleField "WhatIfSheetModel" "caseBlame") ∈ lw_all := lw_g (lw_at lw_m12 45 rfl) rfl
theorem q2816 : (Jvm.Cond.laysFinal "WhatIfSheetModel" "WhatIfSheetModel" "tape" "[I") ∈ lw_all := lw_g (lw_at lw_m12 46 rfl) rfl
theorem q2817 : (Jvm.Cond.soleField "WhatIfSheetModel" "tape") ∈ lw_all := lw_g (lw_at lw_m12 47 rfl) rfl
theorem q2818 : (Jvm.Cond.lays "WhatIfSheetModel" "WhatIfSheetModel" "taped" "I") ∈ lw_all := lw_g (lw_at lw_m12 48 rfl) rfl
theorem q2819 : (Jvm.Cond.soleField "WhatIfSheetModel" "taped") ∈ lw_all := lw_g (lw_at lw_m12 49 rfl) rfl
theorem q2820 : (Jvm.Cond.laysFinal "WhatIfSheetModel" "WhatIfSheetModel" "newMarks" "[I") ∈ lw_all := lw_g (lw_at lw_m12 50 rfl) rfl
theorem q2821 : (Jvm.Cond.soleField "WhatIfSheetModel" "newMarks") ∈ lw_all := lw_g (lw_at lw_m12 51 rfl) rfl
theorem q2822 : (Jvm.Cond.laysFinal "WhatIfSheetModel" "WhatIfSheetModel" "newFigures" "[D") ∈ lw_all := lw_g (lw_at lw_m12 52 rfl) rfl
theorem q2823 : (Jvm.Cond.soleField "WhatIfSheetModel" "newFigures") ∈ lw_all := lw_g (lw_at lw_m12 53 rfl) rfl
theorem q2824 : (Jvm.Cond.lays "WhatIfSheetModel" "WhatIfSheetModel" "newSize" "I") ∈ lw_all := lw_g (lw_at lw_m12 54 rfl) rfl
theorem q2825 : (Jvm.Cond.soleField "WhatIfSheetModel" "newSize") ∈ lw_all := lw_g (lw_at lw_m12 55 rfl) rfl
theorem q2826 : (Jvm.Cond.lays "WhatIfSheetModel" "WhatIfSheetModel" "newFigureMany" "I") ∈ lw_all := lw_g (lw_at lw_m12 56 rfl) rfl
theorem q2827 : (Jvm.Cond.soleField "WhatIfSheetModel" "newFigureMany") ∈ lw_all := lw_g (lw_at lw_m12 57 rfl) rfl
theorem q2828 : (Jvm.Cond.lays "WhatIfSheetModel" "WhatIfSheetModel" "at" "I") ∈ lw_all := lw_g (lw_at lw_m12 58 rfl) rfl
theorem q2829 : (Jvm.Cond.soleField "WhatIfSheetModel" "at") ∈ lw_all := lw_g (lw_at lw_m12 59 rfl) rfl
theorem q2830 : (Jvm.Cond.lays "WhatIfSheetModel" "WhatIfSheetModel" "begin" "I") ∈ lw_all := lw_g (lw_at lw_m12 60 rfl) rfl
theorem q2831 : (Jvm.Cond.soleField "WhatIfSheetModel" "begin") ∈ lw_all := lw_g (lw_at lw_m12 61 rfl) rfl
theorem q2832 : (Jvm.Cond.lays "WhatIfSheetModel" "WhatIfSheetModel" "token" "I") ∈ lw_all := lw_g (lw_at lw_m12 62 rfl) rfl
theorem q2833 : (Jvm.Cond.soleField "WhatIfSheetModel" "token") ∈ lw_all := lw_g (lw_at lw_m12 63 rfl) rfl
theorem q2834 : (Jvm.Cond.lays "WhatIfSheetModel" "WhatIfSheetModel" "sign" "I") ∈ lw_all := lw_g (lw_at lw_m12 64 rfl) rfl
theorem q2835 : (Jvm.Cond.soleField "WhatIfSheetModel" "sign") ∈ lw_all := lw_g (lw_at lw_m12 65 rfl) rfl
theorem q2836 : (Jvm.Cond.lays "WhatIfSheetModel" "WhatIfSheetModel" "whole" "I") ∈ lw_all := lw_g (lw_at lw_m12 66 rfl) rfl
theorem q2837 : (Jvm.Cond.soleField "WhatIfSheetModel" "whole") ∈ lw_all := lw_g (lw_at lw_m12 67 rfl) rfl
theorem q2838 : (Jvm.Cond.lays "WhatIfSheetModel" "WhatIfSheetModel" "behind" "I") ∈ lw_all := lw_g (lw_at lw_m12 68 rfl) rfl
theorem q2839 : (Jvm.Cond.soleField "WhatIfSheetModel" "behind") ∈ lw_all := lw_g (lw_at lw_m12 69 rfl) rfl
theorem q2840 : (Jvm.Cond.lays "WhatIfSheetModel" "WhatIfSheetModel" "opened" "I") ∈ lw_all := lw_g (lw_at lw_m12 70 rfl) rfl
theorem q2841 : (Jvm.Cond.soleField "WhatIfSheetModel" "opened") ∈ lw_all := lw_g (lw_at lw_m12 71 rfl) rfl
theorem q2842 : (Jvm.Cond.lays "WhatIfSheetModel" "WhatIfSheetModel" "isWrong" "Z") ∈ lw_all := lw_g (lw_at lw_m12 72 rfl) rfl
theorem q2843 : (Jvm.Cond.soleField "WhatIfSheetModel" "isWrong") ∈ lw_all := lw_g (lw_at lw_m12 73 rfl) rfl
theorem q2844 : (Jvm.Cond.laysFinal "WhatIfSheetModel" "WhatIfSheetModel" "oldMarks" "[I") ∈ lw_all := lw_g (lw_at lw_m12 74 rfl) rfl
theorem q2845 : (Jvm.Cond.soleField "WhatIfSheetModel" "oldMarks") ∈ lw_all := lw_g (lw_at lw_m12 75 rfl) rfl
theorem q2846 : (Jvm.Cond.laysFinal "WhatIfSheetModel" "WhatIfSheetModel" "oldFigures" "[D") ∈ lw_all := lw_g (lw_at lw_m12 76 rfl) rfl
theorem q2847 : (Jvm.Cond.soleField "WhatIfSheetModel" "oldFigures") ∈ lw_all := lw_g (lw_at lw_m12 77 rfl) rfl
theorem q2848 : (Jvm.Cond.laysFinal "WhatIfSheetModel" "WhatIfSheetModel" "hasLeast" "[Z") ∈ lw_all := lw_g (lw_at lw_m12 78 rfl) rfl
theorem q2849 : (Jvm.Cond.soleField "WhatIfSheetModel" "hasLeast") ∈ lw_all := lw_g (lw_at lw_m12 79 rfl) rfl
theorem q2850 : (Jvm.Cond.laysFinal "WhatIfSheetModel" "WhatIfSheetModel" "least" "[I") ∈ lw_all := lw_g (lw_at lw_m12 80 rfl) rfl
theorem q2851 : (Jvm.Cond.soleField "WhatIfSheetModel" "least") ∈ lw_all := lw_g (lw_at lw_m12 81 rfl) rfl
theorem q2852 : (Jvm.Cond.lays "WhatIfSheetModel" "WhatIfSheetModel" "fMany" "I") ∈ lw_all := lw_g (lw_at lw_m12 82 rfl) rfl
theorem q2853 : (Jvm.Cond.soleField "WhatIfSheetModel" "fMany") ∈ lw_all := lw_g (lw_at lw_m12 83 rfl) rfl
theorem q2854 : (Jvm.Cond.lays "WhatIfSheetModel" "WhatIfSheetModel" "fFails" "Z") ∈ lw_all := lw_g (lw_at lw_m12 84 rfl) rfl
theorem q2855 : (Jvm.Cond.soleField "WhatIfSheetModel" "fFails") ∈ lw_all := lw_g (lw_at lw_m12 85 rfl) rfl
theorem q2856 : (Jvm.Cond.lays "WhatIfSheetModel" "WhatIfSheetModel" "found" "D") ∈ lw_all := lw_g (lw_at lw_m12 86 rfl) rfl
theorem q2857 : (Jvm.Cond.soleField "WhatIfSheetModel" "found") ∈ lw_all := lw_g (lw_at lw_m12 87 rfl) rfl
theorem q2858 : (Jvm.Cond.lays "WhatIfSheetModel" "WhatIfSheetModel" "foundF" "D") ∈ lw_all := lw_g (lw_at lw_m12 88 rfl) rfl
theorem q2859 : (Jvm.Cond.soleField "WhatIfSheetModel" "foundF") ∈ lw_all := lw_g (lw_at lw_m12 89 rfl) rfl
theorem q2860 : (Jvm.Cond.laysFinal "WhatIfSheetModel" "WhatIfSheetModel" "oldNumbers" "[D") ∈ lw_all := lw_g (lw_at lw_m12 90 rfl) rfl
theorem q2861 : (Jvm.Cond.soleField "WhatIfSheetModel" "oldNumbers") ∈ lw_all := lw_g (lw_at lw_m12 91 rfl) rfl
theorem q2862 : (Jvm.Cond.laysFinal "WhatIfSheetModel" "WhatIfSheetModel" "oldGiven" "[Z") ∈ lw_all := lw_g (lw_at lw_m12 92 rfl) rfl
theorem q2863 : (Jvm.Cond.soleField "WhatIfSheetModel" "oldGiven") ∈ lw_all := lw_g (lw_at lw_m12 93 rfl) rfl
theorem q2864 : (Jvm.Cond.lays "WhatIfSheetModel" "WhatIfSheetModel" "hasImage" "Z") ∈ lw_all := lw_g (lw_at lw_m12 94 rfl) rfl
theorem q2865 : (Jvm.Cond.soleField "WhatIfSheetModel" "hasImage") ∈ lw_all := lw_g (lw_at lw_m12 95 rfl) rfl
theorem q2866 : (Jvm.Cond.laysFinal "WhatIfSheetModel" "WhatIfSheetModel" "imageKinds" "[I") ∈ lw_all := lw_g (lw_at lw_m12 96 rfl) rfl
theorem q2867 : (Jvm.Cond.soleField "WhatIfSheetModel" "imageKinds") ∈ lw_all := lw_g (lw_at lw_m12 97 rfl) rfl
theorem q2868 : (Jvm.Cond.laysFinal "WhatIfSheetModel" "WhatIfSheetModel" "imageSizes" "[I") ∈ lw_all := lw_g (lw_at lw_m12 98 rfl) rfl
theorem q2869 : (Jvm.Cond.soleField "WhatIfSheetModel" "imageSizes") ∈ lw_all := lw_g (lw_at lw_m12 99 rfl) rfl
theorem q2870 : (Jvm.Cond.laysFinal "WhatIfSheetModel" "WhatIfSheetModel" "imageGiven" "[Z") ∈ lw_all := lw_g (lw_at lw_m12 100 rfl) rfl
theorem q2871 : (Jvm.Cond.soleField "WhatIfSheetModel" "imageGiven") ∈ lw_all := lw_g (lw_at lw_m12 101 rfl) rfl
theorem q2872 : (Jvm.Cond.laysFinal "WhatIfSheetModel" "WhatIfSheetModel" "imageLaid" "[Z") ∈ lw_all := lw_g (lw_at lw_m12 102 rfl) rfl
theorem q2873 : (Jvm.Cond.soleField "WhatIfSheetModel" "imageLaid") ∈ lw_all := lw_g (lw_at lw_m12 103 rfl) rfl
theorem q2874 : (Jvm.Cond.laysFinal "WhatIfSheetModel" "WhatIfSheetModel" "imageNumbers" "[D") ∈ lw_all := lw_g (lw_at lw_m12 104 rfl) rfl
theorem q2875 : (Jvm.Cond.soleField "WhatIfSheetModel" "imageNumbers") ∈ lw_all := lw_g (lw_at lw_m12 105 rfl) rfl
theorem q2876 : (Jvm.Cond.laysFinal "WhatIfSheetModel" "WhatIfSheetModel" "imageMarks" "[[I") ∈ lw_all := lw_g (lw_at lw_m12 106 rfl) rfl
theorem q2877 : (Jvm.Cond.soleField "WhatIfSheetModel" "imageMarks") ∈ lw_all := lw_g (lw_at lw_m12 107 rfl) rfl
theorem q2878 : (Jvm.Cond.laysFinal "WhatIfSheetModel" "WhatIfSheetModel" "imageFigures" "[[D") ∈ lw_all := lw_g (lw_at lw_m12 108 rfl) rfl
theorem q2879 : (Jvm.Cond.soleField "WhatIfSheetModel" "imageFigures") ∈ lw_all := lw_g (lw_at lw_m12 109 rfl) rfl
theorem q2880 : (Jvm.Cond.laysFinal "WhatIfSheetModel" "WhatIfSheetModel" "imageOutputs" "[I") ∈ lw_all := lw_g (lw_at lw_m12 110 rfl) rfl
theorem q2881 : (Jvm.Cond.soleField "WhatIfSheetModel" "imageOutputs") ∈ lw_all := lw_g (lw_at lw_m12 111 rfl) rfl
theorem q2882 : (Jvm.Cond.laysFinal "WhatIfSheetModel" "WhatIfSheetModel" "imageOnes" "[I") ∈ lw_all := lw_g (lw_at lw_m12 112 rfl) rfl
theorem q2883 : (Jvm.Cond.soleField "WhatIfSheetModel" "imageOnes") ∈ lw_all := lw_g (lw_at lw_m12 113 rfl) rfl
theorem q2884 : (Jvm.Cond.laysFinal "WhatIfSheetModel" "WhatIfSheetModel" "imageOthers" "[I") ∈ lw_all := lw_g (lw_at lw_m12 114 rfl) rfl
theorem q2885 : (Jvm.Cond.soleField "WhatIfSheetModel" "imageOthers") ∈ lw_all := lw_g (lw_at lw_m12 115 rfl) rfl
theorem q2886 : (Jvm.Cond.laysFinal "WhatIfSheetModel" "WhatIfSheetModel" "imageAxisSizes" "[I") ∈ lw_all := lw_g (lw_at lw_m12 116 rfl) rfl
theorem q2887 : (Jvm.Cond.soleField "WhatIfSheetModel" "imageAxisSizes") ∈ lw_all := lw_g (lw_at lw_m12 117 rfl) rfl
theorem q2888 : (Jvm.Cond.laysFinal "WhatIfSheetModel" "WhatIfSheetModel" "imageAxes" "[[D") ∈ lw_all := lw_g (lw_at lw_m12 118 rfl) rfl
theorem q2889 : (Jvm.Cond.soleField "WhatIfSheetModel" "imageAxes") ∈ lw_all := lw_g (lw_at lw_m12 119 rfl) rfl
theorem q2890 : (Jvm.Cond.laysFinal "WhatIfSheetModel" "WhatIfSheetModel" "rows" "[I") ∈ lw_all := lw_g (lw_at lw_m12 120 rfl) rfl
theorem q2891 : (Jvm.Cond.soleField "WhatIfSheetModel" "rows") ∈ lw_all := lw_g (lw_at lw_m12 121 rfl) rfl
theorem q2892 : (Jvm.Cond.laysFinal "WhatIfSheetModel" "WhatIfSheetModel" "lengths" "[I") ∈ lw_all := lw_g (lw_at lw_m12 122 rfl) rfl
theorem q2893 : (Jvm.Cond.soleField "WhatIfSheetModel" "lengths") ∈ lw_all := lw_g (lw_at lw_m12 123 rfl) rfl
theorem q2894 : (Jvm.Cond.laysFinal "WhatIfSheetModel" "WhatIfSheetModel" "items" "[[D") ∈ lw_all := lw_g (lw_at lw_m12 124 rfl) rfl
theorem q2895 : (Jvm.Cond.soleField "WhatIfSheetModel" "items") ∈ lw_all := lw_g (lw_at lw_m12 125 rfl) rfl
theorem q2896 : (Jvm.Cond.laysFinal "WhatIfSheetModel" "WhatIfSheetModel" "isFailed" "[[Z") ∈ lw_all := lw_g (lw_at lw_m12 126 rfl) rfl
theorem q2897 : (Jvm.Cond.soleField "WhatIfSheetModel" "isFailed") ∈ lw_all := lw_g (lw_at lw_m12 127 rfl) rfl
theorem q2898 : (Jvm.Cond.laysFinal "WhatIfSheetModel" "WhatIfSheetModel" "passed" "[D") ∈ lw_all := lw_g (lw_at lw_m12 128 rfl) rfl
theorem q2899 : (Jvm.Cond.soleField "WhatIfSheetModel" "passed") ∈ lw_all := lw_g (lw_at lw_m12 129 rfl) rfl
theorem q2900 : (Jvm.Cond.laysFinal "WhatIfSheetModel" "WhatIfSheetModel" "passedFailed" "[Z") ∈ lw_all := lw_g (lw_at lw_m12 130 rfl) rfl
theorem q2901 : (Jvm.Cond.soleField "WhatIfSheetModel" "passedFailed") ∈ lw_all := lw_g (lw_at lw_m12 131 rfl) rfl
theorem q2902 : (Jvm.Cond.superclass "WhatIfSheetModel" "java/lang/Object") ∈ lw_all := lw_g (lw_at lw_m12 132 rfl) rfl
theorem q2905 : (Jvm.Cond.instanceMethod ({ cls := "WhatIfSheetModel", name := "set", desc := "(II)I" } : Jvm.MethodName)) ∈ lw_all := lw_g (lw_at lw_m12 135 rfl) rfl
theorem q2906 : (Jvm.Cond.selects "WhatIfSheetModel" ({ cls := "WhatIfSheetModel", name := "set", desc := "(II)I" } : Jvm.MethodName) ({ cls := "WhatIfSheetModel", name := "set", desc := "(II)I" } : Jvm.MethodName)) ∈ lw_all := lw_g (lw_at lw_m12 136 rfl) rfl
theorem q2907 : (Jvm.Cond.code ({ cls := "WhatIfSheetModel", name := "set", desc := "(II)I" } : Jvm.MethodName) prog_35_method_35_code (3 : Nat) (Option.some Jvm.ClassFile.FieldType.int)) ∈ lw_all := lw_g (lw_at lw_m12 137 rfl) rfl
theorem q2908 : (Jvm.Cond.methodLink "WhatIfSheetModel" (312 : Nat) ({ cls := "WhatIfSheetModel", name := "isCell", desc := "(I)Z" } : Jvm.MethodName)) ∈ lw_all := lw_g (lw_at lw_m12 138 rfl) rfl
theorem q2909 : (Jvm.Cond.static ({ cls := "WhatIfSheetModel", name := "isCell", desc := "(I)Z" } : Jvm.MethodName)) ∈ lw_all := lw_g (lw_at lw_m12 139 rfl) rfl
theorem q2910 : (Jvm.Cond.code ({ cls := "WhatIfSheetModel", name := "isCell", desc := "(I)Z" } : Jvm.MethodName) prog_35_method_3_code (1 : Nat) (Option.some Jvm.ClassFile.FieldType.boolean)) ∈ lw_all := lw_g (lw_at lw_m12 140 rfl) rfl
theorem q2911 : (Jvm.Cond.methodLink "WhatIfSheetModel" (183 : Nat) ({ cls := "WhatIfSheetModel", name := "in", desc := "(III)Z" } : Jvm.MethodName)) ∈ lw_all := lw_g (lw_at lw_m12 141 rfl) rfl
theorem q2912 : (Jvm.Cond.static ({ cls := "WhatIfSheetModel", name := "in", desc := "(III)Z" } : Jvm.MethodName)) ∈ lw_all := lw_g (lw_at lw_m12 142 rfl) rfl
theorem q2913 : (Jvm.Cond.code ({ cls := "WhatIfSheetModel", name := "in", desc := "(III)Z" } : Jvm.MethodName) prog_35_method_2_code (3 : Nat) (Option.some Jvm.ClassFile.FieldType.boolean)) ∈ lw_all := lw_g (lw_at lw_m12 143 rfl) rfl
theorem q2914 : (Jvm.Cond.methodLink "WhatIfSheetModel" (315 : Nat) ({ cls := "WhatIfSheetModel", name := "isEighths", desc := "(I)Z" } : Jvm.MethodName)) ∈ lw_all := lw_g (lw_at lw_m12 144 rfl) rfl
theorem q2915 : (Jvm.Cond.static ({ cls := "WhatIfSheetModel", name := "isEighths", desc := "(I)Z" } : Jvm.MethodName)) ∈ lw_all := lw_g (lw_at lw_m12 145 rfl) rfl
theorem q2916 : (Jvm.Cond.code ({ cls := "WhatIfSheetModel", name := "isEighths", desc := "(I)Z" } : Jvm.MethodName) prog_35_method_34_code (1 : Nat) (Option.some Jvm.ClassFile.FieldType.boolean)) ∈ lw_all := lw_g (lw_at lw_m12 146 rfl) rfl
theorem q2917 : (Jvm.Cond.constant "WhatIfSheetModel" (310 : Nat) (-8000000 : Int32)) ∈ lw_all := lw_g (lw_at lw_m12 147 rfl) rfl
theorem q2918 : (Jvm.Cond.constant "WhatIfSheetModel" (311 : Nat) (8000000 : Int32)) ∈ lw_all := lw_g (lw_at lw_m12 148 rfl) rfl
theorem q2919 : (Jvm.Cond.methodLink "WhatIfSheetModel" (204 : Nat) ({ cls := "WhatIfSheetModel", name := "isInput", desc := "(I)Z" } : Jvm.MethodName)) ∈ lw_all := lw_g (lw_at lw_m12 149 rfl) rfl
theorem q2920 : (Jvm.Cond.privateMethod ({ cls := "WhatIfSheetModel", name := "isInput", desc := "(I)Z" } : Jvm.MethodName)) ∈ lw_tbl := lw_at lw_m12 150 rfl
theorem q2921 : (Jvm.Cond.instanceMethod ({ cls := "WhatIfSheetModel", name := "isInput", desc := "(I)Z" } : Jvm.MethodName)) ∈ lw_all := lw_g (lw_at lw_m12 151 rfl) rfl
theorem q2922 : (Jvm.Cond.code ({ cls := "WhatIfSheetModel", name := "isInput", desc := "(I)Z" } : Jvm.MethodName) prog_35_method_5_code (2 : Nat) (Option.some Jvm.ClassFile.FieldType.boolean)) ∈ lw_all := lw_g (lw_at lw_m12 152 rfl) rfl
theorem q2923 : (Jvm.Cond.constantDouble "WhatIfSheetModel" (318 : Nat) (4620693217682128896 : UInt64)) ∈ lw_all := lw_g (lw_at lw_m12 153 rfl) rfl
theorem q2924 : (Jvm.Cond.methodLink "WhatIfSheetModel" (250 : Nat) ({ cls := "WhatIfSheetModel", name := "kept", desc := "(ID)D" } : Jvm.MethodName)) ∈ lw_all := lw_g (lw_at lw_m12 154 rfl) rfl
theorem q2925 : (Jvm.Cond.static ({ cls := "WhatIfSheetModel", name := "kept", desc := "(ID)D" } : Jvm.MethodName)) ∈ lw_all := lw_g (lw_at lw_m12 155 rfl) rfl
theorem q2926 : (Jvm.Cond.code ({ cls := "WhatIfSheetModel", name := "kept", desc := "(ID)D" } : Jvm.MethodName) prog_35_method_7_code (3 : Nat) (Option.some Jvm.ClassFile.FieldType.double)) ∈ lw_all := lw_g (lw_at lw_m12 156 rfl) rfl
theorem q2927 : (Jvm.Cond.methodLink "WhatIfSheetModel" (187 : Nat) ({ cls := "WhatIfSheetModel", name := "plain", desc := "(D)D" } : Jvm.MethodName)) ∈ lw_all := lw_g (lw_at lw_m12 157 rfl) rfl
theorem q2928 : (Jvm.Cond.static ({ cls := "WhatIfSheetModel", name := "plain", desc := "(D)D" } : Jvm.MethodName)) ∈ lw_all := lw_g (lw_at lw_m12 158 rfl) rfl
theorem q2929 : (Jvm.Cond.code ({ cls := "WhatIfSheetModel", name := "plain", desc := "(D)D" } : Jvm.MethodName) prog_35_method_6_code (2 : Nat) (Option.some Jvm.ClassFile.FieldType.double)) ∈ lw_all := lw_g (lw_at lw_m12 159 rfl) rfl
theorem q2930 : (Jvm.Cond.constantFloat "WhatIfSheetModel" (191 : Nat) (1135869952 : UInt32)) ∈ lw_all := lw_g (lw_at lw_m12 160 rfl) rfl
theorem q2931 : (Jvm.Cond.constantDouble "WhatIfSheetModel" (192 : Nat) (13875379345695965184 : UInt64)) ∈ lw_all := lw_g (lw_at lw_m12 161 rfl) rfl
theorem q2932 : (Jvm.Cond.constantDouble "WhatIfSheetModel" (194 : Nat) (4652007308841189376 : UInt64)) ∈ lw_all := lw_g (lw_at lw_m12 162 rfl) rfl
theorem q2934 : (Jvm.Cond.instanceMethod ({ cls := "WhatIfSheetModel", name := "clear", desc := "(I)I" } : Jvm.MethodName)) ∈ lw_all := lw_g (lw_at lw_m12 164 rfl) rfl
theorem q2935 : (Jvm.Cond.selects "WhatIfSheetModel" ({ cls := "WhatIfSheetModel", name := "clear", desc := "(I)I" } : Jvm.MethodName) ({ cls := "WhatIfSheetModel", name := "clear", desc := "(I)I" } : Jvm.MethodName)) ∈ lw_all := lw_g (lw_at lw_m12 165 rfl) rfl
theorem q2936 : (Jvm.Cond.code ({ cls := "WhatIfSheetModel", name := "clear", desc := "(I)I" } : Jvm.MethodName) prog_35_method_36_code (2 : Nat) (Option.some Jvm.ClassFile.FieldType.int)) ∈ lw_all := lw_g (lw_at lw_m12 166 rfl) rfl
theorem q2937 : (Jvm.Cond.methodLink "WhatIfSheetModel" (320 : Nat) ({ cls := "WhatIfSheetModel", name := "tellNames", desc := "(I)V" } : Jvm.MethodName)) ∈ lw_all := lw_g (lw_at lw_m12 167 rfl) rfl
theorem q2938 : (Jvm.Cond.privateMethod ({ cls := "WhatIfSheetModel", name := "tellNames", desc := "(I)V" } : Jvm.MethodName)) ∈ lw_tbl := lw_at lw_m12 168 rfl
theorem q2939 : (Jvm.Cond.instanceMethod ({ cls := "WhatIfSheetModel", name := "tellNames", desc := "(I)V" } : Jvm.MethodName)) ∈ lw_all := lw_g (lw_at lw_m12 169 rfl) rfl
theorem q2940 : (Jvm.Cond.code ({ cls := "WhatIfSheetModel", name := "tellNames", desc := "(I)V" } : Jvm.MethodName) prog_35_method_8_code (3 : Nat) (Option.none : Option Jvm.ClassFile.FieldType)) ∈ lw_all := lw_g (lw_at lw_m12 170 rfl) rfl
theorem q2942 : (Jvm.Cond.instanceMethod ({ cls := "WhatIfSheetModel", name := "kind", desc := "(II)I" } : Jvm.MethodName)) ∈ lw_all := lw_g (lw_at lw_m12 172 rfl) rfl
theorem q2943 : (Jvm.Cond.selects "WhatIfSheetModel" ({ cls := "WhatIfSheetModel", name := "kind", desc := "(II)I" } : Jvm.MethodName) ({ cls := "WhatIfSheetModel", name := "kind", desc := "(II)I" } : Jvm.MethodName)) ∈ lw_all := lw_g (lw_at lw_m12 173 rfl) rfl
theorem q2944 : (Jvm.Cond.code ({ cls := "WhatIfSheetModel", name := "kind", desc := "(II)I" } : Jvm.MethodName) prog_35_method_37_code (4 : Nat) (Option.some Jvm.ClassFile.FieldType.int)) ∈ lw_all := lw_g (lw_at lw_m12 174 rfl) rfl
theorem q2946 : (Jvm.Cond.instanceMethod ({ cls := "WhatIfSheetModel", name := "told", desc := "(II)I" } : Jvm.MethodName)) ∈ lw_all := lw_g (lw_at lw_m12 176 rfl) rfl
theorem q2947 : (Jvm.Cond.selects "WhatIfSheetModel" ({ cls := "WhatIfSheetModel", name := "told", desc := "(II)I" } : Jvm.MethodName) ({ cls := "WhatIfSheetModel", name := "told", desc := "(II)I" } : Jvm.MethodName)) ∈ lw_all := lw_g (lw_at lw_m12 177 rfl) rfl
theorem q2948 : (Jvm.Cond.code ({ cls := "WhatIfSheetModel", name := "told", desc := "(II)I" } : Jvm.MethodName) prog_35_method_38_code (3 : Nat) (Option.some Jvm.ClassFile.FieldType.int)) ∈ lw_all := lw_g (lw_at lw_m12 178 rfl) rfl
theorem q2949 : (Jvm.Cond.methodLink "WhatIfSheetModel" (323 : Nat) ({ cls := "WhatIfSheetModel", name := "reads", desc := "(I)I" } : Jvm.MethodName)) ∈ lw_all := lw_g (lw_at lw_m12 179 rfl) rfl
theorem q2950 : (Jvm.Cond.privateMethod ({ cls := "WhatIfSheetModel", name := "reads", desc := "(I)I" } : Jvm.MethodName)) ∈ lw_tbl := lw_at lw_m12 180 rfl
theorem q2951 : (Jvm.Cond.instanceMethod ({ cls := "WhatIfSheetModel", name := "reads", desc := "(I)I" } : Jvm.MethodName)) ∈ lw_all := lw_g (lw_at lw_m12 181 rfl) rfl
theorem q2952 : (Jvm.Cond.code ({ cls := "WhatIfSheetModel", name := "reads", desc := "(I)I" } : Jvm.MethodName) prog_35_method_15_code (3 : Nat) (Option.some Jvm.ClassFile.FieldType.int)) ∈ lw_all := lw_g (lw_at lw_m12 182 rfl) rfl
theorem q2953 : (Jvm.Cond.methodLink "WhatIfSheetModel" (208 : Nat) ({ cls := "WhatIfSheetModel", name := "readOf", desc := "(I)I" } : Jvm.MethodName)) ∈ lw_all := lw_g (lw_at lw_m12 183 rfl) rfl
theorem q2954 : (Jvm.Cond.privateMethod ({ cls := "WhatIfSheetModel", name := "readOf", desc := "(I)I" } : Jvm.MethodName)) ∈ lw_tbl := lw_at lw_m12 184 rfl
theorem q2955 : (Jvm.Cond.instanceMethod ({ cls := "WhatIfSheetModel", name := "readOf", desc := "(I)I" } : Jvm.MethodName)) ∈ lw_all := lw_g (lw_at lw_m12 185 rfl) rfl
theorem q2956 : (Jvm.Cond.code ({ cls := "WhatIfSheetModel", name := "readOf", desc := "(I)I" } : Jvm.MethodName) prog_35_method_13_code (4 : Nat) (Option.some Jvm.ClassFile.FieldType.int)) ∈ lw_all := lw_g (lw_at lw_m12 186 rfl) rfl
theorem q2957 : (Jvm.Cond.methodLink "WhatIfSheetModel" (196 : Nat) ({ cls := "WhatIfSheetModel", name := "namesCells", desc := "(I)I" } : Jvm.MethodName)) ∈ lw_all := lw_g (lw_at lw_m12 187 rfl) rfl
theorem q2958 : (Jvm.Cond.privateMethod ({ cls := "WhatIfSheetModel", name := "namesCells", desc := "(I)I" } : Jvm.MethodName)) ∈ lw_tbl := lw_at lw_m12 188 rfl
theorem q2959 : (Jvm.Cond.instanceMethod ({ cls := "WhatIfSheetModel", name := "namesCells", desc := "(I)I" } : Jvm.MethodName)) ∈ lw_all := lw_g (lw_at lw_m12 189 rfl) rfl
theorem q2960 : (Jvm.Cond.code ({ cls := "WhatIfSheetModel", name := "namesCells", desc := "(I)I" } : Jvm.MethodName) prog_35_method_9_code (2 : Nat) (Option.some Jvm.ClassFile.FieldType.int)) ∈ lw_all := lw_g (lw_at lw_m12 190 rfl) rfl
theorem q2961 : (Jvm.Cond.methodLink "WhatIfSheetModel" (200 : Nat) ({ cls := "WhatIfSheetModel", name := "times", desc := "(II)I" } : Jvm.MethodName)) ∈ lw_all := lw_g (lw_at lw_m12 191 rfl) rfl
theorem q2962 : (Jvm.Cond.privateMethod ({ cls := "WhatIfSheetModel", name := "times", desc := "(II)I" } : Jvm.MethodName)) ∈ lw_tbl := lw_at lw_m12 192 rfl
theorem q2963 : (Jvm.Cond.instanceMethod ({ cls := "WhatIfSheetModel", name := "times", desc := "(II)I" } : Jvm.MethodName)) ∈ lw_all := lw_g (lw_at lw_m12 193 rfl) rfl
theorem q2964 : (Jvm.Cond.code ({ cls := "WhatIfSheetModel", name := "times", desc := "(II)I" } : Jvm.MethodName) prog_35_method_10_code (3 : Nat) (Option.some Jvm.ClassFile.FieldType.int)) ∈ lw_all := lw_g (lw_at lw_m12 194 rfl) rfl
theorem q2965 : (Jvm.Cond.methodLink "WhatIfSheetModel" (211 : Nat) ({ cls := "WhatIfSheetModel", name := "varied", desc := "(I)I" } : Jvm.MethodName)) ∈ lw_all := lw_g (lw_at lw_m12 195 rfl) rfl
theorem q2966 : (Jvm.Cond.privateMethod ({ cls := "WhatIfSheetModel", name := "varied", desc := "(I)I" } : Jvm.MethodName)) ∈ lw_tbl := lw_at lw_m12 196 rfl
theorem q2967 : (Jvm.Cond.instanceMethod ({ cls := "WhatIfSheetModel", name := "varied", desc := "(I)I" } : Jvm.MethodName)) ∈ lw_all := lw_g (lw_at lw_m12 197 rfl) rfl
theorem q2968 : (Jvm.Cond.code ({ cls := "WhatIfSheetModel", name := "varied", desc := "(I)I" } : Jvm.MethodName) prog_35_method_14_code (2 : Nat) (Option.some Jvm.ClassFile.FieldType.int)) ∈ lw_all := lw_g (lw_at lw_m12 198 rfl) rfl
theorem q2969 : (Jvm.Cond.methodLink "WhatIfSheetModel" (214 : Nat) ({ cls := "WhatIfSheetModel", name := "reached", desc := "(I)I" } : Jvm.MethodName)) ∈ lw_all := lw_g (lw_at lw_m12 199 rfl) rfl
theorem q2970 : (Jvm.Cond.privateMethod ({ cls := "WhatIfSheetModel", name := "reached", desc := "(I)I" } : Jvm.MethodName)) ∈ lw_tbl := lw_at lw_m12 200 rfl
theorem q2971 : (Jvm.Cond.instanceMethod ({ cls := "WhatIfSheetModel", name := "reached", desc := "(I)I" } : Jvm.MethodName)) ∈ lw_all := lw_g (lw_at lw_m12 201 rfl) rfl
theorem q2972 : (Jvm.Cond.code ({ cls := "WhatIfSheetModel", name := "reached", desc := "(I)I" } : Jvm.MethodName) prog_35_method_11_code (5 : Nat) (Option.some Jvm.ClassFile.FieldType.int)) ∈ lw_all := lw_g (lw_at lw_m12 202 rfl) rfl
theorem q2973 : (Jvm.Cond.methodLink "WhatIfSheetModel" (237 : Nat) ({ cls := "WhatIfSheetModel", name := "burdenNow", desc := "(I)I" } : Jvm.MethodName)) ∈ lw_all := lw_g (lw_at lw_m12 203 rfl) rfl
theorem q2974 : (Jvm.Cond.privateMethod ({ cls := "WhatIfSheetModel", name := "burdenNow", desc := "(I)I" } : Jvm.MethodName)) ∈ lw_tbl := lw_at lw_m12 204 rfl
theorem q2975 : (Jvm.Cond.instanceMethod ({ cls := "WhatIfSheetModel", name := "burdenNow", desc := "(I)I" } : Jvm.MethodName)) ∈ lw_all := lw_g (lw_at lw_m12 205 rfl) rfl
theorem q2976 : (Jvm.Cond.code ({ cls := "WhatIfSheetModel", name := "burdenNow", desc := "(I)I" } : Jvm.MethodName) prog_35_method_19_code (3 : Nat) (Option.some Jvm.ClassFile.FieldType.int)) ∈ lw_all := lw_g (lw_at lw_m12 206 rfl) rfl
theorem q2977 : (Jvm.Cond.methodLink "WhatIfSheetModel" (229 : Nat) ({ cls := "WhatIfSheetModel", name := "burdenOf", desc := "(I)I" } : Jvm.MethodName)) ∈ lw_all := lw_g (lw_at lw_m12 207 rfl) rfl
theorem q2978 : (Jvm.Cond.privateMethod ({ cls := "WhatIfSheetModel", name := "burdenOf", desc := "(I)I" } : Jvm.MethodName)) ∈ lw_tbl := lw_at lw_m12 208 rfl
theorem q2979 : (Jvm.Cond.instanceMethod ({ cls := "WhatIfSheetModel", name := "burdenOf", desc := "(I)I" } : Jvm.MethodName)) ∈ lw_all := lw_g (lw_at lw_m12 209 rfl) rfl
theorem q2980 : (Jvm.Cond.code ({ cls := "WhatIfSheetModel", name := "burdenOf", desc := "(I)I" } : Jvm.MethodName) prog_35_method_17_code (7 : Nat) (Option.some Jvm.ClassFile.FieldType.int)) ∈ lw_all := lw_g (lw_at lw_m12 210 rfl) rfl
theorem q2981 : (Jvm.Cond.methodLink "WhatIfSheetModel" (217 : Nat) ({ cls := "WhatIfSheetModel", name := "burdenOfTable", desc := "(I)I" } : Jvm.MethodName)) ∈ lw_all := lw_g (lw_at lw_m12 211 rfl) rfl
theorem q2982 : (Jvm.Cond.privateMethod ({ cls := "WhatIfSheetModel", name := "burdenOfTable", desc := "(I)I" } : Jvm.MethodName)) ∈ lw_tbl := lw_at lw_m12 212 rfl
theorem q2983 : (Jvm.Cond.instanceMethod ({ cls := "WhatIfSheetModel", name := "burdenOfTable", desc := "(I)I" } : Jvm.MethodName)) ∈ lw_all := lw_g (lw_at lw_m12 213 rfl) rfl
theorem q2984 : (Jvm.Cond.code ({ cls := "WhatIfSheetModel", name := "burdenOfTable", desc := "(I)I" } : Jvm.MethodName) prog_35_method_18_code (2 : Nat) (Option.some Jvm.ClassFile.FieldType.int)) ∈ lw_all := lw_g (lw_at lw_m12 214 rfl) rfl
theorem q2985 : (Jvm.Cond.constant "WhatIfSheetModel" (228 : Nat) (1000000 : Int32)) ∈ lw_all := lw_g (lw_at lw_m12 215 rfl) rfl
theorem q2986 : (Jvm.Cond.methodLink "WhatIfSheetModel" (232 : Nat) ({ cls := "WhatIfSheetModel", name := "cases", desc := "(I)I" } : Jvm.MethodName)) ∈ lw_all := lw_g (lw_at lw_m12 216 rfl) rfl
theorem q2987 : (Jvm.Cond.privateMethod ({ cls := "WhatIfSheetModel", name := "cases", desc := "(I)I" } : Jvm.MethodName)) ∈ lw_tbl := lw_at lw_m12 217 rfl
theorem q2988 : (Jvm.Cond.instanceMethod ({ cls := "WhatIfSheetModel", name := "cases", desc := "(I)I" } : Jvm.MethodName)) ∈ lw_all := lw_g (lw_at lw_m12 218 rfl) rfl
theorem q2989 : (Jvm.Cond.code ({ cls := "WhatIfSheetModel", name := "cases", desc := "(I)I" } : Jvm.MethodName) prog_35_method_16_code (2 : Nat) (Option.some Jvm.ClassFile.FieldType.int)) ∈ lw_all := lw_g (lw_at lw_m12 219 rfl) rfl
theorem q2990 : (Jvm.Cond.methodLink "WhatIfSheetModel" (235 : Nat) ({ cls := "java/lang/Math", name := "min", desc := "(II)I" } : Jvm.MethodName)) ∈ lw_all := lw_g (lw_at lw_m12 220 rfl) rfl
theorem q2991 : (Jvm.Cond.constantLong "WhatIfSheetModel" (220 : Nat) (1000000 : Int64)) ∈ lw_all := lw_g (lw_at lw_m12 221 rfl) rfl
theorem q2992 : (Jvm.Cond.methodLink "WhatIfSheetModel" (222 : Nat) ({ cls := "java/lang/Math", name := "min", desc := "(JJ)J" } : Jvm.MethodName)) ∈ lw_all := lw_g (lw_at lw_m12 222 rfl) rfl
theorem q2995 : (Jvm.Cond.methodLink "WhatIfSheetModel" (296 : Nat) ({ cls := "WhatIfSheetModel", name := "tellNow", desc := "(I)V" } : Jvm.MethodName)) ∈ lw_all := lw_g (lw_at lw_m12 225 rfl) rfl
theorem q2996 : (Jvm.Cond.privateMethod ({ cls := "WhatIfSheetModel", name := "tellNow", desc := "(I)V" } : Jvm.MethodName)) ∈ lw_tbl := lw_at lw_m12 226 rfl
theorem q2997 : (Jvm.Cond.instanceMethod ({ cls := "WhatIfSheetModel", name := "tellNow", desc := "(I)V" } : Jvm.MethodName)) ∈ lw_all := lw_g (lw_at lw_m12 227 rfl) rfl
theorem q2998 : (Jvm.Cond.code ({ cls := "WhatIfSheetModel", name := "tellNow", desc := "(I)V" } : Jvm.MethodName) prog_35_method_29_code (2 : Nat) (Option.none : Option Jvm.ClassFile.FieldType)) ∈ lw_all := lw_g (lw_at lw_m12 228 rfl) rfl
theorem q2999 : (Jvm.Cond.methodLink "WhatIfSheetModel" (279 : Nat) ({ cls := "WhatIfSheetModel", name := "afresh", desc := "()V" } : Jvm.MethodName)) ∈ lw_all := lw_g (lw_at lw_m12 229 rfl) rfl
theorem q3000 : (Jvm.Cond.privateMethod ({ cls := "WhatIfSheetModel", name := "afresh", desc := "()V" } : Jvm.MethodName)) ∈ lw_tbl := lw_at lw_m12 230 rfl
theorem q3001 : (Jvm.Cond.instanceMethod ({ cls := "WhatIfSheetModel", name := "afresh", desc := "()V" } : Jvm.MethodName)) ∈ lw_all := lw_g (lw_at lw_m12 231 rfl) rfl
theorem q3002 : (Jvm.Cond.code ({ cls := "WhatIfSheetModel", name := "afresh", desc := "()V" } : Jvm.MethodName) prog_35_method_22_code (2 : Nat) (Option.none : Option Jvm.ClassFile.FieldType)) ∈ lw_all := lw_g (lw_at lw_m12 232 rfl) rfl
theorem q3003 : (Jvm.Cond.methodLink "WhatIfSheetModel" (258 : Nat) ({ cls := "WhatIfSheetModel", name := "tell", desc := "(I)V" } : Jvm.MethodName)) ∈ lw_all := lw_g (lw_at lw_m12 233 rfl) rfl
theorem q3004 : (Jvm.Cond.privateMethod ({ cls := "WhatIfSheetModel", name := "tell", desc := "(I)V" } : Jvm.MethodName)) ∈ lw_tbl := lw_at lw_m12 234 rfl
theorem q3005 : (Jvm.Cond.instanceMethod ({ cls := "WhatIfSheetModel", name := "tell", desc := "(I)V" } : Jvm.MethodName)) ∈ lw_all := lw_g (lw_at lw_m12 235 rfl) rfl
theorem q3006 : (Jvm.Cond.code ({ cls := "WhatIfSheetModel", name := "tell", desc := "(I)V" } : Jvm.MethodName) prog_35_method_23_code (3 : Nat) (Option.none : Option Jvm.ClassFile.FieldType)) ∈ lw_all := lw_g (lw_at lw_m12 236 rfl) rfl
theorem q3007 : (Jvm.Cond.methodLink "WhatIfSheetModel" (254 : Nat) ({ cls := "WhatIfSheetModel", name := "act", desc := "(II)V" } : Jvm.MethodName)) ∈ lw_all := lw_g (lw_at lw_m12 237 rfl) rfl
theorem q3008 : (Jvm.Cond.privateMethod ({ cls := "WhatIfSheetModel", name := "act", desc := "(II)V" } : Jvm.MethodName)) ∈ lw_tbl := lw_at lw_m12 238 rfl
theorem q3009 : (Jvm.Cond.instanceMethod ({ cls := "WhatIfSheetModel", name := "act", desc := "(II)V" } : Jvm.MethodName)) ∈ lw_all := lw_g (lw_at lw_m12 239 rfl) rfl
theorem q3010 : (Jvm.Cond.code ({ cls := "WhatIfSheetModel", name := "act", desc := "(II)V" } : Jvm.MethodName) prog_35_method_24_code (5 : Nat) (Option.none : Option Jvm.ClassFile.FieldType)) ∈ lw_all := lw_g (lw_at lw_m13 0 rfl) rfl
theorem q3011 : (Jvm.Cond.methodLink "WhatIfSheetModel" (262 : Nat) ({ cls := "WhatIfSheetModel", name := "push", desc := "(DII)V" } : Jvm.MethodName)) ∈ lw_all := lw_g (lw_at lw_m13 1 rfl) rfl
theorem q3012 : (Jvm.Cond.privateMethod ({ cls := "WhatIfSheetModel", name := "push", desc := "(DII)V" } : Jvm.MethodName)) ∈ lw_tbl := lw_at lw_m13 2 rfl
theorem q3013 : (Jvm.Cond.instanceMethod ({ cls := "WhatIfSheetModel", name := "push", desc := "(DII)V" } : Jvm.MethodName)) ∈ lw_all := lw_g (lw_at lw_m13 3 rfl) rfl
theorem q3014 : (Jvm.Cond.code ({ cls := "WhatIfSheetModel", name := "push", desc := "(DII)V" } : Jvm.MethodName) prog_35_method_21_code (5 : Nat) (Option.none : Option Jvm.ClassFile.FieldType)) ∈ lw_all := lw_g (lw_at lw_m13 4 rfl) rfl
theorem q3015 : (Jvm.Cond.methodLink "WhatIfSheetModel" (266 : Nat) ({ cls := "WhatIfSheetModel", name := "sumUp", desc := "(I)V" } : Jvm.MethodName)) ∈ lw_all := lw_g (lw_at lw_m13 5 rfl) rfl
theorem q3016 : (Jvm.Cond.privateMethod ({ cls := "WhatIfSheetModel", name := "sumUp", desc := "(I)V" } : Jvm.MethodName)) ∈ lw_tbl := lw_at lw_m13 6 rfl
theorem q3017 : (Jvm.Cond.instanceMethod ({ cls := "WhatIfSheetModel", name := "sumUp", desc := "(I)V" } : Jvm.MethodName)) ∈ lw_all := lw_g (lw_at lw_m13 7 rfl) rfl
theorem q3018 : (Jvm.Cond.code ({ cls := "WhatIfSheetModel", name := "sumUp", desc := "(I)V" } : Jvm.MethodName) prog_35_method_28_code (14 : Nat) (Option.none : Option Jvm.ClassFile.FieldType)) ∈ lw_all := lw_g (lw_at lw_m13 8 rfl) rfl
theorem q3019 : (Jvm.Cond.methodLink "WhatIfSheetModel" (292 : Nat) ({ cls := "WhatIfSheetModel", name := "tellCase", desc := "(III)V" } : Jvm.MethodName)) ∈ lw_all := lw_g (lw_at lw_m13 9 rfl) rfl
theorem q3020 : (Jvm.Cond.privateMethod ({ cls := "WhatIfSheetModel", name := "tellCase", desc := "(III)V" } : Jvm.MethodName)) ∈ lw_tbl := lw_at lw_m13 10 rfl
theorem q3021 : (Jvm.Cond.instanceMethod ({ cls := "WhatIfSheetModel", name := "tellCase", desc := "(III)V" } : Jvm.MethodName)) ∈ lw_all := lw_g (lw_at lw_m13 11 rfl) rfl
theorem q3022 : (Jvm.Cond.code ({ cls := "WhatIfSheetModel", name := "tellCase", desc := "(III)V" } : Jvm.MethodName) prog_35_method_27_code (12 : Nat) (Option.none : Option Jvm.ClassFile.FieldType)) ∈ lw_all := lw_g (lw_at lw_m13 12 rfl) rfl
theorem q3023 : (Jvm.Cond.constantDouble "WhatIfSheetModel" (275 : Nat) (4786511204640096256 : UInt64)) ∈ lw_all := lw_g (lw_at lw_m13 13 rfl) rfl
theorem q3024 : (Jvm.Cond.constantDouble "WhatIfSheetModel" (277 : Nat) (14009883241494872064 : UInt64)) ∈ lw_all := lw_g (lw_at lw_m13 14 rfl) rfl
theorem q3025 : (Jvm.Cond.methodLink "WhatIfSheetModel" (269 : Nat) ({ cls := "WhatIfSheetModel", name := "pick", desc := "()V" } : Jvm.MethodName)) ∈ lw_all := lw_g (lw_at lw_m13 15 rfl) rfl
theorem q3026 : (Jvm.Cond.privateMethod ({ cls := "WhatIfSheetModel", name := "pick", desc := "()V" } : Jvm.MethodName)) ∈ lw_tbl := lw_at lw_m13 16 rfl
theorem q3027 : (Jvm.Cond.instanceMethod ({ cls := "WhatIfSheetModel", name := "pick", desc := "()V" } : Jvm.MethodName)) ∈ lw_all := lw_g (lw_at lw_m13 17 rfl) rfl
theorem q3028 : (Jvm.Cond.code ({ cls := "WhatIfSheetModel", name := "pick", desc := "()V" } : Jvm.MethodName) prog_35_method_25_code (2 : Nat) (Option.none : Option Jvm.ClassFile.FieldType)) ∈ lw_all := lw_g (lw_at lw_m13 18 rfl) rfl
theorem q3029 : (Jvm.Cond.methodLink "WhatIfSheetModel" (272 : Nat) ({ cls := "WhatIfSheetModel", name := "two", desc := "(II)V" } : Jvm.MethodName)) ∈ lw_all := lw_g (lw_at lw_m13 19 rfl) rfl
theorem q3030 : (Jvm.Cond.privateMethod ({ cls := "WhatIfSheetModel", name := "two", desc := "(II)V" } : Jvm.MethodName)) ∈ lw_tbl := lw_at lw_m13 20 rfl
theorem q3031 : (Jvm.Cond.instanceMethod ({ cls := "WhatIfSheetModel", name := "two", desc := "(II)V" } : Jvm.MethodName)) ∈ lw_all := lw_g (lw_at lw_m13 21 rfl) rfl
theorem q3032 : (Jvm.Cond.code ({ cls := "WhatIfSheetModel", name := "two", desc := "(II)V" } : Jvm.MethodName) prog_35_method_26_code (10 : Nat) (Option.none : Option Jvm.ClassFile.FieldType)) ∈ lw_all := lw_g (lw_at lw_m13 22 rfl) rfl
theorem q3034 : (Jvm.Cond.instanceMethod ({ cls := "WhatIfSheetModel", name := "value", desc := "(I)J" } : Jvm.MethodName)) ∈ lw_all := lw_g (lw_at lw_m13 24 rfl) rfl
theorem q3035 : (Jvm.Cond.selects "WhatIfSheetModel" ({ cls := "WhatIfSheetModel", name := "value", desc := "(I)J" } : Jvm.MethodName) ({ cls := "WhatIfSheetModel", name := "value", desc := "(I)J" } : Jvm.MethodName)) ∈ lw_all := lw_g (lw_at lw_m13 25 rfl) rfl
theorem q3036 : (Jvm.Cond.code ({ cls := "WhatIfSheetModel", name := "value", desc := "(I)J" } : Jvm.MethodName) prog_35_method_39_code (4 : Nat) (Option.some Jvm.ClassFile.FieldType.long)) ∈ lw_all := lw_g (lw_at lw_m13 26 rfl) rfl
theorem q3037 : (Jvm.Cond.constantLong "WhatIfSheetModel" (326 : Nat) (-2 : Int64)) ∈ lw_all := lw_g (lw_at lw_m13 27 rfl) rfl
theorem q3038 : (Jvm.Cond.methodLink "WhatIfSheetModel" (328 : Nat) ({ cls := "WhatIfSheetModel", name := "valueNow", desc := "(I)D" } : Jvm.MethodName)) ∈ lw_all := lw_g (lw_at lw_m13 28 rfl) rfl
theorem q3039 : (Jvm.Cond.privateMethod ({ cls := "WhatIfSheetModel", name := "valueNow", desc := "(I)D" } : Jvm.MethodName)) ∈ lw_tbl := lw_at lw_m13 29 rfl
theorem q3040 : (Jvm.Cond.instanceMethod ({ cls := "WhatIfSheetModel", name := "valueNow", desc := "(I)D" } : Jvm.MethodName)) ∈ lw_all := lw_g (lw_at lw_m13 30 rfl) rfl
theorem q3041 : (Jvm.Cond.code ({ cls := "WhatIfSheetModel", name := "valueNow", desc := "(I)D" } : Jvm.MethodName) prog_35_method_30_code (2 : Nat) (Option.some Jvm.ClassFile.FieldType.double)) ∈ lw_all := lw_g (lw_at lw_m13 31 rfl) rfl
theorem q3042 : (Jvm.Cond.methodLink "WhatIfSheetModel" (332 : Nat) ({ cls := "WhatIfSheetModel", name := "errorOf", desc := "(I)I" } : Jvm.MethodName)) ∈ lw_all := lw_g (lw_at lw_m13 32 rfl) rfl
theorem q3043 : (Jvm.Cond.privateMethod ({ cls := "WhatIfSheetModel", name := "errorOf", desc := "(I)I" } : Jvm.MethodName)) ∈ lw_tbl := lw_at lw_m13 33 rfl
theorem q3044 : (Jvm.Cond.instanceMethod ({ cls := "WhatIfSheetModel", name := "errorOf", desc := "(I)I" } : Jvm.MethodName)) ∈ lw_all := lw_g (lw_at lw_m13 34 rfl) rfl
theorem q3045 : (Jvm.Cond.code ({ cls := "WhatIfSheetModel", name := "errorOf", desc := "(I)I" } : Jvm.MethodName) prog_35_method_31_code (2 : Nat) (Option.some Jvm.ClassFile.FieldType.int)) ∈ lw_all := lw_g (lw_at lw_m13 35 rfl) rfl
theorem q3046 : (Jvm.Cond.methodLink "WhatIfSheetModel" (335 : Nat) ({ cls := "WhatIfSheetModel", name := "answer", desc := "(DI)J" } : Jvm.MethodName)) ∈ lw_all := lw_g (lw_at lw_m13 36 rfl) rfl
theorem q3047 : (Jvm.Cond.static ({ cls := "WhatIfSheetModel", name := "answer", desc := "(DI)J" } : Jvm.MethodName)) ∈ lw_all := lw_g (lw_at lw_m13 37 rfl) rfl
theorem q3048 : (Jvm.Cond.code ({ cls := "WhatIfSheetModel", name := "answer", desc := "(DI)J" } : Jvm.MethodName) prog_35_method_33_code (3 : Nat) (Option.some Jvm.ClassFile.FieldType.long)) ∈ lw_all := lw_g (lw_at lw_m13 38 rfl) rfl
theorem q3049 : (Jvm.Cond.methodLink "WhatIfSheetModel" (305 : Nat) ({ cls := "WhatIfSheetModel", name := "bits", desc := "(D)J" } : Jvm.MethodName)) ∈ lw_all := lw_g (lw_at lw_m13 39 rfl) rfl
theorem q3050 : (Jvm.Cond.static ({ cls := "WhatIfSheetModel", name := "bits", desc := "(D)J" } : Jvm.MethodName)) ∈ lw_all := lw_g (lw_at lw_m13 40 rfl) rfl
theorem q3051 : (Jvm.Cond.code ({ cls := "WhatIfSheetModel", name := "bits", desc := "(D)J" } : Jvm.MethodName) prog_35_method_32_code (2 : Nat) (Option.some Jvm.ClassFile.FieldType.long)) ∈ lw_all := lw_g (lw_at lw_m13 41 rfl) rfl
theorem q3052 : (Jvm.Cond.methodLink "WhatIfSheetModel" (299 : Nat) ({ cls := "java/lang/Double", name := "doubleToLongBits", desc := "(D)J" } : Jvm.MethodName)) ∈ lw_all := lw_g (lw_at lw_m13 42 rfl) rfl
theorem q3053 : (Jvm.Cond.constantLong "WhatIfSheetModel" (308 : Nat) (-20 : Int64)) ∈ lw_all := lw_g (lw_at lw_m13 43 rfl) rfl
theorem q3055 : (Jvm.Cond.instanceMethod ({ cls := "WhatIfSheetModel", name := "would", desc := "(III)J" } : Jvm.MethodName)) ∈ lw_all := lw_g (lw_at lw_m13 45 rfl) rfl
theorem q3056 : (Jvm.Cond.selects "WhatIfSheetModel" ({ cls := "WhatIfSheetModel", name := "would", desc := "(III)J" } : Jvm.MethodName) ({ cls := "WhatIfSheetModel", name := "would", desc := "(III)J" } : Jvm.MethodName)) ∈ lw_all := lw_g (lw_at lw_m13 46 rfl) rfl
theorem q3057 : (Jvm.Cond.code ({ cls := "WhatIfSheetModel", name := "would", desc := "(III)J" } : Jvm.MethodName) prog_35_method_41_code (6 : Nat) (Option.some Jvm.ClassFile.FieldType.long)) ∈ lw_all := lw_g (lw_at lw_m13 47 rfl) rfl
theorem q3058 : (Jvm.Cond.constantLong "WhatIfSheetModel" (339 : Nat) (-3 : Int64)) ∈ lw_all := lw_g (lw_at lw_m13 48 rfl) rfl
theorem q3059 : (Jvm.Cond.methodLink "WhatIfSheetModel" (341 : Nat) ({ cls := "WhatIfSheetModel", name := "valueBy", desc := "(IDI)D" } : Jvm.MethodName)) ∈ lw_all := lw_g (lw_at lw_m13 49 rfl) rfl
theorem q3060 : (Jvm.Cond.privateMethod ({ cls := "WhatIfSheetModel", name := "valueBy", desc := "(IDI)D" } : Jvm.MethodName)) ∈ lw_tbl := lw_at lw_m13 50 rfl
theorem q3061 : (Jvm.Cond.instanceMethod ({ cls := "WhatIfSheetModel", name := "valueBy", desc := "(IDI)D" } : Jvm.MethodName)) ∈ lw_all := lw_g (lw_at lw_m13 51 rfl) rfl
theorem q3062 : (Jvm.Cond.code ({ cls := "WhatIfSheetModel", name := "valueBy", desc := "(IDI)D" } : Jvm.MethodName) prog_35_method_40_code (10 : Nat) (Option.some Jvm.ClassFile.FieldType.double)) ∈ lw_all := lw_g (lw_at lw_m13 52 rfl) rfl
theorem q3064 : (Jvm.Cond.instanceMethod ({ cls := "WhatIfSheetModel", name := "taken", desc := "(II)I" } : Jvm.MethodName)) ∈ lw_all := lw_g (lw_at lw_m13 54 rfl) rfl
theorem q3065 : (Jvm.Cond.selects "WhatIfSheetModel" ({ cls := "WhatIfSheetModel", name := "taken", desc := "(II)I" } : Jvm.MethodName) ({ cls := "WhatIfSheetModel", name := "taken", desc := "(II)I" } : Jvm.MethodName)) ∈ lw_all := lw_g (lw_at lw_m13 55 rfl) rfl
theorem q3066 : (Jvm.Cond.code ({ cls := "WhatIfSheetModel", name := "taken", desc := "(II)I" } : Jvm.MethodName) prog_35_method_42_code (5 : Nat) (Option.some Jvm.ClassFile.FieldType.int)) ∈ lw_all := lw_g (lw_at lw_m13 56 rfl) rfl
theorem q3068 : (Jvm.Cond.instanceMethod ({ cls := "WhatIfSheetModel", name := "feed", desc := "(IIIIII)I" } : Jvm.MethodName)) ∈ lw_all := lw_g (lw_at lw_m13 58 rfl) rfl
theorem q3069 : (Jvm.Cond.selects "WhatIfSheetModel" ({ cls := "WhatIfSheetModel", name := "feed", desc := "(IIIIII)I" } : Jvm.MethodName) ({ cls := "WhatIfSheetModel", name := "feed", desc := "(IIIIII)I" } : Jvm.MethodName)) ∈ lw_all := lw_g (lw_at lw_m13 59 rfl) rfl
theorem q3070 : (Jvm.Cond.code ({ cls := "WhatIfSheetModel", name := "feed", desc := "(IIIIII)I" } : Jvm.MethodName) prog_35_method_44_code (8 : Nat) (Option.some Jvm.ClassFile.FieldType.int)) ∈ lw_all := lw_g (lw_at lw_m13 60 rfl) rfl
theorem q3071 : (Jvm.Cond.methodLink "WhatIfSheetModel" (345 : Nat) ({ cls := "WhatIfSheetModel", name := "isByte", desc := "(I)Z" } : Jvm.MethodName)) ∈ lw_all := lw_g (lw_at lw_m13 61 rfl) rfl
theorem q3072 : (Jvm.Cond.static ({ cls := "WhatIfSheetModel", name := "isByte", desc := "(I)Z" } : Jvm.MethodName)) ∈ lw_all := lw_g (lw_at lw_m13 62 rfl) rfl
theorem q3073 : (Jvm.Cond.code ({ cls := "WhatIfSheetModel", name := "isByte", desc := "(I)Z" } : Jvm.MethodName) prog_35_method_43_code (1 : Nat) (Option.some Jvm.ClassFile.FieldType.boolean)) ∈ lw_all := lw_g (lw_at lw_m13 63 rfl) rfl
theorem q3075 : (Jvm.Cond.instanceMethod ({ cls := "WhatIfSheetModel", name := "formula", desc := "(I)I" } : Jvm.MethodName)) ∈ lw_all := lw_g (lw_at lw_m13 65 rfl) rfl
theorem q3076 : (Jvm.Cond.selects "WhatIfSheetModel" ({ cls := "WhatIfSheetModel", name := "formula", desc := "(I)I" } : Jvm.MethodName) ({ cls := "WhatIfSheetModel", name := "formula", desc := "(I)I" } : Jvm.MethodName)) ∈ lw_all := lw_g (lw_at lw_m13 66 rfl) rfl
theorem q3077 : (Jvm.Cond.code ({ cls := "WhatIfSheetModel", name := "formula", desc := "(I)I" } : Jvm.MethodName) prog_35_method_64_code (4 : Nat) (Option.some Jvm.ClassFile.FieldType.int)) ∈ lw_all := lw_g (lw_at lw_m13 67 rfl) rfl
theorem q3078 : (Jvm.Cond.methodLink "WhatIfSheetModel" (459 : Nat) ({ cls := "WhatIfSheetModel", name := "isRead", desc := "()Z" } : Jvm.MethodName)) ∈ lw_all := lw_g (lw_at lw_m13 68 rfl) rfl
theorem q3079 : (Jvm.Cond.privateMethod ({ cls := "WhatIfSheetModel", name := "isRead", desc := "()Z" } : Jvm.MethodName)) ∈ lw_tbl := lw_at lw_m13 69 rfl
theorem q3080 : (Jvm.Cond.instanceMethod ({ cls := "WhatIfSheetModel", name := "isRead", desc := "()Z" } : Jvm.MethodName)) ∈ lw_all := lw_g (lw_at lw_m13 70 rfl) rfl
theorem q3081 : (Jvm.Cond.code ({ cls := "WhatIfSheetModel", name := "isRead", desc := "()Z" } : Jvm.MethodName) prog_35_method_61_code (1 : Nat) (Option.some Jvm.ClassFile.FieldType.boolean)) ∈ lw_all := lw_g (lw_at lw_m13 71 rfl) rfl
theorem q3082 : (Jvm.Cond.methodLink "WhatIfSheetModel" (421 : Nat) ({ cls := "WhatIfSheetModel", name := "next", desc := "()V" } : Jvm.MethodName)) ∈ lw_all := lw_g (lw_at lw_m13 72 rfl) rfl
theorem q3083 : (Jvm.Cond.privateMethod ({ cls := "WhatIfSheetModel", name := "next", desc := "()V" } : Jvm.MethodName)) ∈ lw_tbl := lw_at lw_m13 73 rfl
theorem q3084 : (Jvm.Cond.instanceMethod ({ cls := "WhatIfSheetModel", name := "next", desc := "()V" } : Jvm.MethodName)) ∈ lw_all := lw_g (lw_at lw_m13 74 rfl) rfl
theorem q3085 : (Jvm.Cond.code ({ cls := "WhatIfSheetModel", name := "next", desc := "()V" } : Jvm.MethodName) prog_35_method_47_code (1 : Nat) (Option.none : Option Jvm.ClassFile.FieldType)) ∈ lw_all := lw_g (lw_at lw_m13 75 rfl) rfl
theorem q3086 : (Jvm.Cond.methodLink "WhatIfSheetModel" (354 : Nat) ({ cls := "WhatIfSheetModel", name := "byteAt", desc := "(I)I" } : Jvm.MethodName)) ∈ lw_all := lw_g (lw_at lw_m13 76 rfl) rfl
theorem q3087 : (Jvm.Cond.privateMethod ({ cls := "WhatIfSheetModel", name := "byteAt", desc := "(I)I" } : Jvm.MethodName)) ∈ lw_tbl := lw_at lw_m13 77 rfl
theorem q3088 : (Jvm.Cond.instanceMethod ({ cls := "WhatIfSheetModel", name := "byteAt", desc := "(I)I" } : Jvm.MethodName)) ∈ lw_all := lw_g (lw_at lw_m13 78 rfl) rfl
theorem q3089 : (Jvm.Cond.code ({ cls := "WhatIfSheetModel", name := "byteAt", desc := "(I)I" } : Jvm.MethodName) prog_35_method_45_code (2 : Nat) (Option.some Jvm.ClassFile.FieldType.int)) ∈ lw_all := lw_g (lw_at lw_m13 79 rfl) rfl
theorem q3090 : (Jvm.Cond.methodLink "WhatIfSheetModel" (367 : Nat) ({ cls := "WhatIfSheetModel", name := "word", desc := "()I" } : Jvm.MethodName)) ∈ lw_all := lw_g (lw_at lw_m13 80 rfl) rfl
theorem q3091 : (Jvm.Cond.privateMethod ({ cls := "WhatIfSheetModel", name := "word", desc := "()I" } : Jvm.MethodName)) ∈ lw_tbl := lw_at lw_m13 81 rfl
theorem q3092 : (Jvm.Cond.instanceMethod ({ cls := "WhatIfSheetModel", name := "word", desc := "()I" } : Jvm.MethodName)) ∈ lw_all := lw_g (lw_at lw_m13 82 rfl) rfl
theorem q3093 : (Jvm.Cond.code ({ cls := "WhatIfSheetModel", name := "word", desc := "()I" } : Jvm.MethodName) prog_35_method_50_code (1 : Nat) (Option.some Jvm.ClassFile.FieldType.int)) ∈ lw_all := lw_g (lw_at lw_m13 83 rfl) rfl
theorem q3094 : (Jvm.Cond.stringRef "WhatIfSheetModel" (402 : Nat) "sum") ∈ lw_tbl := lw_at lw_m13 84 rfl
theorem q3095 : (Jvm.Cond.methodLink "WhatIfSheetModel" (404 : Nat) ({ cls := "WhatIfSheetModel", name := "isWord", desc := "(Ljava/lang/String;)Z" } : Jvm.MethodName)) ∈ lw_all := lw_g (lw_at lw_m13 85 rfl) rfl
theorem q3096 : (Jvm.Cond.privateMethod ({ cls := "WhatIfSheetModel", name := "isWord", desc := "(Ljava/lang/String;)Z" } : Jvm.MethodName)) ∈ lw_tbl := lw_at lw_m13 86 rfl
theorem q3097 : (Jvm.Cond.instanceMethod ({ cls := "WhatIfSheetModel", name := "isWord", desc := "(Ljava/lang/String;)Z" } : Jvm.MethodName)) ∈ lw_all := lw_g (lw_at lw_m13 87 rfl) rfl
theorem q3098 : (Jvm.Cond.code ({ cls := "WhatIfSheetModel", name := "isWord", desc := "(Ljava/lang/String;)Z" } : Jvm.MethodName) prog_35_method_49_code (3 : Nat) (Option.some Jvm.ClassFile.FieldType.boolean)) ∈ lw_all := lw_g (lw_at lw_m13 88 rfl) rfl
theorem q3099 : (Jvm.Cond.methodLink "WhatIfSheetModel" (395 : Nat) ({ cls := "java/lang/String", name := "length", desc := "()I" } : Jvm.MethodName)) ∈ lw_all := lw_g (lw_at lw_m13 89 rfl) rfl
theorem q3100 : (Jvm.Cond.methodLink "WhatIfSheetModel" (398 : Nat) ({ cls := "java/lang/String", name := "charAt", desc := "(I)C" } : Jvm.MethodName)) ∈ lw_all := lw_g (lw_at lw_m13 90 rfl) rfl
theorem q3101 : (Jvm.Cond.stringRef "WhatIfSheetModel" (408 : Nat) "mean") ∈ lw_tbl := lw_at lw_m13 91 rfl
theorem q3102 : (Jvm.Cond.stringRef "WhatIfSheetModel" (410 : Nat) "least") ∈ lw_tbl := lw_at lw_m13 92 rfl
theorem q3103 : (Jvm.Cond.stringRef "WhatIfSheetModel" (411 : Nat) "most") ∈ lw_tbl := lw_at lw_m13 93 rfl
theorem q3104 : (Jvm.Cond.stringRef "WhatIfSheetModel" (413 : Nat) "fails") ∈ lw_tbl := lw_at lw_m13 94 rfl
theorem q3105 : (Jvm.Cond.stringRef "WhatIfSheetModel" (415 : Nat) "pick") ∈ lw_tbl := lw_at lw_m13 95 rfl
theorem q3106 : (Jvm.Cond.stringRef "WhatIfSheetModel" (416 : Nat) "min") ∈ lw_tbl := lw_at lw_m13 96 rfl
theorem q3107 : (Jvm.Cond.stringRef "WhatIfSheetModel" (417 : Nat) "max") ∈ lw_tbl := lw_at lw_m13 97 rfl
theorem q3108 : (Jvm.Cond.methodLink "WhatIfSheetModel" (371 : Nat) ({ cls := "WhatIfSheetModel", name := "isDigit", desc := "()Z" } : Jvm.MethodName)) ∈ lw_all := lw_g (lw_at lw_m13 98 rfl) rfl
theorem q3109 : (Jvm.Cond.privateMethod ({ cls := "WhatIfSheetModel", name := "isDigit", desc := "()Z" } : Jvm.MethodName)) ∈ lw_tbl := lw_at lw_m13 99 rfl
theorem q3110 : (Jvm.Cond.instanceMethod ({ cls := "WhatIfSheetModel", name := "isDigit", desc := "()Z" } : Jvm.MethodName)) ∈ lw_all := lw_g (lw_at lw_m13 100 rfl) rfl
theorem q3111 : (Jvm.Cond.code ({ cls := "WhatIfSheetModel", name := "isDigit", desc := "()Z" } : Jvm.MethodName) prog_35_method_46_code (1 : Nat) (Option.some Jvm.ClassFile.FieldType.boolean)) ∈ lw_all := lw_g (lw_at lw_m13 101 rfl) rfl
theorem q3112 : (Jvm.Cond.methodLink "WhatIfSheetModel" (375 : Nat) ({ cls := "WhatIfSheetModel", name := "number", desc := "()V" } : Jvm.MethodName)) ∈ lw_all := lw_g (lw_at lw_m13 102 rfl) rfl
theorem q3113 : (Jvm.Cond.privateMethod ({ cls := "WhatIfSheetModel", name := "number", desc := "()V" } : Jvm.MethodName)) ∈ lw_tbl := lw_at lw_m13 103 rfl
theorem q3114 : (Jvm.Cond.instanceMethod ({ cls := "WhatIfSheetModel", name := "number", desc := "()V" } : Jvm.MethodName)) ∈ lw_all := lw_g (lw_at lw_m13 104 rfl) rfl
theorem q3115 : (Jvm.Cond.code ({ cls := "WhatIfSheetModel", name := "number", desc := "()V" } : Jvm.MethodName) prog_35_method_48_code (4 : Nat) (Option.none : Option Jvm.ClassFile.FieldType)) ∈ lw_all := lw_g (lw_at lw_m13 105 rfl) rfl
theorem q3116 : (Jvm.Cond.constant "WhatIfSheetModel" (394 : Nat) (100000 : Int32)) ∈ lw_all := lw_g (lw_at lw_m13 106 rfl) rfl
theorem q3117 : (Jvm.Cond.stringRef "WhatIfSheetModel" (381 : Nat) "(),+-*/%<=") ∈ lw_tbl := lw_at lw_m13 107 rfl
theorem q3118 : (Jvm.Cond.methodLink "WhatIfSheetModel" (383 : Nat) ({ cls := "java/lang/String", name := "indexOf", desc := "(I)I" } : Jvm.MethodName)) ∈ lw_all := lw_g (lw_at lw_m13 108 rfl) rfl
theorem q3119 : (Jvm.Cond.methodLink "WhatIfSheetModel" (447 : Nat) ({ cls := "WhatIfSheetModel", name := "all", desc := "()V" } : Jvm.MethodName)) ∈ lw_all := lw_g (lw_at lw_m13 109 rfl) rfl
theorem q3120 : (Jvm.Cond.privateMethod ({ cls := "WhatIfSheetModel", name := "all", desc := "()V" } : Jvm.MethodName)) ∈ lw_tbl := lw_at lw_m13 110 rfl
theorem q3121 : (Jvm.Cond.instanceMethod ({ cls := "WhatIfSheetModel", name := "all", desc := "()V" } : Jvm.MethodName)) ∈ lw_all := lw_g (lw_at lw_m13 111 rfl) rfl
theorem q3122 : (Jvm.Cond.code ({ cls := "WhatIfSheetModel", name := "all", desc := "()V" } : Jvm.MethodName) prog_35_method_54_code (2 : Nat) (Option.none : Option Jvm.ClassFile.FieldType)) ∈ lw_all := lw_g (lw_at lw_m13 112 rfl) rfl
theorem q3123 : (Jvm.Cond.methodLink "WhatIfSheetModel" (427 : Nat) ({ cls := "WhatIfSheetModel", name := "sum", desc := "()V" } : Jvm.MethodName)) ∈ lw_all := lw_g (lw_at lw_m13 113 rfl) rfl
theorem q3124 : (Jvm.Cond.privateMethod ({ cls := "WhatIfSheetModel", name := "sum", desc := "()V" } : Jvm.MethodName)) ∈ lw_tbl := lw_at lw_m13 114 rfl
theorem q3125 : (Jvm.Cond.instanceMethod ({ cls := "WhatIfSheetModel", name := "sum", desc := "()V" } : Jvm.MethodName)) ∈ lw_all := lw_g (lw_at lw_m13 115 rfl) rfl
theorem q3126 : (Jvm.Cond.code ({ cls := "WhatIfSheetModel", name := "sum", desc := "()V" } : Jvm.MethodName) prog_35_method_55_code (2 : Nat) (Option.none : Option Jvm.ClassFile.FieldType)) ∈ lw_all := lw_g (lw_at lw_m13 116 rfl) rfl
theorem q3127 : (Jvm.Cond.methodLink "WhatIfSheetModel" (432 : Nat) ({ cls := "WhatIfSheetModel", name := "term", desc := "()V" } : Jvm.MethodName)) ∈ lw_all := lw_g (lw_at lw_m13 117 rfl) rfl
theorem q3128 : (Jvm.Cond.privateMethod ({ cls := "WhatIfSheetModel", name := "term", desc := "()V" } : Jvm.MethodName)) ∈ lw_tbl := lw_at lw_m13 118 rfl
theorem q3129 : (Jvm.Cond.instanceMethod ({ cls := "WhatIfSheetModel", name := "term", desc := "()V" } : Jvm.MethodName)) ∈ lw_all := lw_g (lw_at lw_m13 119 rfl) rfl
theorem q3130 : (Jvm.Cond.code ({ cls := "WhatIfSheetModel", name := "term", desc := "()V" } : Jvm.MethodName) prog_35_method_56_code (2 : Nat) (Option.none : Option Jvm.ClassFile.FieldType)) ∈ lw_all := lw_g (lw_at lw_m13 120 rfl) rfl
theorem q3131 : (Jvm.Cond.methodLink "WhatIfSheetModel" (435 : Nat) ({ cls := "WhatIfSheetModel", name := "one", desc := "()V" } : Jvm.MethodName)) ∈ lw_all := lw_g (lw_at lw_m13 121 rfl) rfl
theorem q3132 : (Jvm.Cond.privateMethod ({ cls := "WhatIfSheetModel", name := "one", desc := "()V" } : Jvm.MethodName)) ∈ lw_tbl := lw_at lw_m13 122 rfl
theorem q3133 : (Jvm.Cond.instanceMethod ({ cls := "WhatIfSheetModel", name := "one", desc := "()V" } : Jvm.MethodName)) ∈ lw_all := lw_g (lw_at lw_m13 123 rfl) rfl
theorem q3134 : (Jvm.Cond.code ({ cls := "WhatIfSheetModel", name := "one", desc := "()V" } : Jvm.MethodName) prog_35_method_59_code (2 : Nat) (Option.none : Option Jvm.ClassFile.FieldType)) ∈ lw_all := lw_g (lw_at lw_m13 124 rfl) rfl
theorem q3135 : (Jvm.Cond.methodLink "WhatIfSheetModel" (429 : Nat) ({ cls := "WhatIfSheetModel", name := "mark", desc := "(I)V" } : Jvm.MethodName)) ∈ lw_all := lw_g (lw_at lw_m13 125 rfl) rfl
theorem q3136 : (Jvm.Cond.privateMethod ({ cls := "WhatIfSheetModel", name := "mark", desc := "(I)V" } : Jvm.MethodName)) ∈ lw_tbl := lw_at lw_m13 126 rfl
theorem q3137 : (Jvm.Cond.instanceMethod ({ cls := "WhatIfSheetModel", name := "mark", desc := "(I)V" } : Jvm.MethodName)) ∈ lw_all := lw_g (lw_at lw_m13 127 rfl) rfl
theorem q3138 : (Jvm.Cond.code ({ cls := "WhatIfSheetModel", name := "mark", desc := "(I)V" } : Jvm.MethodName) prog_35_method_53_code (2 : Nat) (Option.none : Option Jvm.ClassFile.FieldType)) ∈ lw_all := lw_g (lw_at lw_m13 128 rfl) rfl
theorem q3139 : (Jvm.Cond.methodLink "WhatIfSheetModel" (453 : Nat) ({ cls := "WhatIfSheetModel", name := "ofTable", desc := "(I)V" } : Jvm.MethodName)) ∈ lw_all := lw_g (lw_at lw_m13 129 rfl) rfl
theorem q3140 : (Jvm.Cond.privateMethod ({ cls := "WhatIfSheetModel", name := "ofTable", desc := "(I)V" } : Jvm.MethodName)) ∈ lw_tbl := lw_at lw_m13 130 rfl
theorem q3141 : (Jvm.Cond.instanceMethod ({ cls := "WhatIfSheetModel", name := "ofTable", desc := "(I)V" } : Jvm.MethodName)) ∈ lw_all := lw_g (lw_at lw_m13 131 rfl) rfl
theorem q3142 : (Jvm.Cond.code ({ cls := "WhatIfSheetModel", name := "ofTable", desc := "(I)V" } : Jvm.MethodName) prog_35_method_60_code (2 : Nat) (Option.none : Option Jvm.ClassFile.FieldType)) ∈ lw_all := lw_g (lw_at lw_m13 132 rfl) rfl
theorem q3143 : (Jvm.Cond.methodLink "WhatIfSheetModel" (456 : Nat) ({ cls := "WhatIfSheetModel", name := "parts", desc := "(I)V" } : Jvm.MethodName)) ∈ lw_all := lw_g (lw_at lw_m13 133 rfl) rfl
theorem q3144 : (Jvm.Cond.privateMethod ({ cls := "WhatIfSheetModel", name := "parts", desc := "(I)V" } : Jvm.MethodName)) ∈ lw_tbl := lw_at lw_m13 134 rfl
theorem q3145 : (Jvm.Cond.instanceMethod ({ cls := "WhatIfSheetModel", name := "parts", desc := "(I)V" } : Jvm.MethodName)) ∈ lw_all := lw_g (lw_at lw_m13 135 rfl) rfl
theorem q3146 : (Jvm.Cond.code ({ cls := "WhatIfSheetModel", name := "parts", desc := "(I)V" } : Jvm.MethodName) prog_35_method_58_code (3 : Nat) (Option.none : Option Jvm.ClassFile.FieldType)) ∈ lw_all := lw_g (lw_at lw_m13 136 rfl) rfl
theorem q3147 : (Jvm.Cond.methodLink "WhatIfSheetModel" (418 : Nat) ({ cls := "WhatIfSheetModel", name := "isSign", desc := "(I)Z" } : Jvm.MethodName)) ∈ lw_all := lw_g (lw_at lw_m13 137 rfl) rfl
theorem q3148 : (Jvm.Cond.privateMethod ({ cls := "WhatIfSheetModel", name := "isSign", desc := "(I)Z" } : Jvm.MethodName)) ∈ lw_tbl := lw_at lw_m13 138 rfl
theorem q3149 : (Jvm.Cond.instanceMethod ({ cls := "WhatIfSheetModel", name := "isSign", desc := "(I)Z" } : Jvm.MethodName)) ∈ lw_all := lw_g (lw_at lw_m13 139 rfl) rfl
theorem q3150 : (Jvm.Cond.code ({ cls := "WhatIfSheetModel", name := "isSign", desc := "(I)Z" } : Jvm.MethodName) prog_35_method_51_code (2 : Nat) (Option.some Jvm.ClassFile.FieldType.boolean)) ∈ lw_all := lw_g (lw_at lw_m13 140 rfl) rfl
theorem q3151 : (Jvm.Cond.methodLink "WhatIfSheetModel" (441 : Nat) ({ cls := "WhatIfSheetModel", name := "opens", desc := "()Z" } : Jvm.MethodName)) ∈ lw_all := lw_g (lw_at lw_m13 141 rfl) rfl
theorem q3152 : (Jvm.Cond.privateMethod ({ cls := "WhatIfSheetModel", name := "opens", desc := "()Z" } : Jvm.MethodName)) ∈ lw_tbl := lw_at lw_m13 142 rfl
theorem q3153 : (Jvm.Cond.instanceMethod ({ cls := "WhatIfSheetModel", name := "opens", desc := "()Z" } : Jvm.MethodName)) ∈ lw_all := lw_g (lw_at lw_m13 143 rfl) rfl
theorem q3154 : (Jvm.Cond.code ({ cls := "WhatIfSheetModel", name := "opens", desc := "()Z" } : Jvm.MethodName) prog_35_method_57_code (1 : Nat) (Option.some Jvm.ClassFile.FieldType.boolean)) ∈ lw_all := lw_g (lw_at lw_m13 144 rfl) rfl
theorem q3155 : (Jvm.Cond.methodLink "WhatIfSheetModel" (444 : Nat) ({ cls := "WhatIfSheetModel", name := "need", desc := "(I)V" } : Jvm.MethodName)) ∈ lw_all := lw_g (lw_at lw_m13 145 rfl) rfl
theorem q3156 : (Jvm.Cond.privateMethod ({ cls := "WhatIfSheetModel", name := "need", desc := "(I)V" } : Jvm.MethodName)) ∈ lw_tbl := lw_at lw_m13 146 rfl
theorem q3157 : (Jvm.Cond.instanceMethod ({ cls := "WhatIfSheetModel", name := "need", desc := "(I)V" } : Jvm.MethodName)) ∈ lw_all := lw_g (lw_at lw_m13 147 rfl) rfl
theorem q3158 : (Jvm.Cond.code ({ cls := "WhatIfSheetModel", name := "need", desc := "(I)V" } : Jvm.MethodName) prog_35_method_52_code (2 : Nat) (Option.none : Option Jvm.ClassFile.FieldType)) ∈ lw_all := lw_g (lw_at lw_m13 148 rfl) rfl
theorem q3159 : (Jvm.Cond.methodLink "WhatIfSheetModel" (462 : Nat) ({ cls := "WhatIfSheetModel", name := "isVaried", desc := "(I)Z" } : Jvm.MethodName)) ∈ lw_all := lw_g (lw_at lw_m13 149 rfl) rfl
theorem q3160 : (Jvm.Cond.privateMethod ({ cls := "WhatIfSheetModel", name := "isVaried", desc := "(I)Z" } : Jvm.MethodName)) ∈ lw_tbl := lw_at lw_m13 150 rfl
theorem q3161 : (Jvm.Cond.instanceMethod ({ cls := "WhatIfSheetModel", name := "isVaried", desc := "(I)Z" } : Jvm.MethodName)) ∈ lw_all := lw_g (lw_at lw_m13 151 rfl) rfl
theorem q3162 : (Jvm.Cond.code ({ cls := "WhatIfSheetModel", name := "isVaried", desc := "(I)Z" } : Jvm.MethodName) prog_35_method_62_code (3 : Nat) (Option.some Jvm.ClassFile.FieldType.boolean)) ∈ lw_all := lw_g (lw_at lw_m13 152 rfl) rfl
theorem q3163 : (Jvm.Cond.methodLink "WhatIfSheetModel" (465 : Nat) ({ cls := "WhatIfSheetModel", name := "newNames", desc := "()I" } : Jvm.MethodName)) ∈ lw_all := lw_g (lw_at lw_m13 153 rfl) rfl
theorem q3164 : (Jvm.Cond.privateMethod ({ cls := "WhatIfSheetModel", name := "newNames", desc := "()I" } : Jvm.MethodName)) ∈ lw_tbl := lw_at lw_m13 154 rfl
theorem q3165 : (Jvm.Cond.instanceMethod ({ cls := "WhatIfSheetModel", name := "newNames", desc := "()I" } : Jvm.MethodName)) ∈ lw_all := lw_g (lw_at lw_m13 155 rfl) rfl
theorem q3166 : (Jvm.Cond.code ({ cls := "WhatIfSheetModel", name := "newNames", desc := "()I" } : Jvm.MethodName) prog_35_method_63_code (3 : Nat) (Option.some Jvm.ClassFile.FieldType.int)) ∈ lw_all := lw_g (lw_at lw_m13 156 rfl) rfl
theorem q3167 : (Jvm.Cond.methodLink "WhatIfSheetModel" (468 : Nat) ({ cls := "WhatIfSheetModel", name := "comeTo", desc := "(I)I" } : Jvm.MethodName)) ∈ lw_all := lw_g (lw_at lw_m13 157 rfl) rfl
theorem q3168 : (Jvm.Cond.privateMethod ({ cls := "WhatIfSheetModel", name := "comeTo", desc := "(I)I" } : Jvm.MethodName)) ∈ lw_tbl := lw_at lw_m13 158 rfl
theorem q3169 : (Jvm.Cond.instanceMethod ({ cls := "WhatIfSheetModel", name := "comeTo", desc := "(I)I" } : Jvm.MethodName)) ∈ lw_all := lw_g (lw_at lw_m13 159 rfl) rfl
theorem q3170 : (Jvm.Cond.code ({ cls := "WhatIfSheetModel", name := "comeTo", desc := "(I)I" } : Jvm.MethodName) prog_35_method_12_code (6 : Nat) (Option.some Jvm.ClassFile.FieldType.int)) ∈ lw_all := lw_g (lw_at lw_m13 160 rfl) rfl
theorem q3171 : (Jvm.Cond.methodLink "WhatIfSheetModel" (471 : Nat) ({ cls := "java/lang/System", name := "arraycopy", desc := "(Ljava/lang/Object;ILjava/lang/Object;II)V" } : Jvm.MethodName)) ∈ lw_all := lw_g (lw_at lw_m13 161 rfl) rfl
theorem q3172 : (Jvm.Cond.methodLink "WhatIfSheetModel" (477 : Nat) ({ cls := "WhatIfSheetModel", name := "isTooMuch", desc := "()Z" } : Jvm.MethodName)) ∈ lw_all := lw_g (lw_at lw_m13 162 rfl) rfl
theorem q3173 : (Jvm.Cond.privateMethod ({ cls := "WhatIfSheetModel", name := "isTooMuch", desc := "()Z" } : Jvm.MethodName)) ∈ lw_tbl := lw_at lw_m13 163 rfl
theorem q3174 : (Jvm.Cond.instanceMethod ({ cls := "WhatIfSheetModel", name := "isTooMuch", desc := "()Z" } : Jvm.MethodName)) ∈ lw_all := lw_g (lw_at lw_m13 164 rfl) rfl
theorem q3175 : (Jvm.Cond.code ({ cls := "WhatIfSheetModel", name := "isTooMuch", desc := "()Z" } : Jvm.MethodName) prog_35_method_20_code (3 : Nat) (Option.some Jvm.ClassFile.FieldType.boolean)) ∈ lw_all := lw_g (lw_at lw_m13 165 rfl) rfl
theorem q3176 : (Jvm.Cond.methodLink "WhatIfSheetModel" (240 : Nat) ({ cls := "java/lang/Math", name := "max", desc := "(II)I" } : Jvm.MethodName)) ∈ lw_all := lw_g (lw_at lw_m13 166 rfl) rfl
theorem q3178 : (Jvm.Cond.instanceMethod ({ cls := "WhatIfSheetModel", name := "table", desc := "(IIII)I" } : Jvm.MethodName)) ∈ lw_all := lw_g (lw_at lw_m13 168 rfl) rfl
theorem q3179 : (Jvm.Cond.selects "WhatIfSheetModel" ({ cls := "WhatIfSheetModel", name := "table", desc := "(IIII)I" } : Jvm.MethodName) ({ cls := "WhatIfSheetModel", name := "table", desc := "(IIII)I" } : Jvm.MethodName)) ∈ lw_all := lw_g (lw_at lw_m13 169 rfl) rfl
theorem q3180 : (Jvm.Cond.code ({ cls := "WhatIfSheetModel", name := "table", desc := "(IIII)I" } : Jvm.MethodName) prog_35_method_65_code (12 : Nat) (Option.some Jvm.ClassFile.FieldType.int)) ∈ lw_all := lw_g (lw_at lw_m13 170 rfl) rfl
theorem q3181 : (Jvm.Cond.methodLink "WhatIfSheetModel" (480 : Nat) ({ cls := "WhatIfSheetModel", name := "isTable", desc := "(I)Z" } : Jvm.MethodName)) ∈ lw_all := lw_g (lw_at lw_m13 171 rfl) rfl
theorem q3182 : (Jvm.Cond.static ({ cls := "WhatIfSheetModel", name := "isTable", desc := "(I)Z" } : Jvm.MethodName)) ∈ lw_all := lw_g (lw_at lw_m13 172 rfl) rfl
theorem q3183 : (Jvm.Cond.code ({ cls := "WhatIfSheetModel", name := "isTable", desc := "(I)Z" } : Jvm.MethodName) prog_35_method_4_code (1 : Nat) (Option.some Jvm.ClassFile.FieldType.boolean)) ∈ lw_all := lw_g (lw_at lw_m13 173 rfl) rfl
theorem q3185 : (Jvm.Cond.instanceMethod ({ cls := "WhatIfSheetModel", name := "axis", desc := "(IIIII)I" } : Jvm.MethodName)) ∈ lw_all := lw_g (lw_at lw_m13 175 rfl) rfl
theorem q3186 : (Jvm.Cond.selects "WhatIfSheetModel" ({ cls := "WhatIfSheetModel", name := "axis", desc := "(IIIII)I" } : Jvm.MethodName) ({ cls := "WhatIfSheetModel", name := "axis", desc := "(IIIII)I" } : Jvm.MethodName)) ∈ lw_all := lw_g (lw_at lw_m13 176 rfl) rfl
theorem q3187 : (Jvm.Cond.code ({ cls := "WhatIfSheetModel", name := "axis", desc := "(IIIII)I" } : Jvm.MethodName) prog_35_method_67_code (7 : Nat) (Option.some Jvm.ClassFile.FieldType.int)) ∈ lw_all := lw_g (lw_at lw_m13 177 rfl) rfl
theorem q3188 : (Jvm.Cond.constant "WhatIfSheetModel" (483 : Nat) (-80000 : Int32)) ∈ lw_all := lw_g (lw_at lw_m13 178 rfl) rfl
theorem q3189 : (Jvm.Cond.constant "WhatIfSheetModel" (484 : Nat) (80000 : Int32)) ∈ lw_all := lw_g (lw_at lw_m13 179 rfl) rfl
theorem q3190 : (Jvm.Cond.methodLink "WhatIfSheetModel" (485 : Nat) ({ cls := "WhatIfSheetModel", name := "hasRoom", desc := "(III)Z" } : Jvm.MethodName)) ∈ lw_all := lw_g (lw_at lw_m13 180 rfl) rfl
theorem q3191 : (Jvm.Cond.privateMethod ({ cls := "WhatIfSheetModel", name := "hasRoom", desc := "(III)Z" } : Jvm.MethodName)) ∈ lw_tbl := lw_at lw_m13 181 rfl
theorem q3192 : (Jvm.Cond.instanceMethod ({ cls := "WhatIfSheetModel", name := "hasRoom", desc := "(III)Z" } : Jvm.MethodName)) ∈ lw_all := lw_g (lw_at lw_m13 182 rfl) rfl
theorem q3193 : (Jvm.Cond.code ({ cls := "WhatIfSheetModel", name := "hasRoom", desc := "(III)Z" } : Jvm.MethodName) prog_35_method_66_code (7 : Nat) (Option.some Jvm.ClassFile.FieldType.boolean)) ∈ lw_all := lw_g (lw_at lw_m13 183 rfl) rfl
theorem q3195 : (Jvm.Cond.instanceMethod ({ cls := "WhatIfSheetModel", name := "axisBy", desc := "(IIIII)I" } : Jvm.MethodName)) ∈ lw_all := lw_g (lw_at lw_m13 185 rfl) rfl
theorem q3196 : (Jvm.Cond.selects "WhatIfSheetModel" ({ cls := "WhatIfSheetModel", name := "axisBy", desc := "(IIIII)I" } : Jvm.MethodName) ({ cls := "WhatIfSheetModel", name := "axisBy", desc := "(IIIII)I" } : Jvm.MethodName)) ∈ lw_all := lw_g (lw_at lw_m13 186 rfl) rfl
theorem q3197 : (Jvm.Cond.code ({ cls := "WhatIfSheetModel", name := "axisBy", desc := "(IIIII)I" } : Jvm.MethodName) prog_35_method_68_code (7 : Nat) (Option.some Jvm.ClassFile.FieldType.int)) ∈ lw_all := lw_g (lw_at lw_m13 187 rfl) rfl
theorem q3198 : (Jvm.Cond.methodLink "WhatIfSheetModel" (488 : Nat) ({ cls := "WhatIfSheetModel", name := "isRow", desc := "(I)Z" } : Jvm.MethodName)) ∈ lw_all := lw_g (lw_at lw_m13 188 rfl) rfl
theorem q3199 : (Jvm.Cond.static ({ cls := "WhatIfSheetModel", name := "isRow", desc := "(I)Z" } : Jvm.MethodName)) ∈ lw_all := lw_g (lw_at lw_m13 189 rfl) rfl
theorem q3200 : (Jvm.Cond.code ({ cls := "WhatIfSheetModel", name := "isRow", desc := "(I)Z" } : Jvm.MethodName) prog_35_method_98_code (1 : Nat) (Option.some Jvm.ClassFile.FieldType.boolean)) ∈ lw_all := lw_g (lw_at lw_m13 190 rfl) rfl
theorem q3202 : (Jvm.Cond.instanceMethod ({ cls := "WhatIfSheetModel", name := "drop", desc := "(I)I" } : Jvm.MethodName)) ∈ lw_all := lw_g (lw_at lw_m13 192 rfl) rfl
theorem q3203 : (Jvm.Cond.selects "WhatIfSheetModel" ({ cls := "WhatIfSheetModel", name := "drop", desc := "(I)I" } : Jvm.MethodName) ({ cls := "WhatIfSheetModel", name := "drop", desc := "(I)I" } : Jvm.MethodName)) ∈ lw_all := lw_g (lw_at lw_m13 193 rfl) rfl
theorem q3204 : (Jvm.Cond.code ({ cls := "WhatIfSheetModel", name := "drop", desc := "(I)I" } : Jvm.MethodName) prog_35_method_69_code (2 : Nat) (Option.some Jvm.ClassFile.FieldType.int)) ∈ lw_all := lw_g (lw_at lw_m13 194 rfl) rfl
theorem q3206 : (Jvm.Cond.instanceMethod ({ cls := "WhatIfSheetModel", name := "at", desc := "(III)J" } : Jvm.MethodName)) ∈ lw_all := lw_g (lw_at lw_m13 196 rfl) rfl
theorem q3207 : (Jvm.Cond.selects "WhatIfSheetModel" ({ cls := "WhatIfSheetModel", name := "at", desc := "(III)J" } : Jvm.MethodName) ({ cls := "WhatIfSheetModel", name := "at", desc := "(III)J" } : Jvm.MethodName)) ∈ lw_all := lw_g (lw_at lw_m13 197 rfl) rfl
theorem q3208 : (Jvm.Cond.code ({ cls := "WhatIfSheetModel", name := "at", desc := "(III)J" } : Jvm.MethodName) prog_35_method_72_code (5 : Nat) (Option.some Jvm.ClassFile.FieldType.long)) ∈ lw_all := lw_g (lw_at lw_m13 198 rfl) rfl
theorem q3209 : (Jvm.Cond.methodLink "WhatIfSheetModel" (491 : Nat) ({ cls := "WhatIfSheetModel", name := "refusal", desc := "(III)I" } : Jvm.MethodName)) ∈ lw_all := lw_g (lw_at lw_m13 199 rfl) rfl
theorem q3210 : (Jvm.Cond.privateMethod ({ cls := "WhatIfSheetModel", name := "refusal", desc := "(III)I" } : Jvm.MethodName)) ∈ lw_tbl := lw_at lw_m13 200 rfl
theorem q3211 : (Jvm.Cond.instanceMethod ({ cls := "WhatIfSheetModel", name := "refusal", desc := "(III)I" } : Jvm.MethodName)) ∈ lw_all := lw_g (lw_at lw_m13 201 rfl) rfl
theorem q3212 : (Jvm.Cond.code ({ cls := "WhatIfSheetModel", name := "refusal", desc := "(III)I" } : Jvm.MethodName) prog_35_method_70_code (4 : Nat) (Option.some Jvm.ClassFile.FieldType.int)) ∈ lw_all := lw_g (lw_at lw_m13 202 rfl) rfl
theorem q3213 : (Jvm.Cond.methodLink "WhatIfSheetModel" (495 : Nat) ({ cls := "WhatIfSheetModel", name := "tellCaseNow", desc := "(III)V" } : Jvm.MethodName)) ∈ lw_all := lw_g (lw_at lw_m13 203 rfl) rfl
theorem q3214 : (Jvm.Cond.privateMethod ({ cls := "WhatIfSheetModel", name := "tellCaseNow", desc := "(III)V" } : Jvm.MethodName)) ∈ lw_tbl := lw_at lw_m13 204 rfl
theorem q3215 : (Jvm.Cond.instanceMethod ({ cls := "WhatIfSheetModel", name := "tellCaseNow", desc := "(III)V" } : Jvm.MethodName)) ∈ lw_all := lw_g (lw_at lw_m13 205 rfl) rfl
theorem q3216 : (Jvm.Cond.code ({ cls := "WhatIfSheetModel", name := "tellCaseNow", desc := "(III)V" } : Jvm.MethodName) prog_35_method_71_code (4 : Nat) (Option.none : Option Jvm.ClassFile.FieldType)) ∈ lw_all := lw_g (lw_at lw_m13 206 rfl) rfl
theorem q3218 : (Jvm.Cond.instanceMethod ({ cls := "WhatIfSheetModel", name := "blame", desc := "(III)I" } : Jvm.MethodName)) ∈ lw_all := lw_g (lw_at lw_m13 208 rfl) rfl
theorem q3219 : (Jvm.Cond.selects "WhatIfSheetModel" ({ cls := "WhatIfSheetModel", name := "blame", desc := "(III)I" } : Jvm.MethodName) ({ cls := "WhatIfSheetModel", name := "blame", desc := "(III)I" } : Jvm.MethodName)) ∈ lw_all := lw_g (lw_at lw_m13 209 rfl) rfl
theorem q3220 : (Jvm.Cond.code ({ cls := "WhatIfSheetModel", name := "blame", desc := "(III)I" } : Jvm.MethodName) prog_35_method_73_code (5 : Nat) (Option.some Jvm.ClassFile.FieldType.int)) ∈ lw_all := lw_g (lw_at lw_m13 210 rfl) rfl
theorem q3222 : (Jvm.Cond.instanceMethod ({ cls := "WhatIfSheetModel", name := "adds", desc := "(II)J" } : Jvm.MethodName)) ∈ lw_all := lw_g (lw_at lw_m13 212 rfl) rfl
theorem q3223 : (Jvm.Cond.selects "WhatIfSheetModel" ({ cls := "WhatIfSheetModel", name := "adds", desc := "(II)J" } : Jvm.MethodName) ({ cls := "WhatIfSheetModel", name := "adds", desc := "(II)J" } : Jvm.MethodName)) ∈ lw_all := lw_g (lw_at lw_m13 213 rfl) rfl
theorem q3224 : (Jvm.Cond.code ({ cls := "WhatIfSheetModel", name := "adds", desc := "(II)J" } : Jvm.MethodName) prog_35_method_74_code (3 : Nat) (Option.some Jvm.ClassFile.FieldType.long)) ∈ lw_all := lw_g (lw_at lw_m13 214 rfl) rfl
theorem q3226 : (Jvm.Cond.instanceMethod ({ cls := "WhatIfSheetModel", name := "asks", desc := "(II)I" } : Jvm.MethodName)) ∈ lw_all := lw_g (lw_at lw_m13 216 rfl) rfl
theorem q3227 : (Jvm.Cond.selects "WhatIfSheetModel" ({ cls := "WhatIfSheetModel", name := "asks", desc := "(II)I" } : Jvm.MethodName) ({ cls := "WhatIfSheetModel", name := "asks", desc := "(II)I" } : Jvm.MethodName)) ∈ lw_all := lw_g (lw_at lw_m13 217 rfl) rfl
theorem q3228 : (Jvm.Cond.code ({ cls := "WhatIfSheetModel", name := "asks", desc := "(II)I" } : Jvm.MethodName) prog_35_method_79_code (4 : Nat) (Option.some Jvm.ClassFile.FieldType.int)) ∈ lw_all := lw_g (lw_at lw_m13 218 rfl) rfl
theorem q3229 : (Jvm.Cond.methodLink "WhatIfSheetModel" (504 : Nat) ({ cls := "WhatIfSheetModel", name := "caseOf", desc := "(IZ)I" } : Jvm.MethodName)) ∈ lw_all := lw_g (lw_at lw_m13 219 rfl) rfl
theorem q3230 : (Jvm.Cond.privateMethod ({ cls := "WhatIfSheetModel", name := "caseOf", desc := "(IZ)I" } : Jvm.MethodName)) ∈ lw_tbl := lw_at lw_m13 220 rfl
theorem q3231 : (Jvm.Cond.instanceMethod ({ cls := "WhatIfSheetModel", name := "caseOf", desc := "(IZ)I" } : Jvm.MethodName)) ∈ lw_all := lw_g (lw_at lw_m13 221 rfl) rfl
theorem q3232 : (Jvm.Cond.code ({ cls := "WhatIfSheetModel", name := "caseOf", desc := "(IZ)I" } : Jvm.MethodName) prog_35_method_75_code (9 : Nat) (Option.some Jvm.ClassFile.FieldType.int)) ∈ lw_all := lw_g (lw_at lw_m13 222 rfl) rfl
theorem q3233 : (Jvm.Cond.methodLink "WhatIfSheetModel" (508 : Nat) ({ cls := "WhatIfSheetModel", name := "slice", desc := "(I)I" } : Jvm.MethodName)) ∈ lw_all := lw_g (lw_at lw_m13 223 rfl) rfl
theorem q3234 : (Jvm.Cond.privateMethod ({ cls := "WhatIfSheetModel", name := "slice", desc := "(I)I" } : Jvm.MethodName)) ∈ lw_tbl := lw_at lw_m13 224 rfl
theorem q3235 : (Jvm.Cond.instanceMethod ({ cls := "WhatIfSheetModel", name := "slice", desc := "(I)I" } : Jvm.MethodName)) ∈ lw_all := lw_g (lw_at lw_m13 225 rfl) rfl
theorem q3236 : (Jvm.Cond.code ({ cls := "WhatIfSheetModel", name := "slice", desc := "(I)I" } : Jvm.MethodName) prog_35_method_76_code (5 : Nat) (Option.some Jvm.ClassFile.FieldType.int)) ∈ lw_all := lw_g (lw_at lw_m13 226 rfl) rfl
theorem q3237 : (Jvm.Cond.methodLink "WhatIfSheetModel" (501 : Nat) ({ cls := "WhatIfSheetModel", name := "unlikeOnes", desc := "(II)I" } : Jvm.MethodName)) ∈ lw_all := lw_g (lw_at lw_m13 227 rfl) rfl
theorem q3238 : (Jvm.Cond.privateMethod ({ cls := "WhatIfSheetModel", name := "unlikeOnes", desc := "(II)I" } : Jvm.MethodName)) ∈ lw_tbl := lw_at lw_m13 228 rfl
theorem q3239 : (Jvm.Cond.instanceMethod ({ cls := "WhatIfSheetModel", name := "unlikeOnes", desc := "(II)I" } : Jvm.MethodName)) ∈ lw_all := lw_g (lw_at lw_m13 229 rfl) rfl
theorem q3240 : (Jvm.Cond.code ({ cls := "WhatIfSheetModel", name := "unlikeOnes", desc := "(II)I" } : Jvm.MethodName) prog_35_method_77_code (8 : Nat) (Option.some Jvm.ClassFile.FieldType.int)) ∈ lw_all := lw_g (lw_at lw_m13 230 rfl) rfl
theorem q3241 : (Jvm.Cond.methodLink "WhatIfSheetModel" (498 : Nat) ({ cls := "WhatIfSheetModel", name := "toldLeast", desc := "(I)I" } : Jvm.MethodName)) ∈ lw_all := lw_g (lw_at lw_m13 231 rfl) rfl
theorem q3242 : (Jvm.Cond.privateMethod ({ cls := "WhatIfSheetModel", name := "toldLeast", desc := "(I)I" } : Jvm.MethodName)) ∈ lw_tbl := lw_at lw_m13 232 rfl
theorem q3243 : (Jvm.Cond.instanceMethod ({ cls := "WhatIfSheetModel", name := "toldLeast", desc := "(I)I" } : Jvm.MethodName)) ∈ lw_all := lw_g (lw_at lw_m13 233 rfl) rfl
theorem q3244 : (Jvm.Cond.code ({ cls := "WhatIfSheetModel", name := "toldLeast", desc := "(I)I" } : Jvm.MethodName) prog_35_method_78_code (7 : Nat) (Option.some Jvm.ClassFile.FieldType.int)) ∈ lw_all := lw_g (lw_at lw_m13 234 rfl) rfl
theorem q3246 : (Jvm.Cond.instanceMethod ({ cls := "WhatIfSheetModel", name := "seek", desc := "(IIIIII)J" } : Jvm.MethodName)) ∈ lw_all := lw_g (lw_at lw_m13 236 rfl) rfl
theorem q3247 : (Jvm.Cond.selects "WhatIfSheetModel" ({ cls := "WhatIfSheetModel", name := "seek", desc := "(IIIIII)J" } : Jvm.MethodName) ({ cls := "WhatIfSheetModel", name := "seek", desc := "(IIIIII)J" } : Jvm.MethodName)) ∈ lw_all := lw_g (lw_at lw_m13 237 rfl) rfl
theorem q3248 : (Jvm.Cond.code ({ cls := "WhatIfSheetModel", name := "seek", desc := "(IIIIII)J" } : Jvm.MethodName) prog_35_method_84_code (8 : Nat) (Option.some Jvm.ClassFile.FieldType.long)) ∈ lw_all := lw_g (lw_at lw_m13 238 rfl) rfl
theorem q3249 : (Jvm.Cond.methodLink "WhatIfSheetModel" (536 : Nat) ({ cls := "WhatIfSheetModel", name := "isWanted", desc := "(I)Z" } : Jvm.MethodName)) ∈ lw_all := lw_g (lw_at lw_m13 239 rfl) rfl
theorem q3250 : (Jvm.Cond.static ({ cls := "WhatIfSheetModel", name := "isWanted", desc := "(I)Z" } : Jvm.MethodName)) ∈ lw_all := lw_g (lw_at lw_m14 0 rfl) rfl
theorem q3251 : (Jvm.Cond.code ({ cls := "WhatIfSheetModel", name := "isWanted", desc := "(I)Z" } : Jvm.MethodName) prog_35_method_83_code (1 : Nat) (Option.some Jvm.ClassFile.FieldType.boolean)) ∈ lw_all := lw_g (lw_at lw_m14 1 rfl) rfl
theorem q3252 : (Jvm.Cond.methodLink "WhatIfSheetModel" (539 : Nat) ({ cls := "WhatIfSheetModel", name := "seeks", desc := "(IIDDD)Z" } : Jvm.MethodName)) ∈ lw_all := lw_g (lw_at lw_m14 2 rfl) rfl
theorem q3253 : (Jvm.Cond.privateMethod ({ cls := "WhatIfSheetModel", name := "seeks", desc := "(IIDDD)Z" } : Jvm.MethodName)) ∈ lw_tbl := lw_at lw_m14 3 rfl
theorem q3254 : (Jvm.Cond.instanceMethod ({ cls := "WhatIfSheetModel", name := "seeks", desc := "(IIDDD)Z" } : Jvm.MethodName)) ∈ lw_all := lw_g (lw_at lw_m14 4 rfl) rfl
theorem q3255 : (Jvm.Cond.code ({ cls := "WhatIfSheetModel", name := "seeks", desc := "(IIDDD)Z" } : Jvm.MethodName) prog_35_method_82_code (25 : Nat) (Option.some Jvm.ClassFile.FieldType.boolean)) ∈ lw_all := lw_g (lw_at lw_m14 5 rfl) rfl
theorem q3256 : (Jvm.Cond.methodLink "WhatIfSheetModel" (523 : Nat) ({ cls := "WhatIfSheetModel", name := "f", desc := "(IID)D" } : Jvm.MethodName)) ∈ lw_all := lw_g (lw_at lw_m14 6 rfl) rfl
theorem q3257 : (Jvm.Cond.privateMethod ({ cls := "WhatIfSheetModel", name := "f", desc := "(IID)D" } : Jvm.MethodName)) ∈ lw_tbl := lw_at lw_m14 7 rfl
theorem q3258 : (Jvm.Cond.instanceMethod ({ cls := "WhatIfSheetModel", name := "f", desc := "(IID)D" } : Jvm.MethodName)) ∈ lw_all := lw_g (lw_at lw_m14 8 rfl) rfl
theorem q3259 : (Jvm.Cond.code ({ cls := "WhatIfSheetModel", name := "f", desc := "(IID)D" } : Jvm.MethodName) prog_35_method_80_code (7 : Nat) (Option.some Jvm.ClassFile.FieldType.double)) ∈ lw_all := lw_g (lw_at lw_m14 9 rfl) rfl
theorem q3260 : (Jvm.Cond.methodLink "WhatIfSheetModel" (527 : Nat) ({ cls := "WhatIfSheetModel", name := "finds", desc := "(DD)V" } : Jvm.MethodName)) ∈ lw_all := lw_g (lw_at lw_m14 10 rfl) rfl
theorem q3261 : (Jvm.Cond.privateMethod ({ cls := "WhatIfSheetModel", name := "finds", desc := "(DD)V" } : Jvm.MethodName)) ∈ lw_tbl := lw_at lw_m14 11 rfl
theorem q3262 : (Jvm.Cond.instanceMethod ({ cls := "WhatIfSheetModel", name := "finds", desc := "(DD)V" } : Jvm.MethodName)) ∈ lw_all := lw_g (lw_at lw_m14 12 rfl) rfl
theorem q3263 : (Jvm.Cond.code ({ cls := "WhatIfSheetModel", name := "finds", desc := "(DD)V" } : Jvm.MethodName) prog_35_method_81_code (5 : Nat) (Option.none : Option Jvm.ClassFile.FieldType)) ∈ lw_all := lw_g (lw_at lw_m14 13 rfl) rfl
theorem q3264 : (Jvm.Cond.constantDouble "WhatIfSheetModel" (531 : Nat) (4611686018427387904 : UInt64)) ∈ lw_all := lw_g (lw_at lw_m14 14 rfl) rfl
theorem q3265 : (Jvm.Cond.methodLink "WhatIfSheetModel" (533 : Nat) ({ cls := "java/lang/Math", name := "abs", desc := "(D)D" } : Jvm.MethodName)) ∈ lw_all := lw_g (lw_at lw_m14 15 rfl) rfl
theorem q3273 : (Jvm.Cond.constantLong "WhatIfSheetModel" (543 : Nat) (-1 : Int64)) ∈ lw_all := lw_g (lw_at lw_m14 23 rfl) rfl
theorem q3275 : (Jvm.Cond.instanceMethod ({ cls := "WhatIfSheetModel", name := "swing", desc := "(III)J" } : Jvm.MethodName)) ∈ lw_all := lw_g (lw_at lw_m14 25 rfl) rfl
theorem q3276 : (Jvm.Cond.selects "WhatIfSheetModel" ({ cls := "WhatIfSheetModel", name := "swing", desc := "(III)J" } : Jvm.MethodName) ({ cls := "WhatIfSheetModel", name := "swing", desc := "(III)J" } : Jvm.MethodName)) ∈ lw_all := lw_g (lw_at lw_m14 26 rfl) rfl
theorem q3277 : (Jvm.Cond.code ({ cls := "WhatIfSheetModel", name := "swing", desc := "(III)J" } : Jvm.MethodName) prog_35_method_85_code (16 : Nat) (Option.some Jvm.ClassFile.FieldType.long)) ∈ lw_all := lw_g (lw_at lw_m14 27 rfl) rfl
theorem q3279 : (Jvm.Cond.instanceMethod ({ cls := "WhatIfSheetModel", name := "chance", desc := "(IIIII)I" } : Jvm.MethodName)) ∈ lw_all := lw_g (lw_at lw_m14 29 rfl) rfl
theorem q3280 : (Jvm.Cond.selects "WhatIfSheetModel" ({ cls := "WhatIfSheetModel", name := "chance", desc := "(IIIII)I" } : Jvm.MethodName) ({ cls := "WhatIfSheetModel", name := "chance", desc := "(IIIII)I" } : Jvm.MethodName)) ∈ lw_all := lw_g (lw_at lw_m14 30 rfl) rfl
theorem q3281 : (Jvm.Cond.code ({ cls := "WhatIfSheetModel", name := "chance", desc := "(IIIII)I" } : Jvm.MethodName) prog_35_method_88_code (9 : Nat) (Option.some Jvm.ClassFile.FieldType.int)) ∈ lw_all := lw_g (lw_at lw_m14 31 rfl) rfl
theorem q3282 : (Jvm.Cond.methodLink "WhatIfSheetModel" (549 : Nat) ({ cls := "WhatIfSheetModel", name := "isSoByLot", desc := "(IIID)Z" } : Jvm.MethodName)) ∈ lw_all := lw_g (lw_at lw_m14 32 rfl) rfl
theorem q3283 : (Jvm.Cond.privateMethod ({ cls := "WhatIfSheetModel", name := "isSoByLot", desc := "(IIID)Z" } : Jvm.MethodName)) ∈ lw_tbl := lw_at lw_m14 33 rfl
theorem q3284 : (Jvm.Cond.instanceMethod ({ cls := "WhatIfSheetModel", name := "isSoByLot", desc := "(IIID)Z" } : Jvm.MethodName)) ∈ lw_all := lw_g (lw_at lw_m14 34 rfl) rfl
theorem q3285 : (Jvm.Cond.code ({ cls := "WhatIfSheetModel", name := "isSoByLot", desc := "(IIID)Z" } : Jvm.MethodName) prog_35_method_86_code (10 : Nat) (Option.some Jvm.ClassFile.FieldType.boolean)) ∈ lw_all := lw_g (lw_at lw_m14 35 rfl) rfl
theorem q3286 : (Jvm.Cond.constant "WhatIfSheetModel" (545 : Nat) (1103515245 : Int32)) ∈ lw_all := lw_g (lw_at lw_m14 36 rfl) rfl
theorem q3287 : (Jvm.Cond.methodLink "WhatIfSheetModel" (546 : Nat) ({ cls := "WhatIfSheetModel", name := "common", desc := "(II)I" } : Jvm.MethodName)) ∈ lw_all := lw_g (lw_at lw_m14 37 rfl) rfl
theorem q3288 : (Jvm.Cond.static ({ cls := "WhatIfSheetModel", name := "common", desc := "(II)I" } : Jvm.MethodName)) ∈ lw_all := lw_g (lw_at lw_m14 38 rfl) rfl
theorem q3289 : (Jvm.Cond.code ({ cls := "WhatIfSheetModel", name := "common", desc := "(II)I" } : Jvm.MethodName) prog_35_method_87_code (2 : Nat) (Option.some Jvm.ClassFile.FieldType.int)) ∈ lw_all := lw_g (lw_at lw_m14 39 rfl) rfl
theorem q3291 : (Jvm.Cond.instanceMethod ({ cls := "WhatIfSheetModel", name := "film", desc := "(II)I" } : Jvm.MethodName)) ∈ lw_all := lw_g (lw_at lw_m14 41 rfl) rfl
theorem q3292 : (Jvm.Cond.selects "WhatIfSheetModel" ({ cls := "WhatIfSheetModel", name := "film", desc := "(II)I" } : Jvm.MethodName) ({ cls := "WhatIfSheetModel", name := "film", desc := "(II)I" } : Jvm.MethodName)) ∈ lw_all := lw_g (lw_at lw_m14 42 rfl) rfl
theorem q3293 : (Jvm.Cond.code ({ cls := "WhatIfSheetModel", name := "film", desc := "(II)I" } : Jvm.MethodName) prog_35_method_89_code (5 : Nat) (Option.some Jvm.ClassFile.FieldType.int)) ∈ lw_all := lw_g (lw_at lw_m14 43 rfl) rfl
theorem q3295 : (Jvm.Cond.instanceMethod ({ cls := "WhatIfSheetModel", name := "tells", desc := "(IIII)I" } : Jvm.MethodName)) ∈ lw_all := lw_g (lw_at lw_m14 45 rfl) rfl
theorem q3296 : (Jvm.Cond.selects "WhatIfSheetModel" ({ cls := "WhatIfSheetModel", name := "tells", desc := "(IIII)I" } : Jvm.MethodName) ({ cls := "WhatIfSheetModel", name := "tells", desc := "(IIII)I" } : Jvm.MethodName)) ∈ lw_all := lw_g (lw_at lw_m14 46 rfl) rfl
theorem q3297 : (Jvm.Cond.code ({ cls := "WhatIfSheetModel", name := "tells", desc := "(IIII)I" } : Jvm.MethodName) prog_35_method_93_code (5 : Nat) (Option.some Jvm.ClassFile.FieldType.int)) ∈ lw_all := lw_g (lw_at lw_m14 47 rfl) rfl
theorem q3298 : (Jvm.Cond.methodLink "WhatIfSheetModel" (553 : Nat) ({ cls := "WhatIfSheetModel", name := "otherwise", desc := "(II)I" } : Jvm.MethodName)) ∈ lw_all := lw_g (lw_at lw_m14 48 rfl) rfl
theorem q3299 : (Jvm.Cond.privateMethod ({ cls := "WhatIfSheetModel", name := "otherwise", desc := "(II)I" } : Jvm.MethodName)) ∈ lw_tbl := lw_at lw_m14 49 rfl
theorem q3300 : (Jvm.Cond.instanceMethod ({ cls := "WhatIfSheetModel", name := "otherwise", desc := "(II)I" } : Jvm.MethodName)) ∈ lw_all := lw_g (lw_at lw_m14 50 rfl) rfl
theorem q3301 : (Jvm.Cond.code ({ cls := "WhatIfSheetModel", name := "otherwise", desc := "(II)I" } : Jvm.MethodName) prog_35_method_90_code (5 : Nat) (Option.some Jvm.ClassFile.FieldType.int)) ∈ lw_all := lw_g (lw_at lw_m14 51 rfl) rfl
theorem q3302 : (Jvm.Cond.methodLink "WhatIfSheetModel" (556 : Nat) ({ cls := "WhatIfSheetModel", name := "kindsBy", desc := "(III)I" } : Jvm.MethodName)) ∈ lw_all := lw_g (lw_at lw_m14 52 rfl) rfl
theorem q3303 : (Jvm.Cond.privateMethod ({ cls := "WhatIfSheetModel", name := "kindsBy", desc := "(III)I" } : Jvm.MethodName)) ∈ lw_tbl := lw_at lw_m14 53 rfl
theorem q3304 : (Jvm.Cond.instanceMethod ({ cls := "WhatIfSheetModel", name := "kindsBy", desc := "(III)I" } : Jvm.MethodName)) ∈ lw_all := lw_g (lw_at lw_m14 54 rfl) rfl
theorem q3305 : (Jvm.Cond.code ({ cls := "WhatIfSheetModel", name := "kindsBy", desc := "(III)I" } : Jvm.MethodName) prog_35_method_91_code (7 : Nat) (Option.some Jvm.ClassFile.FieldType.int)) ∈ lw_all := lw_g (lw_at lw_m14 55 rfl) rfl
theorem q3306 : (Jvm.Cond.methodLink "WhatIfSheetModel" (559 : Nat) ({ cls := "WhatIfSheetModel", name := "numbersBy", desc := "(IIIZ)I" } : Jvm.MethodName)) ∈ lw_all := lw_g (lw_at lw_m14 56 rfl) rfl
theorem q3307 : (Jvm.Cond.privateMethod ({ cls := "WhatIfSheetModel", name := "numbersBy", desc := "(IIIZ)I" } : Jvm.MethodName)) ∈ lw_tbl := lw_at lw_m14 57 rfl
theorem q3308 : (Jvm.Cond.instanceMethod ({ cls := "WhatIfSheetModel", name := "numbersBy", desc := "(IIIZ)I" } : Jvm.MethodName)) ∈ lw_all := lw_g (lw_at lw_m14 58 rfl) rfl
theorem q3309 : (Jvm.Cond.code ({ cls := "WhatIfSheetModel", name := "numbersBy", desc := "(IIIZ)I" } : Jvm.MethodName) prog_35_method_92_code (11 : Nat) (Option.some Jvm.ClassFile.FieldType.int)) ∈ lw_all := lw_g (lw_at lw_m14 59 rfl) rfl
theorem q3311 : (Jvm.Cond.instanceMethod ({ cls := "WhatIfSheetModel", name := "image", desc := "()I" } : Jvm.MethodName)) ∈ lw_all := lw_g (lw_at lw_m14 61 rfl) rfl
theorem q3312 : (Jvm.Cond.selects "WhatIfSheetModel" ({ cls := "WhatIfSheetModel", name := "image", desc := "()I" } : Jvm.MethodName) ({ cls := "WhatIfSheetModel", name := "image", desc := "()I" } : Jvm.MethodName)) ∈ lw_all := lw_g (lw_at lw_m14 62 rfl) rfl
theorem q3313 : (Jvm.Cond.code ({ cls := "WhatIfSheetModel", name := "image", desc := "()I" } : Jvm.MethodName) prog_35_method_95_code (2 : Nat) (Option.some Jvm.ClassFile.FieldType.int)) ∈ lw_all := lw_g (lw_at lw_m14 63 rfl) rfl
theorem q3314 : (Jvm.Cond.methodLink "WhatIfSheetModel" (566 : Nat) ({ cls := "WhatIfSheetModel", name := "formulas", desc := "()I" } : Jvm.MethodName)) ∈ lw_all := lw_g (lw_at lw_m14 64 rfl) rfl
theorem q3315 : (Jvm.Cond.privateMethod ({ cls := "WhatIfSheetModel", name := "formulas", desc := "()I" } : Jvm.MethodName)) ∈ lw_tbl := lw_at lw_m14 65 rfl
theorem q3316 : (Jvm.Cond.instanceMethod ({ cls := "WhatIfSheetModel", name := "formulas", desc := "()I" } : Jvm.MethodName)) ∈ lw_all := lw_g (lw_at lw_m14 66 rfl) rfl
theorem q3317 : (Jvm.Cond.code ({ cls := "WhatIfSheetModel", name := "formulas", desc := "()I" } : Jvm.MethodName) prog_35_method_94_code (3 : Nat) (Option.some Jvm.ClassFile.FieldType.int)) ∈ lw_all := lw_g (lw_at lw_m14 67 rfl) rfl
theorem q3319 : (Jvm.Cond.instanceMethod ({ cls := "WhatIfSheetModel", name := "back", desc := "()I" } : Jvm.MethodName)) ∈ lw_all := lw_g (lw_at lw_m14 69 rfl) rfl
theorem q3320 : (Jvm.Cond.selects "WhatIfSheetModel" ({ cls := "WhatIfSheetModel", name := "back", desc := "()I" } : Jvm.MethodName) ({ cls := "WhatIfSheetModel", name := "back", desc := "()I" } : Jvm.MethodName)) ∈ lw_all := lw_g (lw_at lw_m14 70 rfl) rfl
theorem q3321 : (Jvm.Cond.code ({ cls := "WhatIfSheetModel", name := "back", desc := "()I" } : Jvm.MethodName) prog_35_method_96_code (2 : Nat) (Option.some Jvm.ClassFile.FieldType.int)) ∈ lw_all := lw_g (lw_at lw_m14 71 rfl) rfl
theorem q3323 : (Jvm.Cond.instanceMethod ({ cls := "WhatIfSheetModel", name := "count", desc := "(I)I" } : Jvm.MethodName)) ∈ lw_all := lw_g (lw_at lw_m14 73 rfl) rfl
theorem q3324 : (Jvm.Cond.selects "WhatIfSheetModel" ({ cls := "WhatIfSheetModel", name := "count", desc := "(I)I" } : Jvm.MethodName) ({ cls := "WhatIfSheetModel", name := "count", desc := "(I)I" } : Jvm.MethodName)) ∈ lw_all := lw_g (lw_at lw_m14 74 rfl) rfl
theorem q3325 : (Jvm.Cond.code ({ cls := "WhatIfSheetModel", name := "count", desc := "(I)I" } : Jvm.MethodName) prog_35_method_97_code (4 : Nat) (Option.some Jvm.ClassFile.FieldType.int)) ∈ lw_all := lw_g (lw_at lw_m14 75 rfl) rfl
theorem q3327 : (Jvm.Cond.instanceMethod ({ cls := "WhatIfSheetModel", name := "row", desc := "(III)I" } : Jvm.MethodName)) ∈ lw_all := lw_g (lw_at lw_m14 77 rfl) rfl
theorem q3328 : (Jvm.Cond.selects "WhatIfSheetModel" ({ cls := "WhatIfSheetModel", name := "row", desc := "(III)I" } : Jvm.MethodName) ({ cls := "WhatIfSheetModel", name := "row", desc := "(III)I" } : Jvm.MethodName)) ∈ lw_all := lw_g (lw_at lw_m14 78 rfl) rfl
theorem q3329 : (Jvm.Cond.code ({ cls := "WhatIfSheetModel", name := "row", desc := "(III)I" } : Jvm.MethodName) prog_35_method_99_code (5 : Nat) (Option.some Jvm.ClassFile.FieldType.int)) ∈ lw_all := lw_g (lw_at lw_m14 79 rfl) rfl
theorem q3331 : (Jvm.Cond.instanceMethod ({ cls := "WhatIfSheetModel", name := "put", desc := "(III)I" } : Jvm.MethodName)) ∈ lw_all := lw_g (lw_at lw_m14 81 rfl) rfl
theorem q3332 : (Jvm.Cond.selects "WhatIfSheetModel" ({ cls := "WhatIfSheetModel", name := "put", desc := "(III)I" } : Jvm.MethodName) ({ cls := "WhatIfSheetModel", name := "put", desc := "(III)I" } : Jvm.MethodName)) ∈ lw_all := lw_g (lw_at lw_m14 82 rfl) rfl
theorem q3333 : (Jvm.Cond.code ({ cls := "WhatIfSheetModel", name := "put", desc := "(III)I" } : Jvm.MethodName) prog_35_method_101_code (5 : Nat) (Option.some Jvm.ClassFile.FieldType.int)) ∈ lw_all := lw_g (lw_at lw_m14 83 rfl) rfl
theorem q3334 : (Jvm.Cond.methodLink "WhatIfSheetModel" (569 : Nat) ({ cls := "WhatIfSheetModel", name := "itemRefusal", desc := "(II)I" } : Jvm.MethodName)) ∈ lw_all := lw_g (lw_at lw_m14 84 rfl) rfl
theorem q3335 : (Jvm.Cond.privateMethod ({ cls := "WhatIfSheetModel", name := "itemRefusal", desc := "(II)I" } : Jvm.MethodName)) ∈ lw_tbl := lw_at lw_m14 85 rfl
theorem q3336 : (Jvm.Cond.instanceMethod ({ cls := "WhatIfSheetModel", name := "itemRefusal", desc := "(II)I" } : Jvm.MethodName)) ∈ lw_all := lw_g (lw_at lw_m14 86 rfl) rfl
theorem q3337 : (Jvm.Cond.code ({ cls := "WhatIfSheetModel", name := "itemRefusal", desc := "(II)I" } : Jvm.MethodName) prog_35_method_100_code (3 : Nat) (Option.some Jvm.ClassFile.FieldType.int)) ∈ lw_all := lw_g (lw_at lw_m14 87 rfl) rfl
theorem q3339 : (Jvm.Cond.instanceMethod ({ cls := "WhatIfSheetModel", name := "item", desc := "(II)J" } : Jvm.MethodName)) ∈ lw_all := lw_g (lw_at lw_m14 89 rfl) rfl
theorem q3340 : (Jvm.Cond.selects "WhatIfSheetModel" ({ cls := "WhatIfSheetModel", name := "item", desc := "(II)J" } : Jvm.MethodName) ({ cls := "WhatIfSheetModel", name := "item", desc := "(II)J" } : Jvm.MethodName)) ∈ lw_all := lw_g (lw_at lw_m14 90 rfl) rfl
theorem q3341 : (Jvm.Cond.code ({ cls := "WhatIfSheetModel", name := "item", desc := "(II)J" } : Jvm.MethodName) prog_35_method_102_code (4 : Nat) (Option.some Jvm.ClassFile.FieldType.long)) ∈ lw_all := lw_g (lw_at lw_m14 91 rfl) rfl
theorem q3343 : (Jvm.Cond.instanceMethod ({ cls := "WhatIfSheetModel", name := "copy", desc := "(IIIII)I" } : Jvm.MethodName)) ∈ lw_all := lw_g (lw_at lw_m14 93 rfl) rfl
theorem q3344 : (Jvm.Cond.selects "WhatIfSheetModel" ({ cls := "WhatIfSheetModel", name := "copy", desc := "(IIIII)I" } : Jvm.MethodName) ({ cls := "WhatIfSheetModel", name := "copy", desc := "(IIIII)I" } : Jvm.MethodName)) ∈ lw_all := lw_g (lw_at lw_m14 94 rfl) rfl
theorem q3345 : (Jvm.Cond.code ({ cls := "WhatIfSheetModel", name := "copy", desc := "(IIIII)I" } : Jvm.MethodName) prog_35_method_103_code (6 : Nat) (Option.some Jvm.ClassFile.FieldType.int)) ∈ lw_all := lw_g (lw_at lw_m14 95 rfl) rfl
theorem q3407 : (Jvm.Cond.castable "WhatIfSheetModel" "java/lang/Object") ∈ lw_tbl := lw_at lw_m14 157 rfl
theorem in_X5 : ∀ w ∈ wsX50, w ∈ lw_all := lw_in wsX50 [2750, 2752, 2754, 2756, 2758, 2760, 2762, 2764, 2766, 2768, 2770, 2772, 2774, 2776, 2778, 2780, 2782, 2784, 2786, 2788, 2790, 2792, 2794, 2796, 2798, 2800, 2802, 2804, 2806, 2808, 2810, 2812, 2814, 2816, 2818, 2820, 2822, 2824, 2826, 2828, 2830, 2832, 2834, 2836, 2838, 2840, 2842, 2844, 2846, 2848, 2850, 2852, 2854, 2856, 2858, 2860, 2862, 2864, 2866, 2868, 2870, 2872, 2874, 2876, 2878, 2880, 2882, 2884, 2886, 2888, 2890, 2892, 2894, 2896, 2898, 2900] (by decide +kernel) (by decide +kernel)
