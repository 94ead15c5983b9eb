/-! WhatIfSheet -/
set_option maxRecDepth 100000
def RX0 : String := "WhatIfSheet"
def TX0 : u_T := fun k => match k with
  | 0 => ("WhatIfSheet", "cells", "[LWhatIfSheet$Plain;", true)
  | 1 => ("WhatIfSheet", "tables", "[LWhatIfSheet$Table;", true)
  | 2 => ("WhatIfSheet", "fault", "I", false)
  | 3 => ("WhatIfSheet", "blamed", "I", false)
  | 4 => ("WhatIfSheet", "teller", "I", false)
  | 5 => ("WhatIfSheet", "sights", "[LWhatIfSheet$Sight;", true)
  | 6 => ("WhatIfSheet", "plain", "LWhatIfSheet$Sight;", true)
  | 7 => ("WhatIfSheet", "now", "LWhatIfSheet$Table;", false)
  | 8 => ("WhatIfSheet", "atOne", "I", false)
  | 9 => ("WhatIfSheet", "atOther", "I", false)
  | 10 => ("WhatIfSheet", "told", "I", false)
  | 11 => ("WhatIfSheet", "reached", "[Ljava/util/BitSet;", true)
  | 12 => ("WhatIfSheet", "reads", "[Ljava/util/BitSet;", true)
  | 13 => ("WhatIfSheet", "burdens", "[I", true)
  | 14 => ("WhatIfSheet", "loads", "[I", true)
  | 15 => ("WhatIfSheet", "tableBurdens", "[I", true)
  | 16 => ("WhatIfSheet", "through", "Ljava/util/BitSet;", true)
  | 17 => ("WhatIfSheet", "waits", "[I", true)
  | 18 => ("WhatIfSheet", "ready", "Ljava/util/ArrayDeque;", true)
  | 19 => ("WhatIfSheet", "tape", "[B", true)
  | 20 => ("WhatIfSheet", "taped", "I", false)
  | 21 => ("WhatIfSheet", "plainNumbers", "[D", true)
  | 22 => ("WhatIfSheet", "plainFirsts", "[B", true)
  | 23 => ("WhatIfSheet", "hads", "[D", true)
  | 24 => ("WhatIfSheet", "kindsKept", "[I", true)
  | 25 => ("WhatIfSheet", "ownKept", "[D", true)
  | 26 => ("WhatIfSheet", "formulasKept", "[LWhatIfSheet$Formula;", true)
  | 27 => ("WhatIfSheet", "tablesKept", "[LWhatIfSheet$Table;", true)
  | 28 => ("WhatIfSheet", "isKept", "Z", false)
  | _ => ("WhatIfSheet", "rows", "[LWhatIfSheet$Row;", true)
def tyX0 : Nat → FieldType := fun k => match k with
  | 0 => .array (.object "WhatIfSheet$Plain")
  | 1 => .array (.object "WhatIfSheet$Table")
  | 2 => .int
  | 3 => .int
  | 4 => .int
  | 5 => .array (.object "WhatIfSheet$Sight")
  | 6 => .object "WhatIfSheet$Sight"
  | 7 => .object "WhatIfSheet$Table"
  | 8 => .int
  | 9 => .int
  | 10 => .int
  | 11 => .array (.object "java/util/BitSet")
  | 12 => .array (.object "java/util/BitSet")
  | 13 => .array .int
  | 14 => .array .int
  | 15 => .array .int
  | 16 => .object "java/util/BitSet"
  | 17 => .array .int
  | 18 => .object "java/util/ArrayDeque"
  | 19 => .array .byte
  | 20 => .int
  | 21 => .array .double
  | 22 => .array .byte
  | 23 => .array .double
  | 24 => .array .int
  | 25 => .array .double
  | 26 => .array (.object "WhatIfSheet$Formula")
  | 27 => .array (.object "WhatIfSheet$Table")
  | 28 => .boolean
  | _ => .array (.object "WhatIfSheet$Row")
abbrev wsX00 : List Cond := u_ws RX0 TX0 30
set_option maxRecDepth 100000 in
theorem nmX0 : ∀ a, a < 30 → ∀ b, b < 30 → a ≠ b → (TX0 a).2.1 ≠ (TX0 b).2.1 := by decide +kernel
set_option maxRecDepth 100000 in
theorem tyX0_ok : ∀ k, k < 30 → parseFieldDescriptor (TX0 k).2.2.1 = some (tyX0 k) := by decide +kernel
abbrev cX0_init : ByteArray := prog_1_method_3_code
def yX0_init : MethodName := ⟨RX0, "<init>", "()V"⟩
def dkwX0_init_13 : List UInt8 := [132, 1, 1, 167, 255, 235, 42, 182, 0, 126, 87, 177]
abbrev dktX0_init_13 : List UInt8 := dkwX0_init_13 ++ []
def dkwX0_init_12 : List UInt8 := [167, 255, 232, 3, 60, 27, 7, 162, 0, 22, 42, 180, 0, 121, 27, 187, 0, 119, 89, 183, 0, 125, 83]
abbrev dktX0_init_12 : List UInt8 := dkwX0_init_12 ++ dktX0_init_13
def dkwX0_init_11 : List UInt8 := [16, 6, 162, 0, 24, 42, 180, 0, 47, 27, 187, 0, 45, 89, 16, 64, 183, 0, 51, 83, 132, 1, 1]
abbrev dktX0_init_11 : List UInt8 := dkwX0_init_11 ++ dktX0_init_12
def dkwX0_init_10 : List UInt8 := [42, 180, 0, 62, 27, 187, 0, 56, 89, 16, 24, 183, 0, 75, 83, 132, 1, 1, 167, 255, 203, 3, 60, 27]
abbrev dktX0_init_10 : List UInt8 := dkwX0_init_10 ++ dktX0_init_11
def dkwX0_init_9 : List UInt8 := [187, 0, 3, 89, 27, 183, 0, 5, 83, 42, 180, 0, 58, 27, 187, 0, 56, 89, 16, 24, 183, 0, 75, 83]
abbrev dktX0_init_9 : List UInt8 := dkwX0_init_9 ++ dktX0_init_10
def dkwX0_init_8 : List UInt8 := [181, 0, 116, 42, 7, 189, 0, 119, 181, 0, 121, 3, 60, 27, 16, 24, 162, 0, 53, 42, 180, 0, 31, 27]
abbrev dktX0_init_8 : List UInt8 := dkwX0_init_8 ++ dktX0_init_9
def dkwX0_init_7 : List UInt8 := [16, 24, 188, 7, 181, 0, 107, 42, 16, 24, 189, 0, 110, 181, 0, 112, 42, 16, 6, 189, 0, 35]
abbrev dktX0_init_7 : List UInt8 := dkwX0_init_7 ++ dktX0_init_8
def dkwX0_init_6 : List UInt8 := [16, 8, 188, 8, 181, 0, 98, 42, 16, 24, 188, 7, 181, 0, 101, 42, 16, 24, 188, 10, 181, 0, 104, 42]
abbrev dktX0_init_6 : List UInt8 := dkwX0_init_6 ++ dktX0_init_7
def dkwX0_init_5 : List UInt8 := [183, 0, 85, 181, 0, 86, 42, 16, 96, 188, 8, 181, 0, 90, 42, 16, 8, 188, 7, 181, 0, 94, 42]
abbrev dktX0_init_5 : List UInt8 := dkwX0_init_5 ++ dktX0_init_6
def dkwX0_init_4 : List UInt8 := [16, 24, 183, 0, 75, 181, 0, 76, 42, 16, 30, 188, 10, 181, 0, 80, 42, 187, 0, 83, 89, 16, 32]
abbrev dktX0_init_4 : List UInt8 := dkwX0_init_4 ++ dktX0_init_5
def dkwX0_init_3 : List UInt8 := [181, 0, 65, 42, 16, 24, 188, 10, 181, 0, 69, 42, 16, 6, 188, 10, 181, 0, 72, 42, 187, 0, 56, 89]
abbrev dktX0_init_3 : List UInt8 := dkwX0_init_3 ++ dktX0_init_4
def dkwX0_init_2 : List UInt8 := [42, 16, 24, 189, 0, 56, 181, 0, 58, 42, 16, 24, 189, 0, 56, 181, 0, 62, 42, 16, 24, 188, 10]
abbrev dktX0_init_2 : List UInt8 := dkwX0_init_2 ++ dktX0_init_3
def dkwX0_init_1 : List UInt8 := [181, 0, 41, 42, 16, 6, 189, 0, 45, 181, 0, 47, 42, 187, 0, 45, 89, 4, 183, 0, 51, 181, 0, 52]
abbrev dktX0_init_1 : List UInt8 := dkwX0_init_1 ++ dktX0_init_2
def dkwX0_init_0 : List UInt8 := [42, 183, 0, 24, 42, 16, 24, 189, 0, 3, 181, 0, 31, 42, 16, 6, 189, 0, 35, 181, 0, 37, 42, 2]
abbrev dktX0_init_0 : List UInt8 := dkwX0_init_0 ++ dktX0_init_1
theorem dksX0_init_0 : cX0_init.data.toList.drop 0 = dktX0_init_0 := by decide +kernel
theorem dksX0_init_1 : cX0_init.data.toList.drop 24 = dktX0_init_1 := dk_seg dksX0_init_0 24 rfl rfl
theorem dksX0_init_2 : cX0_init.data.toList.drop 48 = dktX0_init_2 := dk_seg dksX0_init_1 24 rfl rfl
theorem dksX0_init_3 : cX0_init.data.toList.drop 71 = dktX0_init_3 := dk_seg dksX0_init_2 23 rfl rfl
theorem dksX0_init_4 : cX0_init.data.toList.drop 95 = dktX0_init_4 := dk_seg dksX0_init_3 24 rfl rfl
theorem dksX0_init_5 : cX0_init.data.toList.drop 118 = dktX0_init_5 := dk_seg dksX0_init_4 23 rfl rfl
theorem dksX0_init_6 : cX0_init.data.toList.drop 141 = dktX0_init_6 := dk_seg dksX0_init_5 23 rfl rfl
theorem dksX0_init_7 : cX0_init.data.toList.drop 165 = dktX0_init_7 := dk_seg dksX0_init_6 24 rfl rfl
theorem dksX0_init_8 : cX0_init.data.toList.drop 187 = dktX0_init_8 := dk_seg dksX0_init_7 22 rfl rfl
theorem dksX0_init_9 : cX0_init.data.toList.drop 211 = dktX0_init_9 := dk_seg dksX0_init_8 24 rfl rfl
theorem dksX0_init_10 : cX0_init.data.toList.drop 235 = dktX0_init_10 := dk_seg dksX0_init_9 24 rfl rfl
theorem dksX0_init_11 : cX0_init.data.toList.drop 259 = dktX0_init_11 := dk_seg dksX0_init_10 24 rfl rfl
theorem dksX0_init_12 : cX0_init.data.toList.drop 282 = dktX0_init_12 := dk_seg dksX0_init_11 23 rfl rfl
theorem dksX0_init_13 : cX0_init.data.toList.drop 305 = dktX0_init_13 := dk_seg dksX0_init_12 23 rfl rfl
theorem dX0_init_0 : decode cX0_init 0 = .ok (.aload_n 0, 1) := dk_42 (dk_at dksX0_init_0 0 rfl rfl)
theorem dX0_init_1 : decode cX0_init 1 = .ok (.invokespecial 24, 3) := dk_183 0 24 (dk_at dksX0_init_0 1 rfl rfl)
theorem dX0_init_4 : decode cX0_init 4 = .ok (.aload_n 0, 1) := dk_42 (dk_at dksX0_init_0 4 rfl rfl)
theorem dX0_init_5 : decode cX0_init 5 = .ok (.bipush 24, 2) := dk_16 24 (dk_at dksX0_init_0 5 rfl rfl)
theorem dX0_init_7 : decode cX0_init 7 = .ok (.anewarray 3, 3) := dk_189 0 3 (dk_at dksX0_init_0 7 rfl rfl)
theorem dX0_init_10 : decode cX0_init 10 = .ok (.putfield 31, 3) := dk_181 0 31 (dk_at dksX0_init_0 10 rfl rfl)
theorem dX0_init_13 : decode cX0_init 13 = .ok (.aload_n 0, 1) := dk_42 (dk_at dksX0_init_0 13 rfl rfl)
theorem dX0_init_14 : decode cX0_init 14 = .ok (.bipush 6, 2) := dk_16 6 (dk_at dksX0_init_0 14 rfl rfl)
theorem dX0_init_16 : decode cX0_init 16 = .ok (.anewarray 35, 3) := dk_189 0 35 (dk_at dksX0_init_0 16 rfl rfl)
theorem dX0_init_19 : decode cX0_init 19 = .ok (.putfield 37, 3) := dk_181 0 37 (dk_at dksX0_init_0 19 rfl rfl)
theorem dX0_init_22 : decode cX0_init 22 = .ok (.aload_n 0, 1) := dk_42 (dk_at dksX0_init_0 22 rfl rfl)
theorem dX0_init_23 : decode cX0_init 23 = .ok (.iconst (-1), 1) := dk_2 (dk_at dksX0_init_0 23 rfl rfl)
theorem dX0_init_24 : decode cX0_init 24 = .ok (.putfield 41, 3) := dk_181 0 41 (dk_at dksX0_init_1 0 rfl rfl)
theorem dX0_init_27 : decode cX0_init 27 = .ok (.aload_n 0, 1) := dk_42 (dk_at dksX0_init_1 3 rfl rfl)
theorem dX0_init_28 : decode cX0_init 28 = .ok (.bipush 6, 2) := dk_16 6 (dk_at dksX0_init_1 4 rfl rfl)
theorem dX0_init_30 : decode cX0_init 30 = .ok (.anewarray 45, 3) := dk_189 0 45 (dk_at dksX0_init_1 6 rfl rfl)
theorem dX0_init_33 : decode cX0_init 33 = .ok (.putfield 47, 3) := dk_181 0 47 (dk_at dksX0_init_1 9 rfl rfl)
theorem dX0_init_36 : decode cX0_init 36 = .ok (.aload_n 0, 1) := dk_42 (dk_at dksX0_init_1 12 rfl rfl)
theorem dX0_init_37 : decode cX0_init 37 = .ok (.new 45, 3) := dk_187 0 45 (dk_at dksX0_init_1 13 rfl rfl)
theorem dX0_init_40 : decode cX0_init 40 = .ok (.dup, 1) := dk_89 (dk_at dksX0_init_1 16 rfl rfl)
theorem dX0_init_41 : decode cX0_init 41 = .ok (.iconst 1, 1) := dk_4 (dk_at dksX0_init_1 17 rfl rfl)
theorem dX0_init_42 : decode cX0_init 42 = .ok (.invokespecial 51, 3) := dk_183 0 51 (dk_at dksX0_init_1 18 rfl rfl)
theorem dX0_init_45 : decode cX0_init 45 = .ok (.putfield 52, 3) := dk_181 0 52 (dk_at dksX0_init_1 21 rfl rfl)
theorem dX0_init_48 : decode cX0_init 48 = .ok (.aload_n 0, 1) := dk_42 (dk_at dksX0_init_2 0 rfl rfl)
theorem dX0_init_49 : decode cX0_init 49 = .ok (.bipush 24, 2) := dk_16 24 (dk_at dksX0_init_2 1 rfl rfl)
theorem dX0_init_51 : decode cX0_init 51 = .ok (.anewarray 56, 3) := dk_189 0 56 (dk_at dksX0_init_2 3 rfl rfl)
theorem dX0_init_54 : decode cX0_init 54 = .ok (.putfield 58, 3) := dk_181 0 58 (dk_at dksX0_init_2 6 rfl rfl)
theorem dX0_init_57 : decode cX0_init 57 = .ok (.aload_n 0, 1) := dk_42 (dk_at dksX0_init_2 9 rfl rfl)
theorem dX0_init_58 : decode cX0_init 58 = .ok (.bipush 24, 2) := dk_16 24 (dk_at dksX0_init_2 10 rfl rfl)
theorem dX0_init_60 : decode cX0_init 60 = .ok (.anewarray 56, 3) := dk_189 0 56 (dk_at dksX0_init_2 12 rfl rfl)
theorem dX0_init_63 : decode cX0_init 63 = .ok (.putfield 62, 3) := dk_181 0 62 (dk_at dksX0_init_2 15 rfl rfl)
theorem dX0_init_66 : decode cX0_init 66 = .ok (.aload_n 0, 1) := dk_42 (dk_at dksX0_init_2 18 rfl rfl)
theorem dX0_init_67 : decode cX0_init 67 = .ok (.bipush 24, 2) := dk_16 24 (dk_at dksX0_init_2 19 rfl rfl)
theorem dX0_init_69 : decode cX0_init 69 = .ok (.newarray .int, 2) := dk_188_10 (dk_at dksX0_init_2 21 rfl rfl)
theorem dX0_init_71 : decode cX0_init 71 = .ok (.putfield 65, 3) := dk_181 0 65 (dk_at dksX0_init_3 0 rfl rfl)
theorem dX0_init_74 : decode cX0_init 74 = .ok (.aload_n 0, 1) := dk_42 (dk_at dksX0_init_3 3 rfl rfl)
theorem dX0_init_75 : decode cX0_init 75 = .ok (.bipush 24, 2) := dk_16 24 (dk_at dksX0_init_3 4 rfl rfl)
theorem dX0_init_77 : decode cX0_init 77 = .ok (.newarray .int, 2) := dk_188_10 (dk_at dksX0_init_3 6 rfl rfl)
theorem dX0_init_79 : decode cX0_init 79 = .ok (.putfield 69, 3) := dk_181 0 69 (dk_at dksX0_init_3 8 rfl rfl)
theorem dX0_init_82 : decode cX0_init 82 = .ok (.aload_n 0, 1) := dk_42 (dk_at dksX0_init_3 11 rfl rfl)
theorem dX0_init_83 : decode cX0_init 83 = .ok (.bipush 6, 2) := dk_16 6 (dk_at dksX0_init_3 12 rfl rfl)
theorem dX0_init_85 : decode cX0_init 85 = .ok (.newarray .int, 2) := dk_188_10 (dk_at dksX0_init_3 14 rfl rfl)
theorem dX0_init_87 : decode cX0_init 87 = .ok (.putfield 72, 3) := dk_181 0 72 (dk_at dksX0_init_3 16 rfl rfl)
theorem dX0_init_90 : decode cX0_init 90 = .ok (.aload_n 0, 1) := dk_42 (dk_at dksX0_init_3 19 rfl rfl)
theorem dX0_init_91 : decode cX0_init 91 = .ok (.new 56, 3) := dk_187 0 56 (dk_at dksX0_init_3 20 rfl rfl)
theorem dX0_init_94 : decode cX0_init 94 = .ok (.dup, 1) := dk_89 (dk_at dksX0_init_3 23 rfl rfl)
theorem dX0_init_95 : decode cX0_init 95 = .ok (.bipush 24, 2) := dk_16 24 (dk_at dksX0_init_4 0 rfl rfl)
theorem dX0_init_97 : decode cX0_init 97 = .ok (.invokespecial 75, 3) := dk_183 0 75 (dk_at dksX0_init_4 2 rfl rfl)
theorem dX0_init_100 : decode cX0_init 100 = .ok (.putfield 76, 3) := dk_181 0 76 (dk_at dksX0_init_4 5 rfl rfl)
theorem dX0_init_103 : decode cX0_init 103 = .ok (.aload_n 0, 1) := dk_42 (dk_at dksX0_init_4 8 rfl rfl)
theorem dX0_init_104 : decode cX0_init 104 = .ok (.bipush 30, 2) := dk_16 30 (dk_at dksX0_init_4 9 rfl rfl)
theorem dX0_init_106 : decode cX0_init 106 = .ok (.newarray .int, 2) := dk_188_10 (dk_at dksX0_init_4 11 rfl rfl)
theorem dX0_init_108 : decode cX0_init 108 = .ok (.putfield 80, 3) := dk_181 0 80 (dk_at dksX0_init_4 13 rfl rfl)
theorem dX0_init_111 : decode cX0_init 111 = .ok (.aload_n 0, 1) := dk_42 (dk_at dksX0_init_4 16 rfl rfl)
theorem dX0_init_112 : decode cX0_init 112 = .ok (.new 83, 3) := dk_187 0 83 (dk_at dksX0_init_4 17 rfl rfl)
theorem dX0_init_115 : decode cX0_init 115 = .ok (.dup, 1) := dk_89 (dk_at dksX0_init_4 20 rfl rfl)
theorem dX0_init_116 : decode cX0_init 116 = .ok (.bipush 32, 2) := dk_16 32 (dk_at dksX0_init_4 21 rfl rfl)
theorem dX0_init_118 : decode cX0_init 118 = .ok (.invokespecial 85, 3) := dk_183 0 85 (dk_at dksX0_init_5 0 rfl rfl)
theorem dX0_init_121 : decode cX0_init 121 = .ok (.putfield 86, 3) := dk_181 0 86 (dk_at dksX0_init_5 3 rfl rfl)
theorem dX0_init_124 : decode cX0_init 124 = .ok (.aload_n 0, 1) := dk_42 (dk_at dksX0_init_5 6 rfl rfl)
theorem dX0_init_125 : decode cX0_init 125 = .ok (.bipush 96, 2) := dk_16 96 (dk_at dksX0_init_5 7 rfl rfl)
theorem dX0_init_127 : decode cX0_init 127 = .ok (.newarray .byte, 2) := dk_188_8 (dk_at dksX0_init_5 9 rfl rfl)
theorem dX0_init_129 : decode cX0_init 129 = .ok (.putfield 90, 3) := dk_181 0 90 (dk_at dksX0_init_5 11 rfl rfl)
theorem dX0_init_132 : decode cX0_init 132 = .ok (.aload_n 0, 1) := dk_42 (dk_at dksX0_init_5 14 rfl rfl)
theorem dX0_init_133 : decode cX0_init 133 = .ok (.bipush 8, 2) := dk_16 8 (dk_at dksX0_init_5 15 rfl rfl)
theorem dX0_init_135 : decode cX0_init 135 = .ok (.newarray .double, 2) := dk_188_7 (dk_at dksX0_init_5 17 rfl rfl)
theorem dX0_init_137 : decode cX0_init 137 = .ok (.putfield 94, 3) := dk_181 0 94 (dk_at dksX0_init_5 19 rfl rfl)
theorem dX0_init_140 : decode cX0_init 140 = .ok (.aload_n 0, 1) := dk_42 (dk_at dksX0_init_5 22 rfl rfl)
theorem dX0_init_141 : decode cX0_init 141 = .ok (.bipush 8, 2) := dk_16 8 (dk_at dksX0_init_6 0 rfl rfl)
theorem dX0_init_143 : decode cX0_init 143 = .ok (.newarray .byte, 2) := dk_188_8 (dk_at dksX0_init_6 2 rfl rfl)
theorem dX0_init_145 : decode cX0_init 145 = .ok (.putfield 98, 3) := dk_181 0 98 (dk_at dksX0_init_6 4 rfl rfl)
theorem dX0_init_148 : decode cX0_init 148 = .ok (.aload_n 0, 1) := dk_42 (dk_at dksX0_init_6 7 rfl rfl)
theorem dX0_init_149 : decode cX0_init 149 = .ok (.bipush 24, 2) := dk_16 24 (dk_at dksX0_init_6 8 rfl rfl)
theorem dX0_init_151 : decode cX0_init 151 = .ok (.newarray .double, 2) := dk_188_7 (dk_at dksX0_init_6 10 rfl rfl)
theorem dX0_init_153 : decode cX0_init 153 = .ok (.putfield 101, 3) := dk_181 0 101 (dk_at dksX0_init_6 12 rfl rfl)
theorem dX0_init_156 : decode cX0_init 156 = .ok (.aload_n 0, 1) := dk_42 (dk_at dksX0_init_6 15 rfl rfl)
theorem dX0_init_157 : decode cX0_init 157 = .ok (.bipush 24, 2) := dk_16 24 (dk_at dksX0_init_6 16 rfl rfl)
theorem dX0_init_159 : decode cX0_init 159 = .ok (.newarray .int, 2) := dk_188_10 (dk_at dksX0_init_6 18 rfl rfl)
theorem dX0_init_161 : decode cX0_init 161 = .ok (.putfield 104, 3) := dk_181 0 104 (dk_at dksX0_init_6 20 rfl rfl)
theorem dX0_init_164 : decode cX0_init 164 = .ok (.aload_n 0, 1) := dk_42 (dk_at dksX0_init_6 23 rfl rfl)
theorem dX0_init_165 : decode cX0_init 165 = .ok (.bipush 24, 2) := dk_16 24 (dk_at dksX0_init_7 0 rfl rfl)
theorem dX0_init_167 : decode cX0_init 167 = .ok (.newarray .double, 2) := dk_188_7 (dk_at dksX0_init_7 2 rfl rfl)
theorem dX0_init_169 : decode cX0_init 169 = .ok (.putfield 107, 3) := dk_181 0 107 (dk_at dksX0_init_7 4 rfl rfl)
theorem dX0_init_172 : decode cX0_init 172 = .ok (.aload_n 0, 1) := dk_42 (dk_at dksX0_init_7 7 rfl rfl)
theorem dX0_init_173 : decode cX0_init 173 = .ok (.bipush 24, 2) := dk_16 24 (dk_at dksX0_init_7 8 rfl rfl)
theorem dX0_init_175 : decode cX0_init 175 = .ok (.anewarray 110, 3) := dk_189 0 110 (dk_at dksX0_init_7 10 rfl rfl)
theorem dX0_init_178 : decode cX0_init 178 = .ok (.putfield 112, 3) := dk_181 0 112 (dk_at dksX0_init_7 13 rfl rfl)
theorem dX0_init_181 : decode cX0_init 181 = .ok (.aload_n 0, 1) := dk_42 (dk_at dksX0_init_7 16 rfl rfl)
theorem dX0_init_182 : decode cX0_init 182 = .ok (.bipush 6, 2) := dk_16 6 (dk_at dksX0_init_7 17 rfl rfl)
theorem dX0_init_184 : decode cX0_init 184 = .ok (.anewarray 35, 3) := dk_189 0 35 (dk_at dksX0_init_7 19 rfl rfl)
theorem dX0_init_187 : decode cX0_init 187 = .ok (.putfield 116, 3) := dk_181 0 116 (dk_at dksX0_init_8 0 rfl rfl)
theorem dX0_init_190 : decode cX0_init 190 = .ok (.aload_n 0, 1) := dk_42 (dk_at dksX0_init_8 3 rfl rfl)
theorem dX0_init_191 : decode cX0_init 191 = .ok (.iconst 4, 1) := dk_7 (dk_at dksX0_init_8 4 rfl rfl)
theorem dX0_init_192 : decode cX0_init 192 = .ok (.anewarray 119, 3) := dk_189 0 119 (dk_at dksX0_init_8 5 rfl rfl)
theorem dX0_init_195 : decode cX0_init 195 = .ok (.putfield 121, 3) := dk_181 0 121 (dk_at dksX0_init_8 8 rfl rfl)
theorem dX0_init_198 : decode cX0_init 198 = .ok (.iconst 0, 1) := dk_3 (dk_at dksX0_init_8 11 rfl rfl)
theorem dX0_init_199 : decode cX0_init 199 = .ok (.istore_n 1, 1) := dk_60 (dk_at dksX0_init_8 12 rfl rfl)
theorem dX0_init_200 : decode cX0_init 200 = .ok (.iload_n 1, 1) := dk_27 (dk_at dksX0_init_8 13 rfl rfl)
theorem dX0_init_201 : decode cX0_init 201 = .ok (.bipush 24, 2) := dk_16 24 (dk_at dksX0_init_8 14 rfl rfl)
theorem dX0_init_203 : decode cX0_init 203 = .ok (.if_icmp .ge 53, 3) := dk_162 0 53 (dk_at dksX0_init_8 16 rfl rfl)
theorem dX0_init_206 : decode cX0_init 206 = .ok (.aload_n 0, 1) := dk_42 (dk_at dksX0_init_8 19 rfl rfl)
theorem dX0_init_207 : decode cX0_init 207 = .ok (.getfield 31, 3) := dk_180 0 31 (dk_at dksX0_init_8 20 rfl rfl)
theorem dX0_init_210 : decode cX0_init 210 = .ok (.iload_n 1, 1) := dk_27 (dk_at dksX0_init_8 23 rfl rfl)
theorem dX0_init_211 : decode cX0_init 211 = .ok (.new 3, 3) := dk_187 0 3 (dk_at dksX0_init_9 0 rfl rfl)
theorem dX0_init_214 : decode cX0_init 214 = .ok (.dup, 1) := dk_89 (dk_at dksX0_init_9 3 rfl rfl)
theorem dX0_init_215 : decode cX0_init 215 = .ok (.iload_n 1, 1) := dk_27 (dk_at dksX0_init_9 4 rfl rfl)
theorem dX0_init_216 : decode cX0_init 216 = .ok (.invokespecial 5, 3) := dk_183 0 5 (dk_at dksX0_init_9 5 rfl rfl)
theorem dX0_init_219 : decode cX0_init 219 = .ok (.aastore, 1) := dk_83 (dk_at dksX0_init_9 8 rfl rfl)
theorem dX0_init_220 : decode cX0_init 220 = .ok (.aload_n 0, 1) := dk_42 (dk_at dksX0_init_9 9 rfl rfl)
theorem dX0_init_221 : decode cX0_init 221 = .ok (.getfield 58, 3) := dk_180 0 58 (dk_at dksX0_init_9 10 rfl rfl)
theorem dX0_init_224 : decode cX0_init 224 = .ok (.iload_n 1, 1) := dk_27 (dk_at dksX0_init_9 13 rfl rfl)
theorem dX0_init_225 : decode cX0_init 225 = .ok (.new 56, 3) := dk_187 0 56 (dk_at dksX0_init_9 14 rfl rfl)
theorem dX0_init_228 : decode cX0_init 228 = .ok (.dup, 1) := dk_89 (dk_at dksX0_init_9 17 rfl rfl)
theorem dX0_init_229 : decode cX0_init 229 = .ok (.bipush 24, 2) := dk_16 24 (dk_at dksX0_init_9 18 rfl rfl)
theorem dX0_init_231 : decode cX0_init 231 = .ok (.invokespecial 75, 3) := dk_183 0 75 (dk_at dksX0_init_9 20 rfl rfl)
theorem dX0_init_234 : decode cX0_init 234 = .ok (.aastore, 1) := dk_83 (dk_at dksX0_init_9 23 rfl rfl)
theorem dX0_init_235 : decode cX0_init 235 = .ok (.aload_n 0, 1) := dk_42 (dk_at dksX0_init_10 0 rfl rfl)
theorem dX0_init_236 : decode cX0_init 236 = .ok (.getfield 62, 3) := dk_180 0 62 (dk_at dksX0_init_10 1 rfl rfl)
theorem dX0_init_239 : decode cX0_init 239 = .ok (.iload_n 1, 1) := dk_27 (dk_at dksX0_init_10 4 rfl rfl)
theorem dX0_init_240 : decode cX0_init 240 = .ok (.new 56, 3) := dk_187 0 56 (dk_at dksX0_init_10 5 rfl rfl)
theorem dX0_init_243 : decode cX0_init 243 = .ok (.dup, 1) := dk_89 (dk_at dksX0_init_10 8 rfl rfl)
theorem dX0_init_244 : decode cX0_init 244 = .ok (.bipush 24, 2) := dk_16 24 (dk_at dksX0_init_10 9 rfl rfl)
theorem dX0_init_246 : decode cX0_init 246 = .ok (.invokespecial 75, 3) := dk_183 0 75 (dk_at dksX0_init_10 11 rfl rfl)
theorem dX0_init_249 : decode cX0_init 249 = .ok (.aastore, 1) := dk_83 (dk_at dksX0_init_10 14 rfl rfl)
theorem dX0_init_250 : decode cX0_init 250 = .ok (.iinc 1 1, 3) := dk_132 1 1 (dk_at dksX0_init_10 15 rfl rfl)
theorem dX0_init_253 : decode cX0_init 253 = .ok (.goto (-53), 3) := dk_167 255 203 (dk_at dksX0_init_10 18 rfl rfl)
theorem dX0_init_256 : decode cX0_init 256 = .ok (.iconst 0, 1) := dk_3 (dk_at dksX0_init_10 21 rfl rfl)
theorem dX0_init_257 : decode cX0_init 257 = .ok (.istore_n 1, 1) := dk_60 (dk_at dksX0_init_10 22 rfl rfl)
theorem dX0_init_258 : decode cX0_init 258 = .ok (.iload_n 1, 1) := dk_27 (dk_at dksX0_init_10 23 rfl rfl)
theorem dX0_init_259 : decode cX0_init 259 = .ok (.bipush 6, 2) := dk_16 6 (dk_at dksX0_init_11 0 rfl rfl)
theorem dX0_init_261 : decode cX0_init 261 = .ok (.if_icmp .ge 24, 3) := dk_162 0 24 (dk_at dksX0_init_11 2 rfl rfl)
theorem dX0_init_264 : decode cX0_init 264 = .ok (.aload_n 0, 1) := dk_42 (dk_at dksX0_init_11 5 rfl rfl)
theorem dX0_init_265 : decode cX0_init 265 = .ok (.getfield 47, 3) := dk_180 0 47 (dk_at dksX0_init_11 6 rfl rfl)
theorem dX0_init_268 : decode cX0_init 268 = .ok (.iload_n 1, 1) := dk_27 (dk_at dksX0_init_11 9 rfl rfl)
theorem dX0_init_269 : decode cX0_init 269 = .ok (.new 45, 3) := dk_187 0 45 (dk_at dksX0_init_11 10 rfl rfl)
theorem dX0_init_272 : decode cX0_init 272 = .ok (.dup, 1) := dk_89 (dk_at dksX0_init_11 13 rfl rfl)
theorem dX0_init_273 : decode cX0_init 273 = .ok (.bipush 64, 2) := dk_16 64 (dk_at dksX0_init_11 14 rfl rfl)
theorem dX0_init_275 : decode cX0_init 275 = .ok (.invokespecial 51, 3) := dk_183 0 51 (dk_at dksX0_init_11 16 rfl rfl)
theorem dX0_init_278 : decode cX0_init 278 = .ok (.aastore, 1) := dk_83 (dk_at dksX0_init_11 19 rfl rfl)
theorem dX0_init_279 : decode cX0_init 279 = .ok (.iinc 1 1, 3) := dk_132 1 1 (dk_at dksX0_init_11 20 rfl rfl)
theorem dX0_init_282 : decode cX0_init 282 = .ok (.goto (-24), 3) := dk_167 255 232 (dk_at dksX0_init_12 0 rfl rfl)
theorem dX0_init_285 : decode cX0_init 285 = .ok (.iconst 0, 1) := dk_3 (dk_at dksX0_init_12 3 rfl rfl)
theorem dX0_init_286 : decode cX0_init 286 = .ok (.istore_n 1, 1) := dk_60 (dk_at dksX0_init_12 4 rfl rfl)
theorem dX0_init_287 : decode cX0_init 287 = .ok (.iload_n 1, 1) := dk_27 (dk_at dksX0_init_12 5 rfl rfl)
theorem dX0_init_288 : decode cX0_init 288 = .ok (.iconst 4, 1) := dk_7 (dk_at dksX0_init_12 6 rfl rfl)
theorem dX0_init_289 : decode cX0_init 289 = .ok (.if_icmp .ge 22, 3) := dk_162 0 22 (dk_at dksX0_init_12 7 rfl rfl)
theorem dX0_init_292 : decode cX0_init 292 = .ok (.aload_n 0, 1) := dk_42 (dk_at dksX0_init_12 10 rfl rfl)
theorem dX0_init_293 : decode cX0_init 293 = .ok (.getfield 121, 3) := dk_180 0 121 (dk_at dksX0_init_12 11 rfl rfl)
theorem dX0_init_296 : decode cX0_init 296 = .ok (.iload_n 1, 1) := dk_27 (dk_at dksX0_init_12 14 rfl rfl)
theorem dX0_init_297 : decode cX0_init 297 = .ok (.new 119, 3) := dk_187 0 119 (dk_at dksX0_init_12 15 rfl rfl)
theorem dX0_init_300 : decode cX0_init 300 = .ok (.dup, 1) := dk_89 (dk_at dksX0_init_12 18 rfl rfl)
theorem dX0_init_301 : decode cX0_init 301 = .ok (.invokespecial 125, 3) := dk_183 0 125 (dk_at dksX0_init_12 19 rfl rfl)
theorem dX0_init_304 : decode cX0_init 304 = .ok (.aastore, 1) := dk_83 (dk_at dksX0_init_12 22 rfl rfl)
theorem dX0_init_305 : decode cX0_init 305 = .ok (.iinc 1 1, 3) := dk_132 1 1 (dk_at dksX0_init_13 0 rfl rfl)
theorem dX0_init_308 : decode cX0_init 308 = .ok (.goto (-21), 3) := dk_167 255 235 (dk_at dksX0_init_13 3 rfl rfl)
theorem dX0_init_311 : decode cX0_init 311 = .ok (.aload_n 0, 1) := dk_42 (dk_at dksX0_init_13 6 rfl rfl)
theorem dX0_init_312 : decode cX0_init 312 = .ok (.invokevirtual 126, 3) := dk_182 0 126 (dk_at dksX0_init_13 7 rfl rfl)
theorem dX0_init_315 : decode cX0_init 315 = .ok (.pop, 1) := dk_87 (dk_at dksX0_init_13 10 rfl rfl)
theorem dX0_init_316 : decode cX0_init 316 = .ok (.return_, 1) := dk_177 (dk_at dksX0_init_13 11 rfl rfl)
abbrev cX0_orders : ByteArray := prog_1_method_24_code
def yX0_orders : MethodName := ⟨RX0, "orders", "()I"⟩
def dkwX0_orders_0 : List UInt8 := [42, 3, 182, 1, 118, 42, 4, 182, 1, 118, 4, 172, 76, 43, 180, 1, 122, 172]
abbrev dktX0_orders_0 : List UInt8 := dkwX0_orders_0 ++ []
theorem dksX0_orders_0 : cX0_orders.data.toList.drop 0 = dktX0_orders_0 := by decide +kernel
theorem dX0_orders_0 : decode cX0_orders 0 = .ok (.aload_n 0, 1) := dk_42 (dk_at dksX0_orders_0 0 rfl rfl)
theorem dX0_orders_1 : decode cX0_orders 1 = .ok (.iconst 0, 1) := dk_3 (dk_at dksX0_orders_0 1 rfl rfl)
theorem dX0_orders_2 : decode cX0_orders 2 = .ok (.invokevirtual 374, 3) := dk_182 1 118 (dk_at dksX0_orders_0 2 rfl rfl)
theorem dX0_orders_5 : decode cX0_orders 5 = .ok (.aload_n 0, 1) := dk_42 (dk_at dksX0_orders_0 5 rfl rfl)
theorem dX0_orders_6 : decode cX0_orders 6 = .ok (.iconst 1, 1) := dk_4 (dk_at dksX0_orders_0 6 rfl rfl)
theorem dX0_orders_7 : decode cX0_orders 7 = .ok (.invokevirtual 374, 3) := dk_182 1 118 (dk_at dksX0_orders_0 7 rfl rfl)
theorem dX0_orders_10 : decode cX0_orders 10 = .ok (.iconst 1, 1) := dk_4 (dk_at dksX0_orders_0 10 rfl rfl)
theorem dX0_orders_11 : decode cX0_orders 11 = .ok (.ireturn, 1) := dk_172 (dk_at dksX0_orders_0 11 rfl rfl)
theorem dX0_orders_12 : decode cX0_orders 12 = .ok (.astore_n 1, 1) := dk_76 (dk_at dksX0_orders_0 12 rfl rfl)
theorem dX0_orders_13 : decode cX0_orders 13 = .ok (.aload_n 1, 1) := dk_43 (dk_at dksX0_orders_0 13 rfl rfl)
theorem dX0_orders_14 : decode cX0_orders 14 = .ok (.getfield 378, 3) := dk_180 1 122 (dk_at dksX0_orders_0 14 rfl rfl)
theorem dX0_orders_17 : decode cX0_orders 17 = .ok (.ireturn, 1) := dk_172 (dk_at dksX0_orders_0 17 rfl rfl)
abbrev cX0_goesThrough : ByteArray := prog_1_method_20_code
def yX0_goesThrough : MethodName := ⟨RX0, "goesThrough", "(Z)V"⟩
def dkwX0_goesThrough_5 : List UInt8 := [167, 255, 167, 28, 16, 30, 162, 0, 13, 187, 1, 77, 89, 16, 251, 183, 1, 79, 191, 177]
abbrev dktX0_goesThrough_5 : List UInt8 := dkwX0_goesThrough_5 ++ []
def dkwX0_goesThrough_4 : List UInt8 := [100, 91, 79, 154, 0, 15, 42, 180, 0, 86, 21, 4, 184, 1, 50, 182, 1, 56, 132, 4, 1, 167, 255, 209]
abbrev dktX0_goesThrough_4 : List UInt8 := dkwX0_goesThrough_4 ++ dktX0_goesThrough_5
def dkwX0_goesThrough_3 : List UInt8 := [16, 30, 162, 0, 46, 42, 21, 4, 29, 182, 1, 47, 153, 0, 30, 42, 180, 0, 80, 21, 4, 92, 46, 4]
abbrev dktX0_goesThrough_3 : List UInt8 := dkwX0_goesThrough_3 ++ dktX0_goesThrough_4
def dkwX0_goesThrough_2 : List UInt8 := [192, 1, 51, 182, 1, 71, 62, 132, 2, 1, 27, 153, 0, 8, 42, 29, 182, 1, 74, 3, 54, 4, 21, 4]
abbrev dktX0_goesThrough_2 : List UInt8 := dkwX0_goesThrough_2 ++ dktX0_goesThrough_3
def dkwX0_goesThrough_1 : List UInt8 := [167, 255, 242, 3, 61, 42, 180, 0, 86, 182, 1, 66, 154, 0, 85, 42, 180, 0, 86, 182, 1, 67]
abbrev dktX0_goesThrough_1 : List UInt8 := dkwX0_goesThrough_1 ++ dktX0_goesThrough_2
def dkwX0_goesThrough_0 : List UInt8 := [42, 180, 0, 86, 182, 1, 60, 3, 61, 28, 16, 30, 162, 0, 14, 42, 28, 182, 1, 63, 132, 2, 1]
abbrev dktX0_goesThrough_0 : List UInt8 := dkwX0_goesThrough_0 ++ dktX0_goesThrough_1
theorem dksX0_goesThrough_0 : cX0_goesThrough.data.toList.drop 0 = dktX0_goesThrough_0 := by decide +kernel
theorem dksX0_goesThrough_1 : cX0_goesThrough.data.toList.drop 23 = dktX0_goesThrough_1 := dk_seg dksX0_goesThrough_0 23 rfl rfl
theorem dksX0_goesThrough_2 : cX0_goesThrough.data.toList.drop 45 = dktX0_goesThrough_2 := dk_seg dksX0_goesThrough_1 22 rfl rfl
theorem dksX0_goesThrough_3 : cX0_goesThrough.data.toList.drop 69 = dktX0_goesThrough_3 := dk_seg dksX0_goesThrough_2 24 rfl rfl
theorem dksX0_goesThrough_4 : cX0_goesThrough.data.toList.drop 93 = dktX0_goesThrough_4 := dk_seg dksX0_goesThrough_3 24 rfl rfl
theorem dksX0_goesThrough_5 : cX0_goesThrough.data.toList.drop 117 = dktX0_goesThrough_5 := dk_seg dksX0_goesThrough_4 24 rfl rfl
theorem dX0_goesThrough_0 : decode cX0_goesThrough 0 = .ok (.aload_n 0, 1) := dk_42 (dk_at dksX0_goesThrough_0 0 rfl rfl)
theorem dX0_goesThrough_1 : decode cX0_goesThrough 1 = .ok (.getfield 86, 3) := dk_180 0 86 (dk_at dksX0_goesThrough_0 1 rfl rfl)
theorem dX0_goesThrough_4 : decode cX0_goesThrough 4 = .ok (.invokevirtual 316, 3) := dk_182 1 60 (dk_at dksX0_goesThrough_0 4 rfl rfl)
theorem dX0_goesThrough_7 : decode cX0_goesThrough 7 = .ok (.iconst 0, 1) := dk_3 (dk_at dksX0_goesThrough_0 7 rfl rfl)
theorem dX0_goesThrough_8 : decode cX0_goesThrough 8 = .ok (.istore_n 2, 1) := dk_61 (dk_at dksX0_goesThrough_0 8 rfl rfl)
theorem dX0_goesThrough_9 : decode cX0_goesThrough 9 = .ok (.iload_n 2, 1) := dk_28 (dk_at dksX0_goesThrough_0 9 rfl rfl)
theorem dX0_goesThrough_10 : decode cX0_goesThrough 10 = .ok (.bipush 30, 2) := dk_16 30 (dk_at dksX0_goesThrough_0 10 rfl rfl)
theorem dX0_goesThrough_12 : decode cX0_goesThrough 12 = .ok (.if_icmp .ge 14, 3) := dk_162 0 14 (dk_at dksX0_goesThrough_0 12 rfl rfl)
theorem dX0_goesThrough_15 : decode cX0_goesThrough 15 = .ok (.aload_n 0, 1) := dk_42 (dk_at dksX0_goesThrough_0 15 rfl rfl)
theorem dX0_goesThrough_16 : decode cX0_goesThrough 16 = .ok (.iload_n 2, 1) := dk_28 (dk_at dksX0_goesThrough_0 16 rfl rfl)
theorem dX0_goesThrough_17 : decode cX0_goesThrough 17 = .ok (.invokevirtual 319, 3) := dk_182 1 63 (dk_at dksX0_goesThrough_0 17 rfl rfl)
theorem dX0_goesThrough_20 : decode cX0_goesThrough 20 = .ok (.iinc 2 1, 3) := dk_132 2 1 (dk_at dksX0_goesThrough_0 20 rfl rfl)
theorem dX0_goesThrough_23 : decode cX0_goesThrough 23 = .ok (.goto (-14), 3) := dk_167 255 242 (dk_at dksX0_goesThrough_1 0 rfl rfl)
theorem dX0_goesThrough_26 : decode cX0_goesThrough 26 = .ok (.iconst 0, 1) := dk_3 (dk_at dksX0_goesThrough_1 3 rfl rfl)
theorem dX0_goesThrough_27 : decode cX0_goesThrough 27 = .ok (.istore_n 2, 1) := dk_61 (dk_at dksX0_goesThrough_1 4 rfl rfl)
theorem dX0_goesThrough_28 : decode cX0_goesThrough 28 = .ok (.aload_n 0, 1) := dk_42 (dk_at dksX0_goesThrough_1 5 rfl rfl)
theorem dX0_goesThrough_29 : decode cX0_goesThrough 29 = .ok (.getfield 86, 3) := dk_180 0 86 (dk_at dksX0_goesThrough_1 6 rfl rfl)
theorem dX0_goesThrough_32 : decode cX0_goesThrough 32 = .ok (.invokevirtual 322, 3) := dk_182 1 66 (dk_at dksX0_goesThrough_1 9 rfl rfl)
theorem dX0_goesThrough_35 : decode cX0_goesThrough 35 = .ok (.ifCond .ne 85, 3) := dk_154 0 85 (dk_at dksX0_goesThrough_1 12 rfl rfl)
theorem dX0_goesThrough_38 : decode cX0_goesThrough 38 = .ok (.aload_n 0, 1) := dk_42 (dk_at dksX0_goesThrough_1 15 rfl rfl)
theorem dX0_goesThrough_39 : decode cX0_goesThrough 39 = .ok (.getfield 86, 3) := dk_180 0 86 (dk_at dksX0_goesThrough_1 16 rfl rfl)
theorem dX0_goesThrough_42 : decode cX0_goesThrough 42 = .ok (.invokevirtual 323, 3) := dk_182 1 67 (dk_at dksX0_goesThrough_1 19 rfl rfl)
theorem dX0_goesThrough_45 : decode cX0_goesThrough 45 = .ok (.checkcast 307, 3) := dk_192 1 51 (dk_at dksX0_goesThrough_2 0 rfl rfl)
theorem dX0_goesThrough_48 : decode cX0_goesThrough 48 = .ok (.invokevirtual 327, 3) := dk_182 1 71 (dk_at dksX0_goesThrough_2 3 rfl rfl)
theorem dX0_goesThrough_51 : decode cX0_goesThrough 51 = .ok (.istore_n 3, 1) := dk_62 (dk_at dksX0_goesThrough_2 6 rfl rfl)
theorem dX0_goesThrough_52 : decode cX0_goesThrough 52 = .ok (.iinc 2 1, 3) := dk_132 2 1 (dk_at dksX0_goesThrough_2 7 rfl rfl)
theorem dX0_goesThrough_55 : decode cX0_goesThrough 55 = .ok (.iload_n 1, 1) := dk_27 (dk_at dksX0_goesThrough_2 10 rfl rfl)
theorem dX0_goesThrough_56 : decode cX0_goesThrough 56 = .ok (.ifCond .eq 8, 3) := dk_153 0 8 (dk_at dksX0_goesThrough_2 11 rfl rfl)
theorem dX0_goesThrough_59 : decode cX0_goesThrough 59 = .ok (.aload_n 0, 1) := dk_42 (dk_at dksX0_goesThrough_2 14 rfl rfl)
theorem dX0_goesThrough_60 : decode cX0_goesThrough 60 = .ok (.iload_n 3, 1) := dk_29 (dk_at dksX0_goesThrough_2 15 rfl rfl)
theorem dX0_goesThrough_61 : decode cX0_goesThrough 61 = .ok (.invokevirtual 330, 3) := dk_182 1 74 (dk_at dksX0_goesThrough_2 16 rfl rfl)
theorem dX0_goesThrough_64 : decode cX0_goesThrough 64 = .ok (.iconst 0, 1) := dk_3 (dk_at dksX0_goesThrough_2 19 rfl rfl)
theorem dX0_goesThrough_65 : decode cX0_goesThrough 65 = .ok (.istore 4, 2) := dk_54 4 (dk_at dksX0_goesThrough_2 20 rfl rfl)
theorem dX0_goesThrough_67 : decode cX0_goesThrough 67 = .ok (.iload 4, 2) := dk_21 4 (dk_at dksX0_goesThrough_2 22 rfl rfl)
theorem dX0_goesThrough_69 : decode cX0_goesThrough 69 = .ok (.bipush 30, 2) := dk_16 30 (dk_at dksX0_goesThrough_3 0 rfl rfl)
theorem dX0_goesThrough_71 : decode cX0_goesThrough 71 = .ok (.if_icmp .ge 46, 3) := dk_162 0 46 (dk_at dksX0_goesThrough_3 2 rfl rfl)
theorem dX0_goesThrough_74 : decode cX0_goesThrough 74 = .ok (.aload_n 0, 1) := dk_42 (dk_at dksX0_goesThrough_3 5 rfl rfl)
theorem dX0_goesThrough_75 : decode cX0_goesThrough 75 = .ok (.iload 4, 2) := dk_21 4 (dk_at dksX0_goesThrough_3 6 rfl rfl)
theorem dX0_goesThrough_77 : decode cX0_goesThrough 77 = .ok (.iload_n 3, 1) := dk_29 (dk_at dksX0_goesThrough_3 8 rfl rfl)
theorem dX0_goesThrough_78 : decode cX0_goesThrough 78 = .ok (.invokevirtual 303, 3) := dk_182 1 47 (dk_at dksX0_goesThrough_3 9 rfl rfl)
theorem dX0_goesThrough_81 : decode cX0_goesThrough 81 = .ok (.ifCond .eq 30, 3) := dk_153 0 30 (dk_at dksX0_goesThrough_3 12 rfl rfl)
theorem dX0_goesThrough_84 : decode cX0_goesThrough 84 = .ok (.aload_n 0, 1) := dk_42 (dk_at dksX0_goesThrough_3 15 rfl rfl)
theorem dX0_goesThrough_85 : decode cX0_goesThrough 85 = .ok (.getfield 80, 3) := dk_180 0 80 (dk_at dksX0_goesThrough_3 16 rfl rfl)
theorem dX0_goesThrough_88 : decode cX0_goesThrough 88 = .ok (.iload 4, 2) := dk_21 4 (dk_at dksX0_goesThrough_3 19 rfl rfl)
theorem dX0_goesThrough_90 : decode cX0_goesThrough 90 = .ok (.dup2, 1) := dk_92 (dk_at dksX0_goesThrough_3 21 rfl rfl)
theorem dX0_goesThrough_91 : decode cX0_goesThrough 91 = .ok (.iaload, 1) := dk_46 (dk_at dksX0_goesThrough_3 22 rfl rfl)
theorem dX0_goesThrough_92 : decode cX0_goesThrough 92 = .ok (.iconst 1, 1) := dk_4 (dk_at dksX0_goesThrough_3 23 rfl rfl)
theorem dX0_goesThrough_93 : decode cX0_goesThrough 93 = .ok (.isub, 1) := dk_100 (dk_at dksX0_goesThrough_4 0 rfl rfl)
theorem dX0_goesThrough_94 : decode cX0_goesThrough 94 = .ok (.dup_x2, 1) := dk_91 (dk_at dksX0_goesThrough_4 1 rfl rfl)
theorem dX0_goesThrough_95 : decode cX0_goesThrough 95 = .ok (.iastore, 1) := dk_79 (dk_at dksX0_goesThrough_4 2 rfl rfl)
theorem dX0_goesThrough_96 : decode cX0_goesThrough 96 = .ok (.ifCond .ne 15, 3) := dk_154 0 15 (dk_at dksX0_goesThrough_4 3 rfl rfl)
theorem dX0_goesThrough_99 : decode cX0_goesThrough 99 = .ok (.aload_n 0, 1) := dk_42 (dk_at dksX0_goesThrough_4 6 rfl rfl)
theorem dX0_goesThrough_100 : decode cX0_goesThrough 100 = .ok (.getfield 86, 3) := dk_180 0 86 (dk_at dksX0_goesThrough_4 7 rfl rfl)
theorem dX0_goesThrough_103 : decode cX0_goesThrough 103 = .ok (.iload 4, 2) := dk_21 4 (dk_at dksX0_goesThrough_4 10 rfl rfl)
theorem dX0_goesThrough_105 : decode cX0_goesThrough 105 = .ok (.invokestatic 306, 3) := dk_184 1 50 (dk_at dksX0_goesThrough_4 12 rfl rfl)
theorem dX0_goesThrough_108 : decode cX0_goesThrough 108 = .ok (.invokevirtual 312, 3) := dk_182 1 56 (dk_at dksX0_goesThrough_4 15 rfl rfl)
theorem dX0_goesThrough_111 : decode cX0_goesThrough 111 = .ok (.iinc 4 1, 3) := dk_132 4 1 (dk_at dksX0_goesThrough_4 18 rfl rfl)
theorem dX0_goesThrough_114 : decode cX0_goesThrough 114 = .ok (.goto (-47), 3) := dk_167 255 209 (dk_at dksX0_goesThrough_4 21 rfl rfl)
theorem dX0_goesThrough_117 : decode cX0_goesThrough 117 = .ok (.goto (-89), 3) := dk_167 255 167 (dk_at dksX0_goesThrough_5 0 rfl rfl)
theorem dX0_goesThrough_120 : decode cX0_goesThrough 120 = .ok (.iload_n 2, 1) := dk_28 (dk_at dksX0_goesThrough_5 3 rfl rfl)
theorem dX0_goesThrough_121 : decode cX0_goesThrough 121 = .ok (.bipush 30, 2) := dk_16 30 (dk_at dksX0_goesThrough_5 4 rfl rfl)
theorem dX0_goesThrough_123 : decode cX0_goesThrough 123 = .ok (.if_icmp .ge 13, 3) := dk_162 0 13 (dk_at dksX0_goesThrough_5 6 rfl rfl)
theorem dX0_goesThrough_126 : decode cX0_goesThrough 126 = .ok (.new 333, 3) := dk_187 1 77 (dk_at dksX0_goesThrough_5 9 rfl rfl)
theorem dX0_goesThrough_129 : decode cX0_goesThrough 129 = .ok (.dup, 1) := dk_89 (dk_at dksX0_goesThrough_5 12 rfl rfl)
theorem dX0_goesThrough_130 : decode cX0_goesThrough 130 = .ok (.bipush (-5), 2) := dk_16 251 (dk_at dksX0_goesThrough_5 13 rfl rfl)
theorem dX0_goesThrough_132 : decode cX0_goesThrough 132 = .ok (.invokespecial 335, 3) := dk_183 1 79 (dk_at dksX0_goesThrough_5 15 rfl rfl)
theorem dX0_goesThrough_135 : decode cX0_goesThrough 135 = .ok (.athrow, 1) := dk_191 (dk_at dksX0_goesThrough_5 18 rfl rfl)
theorem dX0_goesThrough_136 : decode cX0_goesThrough 136 = .ok (.return_, 1) := dk_177 (dk_at dksX0_goesThrough_5 19 rfl rfl)
abbrev cX0_stands : ByteArray := prog_1_method_19_code
def yX0_stands : MethodName := ⟨RX0, "stands", "(I)V"⟩
def dkwX0_stands_2 : List UInt8 := [154, 0, 14, 42, 180, 0, 86, 27, 184, 1, 50, 182, 1, 56, 177]
abbrev dktX0_stands_2 : List UInt8 := dkwX0_stands_2 ++ []
def dkwX0_stands_1 : List UInt8 := [42, 180, 0, 80, 27, 92, 46, 4, 96, 79, 132, 2, 1, 167, 255, 228, 42, 180, 0, 80, 27, 46]
abbrev dktX0_stands_1 : List UInt8 := dkwX0_stands_1 ++ dktX0_stands_2
def dkwX0_stands_0 : List UInt8 := [42, 180, 0, 80, 27, 3, 79, 3, 61, 28, 16, 30, 162, 0, 28, 42, 27, 28, 182, 1, 47, 153, 0, 13]
abbrev dktX0_stands_0 : List UInt8 := dkwX0_stands_0 ++ dktX0_stands_1
theorem dksX0_stands_0 : cX0_stands.data.toList.drop 0 = dktX0_stands_0 := by decide +kernel
theorem dksX0_stands_1 : cX0_stands.data.toList.drop 24 = dktX0_stands_1 := dk_seg dksX0_stands_0 24 rfl rfl
theorem dksX0_stands_2 : cX0_stands.data.toList.drop 46 = dktX0_stands_2 := dk_seg dksX0_stands_1 22 rfl rfl
theorem dX0_stands_0 : decode cX0_stands 0 = .ok (.aload_n 0, 1) := dk_42 (dk_at dksX0_stands_0 0 rfl rfl)
theorem dX0_stands_1 : decode cX0_stands 1 = .ok (.getfield 80, 3) := dk_180 0 80 (dk_at dksX0_stands_0 1 rfl rfl)
theorem dX0_stands_4 : decode cX0_stands 4 = .ok (.iload_n 1, 1) := dk_27 (dk_at dksX0_stands_0 4 rfl rfl)
theorem dX0_stands_5 : decode cX0_stands 5 = .ok (.iconst 0, 1) := dk_3 (dk_at dksX0_stands_0 5 rfl rfl)
theorem dX0_stands_6 : decode cX0_stands 6 = .ok (.iastore, 1) := dk_79 (dk_at dksX0_stands_0 6 rfl rfl)
theorem dX0_stands_7 : decode cX0_stands 7 = .ok (.iconst 0, 1) := dk_3 (dk_at dksX0_stands_0 7 rfl rfl)
theorem dX0_stands_8 : decode cX0_stands 8 = .ok (.istore_n 2, 1) := dk_61 (dk_at dksX0_stands_0 8 rfl rfl)
theorem dX0_stands_9 : decode cX0_stands 9 = .ok (.iload_n 2, 1) := dk_28 (dk_at dksX0_stands_0 9 rfl rfl)
theorem dX0_stands_10 : decode cX0_stands 10 = .ok (.bipush 30, 2) := dk_16 30 (dk_at dksX0_stands_0 10 rfl rfl)
theorem dX0_stands_12 : decode cX0_stands 12 = .ok (.if_icmp .ge 28, 3) := dk_162 0 28 (dk_at dksX0_stands_0 12 rfl rfl)
theorem dX0_stands_15 : decode cX0_stands 15 = .ok (.aload_n 0, 1) := dk_42 (dk_at dksX0_stands_0 15 rfl rfl)
theorem dX0_stands_16 : decode cX0_stands 16 = .ok (.iload_n 1, 1) := dk_27 (dk_at dksX0_stands_0 16 rfl rfl)
theorem dX0_stands_17 : decode cX0_stands 17 = .ok (.iload_n 2, 1) := dk_28 (dk_at dksX0_stands_0 17 rfl rfl)
theorem dX0_stands_18 : decode cX0_stands 18 = .ok (.invokevirtual 303, 3) := dk_182 1 47 (dk_at dksX0_stands_0 18 rfl rfl)
theorem dX0_stands_21 : decode cX0_stands 21 = .ok (.ifCond .eq 13, 3) := dk_153 0 13 (dk_at dksX0_stands_0 21 rfl rfl)
theorem dX0_stands_24 : decode cX0_stands 24 = .ok (.aload_n 0, 1) := dk_42 (dk_at dksX0_stands_1 0 rfl rfl)
theorem dX0_stands_25 : decode cX0_stands 25 = .ok (.getfield 80, 3) := dk_180 0 80 (dk_at dksX0_stands_1 1 rfl rfl)
theorem dX0_stands_28 : decode cX0_stands 28 = .ok (.iload_n 1, 1) := dk_27 (dk_at dksX0_stands_1 4 rfl rfl)
theorem dX0_stands_29 : decode cX0_stands 29 = .ok (.dup2, 1) := dk_92 (dk_at dksX0_stands_1 5 rfl rfl)
theorem dX0_stands_30 : decode cX0_stands 30 = .ok (.iaload, 1) := dk_46 (dk_at dksX0_stands_1 6 rfl rfl)
theorem dX0_stands_31 : decode cX0_stands 31 = .ok (.iconst 1, 1) := dk_4 (dk_at dksX0_stands_1 7 rfl rfl)
theorem dX0_stands_32 : decode cX0_stands 32 = .ok (.iadd, 1) := dk_96 (dk_at dksX0_stands_1 8 rfl rfl)
theorem dX0_stands_33 : decode cX0_stands 33 = .ok (.iastore, 1) := dk_79 (dk_at dksX0_stands_1 9 rfl rfl)
theorem dX0_stands_34 : decode cX0_stands 34 = .ok (.iinc 2 1, 3) := dk_132 2 1 (dk_at dksX0_stands_1 10 rfl rfl)
theorem dX0_stands_37 : decode cX0_stands 37 = .ok (.goto (-28), 3) := dk_167 255 228 (dk_at dksX0_stands_1 13 rfl rfl)
theorem dX0_stands_40 : decode cX0_stands 40 = .ok (.aload_n 0, 1) := dk_42 (dk_at dksX0_stands_1 16 rfl rfl)
theorem dX0_stands_41 : decode cX0_stands 41 = .ok (.getfield 80, 3) := dk_180 0 80 (dk_at dksX0_stands_1 17 rfl rfl)
theorem dX0_stands_44 : decode cX0_stands 44 = .ok (.iload_n 1, 1) := dk_27 (dk_at dksX0_stands_1 20 rfl rfl)
theorem dX0_stands_45 : decode cX0_stands 45 = .ok (.iaload, 1) := dk_46 (dk_at dksX0_stands_1 21 rfl rfl)
theorem dX0_stands_46 : decode cX0_stands 46 = .ok (.ifCond .ne 14, 3) := dk_154 0 14 (dk_at dksX0_stands_2 0 rfl rfl)
theorem dX0_stands_49 : decode cX0_stands 49 = .ok (.aload_n 0, 1) := dk_42 (dk_at dksX0_stands_2 3 rfl rfl)
theorem dX0_stands_50 : decode cX0_stands 50 = .ok (.getfield 86, 3) := dk_180 0 86 (dk_at dksX0_stands_2 4 rfl rfl)
theorem dX0_stands_53 : decode cX0_stands 53 = .ok (.iload_n 1, 1) := dk_27 (dk_at dksX0_stands_2 7 rfl rfl)
theorem dX0_stands_54 : decode cX0_stands 54 = .ok (.invokestatic 306, 3) := dk_184 1 50 (dk_at dksX0_stands_2 8 rfl rfl)
theorem dX0_stands_57 : decode cX0_stands 57 = .ok (.invokevirtual 312, 3) := dk_182 1 56 (dk_at dksX0_stands_2 11 rfl rfl)
theorem dX0_stands_60 : decode cX0_stands 60 = .ok (.return_, 1) := dk_177 (dk_at dksX0_stands_2 14 rfl rfl)
abbrev cX0_names : ByteArray := prog_1_method_18_code
def yX0_names : MethodName := ⟨RX0, "names", "(II)Z"⟩
def dkwX0_names_4 : List UInt8 := [153, 0, 7, 4, 167, 0, 4, 3, 172]
abbrev dktX0_names_4 : List UInt8 := dkwX0_names_4 ++ []
def dkwX0_names_3 : List UInt8 := [167, 0, 31, 42, 180, 0, 37, 28, 16, 24, 100, 50, 198, 0, 18, 45, 28, 16, 24, 100, 182, 1, 44]
abbrev dktX0_names_3 : List UInt8 := dkwX0_names_3 ++ dktX0_names_4
def dkwX0_names_2 : List UInt8 := [180, 0, 239, 78, 45, 199, 0, 5, 3, 172, 28, 16, 24, 162, 0, 14, 45, 180, 1, 41, 28, 182, 0, 180]
abbrev dktX0_names_2 : List UInt8 := dkwX0_names_2 ++ dktX0_names_3
def dkwX0_names_1 : List UInt8 := [16, 24, 100, 50, 180, 1, 13, 28, 160, 0, 7, 4, 167, 0, 4, 3, 172, 42, 180, 0, 31, 27, 50]
abbrev dktX0_names_1 : List UInt8 := dkwX0_names_1 ++ dktX0_names_2
def dkwX0_names_0 : List UInt8 := [27, 16, 24, 161, 0, 37, 42, 180, 0, 37, 27, 16, 24, 100, 50, 198, 0, 23, 42, 180, 0, 37, 27]
abbrev dktX0_names_0 : List UInt8 := dkwX0_names_0 ++ dktX0_names_1
theorem dksX0_names_0 : cX0_names.data.toList.drop 0 = dktX0_names_0 := by decide +kernel
theorem dksX0_names_1 : cX0_names.data.toList.drop 23 = dktX0_names_1 := dk_seg dksX0_names_0 23 rfl rfl
theorem dksX0_names_2 : cX0_names.data.toList.drop 46 = dktX0_names_2 := dk_seg dksX0_names_1 23 rfl rfl
theorem dksX0_names_3 : cX0_names.data.toList.drop 70 = dktX0_names_3 := dk_seg dksX0_names_2 24 rfl rfl
theorem dksX0_names_4 : cX0_names.data.toList.drop 93 = dktX0_names_4 := dk_seg dksX0_names_3 23 rfl rfl
theorem dX0_names_0 : decode cX0_names 0 = .ok (.iload_n 1, 1) := dk_27 (dk_at dksX0_names_0 0 rfl rfl)
theorem dX0_names_1 : decode cX0_names 1 = .ok (.bipush 24, 2) := dk_16 24 (dk_at dksX0_names_0 1 rfl rfl)
theorem dX0_names_3 : decode cX0_names 3 = .ok (.if_icmp .lt 37, 3) := dk_161 0 37 (dk_at dksX0_names_0 3 rfl rfl)
theorem dX0_names_6 : decode cX0_names 6 = .ok (.aload_n 0, 1) := dk_42 (dk_at dksX0_names_0 6 rfl rfl)
theorem dX0_names_7 : decode cX0_names 7 = .ok (.getfield 37, 3) := dk_180 0 37 (dk_at dksX0_names_0 7 rfl rfl)
theorem dX0_names_10 : decode cX0_names 10 = .ok (.iload_n 1, 1) := dk_27 (dk_at dksX0_names_0 10 rfl rfl)
theorem dX0_names_11 : decode cX0_names 11 = .ok (.bipush 24, 2) := dk_16 24 (dk_at dksX0_names_0 11 rfl rfl)
theorem dX0_names_13 : decode cX0_names 13 = .ok (.isub, 1) := dk_100 (dk_at dksX0_names_0 13 rfl rfl)
theorem dX0_names_14 : decode cX0_names 14 = .ok (.aaload, 1) := dk_50 (dk_at dksX0_names_0 14 rfl rfl)
theorem dX0_names_15 : decode cX0_names 15 = .ok (.ifnull 23, 3) := dk_198 0 23 (dk_at dksX0_names_0 15 rfl rfl)
theorem dX0_names_18 : decode cX0_names 18 = .ok (.aload_n 0, 1) := dk_42 (dk_at dksX0_names_0 18 rfl rfl)
theorem dX0_names_19 : decode cX0_names 19 = .ok (.getfield 37, 3) := dk_180 0 37 (dk_at dksX0_names_0 19 rfl rfl)
theorem dX0_names_22 : decode cX0_names 22 = .ok (.iload_n 1, 1) := dk_27 (dk_at dksX0_names_0 22 rfl rfl)
theorem dX0_names_23 : decode cX0_names 23 = .ok (.bipush 24, 2) := dk_16 24 (dk_at dksX0_names_1 0 rfl rfl)
theorem dX0_names_25 : decode cX0_names 25 = .ok (.isub, 1) := dk_100 (dk_at dksX0_names_1 2 rfl rfl)
theorem dX0_names_26 : decode cX0_names 26 = .ok (.aaload, 1) := dk_50 (dk_at dksX0_names_1 3 rfl rfl)
theorem dX0_names_27 : decode cX0_names 27 = .ok (.getfield 269, 3) := dk_180 1 13 (dk_at dksX0_names_1 4 rfl rfl)
theorem dX0_names_30 : decode cX0_names 30 = .ok (.iload_n 2, 1) := dk_28 (dk_at dksX0_names_1 7 rfl rfl)
theorem dX0_names_31 : decode cX0_names 31 = .ok (.if_icmp .ne 7, 3) := dk_160 0 7 (dk_at dksX0_names_1 8 rfl rfl)
theorem dX0_names_34 : decode cX0_names 34 = .ok (.iconst 1, 1) := dk_4 (dk_at dksX0_names_1 11 rfl rfl)
theorem dX0_names_35 : decode cX0_names 35 = .ok (.goto 4, 3) := dk_167 0 4 (dk_at dksX0_names_1 12 rfl rfl)
theorem dX0_names_38 : decode cX0_names 38 = .ok (.iconst 0, 1) := dk_3 (dk_at dksX0_names_1 15 rfl rfl)
theorem dX0_names_39 : decode cX0_names 39 = .ok (.ireturn, 1) := dk_172 (dk_at dksX0_names_1 16 rfl rfl)
theorem dX0_names_40 : decode cX0_names 40 = .ok (.aload_n 0, 1) := dk_42 (dk_at dksX0_names_1 17 rfl rfl)
theorem dX0_names_41 : decode cX0_names 41 = .ok (.getfield 31, 3) := dk_180 0 31 (dk_at dksX0_names_1 18 rfl rfl)
theorem dX0_names_44 : decode cX0_names 44 = .ok (.iload_n 1, 1) := dk_27 (dk_at dksX0_names_1 21 rfl rfl)
theorem dX0_names_45 : decode cX0_names 45 = .ok (.aaload, 1) := dk_50 (dk_at dksX0_names_1 22 rfl rfl)
theorem dX0_names_46 : decode cX0_names 46 = .ok (.getfield 239, 3) := dk_180 0 239 (dk_at dksX0_names_2 0 rfl rfl)
theorem dX0_names_49 : decode cX0_names 49 = .ok (.astore_n 3, 1) := dk_78 (dk_at dksX0_names_2 3 rfl rfl)
theorem dX0_names_50 : decode cX0_names 50 = .ok (.aload_n 3, 1) := dk_45 (dk_at dksX0_names_2 4 rfl rfl)
theorem dX0_names_51 : decode cX0_names 51 = .ok (.ifnonnull 5, 3) := dk_199 0 5 (dk_at dksX0_names_2 5 rfl rfl)
theorem dX0_names_54 : decode cX0_names 54 = .ok (.iconst 0, 1) := dk_3 (dk_at dksX0_names_2 8 rfl rfl)
theorem dX0_names_55 : decode cX0_names 55 = .ok (.ireturn, 1) := dk_172 (dk_at dksX0_names_2 9 rfl rfl)
theorem dX0_names_56 : decode cX0_names 56 = .ok (.iload_n 2, 1) := dk_28 (dk_at dksX0_names_2 10 rfl rfl)
theorem dX0_names_57 : decode cX0_names 57 = .ok (.bipush 24, 2) := dk_16 24 (dk_at dksX0_names_2 11 rfl rfl)
theorem dX0_names_59 : decode cX0_names 59 = .ok (.if_icmp .ge 14, 3) := dk_162 0 14 (dk_at dksX0_names_2 13 rfl rfl)
theorem dX0_names_62 : decode cX0_names 62 = .ok (.aload_n 3, 1) := dk_45 (dk_at dksX0_names_2 16 rfl rfl)
theorem dX0_names_63 : decode cX0_names 63 = .ok (.getfield 297, 3) := dk_180 1 41 (dk_at dksX0_names_2 17 rfl rfl)
theorem dX0_names_66 : decode cX0_names 66 = .ok (.iload_n 2, 1) := dk_28 (dk_at dksX0_names_2 20 rfl rfl)
theorem dX0_names_67 : decode cX0_names 67 = .ok (.invokevirtual 180, 3) := dk_182 0 180 (dk_at dksX0_names_2 21 rfl rfl)
theorem dX0_names_70 : decode cX0_names 70 = .ok (.goto 31, 3) := dk_167 0 31 (dk_at dksX0_names_3 0 rfl rfl)
theorem dX0_names_73 : decode cX0_names 73 = .ok (.aload_n 0, 1) := dk_42 (dk_at dksX0_names_3 3 rfl rfl)
theorem dX0_names_74 : decode cX0_names 74 = .ok (.getfield 37, 3) := dk_180 0 37 (dk_at dksX0_names_3 4 rfl rfl)
theorem dX0_names_77 : decode cX0_names 77 = .ok (.iload_n 2, 1) := dk_28 (dk_at dksX0_names_3 7 rfl rfl)
theorem dX0_names_78 : decode cX0_names 78 = .ok (.bipush 24, 2) := dk_16 24 (dk_at dksX0_names_3 8 rfl rfl)
theorem dX0_names_80 : decode cX0_names 80 = .ok (.isub, 1) := dk_100 (dk_at dksX0_names_3 10 rfl rfl)
theorem dX0_names_81 : decode cX0_names 81 = .ok (.aaload, 1) := dk_50 (dk_at dksX0_names_3 11 rfl rfl)
theorem dX0_names_82 : decode cX0_names 82 = .ok (.ifnull 18, 3) := dk_198 0 18 (dk_at dksX0_names_3 12 rfl rfl)
theorem dX0_names_85 : decode cX0_names 85 = .ok (.aload_n 3, 1) := dk_45 (dk_at dksX0_names_3 15 rfl rfl)
theorem dX0_names_86 : decode cX0_names 86 = .ok (.iload_n 2, 1) := dk_28 (dk_at dksX0_names_3 16 rfl rfl)
theorem dX0_names_87 : decode cX0_names 87 = .ok (.bipush 24, 2) := dk_16 24 (dk_at dksX0_names_3 17 rfl rfl)
theorem dX0_names_89 : decode cX0_names 89 = .ok (.isub, 1) := dk_100 (dk_at dksX0_names_3 19 rfl rfl)
theorem dX0_names_90 : decode cX0_names 90 = .ok (.invokevirtual 300, 3) := dk_182 1 44 (dk_at dksX0_names_3 20 rfl rfl)
theorem dX0_names_93 : decode cX0_names 93 = .ok (.ifCond .eq 7, 3) := dk_153 0 7 (dk_at dksX0_names_4 0 rfl rfl)
theorem dX0_names_96 : decode cX0_names 96 = .ok (.iconst 1, 1) := dk_4 (dk_at dksX0_names_4 3 rfl rfl)
theorem dX0_names_97 : decode cX0_names 97 = .ok (.goto 4, 3) := dk_167 0 4 (dk_at dksX0_names_4 4 rfl rfl)
theorem dX0_names_100 : decode cX0_names 100 = .ok (.iconst 0, 1) := dk_3 (dk_at dksX0_names_4 7 rfl rfl)
theorem dX0_names_101 : decode cX0_names 101 = .ok (.ireturn, 1) := dk_172 (dk_at dksX0_names_4 8 rfl rfl)
abbrev cX0_weighs : ByteArray := prog_1_method_21_code
def yX0_weighs : MethodName := ⟨RX0, "weighs", "(I)V"⟩
def dkwX0_weighs_3 : List UInt8 := [16, 24, 100, 28, 79, 28, 17, 7, 208, 164, 0, 13, 187, 1, 77, 89, 16, 252, 183, 1, 79, 191, 177]
abbrev dktX0_weighs_3 : List UInt8 := dkwX0_weighs_3 ++ []
def dkwX0_weighs_2 : List UInt8 := [167, 0, 17, 42, 180, 0, 65, 45, 180, 1, 13, 46, 45, 182, 0, 154, 104, 61, 42, 180, 0, 72, 27]
abbrev dktX0_weighs_2 : List UInt8 := dkwX0_weighs_2 ++ dktX0_weighs_3
def dkwX0_weighs_1 : List UInt8 := [180, 0, 65, 27, 28, 79, 167, 0, 46, 42, 180, 0, 37, 27, 16, 24, 100, 50, 78, 45, 199, 0, 7, 3]
abbrev dktX0_weighs_1 : List UInt8 := dkwX0_weighs_1 ++ dktX0_weighs_2
def dkwX0_weighs_0 : List UInt8 := [27, 16, 24, 162, 0, 29, 42, 27, 182, 1, 80, 42, 42, 180, 0, 58, 27, 50, 182, 1, 82, 61, 42]
abbrev dktX0_weighs_0 : List UInt8 := dkwX0_weighs_0 ++ dktX0_weighs_1
theorem dksX0_weighs_0 : cX0_weighs.data.toList.drop 0 = dktX0_weighs_0 := by decide +kernel
theorem dksX0_weighs_1 : cX0_weighs.data.toList.drop 23 = dktX0_weighs_1 := dk_seg dksX0_weighs_0 23 rfl rfl
theorem dksX0_weighs_2 : cX0_weighs.data.toList.drop 47 = dktX0_weighs_2 := dk_seg dksX0_weighs_1 24 rfl rfl
theorem dksX0_weighs_3 : cX0_weighs.data.toList.drop 70 = dktX0_weighs_3 := dk_seg dksX0_weighs_2 23 rfl rfl
theorem dX0_weighs_0 : decode cX0_weighs 0 = .ok (.iload_n 1, 1) := dk_27 (dk_at dksX0_weighs_0 0 rfl rfl)
theorem dX0_weighs_1 : decode cX0_weighs 1 = .ok (.bipush 24, 2) := dk_16 24 (dk_at dksX0_weighs_0 1 rfl rfl)
theorem dX0_weighs_3 : decode cX0_weighs 3 = .ok (.if_icmp .ge 29, 3) := dk_162 0 29 (dk_at dksX0_weighs_0 3 rfl rfl)
theorem dX0_weighs_6 : decode cX0_weighs 6 = .ok (.aload_n 0, 1) := dk_42 (dk_at dksX0_weighs_0 6 rfl rfl)
theorem dX0_weighs_7 : decode cX0_weighs 7 = .ok (.iload_n 1, 1) := dk_27 (dk_at dksX0_weighs_0 7 rfl rfl)
theorem dX0_weighs_8 : decode cX0_weighs 8 = .ok (.invokevirtual 336, 3) := dk_182 1 80 (dk_at dksX0_weighs_0 8 rfl rfl)
theorem dX0_weighs_11 : decode cX0_weighs 11 = .ok (.aload_n 0, 1) := dk_42 (dk_at dksX0_weighs_0 11 rfl rfl)
theorem dX0_weighs_12 : decode cX0_weighs 12 = .ok (.aload_n 0, 1) := dk_42 (dk_at dksX0_weighs_0 12 rfl rfl)
theorem dX0_weighs_13 : decode cX0_weighs 13 = .ok (.getfield 58, 3) := dk_180 0 58 (dk_at dksX0_weighs_0 13 rfl rfl)
theorem dX0_weighs_16 : decode cX0_weighs 16 = .ok (.iload_n 1, 1) := dk_27 (dk_at dksX0_weighs_0 16 rfl rfl)
theorem dX0_weighs_17 : decode cX0_weighs 17 = .ok (.aaload, 1) := dk_50 (dk_at dksX0_weighs_0 17 rfl rfl)
theorem dX0_weighs_18 : decode cX0_weighs 18 = .ok (.invokevirtual 338, 3) := dk_182 1 82 (dk_at dksX0_weighs_0 18 rfl rfl)
theorem dX0_weighs_21 : decode cX0_weighs 21 = .ok (.istore_n 2, 1) := dk_61 (dk_at dksX0_weighs_0 21 rfl rfl)
theorem dX0_weighs_22 : decode cX0_weighs 22 = .ok (.aload_n 0, 1) := dk_42 (dk_at dksX0_weighs_0 22 rfl rfl)
theorem dX0_weighs_23 : decode cX0_weighs 23 = .ok (.getfield 65, 3) := dk_180 0 65 (dk_at dksX0_weighs_1 0 rfl rfl)
theorem dX0_weighs_26 : decode cX0_weighs 26 = .ok (.iload_n 1, 1) := dk_27 (dk_at dksX0_weighs_1 3 rfl rfl)
theorem dX0_weighs_27 : decode cX0_weighs 27 = .ok (.iload_n 2, 1) := dk_28 (dk_at dksX0_weighs_1 4 rfl rfl)
theorem dX0_weighs_28 : decode cX0_weighs 28 = .ok (.iastore, 1) := dk_79 (dk_at dksX0_weighs_1 5 rfl rfl)
theorem dX0_weighs_29 : decode cX0_weighs 29 = .ok (.goto 46, 3) := dk_167 0 46 (dk_at dksX0_weighs_1 6 rfl rfl)
theorem dX0_weighs_32 : decode cX0_weighs 32 = .ok (.aload_n 0, 1) := dk_42 (dk_at dksX0_weighs_1 9 rfl rfl)
theorem dX0_weighs_33 : decode cX0_weighs 33 = .ok (.getfield 37, 3) := dk_180 0 37 (dk_at dksX0_weighs_1 10 rfl rfl)
theorem dX0_weighs_36 : decode cX0_weighs 36 = .ok (.iload_n 1, 1) := dk_27 (dk_at dksX0_weighs_1 13 rfl rfl)
theorem dX0_weighs_37 : decode cX0_weighs 37 = .ok (.bipush 24, 2) := dk_16 24 (dk_at dksX0_weighs_1 14 rfl rfl)
theorem dX0_weighs_39 : decode cX0_weighs 39 = .ok (.isub, 1) := dk_100 (dk_at dksX0_weighs_1 16 rfl rfl)
theorem dX0_weighs_40 : decode cX0_weighs 40 = .ok (.aaload, 1) := dk_50 (dk_at dksX0_weighs_1 17 rfl rfl)
theorem dX0_weighs_41 : decode cX0_weighs 41 = .ok (.astore_n 3, 1) := dk_78 (dk_at dksX0_weighs_1 18 rfl rfl)
theorem dX0_weighs_42 : decode cX0_weighs 42 = .ok (.aload_n 3, 1) := dk_45 (dk_at dksX0_weighs_1 19 rfl rfl)
theorem dX0_weighs_43 : decode cX0_weighs 43 = .ok (.ifnonnull 7, 3) := dk_199 0 7 (dk_at dksX0_weighs_1 20 rfl rfl)
theorem dX0_weighs_46 : decode cX0_weighs 46 = .ok (.iconst 0, 1) := dk_3 (dk_at dksX0_weighs_1 23 rfl rfl)
theorem dX0_weighs_47 : decode cX0_weighs 47 = .ok (.goto 17, 3) := dk_167 0 17 (dk_at dksX0_weighs_2 0 rfl rfl)
theorem dX0_weighs_50 : decode cX0_weighs 50 = .ok (.aload_n 0, 1) := dk_42 (dk_at dksX0_weighs_2 3 rfl rfl)
theorem dX0_weighs_51 : decode cX0_weighs 51 = .ok (.getfield 65, 3) := dk_180 0 65 (dk_at dksX0_weighs_2 4 rfl rfl)
theorem dX0_weighs_54 : decode cX0_weighs 54 = .ok (.aload_n 3, 1) := dk_45 (dk_at dksX0_weighs_2 7 rfl rfl)
theorem dX0_weighs_55 : decode cX0_weighs 55 = .ok (.getfield 269, 3) := dk_180 1 13 (dk_at dksX0_weighs_2 8 rfl rfl)
theorem dX0_weighs_58 : decode cX0_weighs 58 = .ok (.iaload, 1) := dk_46 (dk_at dksX0_weighs_2 11 rfl rfl)
theorem dX0_weighs_59 : decode cX0_weighs 59 = .ok (.aload_n 3, 1) := dk_45 (dk_at dksX0_weighs_2 12 rfl rfl)
theorem dX0_weighs_60 : decode cX0_weighs 60 = .ok (.invokevirtual 154, 3) := dk_182 0 154 (dk_at dksX0_weighs_2 13 rfl rfl)
theorem dX0_weighs_63 : decode cX0_weighs 63 = .ok (.imul, 1) := dk_104 (dk_at dksX0_weighs_2 16 rfl rfl)
theorem dX0_weighs_64 : decode cX0_weighs 64 = .ok (.istore_n 2, 1) := dk_61 (dk_at dksX0_weighs_2 17 rfl rfl)
theorem dX0_weighs_65 : decode cX0_weighs 65 = .ok (.aload_n 0, 1) := dk_42 (dk_at dksX0_weighs_2 18 rfl rfl)
theorem dX0_weighs_66 : decode cX0_weighs 66 = .ok (.getfield 72, 3) := dk_180 0 72 (dk_at dksX0_weighs_2 19 rfl rfl)
theorem dX0_weighs_69 : decode cX0_weighs 69 = .ok (.iload_n 1, 1) := dk_27 (dk_at dksX0_weighs_2 22 rfl rfl)
theorem dX0_weighs_70 : decode cX0_weighs 70 = .ok (.bipush 24, 2) := dk_16 24 (dk_at dksX0_weighs_3 0 rfl rfl)
theorem dX0_weighs_72 : decode cX0_weighs 72 = .ok (.isub, 1) := dk_100 (dk_at dksX0_weighs_3 2 rfl rfl)
theorem dX0_weighs_73 : decode cX0_weighs 73 = .ok (.iload_n 2, 1) := dk_28 (dk_at dksX0_weighs_3 3 rfl rfl)
theorem dX0_weighs_74 : decode cX0_weighs 74 = .ok (.iastore, 1) := dk_79 (dk_at dksX0_weighs_3 4 rfl rfl)
theorem dX0_weighs_75 : decode cX0_weighs 75 = .ok (.iload_n 2, 1) := dk_28 (dk_at dksX0_weighs_3 5 rfl rfl)
theorem dX0_weighs_76 : decode cX0_weighs 76 = .ok (.sipush 2000, 3) := dk_17 7 208 (dk_at dksX0_weighs_3 6 rfl rfl)
theorem dX0_weighs_79 : decode cX0_weighs 79 = .ok (.if_icmp .le 13, 3) := dk_164 0 13 (dk_at dksX0_weighs_3 9 rfl rfl)
theorem dX0_weighs_82 : decode cX0_weighs 82 = .ok (.new 333, 3) := dk_187 1 77 (dk_at dksX0_weighs_3 12 rfl rfl)
theorem dX0_weighs_85 : decode cX0_weighs 85 = .ok (.dup, 1) := dk_89 (dk_at dksX0_weighs_3 15 rfl rfl)
theorem dX0_weighs_86 : decode cX0_weighs 86 = .ok (.bipush (-4), 2) := dk_16 252 (dk_at dksX0_weighs_3 16 rfl rfl)
theorem dX0_weighs_88 : decode cX0_weighs 88 = .ok (.invokespecial 335, 3) := dk_183 1 79 (dk_at dksX0_weighs_3 18 rfl rfl)
theorem dX0_weighs_91 : decode cX0_weighs 91 = .ok (.athrow, 1) := dk_191 (dk_at dksX0_weighs_3 21 rfl rfl)
theorem dX0_weighs_92 : decode cX0_weighs 92 = .ok (.return_, 1) := dk_177 (dk_at dksX0_weighs_3 22 rfl rfl)
abbrev cX0_reads : ByteArray := prog_1_method_22_code
def yX0_reads : MethodName := ⟨RX0, "reads", "(I)V"⟩
def dkwX0_reads_11 : List UInt8 := [42, 180, 0, 76, 182, 1, 94, 167, 255, 126, 177]
abbrev dktX0_reads_11 : List UInt8 := dkwX0_reads_11 ++ []
def dkwX0_reads_10 : List UInt8 := [198, 0, 18, 42, 180, 0, 76, 25, 4, 180, 0, 190, 180, 0, 175, 182, 1, 116, 42, 180, 0, 62, 27, 50]
abbrev dktX0_reads_10 : List UInt8 := dkwX0_reads_10 ++ dktX0_reads_11
def dkwX0_reads_9 : List UInt8 := [182, 1, 94, 42, 180, 0, 76, 25, 4, 180, 0, 171, 180, 0, 175, 182, 1, 116, 25, 4, 180, 0, 190]
abbrev dktX0_reads_9 : List UInt8 := dkwX0_reads_9 ++ dktX0_reads_10
def dkwX0_reads_8 : List UInt8 := [79, 42, 180, 0, 76, 182, 1, 86, 42, 180, 0, 76, 42, 180, 0, 62, 25, 4, 180, 1, 13, 50]
abbrev dktX0_reads_8 : List UInt8 := dkwX0_reads_8 ++ dktX0_reads_9
def dkwX0_reads_7 : List UInt8 := [199, 0, 6, 167, 255, 223, 42, 180, 0, 69, 27, 92, 46, 42, 180, 0, 72, 25, 4, 180, 0, 151, 46, 96]
abbrev dktX0_reads_7 : List UInt8 := dkwX0_reads_7 ++ dktX0_reads_8
def dkwX0_reads_6 : List UInt8 := [153, 0, 127, 42, 180, 0, 37, 45, 185, 1, 113, 1, 0, 192, 1, 51, 182, 1, 71, 50, 58, 4, 25, 4]
abbrev dktX0_reads_6 : List UInt8 := dkwX0_reads_6 ++ dktX0_reads_7
def dkwX0_reads_5 : List UInt8 := [96, 182, 1, 90, 62, 167, 255, 211, 44, 180, 1, 98, 182, 1, 102, 78, 45, 185, 1, 108, 1, 0]
abbrev dktX0_reads_5 : List UInt8 := dkwX0_reads_5 ++ dktX0_reads_6
def dkwX0_reads_4 : List UInt8 := [182, 1, 94, 42, 180, 0, 62, 27, 50, 42, 180, 0, 62, 29, 50, 182, 1, 94, 44, 180, 1, 41, 29, 4]
abbrev dktX0_reads_4 : List UInt8 := dkwX0_reads_4 ++ dktX0_reads_5
def dkwX0_reads_3 : List UInt8 := [180, 1, 41, 3, 182, 1, 90, 62, 29, 155, 0, 47, 42, 180, 0, 58, 27, 50, 42, 180, 0, 58, 29, 50]
abbrev dktX0_reads_3 : List UInt8 := dkwX0_reads_3 ++ dktX0_reads_4
def dkwX0_reads_2 : List UInt8 := [199, 0, 14, 42, 180, 0, 62, 27, 50, 27, 182, 1, 87, 177, 42, 180, 0, 69, 27, 4, 79, 44]
abbrev dktX0_reads_2 : List UInt8 := dkwX0_reads_2 ++ dktX0_reads_3
def dkwX0_reads_1 : List UInt8 := [27, 182, 1, 87, 42, 180, 0, 69, 27, 3, 79, 42, 180, 0, 31, 27, 50, 180, 0, 239, 77, 44]
abbrev dktX0_reads_1 : List UInt8 := dkwX0_reads_1 ++ dktX0_reads_2
def dkwX0_reads_0 : List UInt8 := [42, 180, 0, 58, 27, 50, 182, 1, 86, 42, 180, 0, 62, 27, 50, 182, 1, 86, 42, 180, 0, 58, 27, 50]
abbrev dktX0_reads_0 : List UInt8 := dkwX0_reads_0 ++ dktX0_reads_1
theorem dksX0_reads_0 : cX0_reads.data.toList.drop 0 = dktX0_reads_0 := by decide +kernel
theorem dksX0_reads_1 : cX0_reads.data.toList.drop 24 = dktX0_reads_1 := dk_seg dksX0_reads_0 24 rfl rfl
theorem dksX0_reads_2 : cX0_reads.data.toList.drop 46 = dktX0_reads_2 := dk_seg dksX0_reads_1 22 rfl rfl
theorem dksX0_reads_3 : cX0_reads.data.toList.drop 68 = dktX0_reads_3 := dk_seg dksX0_reads_2 22 rfl rfl
theorem dksX0_reads_4 : cX0_reads.data.toList.drop 92 = dktX0_reads_4 := dk_seg dksX0_reads_3 24 rfl rfl
theorem dksX0_reads_5 : cX0_reads.data.toList.drop 116 = dktX0_reads_5 := dk_seg dksX0_reads_4 24 rfl rfl
theorem dksX0_reads_6 : cX0_reads.data.toList.drop 138 = dktX0_reads_6 := dk_seg dksX0_reads_5 22 rfl rfl
theorem dksX0_reads_7 : cX0_reads.data.toList.drop 162 = dktX0_reads_7 := dk_seg dksX0_reads_6 24 rfl rfl
theorem dksX0_reads_8 : cX0_reads.data.toList.drop 186 = dktX0_reads_8 := dk_seg dksX0_reads_7 24 rfl rfl
theorem dksX0_reads_9 : cX0_reads.data.toList.drop 208 = dktX0_reads_9 := dk_seg dksX0_reads_8 22 rfl rfl
theorem dksX0_reads_10 : cX0_reads.data.toList.drop 231 = dktX0_reads_10 := dk_seg dksX0_reads_9 23 rfl rfl
theorem dksX0_reads_11 : cX0_reads.data.toList.drop 255 = dktX0_reads_11 := dk_seg dksX0_reads_10 24 rfl rfl
theorem dX0_reads_0 : decode cX0_reads 0 = .ok (.aload_n 0, 1) := dk_42 (dk_at dksX0_reads_0 0 rfl rfl)
theorem dX0_reads_1 : decode cX0_reads 1 = .ok (.getfield 58, 3) := dk_180 0 58 (dk_at dksX0_reads_0 1 rfl rfl)
theorem dX0_reads_4 : decode cX0_reads 4 = .ok (.iload_n 1, 1) := dk_27 (dk_at dksX0_reads_0 4 rfl rfl)
theorem dX0_reads_5 : decode cX0_reads 5 = .ok (.aaload, 1) := dk_50 (dk_at dksX0_reads_0 5 rfl rfl)
theorem dX0_reads_6 : decode cX0_reads 6 = .ok (.invokevirtual 342, 3) := dk_182 1 86 (dk_at dksX0_reads_0 6 rfl rfl)
theorem dX0_reads_9 : decode cX0_reads 9 = .ok (.aload_n 0, 1) := dk_42 (dk_at dksX0_reads_0 9 rfl rfl)
theorem dX0_reads_10 : decode cX0_reads 10 = .ok (.getfield 62, 3) := dk_180 0 62 (dk_at dksX0_reads_0 10 rfl rfl)
theorem dX0_reads_13 : decode cX0_reads 13 = .ok (.iload_n 1, 1) := dk_27 (dk_at dksX0_reads_0 13 rfl rfl)
theorem dX0_reads_14 : decode cX0_reads 14 = .ok (.aaload, 1) := dk_50 (dk_at dksX0_reads_0 14 rfl rfl)
theorem dX0_reads_15 : decode cX0_reads 15 = .ok (.invokevirtual 342, 3) := dk_182 1 86 (dk_at dksX0_reads_0 15 rfl rfl)
theorem dX0_reads_18 : decode cX0_reads 18 = .ok (.aload_n 0, 1) := dk_42 (dk_at dksX0_reads_0 18 rfl rfl)
theorem dX0_reads_19 : decode cX0_reads 19 = .ok (.getfield 58, 3) := dk_180 0 58 (dk_at dksX0_reads_0 19 rfl rfl)
theorem dX0_reads_22 : decode cX0_reads 22 = .ok (.iload_n 1, 1) := dk_27 (dk_at dksX0_reads_0 22 rfl rfl)
theorem dX0_reads_23 : decode cX0_reads 23 = .ok (.aaload, 1) := dk_50 (dk_at dksX0_reads_0 23 rfl rfl)
theorem dX0_reads_24 : decode cX0_reads 24 = .ok (.iload_n 1, 1) := dk_27 (dk_at dksX0_reads_1 0 rfl rfl)
theorem dX0_reads_25 : decode cX0_reads 25 = .ok (.invokevirtual 343, 3) := dk_182 1 87 (dk_at dksX0_reads_1 1 rfl rfl)
theorem dX0_reads_28 : decode cX0_reads 28 = .ok (.aload_n 0, 1) := dk_42 (dk_at dksX0_reads_1 4 rfl rfl)
theorem dX0_reads_29 : decode cX0_reads 29 = .ok (.getfield 69, 3) := dk_180 0 69 (dk_at dksX0_reads_1 5 rfl rfl)
theorem dX0_reads_32 : decode cX0_reads 32 = .ok (.iload_n 1, 1) := dk_27 (dk_at dksX0_reads_1 8 rfl rfl)
theorem dX0_reads_33 : decode cX0_reads 33 = .ok (.iconst 0, 1) := dk_3 (dk_at dksX0_reads_1 9 rfl rfl)
theorem dX0_reads_34 : decode cX0_reads 34 = .ok (.iastore, 1) := dk_79 (dk_at dksX0_reads_1 10 rfl rfl)
theorem dX0_reads_35 : decode cX0_reads 35 = .ok (.aload_n 0, 1) := dk_42 (dk_at dksX0_reads_1 11 rfl rfl)
theorem dX0_reads_36 : decode cX0_reads 36 = .ok (.getfield 31, 3) := dk_180 0 31 (dk_at dksX0_reads_1 12 rfl rfl)
theorem dX0_reads_39 : decode cX0_reads 39 = .ok (.iload_n 1, 1) := dk_27 (dk_at dksX0_reads_1 15 rfl rfl)
theorem dX0_reads_40 : decode cX0_reads 40 = .ok (.aaload, 1) := dk_50 (dk_at dksX0_reads_1 16 rfl rfl)
theorem dX0_reads_41 : decode cX0_reads 41 = .ok (.getfield 239, 3) := dk_180 0 239 (dk_at dksX0_reads_1 17 rfl rfl)
theorem dX0_reads_44 : decode cX0_reads 44 = .ok (.astore_n 2, 1) := dk_77 (dk_at dksX0_reads_1 20 rfl rfl)
theorem dX0_reads_45 : decode cX0_reads 45 = .ok (.aload_n 2, 1) := dk_44 (dk_at dksX0_reads_1 21 rfl rfl)
theorem dX0_reads_46 : decode cX0_reads 46 = .ok (.ifnonnull 14, 3) := dk_199 0 14 (dk_at dksX0_reads_2 0 rfl rfl)
theorem dX0_reads_49 : decode cX0_reads 49 = .ok (.aload_n 0, 1) := dk_42 (dk_at dksX0_reads_2 3 rfl rfl)
theorem dX0_reads_50 : decode cX0_reads 50 = .ok (.getfield 62, 3) := dk_180 0 62 (dk_at dksX0_reads_2 4 rfl rfl)
theorem dX0_reads_53 : decode cX0_reads 53 = .ok (.iload_n 1, 1) := dk_27 (dk_at dksX0_reads_2 7 rfl rfl)
theorem dX0_reads_54 : decode cX0_reads 54 = .ok (.aaload, 1) := dk_50 (dk_at dksX0_reads_2 8 rfl rfl)
theorem dX0_reads_55 : decode cX0_reads 55 = .ok (.iload_n 1, 1) := dk_27 (dk_at dksX0_reads_2 9 rfl rfl)
theorem dX0_reads_56 : decode cX0_reads 56 = .ok (.invokevirtual 343, 3) := dk_182 1 87 (dk_at dksX0_reads_2 10 rfl rfl)
theorem dX0_reads_59 : decode cX0_reads 59 = .ok (.return_, 1) := dk_177 (dk_at dksX0_reads_2 13 rfl rfl)
theorem dX0_reads_60 : decode cX0_reads 60 = .ok (.aload_n 0, 1) := dk_42 (dk_at dksX0_reads_2 14 rfl rfl)
theorem dX0_reads_61 : decode cX0_reads 61 = .ok (.getfield 69, 3) := dk_180 0 69 (dk_at dksX0_reads_2 15 rfl rfl)
theorem dX0_reads_64 : decode cX0_reads 64 = .ok (.iload_n 1, 1) := dk_27 (dk_at dksX0_reads_2 18 rfl rfl)
theorem dX0_reads_65 : decode cX0_reads 65 = .ok (.iconst 1, 1) := dk_4 (dk_at dksX0_reads_2 19 rfl rfl)
theorem dX0_reads_66 : decode cX0_reads 66 = .ok (.iastore, 1) := dk_79 (dk_at dksX0_reads_2 20 rfl rfl)
theorem dX0_reads_67 : decode cX0_reads 67 = .ok (.aload_n 2, 1) := dk_44 (dk_at dksX0_reads_2 21 rfl rfl)
theorem dX0_reads_68 : decode cX0_reads 68 = .ok (.getfield 297, 3) := dk_180 1 41 (dk_at dksX0_reads_3 0 rfl rfl)
theorem dX0_reads_71 : decode cX0_reads 71 = .ok (.iconst 0, 1) := dk_3 (dk_at dksX0_reads_3 3 rfl rfl)
theorem dX0_reads_72 : decode cX0_reads 72 = .ok (.invokevirtual 346, 3) := dk_182 1 90 (dk_at dksX0_reads_3 4 rfl rfl)
theorem dX0_reads_75 : decode cX0_reads 75 = .ok (.istore_n 3, 1) := dk_62 (dk_at dksX0_reads_3 7 rfl rfl)
theorem dX0_reads_76 : decode cX0_reads 76 = .ok (.iload_n 3, 1) := dk_29 (dk_at dksX0_reads_3 8 rfl rfl)
theorem dX0_reads_77 : decode cX0_reads 77 = .ok (.ifCond .lt 47, 3) := dk_155 0 47 (dk_at dksX0_reads_3 9 rfl rfl)
theorem dX0_reads_80 : decode cX0_reads 80 = .ok (.aload_n 0, 1) := dk_42 (dk_at dksX0_reads_3 12 rfl rfl)
theorem dX0_reads_81 : decode cX0_reads 81 = .ok (.getfield 58, 3) := dk_180 0 58 (dk_at dksX0_reads_3 13 rfl rfl)
theorem dX0_reads_84 : decode cX0_reads 84 = .ok (.iload_n 1, 1) := dk_27 (dk_at dksX0_reads_3 16 rfl rfl)
theorem dX0_reads_85 : decode cX0_reads 85 = .ok (.aaload, 1) := dk_50 (dk_at dksX0_reads_3 17 rfl rfl)
theorem dX0_reads_86 : decode cX0_reads 86 = .ok (.aload_n 0, 1) := dk_42 (dk_at dksX0_reads_3 18 rfl rfl)
theorem dX0_reads_87 : decode cX0_reads 87 = .ok (.getfield 58, 3) := dk_180 0 58 (dk_at dksX0_reads_3 19 rfl rfl)
theorem dX0_reads_90 : decode cX0_reads 90 = .ok (.iload_n 3, 1) := dk_29 (dk_at dksX0_reads_3 22 rfl rfl)
theorem dX0_reads_91 : decode cX0_reads 91 = .ok (.aaload, 1) := dk_50 (dk_at dksX0_reads_3 23 rfl rfl)
theorem dX0_reads_92 : decode cX0_reads 92 = .ok (.invokevirtual 350, 3) := dk_182 1 94 (dk_at dksX0_reads_4 0 rfl rfl)
theorem dX0_reads_95 : decode cX0_reads 95 = .ok (.aload_n 0, 1) := dk_42 (dk_at dksX0_reads_4 3 rfl rfl)
theorem dX0_reads_96 : decode cX0_reads 96 = .ok (.getfield 62, 3) := dk_180 0 62 (dk_at dksX0_reads_4 4 rfl rfl)
theorem dX0_reads_99 : decode cX0_reads 99 = .ok (.iload_n 1, 1) := dk_27 (dk_at dksX0_reads_4 7 rfl rfl)
theorem dX0_reads_100 : decode cX0_reads 100 = .ok (.aaload, 1) := dk_50 (dk_at dksX0_reads_4 8 rfl rfl)
theorem dX0_reads_101 : decode cX0_reads 101 = .ok (.aload_n 0, 1) := dk_42 (dk_at dksX0_reads_4 9 rfl rfl)
theorem dX0_reads_102 : decode cX0_reads 102 = .ok (.getfield 62, 3) := dk_180 0 62 (dk_at dksX0_reads_4 10 rfl rfl)
theorem dX0_reads_105 : decode cX0_reads 105 = .ok (.iload_n 3, 1) := dk_29 (dk_at dksX0_reads_4 13 rfl rfl)
theorem dX0_reads_106 : decode cX0_reads 106 = .ok (.aaload, 1) := dk_50 (dk_at dksX0_reads_4 14 rfl rfl)
theorem dX0_reads_107 : decode cX0_reads 107 = .ok (.invokevirtual 350, 3) := dk_182 1 94 (dk_at dksX0_reads_4 15 rfl rfl)
theorem dX0_reads_110 : decode cX0_reads 110 = .ok (.aload_n 2, 1) := dk_44 (dk_at dksX0_reads_4 18 rfl rfl)
theorem dX0_reads_111 : decode cX0_reads 111 = .ok (.getfield 297, 3) := dk_180 1 41 (dk_at dksX0_reads_4 19 rfl rfl)
theorem dX0_reads_114 : decode cX0_reads 114 = .ok (.iload_n 3, 1) := dk_29 (dk_at dksX0_reads_4 22 rfl rfl)
theorem dX0_reads_115 : decode cX0_reads 115 = .ok (.iconst 1, 1) := dk_4 (dk_at dksX0_reads_4 23 rfl rfl)
theorem dX0_reads_116 : decode cX0_reads 116 = .ok (.iadd, 1) := dk_96 (dk_at dksX0_reads_5 0 rfl rfl)
theorem dX0_reads_117 : decode cX0_reads 117 = .ok (.invokevirtual 346, 3) := dk_182 1 90 (dk_at dksX0_reads_5 1 rfl rfl)
theorem dX0_reads_120 : decode cX0_reads 120 = .ok (.istore_n 3, 1) := dk_62 (dk_at dksX0_reads_5 4 rfl rfl)
theorem dX0_reads_121 : decode cX0_reads 121 = .ok (.goto (-45), 3) := dk_167 255 211 (dk_at dksX0_reads_5 5 rfl rfl)
theorem dX0_reads_124 : decode cX0_reads 124 = .ok (.aload_n 2, 1) := dk_44 (dk_at dksX0_reads_5 8 rfl rfl)
theorem dX0_reads_125 : decode cX0_reads 125 = .ok (.getfield 354, 3) := dk_180 1 98 (dk_at dksX0_reads_5 9 rfl rfl)
theorem dX0_reads_128 : decode cX0_reads 128 = .ok (.invokevirtual 358, 3) := dk_182 1 102 (dk_at dksX0_reads_5 12 rfl rfl)
theorem dX0_reads_131 : decode cX0_reads 131 = .ok (.astore_n 3, 1) := dk_78 (dk_at dksX0_reads_5 15 rfl rfl)
theorem dX0_reads_132 : decode cX0_reads 132 = .ok (.aload_n 3, 1) := dk_45 (dk_at dksX0_reads_5 16 rfl rfl)
theorem dX0_reads_133 : decode cX0_reads 133 = .ok (.invokeinterface 364 1, 5) := by decide +kernel
theorem dX0_reads_138 : decode cX0_reads 138 = .ok (.ifCond .eq 127, 3) := dk_153 0 127 (dk_at dksX0_reads_6 0 rfl rfl)
theorem dX0_reads_141 : decode cX0_reads 141 = .ok (.aload_n 0, 1) := dk_42 (dk_at dksX0_reads_6 3 rfl rfl)
theorem dX0_reads_142 : decode cX0_reads 142 = .ok (.getfield 37, 3) := dk_180 0 37 (dk_at dksX0_reads_6 4 rfl rfl)
theorem dX0_reads_145 : decode cX0_reads 145 = .ok (.aload_n 3, 1) := dk_45 (dk_at dksX0_reads_6 7 rfl rfl)
theorem dX0_reads_146 : decode cX0_reads 146 = .ok (.invokeinterface 369 1, 5) := by decide +kernel
theorem dX0_reads_151 : decode cX0_reads 151 = .ok (.checkcast 307, 3) := dk_192 1 51 (dk_at dksX0_reads_6 13 rfl rfl)
theorem dX0_reads_154 : decode cX0_reads 154 = .ok (.invokevirtual 327, 3) := dk_182 1 71 (dk_at dksX0_reads_6 16 rfl rfl)
theorem dX0_reads_157 : decode cX0_reads 157 = .ok (.aaload, 1) := dk_50 (dk_at dksX0_reads_6 19 rfl rfl)
theorem dX0_reads_158 : decode cX0_reads 158 = .ok (.astore 4, 2) := dk_58 4 (dk_at dksX0_reads_6 20 rfl rfl)
theorem dX0_reads_160 : decode cX0_reads 160 = .ok (.aload 4, 2) := dk_25 4 (dk_at dksX0_reads_6 22 rfl rfl)
theorem dX0_reads_162 : decode cX0_reads 162 = .ok (.ifnonnull 6, 3) := dk_199 0 6 (dk_at dksX0_reads_7 0 rfl rfl)
theorem dX0_reads_165 : decode cX0_reads 165 = .ok (.goto (-33), 3) := dk_167 255 223 (dk_at dksX0_reads_7 3 rfl rfl)
theorem dX0_reads_168 : decode cX0_reads 168 = .ok (.aload_n 0, 1) := dk_42 (dk_at dksX0_reads_7 6 rfl rfl)
theorem dX0_reads_169 : decode cX0_reads 169 = .ok (.getfield 69, 3) := dk_180 0 69 (dk_at dksX0_reads_7 7 rfl rfl)
theorem dX0_reads_172 : decode cX0_reads 172 = .ok (.iload_n 1, 1) := dk_27 (dk_at dksX0_reads_7 10 rfl rfl)
theorem dX0_reads_173 : decode cX0_reads 173 = .ok (.dup2, 1) := dk_92 (dk_at dksX0_reads_7 11 rfl rfl)
theorem dX0_reads_174 : decode cX0_reads 174 = .ok (.iaload, 1) := dk_46 (dk_at dksX0_reads_7 12 rfl rfl)
theorem dX0_reads_175 : decode cX0_reads 175 = .ok (.aload_n 0, 1) := dk_42 (dk_at dksX0_reads_7 13 rfl rfl)
theorem dX0_reads_176 : decode cX0_reads 176 = .ok (.getfield 72, 3) := dk_180 0 72 (dk_at dksX0_reads_7 14 rfl rfl)
theorem dX0_reads_179 : decode cX0_reads 179 = .ok (.aload 4, 2) := dk_25 4 (dk_at dksX0_reads_7 17 rfl rfl)
theorem dX0_reads_181 : decode cX0_reads 181 = .ok (.getfield 151, 3) := dk_180 0 151 (dk_at dksX0_reads_7 19 rfl rfl)
theorem dX0_reads_184 : decode cX0_reads 184 = .ok (.iaload, 1) := dk_46 (dk_at dksX0_reads_7 22 rfl rfl)
theorem dX0_reads_185 : decode cX0_reads 185 = .ok (.iadd, 1) := dk_96 (dk_at dksX0_reads_7 23 rfl rfl)
theorem dX0_reads_186 : decode cX0_reads 186 = .ok (.iastore, 1) := dk_79 (dk_at dksX0_reads_8 0 rfl rfl)
theorem dX0_reads_187 : decode cX0_reads 187 = .ok (.aload_n 0, 1) := dk_42 (dk_at dksX0_reads_8 1 rfl rfl)
theorem dX0_reads_188 : decode cX0_reads 188 = .ok (.getfield 76, 3) := dk_180 0 76 (dk_at dksX0_reads_8 2 rfl rfl)
theorem dX0_reads_191 : decode cX0_reads 191 = .ok (.invokevirtual 342, 3) := dk_182 1 86 (dk_at dksX0_reads_8 5 rfl rfl)
theorem dX0_reads_194 : decode cX0_reads 194 = .ok (.aload_n 0, 1) := dk_42 (dk_at dksX0_reads_8 8 rfl rfl)
theorem dX0_reads_195 : decode cX0_reads 195 = .ok (.getfield 76, 3) := dk_180 0 76 (dk_at dksX0_reads_8 9 rfl rfl)
theorem dX0_reads_198 : decode cX0_reads 198 = .ok (.aload_n 0, 1) := dk_42 (dk_at dksX0_reads_8 12 rfl rfl)
theorem dX0_reads_199 : decode cX0_reads 199 = .ok (.getfield 62, 3) := dk_180 0 62 (dk_at dksX0_reads_8 13 rfl rfl)
theorem dX0_reads_202 : decode cX0_reads 202 = .ok (.aload 4, 2) := dk_25 4 (dk_at dksX0_reads_8 16 rfl rfl)
theorem dX0_reads_204 : decode cX0_reads 204 = .ok (.getfield 269, 3) := dk_180 1 13 (dk_at dksX0_reads_8 18 rfl rfl)
theorem dX0_reads_207 : decode cX0_reads 207 = .ok (.aaload, 1) := dk_50 (dk_at dksX0_reads_8 21 rfl rfl)
theorem dX0_reads_208 : decode cX0_reads 208 = .ok (.invokevirtual 350, 3) := dk_182 1 94 (dk_at dksX0_reads_9 0 rfl rfl)
theorem dX0_reads_211 : decode cX0_reads 211 = .ok (.aload_n 0, 1) := dk_42 (dk_at dksX0_reads_9 3 rfl rfl)
theorem dX0_reads_212 : decode cX0_reads 212 = .ok (.getfield 76, 3) := dk_180 0 76 (dk_at dksX0_reads_9 4 rfl rfl)
theorem dX0_reads_215 : decode cX0_reads 215 = .ok (.aload 4, 2) := dk_25 4 (dk_at dksX0_reads_9 7 rfl rfl)
theorem dX0_reads_217 : decode cX0_reads 217 = .ok (.getfield 171, 3) := dk_180 0 171 (dk_at dksX0_reads_9 9 rfl rfl)
theorem dX0_reads_220 : decode cX0_reads 220 = .ok (.getfield 175, 3) := dk_180 0 175 (dk_at dksX0_reads_9 12 rfl rfl)
theorem dX0_reads_223 : decode cX0_reads 223 = .ok (.invokevirtual 372, 3) := dk_182 1 116 (dk_at dksX0_reads_9 15 rfl rfl)
theorem dX0_reads_226 : decode cX0_reads 226 = .ok (.aload 4, 2) := dk_25 4 (dk_at dksX0_reads_9 18 rfl rfl)
theorem dX0_reads_228 : decode cX0_reads 228 = .ok (.getfield 190, 3) := dk_180 0 190 (dk_at dksX0_reads_9 20 rfl rfl)
theorem dX0_reads_231 : decode cX0_reads 231 = .ok (.ifnull 18, 3) := dk_198 0 18 (dk_at dksX0_reads_10 0 rfl rfl)
theorem dX0_reads_234 : decode cX0_reads 234 = .ok (.aload_n 0, 1) := dk_42 (dk_at dksX0_reads_10 3 rfl rfl)
theorem dX0_reads_235 : decode cX0_reads 235 = .ok (.getfield 76, 3) := dk_180 0 76 (dk_at dksX0_reads_10 4 rfl rfl)
theorem dX0_reads_238 : decode cX0_reads 238 = .ok (.aload 4, 2) := dk_25 4 (dk_at dksX0_reads_10 7 rfl rfl)
theorem dX0_reads_240 : decode cX0_reads 240 = .ok (.getfield 190, 3) := dk_180 0 190 (dk_at dksX0_reads_10 9 rfl rfl)
theorem dX0_reads_243 : decode cX0_reads 243 = .ok (.getfield 175, 3) := dk_180 0 175 (dk_at dksX0_reads_10 12 rfl rfl)
theorem dX0_reads_246 : decode cX0_reads 246 = .ok (.invokevirtual 372, 3) := dk_182 1 116 (dk_at dksX0_reads_10 15 rfl rfl)
theorem dX0_reads_249 : decode cX0_reads 249 = .ok (.aload_n 0, 1) := dk_42 (dk_at dksX0_reads_10 18 rfl rfl)
theorem dX0_reads_250 : decode cX0_reads 250 = .ok (.getfield 62, 3) := dk_180 0 62 (dk_at dksX0_reads_10 19 rfl rfl)
theorem dX0_reads_253 : decode cX0_reads 253 = .ok (.iload_n 1, 1) := dk_27 (dk_at dksX0_reads_10 22 rfl rfl)
theorem dX0_reads_254 : decode cX0_reads 254 = .ok (.aaload, 1) := dk_50 (dk_at dksX0_reads_10 23 rfl rfl)
theorem dX0_reads_255 : decode cX0_reads 255 = .ok (.aload_n 0, 1) := dk_42 (dk_at dksX0_reads_11 0 rfl rfl)
theorem dX0_reads_256 : decode cX0_reads 256 = .ok (.getfield 76, 3) := dk_180 0 76 (dk_at dksX0_reads_11 1 rfl rfl)
theorem dX0_reads_259 : decode cX0_reads 259 = .ok (.invokevirtual 350, 3) := dk_182 1 94 (dk_at dksX0_reads_11 4 rfl rfl)
theorem dX0_reads_262 : decode cX0_reads 262 = .ok (.goto (-130), 3) := dk_167 255 126 (dk_at dksX0_reads_11 7 rfl rfl)
theorem dX0_reads_265 : decode cX0_reads 265 = .ok (.return_, 1) := dk_177 (dk_at dksX0_reads_11 10 rfl rfl)
abbrev cX0_burdenOf : ByteArray := prog_1_method_23_code
def yX0_burdenOf : MethodName := ⟨RX0, "burdenOf", "(Ljava/util/BitSet;)I"⟩
def dkwX0_burdenOf_1 : List UInt8 := [96, 182, 1, 90, 62, 167, 255, 235, 28, 172]
abbrev dktX0_burdenOf_1 : List UInt8 := dkwX0_burdenOf_1 ++ []
def dkwX0_burdenOf_0 : List UInt8 := [3, 61, 43, 3, 182, 1, 90, 62, 29, 155, 0, 23, 28, 42, 180, 0, 69, 29, 46, 96, 61, 43, 29, 4]
abbrev dktX0_burdenOf_0 : List UInt8 := dkwX0_burdenOf_0 ++ dktX0_burdenOf_1
theorem dksX0_burdenOf_0 : cX0_burdenOf.data.toList.drop 0 = dktX0_burdenOf_0 := by decide +kernel
theorem dksX0_burdenOf_1 : cX0_burdenOf.data.toList.drop 24 = dktX0_burdenOf_1 := dk_seg dksX0_burdenOf_0 24 rfl rfl
theorem dX0_burdenOf_0 : decode cX0_burdenOf 0 = .ok (.iconst 0, 1) := dk_3 (dk_at dksX0_burdenOf_0 0 rfl rfl)
theorem dX0_burdenOf_1 : decode cX0_burdenOf 1 = .ok (.istore_n 2, 1) := dk_61 (dk_at dksX0_burdenOf_0 1 rfl rfl)
theorem dX0_burdenOf_2 : decode cX0_burdenOf 2 = .ok (.aload_n 1, 1) := dk_43 (dk_at dksX0_burdenOf_0 2 rfl rfl)
theorem dX0_burdenOf_3 : decode cX0_burdenOf 3 = .ok (.iconst 0, 1) := dk_3 (dk_at dksX0_burdenOf_0 3 rfl rfl)
theorem dX0_burdenOf_4 : decode cX0_burdenOf 4 = .ok (.invokevirtual 346, 3) := dk_182 1 90 (dk_at dksX0_burdenOf_0 4 rfl rfl)
theorem dX0_burdenOf_7 : decode cX0_burdenOf 7 = .ok (.istore_n 3, 1) := dk_62 (dk_at dksX0_burdenOf_0 7 rfl rfl)
theorem dX0_burdenOf_8 : decode cX0_burdenOf 8 = .ok (.iload_n 3, 1) := dk_29 (dk_at dksX0_burdenOf_0 8 rfl rfl)
theorem dX0_burdenOf_9 : decode cX0_burdenOf 9 = .ok (.ifCond .lt 23, 3) := dk_155 0 23 (dk_at dksX0_burdenOf_0 9 rfl rfl)
theorem dX0_burdenOf_12 : decode cX0_burdenOf 12 = .ok (.iload_n 2, 1) := dk_28 (dk_at dksX0_burdenOf_0 12 rfl rfl)
theorem dX0_burdenOf_13 : decode cX0_burdenOf 13 = .ok (.aload_n 0, 1) := dk_42 (dk_at dksX0_burdenOf_0 13 rfl rfl)
theorem dX0_burdenOf_14 : decode cX0_burdenOf 14 = .ok (.getfield 69, 3) := dk_180 0 69 (dk_at dksX0_burdenOf_0 14 rfl rfl)
theorem dX0_burdenOf_17 : decode cX0_burdenOf 17 = .ok (.iload_n 3, 1) := dk_29 (dk_at dksX0_burdenOf_0 17 rfl rfl)
theorem dX0_burdenOf_18 : decode cX0_burdenOf 18 = .ok (.iaload, 1) := dk_46 (dk_at dksX0_burdenOf_0 18 rfl rfl)
theorem dX0_burdenOf_19 : decode cX0_burdenOf 19 = .ok (.iadd, 1) := dk_96 (dk_at dksX0_burdenOf_0 19 rfl rfl)
theorem dX0_burdenOf_20 : decode cX0_burdenOf 20 = .ok (.istore_n 2, 1) := dk_61 (dk_at dksX0_burdenOf_0 20 rfl rfl)
theorem dX0_burdenOf_21 : decode cX0_burdenOf 21 = .ok (.aload_n 1, 1) := dk_43 (dk_at dksX0_burdenOf_0 21 rfl rfl)
theorem dX0_burdenOf_22 : decode cX0_burdenOf 22 = .ok (.iload_n 3, 1) := dk_29 (dk_at dksX0_burdenOf_0 22 rfl rfl)
theorem dX0_burdenOf_23 : decode cX0_burdenOf 23 = .ok (.iconst 1, 1) := dk_4 (dk_at dksX0_burdenOf_0 23 rfl rfl)
theorem dX0_burdenOf_24 : decode cX0_burdenOf 24 = .ok (.iadd, 1) := dk_96 (dk_at dksX0_burdenOf_1 0 rfl rfl)
theorem dX0_burdenOf_25 : decode cX0_burdenOf 25 = .ok (.invokevirtual 346, 3) := dk_182 1 90 (dk_at dksX0_burdenOf_1 1 rfl rfl)
theorem dX0_burdenOf_28 : decode cX0_burdenOf 28 = .ok (.istore_n 3, 1) := dk_62 (dk_at dksX0_burdenOf_1 4 rfl rfl)
theorem dX0_burdenOf_29 : decode cX0_burdenOf 29 = .ok (.goto (-21), 3) := dk_167 255 235 (dk_at dksX0_burdenOf_1 5 rfl rfl)
theorem dX0_burdenOf_32 : decode cX0_burdenOf 32 = .ok (.iload_n 2, 1) := dk_28 (dk_at dksX0_burdenOf_1 8 rfl rfl)
theorem dX0_burdenOf_33 : decode cX0_burdenOf 33 = .ok (.ireturn, 1) := dk_172 (dk_at dksX0_burdenOf_1 9 rfl rfl)
abbrev cX0_feed : ByteArray := prog_1_method_26_code
def yX0_feed : MethodName := ⟨RX0, "feed", "(IIIIII)I"⟩
def dkwX0_feed_7 : List UInt8 := [181, 1, 127, 132, 7, 1, 167, 255, 184, 42, 180, 1, 127, 172]
abbrev dktX0_feed_7 : List UInt8 := dkwX0_feed_7 ++ []
def dkwX0_feed_6 : List UInt8 := [21, 7, 6, 160, 0, 8, 21, 5, 167, 0, 5, 21, 6, 145, 84, 42, 89, 180, 1, 127, 4, 96]
abbrev dktX0_feed_6 : List UInt8 := dkwX0_feed_6 ++ dktX0_feed_7
def dkwX0_feed_5 : List UInt8 := [167, 0, 37, 21, 7, 4, 160, 0, 7, 29, 167, 0, 27, 21, 7, 5, 160, 0, 8, 21, 4, 167, 0, 16]
abbrev dktX0_feed_5 : List UInt8 := dkwX0_feed_5 ++ dktX0_feed_6
def dkwX0_feed_4 : List UInt8 := [54, 7, 21, 7, 27, 162, 0, 72, 42, 180, 0, 90, 42, 180, 1, 127, 21, 7, 154, 0, 7, 28]
abbrev dktX0_feed_4 : List UInt8 := dkwX0_feed_4 ++ dktX0_feed_5
def dkwX0_feed_3 : List UInt8 := [184, 0, 132, 154, 0, 6, 16, 254, 172, 42, 180, 1, 127, 27, 96, 16, 96, 164, 0, 6, 16, 252, 172, 3]
abbrev dktX0_feed_3 : List UInt8 := dkwX0_feed_3 ++ dktX0_feed_4
def dkwX0_feed_2 : List UInt8 := [153, 0, 29, 21, 5, 133, 9, 20, 1, 125, 184, 0, 132, 153, 0, 16, 21, 6, 133, 9, 20, 1, 125]
abbrev dktX0_feed_2 : List UInt8 := dkwX0_feed_2 ++ dktX0_feed_3
def dkwX0_feed_1 : List UInt8 := [29, 133, 9, 20, 1, 125, 184, 0, 132, 153, 0, 42, 21, 4, 133, 9, 20, 1, 125, 184, 0, 132]
abbrev dktX0_feed_1 : List UInt8 := dkwX0_feed_1 ++ dktX0_feed_2
def dkwX0_feed_0 : List UInt8 := [27, 133, 10, 20, 0, 136, 184, 0, 132, 153, 0, 66, 28, 133, 9, 20, 1, 125, 184, 0, 132, 153, 0, 54]
abbrev dktX0_feed_0 : List UInt8 := dkwX0_feed_0 ++ dktX0_feed_1
theorem dksX0_feed_0 : cX0_feed.data.toList.drop 0 = dktX0_feed_0 := by decide +kernel
theorem dksX0_feed_1 : cX0_feed.data.toList.drop 24 = dktX0_feed_1 := dk_seg dksX0_feed_0 24 rfl rfl
theorem dksX0_feed_2 : cX0_feed.data.toList.drop 46 = dktX0_feed_2 := dk_seg dksX0_feed_1 22 rfl rfl
theorem dksX0_feed_3 : cX0_feed.data.toList.drop 69 = dktX0_feed_3 := dk_seg dksX0_feed_2 23 rfl rfl
theorem dksX0_feed_4 : cX0_feed.data.toList.drop 93 = dktX0_feed_4 := dk_seg dksX0_feed_3 24 rfl rfl
theorem dksX0_feed_5 : cX0_feed.data.toList.drop 115 = dktX0_feed_5 := dk_seg dksX0_feed_4 22 rfl rfl
theorem dksX0_feed_6 : cX0_feed.data.toList.drop 139 = dktX0_feed_6 := dk_seg dksX0_feed_5 24 rfl rfl
theorem dksX0_feed_7 : cX0_feed.data.toList.drop 161 = dktX0_feed_7 := dk_seg dksX0_feed_6 22 rfl rfl
theorem dX0_feed_0 : decode cX0_feed 0 = .ok (.iload_n 1, 1) := dk_27 (dk_at dksX0_feed_0 0 rfl rfl)
theorem dX0_feed_1 : decode cX0_feed 1 = .ok (.i2l, 1) := dk_133 (dk_at dksX0_feed_0 1 rfl rfl)
theorem dX0_feed_2 : decode cX0_feed 2 = .ok (.lconst 1, 1) := dk_10 (dk_at dksX0_feed_0 2 rfl rfl)
theorem dX0_feed_3 : decode cX0_feed 3 = .ok (.ldc2_w 136, 3) := dk_20 0 136 (dk_at dksX0_feed_0 3 rfl rfl)
theorem dX0_feed_6 : decode cX0_feed 6 = .ok (.invokestatic 132, 3) := dk_184 0 132 (dk_at dksX0_feed_0 6 rfl rfl)
theorem dX0_feed_9 : decode cX0_feed 9 = .ok (.ifCond .eq 66, 3) := dk_153 0 66 (dk_at dksX0_feed_0 9 rfl rfl)
theorem dX0_feed_12 : decode cX0_feed 12 = .ok (.iload_n 2, 1) := dk_28 (dk_at dksX0_feed_0 12 rfl rfl)
theorem dX0_feed_13 : decode cX0_feed 13 = .ok (.i2l, 1) := dk_133 (dk_at dksX0_feed_0 13 rfl rfl)
theorem dX0_feed_14 : decode cX0_feed 14 = .ok (.lconst 0, 1) := dk_9 (dk_at dksX0_feed_0 14 rfl rfl)
theorem dX0_feed_15 : decode cX0_feed 15 = .ok (.ldc2_w 381, 3) := dk_20 1 125 (dk_at dksX0_feed_0 15 rfl rfl)
theorem dX0_feed_18 : decode cX0_feed 18 = .ok (.invokestatic 132, 3) := dk_184 0 132 (dk_at dksX0_feed_0 18 rfl rfl)
theorem dX0_feed_21 : decode cX0_feed 21 = .ok (.ifCond .eq 54, 3) := dk_153 0 54 (dk_at dksX0_feed_0 21 rfl rfl)
theorem dX0_feed_24 : decode cX0_feed 24 = .ok (.iload_n 3, 1) := dk_29 (dk_at dksX0_feed_1 0 rfl rfl)
theorem dX0_feed_25 : decode cX0_feed 25 = .ok (.i2l, 1) := dk_133 (dk_at dksX0_feed_1 1 rfl rfl)
theorem dX0_feed_26 : decode cX0_feed 26 = .ok (.lconst 0, 1) := dk_9 (dk_at dksX0_feed_1 2 rfl rfl)
theorem dX0_feed_27 : decode cX0_feed 27 = .ok (.ldc2_w 381, 3) := dk_20 1 125 (dk_at dksX0_feed_1 3 rfl rfl)
theorem dX0_feed_30 : decode cX0_feed 30 = .ok (.invokestatic 132, 3) := dk_184 0 132 (dk_at dksX0_feed_1 6 rfl rfl)
theorem dX0_feed_33 : decode cX0_feed 33 = .ok (.ifCond .eq 42, 3) := dk_153 0 42 (dk_at dksX0_feed_1 9 rfl rfl)
theorem dX0_feed_36 : decode cX0_feed 36 = .ok (.iload 4, 2) := dk_21 4 (dk_at dksX0_feed_1 12 rfl rfl)
theorem dX0_feed_38 : decode cX0_feed 38 = .ok (.i2l, 1) := dk_133 (dk_at dksX0_feed_1 14 rfl rfl)
theorem dX0_feed_39 : decode cX0_feed 39 = .ok (.lconst 0, 1) := dk_9 (dk_at dksX0_feed_1 15 rfl rfl)
theorem dX0_feed_40 : decode cX0_feed 40 = .ok (.ldc2_w 381, 3) := dk_20 1 125 (dk_at dksX0_feed_1 16 rfl rfl)
theorem dX0_feed_43 : decode cX0_feed 43 = .ok (.invokestatic 132, 3) := dk_184 0 132 (dk_at dksX0_feed_1 19 rfl rfl)
theorem dX0_feed_46 : decode cX0_feed 46 = .ok (.ifCond .eq 29, 3) := dk_153 0 29 (dk_at dksX0_feed_2 0 rfl rfl)
theorem dX0_feed_49 : decode cX0_feed 49 = .ok (.iload 5, 2) := dk_21 5 (dk_at dksX0_feed_2 3 rfl rfl)
theorem dX0_feed_51 : decode cX0_feed 51 = .ok (.i2l, 1) := dk_133 (dk_at dksX0_feed_2 5 rfl rfl)
theorem dX0_feed_52 : decode cX0_feed 52 = .ok (.lconst 0, 1) := dk_9 (dk_at dksX0_feed_2 6 rfl rfl)
theorem dX0_feed_53 : decode cX0_feed 53 = .ok (.ldc2_w 381, 3) := dk_20 1 125 (dk_at dksX0_feed_2 7 rfl rfl)
theorem dX0_feed_56 : decode cX0_feed 56 = .ok (.invokestatic 132, 3) := dk_184 0 132 (dk_at dksX0_feed_2 10 rfl rfl)
theorem dX0_feed_59 : decode cX0_feed 59 = .ok (.ifCond .eq 16, 3) := dk_153 0 16 (dk_at dksX0_feed_2 13 rfl rfl)
theorem dX0_feed_62 : decode cX0_feed 62 = .ok (.iload 6, 2) := dk_21 6 (dk_at dksX0_feed_2 16 rfl rfl)
theorem dX0_feed_64 : decode cX0_feed 64 = .ok (.i2l, 1) := dk_133 (dk_at dksX0_feed_2 18 rfl rfl)
theorem dX0_feed_65 : decode cX0_feed 65 = .ok (.lconst 0, 1) := dk_9 (dk_at dksX0_feed_2 19 rfl rfl)
theorem dX0_feed_66 : decode cX0_feed 66 = .ok (.ldc2_w 381, 3) := dk_20 1 125 (dk_at dksX0_feed_2 20 rfl rfl)
theorem dX0_feed_69 : decode cX0_feed 69 = .ok (.invokestatic 132, 3) := dk_184 0 132 (dk_at dksX0_feed_3 0 rfl rfl)
theorem dX0_feed_72 : decode cX0_feed 72 = .ok (.ifCond .ne 6, 3) := dk_154 0 6 (dk_at dksX0_feed_3 3 rfl rfl)
theorem dX0_feed_75 : decode cX0_feed 75 = .ok (.bipush (-2), 2) := dk_16 254 (dk_at dksX0_feed_3 6 rfl rfl)
theorem dX0_feed_77 : decode cX0_feed 77 = .ok (.ireturn, 1) := dk_172 (dk_at dksX0_feed_3 8 rfl rfl)
theorem dX0_feed_78 : decode cX0_feed 78 = .ok (.aload_n 0, 1) := dk_42 (dk_at dksX0_feed_3 9 rfl rfl)
theorem dX0_feed_79 : decode cX0_feed 79 = .ok (.getfield 383, 3) := dk_180 1 127 (dk_at dksX0_feed_3 10 rfl rfl)
theorem dX0_feed_82 : decode cX0_feed 82 = .ok (.iload_n 1, 1) := dk_27 (dk_at dksX0_feed_3 13 rfl rfl)
theorem dX0_feed_83 : decode cX0_feed 83 = .ok (.iadd, 1) := dk_96 (dk_at dksX0_feed_3 14 rfl rfl)
theorem dX0_feed_84 : decode cX0_feed 84 = .ok (.bipush 96, 2) := dk_16 96 (dk_at dksX0_feed_3 15 rfl rfl)
theorem dX0_feed_86 : decode cX0_feed 86 = .ok (.if_icmp .le 6, 3) := dk_164 0 6 (dk_at dksX0_feed_3 17 rfl rfl)
theorem dX0_feed_89 : decode cX0_feed 89 = .ok (.bipush (-4), 2) := dk_16 252 (dk_at dksX0_feed_3 20 rfl rfl)
theorem dX0_feed_91 : decode cX0_feed 91 = .ok (.ireturn, 1) := dk_172 (dk_at dksX0_feed_3 22 rfl rfl)
theorem dX0_feed_92 : decode cX0_feed 92 = .ok (.iconst 0, 1) := dk_3 (dk_at dksX0_feed_3 23 rfl rfl)
theorem dX0_feed_93 : decode cX0_feed 93 = .ok (.istore 7, 2) := dk_54 7 (dk_at dksX0_feed_4 0 rfl rfl)
theorem dX0_feed_95 : decode cX0_feed 95 = .ok (.iload 7, 2) := dk_21 7 (dk_at dksX0_feed_4 2 rfl rfl)
theorem dX0_feed_97 : decode cX0_feed 97 = .ok (.iload_n 1, 1) := dk_27 (dk_at dksX0_feed_4 4 rfl rfl)
theorem dX0_feed_98 : decode cX0_feed 98 = .ok (.if_icmp .ge 72, 3) := dk_162 0 72 (dk_at dksX0_feed_4 5 rfl rfl)
theorem dX0_feed_101 : decode cX0_feed 101 = .ok (.aload_n 0, 1) := dk_42 (dk_at dksX0_feed_4 8 rfl rfl)
theorem dX0_feed_102 : decode cX0_feed 102 = .ok (.getfield 90, 3) := dk_180 0 90 (dk_at dksX0_feed_4 9 rfl rfl)
theorem dX0_feed_105 : decode cX0_feed 105 = .ok (.aload_n 0, 1) := dk_42 (dk_at dksX0_feed_4 12 rfl rfl)
theorem dX0_feed_106 : decode cX0_feed 106 = .ok (.getfield 383, 3) := dk_180 1 127 (dk_at dksX0_feed_4 13 rfl rfl)
theorem dX0_feed_109 : decode cX0_feed 109 = .ok (.iload 7, 2) := dk_21 7 (dk_at dksX0_feed_4 16 rfl rfl)
theorem dX0_feed_111 : decode cX0_feed 111 = .ok (.ifCond .ne 7, 3) := dk_154 0 7 (dk_at dksX0_feed_4 18 rfl rfl)
theorem dX0_feed_114 : decode cX0_feed 114 = .ok (.iload_n 2, 1) := dk_28 (dk_at dksX0_feed_4 21 rfl rfl)
theorem dX0_feed_115 : decode cX0_feed 115 = .ok (.goto 37, 3) := dk_167 0 37 (dk_at dksX0_feed_5 0 rfl rfl)
theorem dX0_feed_118 : decode cX0_feed 118 = .ok (.iload 7, 2) := dk_21 7 (dk_at dksX0_feed_5 3 rfl rfl)
theorem dX0_feed_120 : decode cX0_feed 120 = .ok (.iconst 1, 1) := dk_4 (dk_at dksX0_feed_5 5 rfl rfl)
theorem dX0_feed_121 : decode cX0_feed 121 = .ok (.if_icmp .ne 7, 3) := dk_160 0 7 (dk_at dksX0_feed_5 6 rfl rfl)
theorem dX0_feed_124 : decode cX0_feed 124 = .ok (.iload_n 3, 1) := dk_29 (dk_at dksX0_feed_5 9 rfl rfl)
theorem dX0_feed_125 : decode cX0_feed 125 = .ok (.goto 27, 3) := dk_167 0 27 (dk_at dksX0_feed_5 10 rfl rfl)
theorem dX0_feed_128 : decode cX0_feed 128 = .ok (.iload 7, 2) := dk_21 7 (dk_at dksX0_feed_5 13 rfl rfl)
theorem dX0_feed_130 : decode cX0_feed 130 = .ok (.iconst 2, 1) := dk_5 (dk_at dksX0_feed_5 15 rfl rfl)
theorem dX0_feed_131 : decode cX0_feed 131 = .ok (.if_icmp .ne 8, 3) := dk_160 0 8 (dk_at dksX0_feed_5 16 rfl rfl)
theorem dX0_feed_134 : decode cX0_feed 134 = .ok (.iload 4, 2) := dk_21 4 (dk_at dksX0_feed_5 19 rfl rfl)
theorem dX0_feed_136 : decode cX0_feed 136 = .ok (.goto 16, 3) := dk_167 0 16 (dk_at dksX0_feed_5 21 rfl rfl)
theorem dX0_feed_139 : decode cX0_feed 139 = .ok (.iload 7, 2) := dk_21 7 (dk_at dksX0_feed_6 0 rfl rfl)
theorem dX0_feed_141 : decode cX0_feed 141 = .ok (.iconst 3, 1) := dk_6 (dk_at dksX0_feed_6 2 rfl rfl)
theorem dX0_feed_142 : decode cX0_feed 142 = .ok (.if_icmp .ne 8, 3) := dk_160 0 8 (dk_at dksX0_feed_6 3 rfl rfl)
theorem dX0_feed_145 : decode cX0_feed 145 = .ok (.iload 5, 2) := dk_21 5 (dk_at dksX0_feed_6 6 rfl rfl)
theorem dX0_feed_147 : decode cX0_feed 147 = .ok (.goto 5, 3) := dk_167 0 5 (dk_at dksX0_feed_6 8 rfl rfl)
theorem dX0_feed_150 : decode cX0_feed 150 = .ok (.iload 6, 2) := dk_21 6 (dk_at dksX0_feed_6 11 rfl rfl)
theorem dX0_feed_152 : decode cX0_feed 152 = .ok (.i2b, 1) := dk_145 (dk_at dksX0_feed_6 13 rfl rfl)
theorem dX0_feed_153 : decode cX0_feed 153 = .ok (.bastore, 1) := dk_84 (dk_at dksX0_feed_6 14 rfl rfl)
theorem dX0_feed_154 : decode cX0_feed 154 = .ok (.aload_n 0, 1) := dk_42 (dk_at dksX0_feed_6 15 rfl rfl)
theorem dX0_feed_155 : decode cX0_feed 155 = .ok (.dup, 1) := dk_89 (dk_at dksX0_feed_6 16 rfl rfl)
theorem dX0_feed_156 : decode cX0_feed 156 = .ok (.getfield 383, 3) := dk_180 1 127 (dk_at dksX0_feed_6 17 rfl rfl)
theorem dX0_feed_159 : decode cX0_feed 159 = .ok (.iconst 1, 1) := dk_4 (dk_at dksX0_feed_6 20 rfl rfl)
theorem dX0_feed_160 : decode cX0_feed 160 = .ok (.iadd, 1) := dk_96 (dk_at dksX0_feed_6 21 rfl rfl)
theorem dX0_feed_161 : decode cX0_feed 161 = .ok (.putfield 383, 3) := dk_181 1 127 (dk_at dksX0_feed_7 0 rfl rfl)
theorem dX0_feed_164 : decode cX0_feed 164 = .ok (.iinc 7 1, 3) := dk_132 7 1 (dk_at dksX0_feed_7 3 rfl rfl)
theorem dX0_feed_167 : decode cX0_feed 167 = .ok (.goto (-72), 3) := dk_167 255 184 (dk_at dksX0_feed_7 6 rfl rfl)
theorem dX0_feed_170 : decode cX0_feed 170 = .ok (.aload_n 0, 1) := dk_42 (dk_at dksX0_feed_7 9 rfl rfl)
theorem dX0_feed_171 : decode cX0_feed 171 = .ok (.getfield 383, 3) := dk_180 1 127 (dk_at dksX0_feed_7 10 rfl rfl)
theorem dX0_feed_174 : decode cX0_feed 174 = .ok (.ireturn, 1) := dk_172 (dk_at dksX0_feed_7 13 rfl rfl)
abbrev cX0_in : ByteArray := prog_1_method_1_code
def yX0_in : MethodName := ⟨RX0, "in", "(JJJ)Z"⟩
def dkwX0_in_0 : List UInt8 := [30, 32, 148, 155, 0, 14, 30, 22, 4, 148, 157, 0, 7, 4, 167, 0, 4, 3, 172]
abbrev dktX0_in_0 : List UInt8 := dkwX0_in_0 ++ []
theorem dksX0_in_0 : cX0_in.data.toList.drop 0 = dktX0_in_0 := by decide +kernel
theorem dX0_in_0 : decode cX0_in 0 = .ok (.lload_n 0, 1) := dk_30 (dk_at dksX0_in_0 0 rfl rfl)
theorem dX0_in_1 : decode cX0_in 1 = .ok (.lload_n 2, 1) := dk_32 (dk_at dksX0_in_0 1 rfl rfl)
theorem dX0_in_2 : decode cX0_in 2 = .ok (.lcmp, 1) := dk_148 (dk_at dksX0_in_0 2 rfl rfl)
theorem dX0_in_3 : decode cX0_in 3 = .ok (.ifCond .lt 14, 3) := dk_155 0 14 (dk_at dksX0_in_0 3 rfl rfl)
theorem dX0_in_6 : decode cX0_in 6 = .ok (.lload_n 0, 1) := dk_30 (dk_at dksX0_in_0 6 rfl rfl)
theorem dX0_in_7 : decode cX0_in 7 = .ok (.lload 4, 2) := dk_22 4 (dk_at dksX0_in_0 7 rfl rfl)
theorem dX0_in_9 : decode cX0_in 9 = .ok (.lcmp, 1) := dk_148 (dk_at dksX0_in_0 9 rfl rfl)
theorem dX0_in_10 : decode cX0_in 10 = .ok (.ifCond .gt 7, 3) := dk_157 0 7 (dk_at dksX0_in_0 10 rfl rfl)
theorem dX0_in_13 : decode cX0_in 13 = .ok (.iconst 1, 1) := dk_4 (dk_at dksX0_in_0 13 rfl rfl)
theorem dX0_in_14 : decode cX0_in 14 = .ok (.goto 4, 3) := dk_167 0 4 (dk_at dksX0_in_0 14 rfl rfl)
theorem dX0_in_17 : decode cX0_in 17 = .ok (.iconst 0, 1) := dk_3 (dk_at dksX0_in_0 17 rfl rfl)
theorem dX0_in_18 : decode cX0_in 18 = .ok (.ireturn, 1) := dk_172 (dk_at dksX0_in_0 18 rfl rfl)
abbrev cX0_formula : ByteArray := prog_1_method_28_code
def yX0_formula : MethodName := ⟨RX0, "formula", "(I)I"⟩
def dkwX0_formula_7 : List UInt8 := [87, 25, 9, 191]
abbrev dktX0_formula_7 : List UInt8 := dkwX0_formula_7 ++ []
def dkwX0_formula_6 : List UInt8 := [58, 9, 21, 7, 4, 159, 0, 20, 45, 25, 4, 181, 0, 239, 45, 24, 5, 181, 0, 209, 42, 182, 0, 126]
abbrev dktX0_formula_6 : List UInt8 := dkwX0_formula_6 ++ dktX0_formula_7
def dkwX0_formula_5 : List UInt8 := [159, 0, 20, 45, 25, 4, 181, 0, 239, 45, 24, 5, 181, 0, 209, 42, 182, 0, 126, 87, 21, 8, 172]
abbrev dktX0_formula_5 : List UInt8 := dkwX0_formula_5 ++ dktX0_formula_6
def dkwX0_formula_4 : List UInt8 := [181, 0, 239, 45, 20, 1, 152, 181, 0, 209, 42, 182, 0, 126, 54, 7, 21, 7, 54, 8, 21, 7, 4]
abbrev dktX0_formula_4 : List UInt8 := dkwX0_formula_4 ++ dktX0_formula_5
def dkwX0_formula_3 : List UInt8 := [180, 0, 31, 27, 50, 78, 45, 180, 0, 239, 58, 4, 45, 180, 0, 209, 57, 5, 2, 54, 7, 45, 44]
abbrev dktX0_formula_3 : List UInt8 := dkwX0_formula_3 ++ dktX0_formula_4
def dkwX0_formula_2 : List UInt8 := [58, 5, 42, 3, 181, 1, 127, 25, 5, 191, 42, 27, 182, 1, 149, 153, 0, 6, 16, 253, 172, 42]
abbrev dktX0_formula_2 : List UInt8 := dkwX0_formula_2 ++ dktX0_formula_3
def dkwX0_formula_1 : List UInt8 := [181, 1, 127, 167, 0, 31, 78, 16, 156, 45, 180, 1, 147, 100, 54, 4, 42, 3, 181, 1, 127, 21, 4, 172]
abbrev dktX0_formula_1 : List UInt8 := dkwX0_formula_1 ++ dktX0_formula_2
def dkwX0_formula_0 : List UInt8 := [27, 184, 1, 133, 154, 0, 6, 16, 254, 172, 187, 1, 136, 89, 42, 183, 1, 138, 182, 1, 141, 77, 42, 3]
abbrev dktX0_formula_0 : List UInt8 := dkwX0_formula_0 ++ dktX0_formula_1
theorem dksX0_formula_0 : cX0_formula.data.toList.drop 0 = dktX0_formula_0 := by decide +kernel
theorem dksX0_formula_1 : cX0_formula.data.toList.drop 24 = dktX0_formula_1 := dk_seg dksX0_formula_0 24 rfl rfl
theorem dksX0_formula_2 : cX0_formula.data.toList.drop 48 = dktX0_formula_2 := dk_seg dksX0_formula_1 24 rfl rfl
theorem dksX0_formula_3 : cX0_formula.data.toList.drop 70 = dktX0_formula_3 := dk_seg dksX0_formula_2 22 rfl rfl
theorem dksX0_formula_4 : cX0_formula.data.toList.drop 93 = dktX0_formula_4 := dk_seg dksX0_formula_3 23 rfl rfl
theorem dksX0_formula_5 : cX0_formula.data.toList.drop 116 = dktX0_formula_5 := dk_seg dksX0_formula_4 23 rfl rfl
theorem dksX0_formula_6 : cX0_formula.data.toList.drop 139 = dktX0_formula_6 := dk_seg dksX0_formula_5 23 rfl rfl
theorem dksX0_formula_7 : cX0_formula.data.toList.drop 163 = dktX0_formula_7 := dk_seg dksX0_formula_6 24 rfl rfl
theorem dX0_formula_0 : decode cX0_formula 0 = .ok (.iload_n 1, 1) := dk_27 (dk_at dksX0_formula_0 0 rfl rfl)
theorem dX0_formula_1 : decode cX0_formula 1 = .ok (.invokestatic 389, 3) := dk_184 1 133 (dk_at dksX0_formula_0 1 rfl rfl)
theorem dX0_formula_4 : decode cX0_formula 4 = .ok (.ifCond .ne 6, 3) := dk_154 0 6 (dk_at dksX0_formula_0 4 rfl rfl)
theorem dX0_formula_7 : decode cX0_formula 7 = .ok (.bipush (-2), 2) := dk_16 254 (dk_at dksX0_formula_0 7 rfl rfl)
theorem dX0_formula_9 : decode cX0_formula 9 = .ok (.ireturn, 1) := dk_172 (dk_at dksX0_formula_0 9 rfl rfl)
theorem dX0_formula_10 : decode cX0_formula 10 = .ok (.new 392, 3) := dk_187 1 136 (dk_at dksX0_formula_0 10 rfl rfl)
theorem dX0_formula_13 : decode cX0_formula 13 = .ok (.dup, 1) := dk_89 (dk_at dksX0_formula_0 13 rfl rfl)
theorem dX0_formula_14 : decode cX0_formula 14 = .ok (.aload_n 0, 1) := dk_42 (dk_at dksX0_formula_0 14 rfl rfl)
theorem dX0_formula_15 : decode cX0_formula 15 = .ok (.invokespecial 394, 3) := dk_183 1 138 (dk_at dksX0_formula_0 15 rfl rfl)
theorem dX0_formula_18 : decode cX0_formula 18 = .ok (.invokevirtual 397, 3) := dk_182 1 141 (dk_at dksX0_formula_0 18 rfl rfl)
theorem dX0_formula_21 : decode cX0_formula 21 = .ok (.astore_n 2, 1) := dk_77 (dk_at dksX0_formula_0 21 rfl rfl)
theorem dX0_formula_22 : decode cX0_formula 22 = .ok (.aload_n 0, 1) := dk_42 (dk_at dksX0_formula_0 22 rfl rfl)
theorem dX0_formula_23 : decode cX0_formula 23 = .ok (.iconst 0, 1) := dk_3 (dk_at dksX0_formula_0 23 rfl rfl)
theorem dX0_formula_24 : decode cX0_formula 24 = .ok (.putfield 383, 3) := dk_181 1 127 (dk_at dksX0_formula_1 0 rfl rfl)
theorem dX0_formula_27 : decode cX0_formula 27 = .ok (.goto 31, 3) := dk_167 0 31 (dk_at dksX0_formula_1 3 rfl rfl)
theorem dX0_formula_30 : decode cX0_formula 30 = .ok (.astore_n 3, 1) := dk_78 (dk_at dksX0_formula_1 6 rfl rfl)
theorem dX0_formula_31 : decode cX0_formula 31 = .ok (.bipush (-100), 2) := dk_16 156 (dk_at dksX0_formula_1 7 rfl rfl)
theorem dX0_formula_33 : decode cX0_formula 33 = .ok (.aload_n 3, 1) := dk_45 (dk_at dksX0_formula_1 9 rfl rfl)
theorem dX0_formula_34 : decode cX0_formula 34 = .ok (.getfield 403, 3) := dk_180 1 147 (dk_at dksX0_formula_1 10 rfl rfl)
theorem dX0_formula_37 : decode cX0_formula 37 = .ok (.isub, 1) := dk_100 (dk_at dksX0_formula_1 13 rfl rfl)
theorem dX0_formula_38 : decode cX0_formula 38 = .ok (.istore 4, 2) := dk_54 4 (dk_at dksX0_formula_1 14 rfl rfl)
theorem dX0_formula_40 : decode cX0_formula 40 = .ok (.aload_n 0, 1) := dk_42 (dk_at dksX0_formula_1 16 rfl rfl)
theorem dX0_formula_41 : decode cX0_formula 41 = .ok (.iconst 0, 1) := dk_3 (dk_at dksX0_formula_1 17 rfl rfl)
theorem dX0_formula_42 : decode cX0_formula 42 = .ok (.putfield 383, 3) := dk_181 1 127 (dk_at dksX0_formula_1 18 rfl rfl)
theorem dX0_formula_45 : decode cX0_formula 45 = .ok (.iload 4, 2) := dk_21 4 (dk_at dksX0_formula_1 21 rfl rfl)
theorem dX0_formula_47 : decode cX0_formula 47 = .ok (.ireturn, 1) := dk_172 (dk_at dksX0_formula_1 23 rfl rfl)
theorem dX0_formula_48 : decode cX0_formula 48 = .ok (.astore 5, 2) := dk_58 5 (dk_at dksX0_formula_2 0 rfl rfl)
theorem dX0_formula_50 : decode cX0_formula 50 = .ok (.aload_n 0, 1) := dk_42 (dk_at dksX0_formula_2 2 rfl rfl)
theorem dX0_formula_51 : decode cX0_formula 51 = .ok (.iconst 0, 1) := dk_3 (dk_at dksX0_formula_2 3 rfl rfl)
theorem dX0_formula_52 : decode cX0_formula 52 = .ok (.putfield 383, 3) := dk_181 1 127 (dk_at dksX0_formula_2 4 rfl rfl)
theorem dX0_formula_55 : decode cX0_formula 55 = .ok (.aload 5, 2) := dk_25 5 (dk_at dksX0_formula_2 7 rfl rfl)
theorem dX0_formula_57 : decode cX0_formula 57 = .ok (.athrow, 1) := dk_191 (dk_at dksX0_formula_2 9 rfl rfl)
theorem dX0_formula_58 : decode cX0_formula 58 = .ok (.aload_n 0, 1) := dk_42 (dk_at dksX0_formula_2 10 rfl rfl)
theorem dX0_formula_59 : decode cX0_formula 59 = .ok (.iload_n 1, 1) := dk_27 (dk_at dksX0_formula_2 11 rfl rfl)
theorem dX0_formula_60 : decode cX0_formula 60 = .ok (.invokevirtual 405, 3) := dk_182 1 149 (dk_at dksX0_formula_2 12 rfl rfl)
theorem dX0_formula_63 : decode cX0_formula 63 = .ok (.ifCond .eq 6, 3) := dk_153 0 6 (dk_at dksX0_formula_2 15 rfl rfl)
theorem dX0_formula_66 : decode cX0_formula 66 = .ok (.bipush (-3), 2) := dk_16 253 (dk_at dksX0_formula_2 18 rfl rfl)
theorem dX0_formula_68 : decode cX0_formula 68 = .ok (.ireturn, 1) := dk_172 (dk_at dksX0_formula_2 20 rfl rfl)
theorem dX0_formula_69 : decode cX0_formula 69 = .ok (.aload_n 0, 1) := dk_42 (dk_at dksX0_formula_2 21 rfl rfl)
theorem dX0_formula_70 : decode cX0_formula 70 = .ok (.getfield 31, 3) := dk_180 0 31 (dk_at dksX0_formula_3 0 rfl rfl)
theorem dX0_formula_73 : decode cX0_formula 73 = .ok (.iload_n 1, 1) := dk_27 (dk_at dksX0_formula_3 3 rfl rfl)
theorem dX0_formula_74 : decode cX0_formula 74 = .ok (.aaload, 1) := dk_50 (dk_at dksX0_formula_3 4 rfl rfl)
theorem dX0_formula_75 : decode cX0_formula 75 = .ok (.astore_n 3, 1) := dk_78 (dk_at dksX0_formula_3 5 rfl rfl)
theorem dX0_formula_76 : decode cX0_formula 76 = .ok (.aload_n 3, 1) := dk_45 (dk_at dksX0_formula_3 6 rfl rfl)
theorem dX0_formula_77 : decode cX0_formula 77 = .ok (.getfield 239, 3) := dk_180 0 239 (dk_at dksX0_formula_3 7 rfl rfl)
theorem dX0_formula_80 : decode cX0_formula 80 = .ok (.astore 4, 2) := dk_58 4 (dk_at dksX0_formula_3 10 rfl rfl)
theorem dX0_formula_82 : decode cX0_formula 82 = .ok (.aload_n 3, 1) := dk_45 (dk_at dksX0_formula_3 12 rfl rfl)
theorem dX0_formula_83 : decode cX0_formula 83 = .ok (.getfield 209, 3) := dk_180 0 209 (dk_at dksX0_formula_3 13 rfl rfl)
theorem dX0_formula_86 : decode cX0_formula 86 = .ok (.dstore 5, 2) := dk_57 5 (dk_at dksX0_formula_3 16 rfl rfl)
theorem dX0_formula_88 : decode cX0_formula 88 = .ok (.iconst (-1), 1) := dk_2 (dk_at dksX0_formula_3 18 rfl rfl)
theorem dX0_formula_89 : decode cX0_formula 89 = .ok (.istore 7, 2) := dk_54 7 (dk_at dksX0_formula_3 19 rfl rfl)
theorem dX0_formula_91 : decode cX0_formula 91 = .ok (.aload_n 3, 1) := dk_45 (dk_at dksX0_formula_3 21 rfl rfl)
theorem dX0_formula_92 : decode cX0_formula 92 = .ok (.aload_n 2, 1) := dk_44 (dk_at dksX0_formula_3 22 rfl rfl)
theorem dX0_formula_93 : decode cX0_formula 93 = .ok (.putfield 239, 3) := dk_181 0 239 (dk_at dksX0_formula_4 0 rfl rfl)
theorem dX0_formula_96 : decode cX0_formula 96 = .ok (.aload_n 3, 1) := dk_45 (dk_at dksX0_formula_4 3 rfl rfl)
theorem dX0_formula_97 : decode cX0_formula 97 = .ok (.ldc2_w 408, 3) := dk_20 1 152 (dk_at dksX0_formula_4 4 rfl rfl)
theorem dX0_formula_100 : decode cX0_formula 100 = .ok (.putfield 209, 3) := dk_181 0 209 (dk_at dksX0_formula_4 7 rfl rfl)
theorem dX0_formula_103 : decode cX0_formula 103 = .ok (.aload_n 0, 1) := dk_42 (dk_at dksX0_formula_4 10 rfl rfl)
theorem dX0_formula_104 : decode cX0_formula 104 = .ok (.invokevirtual 126, 3) := dk_182 0 126 (dk_at dksX0_formula_4 11 rfl rfl)
theorem dX0_formula_107 : decode cX0_formula 107 = .ok (.istore 7, 2) := dk_54 7 (dk_at dksX0_formula_4 14 rfl rfl)
theorem dX0_formula_109 : decode cX0_formula 109 = .ok (.iload 7, 2) := dk_21 7 (dk_at dksX0_formula_4 16 rfl rfl)
theorem dX0_formula_111 : decode cX0_formula 111 = .ok (.istore 8, 2) := dk_54 8 (dk_at dksX0_formula_4 18 rfl rfl)
theorem dX0_formula_113 : decode cX0_formula 113 = .ok (.iload 7, 2) := dk_21 7 (dk_at dksX0_formula_4 20 rfl rfl)
theorem dX0_formula_115 : decode cX0_formula 115 = .ok (.iconst 1, 1) := dk_4 (dk_at dksX0_formula_4 22 rfl rfl)
theorem dX0_formula_116 : decode cX0_formula 116 = .ok (.if_icmp .eq 20, 3) := dk_159 0 20 (dk_at dksX0_formula_5 0 rfl rfl)
theorem dX0_formula_119 : decode cX0_formula 119 = .ok (.aload_n 3, 1) := dk_45 (dk_at dksX0_formula_5 3 rfl rfl)
theorem dX0_formula_120 : decode cX0_formula 120 = .ok (.aload 4, 2) := dk_25 4 (dk_at dksX0_formula_5 4 rfl rfl)
theorem dX0_formula_122 : decode cX0_formula 122 = .ok (.putfield 239, 3) := dk_181 0 239 (dk_at dksX0_formula_5 6 rfl rfl)
theorem dX0_formula_125 : decode cX0_formula 125 = .ok (.aload_n 3, 1) := dk_45 (dk_at dksX0_formula_5 9 rfl rfl)
theorem dX0_formula_126 : decode cX0_formula 126 = .ok (.dload 5, 2) := dk_24 5 (dk_at dksX0_formula_5 10 rfl rfl)
theorem dX0_formula_128 : decode cX0_formula 128 = .ok (.putfield 209, 3) := dk_181 0 209 (dk_at dksX0_formula_5 12 rfl rfl)
theorem dX0_formula_131 : decode cX0_formula 131 = .ok (.aload_n 0, 1) := dk_42 (dk_at dksX0_formula_5 15 rfl rfl)
theorem dX0_formula_132 : decode cX0_formula 132 = .ok (.invokevirtual 126, 3) := dk_182 0 126 (dk_at dksX0_formula_5 16 rfl rfl)
theorem dX0_formula_135 : decode cX0_formula 135 = .ok (.pop, 1) := dk_87 (dk_at dksX0_formula_5 19 rfl rfl)
theorem dX0_formula_136 : decode cX0_formula 136 = .ok (.iload 8, 2) := dk_21 8 (dk_at dksX0_formula_5 20 rfl rfl)
theorem dX0_formula_138 : decode cX0_formula 138 = .ok (.ireturn, 1) := dk_172 (dk_at dksX0_formula_5 22 rfl rfl)
theorem dX0_formula_139 : decode cX0_formula 139 = .ok (.astore 9, 2) := dk_58 9 (dk_at dksX0_formula_6 0 rfl rfl)
theorem dX0_formula_141 : decode cX0_formula 141 = .ok (.iload 7, 2) := dk_21 7 (dk_at dksX0_formula_6 2 rfl rfl)
theorem dX0_formula_143 : decode cX0_formula 143 = .ok (.iconst 1, 1) := dk_4 (dk_at dksX0_formula_6 4 rfl rfl)
theorem dX0_formula_144 : decode cX0_formula 144 = .ok (.if_icmp .eq 20, 3) := dk_159 0 20 (dk_at dksX0_formula_6 5 rfl rfl)
theorem dX0_formula_147 : decode cX0_formula 147 = .ok (.aload_n 3, 1) := dk_45 (dk_at dksX0_formula_6 8 rfl rfl)
theorem dX0_formula_148 : decode cX0_formula 148 = .ok (.aload 4, 2) := dk_25 4 (dk_at dksX0_formula_6 9 rfl rfl)
theorem dX0_formula_150 : decode cX0_formula 150 = .ok (.putfield 239, 3) := dk_181 0 239 (dk_at dksX0_formula_6 11 rfl rfl)
theorem dX0_formula_153 : decode cX0_formula 153 = .ok (.aload_n 3, 1) := dk_45 (dk_at dksX0_formula_6 14 rfl rfl)
theorem dX0_formula_154 : decode cX0_formula 154 = .ok (.dload 5, 2) := dk_24 5 (dk_at dksX0_formula_6 15 rfl rfl)
theorem dX0_formula_156 : decode cX0_formula 156 = .ok (.putfield 209, 3) := dk_181 0 209 (dk_at dksX0_formula_6 17 rfl rfl)
theorem dX0_formula_159 : decode cX0_formula 159 = .ok (.aload_n 0, 1) := dk_42 (dk_at dksX0_formula_6 20 rfl rfl)
theorem dX0_formula_160 : decode cX0_formula 160 = .ok (.invokevirtual 126, 3) := dk_182 0 126 (dk_at dksX0_formula_6 21 rfl rfl)
theorem dX0_formula_163 : decode cX0_formula 163 = .ok (.pop, 1) := dk_87 (dk_at dksX0_formula_7 0 rfl rfl)
theorem dX0_formula_164 : decode cX0_formula 164 = .ok (.aload 9, 2) := dk_25 9 (dk_at dksX0_formula_7 1 rfl rfl)
theorem dX0_formula_166 : decode cX0_formula 166 = .ok (.athrow, 1) := dk_191 (dk_at dksX0_formula_7 3 rfl rfl)
abbrev cX0_isCell : ByteArray := prog_1_method_4_code
def yX0_isCell : MethodName := ⟨RX0, "isCell", "(I)Z"⟩
def dkwX0_isCell_0 : List UInt8 := [26, 133, 9, 20, 0, 130, 184, 0, 132, 172]
abbrev dktX0_isCell_0 : List UInt8 := dkwX0_isCell_0 ++ []
theorem dksX0_isCell_0 : cX0_isCell.data.toList.drop 0 = dktX0_isCell_0 := by decide +kernel
theorem dX0_isCell_0 : decode cX0_isCell 0 = .ok (.iload_n 0, 1) := dk_26 (dk_at dksX0_isCell_0 0 rfl rfl)
theorem dX0_isCell_1 : decode cX0_isCell 1 = .ok (.i2l, 1) := dk_133 (dk_at dksX0_isCell_0 1 rfl rfl)
theorem dX0_isCell_2 : decode cX0_isCell 2 = .ok (.lconst 0, 1) := dk_9 (dk_at dksX0_isCell_0 2 rfl rfl)
theorem dX0_isCell_3 : decode cX0_isCell 3 = .ok (.ldc2_w 130, 3) := dk_20 0 130 (dk_at dksX0_isCell_0 3 rfl rfl)
theorem dX0_isCell_6 : decode cX0_isCell 6 = .ok (.invokestatic 132, 3) := dk_184 0 132 (dk_at dksX0_isCell_0 6 rfl rfl)
theorem dX0_isCell_9 : decode cX0_isCell 9 = .ok (.ireturn, 1) := dk_172 (dk_at dksX0_isCell_0 9 rfl rfl)
abbrev cX0_isVaried : ByteArray := prog_1_method_27_code
def yX0_isVaried : MethodName := ⟨RX0, "isVaried", "(I)Z"⟩
def dkwX0_isVaried_1 : List UInt8 := [25, 5, 198, 0, 14, 25, 5, 27, 182, 1, 130, 153, 0, 5, 4, 172, 132, 4, 1, 167, 255, 225, 3, 172]
abbrev dktX0_isVaried_1 : List UInt8 := dkwX0_isVaried_1 ++ []
def dkwX0_isVaried_0 : List UInt8 := [42, 180, 0, 37, 77, 44, 190, 62, 3, 54, 4, 21, 4, 29, 162, 0, 31, 44, 21, 4, 50, 58, 5]
abbrev dktX0_isVaried_0 : List UInt8 := dkwX0_isVaried_0 ++ dktX0_isVaried_1
theorem dksX0_isVaried_0 : cX0_isVaried.data.toList.drop 0 = dktX0_isVaried_0 := by decide +kernel
theorem dksX0_isVaried_1 : cX0_isVaried.data.toList.drop 23 = dktX0_isVaried_1 := dk_seg dksX0_isVaried_0 23 rfl rfl
theorem dX0_isVaried_0 : decode cX0_isVaried 0 = .ok (.aload_n 0, 1) := dk_42 (dk_at dksX0_isVaried_0 0 rfl rfl)
theorem dX0_isVaried_1 : decode cX0_isVaried 1 = .ok (.getfield 37, 3) := dk_180 0 37 (dk_at dksX0_isVaried_0 1 rfl rfl)
theorem dX0_isVaried_4 : decode cX0_isVaried 4 = .ok (.astore_n 2, 1) := dk_77 (dk_at dksX0_isVaried_0 4 rfl rfl)
theorem dX0_isVaried_5 : decode cX0_isVaried 5 = .ok (.aload_n 2, 1) := dk_44 (dk_at dksX0_isVaried_0 5 rfl rfl)
theorem dX0_isVaried_6 : decode cX0_isVaried 6 = .ok (.arraylength, 1) := dk_190 (dk_at dksX0_isVaried_0 6 rfl rfl)
theorem dX0_isVaried_7 : decode cX0_isVaried 7 = .ok (.istore_n 3, 1) := dk_62 (dk_at dksX0_isVaried_0 7 rfl rfl)
theorem dX0_isVaried_8 : decode cX0_isVaried 8 = .ok (.iconst 0, 1) := dk_3 (dk_at dksX0_isVaried_0 8 rfl rfl)
theorem dX0_isVaried_9 : decode cX0_isVaried 9 = .ok (.istore 4, 2) := dk_54 4 (dk_at dksX0_isVaried_0 9 rfl rfl)
theorem dX0_isVaried_11 : decode cX0_isVaried 11 = .ok (.iload 4, 2) := dk_21 4 (dk_at dksX0_isVaried_0 11 rfl rfl)
theorem dX0_isVaried_13 : decode cX0_isVaried 13 = .ok (.iload_n 3, 1) := dk_29 (dk_at dksX0_isVaried_0 13 rfl rfl)
theorem dX0_isVaried_14 : decode cX0_isVaried 14 = .ok (.if_icmp .ge 31, 3) := dk_162 0 31 (dk_at dksX0_isVaried_0 14 rfl rfl)
theorem dX0_isVaried_17 : decode cX0_isVaried 17 = .ok (.aload_n 2, 1) := dk_44 (dk_at dksX0_isVaried_0 17 rfl rfl)
theorem dX0_isVaried_18 : decode cX0_isVaried 18 = .ok (.iload 4, 2) := dk_21 4 (dk_at dksX0_isVaried_0 18 rfl rfl)
theorem dX0_isVaried_20 : decode cX0_isVaried 20 = .ok (.aaload, 1) := dk_50 (dk_at dksX0_isVaried_0 20 rfl rfl)
theorem dX0_isVaried_21 : decode cX0_isVaried 21 = .ok (.astore 5, 2) := dk_58 5 (dk_at dksX0_isVaried_0 21 rfl rfl)
theorem dX0_isVaried_23 : decode cX0_isVaried 23 = .ok (.aload 5, 2) := dk_25 5 (dk_at dksX0_isVaried_1 0 rfl rfl)
theorem dX0_isVaried_25 : decode cX0_isVaried 25 = .ok (.ifnull 14, 3) := dk_198 0 14 (dk_at dksX0_isVaried_1 2 rfl rfl)
theorem dX0_isVaried_28 : decode cX0_isVaried 28 = .ok (.aload 5, 2) := dk_25 5 (dk_at dksX0_isVaried_1 5 rfl rfl)
theorem dX0_isVaried_30 : decode cX0_isVaried 30 = .ok (.iload_n 1, 1) := dk_27 (dk_at dksX0_isVaried_1 7 rfl rfl)
theorem dX0_isVaried_31 : decode cX0_isVaried 31 = .ok (.invokevirtual 386, 3) := dk_182 1 130 (dk_at dksX0_isVaried_1 8 rfl rfl)
theorem dX0_isVaried_34 : decode cX0_isVaried 34 = .ok (.ifCond .eq 5, 3) := dk_153 0 5 (dk_at dksX0_isVaried_1 11 rfl rfl)
theorem dX0_isVaried_37 : decode cX0_isVaried 37 = .ok (.iconst 1, 1) := dk_4 (dk_at dksX0_isVaried_1 14 rfl rfl)
theorem dX0_isVaried_38 : decode cX0_isVaried 38 = .ok (.ireturn, 1) := dk_172 (dk_at dksX0_isVaried_1 15 rfl rfl)
theorem dX0_isVaried_39 : decode cX0_isVaried 39 = .ok (.iinc 4 1, 3) := dk_132 4 1 (dk_at dksX0_isVaried_1 16 rfl rfl)
theorem dX0_isVaried_42 : decode cX0_isVaried 42 = .ok (.goto (-31), 3) := dk_167 255 225 (dk_at dksX0_isVaried_1 19 rfl rfl)
theorem dX0_isVaried_45 : decode cX0_isVaried 45 = .ok (.iconst 0, 1) := dk_3 (dk_at dksX0_isVaried_1 22 rfl rfl)
theorem dX0_isVaried_46 : decode cX0_isVaried 46 = .ok (.ireturn, 1) := dk_172 (dk_at dksX0_isVaried_1 23 rfl rfl)
abbrev cX0_set : ByteArray := prog_1_method_29_code
def yX0_set : MethodName := ⟨RX0, "set", "(II)I"⟩
def dkwX0_set_2 : List UInt8 := [180, 0, 31, 27, 50, 28, 135, 20, 1, 158, 111, 182, 0, 253, 181, 0, 209, 4, 172]
abbrev dktX0_set_2 : List UInt8 := dkwX0_set_2 ++ []
def dkwX0_set_1 : List UInt8 := [42, 180, 0, 31, 27, 50, 182, 0, 202, 154, 0, 6, 16, 253, 172, 42, 180, 0, 31, 27, 50, 42]
abbrev dktX0_set_1 : List UInt8 := dkwX0_set_1 ++ dktX0_set_2
def dkwX0_set_0 : List UInt8 := [27, 184, 1, 133, 153, 0, 17, 28, 133, 20, 1, 154, 20, 1, 156, 184, 0, 132, 154, 0, 6, 16, 254, 172]
abbrev dktX0_set_0 : List UInt8 := dkwX0_set_0 ++ dktX0_set_1
theorem dksX0_set_0 : cX0_set.data.toList.drop 0 = dktX0_set_0 := by decide +kernel
theorem dksX0_set_1 : cX0_set.data.toList.drop 24 = dktX0_set_1 := dk_seg dksX0_set_0 24 rfl rfl
theorem dksX0_set_2 : cX0_set.data.toList.drop 46 = dktX0_set_2 := dk_seg dksX0_set_1 22 rfl rfl
theorem dX0_set_0 : decode cX0_set 0 = .ok (.iload_n 1, 1) := dk_27 (dk_at dksX0_set_0 0 rfl rfl)
theorem dX0_set_1 : decode cX0_set 1 = .ok (.invokestatic 389, 3) := dk_184 1 133 (dk_at dksX0_set_0 1 rfl rfl)
theorem dX0_set_4 : decode cX0_set 4 = .ok (.ifCond .eq 17, 3) := dk_153 0 17 (dk_at dksX0_set_0 4 rfl rfl)
theorem dX0_set_7 : decode cX0_set 7 = .ok (.iload_n 2, 1) := dk_28 (dk_at dksX0_set_0 7 rfl rfl)
theorem dX0_set_8 : decode cX0_set 8 = .ok (.i2l, 1) := dk_133 (dk_at dksX0_set_0 8 rfl rfl)
theorem dX0_set_9 : decode cX0_set 9 = .ok (.ldc2_w 410, 3) := dk_20 1 154 (dk_at dksX0_set_0 9 rfl rfl)
theorem dX0_set_12 : decode cX0_set 12 = .ok (.ldc2_w 412, 3) := dk_20 1 156 (dk_at dksX0_set_0 12 rfl rfl)
theorem dX0_set_15 : decode cX0_set 15 = .ok (.invokestatic 132, 3) := dk_184 0 132 (dk_at dksX0_set_0 15 rfl rfl)
theorem dX0_set_18 : decode cX0_set 18 = .ok (.ifCond .ne 6, 3) := dk_154 0 6 (dk_at dksX0_set_0 18 rfl rfl)
theorem dX0_set_21 : decode cX0_set 21 = .ok (.bipush (-2), 2) := dk_16 254 (dk_at dksX0_set_0 21 rfl rfl)
theorem dX0_set_23 : decode cX0_set 23 = .ok (.ireturn, 1) := dk_172 (dk_at dksX0_set_0 23 rfl rfl)
theorem dX0_set_24 : decode cX0_set 24 = .ok (.aload_n 0, 1) := dk_42 (dk_at dksX0_set_1 0 rfl rfl)
theorem dX0_set_25 : decode cX0_set 25 = .ok (.getfield 31, 3) := dk_180 0 31 (dk_at dksX0_set_1 1 rfl rfl)
theorem dX0_set_28 : decode cX0_set 28 = .ok (.iload_n 1, 1) := dk_27 (dk_at dksX0_set_1 4 rfl rfl)
theorem dX0_set_29 : decode cX0_set 29 = .ok (.aaload, 1) := dk_50 (dk_at dksX0_set_1 5 rfl rfl)
theorem dX0_set_30 : decode cX0_set 30 = .ok (.invokevirtual 202, 3) := dk_182 0 202 (dk_at dksX0_set_1 6 rfl rfl)
theorem dX0_set_33 : decode cX0_set 33 = .ok (.ifCond .ne 6, 3) := dk_154 0 6 (dk_at dksX0_set_1 9 rfl rfl)
theorem dX0_set_36 : decode cX0_set 36 = .ok (.bipush (-3), 2) := dk_16 253 (dk_at dksX0_set_1 12 rfl rfl)
theorem dX0_set_38 : decode cX0_set 38 = .ok (.ireturn, 1) := dk_172 (dk_at dksX0_set_1 14 rfl rfl)
theorem dX0_set_39 : decode cX0_set 39 = .ok (.aload_n 0, 1) := dk_42 (dk_at dksX0_set_1 15 rfl rfl)
theorem dX0_set_40 : decode cX0_set 40 = .ok (.getfield 31, 3) := dk_180 0 31 (dk_at dksX0_set_1 16 rfl rfl)
theorem dX0_set_43 : decode cX0_set 43 = .ok (.iload_n 1, 1) := dk_27 (dk_at dksX0_set_1 19 rfl rfl)
theorem dX0_set_44 : decode cX0_set 44 = .ok (.aaload, 1) := dk_50 (dk_at dksX0_set_1 20 rfl rfl)
theorem dX0_set_45 : decode cX0_set 45 = .ok (.aload_n 0, 1) := dk_42 (dk_at dksX0_set_1 21 rfl rfl)
theorem dX0_set_46 : decode cX0_set 46 = .ok (.getfield 31, 3) := dk_180 0 31 (dk_at dksX0_set_2 0 rfl rfl)
theorem dX0_set_49 : decode cX0_set 49 = .ok (.iload_n 1, 1) := dk_27 (dk_at dksX0_set_2 3 rfl rfl)
theorem dX0_set_50 : decode cX0_set 50 = .ok (.aaload, 1) := dk_50 (dk_at dksX0_set_2 4 rfl rfl)
theorem dX0_set_51 : decode cX0_set 51 = .ok (.iload_n 2, 1) := dk_28 (dk_at dksX0_set_2 5 rfl rfl)
theorem dX0_set_52 : decode cX0_set 52 = .ok (.i2d, 1) := dk_135 (dk_at dksX0_set_2 6 rfl rfl)
theorem dX0_set_53 : decode cX0_set 53 = .ok (.ldc2_w 414, 3) := dk_20 1 158 (dk_at dksX0_set_2 7 rfl rfl)
theorem dX0_set_56 : decode cX0_set 56 = .ok (.ddiv, 1) := dk_111 (dk_at dksX0_set_2 10 rfl rfl)
theorem dX0_set_57 : decode cX0_set 57 = .ok (.invokevirtual 253, 3) := dk_182 0 253 (dk_at dksX0_set_2 11 rfl rfl)
theorem dX0_set_60 : decode cX0_set 60 = .ok (.putfield 209, 3) := dk_181 0 209 (dk_at dksX0_set_2 14 rfl rfl)
theorem dX0_set_63 : decode cX0_set 63 = .ok (.iconst 1, 1) := dk_4 (dk_at dksX0_set_2 17 rfl rfl)
theorem dX0_set_64 : decode cX0_set 64 = .ok (.ireturn, 1) := dk_172 (dk_at dksX0_set_2 18 rfl rfl)
abbrev cX0_clear : ByteArray := prog_1_method_30_code
def yX0_clear : MethodName := ⟨RX0, "clear", "(I)I"⟩
def dkwX0_clear_1 : List UInt8 := [27, 50, 20, 1, 152, 181, 0, 209, 42, 182, 0, 126, 172]
abbrev dktX0_clear_1 : List UInt8 := dkwX0_clear_1 ++ []
def dkwX0_clear_0 : List UInt8 := [27, 184, 1, 133, 154, 0, 6, 16, 254, 172, 42, 180, 0, 31, 27, 50, 1, 181, 0, 239, 42, 180, 0, 31]
abbrev dktX0_clear_0 : List UInt8 := dkwX0_clear_0 ++ dktX0_clear_1
theorem dksX0_clear_0 : cX0_clear.data.toList.drop 0 = dktX0_clear_0 := by decide +kernel
theorem dksX0_clear_1 : cX0_clear.data.toList.drop 24 = dktX0_clear_1 := dk_seg dksX0_clear_0 24 rfl rfl
theorem dX0_clear_0 : decode cX0_clear 0 = .ok (.iload_n 1, 1) := dk_27 (dk_at dksX0_clear_0 0 rfl rfl)
theorem dX0_clear_1 : decode cX0_clear 1 = .ok (.invokestatic 389, 3) := dk_184 1 133 (dk_at dksX0_clear_0 1 rfl rfl)
theorem dX0_clear_4 : decode cX0_clear 4 = .ok (.ifCond .ne 6, 3) := dk_154 0 6 (dk_at dksX0_clear_0 4 rfl rfl)
theorem dX0_clear_7 : decode cX0_clear 7 = .ok (.bipush (-2), 2) := dk_16 254 (dk_at dksX0_clear_0 7 rfl rfl)
theorem dX0_clear_9 : decode cX0_clear 9 = .ok (.ireturn, 1) := dk_172 (dk_at dksX0_clear_0 9 rfl rfl)
theorem dX0_clear_10 : decode cX0_clear 10 = .ok (.aload_n 0, 1) := dk_42 (dk_at dksX0_clear_0 10 rfl rfl)
theorem dX0_clear_11 : decode cX0_clear 11 = .ok (.getfield 31, 3) := dk_180 0 31 (dk_at dksX0_clear_0 11 rfl rfl)
theorem dX0_clear_14 : decode cX0_clear 14 = .ok (.iload_n 1, 1) := dk_27 (dk_at dksX0_clear_0 14 rfl rfl)
theorem dX0_clear_15 : decode cX0_clear 15 = .ok (.aaload, 1) := dk_50 (dk_at dksX0_clear_0 15 rfl rfl)
theorem dX0_clear_16 : decode cX0_clear 16 = .ok (.aconst_null, 1) := dk_1 (dk_at dksX0_clear_0 16 rfl rfl)
theorem dX0_clear_17 : decode cX0_clear 17 = .ok (.putfield 239, 3) := dk_181 0 239 (dk_at dksX0_clear_0 17 rfl rfl)
theorem dX0_clear_20 : decode cX0_clear 20 = .ok (.aload_n 0, 1) := dk_42 (dk_at dksX0_clear_0 20 rfl rfl)
theorem dX0_clear_21 : decode cX0_clear 21 = .ok (.getfield 31, 3) := dk_180 0 31 (dk_at dksX0_clear_0 21 rfl rfl)
theorem dX0_clear_24 : decode cX0_clear 24 = .ok (.iload_n 1, 1) := dk_27 (dk_at dksX0_clear_1 0 rfl rfl)
theorem dX0_clear_25 : decode cX0_clear 25 = .ok (.aaload, 1) := dk_50 (dk_at dksX0_clear_1 1 rfl rfl)
theorem dX0_clear_26 : decode cX0_clear 26 = .ok (.ldc2_w 408, 3) := dk_20 1 152 (dk_at dksX0_clear_1 2 rfl rfl)
theorem dX0_clear_29 : decode cX0_clear 29 = .ok (.putfield 209, 3) := dk_181 0 209 (dk_at dksX0_clear_1 5 rfl rfl)
theorem dX0_clear_32 : decode cX0_clear 32 = .ok (.aload_n 0, 1) := dk_42 (dk_at dksX0_clear_1 8 rfl rfl)
theorem dX0_clear_33 : decode cX0_clear 33 = .ok (.invokevirtual 126, 3) := dk_182 0 126 (dk_at dksX0_clear_1 9 rfl rfl)
theorem dX0_clear_36 : decode cX0_clear 36 = .ok (.ireturn, 1) := dk_172 (dk_at dksX0_clear_1 12 rfl rfl)
abbrev cX0_kind : ByteArray := prog_1_method_31_code
def yX0_kind : MethodName := ⟨RX0, "kind", "(II)I"⟩
def dkwX0_kind_2 : List UInt8 := [50, 182, 1, 167, 83, 29, 172]
abbrev dktX0_kind_2 : List UInt8 := dkwX0_kind_2 ++ []
def dkwX0_kind_1 : List UInt8 := [180, 0, 31, 27, 50, 182, 1, 160, 62, 42, 180, 0, 31, 27, 27, 28, 184, 1, 163, 42, 180, 0, 31, 27]
abbrev dktX0_kind_1 : List UInt8 := dkwX0_kind_1 ++ dktX0_kind_2
def dkwX0_kind_0 : List UInt8 := [27, 184, 1, 133, 153, 0, 15, 28, 133, 9, 20, 0, 136, 184, 0, 132, 154, 0, 6, 16, 254, 172, 42]
abbrev dktX0_kind_0 : List UInt8 := dkwX0_kind_0 ++ dktX0_kind_1
theorem dksX0_kind_0 : cX0_kind.data.toList.drop 0 = dktX0_kind_0 := by decide +kernel
theorem dksX0_kind_1 : cX0_kind.data.toList.drop 23 = dktX0_kind_1 := dk_seg dksX0_kind_0 23 rfl rfl
theorem dksX0_kind_2 : cX0_kind.data.toList.drop 47 = dktX0_kind_2 := dk_seg dksX0_kind_1 24 rfl rfl
theorem dX0_kind_0 : decode cX0_kind 0 = .ok (.iload_n 1, 1) := dk_27 (dk_at dksX0_kind_0 0 rfl rfl)
theorem dX0_kind_1 : decode cX0_kind 1 = .ok (.invokestatic 389, 3) := dk_184 1 133 (dk_at dksX0_kind_0 1 rfl rfl)
theorem dX0_kind_4 : decode cX0_kind 4 = .ok (.ifCond .eq 15, 3) := dk_153 0 15 (dk_at dksX0_kind_0 4 rfl rfl)
theorem dX0_kind_7 : decode cX0_kind 7 = .ok (.iload_n 2, 1) := dk_28 (dk_at dksX0_kind_0 7 rfl rfl)
theorem dX0_kind_8 : decode cX0_kind 8 = .ok (.i2l, 1) := dk_133 (dk_at dksX0_kind_0 8 rfl rfl)
theorem dX0_kind_9 : decode cX0_kind 9 = .ok (.lconst 0, 1) := dk_9 (dk_at dksX0_kind_0 9 rfl rfl)
theorem dX0_kind_10 : decode cX0_kind 10 = .ok (.ldc2_w 136, 3) := dk_20 0 136 (dk_at dksX0_kind_0 10 rfl rfl)
theorem dX0_kind_13 : decode cX0_kind 13 = .ok (.invokestatic 132, 3) := dk_184 0 132 (dk_at dksX0_kind_0 13 rfl rfl)
theorem dX0_kind_16 : decode cX0_kind 16 = .ok (.ifCond .ne 6, 3) := dk_154 0 6 (dk_at dksX0_kind_0 16 rfl rfl)
theorem dX0_kind_19 : decode cX0_kind 19 = .ok (.bipush (-2), 2) := dk_16 254 (dk_at dksX0_kind_0 19 rfl rfl)
theorem dX0_kind_21 : decode cX0_kind 21 = .ok (.ireturn, 1) := dk_172 (dk_at dksX0_kind_0 21 rfl rfl)
theorem dX0_kind_22 : decode cX0_kind 22 = .ok (.aload_n 0, 1) := dk_42 (dk_at dksX0_kind_0 22 rfl rfl)
theorem dX0_kind_23 : decode cX0_kind 23 = .ok (.getfield 31, 3) := dk_180 0 31 (dk_at dksX0_kind_1 0 rfl rfl)
theorem dX0_kind_26 : decode cX0_kind 26 = .ok (.iload_n 1, 1) := dk_27 (dk_at dksX0_kind_1 3 rfl rfl)
theorem dX0_kind_27 : decode cX0_kind 27 = .ok (.aaload, 1) := dk_50 (dk_at dksX0_kind_1 4 rfl rfl)
theorem dX0_kind_28 : decode cX0_kind 28 = .ok (.invokevirtual 416, 3) := dk_182 1 160 (dk_at dksX0_kind_1 5 rfl rfl)
theorem dX0_kind_31 : decode cX0_kind 31 = .ok (.istore_n 3, 1) := dk_62 (dk_at dksX0_kind_1 8 rfl rfl)
theorem dX0_kind_32 : decode cX0_kind 32 = .ok (.aload_n 0, 1) := dk_42 (dk_at dksX0_kind_1 9 rfl rfl)
theorem dX0_kind_33 : decode cX0_kind 33 = .ok (.getfield 31, 3) := dk_180 0 31 (dk_at dksX0_kind_1 10 rfl rfl)
theorem dX0_kind_36 : decode cX0_kind 36 = .ok (.iload_n 1, 1) := dk_27 (dk_at dksX0_kind_1 13 rfl rfl)
theorem dX0_kind_37 : decode cX0_kind 37 = .ok (.iload_n 1, 1) := dk_27 (dk_at dksX0_kind_1 14 rfl rfl)
theorem dX0_kind_38 : decode cX0_kind 38 = .ok (.iload_n 2, 1) := dk_28 (dk_at dksX0_kind_1 15 rfl rfl)
theorem dX0_kind_39 : decode cX0_kind 39 = .ok (.invokestatic 419, 3) := dk_184 1 163 (dk_at dksX0_kind_1 16 rfl rfl)
theorem dX0_kind_42 : decode cX0_kind 42 = .ok (.aload_n 0, 1) := dk_42 (dk_at dksX0_kind_1 19 rfl rfl)
theorem dX0_kind_43 : decode cX0_kind 43 = .ok (.getfield 31, 3) := dk_180 0 31 (dk_at dksX0_kind_1 20 rfl rfl)
theorem dX0_kind_46 : decode cX0_kind 46 = .ok (.iload_n 1, 1) := dk_27 (dk_at dksX0_kind_1 23 rfl rfl)
theorem dX0_kind_47 : decode cX0_kind 47 = .ok (.aaload, 1) := dk_50 (dk_at dksX0_kind_2 0 rfl rfl)
theorem dX0_kind_48 : decode cX0_kind 48 = .ok (.invokevirtual 423, 3) := dk_182 1 167 (dk_at dksX0_kind_2 1 rfl rfl)
theorem dX0_kind_51 : decode cX0_kind 51 = .ok (.aastore, 1) := dk_83 (dk_at dksX0_kind_2 4 rfl rfl)
theorem dX0_kind_52 : decode cX0_kind 52 = .ok (.iload_n 3, 1) := dk_29 (dk_at dksX0_kind_2 5 rfl rfl)
theorem dX0_kind_53 : decode cX0_kind 53 = .ok (.ireturn, 1) := dk_172 (dk_at dksX0_kind_2 6 rfl rfl)
abbrev cX0_made : ByteArray := prog_1_method_2_code
def yX0_made : MethodName := ⟨RX0, "made", "(II)LWhatIfSheet$Plain;"⟩
def dkwX0_made_4 : List UInt8 := [187, 0, 21, 89, 26, 183, 0, 23, 176]
abbrev dktX0_made_4 : List UInt8 := dkwX0_made_4 ++ []
def dkwX0_made_3 : List UInt8 := [183, 0, 14, 176, 187, 0, 15, 89, 26, 183, 0, 17, 176, 187, 0, 18, 89, 26, 183, 0, 20, 176]
abbrev dktX0_made_3 : List UInt8 := dkwX0_made_3 ++ dktX0_made_4
def dkwX0_made_2 : List UInt8 := [187, 0, 3, 89, 26, 183, 0, 5, 176, 187, 0, 9, 89, 26, 183, 0, 11, 176, 187, 0, 12, 89, 26]
abbrev dktX0_made_2 : List UInt8 := dkwX0_made_2 ++ dktX0_made_3
def dkwX0_made_1 : List UInt8 := [170, 0, 0, 0, 0, 0, 80, 0, 0, 0, 0, 0, 0, 0, 4, 0, 0, 0, 35, 0, 0, 0, 44, 0, 0, 0, 53, 0, 0, 0, 62, 0, 0, 0, 71]
abbrev dktX0_made_1 : List UInt8 := dkwX0_made_1 ++ dktX0_made_2
def dkwX0_made_0 : List UInt8 := [27]
abbrev dktX0_made_0 : List UInt8 := dkwX0_made_0 ++ dktX0_made_1
theorem dksX0_made_0 : cX0_made.data.toList.drop 0 = dktX0_made_0 := by decide +kernel
theorem dksX0_made_1 : cX0_made.data.toList.drop 1 = dktX0_made_1 := dk_seg dksX0_made_0 1 rfl rfl
theorem dksX0_made_2 : cX0_made.data.toList.drop 36 = dktX0_made_2 := dk_seg dksX0_made_1 35 rfl rfl
theorem dksX0_made_3 : cX0_made.data.toList.drop 59 = dktX0_made_3 := dk_seg dksX0_made_2 23 rfl rfl
theorem dksX0_made_4 : cX0_made.data.toList.drop 81 = dktX0_made_4 := dk_seg dksX0_made_3 22 rfl rfl
theorem dX0_made_0 : decode cX0_made 0 = .ok (.iload_n 1, 1) := dk_27 (dk_at dksX0_made_0 0 rfl rfl)
theorem dX0_made_1 : decode cX0_made 1 = .ok (.tableswitch 80 0 4 #[35, 44, 53, 62, 71], 35) := by decide +kernel
theorem dX0_made_36 : decode cX0_made 36 = .ok (.new 3, 3) := dk_187 0 3 (dk_at dksX0_made_2 0 rfl rfl)
theorem dX0_made_39 : decode cX0_made 39 = .ok (.dup, 1) := dk_89 (dk_at dksX0_made_2 3 rfl rfl)
theorem dX0_made_40 : decode cX0_made 40 = .ok (.iload_n 0, 1) := dk_26 (dk_at dksX0_made_2 4 rfl rfl)
theorem dX0_made_41 : decode cX0_made 41 = .ok (.invokespecial 5, 3) := dk_183 0 5 (dk_at dksX0_made_2 5 rfl rfl)
theorem dX0_made_44 : decode cX0_made 44 = .ok (.areturn, 1) := dk_176 (dk_at dksX0_made_2 8 rfl rfl)
theorem dX0_made_45 : decode cX0_made 45 = .ok (.new 9, 3) := dk_187 0 9 (dk_at dksX0_made_2 9 rfl rfl)
theorem dX0_made_48 : decode cX0_made 48 = .ok (.dup, 1) := dk_89 (dk_at dksX0_made_2 12 rfl rfl)
theorem dX0_made_49 : decode cX0_made 49 = .ok (.iload_n 0, 1) := dk_26 (dk_at dksX0_made_2 13 rfl rfl)
theorem dX0_made_50 : decode cX0_made 50 = .ok (.invokespecial 11, 3) := dk_183 0 11 (dk_at dksX0_made_2 14 rfl rfl)
theorem dX0_made_53 : decode cX0_made 53 = .ok (.areturn, 1) := dk_176 (dk_at dksX0_made_2 17 rfl rfl)
theorem dX0_made_54 : decode cX0_made 54 = .ok (.new 12, 3) := dk_187 0 12 (dk_at dksX0_made_2 18 rfl rfl)
theorem dX0_made_57 : decode cX0_made 57 = .ok (.dup, 1) := dk_89 (dk_at dksX0_made_2 21 rfl rfl)
theorem dX0_made_58 : decode cX0_made 58 = .ok (.iload_n 0, 1) := dk_26 (dk_at dksX0_made_2 22 rfl rfl)
theorem dX0_made_59 : decode cX0_made 59 = .ok (.invokespecial 14, 3) := dk_183 0 14 (dk_at dksX0_made_3 0 rfl rfl)
theorem dX0_made_62 : decode cX0_made 62 = .ok (.areturn, 1) := dk_176 (dk_at dksX0_made_3 3 rfl rfl)
theorem dX0_made_63 : decode cX0_made 63 = .ok (.new 15, 3) := dk_187 0 15 (dk_at dksX0_made_3 4 rfl rfl)
theorem dX0_made_66 : decode cX0_made 66 = .ok (.dup, 1) := dk_89 (dk_at dksX0_made_3 7 rfl rfl)
theorem dX0_made_67 : decode cX0_made 67 = .ok (.iload_n 0, 1) := dk_26 (dk_at dksX0_made_3 8 rfl rfl)
theorem dX0_made_68 : decode cX0_made 68 = .ok (.invokespecial 17, 3) := dk_183 0 17 (dk_at dksX0_made_3 9 rfl rfl)
theorem dX0_made_71 : decode cX0_made 71 = .ok (.areturn, 1) := dk_176 (dk_at dksX0_made_3 12 rfl rfl)
theorem dX0_made_72 : decode cX0_made 72 = .ok (.new 18, 3) := dk_187 0 18 (dk_at dksX0_made_3 13 rfl rfl)
theorem dX0_made_75 : decode cX0_made 75 = .ok (.dup, 1) := dk_89 (dk_at dksX0_made_3 16 rfl rfl)
theorem dX0_made_76 : decode cX0_made 76 = .ok (.iload_n 0, 1) := dk_26 (dk_at dksX0_made_3 17 rfl rfl)
theorem dX0_made_77 : decode cX0_made 77 = .ok (.invokespecial 20, 3) := dk_183 0 20 (dk_at dksX0_made_3 18 rfl rfl)
theorem dX0_made_80 : decode cX0_made 80 = .ok (.areturn, 1) := dk_176 (dk_at dksX0_made_3 21 rfl rfl)
theorem dX0_made_81 : decode cX0_made 81 = .ok (.new 21, 3) := dk_187 0 21 (dk_at dksX0_made_4 0 rfl rfl)
theorem dX0_made_84 : decode cX0_made 84 = .ok (.dup, 1) := dk_89 (dk_at dksX0_made_4 3 rfl rfl)
theorem dX0_made_85 : decode cX0_made 85 = .ok (.iload_n 0, 1) := dk_26 (dk_at dksX0_made_4 4 rfl rfl)
theorem dX0_made_86 : decode cX0_made 86 = .ok (.invokespecial 23, 3) := dk_183 0 23 (dk_at dksX0_made_4 5 rfl rfl)
theorem dX0_made_89 : decode cX0_made 89 = .ok (.areturn, 1) := dk_176 (dk_at dksX0_made_4 8 rfl rfl)
abbrev cX0_told : ByteArray := prog_1_method_32_code
def yX0_told : MethodName := ⟨RX0, "told", "(II)I"⟩
def dkwX0_told_6 : List UInt8 := [27, 50, 182, 0, 206, 153, 0, 7, 4, 167, 0, 4, 3, 172, 16, 254, 172]
abbrev dktX0_told_6 : List UInt8 := dkwX0_told_6 ++ []
def dkwX0_told_5 : List UInt8 := [167, 0, 7, 42, 180, 0, 41, 172, 42, 180, 0, 31, 27, 50, 182, 0, 202, 153, 0, 19, 42, 180, 0, 31]
abbrev dktX0_told_5 : List UInt8 := dkwX0_told_5 ++ dktX0_told_6
def dkwX0_told_4 : List UInt8 := [172, 42, 180, 0, 65, 27, 46, 172, 42, 27, 182, 1, 174, 88, 28, 8, 160, 0, 10, 42, 180, 0, 138]
abbrev dktX0_told_4 : List UInt8 := dkwX0_told_4 ++ dktX0_told_5
def dkwX0_told_3 : List UInt8 := [167, 0, 4, 4, 172, 42, 180, 0, 62, 27, 50, 184, 1, 171, 172, 42, 180, 0, 58, 27, 50, 184, 1, 171]
abbrev dktX0_told_3 : List UInt8 := dkwX0_told_3 ++ dktX0_told_4
def dkwX0_told_2 : List UInt8 := [42, 180, 0, 31, 27, 50, 182, 1, 160, 172, 42, 180, 0, 31, 27, 50, 182, 0, 202, 153, 0, 7, 3]
abbrev dktX0_told_2 : List UInt8 := dkwX0_told_2 ++ dktX0_told_3
def dkwX0_told_1 : List UInt8 := [170, 0, 0, 0, 153, 0, 0, 0, 0, 0, 0, 0, 7, 0, 0, 0, 45, 0, 0, 0, 55, 0, 0, 0, 73, 0, 0, 0, 83, 0, 0, 0, 93, 0, 0, 0, 100, 0, 0, 0, 100, 0, 0, 0, 123]
abbrev dktX0_told_1 : List UInt8 := dkwX0_told_1 ++ dktX0_told_2
def dkwX0_told_0 : List UInt8 := [27, 184, 1, 133, 154, 0, 6, 16, 254, 172, 28]
abbrev dktX0_told_0 : List UInt8 := dkwX0_told_0 ++ dktX0_told_1
theorem dksX0_told_0 : cX0_told.data.toList.drop 0 = dktX0_told_0 := by decide +kernel
theorem dksX0_told_1 : cX0_told.data.toList.drop 11 = dktX0_told_1 := dk_seg dksX0_told_0 11 rfl rfl
theorem dksX0_told_2 : cX0_told.data.toList.drop 56 = dktX0_told_2 := dk_seg dksX0_told_1 45 rfl rfl
theorem dksX0_told_3 : cX0_told.data.toList.drop 79 = dktX0_told_3 := dk_seg dksX0_told_2 23 rfl rfl
theorem dksX0_told_4 : cX0_told.data.toList.drop 103 = dktX0_told_4 := dk_seg dksX0_told_3 24 rfl rfl
theorem dksX0_told_5 : cX0_told.data.toList.drop 126 = dktX0_told_5 := dk_seg dksX0_told_4 23 rfl rfl
theorem dksX0_told_6 : cX0_told.data.toList.drop 150 = dktX0_told_6 := dk_seg dksX0_told_5 24 rfl rfl
theorem dX0_told_0 : decode cX0_told 0 = .ok (.iload_n 1, 1) := dk_27 (dk_at dksX0_told_0 0 rfl rfl)
theorem dX0_told_1 : decode cX0_told 1 = .ok (.invokestatic 389, 3) := dk_184 1 133 (dk_at dksX0_told_0 1 rfl rfl)
theorem dX0_told_4 : decode cX0_told 4 = .ok (.ifCond .ne 6, 3) := dk_154 0 6 (dk_at dksX0_told_0 4 rfl rfl)
theorem dX0_told_7 : decode cX0_told 7 = .ok (.bipush (-2), 2) := dk_16 254 (dk_at dksX0_told_0 7 rfl rfl)
theorem dX0_told_9 : decode cX0_told 9 = .ok (.ireturn, 1) := dk_172 (dk_at dksX0_told_0 9 rfl rfl)
theorem dX0_told_10 : decode cX0_told 10 = .ok (.iload_n 2, 1) := dk_28 (dk_at dksX0_told_0 10 rfl rfl)
theorem dX0_told_11 : decode cX0_told 11 = .ok (.tableswitch 153 0 7 #[45, 55, 73, 83, 93, 100, 100, 123], 45) := by decide +kernel
theorem dX0_told_56 : decode cX0_told 56 = .ok (.aload_n 0, 1) := dk_42 (dk_at dksX0_told_2 0 rfl rfl)
theorem dX0_told_57 : decode cX0_told 57 = .ok (.getfield 31, 3) := dk_180 0 31 (dk_at dksX0_told_2 1 rfl rfl)
theorem dX0_told_60 : decode cX0_told 60 = .ok (.iload_n 1, 1) := dk_27 (dk_at dksX0_told_2 4 rfl rfl)
theorem dX0_told_61 : decode cX0_told 61 = .ok (.aaload, 1) := dk_50 (dk_at dksX0_told_2 5 rfl rfl)
theorem dX0_told_62 : decode cX0_told 62 = .ok (.invokevirtual 416, 3) := dk_182 1 160 (dk_at dksX0_told_2 6 rfl rfl)
theorem dX0_told_65 : decode cX0_told 65 = .ok (.ireturn, 1) := dk_172 (dk_at dksX0_told_2 9 rfl rfl)
theorem dX0_told_66 : decode cX0_told 66 = .ok (.aload_n 0, 1) := dk_42 (dk_at dksX0_told_2 10 rfl rfl)
theorem dX0_told_67 : decode cX0_told 67 = .ok (.getfield 31, 3) := dk_180 0 31 (dk_at dksX0_told_2 11 rfl rfl)
theorem dX0_told_70 : decode cX0_told 70 = .ok (.iload_n 1, 1) := dk_27 (dk_at dksX0_told_2 14 rfl rfl)
theorem dX0_told_71 : decode cX0_told 71 = .ok (.aaload, 1) := dk_50 (dk_at dksX0_told_2 15 rfl rfl)
theorem dX0_told_72 : decode cX0_told 72 = .ok (.invokevirtual 202, 3) := dk_182 0 202 (dk_at dksX0_told_2 16 rfl rfl)
theorem dX0_told_75 : decode cX0_told 75 = .ok (.ifCond .eq 7, 3) := dk_153 0 7 (dk_at dksX0_told_2 19 rfl rfl)
theorem dX0_told_78 : decode cX0_told 78 = .ok (.iconst 0, 1) := dk_3 (dk_at dksX0_told_2 22 rfl rfl)
theorem dX0_told_79 : decode cX0_told 79 = .ok (.goto 4, 3) := dk_167 0 4 (dk_at dksX0_told_3 0 rfl rfl)
theorem dX0_told_82 : decode cX0_told 82 = .ok (.iconst 1, 1) := dk_4 (dk_at dksX0_told_3 3 rfl rfl)
theorem dX0_told_83 : decode cX0_told 83 = .ok (.ireturn, 1) := dk_172 (dk_at dksX0_told_3 4 rfl rfl)
theorem dX0_told_84 : decode cX0_told 84 = .ok (.aload_n 0, 1) := dk_42 (dk_at dksX0_told_3 5 rfl rfl)
theorem dX0_told_85 : decode cX0_told 85 = .ok (.getfield 62, 3) := dk_180 0 62 (dk_at dksX0_told_3 6 rfl rfl)
theorem dX0_told_88 : decode cX0_told 88 = .ok (.iload_n 1, 1) := dk_27 (dk_at dksX0_told_3 9 rfl rfl)
theorem dX0_told_89 : decode cX0_told 89 = .ok (.aaload, 1) := dk_50 (dk_at dksX0_told_3 10 rfl rfl)
theorem dX0_told_90 : decode cX0_told 90 = .ok (.invokestatic 427, 3) := dk_184 1 171 (dk_at dksX0_told_3 11 rfl rfl)
theorem dX0_told_93 : decode cX0_told 93 = .ok (.ireturn, 1) := dk_172 (dk_at dksX0_told_3 14 rfl rfl)
theorem dX0_told_94 : decode cX0_told 94 = .ok (.aload_n 0, 1) := dk_42 (dk_at dksX0_told_3 15 rfl rfl)
theorem dX0_told_95 : decode cX0_told 95 = .ok (.getfield 58, 3) := dk_180 0 58 (dk_at dksX0_told_3 16 rfl rfl)
theorem dX0_told_98 : decode cX0_told 98 = .ok (.iload_n 1, 1) := dk_27 (dk_at dksX0_told_3 19 rfl rfl)
theorem dX0_told_99 : decode cX0_told 99 = .ok (.aaload, 1) := dk_50 (dk_at dksX0_told_3 20 rfl rfl)
theorem dX0_told_100 : decode cX0_told 100 = .ok (.invokestatic 427, 3) := dk_184 1 171 (dk_at dksX0_told_3 21 rfl rfl)
theorem dX0_told_103 : decode cX0_told 103 = .ok (.ireturn, 1) := dk_172 (dk_at dksX0_told_4 0 rfl rfl)
theorem dX0_told_104 : decode cX0_told 104 = .ok (.aload_n 0, 1) := dk_42 (dk_at dksX0_told_4 1 rfl rfl)
theorem dX0_told_105 : decode cX0_told 105 = .ok (.getfield 65, 3) := dk_180 0 65 (dk_at dksX0_told_4 2 rfl rfl)
theorem dX0_told_108 : decode cX0_told 108 = .ok (.iload_n 1, 1) := dk_27 (dk_at dksX0_told_4 5 rfl rfl)
theorem dX0_told_109 : decode cX0_told 109 = .ok (.iaload, 1) := dk_46 (dk_at dksX0_told_4 6 rfl rfl)
theorem dX0_told_110 : decode cX0_told 110 = .ok (.ireturn, 1) := dk_172 (dk_at dksX0_told_4 7 rfl rfl)
theorem dX0_told_111 : decode cX0_told 111 = .ok (.aload_n 0, 1) := dk_42 (dk_at dksX0_told_4 8 rfl rfl)
theorem dX0_told_112 : decode cX0_told 112 = .ok (.iload_n 1, 1) := dk_27 (dk_at dksX0_told_4 9 rfl rfl)
theorem dX0_told_113 : decode cX0_told 113 = .ok (.invokevirtual 430, 3) := dk_182 1 174 (dk_at dksX0_told_4 10 rfl rfl)
theorem dX0_told_116 : decode cX0_told 116 = .ok (.pop2, 1) := dk_88 (dk_at dksX0_told_4 13 rfl rfl)
theorem dX0_told_117 : decode cX0_told 117 = .ok (.iload_n 2, 1) := dk_28 (dk_at dksX0_told_4 14 rfl rfl)
theorem dX0_told_118 : decode cX0_told 118 = .ok (.iconst 5, 1) := dk_8 (dk_at dksX0_told_4 15 rfl rfl)
theorem dX0_told_119 : decode cX0_told 119 = .ok (.if_icmp .ne 10, 3) := dk_160 0 10 (dk_at dksX0_told_4 16 rfl rfl)
theorem dX0_told_122 : decode cX0_told 122 = .ok (.aload_n 0, 1) := dk_42 (dk_at dksX0_told_4 19 rfl rfl)
theorem dX0_told_123 : decode cX0_told 123 = .ok (.getfield 138, 3) := dk_180 0 138 (dk_at dksX0_told_4 20 rfl rfl)
theorem dX0_told_126 : decode cX0_told 126 = .ok (.goto 7, 3) := dk_167 0 7 (dk_at dksX0_told_5 0 rfl rfl)
theorem dX0_told_129 : decode cX0_told 129 = .ok (.aload_n 0, 1) := dk_42 (dk_at dksX0_told_5 3 rfl rfl)
theorem dX0_told_130 : decode cX0_told 130 = .ok (.getfield 41, 3) := dk_180 0 41 (dk_at dksX0_told_5 4 rfl rfl)
theorem dX0_told_133 : decode cX0_told 133 = .ok (.ireturn, 1) := dk_172 (dk_at dksX0_told_5 7 rfl rfl)
theorem dX0_told_134 : decode cX0_told 134 = .ok (.aload_n 0, 1) := dk_42 (dk_at dksX0_told_5 8 rfl rfl)
theorem dX0_told_135 : decode cX0_told 135 = .ok (.getfield 31, 3) := dk_180 0 31 (dk_at dksX0_told_5 9 rfl rfl)
theorem dX0_told_138 : decode cX0_told 138 = .ok (.iload_n 1, 1) := dk_27 (dk_at dksX0_told_5 12 rfl rfl)
theorem dX0_told_139 : decode cX0_told 139 = .ok (.aaload, 1) := dk_50 (dk_at dksX0_told_5 13 rfl rfl)
theorem dX0_told_140 : decode cX0_told 140 = .ok (.invokevirtual 202, 3) := dk_182 0 202 (dk_at dksX0_told_5 14 rfl rfl)
theorem dX0_told_143 : decode cX0_told 143 = .ok (.ifCond .eq 19, 3) := dk_153 0 19 (dk_at dksX0_told_5 17 rfl rfl)
theorem dX0_told_146 : decode cX0_told 146 = .ok (.aload_n 0, 1) := dk_42 (dk_at dksX0_told_5 20 rfl rfl)
theorem dX0_told_147 : decode cX0_told 147 = .ok (.getfield 31, 3) := dk_180 0 31 (dk_at dksX0_told_5 21 rfl rfl)
theorem dX0_told_150 : decode cX0_told 150 = .ok (.iload_n 1, 1) := dk_27 (dk_at dksX0_told_6 0 rfl rfl)
theorem dX0_told_151 : decode cX0_told 151 = .ok (.aaload, 1) := dk_50 (dk_at dksX0_told_6 1 rfl rfl)
theorem dX0_told_152 : decode cX0_told 152 = .ok (.invokevirtual 206, 3) := dk_182 0 206 (dk_at dksX0_told_6 2 rfl rfl)
theorem dX0_told_155 : decode cX0_told 155 = .ok (.ifCond .eq 7, 3) := dk_153 0 7 (dk_at dksX0_told_6 5 rfl rfl)
theorem dX0_told_158 : decode cX0_told 158 = .ok (.iconst 1, 1) := dk_4 (dk_at dksX0_told_6 8 rfl rfl)
theorem dX0_told_159 : decode cX0_told 159 = .ok (.goto 4, 3) := dk_167 0 4 (dk_at dksX0_told_6 9 rfl rfl)
theorem dX0_told_162 : decode cX0_told 162 = .ok (.iconst 0, 1) := dk_3 (dk_at dksX0_told_6 12 rfl rfl)
theorem dX0_told_163 : decode cX0_told 163 = .ok (.ireturn, 1) := dk_172 (dk_at dksX0_told_6 13 rfl rfl)
theorem dX0_told_164 : decode cX0_told 164 = .ok (.bipush (-2), 2) := dk_16 254 (dk_at dksX0_told_6 14 rfl rfl)
theorem dX0_told_166 : decode cX0_told 166 = .ok (.ireturn, 1) := dk_172 (dk_at dksX0_told_6 16 rfl rfl)
abbrev cX0_bits : ByteArray := prog_1_method_25_code
def yX0_bits : MethodName := ⟨RX0, "bits", "(Ljava/util/BitSet;)I"⟩
def dkwX0_bits_1 : List UInt8 := [182, 1, 90, 61, 167, 255, 238, 27, 172]
abbrev dktX0_bits_1 : List UInt8 := dkwX0_bits_1 ++ []
def dkwX0_bits_0 : List UInt8 := [3, 60, 42, 3, 182, 1, 90, 61, 28, 155, 0, 20, 27, 4, 28, 120, 128, 60, 42, 28, 4, 96]
abbrev dktX0_bits_0 : List UInt8 := dkwX0_bits_0 ++ dktX0_bits_1
theorem dksX0_bits_0 : cX0_bits.data.toList.drop 0 = dktX0_bits_0 := by decide +kernel
theorem dksX0_bits_1 : cX0_bits.data.toList.drop 22 = dktX0_bits_1 := dk_seg dksX0_bits_0 22 rfl rfl
theorem dX0_bits_0 : decode cX0_bits 0 = .ok (.iconst 0, 1) := dk_3 (dk_at dksX0_bits_0 0 rfl rfl)
theorem dX0_bits_1 : decode cX0_bits 1 = .ok (.istore_n 1, 1) := dk_60 (dk_at dksX0_bits_0 1 rfl rfl)
theorem dX0_bits_2 : decode cX0_bits 2 = .ok (.aload_n 0, 1) := dk_42 (dk_at dksX0_bits_0 2 rfl rfl)
theorem dX0_bits_3 : decode cX0_bits 3 = .ok (.iconst 0, 1) := dk_3 (dk_at dksX0_bits_0 3 rfl rfl)
theorem dX0_bits_4 : decode cX0_bits 4 = .ok (.invokevirtual 346, 3) := dk_182 1 90 (dk_at dksX0_bits_0 4 rfl rfl)
theorem dX0_bits_7 : decode cX0_bits 7 = .ok (.istore_n 2, 1) := dk_61 (dk_at dksX0_bits_0 7 rfl rfl)
theorem dX0_bits_8 : decode cX0_bits 8 = .ok (.iload_n 2, 1) := dk_28 (dk_at dksX0_bits_0 8 rfl rfl)
theorem dX0_bits_9 : decode cX0_bits 9 = .ok (.ifCond .lt 20, 3) := dk_155 0 20 (dk_at dksX0_bits_0 9 rfl rfl)
theorem dX0_bits_12 : decode cX0_bits 12 = .ok (.iload_n 1, 1) := dk_27 (dk_at dksX0_bits_0 12 rfl rfl)
theorem dX0_bits_13 : decode cX0_bits 13 = .ok (.iconst 1, 1) := dk_4 (dk_at dksX0_bits_0 13 rfl rfl)
theorem dX0_bits_14 : decode cX0_bits 14 = .ok (.iload_n 2, 1) := dk_28 (dk_at dksX0_bits_0 14 rfl rfl)
theorem dX0_bits_15 : decode cX0_bits 15 = .ok (.ishl, 1) := dk_120 (dk_at dksX0_bits_0 15 rfl rfl)
theorem dX0_bits_16 : decode cX0_bits 16 = .ok (.ior, 1) := dk_128 (dk_at dksX0_bits_0 16 rfl rfl)
theorem dX0_bits_17 : decode cX0_bits 17 = .ok (.istore_n 1, 1) := dk_60 (dk_at dksX0_bits_0 17 rfl rfl)
theorem dX0_bits_18 : decode cX0_bits 18 = .ok (.aload_n 0, 1) := dk_42 (dk_at dksX0_bits_0 18 rfl rfl)
theorem dX0_bits_19 : decode cX0_bits 19 = .ok (.iload_n 2, 1) := dk_28 (dk_at dksX0_bits_0 19 rfl rfl)
theorem dX0_bits_20 : decode cX0_bits 20 = .ok (.iconst 1, 1) := dk_4 (dk_at dksX0_bits_0 20 rfl rfl)
theorem dX0_bits_21 : decode cX0_bits 21 = .ok (.iadd, 1) := dk_96 (dk_at dksX0_bits_0 21 rfl rfl)
theorem dX0_bits_22 : decode cX0_bits 22 = .ok (.invokevirtual 346, 3) := dk_182 1 90 (dk_at dksX0_bits_1 0 rfl rfl)
theorem dX0_bits_25 : decode cX0_bits 25 = .ok (.istore_n 2, 1) := dk_61 (dk_at dksX0_bits_1 3 rfl rfl)
theorem dX0_bits_26 : decode cX0_bits 26 = .ok (.goto (-18), 3) := dk_167 255 238 (dk_at dksX0_bits_1 4 rfl rfl)
theorem dX0_bits_29 : decode cX0_bits 29 = .ok (.iload_n 1, 1) := dk_27 (dk_at dksX0_bits_1 7 rfl rfl)
theorem dX0_bits_30 : decode cX0_bits 30 = .ok (.ireturn, 1) := dk_172 (dk_at dksX0_bits_1 8 rfl rfl)
abbrev cX0_asked : ByteArray := prog_1_method_16_code
def yX0_asked : MethodName := ⟨RX0, "asked", "(I)D"⟩
def dkwX0_asked_1 : List UInt8 := [2, 181, 0, 41, 42, 27, 182, 1, 16, 175]
abbrev dktX0_asked_1 : List UInt8 := dkwX0_asked_1 ++ []
def dkwX0_asked_0 : List UInt8 := [42, 180, 0, 52, 89, 180, 0, 220, 4, 96, 181, 0, 220, 42, 1, 181, 0, 167, 42, 3, 181, 0, 138, 42]
abbrev dktX0_asked_0 : List UInt8 := dkwX0_asked_0 ++ dktX0_asked_1
theorem dksX0_asked_0 : cX0_asked.data.toList.drop 0 = dktX0_asked_0 := by decide +kernel
theorem dksX0_asked_1 : cX0_asked.data.toList.drop 24 = dktX0_asked_1 := dk_seg dksX0_asked_0 24 rfl rfl
theorem dX0_asked_0 : decode cX0_asked 0 = .ok (.aload_n 0, 1) := dk_42 (dk_at dksX0_asked_0 0 rfl rfl)
theorem dX0_asked_1 : decode cX0_asked 1 = .ok (.getfield 52, 3) := dk_180 0 52 (dk_at dksX0_asked_0 1 rfl rfl)
theorem dX0_asked_4 : decode cX0_asked 4 = .ok (.dup, 1) := dk_89 (dk_at dksX0_asked_0 4 rfl rfl)
theorem dX0_asked_5 : decode cX0_asked 5 = .ok (.getfield 220, 3) := dk_180 0 220 (dk_at dksX0_asked_0 5 rfl rfl)
theorem dX0_asked_8 : decode cX0_asked 8 = .ok (.iconst 1, 1) := dk_4 (dk_at dksX0_asked_0 8 rfl rfl)
theorem dX0_asked_9 : decode cX0_asked 9 = .ok (.iadd, 1) := dk_96 (dk_at dksX0_asked_0 9 rfl rfl)
theorem dX0_asked_10 : decode cX0_asked 10 = .ok (.putfield 220, 3) := dk_181 0 220 (dk_at dksX0_asked_0 10 rfl rfl)
theorem dX0_asked_13 : decode cX0_asked 13 = .ok (.aload_n 0, 1) := dk_42 (dk_at dksX0_asked_0 13 rfl rfl)
theorem dX0_asked_14 : decode cX0_asked 14 = .ok (.aconst_null, 1) := dk_1 (dk_at dksX0_asked_0 14 rfl rfl)
theorem dX0_asked_15 : decode cX0_asked 15 = .ok (.putfield 167, 3) := dk_181 0 167 (dk_at dksX0_asked_0 15 rfl rfl)
theorem dX0_asked_18 : decode cX0_asked 18 = .ok (.aload_n 0, 1) := dk_42 (dk_at dksX0_asked_0 18 rfl rfl)
theorem dX0_asked_19 : decode cX0_asked 19 = .ok (.iconst 0, 1) := dk_3 (dk_at dksX0_asked_0 19 rfl rfl)
theorem dX0_asked_20 : decode cX0_asked 20 = .ok (.putfield 138, 3) := dk_181 0 138 (dk_at dksX0_asked_0 20 rfl rfl)
theorem dX0_asked_23 : decode cX0_asked 23 = .ok (.aload_n 0, 1) := dk_42 (dk_at dksX0_asked_0 23 rfl rfl)
theorem dX0_asked_24 : decode cX0_asked 24 = .ok (.iconst (-1), 1) := dk_2 (dk_at dksX0_asked_1 0 rfl rfl)
theorem dX0_asked_25 : decode cX0_asked 25 = .ok (.putfield 41, 3) := dk_181 0 41 (dk_at dksX0_asked_1 1 rfl rfl)
theorem dX0_asked_28 : decode cX0_asked 28 = .ok (.aload_n 0, 1) := dk_42 (dk_at dksX0_asked_1 4 rfl rfl)
theorem dX0_asked_29 : decode cX0_asked 29 = .ok (.iload_n 1, 1) := dk_27 (dk_at dksX0_asked_1 5 rfl rfl)
theorem dX0_asked_30 : decode cX0_asked 30 = .ok (.invokevirtual 272, 3) := dk_182 1 16 (dk_at dksX0_asked_1 6 rfl rfl)
theorem dX0_asked_33 : decode cX0_asked 33 = .ok (.dreturn, 1) := dk_175 (dk_at dksX0_asked_1 9 rfl rfl)
abbrev cX0_tell : ByteArray := prog_1_method_10_code
def yX0_tell : MethodName := ⟨RX0, "tell", "(I)D"⟩
def dkwX0_tell_6 : List UInt8 := [180, 0, 232, 21, 4, 51, 181, 0, 41, 14, 175]
abbrev dktX0_tell_6 : List UInt8 := dkwX0_tell_6 ++ []
def dkwX0_tell_5 : List UInt8 := [49, 175, 42, 180, 0, 138, 154, 0, 25, 42, 45, 180, 0, 227, 21, 4, 51, 181, 0, 138, 42, 45]
abbrev dktX0_tell_5 : List UInt8 := dkwX0_tell_5 ++ dktX0_tell_6
def dkwX0_tell_4 : List UInt8 := [42, 44, 45, 21, 4, 182, 0, 223, 45, 180, 0, 227, 21, 4, 51, 154, 0, 11, 45, 180, 0, 229, 21, 4]
abbrev dktX0_tell_4 : List UInt8 := dkwX0_tell_4 ++ dktX0_tell_5
def dkwX0_tell_3 : List UInt8 := [50, 78, 42, 27, 45, 182, 0, 213, 54, 4, 45, 180, 0, 217, 21, 4, 46, 45, 180, 0, 220, 159, 0, 11]
abbrev dktX0_tell_3 : List UInt8 := dkwX0_tell_3 ++ dktX0_tell_4
def dkwX0_tell_2 : List UInt8 := [180, 0, 167, 199, 0, 10, 42, 180, 0, 52, 167, 0, 15, 42, 180, 0, 47, 42, 180, 0, 167, 180, 0, 151]
abbrev dktX0_tell_2 : List UInt8 := dkwX0_tell_2 ++ dktX0_tell_3
def dkwX0_tell_1 : List UInt8 := [180, 0, 209, 175, 42, 180, 0, 138, 154, 0, 13, 42, 4, 181, 0, 138, 42, 27, 181, 0, 41, 14, 175, 42]
abbrev dktX0_tell_1 : List UInt8 := dkwX0_tell_1 ++ dktX0_tell_2
def dkwX0_tell_0 : List UInt8 := [42, 180, 0, 31, 27, 50, 77, 44, 182, 0, 202, 153, 0, 34, 44, 182, 0, 206, 154, 0, 8, 44]
abbrev dktX0_tell_0 : List UInt8 := dkwX0_tell_0 ++ dktX0_tell_1
theorem dksX0_tell_0 : cX0_tell.data.toList.drop 0 = dktX0_tell_0 := by decide +kernel
theorem dksX0_tell_1 : cX0_tell.data.toList.drop 22 = dktX0_tell_1 := dk_seg dksX0_tell_0 22 rfl rfl
theorem dksX0_tell_2 : cX0_tell.data.toList.drop 46 = dktX0_tell_2 := dk_seg dksX0_tell_1 24 rfl rfl
theorem dksX0_tell_3 : cX0_tell.data.toList.drop 70 = dktX0_tell_3 := dk_seg dksX0_tell_2 24 rfl rfl
theorem dksX0_tell_4 : cX0_tell.data.toList.drop 94 = dktX0_tell_4 := dk_seg dksX0_tell_3 24 rfl rfl
theorem dksX0_tell_5 : cX0_tell.data.toList.drop 118 = dktX0_tell_5 := dk_seg dksX0_tell_4 24 rfl rfl
theorem dksX0_tell_6 : cX0_tell.data.toList.drop 140 = dktX0_tell_6 := dk_seg dksX0_tell_5 22 rfl rfl
theorem dX0_tell_0 : decode cX0_tell 0 = .ok (.aload_n 0, 1) := dk_42 (dk_at dksX0_tell_0 0 rfl rfl)
theorem dX0_tell_1 : decode cX0_tell 1 = .ok (.getfield 31, 3) := dk_180 0 31 (dk_at dksX0_tell_0 1 rfl rfl)
theorem dX0_tell_4 : decode cX0_tell 4 = .ok (.iload_n 1, 1) := dk_27 (dk_at dksX0_tell_0 4 rfl rfl)
theorem dX0_tell_5 : decode cX0_tell 5 = .ok (.aaload, 1) := dk_50 (dk_at dksX0_tell_0 5 rfl rfl)
theorem dX0_tell_6 : decode cX0_tell 6 = .ok (.astore_n 2, 1) := dk_77 (dk_at dksX0_tell_0 6 rfl rfl)
theorem dX0_tell_7 : decode cX0_tell 7 = .ok (.aload_n 2, 1) := dk_44 (dk_at dksX0_tell_0 7 rfl rfl)
theorem dX0_tell_8 : decode cX0_tell 8 = .ok (.invokevirtual 202, 3) := dk_182 0 202 (dk_at dksX0_tell_0 8 rfl rfl)
theorem dX0_tell_11 : decode cX0_tell 11 = .ok (.ifCond .eq 34, 3) := dk_153 0 34 (dk_at dksX0_tell_0 11 rfl rfl)
theorem dX0_tell_14 : decode cX0_tell 14 = .ok (.aload_n 2, 1) := dk_44 (dk_at dksX0_tell_0 14 rfl rfl)
theorem dX0_tell_15 : decode cX0_tell 15 = .ok (.invokevirtual 206, 3) := dk_182 0 206 (dk_at dksX0_tell_0 15 rfl rfl)
theorem dX0_tell_18 : decode cX0_tell 18 = .ok (.ifCond .ne 8, 3) := dk_154 0 8 (dk_at dksX0_tell_0 18 rfl rfl)
theorem dX0_tell_21 : decode cX0_tell 21 = .ok (.aload_n 2, 1) := dk_44 (dk_at dksX0_tell_0 21 rfl rfl)
theorem dX0_tell_22 : decode cX0_tell 22 = .ok (.getfield 209, 3) := dk_180 0 209 (dk_at dksX0_tell_1 0 rfl rfl)
theorem dX0_tell_25 : decode cX0_tell 25 = .ok (.dreturn, 1) := dk_175 (dk_at dksX0_tell_1 3 rfl rfl)
theorem dX0_tell_26 : decode cX0_tell 26 = .ok (.aload_n 0, 1) := dk_42 (dk_at dksX0_tell_1 4 rfl rfl)
theorem dX0_tell_27 : decode cX0_tell 27 = .ok (.getfield 138, 3) := dk_180 0 138 (dk_at dksX0_tell_1 5 rfl rfl)
theorem dX0_tell_30 : decode cX0_tell 30 = .ok (.ifCond .ne 13, 3) := dk_154 0 13 (dk_at dksX0_tell_1 8 rfl rfl)
theorem dX0_tell_33 : decode cX0_tell 33 = .ok (.aload_n 0, 1) := dk_42 (dk_at dksX0_tell_1 11 rfl rfl)
theorem dX0_tell_34 : decode cX0_tell 34 = .ok (.iconst 1, 1) := dk_4 (dk_at dksX0_tell_1 12 rfl rfl)
theorem dX0_tell_35 : decode cX0_tell 35 = .ok (.putfield 138, 3) := dk_181 0 138 (dk_at dksX0_tell_1 13 rfl rfl)
theorem dX0_tell_38 : decode cX0_tell 38 = .ok (.aload_n 0, 1) := dk_42 (dk_at dksX0_tell_1 16 rfl rfl)
theorem dX0_tell_39 : decode cX0_tell 39 = .ok (.iload_n 1, 1) := dk_27 (dk_at dksX0_tell_1 17 rfl rfl)
theorem dX0_tell_40 : decode cX0_tell 40 = .ok (.putfield 41, 3) := dk_181 0 41 (dk_at dksX0_tell_1 18 rfl rfl)
theorem dX0_tell_43 : decode cX0_tell 43 = .ok (.dconst 0, 1) := dk_14 (dk_at dksX0_tell_1 21 rfl rfl)
theorem dX0_tell_44 : decode cX0_tell 44 = .ok (.dreturn, 1) := dk_175 (dk_at dksX0_tell_1 22 rfl rfl)
theorem dX0_tell_45 : decode cX0_tell 45 = .ok (.aload_n 0, 1) := dk_42 (dk_at dksX0_tell_1 23 rfl rfl)
theorem dX0_tell_46 : decode cX0_tell 46 = .ok (.getfield 167, 3) := dk_180 0 167 (dk_at dksX0_tell_2 0 rfl rfl)
theorem dX0_tell_49 : decode cX0_tell 49 = .ok (.ifnonnull 10, 3) := dk_199 0 10 (dk_at dksX0_tell_2 3 rfl rfl)
theorem dX0_tell_52 : decode cX0_tell 52 = .ok (.aload_n 0, 1) := dk_42 (dk_at dksX0_tell_2 6 rfl rfl)
theorem dX0_tell_53 : decode cX0_tell 53 = .ok (.getfield 52, 3) := dk_180 0 52 (dk_at dksX0_tell_2 7 rfl rfl)
theorem dX0_tell_56 : decode cX0_tell 56 = .ok (.goto 15, 3) := dk_167 0 15 (dk_at dksX0_tell_2 10 rfl rfl)
theorem dX0_tell_59 : decode cX0_tell 59 = .ok (.aload_n 0, 1) := dk_42 (dk_at dksX0_tell_2 13 rfl rfl)
theorem dX0_tell_60 : decode cX0_tell 60 = .ok (.getfield 47, 3) := dk_180 0 47 (dk_at dksX0_tell_2 14 rfl rfl)
theorem dX0_tell_63 : decode cX0_tell 63 = .ok (.aload_n 0, 1) := dk_42 (dk_at dksX0_tell_2 17 rfl rfl)
theorem dX0_tell_64 : decode cX0_tell 64 = .ok (.getfield 167, 3) := dk_180 0 167 (dk_at dksX0_tell_2 18 rfl rfl)
theorem dX0_tell_67 : decode cX0_tell 67 = .ok (.getfield 151, 3) := dk_180 0 151 (dk_at dksX0_tell_2 21 rfl rfl)
theorem dX0_tell_70 : decode cX0_tell 70 = .ok (.aaload, 1) := dk_50 (dk_at dksX0_tell_3 0 rfl rfl)
theorem dX0_tell_71 : decode cX0_tell 71 = .ok (.astore_n 3, 1) := dk_78 (dk_at dksX0_tell_3 1 rfl rfl)
theorem dX0_tell_72 : decode cX0_tell 72 = .ok (.aload_n 0, 1) := dk_42 (dk_at dksX0_tell_3 2 rfl rfl)
theorem dX0_tell_73 : decode cX0_tell 73 = .ok (.iload_n 1, 1) := dk_27 (dk_at dksX0_tell_3 3 rfl rfl)
theorem dX0_tell_74 : decode cX0_tell 74 = .ok (.aload_n 3, 1) := dk_45 (dk_at dksX0_tell_3 4 rfl rfl)
theorem dX0_tell_75 : decode cX0_tell 75 = .ok (.invokevirtual 213, 3) := dk_182 0 213 (dk_at dksX0_tell_3 5 rfl rfl)
theorem dX0_tell_78 : decode cX0_tell 78 = .ok (.istore 4, 2) := dk_54 4 (dk_at dksX0_tell_3 8 rfl rfl)
theorem dX0_tell_80 : decode cX0_tell 80 = .ok (.aload_n 3, 1) := dk_45 (dk_at dksX0_tell_3 10 rfl rfl)
theorem dX0_tell_81 : decode cX0_tell 81 = .ok (.getfield 217, 3) := dk_180 0 217 (dk_at dksX0_tell_3 11 rfl rfl)
theorem dX0_tell_84 : decode cX0_tell 84 = .ok (.iload 4, 2) := dk_21 4 (dk_at dksX0_tell_3 14 rfl rfl)
theorem dX0_tell_86 : decode cX0_tell 86 = .ok (.iaload, 1) := dk_46 (dk_at dksX0_tell_3 16 rfl rfl)
theorem dX0_tell_87 : decode cX0_tell 87 = .ok (.aload_n 3, 1) := dk_45 (dk_at dksX0_tell_3 17 rfl rfl)
theorem dX0_tell_88 : decode cX0_tell 88 = .ok (.getfield 220, 3) := dk_180 0 220 (dk_at dksX0_tell_3 18 rfl rfl)
theorem dX0_tell_91 : decode cX0_tell 91 = .ok (.if_icmp .eq 11, 3) := dk_159 0 11 (dk_at dksX0_tell_3 21 rfl rfl)
theorem dX0_tell_94 : decode cX0_tell 94 = .ok (.aload_n 0, 1) := dk_42 (dk_at dksX0_tell_4 0 rfl rfl)
theorem dX0_tell_95 : decode cX0_tell 95 = .ok (.aload_n 2, 1) := dk_44 (dk_at dksX0_tell_4 1 rfl rfl)
theorem dX0_tell_96 : decode cX0_tell 96 = .ok (.aload_n 3, 1) := dk_45 (dk_at dksX0_tell_4 2 rfl rfl)
theorem dX0_tell_97 : decode cX0_tell 97 = .ok (.iload 4, 2) := dk_21 4 (dk_at dksX0_tell_4 3 rfl rfl)
theorem dX0_tell_99 : decode cX0_tell 99 = .ok (.invokevirtual 223, 3) := dk_182 0 223 (dk_at dksX0_tell_4 5 rfl rfl)
theorem dX0_tell_102 : decode cX0_tell 102 = .ok (.aload_n 3, 1) := dk_45 (dk_at dksX0_tell_4 8 rfl rfl)
theorem dX0_tell_103 : decode cX0_tell 103 = .ok (.getfield 227, 3) := dk_180 0 227 (dk_at dksX0_tell_4 9 rfl rfl)
theorem dX0_tell_106 : decode cX0_tell 106 = .ok (.iload 4, 2) := dk_21 4 (dk_at dksX0_tell_4 12 rfl rfl)
theorem dX0_tell_108 : decode cX0_tell 108 = .ok (.baload, 1) := dk_51 (dk_at dksX0_tell_4 14 rfl rfl)
theorem dX0_tell_109 : decode cX0_tell 109 = .ok (.ifCond .ne 11, 3) := dk_154 0 11 (dk_at dksX0_tell_4 15 rfl rfl)
theorem dX0_tell_112 : decode cX0_tell 112 = .ok (.aload_n 3, 1) := dk_45 (dk_at dksX0_tell_4 18 rfl rfl)
theorem dX0_tell_113 : decode cX0_tell 113 = .ok (.getfield 229, 3) := dk_180 0 229 (dk_at dksX0_tell_4 19 rfl rfl)
theorem dX0_tell_116 : decode cX0_tell 116 = .ok (.iload 4, 2) := dk_21 4 (dk_at dksX0_tell_4 22 rfl rfl)
theorem dX0_tell_118 : decode cX0_tell 118 = .ok (.daload, 1) := dk_49 (dk_at dksX0_tell_5 0 rfl rfl)
theorem dX0_tell_119 : decode cX0_tell 119 = .ok (.dreturn, 1) := dk_175 (dk_at dksX0_tell_5 1 rfl rfl)
theorem dX0_tell_120 : decode cX0_tell 120 = .ok (.aload_n 0, 1) := dk_42 (dk_at dksX0_tell_5 2 rfl rfl)
theorem dX0_tell_121 : decode cX0_tell 121 = .ok (.getfield 138, 3) := dk_180 0 138 (dk_at dksX0_tell_5 3 rfl rfl)
theorem dX0_tell_124 : decode cX0_tell 124 = .ok (.ifCond .ne 25, 3) := dk_154 0 25 (dk_at dksX0_tell_5 6 rfl rfl)
theorem dX0_tell_127 : decode cX0_tell 127 = .ok (.aload_n 0, 1) := dk_42 (dk_at dksX0_tell_5 9 rfl rfl)
theorem dX0_tell_128 : decode cX0_tell 128 = .ok (.aload_n 3, 1) := dk_45 (dk_at dksX0_tell_5 10 rfl rfl)
theorem dX0_tell_129 : decode cX0_tell 129 = .ok (.getfield 227, 3) := dk_180 0 227 (dk_at dksX0_tell_5 11 rfl rfl)
theorem dX0_tell_132 : decode cX0_tell 132 = .ok (.iload 4, 2) := dk_21 4 (dk_at dksX0_tell_5 14 rfl rfl)
theorem dX0_tell_134 : decode cX0_tell 134 = .ok (.baload, 1) := dk_51 (dk_at dksX0_tell_5 16 rfl rfl)
theorem dX0_tell_135 : decode cX0_tell 135 = .ok (.putfield 138, 3) := dk_181 0 138 (dk_at dksX0_tell_5 17 rfl rfl)
theorem dX0_tell_138 : decode cX0_tell 138 = .ok (.aload_n 0, 1) := dk_42 (dk_at dksX0_tell_5 20 rfl rfl)
theorem dX0_tell_139 : decode cX0_tell 139 = .ok (.aload_n 3, 1) := dk_45 (dk_at dksX0_tell_5 21 rfl rfl)
theorem dX0_tell_140 : decode cX0_tell 140 = .ok (.getfield 232, 3) := dk_180 0 232 (dk_at dksX0_tell_6 0 rfl rfl)
theorem dX0_tell_143 : decode cX0_tell 143 = .ok (.iload 4, 2) := dk_21 4 (dk_at dksX0_tell_6 3 rfl rfl)
theorem dX0_tell_145 : decode cX0_tell 145 = .ok (.baload, 1) := dk_51 (dk_at dksX0_tell_6 5 rfl rfl)
theorem dX0_tell_146 : decode cX0_tell 146 = .ok (.putfield 41, 3) := dk_181 0 41 (dk_at dksX0_tell_6 6 rfl rfl)
theorem dX0_tell_149 : decode cX0_tell 149 = .ok (.dconst 0, 1) := dk_14 (dk_at dksX0_tell_6 9 rfl rfl)
theorem dX0_tell_150 : decode cX0_tell 150 = .ok (.dreturn, 1) := dk_175 (dk_at dksX0_tell_6 10 rfl rfl)
abbrev cX0_place : ByteArray := prog_1_method_9_code
def yX0_place : MethodName := ⟨RX0, "place", "(ILWhatIfSheet$Sight;)I"⟩
def dkwX0_place_4 : List UInt8 := [44, 180, 0, 199, 27, 104, 16, 8, 29, 104, 96, 21, 4, 96, 172]
abbrev dktX0_place_4 : List UInt8 := dkwX0_place_4 ++ []
def dkwX0_place_3 : List UInt8 := [180, 0, 175, 182, 0, 180, 153, 0, 15, 44, 180, 0, 193, 42, 180, 0, 196, 51, 167, 0, 4, 3, 54, 4]
abbrev dktX0_place_3 : List UInt8 := dkwX0_place_3 ++ dktX0_place_4
def dkwX0_place_2 : List UInt8 := [180, 0, 167, 180, 0, 190, 198, 0, 37, 42, 180, 0, 62, 27, 50, 42, 180, 0, 167, 180, 0, 190]
abbrev dktX0_place_2 : List UInt8 := dkwX0_place_2 ++ dktX0_place_3
def dkwX0_place_1 : List UInt8 := [180, 0, 175, 182, 0, 180, 153, 0, 15, 44, 180, 0, 184, 42, 180, 0, 187, 51, 167, 0, 4, 3, 62, 42]
abbrev dktX0_place_1 : List UInt8 := dkwX0_place_1 ++ dktX0_place_2
def dkwX0_place_0 : List UInt8 := [42, 180, 0, 167, 199, 0, 5, 27, 172, 42, 180, 0, 62, 27, 50, 42, 180, 0, 167, 180, 0, 171]
abbrev dktX0_place_0 : List UInt8 := dkwX0_place_0 ++ dktX0_place_1
theorem dksX0_place_0 : cX0_place.data.toList.drop 0 = dktX0_place_0 := by decide +kernel
theorem dksX0_place_1 : cX0_place.data.toList.drop 22 = dktX0_place_1 := dk_seg dksX0_place_0 22 rfl rfl
theorem dksX0_place_2 : cX0_place.data.toList.drop 46 = dktX0_place_2 := dk_seg dksX0_place_1 24 rfl rfl
theorem dksX0_place_3 : cX0_place.data.toList.drop 68 = dktX0_place_3 := dk_seg dksX0_place_2 22 rfl rfl
theorem dksX0_place_4 : cX0_place.data.toList.drop 92 = dktX0_place_4 := dk_seg dksX0_place_3 24 rfl rfl
theorem dX0_place_0 : decode cX0_place 0 = .ok (.aload_n 0, 1) := dk_42 (dk_at dksX0_place_0 0 rfl rfl)
theorem dX0_place_1 : decode cX0_place 1 = .ok (.getfield 167, 3) := dk_180 0 167 (dk_at dksX0_place_0 1 rfl rfl)
theorem dX0_place_4 : decode cX0_place 4 = .ok (.ifnonnull 5, 3) := dk_199 0 5 (dk_at dksX0_place_0 4 rfl rfl)
theorem dX0_place_7 : decode cX0_place 7 = .ok (.iload_n 1, 1) := dk_27 (dk_at dksX0_place_0 7 rfl rfl)
theorem dX0_place_8 : decode cX0_place 8 = .ok (.ireturn, 1) := dk_172 (dk_at dksX0_place_0 8 rfl rfl)
theorem dX0_place_9 : decode cX0_place 9 = .ok (.aload_n 0, 1) := dk_42 (dk_at dksX0_place_0 9 rfl rfl)
theorem dX0_place_10 : decode cX0_place 10 = .ok (.getfield 62, 3) := dk_180 0 62 (dk_at dksX0_place_0 10 rfl rfl)
theorem dX0_place_13 : decode cX0_place 13 = .ok (.iload_n 1, 1) := dk_27 (dk_at dksX0_place_0 13 rfl rfl)
theorem dX0_place_14 : decode cX0_place 14 = .ok (.aaload, 1) := dk_50 (dk_at dksX0_place_0 14 rfl rfl)
theorem dX0_place_15 : decode cX0_place 15 = .ok (.aload_n 0, 1) := dk_42 (dk_at dksX0_place_0 15 rfl rfl)
theorem dX0_place_16 : decode cX0_place 16 = .ok (.getfield 167, 3) := dk_180 0 167 (dk_at dksX0_place_0 16 rfl rfl)
theorem dX0_place_19 : decode cX0_place 19 = .ok (.getfield 171, 3) := dk_180 0 171 (dk_at dksX0_place_0 19 rfl rfl)
theorem dX0_place_22 : decode cX0_place 22 = .ok (.getfield 175, 3) := dk_180 0 175 (dk_at dksX0_place_1 0 rfl rfl)
theorem dX0_place_25 : decode cX0_place 25 = .ok (.invokevirtual 180, 3) := dk_182 0 180 (dk_at dksX0_place_1 3 rfl rfl)
theorem dX0_place_28 : decode cX0_place 28 = .ok (.ifCond .eq 15, 3) := dk_153 0 15 (dk_at dksX0_place_1 6 rfl rfl)
theorem dX0_place_31 : decode cX0_place 31 = .ok (.aload_n 2, 1) := dk_44 (dk_at dksX0_place_1 9 rfl rfl)
theorem dX0_place_32 : decode cX0_place 32 = .ok (.getfield 184, 3) := dk_180 0 184 (dk_at dksX0_place_1 10 rfl rfl)
theorem dX0_place_35 : decode cX0_place 35 = .ok (.aload_n 0, 1) := dk_42 (dk_at dksX0_place_1 13 rfl rfl)
theorem dX0_place_36 : decode cX0_place 36 = .ok (.getfield 187, 3) := dk_180 0 187 (dk_at dksX0_place_1 14 rfl rfl)
theorem dX0_place_39 : decode cX0_place 39 = .ok (.baload, 1) := dk_51 (dk_at dksX0_place_1 17 rfl rfl)
theorem dX0_place_40 : decode cX0_place 40 = .ok (.goto 4, 3) := dk_167 0 4 (dk_at dksX0_place_1 18 rfl rfl)
theorem dX0_place_43 : decode cX0_place 43 = .ok (.iconst 0, 1) := dk_3 (dk_at dksX0_place_1 21 rfl rfl)
theorem dX0_place_44 : decode cX0_place 44 = .ok (.istore_n 3, 1) := dk_62 (dk_at dksX0_place_1 22 rfl rfl)
theorem dX0_place_45 : decode cX0_place 45 = .ok (.aload_n 0, 1) := dk_42 (dk_at dksX0_place_1 23 rfl rfl)
theorem dX0_place_46 : decode cX0_place 46 = .ok (.getfield 167, 3) := dk_180 0 167 (dk_at dksX0_place_2 0 rfl rfl)
theorem dX0_place_49 : decode cX0_place 49 = .ok (.getfield 190, 3) := dk_180 0 190 (dk_at dksX0_place_2 3 rfl rfl)
theorem dX0_place_52 : decode cX0_place 52 = .ok (.ifnull 37, 3) := dk_198 0 37 (dk_at dksX0_place_2 6 rfl rfl)
theorem dX0_place_55 : decode cX0_place 55 = .ok (.aload_n 0, 1) := dk_42 (dk_at dksX0_place_2 9 rfl rfl)
theorem dX0_place_56 : decode cX0_place 56 = .ok (.getfield 62, 3) := dk_180 0 62 (dk_at dksX0_place_2 10 rfl rfl)
theorem dX0_place_59 : decode cX0_place 59 = .ok (.iload_n 1, 1) := dk_27 (dk_at dksX0_place_2 13 rfl rfl)
theorem dX0_place_60 : decode cX0_place 60 = .ok (.aaload, 1) := dk_50 (dk_at dksX0_place_2 14 rfl rfl)
theorem dX0_place_61 : decode cX0_place 61 = .ok (.aload_n 0, 1) := dk_42 (dk_at dksX0_place_2 15 rfl rfl)
theorem dX0_place_62 : decode cX0_place 62 = .ok (.getfield 167, 3) := dk_180 0 167 (dk_at dksX0_place_2 16 rfl rfl)
theorem dX0_place_65 : decode cX0_place 65 = .ok (.getfield 190, 3) := dk_180 0 190 (dk_at dksX0_place_2 19 rfl rfl)
theorem dX0_place_68 : decode cX0_place 68 = .ok (.getfield 175, 3) := dk_180 0 175 (dk_at dksX0_place_3 0 rfl rfl)
theorem dX0_place_71 : decode cX0_place 71 = .ok (.invokevirtual 180, 3) := dk_182 0 180 (dk_at dksX0_place_3 3 rfl rfl)
theorem dX0_place_74 : decode cX0_place 74 = .ok (.ifCond .eq 15, 3) := dk_153 0 15 (dk_at dksX0_place_3 6 rfl rfl)
theorem dX0_place_77 : decode cX0_place 77 = .ok (.aload_n 2, 1) := dk_44 (dk_at dksX0_place_3 9 rfl rfl)
theorem dX0_place_78 : decode cX0_place 78 = .ok (.getfield 193, 3) := dk_180 0 193 (dk_at dksX0_place_3 10 rfl rfl)
theorem dX0_place_81 : decode cX0_place 81 = .ok (.aload_n 0, 1) := dk_42 (dk_at dksX0_place_3 13 rfl rfl)
theorem dX0_place_82 : decode cX0_place 82 = .ok (.getfield 196, 3) := dk_180 0 196 (dk_at dksX0_place_3 14 rfl rfl)
theorem dX0_place_85 : decode cX0_place 85 = .ok (.baload, 1) := dk_51 (dk_at dksX0_place_3 17 rfl rfl)
theorem dX0_place_86 : decode cX0_place 86 = .ok (.goto 4, 3) := dk_167 0 4 (dk_at dksX0_place_3 18 rfl rfl)
theorem dX0_place_89 : decode cX0_place 89 = .ok (.iconst 0, 1) := dk_3 (dk_at dksX0_place_3 21 rfl rfl)
theorem dX0_place_90 : decode cX0_place 90 = .ok (.istore 4, 2) := dk_54 4 (dk_at dksX0_place_3 22 rfl rfl)
theorem dX0_place_92 : decode cX0_place 92 = .ok (.aload_n 2, 1) := dk_44 (dk_at dksX0_place_4 0 rfl rfl)
theorem dX0_place_93 : decode cX0_place 93 = .ok (.getfield 199, 3) := dk_180 0 199 (dk_at dksX0_place_4 1 rfl rfl)
theorem dX0_place_96 : decode cX0_place 96 = .ok (.iload_n 1, 1) := dk_27 (dk_at dksX0_place_4 4 rfl rfl)
theorem dX0_place_97 : decode cX0_place 97 = .ok (.imul, 1) := dk_104 (dk_at dksX0_place_4 5 rfl rfl)
theorem dX0_place_98 : decode cX0_place 98 = .ok (.bipush 8, 2) := dk_16 8 (dk_at dksX0_place_4 6 rfl rfl)
theorem dX0_place_100 : decode cX0_place 100 = .ok (.iload_n 3, 1) := dk_29 (dk_at dksX0_place_4 8 rfl rfl)
theorem dX0_place_101 : decode cX0_place 101 = .ok (.imul, 1) := dk_104 (dk_at dksX0_place_4 9 rfl rfl)
theorem dX0_place_102 : decode cX0_place 102 = .ok (.iadd, 1) := dk_96 (dk_at dksX0_place_4 10 rfl rfl)
theorem dX0_place_103 : decode cX0_place 103 = .ok (.iload 4, 2) := dk_21 4 (dk_at dksX0_place_4 11 rfl rfl)
theorem dX0_place_105 : decode cX0_place 105 = .ok (.iadd, 1) := dk_96 (dk_at dksX0_place_4 13 rfl rfl)
theorem dX0_place_106 : decode cX0_place 106 = .ok (.ireturn, 1) := dk_172 (dk_at dksX0_place_4 14 rfl rfl)
abbrev cX0_fills : ByteArray := prog_1_method_11_code
def yX0_fills : MethodName := ⟨RX0, "fills", "(LWhatIfSheet$Plain;LWhatIfSheet$Sight;I)V"⟩
def dkwX0_fills_6 : List UInt8 := [181, 0, 138, 42, 21, 5, 181, 0, 41, 42, 21, 6, 181, 0, 141, 25, 9, 191, 177]
abbrev dktX0_fills_6 : List UInt8 := dkwX0_fills_6 ++ []
def dkwX0_fills_5 : List UInt8 := [181, 0, 138, 42, 21, 5, 181, 0, 41, 42, 21, 6, 181, 0, 141, 167, 0, 26, 58, 9, 42, 21, 4]
abbrev dktX0_fills_5 : List UInt8 := dkwX0_fills_5 ++ dktX0_fills_6
def dkwX0_fills_4 : List UInt8 := [180, 0, 232, 29, 42, 180, 0, 41, 145, 84, 44, 180, 0, 217, 29, 44, 180, 0, 220, 79, 42, 21, 4]
abbrev dktX0_fills_4 : List UInt8 := dkwX0_fills_4 ++ dktX0_fills_5
def dkwX0_fills_3 : List UInt8 := [24, 7, 182, 0, 253, 167, 0, 4, 14, 82, 44, 180, 0, 227, 29, 42, 180, 0, 138, 145, 84, 44]
abbrev dktX0_fills_3 : List UInt8 := dkwX0_fills_3 ++ dktX0_fills_4
def dkwX0_fills_2 : List UInt8 := [180, 0, 239, 180, 0, 243, 182, 0, 247, 57, 7, 44, 180, 0, 229, 29, 42, 180, 0, 138, 154, 0, 12, 43]
abbrev dktX0_fills_2 : List UInt8 := dkwX0_fills_2 ++ dktX0_fills_3
def dkwX0_fills_1 : List UInt8 := [2, 181, 0, 41, 42, 43, 180, 0, 235, 181, 0, 141, 42, 89, 180, 0, 236, 4, 96, 181, 0, 236, 43]
abbrev dktX0_fills_1 : List UInt8 := dkwX0_fills_1 ++ dktX0_fills_2
def dkwX0_fills_0 : List UInt8 := [42, 180, 0, 138, 54, 4, 42, 180, 0, 41, 54, 5, 42, 180, 0, 141, 54, 6, 42, 3, 181, 0, 138, 42]
abbrev dktX0_fills_0 : List UInt8 := dkwX0_fills_0 ++ dktX0_fills_1
theorem dksX0_fills_0 : cX0_fills.data.toList.drop 0 = dktX0_fills_0 := by decide +kernel
theorem dksX0_fills_1 : cX0_fills.data.toList.drop 24 = dktX0_fills_1 := dk_seg dksX0_fills_0 24 rfl rfl
theorem dksX0_fills_2 : cX0_fills.data.toList.drop 47 = dktX0_fills_2 := dk_seg dksX0_fills_1 23 rfl rfl
theorem dksX0_fills_3 : cX0_fills.data.toList.drop 71 = dktX0_fills_3 := dk_seg dksX0_fills_2 24 rfl rfl
theorem dksX0_fills_4 : cX0_fills.data.toList.drop 93 = dktX0_fills_4 := dk_seg dksX0_fills_3 22 rfl rfl
theorem dksX0_fills_5 : cX0_fills.data.toList.drop 116 = dktX0_fills_5 := dk_seg dksX0_fills_4 23 rfl rfl
theorem dksX0_fills_6 : cX0_fills.data.toList.drop 139 = dktX0_fills_6 := dk_seg dksX0_fills_5 23 rfl rfl
theorem dX0_fills_0 : decode cX0_fills 0 = .ok (.aload_n 0, 1) := dk_42 (dk_at dksX0_fills_0 0 rfl rfl)
theorem dX0_fills_1 : decode cX0_fills 1 = .ok (.getfield 138, 3) := dk_180 0 138 (dk_at dksX0_fills_0 1 rfl rfl)
theorem dX0_fills_4 : decode cX0_fills 4 = .ok (.istore 4, 2) := dk_54 4 (dk_at dksX0_fills_0 4 rfl rfl)
theorem dX0_fills_6 : decode cX0_fills 6 = .ok (.aload_n 0, 1) := dk_42 (dk_at dksX0_fills_0 6 rfl rfl)
theorem dX0_fills_7 : decode cX0_fills 7 = .ok (.getfield 41, 3) := dk_180 0 41 (dk_at dksX0_fills_0 7 rfl rfl)
theorem dX0_fills_10 : decode cX0_fills 10 = .ok (.istore 5, 2) := dk_54 5 (dk_at dksX0_fills_0 10 rfl rfl)
theorem dX0_fills_12 : decode cX0_fills 12 = .ok (.aload_n 0, 1) := dk_42 (dk_at dksX0_fills_0 12 rfl rfl)
theorem dX0_fills_13 : decode cX0_fills 13 = .ok (.getfield 141, 3) := dk_180 0 141 (dk_at dksX0_fills_0 13 rfl rfl)
theorem dX0_fills_16 : decode cX0_fills 16 = .ok (.istore 6, 2) := dk_54 6 (dk_at dksX0_fills_0 16 rfl rfl)
theorem dX0_fills_18 : decode cX0_fills 18 = .ok (.aload_n 0, 1) := dk_42 (dk_at dksX0_fills_0 18 rfl rfl)
theorem dX0_fills_19 : decode cX0_fills 19 = .ok (.iconst 0, 1) := dk_3 (dk_at dksX0_fills_0 19 rfl rfl)
theorem dX0_fills_20 : decode cX0_fills 20 = .ok (.putfield 138, 3) := dk_181 0 138 (dk_at dksX0_fills_0 20 rfl rfl)
theorem dX0_fills_23 : decode cX0_fills 23 = .ok (.aload_n 0, 1) := dk_42 (dk_at dksX0_fills_0 23 rfl rfl)
theorem dX0_fills_24 : decode cX0_fills 24 = .ok (.iconst (-1), 1) := dk_2 (dk_at dksX0_fills_1 0 rfl rfl)
theorem dX0_fills_25 : decode cX0_fills 25 = .ok (.putfield 41, 3) := dk_181 0 41 (dk_at dksX0_fills_1 1 rfl rfl)
theorem dX0_fills_28 : decode cX0_fills 28 = .ok (.aload_n 0, 1) := dk_42 (dk_at dksX0_fills_1 4 rfl rfl)
theorem dX0_fills_29 : decode cX0_fills 29 = .ok (.aload_n 1, 1) := dk_43 (dk_at dksX0_fills_1 5 rfl rfl)
theorem dX0_fills_30 : decode cX0_fills 30 = .ok (.getfield 235, 3) := dk_180 0 235 (dk_at dksX0_fills_1 6 rfl rfl)
theorem dX0_fills_33 : decode cX0_fills 33 = .ok (.putfield 141, 3) := dk_181 0 141 (dk_at dksX0_fills_1 9 rfl rfl)
theorem dX0_fills_36 : decode cX0_fills 36 = .ok (.aload_n 0, 1) := dk_42 (dk_at dksX0_fills_1 12 rfl rfl)
theorem dX0_fills_37 : decode cX0_fills 37 = .ok (.dup, 1) := dk_89 (dk_at dksX0_fills_1 13 rfl rfl)
theorem dX0_fills_38 : decode cX0_fills 38 = .ok (.getfield 236, 3) := dk_180 0 236 (dk_at dksX0_fills_1 14 rfl rfl)
theorem dX0_fills_41 : decode cX0_fills 41 = .ok (.iconst 1, 1) := dk_4 (dk_at dksX0_fills_1 17 rfl rfl)
theorem dX0_fills_42 : decode cX0_fills 42 = .ok (.iadd, 1) := dk_96 (dk_at dksX0_fills_1 18 rfl rfl)
theorem dX0_fills_43 : decode cX0_fills 43 = .ok (.putfield 236, 3) := dk_181 0 236 (dk_at dksX0_fills_1 19 rfl rfl)
theorem dX0_fills_46 : decode cX0_fills 46 = .ok (.aload_n 1, 1) := dk_43 (dk_at dksX0_fills_1 22 rfl rfl)
theorem dX0_fills_47 : decode cX0_fills 47 = .ok (.getfield 239, 3) := dk_180 0 239 (dk_at dksX0_fills_2 0 rfl rfl)
theorem dX0_fills_50 : decode cX0_fills 50 = .ok (.getfield 243, 3) := dk_180 0 243 (dk_at dksX0_fills_2 3 rfl rfl)
theorem dX0_fills_53 : decode cX0_fills 53 = .ok (.invokevirtual 247, 3) := dk_182 0 247 (dk_at dksX0_fills_2 6 rfl rfl)
theorem dX0_fills_56 : decode cX0_fills 56 = .ok (.dstore 7, 2) := dk_57 7 (dk_at dksX0_fills_2 9 rfl rfl)
theorem dX0_fills_58 : decode cX0_fills 58 = .ok (.aload_n 2, 1) := dk_44 (dk_at dksX0_fills_2 11 rfl rfl)
theorem dX0_fills_59 : decode cX0_fills 59 = .ok (.getfield 229, 3) := dk_180 0 229 (dk_at dksX0_fills_2 12 rfl rfl)
theorem dX0_fills_62 : decode cX0_fills 62 = .ok (.iload_n 3, 1) := dk_29 (dk_at dksX0_fills_2 15 rfl rfl)
theorem dX0_fills_63 : decode cX0_fills 63 = .ok (.aload_n 0, 1) := dk_42 (dk_at dksX0_fills_2 16 rfl rfl)
theorem dX0_fills_64 : decode cX0_fills 64 = .ok (.getfield 138, 3) := dk_180 0 138 (dk_at dksX0_fills_2 17 rfl rfl)
theorem dX0_fills_67 : decode cX0_fills 67 = .ok (.ifCond .ne 12, 3) := dk_154 0 12 (dk_at dksX0_fills_2 20 rfl rfl)
theorem dX0_fills_70 : decode cX0_fills 70 = .ok (.aload_n 1, 1) := dk_43 (dk_at dksX0_fills_2 23 rfl rfl)
theorem dX0_fills_71 : decode cX0_fills 71 = .ok (.dload 7, 2) := dk_24 7 (dk_at dksX0_fills_3 0 rfl rfl)
theorem dX0_fills_73 : decode cX0_fills 73 = .ok (.invokevirtual 253, 3) := dk_182 0 253 (dk_at dksX0_fills_3 2 rfl rfl)
theorem dX0_fills_76 : decode cX0_fills 76 = .ok (.goto 4, 3) := dk_167 0 4 (dk_at dksX0_fills_3 5 rfl rfl)
theorem dX0_fills_79 : decode cX0_fills 79 = .ok (.dconst 0, 1) := dk_14 (dk_at dksX0_fills_3 8 rfl rfl)
theorem dX0_fills_80 : decode cX0_fills 80 = .ok (.dastore, 1) := dk_82 (dk_at dksX0_fills_3 9 rfl rfl)
theorem dX0_fills_81 : decode cX0_fills 81 = .ok (.aload_n 2, 1) := dk_44 (dk_at dksX0_fills_3 10 rfl rfl)
theorem dX0_fills_82 : decode cX0_fills 82 = .ok (.getfield 227, 3) := dk_180 0 227 (dk_at dksX0_fills_3 11 rfl rfl)
theorem dX0_fills_85 : decode cX0_fills 85 = .ok (.iload_n 3, 1) := dk_29 (dk_at dksX0_fills_3 14 rfl rfl)
theorem dX0_fills_86 : decode cX0_fills 86 = .ok (.aload_n 0, 1) := dk_42 (dk_at dksX0_fills_3 15 rfl rfl)
theorem dX0_fills_87 : decode cX0_fills 87 = .ok (.getfield 138, 3) := dk_180 0 138 (dk_at dksX0_fills_3 16 rfl rfl)
theorem dX0_fills_90 : decode cX0_fills 90 = .ok (.i2b, 1) := dk_145 (dk_at dksX0_fills_3 19 rfl rfl)
theorem dX0_fills_91 : decode cX0_fills 91 = .ok (.bastore, 1) := dk_84 (dk_at dksX0_fills_3 20 rfl rfl)
theorem dX0_fills_92 : decode cX0_fills 92 = .ok (.aload_n 2, 1) := dk_44 (dk_at dksX0_fills_3 21 rfl rfl)
theorem dX0_fills_93 : decode cX0_fills 93 = .ok (.getfield 232, 3) := dk_180 0 232 (dk_at dksX0_fills_4 0 rfl rfl)
theorem dX0_fills_96 : decode cX0_fills 96 = .ok (.iload_n 3, 1) := dk_29 (dk_at dksX0_fills_4 3 rfl rfl)
theorem dX0_fills_97 : decode cX0_fills 97 = .ok (.aload_n 0, 1) := dk_42 (dk_at dksX0_fills_4 4 rfl rfl)
theorem dX0_fills_98 : decode cX0_fills 98 = .ok (.getfield 41, 3) := dk_180 0 41 (dk_at dksX0_fills_4 5 rfl rfl)
theorem dX0_fills_101 : decode cX0_fills 101 = .ok (.i2b, 1) := dk_145 (dk_at dksX0_fills_4 8 rfl rfl)
theorem dX0_fills_102 : decode cX0_fills 102 = .ok (.bastore, 1) := dk_84 (dk_at dksX0_fills_4 9 rfl rfl)
theorem dX0_fills_103 : decode cX0_fills 103 = .ok (.aload_n 2, 1) := dk_44 (dk_at dksX0_fills_4 10 rfl rfl)
theorem dX0_fills_104 : decode cX0_fills 104 = .ok (.getfield 217, 3) := dk_180 0 217 (dk_at dksX0_fills_4 11 rfl rfl)
theorem dX0_fills_107 : decode cX0_fills 107 = .ok (.iload_n 3, 1) := dk_29 (dk_at dksX0_fills_4 14 rfl rfl)
theorem dX0_fills_108 : decode cX0_fills 108 = .ok (.aload_n 2, 1) := dk_44 (dk_at dksX0_fills_4 15 rfl rfl)
theorem dX0_fills_109 : decode cX0_fills 109 = .ok (.getfield 220, 3) := dk_180 0 220 (dk_at dksX0_fills_4 16 rfl rfl)
theorem dX0_fills_112 : decode cX0_fills 112 = .ok (.iastore, 1) := dk_79 (dk_at dksX0_fills_4 19 rfl rfl)
theorem dX0_fills_113 : decode cX0_fills 113 = .ok (.aload_n 0, 1) := dk_42 (dk_at dksX0_fills_4 20 rfl rfl)
theorem dX0_fills_114 : decode cX0_fills 114 = .ok (.iload 4, 2) := dk_21 4 (dk_at dksX0_fills_4 21 rfl rfl)
theorem dX0_fills_116 : decode cX0_fills 116 = .ok (.putfield 138, 3) := dk_181 0 138 (dk_at dksX0_fills_5 0 rfl rfl)
theorem dX0_fills_119 : decode cX0_fills 119 = .ok (.aload_n 0, 1) := dk_42 (dk_at dksX0_fills_5 3 rfl rfl)
theorem dX0_fills_120 : decode cX0_fills 120 = .ok (.iload 5, 2) := dk_21 5 (dk_at dksX0_fills_5 4 rfl rfl)
theorem dX0_fills_122 : decode cX0_fills 122 = .ok (.putfield 41, 3) := dk_181 0 41 (dk_at dksX0_fills_5 6 rfl rfl)
theorem dX0_fills_125 : decode cX0_fills 125 = .ok (.aload_n 0, 1) := dk_42 (dk_at dksX0_fills_5 9 rfl rfl)
theorem dX0_fills_126 : decode cX0_fills 126 = .ok (.iload 6, 2) := dk_21 6 (dk_at dksX0_fills_5 10 rfl rfl)
theorem dX0_fills_128 : decode cX0_fills 128 = .ok (.putfield 141, 3) := dk_181 0 141 (dk_at dksX0_fills_5 12 rfl rfl)
theorem dX0_fills_131 : decode cX0_fills 131 = .ok (.goto 26, 3) := dk_167 0 26 (dk_at dksX0_fills_5 15 rfl rfl)
theorem dX0_fills_134 : decode cX0_fills 134 = .ok (.astore 9, 2) := dk_58 9 (dk_at dksX0_fills_5 18 rfl rfl)
theorem dX0_fills_136 : decode cX0_fills 136 = .ok (.aload_n 0, 1) := dk_42 (dk_at dksX0_fills_5 20 rfl rfl)
theorem dX0_fills_137 : decode cX0_fills 137 = .ok (.iload 4, 2) := dk_21 4 (dk_at dksX0_fills_5 21 rfl rfl)
theorem dX0_fills_139 : decode cX0_fills 139 = .ok (.putfield 138, 3) := dk_181 0 138 (dk_at dksX0_fills_6 0 rfl rfl)
theorem dX0_fills_142 : decode cX0_fills 142 = .ok (.aload_n 0, 1) := dk_42 (dk_at dksX0_fills_6 3 rfl rfl)
theorem dX0_fills_143 : decode cX0_fills 143 = .ok (.iload 5, 2) := dk_21 5 (dk_at dksX0_fills_6 4 rfl rfl)
theorem dX0_fills_145 : decode cX0_fills 145 = .ok (.putfield 41, 3) := dk_181 0 41 (dk_at dksX0_fills_6 6 rfl rfl)
theorem dX0_fills_148 : decode cX0_fills 148 = .ok (.aload_n 0, 1) := dk_42 (dk_at dksX0_fills_6 9 rfl rfl)
theorem dX0_fills_149 : decode cX0_fills 149 = .ok (.iload 6, 2) := dk_21 6 (dk_at dksX0_fills_6 10 rfl rfl)
theorem dX0_fills_151 : decode cX0_fills 151 = .ok (.putfield 141, 3) := dk_181 0 141 (dk_at dksX0_fills_6 12 rfl rfl)
theorem dX0_fills_154 : decode cX0_fills 154 = .ok (.aload 9, 2) := dk_25 9 (dk_at dksX0_fills_6 15 rfl rfl)
theorem dX0_fills_156 : decode cX0_fills 156 = .ok (.athrow, 1) := dk_191 (dk_at dksX0_fills_6 17 rfl rfl)
theorem dX0_fills_157 : decode cX0_fills 157 = .ok (.return_, 1) := dk_177 (dk_at dksX0_fills_6 18 rfl rfl)
abbrev cX0_faults : ByteArray := prog_1_method_6_code
def yX0_faults : MethodName := ⟨RX0, "faults", "(I)V"⟩
def dkwX0_faults_0 : List UInt8 := [42, 180, 0, 138, 153, 0, 4, 177, 42, 27, 181, 0, 138, 42, 42, 180, 0, 141, 181, 0, 41, 177]
abbrev dktX0_faults_0 : List UInt8 := dkwX0_faults_0 ++ []
theorem dksX0_faults_0 : cX0_faults.data.toList.drop 0 = dktX0_faults_0 := by decide +kernel
theorem dX0_faults_0 : decode cX0_faults 0 = .ok (.aload_n 0, 1) := dk_42 (dk_at dksX0_faults_0 0 rfl rfl)
theorem dX0_faults_1 : decode cX0_faults 1 = .ok (.getfield 138, 3) := dk_180 0 138 (dk_at dksX0_faults_0 1 rfl rfl)
theorem dX0_faults_4 : decode cX0_faults 4 = .ok (.ifCond .eq 4, 3) := dk_153 0 4 (dk_at dksX0_faults_0 4 rfl rfl)
theorem dX0_faults_7 : decode cX0_faults 7 = .ok (.return_, 1) := dk_177 (dk_at dksX0_faults_0 7 rfl rfl)
theorem dX0_faults_8 : decode cX0_faults 8 = .ok (.aload_n 0, 1) := dk_42 (dk_at dksX0_faults_0 8 rfl rfl)
theorem dX0_faults_9 : decode cX0_faults 9 = .ok (.iload_n 1, 1) := dk_27 (dk_at dksX0_faults_0 9 rfl rfl)
theorem dX0_faults_10 : decode cX0_faults 10 = .ok (.putfield 138, 3) := dk_181 0 138 (dk_at dksX0_faults_0 10 rfl rfl)
theorem dX0_faults_13 : decode cX0_faults 13 = .ok (.aload_n 0, 1) := dk_42 (dk_at dksX0_faults_0 13 rfl rfl)
theorem dX0_faults_14 : decode cX0_faults 14 = .ok (.aload_n 0, 1) := dk_42 (dk_at dksX0_faults_0 14 rfl rfl)
theorem dX0_faults_15 : decode cX0_faults 15 = .ok (.getfield 141, 3) := dk_180 0 141 (dk_at dksX0_faults_0 15 rfl rfl)
theorem dX0_faults_18 : decode cX0_faults 18 = .ok (.putfield 41, 3) := dk_181 0 41 (dk_at dksX0_faults_0 18 rfl rfl)
theorem dX0_faults_21 : decode cX0_faults 21 = .ok (.return_, 1) := dk_177 (dk_at dksX0_faults_0 21 rfl rfl)
abbrev cX0_runsAll : ByteArray := prog_1_method_15_code
def yX0_runsAll : MethodName := ⟨RX0, "runsAll", "(LWhatIfSheet$Table;)V"⟩
def dkwX0_runsAll_0 : List UInt8 := [42, 43, 2, 3, 182, 1, 31, 177]
abbrev dktX0_runsAll_0 : List UInt8 := dkwX0_runsAll_0 ++ []
theorem dksX0_runsAll_0 : cX0_runsAll.data.toList.drop 0 = dktX0_runsAll_0 := by decide +kernel
theorem dX0_runsAll_0 : decode cX0_runsAll 0 = .ok (.aload_n 0, 1) := dk_42 (dk_at dksX0_runsAll_0 0 rfl rfl)
theorem dX0_runsAll_1 : decode cX0_runsAll 1 = .ok (.aload_n 1, 1) := dk_43 (dk_at dksX0_runsAll_0 1 rfl rfl)
theorem dX0_runsAll_2 : decode cX0_runsAll 2 = .ok (.iconst (-1), 1) := dk_2 (dk_at dksX0_runsAll_0 2 rfl rfl)
theorem dX0_runsAll_3 : decode cX0_runsAll 3 = .ok (.iconst 0, 1) := dk_3 (dk_at dksX0_runsAll_0 3 rfl rfl)
theorem dX0_runsAll_4 : decode cX0_runsAll 4 = .ok (.invokevirtual 287, 3) := dk_182 1 31 (dk_at dksX0_runsAll_0 4 rfl rfl)
theorem dX0_runsAll_7 : decode cX0_runsAll 7 = .ok (.return_, 1) := dk_177 (dk_at dksX0_runsAll_0 7 rfl rfl)
abbrev cX0_runs : ByteArray := prog_1_method_14_code
def yX0_runs : MethodName := ⟨RX0, "runs", "(LWhatIfSheet$Table;II)V"⟩
def dkwX0_runs_13 : List UInt8 := [42, 21, 12, 181, 0, 196, 42, 21, 13, 181, 0, 138, 42, 21, 14, 181, 0, 41, 25, 17, 191, 177]
abbrev dktX0_runs_13 : List UInt8 := dkwX0_runs_13 ++ []
def dkwX0_runs_12 : List UInt8 := [25, 5, 198, 0, 10, 25, 5, 24, 8, 181, 0, 209, 42, 25, 10, 181, 0, 167, 42, 21, 11, 181, 0, 187]
abbrev dktX0_runs_12 : List UInt8 := dkwX0_runs_12 ++ dktX0_runs_13
def dkwX0_runs_11 : List UInt8 := [21, 13, 181, 0, 138, 42, 21, 14, 181, 0, 41, 167, 0, 57, 58, 17, 25, 4, 24, 6, 181, 0, 209]
abbrev dktX0_runs_11 : List UInt8 := dkwX0_runs_11 ++ dktX0_runs_12
def dkwX0_runs_10 : List UInt8 := [24, 8, 181, 0, 209, 42, 25, 10, 181, 0, 167, 42, 21, 11, 181, 0, 187, 42, 21, 12, 181, 0, 196, 42]
abbrev dktX0_runs_10 : List UInt8 := dkwX0_runs_10 ++ dktX0_runs_11
def dkwX0_runs_9 : List UInt8 := [182, 1, 27, 132, 16, 1, 167, 255, 223, 25, 4, 24, 6, 181, 0, 209, 25, 5, 198, 0, 10, 25, 5]
abbrev dktX0_runs_9 : List UInt8 := dkwX0_runs_9 ++ dktX0_runs_10
def dkwX0_runs_8 : List UInt8 := [182, 0, 154, 162, 0, 30, 42, 43, 25, 15, 21, 16, 43, 182, 1, 10, 108, 21, 16, 43, 182, 1, 10, 112]
abbrev dktX0_runs_8 : List UInt8 := dkwX0_runs_8 ++ dktX0_runs_9
def dkwX0_runs_7 : List UInt8 := [181, 0, 196, 42, 21, 13, 181, 0, 138, 42, 21, 14, 181, 0, 41, 177, 3, 54, 16, 21, 16, 43]
abbrev dktX0_runs_7 : List UInt8 := dkwX0_runs_7 ++ dktX0_runs_8
def dkwX0_runs_6 : List UInt8 := [25, 5, 24, 8, 181, 0, 209, 42, 25, 10, 181, 0, 167, 42, 21, 11, 181, 0, 187, 42, 21, 12]
abbrev dktX0_runs_6 : List UInt8 := dkwX0_runs_6 ++ dktX0_runs_7
def dkwX0_runs_5 : List UInt8 := [155, 0, 62, 42, 43, 25, 15, 28, 29, 182, 1, 27, 25, 4, 24, 6, 181, 0, 209, 25, 5, 198, 0, 10]
abbrev dktX0_runs_5 : List UInt8 := dkwX0_runs_5 ++ dktX0_runs_6
def dkwX0_runs_4 : List UInt8 := [180, 0, 47, 43, 180, 0, 151, 50, 58, 15, 42, 43, 25, 15, 182, 1, 23, 42, 43, 181, 0, 167, 28]
abbrev dktX0_runs_4 : List UInt8 := dkwX0_runs_4 ++ dktX0_runs_5
def dkwX0_runs_3 : List UInt8 := [180, 0, 187, 54, 11, 42, 180, 0, 196, 54, 12, 42, 180, 0, 138, 54, 13, 42, 180, 0, 41, 54, 14, 42]
abbrev dktX0_runs_3 : List UInt8 := dkwX0_runs_3 ++ dktX0_runs_4
def dkwX0_runs_2 : List UInt8 := [25, 5, 199, 0, 7, 14, 167, 0, 8, 25, 5, 180, 0, 209, 57, 8, 42, 180, 0, 167, 58, 10, 42]
abbrev dktX0_runs_2 : List UInt8 := dkwX0_runs_2 ++ dktX0_runs_3
def dkwX0_runs_1 : List UInt8 := [167, 0, 15, 42, 180, 0, 31, 43, 180, 0, 190, 180, 0, 175, 50, 58, 5, 25, 4, 180, 0, 209, 57, 6]
abbrev dktX0_runs_1 : List UInt8 := dkwX0_runs_1 ++ dktX0_runs_2
def dkwX0_runs_0 : List UInt8 := [42, 180, 0, 31, 43, 180, 0, 171, 180, 0, 175, 50, 58, 4, 43, 180, 0, 190, 199, 0, 7, 1]
abbrev dktX0_runs_0 : List UInt8 := dkwX0_runs_0 ++ dktX0_runs_1
theorem dksX0_runs_0 : cX0_runs.data.toList.drop 0 = dktX0_runs_0 := by decide +kernel
theorem dksX0_runs_1 : cX0_runs.data.toList.drop 22 = dktX0_runs_1 := dk_seg dksX0_runs_0 22 rfl rfl
theorem dksX0_runs_2 : cX0_runs.data.toList.drop 46 = dktX0_runs_2 := dk_seg dksX0_runs_1 24 rfl rfl
theorem dksX0_runs_3 : cX0_runs.data.toList.drop 69 = dktX0_runs_3 := dk_seg dksX0_runs_2 23 rfl rfl
theorem dksX0_runs_4 : cX0_runs.data.toList.drop 93 = dktX0_runs_4 := dk_seg dksX0_runs_3 24 rfl rfl
theorem dksX0_runs_5 : cX0_runs.data.toList.drop 116 = dktX0_runs_5 := dk_seg dksX0_runs_4 23 rfl rfl
theorem dksX0_runs_6 : cX0_runs.data.toList.drop 140 = dktX0_runs_6 := dk_seg dksX0_runs_5 24 rfl rfl
theorem dksX0_runs_7 : cX0_runs.data.toList.drop 162 = dktX0_runs_7 := dk_seg dksX0_runs_6 22 rfl rfl
theorem dksX0_runs_8 : cX0_runs.data.toList.drop 184 = dktX0_runs_8 := dk_seg dksX0_runs_7 22 rfl rfl
theorem dksX0_runs_9 : cX0_runs.data.toList.drop 208 = dktX0_runs_9 := dk_seg dksX0_runs_8 24 rfl rfl
theorem dksX0_runs_10 : cX0_runs.data.toList.drop 231 = dktX0_runs_10 := dk_seg dksX0_runs_9 23 rfl rfl
theorem dksX0_runs_11 : cX0_runs.data.toList.drop 255 = dktX0_runs_11 := dk_seg dksX0_runs_10 24 rfl rfl
theorem dksX0_runs_12 : cX0_runs.data.toList.drop 278 = dktX0_runs_12 := dk_seg dksX0_runs_11 23 rfl rfl
theorem dksX0_runs_13 : cX0_runs.data.toList.drop 302 = dktX0_runs_13 := dk_seg dksX0_runs_12 24 rfl rfl
theorem dX0_runs_0 : decode cX0_runs 0 = .ok (.aload_n 0, 1) := dk_42 (dk_at dksX0_runs_0 0 rfl rfl)
theorem dX0_runs_1 : decode cX0_runs 1 = .ok (.getfield 31, 3) := dk_180 0 31 (dk_at dksX0_runs_0 1 rfl rfl)
theorem dX0_runs_4 : decode cX0_runs 4 = .ok (.aload_n 1, 1) := dk_43 (dk_at dksX0_runs_0 4 rfl rfl)
theorem dX0_runs_5 : decode cX0_runs 5 = .ok (.getfield 171, 3) := dk_180 0 171 (dk_at dksX0_runs_0 5 rfl rfl)
theorem dX0_runs_8 : decode cX0_runs 8 = .ok (.getfield 175, 3) := dk_180 0 175 (dk_at dksX0_runs_0 8 rfl rfl)
theorem dX0_runs_11 : decode cX0_runs 11 = .ok (.aaload, 1) := dk_50 (dk_at dksX0_runs_0 11 rfl rfl)
theorem dX0_runs_12 : decode cX0_runs 12 = .ok (.astore 4, 2) := dk_58 4 (dk_at dksX0_runs_0 12 rfl rfl)
theorem dX0_runs_14 : decode cX0_runs 14 = .ok (.aload_n 1, 1) := dk_43 (dk_at dksX0_runs_0 14 rfl rfl)
theorem dX0_runs_15 : decode cX0_runs 15 = .ok (.getfield 190, 3) := dk_180 0 190 (dk_at dksX0_runs_0 15 rfl rfl)
theorem dX0_runs_18 : decode cX0_runs 18 = .ok (.ifnonnull 7, 3) := dk_199 0 7 (dk_at dksX0_runs_0 18 rfl rfl)
theorem dX0_runs_21 : decode cX0_runs 21 = .ok (.aconst_null, 1) := dk_1 (dk_at dksX0_runs_0 21 rfl rfl)
theorem dX0_runs_22 : decode cX0_runs 22 = .ok (.goto 15, 3) := dk_167 0 15 (dk_at dksX0_runs_1 0 rfl rfl)
theorem dX0_runs_25 : decode cX0_runs 25 = .ok (.aload_n 0, 1) := dk_42 (dk_at dksX0_runs_1 3 rfl rfl)
theorem dX0_runs_26 : decode cX0_runs 26 = .ok (.getfield 31, 3) := dk_180 0 31 (dk_at dksX0_runs_1 4 rfl rfl)
theorem dX0_runs_29 : decode cX0_runs 29 = .ok (.aload_n 1, 1) := dk_43 (dk_at dksX0_runs_1 7 rfl rfl)
theorem dX0_runs_30 : decode cX0_runs 30 = .ok (.getfield 190, 3) := dk_180 0 190 (dk_at dksX0_runs_1 8 rfl rfl)
theorem dX0_runs_33 : decode cX0_runs 33 = .ok (.getfield 175, 3) := dk_180 0 175 (dk_at dksX0_runs_1 11 rfl rfl)
theorem dX0_runs_36 : decode cX0_runs 36 = .ok (.aaload, 1) := dk_50 (dk_at dksX0_runs_1 14 rfl rfl)
theorem dX0_runs_37 : decode cX0_runs 37 = .ok (.astore 5, 2) := dk_58 5 (dk_at dksX0_runs_1 15 rfl rfl)
theorem dX0_runs_39 : decode cX0_runs 39 = .ok (.aload 4, 2) := dk_25 4 (dk_at dksX0_runs_1 17 rfl rfl)
theorem dX0_runs_41 : decode cX0_runs 41 = .ok (.getfield 209, 3) := dk_180 0 209 (dk_at dksX0_runs_1 19 rfl rfl)
theorem dX0_runs_44 : decode cX0_runs 44 = .ok (.dstore 6, 2) := dk_57 6 (dk_at dksX0_runs_1 22 rfl rfl)
theorem dX0_runs_46 : decode cX0_runs 46 = .ok (.aload 5, 2) := dk_25 5 (dk_at dksX0_runs_2 0 rfl rfl)
theorem dX0_runs_48 : decode cX0_runs 48 = .ok (.ifnonnull 7, 3) := dk_199 0 7 (dk_at dksX0_runs_2 2 rfl rfl)
theorem dX0_runs_51 : decode cX0_runs 51 = .ok (.dconst 0, 1) := dk_14 (dk_at dksX0_runs_2 5 rfl rfl)
theorem dX0_runs_52 : decode cX0_runs 52 = .ok (.goto 8, 3) := dk_167 0 8 (dk_at dksX0_runs_2 6 rfl rfl)
theorem dX0_runs_55 : decode cX0_runs 55 = .ok (.aload 5, 2) := dk_25 5 (dk_at dksX0_runs_2 9 rfl rfl)
theorem dX0_runs_57 : decode cX0_runs 57 = .ok (.getfield 209, 3) := dk_180 0 209 (dk_at dksX0_runs_2 11 rfl rfl)
theorem dX0_runs_60 : decode cX0_runs 60 = .ok (.dstore 8, 2) := dk_57 8 (dk_at dksX0_runs_2 14 rfl rfl)
theorem dX0_runs_62 : decode cX0_runs 62 = .ok (.aload_n 0, 1) := dk_42 (dk_at dksX0_runs_2 16 rfl rfl)
theorem dX0_runs_63 : decode cX0_runs 63 = .ok (.getfield 167, 3) := dk_180 0 167 (dk_at dksX0_runs_2 17 rfl rfl)
theorem dX0_runs_66 : decode cX0_runs 66 = .ok (.astore 10, 2) := dk_58 10 (dk_at dksX0_runs_2 20 rfl rfl)
theorem dX0_runs_68 : decode cX0_runs 68 = .ok (.aload_n 0, 1) := dk_42 (dk_at dksX0_runs_2 22 rfl rfl)
theorem dX0_runs_69 : decode cX0_runs 69 = .ok (.getfield 187, 3) := dk_180 0 187 (dk_at dksX0_runs_3 0 rfl rfl)
theorem dX0_runs_72 : decode cX0_runs 72 = .ok (.istore 11, 2) := dk_54 11 (dk_at dksX0_runs_3 3 rfl rfl)
theorem dX0_runs_74 : decode cX0_runs 74 = .ok (.aload_n 0, 1) := dk_42 (dk_at dksX0_runs_3 5 rfl rfl)
theorem dX0_runs_75 : decode cX0_runs 75 = .ok (.getfield 196, 3) := dk_180 0 196 (dk_at dksX0_runs_3 6 rfl rfl)
theorem dX0_runs_78 : decode cX0_runs 78 = .ok (.istore 12, 2) := dk_54 12 (dk_at dksX0_runs_3 9 rfl rfl)
theorem dX0_runs_80 : decode cX0_runs 80 = .ok (.aload_n 0, 1) := dk_42 (dk_at dksX0_runs_3 11 rfl rfl)
theorem dX0_runs_81 : decode cX0_runs 81 = .ok (.getfield 138, 3) := dk_180 0 138 (dk_at dksX0_runs_3 12 rfl rfl)
theorem dX0_runs_84 : decode cX0_runs 84 = .ok (.istore 13, 2) := dk_54 13 (dk_at dksX0_runs_3 15 rfl rfl)
theorem dX0_runs_86 : decode cX0_runs 86 = .ok (.aload_n 0, 1) := dk_42 (dk_at dksX0_runs_3 17 rfl rfl)
theorem dX0_runs_87 : decode cX0_runs 87 = .ok (.getfield 41, 3) := dk_180 0 41 (dk_at dksX0_runs_3 18 rfl rfl)
theorem dX0_runs_90 : decode cX0_runs 90 = .ok (.istore 14, 2) := dk_54 14 (dk_at dksX0_runs_3 21 rfl rfl)
theorem dX0_runs_92 : decode cX0_runs 92 = .ok (.aload_n 0, 1) := dk_42 (dk_at dksX0_runs_3 23 rfl rfl)
theorem dX0_runs_93 : decode cX0_runs 93 = .ok (.getfield 47, 3) := dk_180 0 47 (dk_at dksX0_runs_4 0 rfl rfl)
theorem dX0_runs_96 : decode cX0_runs 96 = .ok (.aload_n 1, 1) := dk_43 (dk_at dksX0_runs_4 3 rfl rfl)
theorem dX0_runs_97 : decode cX0_runs 97 = .ok (.getfield 151, 3) := dk_180 0 151 (dk_at dksX0_runs_4 4 rfl rfl)
theorem dX0_runs_100 : decode cX0_runs 100 = .ok (.aaload, 1) := dk_50 (dk_at dksX0_runs_4 7 rfl rfl)
theorem dX0_runs_101 : decode cX0_runs 101 = .ok (.astore 15, 2) := dk_58 15 (dk_at dksX0_runs_4 8 rfl rfl)
theorem dX0_runs_103 : decode cX0_runs 103 = .ok (.aload_n 0, 1) := dk_42 (dk_at dksX0_runs_4 10 rfl rfl)
theorem dX0_runs_104 : decode cX0_runs 104 = .ok (.aload_n 1, 1) := dk_43 (dk_at dksX0_runs_4 11 rfl rfl)
theorem dX0_runs_105 : decode cX0_runs 105 = .ok (.aload 15, 2) := dk_25 15 (dk_at dksX0_runs_4 12 rfl rfl)
theorem dX0_runs_107 : decode cX0_runs 107 = .ok (.invokevirtual 279, 3) := dk_182 1 23 (dk_at dksX0_runs_4 14 rfl rfl)
theorem dX0_runs_110 : decode cX0_runs 110 = .ok (.aload_n 0, 1) := dk_42 (dk_at dksX0_runs_4 17 rfl rfl)
theorem dX0_runs_111 : decode cX0_runs 111 = .ok (.aload_n 1, 1) := dk_43 (dk_at dksX0_runs_4 18 rfl rfl)
theorem dX0_runs_112 : decode cX0_runs 112 = .ok (.putfield 167, 3) := dk_181 0 167 (dk_at dksX0_runs_4 19 rfl rfl)
theorem dX0_runs_115 : decode cX0_runs 115 = .ok (.iload_n 2, 1) := dk_28 (dk_at dksX0_runs_4 22 rfl rfl)
theorem dX0_runs_116 : decode cX0_runs 116 = .ok (.ifCond .lt 62, 3) := dk_155 0 62 (dk_at dksX0_runs_5 0 rfl rfl)
theorem dX0_runs_119 : decode cX0_runs 119 = .ok (.aload_n 0, 1) := dk_42 (dk_at dksX0_runs_5 3 rfl rfl)
theorem dX0_runs_120 : decode cX0_runs 120 = .ok (.aload_n 1, 1) := dk_43 (dk_at dksX0_runs_5 4 rfl rfl)
theorem dX0_runs_121 : decode cX0_runs 121 = .ok (.aload 15, 2) := dk_25 15 (dk_at dksX0_runs_5 5 rfl rfl)
theorem dX0_runs_123 : decode cX0_runs 123 = .ok (.iload_n 2, 1) := dk_28 (dk_at dksX0_runs_5 7 rfl rfl)
theorem dX0_runs_124 : decode cX0_runs 124 = .ok (.iload_n 3, 1) := dk_29 (dk_at dksX0_runs_5 8 rfl rfl)
theorem dX0_runs_125 : decode cX0_runs 125 = .ok (.invokevirtual 283, 3) := dk_182 1 27 (dk_at dksX0_runs_5 9 rfl rfl)
theorem dX0_runs_128 : decode cX0_runs 128 = .ok (.aload 4, 2) := dk_25 4 (dk_at dksX0_runs_5 12 rfl rfl)
theorem dX0_runs_130 : decode cX0_runs 130 = .ok (.dload 6, 2) := dk_24 6 (dk_at dksX0_runs_5 14 rfl rfl)
theorem dX0_runs_132 : decode cX0_runs 132 = .ok (.putfield 209, 3) := dk_181 0 209 (dk_at dksX0_runs_5 16 rfl rfl)
theorem dX0_runs_135 : decode cX0_runs 135 = .ok (.aload 5, 2) := dk_25 5 (dk_at dksX0_runs_5 19 rfl rfl)
theorem dX0_runs_137 : decode cX0_runs 137 = .ok (.ifnull 10, 3) := dk_198 0 10 (dk_at dksX0_runs_5 21 rfl rfl)
theorem dX0_runs_140 : decode cX0_runs 140 = .ok (.aload 5, 2) := dk_25 5 (dk_at dksX0_runs_6 0 rfl rfl)
theorem dX0_runs_142 : decode cX0_runs 142 = .ok (.dload 8, 2) := dk_24 8 (dk_at dksX0_runs_6 2 rfl rfl)
theorem dX0_runs_144 : decode cX0_runs 144 = .ok (.putfield 209, 3) := dk_181 0 209 (dk_at dksX0_runs_6 4 rfl rfl)
theorem dX0_runs_147 : decode cX0_runs 147 = .ok (.aload_n 0, 1) := dk_42 (dk_at dksX0_runs_6 7 rfl rfl)
theorem dX0_runs_148 : decode cX0_runs 148 = .ok (.aload 10, 2) := dk_25 10 (dk_at dksX0_runs_6 8 rfl rfl)
theorem dX0_runs_150 : decode cX0_runs 150 = .ok (.putfield 167, 3) := dk_181 0 167 (dk_at dksX0_runs_6 10 rfl rfl)
theorem dX0_runs_153 : decode cX0_runs 153 = .ok (.aload_n 0, 1) := dk_42 (dk_at dksX0_runs_6 13 rfl rfl)
theorem dX0_runs_154 : decode cX0_runs 154 = .ok (.iload 11, 2) := dk_21 11 (dk_at dksX0_runs_6 14 rfl rfl)
theorem dX0_runs_156 : decode cX0_runs 156 = .ok (.putfield 187, 3) := dk_181 0 187 (dk_at dksX0_runs_6 16 rfl rfl)
theorem dX0_runs_159 : decode cX0_runs 159 = .ok (.aload_n 0, 1) := dk_42 (dk_at dksX0_runs_6 19 rfl rfl)
theorem dX0_runs_160 : decode cX0_runs 160 = .ok (.iload 12, 2) := dk_21 12 (dk_at dksX0_runs_6 20 rfl rfl)
theorem dX0_runs_162 : decode cX0_runs 162 = .ok (.putfield 196, 3) := dk_181 0 196 (dk_at dksX0_runs_7 0 rfl rfl)
theorem dX0_runs_165 : decode cX0_runs 165 = .ok (.aload_n 0, 1) := dk_42 (dk_at dksX0_runs_7 3 rfl rfl)
theorem dX0_runs_166 : decode cX0_runs 166 = .ok (.iload 13, 2) := dk_21 13 (dk_at dksX0_runs_7 4 rfl rfl)
theorem dX0_runs_168 : decode cX0_runs 168 = .ok (.putfield 138, 3) := dk_181 0 138 (dk_at dksX0_runs_7 6 rfl rfl)
theorem dX0_runs_171 : decode cX0_runs 171 = .ok (.aload_n 0, 1) := dk_42 (dk_at dksX0_runs_7 9 rfl rfl)
theorem dX0_runs_172 : decode cX0_runs 172 = .ok (.iload 14, 2) := dk_21 14 (dk_at dksX0_runs_7 10 rfl rfl)
theorem dX0_runs_174 : decode cX0_runs 174 = .ok (.putfield 41, 3) := dk_181 0 41 (dk_at dksX0_runs_7 12 rfl rfl)
theorem dX0_runs_177 : decode cX0_runs 177 = .ok (.return_, 1) := dk_177 (dk_at dksX0_runs_7 15 rfl rfl)
theorem dX0_runs_178 : decode cX0_runs 178 = .ok (.iconst 0, 1) := dk_3 (dk_at dksX0_runs_7 16 rfl rfl)
theorem dX0_runs_179 : decode cX0_runs 179 = .ok (.istore 16, 2) := dk_54 16 (dk_at dksX0_runs_7 17 rfl rfl)
theorem dX0_runs_181 : decode cX0_runs 181 = .ok (.iload 16, 2) := dk_21 16 (dk_at dksX0_runs_7 19 rfl rfl)
theorem dX0_runs_183 : decode cX0_runs 183 = .ok (.aload_n 1, 1) := dk_43 (dk_at dksX0_runs_7 21 rfl rfl)
theorem dX0_runs_184 : decode cX0_runs 184 = .ok (.invokevirtual 154, 3) := dk_182 0 154 (dk_at dksX0_runs_8 0 rfl rfl)
theorem dX0_runs_187 : decode cX0_runs 187 = .ok (.if_icmp .ge 30, 3) := dk_162 0 30 (dk_at dksX0_runs_8 3 rfl rfl)
theorem dX0_runs_190 : decode cX0_runs 190 = .ok (.aload_n 0, 1) := dk_42 (dk_at dksX0_runs_8 6 rfl rfl)
theorem dX0_runs_191 : decode cX0_runs 191 = .ok (.aload_n 1, 1) := dk_43 (dk_at dksX0_runs_8 7 rfl rfl)
theorem dX0_runs_192 : decode cX0_runs 192 = .ok (.aload 15, 2) := dk_25 15 (dk_at dksX0_runs_8 8 rfl rfl)
theorem dX0_runs_194 : decode cX0_runs 194 = .ok (.iload 16, 2) := dk_21 16 (dk_at dksX0_runs_8 10 rfl rfl)
theorem dX0_runs_196 : decode cX0_runs 196 = .ok (.aload_n 1, 1) := dk_43 (dk_at dksX0_runs_8 12 rfl rfl)
theorem dX0_runs_197 : decode cX0_runs 197 = .ok (.invokevirtual 266, 3) := dk_182 1 10 (dk_at dksX0_runs_8 13 rfl rfl)
theorem dX0_runs_200 : decode cX0_runs 200 = .ok (.idiv, 1) := dk_108 (dk_at dksX0_runs_8 16 rfl rfl)
theorem dX0_runs_201 : decode cX0_runs 201 = .ok (.iload 16, 2) := dk_21 16 (dk_at dksX0_runs_8 17 rfl rfl)
theorem dX0_runs_203 : decode cX0_runs 203 = .ok (.aload_n 1, 1) := dk_43 (dk_at dksX0_runs_8 19 rfl rfl)
theorem dX0_runs_204 : decode cX0_runs 204 = .ok (.invokevirtual 266, 3) := dk_182 1 10 (dk_at dksX0_runs_8 20 rfl rfl)
theorem dX0_runs_207 : decode cX0_runs 207 = .ok (.irem, 1) := dk_112 (dk_at dksX0_runs_8 23 rfl rfl)
theorem dX0_runs_208 : decode cX0_runs 208 = .ok (.invokevirtual 283, 3) := dk_182 1 27 (dk_at dksX0_runs_9 0 rfl rfl)
theorem dX0_runs_211 : decode cX0_runs 211 = .ok (.iinc 16 1, 3) := dk_132 16 1 (dk_at dksX0_runs_9 3 rfl rfl)
theorem dX0_runs_214 : decode cX0_runs 214 = .ok (.goto (-33), 3) := dk_167 255 223 (dk_at dksX0_runs_9 6 rfl rfl)
theorem dX0_runs_217 : decode cX0_runs 217 = .ok (.aload 4, 2) := dk_25 4 (dk_at dksX0_runs_9 9 rfl rfl)
theorem dX0_runs_219 : decode cX0_runs 219 = .ok (.dload 6, 2) := dk_24 6 (dk_at dksX0_runs_9 11 rfl rfl)
theorem dX0_runs_221 : decode cX0_runs 221 = .ok (.putfield 209, 3) := dk_181 0 209 (dk_at dksX0_runs_9 13 rfl rfl)
theorem dX0_runs_224 : decode cX0_runs 224 = .ok (.aload 5, 2) := dk_25 5 (dk_at dksX0_runs_9 16 rfl rfl)
theorem dX0_runs_226 : decode cX0_runs 226 = .ok (.ifnull 10, 3) := dk_198 0 10 (dk_at dksX0_runs_9 18 rfl rfl)
theorem dX0_runs_229 : decode cX0_runs 229 = .ok (.aload 5, 2) := dk_25 5 (dk_at dksX0_runs_9 21 rfl rfl)
theorem dX0_runs_231 : decode cX0_runs 231 = .ok (.dload 8, 2) := dk_24 8 (dk_at dksX0_runs_10 0 rfl rfl)
theorem dX0_runs_233 : decode cX0_runs 233 = .ok (.putfield 209, 3) := dk_181 0 209 (dk_at dksX0_runs_10 2 rfl rfl)
theorem dX0_runs_236 : decode cX0_runs 236 = .ok (.aload_n 0, 1) := dk_42 (dk_at dksX0_runs_10 5 rfl rfl)
theorem dX0_runs_237 : decode cX0_runs 237 = .ok (.aload 10, 2) := dk_25 10 (dk_at dksX0_runs_10 6 rfl rfl)
theorem dX0_runs_239 : decode cX0_runs 239 = .ok (.putfield 167, 3) := dk_181 0 167 (dk_at dksX0_runs_10 8 rfl rfl)
theorem dX0_runs_242 : decode cX0_runs 242 = .ok (.aload_n 0, 1) := dk_42 (dk_at dksX0_runs_10 11 rfl rfl)
theorem dX0_runs_243 : decode cX0_runs 243 = .ok (.iload 11, 2) := dk_21 11 (dk_at dksX0_runs_10 12 rfl rfl)
theorem dX0_runs_245 : decode cX0_runs 245 = .ok (.putfield 187, 3) := dk_181 0 187 (dk_at dksX0_runs_10 14 rfl rfl)
theorem dX0_runs_248 : decode cX0_runs 248 = .ok (.aload_n 0, 1) := dk_42 (dk_at dksX0_runs_10 17 rfl rfl)
theorem dX0_runs_249 : decode cX0_runs 249 = .ok (.iload 12, 2) := dk_21 12 (dk_at dksX0_runs_10 18 rfl rfl)
theorem dX0_runs_251 : decode cX0_runs 251 = .ok (.putfield 196, 3) := dk_181 0 196 (dk_at dksX0_runs_10 20 rfl rfl)
theorem dX0_runs_254 : decode cX0_runs 254 = .ok (.aload_n 0, 1) := dk_42 (dk_at dksX0_runs_10 23 rfl rfl)
theorem dX0_runs_255 : decode cX0_runs 255 = .ok (.iload 13, 2) := dk_21 13 (dk_at dksX0_runs_11 0 rfl rfl)
theorem dX0_runs_257 : decode cX0_runs 257 = .ok (.putfield 138, 3) := dk_181 0 138 (dk_at dksX0_runs_11 2 rfl rfl)
theorem dX0_runs_260 : decode cX0_runs 260 = .ok (.aload_n 0, 1) := dk_42 (dk_at dksX0_runs_11 5 rfl rfl)
theorem dX0_runs_261 : decode cX0_runs 261 = .ok (.iload 14, 2) := dk_21 14 (dk_at dksX0_runs_11 6 rfl rfl)
theorem dX0_runs_263 : decode cX0_runs 263 = .ok (.putfield 41, 3) := dk_181 0 41 (dk_at dksX0_runs_11 8 rfl rfl)
theorem dX0_runs_266 : decode cX0_runs 266 = .ok (.goto 57, 3) := dk_167 0 57 (dk_at dksX0_runs_11 11 rfl rfl)
theorem dX0_runs_269 : decode cX0_runs 269 = .ok (.astore 17, 2) := dk_58 17 (dk_at dksX0_runs_11 14 rfl rfl)
theorem dX0_runs_271 : decode cX0_runs 271 = .ok (.aload 4, 2) := dk_25 4 (dk_at dksX0_runs_11 16 rfl rfl)
theorem dX0_runs_273 : decode cX0_runs 273 = .ok (.dload 6, 2) := dk_24 6 (dk_at dksX0_runs_11 18 rfl rfl)
theorem dX0_runs_275 : decode cX0_runs 275 = .ok (.putfield 209, 3) := dk_181 0 209 (dk_at dksX0_runs_11 20 rfl rfl)
theorem dX0_runs_278 : decode cX0_runs 278 = .ok (.aload 5, 2) := dk_25 5 (dk_at dksX0_runs_12 0 rfl rfl)
theorem dX0_runs_280 : decode cX0_runs 280 = .ok (.ifnull 10, 3) := dk_198 0 10 (dk_at dksX0_runs_12 2 rfl rfl)
theorem dX0_runs_283 : decode cX0_runs 283 = .ok (.aload 5, 2) := dk_25 5 (dk_at dksX0_runs_12 5 rfl rfl)
theorem dX0_runs_285 : decode cX0_runs 285 = .ok (.dload 8, 2) := dk_24 8 (dk_at dksX0_runs_12 7 rfl rfl)
theorem dX0_runs_287 : decode cX0_runs 287 = .ok (.putfield 209, 3) := dk_181 0 209 (dk_at dksX0_runs_12 9 rfl rfl)
theorem dX0_runs_290 : decode cX0_runs 290 = .ok (.aload_n 0, 1) := dk_42 (dk_at dksX0_runs_12 12 rfl rfl)
theorem dX0_runs_291 : decode cX0_runs 291 = .ok (.aload 10, 2) := dk_25 10 (dk_at dksX0_runs_12 13 rfl rfl)
theorem dX0_runs_293 : decode cX0_runs 293 = .ok (.putfield 167, 3) := dk_181 0 167 (dk_at dksX0_runs_12 15 rfl rfl)
theorem dX0_runs_296 : decode cX0_runs 296 = .ok (.aload_n 0, 1) := dk_42 (dk_at dksX0_runs_12 18 rfl rfl)
theorem dX0_runs_297 : decode cX0_runs 297 = .ok (.iload 11, 2) := dk_21 11 (dk_at dksX0_runs_12 19 rfl rfl)
theorem dX0_runs_299 : decode cX0_runs 299 = .ok (.putfield 187, 3) := dk_181 0 187 (dk_at dksX0_runs_12 21 rfl rfl)
theorem dX0_runs_302 : decode cX0_runs 302 = .ok (.aload_n 0, 1) := dk_42 (dk_at dksX0_runs_13 0 rfl rfl)
theorem dX0_runs_303 : decode cX0_runs 303 = .ok (.iload 12, 2) := dk_21 12 (dk_at dksX0_runs_13 1 rfl rfl)
theorem dX0_runs_305 : decode cX0_runs 305 = .ok (.putfield 196, 3) := dk_181 0 196 (dk_at dksX0_runs_13 3 rfl rfl)
theorem dX0_runs_308 : decode cX0_runs 308 = .ok (.aload_n 0, 1) := dk_42 (dk_at dksX0_runs_13 6 rfl rfl)
theorem dX0_runs_309 : decode cX0_runs 309 = .ok (.iload 13, 2) := dk_21 13 (dk_at dksX0_runs_13 7 rfl rfl)
theorem dX0_runs_311 : decode cX0_runs 311 = .ok (.putfield 138, 3) := dk_181 0 138 (dk_at dksX0_runs_13 9 rfl rfl)
theorem dX0_runs_314 : decode cX0_runs 314 = .ok (.aload_n 0, 1) := dk_42 (dk_at dksX0_runs_13 12 rfl rfl)
theorem dX0_runs_315 : decode cX0_runs 315 = .ok (.iload 14, 2) := dk_21 14 (dk_at dksX0_runs_13 13 rfl rfl)
theorem dX0_runs_317 : decode cX0_runs 317 = .ok (.putfield 41, 3) := dk_181 0 41 (dk_at dksX0_runs_13 15 rfl rfl)
theorem dX0_runs_320 : decode cX0_runs 320 = .ok (.aload 17, 2) := dk_25 17 (dk_at dksX0_runs_13 18 rfl rfl)
theorem dX0_runs_322 : decode cX0_runs 322 = .ok (.athrow, 1) := dk_191 (dk_at dksX0_runs_13 20 rfl rfl)
theorem dX0_runs_323 : decode cX0_runs 323 = .ok (.return_, 1) := dk_177 (dk_at dksX0_runs_13 21 rfl rfl)
abbrev cX0_opens : ByteArray := prog_1_method_12_code
def yX0_opens : MethodName := ⟨RX0, "opens", "(LWhatIfSheet$Table;LWhatIfSheet$Sight;)V"⟩
def dkwX0_opens_3 : List UInt8 := [184, 1, 3, 87, 177]
abbrev dktX0_opens_3 : List UInt8 := dkwX0_opens_3 ++ []
def dkwX0_opens_2 : List UInt8 := [180, 0, 190, 42, 180, 0, 31, 43, 180, 0, 190, 180, 0, 175, 50, 44, 180, 1, 7, 44, 180, 0, 193]
abbrev dktX0_opens_2 : List UInt8 := dkwX0_opens_2 ++ dktX0_opens_3
def dkwX0_opens_1 : List UInt8 := [180, 0, 175, 50, 44, 180, 1, 0, 44, 180, 0, 184, 184, 1, 3, 87, 43, 180, 0, 190, 198, 0, 31, 43]
abbrev dktX0_opens_1 : List UInt8 := dkwX0_opens_1 ++ dktX0_opens_2
def dkwX0_opens_0 : List UInt8 := [44, 89, 180, 0, 220, 4, 96, 181, 0, 220, 43, 180, 0, 171, 42, 180, 0, 31, 43, 180, 0, 171]
abbrev dktX0_opens_0 : List UInt8 := dkwX0_opens_0 ++ dktX0_opens_1
theorem dksX0_opens_0 : cX0_opens.data.toList.drop 0 = dktX0_opens_0 := by decide +kernel
theorem dksX0_opens_1 : cX0_opens.data.toList.drop 22 = dktX0_opens_1 := dk_seg dksX0_opens_0 22 rfl rfl
theorem dksX0_opens_2 : cX0_opens.data.toList.drop 46 = dktX0_opens_2 := dk_seg dksX0_opens_1 24 rfl rfl
theorem dksX0_opens_3 : cX0_opens.data.toList.drop 69 = dktX0_opens_3 := dk_seg dksX0_opens_2 23 rfl rfl
theorem dX0_opens_0 : decode cX0_opens 0 = .ok (.aload_n 2, 1) := dk_44 (dk_at dksX0_opens_0 0 rfl rfl)
theorem dX0_opens_1 : decode cX0_opens 1 = .ok (.dup, 1) := dk_89 (dk_at dksX0_opens_0 1 rfl rfl)
theorem dX0_opens_2 : decode cX0_opens 2 = .ok (.getfield 220, 3) := dk_180 0 220 (dk_at dksX0_opens_0 2 rfl rfl)
theorem dX0_opens_5 : decode cX0_opens 5 = .ok (.iconst 1, 1) := dk_4 (dk_at dksX0_opens_0 5 rfl rfl)
theorem dX0_opens_6 : decode cX0_opens 6 = .ok (.iadd, 1) := dk_96 (dk_at dksX0_opens_0 6 rfl rfl)
theorem dX0_opens_7 : decode cX0_opens 7 = .ok (.putfield 220, 3) := dk_181 0 220 (dk_at dksX0_opens_0 7 rfl rfl)
theorem dX0_opens_10 : decode cX0_opens 10 = .ok (.aload_n 1, 1) := dk_43 (dk_at dksX0_opens_0 10 rfl rfl)
theorem dX0_opens_11 : decode cX0_opens 11 = .ok (.getfield 171, 3) := dk_180 0 171 (dk_at dksX0_opens_0 11 rfl rfl)
theorem dX0_opens_14 : decode cX0_opens 14 = .ok (.aload_n 0, 1) := dk_42 (dk_at dksX0_opens_0 14 rfl rfl)
theorem dX0_opens_15 : decode cX0_opens 15 = .ok (.getfield 31, 3) := dk_180 0 31 (dk_at dksX0_opens_0 15 rfl rfl)
theorem dX0_opens_18 : decode cX0_opens 18 = .ok (.aload_n 1, 1) := dk_43 (dk_at dksX0_opens_0 18 rfl rfl)
theorem dX0_opens_19 : decode cX0_opens 19 = .ok (.getfield 171, 3) := dk_180 0 171 (dk_at dksX0_opens_0 19 rfl rfl)
theorem dX0_opens_22 : decode cX0_opens 22 = .ok (.getfield 175, 3) := dk_180 0 175 (dk_at dksX0_opens_1 0 rfl rfl)
theorem dX0_opens_25 : decode cX0_opens 25 = .ok (.aaload, 1) := dk_50 (dk_at dksX0_opens_1 3 rfl rfl)
theorem dX0_opens_26 : decode cX0_opens 26 = .ok (.aload_n 2, 1) := dk_44 (dk_at dksX0_opens_1 4 rfl rfl)
theorem dX0_opens_27 : decode cX0_opens 27 = .ok (.getfield 256, 3) := dk_180 1 0 (dk_at dksX0_opens_1 5 rfl rfl)
theorem dX0_opens_30 : decode cX0_opens 30 = .ok (.aload_n 2, 1) := dk_44 (dk_at dksX0_opens_1 8 rfl rfl)
theorem dX0_opens_31 : decode cX0_opens 31 = .ok (.getfield 184, 3) := dk_180 0 184 (dk_at dksX0_opens_1 9 rfl rfl)
theorem dX0_opens_34 : decode cX0_opens 34 = .ok (.invokestatic 259, 3) := dk_184 1 3 (dk_at dksX0_opens_1 12 rfl rfl)
theorem dX0_opens_37 : decode cX0_opens 37 = .ok (.pop, 1) := dk_87 (dk_at dksX0_opens_1 15 rfl rfl)
theorem dX0_opens_38 : decode cX0_opens 38 = .ok (.aload_n 1, 1) := dk_43 (dk_at dksX0_opens_1 16 rfl rfl)
theorem dX0_opens_39 : decode cX0_opens 39 = .ok (.getfield 190, 3) := dk_180 0 190 (dk_at dksX0_opens_1 17 rfl rfl)
theorem dX0_opens_42 : decode cX0_opens 42 = .ok (.ifnull 31, 3) := dk_198 0 31 (dk_at dksX0_opens_1 20 rfl rfl)
theorem dX0_opens_45 : decode cX0_opens 45 = .ok (.aload_n 1, 1) := dk_43 (dk_at dksX0_opens_1 23 rfl rfl)
theorem dX0_opens_46 : decode cX0_opens 46 = .ok (.getfield 190, 3) := dk_180 0 190 (dk_at dksX0_opens_2 0 rfl rfl)
theorem dX0_opens_49 : decode cX0_opens 49 = .ok (.aload_n 0, 1) := dk_42 (dk_at dksX0_opens_2 3 rfl rfl)
theorem dX0_opens_50 : decode cX0_opens 50 = .ok (.getfield 31, 3) := dk_180 0 31 (dk_at dksX0_opens_2 4 rfl rfl)
theorem dX0_opens_53 : decode cX0_opens 53 = .ok (.aload_n 1, 1) := dk_43 (dk_at dksX0_opens_2 7 rfl rfl)
theorem dX0_opens_54 : decode cX0_opens 54 = .ok (.getfield 190, 3) := dk_180 0 190 (dk_at dksX0_opens_2 8 rfl rfl)
theorem dX0_opens_57 : decode cX0_opens 57 = .ok (.getfield 175, 3) := dk_180 0 175 (dk_at dksX0_opens_2 11 rfl rfl)
theorem dX0_opens_60 : decode cX0_opens 60 = .ok (.aaload, 1) := dk_50 (dk_at dksX0_opens_2 14 rfl rfl)
theorem dX0_opens_61 : decode cX0_opens 61 = .ok (.aload_n 2, 1) := dk_44 (dk_at dksX0_opens_2 15 rfl rfl)
theorem dX0_opens_62 : decode cX0_opens 62 = .ok (.getfield 263, 3) := dk_180 1 7 (dk_at dksX0_opens_2 16 rfl rfl)
theorem dX0_opens_65 : decode cX0_opens 65 = .ok (.aload_n 2, 1) := dk_44 (dk_at dksX0_opens_2 19 rfl rfl)
theorem dX0_opens_66 : decode cX0_opens 66 = .ok (.getfield 193, 3) := dk_180 0 193 (dk_at dksX0_opens_2 20 rfl rfl)
theorem dX0_opens_69 : decode cX0_opens 69 = .ok (.invokestatic 259, 3) := dk_184 1 3 (dk_at dksX0_opens_3 0 rfl rfl)
theorem dX0_opens_72 : decode cX0_opens 72 = .ok (.pop, 1) := dk_87 (dk_at dksX0_opens_3 3 rfl rfl)
theorem dX0_opens_73 : decode cX0_opens 73 = .ok (.return_, 1) := dk_177 (dk_at dksX0_opens_3 4 rfl rfl)
abbrev cX0_binds : ByteArray := prog_1_method_13_code
def yX0_binds : MethodName := ⟨RX0, "binds", "(LWhatIfSheet$Table;LWhatIfSheet$Sight;II)V"⟩
def dkwX0_binds_5 : List UInt8 := [180, 0, 41, 145, 84, 177]
abbrev dktX0_binds_5 : List UInt8 := dkwX0_binds_5 ++ []
def dkwX0_binds_4 : List UInt8 := [182, 1, 16, 82, 44, 180, 0, 157, 21, 5, 42, 180, 0, 138, 145, 84, 44, 180, 1, 20, 21, 5, 42]
abbrev dktX0_binds_4 : List UInt8 := dkwX0_binds_4 ++ dktX0_binds_5
def dkwX0_binds_3 : List UInt8 := [43, 182, 1, 10, 29, 104, 21, 4, 96, 54, 5, 44, 180, 0, 160, 21, 5, 42, 43, 180, 1, 13]
abbrev dktX0_binds_3 : List UInt8 := dkwX0_binds_3 ++ dktX0_binds_4
def dkwX0_binds_2 : List UInt8 := [180, 0, 175, 50, 44, 180, 1, 7, 21, 4, 49, 181, 0, 209, 42, 3, 181, 0, 138, 42, 2, 181, 0, 41]
abbrev dktX0_binds_2 : List UInt8 := dkwX0_binds_2 ++ dktX0_binds_3
def dkwX0_binds_1 : List UInt8 := [180, 1, 0, 29, 49, 181, 0, 209, 43, 180, 0, 190, 198, 0, 25, 42, 180, 0, 31, 43, 180, 0, 190]
abbrev dktX0_binds_1 : List UInt8 := dkwX0_binds_1 ++ dktX0_binds_2
def dkwX0_binds_0 : List UInt8 := [42, 29, 181, 0, 187, 42, 21, 4, 181, 0, 196, 42, 180, 0, 31, 43, 180, 0, 171, 180, 0, 175, 50, 44]
abbrev dktX0_binds_0 : List UInt8 := dkwX0_binds_0 ++ dktX0_binds_1
theorem dksX0_binds_0 : cX0_binds.data.toList.drop 0 = dktX0_binds_0 := by decide +kernel
theorem dksX0_binds_1 : cX0_binds.data.toList.drop 24 = dktX0_binds_1 := dk_seg dksX0_binds_0 24 rfl rfl
theorem dksX0_binds_2 : cX0_binds.data.toList.drop 47 = dktX0_binds_2 := dk_seg dksX0_binds_1 23 rfl rfl
theorem dksX0_binds_3 : cX0_binds.data.toList.drop 71 = dktX0_binds_3 := dk_seg dksX0_binds_2 24 rfl rfl
theorem dksX0_binds_4 : cX0_binds.data.toList.drop 93 = dktX0_binds_4 := dk_seg dksX0_binds_3 22 rfl rfl
theorem dksX0_binds_5 : cX0_binds.data.toList.drop 116 = dktX0_binds_5 := dk_seg dksX0_binds_4 23 rfl rfl
theorem dX0_binds_0 : decode cX0_binds 0 = .ok (.aload_n 0, 1) := dk_42 (dk_at dksX0_binds_0 0 rfl rfl)
theorem dX0_binds_1 : decode cX0_binds 1 = .ok (.iload_n 3, 1) := dk_29 (dk_at dksX0_binds_0 1 rfl rfl)
theorem dX0_binds_2 : decode cX0_binds 2 = .ok (.putfield 187, 3) := dk_181 0 187 (dk_at dksX0_binds_0 2 rfl rfl)
theorem dX0_binds_5 : decode cX0_binds 5 = .ok (.aload_n 0, 1) := dk_42 (dk_at dksX0_binds_0 5 rfl rfl)
theorem dX0_binds_6 : decode cX0_binds 6 = .ok (.iload 4, 2) := dk_21 4 (dk_at dksX0_binds_0 6 rfl rfl)
theorem dX0_binds_8 : decode cX0_binds 8 = .ok (.putfield 196, 3) := dk_181 0 196 (dk_at dksX0_binds_0 8 rfl rfl)
theorem dX0_binds_11 : decode cX0_binds 11 = .ok (.aload_n 0, 1) := dk_42 (dk_at dksX0_binds_0 11 rfl rfl)
theorem dX0_binds_12 : decode cX0_binds 12 = .ok (.getfield 31, 3) := dk_180 0 31 (dk_at dksX0_binds_0 12 rfl rfl)
theorem dX0_binds_15 : decode cX0_binds 15 = .ok (.aload_n 1, 1) := dk_43 (dk_at dksX0_binds_0 15 rfl rfl)
theorem dX0_binds_16 : decode cX0_binds 16 = .ok (.getfield 171, 3) := dk_180 0 171 (dk_at dksX0_binds_0 16 rfl rfl)
theorem dX0_binds_19 : decode cX0_binds 19 = .ok (.getfield 175, 3) := dk_180 0 175 (dk_at dksX0_binds_0 19 rfl rfl)
theorem dX0_binds_22 : decode cX0_binds 22 = .ok (.aaload, 1) := dk_50 (dk_at dksX0_binds_0 22 rfl rfl)
theorem dX0_binds_23 : decode cX0_binds 23 = .ok (.aload_n 2, 1) := dk_44 (dk_at dksX0_binds_0 23 rfl rfl)
theorem dX0_binds_24 : decode cX0_binds 24 = .ok (.getfield 256, 3) := dk_180 1 0 (dk_at dksX0_binds_1 0 rfl rfl)
theorem dX0_binds_27 : decode cX0_binds 27 = .ok (.iload_n 3, 1) := dk_29 (dk_at dksX0_binds_1 3 rfl rfl)
theorem dX0_binds_28 : decode cX0_binds 28 = .ok (.daload, 1) := dk_49 (dk_at dksX0_binds_1 4 rfl rfl)
theorem dX0_binds_29 : decode cX0_binds 29 = .ok (.putfield 209, 3) := dk_181 0 209 (dk_at dksX0_binds_1 5 rfl rfl)
theorem dX0_binds_32 : decode cX0_binds 32 = .ok (.aload_n 1, 1) := dk_43 (dk_at dksX0_binds_1 8 rfl rfl)
theorem dX0_binds_33 : decode cX0_binds 33 = .ok (.getfield 190, 3) := dk_180 0 190 (dk_at dksX0_binds_1 9 rfl rfl)
theorem dX0_binds_36 : decode cX0_binds 36 = .ok (.ifnull 25, 3) := dk_198 0 25 (dk_at dksX0_binds_1 12 rfl rfl)
theorem dX0_binds_39 : decode cX0_binds 39 = .ok (.aload_n 0, 1) := dk_42 (dk_at dksX0_binds_1 15 rfl rfl)
theorem dX0_binds_40 : decode cX0_binds 40 = .ok (.getfield 31, 3) := dk_180 0 31 (dk_at dksX0_binds_1 16 rfl rfl)
theorem dX0_binds_43 : decode cX0_binds 43 = .ok (.aload_n 1, 1) := dk_43 (dk_at dksX0_binds_1 19 rfl rfl)
theorem dX0_binds_44 : decode cX0_binds 44 = .ok (.getfield 190, 3) := dk_180 0 190 (dk_at dksX0_binds_1 20 rfl rfl)
theorem dX0_binds_47 : decode cX0_binds 47 = .ok (.getfield 175, 3) := dk_180 0 175 (dk_at dksX0_binds_2 0 rfl rfl)
theorem dX0_binds_50 : decode cX0_binds 50 = .ok (.aaload, 1) := dk_50 (dk_at dksX0_binds_2 3 rfl rfl)
theorem dX0_binds_51 : decode cX0_binds 51 = .ok (.aload_n 2, 1) := dk_44 (dk_at dksX0_binds_2 4 rfl rfl)
theorem dX0_binds_52 : decode cX0_binds 52 = .ok (.getfield 263, 3) := dk_180 1 7 (dk_at dksX0_binds_2 5 rfl rfl)
theorem dX0_binds_55 : decode cX0_binds 55 = .ok (.iload 4, 2) := dk_21 4 (dk_at dksX0_binds_2 8 rfl rfl)
theorem dX0_binds_57 : decode cX0_binds 57 = .ok (.daload, 1) := dk_49 (dk_at dksX0_binds_2 10 rfl rfl)
theorem dX0_binds_58 : decode cX0_binds 58 = .ok (.putfield 209, 3) := dk_181 0 209 (dk_at dksX0_binds_2 11 rfl rfl)
theorem dX0_binds_61 : decode cX0_binds 61 = .ok (.aload_n 0, 1) := dk_42 (dk_at dksX0_binds_2 14 rfl rfl)
theorem dX0_binds_62 : decode cX0_binds 62 = .ok (.iconst 0, 1) := dk_3 (dk_at dksX0_binds_2 15 rfl rfl)
theorem dX0_binds_63 : decode cX0_binds 63 = .ok (.putfield 138, 3) := dk_181 0 138 (dk_at dksX0_binds_2 16 rfl rfl)
theorem dX0_binds_66 : decode cX0_binds 66 = .ok (.aload_n 0, 1) := dk_42 (dk_at dksX0_binds_2 19 rfl rfl)
theorem dX0_binds_67 : decode cX0_binds 67 = .ok (.iconst (-1), 1) := dk_2 (dk_at dksX0_binds_2 20 rfl rfl)
theorem dX0_binds_68 : decode cX0_binds 68 = .ok (.putfield 41, 3) := dk_181 0 41 (dk_at dksX0_binds_2 21 rfl rfl)
theorem dX0_binds_71 : decode cX0_binds 71 = .ok (.aload_n 1, 1) := dk_43 (dk_at dksX0_binds_3 0 rfl rfl)
theorem dX0_binds_72 : decode cX0_binds 72 = .ok (.invokevirtual 266, 3) := dk_182 1 10 (dk_at dksX0_binds_3 1 rfl rfl)
theorem dX0_binds_75 : decode cX0_binds 75 = .ok (.iload_n 3, 1) := dk_29 (dk_at dksX0_binds_3 4 rfl rfl)
theorem dX0_binds_76 : decode cX0_binds 76 = .ok (.imul, 1) := dk_104 (dk_at dksX0_binds_3 5 rfl rfl)
theorem dX0_binds_77 : decode cX0_binds 77 = .ok (.iload 4, 2) := dk_21 4 (dk_at dksX0_binds_3 6 rfl rfl)
theorem dX0_binds_79 : decode cX0_binds 79 = .ok (.iadd, 1) := dk_96 (dk_at dksX0_binds_3 8 rfl rfl)
theorem dX0_binds_80 : decode cX0_binds 80 = .ok (.istore 5, 2) := dk_54 5 (dk_at dksX0_binds_3 9 rfl rfl)
theorem dX0_binds_82 : decode cX0_binds 82 = .ok (.aload_n 2, 1) := dk_44 (dk_at dksX0_binds_3 11 rfl rfl)
theorem dX0_binds_83 : decode cX0_binds 83 = .ok (.getfield 160, 3) := dk_180 0 160 (dk_at dksX0_binds_3 12 rfl rfl)
theorem dX0_binds_86 : decode cX0_binds 86 = .ok (.iload 5, 2) := dk_21 5 (dk_at dksX0_binds_3 15 rfl rfl)
theorem dX0_binds_88 : decode cX0_binds 88 = .ok (.aload_n 0, 1) := dk_42 (dk_at dksX0_binds_3 17 rfl rfl)
theorem dX0_binds_89 : decode cX0_binds 89 = .ok (.aload_n 1, 1) := dk_43 (dk_at dksX0_binds_3 18 rfl rfl)
theorem dX0_binds_90 : decode cX0_binds 90 = .ok (.getfield 269, 3) := dk_180 1 13 (dk_at dksX0_binds_3 19 rfl rfl)
theorem dX0_binds_93 : decode cX0_binds 93 = .ok (.invokevirtual 272, 3) := dk_182 1 16 (dk_at dksX0_binds_4 0 rfl rfl)
theorem dX0_binds_96 : decode cX0_binds 96 = .ok (.dastore, 1) := dk_82 (dk_at dksX0_binds_4 3 rfl rfl)
theorem dX0_binds_97 : decode cX0_binds 97 = .ok (.aload_n 2, 1) := dk_44 (dk_at dksX0_binds_4 4 rfl rfl)
theorem dX0_binds_98 : decode cX0_binds 98 = .ok (.getfield 157, 3) := dk_180 0 157 (dk_at dksX0_binds_4 5 rfl rfl)
theorem dX0_binds_101 : decode cX0_binds 101 = .ok (.iload 5, 2) := dk_21 5 (dk_at dksX0_binds_4 8 rfl rfl)
theorem dX0_binds_103 : decode cX0_binds 103 = .ok (.aload_n 0, 1) := dk_42 (dk_at dksX0_binds_4 10 rfl rfl)
theorem dX0_binds_104 : decode cX0_binds 104 = .ok (.getfield 138, 3) := dk_180 0 138 (dk_at dksX0_binds_4 11 rfl rfl)
theorem dX0_binds_107 : decode cX0_binds 107 = .ok (.i2b, 1) := dk_145 (dk_at dksX0_binds_4 14 rfl rfl)
theorem dX0_binds_108 : decode cX0_binds 108 = .ok (.bastore, 1) := dk_84 (dk_at dksX0_binds_4 15 rfl rfl)
theorem dX0_binds_109 : decode cX0_binds 109 = .ok (.aload_n 2, 1) := dk_44 (dk_at dksX0_binds_4 16 rfl rfl)
theorem dX0_binds_110 : decode cX0_binds 110 = .ok (.getfield 276, 3) := dk_180 1 20 (dk_at dksX0_binds_4 17 rfl rfl)
theorem dX0_binds_113 : decode cX0_binds 113 = .ok (.iload 5, 2) := dk_21 5 (dk_at dksX0_binds_4 20 rfl rfl)
theorem dX0_binds_115 : decode cX0_binds 115 = .ok (.aload_n 0, 1) := dk_42 (dk_at dksX0_binds_4 22 rfl rfl)
theorem dX0_binds_116 : decode cX0_binds 116 = .ok (.getfield 41, 3) := dk_180 0 41 (dk_at dksX0_binds_5 0 rfl rfl)
theorem dX0_binds_119 : decode cX0_binds 119 = .ok (.i2b, 1) := dk_145 (dk_at dksX0_binds_5 3 rfl rfl)
theorem dX0_binds_120 : decode cX0_binds 120 = .ok (.bastore, 1) := dk_84 (dk_at dksX0_binds_5 4 rfl rfl)
theorem dX0_binds_121 : decode cX0_binds 121 = .ok (.return_, 1) := dk_177 (dk_at dksX0_binds_5 5 rfl rfl)
abbrev cX0_sum : ByteArray := prog_1_method_8_code
def yX0_sum : MethodName := ⟨RX0, "sum", "(LWhatIfSheet$Table;)D"⟩
def dkwX0_sum_2 : List UInt8 := [132, 5, 1, 167, 255, 220, 41, 175]
abbrev dktX0_sum_2 : List UInt8 := dkwX0_sum_2 ++ []
def dkwX0_sum_1 : List UInt8 := [44, 180, 0, 157, 21, 5, 51, 154, 0, 17, 42, 41, 44, 180, 0, 160, 21, 5, 49, 99, 182, 0, 163, 74]
abbrev dktX0_sum_1 : List UInt8 := dkwX0_sum_1 ++ dktX0_sum_2
def dkwX0_sum_0 : List UInt8 := [42, 180, 0, 47, 43, 180, 0, 151, 50, 77, 14, 74, 3, 54, 5, 21, 5, 43, 182, 0, 154, 162, 0, 33]
abbrev dktX0_sum_0 : List UInt8 := dkwX0_sum_0 ++ dktX0_sum_1
theorem dksX0_sum_0 : cX0_sum.data.toList.drop 0 = dktX0_sum_0 := by decide +kernel
theorem dksX0_sum_1 : cX0_sum.data.toList.drop 24 = dktX0_sum_1 := dk_seg dksX0_sum_0 24 rfl rfl
theorem dksX0_sum_2 : cX0_sum.data.toList.drop 48 = dktX0_sum_2 := dk_seg dksX0_sum_1 24 rfl rfl
theorem dX0_sum_0 : decode cX0_sum 0 = .ok (.aload_n 0, 1) := dk_42 (dk_at dksX0_sum_0 0 rfl rfl)
theorem dX0_sum_1 : decode cX0_sum 1 = .ok (.getfield 47, 3) := dk_180 0 47 (dk_at dksX0_sum_0 1 rfl rfl)
theorem dX0_sum_4 : decode cX0_sum 4 = .ok (.aload_n 1, 1) := dk_43 (dk_at dksX0_sum_0 4 rfl rfl)
theorem dX0_sum_5 : decode cX0_sum 5 = .ok (.getfield 151, 3) := dk_180 0 151 (dk_at dksX0_sum_0 5 rfl rfl)
theorem dX0_sum_8 : decode cX0_sum 8 = .ok (.aaload, 1) := dk_50 (dk_at dksX0_sum_0 8 rfl rfl)
theorem dX0_sum_9 : decode cX0_sum 9 = .ok (.astore_n 2, 1) := dk_77 (dk_at dksX0_sum_0 9 rfl rfl)
theorem dX0_sum_10 : decode cX0_sum 10 = .ok (.dconst 0, 1) := dk_14 (dk_at dksX0_sum_0 10 rfl rfl)
theorem dX0_sum_11 : decode cX0_sum 11 = .ok (.dstore_n 3, 1) := dk_74 (dk_at dksX0_sum_0 11 rfl rfl)
theorem dX0_sum_12 : decode cX0_sum 12 = .ok (.iconst 0, 1) := dk_3 (dk_at dksX0_sum_0 12 rfl rfl)
theorem dX0_sum_13 : decode cX0_sum 13 = .ok (.istore 5, 2) := dk_54 5 (dk_at dksX0_sum_0 13 rfl rfl)
theorem dX0_sum_15 : decode cX0_sum 15 = .ok (.iload 5, 2) := dk_21 5 (dk_at dksX0_sum_0 15 rfl rfl)
theorem dX0_sum_17 : decode cX0_sum 17 = .ok (.aload_n 1, 1) := dk_43 (dk_at dksX0_sum_0 17 rfl rfl)
theorem dX0_sum_18 : decode cX0_sum 18 = .ok (.invokevirtual 154, 3) := dk_182 0 154 (dk_at dksX0_sum_0 18 rfl rfl)
theorem dX0_sum_21 : decode cX0_sum 21 = .ok (.if_icmp .ge 33, 3) := dk_162 0 33 (dk_at dksX0_sum_0 21 rfl rfl)
theorem dX0_sum_24 : decode cX0_sum 24 = .ok (.aload_n 2, 1) := dk_44 (dk_at dksX0_sum_1 0 rfl rfl)
theorem dX0_sum_25 : decode cX0_sum 25 = .ok (.getfield 157, 3) := dk_180 0 157 (dk_at dksX0_sum_1 1 rfl rfl)
theorem dX0_sum_28 : decode cX0_sum 28 = .ok (.iload 5, 2) := dk_21 5 (dk_at dksX0_sum_1 4 rfl rfl)
theorem dX0_sum_30 : decode cX0_sum 30 = .ok (.baload, 1) := dk_51 (dk_at dksX0_sum_1 6 rfl rfl)
theorem dX0_sum_31 : decode cX0_sum 31 = .ok (.ifCond .ne 17, 3) := dk_154 0 17 (dk_at dksX0_sum_1 7 rfl rfl)
theorem dX0_sum_34 : decode cX0_sum 34 = .ok (.aload_n 0, 1) := dk_42 (dk_at dksX0_sum_1 10 rfl rfl)
theorem dX0_sum_35 : decode cX0_sum 35 = .ok (.dload_n 3, 1) := dk_41 (dk_at dksX0_sum_1 11 rfl rfl)
theorem dX0_sum_36 : decode cX0_sum 36 = .ok (.aload_n 2, 1) := dk_44 (dk_at dksX0_sum_1 12 rfl rfl)
theorem dX0_sum_37 : decode cX0_sum 37 = .ok (.getfield 160, 3) := dk_180 0 160 (dk_at dksX0_sum_1 13 rfl rfl)
theorem dX0_sum_40 : decode cX0_sum 40 = .ok (.iload 5, 2) := dk_21 5 (dk_at dksX0_sum_1 16 rfl rfl)
theorem dX0_sum_42 : decode cX0_sum 42 = .ok (.daload, 1) := dk_49 (dk_at dksX0_sum_1 18 rfl rfl)
theorem dX0_sum_43 : decode cX0_sum 43 = .ok (.dadd, 1) := dk_99 (dk_at dksX0_sum_1 19 rfl rfl)
theorem dX0_sum_44 : decode cX0_sum 44 = .ok (.invokevirtual 163, 3) := dk_182 0 163 (dk_at dksX0_sum_1 20 rfl rfl)
theorem dX0_sum_47 : decode cX0_sum 47 = .ok (.dstore_n 3, 1) := dk_74 (dk_at dksX0_sum_1 23 rfl rfl)
theorem dX0_sum_48 : decode cX0_sum 48 = .ok (.iinc 5 1, 3) := dk_132 5 1 (dk_at dksX0_sum_2 0 rfl rfl)
theorem dX0_sum_51 : decode cX0_sum 51 = .ok (.goto (-36), 3) := dk_167 255 220 (dk_at dksX0_sum_2 3 rfl rfl)
theorem dX0_sum_54 : decode cX0_sum 54 = .ok (.dload_n 3, 1) := dk_41 (dk_at dksX0_sum_2 6 rfl rfl)
theorem dX0_sum_55 : decode cX0_sum 55 = .ok (.dreturn, 1) := dk_175 (dk_at dksX0_sum_2 7 rfl rfl)
abbrev cX0_near : ByteArray := prog_1_method_7_code
def yX0_near : MethodName := ⟨RX0, "near", "(D)D"⟩
def dkwX0_near_1 : List UInt8 := [175]
abbrev dktX0_near_1 : List UInt8 := dkwX0_near_1 ++ []
def dkwX0_near_0 : List UInt8 := [39, 20, 0, 144, 152, 157, 0, 13, 39, 20, 0, 146, 151, 155, 0, 5, 39, 175, 42, 6, 182, 0, 148, 14]
abbrev dktX0_near_0 : List UInt8 := dkwX0_near_0 ++ dktX0_near_1
theorem dksX0_near_0 : cX0_near.data.toList.drop 0 = dktX0_near_0 := by decide +kernel
theorem dksX0_near_1 : cX0_near.data.toList.drop 24 = dktX0_near_1 := dk_seg dksX0_near_0 24 rfl rfl
theorem dX0_near_0 : decode cX0_near 0 = .ok (.dload_n 1, 1) := dk_39 (dk_at dksX0_near_0 0 rfl rfl)
theorem dX0_near_1 : decode cX0_near 1 = .ok (.ldc2_w 144, 3) := dk_20 0 144 (dk_at dksX0_near_0 1 rfl rfl)
theorem dX0_near_4 : decode cX0_near 4 = .ok (.dcmp .g, 1) := dk_152 (dk_at dksX0_near_0 4 rfl rfl)
theorem dX0_near_5 : decode cX0_near 5 = .ok (.ifCond .gt 13, 3) := dk_157 0 13 (dk_at dksX0_near_0 5 rfl rfl)
theorem dX0_near_8 : decode cX0_near 8 = .ok (.dload_n 1, 1) := dk_39 (dk_at dksX0_near_0 8 rfl rfl)
theorem dX0_near_9 : decode cX0_near 9 = .ok (.ldc2_w 146, 3) := dk_20 0 146 (dk_at dksX0_near_0 9 rfl rfl)
theorem dX0_near_12 : decode cX0_near 12 = .ok (.dcmp .l, 1) := dk_151 (dk_at dksX0_near_0 12 rfl rfl)
theorem dX0_near_13 : decode cX0_near 13 = .ok (.ifCond .lt 5, 3) := dk_155 0 5 (dk_at dksX0_near_0 13 rfl rfl)
theorem dX0_near_16 : decode cX0_near 16 = .ok (.dload_n 1, 1) := dk_39 (dk_at dksX0_near_0 16 rfl rfl)
theorem dX0_near_17 : decode cX0_near 17 = .ok (.dreturn, 1) := dk_175 (dk_at dksX0_near_0 17 rfl rfl)
theorem dX0_near_18 : decode cX0_near 18 = .ok (.aload_n 0, 1) := dk_42 (dk_at dksX0_near_0 18 rfl rfl)
theorem dX0_near_19 : decode cX0_near 19 = .ok (.iconst 3, 1) := dk_6 (dk_at dksX0_near_0 19 rfl rfl)
theorem dX0_near_20 : decode cX0_near 20 = .ok (.invokevirtual 148, 3) := dk_182 0 148 (dk_at dksX0_near_0 20 rfl rfl)
theorem dX0_near_23 : decode cX0_near 23 = .ok (.dconst 0, 1) := dk_14 (dk_at dksX0_near_0 23 rfl rfl)
theorem dX0_near_24 : decode cX0_near 24 = .ok (.dreturn, 1) := dk_175 (dk_at dksX0_near_1 0 rfl rfl)
abbrev cX0_value : ByteArray := prog_1_method_33_code
def yX0_value : MethodName := ⟨RX0, "value", "(I)J"⟩
def dkwX0_value_0 : List UInt8 := [27, 184, 1, 133, 153, 0, 15, 42, 42, 27, 182, 1, 174, 182, 1, 177, 167, 0, 6, 20, 1, 180, 173]
abbrev dktX0_value_0 : List UInt8 := dkwX0_value_0 ++ []
theorem dksX0_value_0 : cX0_value.data.toList.drop 0 = dktX0_value_0 := by decide +kernel
theorem dX0_value_0 : decode cX0_value 0 = .ok (.iload_n 1, 1) := dk_27 (dk_at dksX0_value_0 0 rfl rfl)
theorem dX0_value_1 : decode cX0_value 1 = .ok (.invokestatic 389, 3) := dk_184 1 133 (dk_at dksX0_value_0 1 rfl rfl)
theorem dX0_value_4 : decode cX0_value 4 = .ok (.ifCond .eq 15, 3) := dk_153 0 15 (dk_at dksX0_value_0 4 rfl rfl)
theorem dX0_value_7 : decode cX0_value 7 = .ok (.aload_n 0, 1) := dk_42 (dk_at dksX0_value_0 7 rfl rfl)
theorem dX0_value_8 : decode cX0_value 8 = .ok (.aload_n 0, 1) := dk_42 (dk_at dksX0_value_0 8 rfl rfl)
theorem dX0_value_9 : decode cX0_value 9 = .ok (.iload_n 1, 1) := dk_27 (dk_at dksX0_value_0 9 rfl rfl)
theorem dX0_value_10 : decode cX0_value 10 = .ok (.invokevirtual 430, 3) := dk_182 1 174 (dk_at dksX0_value_0 10 rfl rfl)
theorem dX0_value_13 : decode cX0_value 13 = .ok (.invokevirtual 433, 3) := dk_182 1 177 (dk_at dksX0_value_0 13 rfl rfl)
theorem dX0_value_16 : decode cX0_value 16 = .ok (.goto 6, 3) := dk_167 0 6 (dk_at dksX0_value_0 16 rfl rfl)
theorem dX0_value_19 : decode cX0_value 19 = .ok (.ldc2_w 436, 3) := dk_20 1 180 (dk_at dksX0_value_0 19 rfl rfl)
theorem dX0_value_22 : decode cX0_value 22 = .ok (.lreturn, 1) := dk_173 (dk_at dksX0_value_0 22 rfl rfl)
abbrev cX0_answer : ByteArray := prog_1_method_17_code
def yX0_answer : MethodName := ⟨RX0, "answer", "(D)J"⟩
def dkwX0_answer_0 : List UInt8 := [42, 180, 0, 138, 153, 0, 15, 20, 1, 35, 42, 180, 0, 138, 133, 101, 167, 0, 7, 39, 184, 1, 37, 173]
abbrev dktX0_answer_0 : List UInt8 := dkwX0_answer_0 ++ []
theorem dksX0_answer_0 : cX0_answer.data.toList.drop 0 = dktX0_answer_0 := by decide +kernel
theorem dX0_answer_0 : decode cX0_answer 0 = .ok (.aload_n 0, 1) := dk_42 (dk_at dksX0_answer_0 0 rfl rfl)
theorem dX0_answer_1 : decode cX0_answer 1 = .ok (.getfield 138, 3) := dk_180 0 138 (dk_at dksX0_answer_0 1 rfl rfl)
theorem dX0_answer_4 : decode cX0_answer 4 = .ok (.ifCond .eq 15, 3) := dk_153 0 15 (dk_at dksX0_answer_0 4 rfl rfl)
theorem dX0_answer_7 : decode cX0_answer 7 = .ok (.ldc2_w 291, 3) := dk_20 1 35 (dk_at dksX0_answer_0 7 rfl rfl)
theorem dX0_answer_10 : decode cX0_answer 10 = .ok (.aload_n 0, 1) := dk_42 (dk_at dksX0_answer_0 10 rfl rfl)
theorem dX0_answer_11 : decode cX0_answer 11 = .ok (.getfield 138, 3) := dk_180 0 138 (dk_at dksX0_answer_0 11 rfl rfl)
theorem dX0_answer_14 : decode cX0_answer 14 = .ok (.i2l, 1) := dk_133 (dk_at dksX0_answer_0 14 rfl rfl)
theorem dX0_answer_15 : decode cX0_answer 15 = .ok (.lsub, 1) := dk_101 (dk_at dksX0_answer_0 15 rfl rfl)
theorem dX0_answer_16 : decode cX0_answer 16 = .ok (.goto 7, 3) := dk_167 0 7 (dk_at dksX0_answer_0 16 rfl rfl)
theorem dX0_answer_19 : decode cX0_answer 19 = .ok (.dload_n 1, 1) := dk_39 (dk_at dksX0_answer_0 19 rfl rfl)
theorem dX0_answer_20 : decode cX0_answer 20 = .ok (.invokestatic 293, 3) := dk_184 1 37 (dk_at dksX0_answer_0 20 rfl rfl)
theorem dX0_answer_23 : decode cX0_answer 23 = .ok (.lreturn, 1) := dk_173 (dk_at dksX0_answer_0 23 rfl rfl)
abbrev cX0_would : ByteArray := prog_1_method_34_code
def yX0_would : MethodName := ⟨RX0, "would", "(III)J"⟩
def dkwX0_would_4 : List UInt8 := [22, 7, 173, 58, 9, 25, 4, 24, 5, 181, 0, 209, 25, 9, 191]
abbrev dktX0_would_4 : List UInt8 := dkwX0_would_4 ++ []
def dkwX0_would_3 : List UInt8 := [182, 0, 253, 181, 0, 209, 42, 42, 29, 182, 1, 174, 182, 1, 177, 55, 7, 25, 4, 24, 5, 181, 0, 209]
abbrev dktX0_would_3 : List UInt8 := dkwX0_would_3 ++ dktX0_would_4
def dkwX0_would_2 : List UInt8 := [154, 0, 7, 20, 1, 182, 173, 25, 4, 180, 0, 209, 57, 5, 25, 4, 25, 4, 28, 135, 20, 1, 158, 111]
abbrev dktX0_would_2 : List UInt8 := dkwX0_would_2 ++ dktX0_would_3
def dkwX0_would_1 : List UInt8 := [184, 0, 132, 154, 0, 7, 20, 1, 180, 173, 42, 180, 0, 31, 27, 50, 58, 4, 25, 4, 182, 0, 202]
abbrev dktX0_would_1 : List UInt8 := dkwX0_would_1 ++ dktX0_would_2
def dkwX0_would_0 : List UInt8 := [27, 184, 1, 133, 153, 0, 24, 29, 184, 1, 133, 153, 0, 17, 28, 133, 20, 1, 154, 20, 1, 156]
abbrev dktX0_would_0 : List UInt8 := dkwX0_would_0 ++ dktX0_would_1
theorem dksX0_would_0 : cX0_would.data.toList.drop 0 = dktX0_would_0 := by decide +kernel
theorem dksX0_would_1 : cX0_would.data.toList.drop 22 = dktX0_would_1 := dk_seg dksX0_would_0 22 rfl rfl
theorem dksX0_would_2 : cX0_would.data.toList.drop 45 = dktX0_would_2 := dk_seg dksX0_would_1 23 rfl rfl
theorem dksX0_would_3 : cX0_would.data.toList.drop 69 = dktX0_would_3 := dk_seg dksX0_would_2 24 rfl rfl
theorem dksX0_would_4 : cX0_would.data.toList.drop 93 = dktX0_would_4 := dk_seg dksX0_would_3 24 rfl rfl
theorem dX0_would_0 : decode cX0_would 0 = .ok (.iload_n 1, 1) := dk_27 (dk_at dksX0_would_0 0 rfl rfl)
theorem dX0_would_1 : decode cX0_would 1 = .ok (.invokestatic 389, 3) := dk_184 1 133 (dk_at dksX0_would_0 1 rfl rfl)
theorem dX0_would_4 : decode cX0_would 4 = .ok (.ifCond .eq 24, 3) := dk_153 0 24 (dk_at dksX0_would_0 4 rfl rfl)
theorem dX0_would_7 : decode cX0_would 7 = .ok (.iload_n 3, 1) := dk_29 (dk_at dksX0_would_0 7 rfl rfl)
theorem dX0_would_8 : decode cX0_would 8 = .ok (.invokestatic 389, 3) := dk_184 1 133 (dk_at dksX0_would_0 8 rfl rfl)
theorem dX0_would_11 : decode cX0_would 11 = .ok (.ifCond .eq 17, 3) := dk_153 0 17 (dk_at dksX0_would_0 11 rfl rfl)
theorem dX0_would_14 : decode cX0_would 14 = .ok (.iload_n 2, 1) := dk_28 (dk_at dksX0_would_0 14 rfl rfl)
theorem dX0_would_15 : decode cX0_would 15 = .ok (.i2l, 1) := dk_133 (dk_at dksX0_would_0 15 rfl rfl)
theorem dX0_would_16 : decode cX0_would 16 = .ok (.ldc2_w 410, 3) := dk_20 1 154 (dk_at dksX0_would_0 16 rfl rfl)
theorem dX0_would_19 : decode cX0_would 19 = .ok (.ldc2_w 412, 3) := dk_20 1 156 (dk_at dksX0_would_0 19 rfl rfl)
theorem dX0_would_22 : decode cX0_would 22 = .ok (.invokestatic 132, 3) := dk_184 0 132 (dk_at dksX0_would_1 0 rfl rfl)
theorem dX0_would_25 : decode cX0_would 25 = .ok (.ifCond .ne 7, 3) := dk_154 0 7 (dk_at dksX0_would_1 3 rfl rfl)
theorem dX0_would_28 : decode cX0_would 28 = .ok (.ldc2_w 436, 3) := dk_20 1 180 (dk_at dksX0_would_1 6 rfl rfl)
theorem dX0_would_31 : decode cX0_would 31 = .ok (.lreturn, 1) := dk_173 (dk_at dksX0_would_1 9 rfl rfl)
theorem dX0_would_32 : decode cX0_would 32 = .ok (.aload_n 0, 1) := dk_42 (dk_at dksX0_would_1 10 rfl rfl)
theorem dX0_would_33 : decode cX0_would 33 = .ok (.getfield 31, 3) := dk_180 0 31 (dk_at dksX0_would_1 11 rfl rfl)
theorem dX0_would_36 : decode cX0_would 36 = .ok (.iload_n 1, 1) := dk_27 (dk_at dksX0_would_1 14 rfl rfl)
theorem dX0_would_37 : decode cX0_would 37 = .ok (.aaload, 1) := dk_50 (dk_at dksX0_would_1 15 rfl rfl)
theorem dX0_would_38 : decode cX0_would 38 = .ok (.astore 4, 2) := dk_58 4 (dk_at dksX0_would_1 16 rfl rfl)
theorem dX0_would_40 : decode cX0_would 40 = .ok (.aload 4, 2) := dk_25 4 (dk_at dksX0_would_1 18 rfl rfl)
theorem dX0_would_42 : decode cX0_would 42 = .ok (.invokevirtual 202, 3) := dk_182 0 202 (dk_at dksX0_would_1 20 rfl rfl)
theorem dX0_would_45 : decode cX0_would 45 = .ok (.ifCond .ne 7, 3) := dk_154 0 7 (dk_at dksX0_would_2 0 rfl rfl)
theorem dX0_would_48 : decode cX0_would 48 = .ok (.ldc2_w 438, 3) := dk_20 1 182 (dk_at dksX0_would_2 3 rfl rfl)
theorem dX0_would_51 : decode cX0_would 51 = .ok (.lreturn, 1) := dk_173 (dk_at dksX0_would_2 6 rfl rfl)
theorem dX0_would_52 : decode cX0_would 52 = .ok (.aload 4, 2) := dk_25 4 (dk_at dksX0_would_2 7 rfl rfl)
theorem dX0_would_54 : decode cX0_would 54 = .ok (.getfield 209, 3) := dk_180 0 209 (dk_at dksX0_would_2 9 rfl rfl)
theorem dX0_would_57 : decode cX0_would 57 = .ok (.dstore 5, 2) := dk_57 5 (dk_at dksX0_would_2 12 rfl rfl)
theorem dX0_would_59 : decode cX0_would 59 = .ok (.aload 4, 2) := dk_25 4 (dk_at dksX0_would_2 14 rfl rfl)
theorem dX0_would_61 : decode cX0_would 61 = .ok (.aload 4, 2) := dk_25 4 (dk_at dksX0_would_2 16 rfl rfl)
theorem dX0_would_63 : decode cX0_would 63 = .ok (.iload_n 2, 1) := dk_28 (dk_at dksX0_would_2 18 rfl rfl)
theorem dX0_would_64 : decode cX0_would 64 = .ok (.i2d, 1) := dk_135 (dk_at dksX0_would_2 19 rfl rfl)
theorem dX0_would_65 : decode cX0_would 65 = .ok (.ldc2_w 414, 3) := dk_20 1 158 (dk_at dksX0_would_2 20 rfl rfl)
theorem dX0_would_68 : decode cX0_would 68 = .ok (.ddiv, 1) := dk_111 (dk_at dksX0_would_2 23 rfl rfl)
theorem dX0_would_69 : decode cX0_would 69 = .ok (.invokevirtual 253, 3) := dk_182 0 253 (dk_at dksX0_would_3 0 rfl rfl)
theorem dX0_would_72 : decode cX0_would 72 = .ok (.putfield 209, 3) := dk_181 0 209 (dk_at dksX0_would_3 3 rfl rfl)
theorem dX0_would_75 : decode cX0_would 75 = .ok (.aload_n 0, 1) := dk_42 (dk_at dksX0_would_3 6 rfl rfl)
theorem dX0_would_76 : decode cX0_would 76 = .ok (.aload_n 0, 1) := dk_42 (dk_at dksX0_would_3 7 rfl rfl)
theorem dX0_would_77 : decode cX0_would 77 = .ok (.iload_n 3, 1) := dk_29 (dk_at dksX0_would_3 8 rfl rfl)
theorem dX0_would_78 : decode cX0_would 78 = .ok (.invokevirtual 430, 3) := dk_182 1 174 (dk_at dksX0_would_3 9 rfl rfl)
theorem dX0_would_81 : decode cX0_would 81 = .ok (.invokevirtual 433, 3) := dk_182 1 177 (dk_at dksX0_would_3 12 rfl rfl)
theorem dX0_would_84 : decode cX0_would 84 = .ok (.lstore 7, 2) := dk_55 7 (dk_at dksX0_would_3 15 rfl rfl)
theorem dX0_would_86 : decode cX0_would 86 = .ok (.aload 4, 2) := dk_25 4 (dk_at dksX0_would_3 17 rfl rfl)
theorem dX0_would_88 : decode cX0_would 88 = .ok (.dload 5, 2) := dk_24 5 (dk_at dksX0_would_3 19 rfl rfl)
theorem dX0_would_90 : decode cX0_would 90 = .ok (.putfield 209, 3) := dk_181 0 209 (dk_at dksX0_would_3 21 rfl rfl)
theorem dX0_would_93 : decode cX0_would 93 = .ok (.lload 7, 2) := dk_22 7 (dk_at dksX0_would_4 0 rfl rfl)
theorem dX0_would_95 : decode cX0_would 95 = .ok (.lreturn, 1) := dk_173 (dk_at dksX0_would_4 2 rfl rfl)
theorem dX0_would_96 : decode cX0_would 96 = .ok (.astore 9, 2) := dk_58 9 (dk_at dksX0_would_4 3 rfl rfl)
theorem dX0_would_98 : decode cX0_would 98 = .ok (.aload 4, 2) := dk_25 4 (dk_at dksX0_would_4 5 rfl rfl)
theorem dX0_would_100 : decode cX0_would 100 = .ok (.dload 5, 2) := dk_24 5 (dk_at dksX0_would_4 7 rfl rfl)
theorem dX0_would_102 : decode cX0_would 102 = .ok (.putfield 209, 3) := dk_181 0 209 (dk_at dksX0_would_4 9 rfl rfl)
theorem dX0_would_105 : decode cX0_would 105 = .ok (.aload 9, 2) := dk_25 9 (dk_at dksX0_would_4 12 rfl rfl)
theorem dX0_would_107 : decode cX0_would 107 = .ok (.athrow, 1) := dk_191 (dk_at dksX0_would_4 14 rfl rfl)
abbrev cX0_taken : ByteArray := prog_1_method_35_code
def yX0_taken : MethodName := ⟨RX0, "taken", "(II)I"⟩
def dkwX0_taken_5 : List UInt8 := [58, 4, 16, 243, 172]
abbrev dktX0_taken_5 : List UInt8 := dkwX0_taken_5 ++ []
def dkwX0_taken_4 : List UInt8 := [45, 192, 0, 15, 182, 1, 186, 172, 45, 192, 0, 18, 182, 1, 187, 172, 45, 192, 0, 21, 182, 1, 188, 172]
abbrev dktX0_taken_4 : List UInt8 := dkwX0_taken_4 ++ dktX0_taken_5
def dkwX0_taken_3 : List UInt8 := [45, 192, 0, 3, 182, 1, 160, 172, 45, 192, 0, 9, 182, 1, 184, 172, 45, 192, 0, 12, 182, 1, 185, 172]
abbrev dktX0_taken_3 : List UInt8 := dkwX0_taken_3 ++ dktX0_taken_4
def dkwX0_taken_2 : List UInt8 := [170, 0, 0, 0, 0, 74, 0, 0, 0, 0, 0, 0, 0, 4, 0, 0, 0, 34, 0, 0, 0, 42, 0, 0, 0, 50, 0, 0, 0, 58, 0, 0, 0, 66]
abbrev dktX0_taken_2 : List UInt8 := dkwX0_taken_2 ++ dktX0_taken_3
def dkwX0_taken_1 : List UInt8 := [180, 0, 31, 27, 50, 78, 28]
abbrev dktX0_taken_1 : List UInt8 := dkwX0_taken_1 ++ dktX0_taken_2
def dkwX0_taken_0 : List UInt8 := [27, 184, 1, 133, 153, 0, 15, 28, 133, 9, 20, 0, 136, 184, 0, 132, 154, 0, 6, 16, 254, 172, 42]
abbrev dktX0_taken_0 : List UInt8 := dkwX0_taken_0 ++ dktX0_taken_1
theorem dksX0_taken_0 : cX0_taken.data.toList.drop 0 = dktX0_taken_0 := by decide +kernel
theorem dksX0_taken_1 : cX0_taken.data.toList.drop 23 = dktX0_taken_1 := dk_seg dksX0_taken_0 23 rfl rfl
theorem dksX0_taken_2 : cX0_taken.data.toList.drop 30 = dktX0_taken_2 := dk_seg dksX0_taken_1 7 rfl rfl
theorem dksX0_taken_3 : cX0_taken.data.toList.drop 64 = dktX0_taken_3 := dk_seg dksX0_taken_2 34 rfl rfl
theorem dksX0_taken_4 : cX0_taken.data.toList.drop 88 = dktX0_taken_4 := dk_seg dksX0_taken_3 24 rfl rfl
theorem dksX0_taken_5 : cX0_taken.data.toList.drop 112 = dktX0_taken_5 := dk_seg dksX0_taken_4 24 rfl rfl
theorem dX0_taken_0 : decode cX0_taken 0 = .ok (.iload_n 1, 1) := dk_27 (dk_at dksX0_taken_0 0 rfl rfl)
theorem dX0_taken_1 : decode cX0_taken 1 = .ok (.invokestatic 389, 3) := dk_184 1 133 (dk_at dksX0_taken_0 1 rfl rfl)
theorem dX0_taken_4 : decode cX0_taken 4 = .ok (.ifCond .eq 15, 3) := dk_153 0 15 (dk_at dksX0_taken_0 4 rfl rfl)
theorem dX0_taken_7 : decode cX0_taken 7 = .ok (.iload_n 2, 1) := dk_28 (dk_at dksX0_taken_0 7 rfl rfl)
theorem dX0_taken_8 : decode cX0_taken 8 = .ok (.i2l, 1) := dk_133 (dk_at dksX0_taken_0 8 rfl rfl)
theorem dX0_taken_9 : decode cX0_taken 9 = .ok (.lconst 0, 1) := dk_9 (dk_at dksX0_taken_0 9 rfl rfl)
theorem dX0_taken_10 : decode cX0_taken 10 = .ok (.ldc2_w 136, 3) := dk_20 0 136 (dk_at dksX0_taken_0 10 rfl rfl)
theorem dX0_taken_13 : decode cX0_taken 13 = .ok (.invokestatic 132, 3) := dk_184 0 132 (dk_at dksX0_taken_0 13 rfl rfl)
theorem dX0_taken_16 : decode cX0_taken 16 = .ok (.ifCond .ne 6, 3) := dk_154 0 6 (dk_at dksX0_taken_0 16 rfl rfl)
theorem dX0_taken_19 : decode cX0_taken 19 = .ok (.bipush (-2), 2) := dk_16 254 (dk_at dksX0_taken_0 19 rfl rfl)
theorem dX0_taken_21 : decode cX0_taken 21 = .ok (.ireturn, 1) := dk_172 (dk_at dksX0_taken_0 21 rfl rfl)
theorem dX0_taken_22 : decode cX0_taken 22 = .ok (.aload_n 0, 1) := dk_42 (dk_at dksX0_taken_0 22 rfl rfl)
theorem dX0_taken_23 : decode cX0_taken 23 = .ok (.getfield 31, 3) := dk_180 0 31 (dk_at dksX0_taken_1 0 rfl rfl)
theorem dX0_taken_26 : decode cX0_taken 26 = .ok (.iload_n 1, 1) := dk_27 (dk_at dksX0_taken_1 3 rfl rfl)
theorem dX0_taken_27 : decode cX0_taken 27 = .ok (.aaload, 1) := dk_50 (dk_at dksX0_taken_1 4 rfl rfl)
theorem dX0_taken_28 : decode cX0_taken 28 = .ok (.astore_n 3, 1) := dk_78 (dk_at dksX0_taken_1 5 rfl rfl)
theorem dX0_taken_29 : decode cX0_taken 29 = .ok (.iload_n 2, 1) := dk_28 (dk_at dksX0_taken_1 6 rfl rfl)
theorem dX0_taken_30 : decode cX0_taken 30 = .ok (.tableswitch 74 0 4 #[34, 42, 50, 58, 66], 34) := by decide +kernel
theorem dX0_taken_64 : decode cX0_taken 64 = .ok (.aload_n 3, 1) := dk_45 (dk_at dksX0_taken_3 0 rfl rfl)
theorem dX0_taken_65 : decode cX0_taken 65 = .ok (.checkcast 3, 3) := dk_192 0 3 (dk_at dksX0_taken_3 1 rfl rfl)
theorem dX0_taken_68 : decode cX0_taken 68 = .ok (.invokevirtual 416, 3) := dk_182 1 160 (dk_at dksX0_taken_3 4 rfl rfl)
theorem dX0_taken_71 : decode cX0_taken 71 = .ok (.ireturn, 1) := dk_172 (dk_at dksX0_taken_3 7 rfl rfl)
theorem dX0_taken_72 : decode cX0_taken 72 = .ok (.aload_n 3, 1) := dk_45 (dk_at dksX0_taken_3 8 rfl rfl)
theorem dX0_taken_73 : decode cX0_taken 73 = .ok (.checkcast 9, 3) := dk_192 0 9 (dk_at dksX0_taken_3 9 rfl rfl)
theorem dX0_taken_76 : decode cX0_taken 76 = .ok (.invokevirtual 440, 3) := dk_182 1 184 (dk_at dksX0_taken_3 12 rfl rfl)
theorem dX0_taken_79 : decode cX0_taken 79 = .ok (.ireturn, 1) := dk_172 (dk_at dksX0_taken_3 15 rfl rfl)
theorem dX0_taken_80 : decode cX0_taken 80 = .ok (.aload_n 3, 1) := dk_45 (dk_at dksX0_taken_3 16 rfl rfl)
theorem dX0_taken_81 : decode cX0_taken 81 = .ok (.checkcast 12, 3) := dk_192 0 12 (dk_at dksX0_taken_3 17 rfl rfl)
theorem dX0_taken_84 : decode cX0_taken 84 = .ok (.invokevirtual 441, 3) := dk_182 1 185 (dk_at dksX0_taken_3 20 rfl rfl)
theorem dX0_taken_87 : decode cX0_taken 87 = .ok (.ireturn, 1) := dk_172 (dk_at dksX0_taken_3 23 rfl rfl)
theorem dX0_taken_88 : decode cX0_taken 88 = .ok (.aload_n 3, 1) := dk_45 (dk_at dksX0_taken_4 0 rfl rfl)
theorem dX0_taken_89 : decode cX0_taken 89 = .ok (.checkcast 15, 3) := dk_192 0 15 (dk_at dksX0_taken_4 1 rfl rfl)
theorem dX0_taken_92 : decode cX0_taken 92 = .ok (.invokevirtual 442, 3) := dk_182 1 186 (dk_at dksX0_taken_4 4 rfl rfl)
theorem dX0_taken_95 : decode cX0_taken 95 = .ok (.ireturn, 1) := dk_172 (dk_at dksX0_taken_4 7 rfl rfl)
theorem dX0_taken_96 : decode cX0_taken 96 = .ok (.aload_n 3, 1) := dk_45 (dk_at dksX0_taken_4 8 rfl rfl)
theorem dX0_taken_97 : decode cX0_taken 97 = .ok (.checkcast 18, 3) := dk_192 0 18 (dk_at dksX0_taken_4 9 rfl rfl)
theorem dX0_taken_100 : decode cX0_taken 100 = .ok (.invokevirtual 443, 3) := dk_182 1 187 (dk_at dksX0_taken_4 12 rfl rfl)
theorem dX0_taken_103 : decode cX0_taken 103 = .ok (.ireturn, 1) := dk_172 (dk_at dksX0_taken_4 15 rfl rfl)
theorem dX0_taken_104 : decode cX0_taken 104 = .ok (.aload_n 3, 1) := dk_45 (dk_at dksX0_taken_4 16 rfl rfl)
theorem dX0_taken_105 : decode cX0_taken 105 = .ok (.checkcast 21, 3) := dk_192 0 21 (dk_at dksX0_taken_4 17 rfl rfl)
theorem dX0_taken_108 : decode cX0_taken 108 = .ok (.invokevirtual 444, 3) := dk_182 1 188 (dk_at dksX0_taken_4 20 rfl rfl)
theorem dX0_taken_111 : decode cX0_taken 111 = .ok (.ireturn, 1) := dk_172 (dk_at dksX0_taken_4 23 rfl rfl)
theorem dX0_taken_112 : decode cX0_taken 112 = .ok (.astore 4, 2) := dk_58 4 (dk_at dksX0_taken_5 0 rfl rfl)
theorem dX0_taken_114 : decode cX0_taken 114 = .ok (.bipush (-13), 2) := dk_16 243 (dk_at dksX0_taken_5 2 rfl rfl)
theorem dX0_taken_116 : decode cX0_taken 116 = .ok (.ireturn, 1) := dk_172 (dk_at dksX0_taken_5 4 rfl rfl)
abbrev cX0_table : ByteArray := prog_1_method_37_code
def yX0_table : MethodName := ⟨RX0, "table", "(IIII)I"⟩
def dkwX0_table_5 : List UInt8 := [183, 1, 194, 183, 1, 197, 182, 1, 200, 172]
abbrev dktX0_table_5 : List UInt8 := dkwX0_table_5 ++ []
def dkwX0_table_4 : List UInt8 := [183, 1, 194, 21, 4, 2, 160, 0, 7, 1, 167, 0, 15, 187, 0, 176, 89, 21, 4, 4, 188, 7]
abbrev dktX0_table_4 : List UInt8 := dkwX0_table_4 ++ dktX0_table_5
def dkwX0_table_3 : List UInt8 := [154, 0, 6, 16, 253, 172, 42, 27, 187, 0, 35, 89, 27, 28, 187, 0, 176, 89, 29, 4, 188, 7]
abbrev dktX0_table_3 : List UInt8 := dkwX0_table_3 ++ dktX0_table_4
def dkwX0_table_2 : List UInt8 := [29, 50, 182, 0, 202, 153, 0, 22, 21, 4, 2, 159, 0, 19, 42, 180, 0, 31, 21, 4, 50, 182, 0, 202]
abbrev dktX0_table_2 : List UInt8 := dkwX0_table_2 ++ dktX0_table_3
def dkwX0_table_1 : List UInt8 := [159, 0, 11, 21, 4, 184, 1, 133, 153, 0, 9, 29, 21, 4, 160, 0, 6, 16, 254, 172, 42, 180, 0, 31]
abbrev dktX0_table_1 : List UInt8 := dkwX0_table_1 ++ dktX0_table_2
def dkwX0_table_0 : List UInt8 := [27, 184, 1, 191, 153, 0, 37, 28, 184, 1, 133, 153, 0, 30, 29, 184, 1, 133, 153, 0, 23, 21, 4, 2]
abbrev dktX0_table_0 : List UInt8 := dkwX0_table_0 ++ dktX0_table_1
theorem dksX0_table_0 : cX0_table.data.toList.drop 0 = dktX0_table_0 := by decide +kernel
theorem dksX0_table_1 : cX0_table.data.toList.drop 24 = dktX0_table_1 := dk_seg dksX0_table_0 24 rfl rfl
theorem dksX0_table_2 : cX0_table.data.toList.drop 48 = dktX0_table_2 := dk_seg dksX0_table_1 24 rfl rfl
theorem dksX0_table_3 : cX0_table.data.toList.drop 72 = dktX0_table_3 := dk_seg dksX0_table_2 24 rfl rfl
theorem dksX0_table_4 : cX0_table.data.toList.drop 94 = dktX0_table_4 := dk_seg dksX0_table_3 22 rfl rfl
theorem dksX0_table_5 : cX0_table.data.toList.drop 116 = dktX0_table_5 := dk_seg dksX0_table_4 22 rfl rfl
theorem dX0_table_0 : decode cX0_table 0 = .ok (.iload_n 1, 1) := dk_27 (dk_at dksX0_table_0 0 rfl rfl)
theorem dX0_table_1 : decode cX0_table 1 = .ok (.invokestatic 447, 3) := dk_184 1 191 (dk_at dksX0_table_0 1 rfl rfl)
theorem dX0_table_4 : decode cX0_table 4 = .ok (.ifCond .eq 37, 3) := dk_153 0 37 (dk_at dksX0_table_0 4 rfl rfl)
theorem dX0_table_7 : decode cX0_table 7 = .ok (.iload_n 2, 1) := dk_28 (dk_at dksX0_table_0 7 rfl rfl)
theorem dX0_table_8 : decode cX0_table 8 = .ok (.invokestatic 389, 3) := dk_184 1 133 (dk_at dksX0_table_0 8 rfl rfl)
theorem dX0_table_11 : decode cX0_table 11 = .ok (.ifCond .eq 30, 3) := dk_153 0 30 (dk_at dksX0_table_0 11 rfl rfl)
theorem dX0_table_14 : decode cX0_table 14 = .ok (.iload_n 3, 1) := dk_29 (dk_at dksX0_table_0 14 rfl rfl)
theorem dX0_table_15 : decode cX0_table 15 = .ok (.invokestatic 389, 3) := dk_184 1 133 (dk_at dksX0_table_0 15 rfl rfl)
theorem dX0_table_18 : decode cX0_table 18 = .ok (.ifCond .eq 23, 3) := dk_153 0 23 (dk_at dksX0_table_0 18 rfl rfl)
theorem dX0_table_21 : decode cX0_table 21 = .ok (.iload 4, 2) := dk_21 4 (dk_at dksX0_table_0 21 rfl rfl)
theorem dX0_table_23 : decode cX0_table 23 = .ok (.iconst (-1), 1) := dk_2 (dk_at dksX0_table_0 23 rfl rfl)
theorem dX0_table_24 : decode cX0_table 24 = .ok (.if_icmp .eq 11, 3) := dk_159 0 11 (dk_at dksX0_table_1 0 rfl rfl)
theorem dX0_table_27 : decode cX0_table 27 = .ok (.iload 4, 2) := dk_21 4 (dk_at dksX0_table_1 3 rfl rfl)
theorem dX0_table_29 : decode cX0_table 29 = .ok (.invokestatic 389, 3) := dk_184 1 133 (dk_at dksX0_table_1 5 rfl rfl)
theorem dX0_table_32 : decode cX0_table 32 = .ok (.ifCond .eq 9, 3) := dk_153 0 9 (dk_at dksX0_table_1 8 rfl rfl)
theorem dX0_table_35 : decode cX0_table 35 = .ok (.iload_n 3, 1) := dk_29 (dk_at dksX0_table_1 11 rfl rfl)
theorem dX0_table_36 : decode cX0_table 36 = .ok (.iload 4, 2) := dk_21 4 (dk_at dksX0_table_1 12 rfl rfl)
theorem dX0_table_38 : decode cX0_table 38 = .ok (.if_icmp .ne 6, 3) := dk_160 0 6 (dk_at dksX0_table_1 14 rfl rfl)
theorem dX0_table_41 : decode cX0_table 41 = .ok (.bipush (-2), 2) := dk_16 254 (dk_at dksX0_table_1 17 rfl rfl)
theorem dX0_table_43 : decode cX0_table 43 = .ok (.ireturn, 1) := dk_172 (dk_at dksX0_table_1 19 rfl rfl)
theorem dX0_table_44 : decode cX0_table 44 = .ok (.aload_n 0, 1) := dk_42 (dk_at dksX0_table_1 20 rfl rfl)
theorem dX0_table_45 : decode cX0_table 45 = .ok (.getfield 31, 3) := dk_180 0 31 (dk_at dksX0_table_1 21 rfl rfl)
theorem dX0_table_48 : decode cX0_table 48 = .ok (.iload_n 3, 1) := dk_29 (dk_at dksX0_table_2 0 rfl rfl)
theorem dX0_table_49 : decode cX0_table 49 = .ok (.aaload, 1) := dk_50 (dk_at dksX0_table_2 1 rfl rfl)
theorem dX0_table_50 : decode cX0_table 50 = .ok (.invokevirtual 202, 3) := dk_182 0 202 (dk_at dksX0_table_2 2 rfl rfl)
theorem dX0_table_53 : decode cX0_table 53 = .ok (.ifCond .eq 22, 3) := dk_153 0 22 (dk_at dksX0_table_2 5 rfl rfl)
theorem dX0_table_56 : decode cX0_table 56 = .ok (.iload 4, 2) := dk_21 4 (dk_at dksX0_table_2 8 rfl rfl)
theorem dX0_table_58 : decode cX0_table 58 = .ok (.iconst (-1), 1) := dk_2 (dk_at dksX0_table_2 10 rfl rfl)
theorem dX0_table_59 : decode cX0_table 59 = .ok (.if_icmp .eq 19, 3) := dk_159 0 19 (dk_at dksX0_table_2 11 rfl rfl)
theorem dX0_table_62 : decode cX0_table 62 = .ok (.aload_n 0, 1) := dk_42 (dk_at dksX0_table_2 14 rfl rfl)
theorem dX0_table_63 : decode cX0_table 63 = .ok (.getfield 31, 3) := dk_180 0 31 (dk_at dksX0_table_2 15 rfl rfl)
theorem dX0_table_66 : decode cX0_table 66 = .ok (.iload 4, 2) := dk_21 4 (dk_at dksX0_table_2 18 rfl rfl)
theorem dX0_table_68 : decode cX0_table 68 = .ok (.aaload, 1) := dk_50 (dk_at dksX0_table_2 20 rfl rfl)
theorem dX0_table_69 : decode cX0_table 69 = .ok (.invokevirtual 202, 3) := dk_182 0 202 (dk_at dksX0_table_2 21 rfl rfl)
theorem dX0_table_72 : decode cX0_table 72 = .ok (.ifCond .ne 6, 3) := dk_154 0 6 (dk_at dksX0_table_3 0 rfl rfl)
theorem dX0_table_75 : decode cX0_table 75 = .ok (.bipush (-3), 2) := dk_16 253 (dk_at dksX0_table_3 3 rfl rfl)
theorem dX0_table_77 : decode cX0_table 77 = .ok (.ireturn, 1) := dk_172 (dk_at dksX0_table_3 5 rfl rfl)
theorem dX0_table_78 : decode cX0_table 78 = .ok (.aload_n 0, 1) := dk_42 (dk_at dksX0_table_3 6 rfl rfl)
theorem dX0_table_79 : decode cX0_table 79 = .ok (.iload_n 1, 1) := dk_27 (dk_at dksX0_table_3 7 rfl rfl)
theorem dX0_table_80 : decode cX0_table 80 = .ok (.new 35, 3) := dk_187 0 35 (dk_at dksX0_table_3 8 rfl rfl)
theorem dX0_table_83 : decode cX0_table 83 = .ok (.dup, 1) := dk_89 (dk_at dksX0_table_3 11 rfl rfl)
theorem dX0_table_84 : decode cX0_table 84 = .ok (.iload_n 1, 1) := dk_27 (dk_at dksX0_table_3 12 rfl rfl)
theorem dX0_table_85 : decode cX0_table 85 = .ok (.iload_n 2, 1) := dk_28 (dk_at dksX0_table_3 13 rfl rfl)
theorem dX0_table_86 : decode cX0_table 86 = .ok (.new 176, 3) := dk_187 0 176 (dk_at dksX0_table_3 14 rfl rfl)
theorem dX0_table_89 : decode cX0_table 89 = .ok (.dup, 1) := dk_89 (dk_at dksX0_table_3 17 rfl rfl)
theorem dX0_table_90 : decode cX0_table 90 = .ok (.iload_n 3, 1) := dk_29 (dk_at dksX0_table_3 18 rfl rfl)
theorem dX0_table_91 : decode cX0_table 91 = .ok (.iconst 1, 1) := dk_4 (dk_at dksX0_table_3 19 rfl rfl)
theorem dX0_table_92 : decode cX0_table 92 = .ok (.newarray .double, 2) := dk_188_7 (dk_at dksX0_table_3 20 rfl rfl)
theorem dX0_table_94 : decode cX0_table 94 = .ok (.invokespecial 450, 3) := dk_183 1 194 (dk_at dksX0_table_4 0 rfl rfl)
theorem dX0_table_97 : decode cX0_table 97 = .ok (.iload 4, 2) := dk_21 4 (dk_at dksX0_table_4 3 rfl rfl)
theorem dX0_table_99 : decode cX0_table 99 = .ok (.iconst (-1), 1) := dk_2 (dk_at dksX0_table_4 5 rfl rfl)
theorem dX0_table_100 : decode cX0_table 100 = .ok (.if_icmp .ne 7, 3) := dk_160 0 7 (dk_at dksX0_table_4 6 rfl rfl)
theorem dX0_table_103 : decode cX0_table 103 = .ok (.aconst_null, 1) := dk_1 (dk_at dksX0_table_4 9 rfl rfl)
theorem dX0_table_104 : decode cX0_table 104 = .ok (.goto 15, 3) := dk_167 0 15 (dk_at dksX0_table_4 10 rfl rfl)
theorem dX0_table_107 : decode cX0_table 107 = .ok (.new 176, 3) := dk_187 0 176 (dk_at dksX0_table_4 13 rfl rfl)
theorem dX0_table_110 : decode cX0_table 110 = .ok (.dup, 1) := dk_89 (dk_at dksX0_table_4 16 rfl rfl)
theorem dX0_table_111 : decode cX0_table 111 = .ok (.iload 4, 2) := dk_21 4 (dk_at dksX0_table_4 17 rfl rfl)
theorem dX0_table_113 : decode cX0_table 113 = .ok (.iconst 1, 1) := dk_4 (dk_at dksX0_table_4 19 rfl rfl)
theorem dX0_table_114 : decode cX0_table 114 = .ok (.newarray .double, 2) := dk_188_7 (dk_at dksX0_table_4 20 rfl rfl)
theorem dX0_table_116 : decode cX0_table 116 = .ok (.invokespecial 450, 3) := dk_183 1 194 (dk_at dksX0_table_5 0 rfl rfl)
theorem dX0_table_119 : decode cX0_table 119 = .ok (.invokespecial 453, 3) := dk_183 1 197 (dk_at dksX0_table_5 3 rfl rfl)
theorem dX0_table_122 : decode cX0_table 122 = .ok (.invokevirtual 456, 3) := dk_182 1 200 (dk_at dksX0_table_5 6 rfl rfl)
theorem dX0_table_125 : decode cX0_table 125 = .ok (.ireturn, 1) := dk_172 (dk_at dksX0_table_5 9 rfl rfl)
abbrev cX0_isTable : ByteArray := prog_1_method_5_code
def yX0_isTable : MethodName := ⟨RX0, "isTable", "(I)Z"⟩
def dkwX0_isTable_0 : List UInt8 := [26, 133, 9, 20, 0, 136, 184, 0, 132, 172]
abbrev dktX0_isTable_0 : List UInt8 := dkwX0_isTable_0 ++ []
theorem dksX0_isTable_0 : cX0_isTable.data.toList.drop 0 = dktX0_isTable_0 := by decide +kernel
theorem dX0_isTable_0 : decode cX0_isTable 0 = .ok (.iload_n 0, 1) := dk_26 (dk_at dksX0_isTable_0 0 rfl rfl)
theorem dX0_isTable_1 : decode cX0_isTable 1 = .ok (.i2l, 1) := dk_133 (dk_at dksX0_isTable_0 1 rfl rfl)
theorem dX0_isTable_2 : decode cX0_isTable 2 = .ok (.lconst 0, 1) := dk_9 (dk_at dksX0_isTable_0 2 rfl rfl)
theorem dX0_isTable_3 : decode cX0_isTable 3 = .ok (.ldc2_w 136, 3) := dk_20 0 136 (dk_at dksX0_isTable_0 3 rfl rfl)
theorem dX0_isTable_6 : decode cX0_isTable 6 = .ok (.invokestatic 132, 3) := dk_184 0 132 (dk_at dksX0_isTable_0 6 rfl rfl)
theorem dX0_isTable_9 : decode cX0_isTable 9 = .ok (.ireturn, 1) := dk_172 (dk_at dksX0_isTable_0 9 rfl rfl)
abbrev cX0_lays : ByteArray := prog_1_method_36_code
def yX0_lays : MethodName := ⟨RX0, "lays", "(ILWhatIfSheet$Table;)I"⟩
def dkwX0_lays_2 : List UInt8 := [172, 58, 6, 21, 4, 4, 159, 0, 15, 42, 180, 0, 37, 27, 45, 83, 42, 182, 0, 126, 87, 25, 6, 191]
abbrev dktX0_lays_2 : List UInt8 := dkwX0_lays_2 ++ []
def dkwX0_lays_1 : List UInt8 := [21, 4, 54, 5, 21, 4, 4, 159, 0, 15, 42, 180, 0, 37, 27, 45, 83, 42, 182, 0, 126, 87, 21, 5]
abbrev dktX0_lays_1 : List UInt8 := dkwX0_lays_1 ++ dktX0_lays_2
def dkwX0_lays_0 : List UInt8 := [42, 180, 0, 37, 27, 50, 78, 2, 54, 4, 42, 180, 0, 37, 27, 44, 83, 42, 182, 0, 126, 54, 4]
abbrev dktX0_lays_0 : List UInt8 := dkwX0_lays_0 ++ dktX0_lays_1
theorem dksX0_lays_0 : cX0_lays.data.toList.drop 0 = dktX0_lays_0 := by decide +kernel
theorem dksX0_lays_1 : cX0_lays.data.toList.drop 23 = dktX0_lays_1 := dk_seg dksX0_lays_0 23 rfl rfl
theorem dksX0_lays_2 : cX0_lays.data.toList.drop 47 = dktX0_lays_2 := dk_seg dksX0_lays_1 24 rfl rfl
theorem dX0_lays_0 : decode cX0_lays 0 = .ok (.aload_n 0, 1) := dk_42 (dk_at dksX0_lays_0 0 rfl rfl)
theorem dX0_lays_1 : decode cX0_lays 1 = .ok (.getfield 37, 3) := dk_180 0 37 (dk_at dksX0_lays_0 1 rfl rfl)
theorem dX0_lays_4 : decode cX0_lays 4 = .ok (.iload_n 1, 1) := dk_27 (dk_at dksX0_lays_0 4 rfl rfl)
theorem dX0_lays_5 : decode cX0_lays 5 = .ok (.aaload, 1) := dk_50 (dk_at dksX0_lays_0 5 rfl rfl)
theorem dX0_lays_6 : decode cX0_lays 6 = .ok (.astore_n 3, 1) := dk_78 (dk_at dksX0_lays_0 6 rfl rfl)
theorem dX0_lays_7 : decode cX0_lays 7 = .ok (.iconst (-1), 1) := dk_2 (dk_at dksX0_lays_0 7 rfl rfl)
theorem dX0_lays_8 : decode cX0_lays 8 = .ok (.istore 4, 2) := dk_54 4 (dk_at dksX0_lays_0 8 rfl rfl)
theorem dX0_lays_10 : decode cX0_lays 10 = .ok (.aload_n 0, 1) := dk_42 (dk_at dksX0_lays_0 10 rfl rfl)
theorem dX0_lays_11 : decode cX0_lays 11 = .ok (.getfield 37, 3) := dk_180 0 37 (dk_at dksX0_lays_0 11 rfl rfl)
theorem dX0_lays_14 : decode cX0_lays 14 = .ok (.iload_n 1, 1) := dk_27 (dk_at dksX0_lays_0 14 rfl rfl)
theorem dX0_lays_15 : decode cX0_lays 15 = .ok (.aload_n 2, 1) := dk_44 (dk_at dksX0_lays_0 15 rfl rfl)
theorem dX0_lays_16 : decode cX0_lays 16 = .ok (.aastore, 1) := dk_83 (dk_at dksX0_lays_0 16 rfl rfl)
theorem dX0_lays_17 : decode cX0_lays 17 = .ok (.aload_n 0, 1) := dk_42 (dk_at dksX0_lays_0 17 rfl rfl)
theorem dX0_lays_18 : decode cX0_lays 18 = .ok (.invokevirtual 126, 3) := dk_182 0 126 (dk_at dksX0_lays_0 18 rfl rfl)
theorem dX0_lays_21 : decode cX0_lays 21 = .ok (.istore 4, 2) := dk_54 4 (dk_at dksX0_lays_0 21 rfl rfl)
theorem dX0_lays_23 : decode cX0_lays 23 = .ok (.iload 4, 2) := dk_21 4 (dk_at dksX0_lays_1 0 rfl rfl)
theorem dX0_lays_25 : decode cX0_lays 25 = .ok (.istore 5, 2) := dk_54 5 (dk_at dksX0_lays_1 2 rfl rfl)
theorem dX0_lays_27 : decode cX0_lays 27 = .ok (.iload 4, 2) := dk_21 4 (dk_at dksX0_lays_1 4 rfl rfl)
theorem dX0_lays_29 : decode cX0_lays 29 = .ok (.iconst 1, 1) := dk_4 (dk_at dksX0_lays_1 6 rfl rfl)
theorem dX0_lays_30 : decode cX0_lays 30 = .ok (.if_icmp .eq 15, 3) := dk_159 0 15 (dk_at dksX0_lays_1 7 rfl rfl)
theorem dX0_lays_33 : decode cX0_lays 33 = .ok (.aload_n 0, 1) := dk_42 (dk_at dksX0_lays_1 10 rfl rfl)
theorem dX0_lays_34 : decode cX0_lays 34 = .ok (.getfield 37, 3) := dk_180 0 37 (dk_at dksX0_lays_1 11 rfl rfl)
theorem dX0_lays_37 : decode cX0_lays 37 = .ok (.iload_n 1, 1) := dk_27 (dk_at dksX0_lays_1 14 rfl rfl)
theorem dX0_lays_38 : decode cX0_lays 38 = .ok (.aload_n 3, 1) := dk_45 (dk_at dksX0_lays_1 15 rfl rfl)
theorem dX0_lays_39 : decode cX0_lays 39 = .ok (.aastore, 1) := dk_83 (dk_at dksX0_lays_1 16 rfl rfl)
theorem dX0_lays_40 : decode cX0_lays 40 = .ok (.aload_n 0, 1) := dk_42 (dk_at dksX0_lays_1 17 rfl rfl)
theorem dX0_lays_41 : decode cX0_lays 41 = .ok (.invokevirtual 126, 3) := dk_182 0 126 (dk_at dksX0_lays_1 18 rfl rfl)
theorem dX0_lays_44 : decode cX0_lays 44 = .ok (.pop, 1) := dk_87 (dk_at dksX0_lays_1 21 rfl rfl)
theorem dX0_lays_45 : decode cX0_lays 45 = .ok (.iload 5, 2) := dk_21 5 (dk_at dksX0_lays_1 22 rfl rfl)
theorem dX0_lays_47 : decode cX0_lays 47 = .ok (.ireturn, 1) := dk_172 (dk_at dksX0_lays_2 0 rfl rfl)
theorem dX0_lays_48 : decode cX0_lays 48 = .ok (.astore 6, 2) := dk_58 6 (dk_at dksX0_lays_2 1 rfl rfl)
theorem dX0_lays_50 : decode cX0_lays 50 = .ok (.iload 4, 2) := dk_21 4 (dk_at dksX0_lays_2 3 rfl rfl)
theorem dX0_lays_52 : decode cX0_lays 52 = .ok (.iconst 1, 1) := dk_4 (dk_at dksX0_lays_2 5 rfl rfl)
theorem dX0_lays_53 : decode cX0_lays 53 = .ok (.if_icmp .eq 15, 3) := dk_159 0 15 (dk_at dksX0_lays_2 6 rfl rfl)
theorem dX0_lays_56 : decode cX0_lays 56 = .ok (.aload_n 0, 1) := dk_42 (dk_at dksX0_lays_2 9 rfl rfl)
theorem dX0_lays_57 : decode cX0_lays 57 = .ok (.getfield 37, 3) := dk_180 0 37 (dk_at dksX0_lays_2 10 rfl rfl)
theorem dX0_lays_60 : decode cX0_lays 60 = .ok (.iload_n 1, 1) := dk_27 (dk_at dksX0_lays_2 13 rfl rfl)
theorem dX0_lays_61 : decode cX0_lays 61 = .ok (.aload_n 3, 1) := dk_45 (dk_at dksX0_lays_2 14 rfl rfl)
theorem dX0_lays_62 : decode cX0_lays 62 = .ok (.aastore, 1) := dk_83 (dk_at dksX0_lays_2 15 rfl rfl)
theorem dX0_lays_63 : decode cX0_lays 63 = .ok (.aload_n 0, 1) := dk_42 (dk_at dksX0_lays_2 16 rfl rfl)
theorem dX0_lays_64 : decode cX0_lays 64 = .ok (.invokevirtual 126, 3) := dk_182 0 126 (dk_at dksX0_lays_2 17 rfl rfl)
theorem dX0_lays_67 : decode cX0_lays 67 = .ok (.pop, 1) := dk_87 (dk_at dksX0_lays_2 20 rfl rfl)
theorem dX0_lays_68 : decode cX0_lays 68 = .ok (.aload 6, 2) := dk_25 6 (dk_at dksX0_lays_2 21 rfl rfl)
theorem dX0_lays_70 : decode cX0_lays 70 = .ok (.athrow, 1) := dk_191 (dk_at dksX0_lays_2 23 rfl rfl)
abbrev cX0_axis : ByteArray := prog_1_method_40_code
def yX0_axis : MethodName := ⟨RX0, "axis", "(IIIII)I"⟩
def dkwX0_axis_5 : List UInt8 := [25, 6, 182, 1, 217, 172]
abbrev dktX0_axis_5 : List UInt8 := dkwX0_axis_5 ++ []
def dkwX0_axis_4 : List UInt8 := [21, 7, 29, 21, 7, 21, 4, 104, 96, 135, 20, 1, 158, 111, 82, 132, 7, 1, 167, 255, 229, 42, 27, 28]
abbrev dktX0_axis_4 : List UInt8 := dkwX0_axis_4 ++ dktX0_axis_5
def dkwX0_axis_3 : List UInt8 := [153, 0, 6, 16, 253, 172, 21, 5, 188, 7, 58, 6, 3, 54, 7, 21, 7, 21, 5, 162, 0, 26, 25, 6]
abbrev dktX0_axis_3 : List UInt8 := dkwX0_axis_3 ++ dktX0_axis_4
def dkwX0_axis_2 : List UInt8 := [21, 5, 133, 10, 20, 1, 212, 184, 0, 132, 154, 0, 6, 16, 254, 172, 42, 27, 28, 182, 1, 214]
abbrev dktX0_axis_2 : List UInt8 := dkwX0_axis_2 ++ dktX0_axis_3
def dkwX0_axis_1 : List UInt8 := [20, 1, 206, 184, 0, 132, 153, 0, 31, 21, 4, 133, 20, 1, 208, 20, 1, 210, 184, 0, 132, 153, 0, 16]
abbrev dktX0_axis_1 : List UInt8 := dkwX0_axis_1 ++ dktX0_axis_2
def dkwX0_axis_0 : List UInt8 := [27, 184, 1, 191, 153, 0, 55, 28, 133, 9, 10, 184, 0, 132, 153, 0, 45, 29, 133, 20, 1, 204]
abbrev dktX0_axis_0 : List UInt8 := dkwX0_axis_0 ++ dktX0_axis_1
theorem dksX0_axis_0 : cX0_axis.data.toList.drop 0 = dktX0_axis_0 := by decide +kernel
theorem dksX0_axis_1 : cX0_axis.data.toList.drop 22 = dktX0_axis_1 := dk_seg dksX0_axis_0 22 rfl rfl
theorem dksX0_axis_2 : cX0_axis.data.toList.drop 46 = dktX0_axis_2 := dk_seg dksX0_axis_1 24 rfl rfl
theorem dksX0_axis_3 : cX0_axis.data.toList.drop 68 = dktX0_axis_3 := dk_seg dksX0_axis_2 22 rfl rfl
theorem dksX0_axis_4 : cX0_axis.data.toList.drop 92 = dktX0_axis_4 := dk_seg dksX0_axis_3 24 rfl rfl
theorem dksX0_axis_5 : cX0_axis.data.toList.drop 116 = dktX0_axis_5 := dk_seg dksX0_axis_4 24 rfl rfl
theorem dX0_axis_0 : decode cX0_axis 0 = .ok (.iload_n 1, 1) := dk_27 (dk_at dksX0_axis_0 0 rfl rfl)
theorem dX0_axis_1 : decode cX0_axis 1 = .ok (.invokestatic 447, 3) := dk_184 1 191 (dk_at dksX0_axis_0 1 rfl rfl)
theorem dX0_axis_4 : decode cX0_axis 4 = .ok (.ifCond .eq 55, 3) := dk_153 0 55 (dk_at dksX0_axis_0 4 rfl rfl)
theorem dX0_axis_7 : decode cX0_axis 7 = .ok (.iload_n 2, 1) := dk_28 (dk_at dksX0_axis_0 7 rfl rfl)
theorem dX0_axis_8 : decode cX0_axis 8 = .ok (.i2l, 1) := dk_133 (dk_at dksX0_axis_0 8 rfl rfl)
theorem dX0_axis_9 : decode cX0_axis 9 = .ok (.lconst 0, 1) := dk_9 (dk_at dksX0_axis_0 9 rfl rfl)
theorem dX0_axis_10 : decode cX0_axis 10 = .ok (.lconst 1, 1) := dk_10 (dk_at dksX0_axis_0 10 rfl rfl)
theorem dX0_axis_11 : decode cX0_axis 11 = .ok (.invokestatic 132, 3) := dk_184 0 132 (dk_at dksX0_axis_0 11 rfl rfl)
theorem dX0_axis_14 : decode cX0_axis 14 = .ok (.ifCond .eq 45, 3) := dk_153 0 45 (dk_at dksX0_axis_0 14 rfl rfl)
theorem dX0_axis_17 : decode cX0_axis 17 = .ok (.iload_n 3, 1) := dk_29 (dk_at dksX0_axis_0 17 rfl rfl)
theorem dX0_axis_18 : decode cX0_axis 18 = .ok (.i2l, 1) := dk_133 (dk_at dksX0_axis_0 18 rfl rfl)
theorem dX0_axis_19 : decode cX0_axis 19 = .ok (.ldc2_w 460, 3) := dk_20 1 204 (dk_at dksX0_axis_0 19 rfl rfl)
theorem dX0_axis_22 : decode cX0_axis 22 = .ok (.ldc2_w 462, 3) := dk_20 1 206 (dk_at dksX0_axis_1 0 rfl rfl)
theorem dX0_axis_25 : decode cX0_axis 25 = .ok (.invokestatic 132, 3) := dk_184 0 132 (dk_at dksX0_axis_1 3 rfl rfl)
theorem dX0_axis_28 : decode cX0_axis 28 = .ok (.ifCond .eq 31, 3) := dk_153 0 31 (dk_at dksX0_axis_1 6 rfl rfl)
theorem dX0_axis_31 : decode cX0_axis 31 = .ok (.iload 4, 2) := dk_21 4 (dk_at dksX0_axis_1 9 rfl rfl)
theorem dX0_axis_33 : decode cX0_axis 33 = .ok (.i2l, 1) := dk_133 (dk_at dksX0_axis_1 11 rfl rfl)
theorem dX0_axis_34 : decode cX0_axis 34 = .ok (.ldc2_w 464, 3) := dk_20 1 208 (dk_at dksX0_axis_1 12 rfl rfl)
theorem dX0_axis_37 : decode cX0_axis 37 = .ok (.ldc2_w 466, 3) := dk_20 1 210 (dk_at dksX0_axis_1 15 rfl rfl)
theorem dX0_axis_40 : decode cX0_axis 40 = .ok (.invokestatic 132, 3) := dk_184 0 132 (dk_at dksX0_axis_1 18 rfl rfl)
theorem dX0_axis_43 : decode cX0_axis 43 = .ok (.ifCond .eq 16, 3) := dk_153 0 16 (dk_at dksX0_axis_1 21 rfl rfl)
theorem dX0_axis_46 : decode cX0_axis 46 = .ok (.iload 5, 2) := dk_21 5 (dk_at dksX0_axis_2 0 rfl rfl)
theorem dX0_axis_48 : decode cX0_axis 48 = .ok (.i2l, 1) := dk_133 (dk_at dksX0_axis_2 2 rfl rfl)
theorem dX0_axis_49 : decode cX0_axis 49 = .ok (.lconst 1, 1) := dk_10 (dk_at dksX0_axis_2 3 rfl rfl)
theorem dX0_axis_50 : decode cX0_axis 50 = .ok (.ldc2_w 468, 3) := dk_20 1 212 (dk_at dksX0_axis_2 4 rfl rfl)
theorem dX0_axis_53 : decode cX0_axis 53 = .ok (.invokestatic 132, 3) := dk_184 0 132 (dk_at dksX0_axis_2 7 rfl rfl)
theorem dX0_axis_56 : decode cX0_axis 56 = .ok (.ifCond .ne 6, 3) := dk_154 0 6 (dk_at dksX0_axis_2 10 rfl rfl)
theorem dX0_axis_59 : decode cX0_axis 59 = .ok (.bipush (-2), 2) := dk_16 254 (dk_at dksX0_axis_2 13 rfl rfl)
theorem dX0_axis_61 : decode cX0_axis 61 = .ok (.ireturn, 1) := dk_172 (dk_at dksX0_axis_2 15 rfl rfl)
theorem dX0_axis_62 : decode cX0_axis 62 = .ok (.aload_n 0, 1) := dk_42 (dk_at dksX0_axis_2 16 rfl rfl)
theorem dX0_axis_63 : decode cX0_axis 63 = .ok (.iload_n 1, 1) := dk_27 (dk_at dksX0_axis_2 17 rfl rfl)
theorem dX0_axis_64 : decode cX0_axis 64 = .ok (.iload_n 2, 1) := dk_28 (dk_at dksX0_axis_2 18 rfl rfl)
theorem dX0_axis_65 : decode cX0_axis 65 = .ok (.invokevirtual 470, 3) := dk_182 1 214 (dk_at dksX0_axis_2 19 rfl rfl)
theorem dX0_axis_68 : decode cX0_axis 68 = .ok (.ifCond .eq 6, 3) := dk_153 0 6 (dk_at dksX0_axis_3 0 rfl rfl)
theorem dX0_axis_71 : decode cX0_axis 71 = .ok (.bipush (-3), 2) := dk_16 253 (dk_at dksX0_axis_3 3 rfl rfl)
theorem dX0_axis_73 : decode cX0_axis 73 = .ok (.ireturn, 1) := dk_172 (dk_at dksX0_axis_3 5 rfl rfl)
theorem dX0_axis_74 : decode cX0_axis 74 = .ok (.iload 5, 2) := dk_21 5 (dk_at dksX0_axis_3 6 rfl rfl)
theorem dX0_axis_76 : decode cX0_axis 76 = .ok (.newarray .double, 2) := dk_188_7 (dk_at dksX0_axis_3 8 rfl rfl)
theorem dX0_axis_78 : decode cX0_axis 78 = .ok (.astore 6, 2) := dk_58 6 (dk_at dksX0_axis_3 10 rfl rfl)
theorem dX0_axis_80 : decode cX0_axis 80 = .ok (.iconst 0, 1) := dk_3 (dk_at dksX0_axis_3 12 rfl rfl)
theorem dX0_axis_81 : decode cX0_axis 81 = .ok (.istore 7, 2) := dk_54 7 (dk_at dksX0_axis_3 13 rfl rfl)
theorem dX0_axis_83 : decode cX0_axis 83 = .ok (.iload 7, 2) := dk_21 7 (dk_at dksX0_axis_3 15 rfl rfl)
theorem dX0_axis_85 : decode cX0_axis 85 = .ok (.iload 5, 2) := dk_21 5 (dk_at dksX0_axis_3 17 rfl rfl)
theorem dX0_axis_87 : decode cX0_axis 87 = .ok (.if_icmp .ge 26, 3) := dk_162 0 26 (dk_at dksX0_axis_3 19 rfl rfl)
theorem dX0_axis_90 : decode cX0_axis 90 = .ok (.aload 6, 2) := dk_25 6 (dk_at dksX0_axis_3 22 rfl rfl)
theorem dX0_axis_92 : decode cX0_axis 92 = .ok (.iload 7, 2) := dk_21 7 (dk_at dksX0_axis_4 0 rfl rfl)
theorem dX0_axis_94 : decode cX0_axis 94 = .ok (.iload_n 3, 1) := dk_29 (dk_at dksX0_axis_4 2 rfl rfl)
theorem dX0_axis_95 : decode cX0_axis 95 = .ok (.iload 7, 2) := dk_21 7 (dk_at dksX0_axis_4 3 rfl rfl)
theorem dX0_axis_97 : decode cX0_axis 97 = .ok (.iload 4, 2) := dk_21 4 (dk_at dksX0_axis_4 5 rfl rfl)
theorem dX0_axis_99 : decode cX0_axis 99 = .ok (.imul, 1) := dk_104 (dk_at dksX0_axis_4 7 rfl rfl)
theorem dX0_axis_100 : decode cX0_axis 100 = .ok (.iadd, 1) := dk_96 (dk_at dksX0_axis_4 8 rfl rfl)
theorem dX0_axis_101 : decode cX0_axis 101 = .ok (.i2d, 1) := dk_135 (dk_at dksX0_axis_4 9 rfl rfl)
theorem dX0_axis_102 : decode cX0_axis 102 = .ok (.ldc2_w 414, 3) := dk_20 1 158 (dk_at dksX0_axis_4 10 rfl rfl)
theorem dX0_axis_105 : decode cX0_axis 105 = .ok (.ddiv, 1) := dk_111 (dk_at dksX0_axis_4 13 rfl rfl)
theorem dX0_axis_106 : decode cX0_axis 106 = .ok (.dastore, 1) := dk_82 (dk_at dksX0_axis_4 14 rfl rfl)
theorem dX0_axis_107 : decode cX0_axis 107 = .ok (.iinc 7 1, 3) := dk_132 7 1 (dk_at dksX0_axis_4 15 rfl rfl)
theorem dX0_axis_110 : decode cX0_axis 110 = .ok (.goto (-27), 3) := dk_167 255 229 (dk_at dksX0_axis_4 18 rfl rfl)
theorem dX0_axis_113 : decode cX0_axis 113 = .ok (.aload_n 0, 1) := dk_42 (dk_at dksX0_axis_4 21 rfl rfl)
theorem dX0_axis_114 : decode cX0_axis 114 = .ok (.iload_n 1, 1) := dk_27 (dk_at dksX0_axis_4 22 rfl rfl)
theorem dX0_axis_115 : decode cX0_axis 115 = .ok (.iload_n 2, 1) := dk_28 (dk_at dksX0_axis_4 23 rfl rfl)
theorem dX0_axis_116 : decode cX0_axis 116 = .ok (.aload 6, 2) := dk_25 6 (dk_at dksX0_axis_5 0 rfl rfl)
theorem dX0_axis_118 : decode cX0_axis 118 = .ok (.invokevirtual 473, 3) := dk_182 1 217 (dk_at dksX0_axis_5 2 rfl rfl)
theorem dX0_axis_121 : decode cX0_axis 121 = .ok (.ireturn, 1) := dk_172 (dk_at dksX0_axis_5 5 rfl rfl)
abbrev cX0_isFixed : ByteArray := prog_1_method_39_code
def yX0_isFixed : MethodName := ⟨RX0, "isFixed", "(II)Z"⟩
def dkwX0_isFixed_1 : List UInt8 := [199, 0, 7, 4, 167, 0, 4, 3, 172]
abbrev dktX0_isFixed_1 : List UInt8 := dkwX0_isFixed_1 ++ []
def dkwX0_isFixed_0 : List UInt8 := [42, 180, 0, 37, 27, 50, 198, 0, 20, 28, 4, 160, 0, 19, 42, 180, 0, 37, 27, 50, 180, 0, 190]
abbrev dktX0_isFixed_0 : List UInt8 := dkwX0_isFixed_0 ++ dktX0_isFixed_1
theorem dksX0_isFixed_0 : cX0_isFixed.data.toList.drop 0 = dktX0_isFixed_0 := by decide +kernel
theorem dksX0_isFixed_1 : cX0_isFixed.data.toList.drop 23 = dktX0_isFixed_1 := dk_seg dksX0_isFixed_0 23 rfl rfl
theorem dX0_isFixed_0 : decode cX0_isFixed 0 = .ok (.aload_n 0, 1) := dk_42 (dk_at dksX0_isFixed_0 0 rfl rfl)
theorem dX0_isFixed_1 : decode cX0_isFixed 1 = .ok (.getfield 37, 3) := dk_180 0 37 (dk_at dksX0_isFixed_0 1 rfl rfl)
theorem dX0_isFixed_4 : decode cX0_isFixed 4 = .ok (.iload_n 1, 1) := dk_27 (dk_at dksX0_isFixed_0 4 rfl rfl)
theorem dX0_isFixed_5 : decode cX0_isFixed 5 = .ok (.aaload, 1) := dk_50 (dk_at dksX0_isFixed_0 5 rfl rfl)
theorem dX0_isFixed_6 : decode cX0_isFixed 6 = .ok (.ifnull 20, 3) := dk_198 0 20 (dk_at dksX0_isFixed_0 6 rfl rfl)
theorem dX0_isFixed_9 : decode cX0_isFixed 9 = .ok (.iload_n 2, 1) := dk_28 (dk_at dksX0_isFixed_0 9 rfl rfl)
theorem dX0_isFixed_10 : decode cX0_isFixed 10 = .ok (.iconst 1, 1) := dk_4 (dk_at dksX0_isFixed_0 10 rfl rfl)
theorem dX0_isFixed_11 : decode cX0_isFixed 11 = .ok (.if_icmp .ne 19, 3) := dk_160 0 19 (dk_at dksX0_isFixed_0 11 rfl rfl)
theorem dX0_isFixed_14 : decode cX0_isFixed 14 = .ok (.aload_n 0, 1) := dk_42 (dk_at dksX0_isFixed_0 14 rfl rfl)
theorem dX0_isFixed_15 : decode cX0_isFixed 15 = .ok (.getfield 37, 3) := dk_180 0 37 (dk_at dksX0_isFixed_0 15 rfl rfl)
theorem dX0_isFixed_18 : decode cX0_isFixed 18 = .ok (.iload_n 1, 1) := dk_27 (dk_at dksX0_isFixed_0 18 rfl rfl)
theorem dX0_isFixed_19 : decode cX0_isFixed 19 = .ok (.aaload, 1) := dk_50 (dk_at dksX0_isFixed_0 19 rfl rfl)
theorem dX0_isFixed_20 : decode cX0_isFixed 20 = .ok (.getfield 190, 3) := dk_180 0 190 (dk_at dksX0_isFixed_0 20 rfl rfl)
theorem dX0_isFixed_23 : decode cX0_isFixed 23 = .ok (.ifnonnull 7, 3) := dk_199 0 7 (dk_at dksX0_isFixed_1 0 rfl rfl)
theorem dX0_isFixed_26 : decode cX0_isFixed 26 = .ok (.iconst 1, 1) := dk_4 (dk_at dksX0_isFixed_1 3 rfl rfl)
theorem dX0_isFixed_27 : decode cX0_isFixed 27 = .ok (.goto 4, 3) := dk_167 0 4 (dk_at dksX0_isFixed_1 4 rfl rfl)
theorem dX0_isFixed_30 : decode cX0_isFixed 30 = .ok (.iconst 0, 1) := dk_3 (dk_at dksX0_isFixed_1 7 rfl rfl)
theorem dX0_isFixed_31 : decode cX0_isFixed 31 = .ok (.ireturn, 1) := dk_172 (dk_at dksX0_isFixed_1 8 rfl rfl)
abbrev cX0_varies : ByteArray := prog_1_method_38_code
def yX0_varies : MethodName := ⟨RX0, "varies", "(II[D)I"⟩
def dkwX0_varies_4 : List UInt8 := [42, 180, 0, 37, 27, 50, 182, 0, 154, 167, 0, 5, 21, 6, 172]
abbrev dktX0_varies_4 : List UInt8 := dkwX0_varies_4 ++ []
def dkwX0_varies_3 : List UInt8 := [25, 4, 180, 0, 190, 167, 0, 5, 25, 5, 183, 1, 197, 182, 1, 200, 54, 6, 21, 6, 4, 160, 0, 15]
abbrev dktX0_varies_3 : List UInt8 := dkwX0_varies_3 ++ dktX0_varies_4
def dkwX0_varies_2 : List UInt8 := [25, 4, 180, 1, 13, 28, 154, 0, 8, 25, 5, 167, 0, 8, 25, 4, 180, 0, 171, 28, 154, 0, 11]
abbrev dktX0_varies_2 : List UInt8 := dkwX0_varies_2 ++ dktX0_varies_3
def dkwX0_varies_1 : List UInt8 := [167, 0, 11, 25, 4, 180, 0, 190, 180, 0, 175, 45, 183, 1, 194, 58, 5, 42, 27, 187, 0, 35, 89, 27]
abbrev dktX0_varies_1 : List UInt8 := dkwX0_varies_1 ++ dktX0_varies_2
def dkwX0_varies_0 : List UInt8 := [42, 180, 0, 37, 27, 50, 58, 4, 187, 0, 176, 89, 28, 154, 0, 14, 25, 4, 180, 0, 171, 180, 0, 175]
abbrev dktX0_varies_0 : List UInt8 := dkwX0_varies_0 ++ dktX0_varies_1
theorem dksX0_varies_0 : cX0_varies.data.toList.drop 0 = dktX0_varies_0 := by decide +kernel
theorem dksX0_varies_1 : cX0_varies.data.toList.drop 24 = dktX0_varies_1 := dk_seg dksX0_varies_0 24 rfl rfl
theorem dksX0_varies_2 : cX0_varies.data.toList.drop 48 = dktX0_varies_2 := dk_seg dksX0_varies_1 24 rfl rfl
theorem dksX0_varies_3 : cX0_varies.data.toList.drop 71 = dktX0_varies_3 := dk_seg dksX0_varies_2 23 rfl rfl
theorem dksX0_varies_4 : cX0_varies.data.toList.drop 95 = dktX0_varies_4 := dk_seg dksX0_varies_3 24 rfl rfl
theorem dX0_varies_0 : decode cX0_varies 0 = .ok (.aload_n 0, 1) := dk_42 (dk_at dksX0_varies_0 0 rfl rfl)
theorem dX0_varies_1 : decode cX0_varies 1 = .ok (.getfield 37, 3) := dk_180 0 37 (dk_at dksX0_varies_0 1 rfl rfl)
theorem dX0_varies_4 : decode cX0_varies 4 = .ok (.iload_n 1, 1) := dk_27 (dk_at dksX0_varies_0 4 rfl rfl)
theorem dX0_varies_5 : decode cX0_varies 5 = .ok (.aaload, 1) := dk_50 (dk_at dksX0_varies_0 5 rfl rfl)
theorem dX0_varies_6 : decode cX0_varies 6 = .ok (.astore 4, 2) := dk_58 4 (dk_at dksX0_varies_0 6 rfl rfl)
theorem dX0_varies_8 : decode cX0_varies 8 = .ok (.new 176, 3) := dk_187 0 176 (dk_at dksX0_varies_0 8 rfl rfl)
theorem dX0_varies_11 : decode cX0_varies 11 = .ok (.dup, 1) := dk_89 (dk_at dksX0_varies_0 11 rfl rfl)
theorem dX0_varies_12 : decode cX0_varies 12 = .ok (.iload_n 2, 1) := dk_28 (dk_at dksX0_varies_0 12 rfl rfl)
theorem dX0_varies_13 : decode cX0_varies 13 = .ok (.ifCond .ne 14, 3) := dk_154 0 14 (dk_at dksX0_varies_0 13 rfl rfl)
theorem dX0_varies_16 : decode cX0_varies 16 = .ok (.aload 4, 2) := dk_25 4 (dk_at dksX0_varies_0 16 rfl rfl)
theorem dX0_varies_18 : decode cX0_varies 18 = .ok (.getfield 171, 3) := dk_180 0 171 (dk_at dksX0_varies_0 18 rfl rfl)
theorem dX0_varies_21 : decode cX0_varies 21 = .ok (.getfield 175, 3) := dk_180 0 175 (dk_at dksX0_varies_0 21 rfl rfl)
theorem dX0_varies_24 : decode cX0_varies 24 = .ok (.goto 11, 3) := dk_167 0 11 (dk_at dksX0_varies_1 0 rfl rfl)
theorem dX0_varies_27 : decode cX0_varies 27 = .ok (.aload 4, 2) := dk_25 4 (dk_at dksX0_varies_1 3 rfl rfl)
theorem dX0_varies_29 : decode cX0_varies 29 = .ok (.getfield 190, 3) := dk_180 0 190 (dk_at dksX0_varies_1 5 rfl rfl)
theorem dX0_varies_32 : decode cX0_varies 32 = .ok (.getfield 175, 3) := dk_180 0 175 (dk_at dksX0_varies_1 8 rfl rfl)
theorem dX0_varies_35 : decode cX0_varies 35 = .ok (.aload_n 3, 1) := dk_45 (dk_at dksX0_varies_1 11 rfl rfl)
theorem dX0_varies_36 : decode cX0_varies 36 = .ok (.invokespecial 450, 3) := dk_183 1 194 (dk_at dksX0_varies_1 12 rfl rfl)
theorem dX0_varies_39 : decode cX0_varies 39 = .ok (.astore 5, 2) := dk_58 5 (dk_at dksX0_varies_1 15 rfl rfl)
theorem dX0_varies_41 : decode cX0_varies 41 = .ok (.aload_n 0, 1) := dk_42 (dk_at dksX0_varies_1 17 rfl rfl)
theorem dX0_varies_42 : decode cX0_varies 42 = .ok (.iload_n 1, 1) := dk_27 (dk_at dksX0_varies_1 18 rfl rfl)
theorem dX0_varies_43 : decode cX0_varies 43 = .ok (.new 35, 3) := dk_187 0 35 (dk_at dksX0_varies_1 19 rfl rfl)
theorem dX0_varies_46 : decode cX0_varies 46 = .ok (.dup, 1) := dk_89 (dk_at dksX0_varies_1 22 rfl rfl)
theorem dX0_varies_47 : decode cX0_varies 47 = .ok (.iload_n 1, 1) := dk_27 (dk_at dksX0_varies_1 23 rfl rfl)
theorem dX0_varies_48 : decode cX0_varies 48 = .ok (.aload 4, 2) := dk_25 4 (dk_at dksX0_varies_2 0 rfl rfl)
theorem dX0_varies_50 : decode cX0_varies 50 = .ok (.getfield 269, 3) := dk_180 1 13 (dk_at dksX0_varies_2 2 rfl rfl)
theorem dX0_varies_53 : decode cX0_varies 53 = .ok (.iload_n 2, 1) := dk_28 (dk_at dksX0_varies_2 5 rfl rfl)
theorem dX0_varies_54 : decode cX0_varies 54 = .ok (.ifCond .ne 8, 3) := dk_154 0 8 (dk_at dksX0_varies_2 6 rfl rfl)
theorem dX0_varies_57 : decode cX0_varies 57 = .ok (.aload 5, 2) := dk_25 5 (dk_at dksX0_varies_2 9 rfl rfl)
theorem dX0_varies_59 : decode cX0_varies 59 = .ok (.goto 8, 3) := dk_167 0 8 (dk_at dksX0_varies_2 11 rfl rfl)
theorem dX0_varies_62 : decode cX0_varies 62 = .ok (.aload 4, 2) := dk_25 4 (dk_at dksX0_varies_2 14 rfl rfl)
theorem dX0_varies_64 : decode cX0_varies 64 = .ok (.getfield 171, 3) := dk_180 0 171 (dk_at dksX0_varies_2 16 rfl rfl)
theorem dX0_varies_67 : decode cX0_varies 67 = .ok (.iload_n 2, 1) := dk_28 (dk_at dksX0_varies_2 19 rfl rfl)
theorem dX0_varies_68 : decode cX0_varies 68 = .ok (.ifCond .ne 11, 3) := dk_154 0 11 (dk_at dksX0_varies_2 20 rfl rfl)
theorem dX0_varies_71 : decode cX0_varies 71 = .ok (.aload 4, 2) := dk_25 4 (dk_at dksX0_varies_3 0 rfl rfl)
theorem dX0_varies_73 : decode cX0_varies 73 = .ok (.getfield 190, 3) := dk_180 0 190 (dk_at dksX0_varies_3 2 rfl rfl)
theorem dX0_varies_76 : decode cX0_varies 76 = .ok (.goto 5, 3) := dk_167 0 5 (dk_at dksX0_varies_3 5 rfl rfl)
theorem dX0_varies_79 : decode cX0_varies 79 = .ok (.aload 5, 2) := dk_25 5 (dk_at dksX0_varies_3 8 rfl rfl)
theorem dX0_varies_81 : decode cX0_varies 81 = .ok (.invokespecial 453, 3) := dk_183 1 197 (dk_at dksX0_varies_3 10 rfl rfl)
theorem dX0_varies_84 : decode cX0_varies 84 = .ok (.invokevirtual 456, 3) := dk_182 1 200 (dk_at dksX0_varies_3 13 rfl rfl)
theorem dX0_varies_87 : decode cX0_varies 87 = .ok (.istore 6, 2) := dk_54 6 (dk_at dksX0_varies_3 16 rfl rfl)
theorem dX0_varies_89 : decode cX0_varies 89 = .ok (.iload 6, 2) := dk_21 6 (dk_at dksX0_varies_3 18 rfl rfl)
theorem dX0_varies_91 : decode cX0_varies 91 = .ok (.iconst 1, 1) := dk_4 (dk_at dksX0_varies_3 20 rfl rfl)
theorem dX0_varies_92 : decode cX0_varies 92 = .ok (.if_icmp .ne 15, 3) := dk_160 0 15 (dk_at dksX0_varies_3 21 rfl rfl)
theorem dX0_varies_95 : decode cX0_varies 95 = .ok (.aload_n 0, 1) := dk_42 (dk_at dksX0_varies_4 0 rfl rfl)
theorem dX0_varies_96 : decode cX0_varies 96 = .ok (.getfield 37, 3) := dk_180 0 37 (dk_at dksX0_varies_4 1 rfl rfl)
theorem dX0_varies_99 : decode cX0_varies 99 = .ok (.iload_n 1, 1) := dk_27 (dk_at dksX0_varies_4 4 rfl rfl)
theorem dX0_varies_100 : decode cX0_varies 100 = .ok (.aaload, 1) := dk_50 (dk_at dksX0_varies_4 5 rfl rfl)
theorem dX0_varies_101 : decode cX0_varies 101 = .ok (.invokevirtual 154, 3) := dk_182 0 154 (dk_at dksX0_varies_4 6 rfl rfl)
theorem dX0_varies_104 : decode cX0_varies 104 = .ok (.goto 5, 3) := dk_167 0 5 (dk_at dksX0_varies_4 9 rfl rfl)
theorem dX0_varies_107 : decode cX0_varies 107 = .ok (.iload 6, 2) := dk_21 6 (dk_at dksX0_varies_4 12 rfl rfl)
theorem dX0_varies_109 : decode cX0_varies 109 = .ok (.ireturn, 1) := dk_172 (dk_at dksX0_varies_4 14 rfl rfl)
abbrev cX0_axisBy : ByteArray := prog_1_method_41_code
def yX0_axisBy : MethodName := ⟨RX0, "axisBy", "(IIIII)I"⟩
def dkwX0_axisBy_7 : List UInt8 := [27, 28, 25, 6, 182, 1, 217, 172]
abbrev dktX0_axisBy_7 : List UInt8 := dkwX0_axisBy_7 ++ []
def dkwX0_axisBy_6 : List UInt8 := [25, 6, 21, 7, 49, 25, 6, 21, 7, 49, 151, 153, 0, 6, 16, 253, 172, 132, 7, 1, 167, 255, 229, 42]
abbrev dktX0_axisBy_6 : List UInt8 := dkwX0_axisBy_6 ++ dktX0_axisBy_7
def dkwX0_axisBy_5 : List UInt8 := [167, 0, 13, 58, 7, 16, 243, 172, 58, 7, 16, 244, 172, 3, 54, 7, 21, 7, 21, 5, 162, 0, 26]
abbrev dktX0_axisBy_5 : List UInt8 := dkwX0_axisBy_5 ++ dktX0_axisBy_6
def dkwX0_axisBy_4 : List UInt8 := [21, 5, 162, 0, 22, 25, 6, 21, 8, 25, 7, 21, 4, 21, 8, 96, 49, 82, 132, 8, 1, 167, 255, 233]
abbrev dktX0_axisBy_4 : List UInt8 := dkwX0_axisBy_4 ++ dktX0_axisBy_5
def dkwX0_axisBy_3 : List UInt8 := [188, 7, 58, 6, 42, 180, 0, 121, 29, 50, 180, 1, 223, 192, 1, 227, 58, 7, 3, 54, 8, 21, 8]
abbrev dktX0_axisBy_3 : List UInt8 := dkwX0_axisBy_3 ++ dktX0_axisBy_4
def dkwX0_axisBy_2 : List UInt8 := [153, 0, 6, 16, 253, 172, 42, 180, 0, 121, 29, 50, 180, 1, 223, 199, 0, 6, 16, 245, 172, 21, 5]
abbrev dktX0_axisBy_2 : List UInt8 := dkwX0_axisBy_2 ++ dktX0_axisBy_3
def dkwX0_axisBy_1 : List UInt8 := [21, 5, 133, 10, 20, 1, 212, 184, 0, 132, 154, 0, 6, 16, 254, 172, 42, 27, 28, 182, 1, 214]
abbrev dktX0_axisBy_1 : List UInt8 := dkwX0_axisBy_1 ++ dktX0_axisBy_2
def dkwX0_axisBy_0 : List UInt8 := [27, 184, 1, 191, 153, 0, 33, 28, 133, 9, 10, 184, 0, 132, 153, 0, 23, 29, 184, 1, 220, 153, 0, 16]
abbrev dktX0_axisBy_0 : List UInt8 := dkwX0_axisBy_0 ++ dktX0_axisBy_1
theorem dksX0_axisBy_0 : cX0_axisBy.data.toList.drop 0 = dktX0_axisBy_0 := by decide +kernel
theorem dksX0_axisBy_1 : cX0_axisBy.data.toList.drop 24 = dktX0_axisBy_1 := dk_seg dksX0_axisBy_0 24 rfl rfl
theorem dksX0_axisBy_2 : cX0_axisBy.data.toList.drop 46 = dktX0_axisBy_2 := dk_seg dksX0_axisBy_1 22 rfl rfl
theorem dksX0_axisBy_3 : cX0_axisBy.data.toList.drop 69 = dktX0_axisBy_3 := dk_seg dksX0_axisBy_2 23 rfl rfl
theorem dksX0_axisBy_4 : cX0_axisBy.data.toList.drop 92 = dktX0_axisBy_4 := dk_seg dksX0_axisBy_3 23 rfl rfl
theorem dksX0_axisBy_5 : cX0_axisBy.data.toList.drop 116 = dktX0_axisBy_5 := dk_seg dksX0_axisBy_4 24 rfl rfl
theorem dksX0_axisBy_6 : cX0_axisBy.data.toList.drop 139 = dktX0_axisBy_6 := dk_seg dksX0_axisBy_5 23 rfl rfl
theorem dksX0_axisBy_7 : cX0_axisBy.data.toList.drop 163 = dktX0_axisBy_7 := dk_seg dksX0_axisBy_6 24 rfl rfl
theorem dX0_axisBy_0 : decode cX0_axisBy 0 = .ok (.iload_n 1, 1) := dk_27 (dk_at dksX0_axisBy_0 0 rfl rfl)
theorem dX0_axisBy_1 : decode cX0_axisBy 1 = .ok (.invokestatic 447, 3) := dk_184 1 191 (dk_at dksX0_axisBy_0 1 rfl rfl)
theorem dX0_axisBy_4 : decode cX0_axisBy 4 = .ok (.ifCond .eq 33, 3) := dk_153 0 33 (dk_at dksX0_axisBy_0 4 rfl rfl)
theorem dX0_axisBy_7 : decode cX0_axisBy 7 = .ok (.iload_n 2, 1) := dk_28 (dk_at dksX0_axisBy_0 7 rfl rfl)
theorem dX0_axisBy_8 : decode cX0_axisBy 8 = .ok (.i2l, 1) := dk_133 (dk_at dksX0_axisBy_0 8 rfl rfl)
theorem dX0_axisBy_9 : decode cX0_axisBy 9 = .ok (.lconst 0, 1) := dk_9 (dk_at dksX0_axisBy_0 9 rfl rfl)
theorem dX0_axisBy_10 : decode cX0_axisBy 10 = .ok (.lconst 1, 1) := dk_10 (dk_at dksX0_axisBy_0 10 rfl rfl)
theorem dX0_axisBy_11 : decode cX0_axisBy 11 = .ok (.invokestatic 132, 3) := dk_184 0 132 (dk_at dksX0_axisBy_0 11 rfl rfl)
theorem dX0_axisBy_14 : decode cX0_axisBy 14 = .ok (.ifCond .eq 23, 3) := dk_153 0 23 (dk_at dksX0_axisBy_0 14 rfl rfl)
theorem dX0_axisBy_17 : decode cX0_axisBy 17 = .ok (.iload_n 3, 1) := dk_29 (dk_at dksX0_axisBy_0 17 rfl rfl)
theorem dX0_axisBy_18 : decode cX0_axisBy 18 = .ok (.invokestatic 476, 3) := dk_184 1 220 (dk_at dksX0_axisBy_0 18 rfl rfl)
theorem dX0_axisBy_21 : decode cX0_axisBy 21 = .ok (.ifCond .eq 16, 3) := dk_153 0 16 (dk_at dksX0_axisBy_0 21 rfl rfl)
theorem dX0_axisBy_24 : decode cX0_axisBy 24 = .ok (.iload 5, 2) := dk_21 5 (dk_at dksX0_axisBy_1 0 rfl rfl)
theorem dX0_axisBy_26 : decode cX0_axisBy 26 = .ok (.i2l, 1) := dk_133 (dk_at dksX0_axisBy_1 2 rfl rfl)
theorem dX0_axisBy_27 : decode cX0_axisBy 27 = .ok (.lconst 1, 1) := dk_10 (dk_at dksX0_axisBy_1 3 rfl rfl)
theorem dX0_axisBy_28 : decode cX0_axisBy 28 = .ok (.ldc2_w 468, 3) := dk_20 1 212 (dk_at dksX0_axisBy_1 4 rfl rfl)
theorem dX0_axisBy_31 : decode cX0_axisBy 31 = .ok (.invokestatic 132, 3) := dk_184 0 132 (dk_at dksX0_axisBy_1 7 rfl rfl)
theorem dX0_axisBy_34 : decode cX0_axisBy 34 = .ok (.ifCond .ne 6, 3) := dk_154 0 6 (dk_at dksX0_axisBy_1 10 rfl rfl)
theorem dX0_axisBy_37 : decode cX0_axisBy 37 = .ok (.bipush (-2), 2) := dk_16 254 (dk_at dksX0_axisBy_1 13 rfl rfl)
theorem dX0_axisBy_39 : decode cX0_axisBy 39 = .ok (.ireturn, 1) := dk_172 (dk_at dksX0_axisBy_1 15 rfl rfl)
theorem dX0_axisBy_40 : decode cX0_axisBy 40 = .ok (.aload_n 0, 1) := dk_42 (dk_at dksX0_axisBy_1 16 rfl rfl)
theorem dX0_axisBy_41 : decode cX0_axisBy 41 = .ok (.iload_n 1, 1) := dk_27 (dk_at dksX0_axisBy_1 17 rfl rfl)
theorem dX0_axisBy_42 : decode cX0_axisBy 42 = .ok (.iload_n 2, 1) := dk_28 (dk_at dksX0_axisBy_1 18 rfl rfl)
theorem dX0_axisBy_43 : decode cX0_axisBy 43 = .ok (.invokevirtual 470, 3) := dk_182 1 214 (dk_at dksX0_axisBy_1 19 rfl rfl)
theorem dX0_axisBy_46 : decode cX0_axisBy 46 = .ok (.ifCond .eq 6, 3) := dk_153 0 6 (dk_at dksX0_axisBy_2 0 rfl rfl)
theorem dX0_axisBy_49 : decode cX0_axisBy 49 = .ok (.bipush (-3), 2) := dk_16 253 (dk_at dksX0_axisBy_2 3 rfl rfl)
theorem dX0_axisBy_51 : decode cX0_axisBy 51 = .ok (.ireturn, 1) := dk_172 (dk_at dksX0_axisBy_2 5 rfl rfl)
theorem dX0_axisBy_52 : decode cX0_axisBy 52 = .ok (.aload_n 0, 1) := dk_42 (dk_at dksX0_axisBy_2 6 rfl rfl)
theorem dX0_axisBy_53 : decode cX0_axisBy 53 = .ok (.getfield 121, 3) := dk_180 0 121 (dk_at dksX0_axisBy_2 7 rfl rfl)
theorem dX0_axisBy_56 : decode cX0_axisBy 56 = .ok (.iload_n 3, 1) := dk_29 (dk_at dksX0_axisBy_2 10 rfl rfl)
theorem dX0_axisBy_57 : decode cX0_axisBy 57 = .ok (.aaload, 1) := dk_50 (dk_at dksX0_axisBy_2 11 rfl rfl)
theorem dX0_axisBy_58 : decode cX0_axisBy 58 = .ok (.getfield 479, 3) := dk_180 1 223 (dk_at dksX0_axisBy_2 12 rfl rfl)
theorem dX0_axisBy_61 : decode cX0_axisBy 61 = .ok (.ifnonnull 6, 3) := dk_199 0 6 (dk_at dksX0_axisBy_2 15 rfl rfl)
theorem dX0_axisBy_64 : decode cX0_axisBy 64 = .ok (.bipush (-11), 2) := dk_16 245 (dk_at dksX0_axisBy_2 18 rfl rfl)
theorem dX0_axisBy_66 : decode cX0_axisBy 66 = .ok (.ireturn, 1) := dk_172 (dk_at dksX0_axisBy_2 20 rfl rfl)
theorem dX0_axisBy_67 : decode cX0_axisBy 67 = .ok (.iload 5, 2) := dk_21 5 (dk_at dksX0_axisBy_2 21 rfl rfl)
theorem dX0_axisBy_69 : decode cX0_axisBy 69 = .ok (.newarray .double, 2) := dk_188_7 (dk_at dksX0_axisBy_3 0 rfl rfl)
theorem dX0_axisBy_71 : decode cX0_axisBy 71 = .ok (.astore 6, 2) := dk_58 6 (dk_at dksX0_axisBy_3 2 rfl rfl)
theorem dX0_axisBy_73 : decode cX0_axisBy 73 = .ok (.aload_n 0, 1) := dk_42 (dk_at dksX0_axisBy_3 4 rfl rfl)
theorem dX0_axisBy_74 : decode cX0_axisBy 74 = .ok (.getfield 121, 3) := dk_180 0 121 (dk_at dksX0_axisBy_3 5 rfl rfl)
theorem dX0_axisBy_77 : decode cX0_axisBy 77 = .ok (.iload_n 3, 1) := dk_29 (dk_at dksX0_axisBy_3 8 rfl rfl)
theorem dX0_axisBy_78 : decode cX0_axisBy 78 = .ok (.aaload, 1) := dk_50 (dk_at dksX0_axisBy_3 9 rfl rfl)
theorem dX0_axisBy_79 : decode cX0_axisBy 79 = .ok (.getfield 479, 3) := dk_180 1 223 (dk_at dksX0_axisBy_3 10 rfl rfl)
theorem dX0_axisBy_82 : decode cX0_axisBy 82 = .ok (.checkcast 483, 3) := dk_192 1 227 (dk_at dksX0_axisBy_3 13 rfl rfl)
theorem dX0_axisBy_85 : decode cX0_axisBy 85 = .ok (.astore 7, 2) := dk_58 7 (dk_at dksX0_axisBy_3 16 rfl rfl)
theorem dX0_axisBy_87 : decode cX0_axisBy 87 = .ok (.iconst 0, 1) := dk_3 (dk_at dksX0_axisBy_3 18 rfl rfl)
theorem dX0_axisBy_88 : decode cX0_axisBy 88 = .ok (.istore 8, 2) := dk_54 8 (dk_at dksX0_axisBy_3 19 rfl rfl)
theorem dX0_axisBy_90 : decode cX0_axisBy 90 = .ok (.iload 8, 2) := dk_21 8 (dk_at dksX0_axisBy_3 21 rfl rfl)
theorem dX0_axisBy_92 : decode cX0_axisBy 92 = .ok (.iload 5, 2) := dk_21 5 (dk_at dksX0_axisBy_4 0 rfl rfl)
theorem dX0_axisBy_94 : decode cX0_axisBy 94 = .ok (.if_icmp .ge 22, 3) := dk_162 0 22 (dk_at dksX0_axisBy_4 2 rfl rfl)
theorem dX0_axisBy_97 : decode cX0_axisBy 97 = .ok (.aload 6, 2) := dk_25 6 (dk_at dksX0_axisBy_4 5 rfl rfl)
theorem dX0_axisBy_99 : decode cX0_axisBy 99 = .ok (.iload 8, 2) := dk_21 8 (dk_at dksX0_axisBy_4 7 rfl rfl)
theorem dX0_axisBy_101 : decode cX0_axisBy 101 = .ok (.aload 7, 2) := dk_25 7 (dk_at dksX0_axisBy_4 9 rfl rfl)
theorem dX0_axisBy_103 : decode cX0_axisBy 103 = .ok (.iload 4, 2) := dk_21 4 (dk_at dksX0_axisBy_4 11 rfl rfl)
theorem dX0_axisBy_105 : decode cX0_axisBy 105 = .ok (.iload 8, 2) := dk_21 8 (dk_at dksX0_axisBy_4 13 rfl rfl)
theorem dX0_axisBy_107 : decode cX0_axisBy 107 = .ok (.iadd, 1) := dk_96 (dk_at dksX0_axisBy_4 15 rfl rfl)
theorem dX0_axisBy_108 : decode cX0_axisBy 108 = .ok (.daload, 1) := dk_49 (dk_at dksX0_axisBy_4 16 rfl rfl)
theorem dX0_axisBy_109 : decode cX0_axisBy 109 = .ok (.dastore, 1) := dk_82 (dk_at dksX0_axisBy_4 17 rfl rfl)
theorem dX0_axisBy_110 : decode cX0_axisBy 110 = .ok (.iinc 8 1, 3) := dk_132 8 1 (dk_at dksX0_axisBy_4 18 rfl rfl)
theorem dX0_axisBy_113 : decode cX0_axisBy 113 = .ok (.goto (-23), 3) := dk_167 255 233 (dk_at dksX0_axisBy_4 21 rfl rfl)
theorem dX0_axisBy_116 : decode cX0_axisBy 116 = .ok (.goto 13, 3) := dk_167 0 13 (dk_at dksX0_axisBy_5 0 rfl rfl)
theorem dX0_axisBy_119 : decode cX0_axisBy 119 = .ok (.astore 7, 2) := dk_58 7 (dk_at dksX0_axisBy_5 3 rfl rfl)
theorem dX0_axisBy_121 : decode cX0_axisBy 121 = .ok (.bipush (-13), 2) := dk_16 243 (dk_at dksX0_axisBy_5 5 rfl rfl)
theorem dX0_axisBy_123 : decode cX0_axisBy 123 = .ok (.ireturn, 1) := dk_172 (dk_at dksX0_axisBy_5 7 rfl rfl)
theorem dX0_axisBy_124 : decode cX0_axisBy 124 = .ok (.astore 7, 2) := dk_58 7 (dk_at dksX0_axisBy_5 8 rfl rfl)
theorem dX0_axisBy_126 : decode cX0_axisBy 126 = .ok (.bipush (-12), 2) := dk_16 244 (dk_at dksX0_axisBy_5 10 rfl rfl)
theorem dX0_axisBy_128 : decode cX0_axisBy 128 = .ok (.ireturn, 1) := dk_172 (dk_at dksX0_axisBy_5 12 rfl rfl)
theorem dX0_axisBy_129 : decode cX0_axisBy 129 = .ok (.iconst 0, 1) := dk_3 (dk_at dksX0_axisBy_5 13 rfl rfl)
theorem dX0_axisBy_130 : decode cX0_axisBy 130 = .ok (.istore 7, 2) := dk_54 7 (dk_at dksX0_axisBy_5 14 rfl rfl)
theorem dX0_axisBy_132 : decode cX0_axisBy 132 = .ok (.iload 7, 2) := dk_21 7 (dk_at dksX0_axisBy_5 16 rfl rfl)
theorem dX0_axisBy_134 : decode cX0_axisBy 134 = .ok (.iload 5, 2) := dk_21 5 (dk_at dksX0_axisBy_5 18 rfl rfl)
theorem dX0_axisBy_136 : decode cX0_axisBy 136 = .ok (.if_icmp .ge 26, 3) := dk_162 0 26 (dk_at dksX0_axisBy_5 20 rfl rfl)
theorem dX0_axisBy_139 : decode cX0_axisBy 139 = .ok (.aload 6, 2) := dk_25 6 (dk_at dksX0_axisBy_6 0 rfl rfl)
theorem dX0_axisBy_141 : decode cX0_axisBy 141 = .ok (.iload 7, 2) := dk_21 7 (dk_at dksX0_axisBy_6 2 rfl rfl)
theorem dX0_axisBy_143 : decode cX0_axisBy 143 = .ok (.daload, 1) := dk_49 (dk_at dksX0_axisBy_6 4 rfl rfl)
theorem dX0_axisBy_144 : decode cX0_axisBy 144 = .ok (.aload 6, 2) := dk_25 6 (dk_at dksX0_axisBy_6 5 rfl rfl)
theorem dX0_axisBy_146 : decode cX0_axisBy 146 = .ok (.iload 7, 2) := dk_21 7 (dk_at dksX0_axisBy_6 7 rfl rfl)
theorem dX0_axisBy_148 : decode cX0_axisBy 148 = .ok (.daload, 1) := dk_49 (dk_at dksX0_axisBy_6 9 rfl rfl)
theorem dX0_axisBy_149 : decode cX0_axisBy 149 = .ok (.dcmp .l, 1) := dk_151 (dk_at dksX0_axisBy_6 10 rfl rfl)
theorem dX0_axisBy_150 : decode cX0_axisBy 150 = .ok (.ifCond .eq 6, 3) := dk_153 0 6 (dk_at dksX0_axisBy_6 11 rfl rfl)
theorem dX0_axisBy_153 : decode cX0_axisBy 153 = .ok (.bipush (-3), 2) := dk_16 253 (dk_at dksX0_axisBy_6 14 rfl rfl)
theorem dX0_axisBy_155 : decode cX0_axisBy 155 = .ok (.ireturn, 1) := dk_172 (dk_at dksX0_axisBy_6 16 rfl rfl)
theorem dX0_axisBy_156 : decode cX0_axisBy 156 = .ok (.iinc 7 1, 3) := dk_132 7 1 (dk_at dksX0_axisBy_6 17 rfl rfl)
theorem dX0_axisBy_159 : decode cX0_axisBy 159 = .ok (.goto (-27), 3) := dk_167 255 229 (dk_at dksX0_axisBy_6 20 rfl rfl)
theorem dX0_axisBy_162 : decode cX0_axisBy 162 = .ok (.aload_n 0, 1) := dk_42 (dk_at dksX0_axisBy_6 23 rfl rfl)
theorem dX0_axisBy_163 : decode cX0_axisBy 163 = .ok (.iload_n 1, 1) := dk_27 (dk_at dksX0_axisBy_7 0 rfl rfl)
theorem dX0_axisBy_164 : decode cX0_axisBy 164 = .ok (.iload_n 2, 1) := dk_28 (dk_at dksX0_axisBy_7 1 rfl rfl)
theorem dX0_axisBy_165 : decode cX0_axisBy 165 = .ok (.aload 6, 2) := dk_25 6 (dk_at dksX0_axisBy_7 2 rfl rfl)
theorem dX0_axisBy_167 : decode cX0_axisBy 167 = .ok (.invokevirtual 473, 3) := dk_182 1 217 (dk_at dksX0_axisBy_7 4 rfl rfl)
theorem dX0_axisBy_170 : decode cX0_axisBy 170 = .ok (.ireturn, 1) := dk_172 (dk_at dksX0_axisBy_7 7 rfl rfl)
abbrev cX0_isRow : ByteArray := prog_1_method_64_code
def yX0_isRow : MethodName := ⟨RX0, "isRow", "(I)Z"⟩
def dkwX0_isRow_0 : List UInt8 := [26, 133, 9, 20, 2, 52, 184, 0, 132, 172]
abbrev dktX0_isRow_0 : List UInt8 := dkwX0_isRow_0 ++ []
theorem dksX0_isRow_0 : cX0_isRow.data.toList.drop 0 = dktX0_isRow_0 := by decide +kernel
theorem dX0_isRow_0 : decode cX0_isRow 0 = .ok (.iload_n 0, 1) := dk_26 (dk_at dksX0_isRow_0 0 rfl rfl)
theorem dX0_isRow_1 : decode cX0_isRow 1 = .ok (.i2l, 1) := dk_133 (dk_at dksX0_isRow_0 1 rfl rfl)
theorem dX0_isRow_2 : decode cX0_isRow 2 = .ok (.lconst 0, 1) := dk_9 (dk_at dksX0_isRow_0 2 rfl rfl)
theorem dX0_isRow_3 : decode cX0_isRow 3 = .ok (.ldc2_w 564, 3) := dk_20 2 52 (dk_at dksX0_isRow_0 3 rfl rfl)
theorem dX0_isRow_6 : decode cX0_isRow 6 = .ok (.invokestatic 132, 3) := dk_184 0 132 (dk_at dksX0_isRow_0 6 rfl rfl)
theorem dX0_isRow_9 : decode cX0_isRow 9 = .ok (.ireturn, 1) := dk_172 (dk_at dksX0_isRow_0 9 rfl rfl)
abbrev cX0_drop : ByteArray := prog_1_method_42_code
def yX0_drop : MethodName := ⟨RX0, "drop", "(I)I"⟩
def dkwX0_drop_1 : List UInt8 := [1, 182, 1, 200, 172]
abbrev dktX0_drop_1 : List UInt8 := dkwX0_drop_1 ++ []
def dkwX0_drop_0 : List UInt8 := [27, 184, 1, 191, 154, 0, 6, 16, 254, 172, 42, 180, 0, 37, 27, 50, 199, 0, 6, 16, 253, 172, 42, 27]
abbrev dktX0_drop_0 : List UInt8 := dkwX0_drop_0 ++ dktX0_drop_1
theorem dksX0_drop_0 : cX0_drop.data.toList.drop 0 = dktX0_drop_0 := by decide +kernel
theorem dksX0_drop_1 : cX0_drop.data.toList.drop 24 = dktX0_drop_1 := dk_seg dksX0_drop_0 24 rfl rfl
theorem dX0_drop_0 : decode cX0_drop 0 = .ok (.iload_n 1, 1) := dk_27 (dk_at dksX0_drop_0 0 rfl rfl)
theorem dX0_drop_1 : decode cX0_drop 1 = .ok (.invokestatic 447, 3) := dk_184 1 191 (dk_at dksX0_drop_0 1 rfl rfl)
theorem dX0_drop_4 : decode cX0_drop 4 = .ok (.ifCond .ne 6, 3) := dk_154 0 6 (dk_at dksX0_drop_0 4 rfl rfl)
theorem dX0_drop_7 : decode cX0_drop 7 = .ok (.bipush (-2), 2) := dk_16 254 (dk_at dksX0_drop_0 7 rfl rfl)
theorem dX0_drop_9 : decode cX0_drop 9 = .ok (.ireturn, 1) := dk_172 (dk_at dksX0_drop_0 9 rfl rfl)
theorem dX0_drop_10 : decode cX0_drop 10 = .ok (.aload_n 0, 1) := dk_42 (dk_at dksX0_drop_0 10 rfl rfl)
theorem dX0_drop_11 : decode cX0_drop 11 = .ok (.getfield 37, 3) := dk_180 0 37 (dk_at dksX0_drop_0 11 rfl rfl)
theorem dX0_drop_14 : decode cX0_drop 14 = .ok (.iload_n 1, 1) := dk_27 (dk_at dksX0_drop_0 14 rfl rfl)
theorem dX0_drop_15 : decode cX0_drop 15 = .ok (.aaload, 1) := dk_50 (dk_at dksX0_drop_0 15 rfl rfl)
theorem dX0_drop_16 : decode cX0_drop 16 = .ok (.ifnonnull 6, 3) := dk_199 0 6 (dk_at dksX0_drop_0 16 rfl rfl)
theorem dX0_drop_19 : decode cX0_drop 19 = .ok (.bipush (-3), 2) := dk_16 253 (dk_at dksX0_drop_0 19 rfl rfl)
theorem dX0_drop_21 : decode cX0_drop 21 = .ok (.ireturn, 1) := dk_172 (dk_at dksX0_drop_0 21 rfl rfl)
theorem dX0_drop_22 : decode cX0_drop 22 = .ok (.aload_n 0, 1) := dk_42 (dk_at dksX0_drop_0 22 rfl rfl)
theorem dX0_drop_23 : decode cX0_drop 23 = .ok (.iload_n 1, 1) := dk_27 (dk_at dksX0_drop_0 23 rfl rfl)
theorem dX0_drop_24 : decode cX0_drop 24 = .ok (.aconst_null, 1) := dk_1 (dk_at dksX0_drop_1 0 rfl rfl)
theorem dX0_drop_25 : decode cX0_drop 25 = .ok (.invokevirtual 456, 3) := dk_182 1 200 (dk_at dksX0_drop_1 1 rfl rfl)
theorem dX0_drop_28 : decode cX0_drop 28 = .ok (.ireturn, 1) := dk_172 (dk_at dksX0_drop_1 4 rfl rfl)
abbrev cX0_at : ByteArray := prog_1_method_44_code
def yX0_at : MethodName := ⟨RX0, "at", "(III)J"⟩
def dkwX0_at_4 : List UInt8 := [100, 133, 167, 0, 18, 42, 180, 0, 47, 27, 50, 180, 0, 160, 21, 5, 49, 184, 1, 37, 173]
abbrev dktX0_at_4 : List UInt8 := dkwX0_at_4 ++ []
def dkwX0_at_3 : List UInt8 := [50, 180, 0, 157, 21, 5, 51, 153, 0, 22, 16, 236, 42, 180, 0, 47, 27, 50, 180, 0, 157, 21, 5, 51]
abbrev dktX0_at_3 : List UInt8 := dkwX0_at_3 ++ dktX0_at_4
def dkwX0_at_2 : List UInt8 := [42, 25, 4, 28, 29, 182, 1, 31, 25, 4, 182, 1, 10, 28, 104, 29, 96, 54, 5, 42, 180, 0, 47, 27]
abbrev dktX0_at_2 : List UInt8 := dkwX0_at_2 ++ dktX0_at_3
def dkwX0_at_1 : List UInt8 := [20, 1, 182, 173, 42, 25, 4, 28, 29, 182, 1, 233, 154, 0, 7, 20, 1, 180, 173, 42, 1, 181, 0, 167]
abbrev dktX0_at_1 : List UInt8 := dkwX0_at_1 ++ dktX0_at_2
def dkwX0_at_0 : List UInt8 := [27, 184, 1, 191, 154, 0, 7, 20, 1, 180, 173, 42, 180, 0, 37, 27, 50, 58, 4, 25, 4, 199, 0, 7]
abbrev dktX0_at_0 : List UInt8 := dkwX0_at_0 ++ dktX0_at_1
theorem dksX0_at_0 : cX0_at.data.toList.drop 0 = dktX0_at_0 := by decide +kernel
theorem dksX0_at_1 : cX0_at.data.toList.drop 24 = dktX0_at_1 := dk_seg dksX0_at_0 24 rfl rfl
theorem dksX0_at_2 : cX0_at.data.toList.drop 48 = dktX0_at_2 := dk_seg dksX0_at_1 24 rfl rfl
theorem dksX0_at_3 : cX0_at.data.toList.drop 72 = dktX0_at_3 := dk_seg dksX0_at_2 24 rfl rfl
theorem dksX0_at_4 : cX0_at.data.toList.drop 96 = dktX0_at_4 := dk_seg dksX0_at_3 24 rfl rfl
theorem dX0_at_0 : decode cX0_at 0 = .ok (.iload_n 1, 1) := dk_27 (dk_at dksX0_at_0 0 rfl rfl)
theorem dX0_at_1 : decode cX0_at 1 = .ok (.invokestatic 447, 3) := dk_184 1 191 (dk_at dksX0_at_0 1 rfl rfl)
theorem dX0_at_4 : decode cX0_at 4 = .ok (.ifCond .ne 7, 3) := dk_154 0 7 (dk_at dksX0_at_0 4 rfl rfl)
theorem dX0_at_7 : decode cX0_at 7 = .ok (.ldc2_w 436, 3) := dk_20 1 180 (dk_at dksX0_at_0 7 rfl rfl)
theorem dX0_at_10 : decode cX0_at 10 = .ok (.lreturn, 1) := dk_173 (dk_at dksX0_at_0 10 rfl rfl)
theorem dX0_at_11 : decode cX0_at 11 = .ok (.aload_n 0, 1) := dk_42 (dk_at dksX0_at_0 11 rfl rfl)
theorem dX0_at_12 : decode cX0_at 12 = .ok (.getfield 37, 3) := dk_180 0 37 (dk_at dksX0_at_0 12 rfl rfl)
theorem dX0_at_15 : decode cX0_at 15 = .ok (.iload_n 1, 1) := dk_27 (dk_at dksX0_at_0 15 rfl rfl)
theorem dX0_at_16 : decode cX0_at 16 = .ok (.aaload, 1) := dk_50 (dk_at dksX0_at_0 16 rfl rfl)
theorem dX0_at_17 : decode cX0_at 17 = .ok (.astore 4, 2) := dk_58 4 (dk_at dksX0_at_0 17 rfl rfl)
theorem dX0_at_19 : decode cX0_at 19 = .ok (.aload 4, 2) := dk_25 4 (dk_at dksX0_at_0 19 rfl rfl)
theorem dX0_at_21 : decode cX0_at 21 = .ok (.ifnonnull 7, 3) := dk_199 0 7 (dk_at dksX0_at_0 21 rfl rfl)
theorem dX0_at_24 : decode cX0_at 24 = .ok (.ldc2_w 438, 3) := dk_20 1 182 (dk_at dksX0_at_1 0 rfl rfl)
theorem dX0_at_27 : decode cX0_at 27 = .ok (.lreturn, 1) := dk_173 (dk_at dksX0_at_1 3 rfl rfl)
theorem dX0_at_28 : decode cX0_at 28 = .ok (.aload_n 0, 1) := dk_42 (dk_at dksX0_at_1 4 rfl rfl)
theorem dX0_at_29 : decode cX0_at 29 = .ok (.aload 4, 2) := dk_25 4 (dk_at dksX0_at_1 5 rfl rfl)
theorem dX0_at_31 : decode cX0_at 31 = .ok (.iload_n 2, 1) := dk_28 (dk_at dksX0_at_1 7 rfl rfl)
theorem dX0_at_32 : decode cX0_at 32 = .ok (.iload_n 3, 1) := dk_29 (dk_at dksX0_at_1 8 rfl rfl)
theorem dX0_at_33 : decode cX0_at 33 = .ok (.invokevirtual 489, 3) := dk_182 1 233 (dk_at dksX0_at_1 9 rfl rfl)
theorem dX0_at_36 : decode cX0_at 36 = .ok (.ifCond .ne 7, 3) := dk_154 0 7 (dk_at dksX0_at_1 12 rfl rfl)
theorem dX0_at_39 : decode cX0_at 39 = .ok (.ldc2_w 436, 3) := dk_20 1 180 (dk_at dksX0_at_1 15 rfl rfl)
theorem dX0_at_42 : decode cX0_at 42 = .ok (.lreturn, 1) := dk_173 (dk_at dksX0_at_1 18 rfl rfl)
theorem dX0_at_43 : decode cX0_at 43 = .ok (.aload_n 0, 1) := dk_42 (dk_at dksX0_at_1 19 rfl rfl)
theorem dX0_at_44 : decode cX0_at 44 = .ok (.aconst_null, 1) := dk_1 (dk_at dksX0_at_1 20 rfl rfl)
theorem dX0_at_45 : decode cX0_at 45 = .ok (.putfield 167, 3) := dk_181 0 167 (dk_at dksX0_at_1 21 rfl rfl)
theorem dX0_at_48 : decode cX0_at 48 = .ok (.aload_n 0, 1) := dk_42 (dk_at dksX0_at_2 0 rfl rfl)
theorem dX0_at_49 : decode cX0_at 49 = .ok (.aload 4, 2) := dk_25 4 (dk_at dksX0_at_2 1 rfl rfl)
theorem dX0_at_51 : decode cX0_at 51 = .ok (.iload_n 2, 1) := dk_28 (dk_at dksX0_at_2 3 rfl rfl)
theorem dX0_at_52 : decode cX0_at 52 = .ok (.iload_n 3, 1) := dk_29 (dk_at dksX0_at_2 4 rfl rfl)
theorem dX0_at_53 : decode cX0_at 53 = .ok (.invokevirtual 287, 3) := dk_182 1 31 (dk_at dksX0_at_2 5 rfl rfl)
theorem dX0_at_56 : decode cX0_at 56 = .ok (.aload 4, 2) := dk_25 4 (dk_at dksX0_at_2 8 rfl rfl)
theorem dX0_at_58 : decode cX0_at 58 = .ok (.invokevirtual 266, 3) := dk_182 1 10 (dk_at dksX0_at_2 10 rfl rfl)
theorem dX0_at_61 : decode cX0_at 61 = .ok (.iload_n 2, 1) := dk_28 (dk_at dksX0_at_2 13 rfl rfl)
theorem dX0_at_62 : decode cX0_at 62 = .ok (.imul, 1) := dk_104 (dk_at dksX0_at_2 14 rfl rfl)
theorem dX0_at_63 : decode cX0_at 63 = .ok (.iload_n 3, 1) := dk_29 (dk_at dksX0_at_2 15 rfl rfl)
theorem dX0_at_64 : decode cX0_at 64 = .ok (.iadd, 1) := dk_96 (dk_at dksX0_at_2 16 rfl rfl)
theorem dX0_at_65 : decode cX0_at 65 = .ok (.istore 5, 2) := dk_54 5 (dk_at dksX0_at_2 17 rfl rfl)
theorem dX0_at_67 : decode cX0_at 67 = .ok (.aload_n 0, 1) := dk_42 (dk_at dksX0_at_2 19 rfl rfl)
theorem dX0_at_68 : decode cX0_at 68 = .ok (.getfield 47, 3) := dk_180 0 47 (dk_at dksX0_at_2 20 rfl rfl)
theorem dX0_at_71 : decode cX0_at 71 = .ok (.iload_n 1, 1) := dk_27 (dk_at dksX0_at_2 23 rfl rfl)
theorem dX0_at_72 : decode cX0_at 72 = .ok (.aaload, 1) := dk_50 (dk_at dksX0_at_3 0 rfl rfl)
theorem dX0_at_73 : decode cX0_at 73 = .ok (.getfield 157, 3) := dk_180 0 157 (dk_at dksX0_at_3 1 rfl rfl)
theorem dX0_at_76 : decode cX0_at 76 = .ok (.iload 5, 2) := dk_21 5 (dk_at dksX0_at_3 4 rfl rfl)
theorem dX0_at_78 : decode cX0_at 78 = .ok (.baload, 1) := dk_51 (dk_at dksX0_at_3 6 rfl rfl)
theorem dX0_at_79 : decode cX0_at 79 = .ok (.ifCond .eq 22, 3) := dk_153 0 22 (dk_at dksX0_at_3 7 rfl rfl)
theorem dX0_at_82 : decode cX0_at 82 = .ok (.bipush (-20), 2) := dk_16 236 (dk_at dksX0_at_3 10 rfl rfl)
theorem dX0_at_84 : decode cX0_at 84 = .ok (.aload_n 0, 1) := dk_42 (dk_at dksX0_at_3 12 rfl rfl)
theorem dX0_at_85 : decode cX0_at 85 = .ok (.getfield 47, 3) := dk_180 0 47 (dk_at dksX0_at_3 13 rfl rfl)
theorem dX0_at_88 : decode cX0_at 88 = .ok (.iload_n 1, 1) := dk_27 (dk_at dksX0_at_3 16 rfl rfl)
theorem dX0_at_89 : decode cX0_at 89 = .ok (.aaload, 1) := dk_50 (dk_at dksX0_at_3 17 rfl rfl)
theorem dX0_at_90 : decode cX0_at 90 = .ok (.getfield 157, 3) := dk_180 0 157 (dk_at dksX0_at_3 18 rfl rfl)
theorem dX0_at_93 : decode cX0_at 93 = .ok (.iload 5, 2) := dk_21 5 (dk_at dksX0_at_3 21 rfl rfl)
theorem dX0_at_95 : decode cX0_at 95 = .ok (.baload, 1) := dk_51 (dk_at dksX0_at_3 23 rfl rfl)
theorem dX0_at_96 : decode cX0_at 96 = .ok (.isub, 1) := dk_100 (dk_at dksX0_at_4 0 rfl rfl)
theorem dX0_at_97 : decode cX0_at 97 = .ok (.i2l, 1) := dk_133 (dk_at dksX0_at_4 1 rfl rfl)
theorem dX0_at_98 : decode cX0_at 98 = .ok (.goto 18, 3) := dk_167 0 18 (dk_at dksX0_at_4 2 rfl rfl)
theorem dX0_at_101 : decode cX0_at 101 = .ok (.aload_n 0, 1) := dk_42 (dk_at dksX0_at_4 5 rfl rfl)
theorem dX0_at_102 : decode cX0_at 102 = .ok (.getfield 47, 3) := dk_180 0 47 (dk_at dksX0_at_4 6 rfl rfl)
theorem dX0_at_105 : decode cX0_at 105 = .ok (.iload_n 1, 1) := dk_27 (dk_at dksX0_at_4 9 rfl rfl)
theorem dX0_at_106 : decode cX0_at 106 = .ok (.aaload, 1) := dk_50 (dk_at dksX0_at_4 10 rfl rfl)
theorem dX0_at_107 : decode cX0_at 107 = .ok (.getfield 160, 3) := dk_180 0 160 (dk_at dksX0_at_4 11 rfl rfl)
theorem dX0_at_110 : decode cX0_at 110 = .ok (.iload 5, 2) := dk_21 5 (dk_at dksX0_at_4 14 rfl rfl)
theorem dX0_at_112 : decode cX0_at 112 = .ok (.daload, 1) := dk_49 (dk_at dksX0_at_4 16 rfl rfl)
theorem dX0_at_113 : decode cX0_at 113 = .ok (.invokestatic 293, 3) := dk_184 1 37 (dk_at dksX0_at_4 17 rfl rfl)
theorem dX0_at_116 : decode cX0_at 116 = .ok (.lreturn, 1) := dk_173 (dk_at dksX0_at_4 20 rfl rfl)
abbrev cX0_isCase : ByteArray := prog_1_method_43_code
def yX0_isCase : MethodName := ⟨RX0, "isCase", "(LWhatIfSheet$Table;II)Z"⟩
def dkwX0_isCase_1 : List UInt8 := [182, 1, 10, 4, 100, 133, 184, 0, 132, 153, 0, 7, 4, 167, 0, 4, 3, 172]
abbrev dktX0_isCase_1 : List UInt8 := dkwX0_isCase_1 ++ []
def dkwX0_isCase_0 : List UInt8 := [28, 133, 9, 43, 180, 0, 171, 182, 1, 230, 4, 100, 133, 184, 0, 132, 153, 0, 23, 29, 133, 9, 43]
abbrev dktX0_isCase_0 : List UInt8 := dkwX0_isCase_0 ++ dktX0_isCase_1
theorem dksX0_isCase_0 : cX0_isCase.data.toList.drop 0 = dktX0_isCase_0 := by decide +kernel
theorem dksX0_isCase_1 : cX0_isCase.data.toList.drop 23 = dktX0_isCase_1 := dk_seg dksX0_isCase_0 23 rfl rfl
theorem dX0_isCase_0 : decode cX0_isCase 0 = .ok (.iload_n 2, 1) := dk_28 (dk_at dksX0_isCase_0 0 rfl rfl)
theorem dX0_isCase_1 : decode cX0_isCase 1 = .ok (.i2l, 1) := dk_133 (dk_at dksX0_isCase_0 1 rfl rfl)
theorem dX0_isCase_2 : decode cX0_isCase 2 = .ok (.lconst 0, 1) := dk_9 (dk_at dksX0_isCase_0 2 rfl rfl)
theorem dX0_isCase_3 : decode cX0_isCase 3 = .ok (.aload_n 1, 1) := dk_43 (dk_at dksX0_isCase_0 3 rfl rfl)
theorem dX0_isCase_4 : decode cX0_isCase 4 = .ok (.getfield 171, 3) := dk_180 0 171 (dk_at dksX0_isCase_0 4 rfl rfl)
theorem dX0_isCase_7 : decode cX0_isCase 7 = .ok (.invokevirtual 486, 3) := dk_182 1 230 (dk_at dksX0_isCase_0 7 rfl rfl)
theorem dX0_isCase_10 : decode cX0_isCase 10 = .ok (.iconst 1, 1) := dk_4 (dk_at dksX0_isCase_0 10 rfl rfl)
theorem dX0_isCase_11 : decode cX0_isCase 11 = .ok (.isub, 1) := dk_100 (dk_at dksX0_isCase_0 11 rfl rfl)
theorem dX0_isCase_12 : decode cX0_isCase 12 = .ok (.i2l, 1) := dk_133 (dk_at dksX0_isCase_0 12 rfl rfl)
theorem dX0_isCase_13 : decode cX0_isCase 13 = .ok (.invokestatic 132, 3) := dk_184 0 132 (dk_at dksX0_isCase_0 13 rfl rfl)
theorem dX0_isCase_16 : decode cX0_isCase 16 = .ok (.ifCond .eq 23, 3) := dk_153 0 23 (dk_at dksX0_isCase_0 16 rfl rfl)
theorem dX0_isCase_19 : decode cX0_isCase 19 = .ok (.iload_n 3, 1) := dk_29 (dk_at dksX0_isCase_0 19 rfl rfl)
theorem dX0_isCase_20 : decode cX0_isCase 20 = .ok (.i2l, 1) := dk_133 (dk_at dksX0_isCase_0 20 rfl rfl)
theorem dX0_isCase_21 : decode cX0_isCase 21 = .ok (.lconst 0, 1) := dk_9 (dk_at dksX0_isCase_0 21 rfl rfl)
theorem dX0_isCase_22 : decode cX0_isCase 22 = .ok (.aload_n 1, 1) := dk_43 (dk_at dksX0_isCase_0 22 rfl rfl)
theorem dX0_isCase_23 : decode cX0_isCase 23 = .ok (.invokevirtual 266, 3) := dk_182 1 10 (dk_at dksX0_isCase_1 0 rfl rfl)
theorem dX0_isCase_26 : decode cX0_isCase 26 = .ok (.iconst 1, 1) := dk_4 (dk_at dksX0_isCase_1 3 rfl rfl)
theorem dX0_isCase_27 : decode cX0_isCase 27 = .ok (.isub, 1) := dk_100 (dk_at dksX0_isCase_1 4 rfl rfl)
theorem dX0_isCase_28 : decode cX0_isCase 28 = .ok (.i2l, 1) := dk_133 (dk_at dksX0_isCase_1 5 rfl rfl)
theorem dX0_isCase_29 : decode cX0_isCase 29 = .ok (.invokestatic 132, 3) := dk_184 0 132 (dk_at dksX0_isCase_1 6 rfl rfl)
theorem dX0_isCase_32 : decode cX0_isCase 32 = .ok (.ifCond .eq 7, 3) := dk_153 0 7 (dk_at dksX0_isCase_1 9 rfl rfl)
theorem dX0_isCase_35 : decode cX0_isCase 35 = .ok (.iconst 1, 1) := dk_4 (dk_at dksX0_isCase_1 12 rfl rfl)
theorem dX0_isCase_36 : decode cX0_isCase 36 = .ok (.goto 4, 3) := dk_167 0 4 (dk_at dksX0_isCase_1 13 rfl rfl)
theorem dX0_isCase_39 : decode cX0_isCase 39 = .ok (.iconst 0, 1) := dk_3 (dk_at dksX0_isCase_1 16 rfl rfl)
theorem dX0_isCase_40 : decode cX0_isCase 40 = .ok (.ireturn, 1) := dk_172 (dk_at dksX0_isCase_1 17 rfl rfl)
abbrev cX0_blame : ByteArray := prog_1_method_45_code
def yX0_blame : MethodName := ⟨RX0, "blame", "(III)I"⟩
def dkwX0_blame_2 : List UInt8 := [182, 1, 31, 42, 180, 0, 47, 27, 50, 180, 1, 20, 25, 4, 182, 1, 10, 28, 104, 29, 96, 51, 172]
abbrev dktX0_blame_2 : List UInt8 := dkwX0_blame_2 ++ []
def dkwX0_blame_1 : List UInt8 := [16, 253, 172, 42, 25, 4, 28, 29, 182, 1, 233, 154, 0, 6, 16, 254, 172, 42, 25, 4, 28, 29]
abbrev dktX0_blame_1 : List UInt8 := dkwX0_blame_1 ++ dktX0_blame_2
def dkwX0_blame_0 : List UInt8 := [27, 184, 1, 191, 154, 0, 6, 16, 254, 172, 42, 180, 0, 37, 27, 50, 58, 4, 25, 4, 199, 0, 6]
abbrev dktX0_blame_0 : List UInt8 := dkwX0_blame_0 ++ dktX0_blame_1
theorem dksX0_blame_0 : cX0_blame.data.toList.drop 0 = dktX0_blame_0 := by decide +kernel
theorem dksX0_blame_1 : cX0_blame.data.toList.drop 23 = dktX0_blame_1 := dk_seg dksX0_blame_0 23 rfl rfl
theorem dksX0_blame_2 : cX0_blame.data.toList.drop 45 = dktX0_blame_2 := dk_seg dksX0_blame_1 22 rfl rfl
theorem dX0_blame_0 : decode cX0_blame 0 = .ok (.iload_n 1, 1) := dk_27 (dk_at dksX0_blame_0 0 rfl rfl)
theorem dX0_blame_1 : decode cX0_blame 1 = .ok (.invokestatic 447, 3) := dk_184 1 191 (dk_at dksX0_blame_0 1 rfl rfl)
theorem dX0_blame_4 : decode cX0_blame 4 = .ok (.ifCond .ne 6, 3) := dk_154 0 6 (dk_at dksX0_blame_0 4 rfl rfl)
theorem dX0_blame_7 : decode cX0_blame 7 = .ok (.bipush (-2), 2) := dk_16 254 (dk_at dksX0_blame_0 7 rfl rfl)
theorem dX0_blame_9 : decode cX0_blame 9 = .ok (.ireturn, 1) := dk_172 (dk_at dksX0_blame_0 9 rfl rfl)
theorem dX0_blame_10 : decode cX0_blame 10 = .ok (.aload_n 0, 1) := dk_42 (dk_at dksX0_blame_0 10 rfl rfl)
theorem dX0_blame_11 : decode cX0_blame 11 = .ok (.getfield 37, 3) := dk_180 0 37 (dk_at dksX0_blame_0 11 rfl rfl)
theorem dX0_blame_14 : decode cX0_blame 14 = .ok (.iload_n 1, 1) := dk_27 (dk_at dksX0_blame_0 14 rfl rfl)
theorem dX0_blame_15 : decode cX0_blame 15 = .ok (.aaload, 1) := dk_50 (dk_at dksX0_blame_0 15 rfl rfl)
theorem dX0_blame_16 : decode cX0_blame 16 = .ok (.astore 4, 2) := dk_58 4 (dk_at dksX0_blame_0 16 rfl rfl)
theorem dX0_blame_18 : decode cX0_blame 18 = .ok (.aload 4, 2) := dk_25 4 (dk_at dksX0_blame_0 18 rfl rfl)
theorem dX0_blame_20 : decode cX0_blame 20 = .ok (.ifnonnull 6, 3) := dk_199 0 6 (dk_at dksX0_blame_0 20 rfl rfl)
theorem dX0_blame_23 : decode cX0_blame 23 = .ok (.bipush (-3), 2) := dk_16 253 (dk_at dksX0_blame_1 0 rfl rfl)
theorem dX0_blame_25 : decode cX0_blame 25 = .ok (.ireturn, 1) := dk_172 (dk_at dksX0_blame_1 2 rfl rfl)
theorem dX0_blame_26 : decode cX0_blame 26 = .ok (.aload_n 0, 1) := dk_42 (dk_at dksX0_blame_1 3 rfl rfl)
theorem dX0_blame_27 : decode cX0_blame 27 = .ok (.aload 4, 2) := dk_25 4 (dk_at dksX0_blame_1 4 rfl rfl)
theorem dX0_blame_29 : decode cX0_blame 29 = .ok (.iload_n 2, 1) := dk_28 (dk_at dksX0_blame_1 6 rfl rfl)
theorem dX0_blame_30 : decode cX0_blame 30 = .ok (.iload_n 3, 1) := dk_29 (dk_at dksX0_blame_1 7 rfl rfl)
theorem dX0_blame_31 : decode cX0_blame 31 = .ok (.invokevirtual 489, 3) := dk_182 1 233 (dk_at dksX0_blame_1 8 rfl rfl)
theorem dX0_blame_34 : decode cX0_blame 34 = .ok (.ifCond .ne 6, 3) := dk_154 0 6 (dk_at dksX0_blame_1 11 rfl rfl)
theorem dX0_blame_37 : decode cX0_blame 37 = .ok (.bipush (-2), 2) := dk_16 254 (dk_at dksX0_blame_1 14 rfl rfl)
theorem dX0_blame_39 : decode cX0_blame 39 = .ok (.ireturn, 1) := dk_172 (dk_at dksX0_blame_1 16 rfl rfl)
theorem dX0_blame_40 : decode cX0_blame 40 = .ok (.aload_n 0, 1) := dk_42 (dk_at dksX0_blame_1 17 rfl rfl)
theorem dX0_blame_41 : decode cX0_blame 41 = .ok (.aload 4, 2) := dk_25 4 (dk_at dksX0_blame_1 18 rfl rfl)
theorem dX0_blame_43 : decode cX0_blame 43 = .ok (.iload_n 2, 1) := dk_28 (dk_at dksX0_blame_1 20 rfl rfl)
theorem dX0_blame_44 : decode cX0_blame 44 = .ok (.iload_n 3, 1) := dk_29 (dk_at dksX0_blame_1 21 rfl rfl)
theorem dX0_blame_45 : decode cX0_blame 45 = .ok (.invokevirtual 287, 3) := dk_182 1 31 (dk_at dksX0_blame_2 0 rfl rfl)
theorem dX0_blame_48 : decode cX0_blame 48 = .ok (.aload_n 0, 1) := dk_42 (dk_at dksX0_blame_2 3 rfl rfl)
theorem dX0_blame_49 : decode cX0_blame 49 = .ok (.getfield 47, 3) := dk_180 0 47 (dk_at dksX0_blame_2 4 rfl rfl)
theorem dX0_blame_52 : decode cX0_blame 52 = .ok (.iload_n 1, 1) := dk_27 (dk_at dksX0_blame_2 7 rfl rfl)
theorem dX0_blame_53 : decode cX0_blame 53 = .ok (.aaload, 1) := dk_50 (dk_at dksX0_blame_2 8 rfl rfl)
theorem dX0_blame_54 : decode cX0_blame 54 = .ok (.getfield 276, 3) := dk_180 1 20 (dk_at dksX0_blame_2 9 rfl rfl)
theorem dX0_blame_57 : decode cX0_blame 57 = .ok (.aload 4, 2) := dk_25 4 (dk_at dksX0_blame_2 12 rfl rfl)
theorem dX0_blame_59 : decode cX0_blame 59 = .ok (.invokevirtual 266, 3) := dk_182 1 10 (dk_at dksX0_blame_2 14 rfl rfl)
theorem dX0_blame_62 : decode cX0_blame 62 = .ok (.iload_n 2, 1) := dk_28 (dk_at dksX0_blame_2 17 rfl rfl)
theorem dX0_blame_63 : decode cX0_blame 63 = .ok (.imul, 1) := dk_104 (dk_at dksX0_blame_2 18 rfl rfl)
theorem dX0_blame_64 : decode cX0_blame 64 = .ok (.iload_n 3, 1) := dk_29 (dk_at dksX0_blame_2 19 rfl rfl)
theorem dX0_blame_65 : decode cX0_blame 65 = .ok (.iadd, 1) := dk_96 (dk_at dksX0_blame_2 20 rfl rfl)
theorem dX0_blame_66 : decode cX0_blame 66 = .ok (.baload, 1) := dk_51 (dk_at dksX0_blame_2 21 rfl rfl)
theorem dX0_blame_67 : decode cX0_blame 67 = .ok (.ireturn, 1) := dk_172 (dk_at dksX0_blame_2 22 rfl rfl)
abbrev cX0_adds : ByteArray := prog_1_method_47_code
def yX0_adds : MethodName := ⟨RX0, "adds", "(II)J"⟩
def dkwX0_adds_2 : List UInt8 := [182, 2, 4, 74, 28, 7, 160, 0, 8, 41, 143, 167, 0, 8, 42, 41, 182, 1, 177, 173]
abbrev dktX0_adds_2 : List UInt8 := dkwX0_adds_2 ++ []
def dkwX0_adds_1 : List UInt8 := [180, 0, 37, 27, 50, 199, 0, 7, 20, 1, 182, 173, 42, 3, 181, 0, 138, 42, 27, 28, 182, 2, 0]
abbrev dktX0_adds_1 : List UInt8 := dkwX0_adds_1 ++ dktX0_adds_2
def dkwX0_adds_0 : List UInt8 := [27, 184, 1, 191, 153, 0, 15, 28, 133, 9, 20, 1, 254, 184, 0, 132, 154, 0, 7, 20, 1, 180, 173, 42]
abbrev dktX0_adds_0 : List UInt8 := dkwX0_adds_0 ++ dktX0_adds_1
theorem dksX0_adds_0 : cX0_adds.data.toList.drop 0 = dktX0_adds_0 := by decide +kernel
theorem dksX0_adds_1 : cX0_adds.data.toList.drop 24 = dktX0_adds_1 := dk_seg dksX0_adds_0 24 rfl rfl
theorem dksX0_adds_2 : cX0_adds.data.toList.drop 47 = dktX0_adds_2 := dk_seg dksX0_adds_1 23 rfl rfl
theorem dX0_adds_0 : decode cX0_adds 0 = .ok (.iload_n 1, 1) := dk_27 (dk_at dksX0_adds_0 0 rfl rfl)
theorem dX0_adds_1 : decode cX0_adds 1 = .ok (.invokestatic 447, 3) := dk_184 1 191 (dk_at dksX0_adds_0 1 rfl rfl)
theorem dX0_adds_4 : decode cX0_adds 4 = .ok (.ifCond .eq 15, 3) := dk_153 0 15 (dk_at dksX0_adds_0 4 rfl rfl)
theorem dX0_adds_7 : decode cX0_adds 7 = .ok (.iload_n 2, 1) := dk_28 (dk_at dksX0_adds_0 7 rfl rfl)
theorem dX0_adds_8 : decode cX0_adds 8 = .ok (.i2l, 1) := dk_133 (dk_at dksX0_adds_0 8 rfl rfl)
theorem dX0_adds_9 : decode cX0_adds 9 = .ok (.lconst 0, 1) := dk_9 (dk_at dksX0_adds_0 9 rfl rfl)
theorem dX0_adds_10 : decode cX0_adds 10 = .ok (.ldc2_w 510, 3) := dk_20 1 254 (dk_at dksX0_adds_0 10 rfl rfl)
theorem dX0_adds_13 : decode cX0_adds 13 = .ok (.invokestatic 132, 3) := dk_184 0 132 (dk_at dksX0_adds_0 13 rfl rfl)
theorem dX0_adds_16 : decode cX0_adds 16 = .ok (.ifCond .ne 7, 3) := dk_154 0 7 (dk_at dksX0_adds_0 16 rfl rfl)
theorem dX0_adds_19 : decode cX0_adds 19 = .ok (.ldc2_w 436, 3) := dk_20 1 180 (dk_at dksX0_adds_0 19 rfl rfl)
theorem dX0_adds_22 : decode cX0_adds 22 = .ok (.lreturn, 1) := dk_173 (dk_at dksX0_adds_0 22 rfl rfl)
theorem dX0_adds_23 : decode cX0_adds 23 = .ok (.aload_n 0, 1) := dk_42 (dk_at dksX0_adds_0 23 rfl rfl)
theorem dX0_adds_24 : decode cX0_adds 24 = .ok (.getfield 37, 3) := dk_180 0 37 (dk_at dksX0_adds_1 0 rfl rfl)
theorem dX0_adds_27 : decode cX0_adds 27 = .ok (.iload_n 1, 1) := dk_27 (dk_at dksX0_adds_1 3 rfl rfl)
theorem dX0_adds_28 : decode cX0_adds 28 = .ok (.aaload, 1) := dk_50 (dk_at dksX0_adds_1 4 rfl rfl)
theorem dX0_adds_29 : decode cX0_adds 29 = .ok (.ifnonnull 7, 3) := dk_199 0 7 (dk_at dksX0_adds_1 5 rfl rfl)
theorem dX0_adds_32 : decode cX0_adds 32 = .ok (.ldc2_w 438, 3) := dk_20 1 182 (dk_at dksX0_adds_1 8 rfl rfl)
theorem dX0_adds_35 : decode cX0_adds 35 = .ok (.lreturn, 1) := dk_173 (dk_at dksX0_adds_1 11 rfl rfl)
theorem dX0_adds_36 : decode cX0_adds 36 = .ok (.aload_n 0, 1) := dk_42 (dk_at dksX0_adds_1 12 rfl rfl)
theorem dX0_adds_37 : decode cX0_adds 37 = .ok (.iconst 0, 1) := dk_3 (dk_at dksX0_adds_1 13 rfl rfl)
theorem dX0_adds_38 : decode cX0_adds 38 = .ok (.putfield 138, 3) := dk_181 0 138 (dk_at dksX0_adds_1 14 rfl rfl)
theorem dX0_adds_41 : decode cX0_adds 41 = .ok (.aload_n 0, 1) := dk_42 (dk_at dksX0_adds_1 17 rfl rfl)
theorem dX0_adds_42 : decode cX0_adds 42 = .ok (.iload_n 1, 1) := dk_27 (dk_at dksX0_adds_1 18 rfl rfl)
theorem dX0_adds_43 : decode cX0_adds 43 = .ok (.iload_n 2, 1) := dk_28 (dk_at dksX0_adds_1 19 rfl rfl)
theorem dX0_adds_44 : decode cX0_adds 44 = .ok (.invokevirtual 512, 3) := dk_182 2 0 (dk_at dksX0_adds_1 20 rfl rfl)
theorem dX0_adds_47 : decode cX0_adds 47 = .ok (.invokevirtual 516, 3) := dk_182 2 4 (dk_at dksX0_adds_2 0 rfl rfl)
theorem dX0_adds_50 : decode cX0_adds 50 = .ok (.dstore_n 3, 1) := dk_74 (dk_at dksX0_adds_2 3 rfl rfl)
theorem dX0_adds_51 : decode cX0_adds 51 = .ok (.iload_n 2, 1) := dk_28 (dk_at dksX0_adds_2 4 rfl rfl)
theorem dX0_adds_52 : decode cX0_adds 52 = .ok (.iconst 4, 1) := dk_7 (dk_at dksX0_adds_2 5 rfl rfl)
theorem dX0_adds_53 : decode cX0_adds 53 = .ok (.if_icmp .ne 8, 3) := dk_160 0 8 (dk_at dksX0_adds_2 6 rfl rfl)
theorem dX0_adds_56 : decode cX0_adds 56 = .ok (.dload_n 3, 1) := dk_41 (dk_at dksX0_adds_2 9 rfl rfl)
theorem dX0_adds_57 : decode cX0_adds 57 = .ok (.d2l, 1) := dk_143 (dk_at dksX0_adds_2 10 rfl rfl)
theorem dX0_adds_58 : decode cX0_adds 58 = .ok (.goto 8, 3) := dk_167 0 8 (dk_at dksX0_adds_2 11 rfl rfl)
theorem dX0_adds_61 : decode cX0_adds 61 = .ok (.aload_n 0, 1) := dk_42 (dk_at dksX0_adds_2 14 rfl rfl)
theorem dX0_adds_62 : decode cX0_adds 62 = .ok (.dload_n 3, 1) := dk_41 (dk_at dksX0_adds_2 15 rfl rfl)
theorem dX0_adds_63 : decode cX0_adds 63 = .ok (.invokevirtual 433, 3) := dk_182 1 177 (dk_at dksX0_adds_2 16 rfl rfl)
theorem dX0_adds_66 : decode cX0_adds 66 = .ok (.lreturn, 1) := dk_173 (dk_at dksX0_adds_2 19 rfl rfl)
abbrev cX0_how : ByteArray := prog_1_method_46_code
def yX0_how : MethodName := ⟨RX0, "how", "(II)LWhatIfSheet$Asked;"⟩
def dkwX0_how_4 : List UInt8 := [183, 1, 253, 176]
abbrev dktX0_how_4 : List UInt8 := dkwX0_how_4 ++ []
def dkwX0_how_3 : List UInt8 := [42, 27, 183, 1, 247, 176, 187, 1, 248, 89, 42, 27, 183, 1, 250, 176, 187, 1, 251, 89, 42, 27]
abbrev dktX0_how_3 : List UInt8 := dkwX0_how_3 ++ dktX0_how_4
def dkwX0_how_2 : List UInt8 := [187, 1, 237, 89, 42, 27, 183, 1, 239, 176, 187, 1, 242, 89, 42, 27, 183, 1, 244, 176, 187, 1, 245, 89]
abbrev dktX0_how_2 : List UInt8 := dkwX0_how_2 ++ dktX0_how_3
def dkwX0_how_1 : List UInt8 := [170, 0, 0, 0, 0, 0, 71, 0, 0, 0, 0, 0, 0, 0, 3, 0, 0, 0, 31, 0, 0, 0, 41, 0, 0, 0, 51, 0, 0, 0, 61]
abbrev dktX0_how_1 : List UInt8 := dkwX0_how_1 ++ dktX0_how_2
def dkwX0_how_0 : List UInt8 := [28]
abbrev dktX0_how_0 : List UInt8 := dkwX0_how_0 ++ dktX0_how_1
theorem dksX0_how_0 : cX0_how.data.toList.drop 0 = dktX0_how_0 := by decide +kernel
theorem dksX0_how_1 : cX0_how.data.toList.drop 1 = dktX0_how_1 := dk_seg dksX0_how_0 1 rfl rfl
theorem dksX0_how_2 : cX0_how.data.toList.drop 32 = dktX0_how_2 := dk_seg dksX0_how_1 31 rfl rfl
theorem dksX0_how_3 : cX0_how.data.toList.drop 56 = dktX0_how_3 := dk_seg dksX0_how_2 24 rfl rfl
theorem dksX0_how_4 : cX0_how.data.toList.drop 78 = dktX0_how_4 := dk_seg dksX0_how_3 22 rfl rfl
theorem dX0_how_0 : decode cX0_how 0 = .ok (.iload_n 2, 1) := dk_28 (dk_at dksX0_how_0 0 rfl rfl)
theorem dX0_how_1 : decode cX0_how 1 = .ok (.tableswitch 71 0 3 #[31, 41, 51, 61], 31) := by decide +kernel
theorem dX0_how_32 : decode cX0_how 32 = .ok (.new 493, 3) := dk_187 1 237 (dk_at dksX0_how_2 0 rfl rfl)
theorem dX0_how_35 : decode cX0_how 35 = .ok (.dup, 1) := dk_89 (dk_at dksX0_how_2 3 rfl rfl)
theorem dX0_how_36 : decode cX0_how 36 = .ok (.aload_n 0, 1) := dk_42 (dk_at dksX0_how_2 4 rfl rfl)
theorem dX0_how_37 : decode cX0_how 37 = .ok (.iload_n 1, 1) := dk_27 (dk_at dksX0_how_2 5 rfl rfl)
theorem dX0_how_38 : decode cX0_how 38 = .ok (.invokespecial 495, 3) := dk_183 1 239 (dk_at dksX0_how_2 6 rfl rfl)
theorem dX0_how_41 : decode cX0_how 41 = .ok (.areturn, 1) := dk_176 (dk_at dksX0_how_2 9 rfl rfl)
theorem dX0_how_42 : decode cX0_how 42 = .ok (.new 498, 3) := dk_187 1 242 (dk_at dksX0_how_2 10 rfl rfl)
theorem dX0_how_45 : decode cX0_how 45 = .ok (.dup, 1) := dk_89 (dk_at dksX0_how_2 13 rfl rfl)
theorem dX0_how_46 : decode cX0_how 46 = .ok (.aload_n 0, 1) := dk_42 (dk_at dksX0_how_2 14 rfl rfl)
theorem dX0_how_47 : decode cX0_how 47 = .ok (.iload_n 1, 1) := dk_27 (dk_at dksX0_how_2 15 rfl rfl)
theorem dX0_how_48 : decode cX0_how 48 = .ok (.invokespecial 500, 3) := dk_183 1 244 (dk_at dksX0_how_2 16 rfl rfl)
theorem dX0_how_51 : decode cX0_how 51 = .ok (.areturn, 1) := dk_176 (dk_at dksX0_how_2 19 rfl rfl)
theorem dX0_how_52 : decode cX0_how 52 = .ok (.new 501, 3) := dk_187 1 245 (dk_at dksX0_how_2 20 rfl rfl)
theorem dX0_how_55 : decode cX0_how 55 = .ok (.dup, 1) := dk_89 (dk_at dksX0_how_2 23 rfl rfl)
theorem dX0_how_56 : decode cX0_how 56 = .ok (.aload_n 0, 1) := dk_42 (dk_at dksX0_how_3 0 rfl rfl)
theorem dX0_how_57 : decode cX0_how 57 = .ok (.iload_n 1, 1) := dk_27 (dk_at dksX0_how_3 1 rfl rfl)
theorem dX0_how_58 : decode cX0_how 58 = .ok (.invokespecial 503, 3) := dk_183 1 247 (dk_at dksX0_how_3 2 rfl rfl)
theorem dX0_how_61 : decode cX0_how 61 = .ok (.areturn, 1) := dk_176 (dk_at dksX0_how_3 5 rfl rfl)
theorem dX0_how_62 : decode cX0_how 62 = .ok (.new 504, 3) := dk_187 1 248 (dk_at dksX0_how_3 6 rfl rfl)
theorem dX0_how_65 : decode cX0_how 65 = .ok (.dup, 1) := dk_89 (dk_at dksX0_how_3 9 rfl rfl)
theorem dX0_how_66 : decode cX0_how 66 = .ok (.aload_n 0, 1) := dk_42 (dk_at dksX0_how_3 10 rfl rfl)
theorem dX0_how_67 : decode cX0_how 67 = .ok (.iload_n 1, 1) := dk_27 (dk_at dksX0_how_3 11 rfl rfl)
theorem dX0_how_68 : decode cX0_how 68 = .ok (.invokespecial 506, 3) := dk_183 1 250 (dk_at dksX0_how_3 12 rfl rfl)
theorem dX0_how_71 : decode cX0_how 71 = .ok (.areturn, 1) := dk_176 (dk_at dksX0_how_3 15 rfl rfl)
theorem dX0_how_72 : decode cX0_how 72 = .ok (.new 507, 3) := dk_187 1 251 (dk_at dksX0_how_3 16 rfl rfl)
theorem dX0_how_75 : decode cX0_how 75 = .ok (.dup, 1) := dk_89 (dk_at dksX0_how_3 19 rfl rfl)
theorem dX0_how_76 : decode cX0_how 76 = .ok (.aload_n 0, 1) := dk_42 (dk_at dksX0_how_3 20 rfl rfl)
theorem dX0_how_77 : decode cX0_how 77 = .ok (.iload_n 1, 1) := dk_27 (dk_at dksX0_how_3 21 rfl rfl)
theorem dX0_how_78 : decode cX0_how 78 = .ok (.invokespecial 509, 3) := dk_183 1 253 (dk_at dksX0_how_4 0 rfl rfl)
theorem dX0_how_81 : decode cX0_how 81 = .ok (.areturn, 1) := dk_176 (dk_at dksX0_how_4 3 rfl rfl)
abbrev cX0_asks : ByteArray := prog_1_method_50_code
def yX0_asks : MethodName := ⟨RX0, "asks", "(II)I"⟩
def dkwX0_asks_9 : List UInt8 := [172]
abbrev dktX0_asks_9 : List UInt8 := dkwX0_asks_9 ++ []
def dkwX0_asks_8 : List UInt8 := [180, 0, 190, 182, 1, 230, 172, 42, 45, 180, 0, 171, 182, 2, 16, 172, 42, 45, 180, 0, 190, 182, 2, 16]
abbrev dktX0_asks_8 : List UInt8 := dkwX0_asks_8 ++ dktX0_asks_9
def dkwX0_asks_7 : List UInt8 := [27, 46, 172, 45, 180, 0, 171, 182, 1, 230, 172, 45, 180, 0, 190, 199, 0, 7, 3, 167, 0, 10, 45]
abbrev dktX0_asks_7 : List UInt8 := dkwX0_asks_7 ++ dktX0_asks_8
def dkwX0_asks_6 : List UInt8 := [45, 182, 2, 13, 172, 42, 3, 181, 0, 236, 42, 45, 182, 2, 5, 42, 180, 0, 236, 172, 42, 180, 0, 72]
abbrev dktX0_asks_6 : List UInt8 := dkwX0_asks_6 ++ dktX0_asks_7
def dkwX0_asks_5 : List UInt8 := [2, 167, 0, 21, 16, 10, 21, 5, 45, 182, 1, 10, 108, 104, 21, 5, 45, 182, 1, 10, 112, 96, 172, 42]
abbrev dktX0_asks_5 : List UInt8 := dkwX0_asks_5 ++ dktX0_asks_6
def dkwX0_asks_4 : List UInt8 := [183, 1, 250, 58, 4, 42, 45, 182, 2, 5, 25, 4, 45, 182, 2, 9, 54, 5, 21, 5, 2, 160, 0, 7]
abbrev dktX0_asks_4 : List UInt8 := dkwX0_asks_4 ++ dktX0_asks_5
def dkwX0_asks_3 : List UInt8 := [28, 154, 0, 15, 187, 1, 245, 89, 42, 27, 183, 1, 247, 167, 0, 12, 187, 1, 248, 89, 42, 27]
abbrev dktX0_asks_3 : List UInt8 := dkwX0_asks_3 ++ dktX0_asks_4
def dkwX0_asks_2 : List UInt8 := [170, 0, 0, 0, 0, 0, 180, 0, 0, 0, 0, 0, 0, 0, 7, 0, 0, 0, 47, 0, 0, 0, 47, 0, 0, 0, 116, 0, 0, 0, 122, 0, 0, 0, 137, 0, 0, 0, 144, 0, 0, 0, 152, 0, 0, 0, 171]
abbrev dktX0_asks_2 : List UInt8 := dkwX0_asks_2 ++ dktX0_asks_3
def dkwX0_asks_1 : List UInt8 := [180, 0, 37, 27, 50, 78, 45, 199, 0, 6, 16, 253, 172, 28]
abbrev dktX0_asks_1 : List UInt8 := dkwX0_asks_1 ++ dktX0_asks_2
def dkwX0_asks_0 : List UInt8 := [27, 184, 1, 191, 153, 0, 15, 28, 133, 9, 20, 1, 212, 184, 0, 132, 154, 0, 6, 16, 254, 172, 42]
abbrev dktX0_asks_0 : List UInt8 := dkwX0_asks_0 ++ dktX0_asks_1
theorem dksX0_asks_0 : cX0_asks.data.toList.drop 0 = dktX0_asks_0 := by decide +kernel
theorem dksX0_asks_1 : cX0_asks.data.toList.drop 23 = dktX0_asks_1 := dk_seg dksX0_asks_0 23 rfl rfl
theorem dksX0_asks_2 : cX0_asks.data.toList.drop 37 = dktX0_asks_2 := dk_seg dksX0_asks_1 14 rfl rfl
theorem dksX0_asks_3 : cX0_asks.data.toList.drop 84 = dktX0_asks_3 := dk_seg dksX0_asks_2 47 rfl rfl
theorem dksX0_asks_4 : cX0_asks.data.toList.drop 106 = dktX0_asks_4 := dk_seg dksX0_asks_3 22 rfl rfl
theorem dksX0_asks_5 : cX0_asks.data.toList.drop 130 = dktX0_asks_5 := dk_seg dksX0_asks_4 24 rfl rfl
theorem dksX0_asks_6 : cX0_asks.data.toList.drop 154 = dktX0_asks_6 := dk_seg dksX0_asks_5 24 rfl rfl
theorem dksX0_asks_7 : cX0_asks.data.toList.drop 178 = dktX0_asks_7 := dk_seg dksX0_asks_6 24 rfl rfl
theorem dksX0_asks_8 : cX0_asks.data.toList.drop 201 = dktX0_asks_8 := dk_seg dksX0_asks_7 23 rfl rfl
theorem dksX0_asks_9 : cX0_asks.data.toList.drop 225 = dktX0_asks_9 := dk_seg dksX0_asks_8 24 rfl rfl
theorem dX0_asks_0 : decode cX0_asks 0 = .ok (.iload_n 1, 1) := dk_27 (dk_at dksX0_asks_0 0 rfl rfl)
theorem dX0_asks_1 : decode cX0_asks 1 = .ok (.invokestatic 447, 3) := dk_184 1 191 (dk_at dksX0_asks_0 1 rfl rfl)
theorem dX0_asks_4 : decode cX0_asks 4 = .ok (.ifCond .eq 15, 3) := dk_153 0 15 (dk_at dksX0_asks_0 4 rfl rfl)
theorem dX0_asks_7 : decode cX0_asks 7 = .ok (.iload_n 2, 1) := dk_28 (dk_at dksX0_asks_0 7 rfl rfl)
theorem dX0_asks_8 : decode cX0_asks 8 = .ok (.i2l, 1) := dk_133 (dk_at dksX0_asks_0 8 rfl rfl)
theorem dX0_asks_9 : decode cX0_asks 9 = .ok (.lconst 0, 1) := dk_9 (dk_at dksX0_asks_0 9 rfl rfl)
theorem dX0_asks_10 : decode cX0_asks 10 = .ok (.ldc2_w 468, 3) := dk_20 1 212 (dk_at dksX0_asks_0 10 rfl rfl)
theorem dX0_asks_13 : decode cX0_asks 13 = .ok (.invokestatic 132, 3) := dk_184 0 132 (dk_at dksX0_asks_0 13 rfl rfl)
theorem dX0_asks_16 : decode cX0_asks 16 = .ok (.ifCond .ne 6, 3) := dk_154 0 6 (dk_at dksX0_asks_0 16 rfl rfl)
theorem dX0_asks_19 : decode cX0_asks 19 = .ok (.bipush (-2), 2) := dk_16 254 (dk_at dksX0_asks_0 19 rfl rfl)
theorem dX0_asks_21 : decode cX0_asks 21 = .ok (.ireturn, 1) := dk_172 (dk_at dksX0_asks_0 21 rfl rfl)
theorem dX0_asks_22 : decode cX0_asks 22 = .ok (.aload_n 0, 1) := dk_42 (dk_at dksX0_asks_0 22 rfl rfl)
theorem dX0_asks_23 : decode cX0_asks 23 = .ok (.getfield 37, 3) := dk_180 0 37 (dk_at dksX0_asks_1 0 rfl rfl)
theorem dX0_asks_26 : decode cX0_asks 26 = .ok (.iload_n 1, 1) := dk_27 (dk_at dksX0_asks_1 3 rfl rfl)
theorem dX0_asks_27 : decode cX0_asks 27 = .ok (.aaload, 1) := dk_50 (dk_at dksX0_asks_1 4 rfl rfl)
theorem dX0_asks_28 : decode cX0_asks 28 = .ok (.astore_n 3, 1) := dk_78 (dk_at dksX0_asks_1 5 rfl rfl)
theorem dX0_asks_29 : decode cX0_asks 29 = .ok (.aload_n 3, 1) := dk_45 (dk_at dksX0_asks_1 6 rfl rfl)
theorem dX0_asks_30 : decode cX0_asks 30 = .ok (.ifnonnull 6, 3) := dk_199 0 6 (dk_at dksX0_asks_1 7 rfl rfl)
theorem dX0_asks_33 : decode cX0_asks 33 = .ok (.bipush (-3), 2) := dk_16 253 (dk_at dksX0_asks_1 10 rfl rfl)
theorem dX0_asks_35 : decode cX0_asks 35 = .ok (.ireturn, 1) := dk_172 (dk_at dksX0_asks_1 12 rfl rfl)
theorem dX0_asks_36 : decode cX0_asks 36 = .ok (.iload_n 2, 1) := dk_28 (dk_at dksX0_asks_1 13 rfl rfl)
theorem dX0_asks_37 : decode cX0_asks 37 = .ok (.tableswitch 180 0 7 #[47, 47, 116, 122, 137, 144, 152, 171], 47) := by decide +kernel
theorem dX0_asks_84 : decode cX0_asks 84 = .ok (.iload_n 2, 1) := dk_28 (dk_at dksX0_asks_3 0 rfl rfl)
theorem dX0_asks_85 : decode cX0_asks 85 = .ok (.ifCond .ne 15, 3) := dk_154 0 15 (dk_at dksX0_asks_3 1 rfl rfl)
theorem dX0_asks_88 : decode cX0_asks 88 = .ok (.new 501, 3) := dk_187 1 245 (dk_at dksX0_asks_3 4 rfl rfl)
theorem dX0_asks_91 : decode cX0_asks 91 = .ok (.dup, 1) := dk_89 (dk_at dksX0_asks_3 7 rfl rfl)
theorem dX0_asks_92 : decode cX0_asks 92 = .ok (.aload_n 0, 1) := dk_42 (dk_at dksX0_asks_3 8 rfl rfl)
theorem dX0_asks_93 : decode cX0_asks 93 = .ok (.iload_n 1, 1) := dk_27 (dk_at dksX0_asks_3 9 rfl rfl)
theorem dX0_asks_94 : decode cX0_asks 94 = .ok (.invokespecial 503, 3) := dk_183 1 247 (dk_at dksX0_asks_3 10 rfl rfl)
theorem dX0_asks_97 : decode cX0_asks 97 = .ok (.goto 12, 3) := dk_167 0 12 (dk_at dksX0_asks_3 13 rfl rfl)
theorem dX0_asks_100 : decode cX0_asks 100 = .ok (.new 504, 3) := dk_187 1 248 (dk_at dksX0_asks_3 16 rfl rfl)
theorem dX0_asks_103 : decode cX0_asks 103 = .ok (.dup, 1) := dk_89 (dk_at dksX0_asks_3 19 rfl rfl)
theorem dX0_asks_104 : decode cX0_asks 104 = .ok (.aload_n 0, 1) := dk_42 (dk_at dksX0_asks_3 20 rfl rfl)
theorem dX0_asks_105 : decode cX0_asks 105 = .ok (.iload_n 1, 1) := dk_27 (dk_at dksX0_asks_3 21 rfl rfl)
theorem dX0_asks_106 : decode cX0_asks 106 = .ok (.invokespecial 506, 3) := dk_183 1 250 (dk_at dksX0_asks_4 0 rfl rfl)
theorem dX0_asks_109 : decode cX0_asks 109 = .ok (.astore 4, 2) := dk_58 4 (dk_at dksX0_asks_4 3 rfl rfl)
theorem dX0_asks_111 : decode cX0_asks 111 = .ok (.aload_n 0, 1) := dk_42 (dk_at dksX0_asks_4 5 rfl rfl)
theorem dX0_asks_112 : decode cX0_asks 112 = .ok (.aload_n 3, 1) := dk_45 (dk_at dksX0_asks_4 6 rfl rfl)
theorem dX0_asks_113 : decode cX0_asks 113 = .ok (.invokevirtual 517, 3) := dk_182 2 5 (dk_at dksX0_asks_4 7 rfl rfl)
theorem dX0_asks_116 : decode cX0_asks 116 = .ok (.aload 4, 2) := dk_25 4 (dk_at dksX0_asks_4 10 rfl rfl)
theorem dX0_asks_118 : decode cX0_asks 118 = .ok (.aload_n 3, 1) := dk_45 (dk_at dksX0_asks_4 12 rfl rfl)
theorem dX0_asks_119 : decode cX0_asks 119 = .ok (.invokevirtual 521, 3) := dk_182 2 9 (dk_at dksX0_asks_4 13 rfl rfl)
theorem dX0_asks_122 : decode cX0_asks 122 = .ok (.istore 5, 2) := dk_54 5 (dk_at dksX0_asks_4 16 rfl rfl)
theorem dX0_asks_124 : decode cX0_asks 124 = .ok (.iload 5, 2) := dk_21 5 (dk_at dksX0_asks_4 18 rfl rfl)
theorem dX0_asks_126 : decode cX0_asks 126 = .ok (.iconst (-1), 1) := dk_2 (dk_at dksX0_asks_4 20 rfl rfl)
theorem dX0_asks_127 : decode cX0_asks 127 = .ok (.if_icmp .ne 7, 3) := dk_160 0 7 (dk_at dksX0_asks_4 21 rfl rfl)
theorem dX0_asks_130 : decode cX0_asks 130 = .ok (.iconst (-1), 1) := dk_2 (dk_at dksX0_asks_5 0 rfl rfl)
theorem dX0_asks_131 : decode cX0_asks 131 = .ok (.goto 21, 3) := dk_167 0 21 (dk_at dksX0_asks_5 1 rfl rfl)
theorem dX0_asks_134 : decode cX0_asks 134 = .ok (.bipush 10, 2) := dk_16 10 (dk_at dksX0_asks_5 4 rfl rfl)
theorem dX0_asks_136 : decode cX0_asks 136 = .ok (.iload 5, 2) := dk_21 5 (dk_at dksX0_asks_5 6 rfl rfl)
theorem dX0_asks_138 : decode cX0_asks 138 = .ok (.aload_n 3, 1) := dk_45 (dk_at dksX0_asks_5 8 rfl rfl)
theorem dX0_asks_139 : decode cX0_asks 139 = .ok (.invokevirtual 266, 3) := dk_182 1 10 (dk_at dksX0_asks_5 9 rfl rfl)
theorem dX0_asks_142 : decode cX0_asks 142 = .ok (.idiv, 1) := dk_108 (dk_at dksX0_asks_5 12 rfl rfl)
theorem dX0_asks_143 : decode cX0_asks 143 = .ok (.imul, 1) := dk_104 (dk_at dksX0_asks_5 13 rfl rfl)
theorem dX0_asks_144 : decode cX0_asks 144 = .ok (.iload 5, 2) := dk_21 5 (dk_at dksX0_asks_5 14 rfl rfl)
theorem dX0_asks_146 : decode cX0_asks 146 = .ok (.aload_n 3, 1) := dk_45 (dk_at dksX0_asks_5 16 rfl rfl)
theorem dX0_asks_147 : decode cX0_asks 147 = .ok (.invokevirtual 266, 3) := dk_182 1 10 (dk_at dksX0_asks_5 17 rfl rfl)
theorem dX0_asks_150 : decode cX0_asks 150 = .ok (.irem, 1) := dk_112 (dk_at dksX0_asks_5 20 rfl rfl)
theorem dX0_asks_151 : decode cX0_asks 151 = .ok (.iadd, 1) := dk_96 (dk_at dksX0_asks_5 21 rfl rfl)
theorem dX0_asks_152 : decode cX0_asks 152 = .ok (.ireturn, 1) := dk_172 (dk_at dksX0_asks_5 22 rfl rfl)
theorem dX0_asks_153 : decode cX0_asks 153 = .ok (.aload_n 0, 1) := dk_42 (dk_at dksX0_asks_5 23 rfl rfl)
theorem dX0_asks_154 : decode cX0_asks 154 = .ok (.aload_n 3, 1) := dk_45 (dk_at dksX0_asks_6 0 rfl rfl)
theorem dX0_asks_155 : decode cX0_asks 155 = .ok (.invokevirtual 525, 3) := dk_182 2 13 (dk_at dksX0_asks_6 1 rfl rfl)
theorem dX0_asks_158 : decode cX0_asks 158 = .ok (.ireturn, 1) := dk_172 (dk_at dksX0_asks_6 4 rfl rfl)
theorem dX0_asks_159 : decode cX0_asks 159 = .ok (.aload_n 0, 1) := dk_42 (dk_at dksX0_asks_6 5 rfl rfl)
theorem dX0_asks_160 : decode cX0_asks 160 = .ok (.iconst 0, 1) := dk_3 (dk_at dksX0_asks_6 6 rfl rfl)
theorem dX0_asks_161 : decode cX0_asks 161 = .ok (.putfield 236, 3) := dk_181 0 236 (dk_at dksX0_asks_6 7 rfl rfl)
theorem dX0_asks_164 : decode cX0_asks 164 = .ok (.aload_n 0, 1) := dk_42 (dk_at dksX0_asks_6 10 rfl rfl)
theorem dX0_asks_165 : decode cX0_asks 165 = .ok (.aload_n 3, 1) := dk_45 (dk_at dksX0_asks_6 11 rfl rfl)
theorem dX0_asks_166 : decode cX0_asks 166 = .ok (.invokevirtual 517, 3) := dk_182 2 5 (dk_at dksX0_asks_6 12 rfl rfl)
theorem dX0_asks_169 : decode cX0_asks 169 = .ok (.aload_n 0, 1) := dk_42 (dk_at dksX0_asks_6 15 rfl rfl)
theorem dX0_asks_170 : decode cX0_asks 170 = .ok (.getfield 236, 3) := dk_180 0 236 (dk_at dksX0_asks_6 16 rfl rfl)
theorem dX0_asks_173 : decode cX0_asks 173 = .ok (.ireturn, 1) := dk_172 (dk_at dksX0_asks_6 19 rfl rfl)
theorem dX0_asks_174 : decode cX0_asks 174 = .ok (.aload_n 0, 1) := dk_42 (dk_at dksX0_asks_6 20 rfl rfl)
theorem dX0_asks_175 : decode cX0_asks 175 = .ok (.getfield 72, 3) := dk_180 0 72 (dk_at dksX0_asks_6 21 rfl rfl)
theorem dX0_asks_178 : decode cX0_asks 178 = .ok (.iload_n 1, 1) := dk_27 (dk_at dksX0_asks_7 0 rfl rfl)
theorem dX0_asks_179 : decode cX0_asks 179 = .ok (.iaload, 1) := dk_46 (dk_at dksX0_asks_7 1 rfl rfl)
theorem dX0_asks_180 : decode cX0_asks 180 = .ok (.ireturn, 1) := dk_172 (dk_at dksX0_asks_7 2 rfl rfl)
theorem dX0_asks_181 : decode cX0_asks 181 = .ok (.aload_n 3, 1) := dk_45 (dk_at dksX0_asks_7 3 rfl rfl)
theorem dX0_asks_182 : decode cX0_asks 182 = .ok (.getfield 171, 3) := dk_180 0 171 (dk_at dksX0_asks_7 4 rfl rfl)
theorem dX0_asks_185 : decode cX0_asks 185 = .ok (.invokevirtual 486, 3) := dk_182 1 230 (dk_at dksX0_asks_7 7 rfl rfl)
theorem dX0_asks_188 : decode cX0_asks 188 = .ok (.ireturn, 1) := dk_172 (dk_at dksX0_asks_7 10 rfl rfl)
theorem dX0_asks_189 : decode cX0_asks 189 = .ok (.aload_n 3, 1) := dk_45 (dk_at dksX0_asks_7 11 rfl rfl)
theorem dX0_asks_190 : decode cX0_asks 190 = .ok (.getfield 190, 3) := dk_180 0 190 (dk_at dksX0_asks_7 12 rfl rfl)
theorem dX0_asks_193 : decode cX0_asks 193 = .ok (.ifnonnull 7, 3) := dk_199 0 7 (dk_at dksX0_asks_7 15 rfl rfl)
theorem dX0_asks_196 : decode cX0_asks 196 = .ok (.iconst 0, 1) := dk_3 (dk_at dksX0_asks_7 18 rfl rfl)
theorem dX0_asks_197 : decode cX0_asks 197 = .ok (.goto 10, 3) := dk_167 0 10 (dk_at dksX0_asks_7 19 rfl rfl)
theorem dX0_asks_200 : decode cX0_asks 200 = .ok (.aload_n 3, 1) := dk_45 (dk_at dksX0_asks_7 22 rfl rfl)
theorem dX0_asks_201 : decode cX0_asks 201 = .ok (.getfield 190, 3) := dk_180 0 190 (dk_at dksX0_asks_8 0 rfl rfl)
theorem dX0_asks_204 : decode cX0_asks 204 = .ok (.invokevirtual 486, 3) := dk_182 1 230 (dk_at dksX0_asks_8 3 rfl rfl)
theorem dX0_asks_207 : decode cX0_asks 207 = .ok (.ireturn, 1) := dk_172 (dk_at dksX0_asks_8 6 rfl rfl)
theorem dX0_asks_208 : decode cX0_asks 208 = .ok (.aload_n 0, 1) := dk_42 (dk_at dksX0_asks_8 7 rfl rfl)
theorem dX0_asks_209 : decode cX0_asks 209 = .ok (.aload_n 3, 1) := dk_45 (dk_at dksX0_asks_8 8 rfl rfl)
theorem dX0_asks_210 : decode cX0_asks 210 = .ok (.getfield 171, 3) := dk_180 0 171 (dk_at dksX0_asks_8 9 rfl rfl)
theorem dX0_asks_213 : decode cX0_asks 213 = .ok (.invokevirtual 528, 3) := dk_182 2 16 (dk_at dksX0_asks_8 12 rfl rfl)
theorem dX0_asks_216 : decode cX0_asks 216 = .ok (.ireturn, 1) := dk_172 (dk_at dksX0_asks_8 15 rfl rfl)
theorem dX0_asks_217 : decode cX0_asks 217 = .ok (.aload_n 0, 1) := dk_42 (dk_at dksX0_asks_8 16 rfl rfl)
theorem dX0_asks_218 : decode cX0_asks 218 = .ok (.aload_n 3, 1) := dk_45 (dk_at dksX0_asks_8 17 rfl rfl)
theorem dX0_asks_219 : decode cX0_asks 219 = .ok (.getfield 190, 3) := dk_180 0 190 (dk_at dksX0_asks_8 18 rfl rfl)
theorem dX0_asks_222 : decode cX0_asks 222 = .ok (.invokevirtual 528, 3) := dk_182 2 16 (dk_at dksX0_asks_8 21 rfl rfl)
theorem dX0_asks_225 : decode cX0_asks 225 = .ok (.ireturn, 1) := dk_172 (dk_at dksX0_asks_9 0 rfl rfl)
abbrev cX0_slice : ByteArray := prog_1_method_49_code
def yX0_slice : MethodName := ⟨RX0, "slice", "(LWhatIfSheet$Table;)I"⟩
def dkwX0_slice_4 : List UInt8 := [28, 4, 21, 4, 120, 128, 61, 45, 21, 4, 4, 96, 182, 1, 90, 54, 4, 167, 255, 162, 28, 172]
abbrev dktX0_slice_4 : List UInt8 := dkwX0_slice_4 ++ []
def dkwX0_slice_3 : List UInt8 := [167, 0, 4, 3, 54, 5, 21, 5, 153, 0, 23, 42, 180, 0, 31, 21, 4, 50, 182, 0, 202, 154, 0, 10]
abbrev dktX0_slice_3 : List UInt8 := dkwX0_slice_3 ++ dktX0_slice_4
def dkwX0_slice_2 : List UInt8 := [198, 0, 27, 42, 180, 0, 62, 21, 4, 50, 43, 180, 0, 190, 180, 0, 175, 182, 0, 180, 153, 0, 7, 4]
abbrev dktX0_slice_2 : List UInt8 := dkwX0_slice_2 ++ dktX0_slice_3
def dkwX0_slice_1 : List UInt8 := [42, 180, 0, 62, 21, 4, 50, 43, 180, 0, 171, 180, 0, 175, 182, 0, 180, 154, 0, 30, 43, 180, 0, 190]
abbrev dktX0_slice_1 : List UInt8 := dkwX0_slice_1 ++ dktX0_slice_2
def dkwX0_slice_0 : List UInt8 := [3, 61, 42, 180, 0, 58, 43, 180, 1, 13, 50, 78, 45, 3, 182, 1, 90, 54, 4, 21, 4, 155, 0, 95]
abbrev dktX0_slice_0 : List UInt8 := dkwX0_slice_0 ++ dktX0_slice_1
theorem dksX0_slice_0 : cX0_slice.data.toList.drop 0 = dktX0_slice_0 := by decide +kernel
theorem dksX0_slice_1 : cX0_slice.data.toList.drop 24 = dktX0_slice_1 := dk_seg dksX0_slice_0 24 rfl rfl
theorem dksX0_slice_2 : cX0_slice.data.toList.drop 48 = dktX0_slice_2 := dk_seg dksX0_slice_1 24 rfl rfl
theorem dksX0_slice_3 : cX0_slice.data.toList.drop 72 = dktX0_slice_3 := dk_seg dksX0_slice_2 24 rfl rfl
theorem dksX0_slice_4 : cX0_slice.data.toList.drop 96 = dktX0_slice_4 := dk_seg dksX0_slice_3 24 rfl rfl
theorem dX0_slice_0 : decode cX0_slice 0 = .ok (.iconst 0, 1) := dk_3 (dk_at dksX0_slice_0 0 rfl rfl)
theorem dX0_slice_1 : decode cX0_slice 1 = .ok (.istore_n 2, 1) := dk_61 (dk_at dksX0_slice_0 1 rfl rfl)
theorem dX0_slice_2 : decode cX0_slice 2 = .ok (.aload_n 0, 1) := dk_42 (dk_at dksX0_slice_0 2 rfl rfl)
theorem dX0_slice_3 : decode cX0_slice 3 = .ok (.getfield 58, 3) := dk_180 0 58 (dk_at dksX0_slice_0 3 rfl rfl)
theorem dX0_slice_6 : decode cX0_slice 6 = .ok (.aload_n 1, 1) := dk_43 (dk_at dksX0_slice_0 6 rfl rfl)
theorem dX0_slice_7 : decode cX0_slice 7 = .ok (.getfield 269, 3) := dk_180 1 13 (dk_at dksX0_slice_0 7 rfl rfl)
theorem dX0_slice_10 : decode cX0_slice 10 = .ok (.aaload, 1) := dk_50 (dk_at dksX0_slice_0 10 rfl rfl)
theorem dX0_slice_11 : decode cX0_slice 11 = .ok (.astore_n 3, 1) := dk_78 (dk_at dksX0_slice_0 11 rfl rfl)
theorem dX0_slice_12 : decode cX0_slice 12 = .ok (.aload_n 3, 1) := dk_45 (dk_at dksX0_slice_0 12 rfl rfl)
theorem dX0_slice_13 : decode cX0_slice 13 = .ok (.iconst 0, 1) := dk_3 (dk_at dksX0_slice_0 13 rfl rfl)
theorem dX0_slice_14 : decode cX0_slice 14 = .ok (.invokevirtual 346, 3) := dk_182 1 90 (dk_at dksX0_slice_0 14 rfl rfl)
theorem dX0_slice_17 : decode cX0_slice 17 = .ok (.istore 4, 2) := dk_54 4 (dk_at dksX0_slice_0 17 rfl rfl)
theorem dX0_slice_19 : decode cX0_slice 19 = .ok (.iload 4, 2) := dk_21 4 (dk_at dksX0_slice_0 19 rfl rfl)
theorem dX0_slice_21 : decode cX0_slice 21 = .ok (.ifCond .lt 95, 3) := dk_155 0 95 (dk_at dksX0_slice_0 21 rfl rfl)
theorem dX0_slice_24 : decode cX0_slice 24 = .ok (.aload_n 0, 1) := dk_42 (dk_at dksX0_slice_1 0 rfl rfl)
theorem dX0_slice_25 : decode cX0_slice 25 = .ok (.getfield 62, 3) := dk_180 0 62 (dk_at dksX0_slice_1 1 rfl rfl)
theorem dX0_slice_28 : decode cX0_slice 28 = .ok (.iload 4, 2) := dk_21 4 (dk_at dksX0_slice_1 4 rfl rfl)
theorem dX0_slice_30 : decode cX0_slice 30 = .ok (.aaload, 1) := dk_50 (dk_at dksX0_slice_1 6 rfl rfl)
theorem dX0_slice_31 : decode cX0_slice 31 = .ok (.aload_n 1, 1) := dk_43 (dk_at dksX0_slice_1 7 rfl rfl)
theorem dX0_slice_32 : decode cX0_slice 32 = .ok (.getfield 171, 3) := dk_180 0 171 (dk_at dksX0_slice_1 8 rfl rfl)
theorem dX0_slice_35 : decode cX0_slice 35 = .ok (.getfield 175, 3) := dk_180 0 175 (dk_at dksX0_slice_1 11 rfl rfl)
theorem dX0_slice_38 : decode cX0_slice 38 = .ok (.invokevirtual 180, 3) := dk_182 0 180 (dk_at dksX0_slice_1 14 rfl rfl)
theorem dX0_slice_41 : decode cX0_slice 41 = .ok (.ifCond .ne 30, 3) := dk_154 0 30 (dk_at dksX0_slice_1 17 rfl rfl)
theorem dX0_slice_44 : decode cX0_slice 44 = .ok (.aload_n 1, 1) := dk_43 (dk_at dksX0_slice_1 20 rfl rfl)
theorem dX0_slice_45 : decode cX0_slice 45 = .ok (.getfield 190, 3) := dk_180 0 190 (dk_at dksX0_slice_1 21 rfl rfl)
theorem dX0_slice_48 : decode cX0_slice 48 = .ok (.ifnull 27, 3) := dk_198 0 27 (dk_at dksX0_slice_2 0 rfl rfl)
theorem dX0_slice_51 : decode cX0_slice 51 = .ok (.aload_n 0, 1) := dk_42 (dk_at dksX0_slice_2 3 rfl rfl)
theorem dX0_slice_52 : decode cX0_slice 52 = .ok (.getfield 62, 3) := dk_180 0 62 (dk_at dksX0_slice_2 4 rfl rfl)
theorem dX0_slice_55 : decode cX0_slice 55 = .ok (.iload 4, 2) := dk_21 4 (dk_at dksX0_slice_2 7 rfl rfl)
theorem dX0_slice_57 : decode cX0_slice 57 = .ok (.aaload, 1) := dk_50 (dk_at dksX0_slice_2 9 rfl rfl)
theorem dX0_slice_58 : decode cX0_slice 58 = .ok (.aload_n 1, 1) := dk_43 (dk_at dksX0_slice_2 10 rfl rfl)
theorem dX0_slice_59 : decode cX0_slice 59 = .ok (.getfield 190, 3) := dk_180 0 190 (dk_at dksX0_slice_2 11 rfl rfl)
theorem dX0_slice_62 : decode cX0_slice 62 = .ok (.getfield 175, 3) := dk_180 0 175 (dk_at dksX0_slice_2 14 rfl rfl)
theorem dX0_slice_65 : decode cX0_slice 65 = .ok (.invokevirtual 180, 3) := dk_182 0 180 (dk_at dksX0_slice_2 17 rfl rfl)
theorem dX0_slice_68 : decode cX0_slice 68 = .ok (.ifCond .eq 7, 3) := dk_153 0 7 (dk_at dksX0_slice_2 20 rfl rfl)
theorem dX0_slice_71 : decode cX0_slice 71 = .ok (.iconst 1, 1) := dk_4 (dk_at dksX0_slice_2 23 rfl rfl)
theorem dX0_slice_72 : decode cX0_slice 72 = .ok (.goto 4, 3) := dk_167 0 4 (dk_at dksX0_slice_3 0 rfl rfl)
theorem dX0_slice_75 : decode cX0_slice 75 = .ok (.iconst 0, 1) := dk_3 (dk_at dksX0_slice_3 3 rfl rfl)
theorem dX0_slice_76 : decode cX0_slice 76 = .ok (.istore 5, 2) := dk_54 5 (dk_at dksX0_slice_3 4 rfl rfl)
theorem dX0_slice_78 : decode cX0_slice 78 = .ok (.iload 5, 2) := dk_21 5 (dk_at dksX0_slice_3 6 rfl rfl)
theorem dX0_slice_80 : decode cX0_slice 80 = .ok (.ifCond .eq 23, 3) := dk_153 0 23 (dk_at dksX0_slice_3 8 rfl rfl)
theorem dX0_slice_83 : decode cX0_slice 83 = .ok (.aload_n 0, 1) := dk_42 (dk_at dksX0_slice_3 11 rfl rfl)
theorem dX0_slice_84 : decode cX0_slice 84 = .ok (.getfield 31, 3) := dk_180 0 31 (dk_at dksX0_slice_3 12 rfl rfl)
theorem dX0_slice_87 : decode cX0_slice 87 = .ok (.iload 4, 2) := dk_21 4 (dk_at dksX0_slice_3 15 rfl rfl)
theorem dX0_slice_89 : decode cX0_slice 89 = .ok (.aaload, 1) := dk_50 (dk_at dksX0_slice_3 17 rfl rfl)
theorem dX0_slice_90 : decode cX0_slice 90 = .ok (.invokevirtual 202, 3) := dk_182 0 202 (dk_at dksX0_slice_3 18 rfl rfl)
theorem dX0_slice_93 : decode cX0_slice 93 = .ok (.ifCond .ne 10, 3) := dk_154 0 10 (dk_at dksX0_slice_3 21 rfl rfl)
theorem dX0_slice_96 : decode cX0_slice 96 = .ok (.iload_n 2, 1) := dk_28 (dk_at dksX0_slice_4 0 rfl rfl)
theorem dX0_slice_97 : decode cX0_slice 97 = .ok (.iconst 1, 1) := dk_4 (dk_at dksX0_slice_4 1 rfl rfl)
theorem dX0_slice_98 : decode cX0_slice 98 = .ok (.iload 4, 2) := dk_21 4 (dk_at dksX0_slice_4 2 rfl rfl)
theorem dX0_slice_100 : decode cX0_slice 100 = .ok (.ishl, 1) := dk_120 (dk_at dksX0_slice_4 4 rfl rfl)
theorem dX0_slice_101 : decode cX0_slice 101 = .ok (.ior, 1) := dk_128 (dk_at dksX0_slice_4 5 rfl rfl)
theorem dX0_slice_102 : decode cX0_slice 102 = .ok (.istore_n 2, 1) := dk_61 (dk_at dksX0_slice_4 6 rfl rfl)
theorem dX0_slice_103 : decode cX0_slice 103 = .ok (.aload_n 3, 1) := dk_45 (dk_at dksX0_slice_4 7 rfl rfl)
theorem dX0_slice_104 : decode cX0_slice 104 = .ok (.iload 4, 2) := dk_21 4 (dk_at dksX0_slice_4 8 rfl rfl)
theorem dX0_slice_106 : decode cX0_slice 106 = .ok (.iconst 1, 1) := dk_4 (dk_at dksX0_slice_4 10 rfl rfl)
theorem dX0_slice_107 : decode cX0_slice 107 = .ok (.iadd, 1) := dk_96 (dk_at dksX0_slice_4 11 rfl rfl)
theorem dX0_slice_108 : decode cX0_slice 108 = .ok (.invokevirtual 346, 3) := dk_182 1 90 (dk_at dksX0_slice_4 12 rfl rfl)
theorem dX0_slice_111 : decode cX0_slice 111 = .ok (.istore 4, 2) := dk_54 4 (dk_at dksX0_slice_4 15 rfl rfl)
theorem dX0_slice_113 : decode cX0_slice 113 = .ok (.goto (-94), 3) := dk_167 255 162 (dk_at dksX0_slice_4 17 rfl rfl)
theorem dX0_slice_116 : decode cX0_slice 116 = .ok (.iload_n 2, 1) := dk_28 (dk_at dksX0_slice_4 20 rfl rfl)
theorem dX0_slice_117 : decode cX0_slice 117 = .ok (.ireturn, 1) := dk_172 (dk_at dksX0_slice_4 21 rfl rfl)
abbrev cX0_unlike : ByteArray := prog_1_method_48_code
def yX0_unlike : MethodName := ⟨RX0, "unlike", "(LWhatIfSheet$Axis;)I"⟩
def dkwX0_unlike_1 : List UInt8 := [180, 0, 98, 184, 1, 3, 172]
abbrev dktX0_unlike_1 : List UInt8 := dkwX0_unlike_1 ++ []
def dkwX0_unlike_0 : List UInt8 := [43, 199, 0, 7, 3, 167, 0, 24, 43, 42, 180, 0, 31, 43, 180, 0, 175, 50, 42, 180, 0, 94, 42]
abbrev dktX0_unlike_0 : List UInt8 := dkwX0_unlike_0 ++ dktX0_unlike_1
theorem dksX0_unlike_0 : cX0_unlike.data.toList.drop 0 = dktX0_unlike_0 := by decide +kernel
theorem dksX0_unlike_1 : cX0_unlike.data.toList.drop 23 = dktX0_unlike_1 := dk_seg dksX0_unlike_0 23 rfl rfl
theorem dX0_unlike_0 : decode cX0_unlike 0 = .ok (.aload_n 1, 1) := dk_43 (dk_at dksX0_unlike_0 0 rfl rfl)
theorem dX0_unlike_1 : decode cX0_unlike 1 = .ok (.ifnonnull 7, 3) := dk_199 0 7 (dk_at dksX0_unlike_0 1 rfl rfl)
theorem dX0_unlike_4 : decode cX0_unlike 4 = .ok (.iconst 0, 1) := dk_3 (dk_at dksX0_unlike_0 4 rfl rfl)
theorem dX0_unlike_5 : decode cX0_unlike 5 = .ok (.goto 24, 3) := dk_167 0 24 (dk_at dksX0_unlike_0 5 rfl rfl)
theorem dX0_unlike_8 : decode cX0_unlike 8 = .ok (.aload_n 1, 1) := dk_43 (dk_at dksX0_unlike_0 8 rfl rfl)
theorem dX0_unlike_9 : decode cX0_unlike 9 = .ok (.aload_n 0, 1) := dk_42 (dk_at dksX0_unlike_0 9 rfl rfl)
theorem dX0_unlike_10 : decode cX0_unlike 10 = .ok (.getfield 31, 3) := dk_180 0 31 (dk_at dksX0_unlike_0 10 rfl rfl)
theorem dX0_unlike_13 : decode cX0_unlike 13 = .ok (.aload_n 1, 1) := dk_43 (dk_at dksX0_unlike_0 13 rfl rfl)
theorem dX0_unlike_14 : decode cX0_unlike 14 = .ok (.getfield 175, 3) := dk_180 0 175 (dk_at dksX0_unlike_0 14 rfl rfl)
theorem dX0_unlike_17 : decode cX0_unlike 17 = .ok (.aaload, 1) := dk_50 (dk_at dksX0_unlike_0 17 rfl rfl)
theorem dX0_unlike_18 : decode cX0_unlike 18 = .ok (.aload_n 0, 1) := dk_42 (dk_at dksX0_unlike_0 18 rfl rfl)
theorem dX0_unlike_19 : decode cX0_unlike 19 = .ok (.getfield 94, 3) := dk_180 0 94 (dk_at dksX0_unlike_0 19 rfl rfl)
theorem dX0_unlike_22 : decode cX0_unlike 22 = .ok (.aload_n 0, 1) := dk_42 (dk_at dksX0_unlike_0 22 rfl rfl)
theorem dX0_unlike_23 : decode cX0_unlike 23 = .ok (.getfield 98, 3) := dk_180 0 98 (dk_at dksX0_unlike_1 0 rfl rfl)
theorem dX0_unlike_26 : decode cX0_unlike 26 = .ok (.invokestatic 259, 3) := dk_184 1 3 (dk_at dksX0_unlike_1 3 rfl rfl)
theorem dX0_unlike_29 : decode cX0_unlike 29 = .ok (.ireturn, 1) := dk_172 (dk_at dksX0_unlike_1 6 rfl rfl)
abbrev cX0_seek : ByteArray := prog_1_method_51_code
def yX0_seek : MethodName := ⟨RX0, "seek", "(IIIIII)J"⟩
def dkwX0_seek_8 : List UInt8 := [173]
abbrev dktX0_seek_8 : List UInt8 := dkwX0_seek_8 ++ []
def dkwX0_seek_7 : List UInt8 := [180, 2, 36, 57, 8, 24, 8, 24, 8, 151, 153, 0, 9, 20, 2, 39, 167, 0, 8, 24, 8, 184, 1, 37]
abbrev dktX0_seek_7 : List UInt8 := dkwX0_seek_7 ++ dktX0_seek_8
def dkwX0_seek_6 : List UInt8 := [25, 7, 180, 2, 30, 133, 173, 21, 6, 154, 0, 11, 25, 7, 180, 2, 33, 167, 0, 8, 25, 7]
abbrev dktX0_seek_6 : List UInt8 := dkwX0_seek_6 ++ dktX0_seek_7
def dkwX0_seek_5 : List UInt8 := [111, 21, 5, 135, 20, 1, 158, 111, 183, 2, 24, 58, 7, 25, 7, 182, 2, 27, 21, 6, 5, 160, 0, 10]
abbrev dktX0_seek_5 : List UInt8 := dkwX0_seek_5 ++ dktX0_seek_6
def dkwX0_seek_4 : List UInt8 := [187, 2, 22, 89, 42, 42, 180, 0, 31, 27, 50, 28, 29, 135, 20, 1, 158, 111, 21, 4, 135, 20, 1, 158]
abbrev dktX0_seek_4 : List UInt8 := dkwX0_seek_4 ++ dktX0_seek_5
def dkwX0_seek_3 : List UInt8 := [154, 0, 7, 20, 1, 180, 173, 42, 180, 0, 31, 27, 50, 182, 0, 202, 154, 0, 7, 20, 1, 182, 173]
abbrev dktX0_seek_3 : List UInt8 := dkwX0_seek_3 ++ dktX0_seek_4
def dkwX0_seek_2 : List UInt8 := [133, 20, 1, 204, 20, 1, 206, 184, 0, 132, 153, 0, 16, 21, 6, 133, 9, 20, 2, 20, 184, 0, 132]
abbrev dktX0_seek_2 : List UInt8 := dkwX0_seek_2 ++ dktX0_seek_3
def dkwX0_seek_1 : List UInt8 := [184, 0, 132, 153, 0, 47, 21, 4, 133, 29, 133, 10, 97, 20, 1, 206, 184, 0, 132, 153, 0, 31, 21, 5]
abbrev dktX0_seek_1 : List UInt8 := dkwX0_seek_1 ++ dktX0_seek_2
def dkwX0_seek_0 : List UInt8 := [27, 184, 1, 133, 153, 0, 68, 28, 184, 1, 133, 153, 0, 61, 29, 133, 20, 1, 204, 20, 1, 206]
abbrev dktX0_seek_0 : List UInt8 := dkwX0_seek_0 ++ dktX0_seek_1
theorem dksX0_seek_0 : cX0_seek.data.toList.drop 0 = dktX0_seek_0 := by decide +kernel
theorem dksX0_seek_1 : cX0_seek.data.toList.drop 22 = dktX0_seek_1 := dk_seg dksX0_seek_0 22 rfl rfl
theorem dksX0_seek_2 : cX0_seek.data.toList.drop 46 = dktX0_seek_2 := dk_seg dksX0_seek_1 24 rfl rfl
theorem dksX0_seek_3 : cX0_seek.data.toList.drop 69 = dktX0_seek_3 := dk_seg dksX0_seek_2 23 rfl rfl
theorem dksX0_seek_4 : cX0_seek.data.toList.drop 92 = dktX0_seek_4 := dk_seg dksX0_seek_3 23 rfl rfl
theorem dksX0_seek_5 : cX0_seek.data.toList.drop 116 = dktX0_seek_5 := dk_seg dksX0_seek_4 24 rfl rfl
theorem dksX0_seek_6 : cX0_seek.data.toList.drop 140 = dktX0_seek_6 := dk_seg dksX0_seek_5 24 rfl rfl
theorem dksX0_seek_7 : cX0_seek.data.toList.drop 162 = dktX0_seek_7 := dk_seg dksX0_seek_6 22 rfl rfl
theorem dksX0_seek_8 : cX0_seek.data.toList.drop 186 = dktX0_seek_8 := dk_seg dksX0_seek_7 24 rfl rfl
theorem dX0_seek_0 : decode cX0_seek 0 = .ok (.iload_n 1, 1) := dk_27 (dk_at dksX0_seek_0 0 rfl rfl)
theorem dX0_seek_1 : decode cX0_seek 1 = .ok (.invokestatic 389, 3) := dk_184 1 133 (dk_at dksX0_seek_0 1 rfl rfl)
theorem dX0_seek_4 : decode cX0_seek 4 = .ok (.ifCond .eq 68, 3) := dk_153 0 68 (dk_at dksX0_seek_0 4 rfl rfl)
theorem dX0_seek_7 : decode cX0_seek 7 = .ok (.iload_n 2, 1) := dk_28 (dk_at dksX0_seek_0 7 rfl rfl)
theorem dX0_seek_8 : decode cX0_seek 8 = .ok (.invokestatic 389, 3) := dk_184 1 133 (dk_at dksX0_seek_0 8 rfl rfl)
theorem dX0_seek_11 : decode cX0_seek 11 = .ok (.ifCond .eq 61, 3) := dk_153 0 61 (dk_at dksX0_seek_0 11 rfl rfl)
theorem dX0_seek_14 : decode cX0_seek 14 = .ok (.iload_n 3, 1) := dk_29 (dk_at dksX0_seek_0 14 rfl rfl)
theorem dX0_seek_15 : decode cX0_seek 15 = .ok (.i2l, 1) := dk_133 (dk_at dksX0_seek_0 15 rfl rfl)
theorem dX0_seek_16 : decode cX0_seek 16 = .ok (.ldc2_w 460, 3) := dk_20 1 204 (dk_at dksX0_seek_0 16 rfl rfl)
theorem dX0_seek_19 : decode cX0_seek 19 = .ok (.ldc2_w 462, 3) := dk_20 1 206 (dk_at dksX0_seek_0 19 rfl rfl)
theorem dX0_seek_22 : decode cX0_seek 22 = .ok (.invokestatic 132, 3) := dk_184 0 132 (dk_at dksX0_seek_1 0 rfl rfl)
theorem dX0_seek_25 : decode cX0_seek 25 = .ok (.ifCond .eq 47, 3) := dk_153 0 47 (dk_at dksX0_seek_1 3 rfl rfl)
theorem dX0_seek_28 : decode cX0_seek 28 = .ok (.iload 4, 2) := dk_21 4 (dk_at dksX0_seek_1 6 rfl rfl)
theorem dX0_seek_30 : decode cX0_seek 30 = .ok (.i2l, 1) := dk_133 (dk_at dksX0_seek_1 8 rfl rfl)
theorem dX0_seek_31 : decode cX0_seek 31 = .ok (.iload_n 3, 1) := dk_29 (dk_at dksX0_seek_1 9 rfl rfl)
theorem dX0_seek_32 : decode cX0_seek 32 = .ok (.i2l, 1) := dk_133 (dk_at dksX0_seek_1 10 rfl rfl)
theorem dX0_seek_33 : decode cX0_seek 33 = .ok (.lconst 1, 1) := dk_10 (dk_at dksX0_seek_1 11 rfl rfl)
theorem dX0_seek_34 : decode cX0_seek 34 = .ok (.ladd, 1) := dk_97 (dk_at dksX0_seek_1 12 rfl rfl)
theorem dX0_seek_35 : decode cX0_seek 35 = .ok (.ldc2_w 462, 3) := dk_20 1 206 (dk_at dksX0_seek_1 13 rfl rfl)
theorem dX0_seek_38 : decode cX0_seek 38 = .ok (.invokestatic 132, 3) := dk_184 0 132 (dk_at dksX0_seek_1 16 rfl rfl)
theorem dX0_seek_41 : decode cX0_seek 41 = .ok (.ifCond .eq 31, 3) := dk_153 0 31 (dk_at dksX0_seek_1 19 rfl rfl)
theorem dX0_seek_44 : decode cX0_seek 44 = .ok (.iload 5, 2) := dk_21 5 (dk_at dksX0_seek_1 22 rfl rfl)
theorem dX0_seek_46 : decode cX0_seek 46 = .ok (.i2l, 1) := dk_133 (dk_at dksX0_seek_2 0 rfl rfl)
theorem dX0_seek_47 : decode cX0_seek 47 = .ok (.ldc2_w 460, 3) := dk_20 1 204 (dk_at dksX0_seek_2 1 rfl rfl)
theorem dX0_seek_50 : decode cX0_seek 50 = .ok (.ldc2_w 462, 3) := dk_20 1 206 (dk_at dksX0_seek_2 4 rfl rfl)
theorem dX0_seek_53 : decode cX0_seek 53 = .ok (.invokestatic 132, 3) := dk_184 0 132 (dk_at dksX0_seek_2 7 rfl rfl)
theorem dX0_seek_56 : decode cX0_seek 56 = .ok (.ifCond .eq 16, 3) := dk_153 0 16 (dk_at dksX0_seek_2 10 rfl rfl)
theorem dX0_seek_59 : decode cX0_seek 59 = .ok (.iload 6, 2) := dk_21 6 (dk_at dksX0_seek_2 13 rfl rfl)
theorem dX0_seek_61 : decode cX0_seek 61 = .ok (.i2l, 1) := dk_133 (dk_at dksX0_seek_2 15 rfl rfl)
theorem dX0_seek_62 : decode cX0_seek 62 = .ok (.lconst 0, 1) := dk_9 (dk_at dksX0_seek_2 16 rfl rfl)
theorem dX0_seek_63 : decode cX0_seek 63 = .ok (.ldc2_w 532, 3) := dk_20 2 20 (dk_at dksX0_seek_2 17 rfl rfl)
theorem dX0_seek_66 : decode cX0_seek 66 = .ok (.invokestatic 132, 3) := dk_184 0 132 (dk_at dksX0_seek_2 20 rfl rfl)
theorem dX0_seek_69 : decode cX0_seek 69 = .ok (.ifCond .ne 7, 3) := dk_154 0 7 (dk_at dksX0_seek_3 0 rfl rfl)
theorem dX0_seek_72 : decode cX0_seek 72 = .ok (.ldc2_w 436, 3) := dk_20 1 180 (dk_at dksX0_seek_3 3 rfl rfl)
theorem dX0_seek_75 : decode cX0_seek 75 = .ok (.lreturn, 1) := dk_173 (dk_at dksX0_seek_3 6 rfl rfl)
theorem dX0_seek_76 : decode cX0_seek 76 = .ok (.aload_n 0, 1) := dk_42 (dk_at dksX0_seek_3 7 rfl rfl)
theorem dX0_seek_77 : decode cX0_seek 77 = .ok (.getfield 31, 3) := dk_180 0 31 (dk_at dksX0_seek_3 8 rfl rfl)
theorem dX0_seek_80 : decode cX0_seek 80 = .ok (.iload_n 1, 1) := dk_27 (dk_at dksX0_seek_3 11 rfl rfl)
theorem dX0_seek_81 : decode cX0_seek 81 = .ok (.aaload, 1) := dk_50 (dk_at dksX0_seek_3 12 rfl rfl)
theorem dX0_seek_82 : decode cX0_seek 82 = .ok (.invokevirtual 202, 3) := dk_182 0 202 (dk_at dksX0_seek_3 13 rfl rfl)
theorem dX0_seek_85 : decode cX0_seek 85 = .ok (.ifCond .ne 7, 3) := dk_154 0 7 (dk_at dksX0_seek_3 16 rfl rfl)
theorem dX0_seek_88 : decode cX0_seek 88 = .ok (.ldc2_w 438, 3) := dk_20 1 182 (dk_at dksX0_seek_3 19 rfl rfl)
theorem dX0_seek_91 : decode cX0_seek 91 = .ok (.lreturn, 1) := dk_173 (dk_at dksX0_seek_3 22 rfl rfl)
theorem dX0_seek_92 : decode cX0_seek 92 = .ok (.new 534, 3) := dk_187 2 22 (dk_at dksX0_seek_4 0 rfl rfl)
theorem dX0_seek_95 : decode cX0_seek 95 = .ok (.dup, 1) := dk_89 (dk_at dksX0_seek_4 3 rfl rfl)
theorem dX0_seek_96 : decode cX0_seek 96 = .ok (.aload_n 0, 1) := dk_42 (dk_at dksX0_seek_4 4 rfl rfl)
theorem dX0_seek_97 : decode cX0_seek 97 = .ok (.aload_n 0, 1) := dk_42 (dk_at dksX0_seek_4 5 rfl rfl)
theorem dX0_seek_98 : decode cX0_seek 98 = .ok (.getfield 31, 3) := dk_180 0 31 (dk_at dksX0_seek_4 6 rfl rfl)
theorem dX0_seek_101 : decode cX0_seek 101 = .ok (.iload_n 1, 1) := dk_27 (dk_at dksX0_seek_4 9 rfl rfl)
theorem dX0_seek_102 : decode cX0_seek 102 = .ok (.aaload, 1) := dk_50 (dk_at dksX0_seek_4 10 rfl rfl)
theorem dX0_seek_103 : decode cX0_seek 103 = .ok (.iload_n 2, 1) := dk_28 (dk_at dksX0_seek_4 11 rfl rfl)
theorem dX0_seek_104 : decode cX0_seek 104 = .ok (.iload_n 3, 1) := dk_29 (dk_at dksX0_seek_4 12 rfl rfl)
theorem dX0_seek_105 : decode cX0_seek 105 = .ok (.i2d, 1) := dk_135 (dk_at dksX0_seek_4 13 rfl rfl)
theorem dX0_seek_106 : decode cX0_seek 106 = .ok (.ldc2_w 414, 3) := dk_20 1 158 (dk_at dksX0_seek_4 14 rfl rfl)
theorem dX0_seek_109 : decode cX0_seek 109 = .ok (.ddiv, 1) := dk_111 (dk_at dksX0_seek_4 17 rfl rfl)
theorem dX0_seek_110 : decode cX0_seek 110 = .ok (.iload 4, 2) := dk_21 4 (dk_at dksX0_seek_4 18 rfl rfl)
theorem dX0_seek_112 : decode cX0_seek 112 = .ok (.i2d, 1) := dk_135 (dk_at dksX0_seek_4 20 rfl rfl)
theorem dX0_seek_113 : decode cX0_seek 113 = .ok (.ldc2_w 414, 3) := dk_20 1 158 (dk_at dksX0_seek_4 21 rfl rfl)
theorem dX0_seek_116 : decode cX0_seek 116 = .ok (.ddiv, 1) := dk_111 (dk_at dksX0_seek_5 0 rfl rfl)
theorem dX0_seek_117 : decode cX0_seek 117 = .ok (.iload 5, 2) := dk_21 5 (dk_at dksX0_seek_5 1 rfl rfl)
theorem dX0_seek_119 : decode cX0_seek 119 = .ok (.i2d, 1) := dk_135 (dk_at dksX0_seek_5 3 rfl rfl)
theorem dX0_seek_120 : decode cX0_seek 120 = .ok (.ldc2_w 414, 3) := dk_20 1 158 (dk_at dksX0_seek_5 4 rfl rfl)
theorem dX0_seek_123 : decode cX0_seek 123 = .ok (.ddiv, 1) := dk_111 (dk_at dksX0_seek_5 7 rfl rfl)
theorem dX0_seek_124 : decode cX0_seek 124 = .ok (.invokespecial 536, 3) := dk_183 2 24 (dk_at dksX0_seek_5 8 rfl rfl)
theorem dX0_seek_127 : decode cX0_seek 127 = .ok (.astore 7, 2) := dk_58 7 (dk_at dksX0_seek_5 11 rfl rfl)
theorem dX0_seek_129 : decode cX0_seek 129 = .ok (.aload 7, 2) := dk_25 7 (dk_at dksX0_seek_5 13 rfl rfl)
theorem dX0_seek_131 : decode cX0_seek 131 = .ok (.invokevirtual 539, 3) := dk_182 2 27 (dk_at dksX0_seek_5 15 rfl rfl)
theorem dX0_seek_134 : decode cX0_seek 134 = .ok (.iload 6, 2) := dk_21 6 (dk_at dksX0_seek_5 18 rfl rfl)
theorem dX0_seek_136 : decode cX0_seek 136 = .ok (.iconst 2, 1) := dk_5 (dk_at dksX0_seek_5 20 rfl rfl)
theorem dX0_seek_137 : decode cX0_seek 137 = .ok (.if_icmp .ne 10, 3) := dk_160 0 10 (dk_at dksX0_seek_5 21 rfl rfl)
theorem dX0_seek_140 : decode cX0_seek 140 = .ok (.aload 7, 2) := dk_25 7 (dk_at dksX0_seek_6 0 rfl rfl)
theorem dX0_seek_142 : decode cX0_seek 142 = .ok (.getfield 542, 3) := dk_180 2 30 (dk_at dksX0_seek_6 2 rfl rfl)
theorem dX0_seek_145 : decode cX0_seek 145 = .ok (.i2l, 1) := dk_133 (dk_at dksX0_seek_6 5 rfl rfl)
theorem dX0_seek_146 : decode cX0_seek 146 = .ok (.lreturn, 1) := dk_173 (dk_at dksX0_seek_6 6 rfl rfl)
theorem dX0_seek_147 : decode cX0_seek 147 = .ok (.iload 6, 2) := dk_21 6 (dk_at dksX0_seek_6 7 rfl rfl)
theorem dX0_seek_149 : decode cX0_seek 149 = .ok (.ifCond .ne 11, 3) := dk_154 0 11 (dk_at dksX0_seek_6 9 rfl rfl)
theorem dX0_seek_152 : decode cX0_seek 152 = .ok (.aload 7, 2) := dk_25 7 (dk_at dksX0_seek_6 12 rfl rfl)
theorem dX0_seek_154 : decode cX0_seek 154 = .ok (.getfield 545, 3) := dk_180 2 33 (dk_at dksX0_seek_6 14 rfl rfl)
theorem dX0_seek_157 : decode cX0_seek 157 = .ok (.goto 8, 3) := dk_167 0 8 (dk_at dksX0_seek_6 17 rfl rfl)
theorem dX0_seek_160 : decode cX0_seek 160 = .ok (.aload 7, 2) := dk_25 7 (dk_at dksX0_seek_6 20 rfl rfl)
theorem dX0_seek_162 : decode cX0_seek 162 = .ok (.getfield 548, 3) := dk_180 2 36 (dk_at dksX0_seek_7 0 rfl rfl)
theorem dX0_seek_165 : decode cX0_seek 165 = .ok (.dstore 8, 2) := dk_57 8 (dk_at dksX0_seek_7 3 rfl rfl)
theorem dX0_seek_167 : decode cX0_seek 167 = .ok (.dload 8, 2) := dk_24 8 (dk_at dksX0_seek_7 5 rfl rfl)
theorem dX0_seek_169 : decode cX0_seek 169 = .ok (.dload 8, 2) := dk_24 8 (dk_at dksX0_seek_7 7 rfl rfl)
theorem dX0_seek_171 : decode cX0_seek 171 = .ok (.dcmp .l, 1) := dk_151 (dk_at dksX0_seek_7 9 rfl rfl)
theorem dX0_seek_172 : decode cX0_seek 172 = .ok (.ifCond .eq 9, 3) := dk_153 0 9 (dk_at dksX0_seek_7 10 rfl rfl)
theorem dX0_seek_175 : decode cX0_seek 175 = .ok (.ldc2_w 551, 3) := dk_20 2 39 (dk_at dksX0_seek_7 13 rfl rfl)
theorem dX0_seek_178 : decode cX0_seek 178 = .ok (.goto 8, 3) := dk_167 0 8 (dk_at dksX0_seek_7 16 rfl rfl)
theorem dX0_seek_181 : decode cX0_seek 181 = .ok (.dload 8, 2) := dk_24 8 (dk_at dksX0_seek_7 19 rfl rfl)
theorem dX0_seek_183 : decode cX0_seek 183 = .ok (.invokestatic 293, 3) := dk_184 1 37 (dk_at dksX0_seek_7 21 rfl rfl)
theorem dX0_seek_186 : decode cX0_seek 186 = .ok (.lreturn, 1) := dk_173 (dk_at dksX0_seek_8 0 rfl rfl)
abbrev cX0_swing : ByteArray := prog_1_method_52_code
def yX0_swing : MethodName := ⟨RX0, "swing", "(III)J"⟩
def dkwX0_swing_12 : List UInt8 := [184, 1, 37, 173]
abbrev dktX0_swing_12 : List UInt8 := dkwX0_swing_12 ++ []
def dkwX0_swing_11 : List UInt8 := [54, 8, 167, 255, 50, 29, 153, 0, 9, 21, 5, 2, 160, 0, 9, 21, 5, 133, 167, 0, 8, 24, 6]
abbrev dktX0_swing_11 : List UInt8 := dkwX0_swing_11 ++ dktX0_swing_12
def dkwX0_swing_10 : List UInt8 := [167, 0, 15, 58, 18, 25, 9, 24, 10, 181, 0, 209, 25, 18, 191, 25, 4, 21, 8, 4, 96, 182, 1, 90]
abbrev dktX0_swing_10 : List UInt8 := dkwX0_swing_10 ++ dktX0_swing_11
def dkwX0_swing_9 : List UInt8 := [24, 10, 181, 0, 209, 167, 0, 33, 21, 8, 54, 5, 24, 16, 57, 6, 25, 9, 24, 10, 181, 0, 209]
abbrev dktX0_swing_9 : List UInt8 := dkwX0_swing_9 ++ dktX0_swing_10
def dkwX0_swing_8 : List UInt8 := [24, 12, 24, 14, 103, 57, 16, 21, 5, 2, 159, 0, 21, 24, 16, 24, 6, 152, 157, 0, 13, 25, 9]
abbrev dktX0_swing_8 : List UInt8 := dkwX0_swing_8 ++ dktX0_swing_9
def dkwX0_swing_7 : List UInt8 := [24, 10, 181, 0, 209, 167, 0, 80, 24, 12, 24, 14, 152, 156, 0, 11, 24, 14, 24, 12, 103, 167, 0, 8]
abbrev dktX0_swing_7 : List UInt8 := dkwX0_swing_7 ++ dktX0_swing_8
def dkwX0_swing_6 : List UInt8 := [111, 103, 182, 0, 253, 181, 0, 209, 42, 27, 182, 1, 174, 57, 14, 42, 180, 0, 138, 153, 0, 13, 25, 9]
abbrev dktX0_swing_6 : List UInt8 := dkwX0_swing_6 ++ dktX0_swing_7
def dkwX0_swing_5 : List UInt8 := [153, 0, 13, 25, 9, 24, 10, 181, 0, 209, 167, 0, 123, 25, 9, 25, 9, 24, 10, 28, 135, 20, 1, 158]
abbrev dktX0_swing_5 : List UInt8 := dkwX0_swing_5 ++ dktX0_swing_6
def dkwX0_swing_4 : List UInt8 := [20, 1, 158, 111, 99, 182, 0, 253, 181, 0, 209, 42, 27, 182, 1, 174, 57, 12, 42, 180, 0, 138]
abbrev dktX0_swing_4 : List UInt8 := dkwX0_swing_4 ++ dktX0_swing_5
def dkwX0_swing_3 : List UInt8 := [182, 0, 206, 153, 0, 6, 167, 0, 173, 25, 9, 180, 0, 209, 57, 10, 25, 9, 25, 9, 24, 10, 28, 135]
abbrev dktX0_swing_3 : List UInt8 := dkwX0_swing_3 ++ dktX0_swing_4
def dkwX0_swing_2 : List UInt8 := [25, 4, 3, 182, 1, 90, 54, 8, 21, 8, 155, 0, 207, 42, 180, 0, 31, 21, 8, 50, 58, 9, 25, 9]
abbrev dktX0_swing_2 : List UInt8 := dkwX0_swing_2 ++ dktX0_swing_3
def dkwX0_swing_1 : List UInt8 := [184, 0, 132, 154, 0, 7, 20, 1, 180, 173, 42, 180, 0, 62, 27, 50, 58, 4, 2, 54, 5, 14, 57, 6]
abbrev dktX0_swing_1 : List UInt8 := dkwX0_swing_1 ++ dktX0_swing_2
def dkwX0_swing_0 : List UInt8 := [27, 184, 1, 133, 153, 0, 25, 28, 133, 10, 20, 1, 206, 184, 0, 132, 153, 0, 13, 29, 133, 9, 10]
abbrev dktX0_swing_0 : List UInt8 := dkwX0_swing_0 ++ dktX0_swing_1
theorem dksX0_swing_0 : cX0_swing.data.toList.drop 0 = dktX0_swing_0 := by decide +kernel
theorem dksX0_swing_1 : cX0_swing.data.toList.drop 23 = dktX0_swing_1 := dk_seg dksX0_swing_0 23 rfl rfl
theorem dksX0_swing_2 : cX0_swing.data.toList.drop 47 = dktX0_swing_2 := dk_seg dksX0_swing_1 24 rfl rfl
theorem dksX0_swing_3 : cX0_swing.data.toList.drop 71 = dktX0_swing_3 := dk_seg dksX0_swing_2 24 rfl rfl
theorem dksX0_swing_4 : cX0_swing.data.toList.drop 95 = dktX0_swing_4 := dk_seg dksX0_swing_3 24 rfl rfl
theorem dksX0_swing_5 : cX0_swing.data.toList.drop 117 = dktX0_swing_5 := dk_seg dksX0_swing_4 22 rfl rfl
theorem dksX0_swing_6 : cX0_swing.data.toList.drop 141 = dktX0_swing_6 := dk_seg dksX0_swing_5 24 rfl rfl
theorem dksX0_swing_7 : cX0_swing.data.toList.drop 165 = dktX0_swing_7 := dk_seg dksX0_swing_6 24 rfl rfl
theorem dksX0_swing_8 : cX0_swing.data.toList.drop 189 = dktX0_swing_8 := dk_seg dksX0_swing_7 24 rfl rfl
theorem dksX0_swing_9 : cX0_swing.data.toList.drop 212 = dktX0_swing_9 := dk_seg dksX0_swing_8 23 rfl rfl
theorem dksX0_swing_10 : cX0_swing.data.toList.drop 235 = dktX0_swing_10 := dk_seg dksX0_swing_9 23 rfl rfl
theorem dksX0_swing_11 : cX0_swing.data.toList.drop 259 = dktX0_swing_11 := dk_seg dksX0_swing_10 24 rfl rfl
theorem dksX0_swing_12 : cX0_swing.data.toList.drop 282 = dktX0_swing_12 := dk_seg dksX0_swing_11 23 rfl rfl
theorem dX0_swing_0 : decode cX0_swing 0 = .ok (.iload_n 1, 1) := dk_27 (dk_at dksX0_swing_0 0 rfl rfl)
theorem dX0_swing_1 : decode cX0_swing 1 = .ok (.invokestatic 389, 3) := dk_184 1 133 (dk_at dksX0_swing_0 1 rfl rfl)
theorem dX0_swing_4 : decode cX0_swing 4 = .ok (.ifCond .eq 25, 3) := dk_153 0 25 (dk_at dksX0_swing_0 4 rfl rfl)
theorem dX0_swing_7 : decode cX0_swing 7 = .ok (.iload_n 2, 1) := dk_28 (dk_at dksX0_swing_0 7 rfl rfl)
theorem dX0_swing_8 : decode cX0_swing 8 = .ok (.i2l, 1) := dk_133 (dk_at dksX0_swing_0 8 rfl rfl)
theorem dX0_swing_9 : decode cX0_swing 9 = .ok (.lconst 1, 1) := dk_10 (dk_at dksX0_swing_0 9 rfl rfl)
theorem dX0_swing_10 : decode cX0_swing 10 = .ok (.ldc2_w 462, 3) := dk_20 1 206 (dk_at dksX0_swing_0 10 rfl rfl)
theorem dX0_swing_13 : decode cX0_swing 13 = .ok (.invokestatic 132, 3) := dk_184 0 132 (dk_at dksX0_swing_0 13 rfl rfl)
theorem dX0_swing_16 : decode cX0_swing 16 = .ok (.ifCond .eq 13, 3) := dk_153 0 13 (dk_at dksX0_swing_0 16 rfl rfl)
theorem dX0_swing_19 : decode cX0_swing 19 = .ok (.iload_n 3, 1) := dk_29 (dk_at dksX0_swing_0 19 rfl rfl)
theorem dX0_swing_20 : decode cX0_swing 20 = .ok (.i2l, 1) := dk_133 (dk_at dksX0_swing_0 20 rfl rfl)
theorem dX0_swing_21 : decode cX0_swing 21 = .ok (.lconst 0, 1) := dk_9 (dk_at dksX0_swing_0 21 rfl rfl)
theorem dX0_swing_22 : decode cX0_swing 22 = .ok (.lconst 1, 1) := dk_10 (dk_at dksX0_swing_0 22 rfl rfl)
theorem dX0_swing_23 : decode cX0_swing 23 = .ok (.invokestatic 132, 3) := dk_184 0 132 (dk_at dksX0_swing_1 0 rfl rfl)
theorem dX0_swing_26 : decode cX0_swing 26 = .ok (.ifCond .ne 7, 3) := dk_154 0 7 (dk_at dksX0_swing_1 3 rfl rfl)
theorem dX0_swing_29 : decode cX0_swing 29 = .ok (.ldc2_w 436, 3) := dk_20 1 180 (dk_at dksX0_swing_1 6 rfl rfl)
theorem dX0_swing_32 : decode cX0_swing 32 = .ok (.lreturn, 1) := dk_173 (dk_at dksX0_swing_1 9 rfl rfl)
theorem dX0_swing_33 : decode cX0_swing 33 = .ok (.aload_n 0, 1) := dk_42 (dk_at dksX0_swing_1 10 rfl rfl)
theorem dX0_swing_34 : decode cX0_swing 34 = .ok (.getfield 62, 3) := dk_180 0 62 (dk_at dksX0_swing_1 11 rfl rfl)
theorem dX0_swing_37 : decode cX0_swing 37 = .ok (.iload_n 1, 1) := dk_27 (dk_at dksX0_swing_1 14 rfl rfl)
theorem dX0_swing_38 : decode cX0_swing 38 = .ok (.aaload, 1) := dk_50 (dk_at dksX0_swing_1 15 rfl rfl)
theorem dX0_swing_39 : decode cX0_swing 39 = .ok (.astore 4, 2) := dk_58 4 (dk_at dksX0_swing_1 16 rfl rfl)
theorem dX0_swing_41 : decode cX0_swing 41 = .ok (.iconst (-1), 1) := dk_2 (dk_at dksX0_swing_1 18 rfl rfl)
theorem dX0_swing_42 : decode cX0_swing 42 = .ok (.istore 5, 2) := dk_54 5 (dk_at dksX0_swing_1 19 rfl rfl)
theorem dX0_swing_44 : decode cX0_swing 44 = .ok (.dconst 0, 1) := dk_14 (dk_at dksX0_swing_1 21 rfl rfl)
theorem dX0_swing_45 : decode cX0_swing 45 = .ok (.dstore 6, 2) := dk_57 6 (dk_at dksX0_swing_1 22 rfl rfl)
theorem dX0_swing_47 : decode cX0_swing 47 = .ok (.aload 4, 2) := dk_25 4 (dk_at dksX0_swing_2 0 rfl rfl)
theorem dX0_swing_49 : decode cX0_swing 49 = .ok (.iconst 0, 1) := dk_3 (dk_at dksX0_swing_2 2 rfl rfl)
theorem dX0_swing_50 : decode cX0_swing 50 = .ok (.invokevirtual 346, 3) := dk_182 1 90 (dk_at dksX0_swing_2 3 rfl rfl)
theorem dX0_swing_53 : decode cX0_swing 53 = .ok (.istore 8, 2) := dk_54 8 (dk_at dksX0_swing_2 6 rfl rfl)
theorem dX0_swing_55 : decode cX0_swing 55 = .ok (.iload 8, 2) := dk_21 8 (dk_at dksX0_swing_2 8 rfl rfl)
theorem dX0_swing_57 : decode cX0_swing 57 = .ok (.ifCond .lt 207, 3) := dk_155 0 207 (dk_at dksX0_swing_2 10 rfl rfl)
theorem dX0_swing_60 : decode cX0_swing 60 = .ok (.aload_n 0, 1) := dk_42 (dk_at dksX0_swing_2 13 rfl rfl)
theorem dX0_swing_61 : decode cX0_swing 61 = .ok (.getfield 31, 3) := dk_180 0 31 (dk_at dksX0_swing_2 14 rfl rfl)
theorem dX0_swing_64 : decode cX0_swing 64 = .ok (.iload 8, 2) := dk_21 8 (dk_at dksX0_swing_2 17 rfl rfl)
theorem dX0_swing_66 : decode cX0_swing 66 = .ok (.aaload, 1) := dk_50 (dk_at dksX0_swing_2 19 rfl rfl)
theorem dX0_swing_67 : decode cX0_swing 67 = .ok (.astore 9, 2) := dk_58 9 (dk_at dksX0_swing_2 20 rfl rfl)
theorem dX0_swing_69 : decode cX0_swing 69 = .ok (.aload 9, 2) := dk_25 9 (dk_at dksX0_swing_2 22 rfl rfl)
theorem dX0_swing_71 : decode cX0_swing 71 = .ok (.invokevirtual 206, 3) := dk_182 0 206 (dk_at dksX0_swing_3 0 rfl rfl)
theorem dX0_swing_74 : decode cX0_swing 74 = .ok (.ifCond .eq 6, 3) := dk_153 0 6 (dk_at dksX0_swing_3 3 rfl rfl)
theorem dX0_swing_77 : decode cX0_swing 77 = .ok (.goto 173, 3) := dk_167 0 173 (dk_at dksX0_swing_3 6 rfl rfl)
theorem dX0_swing_80 : decode cX0_swing 80 = .ok (.aload 9, 2) := dk_25 9 (dk_at dksX0_swing_3 9 rfl rfl)
theorem dX0_swing_82 : decode cX0_swing 82 = .ok (.getfield 209, 3) := dk_180 0 209 (dk_at dksX0_swing_3 11 rfl rfl)
theorem dX0_swing_85 : decode cX0_swing 85 = .ok (.dstore 10, 2) := dk_57 10 (dk_at dksX0_swing_3 14 rfl rfl)
theorem dX0_swing_87 : decode cX0_swing 87 = .ok (.aload 9, 2) := dk_25 9 (dk_at dksX0_swing_3 16 rfl rfl)
theorem dX0_swing_89 : decode cX0_swing 89 = .ok (.aload 9, 2) := dk_25 9 (dk_at dksX0_swing_3 18 rfl rfl)
theorem dX0_swing_91 : decode cX0_swing 91 = .ok (.dload 10, 2) := dk_24 10 (dk_at dksX0_swing_3 20 rfl rfl)
theorem dX0_swing_93 : decode cX0_swing 93 = .ok (.iload_n 2, 1) := dk_28 (dk_at dksX0_swing_3 22 rfl rfl)
theorem dX0_swing_94 : decode cX0_swing 94 = .ok (.i2d, 1) := dk_135 (dk_at dksX0_swing_3 23 rfl rfl)
theorem dX0_swing_95 : decode cX0_swing 95 = .ok (.ldc2_w 414, 3) := dk_20 1 158 (dk_at dksX0_swing_4 0 rfl rfl)
theorem dX0_swing_98 : decode cX0_swing 98 = .ok (.ddiv, 1) := dk_111 (dk_at dksX0_swing_4 3 rfl rfl)
theorem dX0_swing_99 : decode cX0_swing 99 = .ok (.dadd, 1) := dk_99 (dk_at dksX0_swing_4 4 rfl rfl)
theorem dX0_swing_100 : decode cX0_swing 100 = .ok (.invokevirtual 253, 3) := dk_182 0 253 (dk_at dksX0_swing_4 5 rfl rfl)
theorem dX0_swing_103 : decode cX0_swing 103 = .ok (.putfield 209, 3) := dk_181 0 209 (dk_at dksX0_swing_4 8 rfl rfl)
theorem dX0_swing_106 : decode cX0_swing 106 = .ok (.aload_n 0, 1) := dk_42 (dk_at dksX0_swing_4 11 rfl rfl)
theorem dX0_swing_107 : decode cX0_swing 107 = .ok (.iload_n 1, 1) := dk_27 (dk_at dksX0_swing_4 12 rfl rfl)
theorem dX0_swing_108 : decode cX0_swing 108 = .ok (.invokevirtual 430, 3) := dk_182 1 174 (dk_at dksX0_swing_4 13 rfl rfl)
theorem dX0_swing_111 : decode cX0_swing 111 = .ok (.dstore 12, 2) := dk_57 12 (dk_at dksX0_swing_4 16 rfl rfl)
theorem dX0_swing_113 : decode cX0_swing 113 = .ok (.aload_n 0, 1) := dk_42 (dk_at dksX0_swing_4 18 rfl rfl)
theorem dX0_swing_114 : decode cX0_swing 114 = .ok (.getfield 138, 3) := dk_180 0 138 (dk_at dksX0_swing_4 19 rfl rfl)
theorem dX0_swing_117 : decode cX0_swing 117 = .ok (.ifCond .eq 13, 3) := dk_153 0 13 (dk_at dksX0_swing_5 0 rfl rfl)
theorem dX0_swing_120 : decode cX0_swing 120 = .ok (.aload 9, 2) := dk_25 9 (dk_at dksX0_swing_5 3 rfl rfl)
theorem dX0_swing_122 : decode cX0_swing 122 = .ok (.dload 10, 2) := dk_24 10 (dk_at dksX0_swing_5 5 rfl rfl)
theorem dX0_swing_124 : decode cX0_swing 124 = .ok (.putfield 209, 3) := dk_181 0 209 (dk_at dksX0_swing_5 7 rfl rfl)
theorem dX0_swing_127 : decode cX0_swing 127 = .ok (.goto 123, 3) := dk_167 0 123 (dk_at dksX0_swing_5 10 rfl rfl)
theorem dX0_swing_130 : decode cX0_swing 130 = .ok (.aload 9, 2) := dk_25 9 (dk_at dksX0_swing_5 13 rfl rfl)
theorem dX0_swing_132 : decode cX0_swing 132 = .ok (.aload 9, 2) := dk_25 9 (dk_at dksX0_swing_5 15 rfl rfl)
theorem dX0_swing_134 : decode cX0_swing 134 = .ok (.dload 10, 2) := dk_24 10 (dk_at dksX0_swing_5 17 rfl rfl)
theorem dX0_swing_136 : decode cX0_swing 136 = .ok (.iload_n 2, 1) := dk_28 (dk_at dksX0_swing_5 19 rfl rfl)
theorem dX0_swing_137 : decode cX0_swing 137 = .ok (.i2d, 1) := dk_135 (dk_at dksX0_swing_5 20 rfl rfl)
theorem dX0_swing_138 : decode cX0_swing 138 = .ok (.ldc2_w 414, 3) := dk_20 1 158 (dk_at dksX0_swing_5 21 rfl rfl)
theorem dX0_swing_141 : decode cX0_swing 141 = .ok (.ddiv, 1) := dk_111 (dk_at dksX0_swing_6 0 rfl rfl)
theorem dX0_swing_142 : decode cX0_swing 142 = .ok (.dsub, 1) := dk_103 (dk_at dksX0_swing_6 1 rfl rfl)
theorem dX0_swing_143 : decode cX0_swing 143 = .ok (.invokevirtual 253, 3) := dk_182 0 253 (dk_at dksX0_swing_6 2 rfl rfl)
theorem dX0_swing_146 : decode cX0_swing 146 = .ok (.putfield 209, 3) := dk_181 0 209 (dk_at dksX0_swing_6 5 rfl rfl)
theorem dX0_swing_149 : decode cX0_swing 149 = .ok (.aload_n 0, 1) := dk_42 (dk_at dksX0_swing_6 8 rfl rfl)
theorem dX0_swing_150 : decode cX0_swing 150 = .ok (.iload_n 1, 1) := dk_27 (dk_at dksX0_swing_6 9 rfl rfl)
theorem dX0_swing_151 : decode cX0_swing 151 = .ok (.invokevirtual 430, 3) := dk_182 1 174 (dk_at dksX0_swing_6 10 rfl rfl)
theorem dX0_swing_154 : decode cX0_swing 154 = .ok (.dstore 14, 2) := dk_57 14 (dk_at dksX0_swing_6 13 rfl rfl)
theorem dX0_swing_156 : decode cX0_swing 156 = .ok (.aload_n 0, 1) := dk_42 (dk_at dksX0_swing_6 15 rfl rfl)
theorem dX0_swing_157 : decode cX0_swing 157 = .ok (.getfield 138, 3) := dk_180 0 138 (dk_at dksX0_swing_6 16 rfl rfl)
theorem dX0_swing_160 : decode cX0_swing 160 = .ok (.ifCond .eq 13, 3) := dk_153 0 13 (dk_at dksX0_swing_6 19 rfl rfl)
theorem dX0_swing_163 : decode cX0_swing 163 = .ok (.aload 9, 2) := dk_25 9 (dk_at dksX0_swing_6 22 rfl rfl)
theorem dX0_swing_165 : decode cX0_swing 165 = .ok (.dload 10, 2) := dk_24 10 (dk_at dksX0_swing_7 0 rfl rfl)
theorem dX0_swing_167 : decode cX0_swing 167 = .ok (.putfield 209, 3) := dk_181 0 209 (dk_at dksX0_swing_7 2 rfl rfl)
theorem dX0_swing_170 : decode cX0_swing 170 = .ok (.goto 80, 3) := dk_167 0 80 (dk_at dksX0_swing_7 5 rfl rfl)
theorem dX0_swing_173 : decode cX0_swing 173 = .ok (.dload 12, 2) := dk_24 12 (dk_at dksX0_swing_7 8 rfl rfl)
theorem dX0_swing_175 : decode cX0_swing 175 = .ok (.dload 14, 2) := dk_24 14 (dk_at dksX0_swing_7 10 rfl rfl)
theorem dX0_swing_177 : decode cX0_swing 177 = .ok (.dcmp .g, 1) := dk_152 (dk_at dksX0_swing_7 12 rfl rfl)
theorem dX0_swing_178 : decode cX0_swing 178 = .ok (.ifCond .ge 11, 3) := dk_156 0 11 (dk_at dksX0_swing_7 13 rfl rfl)
theorem dX0_swing_181 : decode cX0_swing 181 = .ok (.dload 14, 2) := dk_24 14 (dk_at dksX0_swing_7 16 rfl rfl)
theorem dX0_swing_183 : decode cX0_swing 183 = .ok (.dload 12, 2) := dk_24 12 (dk_at dksX0_swing_7 18 rfl rfl)
theorem dX0_swing_185 : decode cX0_swing 185 = .ok (.dsub, 1) := dk_103 (dk_at dksX0_swing_7 20 rfl rfl)
theorem dX0_swing_186 : decode cX0_swing 186 = .ok (.goto 8, 3) := dk_167 0 8 (dk_at dksX0_swing_7 21 rfl rfl)
theorem dX0_swing_189 : decode cX0_swing 189 = .ok (.dload 12, 2) := dk_24 12 (dk_at dksX0_swing_8 0 rfl rfl)
theorem dX0_swing_191 : decode cX0_swing 191 = .ok (.dload 14, 2) := dk_24 14 (dk_at dksX0_swing_8 2 rfl rfl)
theorem dX0_swing_193 : decode cX0_swing 193 = .ok (.dsub, 1) := dk_103 (dk_at dksX0_swing_8 4 rfl rfl)
theorem dX0_swing_194 : decode cX0_swing 194 = .ok (.dstore 16, 2) := dk_57 16 (dk_at dksX0_swing_8 5 rfl rfl)
theorem dX0_swing_196 : decode cX0_swing 196 = .ok (.iload 5, 2) := dk_21 5 (dk_at dksX0_swing_8 7 rfl rfl)
theorem dX0_swing_198 : decode cX0_swing 198 = .ok (.iconst (-1), 1) := dk_2 (dk_at dksX0_swing_8 9 rfl rfl)
theorem dX0_swing_199 : decode cX0_swing 199 = .ok (.if_icmp .eq 21, 3) := dk_159 0 21 (dk_at dksX0_swing_8 10 rfl rfl)
theorem dX0_swing_202 : decode cX0_swing 202 = .ok (.dload 16, 2) := dk_24 16 (dk_at dksX0_swing_8 13 rfl rfl)
theorem dX0_swing_204 : decode cX0_swing 204 = .ok (.dload 6, 2) := dk_24 6 (dk_at dksX0_swing_8 15 rfl rfl)
theorem dX0_swing_206 : decode cX0_swing 206 = .ok (.dcmp .g, 1) := dk_152 (dk_at dksX0_swing_8 17 rfl rfl)
theorem dX0_swing_207 : decode cX0_swing 207 = .ok (.ifCond .gt 13, 3) := dk_157 0 13 (dk_at dksX0_swing_8 18 rfl rfl)
theorem dX0_swing_210 : decode cX0_swing 210 = .ok (.aload 9, 2) := dk_25 9 (dk_at dksX0_swing_8 21 rfl rfl)
theorem dX0_swing_212 : decode cX0_swing 212 = .ok (.dload 10, 2) := dk_24 10 (dk_at dksX0_swing_9 0 rfl rfl)
theorem dX0_swing_214 : decode cX0_swing 214 = .ok (.putfield 209, 3) := dk_181 0 209 (dk_at dksX0_swing_9 2 rfl rfl)
theorem dX0_swing_217 : decode cX0_swing 217 = .ok (.goto 33, 3) := dk_167 0 33 (dk_at dksX0_swing_9 5 rfl rfl)
theorem dX0_swing_220 : decode cX0_swing 220 = .ok (.iload 8, 2) := dk_21 8 (dk_at dksX0_swing_9 8 rfl rfl)
theorem dX0_swing_222 : decode cX0_swing 222 = .ok (.istore 5, 2) := dk_54 5 (dk_at dksX0_swing_9 10 rfl rfl)
theorem dX0_swing_224 : decode cX0_swing 224 = .ok (.dload 16, 2) := dk_24 16 (dk_at dksX0_swing_9 12 rfl rfl)
theorem dX0_swing_226 : decode cX0_swing 226 = .ok (.dstore 6, 2) := dk_57 6 (dk_at dksX0_swing_9 14 rfl rfl)
theorem dX0_swing_228 : decode cX0_swing 228 = .ok (.aload 9, 2) := dk_25 9 (dk_at dksX0_swing_9 16 rfl rfl)
theorem dX0_swing_230 : decode cX0_swing 230 = .ok (.dload 10, 2) := dk_24 10 (dk_at dksX0_swing_9 18 rfl rfl)
theorem dX0_swing_232 : decode cX0_swing 232 = .ok (.putfield 209, 3) := dk_181 0 209 (dk_at dksX0_swing_9 20 rfl rfl)
theorem dX0_swing_235 : decode cX0_swing 235 = .ok (.goto 15, 3) := dk_167 0 15 (dk_at dksX0_swing_10 0 rfl rfl)
theorem dX0_swing_238 : decode cX0_swing 238 = .ok (.astore 18, 2) := dk_58 18 (dk_at dksX0_swing_10 3 rfl rfl)
theorem dX0_swing_240 : decode cX0_swing 240 = .ok (.aload 9, 2) := dk_25 9 (dk_at dksX0_swing_10 5 rfl rfl)
theorem dX0_swing_242 : decode cX0_swing 242 = .ok (.dload 10, 2) := dk_24 10 (dk_at dksX0_swing_10 7 rfl rfl)
theorem dX0_swing_244 : decode cX0_swing 244 = .ok (.putfield 209, 3) := dk_181 0 209 (dk_at dksX0_swing_10 9 rfl rfl)
theorem dX0_swing_247 : decode cX0_swing 247 = .ok (.aload 18, 2) := dk_25 18 (dk_at dksX0_swing_10 12 rfl rfl)
theorem dX0_swing_249 : decode cX0_swing 249 = .ok (.athrow, 1) := dk_191 (dk_at dksX0_swing_10 14 rfl rfl)
theorem dX0_swing_250 : decode cX0_swing 250 = .ok (.aload 4, 2) := dk_25 4 (dk_at dksX0_swing_10 15 rfl rfl)
theorem dX0_swing_252 : decode cX0_swing 252 = .ok (.iload 8, 2) := dk_21 8 (dk_at dksX0_swing_10 17 rfl rfl)
theorem dX0_swing_254 : decode cX0_swing 254 = .ok (.iconst 1, 1) := dk_4 (dk_at dksX0_swing_10 19 rfl rfl)
theorem dX0_swing_255 : decode cX0_swing 255 = .ok (.iadd, 1) := dk_96 (dk_at dksX0_swing_10 20 rfl rfl)
theorem dX0_swing_256 : decode cX0_swing 256 = .ok (.invokevirtual 346, 3) := dk_182 1 90 (dk_at dksX0_swing_10 21 rfl rfl)
theorem dX0_swing_259 : decode cX0_swing 259 = .ok (.istore 8, 2) := dk_54 8 (dk_at dksX0_swing_11 0 rfl rfl)
theorem dX0_swing_261 : decode cX0_swing 261 = .ok (.goto (-206), 3) := dk_167 255 50 (dk_at dksX0_swing_11 2 rfl rfl)
theorem dX0_swing_264 : decode cX0_swing 264 = .ok (.iload_n 3, 1) := dk_29 (dk_at dksX0_swing_11 5 rfl rfl)
theorem dX0_swing_265 : decode cX0_swing 265 = .ok (.ifCond .eq 9, 3) := dk_153 0 9 (dk_at dksX0_swing_11 6 rfl rfl)
theorem dX0_swing_268 : decode cX0_swing 268 = .ok (.iload 5, 2) := dk_21 5 (dk_at dksX0_swing_11 9 rfl rfl)
theorem dX0_swing_270 : decode cX0_swing 270 = .ok (.iconst (-1), 1) := dk_2 (dk_at dksX0_swing_11 11 rfl rfl)
theorem dX0_swing_271 : decode cX0_swing 271 = .ok (.if_icmp .ne 9, 3) := dk_160 0 9 (dk_at dksX0_swing_11 12 rfl rfl)
theorem dX0_swing_274 : decode cX0_swing 274 = .ok (.iload 5, 2) := dk_21 5 (dk_at dksX0_swing_11 15 rfl rfl)
theorem dX0_swing_276 : decode cX0_swing 276 = .ok (.i2l, 1) := dk_133 (dk_at dksX0_swing_11 17 rfl rfl)
theorem dX0_swing_277 : decode cX0_swing 277 = .ok (.goto 8, 3) := dk_167 0 8 (dk_at dksX0_swing_11 18 rfl rfl)
theorem dX0_swing_280 : decode cX0_swing 280 = .ok (.dload 6, 2) := dk_24 6 (dk_at dksX0_swing_11 21 rfl rfl)
theorem dX0_swing_282 : decode cX0_swing 282 = .ok (.invokestatic 293, 3) := dk_184 1 37 (dk_at dksX0_swing_12 0 rfl rfl)
theorem dX0_swing_285 : decode cX0_swing 285 = .ok (.lreturn, 1) := dk_173 (dk_at dksX0_swing_12 3 rfl rfl)
abbrev cX0_chance : ByteArray := prog_1_method_54_code
def yX0_chance : MethodName := ⟨RX0, "chance", "(IIIII)I"⟩
def dkwX0_chance_5 : List UInt8 := [167, 255, 236, 21, 5, 154, 0, 11, 21, 6, 21, 7, 108, 167, 0, 7, 29, 21, 7, 108, 172]
abbrev dktX0_chance_5 : List UInt8 := dkwX0_chance_5 ++ []
def dkwX0_chance_4 : List UInt8 := [54, 8, 21, 8, 153, 0, 21, 21, 7, 21, 8, 112, 54, 9, 21, 8, 54, 7, 21, 9, 54, 8]
abbrev dktX0_chance_4 : List UInt8 := dkwX0_chance_4 ++ dktX0_chance_5
def dkwX0_chance_3 : List UInt8 := [20, 1, 158, 111, 182, 2, 44, 153, 0, 6, 132, 6, 1, 132, 7, 1, 167, 255, 225, 21, 6, 54, 7, 29]
abbrev dktX0_chance_3 : List UInt8 := dkwX0_chance_3 ++ dktX0_chance_4
def dkwX0_chance_2 : List UInt8 := [16, 254, 172, 3, 54, 6, 3, 54, 7, 21, 7, 29, 162, 0, 31, 42, 27, 28, 21, 7, 96, 21, 4, 135]
abbrev dktX0_chance_2 : List UInt8 := dkwX0_chance_2 ++ dktX0_chance_3
def dkwX0_chance_1 : List UInt8 := [20, 1, 204, 20, 1, 206, 184, 0, 132, 153, 0, 14, 21, 5, 133, 9, 10, 184, 0, 132, 154, 0, 6]
abbrev dktX0_chance_1 : List UInt8 := dkwX0_chance_1 ++ dktX0_chance_2
def dkwX0_chance_0 : List UInt8 := [27, 184, 1, 133, 153, 0, 41, 29, 133, 10, 20, 2, 42, 184, 0, 132, 153, 0, 29, 21, 4, 133]
abbrev dktX0_chance_0 : List UInt8 := dkwX0_chance_0 ++ dktX0_chance_1
theorem dksX0_chance_0 : cX0_chance.data.toList.drop 0 = dktX0_chance_0 := by decide +kernel
theorem dksX0_chance_1 : cX0_chance.data.toList.drop 22 = dktX0_chance_1 := dk_seg dksX0_chance_0 22 rfl rfl
theorem dksX0_chance_2 : cX0_chance.data.toList.drop 45 = dktX0_chance_2 := dk_seg dksX0_chance_1 23 rfl rfl
theorem dksX0_chance_3 : cX0_chance.data.toList.drop 69 = dktX0_chance_3 := dk_seg dksX0_chance_2 24 rfl rfl
theorem dksX0_chance_4 : cX0_chance.data.toList.drop 93 = dktX0_chance_4 := dk_seg dksX0_chance_3 24 rfl rfl
theorem dksX0_chance_5 : cX0_chance.data.toList.drop 115 = dktX0_chance_5 := dk_seg dksX0_chance_4 22 rfl rfl
theorem dX0_chance_0 : decode cX0_chance 0 = .ok (.iload_n 1, 1) := dk_27 (dk_at dksX0_chance_0 0 rfl rfl)
theorem dX0_chance_1 : decode cX0_chance 1 = .ok (.invokestatic 389, 3) := dk_184 1 133 (dk_at dksX0_chance_0 1 rfl rfl)
theorem dX0_chance_4 : decode cX0_chance 4 = .ok (.ifCond .eq 41, 3) := dk_153 0 41 (dk_at dksX0_chance_0 4 rfl rfl)
theorem dX0_chance_7 : decode cX0_chance 7 = .ok (.iload_n 3, 1) := dk_29 (dk_at dksX0_chance_0 7 rfl rfl)
theorem dX0_chance_8 : decode cX0_chance 8 = .ok (.i2l, 1) := dk_133 (dk_at dksX0_chance_0 8 rfl rfl)
theorem dX0_chance_9 : decode cX0_chance 9 = .ok (.lconst 1, 1) := dk_10 (dk_at dksX0_chance_0 9 rfl rfl)
theorem dX0_chance_10 : decode cX0_chance 10 = .ok (.ldc2_w 554, 3) := dk_20 2 42 (dk_at dksX0_chance_0 10 rfl rfl)
theorem dX0_chance_13 : decode cX0_chance 13 = .ok (.invokestatic 132, 3) := dk_184 0 132 (dk_at dksX0_chance_0 13 rfl rfl)
theorem dX0_chance_16 : decode cX0_chance 16 = .ok (.ifCond .eq 29, 3) := dk_153 0 29 (dk_at dksX0_chance_0 16 rfl rfl)
theorem dX0_chance_19 : decode cX0_chance 19 = .ok (.iload 4, 2) := dk_21 4 (dk_at dksX0_chance_0 19 rfl rfl)
theorem dX0_chance_21 : decode cX0_chance 21 = .ok (.i2l, 1) := dk_133 (dk_at dksX0_chance_0 21 rfl rfl)
theorem dX0_chance_22 : decode cX0_chance 22 = .ok (.ldc2_w 460, 3) := dk_20 1 204 (dk_at dksX0_chance_1 0 rfl rfl)
theorem dX0_chance_25 : decode cX0_chance 25 = .ok (.ldc2_w 462, 3) := dk_20 1 206 (dk_at dksX0_chance_1 3 rfl rfl)
theorem dX0_chance_28 : decode cX0_chance 28 = .ok (.invokestatic 132, 3) := dk_184 0 132 (dk_at dksX0_chance_1 6 rfl rfl)
theorem dX0_chance_31 : decode cX0_chance 31 = .ok (.ifCond .eq 14, 3) := dk_153 0 14 (dk_at dksX0_chance_1 9 rfl rfl)
theorem dX0_chance_34 : decode cX0_chance 34 = .ok (.iload 5, 2) := dk_21 5 (dk_at dksX0_chance_1 12 rfl rfl)
theorem dX0_chance_36 : decode cX0_chance 36 = .ok (.i2l, 1) := dk_133 (dk_at dksX0_chance_1 14 rfl rfl)
theorem dX0_chance_37 : decode cX0_chance 37 = .ok (.lconst 0, 1) := dk_9 (dk_at dksX0_chance_1 15 rfl rfl)
theorem dX0_chance_38 : decode cX0_chance 38 = .ok (.lconst 1, 1) := dk_10 (dk_at dksX0_chance_1 16 rfl rfl)
theorem dX0_chance_39 : decode cX0_chance 39 = .ok (.invokestatic 132, 3) := dk_184 0 132 (dk_at dksX0_chance_1 17 rfl rfl)
theorem dX0_chance_42 : decode cX0_chance 42 = .ok (.ifCond .ne 6, 3) := dk_154 0 6 (dk_at dksX0_chance_1 20 rfl rfl)
theorem dX0_chance_45 : decode cX0_chance 45 = .ok (.bipush (-2), 2) := dk_16 254 (dk_at dksX0_chance_2 0 rfl rfl)
theorem dX0_chance_47 : decode cX0_chance 47 = .ok (.ireturn, 1) := dk_172 (dk_at dksX0_chance_2 2 rfl rfl)
theorem dX0_chance_48 : decode cX0_chance 48 = .ok (.iconst 0, 1) := dk_3 (dk_at dksX0_chance_2 3 rfl rfl)
theorem dX0_chance_49 : decode cX0_chance 49 = .ok (.istore 6, 2) := dk_54 6 (dk_at dksX0_chance_2 4 rfl rfl)
theorem dX0_chance_51 : decode cX0_chance 51 = .ok (.iconst 0, 1) := dk_3 (dk_at dksX0_chance_2 6 rfl rfl)
theorem dX0_chance_52 : decode cX0_chance 52 = .ok (.istore 7, 2) := dk_54 7 (dk_at dksX0_chance_2 7 rfl rfl)
theorem dX0_chance_54 : decode cX0_chance 54 = .ok (.iload 7, 2) := dk_21 7 (dk_at dksX0_chance_2 9 rfl rfl)
theorem dX0_chance_56 : decode cX0_chance 56 = .ok (.iload_n 3, 1) := dk_29 (dk_at dksX0_chance_2 11 rfl rfl)
theorem dX0_chance_57 : decode cX0_chance 57 = .ok (.if_icmp .ge 31, 3) := dk_162 0 31 (dk_at dksX0_chance_2 12 rfl rfl)
theorem dX0_chance_60 : decode cX0_chance 60 = .ok (.aload_n 0, 1) := dk_42 (dk_at dksX0_chance_2 15 rfl rfl)
theorem dX0_chance_61 : decode cX0_chance 61 = .ok (.iload_n 1, 1) := dk_27 (dk_at dksX0_chance_2 16 rfl rfl)
theorem dX0_chance_62 : decode cX0_chance 62 = .ok (.iload_n 2, 1) := dk_28 (dk_at dksX0_chance_2 17 rfl rfl)
theorem dX0_chance_63 : decode cX0_chance 63 = .ok (.iload 7, 2) := dk_21 7 (dk_at dksX0_chance_2 18 rfl rfl)
theorem dX0_chance_65 : decode cX0_chance 65 = .ok (.iadd, 1) := dk_96 (dk_at dksX0_chance_2 20 rfl rfl)
theorem dX0_chance_66 : decode cX0_chance 66 = .ok (.iload 4, 2) := dk_21 4 (dk_at dksX0_chance_2 21 rfl rfl)
theorem dX0_chance_68 : decode cX0_chance 68 = .ok (.i2d, 1) := dk_135 (dk_at dksX0_chance_2 23 rfl rfl)
theorem dX0_chance_69 : decode cX0_chance 69 = .ok (.ldc2_w 414, 3) := dk_20 1 158 (dk_at dksX0_chance_3 0 rfl rfl)
theorem dX0_chance_72 : decode cX0_chance 72 = .ok (.ddiv, 1) := dk_111 (dk_at dksX0_chance_3 3 rfl rfl)
theorem dX0_chance_73 : decode cX0_chance 73 = .ok (.invokevirtual 556, 3) := dk_182 2 44 (dk_at dksX0_chance_3 4 rfl rfl)
theorem dX0_chance_76 : decode cX0_chance 76 = .ok (.ifCond .eq 6, 3) := dk_153 0 6 (dk_at dksX0_chance_3 7 rfl rfl)
theorem dX0_chance_79 : decode cX0_chance 79 = .ok (.iinc 6 1, 3) := dk_132 6 1 (dk_at dksX0_chance_3 10 rfl rfl)
theorem dX0_chance_82 : decode cX0_chance 82 = .ok (.iinc 7 1, 3) := dk_132 7 1 (dk_at dksX0_chance_3 13 rfl rfl)
theorem dX0_chance_85 : decode cX0_chance 85 = .ok (.goto (-31), 3) := dk_167 255 225 (dk_at dksX0_chance_3 16 rfl rfl)
theorem dX0_chance_88 : decode cX0_chance 88 = .ok (.iload 6, 2) := dk_21 6 (dk_at dksX0_chance_3 19 rfl rfl)
theorem dX0_chance_90 : decode cX0_chance 90 = .ok (.istore 7, 2) := dk_54 7 (dk_at dksX0_chance_3 21 rfl rfl)
theorem dX0_chance_92 : decode cX0_chance 92 = .ok (.iload_n 3, 1) := dk_29 (dk_at dksX0_chance_3 23 rfl rfl)
theorem dX0_chance_93 : decode cX0_chance 93 = .ok (.istore 8, 2) := dk_54 8 (dk_at dksX0_chance_4 0 rfl rfl)
theorem dX0_chance_95 : decode cX0_chance 95 = .ok (.iload 8, 2) := dk_21 8 (dk_at dksX0_chance_4 2 rfl rfl)
theorem dX0_chance_97 : decode cX0_chance 97 = .ok (.ifCond .eq 21, 3) := dk_153 0 21 (dk_at dksX0_chance_4 4 rfl rfl)
theorem dX0_chance_100 : decode cX0_chance 100 = .ok (.iload 7, 2) := dk_21 7 (dk_at dksX0_chance_4 7 rfl rfl)
theorem dX0_chance_102 : decode cX0_chance 102 = .ok (.iload 8, 2) := dk_21 8 (dk_at dksX0_chance_4 9 rfl rfl)
theorem dX0_chance_104 : decode cX0_chance 104 = .ok (.irem, 1) := dk_112 (dk_at dksX0_chance_4 11 rfl rfl)
theorem dX0_chance_105 : decode cX0_chance 105 = .ok (.istore 9, 2) := dk_54 9 (dk_at dksX0_chance_4 12 rfl rfl)
theorem dX0_chance_107 : decode cX0_chance 107 = .ok (.iload 8, 2) := dk_21 8 (dk_at dksX0_chance_4 14 rfl rfl)
theorem dX0_chance_109 : decode cX0_chance 109 = .ok (.istore 7, 2) := dk_54 7 (dk_at dksX0_chance_4 16 rfl rfl)
theorem dX0_chance_111 : decode cX0_chance 111 = .ok (.iload 9, 2) := dk_21 9 (dk_at dksX0_chance_4 18 rfl rfl)
theorem dX0_chance_113 : decode cX0_chance 113 = .ok (.istore 8, 2) := dk_54 8 (dk_at dksX0_chance_4 20 rfl rfl)
theorem dX0_chance_115 : decode cX0_chance 115 = .ok (.goto (-20), 3) := dk_167 255 236 (dk_at dksX0_chance_5 0 rfl rfl)
theorem dX0_chance_118 : decode cX0_chance 118 = .ok (.iload 5, 2) := dk_21 5 (dk_at dksX0_chance_5 3 rfl rfl)
theorem dX0_chance_120 : decode cX0_chance 120 = .ok (.ifCond .ne 11, 3) := dk_154 0 11 (dk_at dksX0_chance_5 5 rfl rfl)
theorem dX0_chance_123 : decode cX0_chance 123 = .ok (.iload 6, 2) := dk_21 6 (dk_at dksX0_chance_5 8 rfl rfl)
theorem dX0_chance_125 : decode cX0_chance 125 = .ok (.iload 7, 2) := dk_21 7 (dk_at dksX0_chance_5 10 rfl rfl)
theorem dX0_chance_127 : decode cX0_chance 127 = .ok (.idiv, 1) := dk_108 (dk_at dksX0_chance_5 12 rfl rfl)
theorem dX0_chance_128 : decode cX0_chance 128 = .ok (.goto 7, 3) := dk_167 0 7 (dk_at dksX0_chance_5 13 rfl rfl)
theorem dX0_chance_131 : decode cX0_chance 131 = .ok (.iload_n 3, 1) := dk_29 (dk_at dksX0_chance_5 16 rfl rfl)
theorem dX0_chance_132 : decode cX0_chance 132 = .ok (.iload 7, 2) := dk_21 7 (dk_at dksX0_chance_5 17 rfl rfl)
theorem dX0_chance_134 : decode cX0_chance 134 = .ok (.idiv, 1) := dk_108 (dk_at dksX0_chance_5 19 rfl rfl)
theorem dX0_chance_135 : decode cX0_chance 135 = .ok (.ireturn, 1) := dk_172 (dk_at dksX0_chance_5 20 rfl rfl)
abbrev cX0_comes : ByteArray := prog_1_method_53_code
def yX0_comes : MethodName := ⟨RX0, "comes", "(IID)Z"⟩
def dkwX0_comes_9 : List UInt8 := [21, 12, 4, 96, 182, 1, 90, 54, 12, 167, 255, 223, 25, 11, 191]
abbrev dktX0_comes_9 : List UInt8 := dkwX0_comes_9 ++ []
def dkwX0_comes_8 : List UInt8 := [21, 12, 155, 0, 34, 42, 180, 0, 31, 21, 12, 50, 42, 180, 0, 101, 21, 12, 49, 181, 0, 209, 25, 5]
abbrev dktX0_comes_8 : List UInt8 := dkwX0_comes_8 ++ dktX0_comes_9
def dkwX0_comes_7 : List UInt8 := [4, 96, 182, 1, 90, 54, 10, 167, 255, 223, 21, 9, 172, 58, 11, 25, 5, 3, 182, 1, 90, 54, 12]
abbrev dktX0_comes_7 : List UInt8 := dkwX0_comes_7 ++ dktX0_comes_8
def dkwX0_comes_6 : List UInt8 := [155, 0, 34, 42, 180, 0, 31, 21, 10, 50, 42, 180, 0, 101, 21, 10, 49, 181, 0, 209, 25, 5, 21, 10]
abbrev dktX0_comes_6 : List UInt8 := dkwX0_comes_6 ++ dktX0_comes_7
def dkwX0_comes_5 : List UInt8 := [24, 7, 41, 151, 155, 0, 7, 4, 167, 0, 4, 3, 54, 9, 25, 5, 3, 182, 1, 90, 54, 10, 21, 10]
abbrev dktX0_comes_5 : List UInt8 := dkwX0_comes_5 ++ dktX0_comes_6
def dkwX0_comes_4 : List UInt8 := [4, 96, 182, 1, 90, 54, 7, 167, 255, 173, 42, 27, 182, 1, 174, 57, 7, 42, 180, 0, 138, 154, 0, 14]
abbrev dktX0_comes_4 : List UInt8 := dkwX0_comes_4 ++ dktX0_comes_5
def dkwX0_comes_3 : List UInt8 := [124, 17, 1, 145, 112, 17, 0, 200, 100, 135, 20, 1, 158, 111, 182, 0, 253, 181, 0, 209, 25, 5, 21, 7]
abbrev dktX0_comes_3 : List UInt8 := dkwX0_comes_3 ++ dktX0_comes_4
def dkwX0_comes_2 : List UInt8 := [17, 48, 57, 96, 54, 6, 42, 180, 0, 31, 21, 7, 50, 42, 180, 0, 31, 21, 7, 50, 21, 6, 16, 9]
abbrev dktX0_comes_2 : List UInt8 := dkwX0_comes_2 ++ dktX0_comes_3
def dkwX0_comes_1 : List UInt8 := [42, 180, 0, 101, 21, 7, 42, 180, 0, 31, 21, 7, 50, 180, 0, 209, 82, 21, 6, 19, 2, 41, 104]
abbrev dktX0_comes_1 : List UInt8 := dkwX0_comes_1 ++ dktX0_comes_2
def dkwX0_comes_0 : List UInt8 := [42, 180, 0, 62, 27, 50, 58, 5, 28, 54, 6, 25, 5, 3, 182, 1, 90, 54, 7, 21, 7, 155, 0, 84]
abbrev dktX0_comes_0 : List UInt8 := dkwX0_comes_0 ++ dktX0_comes_1
theorem dksX0_comes_0 : cX0_comes.data.toList.drop 0 = dktX0_comes_0 := by decide +kernel
theorem dksX0_comes_1 : cX0_comes.data.toList.drop 24 = dktX0_comes_1 := dk_seg dksX0_comes_0 24 rfl rfl
theorem dksX0_comes_2 : cX0_comes.data.toList.drop 47 = dktX0_comes_2 := dk_seg dksX0_comes_1 23 rfl rfl
theorem dksX0_comes_3 : cX0_comes.data.toList.drop 71 = dktX0_comes_3 := dk_seg dksX0_comes_2 24 rfl rfl
theorem dksX0_comes_4 : cX0_comes.data.toList.drop 95 = dktX0_comes_4 := dk_seg dksX0_comes_3 24 rfl rfl
theorem dksX0_comes_5 : cX0_comes.data.toList.drop 119 = dktX0_comes_5 := dk_seg dksX0_comes_4 24 rfl rfl
theorem dksX0_comes_6 : cX0_comes.data.toList.drop 143 = dktX0_comes_6 := dk_seg dksX0_comes_5 24 rfl rfl
theorem dksX0_comes_7 : cX0_comes.data.toList.drop 167 = dktX0_comes_7 := dk_seg dksX0_comes_6 24 rfl rfl
theorem dksX0_comes_8 : cX0_comes.data.toList.drop 190 = dktX0_comes_8 := dk_seg dksX0_comes_7 23 rfl rfl
theorem dksX0_comes_9 : cX0_comes.data.toList.drop 214 = dktX0_comes_9 := dk_seg dksX0_comes_8 24 rfl rfl
theorem dX0_comes_0 : decode cX0_comes 0 = .ok (.aload_n 0, 1) := dk_42 (dk_at dksX0_comes_0 0 rfl rfl)
theorem dX0_comes_1 : decode cX0_comes 1 = .ok (.getfield 62, 3) := dk_180 0 62 (dk_at dksX0_comes_0 1 rfl rfl)
theorem dX0_comes_4 : decode cX0_comes 4 = .ok (.iload_n 1, 1) := dk_27 (dk_at dksX0_comes_0 4 rfl rfl)
theorem dX0_comes_5 : decode cX0_comes 5 = .ok (.aaload, 1) := dk_50 (dk_at dksX0_comes_0 5 rfl rfl)
theorem dX0_comes_6 : decode cX0_comes 6 = .ok (.astore 5, 2) := dk_58 5 (dk_at dksX0_comes_0 6 rfl rfl)
theorem dX0_comes_8 : decode cX0_comes 8 = .ok (.iload_n 2, 1) := dk_28 (dk_at dksX0_comes_0 8 rfl rfl)
theorem dX0_comes_9 : decode cX0_comes 9 = .ok (.istore 6, 2) := dk_54 6 (dk_at dksX0_comes_0 9 rfl rfl)
theorem dX0_comes_11 : decode cX0_comes 11 = .ok (.aload 5, 2) := dk_25 5 (dk_at dksX0_comes_0 11 rfl rfl)
theorem dX0_comes_13 : decode cX0_comes 13 = .ok (.iconst 0, 1) := dk_3 (dk_at dksX0_comes_0 13 rfl rfl)
theorem dX0_comes_14 : decode cX0_comes 14 = .ok (.invokevirtual 346, 3) := dk_182 1 90 (dk_at dksX0_comes_0 14 rfl rfl)
theorem dX0_comes_17 : decode cX0_comes 17 = .ok (.istore 7, 2) := dk_54 7 (dk_at dksX0_comes_0 17 rfl rfl)
theorem dX0_comes_19 : decode cX0_comes 19 = .ok (.iload 7, 2) := dk_21 7 (dk_at dksX0_comes_0 19 rfl rfl)
theorem dX0_comes_21 : decode cX0_comes 21 = .ok (.ifCond .lt 84, 3) := dk_155 0 84 (dk_at dksX0_comes_0 21 rfl rfl)
theorem dX0_comes_24 : decode cX0_comes 24 = .ok (.aload_n 0, 1) := dk_42 (dk_at dksX0_comes_1 0 rfl rfl)
theorem dX0_comes_25 : decode cX0_comes 25 = .ok (.getfield 101, 3) := dk_180 0 101 (dk_at dksX0_comes_1 1 rfl rfl)
theorem dX0_comes_28 : decode cX0_comes 28 = .ok (.iload 7, 2) := dk_21 7 (dk_at dksX0_comes_1 4 rfl rfl)
theorem dX0_comes_30 : decode cX0_comes 30 = .ok (.aload_n 0, 1) := dk_42 (dk_at dksX0_comes_1 6 rfl rfl)
theorem dX0_comes_31 : decode cX0_comes 31 = .ok (.getfield 31, 3) := dk_180 0 31 (dk_at dksX0_comes_1 7 rfl rfl)
theorem dX0_comes_34 : decode cX0_comes 34 = .ok (.iload 7, 2) := dk_21 7 (dk_at dksX0_comes_1 10 rfl rfl)
theorem dX0_comes_36 : decode cX0_comes 36 = .ok (.aaload, 1) := dk_50 (dk_at dksX0_comes_1 12 rfl rfl)
theorem dX0_comes_37 : decode cX0_comes 37 = .ok (.getfield 209, 3) := dk_180 0 209 (dk_at dksX0_comes_1 13 rfl rfl)
theorem dX0_comes_40 : decode cX0_comes 40 = .ok (.dastore, 1) := dk_82 (dk_at dksX0_comes_1 16 rfl rfl)
theorem dX0_comes_41 : decode cX0_comes 41 = .ok (.iload 6, 2) := dk_21 6 (dk_at dksX0_comes_1 17 rfl rfl)
theorem dX0_comes_43 : decode cX0_comes 43 = .ok (.ldc_w 553, 3) := dk_19 2 41 (dk_at dksX0_comes_1 19 rfl rfl)
theorem dX0_comes_46 : decode cX0_comes 46 = .ok (.imul, 1) := dk_104 (dk_at dksX0_comes_1 22 rfl rfl)
theorem dX0_comes_47 : decode cX0_comes 47 = .ok (.sipush 12345, 3) := dk_17 48 57 (dk_at dksX0_comes_2 0 rfl rfl)
theorem dX0_comes_50 : decode cX0_comes 50 = .ok (.iadd, 1) := dk_96 (dk_at dksX0_comes_2 3 rfl rfl)
theorem dX0_comes_51 : decode cX0_comes 51 = .ok (.istore 6, 2) := dk_54 6 (dk_at dksX0_comes_2 4 rfl rfl)
theorem dX0_comes_53 : decode cX0_comes 53 = .ok (.aload_n 0, 1) := dk_42 (dk_at dksX0_comes_2 6 rfl rfl)
theorem dX0_comes_54 : decode cX0_comes 54 = .ok (.getfield 31, 3) := dk_180 0 31 (dk_at dksX0_comes_2 7 rfl rfl)
theorem dX0_comes_57 : decode cX0_comes 57 = .ok (.iload 7, 2) := dk_21 7 (dk_at dksX0_comes_2 10 rfl rfl)
theorem dX0_comes_59 : decode cX0_comes 59 = .ok (.aaload, 1) := dk_50 (dk_at dksX0_comes_2 12 rfl rfl)
theorem dX0_comes_60 : decode cX0_comes 60 = .ok (.aload_n 0, 1) := dk_42 (dk_at dksX0_comes_2 13 rfl rfl)
theorem dX0_comes_61 : decode cX0_comes 61 = .ok (.getfield 31, 3) := dk_180 0 31 (dk_at dksX0_comes_2 14 rfl rfl)
theorem dX0_comes_64 : decode cX0_comes 64 = .ok (.iload 7, 2) := dk_21 7 (dk_at dksX0_comes_2 17 rfl rfl)
theorem dX0_comes_66 : decode cX0_comes 66 = .ok (.aaload, 1) := dk_50 (dk_at dksX0_comes_2 19 rfl rfl)
theorem dX0_comes_67 : decode cX0_comes 67 = .ok (.iload 6, 2) := dk_21 6 (dk_at dksX0_comes_2 20 rfl rfl)
theorem dX0_comes_69 : decode cX0_comes 69 = .ok (.bipush 9, 2) := dk_16 9 (dk_at dksX0_comes_2 22 rfl rfl)
theorem dX0_comes_71 : decode cX0_comes 71 = .ok (.iushr, 1) := dk_124 (dk_at dksX0_comes_3 0 rfl rfl)
theorem dX0_comes_72 : decode cX0_comes 72 = .ok (.sipush 401, 3) := dk_17 1 145 (dk_at dksX0_comes_3 1 rfl rfl)
theorem dX0_comes_75 : decode cX0_comes 75 = .ok (.irem, 1) := dk_112 (dk_at dksX0_comes_3 4 rfl rfl)
theorem dX0_comes_76 : decode cX0_comes 76 = .ok (.sipush 200, 3) := dk_17 0 200 (dk_at dksX0_comes_3 5 rfl rfl)
theorem dX0_comes_79 : decode cX0_comes 79 = .ok (.isub, 1) := dk_100 (dk_at dksX0_comes_3 8 rfl rfl)
theorem dX0_comes_80 : decode cX0_comes 80 = .ok (.i2d, 1) := dk_135 (dk_at dksX0_comes_3 9 rfl rfl)
theorem dX0_comes_81 : decode cX0_comes 81 = .ok (.ldc2_w 414, 3) := dk_20 1 158 (dk_at dksX0_comes_3 10 rfl rfl)
theorem dX0_comes_84 : decode cX0_comes 84 = .ok (.ddiv, 1) := dk_111 (dk_at dksX0_comes_3 13 rfl rfl)
theorem dX0_comes_85 : decode cX0_comes 85 = .ok (.invokevirtual 253, 3) := dk_182 0 253 (dk_at dksX0_comes_3 14 rfl rfl)
theorem dX0_comes_88 : decode cX0_comes 88 = .ok (.putfield 209, 3) := dk_181 0 209 (dk_at dksX0_comes_3 17 rfl rfl)
theorem dX0_comes_91 : decode cX0_comes 91 = .ok (.aload 5, 2) := dk_25 5 (dk_at dksX0_comes_3 20 rfl rfl)
theorem dX0_comes_93 : decode cX0_comes 93 = .ok (.iload 7, 2) := dk_21 7 (dk_at dksX0_comes_3 22 rfl rfl)
theorem dX0_comes_95 : decode cX0_comes 95 = .ok (.iconst 1, 1) := dk_4 (dk_at dksX0_comes_4 0 rfl rfl)
theorem dX0_comes_96 : decode cX0_comes 96 = .ok (.iadd, 1) := dk_96 (dk_at dksX0_comes_4 1 rfl rfl)
theorem dX0_comes_97 : decode cX0_comes 97 = .ok (.invokevirtual 346, 3) := dk_182 1 90 (dk_at dksX0_comes_4 2 rfl rfl)
theorem dX0_comes_100 : decode cX0_comes 100 = .ok (.istore 7, 2) := dk_54 7 (dk_at dksX0_comes_4 5 rfl rfl)
theorem dX0_comes_102 : decode cX0_comes 102 = .ok (.goto (-83), 3) := dk_167 255 173 (dk_at dksX0_comes_4 7 rfl rfl)
theorem dX0_comes_105 : decode cX0_comes 105 = .ok (.aload_n 0, 1) := dk_42 (dk_at dksX0_comes_4 10 rfl rfl)
theorem dX0_comes_106 : decode cX0_comes 106 = .ok (.iload_n 1, 1) := dk_27 (dk_at dksX0_comes_4 11 rfl rfl)
theorem dX0_comes_107 : decode cX0_comes 107 = .ok (.invokevirtual 430, 3) := dk_182 1 174 (dk_at dksX0_comes_4 12 rfl rfl)
theorem dX0_comes_110 : decode cX0_comes 110 = .ok (.dstore 7, 2) := dk_57 7 (dk_at dksX0_comes_4 15 rfl rfl)
theorem dX0_comes_112 : decode cX0_comes 112 = .ok (.aload_n 0, 1) := dk_42 (dk_at dksX0_comes_4 17 rfl rfl)
theorem dX0_comes_113 : decode cX0_comes 113 = .ok (.getfield 138, 3) := dk_180 0 138 (dk_at dksX0_comes_4 18 rfl rfl)
theorem dX0_comes_116 : decode cX0_comes 116 = .ok (.ifCond .ne 14, 3) := dk_154 0 14 (dk_at dksX0_comes_4 21 rfl rfl)
theorem dX0_comes_119 : decode cX0_comes 119 = .ok (.dload 7, 2) := dk_24 7 (dk_at dksX0_comes_5 0 rfl rfl)
theorem dX0_comes_121 : decode cX0_comes 121 = .ok (.dload_n 3, 1) := dk_41 (dk_at dksX0_comes_5 2 rfl rfl)
theorem dX0_comes_122 : decode cX0_comes 122 = .ok (.dcmp .l, 1) := dk_151 (dk_at dksX0_comes_5 3 rfl rfl)
theorem dX0_comes_123 : decode cX0_comes 123 = .ok (.ifCond .lt 7, 3) := dk_155 0 7 (dk_at dksX0_comes_5 4 rfl rfl)
theorem dX0_comes_126 : decode cX0_comes 126 = .ok (.iconst 1, 1) := dk_4 (dk_at dksX0_comes_5 7 rfl rfl)
theorem dX0_comes_127 : decode cX0_comes 127 = .ok (.goto 4, 3) := dk_167 0 4 (dk_at dksX0_comes_5 8 rfl rfl)
theorem dX0_comes_130 : decode cX0_comes 130 = .ok (.iconst 0, 1) := dk_3 (dk_at dksX0_comes_5 11 rfl rfl)
theorem dX0_comes_131 : decode cX0_comes 131 = .ok (.istore 9, 2) := dk_54 9 (dk_at dksX0_comes_5 12 rfl rfl)
theorem dX0_comes_133 : decode cX0_comes 133 = .ok (.aload 5, 2) := dk_25 5 (dk_at dksX0_comes_5 14 rfl rfl)
theorem dX0_comes_135 : decode cX0_comes 135 = .ok (.iconst 0, 1) := dk_3 (dk_at dksX0_comes_5 16 rfl rfl)
theorem dX0_comes_136 : decode cX0_comes 136 = .ok (.invokevirtual 346, 3) := dk_182 1 90 (dk_at dksX0_comes_5 17 rfl rfl)
theorem dX0_comes_139 : decode cX0_comes 139 = .ok (.istore 10, 2) := dk_54 10 (dk_at dksX0_comes_5 20 rfl rfl)
theorem dX0_comes_141 : decode cX0_comes 141 = .ok (.iload 10, 2) := dk_21 10 (dk_at dksX0_comes_5 22 rfl rfl)
theorem dX0_comes_143 : decode cX0_comes 143 = .ok (.ifCond .lt 34, 3) := dk_155 0 34 (dk_at dksX0_comes_6 0 rfl rfl)
theorem dX0_comes_146 : decode cX0_comes 146 = .ok (.aload_n 0, 1) := dk_42 (dk_at dksX0_comes_6 3 rfl rfl)
theorem dX0_comes_147 : decode cX0_comes 147 = .ok (.getfield 31, 3) := dk_180 0 31 (dk_at dksX0_comes_6 4 rfl rfl)
theorem dX0_comes_150 : decode cX0_comes 150 = .ok (.iload 10, 2) := dk_21 10 (dk_at dksX0_comes_6 7 rfl rfl)
theorem dX0_comes_152 : decode cX0_comes 152 = .ok (.aaload, 1) := dk_50 (dk_at dksX0_comes_6 9 rfl rfl)
theorem dX0_comes_153 : decode cX0_comes 153 = .ok (.aload_n 0, 1) := dk_42 (dk_at dksX0_comes_6 10 rfl rfl)
theorem dX0_comes_154 : decode cX0_comes 154 = .ok (.getfield 101, 3) := dk_180 0 101 (dk_at dksX0_comes_6 11 rfl rfl)
theorem dX0_comes_157 : decode cX0_comes 157 = .ok (.iload 10, 2) := dk_21 10 (dk_at dksX0_comes_6 14 rfl rfl)
theorem dX0_comes_159 : decode cX0_comes 159 = .ok (.daload, 1) := dk_49 (dk_at dksX0_comes_6 16 rfl rfl)
theorem dX0_comes_160 : decode cX0_comes 160 = .ok (.putfield 209, 3) := dk_181 0 209 (dk_at dksX0_comes_6 17 rfl rfl)
theorem dX0_comes_163 : decode cX0_comes 163 = .ok (.aload 5, 2) := dk_25 5 (dk_at dksX0_comes_6 20 rfl rfl)
theorem dX0_comes_165 : decode cX0_comes 165 = .ok (.iload 10, 2) := dk_21 10 (dk_at dksX0_comes_6 22 rfl rfl)
theorem dX0_comes_167 : decode cX0_comes 167 = .ok (.iconst 1, 1) := dk_4 (dk_at dksX0_comes_7 0 rfl rfl)
theorem dX0_comes_168 : decode cX0_comes 168 = .ok (.iadd, 1) := dk_96 (dk_at dksX0_comes_7 1 rfl rfl)
theorem dX0_comes_169 : decode cX0_comes 169 = .ok (.invokevirtual 346, 3) := dk_182 1 90 (dk_at dksX0_comes_7 2 rfl rfl)
theorem dX0_comes_172 : decode cX0_comes 172 = .ok (.istore 10, 2) := dk_54 10 (dk_at dksX0_comes_7 5 rfl rfl)
theorem dX0_comes_174 : decode cX0_comes 174 = .ok (.goto (-33), 3) := dk_167 255 223 (dk_at dksX0_comes_7 7 rfl rfl)
theorem dX0_comes_177 : decode cX0_comes 177 = .ok (.iload 9, 2) := dk_21 9 (dk_at dksX0_comes_7 10 rfl rfl)
theorem dX0_comes_179 : decode cX0_comes 179 = .ok (.ireturn, 1) := dk_172 (dk_at dksX0_comes_7 12 rfl rfl)
theorem dX0_comes_180 : decode cX0_comes 180 = .ok (.astore 11, 2) := dk_58 11 (dk_at dksX0_comes_7 13 rfl rfl)
theorem dX0_comes_182 : decode cX0_comes 182 = .ok (.aload 5, 2) := dk_25 5 (dk_at dksX0_comes_7 15 rfl rfl)
theorem dX0_comes_184 : decode cX0_comes 184 = .ok (.iconst 0, 1) := dk_3 (dk_at dksX0_comes_7 17 rfl rfl)
theorem dX0_comes_185 : decode cX0_comes 185 = .ok (.invokevirtual 346, 3) := dk_182 1 90 (dk_at dksX0_comes_7 18 rfl rfl)
theorem dX0_comes_188 : decode cX0_comes 188 = .ok (.istore 12, 2) := dk_54 12 (dk_at dksX0_comes_7 21 rfl rfl)
theorem dX0_comes_190 : decode cX0_comes 190 = .ok (.iload 12, 2) := dk_21 12 (dk_at dksX0_comes_8 0 rfl rfl)
theorem dX0_comes_192 : decode cX0_comes 192 = .ok (.ifCond .lt 34, 3) := dk_155 0 34 (dk_at dksX0_comes_8 2 rfl rfl)
theorem dX0_comes_195 : decode cX0_comes 195 = .ok (.aload_n 0, 1) := dk_42 (dk_at dksX0_comes_8 5 rfl rfl)
theorem dX0_comes_196 : decode cX0_comes 196 = .ok (.getfield 31, 3) := dk_180 0 31 (dk_at dksX0_comes_8 6 rfl rfl)
theorem dX0_comes_199 : decode cX0_comes 199 = .ok (.iload 12, 2) := dk_21 12 (dk_at dksX0_comes_8 9 rfl rfl)
theorem dX0_comes_201 : decode cX0_comes 201 = .ok (.aaload, 1) := dk_50 (dk_at dksX0_comes_8 11 rfl rfl)
theorem dX0_comes_202 : decode cX0_comes 202 = .ok (.aload_n 0, 1) := dk_42 (dk_at dksX0_comes_8 12 rfl rfl)
theorem dX0_comes_203 : decode cX0_comes 203 = .ok (.getfield 101, 3) := dk_180 0 101 (dk_at dksX0_comes_8 13 rfl rfl)
theorem dX0_comes_206 : decode cX0_comes 206 = .ok (.iload 12, 2) := dk_21 12 (dk_at dksX0_comes_8 16 rfl rfl)
theorem dX0_comes_208 : decode cX0_comes 208 = .ok (.daload, 1) := dk_49 (dk_at dksX0_comes_8 18 rfl rfl)
theorem dX0_comes_209 : decode cX0_comes 209 = .ok (.putfield 209, 3) := dk_181 0 209 (dk_at dksX0_comes_8 19 rfl rfl)
theorem dX0_comes_212 : decode cX0_comes 212 = .ok (.aload 5, 2) := dk_25 5 (dk_at dksX0_comes_8 22 rfl rfl)
theorem dX0_comes_214 : decode cX0_comes 214 = .ok (.iload 12, 2) := dk_21 12 (dk_at dksX0_comes_9 0 rfl rfl)
theorem dX0_comes_216 : decode cX0_comes 216 = .ok (.iconst 1, 1) := dk_4 (dk_at dksX0_comes_9 2 rfl rfl)
theorem dX0_comes_217 : decode cX0_comes 217 = .ok (.iadd, 1) := dk_96 (dk_at dksX0_comes_9 3 rfl rfl)
theorem dX0_comes_218 : decode cX0_comes 218 = .ok (.invokevirtual 346, 3) := dk_182 1 90 (dk_at dksX0_comes_9 4 rfl rfl)
theorem dX0_comes_221 : decode cX0_comes 221 = .ok (.istore 12, 2) := dk_54 12 (dk_at dksX0_comes_9 7 rfl rfl)
theorem dX0_comes_223 : decode cX0_comes 223 = .ok (.goto (-33), 3) := dk_167 255 223 (dk_at dksX0_comes_9 9 rfl rfl)
theorem dX0_comes_226 : decode cX0_comes 226 = .ok (.aload 11, 2) := dk_25 11 (dk_at dksX0_comes_9 12 rfl rfl)
theorem dX0_comes_228 : decode cX0_comes 228 = .ok (.athrow, 1) := dk_191 (dk_at dksX0_comes_9 14 rfl rfl)
abbrev cX0_film : ByteArray := prog_1_method_55_code
def yX0_film : MethodName := ⟨RX0, "film", "(II)I"⟩
def dkwX0_film_4 : List UInt8 := [132, 5, 1, 167, 255, 207, 42, 180, 0, 121, 28, 50, 25, 4, 181, 1, 223, 25, 4, 190, 172]
abbrev dktX0_film_4 : List UInt8 := dkwX0_film_4 ++ []
def dkwX0_film_3 : List UInt8 := [153, 0, 9, 20, 1, 152, 167, 0, 15, 42, 180, 0, 47, 27, 50, 180, 0, 160, 21, 5, 49, 82]
abbrev dktX0_film_3 : List UInt8 := dkwX0_film_3 ++ dktX0_film_4
def dkwX0_film_2 : List UInt8 := [21, 5, 25, 4, 190, 162, 0, 47, 25, 4, 21, 5, 42, 180, 0, 47, 27, 50, 180, 0, 157, 21, 5, 51]
abbrev dktX0_film_2 : List UInt8 := dkwX0_film_2 ++ dktX0_film_3
def dkwX0_film_1 : List UInt8 := [45, 199, 0, 6, 16, 253, 172, 42, 45, 182, 2, 5, 45, 182, 0, 154, 188, 7, 58, 4, 3, 54, 5]
abbrev dktX0_film_1 : List UInt8 := dkwX0_film_1 ++ dktX0_film_2
def dkwX0_film_0 : List UInt8 := [27, 184, 1, 191, 153, 0, 10, 28, 184, 1, 220, 154, 0, 6, 16, 254, 172, 42, 180, 0, 37, 27, 50, 78]
abbrev dktX0_film_0 : List UInt8 := dkwX0_film_0 ++ dktX0_film_1
theorem dksX0_film_0 : cX0_film.data.toList.drop 0 = dktX0_film_0 := by decide +kernel
theorem dksX0_film_1 : cX0_film.data.toList.drop 24 = dktX0_film_1 := dk_seg dksX0_film_0 24 rfl rfl
theorem dksX0_film_2 : cX0_film.data.toList.drop 47 = dktX0_film_2 := dk_seg dksX0_film_1 23 rfl rfl
theorem dksX0_film_3 : cX0_film.data.toList.drop 71 = dktX0_film_3 := dk_seg dksX0_film_2 24 rfl rfl
theorem dksX0_film_4 : cX0_film.data.toList.drop 93 = dktX0_film_4 := dk_seg dksX0_film_3 22 rfl rfl
theorem dX0_film_0 : decode cX0_film 0 = .ok (.iload_n 1, 1) := dk_27 (dk_at dksX0_film_0 0 rfl rfl)
theorem dX0_film_1 : decode cX0_film 1 = .ok (.invokestatic 447, 3) := dk_184 1 191 (dk_at dksX0_film_0 1 rfl rfl)
theorem dX0_film_4 : decode cX0_film 4 = .ok (.ifCond .eq 10, 3) := dk_153 0 10 (dk_at dksX0_film_0 4 rfl rfl)
theorem dX0_film_7 : decode cX0_film 7 = .ok (.iload_n 2, 1) := dk_28 (dk_at dksX0_film_0 7 rfl rfl)
theorem dX0_film_8 : decode cX0_film 8 = .ok (.invokestatic 476, 3) := dk_184 1 220 (dk_at dksX0_film_0 8 rfl rfl)
theorem dX0_film_11 : decode cX0_film 11 = .ok (.ifCond .ne 6, 3) := dk_154 0 6 (dk_at dksX0_film_0 11 rfl rfl)
theorem dX0_film_14 : decode cX0_film 14 = .ok (.bipush (-2), 2) := dk_16 254 (dk_at dksX0_film_0 14 rfl rfl)
theorem dX0_film_16 : decode cX0_film 16 = .ok (.ireturn, 1) := dk_172 (dk_at dksX0_film_0 16 rfl rfl)
theorem dX0_film_17 : decode cX0_film 17 = .ok (.aload_n 0, 1) := dk_42 (dk_at dksX0_film_0 17 rfl rfl)
theorem dX0_film_18 : decode cX0_film 18 = .ok (.getfield 37, 3) := dk_180 0 37 (dk_at dksX0_film_0 18 rfl rfl)
theorem dX0_film_21 : decode cX0_film 21 = .ok (.iload_n 1, 1) := dk_27 (dk_at dksX0_film_0 21 rfl rfl)
theorem dX0_film_22 : decode cX0_film 22 = .ok (.aaload, 1) := dk_50 (dk_at dksX0_film_0 22 rfl rfl)
theorem dX0_film_23 : decode cX0_film 23 = .ok (.astore_n 3, 1) := dk_78 (dk_at dksX0_film_0 23 rfl rfl)
theorem dX0_film_24 : decode cX0_film 24 = .ok (.aload_n 3, 1) := dk_45 (dk_at dksX0_film_1 0 rfl rfl)
theorem dX0_film_25 : decode cX0_film 25 = .ok (.ifnonnull 6, 3) := dk_199 0 6 (dk_at dksX0_film_1 1 rfl rfl)
theorem dX0_film_28 : decode cX0_film 28 = .ok (.bipush (-3), 2) := dk_16 253 (dk_at dksX0_film_1 4 rfl rfl)
theorem dX0_film_30 : decode cX0_film 30 = .ok (.ireturn, 1) := dk_172 (dk_at dksX0_film_1 6 rfl rfl)
theorem dX0_film_31 : decode cX0_film 31 = .ok (.aload_n 0, 1) := dk_42 (dk_at dksX0_film_1 7 rfl rfl)
theorem dX0_film_32 : decode cX0_film 32 = .ok (.aload_n 3, 1) := dk_45 (dk_at dksX0_film_1 8 rfl rfl)
theorem dX0_film_33 : decode cX0_film 33 = .ok (.invokevirtual 517, 3) := dk_182 2 5 (dk_at dksX0_film_1 9 rfl rfl)
theorem dX0_film_36 : decode cX0_film 36 = .ok (.aload_n 3, 1) := dk_45 (dk_at dksX0_film_1 12 rfl rfl)
theorem dX0_film_37 : decode cX0_film 37 = .ok (.invokevirtual 154, 3) := dk_182 0 154 (dk_at dksX0_film_1 13 rfl rfl)
theorem dX0_film_40 : decode cX0_film 40 = .ok (.newarray .double, 2) := dk_188_7 (dk_at dksX0_film_1 16 rfl rfl)
theorem dX0_film_42 : decode cX0_film 42 = .ok (.astore 4, 2) := dk_58 4 (dk_at dksX0_film_1 18 rfl rfl)
theorem dX0_film_44 : decode cX0_film 44 = .ok (.iconst 0, 1) := dk_3 (dk_at dksX0_film_1 20 rfl rfl)
theorem dX0_film_45 : decode cX0_film 45 = .ok (.istore 5, 2) := dk_54 5 (dk_at dksX0_film_1 21 rfl rfl)
theorem dX0_film_47 : decode cX0_film 47 = .ok (.iload 5, 2) := dk_21 5 (dk_at dksX0_film_2 0 rfl rfl)
theorem dX0_film_49 : decode cX0_film 49 = .ok (.aload 4, 2) := dk_25 4 (dk_at dksX0_film_2 2 rfl rfl)
theorem dX0_film_51 : decode cX0_film 51 = .ok (.arraylength, 1) := dk_190 (dk_at dksX0_film_2 4 rfl rfl)
theorem dX0_film_52 : decode cX0_film 52 = .ok (.if_icmp .ge 47, 3) := dk_162 0 47 (dk_at dksX0_film_2 5 rfl rfl)
theorem dX0_film_55 : decode cX0_film 55 = .ok (.aload 4, 2) := dk_25 4 (dk_at dksX0_film_2 8 rfl rfl)
theorem dX0_film_57 : decode cX0_film 57 = .ok (.iload 5, 2) := dk_21 5 (dk_at dksX0_film_2 10 rfl rfl)
theorem dX0_film_59 : decode cX0_film 59 = .ok (.aload_n 0, 1) := dk_42 (dk_at dksX0_film_2 12 rfl rfl)
theorem dX0_film_60 : decode cX0_film 60 = .ok (.getfield 47, 3) := dk_180 0 47 (dk_at dksX0_film_2 13 rfl rfl)
theorem dX0_film_63 : decode cX0_film 63 = .ok (.iload_n 1, 1) := dk_27 (dk_at dksX0_film_2 16 rfl rfl)
theorem dX0_film_64 : decode cX0_film 64 = .ok (.aaload, 1) := dk_50 (dk_at dksX0_film_2 17 rfl rfl)
theorem dX0_film_65 : decode cX0_film 65 = .ok (.getfield 157, 3) := dk_180 0 157 (dk_at dksX0_film_2 18 rfl rfl)
theorem dX0_film_68 : decode cX0_film 68 = .ok (.iload 5, 2) := dk_21 5 (dk_at dksX0_film_2 21 rfl rfl)
theorem dX0_film_70 : decode cX0_film 70 = .ok (.baload, 1) := dk_51 (dk_at dksX0_film_2 23 rfl rfl)
theorem dX0_film_71 : decode cX0_film 71 = .ok (.ifCond .eq 9, 3) := dk_153 0 9 (dk_at dksX0_film_3 0 rfl rfl)
theorem dX0_film_74 : decode cX0_film 74 = .ok (.ldc2_w 408, 3) := dk_20 1 152 (dk_at dksX0_film_3 3 rfl rfl)
theorem dX0_film_77 : decode cX0_film 77 = .ok (.goto 15, 3) := dk_167 0 15 (dk_at dksX0_film_3 6 rfl rfl)
theorem dX0_film_80 : decode cX0_film 80 = .ok (.aload_n 0, 1) := dk_42 (dk_at dksX0_film_3 9 rfl rfl)
theorem dX0_film_81 : decode cX0_film 81 = .ok (.getfield 47, 3) := dk_180 0 47 (dk_at dksX0_film_3 10 rfl rfl)
theorem dX0_film_84 : decode cX0_film 84 = .ok (.iload_n 1, 1) := dk_27 (dk_at dksX0_film_3 13 rfl rfl)
theorem dX0_film_85 : decode cX0_film 85 = .ok (.aaload, 1) := dk_50 (dk_at dksX0_film_3 14 rfl rfl)
theorem dX0_film_86 : decode cX0_film 86 = .ok (.getfield 160, 3) := dk_180 0 160 (dk_at dksX0_film_3 15 rfl rfl)
theorem dX0_film_89 : decode cX0_film 89 = .ok (.iload 5, 2) := dk_21 5 (dk_at dksX0_film_3 18 rfl rfl)
theorem dX0_film_91 : decode cX0_film 91 = .ok (.daload, 1) := dk_49 (dk_at dksX0_film_3 20 rfl rfl)
theorem dX0_film_92 : decode cX0_film 92 = .ok (.dastore, 1) := dk_82 (dk_at dksX0_film_3 21 rfl rfl)
theorem dX0_film_93 : decode cX0_film 93 = .ok (.iinc 5 1, 3) := dk_132 5 1 (dk_at dksX0_film_4 0 rfl rfl)
theorem dX0_film_96 : decode cX0_film 96 = .ok (.goto (-49), 3) := dk_167 255 207 (dk_at dksX0_film_4 3 rfl rfl)
theorem dX0_film_99 : decode cX0_film 99 = .ok (.aload_n 0, 1) := dk_42 (dk_at dksX0_film_4 6 rfl rfl)
theorem dX0_film_100 : decode cX0_film 100 = .ok (.getfield 121, 3) := dk_180 0 121 (dk_at dksX0_film_4 7 rfl rfl)
theorem dX0_film_103 : decode cX0_film 103 = .ok (.iload_n 2, 1) := dk_28 (dk_at dksX0_film_4 10 rfl rfl)
theorem dX0_film_104 : decode cX0_film 104 = .ok (.aaload, 1) := dk_50 (dk_at dksX0_film_4 11 rfl rfl)
theorem dX0_film_105 : decode cX0_film 105 = .ok (.aload 4, 2) := dk_25 4 (dk_at dksX0_film_4 12 rfl rfl)
theorem dX0_film_107 : decode cX0_film 107 = .ok (.putfield 479, 3) := dk_181 1 223 (dk_at dksX0_film_4 14 rfl rfl)
theorem dX0_film_110 : decode cX0_film 110 = .ok (.aload 4, 2) := dk_25 4 (dk_at dksX0_film_4 17 rfl rfl)
theorem dX0_film_112 : decode cX0_film 112 = .ok (.arraylength, 1) := dk_190 (dk_at dksX0_film_4 19 rfl rfl)
theorem dX0_film_113 : decode cX0_film 113 = .ok (.ireturn, 1) := dk_172 (dk_at dksX0_film_4 20 rfl rfl)
abbrev cX0_tells : ByteArray := prog_1_method_59_code
def yX0_tells : MethodName := ⟨RX0, "tells", "(IIII)I"⟩
def dkwX0_tells_7 : List UInt8 := [182, 2, 58, 172]
abbrev dktX0_tells_7 : List UInt8 := dkwX0_tells_7 ++ []
def dkwX0_tells_6 : List UInt8 := [160, 0, 15, 42, 25, 5, 25, 6, 29, 182, 2, 54, 167, 0, 14, 42, 25, 5, 25, 6, 29, 21, 4]
abbrev dktX0_tells_6 : List UInt8 := dkwX0_tells_6 ++ dktX0_tells_7
def dkwX0_tells_5 : List UInt8 := [16, 254, 172, 21, 4, 154, 0, 14, 42, 25, 5, 25, 6, 182, 2, 48, 167, 0, 32, 21, 4, 4]
abbrev dktX0_tells_5 : List UInt8 := dkwX0_tells_5 ++ dktX0_tells_6
def dkwX0_tells_4 : List UInt8 := [192, 1, 227, 58, 6, 167, 0, 8, 58, 7, 16, 243, 172, 25, 6, 190, 25, 5, 182, 0, 154, 159, 0, 6]
abbrev dktX0_tells_4 : List UInt8 := dkwX0_tells_4 ++ dktX0_tells_5
def dkwX0_tells_3 : List UInt8 := [42, 180, 0, 121, 28, 50, 180, 1, 223, 199, 0, 6, 16, 245, 172, 42, 180, 0, 121, 28, 50, 180, 1, 223]
abbrev dktX0_tells_3 : List UInt8 := dkwX0_tells_3 ++ dktX0_tells_4
def dkwX0_tells_2 : List UInt8 := [198, 0, 21, 21, 4, 4, 164, 0, 18, 42, 180, 0, 31, 29, 50, 182, 0, 202, 154, 0, 6, 16, 253, 172]
abbrev dktX0_tells_2 : List UInt8 := dkwX0_tells_2 ++ dktX0_tells_3
def dkwX0_tells_1 : List UInt8 := [9, 20, 2, 52, 184, 0, 132, 154, 0, 6, 16, 254, 172, 42, 180, 0, 37, 27, 50, 58, 5, 25, 5]
abbrev dktX0_tells_1 : List UInt8 := dkwX0_tells_1 ++ dktX0_tells_2
def dkwX0_tells_0 : List UInt8 := [27, 184, 1, 191, 153, 0, 30, 28, 184, 1, 220, 153, 0, 23, 29, 184, 1, 133, 153, 0, 16, 21, 4, 133]
abbrev dktX0_tells_0 : List UInt8 := dkwX0_tells_0 ++ dktX0_tells_1
theorem dksX0_tells_0 : cX0_tells.data.toList.drop 0 = dktX0_tells_0 := by decide +kernel
theorem dksX0_tells_1 : cX0_tells.data.toList.drop 24 = dktX0_tells_1 := dk_seg dksX0_tells_0 24 rfl rfl
theorem dksX0_tells_2 : cX0_tells.data.toList.drop 47 = dktX0_tells_2 := dk_seg dksX0_tells_1 23 rfl rfl
theorem dksX0_tells_3 : cX0_tells.data.toList.drop 71 = dktX0_tells_3 := dk_seg dksX0_tells_2 24 rfl rfl
theorem dksX0_tells_4 : cX0_tells.data.toList.drop 95 = dktX0_tells_4 := dk_seg dksX0_tells_3 24 rfl rfl
theorem dksX0_tells_5 : cX0_tells.data.toList.drop 119 = dktX0_tells_5 := dk_seg dksX0_tells_4 24 rfl rfl
theorem dksX0_tells_6 : cX0_tells.data.toList.drop 141 = dktX0_tells_6 := dk_seg dksX0_tells_5 22 rfl rfl
theorem dksX0_tells_7 : cX0_tells.data.toList.drop 164 = dktX0_tells_7 := dk_seg dksX0_tells_6 23 rfl rfl
theorem dX0_tells_0 : decode cX0_tells 0 = .ok (.iload_n 1, 1) := dk_27 (dk_at dksX0_tells_0 0 rfl rfl)
theorem dX0_tells_1 : decode cX0_tells 1 = .ok (.invokestatic 447, 3) := dk_184 1 191 (dk_at dksX0_tells_0 1 rfl rfl)
theorem dX0_tells_4 : decode cX0_tells 4 = .ok (.ifCond .eq 30, 3) := dk_153 0 30 (dk_at dksX0_tells_0 4 rfl rfl)
theorem dX0_tells_7 : decode cX0_tells 7 = .ok (.iload_n 2, 1) := dk_28 (dk_at dksX0_tells_0 7 rfl rfl)
theorem dX0_tells_8 : decode cX0_tells 8 = .ok (.invokestatic 476, 3) := dk_184 1 220 (dk_at dksX0_tells_0 8 rfl rfl)
theorem dX0_tells_11 : decode cX0_tells 11 = .ok (.ifCond .eq 23, 3) := dk_153 0 23 (dk_at dksX0_tells_0 11 rfl rfl)
theorem dX0_tells_14 : decode cX0_tells 14 = .ok (.iload_n 3, 1) := dk_29 (dk_at dksX0_tells_0 14 rfl rfl)
theorem dX0_tells_15 : decode cX0_tells 15 = .ok (.invokestatic 389, 3) := dk_184 1 133 (dk_at dksX0_tells_0 15 rfl rfl)
theorem dX0_tells_18 : decode cX0_tells 18 = .ok (.ifCond .eq 16, 3) := dk_153 0 16 (dk_at dksX0_tells_0 18 rfl rfl)
theorem dX0_tells_21 : decode cX0_tells 21 = .ok (.iload 4, 2) := dk_21 4 (dk_at dksX0_tells_0 21 rfl rfl)
theorem dX0_tells_23 : decode cX0_tells 23 = .ok (.i2l, 1) := dk_133 (dk_at dksX0_tells_0 23 rfl rfl)
theorem dX0_tells_24 : decode cX0_tells 24 = .ok (.lconst 0, 1) := dk_9 (dk_at dksX0_tells_1 0 rfl rfl)
theorem dX0_tells_25 : decode cX0_tells 25 = .ok (.ldc2_w 564, 3) := dk_20 2 52 (dk_at dksX0_tells_1 1 rfl rfl)
theorem dX0_tells_28 : decode cX0_tells 28 = .ok (.invokestatic 132, 3) := dk_184 0 132 (dk_at dksX0_tells_1 4 rfl rfl)
theorem dX0_tells_31 : decode cX0_tells 31 = .ok (.ifCond .ne 6, 3) := dk_154 0 6 (dk_at dksX0_tells_1 7 rfl rfl)
theorem dX0_tells_34 : decode cX0_tells 34 = .ok (.bipush (-2), 2) := dk_16 254 (dk_at dksX0_tells_1 10 rfl rfl)
theorem dX0_tells_36 : decode cX0_tells 36 = .ok (.ireturn, 1) := dk_172 (dk_at dksX0_tells_1 12 rfl rfl)
theorem dX0_tells_37 : decode cX0_tells 37 = .ok (.aload_n 0, 1) := dk_42 (dk_at dksX0_tells_1 13 rfl rfl)
theorem dX0_tells_38 : decode cX0_tells 38 = .ok (.getfield 37, 3) := dk_180 0 37 (dk_at dksX0_tells_1 14 rfl rfl)
theorem dX0_tells_41 : decode cX0_tells 41 = .ok (.iload_n 1, 1) := dk_27 (dk_at dksX0_tells_1 17 rfl rfl)
theorem dX0_tells_42 : decode cX0_tells 42 = .ok (.aaload, 1) := dk_50 (dk_at dksX0_tells_1 18 rfl rfl)
theorem dX0_tells_43 : decode cX0_tells 43 = .ok (.astore 5, 2) := dk_58 5 (dk_at dksX0_tells_1 19 rfl rfl)
theorem dX0_tells_45 : decode cX0_tells 45 = .ok (.aload 5, 2) := dk_25 5 (dk_at dksX0_tells_1 21 rfl rfl)
theorem dX0_tells_47 : decode cX0_tells 47 = .ok (.ifnull 21, 3) := dk_198 0 21 (dk_at dksX0_tells_2 0 rfl rfl)
theorem dX0_tells_50 : decode cX0_tells 50 = .ok (.iload 4, 2) := dk_21 4 (dk_at dksX0_tells_2 3 rfl rfl)
theorem dX0_tells_52 : decode cX0_tells 52 = .ok (.iconst 1, 1) := dk_4 (dk_at dksX0_tells_2 5 rfl rfl)
theorem dX0_tells_53 : decode cX0_tells 53 = .ok (.if_icmp .le 18, 3) := dk_164 0 18 (dk_at dksX0_tells_2 6 rfl rfl)
theorem dX0_tells_56 : decode cX0_tells 56 = .ok (.aload_n 0, 1) := dk_42 (dk_at dksX0_tells_2 9 rfl rfl)
theorem dX0_tells_57 : decode cX0_tells 57 = .ok (.getfield 31, 3) := dk_180 0 31 (dk_at dksX0_tells_2 10 rfl rfl)
theorem dX0_tells_60 : decode cX0_tells 60 = .ok (.iload_n 3, 1) := dk_29 (dk_at dksX0_tells_2 13 rfl rfl)
theorem dX0_tells_61 : decode cX0_tells 61 = .ok (.aaload, 1) := dk_50 (dk_at dksX0_tells_2 14 rfl rfl)
theorem dX0_tells_62 : decode cX0_tells 62 = .ok (.invokevirtual 202, 3) := dk_182 0 202 (dk_at dksX0_tells_2 15 rfl rfl)
theorem dX0_tells_65 : decode cX0_tells 65 = .ok (.ifCond .ne 6, 3) := dk_154 0 6 (dk_at dksX0_tells_2 18 rfl rfl)
theorem dX0_tells_68 : decode cX0_tells 68 = .ok (.bipush (-3), 2) := dk_16 253 (dk_at dksX0_tells_2 21 rfl rfl)
theorem dX0_tells_70 : decode cX0_tells 70 = .ok (.ireturn, 1) := dk_172 (dk_at dksX0_tells_2 23 rfl rfl)
theorem dX0_tells_71 : decode cX0_tells 71 = .ok (.aload_n 0, 1) := dk_42 (dk_at dksX0_tells_3 0 rfl rfl)
theorem dX0_tells_72 : decode cX0_tells 72 = .ok (.getfield 121, 3) := dk_180 0 121 (dk_at dksX0_tells_3 1 rfl rfl)
theorem dX0_tells_75 : decode cX0_tells 75 = .ok (.iload_n 2, 1) := dk_28 (dk_at dksX0_tells_3 4 rfl rfl)
theorem dX0_tells_76 : decode cX0_tells 76 = .ok (.aaload, 1) := dk_50 (dk_at dksX0_tells_3 5 rfl rfl)
theorem dX0_tells_77 : decode cX0_tells 77 = .ok (.getfield 479, 3) := dk_180 1 223 (dk_at dksX0_tells_3 6 rfl rfl)
theorem dX0_tells_80 : decode cX0_tells 80 = .ok (.ifnonnull 6, 3) := dk_199 0 6 (dk_at dksX0_tells_3 9 rfl rfl)
theorem dX0_tells_83 : decode cX0_tells 83 = .ok (.bipush (-11), 2) := dk_16 245 (dk_at dksX0_tells_3 12 rfl rfl)
theorem dX0_tells_85 : decode cX0_tells 85 = .ok (.ireturn, 1) := dk_172 (dk_at dksX0_tells_3 14 rfl rfl)
theorem dX0_tells_86 : decode cX0_tells 86 = .ok (.aload_n 0, 1) := dk_42 (dk_at dksX0_tells_3 15 rfl rfl)
theorem dX0_tells_87 : decode cX0_tells 87 = .ok (.getfield 121, 3) := dk_180 0 121 (dk_at dksX0_tells_3 16 rfl rfl)
theorem dX0_tells_90 : decode cX0_tells 90 = .ok (.iload_n 2, 1) := dk_28 (dk_at dksX0_tells_3 19 rfl rfl)
theorem dX0_tells_91 : decode cX0_tells 91 = .ok (.aaload, 1) := dk_50 (dk_at dksX0_tells_3 20 rfl rfl)
theorem dX0_tells_92 : decode cX0_tells 92 = .ok (.getfield 479, 3) := dk_180 1 223 (dk_at dksX0_tells_3 21 rfl rfl)
theorem dX0_tells_95 : decode cX0_tells 95 = .ok (.checkcast 483, 3) := dk_192 1 227 (dk_at dksX0_tells_4 0 rfl rfl)
theorem dX0_tells_98 : decode cX0_tells 98 = .ok (.astore 6, 2) := dk_58 6 (dk_at dksX0_tells_4 3 rfl rfl)
theorem dX0_tells_100 : decode cX0_tells 100 = .ok (.goto 8, 3) := dk_167 0 8 (dk_at dksX0_tells_4 5 rfl rfl)
theorem dX0_tells_103 : decode cX0_tells 103 = .ok (.astore 7, 2) := dk_58 7 (dk_at dksX0_tells_4 8 rfl rfl)
theorem dX0_tells_105 : decode cX0_tells 105 = .ok (.bipush (-13), 2) := dk_16 243 (dk_at dksX0_tells_4 10 rfl rfl)
theorem dX0_tells_107 : decode cX0_tells 107 = .ok (.ireturn, 1) := dk_172 (dk_at dksX0_tells_4 12 rfl rfl)
theorem dX0_tells_108 : decode cX0_tells 108 = .ok (.aload 6, 2) := dk_25 6 (dk_at dksX0_tells_4 13 rfl rfl)
theorem dX0_tells_110 : decode cX0_tells 110 = .ok (.arraylength, 1) := dk_190 (dk_at dksX0_tells_4 15 rfl rfl)
theorem dX0_tells_111 : decode cX0_tells 111 = .ok (.aload 5, 2) := dk_25 5 (dk_at dksX0_tells_4 16 rfl rfl)
theorem dX0_tells_113 : decode cX0_tells 113 = .ok (.invokevirtual 154, 3) := dk_182 0 154 (dk_at dksX0_tells_4 18 rfl rfl)
theorem dX0_tells_116 : decode cX0_tells 116 = .ok (.if_icmp .eq 6, 3) := dk_159 0 6 (dk_at dksX0_tells_4 21 rfl rfl)
theorem dX0_tells_119 : decode cX0_tells 119 = .ok (.bipush (-2), 2) := dk_16 254 (dk_at dksX0_tells_5 0 rfl rfl)
theorem dX0_tells_121 : decode cX0_tells 121 = .ok (.ireturn, 1) := dk_172 (dk_at dksX0_tells_5 2 rfl rfl)
theorem dX0_tells_122 : decode cX0_tells 122 = .ok (.iload 4, 2) := dk_21 4 (dk_at dksX0_tells_5 3 rfl rfl)
theorem dX0_tells_124 : decode cX0_tells 124 = .ok (.ifCond .ne 14, 3) := dk_154 0 14 (dk_at dksX0_tells_5 5 rfl rfl)
theorem dX0_tells_127 : decode cX0_tells 127 = .ok (.aload_n 0, 1) := dk_42 (dk_at dksX0_tells_5 8 rfl rfl)
theorem dX0_tells_128 : decode cX0_tells 128 = .ok (.aload 5, 2) := dk_25 5 (dk_at dksX0_tells_5 9 rfl rfl)
theorem dX0_tells_130 : decode cX0_tells 130 = .ok (.aload 6, 2) := dk_25 6 (dk_at dksX0_tells_5 11 rfl rfl)
theorem dX0_tells_132 : decode cX0_tells 132 = .ok (.invokevirtual 560, 3) := dk_182 2 48 (dk_at dksX0_tells_5 13 rfl rfl)
theorem dX0_tells_135 : decode cX0_tells 135 = .ok (.goto 32, 3) := dk_167 0 32 (dk_at dksX0_tells_5 16 rfl rfl)
theorem dX0_tells_138 : decode cX0_tells 138 = .ok (.iload 4, 2) := dk_21 4 (dk_at dksX0_tells_5 19 rfl rfl)
theorem dX0_tells_140 : decode cX0_tells 140 = .ok (.iconst 1, 1) := dk_4 (dk_at dksX0_tells_5 21 rfl rfl)
theorem dX0_tells_141 : decode cX0_tells 141 = .ok (.if_icmp .ne 15, 3) := dk_160 0 15 (dk_at dksX0_tells_6 0 rfl rfl)
theorem dX0_tells_144 : decode cX0_tells 144 = .ok (.aload_n 0, 1) := dk_42 (dk_at dksX0_tells_6 3 rfl rfl)
theorem dX0_tells_145 : decode cX0_tells 145 = .ok (.aload 5, 2) := dk_25 5 (dk_at dksX0_tells_6 4 rfl rfl)
theorem dX0_tells_147 : decode cX0_tells 147 = .ok (.aload 6, 2) := dk_25 6 (dk_at dksX0_tells_6 6 rfl rfl)
theorem dX0_tells_149 : decode cX0_tells 149 = .ok (.iload_n 3, 1) := dk_29 (dk_at dksX0_tells_6 8 rfl rfl)
theorem dX0_tells_150 : decode cX0_tells 150 = .ok (.invokevirtual 566, 3) := dk_182 2 54 (dk_at dksX0_tells_6 9 rfl rfl)
theorem dX0_tells_153 : decode cX0_tells 153 = .ok (.goto 14, 3) := dk_167 0 14 (dk_at dksX0_tells_6 12 rfl rfl)
theorem dX0_tells_156 : decode cX0_tells 156 = .ok (.aload_n 0, 1) := dk_42 (dk_at dksX0_tells_6 15 rfl rfl)
theorem dX0_tells_157 : decode cX0_tells 157 = .ok (.aload 5, 2) := dk_25 5 (dk_at dksX0_tells_6 16 rfl rfl)
theorem dX0_tells_159 : decode cX0_tells 159 = .ok (.aload 6, 2) := dk_25 6 (dk_at dksX0_tells_6 18 rfl rfl)
theorem dX0_tells_161 : decode cX0_tells 161 = .ok (.iload_n 3, 1) := dk_29 (dk_at dksX0_tells_6 20 rfl rfl)
theorem dX0_tells_162 : decode cX0_tells 162 = .ok (.iload 4, 2) := dk_21 4 (dk_at dksX0_tells_6 21 rfl rfl)
theorem dX0_tells_164 : decode cX0_tells 164 = .ok (.invokevirtual 570, 3) := dk_182 2 58 (dk_at dksX0_tells_7 0 rfl rfl)
theorem dX0_tells_167 : decode cX0_tells 167 = .ok (.ireturn, 1) := dk_172 (dk_at dksX0_tells_7 3 rfl rfl)
abbrev cX0_first : ByteArray := prog_1_method_56_code
def yX0_first : MethodName := ⟨RX0, "first", "(LWhatIfSheet$Table;[D)I"⟩
def dkwX0_first_4 : List UInt8 := [2, 172]
abbrev dktX0_first_4 : List UInt8 := dkwX0_first_4 ++ []
def dkwX0_first_3 : List UInt8 := [154, 0, 7, 4, 167, 0, 4, 3, 54, 5, 21, 5, 154, 0, 6, 21, 4, 172, 132, 4, 1, 167, 255, 186]
abbrev dktX0_first_3 : List UInt8 := dkwX0_first_3 ++ dktX0_first_4
def dkwX0_first_2 : List UInt8 := [153, 0, 7, 4, 167, 0, 27, 3, 167, 0, 23, 44, 21, 4, 49, 45, 180, 0, 160, 21, 4, 49, 151]
abbrev dktX0_first_2 : List UInt8 := dkwX0_first_2 ++ dktX0_first_3
def dkwX0_first_1 : List UInt8 := [162, 0, 69, 45, 180, 0, 157, 21, 4, 51, 153, 0, 23, 44, 21, 4, 49, 44, 21, 4, 49, 151]
abbrev dktX0_first_1 : List UInt8 := dkwX0_first_1 ++ dktX0_first_2
def dkwX0_first_0 : List UInt8 := [42, 43, 182, 2, 5, 42, 180, 0, 47, 43, 180, 0, 151, 50, 78, 3, 54, 4, 21, 4, 44, 190]
abbrev dktX0_first_0 : List UInt8 := dkwX0_first_0 ++ dktX0_first_1
theorem dksX0_first_0 : cX0_first.data.toList.drop 0 = dktX0_first_0 := by decide +kernel
theorem dksX0_first_1 : cX0_first.data.toList.drop 22 = dktX0_first_1 := dk_seg dksX0_first_0 22 rfl rfl
theorem dksX0_first_2 : cX0_first.data.toList.drop 44 = dktX0_first_2 := dk_seg dksX0_first_1 22 rfl rfl
theorem dksX0_first_3 : cX0_first.data.toList.drop 67 = dktX0_first_3 := dk_seg dksX0_first_2 23 rfl rfl
theorem dksX0_first_4 : cX0_first.data.toList.drop 91 = dktX0_first_4 := dk_seg dksX0_first_3 24 rfl rfl
theorem dX0_first_0 : decode cX0_first 0 = .ok (.aload_n 0, 1) := dk_42 (dk_at dksX0_first_0 0 rfl rfl)
theorem dX0_first_1 : decode cX0_first 1 = .ok (.aload_n 1, 1) := dk_43 (dk_at dksX0_first_0 1 rfl rfl)
theorem dX0_first_2 : decode cX0_first 2 = .ok (.invokevirtual 517, 3) := dk_182 2 5 (dk_at dksX0_first_0 2 rfl rfl)
theorem dX0_first_5 : decode cX0_first 5 = .ok (.aload_n 0, 1) := dk_42 (dk_at dksX0_first_0 5 rfl rfl)
theorem dX0_first_6 : decode cX0_first 6 = .ok (.getfield 47, 3) := dk_180 0 47 (dk_at dksX0_first_0 6 rfl rfl)
theorem dX0_first_9 : decode cX0_first 9 = .ok (.aload_n 1, 1) := dk_43 (dk_at dksX0_first_0 9 rfl rfl)
theorem dX0_first_10 : decode cX0_first 10 = .ok (.getfield 151, 3) := dk_180 0 151 (dk_at dksX0_first_0 10 rfl rfl)
theorem dX0_first_13 : decode cX0_first 13 = .ok (.aaload, 1) := dk_50 (dk_at dksX0_first_0 13 rfl rfl)
theorem dX0_first_14 : decode cX0_first 14 = .ok (.astore_n 3, 1) := dk_78 (dk_at dksX0_first_0 14 rfl rfl)
theorem dX0_first_15 : decode cX0_first 15 = .ok (.iconst 0, 1) := dk_3 (dk_at dksX0_first_0 15 rfl rfl)
theorem dX0_first_16 : decode cX0_first 16 = .ok (.istore 4, 2) := dk_54 4 (dk_at dksX0_first_0 16 rfl rfl)
theorem dX0_first_18 : decode cX0_first 18 = .ok (.iload 4, 2) := dk_21 4 (dk_at dksX0_first_0 18 rfl rfl)
theorem dX0_first_20 : decode cX0_first 20 = .ok (.aload_n 2, 1) := dk_44 (dk_at dksX0_first_0 20 rfl rfl)
theorem dX0_first_21 : decode cX0_first 21 = .ok (.arraylength, 1) := dk_190 (dk_at dksX0_first_0 21 rfl rfl)
theorem dX0_first_22 : decode cX0_first 22 = .ok (.if_icmp .ge 69, 3) := dk_162 0 69 (dk_at dksX0_first_1 0 rfl rfl)
theorem dX0_first_25 : decode cX0_first 25 = .ok (.aload_n 3, 1) := dk_45 (dk_at dksX0_first_1 3 rfl rfl)
theorem dX0_first_26 : decode cX0_first 26 = .ok (.getfield 157, 3) := dk_180 0 157 (dk_at dksX0_first_1 4 rfl rfl)
theorem dX0_first_29 : decode cX0_first 29 = .ok (.iload 4, 2) := dk_21 4 (dk_at dksX0_first_1 7 rfl rfl)
theorem dX0_first_31 : decode cX0_first 31 = .ok (.baload, 1) := dk_51 (dk_at dksX0_first_1 9 rfl rfl)
theorem dX0_first_32 : decode cX0_first 32 = .ok (.ifCond .eq 23, 3) := dk_153 0 23 (dk_at dksX0_first_1 10 rfl rfl)
theorem dX0_first_35 : decode cX0_first 35 = .ok (.aload_n 2, 1) := dk_44 (dk_at dksX0_first_1 13 rfl rfl)
theorem dX0_first_36 : decode cX0_first 36 = .ok (.iload 4, 2) := dk_21 4 (dk_at dksX0_first_1 14 rfl rfl)
theorem dX0_first_38 : decode cX0_first 38 = .ok (.daload, 1) := dk_49 (dk_at dksX0_first_1 16 rfl rfl)
theorem dX0_first_39 : decode cX0_first 39 = .ok (.aload_n 2, 1) := dk_44 (dk_at dksX0_first_1 17 rfl rfl)
theorem dX0_first_40 : decode cX0_first 40 = .ok (.iload 4, 2) := dk_21 4 (dk_at dksX0_first_1 18 rfl rfl)
theorem dX0_first_42 : decode cX0_first 42 = .ok (.daload, 1) := dk_49 (dk_at dksX0_first_1 20 rfl rfl)
theorem dX0_first_43 : decode cX0_first 43 = .ok (.dcmp .l, 1) := dk_151 (dk_at dksX0_first_1 21 rfl rfl)
theorem dX0_first_44 : decode cX0_first 44 = .ok (.ifCond .eq 7, 3) := dk_153 0 7 (dk_at dksX0_first_2 0 rfl rfl)
theorem dX0_first_47 : decode cX0_first 47 = .ok (.iconst 1, 1) := dk_4 (dk_at dksX0_first_2 3 rfl rfl)
theorem dX0_first_48 : decode cX0_first 48 = .ok (.goto 27, 3) := dk_167 0 27 (dk_at dksX0_first_2 4 rfl rfl)
theorem dX0_first_51 : decode cX0_first 51 = .ok (.iconst 0, 1) := dk_3 (dk_at dksX0_first_2 7 rfl rfl)
theorem dX0_first_52 : decode cX0_first 52 = .ok (.goto 23, 3) := dk_167 0 23 (dk_at dksX0_first_2 8 rfl rfl)
theorem dX0_first_55 : decode cX0_first 55 = .ok (.aload_n 2, 1) := dk_44 (dk_at dksX0_first_2 11 rfl rfl)
theorem dX0_first_56 : decode cX0_first 56 = .ok (.iload 4, 2) := dk_21 4 (dk_at dksX0_first_2 12 rfl rfl)
theorem dX0_first_58 : decode cX0_first 58 = .ok (.daload, 1) := dk_49 (dk_at dksX0_first_2 14 rfl rfl)
theorem dX0_first_59 : decode cX0_first 59 = .ok (.aload_n 3, 1) := dk_45 (dk_at dksX0_first_2 15 rfl rfl)
theorem dX0_first_60 : decode cX0_first 60 = .ok (.getfield 160, 3) := dk_180 0 160 (dk_at dksX0_first_2 16 rfl rfl)
theorem dX0_first_63 : decode cX0_first 63 = .ok (.iload 4, 2) := dk_21 4 (dk_at dksX0_first_2 19 rfl rfl)
theorem dX0_first_65 : decode cX0_first 65 = .ok (.daload, 1) := dk_49 (dk_at dksX0_first_2 21 rfl rfl)
theorem dX0_first_66 : decode cX0_first 66 = .ok (.dcmp .l, 1) := dk_151 (dk_at dksX0_first_2 22 rfl rfl)
theorem dX0_first_67 : decode cX0_first 67 = .ok (.ifCond .ne 7, 3) := dk_154 0 7 (dk_at dksX0_first_3 0 rfl rfl)
theorem dX0_first_70 : decode cX0_first 70 = .ok (.iconst 1, 1) := dk_4 (dk_at dksX0_first_3 3 rfl rfl)
theorem dX0_first_71 : decode cX0_first 71 = .ok (.goto 4, 3) := dk_167 0 4 (dk_at dksX0_first_3 4 rfl rfl)
theorem dX0_first_74 : decode cX0_first 74 = .ok (.iconst 0, 1) := dk_3 (dk_at dksX0_first_3 7 rfl rfl)
theorem dX0_first_75 : decode cX0_first 75 = .ok (.istore 5, 2) := dk_54 5 (dk_at dksX0_first_3 8 rfl rfl)
theorem dX0_first_77 : decode cX0_first 77 = .ok (.iload 5, 2) := dk_21 5 (dk_at dksX0_first_3 10 rfl rfl)
theorem dX0_first_79 : decode cX0_first 79 = .ok (.ifCond .ne 6, 3) := dk_154 0 6 (dk_at dksX0_first_3 12 rfl rfl)
theorem dX0_first_82 : decode cX0_first 82 = .ok (.iload 4, 2) := dk_21 4 (dk_at dksX0_first_3 15 rfl rfl)
theorem dX0_first_84 : decode cX0_first 84 = .ok (.ireturn, 1) := dk_172 (dk_at dksX0_first_3 17 rfl rfl)
theorem dX0_first_85 : decode cX0_first 85 = .ok (.iinc 4 1, 3) := dk_132 4 1 (dk_at dksX0_first_3 18 rfl rfl)
theorem dX0_first_88 : decode cX0_first 88 = .ok (.goto (-70), 3) := dk_167 255 186 (dk_at dksX0_first_3 21 rfl rfl)
theorem dX0_first_91 : decode cX0_first 91 = .ok (.iconst (-1), 1) := dk_2 (dk_at dksX0_first_4 0 rfl rfl)
theorem dX0_first_92 : decode cX0_first 92 = .ok (.ireturn, 1) := dk_172 (dk_at dksX0_first_4 1 rfl rfl)
abbrev cX0_kindsOf : ByteArray := prog_1_method_57_code
def yX0_kindsOf : MethodName := ⟨RX0, "kindsOf", "(LWhatIfSheet$Table;[DI)I"⟩
def dkwX0_kindsOf_3 : List UInt8 := [25, 4, 83, 167, 0, 16, 58, 7, 42, 180, 0, 31, 29, 25, 4, 83, 25, 7, 191, 21, 5, 172]
abbrev dktX0_kindsOf_3 : List UInt8 := dkwX0_kindsOf_3 ++ []
def dkwX0_kindsOf_2 : List UInt8 := [160, 0, 12, 21, 5, 4, 21, 6, 120, 128, 54, 5, 132, 6, 1, 167, 255, 210, 42, 180, 0, 31, 29]
abbrev dktX0_kindsOf_2 : List UInt8 := dkwX0_kindsOf_2 ++ dktX0_kindsOf_3
def dkwX0_kindsOf_1 : List UInt8 := [180, 0, 31, 29, 29, 21, 6, 184, 1, 163, 25, 4, 182, 1, 167, 83, 42, 43, 44, 182, 2, 48, 2]
abbrev dktX0_kindsOf_1 : List UInt8 := dkwX0_kindsOf_1 ++ dktX0_kindsOf_2
def dkwX0_kindsOf_0 : List UInt8 := [42, 180, 0, 31, 29, 50, 58, 4, 3, 54, 5, 3, 54, 6, 21, 6, 16, 6, 162, 0, 45, 42]
abbrev dktX0_kindsOf_0 : List UInt8 := dkwX0_kindsOf_0 ++ dktX0_kindsOf_1
theorem dksX0_kindsOf_0 : cX0_kindsOf.data.toList.drop 0 = dktX0_kindsOf_0 := by decide +kernel
theorem dksX0_kindsOf_1 : cX0_kindsOf.data.toList.drop 22 = dktX0_kindsOf_1 := dk_seg dksX0_kindsOf_0 22 rfl rfl
theorem dksX0_kindsOf_2 : cX0_kindsOf.data.toList.drop 45 = dktX0_kindsOf_2 := dk_seg dksX0_kindsOf_1 23 rfl rfl
theorem dksX0_kindsOf_3 : cX0_kindsOf.data.toList.drop 68 = dktX0_kindsOf_3 := dk_seg dksX0_kindsOf_2 23 rfl rfl
theorem dX0_kindsOf_0 : decode cX0_kindsOf 0 = .ok (.aload_n 0, 1) := dk_42 (dk_at dksX0_kindsOf_0 0 rfl rfl)
theorem dX0_kindsOf_1 : decode cX0_kindsOf 1 = .ok (.getfield 31, 3) := dk_180 0 31 (dk_at dksX0_kindsOf_0 1 rfl rfl)
theorem dX0_kindsOf_4 : decode cX0_kindsOf 4 = .ok (.iload_n 3, 1) := dk_29 (dk_at dksX0_kindsOf_0 4 rfl rfl)
theorem dX0_kindsOf_5 : decode cX0_kindsOf 5 = .ok (.aaload, 1) := dk_50 (dk_at dksX0_kindsOf_0 5 rfl rfl)
theorem dX0_kindsOf_6 : decode cX0_kindsOf 6 = .ok (.astore 4, 2) := dk_58 4 (dk_at dksX0_kindsOf_0 6 rfl rfl)
theorem dX0_kindsOf_8 : decode cX0_kindsOf 8 = .ok (.iconst 0, 1) := dk_3 (dk_at dksX0_kindsOf_0 8 rfl rfl)
theorem dX0_kindsOf_9 : decode cX0_kindsOf 9 = .ok (.istore 5, 2) := dk_54 5 (dk_at dksX0_kindsOf_0 9 rfl rfl)
theorem dX0_kindsOf_11 : decode cX0_kindsOf 11 = .ok (.iconst 0, 1) := dk_3 (dk_at dksX0_kindsOf_0 11 rfl rfl)
theorem dX0_kindsOf_12 : decode cX0_kindsOf 12 = .ok (.istore 6, 2) := dk_54 6 (dk_at dksX0_kindsOf_0 12 rfl rfl)
theorem dX0_kindsOf_14 : decode cX0_kindsOf 14 = .ok (.iload 6, 2) := dk_21 6 (dk_at dksX0_kindsOf_0 14 rfl rfl)
theorem dX0_kindsOf_16 : decode cX0_kindsOf 16 = .ok (.bipush 6, 2) := dk_16 6 (dk_at dksX0_kindsOf_0 16 rfl rfl)
theorem dX0_kindsOf_18 : decode cX0_kindsOf 18 = .ok (.if_icmp .ge 45, 3) := dk_162 0 45 (dk_at dksX0_kindsOf_0 18 rfl rfl)
theorem dX0_kindsOf_21 : decode cX0_kindsOf 21 = .ok (.aload_n 0, 1) := dk_42 (dk_at dksX0_kindsOf_0 21 rfl rfl)
theorem dX0_kindsOf_22 : decode cX0_kindsOf 22 = .ok (.getfield 31, 3) := dk_180 0 31 (dk_at dksX0_kindsOf_1 0 rfl rfl)
theorem dX0_kindsOf_25 : decode cX0_kindsOf 25 = .ok (.iload_n 3, 1) := dk_29 (dk_at dksX0_kindsOf_1 3 rfl rfl)
theorem dX0_kindsOf_26 : decode cX0_kindsOf 26 = .ok (.iload_n 3, 1) := dk_29 (dk_at dksX0_kindsOf_1 4 rfl rfl)
theorem dX0_kindsOf_27 : decode cX0_kindsOf 27 = .ok (.iload 6, 2) := dk_21 6 (dk_at dksX0_kindsOf_1 5 rfl rfl)
theorem dX0_kindsOf_29 : decode cX0_kindsOf 29 = .ok (.invokestatic 419, 3) := dk_184 1 163 (dk_at dksX0_kindsOf_1 7 rfl rfl)
theorem dX0_kindsOf_32 : decode cX0_kindsOf 32 = .ok (.aload 4, 2) := dk_25 4 (dk_at dksX0_kindsOf_1 10 rfl rfl)
theorem dX0_kindsOf_34 : decode cX0_kindsOf 34 = .ok (.invokevirtual 423, 3) := dk_182 1 167 (dk_at dksX0_kindsOf_1 12 rfl rfl)
theorem dX0_kindsOf_37 : decode cX0_kindsOf 37 = .ok (.aastore, 1) := dk_83 (dk_at dksX0_kindsOf_1 15 rfl rfl)
theorem dX0_kindsOf_38 : decode cX0_kindsOf 38 = .ok (.aload_n 0, 1) := dk_42 (dk_at dksX0_kindsOf_1 16 rfl rfl)
theorem dX0_kindsOf_39 : decode cX0_kindsOf 39 = .ok (.aload_n 1, 1) := dk_43 (dk_at dksX0_kindsOf_1 17 rfl rfl)
theorem dX0_kindsOf_40 : decode cX0_kindsOf 40 = .ok (.aload_n 2, 1) := dk_44 (dk_at dksX0_kindsOf_1 18 rfl rfl)
theorem dX0_kindsOf_41 : decode cX0_kindsOf 41 = .ok (.invokevirtual 560, 3) := dk_182 2 48 (dk_at dksX0_kindsOf_1 19 rfl rfl)
theorem dX0_kindsOf_44 : decode cX0_kindsOf 44 = .ok (.iconst (-1), 1) := dk_2 (dk_at dksX0_kindsOf_1 22 rfl rfl)
theorem dX0_kindsOf_45 : decode cX0_kindsOf 45 = .ok (.if_icmp .ne 12, 3) := dk_160 0 12 (dk_at dksX0_kindsOf_2 0 rfl rfl)
theorem dX0_kindsOf_48 : decode cX0_kindsOf 48 = .ok (.iload 5, 2) := dk_21 5 (dk_at dksX0_kindsOf_2 3 rfl rfl)
theorem dX0_kindsOf_50 : decode cX0_kindsOf 50 = .ok (.iconst 1, 1) := dk_4 (dk_at dksX0_kindsOf_2 5 rfl rfl)
theorem dX0_kindsOf_51 : decode cX0_kindsOf 51 = .ok (.iload 6, 2) := dk_21 6 (dk_at dksX0_kindsOf_2 6 rfl rfl)
theorem dX0_kindsOf_53 : decode cX0_kindsOf 53 = .ok (.ishl, 1) := dk_120 (dk_at dksX0_kindsOf_2 8 rfl rfl)
theorem dX0_kindsOf_54 : decode cX0_kindsOf 54 = .ok (.ior, 1) := dk_128 (dk_at dksX0_kindsOf_2 9 rfl rfl)
theorem dX0_kindsOf_55 : decode cX0_kindsOf 55 = .ok (.istore 5, 2) := dk_54 5 (dk_at dksX0_kindsOf_2 10 rfl rfl)
theorem dX0_kindsOf_57 : decode cX0_kindsOf 57 = .ok (.iinc 6 1, 3) := dk_132 6 1 (dk_at dksX0_kindsOf_2 12 rfl rfl)
theorem dX0_kindsOf_60 : decode cX0_kindsOf 60 = .ok (.goto (-46), 3) := dk_167 255 210 (dk_at dksX0_kindsOf_2 15 rfl rfl)
theorem dX0_kindsOf_63 : decode cX0_kindsOf 63 = .ok (.aload_n 0, 1) := dk_42 (dk_at dksX0_kindsOf_2 18 rfl rfl)
theorem dX0_kindsOf_64 : decode cX0_kindsOf 64 = .ok (.getfield 31, 3) := dk_180 0 31 (dk_at dksX0_kindsOf_2 19 rfl rfl)
theorem dX0_kindsOf_67 : decode cX0_kindsOf 67 = .ok (.iload_n 3, 1) := dk_29 (dk_at dksX0_kindsOf_2 22 rfl rfl)
theorem dX0_kindsOf_68 : decode cX0_kindsOf 68 = .ok (.aload 4, 2) := dk_25 4 (dk_at dksX0_kindsOf_3 0 rfl rfl)
theorem dX0_kindsOf_70 : decode cX0_kindsOf 70 = .ok (.aastore, 1) := dk_83 (dk_at dksX0_kindsOf_3 2 rfl rfl)
theorem dX0_kindsOf_71 : decode cX0_kindsOf 71 = .ok (.goto 16, 3) := dk_167 0 16 (dk_at dksX0_kindsOf_3 3 rfl rfl)
theorem dX0_kindsOf_74 : decode cX0_kindsOf 74 = .ok (.astore 7, 2) := dk_58 7 (dk_at dksX0_kindsOf_3 6 rfl rfl)
theorem dX0_kindsOf_76 : decode cX0_kindsOf 76 = .ok (.aload_n 0, 1) := dk_42 (dk_at dksX0_kindsOf_3 8 rfl rfl)
theorem dX0_kindsOf_77 : decode cX0_kindsOf 77 = .ok (.getfield 31, 3) := dk_180 0 31 (dk_at dksX0_kindsOf_3 9 rfl rfl)
theorem dX0_kindsOf_80 : decode cX0_kindsOf 80 = .ok (.iload_n 3, 1) := dk_29 (dk_at dksX0_kindsOf_3 12 rfl rfl)
theorem dX0_kindsOf_81 : decode cX0_kindsOf 81 = .ok (.aload 4, 2) := dk_25 4 (dk_at dksX0_kindsOf_3 13 rfl rfl)
theorem dX0_kindsOf_83 : decode cX0_kindsOf 83 = .ok (.aastore, 1) := dk_83 (dk_at dksX0_kindsOf_3 15 rfl rfl)
theorem dX0_kindsOf_84 : decode cX0_kindsOf 84 = .ok (.aload 7, 2) := dk_25 7 (dk_at dksX0_kindsOf_3 16 rfl rfl)
theorem dX0_kindsOf_86 : decode cX0_kindsOf 86 = .ok (.athrow, 1) := dk_191 (dk_at dksX0_kindsOf_3 18 rfl rfl)
theorem dX0_kindsOf_87 : decode cX0_kindsOf 87 = .ok (.iload 5, 2) := dk_21 5 (dk_at dksX0_kindsOf_3 19 rfl rfl)
theorem dX0_kindsOf_89 : decode cX0_kindsOf 89 = .ok (.ireturn, 1) := dk_172 (dk_at dksX0_kindsOf_3 21 rfl rfl)
abbrev cX0_numbersOf : ByteArray := prog_1_method_58_code
def yX0_numbersOf : MethodName := ⟨RX0, "numbersOf", "(LWhatIfSheet$Table;[DII)I"⟩
def dkwX0_numbersOf_4 : List UInt8 := [181, 0, 209, 25, 11, 191, 21, 4, 5, 160, 0, 8, 21, 8, 167, 0, 5, 21, 9, 172]
abbrev dktX0_numbersOf_4 : List UInt8 := dkwX0_numbersOf_4 ++ []
def dkwX0_numbersOf_3 : List UInt8 := [132, 10, 255, 167, 255, 209, 25, 5, 24, 6, 181, 0, 209, 167, 0, 15, 58, 11, 25, 5, 24, 6]
abbrev dktX0_numbersOf_3 : List UInt8 := dkwX0_numbersOf_3 ++ dktX0_numbersOf_4
def dkwX0_numbersOf_2 : List UInt8 := [44, 182, 2, 48, 2, 159, 0, 6, 167, 0, 14, 132, 8, 1, 17, 3, 232, 21, 10, 96, 54, 9]
abbrev dktX0_numbersOf_2 : List UInt8 := dkwX0_numbersOf_2 ++ dktX0_numbersOf_3
def dkwX0_numbersOf_1 : List UInt8 := [54, 10, 21, 10, 16, 236, 161, 0, 46, 25, 5, 25, 5, 21, 10, 135, 182, 0, 253, 181, 0, 209, 42, 43]
abbrev dktX0_numbersOf_1 : List UInt8 := dkwX0_numbersOf_1 ++ dktX0_numbersOf_2
def dkwX0_numbersOf_0 : List UInt8 := [42, 180, 0, 31, 29, 50, 58, 5, 25, 5, 180, 0, 209, 57, 6, 3, 54, 8, 2, 54, 9, 16, 20]
abbrev dktX0_numbersOf_0 : List UInt8 := dkwX0_numbersOf_0 ++ dktX0_numbersOf_1
theorem dksX0_numbersOf_0 : cX0_numbersOf.data.toList.drop 0 = dktX0_numbersOf_0 := by decide +kernel
theorem dksX0_numbersOf_1 : cX0_numbersOf.data.toList.drop 23 = dktX0_numbersOf_1 := dk_seg dksX0_numbersOf_0 23 rfl rfl
theorem dksX0_numbersOf_2 : cX0_numbersOf.data.toList.drop 47 = dktX0_numbersOf_2 := dk_seg dksX0_numbersOf_1 24 rfl rfl
theorem dksX0_numbersOf_3 : cX0_numbersOf.data.toList.drop 69 = dktX0_numbersOf_3 := dk_seg dksX0_numbersOf_2 22 rfl rfl
theorem dksX0_numbersOf_4 : cX0_numbersOf.data.toList.drop 91 = dktX0_numbersOf_4 := dk_seg dksX0_numbersOf_3 22 rfl rfl
theorem dX0_numbersOf_0 : decode cX0_numbersOf 0 = .ok (.aload_n 0, 1) := dk_42 (dk_at dksX0_numbersOf_0 0 rfl rfl)
theorem dX0_numbersOf_1 : decode cX0_numbersOf 1 = .ok (.getfield 31, 3) := dk_180 0 31 (dk_at dksX0_numbersOf_0 1 rfl rfl)
theorem dX0_numbersOf_4 : decode cX0_numbersOf 4 = .ok (.iload_n 3, 1) := dk_29 (dk_at dksX0_numbersOf_0 4 rfl rfl)
theorem dX0_numbersOf_5 : decode cX0_numbersOf 5 = .ok (.aaload, 1) := dk_50 (dk_at dksX0_numbersOf_0 5 rfl rfl)
theorem dX0_numbersOf_6 : decode cX0_numbersOf 6 = .ok (.astore 5, 2) := dk_58 5 (dk_at dksX0_numbersOf_0 6 rfl rfl)
theorem dX0_numbersOf_8 : decode cX0_numbersOf 8 = .ok (.aload 5, 2) := dk_25 5 (dk_at dksX0_numbersOf_0 8 rfl rfl)
theorem dX0_numbersOf_10 : decode cX0_numbersOf 10 = .ok (.getfield 209, 3) := dk_180 0 209 (dk_at dksX0_numbersOf_0 10 rfl rfl)
theorem dX0_numbersOf_13 : decode cX0_numbersOf 13 = .ok (.dstore 6, 2) := dk_57 6 (dk_at dksX0_numbersOf_0 13 rfl rfl)
theorem dX0_numbersOf_15 : decode cX0_numbersOf 15 = .ok (.iconst 0, 1) := dk_3 (dk_at dksX0_numbersOf_0 15 rfl rfl)
theorem dX0_numbersOf_16 : decode cX0_numbersOf 16 = .ok (.istore 8, 2) := dk_54 8 (dk_at dksX0_numbersOf_0 16 rfl rfl)
theorem dX0_numbersOf_18 : decode cX0_numbersOf 18 = .ok (.iconst (-1), 1) := dk_2 (dk_at dksX0_numbersOf_0 18 rfl rfl)
theorem dX0_numbersOf_19 : decode cX0_numbersOf 19 = .ok (.istore 9, 2) := dk_54 9 (dk_at dksX0_numbersOf_0 19 rfl rfl)
theorem dX0_numbersOf_21 : decode cX0_numbersOf 21 = .ok (.bipush 20, 2) := dk_16 20 (dk_at dksX0_numbersOf_0 21 rfl rfl)
theorem dX0_numbersOf_23 : decode cX0_numbersOf 23 = .ok (.istore 10, 2) := dk_54 10 (dk_at dksX0_numbersOf_1 0 rfl rfl)
theorem dX0_numbersOf_25 : decode cX0_numbersOf 25 = .ok (.iload 10, 2) := dk_21 10 (dk_at dksX0_numbersOf_1 2 rfl rfl)
theorem dX0_numbersOf_27 : decode cX0_numbersOf 27 = .ok (.bipush (-20), 2) := dk_16 236 (dk_at dksX0_numbersOf_1 4 rfl rfl)
theorem dX0_numbersOf_29 : decode cX0_numbersOf 29 = .ok (.if_icmp .lt 46, 3) := dk_161 0 46 (dk_at dksX0_numbersOf_1 6 rfl rfl)
theorem dX0_numbersOf_32 : decode cX0_numbersOf 32 = .ok (.aload 5, 2) := dk_25 5 (dk_at dksX0_numbersOf_1 9 rfl rfl)
theorem dX0_numbersOf_34 : decode cX0_numbersOf 34 = .ok (.aload 5, 2) := dk_25 5 (dk_at dksX0_numbersOf_1 11 rfl rfl)
theorem dX0_numbersOf_36 : decode cX0_numbersOf 36 = .ok (.iload 10, 2) := dk_21 10 (dk_at dksX0_numbersOf_1 13 rfl rfl)
theorem dX0_numbersOf_38 : decode cX0_numbersOf 38 = .ok (.i2d, 1) := dk_135 (dk_at dksX0_numbersOf_1 15 rfl rfl)
theorem dX0_numbersOf_39 : decode cX0_numbersOf 39 = .ok (.invokevirtual 253, 3) := dk_182 0 253 (dk_at dksX0_numbersOf_1 16 rfl rfl)
theorem dX0_numbersOf_42 : decode cX0_numbersOf 42 = .ok (.putfield 209, 3) := dk_181 0 209 (dk_at dksX0_numbersOf_1 19 rfl rfl)
theorem dX0_numbersOf_45 : decode cX0_numbersOf 45 = .ok (.aload_n 0, 1) := dk_42 (dk_at dksX0_numbersOf_1 22 rfl rfl)
theorem dX0_numbersOf_46 : decode cX0_numbersOf 46 = .ok (.aload_n 1, 1) := dk_43 (dk_at dksX0_numbersOf_1 23 rfl rfl)
theorem dX0_numbersOf_47 : decode cX0_numbersOf 47 = .ok (.aload_n 2, 1) := dk_44 (dk_at dksX0_numbersOf_2 0 rfl rfl)
theorem dX0_numbersOf_48 : decode cX0_numbersOf 48 = .ok (.invokevirtual 560, 3) := dk_182 2 48 (dk_at dksX0_numbersOf_2 1 rfl rfl)
theorem dX0_numbersOf_51 : decode cX0_numbersOf 51 = .ok (.iconst (-1), 1) := dk_2 (dk_at dksX0_numbersOf_2 4 rfl rfl)
theorem dX0_numbersOf_52 : decode cX0_numbersOf 52 = .ok (.if_icmp .eq 6, 3) := dk_159 0 6 (dk_at dksX0_numbersOf_2 5 rfl rfl)
theorem dX0_numbersOf_55 : decode cX0_numbersOf 55 = .ok (.goto 14, 3) := dk_167 0 14 (dk_at dksX0_numbersOf_2 8 rfl rfl)
theorem dX0_numbersOf_58 : decode cX0_numbersOf 58 = .ok (.iinc 8 1, 3) := dk_132 8 1 (dk_at dksX0_numbersOf_2 11 rfl rfl)
theorem dX0_numbersOf_61 : decode cX0_numbersOf 61 = .ok (.sipush 1000, 3) := dk_17 3 232 (dk_at dksX0_numbersOf_2 14 rfl rfl)
theorem dX0_numbersOf_64 : decode cX0_numbersOf 64 = .ok (.iload 10, 2) := dk_21 10 (dk_at dksX0_numbersOf_2 17 rfl rfl)
theorem dX0_numbersOf_66 : decode cX0_numbersOf 66 = .ok (.iadd, 1) := dk_96 (dk_at dksX0_numbersOf_2 19 rfl rfl)
theorem dX0_numbersOf_67 : decode cX0_numbersOf 67 = .ok (.istore 9, 2) := dk_54 9 (dk_at dksX0_numbersOf_2 20 rfl rfl)
theorem dX0_numbersOf_69 : decode cX0_numbersOf 69 = .ok (.iinc 10 (-1), 3) := dk_132 10 255 (dk_at dksX0_numbersOf_3 0 rfl rfl)
theorem dX0_numbersOf_72 : decode cX0_numbersOf 72 = .ok (.goto (-47), 3) := dk_167 255 209 (dk_at dksX0_numbersOf_3 3 rfl rfl)
theorem dX0_numbersOf_75 : decode cX0_numbersOf 75 = .ok (.aload 5, 2) := dk_25 5 (dk_at dksX0_numbersOf_3 6 rfl rfl)
theorem dX0_numbersOf_77 : decode cX0_numbersOf 77 = .ok (.dload 6, 2) := dk_24 6 (dk_at dksX0_numbersOf_3 8 rfl rfl)
theorem dX0_numbersOf_79 : decode cX0_numbersOf 79 = .ok (.putfield 209, 3) := dk_181 0 209 (dk_at dksX0_numbersOf_3 10 rfl rfl)
theorem dX0_numbersOf_82 : decode cX0_numbersOf 82 = .ok (.goto 15, 3) := dk_167 0 15 (dk_at dksX0_numbersOf_3 13 rfl rfl)
theorem dX0_numbersOf_85 : decode cX0_numbersOf 85 = .ok (.astore 11, 2) := dk_58 11 (dk_at dksX0_numbersOf_3 16 rfl rfl)
theorem dX0_numbersOf_87 : decode cX0_numbersOf 87 = .ok (.aload 5, 2) := dk_25 5 (dk_at dksX0_numbersOf_3 18 rfl rfl)
theorem dX0_numbersOf_89 : decode cX0_numbersOf 89 = .ok (.dload 6, 2) := dk_24 6 (dk_at dksX0_numbersOf_3 20 rfl rfl)
theorem dX0_numbersOf_91 : decode cX0_numbersOf 91 = .ok (.putfield 209, 3) := dk_181 0 209 (dk_at dksX0_numbersOf_4 0 rfl rfl)
theorem dX0_numbersOf_94 : decode cX0_numbersOf 94 = .ok (.aload 11, 2) := dk_25 11 (dk_at dksX0_numbersOf_4 3 rfl rfl)
theorem dX0_numbersOf_96 : decode cX0_numbersOf 96 = .ok (.athrow, 1) := dk_191 (dk_at dksX0_numbersOf_4 5 rfl rfl)
theorem dX0_numbersOf_97 : decode cX0_numbersOf 97 = .ok (.iload 4, 2) := dk_21 4 (dk_at dksX0_numbersOf_4 6 rfl rfl)
theorem dX0_numbersOf_99 : decode cX0_numbersOf 99 = .ok (.iconst 2, 1) := dk_5 (dk_at dksX0_numbersOf_4 8 rfl rfl)
theorem dX0_numbersOf_100 : decode cX0_numbersOf 100 = .ok (.if_icmp .ne 8, 3) := dk_160 0 8 (dk_at dksX0_numbersOf_4 9 rfl rfl)
theorem dX0_numbersOf_103 : decode cX0_numbersOf 103 = .ok (.iload 8, 2) := dk_21 8 (dk_at dksX0_numbersOf_4 12 rfl rfl)
theorem dX0_numbersOf_105 : decode cX0_numbersOf 105 = .ok (.goto 5, 3) := dk_167 0 5 (dk_at dksX0_numbersOf_4 14 rfl rfl)
theorem dX0_numbersOf_108 : decode cX0_numbersOf 108 = .ok (.iload 9, 2) := dk_21 9 (dk_at dksX0_numbersOf_4 17 rfl rfl)
theorem dX0_numbersOf_110 : decode cX0_numbersOf 110 = .ok (.ireturn, 1) := dk_172 (dk_at dksX0_numbersOf_4 19 rfl rfl)
abbrev cX0_image : ByteArray := prog_1_method_61_code
def yX0_image : MethodName := ⟨RX0, "image", "()I"⟩
def dkwX0_image_3 : List UInt8 := [42, 180, 0, 37, 27, 50, 83, 132, 1, 1, 167, 255, 235, 42, 4, 181, 2, 62, 42, 182, 2, 66, 172]
abbrev dktX0_image_3 : List UInt8 := dkwX0_image_3 ++ []
def dkwX0_image_2 : List UInt8 := [50, 180, 0, 239, 83, 132, 1, 1, 167, 255, 202, 3, 60, 27, 16, 6, 162, 0, 21, 42, 180, 0, 116, 27]
abbrev dktX0_image_2 : List UInt8 := dkwX0_image_2 ++ dktX0_image_3
def dkwX0_image_1 : List UInt8 := [180, 0, 107, 27, 42, 180, 0, 31, 27, 50, 180, 0, 209, 82, 42, 180, 0, 112, 27, 42, 180, 0, 31, 27]
abbrev dktX0_image_1 : List UInt8 := dkwX0_image_1 ++ dktX0_image_2
def dkwX0_image_0 : List UInt8 := [3, 60, 27, 16, 24, 162, 0, 54, 42, 180, 0, 104, 27, 42, 180, 0, 31, 27, 50, 182, 1, 160, 79, 42]
abbrev dktX0_image_0 : List UInt8 := dkwX0_image_0 ++ dktX0_image_1
theorem dksX0_image_0 : cX0_image.data.toList.drop 0 = dktX0_image_0 := by decide +kernel
theorem dksX0_image_1 : cX0_image.data.toList.drop 24 = dktX0_image_1 := dk_seg dksX0_image_0 24 rfl rfl
theorem dksX0_image_2 : cX0_image.data.toList.drop 48 = dktX0_image_2 := dk_seg dksX0_image_1 24 rfl rfl
theorem dksX0_image_3 : cX0_image.data.toList.drop 72 = dktX0_image_3 := dk_seg dksX0_image_2 24 rfl rfl
theorem dX0_image_0 : decode cX0_image 0 = .ok (.iconst 0, 1) := dk_3 (dk_at dksX0_image_0 0 rfl rfl)
theorem dX0_image_1 : decode cX0_image 1 = .ok (.istore_n 1, 1) := dk_60 (dk_at dksX0_image_0 1 rfl rfl)
theorem dX0_image_2 : decode cX0_image 2 = .ok (.iload_n 1, 1) := dk_27 (dk_at dksX0_image_0 2 rfl rfl)
theorem dX0_image_3 : decode cX0_image 3 = .ok (.bipush 24, 2) := dk_16 24 (dk_at dksX0_image_0 3 rfl rfl)
theorem dX0_image_5 : decode cX0_image 5 = .ok (.if_icmp .ge 54, 3) := dk_162 0 54 (dk_at dksX0_image_0 5 rfl rfl)
theorem dX0_image_8 : decode cX0_image 8 = .ok (.aload_n 0, 1) := dk_42 (dk_at dksX0_image_0 8 rfl rfl)
theorem dX0_image_9 : decode cX0_image 9 = .ok (.getfield 104, 3) := dk_180 0 104 (dk_at dksX0_image_0 9 rfl rfl)
theorem dX0_image_12 : decode cX0_image 12 = .ok (.iload_n 1, 1) := dk_27 (dk_at dksX0_image_0 12 rfl rfl)
theorem dX0_image_13 : decode cX0_image 13 = .ok (.aload_n 0, 1) := dk_42 (dk_at dksX0_image_0 13 rfl rfl)
theorem dX0_image_14 : decode cX0_image 14 = .ok (.getfield 31, 3) := dk_180 0 31 (dk_at dksX0_image_0 14 rfl rfl)
theorem dX0_image_17 : decode cX0_image 17 = .ok (.iload_n 1, 1) := dk_27 (dk_at dksX0_image_0 17 rfl rfl)
theorem dX0_image_18 : decode cX0_image 18 = .ok (.aaload, 1) := dk_50 (dk_at dksX0_image_0 18 rfl rfl)
theorem dX0_image_19 : decode cX0_image 19 = .ok (.invokevirtual 416, 3) := dk_182 1 160 (dk_at dksX0_image_0 19 rfl rfl)
theorem dX0_image_22 : decode cX0_image 22 = .ok (.iastore, 1) := dk_79 (dk_at dksX0_image_0 22 rfl rfl)
theorem dX0_image_23 : decode cX0_image 23 = .ok (.aload_n 0, 1) := dk_42 (dk_at dksX0_image_0 23 rfl rfl)
theorem dX0_image_24 : decode cX0_image 24 = .ok (.getfield 107, 3) := dk_180 0 107 (dk_at dksX0_image_1 0 rfl rfl)
theorem dX0_image_27 : decode cX0_image 27 = .ok (.iload_n 1, 1) := dk_27 (dk_at dksX0_image_1 3 rfl rfl)
theorem dX0_image_28 : decode cX0_image 28 = .ok (.aload_n 0, 1) := dk_42 (dk_at dksX0_image_1 4 rfl rfl)
theorem dX0_image_29 : decode cX0_image 29 = .ok (.getfield 31, 3) := dk_180 0 31 (dk_at dksX0_image_1 5 rfl rfl)
theorem dX0_image_32 : decode cX0_image 32 = .ok (.iload_n 1, 1) := dk_27 (dk_at dksX0_image_1 8 rfl rfl)
theorem dX0_image_33 : decode cX0_image 33 = .ok (.aaload, 1) := dk_50 (dk_at dksX0_image_1 9 rfl rfl)
theorem dX0_image_34 : decode cX0_image 34 = .ok (.getfield 209, 3) := dk_180 0 209 (dk_at dksX0_image_1 10 rfl rfl)
theorem dX0_image_37 : decode cX0_image 37 = .ok (.dastore, 1) := dk_82 (dk_at dksX0_image_1 13 rfl rfl)
theorem dX0_image_38 : decode cX0_image 38 = .ok (.aload_n 0, 1) := dk_42 (dk_at dksX0_image_1 14 rfl rfl)
theorem dX0_image_39 : decode cX0_image 39 = .ok (.getfield 112, 3) := dk_180 0 112 (dk_at dksX0_image_1 15 rfl rfl)
theorem dX0_image_42 : decode cX0_image 42 = .ok (.iload_n 1, 1) := dk_27 (dk_at dksX0_image_1 18 rfl rfl)
theorem dX0_image_43 : decode cX0_image 43 = .ok (.aload_n 0, 1) := dk_42 (dk_at dksX0_image_1 19 rfl rfl)
theorem dX0_image_44 : decode cX0_image 44 = .ok (.getfield 31, 3) := dk_180 0 31 (dk_at dksX0_image_1 20 rfl rfl)
theorem dX0_image_47 : decode cX0_image 47 = .ok (.iload_n 1, 1) := dk_27 (dk_at dksX0_image_1 23 rfl rfl)
theorem dX0_image_48 : decode cX0_image 48 = .ok (.aaload, 1) := dk_50 (dk_at dksX0_image_2 0 rfl rfl)
theorem dX0_image_49 : decode cX0_image 49 = .ok (.getfield 239, 3) := dk_180 0 239 (dk_at dksX0_image_2 1 rfl rfl)
theorem dX0_image_52 : decode cX0_image 52 = .ok (.aastore, 1) := dk_83 (dk_at dksX0_image_2 4 rfl rfl)
theorem dX0_image_53 : decode cX0_image 53 = .ok (.iinc 1 1, 3) := dk_132 1 1 (dk_at dksX0_image_2 5 rfl rfl)
theorem dX0_image_56 : decode cX0_image 56 = .ok (.goto (-54), 3) := dk_167 255 202 (dk_at dksX0_image_2 8 rfl rfl)
theorem dX0_image_59 : decode cX0_image 59 = .ok (.iconst 0, 1) := dk_3 (dk_at dksX0_image_2 11 rfl rfl)
theorem dX0_image_60 : decode cX0_image 60 = .ok (.istore_n 1, 1) := dk_60 (dk_at dksX0_image_2 12 rfl rfl)
theorem dX0_image_61 : decode cX0_image 61 = .ok (.iload_n 1, 1) := dk_27 (dk_at dksX0_image_2 13 rfl rfl)
theorem dX0_image_62 : decode cX0_image 62 = .ok (.bipush 6, 2) := dk_16 6 (dk_at dksX0_image_2 14 rfl rfl)
theorem dX0_image_64 : decode cX0_image 64 = .ok (.if_icmp .ge 21, 3) := dk_162 0 21 (dk_at dksX0_image_2 16 rfl rfl)
theorem dX0_image_67 : decode cX0_image 67 = .ok (.aload_n 0, 1) := dk_42 (dk_at dksX0_image_2 19 rfl rfl)
theorem dX0_image_68 : decode cX0_image 68 = .ok (.getfield 116, 3) := dk_180 0 116 (dk_at dksX0_image_2 20 rfl rfl)
theorem dX0_image_71 : decode cX0_image 71 = .ok (.iload_n 1, 1) := dk_27 (dk_at dksX0_image_2 23 rfl rfl)
theorem dX0_image_72 : decode cX0_image 72 = .ok (.aload_n 0, 1) := dk_42 (dk_at dksX0_image_3 0 rfl rfl)
theorem dX0_image_73 : decode cX0_image 73 = .ok (.getfield 37, 3) := dk_180 0 37 (dk_at dksX0_image_3 1 rfl rfl)
theorem dX0_image_76 : decode cX0_image 76 = .ok (.iload_n 1, 1) := dk_27 (dk_at dksX0_image_3 4 rfl rfl)
theorem dX0_image_77 : decode cX0_image 77 = .ok (.aaload, 1) := dk_50 (dk_at dksX0_image_3 5 rfl rfl)
theorem dX0_image_78 : decode cX0_image 78 = .ok (.aastore, 1) := dk_83 (dk_at dksX0_image_3 6 rfl rfl)
theorem dX0_image_79 : decode cX0_image 79 = .ok (.iinc 1 1, 3) := dk_132 1 1 (dk_at dksX0_image_3 7 rfl rfl)
theorem dX0_image_82 : decode cX0_image 82 = .ok (.goto (-21), 3) := dk_167 255 235 (dk_at dksX0_image_3 10 rfl rfl)
theorem dX0_image_85 : decode cX0_image 85 = .ok (.aload_n 0, 1) := dk_42 (dk_at dksX0_image_3 13 rfl rfl)
theorem dX0_image_86 : decode cX0_image 86 = .ok (.iconst 1, 1) := dk_4 (dk_at dksX0_image_3 14 rfl rfl)
theorem dX0_image_87 : decode cX0_image 87 = .ok (.putfield 574, 3) := dk_181 2 62 (dk_at dksX0_image_3 15 rfl rfl)
theorem dX0_image_90 : decode cX0_image 90 = .ok (.aload_n 0, 1) := dk_42 (dk_at dksX0_image_3 18 rfl rfl)
theorem dX0_image_91 : decode cX0_image 91 = .ok (.invokevirtual 578, 3) := dk_182 2 66 (dk_at dksX0_image_3 19 rfl rfl)
theorem dX0_image_94 : decode cX0_image 94 = .ok (.ireturn, 1) := dk_172 (dk_at dksX0_image_3 22 rfl rfl)
abbrev cX0_formulas : ByteArray := prog_1_method_60_code
def yX0_formulas : MethodName := ⟨RX0, "formulas", "()I"⟩
def dkwX0_formulas_2 : List UInt8 := [27, 172]
abbrev dktX0_formulas_2 : List UInt8 := dkwX0_formulas_2 ++ []
def dkwX0_formulas_1 : List UInt8 := [58, 5, 27, 25, 5, 182, 0, 202, 153, 0, 7, 3, 167, 0, 4, 4, 96, 60, 132, 4, 1, 167, 255, 225]
abbrev dktX0_formulas_1 : List UInt8 := dkwX0_formulas_1 ++ dktX0_formulas_2
def dkwX0_formulas_0 : List UInt8 := [3, 60, 42, 180, 0, 31, 77, 44, 190, 62, 3, 54, 4, 21, 4, 29, 162, 0, 31, 44, 21, 4, 50]
abbrev dktX0_formulas_0 : List UInt8 := dkwX0_formulas_0 ++ dktX0_formulas_1
theorem dksX0_formulas_0 : cX0_formulas.data.toList.drop 0 = dktX0_formulas_0 := by decide +kernel
theorem dksX0_formulas_1 : cX0_formulas.data.toList.drop 23 = dktX0_formulas_1 := dk_seg dksX0_formulas_0 23 rfl rfl
theorem dksX0_formulas_2 : cX0_formulas.data.toList.drop 47 = dktX0_formulas_2 := dk_seg dksX0_formulas_1 24 rfl rfl
theorem dX0_formulas_0 : decode cX0_formulas 0 = .ok (.iconst 0, 1) := dk_3 (dk_at dksX0_formulas_0 0 rfl rfl)
theorem dX0_formulas_1 : decode cX0_formulas 1 = .ok (.istore_n 1, 1) := dk_60 (dk_at dksX0_formulas_0 1 rfl rfl)
theorem dX0_formulas_2 : decode cX0_formulas 2 = .ok (.aload_n 0, 1) := dk_42 (dk_at dksX0_formulas_0 2 rfl rfl)
theorem dX0_formulas_3 : decode cX0_formulas 3 = .ok (.getfield 31, 3) := dk_180 0 31 (dk_at dksX0_formulas_0 3 rfl rfl)
theorem dX0_formulas_6 : decode cX0_formulas 6 = .ok (.astore_n 2, 1) := dk_77 (dk_at dksX0_formulas_0 6 rfl rfl)
theorem dX0_formulas_7 : decode cX0_formulas 7 = .ok (.aload_n 2, 1) := dk_44 (dk_at dksX0_formulas_0 7 rfl rfl)
theorem dX0_formulas_8 : decode cX0_formulas 8 = .ok (.arraylength, 1) := dk_190 (dk_at dksX0_formulas_0 8 rfl rfl)
theorem dX0_formulas_9 : decode cX0_formulas 9 = .ok (.istore_n 3, 1) := dk_62 (dk_at dksX0_formulas_0 9 rfl rfl)
theorem dX0_formulas_10 : decode cX0_formulas 10 = .ok (.iconst 0, 1) := dk_3 (dk_at dksX0_formulas_0 10 rfl rfl)
theorem dX0_formulas_11 : decode cX0_formulas 11 = .ok (.istore 4, 2) := dk_54 4 (dk_at dksX0_formulas_0 11 rfl rfl)
theorem dX0_formulas_13 : decode cX0_formulas 13 = .ok (.iload 4, 2) := dk_21 4 (dk_at dksX0_formulas_0 13 rfl rfl)
theorem dX0_formulas_15 : decode cX0_formulas 15 = .ok (.iload_n 3, 1) := dk_29 (dk_at dksX0_formulas_0 15 rfl rfl)
theorem dX0_formulas_16 : decode cX0_formulas 16 = .ok (.if_icmp .ge 31, 3) := dk_162 0 31 (dk_at dksX0_formulas_0 16 rfl rfl)
theorem dX0_formulas_19 : decode cX0_formulas 19 = .ok (.aload_n 2, 1) := dk_44 (dk_at dksX0_formulas_0 19 rfl rfl)
theorem dX0_formulas_20 : decode cX0_formulas 20 = .ok (.iload 4, 2) := dk_21 4 (dk_at dksX0_formulas_0 20 rfl rfl)
theorem dX0_formulas_22 : decode cX0_formulas 22 = .ok (.aaload, 1) := dk_50 (dk_at dksX0_formulas_0 22 rfl rfl)
theorem dX0_formulas_23 : decode cX0_formulas 23 = .ok (.astore 5, 2) := dk_58 5 (dk_at dksX0_formulas_1 0 rfl rfl)
theorem dX0_formulas_25 : decode cX0_formulas 25 = .ok (.iload_n 1, 1) := dk_27 (dk_at dksX0_formulas_1 2 rfl rfl)
theorem dX0_formulas_26 : decode cX0_formulas 26 = .ok (.aload 5, 2) := dk_25 5 (dk_at dksX0_formulas_1 3 rfl rfl)
theorem dX0_formulas_28 : decode cX0_formulas 28 = .ok (.invokevirtual 202, 3) := dk_182 0 202 (dk_at dksX0_formulas_1 5 rfl rfl)
theorem dX0_formulas_31 : decode cX0_formulas 31 = .ok (.ifCond .eq 7, 3) := dk_153 0 7 (dk_at dksX0_formulas_1 8 rfl rfl)
theorem dX0_formulas_34 : decode cX0_formulas 34 = .ok (.iconst 0, 1) := dk_3 (dk_at dksX0_formulas_1 11 rfl rfl)
theorem dX0_formulas_35 : decode cX0_formulas 35 = .ok (.goto 4, 3) := dk_167 0 4 (dk_at dksX0_formulas_1 12 rfl rfl)
theorem dX0_formulas_38 : decode cX0_formulas 38 = .ok (.iconst 1, 1) := dk_4 (dk_at dksX0_formulas_1 15 rfl rfl)
theorem dX0_formulas_39 : decode cX0_formulas 39 = .ok (.iadd, 1) := dk_96 (dk_at dksX0_formulas_1 16 rfl rfl)
theorem dX0_formulas_40 : decode cX0_formulas 40 = .ok (.istore_n 1, 1) := dk_60 (dk_at dksX0_formulas_1 17 rfl rfl)
theorem dX0_formulas_41 : decode cX0_formulas 41 = .ok (.iinc 4 1, 3) := dk_132 4 1 (dk_at dksX0_formulas_1 18 rfl rfl)
theorem dX0_formulas_44 : decode cX0_formulas 44 = .ok (.goto (-31), 3) := dk_167 255 225 (dk_at dksX0_formulas_1 21 rfl rfl)
theorem dX0_formulas_47 : decode cX0_formulas 47 = .ok (.iload_n 1, 1) := dk_27 (dk_at dksX0_formulas_2 0 rfl rfl)
theorem dX0_formulas_48 : decode cX0_formulas 48 = .ok (.ireturn, 1) := dk_172 (dk_at dksX0_formulas_2 1 rfl rfl)
abbrev cX0_back : ByteArray := prog_1_method_62_code
def yX0_back : MethodName := ⟨RX0, "back", "()I"⟩
def dkwX0_back_5 : List UInt8 := [182, 2, 66, 172]
abbrev dktX0_back_5 : List UInt8 := dkwX0_back_5 ++ []
def dkwX0_back_4 : List UInt8 := [42, 180, 0, 37, 27, 42, 180, 0, 116, 27, 50, 83, 132, 1, 1, 167, 255, 235, 42, 182, 0, 126, 87, 42]
abbrev dktX0_back_4 : List UInt8 := dkwX0_back_4 ++ dktX0_back_5
def dkwX0_back_3 : List UInt8 := [50, 42, 180, 0, 112, 27, 50, 181, 0, 239, 132, 1, 1, 167, 255, 183, 3, 60, 27, 16, 6, 162, 0, 21]
abbrev dktX0_back_3 : List UInt8 := dkwX0_back_3 ++ dktX0_back_4
def dkwX0_back_2 : List UInt8 := [184, 1, 163, 83, 42, 180, 0, 31, 27, 50, 42, 180, 0, 107, 27, 49, 181, 0, 209, 42, 180, 0, 31, 27]
abbrev dktX0_back_2 : List UInt8 := dkwX0_back_2 ++ dktX0_back_3
def dkwX0_back_1 : List UInt8 := [182, 1, 160, 42, 180, 0, 104, 27, 46, 159, 0, 19, 42, 180, 0, 31, 27, 27, 42, 180, 0, 104, 27, 46]
abbrev dktX0_back_1 : List UInt8 := dkwX0_back_1 ++ dktX0_back_2
def dkwX0_back_0 : List UInt8 := [42, 180, 2, 62, 154, 0, 6, 16, 253, 172, 3, 60, 27, 16, 24, 162, 0, 73, 42, 180, 0, 31, 27, 50]
abbrev dktX0_back_0 : List UInt8 := dkwX0_back_0 ++ dktX0_back_1
theorem dksX0_back_0 : cX0_back.data.toList.drop 0 = dktX0_back_0 := by decide +kernel
theorem dksX0_back_1 : cX0_back.data.toList.drop 24 = dktX0_back_1 := dk_seg dksX0_back_0 24 rfl rfl
theorem dksX0_back_2 : cX0_back.data.toList.drop 48 = dktX0_back_2 := dk_seg dksX0_back_1 24 rfl rfl
theorem dksX0_back_3 : cX0_back.data.toList.drop 72 = dktX0_back_3 := dk_seg dksX0_back_2 24 rfl rfl
theorem dksX0_back_4 : cX0_back.data.toList.drop 96 = dktX0_back_4 := dk_seg dksX0_back_3 24 rfl rfl
theorem dksX0_back_5 : cX0_back.data.toList.drop 120 = dktX0_back_5 := dk_seg dksX0_back_4 24 rfl rfl
theorem dX0_back_0 : decode cX0_back 0 = .ok (.aload_n 0, 1) := dk_42 (dk_at dksX0_back_0 0 rfl rfl)
theorem dX0_back_1 : decode cX0_back 1 = .ok (.getfield 574, 3) := dk_180 2 62 (dk_at dksX0_back_0 1 rfl rfl)
theorem dX0_back_4 : decode cX0_back 4 = .ok (.ifCond .ne 6, 3) := dk_154 0 6 (dk_at dksX0_back_0 4 rfl rfl)
theorem dX0_back_7 : decode cX0_back 7 = .ok (.bipush (-3), 2) := dk_16 253 (dk_at dksX0_back_0 7 rfl rfl)
theorem dX0_back_9 : decode cX0_back 9 = .ok (.ireturn, 1) := dk_172 (dk_at dksX0_back_0 9 rfl rfl)
theorem dX0_back_10 : decode cX0_back 10 = .ok (.iconst 0, 1) := dk_3 (dk_at dksX0_back_0 10 rfl rfl)
theorem dX0_back_11 : decode cX0_back 11 = .ok (.istore_n 1, 1) := dk_60 (dk_at dksX0_back_0 11 rfl rfl)
theorem dX0_back_12 : decode cX0_back 12 = .ok (.iload_n 1, 1) := dk_27 (dk_at dksX0_back_0 12 rfl rfl)
theorem dX0_back_13 : decode cX0_back 13 = .ok (.bipush 24, 2) := dk_16 24 (dk_at dksX0_back_0 13 rfl rfl)
theorem dX0_back_15 : decode cX0_back 15 = .ok (.if_icmp .ge 73, 3) := dk_162 0 73 (dk_at dksX0_back_0 15 rfl rfl)
theorem dX0_back_18 : decode cX0_back 18 = .ok (.aload_n 0, 1) := dk_42 (dk_at dksX0_back_0 18 rfl rfl)
theorem dX0_back_19 : decode cX0_back 19 = .ok (.getfield 31, 3) := dk_180 0 31 (dk_at dksX0_back_0 19 rfl rfl)
theorem dX0_back_22 : decode cX0_back 22 = .ok (.iload_n 1, 1) := dk_27 (dk_at dksX0_back_0 22 rfl rfl)
theorem dX0_back_23 : decode cX0_back 23 = .ok (.aaload, 1) := dk_50 (dk_at dksX0_back_0 23 rfl rfl)
theorem dX0_back_24 : decode cX0_back 24 = .ok (.invokevirtual 416, 3) := dk_182 1 160 (dk_at dksX0_back_1 0 rfl rfl)
theorem dX0_back_27 : decode cX0_back 27 = .ok (.aload_n 0, 1) := dk_42 (dk_at dksX0_back_1 3 rfl rfl)
theorem dX0_back_28 : decode cX0_back 28 = .ok (.getfield 104, 3) := dk_180 0 104 (dk_at dksX0_back_1 4 rfl rfl)
theorem dX0_back_31 : decode cX0_back 31 = .ok (.iload_n 1, 1) := dk_27 (dk_at dksX0_back_1 7 rfl rfl)
theorem dX0_back_32 : decode cX0_back 32 = .ok (.iaload, 1) := dk_46 (dk_at dksX0_back_1 8 rfl rfl)
theorem dX0_back_33 : decode cX0_back 33 = .ok (.if_icmp .eq 19, 3) := dk_159 0 19 (dk_at dksX0_back_1 9 rfl rfl)
theorem dX0_back_36 : decode cX0_back 36 = .ok (.aload_n 0, 1) := dk_42 (dk_at dksX0_back_1 12 rfl rfl)
theorem dX0_back_37 : decode cX0_back 37 = .ok (.getfield 31, 3) := dk_180 0 31 (dk_at dksX0_back_1 13 rfl rfl)
theorem dX0_back_40 : decode cX0_back 40 = .ok (.iload_n 1, 1) := dk_27 (dk_at dksX0_back_1 16 rfl rfl)
theorem dX0_back_41 : decode cX0_back 41 = .ok (.iload_n 1, 1) := dk_27 (dk_at dksX0_back_1 17 rfl rfl)
theorem dX0_back_42 : decode cX0_back 42 = .ok (.aload_n 0, 1) := dk_42 (dk_at dksX0_back_1 18 rfl rfl)
theorem dX0_back_43 : decode cX0_back 43 = .ok (.getfield 104, 3) := dk_180 0 104 (dk_at dksX0_back_1 19 rfl rfl)
theorem dX0_back_46 : decode cX0_back 46 = .ok (.iload_n 1, 1) := dk_27 (dk_at dksX0_back_1 22 rfl rfl)
theorem dX0_back_47 : decode cX0_back 47 = .ok (.iaload, 1) := dk_46 (dk_at dksX0_back_1 23 rfl rfl)
theorem dX0_back_48 : decode cX0_back 48 = .ok (.invokestatic 419, 3) := dk_184 1 163 (dk_at dksX0_back_2 0 rfl rfl)
theorem dX0_back_51 : decode cX0_back 51 = .ok (.aastore, 1) := dk_83 (dk_at dksX0_back_2 3 rfl rfl)
theorem dX0_back_52 : decode cX0_back 52 = .ok (.aload_n 0, 1) := dk_42 (dk_at dksX0_back_2 4 rfl rfl)
theorem dX0_back_53 : decode cX0_back 53 = .ok (.getfield 31, 3) := dk_180 0 31 (dk_at dksX0_back_2 5 rfl rfl)
theorem dX0_back_56 : decode cX0_back 56 = .ok (.iload_n 1, 1) := dk_27 (dk_at dksX0_back_2 8 rfl rfl)
theorem dX0_back_57 : decode cX0_back 57 = .ok (.aaload, 1) := dk_50 (dk_at dksX0_back_2 9 rfl rfl)
theorem dX0_back_58 : decode cX0_back 58 = .ok (.aload_n 0, 1) := dk_42 (dk_at dksX0_back_2 10 rfl rfl)
theorem dX0_back_59 : decode cX0_back 59 = .ok (.getfield 107, 3) := dk_180 0 107 (dk_at dksX0_back_2 11 rfl rfl)
theorem dX0_back_62 : decode cX0_back 62 = .ok (.iload_n 1, 1) := dk_27 (dk_at dksX0_back_2 14 rfl rfl)
theorem dX0_back_63 : decode cX0_back 63 = .ok (.daload, 1) := dk_49 (dk_at dksX0_back_2 15 rfl rfl)
theorem dX0_back_64 : decode cX0_back 64 = .ok (.putfield 209, 3) := dk_181 0 209 (dk_at dksX0_back_2 16 rfl rfl)
theorem dX0_back_67 : decode cX0_back 67 = .ok (.aload_n 0, 1) := dk_42 (dk_at dksX0_back_2 19 rfl rfl)
theorem dX0_back_68 : decode cX0_back 68 = .ok (.getfield 31, 3) := dk_180 0 31 (dk_at dksX0_back_2 20 rfl rfl)
theorem dX0_back_71 : decode cX0_back 71 = .ok (.iload_n 1, 1) := dk_27 (dk_at dksX0_back_2 23 rfl rfl)
theorem dX0_back_72 : decode cX0_back 72 = .ok (.aaload, 1) := dk_50 (dk_at dksX0_back_3 0 rfl rfl)
theorem dX0_back_73 : decode cX0_back 73 = .ok (.aload_n 0, 1) := dk_42 (dk_at dksX0_back_3 1 rfl rfl)
theorem dX0_back_74 : decode cX0_back 74 = .ok (.getfield 112, 3) := dk_180 0 112 (dk_at dksX0_back_3 2 rfl rfl)
theorem dX0_back_77 : decode cX0_back 77 = .ok (.iload_n 1, 1) := dk_27 (dk_at dksX0_back_3 5 rfl rfl)
theorem dX0_back_78 : decode cX0_back 78 = .ok (.aaload, 1) := dk_50 (dk_at dksX0_back_3 6 rfl rfl)
theorem dX0_back_79 : decode cX0_back 79 = .ok (.putfield 239, 3) := dk_181 0 239 (dk_at dksX0_back_3 7 rfl rfl)
theorem dX0_back_82 : decode cX0_back 82 = .ok (.iinc 1 1, 3) := dk_132 1 1 (dk_at dksX0_back_3 10 rfl rfl)
theorem dX0_back_85 : decode cX0_back 85 = .ok (.goto (-73), 3) := dk_167 255 183 (dk_at dksX0_back_3 13 rfl rfl)
theorem dX0_back_88 : decode cX0_back 88 = .ok (.iconst 0, 1) := dk_3 (dk_at dksX0_back_3 16 rfl rfl)
theorem dX0_back_89 : decode cX0_back 89 = .ok (.istore_n 1, 1) := dk_60 (dk_at dksX0_back_3 17 rfl rfl)
theorem dX0_back_90 : decode cX0_back 90 = .ok (.iload_n 1, 1) := dk_27 (dk_at dksX0_back_3 18 rfl rfl)
theorem dX0_back_91 : decode cX0_back 91 = .ok (.bipush 6, 2) := dk_16 6 (dk_at dksX0_back_3 19 rfl rfl)
theorem dX0_back_93 : decode cX0_back 93 = .ok (.if_icmp .ge 21, 3) := dk_162 0 21 (dk_at dksX0_back_3 21 rfl rfl)
theorem dX0_back_96 : decode cX0_back 96 = .ok (.aload_n 0, 1) := dk_42 (dk_at dksX0_back_4 0 rfl rfl)
theorem dX0_back_97 : decode cX0_back 97 = .ok (.getfield 37, 3) := dk_180 0 37 (dk_at dksX0_back_4 1 rfl rfl)
theorem dX0_back_100 : decode cX0_back 100 = .ok (.iload_n 1, 1) := dk_27 (dk_at dksX0_back_4 4 rfl rfl)
theorem dX0_back_101 : decode cX0_back 101 = .ok (.aload_n 0, 1) := dk_42 (dk_at dksX0_back_4 5 rfl rfl)
theorem dX0_back_102 : decode cX0_back 102 = .ok (.getfield 116, 3) := dk_180 0 116 (dk_at dksX0_back_4 6 rfl rfl)
theorem dX0_back_105 : decode cX0_back 105 = .ok (.iload_n 1, 1) := dk_27 (dk_at dksX0_back_4 9 rfl rfl)
theorem dX0_back_106 : decode cX0_back 106 = .ok (.aaload, 1) := dk_50 (dk_at dksX0_back_4 10 rfl rfl)
theorem dX0_back_107 : decode cX0_back 107 = .ok (.aastore, 1) := dk_83 (dk_at dksX0_back_4 11 rfl rfl)
theorem dX0_back_108 : decode cX0_back 108 = .ok (.iinc 1 1, 3) := dk_132 1 1 (dk_at dksX0_back_4 12 rfl rfl)
theorem dX0_back_111 : decode cX0_back 111 = .ok (.goto (-21), 3) := dk_167 255 235 (dk_at dksX0_back_4 15 rfl rfl)
theorem dX0_back_114 : decode cX0_back 114 = .ok (.aload_n 0, 1) := dk_42 (dk_at dksX0_back_4 18 rfl rfl)
theorem dX0_back_115 : decode cX0_back 115 = .ok (.invokevirtual 126, 3) := dk_182 0 126 (dk_at dksX0_back_4 19 rfl rfl)
theorem dX0_back_118 : decode cX0_back 118 = .ok (.pop, 1) := dk_87 (dk_at dksX0_back_4 22 rfl rfl)
theorem dX0_back_119 : decode cX0_back 119 = .ok (.aload_n 0, 1) := dk_42 (dk_at dksX0_back_4 23 rfl rfl)
theorem dX0_back_120 : decode cX0_back 120 = .ok (.invokevirtual 578, 3) := dk_182 2 66 (dk_at dksX0_back_5 0 rfl rfl)
theorem dX0_back_123 : decode cX0_back 123 = .ok (.ireturn, 1) := dk_172 (dk_at dksX0_back_5 3 rfl rfl)
abbrev cX0_count : ByteArray := prog_1_method_63_code
def yX0_count : MethodName := ⟨RX0, "count", "(I)I"⟩
def dkwX0_count_6 : List UInt8 := [167, 0, 4, 4, 96, 61, 132, 5, 1, 167, 255, 227, 28, 172, 42, 180, 1, 127, 172, 16, 254, 172]
abbrev dktX0_count_6 : List UInt8 := dkwX0_count_6 ++ []
def dkwX0_count_5 : List UInt8 := [54, 5, 21, 5, 21, 4, 162, 0, 28, 45, 21, 5, 50, 58, 6, 28, 25, 6, 199, 0, 7, 3]
abbrev dktX0_count_5 : List UInt8 := dkwX0_count_5 ++ dktX0_count_6
def dkwX0_count_4 : List UInt8 := [167, 0, 4, 3, 96, 61, 132, 5, 1, 167, 255, 216, 28, 172, 42, 180, 0, 37, 78, 45, 190, 54, 4, 3]
abbrev dktX0_count_4 : List UInt8 := dkwX0_count_4 ++ dktX0_count_5
def dkwX0_count_3 : List UInt8 := [45, 21, 5, 50, 58, 6, 28, 25, 6, 182, 0, 202, 153, 0, 15, 25, 6, 182, 0, 206, 154, 0, 7, 4]
abbrev dktX0_count_3 : List UInt8 := dkwX0_count_3 ++ dktX0_count_4
def dkwX0_count_2 : List UInt8 := [42, 182, 2, 66, 172, 42, 180, 0, 31, 78, 45, 190, 54, 4, 3, 54, 5, 21, 5, 21, 4, 162, 0, 39]
abbrev dktX0_count_2 : List UInt8 := dkwX0_count_2 ++ dktX0_count_3
def dkwX0_count_1 : List UInt8 := [170, 0, 0, 0, 142, 0, 0, 0, 0, 0, 0, 0, 3, 0, 0, 0, 29, 0, 0, 0, 34, 0, 0, 0, 91, 0, 0, 0, 137]
abbrev dktX0_count_1 : List UInt8 := dkwX0_count_1 ++ dktX0_count_2
def dkwX0_count_0 : List UInt8 := [3, 61, 27]
abbrev dktX0_count_0 : List UInt8 := dkwX0_count_0 ++ dktX0_count_1
theorem dksX0_count_0 : cX0_count.data.toList.drop 0 = dktX0_count_0 := by decide +kernel
theorem dksX0_count_1 : cX0_count.data.toList.drop 3 = dktX0_count_1 := dk_seg dksX0_count_0 3 rfl rfl
theorem dksX0_count_2 : cX0_count.data.toList.drop 32 = dktX0_count_2 := dk_seg dksX0_count_1 29 rfl rfl
theorem dksX0_count_3 : cX0_count.data.toList.drop 56 = dktX0_count_3 := dk_seg dksX0_count_2 24 rfl rfl
theorem dksX0_count_4 : cX0_count.data.toList.drop 80 = dktX0_count_4 := dk_seg dksX0_count_3 24 rfl rfl
theorem dksX0_count_5 : cX0_count.data.toList.drop 104 = dktX0_count_5 := dk_seg dksX0_count_4 24 rfl rfl
theorem dksX0_count_6 : cX0_count.data.toList.drop 126 = dktX0_count_6 := dk_seg dksX0_count_5 22 rfl rfl
theorem dX0_count_0 : decode cX0_count 0 = .ok (.iconst 0, 1) := dk_3 (dk_at dksX0_count_0 0 rfl rfl)
theorem dX0_count_1 : decode cX0_count 1 = .ok (.istore_n 2, 1) := dk_61 (dk_at dksX0_count_0 1 rfl rfl)
theorem dX0_count_2 : decode cX0_count 2 = .ok (.iload_n 1, 1) := dk_27 (dk_at dksX0_count_0 2 rfl rfl)
theorem dX0_count_3 : decode cX0_count 3 = .ok (.tableswitch 142 0 3 #[29, 34, 91, 137], 29) := by decide +kernel
theorem dX0_count_32 : decode cX0_count 32 = .ok (.aload_n 0, 1) := dk_42 (dk_at dksX0_count_2 0 rfl rfl)
theorem dX0_count_33 : decode cX0_count 33 = .ok (.invokevirtual 578, 3) := dk_182 2 66 (dk_at dksX0_count_2 1 rfl rfl)
theorem dX0_count_36 : decode cX0_count 36 = .ok (.ireturn, 1) := dk_172 (dk_at dksX0_count_2 4 rfl rfl)
theorem dX0_count_37 : decode cX0_count 37 = .ok (.aload_n 0, 1) := dk_42 (dk_at dksX0_count_2 5 rfl rfl)
theorem dX0_count_38 : decode cX0_count 38 = .ok (.getfield 31, 3) := dk_180 0 31 (dk_at dksX0_count_2 6 rfl rfl)
theorem dX0_count_41 : decode cX0_count 41 = .ok (.astore_n 3, 1) := dk_78 (dk_at dksX0_count_2 9 rfl rfl)
theorem dX0_count_42 : decode cX0_count 42 = .ok (.aload_n 3, 1) := dk_45 (dk_at dksX0_count_2 10 rfl rfl)
theorem dX0_count_43 : decode cX0_count 43 = .ok (.arraylength, 1) := dk_190 (dk_at dksX0_count_2 11 rfl rfl)
theorem dX0_count_44 : decode cX0_count 44 = .ok (.istore 4, 2) := dk_54 4 (dk_at dksX0_count_2 12 rfl rfl)
theorem dX0_count_46 : decode cX0_count 46 = .ok (.iconst 0, 1) := dk_3 (dk_at dksX0_count_2 14 rfl rfl)
theorem dX0_count_47 : decode cX0_count 47 = .ok (.istore 5, 2) := dk_54 5 (dk_at dksX0_count_2 15 rfl rfl)
theorem dX0_count_49 : decode cX0_count 49 = .ok (.iload 5, 2) := dk_21 5 (dk_at dksX0_count_2 17 rfl rfl)
theorem dX0_count_51 : decode cX0_count 51 = .ok (.iload 4, 2) := dk_21 4 (dk_at dksX0_count_2 19 rfl rfl)
theorem dX0_count_53 : decode cX0_count 53 = .ok (.if_icmp .ge 39, 3) := dk_162 0 39 (dk_at dksX0_count_2 21 rfl rfl)
theorem dX0_count_56 : decode cX0_count 56 = .ok (.aload_n 3, 1) := dk_45 (dk_at dksX0_count_3 0 rfl rfl)
theorem dX0_count_57 : decode cX0_count 57 = .ok (.iload 5, 2) := dk_21 5 (dk_at dksX0_count_3 1 rfl rfl)
theorem dX0_count_59 : decode cX0_count 59 = .ok (.aaload, 1) := dk_50 (dk_at dksX0_count_3 3 rfl rfl)
theorem dX0_count_60 : decode cX0_count 60 = .ok (.astore 6, 2) := dk_58 6 (dk_at dksX0_count_3 4 rfl rfl)
theorem dX0_count_62 : decode cX0_count 62 = .ok (.iload_n 2, 1) := dk_28 (dk_at dksX0_count_3 6 rfl rfl)
theorem dX0_count_63 : decode cX0_count 63 = .ok (.aload 6, 2) := dk_25 6 (dk_at dksX0_count_3 7 rfl rfl)
theorem dX0_count_65 : decode cX0_count 65 = .ok (.invokevirtual 202, 3) := dk_182 0 202 (dk_at dksX0_count_3 9 rfl rfl)
theorem dX0_count_68 : decode cX0_count 68 = .ok (.ifCond .eq 15, 3) := dk_153 0 15 (dk_at dksX0_count_3 12 rfl rfl)
theorem dX0_count_71 : decode cX0_count 71 = .ok (.aload 6, 2) := dk_25 6 (dk_at dksX0_count_3 15 rfl rfl)
theorem dX0_count_73 : decode cX0_count 73 = .ok (.invokevirtual 206, 3) := dk_182 0 206 (dk_at dksX0_count_3 17 rfl rfl)
theorem dX0_count_76 : decode cX0_count 76 = .ok (.ifCond .ne 7, 3) := dk_154 0 7 (dk_at dksX0_count_3 20 rfl rfl)
theorem dX0_count_79 : decode cX0_count 79 = .ok (.iconst 1, 1) := dk_4 (dk_at dksX0_count_3 23 rfl rfl)
theorem dX0_count_80 : decode cX0_count 80 = .ok (.goto 4, 3) := dk_167 0 4 (dk_at dksX0_count_4 0 rfl rfl)
theorem dX0_count_83 : decode cX0_count 83 = .ok (.iconst 0, 1) := dk_3 (dk_at dksX0_count_4 3 rfl rfl)
theorem dX0_count_84 : decode cX0_count 84 = .ok (.iadd, 1) := dk_96 (dk_at dksX0_count_4 4 rfl rfl)
theorem dX0_count_85 : decode cX0_count 85 = .ok (.istore_n 2, 1) := dk_61 (dk_at dksX0_count_4 5 rfl rfl)
theorem dX0_count_86 : decode cX0_count 86 = .ok (.iinc 5 1, 3) := dk_132 5 1 (dk_at dksX0_count_4 6 rfl rfl)
theorem dX0_count_89 : decode cX0_count 89 = .ok (.goto (-40), 3) := dk_167 255 216 (dk_at dksX0_count_4 9 rfl rfl)
theorem dX0_count_92 : decode cX0_count 92 = .ok (.iload_n 2, 1) := dk_28 (dk_at dksX0_count_4 12 rfl rfl)
theorem dX0_count_93 : decode cX0_count 93 = .ok (.ireturn, 1) := dk_172 (dk_at dksX0_count_4 13 rfl rfl)
theorem dX0_count_94 : decode cX0_count 94 = .ok (.aload_n 0, 1) := dk_42 (dk_at dksX0_count_4 14 rfl rfl)
theorem dX0_count_95 : decode cX0_count 95 = .ok (.getfield 37, 3) := dk_180 0 37 (dk_at dksX0_count_4 15 rfl rfl)
theorem dX0_count_98 : decode cX0_count 98 = .ok (.astore_n 3, 1) := dk_78 (dk_at dksX0_count_4 18 rfl rfl)
theorem dX0_count_99 : decode cX0_count 99 = .ok (.aload_n 3, 1) := dk_45 (dk_at dksX0_count_4 19 rfl rfl)
theorem dX0_count_100 : decode cX0_count 100 = .ok (.arraylength, 1) := dk_190 (dk_at dksX0_count_4 20 rfl rfl)
theorem dX0_count_101 : decode cX0_count 101 = .ok (.istore 4, 2) := dk_54 4 (dk_at dksX0_count_4 21 rfl rfl)
theorem dX0_count_103 : decode cX0_count 103 = .ok (.iconst 0, 1) := dk_3 (dk_at dksX0_count_4 23 rfl rfl)
theorem dX0_count_104 : decode cX0_count 104 = .ok (.istore 5, 2) := dk_54 5 (dk_at dksX0_count_5 0 rfl rfl)
theorem dX0_count_106 : decode cX0_count 106 = .ok (.iload 5, 2) := dk_21 5 (dk_at dksX0_count_5 2 rfl rfl)
theorem dX0_count_108 : decode cX0_count 108 = .ok (.iload 4, 2) := dk_21 4 (dk_at dksX0_count_5 4 rfl rfl)
theorem dX0_count_110 : decode cX0_count 110 = .ok (.if_icmp .ge 28, 3) := dk_162 0 28 (dk_at dksX0_count_5 6 rfl rfl)
theorem dX0_count_113 : decode cX0_count 113 = .ok (.aload_n 3, 1) := dk_45 (dk_at dksX0_count_5 9 rfl rfl)
theorem dX0_count_114 : decode cX0_count 114 = .ok (.iload 5, 2) := dk_21 5 (dk_at dksX0_count_5 10 rfl rfl)
theorem dX0_count_116 : decode cX0_count 116 = .ok (.aaload, 1) := dk_50 (dk_at dksX0_count_5 12 rfl rfl)
theorem dX0_count_117 : decode cX0_count 117 = .ok (.astore 6, 2) := dk_58 6 (dk_at dksX0_count_5 13 rfl rfl)
theorem dX0_count_119 : decode cX0_count 119 = .ok (.iload_n 2, 1) := dk_28 (dk_at dksX0_count_5 15 rfl rfl)
theorem dX0_count_120 : decode cX0_count 120 = .ok (.aload 6, 2) := dk_25 6 (dk_at dksX0_count_5 16 rfl rfl)
theorem dX0_count_122 : decode cX0_count 122 = .ok (.ifnonnull 7, 3) := dk_199 0 7 (dk_at dksX0_count_5 18 rfl rfl)
theorem dX0_count_125 : decode cX0_count 125 = .ok (.iconst 0, 1) := dk_3 (dk_at dksX0_count_5 21 rfl rfl)
theorem dX0_count_126 : decode cX0_count 126 = .ok (.goto 4, 3) := dk_167 0 4 (dk_at dksX0_count_6 0 rfl rfl)
theorem dX0_count_129 : decode cX0_count 129 = .ok (.iconst 1, 1) := dk_4 (dk_at dksX0_count_6 3 rfl rfl)
theorem dX0_count_130 : decode cX0_count 130 = .ok (.iadd, 1) := dk_96 (dk_at dksX0_count_6 4 rfl rfl)
theorem dX0_count_131 : decode cX0_count 131 = .ok (.istore_n 2, 1) := dk_61 (dk_at dksX0_count_6 5 rfl rfl)
theorem dX0_count_132 : decode cX0_count 132 = .ok (.iinc 5 1, 3) := dk_132 5 1 (dk_at dksX0_count_6 6 rfl rfl)
theorem dX0_count_135 : decode cX0_count 135 = .ok (.goto (-29), 3) := dk_167 255 227 (dk_at dksX0_count_6 9 rfl rfl)
theorem dX0_count_138 : decode cX0_count 138 = .ok (.iload_n 2, 1) := dk_28 (dk_at dksX0_count_6 12 rfl rfl)
theorem dX0_count_139 : decode cX0_count 139 = .ok (.ireturn, 1) := dk_172 (dk_at dksX0_count_6 13 rfl rfl)
theorem dX0_count_140 : decode cX0_count 140 = .ok (.aload_n 0, 1) := dk_42 (dk_at dksX0_count_6 14 rfl rfl)
theorem dX0_count_141 : decode cX0_count 141 = .ok (.getfield 383, 3) := dk_180 1 127 (dk_at dksX0_count_6 15 rfl rfl)
theorem dX0_count_144 : decode cX0_count 144 = .ok (.ireturn, 1) := dk_172 (dk_at dksX0_count_6 18 rfl rfl)
theorem dX0_count_145 : decode cX0_count 145 = .ok (.bipush (-2), 2) := dk_16 254 (dk_at dksX0_count_6 19 rfl rfl)
theorem dX0_count_147 : decode cX0_count 147 = .ok (.ireturn, 1) := dk_172 (dk_at dksX0_count_6 21 rfl rfl)
abbrev cX0_row : ByteArray := prog_1_method_66_code
def yX0_row : MethodName := ⟨RX0, "row", "(III)I"⟩
def dkwX0_row_2 : List UInt8 := [167, 0, 8, 28, 29, 184, 2, 69, 181, 1, 223, 4, 172, 58, 4, 16, 242, 172]
abbrev dktX0_row_2 : List UInt8 := dkwX0_row_2 ++ []
def dkwX0_row_1 : List UInt8 := [155, 0, 12, 29, 16, 64, 164, 0, 6, 16, 254, 172, 42, 180, 0, 121, 27, 50, 28, 156, 0, 7, 1]
abbrev dktX0_row_1 : List UInt8 := dkwX0_row_1 ++ dktX0_row_2
def dkwX0_row_0 : List UInt8 := [27, 184, 1, 220, 153, 0, 27, 28, 133, 20, 2, 39, 20, 2, 52, 184, 0, 132, 153, 0, 13, 28]
abbrev dktX0_row_0 : List UInt8 := dkwX0_row_0 ++ dktX0_row_1
theorem dksX0_row_0 : cX0_row.data.toList.drop 0 = dktX0_row_0 := by decide +kernel
theorem dksX0_row_1 : cX0_row.data.toList.drop 22 = dktX0_row_1 := dk_seg dksX0_row_0 22 rfl rfl
theorem dksX0_row_2 : cX0_row.data.toList.drop 45 = dktX0_row_2 := dk_seg dksX0_row_1 23 rfl rfl
theorem dX0_row_0 : decode cX0_row 0 = .ok (.iload_n 1, 1) := dk_27 (dk_at dksX0_row_0 0 rfl rfl)
theorem dX0_row_1 : decode cX0_row 1 = .ok (.invokestatic 476, 3) := dk_184 1 220 (dk_at dksX0_row_0 1 rfl rfl)
theorem dX0_row_4 : decode cX0_row 4 = .ok (.ifCond .eq 27, 3) := dk_153 0 27 (dk_at dksX0_row_0 4 rfl rfl)
theorem dX0_row_7 : decode cX0_row 7 = .ok (.iload_n 2, 1) := dk_28 (dk_at dksX0_row_0 7 rfl rfl)
theorem dX0_row_8 : decode cX0_row 8 = .ok (.i2l, 1) := dk_133 (dk_at dksX0_row_0 8 rfl rfl)
theorem dX0_row_9 : decode cX0_row 9 = .ok (.ldc2_w 551, 3) := dk_20 2 39 (dk_at dksX0_row_0 9 rfl rfl)
theorem dX0_row_12 : decode cX0_row 12 = .ok (.ldc2_w 564, 3) := dk_20 2 52 (dk_at dksX0_row_0 12 rfl rfl)
theorem dX0_row_15 : decode cX0_row 15 = .ok (.invokestatic 132, 3) := dk_184 0 132 (dk_at dksX0_row_0 15 rfl rfl)
theorem dX0_row_18 : decode cX0_row 18 = .ok (.ifCond .eq 13, 3) := dk_153 0 13 (dk_at dksX0_row_0 18 rfl rfl)
theorem dX0_row_21 : decode cX0_row 21 = .ok (.iload_n 2, 1) := dk_28 (dk_at dksX0_row_0 21 rfl rfl)
theorem dX0_row_22 : decode cX0_row 22 = .ok (.ifCond .lt 12, 3) := dk_155 0 12 (dk_at dksX0_row_1 0 rfl rfl)
theorem dX0_row_25 : decode cX0_row 25 = .ok (.iload_n 3, 1) := dk_29 (dk_at dksX0_row_1 3 rfl rfl)
theorem dX0_row_26 : decode cX0_row 26 = .ok (.bipush 64, 2) := dk_16 64 (dk_at dksX0_row_1 4 rfl rfl)
theorem dX0_row_28 : decode cX0_row 28 = .ok (.if_icmp .le 6, 3) := dk_164 0 6 (dk_at dksX0_row_1 6 rfl rfl)
theorem dX0_row_31 : decode cX0_row 31 = .ok (.bipush (-2), 2) := dk_16 254 (dk_at dksX0_row_1 9 rfl rfl)
theorem dX0_row_33 : decode cX0_row 33 = .ok (.ireturn, 1) := dk_172 (dk_at dksX0_row_1 11 rfl rfl)
theorem dX0_row_34 : decode cX0_row 34 = .ok (.aload_n 0, 1) := dk_42 (dk_at dksX0_row_1 12 rfl rfl)
theorem dX0_row_35 : decode cX0_row 35 = .ok (.getfield 121, 3) := dk_180 0 121 (dk_at dksX0_row_1 13 rfl rfl)
theorem dX0_row_38 : decode cX0_row 38 = .ok (.iload_n 1, 1) := dk_27 (dk_at dksX0_row_1 16 rfl rfl)
theorem dX0_row_39 : decode cX0_row 39 = .ok (.aaload, 1) := dk_50 (dk_at dksX0_row_1 17 rfl rfl)
theorem dX0_row_40 : decode cX0_row 40 = .ok (.iload_n 2, 1) := dk_28 (dk_at dksX0_row_1 18 rfl rfl)
theorem dX0_row_41 : decode cX0_row 41 = .ok (.ifCond .ge 7, 3) := dk_156 0 7 (dk_at dksX0_row_1 19 rfl rfl)
theorem dX0_row_44 : decode cX0_row 44 = .ok (.aconst_null, 1) := dk_1 (dk_at dksX0_row_1 22 rfl rfl)
theorem dX0_row_45 : decode cX0_row 45 = .ok (.goto 8, 3) := dk_167 0 8 (dk_at dksX0_row_2 0 rfl rfl)
theorem dX0_row_48 : decode cX0_row 48 = .ok (.iload_n 2, 1) := dk_28 (dk_at dksX0_row_2 3 rfl rfl)
theorem dX0_row_49 : decode cX0_row 49 = .ok (.iload_n 3, 1) := dk_29 (dk_at dksX0_row_2 4 rfl rfl)
theorem dX0_row_50 : decode cX0_row 50 = .ok (.invokestatic 581, 3) := dk_184 2 69 (dk_at dksX0_row_2 5 rfl rfl)
theorem dX0_row_53 : decode cX0_row 53 = .ok (.putfield 479, 3) := dk_181 1 223 (dk_at dksX0_row_2 8 rfl rfl)
theorem dX0_row_56 : decode cX0_row 56 = .ok (.iconst 1, 1) := dk_4 (dk_at dksX0_row_2 11 rfl rfl)
theorem dX0_row_57 : decode cX0_row 57 = .ok (.ireturn, 1) := dk_172 (dk_at dksX0_row_2 12 rfl rfl)
theorem dX0_row_58 : decode cX0_row 58 = .ok (.astore 4, 2) := dk_58 4 (dk_at dksX0_row_2 13 rfl rfl)
theorem dX0_row_60 : decode cX0_row 60 = .ok (.bipush (-14), 2) := dk_16 242 (dk_at dksX0_row_2 15 rfl rfl)
theorem dX0_row_62 : decode cX0_row 62 = .ok (.ireturn, 1) := dk_172 (dk_at dksX0_row_2 17 rfl rfl)
abbrev cX0_things : ByteArray := prog_1_method_65_code
def yX0_things : MethodName := ⟨RX0, "things", "(II)Ljava/lang/Object;"⟩
def dkwX0_things_2 : List UInt8 := [27, 188, 8, 176, 27, 188, 10, 176, 27, 188, 6, 176, 27, 188, 7, 176]
abbrev dktX0_things_2 : List UInt8 := dkwX0_things_2 ++ []
def dkwX0_things_1 : List UInt8 := [170, 0, 0, 0, 0, 0, 39, 0, 0, 0, 0, 0, 0, 0, 2, 0, 0, 0, 27, 0, 0, 0, 31, 0, 0, 0, 35]
abbrev dktX0_things_1 : List UInt8 := dkwX0_things_1 ++ dktX0_things_2
def dkwX0_things_0 : List UInt8 := [26]
abbrev dktX0_things_0 : List UInt8 := dkwX0_things_0 ++ dktX0_things_1
theorem dksX0_things_0 : cX0_things.data.toList.drop 0 = dktX0_things_0 := by decide +kernel
theorem dksX0_things_1 : cX0_things.data.toList.drop 1 = dktX0_things_1 := dk_seg dksX0_things_0 1 rfl rfl
theorem dksX0_things_2 : cX0_things.data.toList.drop 28 = dktX0_things_2 := dk_seg dksX0_things_1 27 rfl rfl
theorem dX0_things_0 : decode cX0_things 0 = .ok (.iload_n 0, 1) := dk_26 (dk_at dksX0_things_0 0 rfl rfl)
theorem dX0_things_1 : decode cX0_things 1 = .ok (.tableswitch 39 0 2 #[27, 31, 35], 27) := by decide +kernel
theorem dX0_things_28 : decode cX0_things 28 = .ok (.iload_n 1, 1) := dk_27 (dk_at dksX0_things_2 0 rfl rfl)
theorem dX0_things_29 : decode cX0_things 29 = .ok (.newarray .byte, 2) := dk_188_8 (dk_at dksX0_things_2 1 rfl rfl)
theorem dX0_things_31 : decode cX0_things 31 = .ok (.areturn, 1) := dk_176 (dk_at dksX0_things_2 3 rfl rfl)
theorem dX0_things_32 : decode cX0_things 32 = .ok (.iload_n 1, 1) := dk_27 (dk_at dksX0_things_2 4 rfl rfl)
theorem dX0_things_33 : decode cX0_things 33 = .ok (.newarray .int, 2) := dk_188_10 (dk_at dksX0_things_2 5 rfl rfl)
theorem dX0_things_35 : decode cX0_things 35 = .ok (.areturn, 1) := dk_176 (dk_at dksX0_things_2 7 rfl rfl)
theorem dX0_things_36 : decode cX0_things 36 = .ok (.iload_n 1, 1) := dk_27 (dk_at dksX0_things_2 8 rfl rfl)
theorem dX0_things_37 : decode cX0_things 37 = .ok (.newarray .float, 2) := dk_188_6 (dk_at dksX0_things_2 9 rfl rfl)
theorem dX0_things_39 : decode cX0_things 39 = .ok (.areturn, 1) := dk_176 (dk_at dksX0_things_2 11 rfl rfl)
theorem dX0_things_40 : decode cX0_things 40 = .ok (.iload_n 1, 1) := dk_27 (dk_at dksX0_things_2 12 rfl rfl)
theorem dX0_things_41 : decode cX0_things 41 = .ok (.newarray .double, 2) := dk_188_7 (dk_at dksX0_things_2 13 rfl rfl)
theorem dX0_things_43 : decode cX0_things 43 = .ok (.areturn, 1) := dk_176 (dk_at dksX0_things_2 15 rfl rfl)
abbrev cX0_put : ByteArray := prog_1_method_67_code
def yX0_put : MethodName := ⟨RX0, "put", "(III)I"⟩
def dkwX0_put_1 : List UInt8 := [172, 42, 180, 0, 121, 27, 50, 28, 29, 182, 2, 75, 4, 172, 58, 4, 16, 244, 172]
abbrev dktX0_put_1 : List UInt8 := dkwX0_put_1 ++ []
def dkwX0_put_0 : List UInt8 := [27, 184, 1, 220, 154, 0, 6, 16, 254, 172, 42, 180, 0, 121, 27, 50, 180, 1, 223, 199, 0, 6, 16, 245]
abbrev dktX0_put_0 : List UInt8 := dkwX0_put_0 ++ dktX0_put_1
theorem dksX0_put_0 : cX0_put.data.toList.drop 0 = dktX0_put_0 := by decide +kernel
theorem dksX0_put_1 : cX0_put.data.toList.drop 24 = dktX0_put_1 := dk_seg dksX0_put_0 24 rfl rfl
theorem dX0_put_0 : decode cX0_put 0 = .ok (.iload_n 1, 1) := dk_27 (dk_at dksX0_put_0 0 rfl rfl)
theorem dX0_put_1 : decode cX0_put 1 = .ok (.invokestatic 476, 3) := dk_184 1 220 (dk_at dksX0_put_0 1 rfl rfl)
theorem dX0_put_4 : decode cX0_put 4 = .ok (.ifCond .ne 6, 3) := dk_154 0 6 (dk_at dksX0_put_0 4 rfl rfl)
theorem dX0_put_7 : decode cX0_put 7 = .ok (.bipush (-2), 2) := dk_16 254 (dk_at dksX0_put_0 7 rfl rfl)
theorem dX0_put_9 : decode cX0_put 9 = .ok (.ireturn, 1) := dk_172 (dk_at dksX0_put_0 9 rfl rfl)
theorem dX0_put_10 : decode cX0_put 10 = .ok (.aload_n 0, 1) := dk_42 (dk_at dksX0_put_0 10 rfl rfl)
theorem dX0_put_11 : decode cX0_put 11 = .ok (.getfield 121, 3) := dk_180 0 121 (dk_at dksX0_put_0 11 rfl rfl)
theorem dX0_put_14 : decode cX0_put 14 = .ok (.iload_n 1, 1) := dk_27 (dk_at dksX0_put_0 14 rfl rfl)
theorem dX0_put_15 : decode cX0_put 15 = .ok (.aaload, 1) := dk_50 (dk_at dksX0_put_0 15 rfl rfl)
theorem dX0_put_16 : decode cX0_put 16 = .ok (.getfield 479, 3) := dk_180 1 223 (dk_at dksX0_put_0 16 rfl rfl)
theorem dX0_put_19 : decode cX0_put 19 = .ok (.ifnonnull 6, 3) := dk_199 0 6 (dk_at dksX0_put_0 19 rfl rfl)
theorem dX0_put_22 : decode cX0_put 22 = .ok (.bipush (-11), 2) := dk_16 245 (dk_at dksX0_put_0 22 rfl rfl)
theorem dX0_put_24 : decode cX0_put 24 = .ok (.ireturn, 1) := dk_172 (dk_at dksX0_put_1 0 rfl rfl)
theorem dX0_put_25 : decode cX0_put 25 = .ok (.aload_n 0, 1) := dk_42 (dk_at dksX0_put_1 1 rfl rfl)
theorem dX0_put_26 : decode cX0_put 26 = .ok (.getfield 121, 3) := dk_180 0 121 (dk_at dksX0_put_1 2 rfl rfl)
theorem dX0_put_29 : decode cX0_put 29 = .ok (.iload_n 1, 1) := dk_27 (dk_at dksX0_put_1 5 rfl rfl)
theorem dX0_put_30 : decode cX0_put 30 = .ok (.aaload, 1) := dk_50 (dk_at dksX0_put_1 6 rfl rfl)
theorem dX0_put_31 : decode cX0_put 31 = .ok (.iload_n 2, 1) := dk_28 (dk_at dksX0_put_1 7 rfl rfl)
theorem dX0_put_32 : decode cX0_put 32 = .ok (.iload_n 3, 1) := dk_29 (dk_at dksX0_put_1 8 rfl rfl)
theorem dX0_put_33 : decode cX0_put 33 = .ok (.invokevirtual 587, 3) := dk_182 2 75 (dk_at dksX0_put_1 9 rfl rfl)
theorem dX0_put_36 : decode cX0_put 36 = .ok (.iconst 1, 1) := dk_4 (dk_at dksX0_put_1 12 rfl rfl)
theorem dX0_put_37 : decode cX0_put 37 = .ok (.ireturn, 1) := dk_172 (dk_at dksX0_put_1 13 rfl rfl)
theorem dX0_put_38 : decode cX0_put 38 = .ok (.astore 4, 2) := dk_58 4 (dk_at dksX0_put_1 14 rfl rfl)
theorem dX0_put_40 : decode cX0_put 40 = .ok (.bipush (-12), 2) := dk_16 244 (dk_at dksX0_put_1 16 rfl rfl)
theorem dX0_put_42 : decode cX0_put 42 = .ok (.ireturn, 1) := dk_172 (dk_at dksX0_put_1 18 rfl rfl)
abbrev cX0_item : ByteArray := prog_1_method_68_code
def yX0_item : MethodName := ⟨RX0, "item", "(II)J"⟩
def dkwX0_item_1 : List UInt8 := [20, 2, 79, 173, 42, 180, 0, 121, 27, 50, 28, 182, 2, 81, 173, 78, 20, 2, 84, 173]
abbrev dktX0_item_1 : List UInt8 := dkwX0_item_1 ++ []
def dkwX0_item_0 : List UInt8 := [27, 184, 1, 220, 154, 0, 7, 20, 1, 180, 173, 42, 180, 0, 121, 27, 50, 180, 1, 223, 199, 0, 7]
abbrev dktX0_item_0 : List UInt8 := dkwX0_item_0 ++ dktX0_item_1
theorem dksX0_item_0 : cX0_item.data.toList.drop 0 = dktX0_item_0 := by decide +kernel
theorem dksX0_item_1 : cX0_item.data.toList.drop 23 = dktX0_item_1 := dk_seg dksX0_item_0 23 rfl rfl
theorem dX0_item_0 : decode cX0_item 0 = .ok (.iload_n 1, 1) := dk_27 (dk_at dksX0_item_0 0 rfl rfl)
theorem dX0_item_1 : decode cX0_item 1 = .ok (.invokestatic 476, 3) := dk_184 1 220 (dk_at dksX0_item_0 1 rfl rfl)
theorem dX0_item_4 : decode cX0_item 4 = .ok (.ifCond .ne 7, 3) := dk_154 0 7 (dk_at dksX0_item_0 4 rfl rfl)
theorem dX0_item_7 : decode cX0_item 7 = .ok (.ldc2_w 436, 3) := dk_20 1 180 (dk_at dksX0_item_0 7 rfl rfl)
theorem dX0_item_10 : decode cX0_item 10 = .ok (.lreturn, 1) := dk_173 (dk_at dksX0_item_0 10 rfl rfl)
theorem dX0_item_11 : decode cX0_item 11 = .ok (.aload_n 0, 1) := dk_42 (dk_at dksX0_item_0 11 rfl rfl)
theorem dX0_item_12 : decode cX0_item 12 = .ok (.getfield 121, 3) := dk_180 0 121 (dk_at dksX0_item_0 12 rfl rfl)
theorem dX0_item_15 : decode cX0_item 15 = .ok (.iload_n 1, 1) := dk_27 (dk_at dksX0_item_0 15 rfl rfl)
theorem dX0_item_16 : decode cX0_item 16 = .ok (.aaload, 1) := dk_50 (dk_at dksX0_item_0 16 rfl rfl)
theorem dX0_item_17 : decode cX0_item 17 = .ok (.getfield 479, 3) := dk_180 1 223 (dk_at dksX0_item_0 17 rfl rfl)
theorem dX0_item_20 : decode cX0_item 20 = .ok (.ifnonnull 7, 3) := dk_199 0 7 (dk_at dksX0_item_0 20 rfl rfl)
theorem dX0_item_23 : decode cX0_item 23 = .ok (.ldc2_w 591, 3) := dk_20 2 79 (dk_at dksX0_item_1 0 rfl rfl)
theorem dX0_item_26 : decode cX0_item 26 = .ok (.lreturn, 1) := dk_173 (dk_at dksX0_item_1 3 rfl rfl)
theorem dX0_item_27 : decode cX0_item 27 = .ok (.aload_n 0, 1) := dk_42 (dk_at dksX0_item_1 4 rfl rfl)
theorem dX0_item_28 : decode cX0_item 28 = .ok (.getfield 121, 3) := dk_180 0 121 (dk_at dksX0_item_1 5 rfl rfl)
theorem dX0_item_31 : decode cX0_item 31 = .ok (.iload_n 1, 1) := dk_27 (dk_at dksX0_item_1 8 rfl rfl)
theorem dX0_item_32 : decode cX0_item 32 = .ok (.aaload, 1) := dk_50 (dk_at dksX0_item_1 9 rfl rfl)
theorem dX0_item_33 : decode cX0_item 33 = .ok (.iload_n 2, 1) := dk_28 (dk_at dksX0_item_1 10 rfl rfl)
theorem dX0_item_34 : decode cX0_item 34 = .ok (.invokevirtual 593, 3) := dk_182 2 81 (dk_at dksX0_item_1 11 rfl rfl)
theorem dX0_item_37 : decode cX0_item 37 = .ok (.lreturn, 1) := dk_173 (dk_at dksX0_item_1 14 rfl rfl)
theorem dX0_item_38 : decode cX0_item 38 = .ok (.astore_n 3, 1) := dk_78 (dk_at dksX0_item_1 15 rfl rfl)
theorem dX0_item_39 : decode cX0_item 39 = .ok (.ldc2_w 596, 3) := dk_20 2 84 (dk_at dksX0_item_1 16 rfl rfl)
theorem dX0_item_42 : decode cX0_item 42 = .ok (.lreturn, 1) := dk_173 (dk_at dksX0_item_1 19 rfl rfl)
abbrev cX0_copy : ByteArray := prog_1_method_69_code
def yX0_copy : MethodName := ⟨RX0, "copy", "(IIIII)I"⟩
def dkwX0_copy_3 : List UInt8 := [184, 2, 86, 21, 5, 172, 58, 6, 16, 243, 172, 58, 6, 16, 244, 172]
abbrev dktX0_copy_3 : List UInt8 := dkwX0_copy_3 ++ []
def dkwX0_copy_2 : List UInt8 := [180, 0, 121, 27, 50, 180, 1, 223, 28, 42, 180, 0, 121, 29, 50, 180, 1, 223, 21, 4, 21, 5]
abbrev dktX0_copy_2 : List UInt8 := dkwX0_copy_2 ++ dktX0_copy_3
def dkwX0_copy_1 : List UInt8 := [180, 1, 223, 198, 0, 15, 42, 180, 0, 121, 29, 50, 180, 1, 223, 199, 0, 6, 16, 245, 172, 42]
abbrev dktX0_copy_1 : List UInt8 := dkwX0_copy_1 ++ dktX0_copy_2
def dkwX0_copy_0 : List UInt8 := [27, 184, 1, 220, 153, 0, 10, 29, 184, 1, 220, 154, 0, 6, 16, 254, 172, 42, 180, 0, 121, 27, 50]
abbrev dktX0_copy_0 : List UInt8 := dkwX0_copy_0 ++ dktX0_copy_1
theorem dksX0_copy_0 : cX0_copy.data.toList.drop 0 = dktX0_copy_0 := by decide +kernel
theorem dksX0_copy_1 : cX0_copy.data.toList.drop 23 = dktX0_copy_1 := dk_seg dksX0_copy_0 23 rfl rfl
theorem dksX0_copy_2 : cX0_copy.data.toList.drop 45 = dktX0_copy_2 := dk_seg dksX0_copy_1 22 rfl rfl
theorem dksX0_copy_3 : cX0_copy.data.toList.drop 67 = dktX0_copy_3 := dk_seg dksX0_copy_2 22 rfl rfl
theorem dX0_copy_0 : decode cX0_copy 0 = .ok (.iload_n 1, 1) := dk_27 (dk_at dksX0_copy_0 0 rfl rfl)
theorem dX0_copy_1 : decode cX0_copy 1 = .ok (.invokestatic 476, 3) := dk_184 1 220 (dk_at dksX0_copy_0 1 rfl rfl)
theorem dX0_copy_4 : decode cX0_copy 4 = .ok (.ifCond .eq 10, 3) := dk_153 0 10 (dk_at dksX0_copy_0 4 rfl rfl)
theorem dX0_copy_7 : decode cX0_copy 7 = .ok (.iload_n 3, 1) := dk_29 (dk_at dksX0_copy_0 7 rfl rfl)
theorem dX0_copy_8 : decode cX0_copy 8 = .ok (.invokestatic 476, 3) := dk_184 1 220 (dk_at dksX0_copy_0 8 rfl rfl)
theorem dX0_copy_11 : decode cX0_copy 11 = .ok (.ifCond .ne 6, 3) := dk_154 0 6 (dk_at dksX0_copy_0 11 rfl rfl)
theorem dX0_copy_14 : decode cX0_copy 14 = .ok (.bipush (-2), 2) := dk_16 254 (dk_at dksX0_copy_0 14 rfl rfl)
theorem dX0_copy_16 : decode cX0_copy 16 = .ok (.ireturn, 1) := dk_172 (dk_at dksX0_copy_0 16 rfl rfl)
theorem dX0_copy_17 : decode cX0_copy 17 = .ok (.aload_n 0, 1) := dk_42 (dk_at dksX0_copy_0 17 rfl rfl)
theorem dX0_copy_18 : decode cX0_copy 18 = .ok (.getfield 121, 3) := dk_180 0 121 (dk_at dksX0_copy_0 18 rfl rfl)
theorem dX0_copy_21 : decode cX0_copy 21 = .ok (.iload_n 1, 1) := dk_27 (dk_at dksX0_copy_0 21 rfl rfl)
theorem dX0_copy_22 : decode cX0_copy 22 = .ok (.aaload, 1) := dk_50 (dk_at dksX0_copy_0 22 rfl rfl)
theorem dX0_copy_23 : decode cX0_copy 23 = .ok (.getfield 479, 3) := dk_180 1 223 (dk_at dksX0_copy_1 0 rfl rfl)
theorem dX0_copy_26 : decode cX0_copy 26 = .ok (.ifnull 15, 3) := dk_198 0 15 (dk_at dksX0_copy_1 3 rfl rfl)
theorem dX0_copy_29 : decode cX0_copy 29 = .ok (.aload_n 0, 1) := dk_42 (dk_at dksX0_copy_1 6 rfl rfl)
theorem dX0_copy_30 : decode cX0_copy 30 = .ok (.getfield 121, 3) := dk_180 0 121 (dk_at dksX0_copy_1 7 rfl rfl)
theorem dX0_copy_33 : decode cX0_copy 33 = .ok (.iload_n 3, 1) := dk_29 (dk_at dksX0_copy_1 10 rfl rfl)
theorem dX0_copy_34 : decode cX0_copy 34 = .ok (.aaload, 1) := dk_50 (dk_at dksX0_copy_1 11 rfl rfl)
theorem dX0_copy_35 : decode cX0_copy 35 = .ok (.getfield 479, 3) := dk_180 1 223 (dk_at dksX0_copy_1 12 rfl rfl)
theorem dX0_copy_38 : decode cX0_copy 38 = .ok (.ifnonnull 6, 3) := dk_199 0 6 (dk_at dksX0_copy_1 15 rfl rfl)
theorem dX0_copy_41 : decode cX0_copy 41 = .ok (.bipush (-11), 2) := dk_16 245 (dk_at dksX0_copy_1 18 rfl rfl)
theorem dX0_copy_43 : decode cX0_copy 43 = .ok (.ireturn, 1) := dk_172 (dk_at dksX0_copy_1 20 rfl rfl)
theorem dX0_copy_44 : decode cX0_copy 44 = .ok (.aload_n 0, 1) := dk_42 (dk_at dksX0_copy_1 21 rfl rfl)
theorem dX0_copy_45 : decode cX0_copy 45 = .ok (.getfield 121, 3) := dk_180 0 121 (dk_at dksX0_copy_2 0 rfl rfl)
theorem dX0_copy_48 : decode cX0_copy 48 = .ok (.iload_n 1, 1) := dk_27 (dk_at dksX0_copy_2 3 rfl rfl)
theorem dX0_copy_49 : decode cX0_copy 49 = .ok (.aaload, 1) := dk_50 (dk_at dksX0_copy_2 4 rfl rfl)
theorem dX0_copy_50 : decode cX0_copy 50 = .ok (.getfield 479, 3) := dk_180 1 223 (dk_at dksX0_copy_2 5 rfl rfl)
theorem dX0_copy_53 : decode cX0_copy 53 = .ok (.iload_n 2, 1) := dk_28 (dk_at dksX0_copy_2 8 rfl rfl)
theorem dX0_copy_54 : decode cX0_copy 54 = .ok (.aload_n 0, 1) := dk_42 (dk_at dksX0_copy_2 9 rfl rfl)
theorem dX0_copy_55 : decode cX0_copy 55 = .ok (.getfield 121, 3) := dk_180 0 121 (dk_at dksX0_copy_2 10 rfl rfl)
theorem dX0_copy_58 : decode cX0_copy 58 = .ok (.iload_n 3, 1) := dk_29 (dk_at dksX0_copy_2 13 rfl rfl)
theorem dX0_copy_59 : decode cX0_copy 59 = .ok (.aaload, 1) := dk_50 (dk_at dksX0_copy_2 14 rfl rfl)
theorem dX0_copy_60 : decode cX0_copy 60 = .ok (.getfield 479, 3) := dk_180 1 223 (dk_at dksX0_copy_2 15 rfl rfl)
theorem dX0_copy_63 : decode cX0_copy 63 = .ok (.iload 4, 2) := dk_21 4 (dk_at dksX0_copy_2 18 rfl rfl)
theorem dX0_copy_65 : decode cX0_copy 65 = .ok (.iload 5, 2) := dk_21 5 (dk_at dksX0_copy_2 20 rfl rfl)
theorem dX0_copy_67 : decode cX0_copy 67 = .ok (.invokestatic 598, 3) := dk_184 2 86 (dk_at dksX0_copy_3 0 rfl rfl)
theorem dX0_copy_70 : decode cX0_copy 70 = .ok (.iload 5, 2) := dk_21 5 (dk_at dksX0_copy_3 3 rfl rfl)
theorem dX0_copy_72 : decode cX0_copy 72 = .ok (.ireturn, 1) := dk_172 (dk_at dksX0_copy_3 5 rfl rfl)
theorem dX0_copy_73 : decode cX0_copy 73 = .ok (.astore 6, 2) := dk_58 6 (dk_at dksX0_copy_3 6 rfl rfl)
theorem dX0_copy_75 : decode cX0_copy 75 = .ok (.bipush (-13), 2) := dk_16 243 (dk_at dksX0_copy_3 8 rfl rfl)
theorem dX0_copy_77 : decode cX0_copy 77 = .ok (.ireturn, 1) := dk_172 (dk_at dksX0_copy_3 10 rfl rfl)
theorem dX0_copy_78 : decode cX0_copy 78 = .ok (.astore 6, 2) := dk_58 6 (dk_at dksX0_copy_3 11 rfl rfl)
theorem dX0_copy_80 : decode cX0_copy 80 = .ok (.bipush (-12), 2) := dk_16 244 (dk_at dksX0_copy_3 13 rfl rfl)
theorem dX0_copy_82 : decode cX0_copy 82 = .ok (.ireturn, 1) := dk_172 (dk_at dksX0_copy_3 15 rfl rfl)
theorem q131 : (Jvm.Cond.initialized "WhatIfSheet") ∈ lw_all := lw_g (lw_at lw_m1 1 rfl) rfl
theorem q201 : (Jvm.Cond.instantiable "WhatIfSheet" (30 : Nat)) ∈ lw_all := lw_g (lw_at lw_m1 71 rfl) rfl
theorem q203 : (Jvm.Cond.instanceMethod ({ cls := "WhatIfSheet", name := "<init>", desc := "()V" } : Jvm.MethodName)) ∈ lw_all := lw_g (lw_at lw_m1 73 rfl) rfl
theorem q204 : (Jvm.Cond.code ({ cls := "WhatIfSheet", name := "<init>", desc := "()V" } : Jvm.MethodName) prog_1_method_3_code (2 : Nat) (Option.none : Option Jvm.ClassFile.FieldType)) ∈ lw_all := lw_g (lw_at lw_m1 74 rfl) rfl
theorem q205 : (Jvm.Cond.methodLink "WhatIfSheet" (24 : Nat) ({ cls := "java/lang/Object", name := "<init>", desc := "()V" } : Jvm.MethodName)) ∈ lw_all := lw_g (lw_at lw_m1 75 rfl) rfl
theorem q208 : (Jvm.Cond.classLink "WhatIfSheet" (3 : Nat) "WhatIfSheet$Plain") ∈ lw_all := lw_g (lw_at lw_m1 78 rfl) rfl
theorem q210 : (Jvm.Cond.classLink "WhatIfSheet" (35 : Nat) "WhatIfSheet$Table") ∈ lw_all := lw_g (lw_at lw_m1 80 rfl) rfl
theorem q212 : (Jvm.Cond.classLink "WhatIfSheet" (45 : Nat) "WhatIfSheet$Sight") ∈ lw_all := lw_g (lw_at lw_m1 82 rfl) rfl
theorem q215 : (Jvm.Cond.methodLink "WhatIfSheet" (51 : Nat) ({ cls := "WhatIfSheet$Sight", name := "<init>", desc := "(I)V" } : Jvm.MethodName)) ∈ lw_all := lw_g (lw_at lw_m1 85 rfl) rfl
theorem q220 : (Jvm.Cond.fieldLink "WhatIfSheet" (199 : Nat) "WhatIfSheet$Sight" "width" "I") ∈ lw_all := lw_g (lw_at lw_m1 90 rfl) rfl
theorem q222 : (Jvm.Cond.fieldLink "WhatIfSheet" (229 : Nat) "WhatIfSheet$Sight" "values" "[D") ∈ lw_all := lw_g (lw_at lw_m1 92 rfl) rfl
theorem q225 : (Jvm.Cond.fieldLink "WhatIfSheet" (160 : Nat) "WhatIfSheet$Sight" "results" "[D") ∈ lw_all := lw_g (lw_at lw_m1 95 rfl) rfl
theorem q227 : (Jvm.Cond.fieldLink "WhatIfSheet" (217 : Nat) "WhatIfSheet$Sight" "stamps" "[I") ∈ lw_all := lw_g (lw_at lw_m1 97 rfl) rfl
theorem q229 : (Jvm.Cond.fieldLink "WhatIfSheet" (227 : Nat) "WhatIfSheet$Sight" "faults" "[B") ∈ lw_all := lw_g (lw_at lw_m1 99 rfl) rfl
theorem q231 : (Jvm.Cond.fieldLink "WhatIfSheet" (232 : Nat) "WhatIfSheet$Sight" "blames" "[B") ∈ lw_all := lw_g (lw_at lw_m1 101 rfl) rfl
theorem q236 : (Jvm.Cond.fieldLink "WhatIfSheet" (157 : Nat) "WhatIfSheet$Sight" "errors" "[B") ∈ lw_all := lw_g (lw_at lw_m1 106 rfl) rfl
theorem q238 : (Jvm.Cond.fieldLink "WhatIfSheet" (276 : Nat) "WhatIfSheet$Sight" "blameds" "[B") ∈ lw_all := lw_g (lw_at lw_m1 108 rfl) rfl
theorem q240 : (Jvm.Cond.fieldLink "WhatIfSheet" (256 : Nat) "WhatIfSheet$Sight" "ones" "[D") ∈ lw_all := lw_g (lw_at lw_m1 110 rfl) rfl
theorem q242 : (Jvm.Cond.fieldLink "WhatIfSheet" (263 : Nat) "WhatIfSheet$Sight" "others" "[D") ∈ lw_all := lw_g (lw_at lw_m1 112 rfl) rfl
theorem q244 : (Jvm.Cond.fieldLink "WhatIfSheet" (184 : Nat) "WhatIfSheet$Sight" "firstOnes" "[B") ∈ lw_all := lw_g (lw_at lw_m1 114 rfl) rfl
theorem q246 : (Jvm.Cond.fieldLink "WhatIfSheet" (193 : Nat) "WhatIfSheet$Sight" "firstOthers" "[B") ∈ lw_all := lw_g (lw_at lw_m1 116 rfl) rfl
theorem q247 : (Jvm.Cond.fieldLink "WhatIfSheet" (220 : Nat) "WhatIfSheet$Sight" "stamp" "I") ∈ lw_all := lw_g (lw_at lw_m1 117 rfl) rfl
theorem q278 : (Jvm.Cond.classLink "WhatIfSheet" (56 : Nat) "java/util/BitSet") ∈ lw_all := lw_g (lw_at lw_m1 148 rfl) rfl
theorem q281 : (Jvm.Cond.methodLink "WhatIfSheet" (75 : Nat) ({ cls := "java/util/BitSet", name := "<init>", desc := "(I)V" } : Jvm.MethodName)) ∈ lw_all := lw_g (lw_at lw_m1 151 rfl) rfl
theorem q624 : (Jvm.Cond.classLink "WhatIfSheet" (83 : Nat) "java/util/ArrayDeque") ∈ lw_all := lw_g (lw_at lw_m3 14 rfl) rfl
theorem q626 : (Jvm.Cond.methodLink "WhatIfSheet" (85 : Nat) ({ cls := "java/util/ArrayDeque", name := "<init>", desc := "(I)V" } : Jvm.MethodName)) ∈ lw_all := lw_g (lw_at lw_m3 16 rfl) rfl
theorem q646 : (Jvm.Cond.classLink "WhatIfSheet" (110 : Nat) "WhatIfSheet$Formula") ∈ lw_all := lw_g (lw_at lw_m3 36 rfl) rfl
theorem q648 : (Jvm.Cond.classLink "WhatIfSheet" (119 : Nat) "WhatIfSheet$Row") ∈ lw_all := lw_g (lw_at lw_m3 38 rfl) rfl
theorem q651 : (Jvm.Cond.methodLink "WhatIfSheet" (5 : Nat) ({ cls := "WhatIfSheet$Plain", name := "<init>", desc := "(I)V" } : Jvm.MethodName)) ∈ lw_all := lw_g (lw_at lw_m3 41 rfl) rfl
theorem q657 : (Jvm.Cond.fieldLink "WhatIfSheet" (235 : Nat) "WhatIfSheet$Plain" "number" "I") ∈ lw_all := lw_g (lw_at lw_m3 47 rfl) rfl
theorem q659 : (Jvm.Cond.fieldLink "WhatIfSheet" (239 : Nat) "WhatIfSheet$Plain" "formula" "LWhatIfSheet$Formula;") ∈ lw_all := lw_g (lw_at lw_m3 49 rfl) rfl
theorem q662 : (Jvm.Cond.fieldLink "WhatIfSheet" (209 : Nat) "WhatIfSheet$Plain" "own" "D") ∈ lw_all := lw_g (lw_at lw_m3 52 rfl) rfl
theorem q671 : (Jvm.Cond.methodLinkNest "WhatIfSheet" (125 : Nat) ({ cls := "WhatIfSheet$Row", name := "<init>", desc := "()V" } : Jvm.MethodName) "WhatIfSheet") ∈ lw_tbl := lw_at lw_m3 61 rfl
theorem q676 : (Jvm.Cond.fieldLink "WhatIfSheet" (479 : Nat) "WhatIfSheet$Row" "thing" "Ljava/lang/Object;") ∈ lw_all := lw_g (lw_at lw_m3 66 rfl) rfl
theorem q680 : (Jvm.Cond.methodLink "WhatIfSheet" (126 : Nat) ({ cls := "WhatIfSheet", name := "orders", desc := "()I" } : Jvm.MethodName)) ∈ lw_all := lw_g (lw_at lw_m3 70 rfl) rfl
theorem q681 : (Jvm.Cond.privateMethod ({ cls := "WhatIfSheet", name := "orders", desc := "()I" } : Jvm.MethodName)) ∈ lw_tbl := lw_at lw_m3 71 rfl
theorem q682 : (Jvm.Cond.instanceMethod ({ cls := "WhatIfSheet", name := "orders", desc := "()I" } : Jvm.MethodName)) ∈ lw_all := lw_g (lw_at lw_m3 72 rfl) rfl
theorem q683 : (Jvm.Cond.codeWith ({ cls := "WhatIfSheet", name := "orders", desc := "()I" } : Jvm.MethodName) prog_1_method_24_code (2 : Nat) (Option.some Jvm.ClassFile.FieldType.int) [((0 : Nat), (11 : Nat), (12 : Nat), (333 : Nat))]) ∈ lw_all := lw_g (lw_at lw_m3 73 rfl) rfl
theorem q684 : (Jvm.Cond.classLink "WhatIfSheet" (333 : Nat) "WhatIfSheet$Refused") ∈ lw_all := lw_g (lw_at lw_m3 74 rfl) rfl
theorem q685 : (Jvm.Cond.methodLink "WhatIfSheet" (374 : Nat) ({ cls := "WhatIfSheet", name := "goesThrough", desc := "(Z)V" } : Jvm.MethodName)) ∈ lw_all := lw_g (lw_at lw_m3 75 rfl) rfl
theorem q686 : (Jvm.Cond.privateMethod ({ cls := "WhatIfSheet", name := "goesThrough", desc := "(Z)V" } : Jvm.MethodName)) ∈ lw_tbl := lw_at lw_m3 76 rfl
theorem q687 : (Jvm.Cond.instanceMethod ({ cls := "WhatIfSheet", name := "goesThrough", desc := "(Z)V" } : Jvm.MethodName)) ∈ lw_all := lw_g (lw_at lw_m3 77 rfl) rfl
theorem q688 : (Jvm.Cond.code ({ cls := "WhatIfSheet", name := "goesThrough", desc := "(Z)V" } : Jvm.MethodName) prog_1_method_20_code (5 : Nat) (Option.none : Option Jvm.ClassFile.FieldType)) ∈ lw_all := lw_g (lw_at lw_m3 78 rfl) rfl
theorem q689 : (Jvm.Cond.methodLink "WhatIfSheet" (316 : Nat) ({ cls := "java/util/ArrayDeque", name := "clear", desc := "()V" } : Jvm.MethodName)) ∈ lw_all := lw_g (lw_at lw_m3 79 rfl) rfl
theorem q696 : (Jvm.Cond.methodLink "WhatIfSheet" (319 : Nat) ({ cls := "WhatIfSheet", name := "stands", desc := "(I)V" } : Jvm.MethodName)) ∈ lw_all := lw_g (lw_at lw_m3 86 rfl) rfl
theorem q697 : (Jvm.Cond.privateMethod ({ cls := "WhatIfSheet", name := "stands", desc := "(I)V" } : Jvm.MethodName)) ∈ lw_tbl := lw_at lw_m3 87 rfl
theorem q698 : (Jvm.Cond.instanceMethod ({ cls := "WhatIfSheet", name := "stands", desc := "(I)V" } : Jvm.MethodName)) ∈ lw_all := lw_g (lw_at lw_m3 88 rfl) rfl
theorem q699 : (Jvm.Cond.code ({ cls := "WhatIfSheet", name := "stands", desc := "(I)V" } : Jvm.MethodName) prog_1_method_19_code (3 : Nat) (Option.none : Option Jvm.ClassFile.FieldType)) ∈ lw_all := lw_g (lw_at lw_m3 89 rfl) rfl
theorem q700 : (Jvm.Cond.methodLink "WhatIfSheet" (303 : Nat) ({ cls := "WhatIfSheet", name := "names", desc := "(II)Z" } : Jvm.MethodName)) ∈ lw_all := lw_g (lw_at lw_m3 90 rfl) rfl
theorem q701 : (Jvm.Cond.privateMethod ({ cls := "WhatIfSheet", name := "names", desc := "(II)Z" } : Jvm.MethodName)) ∈ lw_tbl := lw_at lw_m3 91 rfl
theorem q702 : (Jvm.Cond.instanceMethod ({ cls := "WhatIfSheet", name := "names", desc := "(II)Z" } : Jvm.MethodName)) ∈ lw_all := lw_g (lw_at lw_m3 92 rfl) rfl
theorem q703 : (Jvm.Cond.code ({ cls := "WhatIfSheet", name := "names", desc := "(II)Z" } : Jvm.MethodName) prog_1_method_18_code (4 : Nat) (Option.some Jvm.ClassFile.FieldType.boolean)) ∈ lw_all := lw_g (lw_at lw_m3 93 rfl) rfl
theorem q704 : (Jvm.Cond.methodLink "WhatIfSheet" (180 : Nat) ({ cls := "java/util/BitSet", name := "get", desc := "(I)Z" } : Jvm.MethodName)) ∈ lw_all := lw_g (lw_at lw_m3 94 rfl) rfl
theorem q730 : (Jvm.Cond.methodLink "WhatIfSheet" (300 : Nat) ({ cls := "WhatIfSheet$Formula", name := "isAsking", desc := "(I)Z" } : Jvm.MethodName)) ∈ lw_all := lw_g (lw_at lw_m3 120 rfl) rfl
theorem q766 : (Jvm.Cond.selects "WhatIfSheet" ({ cls := "java/lang/Object", name := "equals", desc := "(Ljava/lang/Object;)Z" } : Jvm.MethodName) ({ cls := "java/lang/Object", name := "equals", desc := "(Ljava/lang/Object;)Z" } : Jvm.MethodName)) ∈ lw_all := lw_g (lw_at lw_m3 156 rfl) rfl
theorem q820 : (Jvm.Cond.methodLink "WhatIfSheet" (306 : Nat) ({ cls := "java/lang/Integer", name := "valueOf", desc := "(I)Ljava/lang/Integer;" } : Jvm.MethodName)) ∈ lw_all := lw_g (lw_at lw_m3 210 rfl) rfl
theorem q821 : (Jvm.Cond.methodLink "WhatIfSheet" (312 : Nat) ({ cls := "java/util/ArrayDeque", name := "addLast", desc := "(Ljava/lang/Object;)V" } : Jvm.MethodName)) ∈ lw_all := lw_g (lw_at lw_m3 211 rfl) rfl
theorem q843 : (Jvm.Cond.selects "WhatIfSheet" ({ cls := "java/lang/Object", name := "getClass", desc := "()Ljava/lang/Class;" } : Jvm.MethodName) ({ cls := "java/lang/Object", name := "getClass", desc := "()Ljava/lang/Class;" } : Jvm.MethodName)) ∈ lw_all := lw_g (lw_at lw_m3 233 rfl) rfl
theorem q898 : (Jvm.Cond.methodLink "WhatIfSheet" (322 : Nat) ({ cls := "java/util/ArrayDeque", name := "isEmpty", desc := "()Z" } : Jvm.MethodName)) ∈ lw_all := lw_g (lw_at lw_m4 48 rfl) rfl
theorem q902 : (Jvm.Cond.methodLink "WhatIfSheet" (323 : Nat) ({ cls := "java/util/ArrayDeque", name := "pollFirst", desc := "()Ljava/lang/Object;" } : Jvm.MethodName)) ∈ lw_all := lw_g (lw_at lw_m4 52 rfl) rfl
theorem q909 : (Jvm.Cond.classLink "WhatIfSheet" (307 : Nat) "java/lang/Integer") ∈ lw_all := lw_g (lw_at lw_m4 59 rfl) rfl
theorem q910 : (Jvm.Cond.methodLink "WhatIfSheet" (327 : Nat) ({ cls := "java/lang/Integer", name := "intValue", desc := "()I" } : Jvm.MethodName)) ∈ lw_all := lw_g (lw_at lw_m4 60 rfl) rfl
theorem q911 : (Jvm.Cond.methodLink "WhatIfSheet" (330 : Nat) ({ cls := "WhatIfSheet", name := "weighs", desc := "(I)V" } : Jvm.MethodName)) ∈ lw_all := lw_g (lw_at lw_m4 61 rfl) rfl
theorem q912 : (Jvm.Cond.privateMethod ({ cls := "WhatIfSheet", name := "weighs", desc := "(I)V" } : Jvm.MethodName)) ∈ lw_tbl := lw_at lw_m4 62 rfl
theorem q913 : (Jvm.Cond.instanceMethod ({ cls := "WhatIfSheet", name := "weighs", desc := "(I)V" } : Jvm.MethodName)) ∈ lw_all := lw_g (lw_at lw_m4 63 rfl) rfl
theorem q914 : (Jvm.Cond.code ({ cls := "WhatIfSheet", name := "weighs", desc := "(I)V" } : Jvm.MethodName) prog_1_method_21_code (4 : Nat) (Option.none : Option Jvm.ClassFile.FieldType)) ∈ lw_all := lw_g (lw_at lw_m4 64 rfl) rfl
theorem q915 : (Jvm.Cond.methodLink "WhatIfSheet" (336 : Nat) ({ cls := "WhatIfSheet", name := "reads", desc := "(I)V" } : Jvm.MethodName)) ∈ lw_all := lw_g (lw_at lw_m4 65 rfl) rfl
theorem q916 : (Jvm.Cond.privateMethod ({ cls := "WhatIfSheet", name := "reads", desc := "(I)V" } : Jvm.MethodName)) ∈ lw_tbl := lw_at lw_m4 66 rfl
theorem q917 : (Jvm.Cond.instanceMethod ({ cls := "WhatIfSheet", name := "reads", desc := "(I)V" } : Jvm.MethodName)) ∈ lw_all := lw_g (lw_at lw_m4 67 rfl) rfl
theorem q918 : (Jvm.Cond.code ({ cls := "WhatIfSheet", name := "reads", desc := "(I)V" } : Jvm.MethodName) prog_1_method_22_code (5 : Nat) (Option.none : Option Jvm.ClassFile.FieldType)) ∈ lw_all := lw_g (lw_at lw_m4 68 rfl) rfl
theorem q919 : (Jvm.Cond.methodLink "WhatIfSheet" (342 : Nat) ({ cls := "java/util/BitSet", name := "clear", desc := "()V" } : Jvm.MethodName)) ∈ lw_all := lw_g (lw_at lw_m4 69 rfl) rfl
theorem q923 : (Jvm.Cond.methodLink "WhatIfSheet" (343 : Nat) ({ cls := "java/util/BitSet", name := "set", desc := "(I)V" } : Jvm.MethodName)) ∈ lw_all := lw_g (lw_at lw_m4 73 rfl) rfl
theorem q944 : (Jvm.Cond.methodLink "WhatIfSheet" (346 : Nat) ({ cls := "java/util/BitSet", name := "nextSetBit", desc := "(I)I" } : Jvm.MethodName)) ∈ lw_all := lw_g (lw_at lw_m4 94 rfl) rfl
theorem q957 : (Jvm.Cond.methodLink "WhatIfSheet" (350 : Nat) ({ cls := "java/util/BitSet", name := "or", desc := "(Ljava/util/BitSet;)V" } : Jvm.MethodName)) ∈ lw_all := lw_g (lw_at lw_m4 107 rfl) rfl
theorem q963 : (Jvm.Cond.methodLink "WhatIfSheet" (358 : Nat) ({ cls := "java/util/LinkedList", name := "iterator", desc := "()Ljava/util/Iterator;" } : Jvm.MethodName)) ∈ lw_all := lw_g (lw_at lw_m4 113 rfl) rfl
theorem q1030 : (Jvm.Cond.interfaceEntry "WhatIfSheet" (364 : Nat)) ∈ lw_tbl := lw_at lw_m4 180 rfl
theorem q1031 : (Jvm.Cond.methodLink "WhatIfSheet" (364 : Nat) ({ cls := "java/util/Iterator", name := "hasNext", desc := "()Z" } : Jvm.MethodName)) ∈ lw_all := lw_g (lw_at lw_m4 181 rfl) rfl
theorem q1052 : (Jvm.Cond.interfaceEntry "WhatIfSheet" (369 : Nat)) ∈ lw_tbl := lw_at lw_m4 202 rfl
theorem q1053 : (Jvm.Cond.methodLink "WhatIfSheet" (369 : Nat) ({ cls := "java/util/Iterator", name := "next", desc := "()Ljava/lang/Object;" } : Jvm.MethodName)) ∈ lw_all := lw_g (lw_at lw_m4 203 rfl) rfl
theorem q1156 : (Jvm.Cond.methodLink "WhatIfSheet" (372 : Nat) ({ cls := "java/util/BitSet", name := "clear", desc := "(I)V" } : Jvm.MethodName)) ∈ lw_all := lw_g (lw_at lw_m5 66 rfl) rfl
theorem q1164 : (Jvm.Cond.methodLink "WhatIfSheet" (338 : Nat) ({ cls := "WhatIfSheet", name := "burdenOf", desc := "(Ljava/util/BitSet;)I" } : Jvm.MethodName)) ∈ lw_all := lw_g (lw_at lw_m5 74 rfl) rfl
theorem q1165 : (Jvm.Cond.privateMethod ({ cls := "WhatIfSheet", name := "burdenOf", desc := "(Ljava/util/BitSet;)I" } : Jvm.MethodName)) ∈ lw_tbl := lw_at lw_m5 75 rfl
theorem q1166 : (Jvm.Cond.instanceMethod ({ cls := "WhatIfSheet", name := "burdenOf", desc := "(Ljava/util/BitSet;)I" } : Jvm.MethodName)) ∈ lw_all := lw_g (lw_at lw_m5 76 rfl) rfl
theorem q1167 : (Jvm.Cond.code ({ cls := "WhatIfSheet", name := "burdenOf", desc := "(Ljava/util/BitSet;)I" } : Jvm.MethodName) prog_1_method_23_code (4 : Nat) (Option.some Jvm.ClassFile.FieldType.int)) ∈ lw_all := lw_g (lw_at lw_m5 77 rfl) rfl
theorem q1168 : (Jvm.Cond.methodLink "WhatIfSheet" (154 : Nat) ({ cls := "WhatIfSheet$Table", name := "cases", desc := "()I" } : Jvm.MethodName)) ∈ lw_all := lw_g (lw_at lw_m5 78 rfl) rfl
theorem q1188 : (Jvm.Cond.methodLink "WhatIfSheet" (335 : Nat) ({ cls := "WhatIfSheet$Refused", name := "<init>", desc := "(I)V" } : Jvm.MethodName)) ∈ lw_all := lw_g (lw_at lw_m5 98 rfl) rfl
theorem q1198 : (Jvm.Cond.fieldLink "WhatIfSheet" (378 : Nat) "WhatIfSheet$Refused" "code" "I") ∈ lw_all := lw_g (lw_at lw_m5 108 rfl) rfl
theorem q1203 : (Jvm.Cond.fieldLink "WhatIfSheet" (31 : Nat) "WhatIfSheet" "cells" "[LWhatIfSheet$Plain;") ∈ lw_all := lw_g (lw_at lw_m5 113 rfl) rfl
theorem q1205 : (Jvm.Cond.fieldLink "WhatIfSheet" (37 : Nat) "WhatIfSheet" "tables" "[LWhatIfSheet$Table;") ∈ lw_all := lw_g (lw_at lw_m5 115 rfl) rfl
theorem q1207 : (Jvm.Cond.fieldLink "WhatIfSheet" (138 : Nat) "WhatIfSheet" "fault" "I") ∈ lw_all := lw_g (lw_at lw_m5 117 rfl) rfl
theorem q1210 : (Jvm.Cond.fieldLink "WhatIfSheet" (41 : Nat) "WhatIfSheet" "blamed" "I") ∈ lw_all := lw_g (lw_at lw_m5 120 rfl) rfl
theorem q1211 : (Jvm.Cond.fieldLink "WhatIfSheet" (141 : Nat) "WhatIfSheet" "teller" "I") ∈ lw_all := lw_g (lw_at lw_m5 121 rfl) rfl
theorem q1215 : (Jvm.Cond.fieldLink "WhatIfSheet" (47 : Nat) "WhatIfSheet" "sights" "[LWhatIfSheet$Sight;") ∈ lw_all := lw_g (lw_at lw_m5 125 rfl) rfl
theorem q1216 : (Jvm.Cond.fieldLink "WhatIfSheet" (52 : Nat) "WhatIfSheet" "plain" "LWhatIfSheet$Sight;") ∈ lw_all := lw_g (lw_at lw_m5 126 rfl) rfl
theorem q1217 : (Jvm.Cond.fieldLink "WhatIfSheet" (167 : Nat) "WhatIfSheet" "now" "LWhatIfSheet$Table;") ∈ lw_all := lw_g (lw_at lw_m5 127 rfl) rfl
theorem q1218 : (Jvm.Cond.fieldLink "WhatIfSheet" (187 : Nat) "WhatIfSheet" "atOne" "I") ∈ lw_all := lw_g (lw_at lw_m5 128 rfl) rfl
theorem q1219 : (Jvm.Cond.fieldLink "WhatIfSheet" (196 : Nat) "WhatIfSheet" "atOther" "I") ∈ lw_all := lw_g (lw_at lw_m5 129 rfl) rfl
theorem q1220 : (Jvm.Cond.fieldLink "WhatIfSheet" (236 : Nat) "WhatIfSheet" "told" "I") ∈ lw_all := lw_g (lw_at lw_m5 130 rfl) rfl
theorem q1221 : (Jvm.Cond.fieldLink "WhatIfSheet" (58 : Nat) "WhatIfSheet" "reached" "[Ljava/util/BitSet;") ∈ lw_all := lw_g (lw_at lw_m5 131 rfl) rfl
theorem q1222 : (Jvm.Cond.fieldLink "WhatIfSheet" (62 : Nat) "WhatIfSheet" "reads" "[Ljava/util/BitSet;") ∈ lw_all := lw_g (lw_at lw_m5 132 rfl) rfl
theorem q1223 : (Jvm.Cond.fieldLink "WhatIfSheet" (65 : Nat) "WhatIfSheet" "burdens" "[I") ∈ lw_all := lw_g (lw_at lw_m5 133 rfl) rfl
theorem q1224 : (Jvm.Cond.fieldLink "WhatIfSheet" (69 : Nat) "WhatIfSheet" "loads" "[I") ∈ lw_all := lw_g (lw_at lw_m5 134 rfl) rfl
theorem q1225 : (Jvm.Cond.fieldLink "WhatIfSheet" (72 : Nat) "WhatIfSheet" "tableBurdens" "[I") ∈ lw_all := lw_g (lw_at lw_m5 135 rfl) rfl
theorem q1226 : (Jvm.Cond.fieldLink "WhatIfSheet" (76 : Nat) "WhatIfSheet" "through" "Ljava/util/BitSet;") ∈ lw_all := lw_g (lw_at lw_m5 136 rfl) rfl
theorem q1227 : (Jvm.Cond.fieldLink "WhatIfSheet" (80 : Nat) "WhatIfSheet" "waits" "[I") ∈ lw_all := lw_g (lw_at lw_m5 137 rfl) rfl
theorem q1228 : (Jvm.Cond.fieldLink "WhatIfSheet" (86 : Nat) "WhatIfSheet" "ready" "Ljava/util/ArrayDeque;") ∈ lw_all := lw_g (lw_at lw_m5 138 rfl) rfl
theorem q1230 : (Jvm.Cond.fieldLink "WhatIfSheet" (90 : Nat) "WhatIfSheet" "tape" "[B") ∈ lw_all := lw_g (lw_at lw_m5 140 rfl) rfl
theorem q1232 : (Jvm.Cond.fieldLink "WhatIfSheet" (383 : Nat) "WhatIfSheet" "taped" "I") ∈ lw_all := lw_g (lw_at lw_m5 142 rfl) rfl
theorem q1233 : (Jvm.Cond.fieldLink "WhatIfSheet" (94 : Nat) "WhatIfSheet" "plainNumbers" "[D") ∈ lw_all := lw_g (lw_at lw_m5 143 rfl) rfl
theorem q1234 : (Jvm.Cond.fieldLink "WhatIfSheet" (98 : Nat) "WhatIfSheet" "plainFirsts" "[B") ∈ lw_all := lw_g (lw_at lw_m5 144 rfl) rfl
theorem q1235 : (Jvm.Cond.fieldLink "WhatIfSheet" (101 : Nat) "WhatIfSheet" "hads" "[D") ∈ lw_all := lw_g (lw_at lw_m5 145 rfl) rfl
theorem q1236 : (Jvm.Cond.fieldLink "WhatIfSheet" (104 : Nat) "WhatIfSheet" "kindsKept" "[I") ∈ lw_all := lw_g (lw_at lw_m5 146 rfl) rfl
theorem q1237 : (Jvm.Cond.fieldLink "WhatIfSheet" (107 : Nat) "WhatIfSheet" "ownKept" "[D") ∈ lw_all := lw_g (lw_at lw_m5 147 rfl) rfl
theorem q1238 : (Jvm.Cond.fieldLink "WhatIfSheet" (112 : Nat) "WhatIfSheet" "formulasKept" "[LWhatIfSheet$Formula;") ∈ lw_all := lw_g (lw_at lw_m5 148 rfl) rfl
theorem q1239 : (Jvm.Cond.fieldLink "WhatIfSheet" (116 : Nat) "WhatIfSheet" "tablesKept" "[LWhatIfSheet$Table;") ∈ lw_all := lw_g (lw_at lw_m5 149 rfl) rfl
theorem q1240 : (Jvm.Cond.fieldLink "WhatIfSheet" (574 : Nat) "WhatIfSheet" "isKept" "Z") ∈ lw_all := lw_g (lw_at lw_m5 150 rfl) rfl
theorem q1241 : (Jvm.Cond.fieldLink "WhatIfSheet" (121 : Nat) "WhatIfSheet" "rows" "[LWhatIfSheet$Row;") ∈ lw_all := lw_g (lw_at lw_m5 151 rfl) rfl
theorem q1242 : (Jvm.Cond.laysFinal "WhatIfSheet" "WhatIfSheet" "cells" "[LWhatIfSheet$Plain;") ∈ lw_all := lw_g (lw_at lw_m5 152 rfl) rfl
theorem q1243 : (Jvm.Cond.soleField "WhatIfSheet" "cells") ∈ lw_all := lw_g (lw_at lw_m5 153 rfl) rfl
theorem q1244 : (Jvm.Cond.laysFinal "WhatIfSheet" "WhatIfSheet" "tables" "[LWhatIfSheet$Table;") ∈ lw_all := lw_g (lw_at lw_m5 154 rfl) rfl
theorem q1245 : (Jvm.Cond.soleField "WhatIfSheet" "tables") ∈ lw_all := lw_g (lw_at lw_m5 155 rfl) rfl
theorem q1246 : (Jvm.Cond.lays "WhatIfSheet" "WhatIfSheet" "fault" "I") ∈ lw_all := lw_g (lw_at lw_m5 156 rfl) rfl
theorem q1247 : (Jvm.Cond.soleField "WhatIfSheet" "fault") ∈ lw_all := lw_g (lw_at lw_m5 157 rfl) rfl
theorem q1248 : (Jvm.Cond.lays "WhatIfSheet" "WhatIfSheet" "blamed" "I") ∈ lw_all := lw_g (lw_at lw_m5 158 rfl) rfl
theorem q1249 : (Jvm.Cond.soleField "WhatIfSheet" "blamed") ∈ lw_all := lw_g (lw_at lw_m5 159 rfl) rfl
theorem q1250 : (Jvm.Cond.lays "WhatIfSheet" "WhatIfSheet" "teller" "I") ∈ lw_all := lw_g (lw_at lw_m5 160 rfl) rfl
theorem q1251 : (Jvm.Cond.soleField "WhatIfSheet" "teller") ∈ lw_all := lw_g (lw_at lw_m5 161 rfl) rfl
theorem q1252 : (Jvm.Cond.laysFinal "WhatIfSheet" "WhatIfSheet" "sights" "[LWhatIfSheet$Sight;") ∈ lw_all := lw_g (lw_at lw_m5 162 rfl) rfl
theorem q1253 : (Jvm.Cond.soleField "WhatIfSheet" "sights") ∈ lw_all := lw_g (lw_at lw_m5 163 rfl) rfl
theorem q1254 : (Jvm.Cond.laysFinal "WhatIfSheet" "WhatIfSheet" "plain" "LWhatIfSheet$Sight;") ∈ lw_all := lw_g (lw_at lw_m5 164 rfl) rfl
theorem q1255 : (Jvm.Cond.soleField "WhatIfSheet" "plain") ∈ lw_all := lw_g (lw_at lw_m5 165 rfl) rfl
theorem q1256 : (Jvm.Cond.lays "WhatIfSheet" "WhatIfSheet" "now" "LWhatIfSheet$Table;") ∈ lw_all := lw_g (lw_at lw_m5 166 rfl) rfl
theorem q1257 : (Jvm.Cond.soleField "WhatIfSheet" "now") ∈ lw_all := lw_g (lw_at lw_m5 167 rfl) rfl
theorem q1258 : (Jvm.Cond.lays "WhatIfSheet" "WhatIfSheet" "atOne" "I") ∈ lw_all := lw_g (lw_at lw_m5 168 rfl) rfl
theorem q1259 : (Jvm.Cond.soleField "WhatIfSheet" "atOne") ∈ lw_all := lw_g (lw_at lw_m5 169 rfl) rfl
theorem q1260 : (Jvm.Cond.lays "WhatIfSheet" "WhatIfSheet" "atOther" "I") ∈ lw_all := lw_g (lw_at lw_m5 170 rfl) rfl
theorem q1261 : (Jvm.Cond.soleField "WhatIfSheet" "atOther") ∈ lw_all := lw_g (lw_at lw_m5 171 rfl) rfl
theorem q1262 : (Jvm.Cond.lays "WhatIfSheet" "WhatIfSheet" "told" "I") ∈ lw_all := lw_g (lw_at lw_m5 172 rfl) rfl
theorem q1263 : (Jvm.Cond.soleField "WhatIfSheet" "told") ∈ lw_all := lw_g (lw_at lw_m5 173 rfl) rfl
theorem q1264 : (Jvm.Cond.laysFinal "WhatIfSheet" "WhatIfSheet" "reached" "[Ljava/util/BitSet;") ∈ lw_all := lw_g (lw_at lw_m5 174 rfl) rfl
theorem q1265 : (Jvm.Cond.soleField "WhatIfSheet" "reached") ∈ lw_all := lw_g (lw_at lw_m5 175 rfl) rfl
theorem q1266 : (Jvm.Cond.laysFinal "WhatIfSheet" "WhatIfSheet" "reads" "[Ljava/util/BitSet;") ∈ lw_all := lw_g (lw_at lw_m5 176 rfl) rfl
theorem q1267 : (Jvm.Cond.soleField "WhatIfSheet" "reads") ∈ lw_all := lw_g (lw_at lw_m5 177 rfl) rfl
theorem q1268 : (Jvm.Cond.laysFinal "WhatIfSheet" "WhatIfSheet" "burdens" "[I") ∈ lw_all := lw_g (lw_at lw_m5 178 rfl) rfl
theorem q1269 : (Jvm.Cond.soleField "WhatIfSheet" "burdens") ∈ lw_all := lw_g (lw_at lw_m5 179 rfl) rfl
theorem q1270 : (Jvm.Cond.laysFinal "WhatIfSheet" "WhatIfSheet" "loads" "[I") ∈ lw_all := lw_g (lw_at lw_m5 180 rfl) rfl
theorem q1271 : (Jvm.Cond.soleField "WhatIfSheet" "loads") ∈ lw_all := lw_g (lw_at lw_m5 181 rfl) rfl
theorem q1272 : (Jvm.Cond.laysFinal "WhatIfSheet" "WhatIfSheet" "tableBurdens" "[I") ∈ lw_all := lw_g (lw_at lw_m5 182 rfl) rfl
theorem q1273 : (Jvm.Cond.soleField "WhatIfSheet" "tableBurdens") ∈ lw_all := lw_g (lw_at lw_m5 183 rfl) rfl
theorem q1274 : (Jvm.Cond.laysFinal "WhatIfSheet" "WhatIfSheet" "through" "Ljava/util/BitSet;") ∈ lw_all := lw_g (lw_at lw_m5 184 rfl) rfl
theorem q1275 : (Jvm.Cond.soleField "WhatIfSheet" "through") ∈ lw_all := lw_g (lw_at lw_m5 185 rfl) rfl
theorem q1276 : (Jvm.Cond.laysFinal "WhatIfSheet" "WhatIfSheet" "waits" "[I") ∈ lw_all := lw_g (lw_at lw_m5 186 rfl) rfl
theorem q1277 : (Jvm.Cond.soleField "WhatIfSheet" "waits") ∈ lw_all := lw_g (lw_at lw_m5 187 rfl) rfl
theorem q1278 : (Jvm.Cond.laysFinal "WhatIfSheet" "WhatIfSheet" "ready" "Ljava/util/ArrayDeque;") ∈ lw_all := lw_g (lw_at lw_m5 188 rfl) rfl
theorem q1279 : (Jvm.Cond.soleField "WhatIfSheet" "ready") ∈ lw_all := lw_g (lw_at lw_m5 189 rfl) rfl
theorem q1280 : (Jvm.Cond.laysFinal "WhatIfSheet" "WhatIfSheet" "tape" "[B") ∈ lw_all := lw_g (lw_at lw_m5 190 rfl) rfl
theorem q1281 : (Jvm.Cond.soleField "WhatIfSheet" "tape") ∈ lw_all := lw_g (lw_at lw_m5 191 rfl) rfl
theorem q1282 : (Jvm.Cond.lays "WhatIfSheet" "WhatIfSheet" "taped" "I") ∈ lw_all := lw_g (lw_at lw_m5 192 rfl) rfl
theorem q1283 : (Jvm.Cond.soleField "WhatIfSheet" "taped") ∈ lw_all := lw_g (lw_at lw_m5 193 rfl) rfl
theorem q1284 : (Jvm.Cond.laysFinal "WhatIfSheet" "WhatIfSheet" "plainNumbers" "[D") ∈ lw_all := lw_g (lw_at lw_m5 194 rfl) rfl
theorem q1285 : (Jvm.Cond.soleField "WhatIfSheet" "plainNumbers") ∈ lw_all := lw_g (lw_at lw_m5 195 rfl) rfl
theorem q1286 : (Jvm.Cond.laysFinal "WhatIfSheet" "WhatIfSheet" "plainFirsts" "[B") ∈ lw_all := lw_g (lw_at lw_m5 196 rfl) rfl
theorem q1287 : (Jvm.Cond.soleField "WhatIfSheet" "plainFirsts") ∈ lw_all := lw_g (lw_at lw_m5 197 rfl) rfl
theorem q1288 : (Jvm.Cond.laysFinal "WhatIfSheet" "WhatIfSheet" "hads" "[D") ∈ lw_all := lw_g (lw_at lw_m5 198 rfl) rfl
theorem q1289 : (Jvm.Cond.soleField "WhatIfSheet" "hads") ∈ lw_all := lw_g (lw_at lw_m5 199 rfl) rfl
theorem q1290 : (Jvm.Cond.laysFinal "WhatIfSheet" "WhatIfSheet" "kindsKept" "[I") ∈ lw_all := lw_g (lw_at lw_m5 200 rfl) rfl
theorem q1291 : (Jvm.Cond.soleField "WhatIfSheet" "kindsKept") ∈ lw_all := lw_g (lw_at lw_m5 201 rfl) rfl
theorem q1292 : (Jvm.Cond.laysFinal "WhatIfSheet" "WhatIfSheet" "ownKept" "[D") ∈ lw_all := lw_g (lw_at lw_m5 202 rfl) rfl
theorem q1293 : (Jvm.Cond.soleField "WhatIfSheet" "ownKept") ∈ lw_all := lw_g (lw_at lw_m5 203 rfl) rfl
theorem q1294 : (Jvm.Cond.laysFinal "WhatIfSheet" "WhatIfSheet" "formulasKept" "[LWhatIfSheet$Formula;") ∈ lw_all := lw_g (lw_at lw_m5 204 rfl) rfl
theorem q1295 : (Jvm.Cond.soleField "WhatIfSheet" "formulasKept") ∈ lw_all := lw_g (lw_at lw_m5 205 rfl) rfl
theorem q1296 : (Jvm.Cond.laysFinal "WhatIfSheet" "WhatIfSheet" "tablesKept" "[LWhatIfSheet$Table;") ∈ lw_all := lw_g (lw_at lw_m5 206 rfl) rfl
theorem q1297 : (Jvm.Cond.soleField "WhatIfSheet" "tablesKept") ∈ lw_all := lw_g (lw_at lw_m5 207 rfl) rfl
theorem q1298 : (Jvm.Cond.lays "WhatIfSheet" "WhatIfSheet" "isKept" "Z") ∈ lw_all := lw_g (lw_at lw_m5 208 rfl) rfl
theorem q1299 : (Jvm.Cond.soleField "WhatIfSheet" "isKept") ∈ lw_all := lw_g (lw_at lw_m5 209 rfl) rfl
theorem q1300 : (Jvm.Cond.laysFinal "WhatIfSheet" "WhatIfSheet" "rows" "[LWhatIfSheet$Row;") ∈ lw_all := lw_g (lw_at lw_m5 210 rfl) rfl
theorem q1301 : (Jvm.Cond.soleField "WhatIfSheet" "rows") ∈ lw_all := lw_g (lw_at lw_m5 211 rfl) rfl
theorem q1302 : (Jvm.Cond.superclass "WhatIfSheet" "java/lang/Object") ∈ lw_all := lw_g (lw_at lw_m5 212 rfl) rfl
theorem q1304 : (Jvm.Cond.instanceMethod ({ cls := "WhatIfSheet", name := "feed", desc := "(IIIIII)I" } : Jvm.MethodName)) ∈ lw_all := lw_g (lw_at lw_m5 214 rfl) rfl
theorem q1305 : (Jvm.Cond.selects "WhatIfSheet" ({ cls := "WhatIfSheet", name := "feed", desc := "(IIIIII)I" } : Jvm.MethodName) ({ cls := "WhatIfSheet", name := "feed", desc := "(IIIIII)I" } : Jvm.MethodName)) ∈ lw_all := lw_g (lw_at lw_m5 215 rfl) rfl
theorem q1306 : (Jvm.Cond.code ({ cls := "WhatIfSheet", name := "feed", desc := "(IIIIII)I" } : Jvm.MethodName) prog_1_method_26_code (8 : Nat) (Option.some Jvm.ClassFile.FieldType.int)) ∈ lw_all := lw_g (lw_at lw_m5 216 rfl) rfl
theorem q1307 : (Jvm.Cond.constantLong "WhatIfSheet" (136 : Nat) (5 : Int64)) ∈ lw_all := lw_g (lw_at lw_m5 217 rfl) rfl
theorem q1308 : (Jvm.Cond.methodLink "WhatIfSheet" (132 : Nat) ({ cls := "WhatIfSheet", name := "in", desc := "(JJJ)Z" } : Jvm.MethodName)) ∈ lw_all := lw_g (lw_at lw_m5 218 rfl) rfl
theorem q1309 : (Jvm.Cond.static ({ cls := "WhatIfSheet", name := "in", desc := "(JJJ)Z" } : Jvm.MethodName)) ∈ lw_all := lw_g (lw_at lw_m5 219 rfl) rfl
theorem q1310 : (Jvm.Cond.code ({ cls := "WhatIfSheet", name := "in", desc := "(JJJ)Z" } : Jvm.MethodName) prog_1_method_1_code (6 : Nat) (Option.some Jvm.ClassFile.FieldType.boolean)) ∈ lw_all := lw_g (lw_at lw_m5 220 rfl) rfl
theorem q1311 : (Jvm.Cond.constantLong "WhatIfSheet" (381 : Nat) (255 : Int64)) ∈ lw_all := lw_g (lw_at lw_m5 221 rfl) rfl
theorem q1313 : (Jvm.Cond.instanceMethod ({ cls := "WhatIfSheet", name := "formula", desc := "(I)I" } : Jvm.MethodName)) ∈ lw_all := lw_g (lw_at lw_m5 223 rfl) rfl
theorem q1314 : (Jvm.Cond.selects "WhatIfSheet" ({ cls := "WhatIfSheet", name := "formula", desc := "(I)I" } : Jvm.MethodName) ({ cls := "WhatIfSheet", name := "formula", desc := "(I)I" } : Jvm.MethodName)) ∈ lw_all := lw_g (lw_at lw_m5 224 rfl) rfl
theorem q1315 : (Jvm.Cond.codeWith ({ cls := "WhatIfSheet", name := "formula", desc := "(I)I" } : Jvm.MethodName) prog_1_method_28_code (10 : Nat) (Option.some Jvm.ClassFile.FieldType.int) [((10 : Nat), (22 : Nat), (30 : Nat), (401 : Nat)), ((10 : Nat), (22 : Nat), (48 : Nat), (0 : Nat)), ((30 : Nat), (40 : Nat), (48 : Nat), (0 : Nat)), ((48 : Nat), (50 : Nat), (48 : Nat), (0 : Nat)), ((91 : Nat), (113 : Nat), (139 : Nat), (0 : Nat)), ((139 : Nat), (141 : Nat), (139 : Nat), (0 : Nat))]) ∈ lw_all := lw_g (lw_at lw_m5 225 rfl) rfl
theorem q1316 : (Jvm.Cond.classLink "WhatIfSheet" (401 : Nat) "WhatIfSheet$Fault") ∈ lw_all := lw_g (lw_at lw_m5 226 rfl) rfl
theorem q1317 : (Jvm.Cond.methodLink "WhatIfSheet" (389 : Nat) ({ cls := "WhatIfSheet", name := "isCell", desc := "(I)Z" } : Jvm.MethodName)) ∈ lw_all := lw_g (lw_at lw_m5 227 rfl) rfl
theorem q1318 : (Jvm.Cond.static ({ cls := "WhatIfSheet", name := "isCell", desc := "(I)Z" } : Jvm.MethodName)) ∈ lw_all := lw_g (lw_at lw_m5 228 rfl) rfl
theorem q1319 : (Jvm.Cond.code ({ cls := "WhatIfSheet", name := "isCell", desc := "(I)Z" } : Jvm.MethodName) prog_1_method_4_code (1 : Nat) (Option.some Jvm.ClassFile.FieldType.boolean)) ∈ lw_all := lw_g (lw_at lw_m5 229 rfl) rfl
theorem q1320 : (Jvm.Cond.constantLong "WhatIfSheet" (130 : Nat) (23 : Int64)) ∈ lw_all := lw_g (lw_at lw_m5 230 rfl) rfl
theorem q1321 : (Jvm.Cond.classLink "WhatIfSheet" (392 : Nat) "WhatIfSheet$Reader") ∈ lw_all := lw_g (lw_at lw_m5 231 rfl) rfl
theorem q1323 : (Jvm.Cond.methodLinkNest "WhatIfSheet" (394 : Nat) ({ cls := "WhatIfSheet$Reader", name := "<init>", desc := "(LWhatIfSheet;)V" } : Jvm.MethodName) "WhatIfSheet") ∈ lw_tbl := lw_at lw_m5 233 rfl
theorem q1389 : (Jvm.Cond.methodLink "WhatIfSheet" (397 : Nat) ({ cls := "WhatIfSheet$Reader", name := "whole", desc := "()LWhatIfSheet$Formula;" } : Jvm.MethodName)) ∈ lw_all := lw_g (lw_at lw_m6 59 rfl) rfl
theorem q1467 : (Jvm.Cond.fieldLink "WhatIfSheet" (403 : Nat) "WhatIfSheet$Fault" "place" "I") ∈ lw_all := lw_g (lw_at lw_m6 137 rfl) rfl
theorem q1942 : (Jvm.Cond.fieldLink "WhatIfSheet" (243 : Nat) "WhatIfSheet$Formula" "root" "LWhatIfSheet$Node;") ∈ lw_all := lw_g (lw_at lw_m8 132 rfl) rfl
theorem q1944 : (Jvm.Cond.fieldLink "WhatIfSheet" (297 : Nat) "WhatIfSheet$Formula" "names" "Ljava/util/BitSet;") ∈ lw_all := lw_g (lw_at lw_m8 134 rfl) rfl
theorem q1946 : (Jvm.Cond.fieldLink "WhatIfSheet" (354 : Nat) "WhatIfSheet$Formula" "asks" "Ljava/util/LinkedList;") ∈ lw_all := lw_g (lw_at lw_m8 136 rfl) rfl
theorem q1954 : (Jvm.Cond.methodLink "WhatIfSheet" (405 : Nat) ({ cls := "WhatIfSheet", name := "isVaried", desc := "(I)Z" } : Jvm.MethodName)) ∈ lw_all := lw_g (lw_at lw_m8 144 rfl) rfl
theorem q1955 : (Jvm.Cond.privateMethod ({ cls := "WhatIfSheet", name := "isVaried", desc := "(I)Z" } : Jvm.MethodName)) ∈ lw_tbl := lw_at lw_m8 145 rfl
theorem q1956 : (Jvm.Cond.instanceMethod ({ cls := "WhatIfSheet", name := "isVaried", desc := "(I)Z" } : Jvm.MethodName)) ∈ lw_all := lw_g (lw_at lw_m8 146 rfl) rfl
theorem q1957 : (Jvm.Cond.code ({ cls := "WhatIfSheet", name := "isVaried", desc := "(I)Z" } : Jvm.MethodName) prog_1_method_27_code (6 : Nat) (Option.some Jvm.ClassFile.FieldType.boolean)) ∈ lw_all := lw_g (lw_at lw_m8 147 rfl) rfl
theorem q1958 : (Jvm.Cond.methodLink "WhatIfSheet" (386 : Nat) ({ cls := "WhatIfSheet$Table", name := "varies", desc := "(I)Z" } : Jvm.MethodName)) ∈ lw_all := lw_g (lw_at lw_m8 148 rfl) rfl
theorem q1962 : (Jvm.Cond.constantDouble "WhatIfSheet" (408 : Nat) (9221120237041090560 : UInt64)) ∈ lw_all := lw_g (lw_at lw_m8 152 rfl) rfl
theorem q1964 : (Jvm.Cond.instanceMethod ({ cls := "WhatIfSheet", name := "set", desc := "(II)I" } : Jvm.MethodName)) ∈ lw_all := lw_g (lw_at lw_m8 154 rfl) rfl
theorem q1965 : (Jvm.Cond.selects "WhatIfSheet" ({ cls := "WhatIfSheet", name := "set", desc := "(II)I" } : Jvm.MethodName) ({ cls := "WhatIfSheet", name := "set", desc := "(II)I" } : Jvm.MethodName)) ∈ lw_all := lw_g (lw_at lw_m8 155 rfl) rfl
theorem q1966 : (Jvm.Cond.code ({ cls := "WhatIfSheet", name := "set", desc := "(II)I" } : Jvm.MethodName) prog_1_method_29_code (3 : Nat) (Option.some Jvm.ClassFile.FieldType.int)) ∈ lw_all := lw_g (lw_at lw_m8 156 rfl) rfl
theorem q1967 : (Jvm.Cond.constantLong "WhatIfSheet" (410 : Nat) (-8000000 : Int64)) ∈ lw_all := lw_g (lw_at lw_m8 157 rfl) rfl
theorem q1968 : (Jvm.Cond.constantLong "WhatIfSheet" (412 : Nat) (8000000 : Int64)) ∈ lw_all := lw_g (lw_at lw_m8 158 rfl) rfl
theorem q1969 : (Jvm.Cond.methodLink "WhatIfSheet" (202 : Nat) ({ cls := "WhatIfSheet$Plain", name := "isInput", desc := "()Z" } : Jvm.MethodName)) ∈ lw_all := lw_g (lw_at lw_m8 159 rfl) rfl
theorem q1979 : (Jvm.Cond.constantDouble "WhatIfSheet" (414 : Nat) (4620693217682128896 : UInt64)) ∈ lw_all := lw_g (lw_at lw_m8 169 rfl) rfl
theorem q1980 : (Jvm.Cond.methodLink "WhatIfSheet" (253 : Nat) ({ cls := "WhatIfSheet$Plain", name := "kept", desc := "(D)D" } : Jvm.MethodName)) ∈ lw_all := lw_g (lw_at lw_m8 170 rfl) rfl
theorem q2024 : (Jvm.Cond.instanceMethod ({ cls := "WhatIfSheet", name := "clear", desc := "(I)I" } : Jvm.MethodName)) ∈ lw_all := lw_g (lw_at lw_m8 214 rfl) rfl
theorem q2025 : (Jvm.Cond.selects "WhatIfSheet" ({ cls := "WhatIfSheet", name := "clear", desc := "(I)I" } : Jvm.MethodName) ({ cls := "WhatIfSheet", name := "clear", desc := "(I)I" } : Jvm.MethodName)) ∈ lw_all := lw_g (lw_at lw_m8 215 rfl) rfl
theorem q2026 : (Jvm.Cond.code ({ cls := "WhatIfSheet", name := "clear", desc := "(I)I" } : Jvm.MethodName) prog_1_method_30_code (2 : Nat) (Option.some Jvm.ClassFile.FieldType.int)) ∈ lw_all := lw_g (lw_at lw_m8 216 rfl) rfl
theorem q2028 : (Jvm.Cond.instanceMethod ({ cls := "WhatIfSheet", name := "kind", desc := "(II)I" } : Jvm.MethodName)) ∈ lw_all := lw_g (lw_at lw_m8 218 rfl) rfl
theorem q2029 : (Jvm.Cond.selects "WhatIfSheet" ({ cls := "WhatIfSheet", name := "kind", desc := "(II)I" } : Jvm.MethodName) ({ cls := "WhatIfSheet", name := "kind", desc := "(II)I" } : Jvm.MethodName)) ∈ lw_all := lw_g (lw_at lw_m8 219 rfl) rfl
theorem q2030 : (Jvm.Cond.code ({ cls := "WhatIfSheet", name := "kind", desc := "(II)I" } : Jvm.MethodName) prog_1_method_31_code (4 : Nat) (Option.some Jvm.ClassFile.FieldType.int)) ∈ lw_all := lw_g (lw_at lw_m8 220 rfl) rfl
theorem q2031 : (Jvm.Cond.methodLink "WhatIfSheet" (416 : Nat) ({ cls := "WhatIfSheet$Plain", name := "kind", desc := "()I" } : Jvm.MethodName)) ∈ lw_all := lw_g (lw_at lw_m8 221 rfl) rfl
theorem q2051 : (Jvm.Cond.methodLink "WhatIfSheet" (419 : Nat) ({ cls := "WhatIfSheet", name := "made", desc := "(II)LWhatIfSheet$Plain;" } : Jvm.MethodName)) ∈ lw_all := lw_g (lw_at lw_m9 1 rfl) rfl
theorem q2052 : (Jvm.Cond.static ({ cls := "WhatIfSheet", name := "made", desc := "(II)LWhatIfSheet$Plain;" } : Jvm.MethodName)) ∈ lw_all := lw_g (lw_at lw_m9 2 rfl) rfl
theorem q2053 : (Jvm.Cond.code ({ cls := "WhatIfSheet", name := "made", desc := "(II)LWhatIfSheet$Plain;" } : Jvm.MethodName) prog_1_method_2_code (2 : Nat) (Option.some (Jvm.ClassFile.FieldType.object "WhatIfSheet$Plain"))) ∈ lw_all := lw_g (lw_at lw_m9 3 rfl) rfl
theorem q2054 : (Jvm.Cond.classLink "WhatIfSheet" (9 : Nat) "WhatIfSheet$Whole") ∈ lw_all := lw_g (lw_at lw_m9 4 rfl) rfl
theorem q2056 : (Jvm.Cond.methodLink "WhatIfSheet" (11 : Nat) ({ cls := "WhatIfSheet$Whole", name := "<init>", desc := "(I)V" } : Jvm.MethodName)) ∈ lw_all := lw_g (lw_at lw_m9 6 rfl) rfl
theorem q2063 : (Jvm.Cond.classLink "WhatIfSheet" (12 : Nat) "WhatIfSheet$Single") ∈ lw_all := lw_g (lw_at lw_m9 13 rfl) rfl
theorem q2065 : (Jvm.Cond.methodLink "WhatIfSheet" (14 : Nat) ({ cls := "WhatIfSheet$Single", name := "<init>", desc := "(I)V" } : Jvm.MethodName)) ∈ lw_all := lw_g (lw_at lw_m9 15 rfl) rfl
theorem q2072 : (Jvm.Cond.classLink "WhatIfSheet" (15 : Nat) "WhatIfSheet$Small") ∈ lw_all := lw_g (lw_at lw_m9 22 rfl) rfl
theorem q2074 : (Jvm.Cond.methodLink "WhatIfSheet" (17 : Nat) ({ cls := "WhatIfSheet$Small", name := "<init>", desc := "(I)V" } : Jvm.MethodName)) ∈ lw_all := lw_g (lw_at lw_m9 24 rfl) rfl
theorem q2081 : (Jvm.Cond.classLink "WhatIfSheet" (18 : Nat) "WhatIfSheet$Turn") ∈ lw_all := lw_g (lw_at lw_m9 31 rfl) rfl
theorem q2083 : (Jvm.Cond.methodLink "WhatIfSheet" (20 : Nat) ({ cls := "WhatIfSheet$Turn", name := "<init>", desc := "(I)V" } : Jvm.MethodName)) ∈ lw_all := lw_g (lw_at lw_m9 33 rfl) rfl
theorem q2090 : (Jvm.Cond.classLink "WhatIfSheet" (21 : Nat) "WhatIfSheet$Capped") ∈ lw_all := lw_g (lw_at lw_m9 40 rfl) rfl
theorem q2092 : (Jvm.Cond.methodLink "WhatIfSheet" (23 : Nat) ({ cls := "WhatIfSheet$Capped", name := "<init>", desc := "(I)V" } : Jvm.MethodName)) ∈ lw_all := lw_g (lw_at lw_m9 42 rfl) rfl
theorem q2099 : (Jvm.Cond.methodLink "WhatIfSheet" (423 : Nat) ({ cls := "WhatIfSheet$Plain", name := "like", desc := "(LWhatIfSheet$Plain;)LWhatIfSheet$Plain;" } : Jvm.MethodName)) ∈ lw_all := lw_g (lw_at lw_m9 49 rfl) rfl
theorem q2121 : (Jvm.Cond.instanceMethod ({ cls := "WhatIfSheet", name := "told", desc := "(II)I" } : Jvm.MethodName)) ∈ lw_all := lw_g (lw_at lw_m9 71 rfl) rfl
theorem q2122 : (Jvm.Cond.selects "WhatIfSheet" ({ cls := "WhatIfSheet", name := "told", desc := "(II)I" } : Jvm.MethodName) ({ cls := "WhatIfSheet", name := "told", desc := "(II)I" } : Jvm.MethodName)) ∈ lw_all := lw_g (lw_at lw_m9 72 rfl) rfl
theorem q2123 : (Jvm.Cond.code ({ cls := "WhatIfSheet", name := "told", desc := "(II)I" } : Jvm.MethodName) prog_1_method_32_code (3 : Nat) (Option.some Jvm.ClassFile.FieldType.int)) ∈ lw_all := lw_g (lw_at lw_m9 73 rfl) rfl
theorem q2124 : (Jvm.Cond.methodLink "WhatIfSheet" (427 : Nat) ({ cls := "WhatIfSheet", name := "bits", desc := "(Ljava/util/BitSet;)I" } : Jvm.MethodName)) ∈ lw_all := lw_g (lw_at lw_m9 74 rfl) rfl
theorem q2125 : (Jvm.Cond.static ({ cls := "WhatIfSheet", name := "bits", desc := "(Ljava/util/BitSet;)I" } : Jvm.MethodName)) ∈ lw_all := lw_g (lw_at lw_m9 75 rfl) rfl
theorem q2126 : (Jvm.Cond.code ({ cls := "WhatIfSheet", name := "bits", desc := "(Ljava/util/BitSet;)I" } : Jvm.MethodName) prog_1_method_25_code (3 : Nat) (Option.some Jvm.ClassFile.FieldType.int)) ∈ lw_all := lw_g (lw_at lw_m9 76 rfl) rfl
theorem q2127 : (Jvm.Cond.methodLink "WhatIfSheet" (430 : Nat) ({ cls := "WhatIfSheet", name := "asked", desc := "(I)D" } : Jvm.MethodName)) ∈ lw_all := lw_g (lw_at lw_m9 77 rfl) rfl
theorem q2128 : (Jvm.Cond.privateMethod ({ cls := "WhatIfSheet", name := "asked", desc := "(I)D" } : Jvm.MethodName)) ∈ lw_tbl := lw_at lw_m9 78 rfl
theorem q2129 : (Jvm.Cond.instanceMethod ({ cls := "WhatIfSheet", name := "asked", desc := "(I)D" } : Jvm.MethodName)) ∈ lw_all := lw_g (lw_at lw_m9 79 rfl) rfl
theorem q2130 : (Jvm.Cond.code ({ cls := "WhatIfSheet", name := "asked", desc := "(I)D" } : Jvm.MethodName) prog_1_method_16_code (2 : Nat) (Option.some Jvm.ClassFile.FieldType.double)) ∈ lw_all := lw_g (lw_at lw_m9 80 rfl) rfl
theorem q2131 : (Jvm.Cond.methodLink "WhatIfSheet" (272 : Nat) ({ cls := "WhatIfSheet", name := "tell", desc := "(I)D" } : Jvm.MethodName)) ∈ lw_all := lw_g (lw_at lw_m9 81 rfl) rfl
theorem q2132 : (Jvm.Cond.privateMethod ({ cls := "WhatIfSheet", name := "tell", desc := "(I)D" } : Jvm.MethodName)) ∈ lw_tbl := lw_at lw_m9 82 rfl
theorem q2133 : (Jvm.Cond.instanceMethod ({ cls := "WhatIfSheet", name := "tell", desc := "(I)D" } : Jvm.MethodName)) ∈ lw_all := lw_g (lw_at lw_m9 83 rfl) rfl
theorem q2134 : (Jvm.Cond.code ({ cls := "WhatIfSheet", name := "tell", desc := "(I)D" } : Jvm.MethodName) prog_1_method_10_code (5 : Nat) (Option.some Jvm.ClassFile.FieldType.double)) ∈ lw_all := lw_g (lw_at lw_m9 84 rfl) rfl
theorem q2135 : (Jvm.Cond.methodLink "WhatIfSheet" (206 : Nat) ({ cls := "WhatIfSheet$Plain", name := "isEmpty", desc := "()Z" } : Jvm.MethodName)) ∈ lw_all := lw_g (lw_at lw_m9 85 rfl) rfl
theorem q2136 : (Jvm.Cond.methodLink "WhatIfSheet" (213 : Nat) ({ cls := "WhatIfSheet", name := "place", desc := "(ILWhatIfSheet$Sight;)I" } : Jvm.MethodName)) ∈ lw_all := lw_g (lw_at lw_m9 86 rfl) rfl
theorem q2137 : (Jvm.Cond.privateMethod ({ cls := "WhatIfSheet", name := "place", desc := "(ILWhatIfSheet$Sight;)I" } : Jvm.MethodName)) ∈ lw_tbl := lw_at lw_m9 87 rfl
theorem q2138 : (Jvm.Cond.instanceMethod ({ cls := "WhatIfSheet", name := "place", desc := "(ILWhatIfSheet$Sight;)I" } : Jvm.MethodName)) ∈ lw_all := lw_g (lw_at lw_m9 88 rfl) rfl
theorem q2139 : (Jvm.Cond.code ({ cls := "WhatIfSheet", name := "place", desc := "(ILWhatIfSheet$Sight;)I" } : Jvm.MethodName) prog_1_method_9_code (5 : Nat) (Option.some Jvm.ClassFile.FieldType.int)) ∈ lw_all := lw_g (lw_at lw_m9 89 rfl) rfl
theorem q2140 : (Jvm.Cond.methodLink "WhatIfSheet" (223 : Nat) ({ cls := "WhatIfSheet", name := "fills", desc := "(LWhatIfSheet$Plain;LWhatIfSheet$Sight;I)V" } : Jvm.MethodName)) ∈ lw_all := lw_g (lw_at lw_m9 90 rfl) rfl
theorem q2141 : (Jvm.Cond.privateMethod ({ cls := "WhatIfSheet", name := "fills", desc := "(LWhatIfSheet$Plain;LWhatIfSheet$Sight;I)V" } : Jvm.MethodName)) ∈ lw_tbl := lw_at lw_m9 91 rfl
theorem q2142 : (Jvm.Cond.instanceMethod ({ cls := "WhatIfSheet", name := "fills", desc := "(LWhatIfSheet$Plain;LWhatIfSheet$Sight;I)V" } : Jvm.MethodName)) ∈ lw_all := lw_g (lw_at lw_m9 92 rfl) rfl
theorem q2143 : (Jvm.Cond.codeWith ({ cls := "WhatIfSheet", name := "fills", desc := "(LWhatIfSheet$Plain;LWhatIfSheet$Sight;I)V" } : Jvm.MethodName) prog_1_method_11_code (10 : Nat) (Option.none : Option Jvm.ClassFile.FieldType) [((18 : Nat), (113 : Nat), (134 : Nat), (0 : Nat)), ((134 : Nat), (136 : Nat), (134 : Nat), (0 : Nat))]) ∈ lw_all := lw_g (lw_at lw_m9 93 rfl) rfl
theorem q2144 : (Jvm.Cond.methodLink "WhatIfSheet" (247 : Nat) ({ cls := "WhatIfSheet$Node", name := "worth", desc := "()D" } : Jvm.MethodName)) ∈ lw_all := lw_g (lw_at lw_m9 94 rfl) rfl
theorem q2151 : (Jvm.Cond.privateMethod ({ cls := "WhatIfSheet", name := "faults", desc := "(I)V" } : Jvm.MethodName)) ∈ lw_tbl := lw_at lw_m9 101 rfl
theorem q2152 : (Jvm.Cond.instanceMethod ({ cls := "WhatIfSheet", name := "faults", desc := "(I)V" } : Jvm.MethodName)) ∈ lw_all := lw_g (lw_at lw_m9 102 rfl) rfl
theorem q2153 : (Jvm.Cond.code ({ cls := "WhatIfSheet", name := "faults", desc := "(I)V" } : Jvm.MethodName) prog_1_method_6_code (2 : Nat) (Option.none : Option Jvm.ClassFile.FieldType)) ∈ lw_all := lw_g (lw_at lw_m9 103 rfl) rfl
theorem q2155 : (Jvm.Cond.privateMethod ({ cls := "WhatIfSheet", name := "runsAll", desc := "(LWhatIfSheet$Table;)V" } : Jvm.MethodName)) ∈ lw_tbl := lw_at lw_m9 105 rfl
theorem q2156 : (Jvm.Cond.instanceMethod ({ cls := "WhatIfSheet", name := "runsAll", desc := "(LWhatIfSheet$Table;)V" } : Jvm.MethodName)) ∈ lw_all := lw_g (lw_at lw_m9 106 rfl) rfl
theorem q2157 : (Jvm.Cond.code ({ cls := "WhatIfSheet", name := "runsAll", desc := "(LWhatIfSheet$Table;)V" } : Jvm.MethodName) prog_1_method_15_code (2 : Nat) (Option.none : Option Jvm.ClassFile.FieldType)) ∈ lw_all := lw_g (lw_at lw_m9 107 rfl) rfl
theorem q2158 : (Jvm.Cond.methodLink "WhatIfSheet" (287 : Nat) ({ cls := "WhatIfSheet", name := "runs", desc := "(LWhatIfSheet$Table;II)V" } : Jvm.MethodName)) ∈ lw_all := lw_g (lw_at lw_m9 108 rfl) rfl
theorem q2159 : (Jvm.Cond.privateMethod ({ cls := "WhatIfSheet", name := "runs", desc := "(LWhatIfSheet$Table;II)V" } : Jvm.MethodName)) ∈ lw_tbl := lw_at lw_m9 109 rfl
theorem q2160 : (Jvm.Cond.instanceMethod ({ cls := "WhatIfSheet", name := "runs", desc := "(LWhatIfSheet$Table;II)V" } : Jvm.MethodName)) ∈ lw_all := lw_g (lw_at lw_m9 110 rfl) rfl
theorem q2161 : (Jvm.Cond.codeWith ({ cls := "WhatIfSheet", name := "runs", desc := "(LWhatIfSheet$Table;II)V" } : Jvm.MethodName) prog_1_method_14_code (18 : Nat) (Option.none : Option Jvm.ClassFile.FieldType) [((103 : Nat), (128 : Nat), (269 : Nat), (0 : Nat)), ((178 : Nat), (217 : Nat), (269 : Nat), (0 : Nat)), ((269 : Nat), (271 : Nat), (269 : Nat), (0 : Nat))]) ∈ lw_all := lw_g (lw_at lw_m9 111 rfl) rfl
theorem q2162 : (Jvm.Cond.methodLink "WhatIfSheet" (279 : Nat) ({ cls := "WhatIfSheet", name := "opens", desc := "(LWhatIfSheet$Table;LWhatIfSheet$Sight;)V" } : Jvm.MethodName)) ∈ lw_all := lw_g (lw_at lw_m9 112 rfl) rfl
theorem q2163 : (Jvm.Cond.privateMethod ({ cls := "WhatIfSheet", name := "opens", desc := "(LWhatIfSheet$Table;LWhatIfSheet$Sight;)V" } : Jvm.MethodName)) ∈ lw_tbl := lw_at lw_m9 113 rfl
theorem q2164 : (Jvm.Cond.instanceMethod ({ cls := "WhatIfSheet", name := "opens", desc := "(LWhatIfSheet$Table;LWhatIfSheet$Sight;)V" } : Jvm.MethodName)) ∈ lw_all := lw_g (lw_at lw_m9 114 rfl) rfl
theorem q2165 : (Jvm.Cond.code ({ cls := "WhatIfSheet", name := "opens", desc := "(LWhatIfSheet$Table;LWhatIfSheet$Sight;)V" } : Jvm.MethodName) prog_1_method_12_code (3 : Nat) (Option.none : Option Jvm.ClassFile.FieldType)) ∈ lw_all := lw_g (lw_at lw_m9 115 rfl) rfl
theorem q2166 : (Jvm.Cond.methodLink "WhatIfSheet" (259 : Nat) ({ cls := "WhatIfSheet$Sight", name := "keeps", desc := "(LWhatIfSheet$Axis;LWhatIfSheet$Plain;[D[B)I" } : Jvm.MethodName)) ∈ lw_all := lw_g (lw_at lw_m9 116 rfl) rfl
theorem q2171 : (Jvm.Cond.methodLink "WhatIfSheet" (283 : Nat) ({ cls := "WhatIfSheet", name := "binds", desc := "(LWhatIfSheet$Table;LWhatIfSheet$Sight;II)V" } : Jvm.MethodName)) ∈ lw_all := lw_g (lw_at lw_m9 121 rfl) rfl
theorem q2172 : (Jvm.Cond.privateMethod ({ cls := "WhatIfSheet", name := "binds", desc := "(LWhatIfSheet$Table;LWhatIfSheet$Sight;II)V" } : Jvm.MethodName)) ∈ lw_tbl := lw_at lw_m9 122 rfl
theorem q2173 : (Jvm.Cond.instanceMethod ({ cls := "WhatIfSheet", name := "binds", desc := "(LWhatIfSheet$Table;LWhatIfSheet$Sight;II)V" } : Jvm.MethodName)) ∈ lw_all := lw_g (lw_at lw_m9 123 rfl) rfl
theorem q2174 : (Jvm.Cond.code ({ cls := "WhatIfSheet", name := "binds", desc := "(LWhatIfSheet$Table;LWhatIfSheet$Sight;II)V" } : Jvm.MethodName) prog_1_method_13_code (6 : Nat) (Option.none : Option Jvm.ClassFile.FieldType)) ∈ lw_all := lw_g (lw_at lw_m9 124 rfl) rfl
theorem q2175 : (Jvm.Cond.methodLink "WhatIfSheet" (266 : Nat) ({ cls := "WhatIfSheet$Table", name := "many", desc := "()I" } : Jvm.MethodName)) ∈ lw_all := lw_g (lw_at lw_m9 125 rfl) rfl
theorem q2220 : (Jvm.Cond.privateMethod ({ cls := "WhatIfSheet", name := "sum", desc := "(LWhatIfSheet$Table;)D" } : Jvm.MethodName)) ∈ lw_tbl := lw_at lw_m9 170 rfl
theorem q2221 : (Jvm.Cond.instanceMethod ({ cls := "WhatIfSheet", name := "sum", desc := "(LWhatIfSheet$Table;)D" } : Jvm.MethodName)) ∈ lw_all := lw_g (lw_at lw_m9 171 rfl) rfl
theorem q2222 : (Jvm.Cond.code ({ cls := "WhatIfSheet", name := "sum", desc := "(LWhatIfSheet$Table;)D" } : Jvm.MethodName) prog_1_method_8_code (6 : Nat) (Option.some Jvm.ClassFile.FieldType.double)) ∈ lw_all := lw_g (lw_at lw_m9 172 rfl) rfl
theorem q2223 : (Jvm.Cond.methodLink "WhatIfSheet" (163 : Nat) ({ cls := "WhatIfSheet", name := "near", desc := "(D)D" } : Jvm.MethodName)) ∈ lw_all := lw_g (lw_at lw_m9 173 rfl) rfl
theorem q2224 : (Jvm.Cond.privateMethod ({ cls := "WhatIfSheet", name := "near", desc := "(D)D" } : Jvm.MethodName)) ∈ lw_tbl := lw_at lw_m9 174 rfl
theorem q2225 : (Jvm.Cond.instanceMethod ({ cls := "WhatIfSheet", name := "near", desc := "(D)D" } : Jvm.MethodName)) ∈ lw_all := lw_g (lw_at lw_m9 175 rfl) rfl
theorem q2226 : (Jvm.Cond.code ({ cls := "WhatIfSheet", name := "near", desc := "(D)D" } : Jvm.MethodName) prog_1_method_7_code (3 : Nat) (Option.some Jvm.ClassFile.FieldType.double)) ∈ lw_all := lw_g (lw_at lw_m9 176 rfl) rfl
theorem q2227 : (Jvm.Cond.constantDouble "WhatIfSheet" (144 : Nat) (4786511204640096256 : UInt64)) ∈ lw_all := lw_g (lw_at lw_m9 177 rfl) rfl
theorem q2228 : (Jvm.Cond.constantDouble "WhatIfSheet" (146 : Nat) (14009883241494872064 : UInt64)) ∈ lw_all := lw_g (lw_at lw_m9 178 rfl) rfl
theorem q2229 : (Jvm.Cond.methodLink "WhatIfSheet" (148 : Nat) ({ cls := "WhatIfSheet", name := "faults", desc := "(I)V" } : Jvm.MethodName)) ∈ lw_all := lw_g (lw_at lw_m9 179 rfl) rfl
theorem q2292 : (Jvm.Cond.instanceMethod ({ cls := "WhatIfSheet", name := "value", desc := "(I)J" } : Jvm.MethodName)) ∈ lw_all := lw_g (lw_at lw_m10 2 rfl) rfl
theorem q2293 : (Jvm.Cond.selects "WhatIfSheet" ({ cls := "WhatIfSheet", name := "value", desc := "(I)J" } : Jvm.MethodName) ({ cls := "WhatIfSheet", name := "value", desc := "(I)J" } : Jvm.MethodName)) ∈ lw_all := lw_g (lw_at lw_m10 3 rfl) rfl
theorem q2294 : (Jvm.Cond.code ({ cls := "WhatIfSheet", name := "value", desc := "(I)J" } : Jvm.MethodName) prog_1_method_33_code (2 : Nat) (Option.some Jvm.ClassFile.FieldType.long)) ∈ lw_all := lw_g (lw_at lw_m10 4 rfl) rfl
theorem q2295 : (Jvm.Cond.methodLink "WhatIfSheet" (433 : Nat) ({ cls := "WhatIfSheet", name := "answer", desc := "(D)J" } : Jvm.MethodName)) ∈ lw_all := lw_g (lw_at lw_m10 5 rfl) rfl
theorem q2296 : (Jvm.Cond.privateMethod ({ cls := "WhatIfSheet", name := "answer", desc := "(D)J" } : Jvm.MethodName)) ∈ lw_tbl := lw_at lw_m10 6 rfl
theorem q2297 : (Jvm.Cond.instanceMethod ({ cls := "WhatIfSheet", name := "answer", desc := "(D)J" } : Jvm.MethodName)) ∈ lw_all := lw_g (lw_at lw_m10 7 rfl) rfl
theorem q2298 : (Jvm.Cond.code ({ cls := "WhatIfSheet", name := "answer", desc := "(D)J" } : Jvm.MethodName) prog_1_method_17_code (3 : Nat) (Option.some Jvm.ClassFile.FieldType.long)) ∈ lw_all := lw_g (lw_at lw_m10 8 rfl) rfl
theorem q2299 : (Jvm.Cond.constantLong "WhatIfSheet" (291 : Nat) (-20 : Int64)) ∈ lw_all := lw_g (lw_at lw_m10 9 rfl) rfl
theorem q2300 : (Jvm.Cond.methodLink "WhatIfSheet" (293 : Nat) ({ cls := "java/lang/Double", name := "doubleToLongBits", desc := "(D)J" } : Jvm.MethodName)) ∈ lw_all := lw_g (lw_at lw_m10 10 rfl) rfl
theorem q2310 : (Jvm.Cond.constantLong "WhatIfSheet" (436 : Nat) (-2 : Int64)) ∈ lw_all := lw_g (lw_at lw_m10 20 rfl) rfl
theorem q2312 : (Jvm.Cond.instanceMethod ({ cls := "WhatIfSheet", name := "would", desc := "(III)J" } : Jvm.MethodName)) ∈ lw_all := lw_g (lw_at lw_m10 22 rfl) rfl
theorem q2313 : (Jvm.Cond.selects "WhatIfSheet" ({ cls := "WhatIfSheet", name := "would", desc := "(III)J" } : Jvm.MethodName) ({ cls := "WhatIfSheet", name := "would", desc := "(III)J" } : Jvm.MethodName)) ∈ lw_all := lw_g (lw_at lw_m10 23 rfl) rfl
theorem q2314 : (Jvm.Cond.codeWith ({ cls := "WhatIfSheet", name := "would", desc := "(III)J" } : Jvm.MethodName) prog_1_method_34_code (10 : Nat) (Option.some Jvm.ClassFile.FieldType.long) [((59 : Nat), (86 : Nat), (96 : Nat), (0 : Nat)), ((96 : Nat), (98 : Nat), (96 : Nat), (0 : Nat))]) ∈ lw_all := lw_g (lw_at lw_m10 24 rfl) rfl
theorem q2315 : (Jvm.Cond.constantLong "WhatIfSheet" (438 : Nat) (-3 : Int64)) ∈ lw_all := lw_g (lw_at lw_m10 25 rfl) rfl
theorem q2317 : (Jvm.Cond.instanceMethod ({ cls := "WhatIfSheet", name := "taken", desc := "(II)I" } : Jvm.MethodName)) ∈ lw_all := lw_g (lw_at lw_m10 27 rfl) rfl
theorem q2318 : (Jvm.Cond.selects "WhatIfSheet" ({ cls := "WhatIfSheet", name := "taken", desc := "(II)I" } : Jvm.MethodName) ({ cls := "WhatIfSheet", name := "taken", desc := "(II)I" } : Jvm.MethodName)) ∈ lw_all := lw_g (lw_at lw_m10 28 rfl) rfl
theorem q2319 : (Jvm.Cond.codeWith ({ cls := "WhatIfSheet", name := "taken", desc := "(II)I" } : Jvm.MethodName) prog_1_method_35_code (5 : Nat) (Option.some Jvm.ClassFile.FieldType.int) [((29 : Nat), (71 : Nat), (112 : Nat), (445 : Nat)), ((72 : Nat), (79 : Nat), (112 : Nat), (445 : Nat)), ((80 : Nat), (87 : Nat), (112 : Nat), (445 : Nat)), ((88 : Nat), (95 : Nat), (112 : Nat), (445 : Nat)), ((96 : Nat), (103 : Nat), (112 : Nat), (445 : Nat)), ((104 : Nat), (111 : Nat), (112 : Nat), (445 : Nat))]) ∈ lw_all := lw_g (lw_at lw_m10 29 rfl) rfl
theorem q2320 : (Jvm.Cond.classLink "WhatIfSheet" (445 : Nat) "java/lang/ClassCastException") ∈ lw_all := lw_g (lw_at lw_m10 30 rfl) rfl
theorem q2334 : (Jvm.Cond.methodLink "WhatIfSheet" (440 : Nat) ({ cls := "WhatIfSheet$Whole", name := "kind", desc := "()I" } : Jvm.MethodName)) ∈ lw_all := lw_g (lw_at lw_m10 44 rfl) rfl
theorem q2335 : (Jvm.Cond.methodLink "WhatIfSheet" (441 : Nat) ({ cls := "WhatIfSheet$Single", name := "kind", desc := "()I" } : Jvm.MethodName)) ∈ lw_all := lw_g (lw_at lw_m10 45 rfl) rfl
theorem q2336 : (Jvm.Cond.methodLink "WhatIfSheet" (442 : Nat) ({ cls := "WhatIfSheet$Small", name := "kind", desc := "()I" } : Jvm.MethodName)) ∈ lw_all := lw_g (lw_at lw_m10 46 rfl) rfl
theorem q2337 : (Jvm.Cond.methodLink "WhatIfSheet" (443 : Nat) ({ cls := "WhatIfSheet$Turn", name := "kind", desc := "()I" } : Jvm.MethodName)) ∈ lw_all := lw_g (lw_at lw_m10 47 rfl) rfl
theorem q2338 : (Jvm.Cond.methodLink "WhatIfSheet" (444 : Nat) ({ cls := "WhatIfSheet$Capped", name := "kind", desc := "()I" } : Jvm.MethodName)) ∈ lw_all := lw_g (lw_at lw_m10 48 rfl) rfl
theorem q2340 : (Jvm.Cond.instanceMethod ({ cls := "WhatIfSheet", name := "table", desc := "(IIII)I" } : Jvm.MethodName)) ∈ lw_all := lw_g (lw_at lw_m10 50 rfl) rfl
theorem q2341 : (Jvm.Cond.selects "WhatIfSheet" ({ cls := "WhatIfSheet", name := "table", desc := "(IIII)I" } : Jvm.MethodName) ({ cls := "WhatIfSheet", name := "table", desc := "(IIII)I" } : Jvm.MethodName)) ∈ lw_all := lw_g (lw_at lw_m10 51 rfl) rfl
theorem q2342 : (Jvm.Cond.code ({ cls := "WhatIfSheet", name := "table", desc := "(IIII)I" } : Jvm.MethodName) prog_1_method_37_code (5 : Nat) (Option.some Jvm.ClassFile.FieldType.int)) ∈ lw_all := lw_g (lw_at lw_m10 52 rfl) rfl
theorem q2343 : (Jvm.Cond.methodLink "WhatIfSheet" (447 : Nat) ({ cls := "WhatIfSheet", name := "isTable", desc := "(I)Z" } : Jvm.MethodName)) ∈ lw_all := lw_g (lw_at lw_m10 53 rfl) rfl
theorem q2344 : (Jvm.Cond.static ({ cls := "WhatIfSheet", name := "isTable", desc := "(I)Z" } : Jvm.MethodName)) ∈ lw_all := lw_g (lw_at lw_m10 54 rfl) rfl
theorem q2345 : (Jvm.Cond.code ({ cls := "WhatIfSheet", name := "isTable", desc := "(I)Z" } : Jvm.MethodName) prog_1_method_5_code (1 : Nat) (Option.some Jvm.ClassFile.FieldType.boolean)) ∈ lw_all := lw_g (lw_at lw_m10 55 rfl) rfl
theorem q2347 : (Jvm.Cond.classLink "WhatIfSheet" (176 : Nat) "WhatIfSheet$Axis") ∈ lw_all := lw_g (lw_at lw_m10 57 rfl) rfl
theorem q2349 : (Jvm.Cond.methodLink "WhatIfSheet" (450 : Nat) ({ cls := "WhatIfSheet$Axis", name := "<init>", desc := "(I[D)V" } : Jvm.MethodName)) ∈ lw_all := lw_g (lw_at lw_m10 59 rfl) rfl
theorem q2355 : (Jvm.Cond.fieldLink "WhatIfSheet" (175 : Nat) "WhatIfSheet$Axis" "input" "I") ∈ lw_all := lw_g (lw_at lw_m10 65 rfl) rfl
theorem q2363 : (Jvm.Cond.methodLink "WhatIfSheet" (453 : Nat) ({ cls := "WhatIfSheet$Table", name := "<init>", desc := "(IILWhatIfSheet$Axis;LWhatIfSheet$Axis;)V" } : Jvm.MethodName)) ∈ lw_all := lw_g (lw_at lw_m10 73 rfl) rfl
theorem q2368 : (Jvm.Cond.fieldLink "WhatIfSheet" (151 : Nat) "WhatIfSheet$Table" "number" "I") ∈ lw_all := lw_g (lw_at lw_m10 78 rfl) rfl
theorem q2370 : (Jvm.Cond.fieldLink "WhatIfSheet" (269 : Nat) "WhatIfSheet$Table" "output" "I") ∈ lw_all := lw_g (lw_at lw_m10 80 rfl) rfl
theorem q2372 : (Jvm.Cond.fieldLink "WhatIfSheet" (171 : Nat) "WhatIfSheet$Table" "one" "LWhatIfSheet$Axis;") ∈ lw_all := lw_g (lw_at lw_m10 82 rfl) rfl
theorem q2374 : (Jvm.Cond.fieldLink "WhatIfSheet" (190 : Nat) "WhatIfSheet$Table" "other" "LWhatIfSheet$Axis;") ∈ lw_all := lw_g (lw_at lw_m10 84 rfl) rfl
theorem q2384 : (Jvm.Cond.methodLink "WhatIfSheet" (456 : Nat) ({ cls := "WhatIfSheet", name := "lays", desc := "(ILWhatIfSheet$Table;)I" } : Jvm.MethodName)) ∈ lw_all := lw_g (lw_at lw_m10 94 rfl) rfl
theorem q2385 : (Jvm.Cond.privateMethod ({ cls := "WhatIfSheet", name := "lays", desc := "(ILWhatIfSheet$Table;)I" } : Jvm.MethodName)) ∈ lw_tbl := lw_at lw_m10 95 rfl
theorem q2386 : (Jvm.Cond.instanceMethod ({ cls := "WhatIfSheet", name := "lays", desc := "(ILWhatIfSheet$Table;)I" } : Jvm.MethodName)) ∈ lw_all := lw_g (lw_at lw_m10 96 rfl) rfl
theorem q2387 : (Jvm.Cond.codeWith ({ cls := "WhatIfSheet", name := "lays", desc := "(ILWhatIfSheet$Table;)I" } : Jvm.MethodName) prog_1_method_36_code (7 : Nat) (Option.some Jvm.ClassFile.FieldType.int) [((10 : Nat), (27 : Nat), (48 : Nat), (0 : Nat)), ((48 : Nat), (50 : Nat), (48 : Nat), (0 : Nat))]) ∈ lw_all := lw_g (lw_at lw_m10 97 rfl) rfl
theorem q2389 : (Jvm.Cond.instanceMethod ({ cls := "WhatIfSheet", name := "axis", desc := "(IIIII)I" } : Jvm.MethodName)) ∈ lw_all := lw_g (lw_at lw_m10 99 rfl) rfl
theorem q2390 : (Jvm.Cond.selects "WhatIfSheet" ({ cls := "WhatIfSheet", name := "axis", desc := "(IIIII)I" } : Jvm.MethodName) ({ cls := "WhatIfSheet", name := "axis", desc := "(IIIII)I" } : Jvm.MethodName)) ∈ lw_all := lw_g (lw_at lw_m10 100 rfl) rfl
theorem q2391 : (Jvm.Cond.code ({ cls := "WhatIfSheet", name := "axis", desc := "(IIIII)I" } : Jvm.MethodName) prog_1_method_40_code (8 : Nat) (Option.some Jvm.ClassFile.FieldType.int)) ∈ lw_all := lw_g (lw_at lw_m10 101 rfl) rfl
theorem q2392 : (Jvm.Cond.constantLong "WhatIfSheet" (460 : Nat) (-80000 : Int64)) ∈ lw_all := lw_g (lw_at lw_m10 102 rfl) rfl
theorem q2393 : (Jvm.Cond.constantLong "WhatIfSheet" (462 : Nat) (80000 : Int64)) ∈ lw_all := lw_g (lw_at lw_m10 103 rfl) rfl
theorem q2394 : (Jvm.Cond.constantLong "WhatIfSheet" (464 : Nat) (-8000 : Int64)) ∈ lw_all := lw_g (lw_at lw_m10 104 rfl) rfl
theorem q2395 : (Jvm.Cond.constantLong "WhatIfSheet" (466 : Nat) (8000 : Int64)) ∈ lw_all := lw_g (lw_at lw_m10 105 rfl) rfl
theorem q2396 : (Jvm.Cond.constantLong "WhatIfSheet" (468 : Nat) (8 : Int64)) ∈ lw_all := lw_g (lw_at lw_m10 106 rfl) rfl
theorem q2397 : (Jvm.Cond.methodLink "WhatIfSheet" (470 : Nat) ({ cls := "WhatIfSheet", name := "isFixed", desc := "(II)Z" } : Jvm.MethodName)) ∈ lw_all := lw_g (lw_at lw_m10 107 rfl) rfl
theorem q2398 : (Jvm.Cond.privateMethod ({ cls := "WhatIfSheet", name := "isFixed", desc := "(II)Z" } : Jvm.MethodName)) ∈ lw_tbl := lw_at lw_m10 108 rfl
theorem q2399 : (Jvm.Cond.instanceMethod ({ cls := "WhatIfSheet", name := "isFixed", desc := "(II)Z" } : Jvm.MethodName)) ∈ lw_all := lw_g (lw_at lw_m10 109 rfl) rfl
theorem q2400 : (Jvm.Cond.code ({ cls := "WhatIfSheet", name := "isFixed", desc := "(II)Z" } : Jvm.MethodName) prog_1_method_39_code (3 : Nat) (Option.some Jvm.ClassFile.FieldType.boolean)) ∈ lw_all := lw_g (lw_at lw_m10 110 rfl) rfl
theorem q2401 : (Jvm.Cond.methodLink "WhatIfSheet" (473 : Nat) ({ cls := "WhatIfSheet", name := "varies", desc := "(II[D)I" } : Jvm.MethodName)) ∈ lw_all := lw_g (lw_at lw_m10 111 rfl) rfl
theorem q2402 : (Jvm.Cond.privateMethod ({ cls := "WhatIfSheet", name := "varies", desc := "(II[D)I" } : Jvm.MethodName)) ∈ lw_tbl := lw_at lw_m10 112 rfl
theorem q2403 : (Jvm.Cond.instanceMethod ({ cls := "WhatIfSheet", name := "varies", desc := "(II[D)I" } : Jvm.MethodName)) ∈ lw_all := lw_g (lw_at lw_m10 113 rfl) rfl
theorem q2404 : (Jvm.Cond.code ({ cls := "WhatIfSheet", name := "varies", desc := "(II[D)I" } : Jvm.MethodName) prog_1_method_38_code (7 : Nat) (Option.some Jvm.ClassFile.FieldType.int)) ∈ lw_all := lw_g (lw_at lw_m10 114 rfl) rfl
theorem q2406 : (Jvm.Cond.instanceMethod ({ cls := "WhatIfSheet", name := "axisBy", desc := "(IIIII)I" } : Jvm.MethodName)) ∈ lw_all := lw_g (lw_at lw_m10 116 rfl) rfl
theorem q2407 : (Jvm.Cond.selects "WhatIfSheet" ({ cls := "WhatIfSheet", name := "axisBy", desc := "(IIIII)I" } : Jvm.MethodName) ({ cls := "WhatIfSheet", name := "axisBy", desc := "(IIIII)I" } : Jvm.MethodName)) ∈ lw_all := lw_g (lw_at lw_m10 117 rfl) rfl
theorem q2408 : (Jvm.Cond.codeWith ({ cls := "WhatIfSheet", name := "axisBy", desc := "(IIIII)I" } : Jvm.MethodName) prog_1_method_41_code (9 : Nat) (Option.some Jvm.ClassFile.FieldType.int) [((73 : Nat), (116 : Nat), (119 : Nat), (445 : Nat)), ((73 : Nat), (116 : Nat), (124 : Nat), (484 : Nat))]) ∈ lw_all := lw_g (lw_at lw_m10 118 rfl) rfl
theorem q2409 : (Jvm.Cond.classLink "WhatIfSheet" (484 : Nat) "java/lang/ArrayIndexOutOfBoundsException") ∈ lw_all := lw_g (lw_at lw_m10 119 rfl) rfl
theorem q2425 : (Jvm.Cond.methodLink "WhatIfSheet" (476 : Nat) ({ cls := "WhatIfSheet", name := "isRow", desc := "(I)Z" } : Jvm.MethodName)) ∈ lw_all := lw_g (lw_at lw_m10 135 rfl) rfl
theorem q2426 : (Jvm.Cond.static ({ cls := "WhatIfSheet", name := "isRow", desc := "(I)Z" } : Jvm.MethodName)) ∈ lw_all := lw_g (lw_at lw_m10 136 rfl) rfl
theorem q2427 : (Jvm.Cond.code ({ cls := "WhatIfSheet", name := "isRow", desc := "(I)Z" } : Jvm.MethodName) prog_1_method_64_code (1 : Nat) (Option.some Jvm.ClassFile.FieldType.boolean)) ∈ lw_all := lw_g (lw_at lw_m10 137 rfl) rfl
theorem q2428 : (Jvm.Cond.constantLong "WhatIfSheet" (564 : Nat) (3 : Int64)) ∈ lw_all := lw_g (lw_at lw_m10 138 rfl) rfl
theorem q2429 : (Jvm.Cond.classLink "WhatIfSheet" (483 : Nat) "[D") ∈ lw_all := lw_g (lw_at lw_m10 139 rfl) rfl
theorem q2431 : (Jvm.Cond.instanceMethod ({ cls := "WhatIfSheet", name := "drop", desc := "(I)I" } : Jvm.MethodName)) ∈ lw_all := lw_g (lw_at lw_m10 141 rfl) rfl
theorem q2432 : (Jvm.Cond.selects "WhatIfSheet" ({ cls := "WhatIfSheet", name := "drop", desc := "(I)I" } : Jvm.MethodName) ({ cls := "WhatIfSheet", name := "drop", desc := "(I)I" } : Jvm.MethodName)) ∈ lw_all := lw_g (lw_at lw_m10 142 rfl) rfl
theorem q2433 : (Jvm.Cond.code ({ cls := "WhatIfSheet", name := "drop", desc := "(I)I" } : Jvm.MethodName) prog_1_method_42_code (2 : Nat) (Option.some Jvm.ClassFile.FieldType.int)) ∈ lw_all := lw_g (lw_at lw_m10 143 rfl) rfl
theorem q2435 : (Jvm.Cond.instanceMethod ({ cls := "WhatIfSheet", name := "at", desc := "(III)J" } : Jvm.MethodName)) ∈ lw_all := lw_g (lw_at lw_m10 145 rfl) rfl
theorem q2436 : (Jvm.Cond.selects "WhatIfSheet" ({ cls := "WhatIfSheet", name := "at", desc := "(III)J" } : Jvm.MethodName) ({ cls := "WhatIfSheet", name := "at", desc := "(III)J" } : Jvm.MethodName)) ∈ lw_all := lw_g (lw_at lw_m10 146 rfl) rfl
theorem q2437 : (Jvm.Cond.code ({ cls := "WhatIfSheet", name := "at", desc := "(III)J" } : Jvm.MethodName) prog_1_method_44_code (6 : Nat) (Option.some Jvm.ClassFile.FieldType.long)) ∈ lw_all := lw_g (lw_at lw_m10 147 rfl) rfl
theorem q2438 : (Jvm.Cond.methodLink "WhatIfSheet" (489 : Nat) ({ cls := "WhatIfSheet", name := "isCase", desc := "(LWhatIfSheet$Table;II)Z" } : Jvm.MethodName)) ∈ lw_all := lw_g (lw_at lw_m10 148 rfl) rfl
theorem q2439 : (Jvm.Cond.privateMethod ({ cls := "WhatIfSheet", name := "isCase", desc := "(LWhatIfSheet$Table;II)Z" } : Jvm.MethodName)) ∈ lw_tbl := lw_at lw_m10 149 rfl
theorem q2440 : (Jvm.Cond.instanceMethod ({ cls := "WhatIfSheet", name := "isCase", desc := "(LWhatIfSheet$Table;II)Z" } : Jvm.MethodName)) ∈ lw_all := lw_g (lw_at lw_m10 150 rfl) rfl
theorem q2441 : (Jvm.Cond.code ({ cls := "WhatIfSheet", name := "isCase", desc := "(LWhatIfSheet$Table;II)Z" } : Jvm.MethodName) prog_1_method_43_code (4 : Nat) (Option.some Jvm.ClassFile.FieldType.boolean)) ∈ lw_all := lw_g (lw_at lw_m10 151 rfl) rfl
theorem q2442 : (Jvm.Cond.methodLink "WhatIfSheet" (486 : Nat) ({ cls := "WhatIfSheet$Axis", name := "size", desc := "()I" } : Jvm.MethodName)) ∈ lw_all := lw_g (lw_at lw_m10 152 rfl) rfl
theorem q2444 : (Jvm.Cond.instanceMethod ({ cls := "WhatIfSheet", name := "blame", desc := "(III)I" } : Jvm.MethodName)) ∈ lw_all := lw_g (lw_at lw_m10 154 rfl) rfl
theorem q2445 : (Jvm.Cond.selects "WhatIfSheet" ({ cls := "WhatIfSheet", name := "blame", desc := "(III)I" } : Jvm.MethodName) ({ cls := "WhatIfSheet", name := "blame", desc := "(III)I" } : Jvm.MethodName)) ∈ lw_all := lw_g (lw_at lw_m10 155 rfl) rfl
theorem q2446 : (Jvm.Cond.code ({ cls := "WhatIfSheet", name := "blame", desc := "(III)I" } : Jvm.MethodName) prog_1_method_45_code (5 : Nat) (Option.some Jvm.ClassFile.FieldType.int)) ∈ lw_all := lw_g (lw_at lw_m10 156 rfl) rfl
theorem q2448 : (Jvm.Cond.instanceMethod ({ cls := "WhatIfSheet", name := "adds", desc := "(II)J" } : Jvm.MethodName)) ∈ lw_all := lw_g (lw_at lw_m10 158 rfl) rfl
theorem q2449 : (Jvm.Cond.selects "WhatIfSheet" ({ cls := "WhatIfSheet", name := "adds", desc := "(II)J" } : Jvm.MethodName) ({ cls := "WhatIfSheet", name := "adds", desc := "(II)J" } : Jvm.MethodName)) ∈ lw_all := lw_g (lw_at lw_m10 159 rfl) rfl
theorem q2450 : (Jvm.Cond.code ({ cls := "WhatIfSheet", name := "adds", desc := "(II)J" } : Jvm.MethodName) prog_1_method_47_code (5 : Nat) (Option.some Jvm.ClassFile.FieldType.long)) ∈ lw_all := lw_g (lw_at lw_m10 160 rfl) rfl
theorem q2451 : (Jvm.Cond.constantLong "WhatIfSheet" (510 : Nat) (4 : Int64)) ∈ lw_all := lw_g (lw_at lw_m10 161 rfl) rfl
theorem q2452 : (Jvm.Cond.methodLink "WhatIfSheet" (512 : Nat) ({ cls := "WhatIfSheet", name := "how", desc := "(II)LWhatIfSheet$Asked;" } : Jvm.MethodName)) ∈ lw_all := lw_g (lw_at lw_m10 162 rfl) rfl
theorem q2453 : (Jvm.Cond.privateMethod ({ cls := "WhatIfSheet", name := "how", desc := "(II)LWhatIfSheet$Asked;" } : Jvm.MethodName)) ∈ lw_tbl := lw_at lw_m10 163 rfl
theorem q2454 : (Jvm.Cond.instanceMethod ({ cls := "WhatIfSheet", name := "how", desc := "(II)LWhatIfSheet$Asked;" } : Jvm.MethodName)) ∈ lw_all := lw_g (lw_at lw_m10 164 rfl) rfl
theorem q2455 : (Jvm.Cond.code ({ cls := "WhatIfSheet", name := "how", desc := "(II)LWhatIfSheet$Asked;" } : Jvm.MethodName) prog_1_method_46_code (3 : Nat) (Option.some (Jvm.ClassFile.FieldType.object "WhatIfSheet$Asked"))) ∈ lw_all := lw_g (lw_at lw_m10 165 rfl) rfl
theorem q2456 : (Jvm.Cond.classLink "WhatIfSheet" (493 : Nat) "WhatIfSheet$Asked") ∈ lw_all := lw_g (lw_at lw_m10 166 rfl) rfl
theorem q2457 : (Jvm.Cond.methodLink "WhatIfSheet" (495 : Nat) ({ cls := "WhatIfSheet$Asked", name := "<init>", desc := "(LWhatIfSheet;I)V" } : Jvm.MethodName)) ∈ lw_all := lw_g (lw_at lw_m10 167 rfl) rfl
theorem q2458 : (Jvm.Cond.classLink "WhatIfSheet" (498 : Nat) "WhatIfSheet$Mean") ∈ lw_all := lw_g (lw_at lw_m10 168 rfl) rfl
theorem q2459 : (Jvm.Cond.methodLink "WhatIfSheet" (500 : Nat) ({ cls := "WhatIfSheet$Mean", name := "<init>", desc := "(LWhatIfSheet;I)V" } : Jvm.MethodName)) ∈ lw_all := lw_g (lw_at lw_m10 169 rfl) rfl
theorem q2460 : (Jvm.Cond.classLink "WhatIfSheet" (501 : Nat) "WhatIfSheet$Least") ∈ lw_all := lw_g (lw_at lw_m10 170 rfl) rfl
theorem q2461 : (Jvm.Cond.methodLink "WhatIfSheet" (503 : Nat) ({ cls := "WhatIfSheet$Least", name := "<init>", desc := "(LWhatIfSheet;I)V" } : Jvm.MethodName)) ∈ lw_all := lw_g (lw_at lw_m10 171 rfl) rfl
theorem q2462 : (Jvm.Cond.classLink "WhatIfSheet" (504 : Nat) "WhatIfSheet$Most") ∈ lw_all := lw_g (lw_at lw_m10 172 rfl) rfl
theorem q2463 : (Jvm.Cond.methodLink "WhatIfSheet" (506 : Nat) ({ cls := "WhatIfSheet$Most", name := "<init>", desc := "(LWhatIfSheet;I)V" } : Jvm.MethodName)) ∈ lw_all := lw_g (lw_at lw_m10 173 rfl) rfl
theorem q2464 : (Jvm.Cond.classLink "WhatIfSheet" (507 : Nat) "WhatIfSheet$Fails") ∈ lw_all := lw_g (lw_at lw_m10 174 rfl) rfl
theorem q2465 : (Jvm.Cond.methodLink "WhatIfSheet" (509 : Nat) ({ cls := "WhatIfSheet$Fails", name := "<init>", desc := "(LWhatIfSheet;I)V" } : Jvm.MethodName)) ∈ lw_all := lw_g (lw_at lw_m10 175 rfl) rfl
theorem q2466 : (Jvm.Cond.methodLink "WhatIfSheet" (516 : Nat) ({ cls := "WhatIfSheet$Asked", name := "worth", desc := "()D" } : Jvm.MethodName)) ∈ lw_all := lw_g (lw_at lw_m10 176 rfl) rfl
theorem q2468 : (Jvm.Cond.instanceMethod ({ cls := "WhatIfSheet", name := "asks", desc := "(II)I" } : Jvm.MethodName)) ∈ lw_all := lw_g (lw_at lw_m10 178 rfl) rfl
theorem q2469 : (Jvm.Cond.selects "WhatIfSheet" ({ cls := "WhatIfSheet", name := "asks", desc := "(II)I" } : Jvm.MethodName) ({ cls := "WhatIfSheet", name := "asks", desc := "(II)I" } : Jvm.MethodName)) ∈ lw_all := lw_g (lw_at lw_m10 179 rfl) rfl
theorem q2470 : (Jvm.Cond.code ({ cls := "WhatIfSheet", name := "asks", desc := "(II)I" } : Jvm.MethodName) prog_1_method_50_code (6 : Nat) (Option.some Jvm.ClassFile.FieldType.int)) ∈ lw_all := lw_g (lw_at lw_m10 180 rfl) rfl
theorem q2471 : (Jvm.Cond.methodLink "WhatIfSheet" (517 : Nat) ({ cls := "WhatIfSheet", name := "runsAll", desc := "(LWhatIfSheet$Table;)V" } : Jvm.MethodName)) ∈ lw_all := lw_g (lw_at lw_m10 181 rfl) rfl
theorem q2472 : (Jvm.Cond.methodLink "WhatIfSheet" (521 : Nat) ({ cls := "WhatIfSheet$Least", name := "at", desc := "(LWhatIfSheet$Table;)I" } : Jvm.MethodName)) ∈ lw_all := lw_g (lw_at lw_m10 182 rfl) rfl
theorem q2473 : (Jvm.Cond.methodLink "WhatIfSheet" (525 : Nat) ({ cls := "WhatIfSheet", name := "slice", desc := "(LWhatIfSheet$Table;)I" } : Jvm.MethodName)) ∈ lw_all := lw_g (lw_at lw_m10 183 rfl) rfl
theorem q2474 : (Jvm.Cond.privateMethod ({ cls := "WhatIfSheet", name := "slice", desc := "(LWhatIfSheet$Table;)I" } : Jvm.MethodName)) ∈ lw_tbl := lw_at lw_m10 184 rfl
theorem q2475 : (Jvm.Cond.instanceMethod ({ cls := "WhatIfSheet", name := "slice", desc := "(LWhatIfSheet$Table;)I" } : Jvm.MethodName)) ∈ lw_all := lw_g (lw_at lw_m10 185 rfl) rfl
theorem q2476 : (Jvm.Cond.code ({ cls := "WhatIfSheet", name := "slice", desc := "(LWhatIfSheet$Table;)I" } : Jvm.MethodName) prog_1_method_49_code (6 : Nat) (Option.some Jvm.ClassFile.FieldType.int)) ∈ lw_all := lw_g (lw_at lw_m10 186 rfl) rfl
theorem q2477 : (Jvm.Cond.methodLink "WhatIfSheet" (528 : Nat) ({ cls := "WhatIfSheet", name := "unlike", desc := "(LWhatIfSheet$Axis;)I" } : Jvm.MethodName)) ∈ lw_all := lw_g (lw_at lw_m10 187 rfl) rfl
theorem q2478 : (Jvm.Cond.privateMethod ({ cls := "WhatIfSheet", name := "unlike", desc := "(LWhatIfSheet$Axis;)I" } : Jvm.MethodName)) ∈ lw_tbl := lw_at lw_m10 188 rfl
theorem q2479 : (Jvm.Cond.instanceMethod ({ cls := "WhatIfSheet", name := "unlike", desc := "(LWhatIfSheet$Axis;)I" } : Jvm.MethodName)) ∈ lw_all := lw_g (lw_at lw_m10 189 rfl) rfl
theorem q2480 : (Jvm.Cond.code ({ cls := "WhatIfSheet", name := "unlike", desc := "(LWhatIfSheet$Axis;)I" } : Jvm.MethodName) prog_1_method_48_code (2 : Nat) (Option.some Jvm.ClassFile.FieldType.int)) ∈ lw_all := lw_g (lw_at lw_m10 190 rfl) rfl
theorem q2482 : (Jvm.Cond.instanceMethod ({ cls := "WhatIfSheet", name := "seek", desc := "(IIIIII)J" } : Jvm.MethodName)) ∈ lw_all := lw_g (lw_at lw_m10 192 rfl) rfl
theorem q2483 : (Jvm.Cond.selects "WhatIfSheet" ({ cls := "WhatIfSheet", name := "seek", desc := "(IIIIII)J" } : Jvm.MethodName) ({ cls := "WhatIfSheet", name := "seek", desc := "(IIIIII)J" } : Jvm.MethodName)) ∈ lw_all := lw_g (lw_at lw_m10 193 rfl) rfl
theorem q2484 : (Jvm.Cond.code ({ cls := "WhatIfSheet", name := "seek", desc := "(IIIIII)J" } : Jvm.MethodName) prog_1_method_51_code (10 : Nat) (Option.some Jvm.ClassFile.FieldType.long)) ∈ lw_all := lw_g (lw_at lw_m10 194 rfl) rfl
theorem q2485 : (Jvm.Cond.constantLong "WhatIfSheet" (532 : Nat) (2 : Int64)) ∈ lw_all := lw_g (lw_at lw_m10 195 rfl) rfl
theorem q2486 : (Jvm.Cond.classLink "WhatIfSheet" (534 : Nat) "WhatIfSheet$Bracket") ∈ lw_all := lw_g (lw_at lw_m10 196 rfl) rfl
theorem q2488 : (Jvm.Cond.methodLink "WhatIfSheet" (536 : Nat) ({ cls := "WhatIfSheet$Bracket", name := "<init>", desc := "(LWhatIfSheet;LWhatIfSheet$Plain;IDDD)V" } : Jvm.MethodName)) ∈ lw_all := lw_g (lw_at lw_m10 198 rfl) rfl
theorem q2501 : (Jvm.Cond.fieldLink "WhatIfSheet" (545 : Nat) "WhatIfSheet$Bracket" "found" "D") ∈ lw_all := lw_g (lw_at lw_m10 211 rfl) rfl
theorem q2503 : (Jvm.Cond.fieldLink "WhatIfSheet" (548 : Nat) "WhatIfSheet$Bracket" "there" "D") ∈ lw_all := lw_g (lw_at lw_m10 213 rfl) rfl
theorem q2505 : (Jvm.Cond.fieldLink "WhatIfSheet" (542 : Nat) "WhatIfSheet$Bracket" "times" "I") ∈ lw_all := lw_g (lw_at lw_m10 215 rfl) rfl
theorem q2530 : (Jvm.Cond.methodLink "WhatIfSheet" (539 : Nat) ({ cls := "WhatIfSheet$Bracket", name := "seeks", desc := "()V" } : Jvm.MethodName)) ∈ lw_all := lw_g (lw_at lw_m11 0 rfl) rfl
theorem q2557 : (Jvm.Cond.constantLong "WhatIfSheet" (551 : Nat) (-1 : Int64)) ∈ lw_all := lw_g (lw_at lw_m11 27 rfl) rfl
theorem q2559 : (Jvm.Cond.instanceMethod ({ cls := "WhatIfSheet", name := "swing", desc := "(III)J" } : Jvm.MethodName)) ∈ lw_all := lw_g (lw_at lw_m11 29 rfl) rfl
theorem q2560 : (Jvm.Cond.selects "WhatIfSheet" ({ cls := "WhatIfSheet", name := "swing", desc := "(III)J" } : Jvm.MethodName) ({ cls := "WhatIfSheet", name := "swing", desc := "(III)J" } : Jvm.MethodName)) ∈ lw_all := lw_g (lw_at lw_m11 30 rfl) rfl
theorem q2561 : (Jvm.Cond.codeWith ({ cls := "WhatIfSheet", name := "swing", desc := "(III)J" } : Jvm.MethodName) prog_1_method_52_code (19 : Nat) (Option.some Jvm.ClassFile.FieldType.long) [((87 : Nat), (120 : Nat), (238 : Nat), (0 : Nat)), ((130 : Nat), (163 : Nat), (238 : Nat), (0 : Nat)), ((173 : Nat), (210 : Nat), (238 : Nat), (0 : Nat)), ((220 : Nat), (228 : Nat), (238 : Nat), (0 : Nat)), ((238 : Nat), (240 : Nat), (238 : Nat), (0 : Nat))]) ∈ lw_all := lw_g (lw_at lw_m11 31 rfl) rfl
theorem q2563 : (Jvm.Cond.instanceMethod ({ cls := "WhatIfSheet", name := "chance", desc := "(IIIII)I" } : Jvm.MethodName)) ∈ lw_all := lw_g (lw_at lw_m11 33 rfl) rfl
theorem q2564 : (Jvm.Cond.selects "WhatIfSheet" ({ cls := "WhatIfSheet", name := "chance", desc := "(IIIII)I" } : Jvm.MethodName) ({ cls := "WhatIfSheet", name := "chance", desc := "(IIIII)I" } : Jvm.MethodName)) ∈ lw_all := lw_g (lw_at lw_m11 34 rfl) rfl
theorem q2565 : (Jvm.Cond.code ({ cls := "WhatIfSheet", name := "chance", desc := "(IIIII)I" } : Jvm.MethodName) prog_1_method_54_code (10 : Nat) (Option.some Jvm.ClassFile.FieldType.int)) ∈ lw_all := lw_g (lw_at lw_m11 35 rfl) rfl
theorem q2566 : (Jvm.Cond.constantLong "WhatIfSheet" (554 : Nat) (20 : Int64)) ∈ lw_all := lw_g (lw_at lw_m11 36 rfl) rfl
theorem q2567 : (Jvm.Cond.methodLink "WhatIfSheet" (556 : Nat) ({ cls := "WhatIfSheet", name := "comes", desc := "(IID)Z" } : Jvm.MethodName)) ∈ lw_all := lw_g (lw_at lw_m11 37 rfl) rfl
theorem q2568 : (Jvm.Cond.privateMethod ({ cls := "WhatIfSheet", name := "comes", desc := "(IID)Z" } : Jvm.MethodName)) ∈ lw_tbl := lw_at lw_m11 38 rfl
theorem q2569 : (Jvm.Cond.instanceMethod ({ cls := "WhatIfSheet", name := "comes", desc := "(IID)Z" } : Jvm.MethodName)) ∈ lw_all := lw_g (lw_at lw_m11 39 rfl) rfl
theorem q2570 : (Jvm.Cond.codeWith ({ cls := "WhatIfSheet", name := "comes", desc := "(IID)Z" } : Jvm.MethodName) prog_1_method_53_code (13 : Nat) (Option.some Jvm.ClassFile.FieldType.boolean) [((105 : Nat), (133 : Nat), (180 : Nat), (0 : Nat)), ((180 : Nat), (182 : Nat), (180 : Nat), (0 : Nat))]) ∈ lw_all := lw_g (lw_at lw_m11 40 rfl) rfl
theorem q2571 : (Jvm.Cond.constant "WhatIfSheet" (553 : Nat) (1103515245 : Int32)) ∈ lw_all := lw_g (lw_at lw_m11 41 rfl) rfl
theorem q2573 : (Jvm.Cond.instanceMethod ({ cls := "WhatIfSheet", name := "film", desc := "(II)I" } : Jvm.MethodName)) ∈ lw_all := lw_g (lw_at lw_m11 43 rfl) rfl
theorem q2574 : (Jvm.Cond.selects "WhatIfSheet" ({ cls := "WhatIfSheet", name := "film", desc := "(II)I" } : Jvm.MethodName) ({ cls := "WhatIfSheet", name := "film", desc := "(II)I" } : Jvm.MethodName)) ∈ lw_all := lw_g (lw_at lw_m11 44 rfl) rfl
theorem q2575 : (Jvm.Cond.code ({ cls := "WhatIfSheet", name := "film", desc := "(II)I" } : Jvm.MethodName) prog_1_method_55_code (6 : Nat) (Option.some Jvm.ClassFile.FieldType.int)) ∈ lw_all := lw_g (lw_at lw_m11 45 rfl) rfl
theorem q2577 : (Jvm.Cond.instanceMethod ({ cls := "WhatIfSheet", name := "tells", desc := "(IIII)I" } : Jvm.MethodName)) ∈ lw_all := lw_g (lw_at lw_m11 47 rfl) rfl
theorem q2578 : (Jvm.Cond.selects "WhatIfSheet" ({ cls := "WhatIfSheet", name := "tells", desc := "(IIII)I" } : Jvm.MethodName) ({ cls := "WhatIfSheet", name := "tells", desc := "(IIII)I" } : Jvm.MethodName)) ∈ lw_all := lw_g (lw_at lw_m11 48 rfl) rfl
theorem q2579 : (Jvm.Cond.codeWith ({ cls := "WhatIfSheet", name := "tells", desc := "(IIII)I" } : Jvm.MethodName) prog_1_method_59_code (8 : Nat) (Option.some Jvm.ClassFile.FieldType.int) [((86 : Nat), (100 : Nat), (103 : Nat), (445 : Nat))]) ∈ lw_all := lw_g (lw_at lw_m11 49 rfl) rfl
theorem q2580 : (Jvm.Cond.methodLink "WhatIfSheet" (560 : Nat) ({ cls := "WhatIfSheet", name := "first", desc := "(LWhatIfSheet$Table;[D)I" } : Jvm.MethodName)) ∈ lw_all := lw_g (lw_at lw_m11 50 rfl) rfl
theorem q2581 : (Jvm.Cond.privateMethod ({ cls := "WhatIfSheet", name := "first", desc := "(LWhatIfSheet$Table;[D)I" } : Jvm.MethodName)) ∈ lw_tbl := lw_at lw_m11 51 rfl
theorem q2582 : (Jvm.Cond.instanceMethod ({ cls := "WhatIfSheet", name := "first", desc := "(LWhatIfSheet$Table;[D)I" } : Jvm.MethodName)) ∈ lw_all := lw_g (lw_at lw_m11 52 rfl) rfl
theorem q2583 : (Jvm.Cond.code ({ cls := "WhatIfSheet", name := "first", desc := "(LWhatIfSheet$Table;[D)I" } : Jvm.MethodName) prog_1_method_56_code (6 : Nat) (Option.some Jvm.ClassFile.FieldType.int)) ∈ lw_all := lw_g (lw_at lw_m11 53 rfl) rfl
theorem q2584 : (Jvm.Cond.methodLink "WhatIfSheet" (566 : Nat) ({ cls := "WhatIfSheet", name := "kindsOf", desc := "(LWhatIfSheet$Table;[DI)I" } : Jvm.MethodName)) ∈ lw_all := lw_g (lw_at lw_m11 54 rfl) rfl
theorem q2585 : (Jvm.Cond.privateMethod ({ cls := "WhatIfSheet", name := "kindsOf", desc := "(LWhatIfSheet$Table;[DI)I" } : Jvm.MethodName)) ∈ lw_tbl := lw_at lw_m11 55 rfl
theorem q2586 : (Jvm.Cond.instanceMethod ({ cls := "WhatIfSheet", name := "kindsOf", desc := "(LWhatIfSheet$Table;[DI)I" } : Jvm.MethodName)) ∈ lw_all := lw_g (lw_at lw_m11 56 rfl) rfl
theorem q2587 : (Jvm.Cond.codeWith ({ cls := "WhatIfSheet", name := "kindsOf", desc := "(LWhatIfSheet$Table;[DI)I" } : Jvm.MethodName) prog_1_method_57_code (8 : Nat) (Option.some Jvm.ClassFile.FieldType.int) [((11 : Nat), (63 : Nat), (74 : Nat), (0 : Nat)), ((74 : Nat), (76 : Nat), (74 : Nat), (0 : Nat))]) ∈ lw_all := lw_g (lw_at lw_m11 57 rfl) rfl
theorem q2588 : (Jvm.Cond.methodLink "WhatIfSheet" (570 : Nat) ({ cls := "WhatIfSheet", name := "numbersOf", desc := "(LWhatIfSheet$Table;[DII)I" } : Jvm.MethodName)) ∈ lw_all := lw_g (lw_at lw_m11 58 rfl) rfl
theorem q2589 : (Jvm.Cond.privateMethod ({ cls := "WhatIfSheet", name := "numbersOf", desc := "(LWhatIfSheet$Table;[DII)I" } : Jvm.MethodName)) ∈ lw_tbl := lw_at lw_m11 59 rfl
theorem q2590 : (Jvm.Cond.instanceMethod ({ cls := "WhatIfSheet", name := "numbersOf", desc := "(LWhatIfSheet$Table;[DII)I" } : Jvm.MethodName)) ∈ lw_all := lw_g (lw_at lw_m11 60 rfl) rfl
theorem q2591 : (Jvm.Cond.codeWith ({ cls := "WhatIfSheet", name := "numbersOf", desc := "(LWhatIfSheet$Table;[DII)I" } : Jvm.MethodName) prog_1_method_58_code (12 : Nat) (Option.some Jvm.ClassFile.FieldType.int) [((21 : Nat), (75 : Nat), (85 : Nat), (0 : Nat)), ((85 : Nat), (87 : Nat), (85 : Nat), (0 : Nat))]) ∈ lw_all := lw_g (lw_at lw_m11 61 rfl) rfl
theorem q2593 : (Jvm.Cond.instanceMethod ({ cls := "WhatIfSheet", name := "image", desc := "()I" } : Jvm.MethodName)) ∈ lw_all := lw_g (lw_at lw_m11 63 rfl) rfl
theorem q2594 : (Jvm.Cond.selects "WhatIfSheet" ({ cls := "WhatIfSheet", name := "image", desc := "()I" } : Jvm.MethodName) ({ cls := "WhatIfSheet", name := "image", desc := "()I" } : Jvm.MethodName)) ∈ lw_all := lw_g (lw_at lw_m11 64 rfl) rfl
theorem q2595 : (Jvm.Cond.code ({ cls := "WhatIfSheet", name := "image", desc := "()I" } : Jvm.MethodName) prog_1_method_61_code (2 : Nat) (Option.some Jvm.ClassFile.FieldType.int)) ∈ lw_all := lw_g (lw_at lw_m11 65 rfl) rfl
theorem q2596 : (Jvm.Cond.methodLink "WhatIfSheet" (578 : Nat) ({ cls := "WhatIfSheet", name := "formulas", desc := "()I" } : Jvm.MethodName)) ∈ lw_all := lw_g (lw_at lw_m11 66 rfl) rfl
theorem q2597 : (Jvm.Cond.privateMethod ({ cls := "WhatIfSheet", name := "formulas", desc := "()I" } : Jvm.MethodName)) ∈ lw_tbl := lw_at lw_m11 67 rfl
theorem q2598 : (Jvm.Cond.instanceMethod ({ cls := "WhatIfSheet", name := "formulas", desc := "()I" } : Jvm.MethodName)) ∈ lw_all := lw_g (lw_at lw_m11 68 rfl) rfl
theorem q2599 : (Jvm.Cond.code ({ cls := "WhatIfSheet", name := "formulas", desc := "()I" } : Jvm.MethodName) prog_1_method_60_code (6 : Nat) (Option.some Jvm.ClassFile.FieldType.int)) ∈ lw_all := lw_g (lw_at lw_m11 69 rfl) rfl
theorem q2601 : (Jvm.Cond.instanceMethod ({ cls := "WhatIfSheet", name := "back", desc := "()I" } : Jvm.MethodName)) ∈ lw_all := lw_g (lw_at lw_m11 71 rfl) rfl
theorem q2602 : (Jvm.Cond.selects "WhatIfSheet" ({ cls := "WhatIfSheet", name := "back", desc := "()I" } : Jvm.MethodName) ({ cls := "WhatIfSheet", name := "back", desc := "()I" } : Jvm.MethodName)) ∈ lw_all := lw_g (lw_at lw_m11 72 rfl) rfl
theorem q2603 : (Jvm.Cond.code ({ cls := "WhatIfSheet", name := "back", desc := "()I" } : Jvm.MethodName) prog_1_method_62_code (2 : Nat) (Option.some Jvm.ClassFile.FieldType.int)) ∈ lw_all := lw_g (lw_at lw_m11 73 rfl) rfl
theorem q2605 : (Jvm.Cond.instanceMethod ({ cls := "WhatIfSheet", name := "count", desc := "(I)I" } : Jvm.MethodName)) ∈ lw_all := lw_g (lw_at lw_m11 75 rfl) rfl
theorem q2606 : (Jvm.Cond.selects "WhatIfSheet" ({ cls := "WhatIfSheet", name := "count", desc := "(I)I" } : Jvm.MethodName) ({ cls := "WhatIfSheet", name := "count", desc := "(I)I" } : Jvm.MethodName)) ∈ lw_all := lw_g (lw_at lw_m11 76 rfl) rfl
theorem q2607 : (Jvm.Cond.code ({ cls := "WhatIfSheet", name := "count", desc := "(I)I" } : Jvm.MethodName) prog_1_method_63_code (7 : Nat) (Option.some Jvm.ClassFile.FieldType.int)) ∈ lw_all := lw_g (lw_at lw_m11 77 rfl) rfl
theorem q2609 : (Jvm.Cond.instanceMethod ({ cls := "WhatIfSheet", name := "row", desc := "(III)I" } : Jvm.MethodName)) ∈ lw_all := lw_g (lw_at lw_m11 79 rfl) rfl
theorem q2610 : (Jvm.Cond.selects "WhatIfSheet" ({ cls := "WhatIfSheet", name := "row", desc := "(III)I" } : Jvm.MethodName) ({ cls := "WhatIfSheet", name := "row", desc := "(III)I" } : Jvm.MethodName)) ∈ lw_all := lw_g (lw_at lw_m11 80 rfl) rfl
theorem q2611 : (Jvm.Cond.codeWith ({ cls := "WhatIfSheet", name := "row", desc := "(III)I" } : Jvm.MethodName) prog_1_method_66_code (5 : Nat) (Option.some Jvm.ClassFile.FieldType.int) [((34 : Nat), (57 : Nat), (58 : Nat), (585 : Nat))]) ∈ lw_all := lw_g (lw_at lw_m11 81 rfl) rfl
theorem q2612 : (Jvm.Cond.classLink "WhatIfSheet" (585 : Nat) "java/lang/NegativeArraySizeException") ∈ lw_all := lw_g (lw_at lw_m11 82 rfl) rfl
theorem q2613 : (Jvm.Cond.methodLink "WhatIfSheet" (581 : Nat) ({ cls := "WhatIfSheet", name := "things", desc := "(II)Ljava/lang/Object;" } : Jvm.MethodName)) ∈ lw_all := lw_g (lw_at lw_m11 83 rfl) rfl
theorem q2614 : (Jvm.Cond.static ({ cls := "WhatIfSheet", name := "things", desc := "(II)Ljava/lang/Object;" } : Jvm.MethodName)) ∈ lw_all := lw_g (lw_at lw_m11 84 rfl) rfl
theorem q2615 : (Jvm.Cond.code ({ cls := "WhatIfSheet", name := "things", desc := "(II)Ljava/lang/Object;" } : Jvm.MethodName) prog_1_method_65_code (2 : Nat) (Option.some (Jvm.ClassFile.FieldType.object "java/lang/Object"))) ∈ lw_all := lw_g (lw_at lw_m11 85 rfl) rfl
theorem q2618 : (Jvm.Cond.instanceMethod ({ cls := "WhatIfSheet", name := "put", desc := "(III)I" } : Jvm.MethodName)) ∈ lw_all := lw_g (lw_at lw_m11 88 rfl) rfl
theorem q2619 : (Jvm.Cond.selects "WhatIfSheet" ({ cls := "WhatIfSheet", name := "put", desc := "(III)I" } : Jvm.MethodName) ({ cls := "WhatIfSheet", name := "put", desc := "(III)I" } : Jvm.MethodName)) ∈ lw_all := lw_g (lw_at lw_m11 89 rfl) rfl
theorem q2620 : (Jvm.Cond.codeWith ({ cls := "WhatIfSheet", name := "put", desc := "(III)I" } : Jvm.MethodName) prog_1_method_67_code (5 : Nat) (Option.some Jvm.ClassFile.FieldType.int) [((25 : Nat), (37 : Nat), (38 : Nat), (484 : Nat))]) ∈ lw_all := lw_g (lw_at lw_m11 90 rfl) rfl
theorem q2621 : (Jvm.Cond.methodLink "WhatIfSheet" (587 : Nat) ({ cls := "WhatIfSheet$Row", name := "puts", desc := "(II)V" } : Jvm.MethodName)) ∈ lw_all := lw_g (lw_at lw_m11 91 rfl) rfl
theorem q2631 : (Jvm.Cond.instanceMethod ({ cls := "WhatIfSheet", name := "item", desc := "(II)J" } : Jvm.MethodName)) ∈ lw_all := lw_g (lw_at lw_m11 101 rfl) rfl
theorem q2632 : (Jvm.Cond.selects "WhatIfSheet" ({ cls := "WhatIfSheet", name := "item", desc := "(II)J" } : Jvm.MethodName) ({ cls := "WhatIfSheet", name := "item", desc := "(II)J" } : Jvm.MethodName)) ∈ lw_all := lw_g (lw_at lw_m11 102 rfl) rfl
theorem q2633 : (Jvm.Cond.codeWith ({ cls := "WhatIfSheet", name := "item", desc := "(II)J" } : Jvm.MethodName) prog_1_method_68_code (4 : Nat) (Option.some Jvm.ClassFile.FieldType.long) [((27 : Nat), (37 : Nat), (38 : Nat), (484 : Nat))]) ∈ lw_all := lw_g (lw_at lw_m11 103 rfl) rfl
theorem q2634 : (Jvm.Cond.constantLong "WhatIfSheet" (591 : Nat) (-11 : Int64)) ∈ lw_all := lw_g (lw_at lw_m11 104 rfl) rfl
theorem q2635 : (Jvm.Cond.methodLink "WhatIfSheet" (593 : Nat) ({ cls := "WhatIfSheet$Row", name := "bits", desc := "(I)J" } : Jvm.MethodName)) ∈ lw_all := lw_g (lw_at lw_m11 105 rfl) rfl
theorem q2641 : (Jvm.Cond.constantLong "WhatIfSheet" (596 : Nat) (-12 : Int64)) ∈ lw_all := lw_g (lw_at lw_m11 111 rfl) rfl
theorem q2643 : (Jvm.Cond.instanceMethod ({ cls := "WhatIfSheet", name := "copy", desc := "(IIIII)I" } : Jvm.MethodName)) ∈ lw_all := lw_g (lw_at lw_m11 113 rfl) rfl
theorem q2644 : (Jvm.Cond.selects "WhatIfSheet" ({ cls := "WhatIfSheet", name := "copy", desc := "(IIIII)I" } : Jvm.MethodName) ({ cls := "WhatIfSheet", name := "copy", desc := "(IIIII)I" } : Jvm.MethodName)) ∈ lw_all := lw_g (lw_at lw_m11 114 rfl) rfl
theorem q2645 : (Jvm.Cond.codeWith ({ cls := "WhatIfSheet", name := "copy", desc := "(IIIII)I" } : Jvm.MethodName) prog_1_method_69_code (7 : Nat) (Option.some Jvm.ClassFile.FieldType.int) [((44 : Nat), (72 : Nat), (73 : Nat), (604 : Nat)), ((44 : Nat), (72 : Nat), (78 : Nat), (606 : Nat))]) ∈ lw_all := lw_g (lw_at lw_m11 115 rfl) rfl
theorem q2646 : (Jvm.Cond.classLink "WhatIfSheet" (604 : Nat) "java/lang/ArrayStoreException") ∈ lw_all := lw_g (lw_at lw_m11 116 rfl) rfl
theorem q2660 : (Jvm.Cond.classLink "WhatIfSheet" (606 : Nat) "java/lang/IndexOutOfBoundsException") ∈ lw_all := lw_g (lw_at lw_m11 130 rfl) rfl
theorem q2661 : (Jvm.Cond.methodLink "WhatIfSheet" (598 : Nat) ({ cls := "java/lang/System", name := "arraycopy", desc := "(Ljava/lang/Object;ILjava/lang/Object;II)V" } : Jvm.MethodName)) ∈ lw_all := lw_g (lw_at lw_m11 131 rfl) rfl
theorem q3397 : (Jvm.Cond.castable "WhatIfSheet" "java/lang/Object") ∈ lw_tbl := lw_at lw_m14 147 rfl
theorem in_X0 : ∀ w ∈ wsX00, w ∈ lw_all := lw_in wsX00 [1242, 1244, 1246, 1248, 1250, 1252, 1254, 1256, 1258, 1260, 1262, 1264, 1266, 1268, 1270, 1272, 1274, 1276, 1278, 1280, 1282, 1284, 1286, 1288, 1290, 1292, 1294, 1296, 1298, 1300] (by decide +kernel) (by decide +kernel)
