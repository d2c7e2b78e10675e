/-! BehindAnotherHearseModel -/
set_option maxRecDepth 100000
def RX6 : String := "BehindAnotherHearseModel"
def TX6 : u_T := fun k => match k with
  | 0 => ("BehindAnotherHearseModel", "thrown", "I", false)
  | 1 => ("BehindAnotherHearseModel", "told", "I", false)
  | 2 => ("BehindAnotherHearseModel", "row", "[J", true)
  | 3 => ("BehindAnotherHearseModel", "cells", "I", false)
  | 4 => ("BehindAnotherHearseModel", "hearses", "I", false)
  | 5 => ("BehindAnotherHearseModel", "mourners", "I", false)
  | 6 => ("BehindAnotherHearseModel", "changes", "I", false)
  | 7 => ("BehindAnotherHearseModel", "skyLong", "I", false)
  | 8 => ("BehindAnotherHearseModel", "corner", "[Z", true)
  | 9 => ("BehindAnotherHearseModel", "own", "[I", true)
  | 10 => ("BehindAnotherHearseModel", "sky", "[I", true)
  | 11 => ("BehindAnotherHearseModel", "now", "[I", true)
  | 12 => ("BehindAnotherHearseModel", "then", "[I", true)
  | 13 => ("BehindAnotherHearseModel", "tape", "[I", true)
  | 14 => ("BehindAnotherHearseModel", "taped", "I", false)
  | 15 => ("BehindAnotherHearseModel", "at", "I", false)
  | 16 => ("BehindAnotherHearseModel", "to", "I", false)
  | 17 => ("BehindAnotherHearseModel", "nest", "I", false)
  | 18 => ("BehindAnotherHearseModel", "readCorner", "[Z", true)
  | 19 => ("BehindAnotherHearseModel", "read", "[I", true)
  | 20 => ("BehindAnotherHearseModel", "readMany", "I", false)
  | 21 => ("BehindAnotherHearseModel", "readSky", "[I", true)
  | 22 => ("BehindAnotherHearseModel", "code", "[I", true)
  | 23 => ("BehindAnotherHearseModel", "readCode", "[I", true)
  | 24 => ("BehindAnotherHearseModel", "codeLong", "I", false)
  | 25 => ("BehindAnotherHearseModel", "codesRead", "I", false)
  | 26 => ("BehindAnotherHearseModel", "stack", "[I", true)
  | 27 => ("BehindAnotherHearseModel", "asked", "[I", true)
  | 28 => ("BehindAnotherHearseModel", "undos", "I", false)
  | 29 => ("BehindAnotherHearseModel", "undone", "[I", true)
  | 30 => ("BehindAnotherHearseModel", "waits", "I", false)
  | 31 => ("BehindAnotherHearseModel", "turnings", "I", false)
  | 32 => ("BehindAnotherHearseModel", "waitOn", "[I", true)
  | 33 => ("BehindAnotherHearseModel", "turnOf", "[I", true)
  | 34 => ("BehindAnotherHearseModel", "line", "[I", true)
  | 35 => ("BehindAnotherHearseModel", "lineLong", "I", false)
  | 36 => ("BehindAnotherHearseModel", "actSign", "[I", true)
  | 37 => ("BehindAnotherHearseModel", "actOne", "[I", true)
  | 38 => ("BehindAnotherHearseModel", "actTwo", "[I", true)
  | 39 => ("BehindAnotherHearseModel", "acts", "I", false)
  | 40 => ("BehindAnotherHearseModel", "place", "[I", true)
  | 41 => ("BehindAnotherHearseModel", "bestPlace", "[I", true)
  | 42 => ("BehindAnotherHearseModel", "bestMany", "I", false)
  | 43 => ("BehindAnotherHearseModel", "given", "[I", true)
  | 44 => ("BehindAnotherHearseModel", "bestGiven", "[I", true)
  | 45 => ("BehindAnotherHearseModel", "heardMany", "I", false)
  | 46 => ("BehindAnotherHearseModel", "heardWhat", "[I", true)
  | 47 => ("BehindAnotherHearseModel", "heardOf", "[I", true)
  | 48 => ("BehindAnotherHearseModel", "wasCode", "[I", true)
  | 49 => ("BehindAnotherHearseModel", "random", "I", false)
  | 50 => ("BehindAnotherHearseModel", "isKept", "[Z", true)
  | 51 => ("BehindAnotherHearseModel", "keptChanges", "[I", true)
  | _ => ("BehindAnotherHearseModel", "kept", "[I", true)
def tyX6 : Nat → FieldType := fun k => match k with
  | 0 => .int
  | 1 => .int
  | 2 => .array .long
  | 3 => .int
  | 4 => .int
  | 5 => .int
  | 6 => .int
  | 7 => .int
  | 8 => .array .boolean
  | 9 => .array .int
  | 10 => .array .int
  | 11 => .array .int
  | 12 => .array .int
  | 13 => .array .int
  | 14 => .int
  | 15 => .int
  | 16 => .int
  | 17 => .int
  | 18 => .array .boolean
  | 19 => .array .int
  | 20 => .int
  | 21 => .array .int
  | 22 => .array .int
  | 23 => .array .int
  | 24 => .int
  | 25 => .int
  | 26 => .array .int
  | 27 => .array .int
  | 28 => .int
  | 29 => .array .int
  | 30 => .int
  | 31 => .int
  | 32 => .array .int
  | 33 => .array .int
  | 34 => .array .int
  | 35 => .int
  | 36 => .array .int
  | 37 => .array .int
  | 38 => .array .int
  | 39 => .int
  | 40 => .array .int
  | 41 => .array .int
  | 42 => .int
  | 43 => .array .int
  | 44 => .array .int
  | 45 => .int
  | 46 => .array .int
  | 47 => .array .int
  | 48 => .array .int
  | 49 => .int
  | 50 => .array .boolean
  | 51 => .array .int
  | _ => .array .int
abbrev wsX60 : List Cond := u_ws RX6 TX6 53
set_option maxRecDepth 100000 in
theorem nmX6 : ∀ a, a < 53 → ∀ b, b < 53 → a ≠ b → (TX6 a).2.1 ≠ (TX6 b).2.1 := by decide +kernel
set_option maxRecDepth 100000 in
theorem tyX6_ok : ∀ k, k < 53 → parseFieldDescriptor (TX6 k).2.2.1 = some (tyX6 k) := by decide +kernel
abbrev cX6_init : ByteArray := prog_15_method_1_code
def yX6_init : MethodName := ⟨RX6, "<init>", "()V"⟩
def dkwX6_init_10 : List UInt8 := [42, 6, 188, 4, 181, 0, 103, 42, 6, 188, 10, 181, 0, 106, 42, 16, 114, 188, 10, 181, 0, 109, 177]
abbrev dktX6_init_10 : List UInt8 := dkwX6_init_10 ++ []
def dkwX6_init_9 : List UInt8 := [42, 16, 8, 188, 10, 181, 0, 94, 42, 16, 8, 188, 10, 181, 0, 97, 42, 16, 80, 188, 10, 181, 0, 100]
abbrev dktX6_init_9 : List UInt8 := dkwX6_init_9 ++ dktX6_init_10
def dkwX6_init_8 : List UInt8 := [42, 16, 6, 188, 10, 181, 0, 85, 42, 16, 8, 188, 10, 181, 0, 88, 42, 16, 8, 188, 10, 181, 0, 91]
abbrev dktX6_init_8 : List UInt8 := dkwX6_init_8 ++ dktX6_init_9
def dkwX6_init_7 : List UInt8 := [42, 16, 60, 188, 10, 181, 0, 76, 42, 16, 60, 188, 10, 181, 0, 79, 42, 16, 6, 188, 10, 181, 0, 82]
abbrev dktX6_init_7 : List UInt8 := dkwX6_init_7 ++ dktX6_init_8
def dkwX6_init_6 : List UInt8 := [42, 16, 8, 188, 10, 181, 0, 67, 42, 16, 6, 188, 10, 181, 0, 70, 42, 16, 60, 188, 10, 181, 0, 73]
abbrev dktX6_init_6 : List UInt8 := dkwX6_init_6 ++ dktX6_init_7
def dkwX6_init_5 : List UInt8 := [16, 7, 188, 10, 181, 0, 58, 42, 17, 2, 96, 188, 10, 181, 0, 61, 42, 16, 30, 188, 10, 181, 0, 64]
abbrev dktX6_init_5 : List UInt8 := dkwX6_init_5 ++ dktX6_init_6
def dkwX6_init_4 : List UInt8 := [16, 80, 188, 10, 181, 0, 49, 42, 16, 80, 188, 10, 181, 0, 52, 42, 16, 80, 188, 10, 181, 0, 55, 42]
abbrev dktX6_init_4 : List UInt8 := dkwX6_init_4 ++ dktX6_init_5
def dkwX6_init_3 : List UInt8 := [16, 30, 188, 4, 181, 0, 40, 42, 16, 16, 188, 10, 181, 0, 43, 42, 16, 20, 188, 10, 181, 0, 46, 42]
abbrev dktX6_init_3 : List UInt8 := dkwX6_init_3 ++ dktX6_init_4
def dkwX6_init_2 : List UInt8 := [16, 38, 188, 10, 181, 0, 31, 42, 16, 38, 188, 10, 181, 0, 34, 42, 16, 80, 188, 10, 181, 0, 37, 42]
abbrev dktX6_init_2 : List UInt8 := dkwX6_init_2 ++ dktX6_init_3
def dkwX6_init_1 : List UInt8 := [16, 30, 188, 4, 181, 0, 20, 42, 16, 8, 188, 10, 181, 0, 24, 42, 16, 20, 188, 10, 181, 0, 28, 42]
abbrev dktX6_init_1 : List UInt8 := dkwX6_init_1 ++ dktX6_init_2
def dkwX6_init_0 : List UInt8 := [42, 183, 0, 3, 42, 16, 24, 188, 11, 181, 0, 9, 42, 7, 181, 0, 13, 42, 4, 181, 0, 17, 42]
abbrev dktX6_init_0 : List UInt8 := dkwX6_init_0 ++ dktX6_init_1
theorem dksX6_init_0 : cX6_init.data.toList.drop 0 = dktX6_init_0 := by decide +kernel
theorem dksX6_init_1 : cX6_init.data.toList.drop 23 = dktX6_init_1 := dk_seg dksX6_init_0 23 rfl rfl
theorem dksX6_init_2 : cX6_init.data.toList.drop 47 = dktX6_init_2 := dk_seg dksX6_init_1 24 rfl rfl
theorem dksX6_init_3 : cX6_init.data.toList.drop 71 = dktX6_init_3 := dk_seg dksX6_init_2 24 rfl rfl
theorem dksX6_init_4 : cX6_init.data.toList.drop 95 = dktX6_init_4 := dk_seg dksX6_init_3 24 rfl rfl
theorem dksX6_init_5 : cX6_init.data.toList.drop 119 = dktX6_init_5 := dk_seg dksX6_init_4 24 rfl rfl
theorem dksX6_init_6 : cX6_init.data.toList.drop 143 = dktX6_init_6 := dk_seg dksX6_init_5 24 rfl rfl
theorem dksX6_init_7 : cX6_init.data.toList.drop 167 = dktX6_init_7 := dk_seg dksX6_init_6 24 rfl rfl
theorem dksX6_init_8 : cX6_init.data.toList.drop 191 = dktX6_init_8 := dk_seg dksX6_init_7 24 rfl rfl
theorem dksX6_init_9 : cX6_init.data.toList.drop 215 = dktX6_init_9 := dk_seg dksX6_init_8 24 rfl rfl
theorem dksX6_init_10 : cX6_init.data.toList.drop 239 = dktX6_init_10 := dk_seg dksX6_init_9 24 rfl rfl
theorem dX6_init_0 : decode cX6_init 0 = .ok (.aload_n 0, 1) := dk_42 (dk_at dksX6_init_0 0 rfl rfl)
theorem dX6_init_1 : decode cX6_init 1 = .ok (.invokespecial 3, 3) := dk_183 0 3 (dk_at dksX6_init_0 1 rfl rfl)
theorem dX6_init_4 : decode cX6_init 4 = .ok (.aload_n 0, 1) := dk_42 (dk_at dksX6_init_0 4 rfl rfl)
theorem dX6_init_5 : decode cX6_init 5 = .ok (.bipush 24, 2) := dk_16 24 (dk_at dksX6_init_0 5 rfl rfl)
theorem dX6_init_7 : decode cX6_init 7 = .ok (.newarray .long, 2) := dk_188_11 (dk_at dksX6_init_0 7 rfl rfl)
theorem dX6_init_9 : decode cX6_init 9 = .ok (.putfield 9, 3) := dk_181 0 9 (dk_at dksX6_init_0 9 rfl rfl)
theorem dX6_init_12 : decode cX6_init 12 = .ok (.aload_n 0, 1) := dk_42 (dk_at dksX6_init_0 12 rfl rfl)
theorem dX6_init_13 : decode cX6_init 13 = .ok (.iconst 4, 1) := dk_7 (dk_at dksX6_init_0 13 rfl rfl)
theorem dX6_init_14 : decode cX6_init 14 = .ok (.putfield 13, 3) := dk_181 0 13 (dk_at dksX6_init_0 14 rfl rfl)
theorem dX6_init_17 : decode cX6_init 17 = .ok (.aload_n 0, 1) := dk_42 (dk_at dksX6_init_0 17 rfl rfl)
theorem dX6_init_18 : decode cX6_init 18 = .ok (.iconst 1, 1) := dk_4 (dk_at dksX6_init_0 18 rfl rfl)
theorem dX6_init_19 : decode cX6_init 19 = .ok (.putfield 17, 3) := dk_181 0 17 (dk_at dksX6_init_0 19 rfl rfl)
theorem dX6_init_22 : decode cX6_init 22 = .ok (.aload_n 0, 1) := dk_42 (dk_at dksX6_init_0 22 rfl rfl)
theorem dX6_init_23 : decode cX6_init 23 = .ok (.bipush 30, 2) := dk_16 30 (dk_at dksX6_init_1 0 rfl rfl)
theorem dX6_init_25 : decode cX6_init 25 = .ok (.newarray .boolean, 2) := dk_188_4 (dk_at dksX6_init_1 2 rfl rfl)
theorem dX6_init_27 : decode cX6_init 27 = .ok (.putfield 20, 3) := dk_181 0 20 (dk_at dksX6_init_1 4 rfl rfl)
theorem dX6_init_30 : decode cX6_init 30 = .ok (.aload_n 0, 1) := dk_42 (dk_at dksX6_init_1 7 rfl rfl)
theorem dX6_init_31 : decode cX6_init 31 = .ok (.bipush 8, 2) := dk_16 8 (dk_at dksX6_init_1 8 rfl rfl)
theorem dX6_init_33 : decode cX6_init 33 = .ok (.newarray .int, 2) := dk_188_10 (dk_at dksX6_init_1 10 rfl rfl)
theorem dX6_init_35 : decode cX6_init 35 = .ok (.putfield 24, 3) := dk_181 0 24 (dk_at dksX6_init_1 12 rfl rfl)
theorem dX6_init_38 : decode cX6_init 38 = .ok (.aload_n 0, 1) := dk_42 (dk_at dksX6_init_1 15 rfl rfl)
theorem dX6_init_39 : decode cX6_init 39 = .ok (.bipush 20, 2) := dk_16 20 (dk_at dksX6_init_1 16 rfl rfl)
theorem dX6_init_41 : decode cX6_init 41 = .ok (.newarray .int, 2) := dk_188_10 (dk_at dksX6_init_1 18 rfl rfl)
theorem dX6_init_43 : decode cX6_init 43 = .ok (.putfield 28, 3) := dk_181 0 28 (dk_at dksX6_init_1 20 rfl rfl)
theorem dX6_init_46 : decode cX6_init 46 = .ok (.aload_n 0, 1) := dk_42 (dk_at dksX6_init_1 23 rfl rfl)
theorem dX6_init_47 : decode cX6_init 47 = .ok (.bipush 38, 2) := dk_16 38 (dk_at dksX6_init_2 0 rfl rfl)
theorem dX6_init_49 : decode cX6_init 49 = .ok (.newarray .int, 2) := dk_188_10 (dk_at dksX6_init_2 2 rfl rfl)
theorem dX6_init_51 : decode cX6_init 51 = .ok (.putfield 31, 3) := dk_181 0 31 (dk_at dksX6_init_2 4 rfl rfl)
theorem dX6_init_54 : decode cX6_init 54 = .ok (.aload_n 0, 1) := dk_42 (dk_at dksX6_init_2 7 rfl rfl)
theorem dX6_init_55 : decode cX6_init 55 = .ok (.bipush 38, 2) := dk_16 38 (dk_at dksX6_init_2 8 rfl rfl)
theorem dX6_init_57 : decode cX6_init 57 = .ok (.newarray .int, 2) := dk_188_10 (dk_at dksX6_init_2 10 rfl rfl)
theorem dX6_init_59 : decode cX6_init 59 = .ok (.putfield 34, 3) := dk_181 0 34 (dk_at dksX6_init_2 12 rfl rfl)
theorem dX6_init_62 : decode cX6_init 62 = .ok (.aload_n 0, 1) := dk_42 (dk_at dksX6_init_2 15 rfl rfl)
theorem dX6_init_63 : decode cX6_init 63 = .ok (.bipush 80, 2) := dk_16 80 (dk_at dksX6_init_2 16 rfl rfl)
theorem dX6_init_65 : decode cX6_init 65 = .ok (.newarray .int, 2) := dk_188_10 (dk_at dksX6_init_2 18 rfl rfl)
theorem dX6_init_67 : decode cX6_init 67 = .ok (.putfield 37, 3) := dk_181 0 37 (dk_at dksX6_init_2 20 rfl rfl)
theorem dX6_init_70 : decode cX6_init 70 = .ok (.aload_n 0, 1) := dk_42 (dk_at dksX6_init_2 23 rfl rfl)
theorem dX6_init_71 : decode cX6_init 71 = .ok (.bipush 30, 2) := dk_16 30 (dk_at dksX6_init_3 0 rfl rfl)
theorem dX6_init_73 : decode cX6_init 73 = .ok (.newarray .boolean, 2) := dk_188_4 (dk_at dksX6_init_3 2 rfl rfl)
theorem dX6_init_75 : decode cX6_init 75 = .ok (.putfield 40, 3) := dk_181 0 40 (dk_at dksX6_init_3 4 rfl rfl)
theorem dX6_init_78 : decode cX6_init 78 = .ok (.aload_n 0, 1) := dk_42 (dk_at dksX6_init_3 7 rfl rfl)
theorem dX6_init_79 : decode cX6_init 79 = .ok (.bipush 16, 2) := dk_16 16 (dk_at dksX6_init_3 8 rfl rfl)
theorem dX6_init_81 : decode cX6_init 81 = .ok (.newarray .int, 2) := dk_188_10 (dk_at dksX6_init_3 10 rfl rfl)
theorem dX6_init_83 : decode cX6_init 83 = .ok (.putfield 43, 3) := dk_181 0 43 (dk_at dksX6_init_3 12 rfl rfl)
theorem dX6_init_86 : decode cX6_init 86 = .ok (.aload_n 0, 1) := dk_42 (dk_at dksX6_init_3 15 rfl rfl)
theorem dX6_init_87 : decode cX6_init 87 = .ok (.bipush 20, 2) := dk_16 20 (dk_at dksX6_init_3 16 rfl rfl)
theorem dX6_init_89 : decode cX6_init 89 = .ok (.newarray .int, 2) := dk_188_10 (dk_at dksX6_init_3 18 rfl rfl)
theorem dX6_init_91 : decode cX6_init 91 = .ok (.putfield 46, 3) := dk_181 0 46 (dk_at dksX6_init_3 20 rfl rfl)
theorem dX6_init_94 : decode cX6_init 94 = .ok (.aload_n 0, 1) := dk_42 (dk_at dksX6_init_3 23 rfl rfl)
theorem dX6_init_95 : decode cX6_init 95 = .ok (.bipush 80, 2) := dk_16 80 (dk_at dksX6_init_4 0 rfl rfl)
theorem dX6_init_97 : decode cX6_init 97 = .ok (.newarray .int, 2) := dk_188_10 (dk_at dksX6_init_4 2 rfl rfl)
theorem dX6_init_99 : decode cX6_init 99 = .ok (.putfield 49, 3) := dk_181 0 49 (dk_at dksX6_init_4 4 rfl rfl)
theorem dX6_init_102 : decode cX6_init 102 = .ok (.aload_n 0, 1) := dk_42 (dk_at dksX6_init_4 7 rfl rfl)
theorem dX6_init_103 : decode cX6_init 103 = .ok (.bipush 80, 2) := dk_16 80 (dk_at dksX6_init_4 8 rfl rfl)
theorem dX6_init_105 : decode cX6_init 105 = .ok (.newarray .int, 2) := dk_188_10 (dk_at dksX6_init_4 10 rfl rfl)
theorem dX6_init_107 : decode cX6_init 107 = .ok (.putfield 52, 3) := dk_181 0 52 (dk_at dksX6_init_4 12 rfl rfl)
theorem dX6_init_110 : decode cX6_init 110 = .ok (.aload_n 0, 1) := dk_42 (dk_at dksX6_init_4 15 rfl rfl)
theorem dX6_init_111 : decode cX6_init 111 = .ok (.bipush 80, 2) := dk_16 80 (dk_at dksX6_init_4 16 rfl rfl)
theorem dX6_init_113 : decode cX6_init 113 = .ok (.newarray .int, 2) := dk_188_10 (dk_at dksX6_init_4 18 rfl rfl)
theorem dX6_init_115 : decode cX6_init 115 = .ok (.putfield 55, 3) := dk_181 0 55 (dk_at dksX6_init_4 20 rfl rfl)
theorem dX6_init_118 : decode cX6_init 118 = .ok (.aload_n 0, 1) := dk_42 (dk_at dksX6_init_4 23 rfl rfl)
theorem dX6_init_119 : decode cX6_init 119 = .ok (.bipush 7, 2) := dk_16 7 (dk_at dksX6_init_5 0 rfl rfl)
theorem dX6_init_121 : decode cX6_init 121 = .ok (.newarray .int, 2) := dk_188_10 (dk_at dksX6_init_5 2 rfl rfl)
theorem dX6_init_123 : decode cX6_init 123 = .ok (.putfield 58, 3) := dk_181 0 58 (dk_at dksX6_init_5 4 rfl rfl)
theorem dX6_init_126 : decode cX6_init 126 = .ok (.aload_n 0, 1) := dk_42 (dk_at dksX6_init_5 7 rfl rfl)
theorem dX6_init_127 : decode cX6_init 127 = .ok (.sipush 608, 3) := dk_17 2 96 (dk_at dksX6_init_5 8 rfl rfl)
theorem dX6_init_130 : decode cX6_init 130 = .ok (.newarray .int, 2) := dk_188_10 (dk_at dksX6_init_5 11 rfl rfl)
theorem dX6_init_132 : decode cX6_init 132 = .ok (.putfield 61, 3) := dk_181 0 61 (dk_at dksX6_init_5 13 rfl rfl)
theorem dX6_init_135 : decode cX6_init 135 = .ok (.aload_n 0, 1) := dk_42 (dk_at dksX6_init_5 16 rfl rfl)
theorem dX6_init_136 : decode cX6_init 136 = .ok (.bipush 30, 2) := dk_16 30 (dk_at dksX6_init_5 17 rfl rfl)
theorem dX6_init_138 : decode cX6_init 138 = .ok (.newarray .int, 2) := dk_188_10 (dk_at dksX6_init_5 19 rfl rfl)
theorem dX6_init_140 : decode cX6_init 140 = .ok (.putfield 64, 3) := dk_181 0 64 (dk_at dksX6_init_5 21 rfl rfl)
theorem dX6_init_143 : decode cX6_init 143 = .ok (.aload_n 0, 1) := dk_42 (dk_at dksX6_init_6 0 rfl rfl)
theorem dX6_init_144 : decode cX6_init 144 = .ok (.bipush 8, 2) := dk_16 8 (dk_at dksX6_init_6 1 rfl rfl)
theorem dX6_init_146 : decode cX6_init 146 = .ok (.newarray .int, 2) := dk_188_10 (dk_at dksX6_init_6 3 rfl rfl)
theorem dX6_init_148 : decode cX6_init 148 = .ok (.putfield 67, 3) := dk_181 0 67 (dk_at dksX6_init_6 5 rfl rfl)
theorem dX6_init_151 : decode cX6_init 151 = .ok (.aload_n 0, 1) := dk_42 (dk_at dksX6_init_6 8 rfl rfl)
theorem dX6_init_152 : decode cX6_init 152 = .ok (.bipush 6, 2) := dk_16 6 (dk_at dksX6_init_6 9 rfl rfl)
theorem dX6_init_154 : decode cX6_init 154 = .ok (.newarray .int, 2) := dk_188_10 (dk_at dksX6_init_6 11 rfl rfl)
theorem dX6_init_156 : decode cX6_init 156 = .ok (.putfield 70, 3) := dk_181 0 70 (dk_at dksX6_init_6 13 rfl rfl)
theorem dX6_init_159 : decode cX6_init 159 = .ok (.aload_n 0, 1) := dk_42 (dk_at dksX6_init_6 16 rfl rfl)
theorem dX6_init_160 : decode cX6_init 160 = .ok (.bipush 60, 2) := dk_16 60 (dk_at dksX6_init_6 17 rfl rfl)
theorem dX6_init_162 : decode cX6_init 162 = .ok (.newarray .int, 2) := dk_188_10 (dk_at dksX6_init_6 19 rfl rfl)
theorem dX6_init_164 : decode cX6_init 164 = .ok (.putfield 73, 3) := dk_181 0 73 (dk_at dksX6_init_6 21 rfl rfl)
theorem dX6_init_167 : decode cX6_init 167 = .ok (.aload_n 0, 1) := dk_42 (dk_at dksX6_init_7 0 rfl rfl)
theorem dX6_init_168 : decode cX6_init 168 = .ok (.bipush 60, 2) := dk_16 60 (dk_at dksX6_init_7 1 rfl rfl)
theorem dX6_init_170 : decode cX6_init 170 = .ok (.newarray .int, 2) := dk_188_10 (dk_at dksX6_init_7 3 rfl rfl)
theorem dX6_init_172 : decode cX6_init 172 = .ok (.putfield 76, 3) := dk_181 0 76 (dk_at dksX6_init_7 5 rfl rfl)
theorem dX6_init_175 : decode cX6_init 175 = .ok (.aload_n 0, 1) := dk_42 (dk_at dksX6_init_7 8 rfl rfl)
theorem dX6_init_176 : decode cX6_init 176 = .ok (.bipush 60, 2) := dk_16 60 (dk_at dksX6_init_7 9 rfl rfl)
theorem dX6_init_178 : decode cX6_init 178 = .ok (.newarray .int, 2) := dk_188_10 (dk_at dksX6_init_7 11 rfl rfl)
theorem dX6_init_180 : decode cX6_init 180 = .ok (.putfield 79, 3) := dk_181 0 79 (dk_at dksX6_init_7 13 rfl rfl)
theorem dX6_init_183 : decode cX6_init 183 = .ok (.aload_n 0, 1) := dk_42 (dk_at dksX6_init_7 16 rfl rfl)
theorem dX6_init_184 : decode cX6_init 184 = .ok (.bipush 6, 2) := dk_16 6 (dk_at dksX6_init_7 17 rfl rfl)
theorem dX6_init_186 : decode cX6_init 186 = .ok (.newarray .int, 2) := dk_188_10 (dk_at dksX6_init_7 19 rfl rfl)
theorem dX6_init_188 : decode cX6_init 188 = .ok (.putfield 82, 3) := dk_181 0 82 (dk_at dksX6_init_7 21 rfl rfl)
theorem dX6_init_191 : decode cX6_init 191 = .ok (.aload_n 0, 1) := dk_42 (dk_at dksX6_init_8 0 rfl rfl)
theorem dX6_init_192 : decode cX6_init 192 = .ok (.bipush 6, 2) := dk_16 6 (dk_at dksX6_init_8 1 rfl rfl)
theorem dX6_init_194 : decode cX6_init 194 = .ok (.newarray .int, 2) := dk_188_10 (dk_at dksX6_init_8 3 rfl rfl)
theorem dX6_init_196 : decode cX6_init 196 = .ok (.putfield 85, 3) := dk_181 0 85 (dk_at dksX6_init_8 5 rfl rfl)
theorem dX6_init_199 : decode cX6_init 199 = .ok (.aload_n 0, 1) := dk_42 (dk_at dksX6_init_8 8 rfl rfl)
theorem dX6_init_200 : decode cX6_init 200 = .ok (.bipush 8, 2) := dk_16 8 (dk_at dksX6_init_8 9 rfl rfl)
theorem dX6_init_202 : decode cX6_init 202 = .ok (.newarray .int, 2) := dk_188_10 (dk_at dksX6_init_8 11 rfl rfl)
theorem dX6_init_204 : decode cX6_init 204 = .ok (.putfield 88, 3) := dk_181 0 88 (dk_at dksX6_init_8 13 rfl rfl)
theorem dX6_init_207 : decode cX6_init 207 = .ok (.aload_n 0, 1) := dk_42 (dk_at dksX6_init_8 16 rfl rfl)
theorem dX6_init_208 : decode cX6_init 208 = .ok (.bipush 8, 2) := dk_16 8 (dk_at dksX6_init_8 17 rfl rfl)
theorem dX6_init_210 : decode cX6_init 210 = .ok (.newarray .int, 2) := dk_188_10 (dk_at dksX6_init_8 19 rfl rfl)
theorem dX6_init_212 : decode cX6_init 212 = .ok (.putfield 91, 3) := dk_181 0 91 (dk_at dksX6_init_8 21 rfl rfl)
theorem dX6_init_215 : decode cX6_init 215 = .ok (.aload_n 0, 1) := dk_42 (dk_at dksX6_init_9 0 rfl rfl)
theorem dX6_init_216 : decode cX6_init 216 = .ok (.bipush 8, 2) := dk_16 8 (dk_at dksX6_init_9 1 rfl rfl)
theorem dX6_init_218 : decode cX6_init 218 = .ok (.newarray .int, 2) := dk_188_10 (dk_at dksX6_init_9 3 rfl rfl)
theorem dX6_init_220 : decode cX6_init 220 = .ok (.putfield 94, 3) := dk_181 0 94 (dk_at dksX6_init_9 5 rfl rfl)
theorem dX6_init_223 : decode cX6_init 223 = .ok (.aload_n 0, 1) := dk_42 (dk_at dksX6_init_9 8 rfl rfl)
theorem dX6_init_224 : decode cX6_init 224 = .ok (.bipush 8, 2) := dk_16 8 (dk_at dksX6_init_9 9 rfl rfl)
theorem dX6_init_226 : decode cX6_init 226 = .ok (.newarray .int, 2) := dk_188_10 (dk_at dksX6_init_9 11 rfl rfl)
theorem dX6_init_228 : decode cX6_init 228 = .ok (.putfield 97, 3) := dk_181 0 97 (dk_at dksX6_init_9 13 rfl rfl)
theorem dX6_init_231 : decode cX6_init 231 = .ok (.aload_n 0, 1) := dk_42 (dk_at dksX6_init_9 16 rfl rfl)
theorem dX6_init_232 : decode cX6_init 232 = .ok (.bipush 80, 2) := dk_16 80 (dk_at dksX6_init_9 17 rfl rfl)
theorem dX6_init_234 : decode cX6_init 234 = .ok (.newarray .int, 2) := dk_188_10 (dk_at dksX6_init_9 19 rfl rfl)
theorem dX6_init_236 : decode cX6_init 236 = .ok (.putfield 100, 3) := dk_181 0 100 (dk_at dksX6_init_9 21 rfl rfl)
theorem dX6_init_239 : decode cX6_init 239 = .ok (.aload_n 0, 1) := dk_42 (dk_at dksX6_init_10 0 rfl rfl)
theorem dX6_init_240 : decode cX6_init 240 = .ok (.iconst 3, 1) := dk_6 (dk_at dksX6_init_10 1 rfl rfl)
theorem dX6_init_241 : decode cX6_init 241 = .ok (.newarray .boolean, 2) := dk_188_4 (dk_at dksX6_init_10 2 rfl rfl)
theorem dX6_init_243 : decode cX6_init 243 = .ok (.putfield 103, 3) := dk_181 0 103 (dk_at dksX6_init_10 4 rfl rfl)
theorem dX6_init_246 : decode cX6_init 246 = .ok (.aload_n 0, 1) := dk_42 (dk_at dksX6_init_10 7 rfl rfl)
theorem dX6_init_247 : decode cX6_init 247 = .ok (.iconst 3, 1) := dk_6 (dk_at dksX6_init_10 8 rfl rfl)
theorem dX6_init_248 : decode cX6_init 248 = .ok (.newarray .int, 2) := dk_188_10 (dk_at dksX6_init_10 9 rfl rfl)
theorem dX6_init_250 : decode cX6_init 250 = .ok (.putfield 106, 3) := dk_181 0 106 (dk_at dksX6_init_10 11 rfl rfl)
theorem dX6_init_253 : decode cX6_init 253 = .ok (.aload_n 0, 1) := dk_42 (dk_at dksX6_init_10 14 rfl rfl)
theorem dX6_init_254 : decode cX6_init 254 = .ok (.bipush 114, 2) := dk_16 114 (dk_at dksX6_init_10 15 rfl rfl)
theorem dX6_init_256 : decode cX6_init 256 = .ok (.newarray .int, 2) := dk_188_10 (dk_at dksX6_init_10 17 rfl rfl)
theorem dX6_init_258 : decode cX6_init 258 = .ok (.putfield 109, 3) := dk_181 0 109 (dk_at dksX6_init_10 19 rfl rfl)
theorem dX6_init_261 : decode cX6_init 261 = .ok (.return_, 1) := dk_177 (dk_at dksX6_init_10 22 rfl rfl)
abbrev cX6_thrown : ByteArray := prog_15_method_2_code
def yX6_thrown : MethodName := ⟨RX6, "thrown", "()I"⟩
theorem dX6_thrown_0 : decode cX6_thrown 0 = .ok (.aload_n 0, 1) := by decide +kernel
theorem dX6_thrown_1 : decode cX6_thrown 1 = .ok (.getfield 112, 3) := by decide +kernel
theorem dX6_thrown_4 : decode cX6_thrown 4 = .ok (.ireturn, 1) := by decide +kernel
abbrev cX6_sign : ByteArray := prog_15_method_18_code
def yX6_sign : MethodName := ⟨RX6, "sign", "(I)I"⟩
def dkwX6_sign_2 : List UInt8 := [132, 2, 1, 167, 255, 224, 42, 89, 180, 0, 136, 7, 96, 181, 0, 136, 42, 180, 0, 136, 172]
abbrev dktX6_sign_2 : List UInt8 := dkwX6_sign_2 ++ []
def dkwX6_sign_1 : List UInt8 := [180, 0, 37, 42, 180, 0, 136, 28, 96, 27, 16, 24, 16, 8, 28, 104, 100, 122, 17, 0, 255, 126, 79]
abbrev dktX6_sign_1 : List UInt8 := dkwX6_sign_1 ++ dktX6_sign_2
def dkwX6_sign_0 : List UInt8 := [42, 3, 181, 0, 112, 42, 180, 0, 136, 16, 76, 164, 0, 5, 2, 172, 3, 61, 28, 7, 162, 0, 33, 42]
abbrev dktX6_sign_0 : List UInt8 := dkwX6_sign_0 ++ dktX6_sign_1
theorem dksX6_sign_0 : cX6_sign.data.toList.drop 0 = dktX6_sign_0 := by decide +kernel
theorem dksX6_sign_1 : cX6_sign.data.toList.drop 24 = dktX6_sign_1 := dk_seg dksX6_sign_0 24 rfl rfl
theorem dksX6_sign_2 : cX6_sign.data.toList.drop 47 = dktX6_sign_2 := dk_seg dksX6_sign_1 23 rfl rfl
theorem dX6_sign_0 : decode cX6_sign 0 = .ok (.aload_n 0, 1) := dk_42 (dk_at dksX6_sign_0 0 rfl rfl)
theorem dX6_sign_1 : decode cX6_sign 1 = .ok (.iconst 0, 1) := dk_3 (dk_at dksX6_sign_0 1 rfl rfl)
theorem dX6_sign_2 : decode cX6_sign 2 = .ok (.putfield 112, 3) := dk_181 0 112 (dk_at dksX6_sign_0 2 rfl rfl)
theorem dX6_sign_5 : decode cX6_sign 5 = .ok (.aload_n 0, 1) := dk_42 (dk_at dksX6_sign_0 5 rfl rfl)
theorem dX6_sign_6 : decode cX6_sign 6 = .ok (.getfield 136, 3) := dk_180 0 136 (dk_at dksX6_sign_0 6 rfl rfl)
theorem dX6_sign_9 : decode cX6_sign 9 = .ok (.bipush 76, 2) := dk_16 76 (dk_at dksX6_sign_0 9 rfl rfl)
theorem dX6_sign_11 : decode cX6_sign 11 = .ok (.if_icmp .le 5, 3) := dk_164 0 5 (dk_at dksX6_sign_0 11 rfl rfl)
theorem dX6_sign_14 : decode cX6_sign 14 = .ok (.iconst (-1), 1) := dk_2 (dk_at dksX6_sign_0 14 rfl rfl)
theorem dX6_sign_15 : decode cX6_sign 15 = .ok (.ireturn, 1) := dk_172 (dk_at dksX6_sign_0 15 rfl rfl)
theorem dX6_sign_16 : decode cX6_sign 16 = .ok (.iconst 0, 1) := dk_3 (dk_at dksX6_sign_0 16 rfl rfl)
theorem dX6_sign_17 : decode cX6_sign 17 = .ok (.istore_n 2, 1) := dk_61 (dk_at dksX6_sign_0 17 rfl rfl)
theorem dX6_sign_18 : decode cX6_sign 18 = .ok (.iload_n 2, 1) := dk_28 (dk_at dksX6_sign_0 18 rfl rfl)
theorem dX6_sign_19 : decode cX6_sign 19 = .ok (.iconst 4, 1) := dk_7 (dk_at dksX6_sign_0 19 rfl rfl)
theorem dX6_sign_20 : decode cX6_sign 20 = .ok (.if_icmp .ge 33, 3) := dk_162 0 33 (dk_at dksX6_sign_0 20 rfl rfl)
theorem dX6_sign_23 : decode cX6_sign 23 = .ok (.aload_n 0, 1) := dk_42 (dk_at dksX6_sign_0 23 rfl rfl)
theorem dX6_sign_24 : decode cX6_sign 24 = .ok (.getfield 37, 3) := dk_180 0 37 (dk_at dksX6_sign_1 0 rfl rfl)
theorem dX6_sign_27 : decode cX6_sign 27 = .ok (.aload_n 0, 1) := dk_42 (dk_at dksX6_sign_1 3 rfl rfl)
theorem dX6_sign_28 : decode cX6_sign 28 = .ok (.getfield 136, 3) := dk_180 0 136 (dk_at dksX6_sign_1 4 rfl rfl)
theorem dX6_sign_31 : decode cX6_sign 31 = .ok (.iload_n 2, 1) := dk_28 (dk_at dksX6_sign_1 7 rfl rfl)
theorem dX6_sign_32 : decode cX6_sign 32 = .ok (.iadd, 1) := dk_96 (dk_at dksX6_sign_1 8 rfl rfl)
theorem dX6_sign_33 : decode cX6_sign 33 = .ok (.iload_n 1, 1) := dk_27 (dk_at dksX6_sign_1 9 rfl rfl)
theorem dX6_sign_34 : decode cX6_sign 34 = .ok (.bipush 24, 2) := dk_16 24 (dk_at dksX6_sign_1 10 rfl rfl)
theorem dX6_sign_36 : decode cX6_sign 36 = .ok (.bipush 8, 2) := dk_16 8 (dk_at dksX6_sign_1 12 rfl rfl)
theorem dX6_sign_38 : decode cX6_sign 38 = .ok (.iload_n 2, 1) := dk_28 (dk_at dksX6_sign_1 14 rfl rfl)
theorem dX6_sign_39 : decode cX6_sign 39 = .ok (.imul, 1) := dk_104 (dk_at dksX6_sign_1 15 rfl rfl)
theorem dX6_sign_40 : decode cX6_sign 40 = .ok (.isub, 1) := dk_100 (dk_at dksX6_sign_1 16 rfl rfl)
theorem dX6_sign_41 : decode cX6_sign 41 = .ok (.ishr, 1) := dk_122 (dk_at dksX6_sign_1 17 rfl rfl)
theorem dX6_sign_42 : decode cX6_sign 42 = .ok (.sipush 255, 3) := dk_17 0 255 (dk_at dksX6_sign_1 18 rfl rfl)
theorem dX6_sign_45 : decode cX6_sign 45 = .ok (.iand, 1) := dk_126 (dk_at dksX6_sign_1 21 rfl rfl)
theorem dX6_sign_46 : decode cX6_sign 46 = .ok (.iastore, 1) := dk_79 (dk_at dksX6_sign_1 22 rfl rfl)
theorem dX6_sign_47 : decode cX6_sign 47 = .ok (.iinc 2 1, 3) := dk_132 2 1 (dk_at dksX6_sign_2 0 rfl rfl)
theorem dX6_sign_50 : decode cX6_sign 50 = .ok (.goto (-32), 3) := dk_167 255 224 (dk_at dksX6_sign_2 3 rfl rfl)
theorem dX6_sign_53 : decode cX6_sign 53 = .ok (.aload_n 0, 1) := dk_42 (dk_at dksX6_sign_2 6 rfl rfl)
theorem dX6_sign_54 : decode cX6_sign 54 = .ok (.dup, 1) := dk_89 (dk_at dksX6_sign_2 7 rfl rfl)
theorem dX6_sign_55 : decode cX6_sign 55 = .ok (.getfield 136, 3) := dk_180 0 136 (dk_at dksX6_sign_2 8 rfl rfl)
theorem dX6_sign_58 : decode cX6_sign 58 = .ok (.iconst 4, 1) := dk_7 (dk_at dksX6_sign_2 11 rfl rfl)
theorem dX6_sign_59 : decode cX6_sign 59 = .ok (.iadd, 1) := dk_96 (dk_at dksX6_sign_2 12 rfl rfl)
theorem dX6_sign_60 : decode cX6_sign 60 = .ok (.putfield 136, 3) := dk_181 0 136 (dk_at dksX6_sign_2 13 rfl rfl)
theorem dX6_sign_63 : decode cX6_sign 63 = .ok (.aload_n 0, 1) := dk_42 (dk_at dksX6_sign_2 16 rfl rfl)
theorem dX6_sign_64 : decode cX6_sign 64 = .ok (.getfield 136, 3) := dk_180 0 136 (dk_at dksX6_sign_2 17 rfl rfl)
theorem dX6_sign_67 : decode cX6_sign 67 = .ok (.ireturn, 1) := dk_172 (dk_at dksX6_sign_2 20 rfl rfl)
abbrev cX6_end : ByteArray := prog_15_method_19_code
def yX6_end : MethodName := ⟨RX6, "end", "(I)Z"⟩
def dkwX6_end_1 : List UInt8 := [181, 0, 136, 4, 172]
abbrev dktX6_end_1 : List UInt8 := dkwX6_end_1 ++ []
def dkwX6_end_0 : List UInt8 := [42, 3, 181, 0, 112, 27, 133, 9, 42, 180, 0, 136, 133, 184, 0, 125, 154, 0, 5, 3, 172, 42, 27]
abbrev dktX6_end_0 : List UInt8 := dkwX6_end_0 ++ dktX6_end_1
theorem dksX6_end_0 : cX6_end.data.toList.drop 0 = dktX6_end_0 := by decide +kernel
theorem dksX6_end_1 : cX6_end.data.toList.drop 23 = dktX6_end_1 := dk_seg dksX6_end_0 23 rfl rfl
theorem dX6_end_0 : decode cX6_end 0 = .ok (.aload_n 0, 1) := dk_42 (dk_at dksX6_end_0 0 rfl rfl)
theorem dX6_end_1 : decode cX6_end 1 = .ok (.iconst 0, 1) := dk_3 (dk_at dksX6_end_0 1 rfl rfl)
theorem dX6_end_2 : decode cX6_end 2 = .ok (.putfield 112, 3) := dk_181 0 112 (dk_at dksX6_end_0 2 rfl rfl)
theorem dX6_end_5 : decode cX6_end 5 = .ok (.iload_n 1, 1) := dk_27 (dk_at dksX6_end_0 5 rfl rfl)
theorem dX6_end_6 : decode cX6_end 6 = .ok (.i2l, 1) := dk_133 (dk_at dksX6_end_0 6 rfl rfl)
theorem dX6_end_7 : decode cX6_end 7 = .ok (.lconst 0, 1) := dk_9 (dk_at dksX6_end_0 7 rfl rfl)
theorem dX6_end_8 : decode cX6_end 8 = .ok (.aload_n 0, 1) := dk_42 (dk_at dksX6_end_0 8 rfl rfl)
theorem dX6_end_9 : decode cX6_end 9 = .ok (.getfield 136, 3) := dk_180 0 136 (dk_at dksX6_end_0 9 rfl rfl)
theorem dX6_end_12 : decode cX6_end 12 = .ok (.i2l, 1) := dk_133 (dk_at dksX6_end_0 12 rfl rfl)
theorem dX6_end_13 : decode cX6_end 13 = .ok (.invokestatic 125, 3) := dk_184 0 125 (dk_at dksX6_end_0 13 rfl rfl)
theorem dX6_end_16 : decode cX6_end 16 = .ok (.ifCond .ne 5, 3) := dk_154 0 5 (dk_at dksX6_end_0 16 rfl rfl)
theorem dX6_end_19 : decode cX6_end 19 = .ok (.iconst 0, 1) := dk_3 (dk_at dksX6_end_0 19 rfl rfl)
theorem dX6_end_20 : decode cX6_end 20 = .ok (.ireturn, 1) := dk_172 (dk_at dksX6_end_0 20 rfl rfl)
theorem dX6_end_21 : decode cX6_end 21 = .ok (.aload_n 0, 1) := dk_42 (dk_at dksX6_end_0 21 rfl rfl)
theorem dX6_end_22 : decode cX6_end 22 = .ok (.iload_n 1, 1) := dk_27 (dk_at dksX6_end_0 22 rfl rfl)
theorem dX6_end_23 : decode cX6_end 23 = .ok (.putfield 136, 3) := dk_181 0 136 (dk_at dksX6_end_1 0 rfl rfl)
theorem dX6_end_26 : decode cX6_end 26 = .ok (.iconst 1, 1) := dk_4 (dk_at dksX6_end_1 3 rfl rfl)
theorem dX6_end_27 : decode cX6_end 27 = .ok (.ireturn, 1) := dk_172 (dk_at dksX6_end_1 4 rfl rfl)
abbrev cX6_in : ByteArray := prog_15_method_4_code
def yX6_in : MethodName := ⟨RX6, "in", "(JJJ)Z"⟩
def dkwX6_in_0 : List UInt8 := [30, 32, 148, 155, 0, 14, 30, 22, 4, 148, 157, 0, 7, 4, 167, 0, 4, 3, 172]
abbrev dktX6_in_0 : List UInt8 := dkwX6_in_0 ++ []
theorem dksX6_in_0 : cX6_in.data.toList.drop 0 = dktX6_in_0 := by decide +kernel
theorem dX6_in_0 : decode cX6_in 0 = .ok (.lload_n 0, 1) := dk_30 (dk_at dksX6_in_0 0 rfl rfl)
theorem dX6_in_1 : decode cX6_in 1 = .ok (.lload_n 2, 1) := dk_32 (dk_at dksX6_in_0 1 rfl rfl)
theorem dX6_in_2 : decode cX6_in 2 = .ok (.lcmp, 1) := dk_148 (dk_at dksX6_in_0 2 rfl rfl)
theorem dX6_in_3 : decode cX6_in 3 = .ok (.ifCond .lt 14, 3) := dk_155 0 14 (dk_at dksX6_in_0 3 rfl rfl)
theorem dX6_in_6 : decode cX6_in 6 = .ok (.lload_n 0, 1) := dk_30 (dk_at dksX6_in_0 6 rfl rfl)
theorem dX6_in_7 : decode cX6_in 7 = .ok (.lload 4, 2) := dk_22 4 (dk_at dksX6_in_0 7 rfl rfl)
theorem dX6_in_9 : decode cX6_in 9 = .ok (.lcmp, 1) := dk_148 (dk_at dksX6_in_0 9 rfl rfl)
theorem dX6_in_10 : decode cX6_in 10 = .ok (.ifCond .gt 7, 3) := dk_157 0 7 (dk_at dksX6_in_0 10 rfl rfl)
theorem dX6_in_13 : decode cX6_in 13 = .ok (.iconst 1, 1) := dk_4 (dk_at dksX6_in_0 13 rfl rfl)
theorem dX6_in_14 : decode cX6_in 14 = .ok (.goto 4, 3) := dk_167 0 4 (dk_at dksX6_in_0 14 rfl rfl)
theorem dX6_in_17 : decode cX6_in 17 = .ok (.iconst 0, 1) := dk_3 (dk_at dksX6_in_0 17 rfl rfl)
theorem dX6_in_18 : decode cX6_in 18 = .ok (.ireturn, 1) := dk_172 (dk_at dksX6_in_0 18 rfl rfl)
abbrev cX6_avenue : ByteArray := prog_15_method_27_code
def yX6_avenue : MethodName := ⟨RX6, "avenue", "()I"⟩
def dkwX6_avenue_7 : List UInt8 := [29, 3, 84, 132, 3, 1, 167, 255, 241, 27, 172]
abbrev dktX6_avenue_7 : List UInt8 := dkwX6_avenue_7 ++ []
def dkwX6_avenue_6 : List UInt8 := [42, 180, 0, 31, 16, 37, 3, 79, 42, 3, 181, 0, 186, 3, 62, 29, 6, 162, 0, 16, 42, 180, 0, 103]
abbrev dktX6_avenue_6 : List UInt8 := dkwX6_avenue_6 ++ dktX6_avenue_7
def dkwX6_avenue_5 : List UInt8 := [132, 3, 1, 167, 255, 236, 42, 3, 181, 0, 122, 42, 3, 181, 0, 129, 42, 180, 0, 31, 16, 12, 3, 79]
abbrev dktX6_avenue_5 : List UInt8 := dkwX6_avenue_5 ++ dktX6_avenue_6
def dkwX6_avenue_4 : List UInt8 := [181, 0, 13, 3, 62, 29, 27, 162, 0, 21, 42, 180, 0, 20, 29, 42, 180, 0, 40, 29, 51, 84]
abbrev dktX6_avenue_4 : List UInt8 := dkwX6_avenue_4 ++ dktX6_avenue_5
def dkwX6_avenue_3 : List UInt8 := [161, 0, 14, 42, 180, 0, 139, 42, 180, 0, 151, 162, 0, 10, 2, 42, 180, 0, 139, 100, 172, 42, 27]
abbrev dktX6_avenue_3 : List UInt8 := dkwX6_avenue_3 ++ dktX6_avenue_4
def dkwX6_avenue_2 : List UInt8 := [27, 29, 4, 160, 0, 7, 4, 167, 0, 4, 3, 84, 27, 28, 184, 0, 154, 96, 60, 167, 255, 206, 27, 7]
abbrev dktX6_avenue_2 : List UInt8 := dkwX6_avenue_2 ++ dktX6_avenue_3
def dkwX6_avenue_1 : List UInt8 := [162, 0, 46, 42, 18, 180, 182, 0, 182, 62, 29, 155, 0, 7, 4, 167, 0, 4, 3, 61, 42, 180, 0, 40]
abbrev dktX6_avenue_1 : List UInt8 := dkwX6_avenue_1 ++ dktX6_avenue_2
def dkwX6_avenue_0 : List UInt8 := [42, 3, 181, 0, 112, 42, 16, 80, 182, 0, 176, 87, 3, 60, 4, 61, 28, 153, 0, 52, 27, 16, 30]
abbrev dktX6_avenue_0 : List UInt8 := dkwX6_avenue_0 ++ dktX6_avenue_1
theorem dksX6_avenue_0 : cX6_avenue.data.toList.drop 0 = dktX6_avenue_0 := by decide +kernel
theorem dksX6_avenue_1 : cX6_avenue.data.toList.drop 23 = dktX6_avenue_1 := dk_seg dksX6_avenue_0 23 rfl rfl
theorem dksX6_avenue_2 : cX6_avenue.data.toList.drop 47 = dktX6_avenue_2 := dk_seg dksX6_avenue_1 24 rfl rfl
theorem dksX6_avenue_3 : cX6_avenue.data.toList.drop 71 = dktX6_avenue_3 := dk_seg dksX6_avenue_2 24 rfl rfl
theorem dksX6_avenue_4 : cX6_avenue.data.toList.drop 94 = dktX6_avenue_4 := dk_seg dksX6_avenue_3 23 rfl rfl
theorem dksX6_avenue_5 : cX6_avenue.data.toList.drop 116 = dktX6_avenue_5 := dk_seg dksX6_avenue_4 22 rfl rfl
theorem dksX6_avenue_6 : cX6_avenue.data.toList.drop 140 = dktX6_avenue_6 := dk_seg dksX6_avenue_5 24 rfl rfl
theorem dksX6_avenue_7 : cX6_avenue.data.toList.drop 164 = dktX6_avenue_7 := dk_seg dksX6_avenue_6 24 rfl rfl
theorem dX6_avenue_0 : decode cX6_avenue 0 = .ok (.aload_n 0, 1) := dk_42 (dk_at dksX6_avenue_0 0 rfl rfl)
theorem dX6_avenue_1 : decode cX6_avenue 1 = .ok (.iconst 0, 1) := dk_3 (dk_at dksX6_avenue_0 1 rfl rfl)
theorem dX6_avenue_2 : decode cX6_avenue 2 = .ok (.putfield 112, 3) := dk_181 0 112 (dk_at dksX6_avenue_0 2 rfl rfl)
theorem dX6_avenue_5 : decode cX6_avenue 5 = .ok (.aload_n 0, 1) := dk_42 (dk_at dksX6_avenue_0 5 rfl rfl)
theorem dX6_avenue_6 : decode cX6_avenue 6 = .ok (.bipush 80, 2) := dk_16 80 (dk_at dksX6_avenue_0 6 rfl rfl)
theorem dX6_avenue_8 : decode cX6_avenue 8 = .ok (.invokevirtual 176, 3) := dk_182 0 176 (dk_at dksX6_avenue_0 8 rfl rfl)
theorem dX6_avenue_11 : decode cX6_avenue 11 = .ok (.pop, 1) := dk_87 (dk_at dksX6_avenue_0 11 rfl rfl)
theorem dX6_avenue_12 : decode cX6_avenue 12 = .ok (.iconst 0, 1) := dk_3 (dk_at dksX6_avenue_0 12 rfl rfl)
theorem dX6_avenue_13 : decode cX6_avenue 13 = .ok (.istore_n 1, 1) := dk_60 (dk_at dksX6_avenue_0 13 rfl rfl)
theorem dX6_avenue_14 : decode cX6_avenue 14 = .ok (.iconst 1, 1) := dk_4 (dk_at dksX6_avenue_0 14 rfl rfl)
theorem dX6_avenue_15 : decode cX6_avenue 15 = .ok (.istore_n 2, 1) := dk_61 (dk_at dksX6_avenue_0 15 rfl rfl)
theorem dX6_avenue_16 : decode cX6_avenue 16 = .ok (.iload_n 2, 1) := dk_28 (dk_at dksX6_avenue_0 16 rfl rfl)
theorem dX6_avenue_17 : decode cX6_avenue 17 = .ok (.ifCond .eq 52, 3) := dk_153 0 52 (dk_at dksX6_avenue_0 17 rfl rfl)
theorem dX6_avenue_20 : decode cX6_avenue 20 = .ok (.iload_n 1, 1) := dk_27 (dk_at dksX6_avenue_0 20 rfl rfl)
theorem dX6_avenue_21 : decode cX6_avenue 21 = .ok (.bipush 30, 2) := dk_16 30 (dk_at dksX6_avenue_0 21 rfl rfl)
theorem dX6_avenue_23 : decode cX6_avenue 23 = .ok (.if_icmp .ge 46, 3) := dk_162 0 46 (dk_at dksX6_avenue_1 0 rfl rfl)
theorem dX6_avenue_26 : decode cX6_avenue 26 = .ok (.aload_n 0, 1) := dk_42 (dk_at dksX6_avenue_1 3 rfl rfl)
theorem dX6_avenue_27 : decode cX6_avenue 27 = .ok (.ldc 180, 2) := dk_18 180 (dk_at dksX6_avenue_1 4 rfl rfl)
theorem dX6_avenue_29 : decode cX6_avenue 29 = .ok (.invokevirtual 182, 3) := dk_182 0 182 (dk_at dksX6_avenue_1 6 rfl rfl)
theorem dX6_avenue_32 : decode cX6_avenue 32 = .ok (.istore_n 3, 1) := dk_62 (dk_at dksX6_avenue_1 9 rfl rfl)
theorem dX6_avenue_33 : decode cX6_avenue 33 = .ok (.iload_n 3, 1) := dk_29 (dk_at dksX6_avenue_1 10 rfl rfl)
theorem dX6_avenue_34 : decode cX6_avenue 34 = .ok (.ifCond .lt 7, 3) := dk_155 0 7 (dk_at dksX6_avenue_1 11 rfl rfl)
theorem dX6_avenue_37 : decode cX6_avenue 37 = .ok (.iconst 1, 1) := dk_4 (dk_at dksX6_avenue_1 14 rfl rfl)
theorem dX6_avenue_38 : decode cX6_avenue 38 = .ok (.goto 4, 3) := dk_167 0 4 (dk_at dksX6_avenue_1 15 rfl rfl)
theorem dX6_avenue_41 : decode cX6_avenue 41 = .ok (.iconst 0, 1) := dk_3 (dk_at dksX6_avenue_1 18 rfl rfl)
theorem dX6_avenue_42 : decode cX6_avenue 42 = .ok (.istore_n 2, 1) := dk_61 (dk_at dksX6_avenue_1 19 rfl rfl)
theorem dX6_avenue_43 : decode cX6_avenue 43 = .ok (.aload_n 0, 1) := dk_42 (dk_at dksX6_avenue_1 20 rfl rfl)
theorem dX6_avenue_44 : decode cX6_avenue 44 = .ok (.getfield 40, 3) := dk_180 0 40 (dk_at dksX6_avenue_1 21 rfl rfl)
theorem dX6_avenue_47 : decode cX6_avenue 47 = .ok (.iload_n 1, 1) := dk_27 (dk_at dksX6_avenue_2 0 rfl rfl)
theorem dX6_avenue_48 : decode cX6_avenue 48 = .ok (.iload_n 3, 1) := dk_29 (dk_at dksX6_avenue_2 1 rfl rfl)
theorem dX6_avenue_49 : decode cX6_avenue 49 = .ok (.iconst 1, 1) := dk_4 (dk_at dksX6_avenue_2 2 rfl rfl)
theorem dX6_avenue_50 : decode cX6_avenue 50 = .ok (.if_icmp .ne 7, 3) := dk_160 0 7 (dk_at dksX6_avenue_2 3 rfl rfl)
theorem dX6_avenue_53 : decode cX6_avenue 53 = .ok (.iconst 1, 1) := dk_4 (dk_at dksX6_avenue_2 6 rfl rfl)
theorem dX6_avenue_54 : decode cX6_avenue 54 = .ok (.goto 4, 3) := dk_167 0 4 (dk_at dksX6_avenue_2 7 rfl rfl)
theorem dX6_avenue_57 : decode cX6_avenue 57 = .ok (.iconst 0, 1) := dk_3 (dk_at dksX6_avenue_2 10 rfl rfl)
theorem dX6_avenue_58 : decode cX6_avenue 58 = .ok (.bastore, 1) := dk_84 (dk_at dksX6_avenue_2 11 rfl rfl)
theorem dX6_avenue_59 : decode cX6_avenue 59 = .ok (.iload_n 1, 1) := dk_27 (dk_at dksX6_avenue_2 12 rfl rfl)
theorem dX6_avenue_60 : decode cX6_avenue 60 = .ok (.iload_n 2, 1) := dk_28 (dk_at dksX6_avenue_2 13 rfl rfl)
theorem dX6_avenue_61 : decode cX6_avenue 61 = .ok (.invokestatic 154, 3) := dk_184 0 154 (dk_at dksX6_avenue_2 14 rfl rfl)
theorem dX6_avenue_64 : decode cX6_avenue 64 = .ok (.iadd, 1) := dk_96 (dk_at dksX6_avenue_2 17 rfl rfl)
theorem dX6_avenue_65 : decode cX6_avenue 65 = .ok (.istore_n 1, 1) := dk_60 (dk_at dksX6_avenue_2 18 rfl rfl)
theorem dX6_avenue_66 : decode cX6_avenue 66 = .ok (.goto (-50), 3) := dk_167 255 206 (dk_at dksX6_avenue_2 19 rfl rfl)
theorem dX6_avenue_69 : decode cX6_avenue 69 = .ok (.iload_n 1, 1) := dk_27 (dk_at dksX6_avenue_2 22 rfl rfl)
theorem dX6_avenue_70 : decode cX6_avenue 70 = .ok (.iconst 4, 1) := dk_7 (dk_at dksX6_avenue_2 23 rfl rfl)
theorem dX6_avenue_71 : decode cX6_avenue 71 = .ok (.if_icmp .lt 14, 3) := dk_161 0 14 (dk_at dksX6_avenue_3 0 rfl rfl)
theorem dX6_avenue_74 : decode cX6_avenue 74 = .ok (.aload_n 0, 1) := dk_42 (dk_at dksX6_avenue_3 3 rfl rfl)
theorem dX6_avenue_75 : decode cX6_avenue 75 = .ok (.getfield 139, 3) := dk_180 0 139 (dk_at dksX6_avenue_3 4 rfl rfl)
theorem dX6_avenue_78 : decode cX6_avenue 78 = .ok (.aload_n 0, 1) := dk_42 (dk_at dksX6_avenue_3 7 rfl rfl)
theorem dX6_avenue_79 : decode cX6_avenue 79 = .ok (.getfield 151, 3) := dk_180 0 151 (dk_at dksX6_avenue_3 8 rfl rfl)
theorem dX6_avenue_82 : decode cX6_avenue 82 = .ok (.if_icmp .ge 10, 3) := dk_162 0 10 (dk_at dksX6_avenue_3 11 rfl rfl)
theorem dX6_avenue_85 : decode cX6_avenue 85 = .ok (.iconst (-1), 1) := dk_2 (dk_at dksX6_avenue_3 14 rfl rfl)
theorem dX6_avenue_86 : decode cX6_avenue 86 = .ok (.aload_n 0, 1) := dk_42 (dk_at dksX6_avenue_3 15 rfl rfl)
theorem dX6_avenue_87 : decode cX6_avenue 87 = .ok (.getfield 139, 3) := dk_180 0 139 (dk_at dksX6_avenue_3 16 rfl rfl)
theorem dX6_avenue_90 : decode cX6_avenue 90 = .ok (.isub, 1) := dk_100 (dk_at dksX6_avenue_3 19 rfl rfl)
theorem dX6_avenue_91 : decode cX6_avenue 91 = .ok (.ireturn, 1) := dk_172 (dk_at dksX6_avenue_3 20 rfl rfl)
theorem dX6_avenue_92 : decode cX6_avenue 92 = .ok (.aload_n 0, 1) := dk_42 (dk_at dksX6_avenue_3 21 rfl rfl)
theorem dX6_avenue_93 : decode cX6_avenue 93 = .ok (.iload_n 1, 1) := dk_27 (dk_at dksX6_avenue_3 22 rfl rfl)
theorem dX6_avenue_94 : decode cX6_avenue 94 = .ok (.putfield 13, 3) := dk_181 0 13 (dk_at dksX6_avenue_4 0 rfl rfl)
theorem dX6_avenue_97 : decode cX6_avenue 97 = .ok (.iconst 0, 1) := dk_3 (dk_at dksX6_avenue_4 3 rfl rfl)
theorem dX6_avenue_98 : decode cX6_avenue 98 = .ok (.istore_n 3, 1) := dk_62 (dk_at dksX6_avenue_4 4 rfl rfl)
theorem dX6_avenue_99 : decode cX6_avenue 99 = .ok (.iload_n 3, 1) := dk_29 (dk_at dksX6_avenue_4 5 rfl rfl)
theorem dX6_avenue_100 : decode cX6_avenue 100 = .ok (.iload_n 1, 1) := dk_27 (dk_at dksX6_avenue_4 6 rfl rfl)
theorem dX6_avenue_101 : decode cX6_avenue 101 = .ok (.if_icmp .ge 21, 3) := dk_162 0 21 (dk_at dksX6_avenue_4 7 rfl rfl)
theorem dX6_avenue_104 : decode cX6_avenue 104 = .ok (.aload_n 0, 1) := dk_42 (dk_at dksX6_avenue_4 10 rfl rfl)
theorem dX6_avenue_105 : decode cX6_avenue 105 = .ok (.getfield 20, 3) := dk_180 0 20 (dk_at dksX6_avenue_4 11 rfl rfl)
theorem dX6_avenue_108 : decode cX6_avenue 108 = .ok (.iload_n 3, 1) := dk_29 (dk_at dksX6_avenue_4 14 rfl rfl)
theorem dX6_avenue_109 : decode cX6_avenue 109 = .ok (.aload_n 0, 1) := dk_42 (dk_at dksX6_avenue_4 15 rfl rfl)
theorem dX6_avenue_110 : decode cX6_avenue 110 = .ok (.getfield 40, 3) := dk_180 0 40 (dk_at dksX6_avenue_4 16 rfl rfl)
theorem dX6_avenue_113 : decode cX6_avenue 113 = .ok (.iload_n 3, 1) := dk_29 (dk_at dksX6_avenue_4 19 rfl rfl)
theorem dX6_avenue_114 : decode cX6_avenue 114 = .ok (.baload, 1) := dk_51 (dk_at dksX6_avenue_4 20 rfl rfl)
theorem dX6_avenue_115 : decode cX6_avenue 115 = .ok (.bastore, 1) := dk_84 (dk_at dksX6_avenue_4 21 rfl rfl)
theorem dX6_avenue_116 : decode cX6_avenue 116 = .ok (.iinc 3 1, 3) := dk_132 3 1 (dk_at dksX6_avenue_5 0 rfl rfl)
theorem dX6_avenue_119 : decode cX6_avenue 119 = .ok (.goto (-20), 3) := dk_167 255 236 (dk_at dksX6_avenue_5 3 rfl rfl)
theorem dX6_avenue_122 : decode cX6_avenue 122 = .ok (.aload_n 0, 1) := dk_42 (dk_at dksX6_avenue_5 6 rfl rfl)
theorem dX6_avenue_123 : decode cX6_avenue 123 = .ok (.iconst 0, 1) := dk_3 (dk_at dksX6_avenue_5 7 rfl rfl)
theorem dX6_avenue_124 : decode cX6_avenue 124 = .ok (.putfield 122, 3) := dk_181 0 122 (dk_at dksX6_avenue_5 8 rfl rfl)
theorem dX6_avenue_127 : decode cX6_avenue 127 = .ok (.aload_n 0, 1) := dk_42 (dk_at dksX6_avenue_5 11 rfl rfl)
theorem dX6_avenue_128 : decode cX6_avenue 128 = .ok (.iconst 0, 1) := dk_3 (dk_at dksX6_avenue_5 12 rfl rfl)
theorem dX6_avenue_129 : decode cX6_avenue 129 = .ok (.putfield 129, 3) := dk_181 0 129 (dk_at dksX6_avenue_5 13 rfl rfl)
theorem dX6_avenue_132 : decode cX6_avenue 132 = .ok (.aload_n 0, 1) := dk_42 (dk_at dksX6_avenue_5 16 rfl rfl)
theorem dX6_avenue_133 : decode cX6_avenue 133 = .ok (.getfield 31, 3) := dk_180 0 31 (dk_at dksX6_avenue_5 17 rfl rfl)
theorem dX6_avenue_136 : decode cX6_avenue 136 = .ok (.bipush 12, 2) := dk_16 12 (dk_at dksX6_avenue_5 20 rfl rfl)
theorem dX6_avenue_138 : decode cX6_avenue 138 = .ok (.iconst 0, 1) := dk_3 (dk_at dksX6_avenue_5 22 rfl rfl)
theorem dX6_avenue_139 : decode cX6_avenue 139 = .ok (.iastore, 1) := dk_79 (dk_at dksX6_avenue_5 23 rfl rfl)
theorem dX6_avenue_140 : decode cX6_avenue 140 = .ok (.aload_n 0, 1) := dk_42 (dk_at dksX6_avenue_6 0 rfl rfl)
theorem dX6_avenue_141 : decode cX6_avenue 141 = .ok (.getfield 31, 3) := dk_180 0 31 (dk_at dksX6_avenue_6 1 rfl rfl)
theorem dX6_avenue_144 : decode cX6_avenue 144 = .ok (.bipush 37, 2) := dk_16 37 (dk_at dksX6_avenue_6 4 rfl rfl)
theorem dX6_avenue_146 : decode cX6_avenue 146 = .ok (.iconst 0, 1) := dk_3 (dk_at dksX6_avenue_6 6 rfl rfl)
theorem dX6_avenue_147 : decode cX6_avenue 147 = .ok (.iastore, 1) := dk_79 (dk_at dksX6_avenue_6 7 rfl rfl)
theorem dX6_avenue_148 : decode cX6_avenue 148 = .ok (.aload_n 0, 1) := dk_42 (dk_at dksX6_avenue_6 8 rfl rfl)
theorem dX6_avenue_149 : decode cX6_avenue 149 = .ok (.iconst 0, 1) := dk_3 (dk_at dksX6_avenue_6 9 rfl rfl)
theorem dX6_avenue_150 : decode cX6_avenue 150 = .ok (.putfield 186, 3) := dk_181 0 186 (dk_at dksX6_avenue_6 10 rfl rfl)
theorem dX6_avenue_153 : decode cX6_avenue 153 = .ok (.iconst 0, 1) := dk_3 (dk_at dksX6_avenue_6 13 rfl rfl)
theorem dX6_avenue_154 : decode cX6_avenue 154 = .ok (.istore_n 3, 1) := dk_62 (dk_at dksX6_avenue_6 14 rfl rfl)
theorem dX6_avenue_155 : decode cX6_avenue 155 = .ok (.iload_n 3, 1) := dk_29 (dk_at dksX6_avenue_6 15 rfl rfl)
theorem dX6_avenue_156 : decode cX6_avenue 156 = .ok (.iconst 3, 1) := dk_6 (dk_at dksX6_avenue_6 16 rfl rfl)
theorem dX6_avenue_157 : decode cX6_avenue 157 = .ok (.if_icmp .ge 16, 3) := dk_162 0 16 (dk_at dksX6_avenue_6 17 rfl rfl)
theorem dX6_avenue_160 : decode cX6_avenue 160 = .ok (.aload_n 0, 1) := dk_42 (dk_at dksX6_avenue_6 20 rfl rfl)
theorem dX6_avenue_161 : decode cX6_avenue 161 = .ok (.getfield 103, 3) := dk_180 0 103 (dk_at dksX6_avenue_6 21 rfl rfl)
theorem dX6_avenue_164 : decode cX6_avenue 164 = .ok (.iload_n 3, 1) := dk_29 (dk_at dksX6_avenue_7 0 rfl rfl)
theorem dX6_avenue_165 : decode cX6_avenue 165 = .ok (.iconst 0, 1) := dk_3 (dk_at dksX6_avenue_7 1 rfl rfl)
theorem dX6_avenue_166 : decode cX6_avenue 166 = .ok (.bastore, 1) := dk_84 (dk_at dksX6_avenue_7 2 rfl rfl)
theorem dX6_avenue_167 : decode cX6_avenue 167 = .ok (.iinc 3 1, 3) := dk_132 3 1 (dk_at dksX6_avenue_7 3 rfl rfl)
theorem dX6_avenue_170 : decode cX6_avenue 170 = .ok (.goto (-15), 3) := dk_167 255 241 (dk_at dksX6_avenue_7 6 rfl rfl)
theorem dX6_avenue_173 : decode cX6_avenue 173 = .ok (.iload_n 1, 1) := dk_27 (dk_at dksX6_avenue_7 9 rfl rfl)
theorem dX6_avenue_174 : decode cX6_avenue 174 = .ok (.ireturn, 1) := dk_172 (dk_at dksX6_avenue_7 10 rfl rfl)
abbrev cX6_begins : ByteArray := prog_15_method_20_code
def yX6_begins : MethodName := ⟨RX6, "begins", "(I)I"⟩
def dkwX6_begins_1 : List UInt8 := [184, 0, 145, 181, 0, 151, 28, 172]
abbrev dktX6_begins_1 : List UInt8 := dkwX6_begins_1 ++ []
def dkwX6_begins_0 : List UInt8 := [42, 180, 0, 136, 61, 42, 3, 181, 0, 136, 42, 3, 181, 0, 139, 42, 3, 181, 0, 142, 42, 28, 27]
abbrev dktX6_begins_0 : List UInt8 := dkwX6_begins_0 ++ dktX6_begins_1
theorem dksX6_begins_0 : cX6_begins.data.toList.drop 0 = dktX6_begins_0 := by decide +kernel
theorem dksX6_begins_1 : cX6_begins.data.toList.drop 23 = dktX6_begins_1 := dk_seg dksX6_begins_0 23 rfl rfl
theorem dX6_begins_0 : decode cX6_begins 0 = .ok (.aload_n 0, 1) := dk_42 (dk_at dksX6_begins_0 0 rfl rfl)
theorem dX6_begins_1 : decode cX6_begins 1 = .ok (.getfield 136, 3) := dk_180 0 136 (dk_at dksX6_begins_0 1 rfl rfl)
theorem dX6_begins_4 : decode cX6_begins 4 = .ok (.istore_n 2, 1) := dk_61 (dk_at dksX6_begins_0 4 rfl rfl)
theorem dX6_begins_5 : decode cX6_begins 5 = .ok (.aload_n 0, 1) := dk_42 (dk_at dksX6_begins_0 5 rfl rfl)
theorem dX6_begins_6 : decode cX6_begins 6 = .ok (.iconst 0, 1) := dk_3 (dk_at dksX6_begins_0 6 rfl rfl)
theorem dX6_begins_7 : decode cX6_begins 7 = .ok (.putfield 136, 3) := dk_181 0 136 (dk_at dksX6_begins_0 7 rfl rfl)
theorem dX6_begins_10 : decode cX6_begins 10 = .ok (.aload_n 0, 1) := dk_42 (dk_at dksX6_begins_0 10 rfl rfl)
theorem dX6_begins_11 : decode cX6_begins 11 = .ok (.iconst 0, 1) := dk_3 (dk_at dksX6_begins_0 11 rfl rfl)
theorem dX6_begins_12 : decode cX6_begins 12 = .ok (.putfield 139, 3) := dk_181 0 139 (dk_at dksX6_begins_0 12 rfl rfl)
theorem dX6_begins_15 : decode cX6_begins 15 = .ok (.aload_n 0, 1) := dk_42 (dk_at dksX6_begins_0 15 rfl rfl)
theorem dX6_begins_16 : decode cX6_begins 16 = .ok (.iconst 0, 1) := dk_3 (dk_at dksX6_begins_0 16 rfl rfl)
theorem dX6_begins_17 : decode cX6_begins 17 = .ok (.putfield 142, 3) := dk_181 0 142 (dk_at dksX6_begins_0 17 rfl rfl)
theorem dX6_begins_20 : decode cX6_begins 20 = .ok (.aload_n 0, 1) := dk_42 (dk_at dksX6_begins_0 20 rfl rfl)
theorem dX6_begins_21 : decode cX6_begins 21 = .ok (.iload_n 2, 1) := dk_28 (dk_at dksX6_begins_0 21 rfl rfl)
theorem dX6_begins_22 : decode cX6_begins 22 = .ok (.iload_n 1, 1) := dk_27 (dk_at dksX6_begins_0 22 rfl rfl)
theorem dX6_begins_23 : decode cX6_begins 23 = .ok (.invokestatic 145, 3) := dk_184 0 145 (dk_at dksX6_begins_1 0 rfl rfl)
theorem dX6_begins_26 : decode cX6_begins 26 = .ok (.putfield 151, 3) := dk_181 0 151 (dk_at dksX6_begins_1 3 rfl rfl)
theorem dX6_begins_29 : decode cX6_begins 29 = .ok (.iload_n 2, 1) := dk_28 (dk_at dksX6_begins_1 6 rfl rfl)
theorem dX6_begins_30 : decode cX6_begins 30 = .ok (.ireturn, 1) := dk_172 (dk_at dksX6_begins_1 7 rfl rfl)
abbrev cX6_takesOf : ByteArray := prog_15_method_23_code
def yX6_takesOf : MethodName := ⟨RX6, "takesOf", "(Ljava/lang/String;)I"⟩
def dkwX6_takesOf_2 : List UInt8 := [181, 0, 139, 28, 172, 132, 2, 1, 167, 255, 205, 2, 172]
abbrev dktX6_takesOf_2 : List UInt8 := dkwX6_takesOf_2 ++ []
def dkwX6_takesOf_1 : List UInt8 := [182, 0, 168, 42, 180, 0, 37, 42, 180, 0, 139, 46, 160, 0, 15, 42, 89, 180, 0, 139, 4, 96]
abbrev dktX6_takesOf_1 : List UInt8 := dkwX6_takesOf_1 ++ dktX6_takesOf_2
def dkwX6_takesOf_0 : List UInt8 := [3, 61, 28, 43, 182, 0, 162, 162, 0, 49, 42, 180, 0, 139, 42, 180, 0, 151, 162, 0, 38, 43, 28]
abbrev dktX6_takesOf_0 : List UInt8 := dkwX6_takesOf_0 ++ dktX6_takesOf_1
theorem dksX6_takesOf_0 : cX6_takesOf.data.toList.drop 0 = dktX6_takesOf_0 := by decide +kernel
theorem dksX6_takesOf_1 : cX6_takesOf.data.toList.drop 23 = dktX6_takesOf_1 := dk_seg dksX6_takesOf_0 23 rfl rfl
theorem dksX6_takesOf_2 : cX6_takesOf.data.toList.drop 45 = dktX6_takesOf_2 := dk_seg dksX6_takesOf_1 22 rfl rfl
theorem dX6_takesOf_0 : decode cX6_takesOf 0 = .ok (.iconst 0, 1) := dk_3 (dk_at dksX6_takesOf_0 0 rfl rfl)
theorem dX6_takesOf_1 : decode cX6_takesOf 1 = .ok (.istore_n 2, 1) := dk_61 (dk_at dksX6_takesOf_0 1 rfl rfl)
theorem dX6_takesOf_2 : decode cX6_takesOf 2 = .ok (.iload_n 2, 1) := dk_28 (dk_at dksX6_takesOf_0 2 rfl rfl)
theorem dX6_takesOf_3 : decode cX6_takesOf 3 = .ok (.aload_n 1, 1) := dk_43 (dk_at dksX6_takesOf_0 3 rfl rfl)
theorem dX6_takesOf_4 : decode cX6_takesOf 4 = .ok (.invokevirtual 162, 3) := dk_182 0 162 (dk_at dksX6_takesOf_0 4 rfl rfl)
theorem dX6_takesOf_7 : decode cX6_takesOf 7 = .ok (.if_icmp .ge 49, 3) := dk_162 0 49 (dk_at dksX6_takesOf_0 7 rfl rfl)
theorem dX6_takesOf_10 : decode cX6_takesOf 10 = .ok (.aload_n 0, 1) := dk_42 (dk_at dksX6_takesOf_0 10 rfl rfl)
theorem dX6_takesOf_11 : decode cX6_takesOf 11 = .ok (.getfield 139, 3) := dk_180 0 139 (dk_at dksX6_takesOf_0 11 rfl rfl)
theorem dX6_takesOf_14 : decode cX6_takesOf 14 = .ok (.aload_n 0, 1) := dk_42 (dk_at dksX6_takesOf_0 14 rfl rfl)
theorem dX6_takesOf_15 : decode cX6_takesOf 15 = .ok (.getfield 151, 3) := dk_180 0 151 (dk_at dksX6_takesOf_0 15 rfl rfl)
theorem dX6_takesOf_18 : decode cX6_takesOf 18 = .ok (.if_icmp .ge 38, 3) := dk_162 0 38 (dk_at dksX6_takesOf_0 18 rfl rfl)
theorem dX6_takesOf_21 : decode cX6_takesOf 21 = .ok (.aload_n 1, 1) := dk_43 (dk_at dksX6_takesOf_0 21 rfl rfl)
theorem dX6_takesOf_22 : decode cX6_takesOf 22 = .ok (.iload_n 2, 1) := dk_28 (dk_at dksX6_takesOf_0 22 rfl rfl)
theorem dX6_takesOf_23 : decode cX6_takesOf 23 = .ok (.invokevirtual 168, 3) := dk_182 0 168 (dk_at dksX6_takesOf_1 0 rfl rfl)
theorem dX6_takesOf_26 : decode cX6_takesOf 26 = .ok (.aload_n 0, 1) := dk_42 (dk_at dksX6_takesOf_1 3 rfl rfl)
theorem dX6_takesOf_27 : decode cX6_takesOf 27 = .ok (.getfield 37, 3) := dk_180 0 37 (dk_at dksX6_takesOf_1 4 rfl rfl)
theorem dX6_takesOf_30 : decode cX6_takesOf 30 = .ok (.aload_n 0, 1) := dk_42 (dk_at dksX6_takesOf_1 7 rfl rfl)
theorem dX6_takesOf_31 : decode cX6_takesOf 31 = .ok (.getfield 139, 3) := dk_180 0 139 (dk_at dksX6_takesOf_1 8 rfl rfl)
theorem dX6_takesOf_34 : decode cX6_takesOf 34 = .ok (.iaload, 1) := dk_46 (dk_at dksX6_takesOf_1 11 rfl rfl)
theorem dX6_takesOf_35 : decode cX6_takesOf 35 = .ok (.if_icmp .ne 15, 3) := dk_160 0 15 (dk_at dksX6_takesOf_1 12 rfl rfl)
theorem dX6_takesOf_38 : decode cX6_takesOf 38 = .ok (.aload_n 0, 1) := dk_42 (dk_at dksX6_takesOf_1 15 rfl rfl)
theorem dX6_takesOf_39 : decode cX6_takesOf 39 = .ok (.dup, 1) := dk_89 (dk_at dksX6_takesOf_1 16 rfl rfl)
theorem dX6_takesOf_40 : decode cX6_takesOf 40 = .ok (.getfield 139, 3) := dk_180 0 139 (dk_at dksX6_takesOf_1 17 rfl rfl)
theorem dX6_takesOf_43 : decode cX6_takesOf 43 = .ok (.iconst 1, 1) := dk_4 (dk_at dksX6_takesOf_1 20 rfl rfl)
theorem dX6_takesOf_44 : decode cX6_takesOf 44 = .ok (.iadd, 1) := dk_96 (dk_at dksX6_takesOf_1 21 rfl rfl)
theorem dX6_takesOf_45 : decode cX6_takesOf 45 = .ok (.putfield 139, 3) := dk_181 0 139 (dk_at dksX6_takesOf_2 0 rfl rfl)
theorem dX6_takesOf_48 : decode cX6_takesOf 48 = .ok (.iload_n 2, 1) := dk_28 (dk_at dksX6_takesOf_2 3 rfl rfl)
theorem dX6_takesOf_49 : decode cX6_takesOf 49 = .ok (.ireturn, 1) := dk_172 (dk_at dksX6_takesOf_2 4 rfl rfl)
theorem dX6_takesOf_50 : decode cX6_takesOf 50 = .ok (.iinc 2 1, 3) := dk_132 2 1 (dk_at dksX6_takesOf_2 5 rfl rfl)
theorem dX6_takesOf_53 : decode cX6_takesOf 53 = .ok (.goto (-51), 3) := dk_167 255 205 (dk_at dksX6_takesOf_2 8 rfl rfl)
theorem dX6_takesOf_56 : decode cX6_takesOf 56 = .ok (.iconst (-1), 1) := dk_2 (dk_at dksX6_takesOf_2 11 rfl rfl)
theorem dX6_takesOf_57 : decode cX6_takesOf 57 = .ok (.ireturn, 1) := dk_172 (dk_at dksX6_takesOf_2 12 rfl rfl)
abbrev cX6_flag : ByteArray := prog_15_method_6_code
def yX6_flag : MethodName := ⟨RX6, "flag", "(Z)I"⟩
def dkwX6_flag_0 : List UInt8 := [26, 153, 0, 7, 4, 167, 0, 4, 3, 172]
abbrev dktX6_flag_0 : List UInt8 := dkwX6_flag_0 ++ []
theorem dksX6_flag_0 : cX6_flag.data.toList.drop 0 = dktX6_flag_0 := by decide +kernel
theorem dX6_flag_0 : decode cX6_flag 0 = .ok (.iload_n 0, 1) := dk_26 (dk_at dksX6_flag_0 0 rfl rfl)
theorem dX6_flag_1 : decode cX6_flag 1 = .ok (.ifCond .eq 7, 3) := dk_153 0 7 (dk_at dksX6_flag_0 1 rfl rfl)
theorem dX6_flag_4 : decode cX6_flag 4 = .ok (.iconst 1, 1) := dk_4 (dk_at dksX6_flag_0 4 rfl rfl)
theorem dX6_flag_5 : decode cX6_flag 5 = .ok (.goto 4, 3) := dk_167 0 4 (dk_at dksX6_flag_0 5 rfl rfl)
theorem dX6_flag_8 : decode cX6_flag 8 = .ok (.iconst 0, 1) := dk_3 (dk_at dksX6_flag_0 8 rfl rfl)
theorem dX6_flag_9 : decode cX6_flag 9 = .ok (.ireturn, 1) := dk_172 (dk_at dksX6_flag_0 9 rfl rfl)
abbrev cX6_hearses : ByteArray := prog_15_method_32_code
def yX6_hearses : MethodName := ⟨RX6, "hearses", "()I"⟩
def dkwX6_hearses_5 : List UInt8 := [42, 89, 180, 0, 122, 4, 96, 181, 0, 122, 132, 5, 1, 167, 255, 205, 42, 182, 0, 225, 172]
abbrev dktX6_hearses_5 : List UInt8 := dkwX6_hearses_5 ++ []
def dkwX6_hearses_4 : List UInt8 := [180, 0, 122, 42, 180, 0, 43, 21, 5, 46, 79, 42, 180, 0, 31, 16, 6, 42, 180, 0, 122, 96, 3, 79]
abbrev dktX6_hearses_4 : List UInt8 := dkwX6_hearses_4 ++ dktX6_hearses_5
def dkwX6_hearses_3 : List UInt8 := [156, 0, 6, 21, 4, 172, 3, 54, 5, 21, 5, 42, 180, 0, 199, 162, 0, 48, 42, 180, 0, 31, 42]
abbrev dktX6_hearses_3 : List UInt8 := dkwX6_hearses_3 ++ dktX6_hearses_4
def dkwX6_hearses_2 : List UInt8 := [153, 0, 7, 4, 167, 0, 4, 3, 62, 167, 255, 228, 42, 27, 16, 17, 28, 182, 0, 221, 54, 4, 21, 4]
abbrev dktX6_hearses_2 : List UInt8 := dkwX6_hearses_2 ++ dktX6_hearses_3
def dkwX6_hearses_1 : List UInt8 := [167, 0, 4, 3, 62, 29, 153, 0, 30, 42, 182, 0, 214, 61, 28, 153, 0, 16, 42, 16, 59, 182, 0, 217]
abbrev dktX6_hearses_1 : List UInt8 := dkwX6_hearses_1 ++ dktX6_hearses_2
def dkwX6_hearses_0 : List UInt8 := [42, 3, 181, 0, 112, 42, 16, 17, 182, 0, 176, 60, 42, 3, 181, 0, 199, 4, 61, 27, 158, 0, 7, 4]
abbrev dktX6_hearses_0 : List UInt8 := dkwX6_hearses_0 ++ dktX6_hearses_1
theorem dksX6_hearses_0 : cX6_hearses.data.toList.drop 0 = dktX6_hearses_0 := by decide +kernel
theorem dksX6_hearses_1 : cX6_hearses.data.toList.drop 24 = dktX6_hearses_1 := dk_seg dksX6_hearses_0 24 rfl rfl
theorem dksX6_hearses_2 : cX6_hearses.data.toList.drop 48 = dktX6_hearses_2 := dk_seg dksX6_hearses_1 24 rfl rfl
theorem dksX6_hearses_3 : cX6_hearses.data.toList.drop 72 = dktX6_hearses_3 := dk_seg dksX6_hearses_2 24 rfl rfl
theorem dksX6_hearses_4 : cX6_hearses.data.toList.drop 95 = dktX6_hearses_4 := dk_seg dksX6_hearses_3 23 rfl rfl
theorem dksX6_hearses_5 : cX6_hearses.data.toList.drop 119 = dktX6_hearses_5 := dk_seg dksX6_hearses_4 24 rfl rfl
theorem dX6_hearses_0 : decode cX6_hearses 0 = .ok (.aload_n 0, 1) := dk_42 (dk_at dksX6_hearses_0 0 rfl rfl)
theorem dX6_hearses_1 : decode cX6_hearses 1 = .ok (.iconst 0, 1) := dk_3 (dk_at dksX6_hearses_0 1 rfl rfl)
theorem dX6_hearses_2 : decode cX6_hearses 2 = .ok (.putfield 112, 3) := dk_181 0 112 (dk_at dksX6_hearses_0 2 rfl rfl)
theorem dX6_hearses_5 : decode cX6_hearses 5 = .ok (.aload_n 0, 1) := dk_42 (dk_at dksX6_hearses_0 5 rfl rfl)
theorem dX6_hearses_6 : decode cX6_hearses 6 = .ok (.bipush 17, 2) := dk_16 17 (dk_at dksX6_hearses_0 6 rfl rfl)
theorem dX6_hearses_8 : decode cX6_hearses 8 = .ok (.invokevirtual 176, 3) := dk_182 0 176 (dk_at dksX6_hearses_0 8 rfl rfl)
theorem dX6_hearses_11 : decode cX6_hearses 11 = .ok (.istore_n 1, 1) := dk_60 (dk_at dksX6_hearses_0 11 rfl rfl)
theorem dX6_hearses_12 : decode cX6_hearses 12 = .ok (.aload_n 0, 1) := dk_42 (dk_at dksX6_hearses_0 12 rfl rfl)
theorem dX6_hearses_13 : decode cX6_hearses 13 = .ok (.iconst 0, 1) := dk_3 (dk_at dksX6_hearses_0 13 rfl rfl)
theorem dX6_hearses_14 : decode cX6_hearses 14 = .ok (.putfield 199, 3) := dk_181 0 199 (dk_at dksX6_hearses_0 14 rfl rfl)
theorem dX6_hearses_17 : decode cX6_hearses 17 = .ok (.iconst 1, 1) := dk_4 (dk_at dksX6_hearses_0 17 rfl rfl)
theorem dX6_hearses_18 : decode cX6_hearses 18 = .ok (.istore_n 2, 1) := dk_61 (dk_at dksX6_hearses_0 18 rfl rfl)
theorem dX6_hearses_19 : decode cX6_hearses 19 = .ok (.iload_n 1, 1) := dk_27 (dk_at dksX6_hearses_0 19 rfl rfl)
theorem dX6_hearses_20 : decode cX6_hearses 20 = .ok (.ifCond .le 7, 3) := dk_158 0 7 (dk_at dksX6_hearses_0 20 rfl rfl)
theorem dX6_hearses_23 : decode cX6_hearses 23 = .ok (.iconst 1, 1) := dk_4 (dk_at dksX6_hearses_0 23 rfl rfl)
theorem dX6_hearses_24 : decode cX6_hearses 24 = .ok (.goto 4, 3) := dk_167 0 4 (dk_at dksX6_hearses_1 0 rfl rfl)
theorem dX6_hearses_27 : decode cX6_hearses 27 = .ok (.iconst 0, 1) := dk_3 (dk_at dksX6_hearses_1 3 rfl rfl)
theorem dX6_hearses_28 : decode cX6_hearses 28 = .ok (.istore_n 3, 1) := dk_62 (dk_at dksX6_hearses_1 4 rfl rfl)
theorem dX6_hearses_29 : decode cX6_hearses 29 = .ok (.iload_n 3, 1) := dk_29 (dk_at dksX6_hearses_1 5 rfl rfl)
theorem dX6_hearses_30 : decode cX6_hearses 30 = .ok (.ifCond .eq 30, 3) := dk_153 0 30 (dk_at dksX6_hearses_1 6 rfl rfl)
theorem dX6_hearses_33 : decode cX6_hearses 33 = .ok (.aload_n 0, 1) := dk_42 (dk_at dksX6_hearses_1 9 rfl rfl)
theorem dX6_hearses_34 : decode cX6_hearses 34 = .ok (.invokevirtual 214, 3) := dk_182 0 214 (dk_at dksX6_hearses_1 10 rfl rfl)
theorem dX6_hearses_37 : decode cX6_hearses 37 = .ok (.istore_n 2, 1) := dk_61 (dk_at dksX6_hearses_1 13 rfl rfl)
theorem dX6_hearses_38 : decode cX6_hearses 38 = .ok (.iload_n 2, 1) := dk_28 (dk_at dksX6_hearses_1 14 rfl rfl)
theorem dX6_hearses_39 : decode cX6_hearses 39 = .ok (.ifCond .eq 16, 3) := dk_153 0 16 (dk_at dksX6_hearses_1 15 rfl rfl)
theorem dX6_hearses_42 : decode cX6_hearses 42 = .ok (.aload_n 0, 1) := dk_42 (dk_at dksX6_hearses_1 18 rfl rfl)
theorem dX6_hearses_43 : decode cX6_hearses 43 = .ok (.bipush 59, 2) := dk_16 59 (dk_at dksX6_hearses_1 19 rfl rfl)
theorem dX6_hearses_45 : decode cX6_hearses 45 = .ok (.invokevirtual 217, 3) := dk_182 0 217 (dk_at dksX6_hearses_1 21 rfl rfl)
theorem dX6_hearses_48 : decode cX6_hearses 48 = .ok (.ifCond .eq 7, 3) := dk_153 0 7 (dk_at dksX6_hearses_2 0 rfl rfl)
theorem dX6_hearses_51 : decode cX6_hearses 51 = .ok (.iconst 1, 1) := dk_4 (dk_at dksX6_hearses_2 3 rfl rfl)
theorem dX6_hearses_52 : decode cX6_hearses 52 = .ok (.goto 4, 3) := dk_167 0 4 (dk_at dksX6_hearses_2 4 rfl rfl)
theorem dX6_hearses_55 : decode cX6_hearses 55 = .ok (.iconst 0, 1) := dk_3 (dk_at dksX6_hearses_2 7 rfl rfl)
theorem dX6_hearses_56 : decode cX6_hearses 56 = .ok (.istore_n 3, 1) := dk_62 (dk_at dksX6_hearses_2 8 rfl rfl)
theorem dX6_hearses_57 : decode cX6_hearses 57 = .ok (.goto (-28), 3) := dk_167 255 228 (dk_at dksX6_hearses_2 9 rfl rfl)
theorem dX6_hearses_60 : decode cX6_hearses 60 = .ok (.aload_n 0, 1) := dk_42 (dk_at dksX6_hearses_2 12 rfl rfl)
theorem dX6_hearses_61 : decode cX6_hearses 61 = .ok (.iload_n 1, 1) := dk_27 (dk_at dksX6_hearses_2 13 rfl rfl)
theorem dX6_hearses_62 : decode cX6_hearses 62 = .ok (.bipush 17, 2) := dk_16 17 (dk_at dksX6_hearses_2 14 rfl rfl)
theorem dX6_hearses_64 : decode cX6_hearses 64 = .ok (.iload_n 2, 1) := dk_28 (dk_at dksX6_hearses_2 16 rfl rfl)
theorem dX6_hearses_65 : decode cX6_hearses 65 = .ok (.invokevirtual 221, 3) := dk_182 0 221 (dk_at dksX6_hearses_2 17 rfl rfl)
theorem dX6_hearses_68 : decode cX6_hearses 68 = .ok (.istore 4, 2) := dk_54 4 (dk_at dksX6_hearses_2 20 rfl rfl)
theorem dX6_hearses_70 : decode cX6_hearses 70 = .ok (.iload 4, 2) := dk_21 4 (dk_at dksX6_hearses_2 22 rfl rfl)
theorem dX6_hearses_72 : decode cX6_hearses 72 = .ok (.ifCond .ge 6, 3) := dk_156 0 6 (dk_at dksX6_hearses_3 0 rfl rfl)
theorem dX6_hearses_75 : decode cX6_hearses 75 = .ok (.iload 4, 2) := dk_21 4 (dk_at dksX6_hearses_3 3 rfl rfl)
theorem dX6_hearses_77 : decode cX6_hearses 77 = .ok (.ireturn, 1) := dk_172 (dk_at dksX6_hearses_3 5 rfl rfl)
theorem dX6_hearses_78 : decode cX6_hearses 78 = .ok (.iconst 0, 1) := dk_3 (dk_at dksX6_hearses_3 6 rfl rfl)
theorem dX6_hearses_79 : decode cX6_hearses 79 = .ok (.istore 5, 2) := dk_54 5 (dk_at dksX6_hearses_3 7 rfl rfl)
theorem dX6_hearses_81 : decode cX6_hearses 81 = .ok (.iload 5, 2) := dk_21 5 (dk_at dksX6_hearses_3 9 rfl rfl)
theorem dX6_hearses_83 : decode cX6_hearses 83 = .ok (.aload_n 0, 1) := dk_42 (dk_at dksX6_hearses_3 11 rfl rfl)
theorem dX6_hearses_84 : decode cX6_hearses 84 = .ok (.getfield 199, 3) := dk_180 0 199 (dk_at dksX6_hearses_3 12 rfl rfl)
theorem dX6_hearses_87 : decode cX6_hearses 87 = .ok (.if_icmp .ge 48, 3) := dk_162 0 48 (dk_at dksX6_hearses_3 15 rfl rfl)
theorem dX6_hearses_90 : decode cX6_hearses 90 = .ok (.aload_n 0, 1) := dk_42 (dk_at dksX6_hearses_3 18 rfl rfl)
theorem dX6_hearses_91 : decode cX6_hearses 91 = .ok (.getfield 31, 3) := dk_180 0 31 (dk_at dksX6_hearses_3 19 rfl rfl)
theorem dX6_hearses_94 : decode cX6_hearses 94 = .ok (.aload_n 0, 1) := dk_42 (dk_at dksX6_hearses_3 22 rfl rfl)
theorem dX6_hearses_95 : decode cX6_hearses 95 = .ok (.getfield 122, 3) := dk_180 0 122 (dk_at dksX6_hearses_4 0 rfl rfl)
theorem dX6_hearses_98 : decode cX6_hearses 98 = .ok (.aload_n 0, 1) := dk_42 (dk_at dksX6_hearses_4 3 rfl rfl)
theorem dX6_hearses_99 : decode cX6_hearses 99 = .ok (.getfield 43, 3) := dk_180 0 43 (dk_at dksX6_hearses_4 4 rfl rfl)
theorem dX6_hearses_102 : decode cX6_hearses 102 = .ok (.iload 5, 2) := dk_21 5 (dk_at dksX6_hearses_4 7 rfl rfl)
theorem dX6_hearses_104 : decode cX6_hearses 104 = .ok (.iaload, 1) := dk_46 (dk_at dksX6_hearses_4 9 rfl rfl)
theorem dX6_hearses_105 : decode cX6_hearses 105 = .ok (.iastore, 1) := dk_79 (dk_at dksX6_hearses_4 10 rfl rfl)
theorem dX6_hearses_106 : decode cX6_hearses 106 = .ok (.aload_n 0, 1) := dk_42 (dk_at dksX6_hearses_4 11 rfl rfl)
theorem dX6_hearses_107 : decode cX6_hearses 107 = .ok (.getfield 31, 3) := dk_180 0 31 (dk_at dksX6_hearses_4 12 rfl rfl)
theorem dX6_hearses_110 : decode cX6_hearses 110 = .ok (.bipush 6, 2) := dk_16 6 (dk_at dksX6_hearses_4 15 rfl rfl)
theorem dX6_hearses_112 : decode cX6_hearses 112 = .ok (.aload_n 0, 1) := dk_42 (dk_at dksX6_hearses_4 17 rfl rfl)
theorem dX6_hearses_113 : decode cX6_hearses 113 = .ok (.getfield 122, 3) := dk_180 0 122 (dk_at dksX6_hearses_4 18 rfl rfl)
theorem dX6_hearses_116 : decode cX6_hearses 116 = .ok (.iadd, 1) := dk_96 (dk_at dksX6_hearses_4 21 rfl rfl)
theorem dX6_hearses_117 : decode cX6_hearses 117 = .ok (.iconst 0, 1) := dk_3 (dk_at dksX6_hearses_4 22 rfl rfl)
theorem dX6_hearses_118 : decode cX6_hearses 118 = .ok (.iastore, 1) := dk_79 (dk_at dksX6_hearses_4 23 rfl rfl)
theorem dX6_hearses_119 : decode cX6_hearses 119 = .ok (.aload_n 0, 1) := dk_42 (dk_at dksX6_hearses_5 0 rfl rfl)
theorem dX6_hearses_120 : decode cX6_hearses 120 = .ok (.dup, 1) := dk_89 (dk_at dksX6_hearses_5 1 rfl rfl)
theorem dX6_hearses_121 : decode cX6_hearses 121 = .ok (.getfield 122, 3) := dk_180 0 122 (dk_at dksX6_hearses_5 2 rfl rfl)
theorem dX6_hearses_124 : decode cX6_hearses 124 = .ok (.iconst 1, 1) := dk_4 (dk_at dksX6_hearses_5 5 rfl rfl)
theorem dX6_hearses_125 : decode cX6_hearses 125 = .ok (.iadd, 1) := dk_96 (dk_at dksX6_hearses_5 6 rfl rfl)
theorem dX6_hearses_126 : decode cX6_hearses 126 = .ok (.putfield 122, 3) := dk_181 0 122 (dk_at dksX6_hearses_5 7 rfl rfl)
theorem dX6_hearses_129 : decode cX6_hearses 129 = .ok (.iinc 5 1, 3) := dk_132 5 1 (dk_at dksX6_hearses_5 10 rfl rfl)
theorem dX6_hearses_132 : decode cX6_hearses 132 = .ok (.goto (-51), 3) := dk_167 255 205 (dk_at dksX6_hearses_5 13 rfl rfl)
theorem dX6_hearses_135 : decode cX6_hearses 135 = .ok (.aload_n 0, 1) := dk_42 (dk_at dksX6_hearses_5 16 rfl rfl)
theorem dX6_hearses_136 : decode cX6_hearses 136 = .ok (.invokevirtual 225, 3) := dk_182 0 225 (dk_at dksX6_hearses_5 17 rfl rfl)
theorem dX6_hearses_139 : decode cX6_hearses 139 = .ok (.ireturn, 1) := dk_172 (dk_at dksX6_hearses_5 20 rfl rfl)
abbrev cX6_readsHearse : ByteArray := prog_15_method_29_code
def yX6_readsHearse : MethodName := ⟨RX6, "readsHearse", "()Z"⟩
def dkwX6_readsHearse_2 : List UInt8 := [167, 0, 4, 3, 172]
abbrev dktX6_readsHearse_2 : List UInt8 := dkwX6_readsHearse_2 ++ []
def dkwX6_readsHearse_1 : List UInt8 := [180, 0, 43, 42, 180, 0, 199, 27, 79, 42, 89, 180, 0, 199, 4, 96, 181, 0, 199, 27, 155, 0, 7, 4]
abbrev dktX6_readsHearse_1 : List UInt8 := dkwX6_readsHearse_1 ++ dktX6_readsHearse_2
def dkwX6_readsHearse_0 : List UInt8 := [42, 180, 0, 122, 42, 180, 0, 199, 96, 16, 6, 160, 0, 5, 3, 172, 42, 4, 182, 0, 202, 60, 42]
abbrev dktX6_readsHearse_0 : List UInt8 := dkwX6_readsHearse_0 ++ dktX6_readsHearse_1
theorem dksX6_readsHearse_0 : cX6_readsHearse.data.toList.drop 0 = dktX6_readsHearse_0 := by decide +kernel
theorem dksX6_readsHearse_1 : cX6_readsHearse.data.toList.drop 23 = dktX6_readsHearse_1 := dk_seg dksX6_readsHearse_0 23 rfl rfl
theorem dksX6_readsHearse_2 : cX6_readsHearse.data.toList.drop 47 = dktX6_readsHearse_2 := dk_seg dksX6_readsHearse_1 24 rfl rfl
theorem dX6_readsHearse_0 : decode cX6_readsHearse 0 = .ok (.aload_n 0, 1) := dk_42 (dk_at dksX6_readsHearse_0 0 rfl rfl)
theorem dX6_readsHearse_1 : decode cX6_readsHearse 1 = .ok (.getfield 122, 3) := dk_180 0 122 (dk_at dksX6_readsHearse_0 1 rfl rfl)
theorem dX6_readsHearse_4 : decode cX6_readsHearse 4 = .ok (.aload_n 0, 1) := dk_42 (dk_at dksX6_readsHearse_0 4 rfl rfl)
theorem dX6_readsHearse_5 : decode cX6_readsHearse 5 = .ok (.getfield 199, 3) := dk_180 0 199 (dk_at dksX6_readsHearse_0 5 rfl rfl)
theorem dX6_readsHearse_8 : decode cX6_readsHearse 8 = .ok (.iadd, 1) := dk_96 (dk_at dksX6_readsHearse_0 8 rfl rfl)
theorem dX6_readsHearse_9 : decode cX6_readsHearse 9 = .ok (.bipush 6, 2) := dk_16 6 (dk_at dksX6_readsHearse_0 9 rfl rfl)
theorem dX6_readsHearse_11 : decode cX6_readsHearse 11 = .ok (.if_icmp .ne 5, 3) := dk_160 0 5 (dk_at dksX6_readsHearse_0 11 rfl rfl)
theorem dX6_readsHearse_14 : decode cX6_readsHearse 14 = .ok (.iconst 0, 1) := dk_3 (dk_at dksX6_readsHearse_0 14 rfl rfl)
theorem dX6_readsHearse_15 : decode cX6_readsHearse 15 = .ok (.ireturn, 1) := dk_172 (dk_at dksX6_readsHearse_0 15 rfl rfl)
theorem dX6_readsHearse_16 : decode cX6_readsHearse 16 = .ok (.aload_n 0, 1) := dk_42 (dk_at dksX6_readsHearse_0 16 rfl rfl)
theorem dX6_readsHearse_17 : decode cX6_readsHearse 17 = .ok (.iconst 1, 1) := dk_4 (dk_at dksX6_readsHearse_0 17 rfl rfl)
theorem dX6_readsHearse_18 : decode cX6_readsHearse 18 = .ok (.invokevirtual 202, 3) := dk_182 0 202 (dk_at dksX6_readsHearse_0 18 rfl rfl)
theorem dX6_readsHearse_21 : decode cX6_readsHearse 21 = .ok (.istore_n 1, 1) := dk_60 (dk_at dksX6_readsHearse_0 21 rfl rfl)
theorem dX6_readsHearse_22 : decode cX6_readsHearse 22 = .ok (.aload_n 0, 1) := dk_42 (dk_at dksX6_readsHearse_0 22 rfl rfl)
theorem dX6_readsHearse_23 : decode cX6_readsHearse 23 = .ok (.getfield 43, 3) := dk_180 0 43 (dk_at dksX6_readsHearse_1 0 rfl rfl)
theorem dX6_readsHearse_26 : decode cX6_readsHearse 26 = .ok (.aload_n 0, 1) := dk_42 (dk_at dksX6_readsHearse_1 3 rfl rfl)
theorem dX6_readsHearse_27 : decode cX6_readsHearse 27 = .ok (.getfield 199, 3) := dk_180 0 199 (dk_at dksX6_readsHearse_1 4 rfl rfl)
theorem dX6_readsHearse_30 : decode cX6_readsHearse 30 = .ok (.iload_n 1, 1) := dk_27 (dk_at dksX6_readsHearse_1 7 rfl rfl)
theorem dX6_readsHearse_31 : decode cX6_readsHearse 31 = .ok (.iastore, 1) := dk_79 (dk_at dksX6_readsHearse_1 8 rfl rfl)
theorem dX6_readsHearse_32 : decode cX6_readsHearse 32 = .ok (.aload_n 0, 1) := dk_42 (dk_at dksX6_readsHearse_1 9 rfl rfl)
theorem dX6_readsHearse_33 : decode cX6_readsHearse 33 = .ok (.dup, 1) := dk_89 (dk_at dksX6_readsHearse_1 10 rfl rfl)
theorem dX6_readsHearse_34 : decode cX6_readsHearse 34 = .ok (.getfield 199, 3) := dk_180 0 199 (dk_at dksX6_readsHearse_1 11 rfl rfl)
theorem dX6_readsHearse_37 : decode cX6_readsHearse 37 = .ok (.iconst 1, 1) := dk_4 (dk_at dksX6_readsHearse_1 14 rfl rfl)
theorem dX6_readsHearse_38 : decode cX6_readsHearse 38 = .ok (.iadd, 1) := dk_96 (dk_at dksX6_readsHearse_1 15 rfl rfl)
theorem dX6_readsHearse_39 : decode cX6_readsHearse 39 = .ok (.putfield 199, 3) := dk_181 0 199 (dk_at dksX6_readsHearse_1 16 rfl rfl)
theorem dX6_readsHearse_42 : decode cX6_readsHearse 42 = .ok (.iload_n 1, 1) := dk_27 (dk_at dksX6_readsHearse_1 19 rfl rfl)
theorem dX6_readsHearse_43 : decode cX6_readsHearse 43 = .ok (.ifCond .lt 7, 3) := dk_155 0 7 (dk_at dksX6_readsHearse_1 20 rfl rfl)
theorem dX6_readsHearse_46 : decode cX6_readsHearse 46 = .ok (.iconst 1, 1) := dk_4 (dk_at dksX6_readsHearse_1 23 rfl rfl)
theorem dX6_readsHearse_47 : decode cX6_readsHearse 47 = .ok (.goto 4, 3) := dk_167 0 4 (dk_at dksX6_readsHearse_2 0 rfl rfl)
theorem dX6_readsHearse_50 : decode cX6_readsHearse 50 = .ok (.iconst 0, 1) := dk_3 (dk_at dksX6_readsHearse_2 3 rfl rfl)
theorem dX6_readsHearse_51 : decode cX6_readsHearse 51 = .ok (.ireturn, 1) := dk_172 (dk_at dksX6_readsHearse_2 4 rfl rfl)
abbrev cX6_readsCell : ByteArray := prog_15_method_28_code
def yX6_readsCell : MethodName := ⟨RX6, "readsCell", "(Z)I"⟩
def dkwX6_readsCell_4 : List UInt8 := [4, 167, 0, 4, 3, 184, 0, 154, 100, 181, 0, 139, 29, 153, 0, 7, 28, 167, 0, 4, 2, 172]
abbrev dktX6_readsCell_4 : List UInt8 := dkwX6_readsCell_4 ++ []
def dkwX6_readsCell_3 : List UInt8 := [159, 0, 7, 4, 167, 0, 4, 3, 62, 132, 4, 1, 167, 255, 219, 42, 89, 180, 0, 139, 29, 154, 0, 7]
abbrev dktX6_readsCell_3 : List UInt8 := dkwX6_readsCell_3 ++ dktX6_readsCell_4
def dkwX6_readsCell_2 : List UInt8 := [180, 0, 199, 162, 0, 34, 27, 153, 0, 30, 29, 153, 0, 18, 42, 180, 0, 43, 21, 4, 46, 28]
abbrev dktX6_readsCell_2 : List UInt8 := dkwX6_readsCell_2 ++ dktX6_readsCell_3
def dkwX6_readsCell_1 : List UInt8 := [42, 42, 180, 0, 31, 28, 182, 0, 195, 156, 0, 7, 4, 167, 0, 4, 3, 62, 3, 54, 4, 21, 4, 42]
abbrev dktX6_readsCell_1 : List UInt8 := dkwX6_readsCell_1 ++ dktX6_readsCell_2
def dkwX6_readsCell_0 : List UInt8 := [42, 5, 182, 0, 189, 61, 28, 156, 0, 5, 2, 172, 28, 42, 182, 0, 192, 162, 0, 23, 27, 153, 0, 15]
abbrev dktX6_readsCell_0 : List UInt8 := dkwX6_readsCell_0 ++ dktX6_readsCell_1
theorem dksX6_readsCell_0 : cX6_readsCell.data.toList.drop 0 = dktX6_readsCell_0 := by decide +kernel
theorem dksX6_readsCell_1 : cX6_readsCell.data.toList.drop 24 = dktX6_readsCell_1 := dk_seg dksX6_readsCell_0 24 rfl rfl
theorem dksX6_readsCell_2 : cX6_readsCell.data.toList.drop 48 = dktX6_readsCell_2 := dk_seg dksX6_readsCell_1 24 rfl rfl
theorem dksX6_readsCell_3 : cX6_readsCell.data.toList.drop 70 = dktX6_readsCell_3 := dk_seg dksX6_readsCell_2 22 rfl rfl
theorem dksX6_readsCell_4 : cX6_readsCell.data.toList.drop 94 = dktX6_readsCell_4 := dk_seg dksX6_readsCell_3 24 rfl rfl
theorem dX6_readsCell_0 : decode cX6_readsCell 0 = .ok (.aload_n 0, 1) := dk_42 (dk_at dksX6_readsCell_0 0 rfl rfl)
theorem dX6_readsCell_1 : decode cX6_readsCell 1 = .ok (.iconst 2, 1) := dk_5 (dk_at dksX6_readsCell_0 1 rfl rfl)
theorem dX6_readsCell_2 : decode cX6_readsCell 2 = .ok (.invokevirtual 189, 3) := dk_182 0 189 (dk_at dksX6_readsCell_0 2 rfl rfl)
theorem dX6_readsCell_5 : decode cX6_readsCell 5 = .ok (.istore_n 2, 1) := dk_61 (dk_at dksX6_readsCell_0 5 rfl rfl)
theorem dX6_readsCell_6 : decode cX6_readsCell 6 = .ok (.iload_n 2, 1) := dk_28 (dk_at dksX6_readsCell_0 6 rfl rfl)
theorem dX6_readsCell_7 : decode cX6_readsCell 7 = .ok (.ifCond .ge 5, 3) := dk_156 0 5 (dk_at dksX6_readsCell_0 7 rfl rfl)
theorem dX6_readsCell_10 : decode cX6_readsCell 10 = .ok (.iconst (-1), 1) := dk_2 (dk_at dksX6_readsCell_0 10 rfl rfl)
theorem dX6_readsCell_11 : decode cX6_readsCell 11 = .ok (.ireturn, 1) := dk_172 (dk_at dksX6_readsCell_0 11 rfl rfl)
theorem dX6_readsCell_12 : decode cX6_readsCell 12 = .ok (.iload_n 2, 1) := dk_28 (dk_at dksX6_readsCell_0 12 rfl rfl)
theorem dX6_readsCell_13 : decode cX6_readsCell 13 = .ok (.aload_n 0, 1) := dk_42 (dk_at dksX6_readsCell_0 13 rfl rfl)
theorem dX6_readsCell_14 : decode cX6_readsCell 14 = .ok (.invokevirtual 192, 3) := dk_182 0 192 (dk_at dksX6_readsCell_0 14 rfl rfl)
theorem dX6_readsCell_17 : decode cX6_readsCell 17 = .ok (.if_icmp .ge 23, 3) := dk_162 0 23 (dk_at dksX6_readsCell_0 17 rfl rfl)
theorem dX6_readsCell_20 : decode cX6_readsCell 20 = .ok (.iload_n 1, 1) := dk_27 (dk_at dksX6_readsCell_0 20 rfl rfl)
theorem dX6_readsCell_21 : decode cX6_readsCell 21 = .ok (.ifCond .eq 15, 3) := dk_153 0 15 (dk_at dksX6_readsCell_0 21 rfl rfl)
theorem dX6_readsCell_24 : decode cX6_readsCell 24 = .ok (.aload_n 0, 1) := dk_42 (dk_at dksX6_readsCell_1 0 rfl rfl)
theorem dX6_readsCell_25 : decode cX6_readsCell 25 = .ok (.aload_n 0, 1) := dk_42 (dk_at dksX6_readsCell_1 1 rfl rfl)
theorem dX6_readsCell_26 : decode cX6_readsCell 26 = .ok (.getfield 31, 3) := dk_180 0 31 (dk_at dksX6_readsCell_1 2 rfl rfl)
theorem dX6_readsCell_29 : decode cX6_readsCell 29 = .ok (.iload_n 2, 1) := dk_28 (dk_at dksX6_readsCell_1 5 rfl rfl)
theorem dX6_readsCell_30 : decode cX6_readsCell 30 = .ok (.invokevirtual 195, 3) := dk_182 0 195 (dk_at dksX6_readsCell_1 6 rfl rfl)
theorem dX6_readsCell_33 : decode cX6_readsCell 33 = .ok (.ifCond .ge 7, 3) := dk_156 0 7 (dk_at dksX6_readsCell_1 9 rfl rfl)
theorem dX6_readsCell_36 : decode cX6_readsCell 36 = .ok (.iconst 1, 1) := dk_4 (dk_at dksX6_readsCell_1 12 rfl rfl)
theorem dX6_readsCell_37 : decode cX6_readsCell 37 = .ok (.goto 4, 3) := dk_167 0 4 (dk_at dksX6_readsCell_1 13 rfl rfl)
theorem dX6_readsCell_40 : decode cX6_readsCell 40 = .ok (.iconst 0, 1) := dk_3 (dk_at dksX6_readsCell_1 16 rfl rfl)
theorem dX6_readsCell_41 : decode cX6_readsCell 41 = .ok (.istore_n 3, 1) := dk_62 (dk_at dksX6_readsCell_1 17 rfl rfl)
theorem dX6_readsCell_42 : decode cX6_readsCell 42 = .ok (.iconst 0, 1) := dk_3 (dk_at dksX6_readsCell_1 18 rfl rfl)
theorem dX6_readsCell_43 : decode cX6_readsCell 43 = .ok (.istore 4, 2) := dk_54 4 (dk_at dksX6_readsCell_1 19 rfl rfl)
theorem dX6_readsCell_45 : decode cX6_readsCell 45 = .ok (.iload 4, 2) := dk_21 4 (dk_at dksX6_readsCell_1 21 rfl rfl)
theorem dX6_readsCell_47 : decode cX6_readsCell 47 = .ok (.aload_n 0, 1) := dk_42 (dk_at dksX6_readsCell_1 23 rfl rfl)
theorem dX6_readsCell_48 : decode cX6_readsCell 48 = .ok (.getfield 199, 3) := dk_180 0 199 (dk_at dksX6_readsCell_2 0 rfl rfl)
theorem dX6_readsCell_51 : decode cX6_readsCell 51 = .ok (.if_icmp .ge 34, 3) := dk_162 0 34 (dk_at dksX6_readsCell_2 3 rfl rfl)
theorem dX6_readsCell_54 : decode cX6_readsCell 54 = .ok (.iload_n 1, 1) := dk_27 (dk_at dksX6_readsCell_2 6 rfl rfl)
theorem dX6_readsCell_55 : decode cX6_readsCell 55 = .ok (.ifCond .eq 30, 3) := dk_153 0 30 (dk_at dksX6_readsCell_2 7 rfl rfl)
theorem dX6_readsCell_58 : decode cX6_readsCell 58 = .ok (.iload_n 3, 1) := dk_29 (dk_at dksX6_readsCell_2 10 rfl rfl)
theorem dX6_readsCell_59 : decode cX6_readsCell 59 = .ok (.ifCond .eq 18, 3) := dk_153 0 18 (dk_at dksX6_readsCell_2 11 rfl rfl)
theorem dX6_readsCell_62 : decode cX6_readsCell 62 = .ok (.aload_n 0, 1) := dk_42 (dk_at dksX6_readsCell_2 14 rfl rfl)
theorem dX6_readsCell_63 : decode cX6_readsCell 63 = .ok (.getfield 43, 3) := dk_180 0 43 (dk_at dksX6_readsCell_2 15 rfl rfl)
theorem dX6_readsCell_66 : decode cX6_readsCell 66 = .ok (.iload 4, 2) := dk_21 4 (dk_at dksX6_readsCell_2 18 rfl rfl)
theorem dX6_readsCell_68 : decode cX6_readsCell 68 = .ok (.iaload, 1) := dk_46 (dk_at dksX6_readsCell_2 20 rfl rfl)
theorem dX6_readsCell_69 : decode cX6_readsCell 69 = .ok (.iload_n 2, 1) := dk_28 (dk_at dksX6_readsCell_2 21 rfl rfl)
theorem dX6_readsCell_70 : decode cX6_readsCell 70 = .ok (.if_icmp .eq 7, 3) := dk_159 0 7 (dk_at dksX6_readsCell_3 0 rfl rfl)
theorem dX6_readsCell_73 : decode cX6_readsCell 73 = .ok (.iconst 1, 1) := dk_4 (dk_at dksX6_readsCell_3 3 rfl rfl)
theorem dX6_readsCell_74 : decode cX6_readsCell 74 = .ok (.goto 4, 3) := dk_167 0 4 (dk_at dksX6_readsCell_3 4 rfl rfl)
theorem dX6_readsCell_77 : decode cX6_readsCell 77 = .ok (.iconst 0, 1) := dk_3 (dk_at dksX6_readsCell_3 7 rfl rfl)
theorem dX6_readsCell_78 : decode cX6_readsCell 78 = .ok (.istore_n 3, 1) := dk_62 (dk_at dksX6_readsCell_3 8 rfl rfl)
theorem dX6_readsCell_79 : decode cX6_readsCell 79 = .ok (.iinc 4 1, 3) := dk_132 4 1 (dk_at dksX6_readsCell_3 9 rfl rfl)
theorem dX6_readsCell_82 : decode cX6_readsCell 82 = .ok (.goto (-37), 3) := dk_167 255 219 (dk_at dksX6_readsCell_3 12 rfl rfl)
theorem dX6_readsCell_85 : decode cX6_readsCell 85 = .ok (.aload_n 0, 1) := dk_42 (dk_at dksX6_readsCell_3 15 rfl rfl)
theorem dX6_readsCell_86 : decode cX6_readsCell 86 = .ok (.dup, 1) := dk_89 (dk_at dksX6_readsCell_3 16 rfl rfl)
theorem dX6_readsCell_87 : decode cX6_readsCell 87 = .ok (.getfield 139, 3) := dk_180 0 139 (dk_at dksX6_readsCell_3 17 rfl rfl)
theorem dX6_readsCell_90 : decode cX6_readsCell 90 = .ok (.iload_n 3, 1) := dk_29 (dk_at dksX6_readsCell_3 20 rfl rfl)
theorem dX6_readsCell_91 : decode cX6_readsCell 91 = .ok (.ifCond .ne 7, 3) := dk_154 0 7 (dk_at dksX6_readsCell_3 21 rfl rfl)
theorem dX6_readsCell_94 : decode cX6_readsCell 94 = .ok (.iconst 1, 1) := dk_4 (dk_at dksX6_readsCell_4 0 rfl rfl)
theorem dX6_readsCell_95 : decode cX6_readsCell 95 = .ok (.goto 4, 3) := dk_167 0 4 (dk_at dksX6_readsCell_4 1 rfl rfl)
theorem dX6_readsCell_98 : decode cX6_readsCell 98 = .ok (.iconst 0, 1) := dk_3 (dk_at dksX6_readsCell_4 4 rfl rfl)
theorem dX6_readsCell_99 : decode cX6_readsCell 99 = .ok (.invokestatic 154, 3) := dk_184 0 154 (dk_at dksX6_readsCell_4 5 rfl rfl)
theorem dX6_readsCell_102 : decode cX6_readsCell 102 = .ok (.isub, 1) := dk_100 (dk_at dksX6_readsCell_4 8 rfl rfl)
theorem dX6_readsCell_103 : decode cX6_readsCell 103 = .ok (.putfield 139, 3) := dk_181 0 139 (dk_at dksX6_readsCell_4 9 rfl rfl)
theorem dX6_readsCell_106 : decode cX6_readsCell 106 = .ok (.iload_n 3, 1) := dk_29 (dk_at dksX6_readsCell_4 12 rfl rfl)
theorem dX6_readsCell_107 : decode cX6_readsCell 107 = .ok (.ifCond .eq 7, 3) := dk_153 0 7 (dk_at dksX6_readsCell_4 13 rfl rfl)
theorem dX6_readsCell_110 : decode cX6_readsCell 110 = .ok (.iload_n 2, 1) := dk_28 (dk_at dksX6_readsCell_4 16 rfl rfl)
theorem dX6_readsCell_111 : decode cX6_readsCell 111 = .ok (.goto 4, 3) := dk_167 0 4 (dk_at dksX6_readsCell_4 17 rfl rfl)
theorem dX6_readsCell_114 : decode cX6_readsCell 114 = .ok (.iconst (-1), 1) := dk_2 (dk_at dksX6_readsCell_4 20 rfl rfl)
theorem dX6_readsCell_115 : decode cX6_readsCell 115 = .ok (.ireturn, 1) := dk_172 (dk_at dksX6_readsCell_4 21 rfl rfl)
abbrev cX6_number : ByteArray := prog_15_method_24_code
def yX6_number : MethodName := ⟨RX6, "number", "(I)I"⟩
def dkwX6_number_2 : List UInt8 := [180, 0, 139, 4, 96, 181, 0, 139, 132, 3, 1, 167, 255, 213, 28, 172]
abbrev dktX6_number_2 : List UInt8 := dkwX6_number_2 ++ []
def dkwX6_number_1 : List UInt8 := [153, 0, 37, 16, 10, 28, 104, 42, 180, 0, 37, 42, 180, 0, 139, 46, 96, 16, 48, 100, 61, 42, 89]
abbrev dktX6_number_1 : List UInt8 := dkwX6_number_1 ++ dktX6_number_2
def dkwX6_number_0 : List UInt8 := [42, 182, 0, 172, 154, 0, 5, 2, 172, 3, 61, 3, 62, 29, 27, 162, 0, 44, 42, 182, 0, 172]
abbrev dktX6_number_0 : List UInt8 := dkwX6_number_0 ++ dktX6_number_1
theorem dksX6_number_0 : cX6_number.data.toList.drop 0 = dktX6_number_0 := by decide +kernel
theorem dksX6_number_1 : cX6_number.data.toList.drop 22 = dktX6_number_1 := dk_seg dksX6_number_0 22 rfl rfl
theorem dksX6_number_2 : cX6_number.data.toList.drop 45 = dktX6_number_2 := dk_seg dksX6_number_1 23 rfl rfl
theorem dX6_number_0 : decode cX6_number 0 = .ok (.aload_n 0, 1) := dk_42 (dk_at dksX6_number_0 0 rfl rfl)
theorem dX6_number_1 : decode cX6_number 1 = .ok (.invokevirtual 172, 3) := dk_182 0 172 (dk_at dksX6_number_0 1 rfl rfl)
theorem dX6_number_4 : decode cX6_number 4 = .ok (.ifCond .ne 5, 3) := dk_154 0 5 (dk_at dksX6_number_0 4 rfl rfl)
theorem dX6_number_7 : decode cX6_number 7 = .ok (.iconst (-1), 1) := dk_2 (dk_at dksX6_number_0 7 rfl rfl)
theorem dX6_number_8 : decode cX6_number 8 = .ok (.ireturn, 1) := dk_172 (dk_at dksX6_number_0 8 rfl rfl)
theorem dX6_number_9 : decode cX6_number 9 = .ok (.iconst 0, 1) := dk_3 (dk_at dksX6_number_0 9 rfl rfl)
theorem dX6_number_10 : decode cX6_number 10 = .ok (.istore_n 2, 1) := dk_61 (dk_at dksX6_number_0 10 rfl rfl)
theorem dX6_number_11 : decode cX6_number 11 = .ok (.iconst 0, 1) := dk_3 (dk_at dksX6_number_0 11 rfl rfl)
theorem dX6_number_12 : decode cX6_number 12 = .ok (.istore_n 3, 1) := dk_62 (dk_at dksX6_number_0 12 rfl rfl)
theorem dX6_number_13 : decode cX6_number 13 = .ok (.iload_n 3, 1) := dk_29 (dk_at dksX6_number_0 13 rfl rfl)
theorem dX6_number_14 : decode cX6_number 14 = .ok (.iload_n 1, 1) := dk_27 (dk_at dksX6_number_0 14 rfl rfl)
theorem dX6_number_15 : decode cX6_number 15 = .ok (.if_icmp .ge 44, 3) := dk_162 0 44 (dk_at dksX6_number_0 15 rfl rfl)
theorem dX6_number_18 : decode cX6_number 18 = .ok (.aload_n 0, 1) := dk_42 (dk_at dksX6_number_0 18 rfl rfl)
theorem dX6_number_19 : decode cX6_number 19 = .ok (.invokevirtual 172, 3) := dk_182 0 172 (dk_at dksX6_number_0 19 rfl rfl)
theorem dX6_number_22 : decode cX6_number 22 = .ok (.ifCond .eq 37, 3) := dk_153 0 37 (dk_at dksX6_number_1 0 rfl rfl)
theorem dX6_number_25 : decode cX6_number 25 = .ok (.bipush 10, 2) := dk_16 10 (dk_at dksX6_number_1 3 rfl rfl)
theorem dX6_number_27 : decode cX6_number 27 = .ok (.iload_n 2, 1) := dk_28 (dk_at dksX6_number_1 5 rfl rfl)
theorem dX6_number_28 : decode cX6_number 28 = .ok (.imul, 1) := dk_104 (dk_at dksX6_number_1 6 rfl rfl)
theorem dX6_number_29 : decode cX6_number 29 = .ok (.aload_n 0, 1) := dk_42 (dk_at dksX6_number_1 7 rfl rfl)
theorem dX6_number_30 : decode cX6_number 30 = .ok (.getfield 37, 3) := dk_180 0 37 (dk_at dksX6_number_1 8 rfl rfl)
theorem dX6_number_33 : decode cX6_number 33 = .ok (.aload_n 0, 1) := dk_42 (dk_at dksX6_number_1 11 rfl rfl)
theorem dX6_number_34 : decode cX6_number 34 = .ok (.getfield 139, 3) := dk_180 0 139 (dk_at dksX6_number_1 12 rfl rfl)
theorem dX6_number_37 : decode cX6_number 37 = .ok (.iaload, 1) := dk_46 (dk_at dksX6_number_1 15 rfl rfl)
theorem dX6_number_38 : decode cX6_number 38 = .ok (.iadd, 1) := dk_96 (dk_at dksX6_number_1 16 rfl rfl)
theorem dX6_number_39 : decode cX6_number 39 = .ok (.bipush 48, 2) := dk_16 48 (dk_at dksX6_number_1 17 rfl rfl)
theorem dX6_number_41 : decode cX6_number 41 = .ok (.isub, 1) := dk_100 (dk_at dksX6_number_1 19 rfl rfl)
theorem dX6_number_42 : decode cX6_number 42 = .ok (.istore_n 2, 1) := dk_61 (dk_at dksX6_number_1 20 rfl rfl)
theorem dX6_number_43 : decode cX6_number 43 = .ok (.aload_n 0, 1) := dk_42 (dk_at dksX6_number_1 21 rfl rfl)
theorem dX6_number_44 : decode cX6_number 44 = .ok (.dup, 1) := dk_89 (dk_at dksX6_number_1 22 rfl rfl)
theorem dX6_number_45 : decode cX6_number 45 = .ok (.getfield 139, 3) := dk_180 0 139 (dk_at dksX6_number_2 0 rfl rfl)
theorem dX6_number_48 : decode cX6_number 48 = .ok (.iconst 1, 1) := dk_4 (dk_at dksX6_number_2 3 rfl rfl)
theorem dX6_number_49 : decode cX6_number 49 = .ok (.iadd, 1) := dk_96 (dk_at dksX6_number_2 4 rfl rfl)
theorem dX6_number_50 : decode cX6_number 50 = .ok (.putfield 139, 3) := dk_181 0 139 (dk_at dksX6_number_2 5 rfl rfl)
theorem dX6_number_53 : decode cX6_number 53 = .ok (.iinc 3 1, 3) := dk_132 3 1 (dk_at dksX6_number_2 8 rfl rfl)
theorem dX6_number_56 : decode cX6_number 56 = .ok (.goto (-43), 3) := dk_167 255 213 (dk_at dksX6_number_2 11 rfl rfl)
theorem dX6_number_59 : decode cX6_number 59 = .ok (.iload_n 2, 1) := dk_28 (dk_at dksX6_number_2 14 rfl rfl)
theorem dX6_number_60 : decode cX6_number 60 = .ok (.ireturn, 1) := dk_172 (dk_at dksX6_number_2 15 rfl rfl)
abbrev cX6_isDigit : ByteArray := prog_15_method_22_code
def yX6_isDigit : MethodName := ⟨RX6, "isDigit", "()Z"⟩
def dkwX6_isDigit_1 : List UInt8 := [20, 0, 160, 184, 0, 125, 153, 0, 7, 4, 167, 0, 4, 3, 172]
abbrev dktX6_isDigit_1 : List UInt8 := dkwX6_isDigit_1 ++ []
def dkwX6_isDigit_0 : List UInt8 := [42, 180, 0, 139, 42, 180, 0, 151, 162, 0, 29, 42, 180, 0, 37, 42, 180, 0, 139, 46, 133, 20, 0, 158]
abbrev dktX6_isDigit_0 : List UInt8 := dkwX6_isDigit_0 ++ dktX6_isDigit_1
theorem dksX6_isDigit_0 : cX6_isDigit.data.toList.drop 0 = dktX6_isDigit_0 := by decide +kernel
theorem dksX6_isDigit_1 : cX6_isDigit.data.toList.drop 24 = dktX6_isDigit_1 := dk_seg dksX6_isDigit_0 24 rfl rfl
theorem dX6_isDigit_0 : decode cX6_isDigit 0 = .ok (.aload_n 0, 1) := dk_42 (dk_at dksX6_isDigit_0 0 rfl rfl)
theorem dX6_isDigit_1 : decode cX6_isDigit 1 = .ok (.getfield 139, 3) := dk_180 0 139 (dk_at dksX6_isDigit_0 1 rfl rfl)
theorem dX6_isDigit_4 : decode cX6_isDigit 4 = .ok (.aload_n 0, 1) := dk_42 (dk_at dksX6_isDigit_0 4 rfl rfl)
theorem dX6_isDigit_5 : decode cX6_isDigit 5 = .ok (.getfield 151, 3) := dk_180 0 151 (dk_at dksX6_isDigit_0 5 rfl rfl)
theorem dX6_isDigit_8 : decode cX6_isDigit 8 = .ok (.if_icmp .ge 29, 3) := dk_162 0 29 (dk_at dksX6_isDigit_0 8 rfl rfl)
theorem dX6_isDigit_11 : decode cX6_isDigit 11 = .ok (.aload_n 0, 1) := dk_42 (dk_at dksX6_isDigit_0 11 rfl rfl)
theorem dX6_isDigit_12 : decode cX6_isDigit 12 = .ok (.getfield 37, 3) := dk_180 0 37 (dk_at dksX6_isDigit_0 12 rfl rfl)
theorem dX6_isDigit_15 : decode cX6_isDigit 15 = .ok (.aload_n 0, 1) := dk_42 (dk_at dksX6_isDigit_0 15 rfl rfl)
theorem dX6_isDigit_16 : decode cX6_isDigit 16 = .ok (.getfield 139, 3) := dk_180 0 139 (dk_at dksX6_isDigit_0 16 rfl rfl)
theorem dX6_isDigit_19 : decode cX6_isDigit 19 = .ok (.iaload, 1) := dk_46 (dk_at dksX6_isDigit_0 19 rfl rfl)
theorem dX6_isDigit_20 : decode cX6_isDigit 20 = .ok (.i2l, 1) := dk_133 (dk_at dksX6_isDigit_0 20 rfl rfl)
theorem dX6_isDigit_21 : decode cX6_isDigit 21 = .ok (.ldc2_w 158, 3) := dk_20 0 158 (dk_at dksX6_isDigit_0 21 rfl rfl)
theorem dX6_isDigit_24 : decode cX6_isDigit 24 = .ok (.ldc2_w 160, 3) := dk_20 0 160 (dk_at dksX6_isDigit_1 0 rfl rfl)
theorem dX6_isDigit_27 : decode cX6_isDigit 27 = .ok (.invokestatic 125, 3) := dk_184 0 125 (dk_at dksX6_isDigit_1 3 rfl rfl)
theorem dX6_isDigit_30 : decode cX6_isDigit 30 = .ok (.ifCond .eq 7, 3) := dk_153 0 7 (dk_at dksX6_isDigit_1 6 rfl rfl)
theorem dX6_isDigit_33 : decode cX6_isDigit 33 = .ok (.iconst 1, 1) := dk_4 (dk_at dksX6_isDigit_1 9 rfl rfl)
theorem dX6_isDigit_34 : decode cX6_isDigit 34 = .ok (.goto 4, 3) := dk_167 0 4 (dk_at dksX6_isDigit_1 10 rfl rfl)
theorem dX6_isDigit_37 : decode cX6_isDigit 37 = .ok (.iconst 0, 1) := dk_3 (dk_at dksX6_isDigit_1 13 rfl rfl)
theorem dX6_isDigit_38 : decode cX6_isDigit 38 = .ok (.ireturn, 1) := dk_172 (dk_at dksX6_isDigit_1 14 rfl rfl)
abbrev cX6_gate : ByteArray := prog_15_method_9_code
def yX6_gate : MethodName := ⟨RX6, "gate", "()I"⟩
def dkwX6_gate_0 : List UInt8 := [42, 180, 0, 13, 4, 100, 172]
abbrev dktX6_gate_0 : List UInt8 := dkwX6_gate_0 ++ []
theorem dksX6_gate_0 : cX6_gate.data.toList.drop 0 = dktX6_gate_0 := by decide +kernel
theorem dX6_gate_0 : decode cX6_gate 0 = .ok (.aload_n 0, 1) := dk_42 (dk_at dksX6_gate_0 0 rfl rfl)
theorem dX6_gate_1 : decode cX6_gate 1 = .ok (.getfield 13, 3) := dk_180 0 13 (dk_at dksX6_gate_0 1 rfl rfl)
theorem dX6_gate_4 : decode cX6_gate 4 = .ok (.iconst 1, 1) := dk_4 (dk_at dksX6_gate_0 4 rfl rfl)
theorem dX6_gate_5 : decode cX6_gate 5 = .ok (.isub, 1) := dk_100 (dk_at dksX6_gate_0 5 rfl rfl)
theorem dX6_gate_6 : decode cX6_gate 6 = .ok (.ireturn, 1) := dk_172 (dk_at dksX6_gate_0 6 rfl rfl)
abbrev cX6_onCell : ByteArray := prog_15_method_14_code
def yX6_onCell : MethodName := ⟨RX6, "onCell", "([II)I"⟩
def dkwX6_onCell_1 : List UInt8 := [167, 0, 4, 29, 62, 132, 4, 1, 167, 255, 229, 29, 172]
abbrev dktX6_onCell_1 : List UInt8 := dkwX6_onCell_1 ++ []
def dkwX6_onCell_0 : List UInt8 := [2, 62, 3, 54, 4, 21, 4, 42, 180, 0, 122, 162, 0, 24, 43, 21, 4, 46, 28, 160, 0, 8, 21, 4]
abbrev dktX6_onCell_0 : List UInt8 := dkwX6_onCell_0 ++ dktX6_onCell_1
theorem dksX6_onCell_0 : cX6_onCell.data.toList.drop 0 = dktX6_onCell_0 := by decide +kernel
theorem dksX6_onCell_1 : cX6_onCell.data.toList.drop 24 = dktX6_onCell_1 := dk_seg dksX6_onCell_0 24 rfl rfl
theorem dX6_onCell_0 : decode cX6_onCell 0 = .ok (.iconst (-1), 1) := dk_2 (dk_at dksX6_onCell_0 0 rfl rfl)
theorem dX6_onCell_1 : decode cX6_onCell 1 = .ok (.istore_n 3, 1) := dk_62 (dk_at dksX6_onCell_0 1 rfl rfl)
theorem dX6_onCell_2 : decode cX6_onCell 2 = .ok (.iconst 0, 1) := dk_3 (dk_at dksX6_onCell_0 2 rfl rfl)
theorem dX6_onCell_3 : decode cX6_onCell 3 = .ok (.istore 4, 2) := dk_54 4 (dk_at dksX6_onCell_0 3 rfl rfl)
theorem dX6_onCell_5 : decode cX6_onCell 5 = .ok (.iload 4, 2) := dk_21 4 (dk_at dksX6_onCell_0 5 rfl rfl)
theorem dX6_onCell_7 : decode cX6_onCell 7 = .ok (.aload_n 0, 1) := dk_42 (dk_at dksX6_onCell_0 7 rfl rfl)
theorem dX6_onCell_8 : decode cX6_onCell 8 = .ok (.getfield 122, 3) := dk_180 0 122 (dk_at dksX6_onCell_0 8 rfl rfl)
theorem dX6_onCell_11 : decode cX6_onCell 11 = .ok (.if_icmp .ge 24, 3) := dk_162 0 24 (dk_at dksX6_onCell_0 11 rfl rfl)
theorem dX6_onCell_14 : decode cX6_onCell 14 = .ok (.aload_n 1, 1) := dk_43 (dk_at dksX6_onCell_0 14 rfl rfl)
theorem dX6_onCell_15 : decode cX6_onCell 15 = .ok (.iload 4, 2) := dk_21 4 (dk_at dksX6_onCell_0 15 rfl rfl)
theorem dX6_onCell_17 : decode cX6_onCell 17 = .ok (.iaload, 1) := dk_46 (dk_at dksX6_onCell_0 17 rfl rfl)
theorem dX6_onCell_18 : decode cX6_onCell 18 = .ok (.iload_n 2, 1) := dk_28 (dk_at dksX6_onCell_0 18 rfl rfl)
theorem dX6_onCell_19 : decode cX6_onCell 19 = .ok (.if_icmp .ne 8, 3) := dk_160 0 8 (dk_at dksX6_onCell_0 19 rfl rfl)
theorem dX6_onCell_22 : decode cX6_onCell 22 = .ok (.iload 4, 2) := dk_21 4 (dk_at dksX6_onCell_0 22 rfl rfl)
theorem dX6_onCell_24 : decode cX6_onCell 24 = .ok (.goto 4, 3) := dk_167 0 4 (dk_at dksX6_onCell_1 0 rfl rfl)
theorem dX6_onCell_27 : decode cX6_onCell 27 = .ok (.iload_n 3, 1) := dk_29 (dk_at dksX6_onCell_1 3 rfl rfl)
theorem dX6_onCell_28 : decode cX6_onCell 28 = .ok (.istore_n 3, 1) := dk_62 (dk_at dksX6_onCell_1 4 rfl rfl)
theorem dX6_onCell_29 : decode cX6_onCell 29 = .ok (.iinc 4 1, 3) := dk_132 4 1 (dk_at dksX6_onCell_1 5 rfl rfl)
theorem dX6_onCell_32 : decode cX6_onCell 32 = .ok (.goto (-27), 3) := dk_167 255 229 (dk_at dksX6_onCell_1 8 rfl rfl)
theorem dX6_onCell_35 : decode cX6_onCell 35 = .ok (.iload_n 3, 1) := dk_29 (dk_at dksX6_onCell_1 11 rfl rfl)
theorem dX6_onCell_36 : decode cX6_onCell 36 = .ok (.ireturn, 1) := dk_172 (dk_at dksX6_onCell_1 12 rfl rfl)
abbrev cX6_takes : ByteArray := prog_15_method_21_code
def yX6_takes : MethodName := ⟨RX6, "takes", "(I)Z"⟩
def dkwX6_takes_1 : List UInt8 := [4, 167, 0, 4, 3, 61, 42, 89, 180, 0, 139, 28, 184, 0, 154, 96, 181, 0, 139, 28, 172]
abbrev dktX6_takes_1 : List UInt8 := dkwX6_takes_1 ++ []
def dkwX6_takes_0 : List UInt8 := [42, 180, 0, 139, 42, 180, 0, 151, 162, 0, 20, 42, 180, 0, 37, 42, 180, 0, 139, 46, 27, 160, 0, 7]
abbrev dktX6_takes_0 : List UInt8 := dkwX6_takes_0 ++ dktX6_takes_1
theorem dksX6_takes_0 : cX6_takes.data.toList.drop 0 = dktX6_takes_0 := by decide +kernel
theorem dksX6_takes_1 : cX6_takes.data.toList.drop 24 = dktX6_takes_1 := dk_seg dksX6_takes_0 24 rfl rfl
theorem dX6_takes_0 : decode cX6_takes 0 = .ok (.aload_n 0, 1) := dk_42 (dk_at dksX6_takes_0 0 rfl rfl)
theorem dX6_takes_1 : decode cX6_takes 1 = .ok (.getfield 139, 3) := dk_180 0 139 (dk_at dksX6_takes_0 1 rfl rfl)
theorem dX6_takes_4 : decode cX6_takes 4 = .ok (.aload_n 0, 1) := dk_42 (dk_at dksX6_takes_0 4 rfl rfl)
theorem dX6_takes_5 : decode cX6_takes 5 = .ok (.getfield 151, 3) := dk_180 0 151 (dk_at dksX6_takes_0 5 rfl rfl)
theorem dX6_takes_8 : decode cX6_takes 8 = .ok (.if_icmp .ge 20, 3) := dk_162 0 20 (dk_at dksX6_takes_0 8 rfl rfl)
theorem dX6_takes_11 : decode cX6_takes 11 = .ok (.aload_n 0, 1) := dk_42 (dk_at dksX6_takes_0 11 rfl rfl)
theorem dX6_takes_12 : decode cX6_takes 12 = .ok (.getfield 37, 3) := dk_180 0 37 (dk_at dksX6_takes_0 12 rfl rfl)
theorem dX6_takes_15 : decode cX6_takes 15 = .ok (.aload_n 0, 1) := dk_42 (dk_at dksX6_takes_0 15 rfl rfl)
theorem dX6_takes_16 : decode cX6_takes 16 = .ok (.getfield 139, 3) := dk_180 0 139 (dk_at dksX6_takes_0 16 rfl rfl)
theorem dX6_takes_19 : decode cX6_takes 19 = .ok (.iaload, 1) := dk_46 (dk_at dksX6_takes_0 19 rfl rfl)
theorem dX6_takes_20 : decode cX6_takes 20 = .ok (.iload_n 1, 1) := dk_27 (dk_at dksX6_takes_0 20 rfl rfl)
theorem dX6_takes_21 : decode cX6_takes 21 = .ok (.if_icmp .ne 7, 3) := dk_160 0 7 (dk_at dksX6_takes_0 21 rfl rfl)
theorem dX6_takes_24 : decode cX6_takes 24 = .ok (.iconst 1, 1) := dk_4 (dk_at dksX6_takes_1 0 rfl rfl)
theorem dX6_takes_25 : decode cX6_takes 25 = .ok (.goto 4, 3) := dk_167 0 4 (dk_at dksX6_takes_1 1 rfl rfl)
theorem dX6_takes_28 : decode cX6_takes 28 = .ok (.iconst 0, 1) := dk_3 (dk_at dksX6_takes_1 4 rfl rfl)
theorem dX6_takes_29 : decode cX6_takes 29 = .ok (.istore_n 2, 1) := dk_61 (dk_at dksX6_takes_1 5 rfl rfl)
theorem dX6_takes_30 : decode cX6_takes 30 = .ok (.aload_n 0, 1) := dk_42 (dk_at dksX6_takes_1 6 rfl rfl)
theorem dX6_takes_31 : decode cX6_takes 31 = .ok (.dup, 1) := dk_89 (dk_at dksX6_takes_1 7 rfl rfl)
theorem dX6_takes_32 : decode cX6_takes 32 = .ok (.getfield 139, 3) := dk_180 0 139 (dk_at dksX6_takes_1 8 rfl rfl)
theorem dX6_takes_35 : decode cX6_takes 35 = .ok (.iload_n 2, 1) := dk_28 (dk_at dksX6_takes_1 11 rfl rfl)
theorem dX6_takes_36 : decode cX6_takes 36 = .ok (.invokestatic 154, 3) := dk_184 0 154 (dk_at dksX6_takes_1 12 rfl rfl)
theorem dX6_takes_39 : decode cX6_takes 39 = .ok (.iadd, 1) := dk_96 (dk_at dksX6_takes_1 15 rfl rfl)
theorem dX6_takes_40 : decode cX6_takes 40 = .ok (.putfield 139, 3) := dk_181 0 139 (dk_at dksX6_takes_1 16 rfl rfl)
theorem dX6_takes_43 : decode cX6_takes 43 = .ok (.iload_n 2, 1) := dk_28 (dk_at dksX6_takes_1 19 rfl rfl)
theorem dX6_takes_44 : decode cX6_takes 44 = .ok (.ireturn, 1) := dk_172 (dk_at dksX6_takes_1 20 rfl rfl)
abbrev cX6_faultOf : ByteArray := prog_15_method_26_code
def yX6_faultOf : MethodName := ⟨RX6, "faultOf", "(IIZ)I"⟩
def dkwX6_faultOf_2 : List UInt8 := [153, 0, 7, 3, 167, 0, 9, 2, 42, 180, 0, 139, 100, 172]
abbrev dktX6_faultOf_2 : List UInt8 := dkwX6_faultOf_2 ++ []
def dkwX6_faultOf_1 : List UInt8 := [164, 0, 20, 21, 4, 154, 0, 11, 42, 180, 0, 139, 28, 161, 0, 7, 2, 28, 100, 172, 21, 4]
abbrev dktX6_faultOf_1 : List UInt8 := dkwX6_faultOf_1 ++ dktX6_faultOf_2
def dkwX6_faultOf_0 : List UInt8 := [29, 153, 0, 18, 42, 180, 0, 139, 42, 180, 0, 151, 160, 0, 7, 4, 167, 0, 4, 3, 54, 4, 27, 28]
abbrev dktX6_faultOf_0 : List UInt8 := dkwX6_faultOf_0 ++ dktX6_faultOf_1
theorem dksX6_faultOf_0 : cX6_faultOf.data.toList.drop 0 = dktX6_faultOf_0 := by decide +kernel
theorem dksX6_faultOf_1 : cX6_faultOf.data.toList.drop 24 = dktX6_faultOf_1 := dk_seg dksX6_faultOf_0 24 rfl rfl
theorem dksX6_faultOf_2 : cX6_faultOf.data.toList.drop 46 = dktX6_faultOf_2 := dk_seg dksX6_faultOf_1 22 rfl rfl
theorem dX6_faultOf_0 : decode cX6_faultOf 0 = .ok (.iload_n 3, 1) := dk_29 (dk_at dksX6_faultOf_0 0 rfl rfl)
theorem dX6_faultOf_1 : decode cX6_faultOf 1 = .ok (.ifCond .eq 18, 3) := dk_153 0 18 (dk_at dksX6_faultOf_0 1 rfl rfl)
theorem dX6_faultOf_4 : decode cX6_faultOf 4 = .ok (.aload_n 0, 1) := dk_42 (dk_at dksX6_faultOf_0 4 rfl rfl)
theorem dX6_faultOf_5 : decode cX6_faultOf 5 = .ok (.getfield 139, 3) := dk_180 0 139 (dk_at dksX6_faultOf_0 5 rfl rfl)
theorem dX6_faultOf_8 : decode cX6_faultOf 8 = .ok (.aload_n 0, 1) := dk_42 (dk_at dksX6_faultOf_0 8 rfl rfl)
theorem dX6_faultOf_9 : decode cX6_faultOf 9 = .ok (.getfield 151, 3) := dk_180 0 151 (dk_at dksX6_faultOf_0 9 rfl rfl)
theorem dX6_faultOf_12 : decode cX6_faultOf 12 = .ok (.if_icmp .ne 7, 3) := dk_160 0 7 (dk_at dksX6_faultOf_0 12 rfl rfl)
theorem dX6_faultOf_15 : decode cX6_faultOf 15 = .ok (.iconst 1, 1) := dk_4 (dk_at dksX6_faultOf_0 15 rfl rfl)
theorem dX6_faultOf_16 : decode cX6_faultOf 16 = .ok (.goto 4, 3) := dk_167 0 4 (dk_at dksX6_faultOf_0 16 rfl rfl)
theorem dX6_faultOf_19 : decode cX6_faultOf 19 = .ok (.iconst 0, 1) := dk_3 (dk_at dksX6_faultOf_0 19 rfl rfl)
theorem dX6_faultOf_20 : decode cX6_faultOf 20 = .ok (.istore 4, 2) := dk_54 4 (dk_at dksX6_faultOf_0 20 rfl rfl)
theorem dX6_faultOf_22 : decode cX6_faultOf 22 = .ok (.iload_n 1, 1) := dk_27 (dk_at dksX6_faultOf_0 22 rfl rfl)
theorem dX6_faultOf_23 : decode cX6_faultOf 23 = .ok (.iload_n 2, 1) := dk_28 (dk_at dksX6_faultOf_0 23 rfl rfl)
theorem dX6_faultOf_24 : decode cX6_faultOf 24 = .ok (.if_icmp .le 20, 3) := dk_164 0 20 (dk_at dksX6_faultOf_1 0 rfl rfl)
theorem dX6_faultOf_27 : decode cX6_faultOf 27 = .ok (.iload 4, 2) := dk_21 4 (dk_at dksX6_faultOf_1 3 rfl rfl)
theorem dX6_faultOf_29 : decode cX6_faultOf 29 = .ok (.ifCond .ne 11, 3) := dk_154 0 11 (dk_at dksX6_faultOf_1 5 rfl rfl)
theorem dX6_faultOf_32 : decode cX6_faultOf 32 = .ok (.aload_n 0, 1) := dk_42 (dk_at dksX6_faultOf_1 8 rfl rfl)
theorem dX6_faultOf_33 : decode cX6_faultOf 33 = .ok (.getfield 139, 3) := dk_180 0 139 (dk_at dksX6_faultOf_1 9 rfl rfl)
theorem dX6_faultOf_36 : decode cX6_faultOf 36 = .ok (.iload_n 2, 1) := dk_28 (dk_at dksX6_faultOf_1 12 rfl rfl)
theorem dX6_faultOf_37 : decode cX6_faultOf 37 = .ok (.if_icmp .lt 7, 3) := dk_161 0 7 (dk_at dksX6_faultOf_1 13 rfl rfl)
theorem dX6_faultOf_40 : decode cX6_faultOf 40 = .ok (.iconst (-1), 1) := dk_2 (dk_at dksX6_faultOf_1 16 rfl rfl)
theorem dX6_faultOf_41 : decode cX6_faultOf 41 = .ok (.iload_n 2, 1) := dk_28 (dk_at dksX6_faultOf_1 17 rfl rfl)
theorem dX6_faultOf_42 : decode cX6_faultOf 42 = .ok (.isub, 1) := dk_100 (dk_at dksX6_faultOf_1 18 rfl rfl)
theorem dX6_faultOf_43 : decode cX6_faultOf 43 = .ok (.ireturn, 1) := dk_172 (dk_at dksX6_faultOf_1 19 rfl rfl)
theorem dX6_faultOf_44 : decode cX6_faultOf 44 = .ok (.iload 4, 2) := dk_21 4 (dk_at dksX6_faultOf_1 20 rfl rfl)
theorem dX6_faultOf_46 : decode cX6_faultOf 46 = .ok (.ifCond .eq 7, 3) := dk_153 0 7 (dk_at dksX6_faultOf_2 0 rfl rfl)
theorem dX6_faultOf_49 : decode cX6_faultOf 49 = .ok (.iconst 0, 1) := dk_3 (dk_at dksX6_faultOf_2 3 rfl rfl)
theorem dX6_faultOf_50 : decode cX6_faultOf 50 = .ok (.goto 9, 3) := dk_167 0 9 (dk_at dksX6_faultOf_2 4 rfl rfl)
theorem dX6_faultOf_53 : decode cX6_faultOf 53 = .ok (.iconst (-1), 1) := dk_2 (dk_at dksX6_faultOf_2 7 rfl rfl)
theorem dX6_faultOf_54 : decode cX6_faultOf 54 = .ok (.aload_n 0, 1) := dk_42 (dk_at dksX6_faultOf_2 8 rfl rfl)
theorem dX6_faultOf_55 : decode cX6_faultOf 55 = .ok (.getfield 139, 3) := dk_180 0 139 (dk_at dksX6_faultOf_2 9 rfl rfl)
theorem dX6_faultOf_58 : decode cX6_faultOf 58 = .ok (.isub, 1) := dk_100 (dk_at dksX6_faultOf_2 12 rfl rfl)
theorem dX6_faultOf_59 : decode cX6_faultOf 59 = .ok (.ireturn, 1) := dk_172 (dk_at dksX6_faultOf_2 13 rfl rfl)
abbrev cX6_isNew : ByteArray := prog_15_method_31_code
def yX6_isNew : MethodName := ⟨RX6, "isNew", "()I"⟩
def dkwX6_isNew_1 : List UInt8 := [42, 180, 0, 199, 158, 0, 7, 4, 167, 0, 4, 3, 184, 0, 154, 96, 181, 0, 211, 42, 180, 0, 199, 172]
abbrev dktX6_isNew_1 : List UInt8 := dkwX6_isNew_1 ++ []
def dkwX6_isNew_0 : List UInt8 := [42, 42, 180, 0, 199, 158, 0, 7, 3, 167, 0, 7, 42, 180, 0, 186, 181, 0, 186, 42, 89, 180, 0, 211]
abbrev dktX6_isNew_0 : List UInt8 := dkwX6_isNew_0 ++ dktX6_isNew_1
theorem dksX6_isNew_0 : cX6_isNew.data.toList.drop 0 = dktX6_isNew_0 := by decide +kernel
theorem dksX6_isNew_1 : cX6_isNew.data.toList.drop 24 = dktX6_isNew_1 := dk_seg dksX6_isNew_0 24 rfl rfl
theorem dX6_isNew_0 : decode cX6_isNew 0 = .ok (.aload_n 0, 1) := dk_42 (dk_at dksX6_isNew_0 0 rfl rfl)
theorem dX6_isNew_1 : decode cX6_isNew 1 = .ok (.aload_n 0, 1) := dk_42 (dk_at dksX6_isNew_0 1 rfl rfl)
theorem dX6_isNew_2 : decode cX6_isNew 2 = .ok (.getfield 199, 3) := dk_180 0 199 (dk_at dksX6_isNew_0 2 rfl rfl)
theorem dX6_isNew_5 : decode cX6_isNew 5 = .ok (.ifCond .le 7, 3) := dk_158 0 7 (dk_at dksX6_isNew_0 5 rfl rfl)
theorem dX6_isNew_8 : decode cX6_isNew 8 = .ok (.iconst 0, 1) := dk_3 (dk_at dksX6_isNew_0 8 rfl rfl)
theorem dX6_isNew_9 : decode cX6_isNew 9 = .ok (.goto 7, 3) := dk_167 0 7 (dk_at dksX6_isNew_0 9 rfl rfl)
theorem dX6_isNew_12 : decode cX6_isNew 12 = .ok (.aload_n 0, 1) := dk_42 (dk_at dksX6_isNew_0 12 rfl rfl)
theorem dX6_isNew_13 : decode cX6_isNew 13 = .ok (.getfield 186, 3) := dk_180 0 186 (dk_at dksX6_isNew_0 13 rfl rfl)
theorem dX6_isNew_16 : decode cX6_isNew 16 = .ok (.putfield 186, 3) := dk_181 0 186 (dk_at dksX6_isNew_0 16 rfl rfl)
theorem dX6_isNew_19 : decode cX6_isNew 19 = .ok (.aload_n 0, 1) := dk_42 (dk_at dksX6_isNew_0 19 rfl rfl)
theorem dX6_isNew_20 : decode cX6_isNew 20 = .ok (.dup, 1) := dk_89 (dk_at dksX6_isNew_0 20 rfl rfl)
theorem dX6_isNew_21 : decode cX6_isNew 21 = .ok (.getfield 211, 3) := dk_180 0 211 (dk_at dksX6_isNew_0 21 rfl rfl)
theorem dX6_isNew_24 : decode cX6_isNew 24 = .ok (.aload_n 0, 1) := dk_42 (dk_at dksX6_isNew_1 0 rfl rfl)
theorem dX6_isNew_25 : decode cX6_isNew 25 = .ok (.getfield 199, 3) := dk_180 0 199 (dk_at dksX6_isNew_1 1 rfl rfl)
theorem dX6_isNew_28 : decode cX6_isNew 28 = .ok (.ifCond .le 7, 3) := dk_158 0 7 (dk_at dksX6_isNew_1 4 rfl rfl)
theorem dX6_isNew_31 : decode cX6_isNew 31 = .ok (.iconst 1, 1) := dk_4 (dk_at dksX6_isNew_1 7 rfl rfl)
theorem dX6_isNew_32 : decode cX6_isNew 32 = .ok (.goto 4, 3) := dk_167 0 4 (dk_at dksX6_isNew_1 8 rfl rfl)
theorem dX6_isNew_35 : decode cX6_isNew 35 = .ok (.iconst 0, 1) := dk_3 (dk_at dksX6_isNew_1 11 rfl rfl)
theorem dX6_isNew_36 : decode cX6_isNew 36 = .ok (.invokestatic 154, 3) := dk_184 0 154 (dk_at dksX6_isNew_1 12 rfl rfl)
theorem dX6_isNew_39 : decode cX6_isNew 39 = .ok (.iadd, 1) := dk_96 (dk_at dksX6_isNew_1 15 rfl rfl)
theorem dX6_isNew_40 : decode cX6_isNew 40 = .ok (.putfield 211, 3) := dk_181 0 211 (dk_at dksX6_isNew_1 16 rfl rfl)
theorem dX6_isNew_43 : decode cX6_isNew 43 = .ok (.aload_n 0, 1) := dk_42 (dk_at dksX6_isNew_1 19 rfl rfl)
theorem dX6_isNew_44 : decode cX6_isNew 44 = .ok (.getfield 199, 3) := dk_180 0 199 (dk_at dksX6_isNew_1 20 rfl rfl)
theorem dX6_isNew_47 : decode cX6_isNew 47 = .ok (.ireturn, 1) := dk_172 (dk_at dksX6_isNew_1 23 rfl rfl)
abbrev cX6_mourners : ByteArray := prog_15_method_33_code
def yX6_mourners : MethodName := ⟨RX6, "mourners", "()I"⟩
def dkwX6_mourners_7 : List UInt8 := [132, 5, 1, 167, 255, 167, 42, 182, 0, 225, 172]
abbrev dktX6_mourners_7 : List UInt8 := dkwX6_mourners_7 ++ []
def dkwX6_mourners_6 : List UInt8 := [42, 180, 0, 31, 16, 29, 42, 180, 0, 129, 96, 2, 79, 42, 89, 180, 0, 129, 4, 96, 181, 0, 129]
abbrev dktX6_mourners_6 : List UInt8 := dkwX6_mourners_6 ++ dktX6_mourners_7
def dkwX6_mourners_5 : List UInt8 := [180, 0, 43, 5, 21, 5, 104, 4, 96, 46, 79, 42, 180, 0, 31, 16, 21, 42, 180, 0, 129, 96, 2, 79]
abbrev dktX6_mourners_5 : List UInt8 := dkwX6_mourners_5 ++ dktX6_mourners_6
def dkwX6_mourners_4 : List UInt8 := [42, 180, 0, 129, 96, 42, 180, 0, 43, 5, 21, 5, 104, 46, 79, 42, 180, 0, 24, 42, 180, 0, 129, 42]
abbrev dktX6_mourners_4 : List UInt8 := dkwX6_mourners_4 ++ dktX6_mourners_5
def dkwX6_mourners_3 : List UInt8 := [156, 0, 6, 21, 4, 172, 3, 54, 5, 21, 5, 42, 180, 0, 199, 162, 0, 86, 42, 180, 0, 31, 16, 13]
abbrev dktX6_mourners_3 : List UInt8 := dkwX6_mourners_3 ++ dktX6_mourners_4
def dkwX6_mourners_2 : List UInt8 := [153, 0, 7, 4, 167, 0, 4, 3, 62, 167, 255, 228, 42, 27, 16, 39, 28, 182, 0, 221, 54, 4, 21, 4]
abbrev dktX6_mourners_2 : List UInt8 := dkwX6_mourners_2 ++ dktX6_mourners_3
def dkwX6_mourners_1 : List UInt8 := [167, 0, 4, 3, 62, 29, 153, 0, 30, 42, 182, 0, 228, 61, 28, 153, 0, 16, 42, 16, 59, 182, 0, 217]
abbrev dktX6_mourners_1 : List UInt8 := dkwX6_mourners_1 ++ dktX6_mourners_2
def dkwX6_mourners_0 : List UInt8 := [42, 3, 181, 0, 112, 42, 16, 39, 182, 0, 176, 60, 42, 3, 181, 0, 199, 4, 61, 27, 158, 0, 7, 4]
abbrev dktX6_mourners_0 : List UInt8 := dkwX6_mourners_0 ++ dktX6_mourners_1
theorem dksX6_mourners_0 : cX6_mourners.data.toList.drop 0 = dktX6_mourners_0 := by decide +kernel
theorem dksX6_mourners_1 : cX6_mourners.data.toList.drop 24 = dktX6_mourners_1 := dk_seg dksX6_mourners_0 24 rfl rfl
theorem dksX6_mourners_2 : cX6_mourners.data.toList.drop 48 = dktX6_mourners_2 := dk_seg dksX6_mourners_1 24 rfl rfl
theorem dksX6_mourners_3 : cX6_mourners.data.toList.drop 72 = dktX6_mourners_3 := dk_seg dksX6_mourners_2 24 rfl rfl
theorem dksX6_mourners_4 : cX6_mourners.data.toList.drop 96 = dktX6_mourners_4 := dk_seg dksX6_mourners_3 24 rfl rfl
theorem dksX6_mourners_5 : cX6_mourners.data.toList.drop 120 = dktX6_mourners_5 := dk_seg dksX6_mourners_4 24 rfl rfl
theorem dksX6_mourners_6 : cX6_mourners.data.toList.drop 144 = dktX6_mourners_6 := dk_seg dksX6_mourners_5 24 rfl rfl
theorem dksX6_mourners_7 : cX6_mourners.data.toList.drop 167 = dktX6_mourners_7 := dk_seg dksX6_mourners_6 23 rfl rfl
theorem dX6_mourners_0 : decode cX6_mourners 0 = .ok (.aload_n 0, 1) := dk_42 (dk_at dksX6_mourners_0 0 rfl rfl)
theorem dX6_mourners_1 : decode cX6_mourners 1 = .ok (.iconst 0, 1) := dk_3 (dk_at dksX6_mourners_0 1 rfl rfl)
theorem dX6_mourners_2 : decode cX6_mourners 2 = .ok (.putfield 112, 3) := dk_181 0 112 (dk_at dksX6_mourners_0 2 rfl rfl)
theorem dX6_mourners_5 : decode cX6_mourners 5 = .ok (.aload_n 0, 1) := dk_42 (dk_at dksX6_mourners_0 5 rfl rfl)
theorem dX6_mourners_6 : decode cX6_mourners 6 = .ok (.bipush 39, 2) := dk_16 39 (dk_at dksX6_mourners_0 6 rfl rfl)
theorem dX6_mourners_8 : decode cX6_mourners 8 = .ok (.invokevirtual 176, 3) := dk_182 0 176 (dk_at dksX6_mourners_0 8 rfl rfl)
theorem dX6_mourners_11 : decode cX6_mourners 11 = .ok (.istore_n 1, 1) := dk_60 (dk_at dksX6_mourners_0 11 rfl rfl)
theorem dX6_mourners_12 : decode cX6_mourners 12 = .ok (.aload_n 0, 1) := dk_42 (dk_at dksX6_mourners_0 12 rfl rfl)
theorem dX6_mourners_13 : decode cX6_mourners 13 = .ok (.iconst 0, 1) := dk_3 (dk_at dksX6_mourners_0 13 rfl rfl)
theorem dX6_mourners_14 : decode cX6_mourners 14 = .ok (.putfield 199, 3) := dk_181 0 199 (dk_at dksX6_mourners_0 14 rfl rfl)
theorem dX6_mourners_17 : decode cX6_mourners 17 = .ok (.iconst 1, 1) := dk_4 (dk_at dksX6_mourners_0 17 rfl rfl)
theorem dX6_mourners_18 : decode cX6_mourners 18 = .ok (.istore_n 2, 1) := dk_61 (dk_at dksX6_mourners_0 18 rfl rfl)
theorem dX6_mourners_19 : decode cX6_mourners 19 = .ok (.iload_n 1, 1) := dk_27 (dk_at dksX6_mourners_0 19 rfl rfl)
theorem dX6_mourners_20 : decode cX6_mourners 20 = .ok (.ifCond .le 7, 3) := dk_158 0 7 (dk_at dksX6_mourners_0 20 rfl rfl)
theorem dX6_mourners_23 : decode cX6_mourners 23 = .ok (.iconst 1, 1) := dk_4 (dk_at dksX6_mourners_0 23 rfl rfl)
theorem dX6_mourners_24 : decode cX6_mourners 24 = .ok (.goto 4, 3) := dk_167 0 4 (dk_at dksX6_mourners_1 0 rfl rfl)
theorem dX6_mourners_27 : decode cX6_mourners 27 = .ok (.iconst 0, 1) := dk_3 (dk_at dksX6_mourners_1 3 rfl rfl)
theorem dX6_mourners_28 : decode cX6_mourners 28 = .ok (.istore_n 3, 1) := dk_62 (dk_at dksX6_mourners_1 4 rfl rfl)
theorem dX6_mourners_29 : decode cX6_mourners 29 = .ok (.iload_n 3, 1) := dk_29 (dk_at dksX6_mourners_1 5 rfl rfl)
theorem dX6_mourners_30 : decode cX6_mourners 30 = .ok (.ifCond .eq 30, 3) := dk_153 0 30 (dk_at dksX6_mourners_1 6 rfl rfl)
theorem dX6_mourners_33 : decode cX6_mourners 33 = .ok (.aload_n 0, 1) := dk_42 (dk_at dksX6_mourners_1 9 rfl rfl)
theorem dX6_mourners_34 : decode cX6_mourners 34 = .ok (.invokevirtual 228, 3) := dk_182 0 228 (dk_at dksX6_mourners_1 10 rfl rfl)
theorem dX6_mourners_37 : decode cX6_mourners 37 = .ok (.istore_n 2, 1) := dk_61 (dk_at dksX6_mourners_1 13 rfl rfl)
theorem dX6_mourners_38 : decode cX6_mourners 38 = .ok (.iload_n 2, 1) := dk_28 (dk_at dksX6_mourners_1 14 rfl rfl)
theorem dX6_mourners_39 : decode cX6_mourners 39 = .ok (.ifCond .eq 16, 3) := dk_153 0 16 (dk_at dksX6_mourners_1 15 rfl rfl)
theorem dX6_mourners_42 : decode cX6_mourners 42 = .ok (.aload_n 0, 1) := dk_42 (dk_at dksX6_mourners_1 18 rfl rfl)
theorem dX6_mourners_43 : decode cX6_mourners 43 = .ok (.bipush 59, 2) := dk_16 59 (dk_at dksX6_mourners_1 19 rfl rfl)
theorem dX6_mourners_45 : decode cX6_mourners 45 = .ok (.invokevirtual 217, 3) := dk_182 0 217 (dk_at dksX6_mourners_1 21 rfl rfl)
theorem dX6_mourners_48 : decode cX6_mourners 48 = .ok (.ifCond .eq 7, 3) := dk_153 0 7 (dk_at dksX6_mourners_2 0 rfl rfl)
theorem dX6_mourners_51 : decode cX6_mourners 51 = .ok (.iconst 1, 1) := dk_4 (dk_at dksX6_mourners_2 3 rfl rfl)
theorem dX6_mourners_52 : decode cX6_mourners 52 = .ok (.goto 4, 3) := dk_167 0 4 (dk_at dksX6_mourners_2 4 rfl rfl)
theorem dX6_mourners_55 : decode cX6_mourners 55 = .ok (.iconst 0, 1) := dk_3 (dk_at dksX6_mourners_2 7 rfl rfl)
theorem dX6_mourners_56 : decode cX6_mourners 56 = .ok (.istore_n 3, 1) := dk_62 (dk_at dksX6_mourners_2 8 rfl rfl)
theorem dX6_mourners_57 : decode cX6_mourners 57 = .ok (.goto (-28), 3) := dk_167 255 228 (dk_at dksX6_mourners_2 9 rfl rfl)
theorem dX6_mourners_60 : decode cX6_mourners 60 = .ok (.aload_n 0, 1) := dk_42 (dk_at dksX6_mourners_2 12 rfl rfl)
theorem dX6_mourners_61 : decode cX6_mourners 61 = .ok (.iload_n 1, 1) := dk_27 (dk_at dksX6_mourners_2 13 rfl rfl)
theorem dX6_mourners_62 : decode cX6_mourners 62 = .ok (.bipush 39, 2) := dk_16 39 (dk_at dksX6_mourners_2 14 rfl rfl)
theorem dX6_mourners_64 : decode cX6_mourners 64 = .ok (.iload_n 2, 1) := dk_28 (dk_at dksX6_mourners_2 16 rfl rfl)
theorem dX6_mourners_65 : decode cX6_mourners 65 = .ok (.invokevirtual 221, 3) := dk_182 0 221 (dk_at dksX6_mourners_2 17 rfl rfl)
theorem dX6_mourners_68 : decode cX6_mourners 68 = .ok (.istore 4, 2) := dk_54 4 (dk_at dksX6_mourners_2 20 rfl rfl)
theorem dX6_mourners_70 : decode cX6_mourners 70 = .ok (.iload 4, 2) := dk_21 4 (dk_at dksX6_mourners_2 22 rfl rfl)
theorem dX6_mourners_72 : decode cX6_mourners 72 = .ok (.ifCond .ge 6, 3) := dk_156 0 6 (dk_at dksX6_mourners_3 0 rfl rfl)
theorem dX6_mourners_75 : decode cX6_mourners 75 = .ok (.iload 4, 2) := dk_21 4 (dk_at dksX6_mourners_3 3 rfl rfl)
theorem dX6_mourners_77 : decode cX6_mourners 77 = .ok (.ireturn, 1) := dk_172 (dk_at dksX6_mourners_3 5 rfl rfl)
theorem dX6_mourners_78 : decode cX6_mourners 78 = .ok (.iconst 0, 1) := dk_3 (dk_at dksX6_mourners_3 6 rfl rfl)
theorem dX6_mourners_79 : decode cX6_mourners 79 = .ok (.istore 5, 2) := dk_54 5 (dk_at dksX6_mourners_3 7 rfl rfl)
theorem dX6_mourners_81 : decode cX6_mourners 81 = .ok (.iload 5, 2) := dk_21 5 (dk_at dksX6_mourners_3 9 rfl rfl)
theorem dX6_mourners_83 : decode cX6_mourners 83 = .ok (.aload_n 0, 1) := dk_42 (dk_at dksX6_mourners_3 11 rfl rfl)
theorem dX6_mourners_84 : decode cX6_mourners 84 = .ok (.getfield 199, 3) := dk_180 0 199 (dk_at dksX6_mourners_3 12 rfl rfl)
theorem dX6_mourners_87 : decode cX6_mourners 87 = .ok (.if_icmp .ge 86, 3) := dk_162 0 86 (dk_at dksX6_mourners_3 15 rfl rfl)
theorem dX6_mourners_90 : decode cX6_mourners 90 = .ok (.aload_n 0, 1) := dk_42 (dk_at dksX6_mourners_3 18 rfl rfl)
theorem dX6_mourners_91 : decode cX6_mourners 91 = .ok (.getfield 31, 3) := dk_180 0 31 (dk_at dksX6_mourners_3 19 rfl rfl)
theorem dX6_mourners_94 : decode cX6_mourners 94 = .ok (.bipush 13, 2) := dk_16 13 (dk_at dksX6_mourners_3 22 rfl rfl)
theorem dX6_mourners_96 : decode cX6_mourners 96 = .ok (.aload_n 0, 1) := dk_42 (dk_at dksX6_mourners_4 0 rfl rfl)
theorem dX6_mourners_97 : decode cX6_mourners 97 = .ok (.getfield 129, 3) := dk_180 0 129 (dk_at dksX6_mourners_4 1 rfl rfl)
theorem dX6_mourners_100 : decode cX6_mourners 100 = .ok (.iadd, 1) := dk_96 (dk_at dksX6_mourners_4 4 rfl rfl)
theorem dX6_mourners_101 : decode cX6_mourners 101 = .ok (.aload_n 0, 1) := dk_42 (dk_at dksX6_mourners_4 5 rfl rfl)
theorem dX6_mourners_102 : decode cX6_mourners 102 = .ok (.getfield 43, 3) := dk_180 0 43 (dk_at dksX6_mourners_4 6 rfl rfl)
theorem dX6_mourners_105 : decode cX6_mourners 105 = .ok (.iconst 2, 1) := dk_5 (dk_at dksX6_mourners_4 9 rfl rfl)
theorem dX6_mourners_106 : decode cX6_mourners 106 = .ok (.iload 5, 2) := dk_21 5 (dk_at dksX6_mourners_4 10 rfl rfl)
theorem dX6_mourners_108 : decode cX6_mourners 108 = .ok (.imul, 1) := dk_104 (dk_at dksX6_mourners_4 12 rfl rfl)
theorem dX6_mourners_109 : decode cX6_mourners 109 = .ok (.iaload, 1) := dk_46 (dk_at dksX6_mourners_4 13 rfl rfl)
theorem dX6_mourners_110 : decode cX6_mourners 110 = .ok (.iastore, 1) := dk_79 (dk_at dksX6_mourners_4 14 rfl rfl)
theorem dX6_mourners_111 : decode cX6_mourners 111 = .ok (.aload_n 0, 1) := dk_42 (dk_at dksX6_mourners_4 15 rfl rfl)
theorem dX6_mourners_112 : decode cX6_mourners 112 = .ok (.getfield 24, 3) := dk_180 0 24 (dk_at dksX6_mourners_4 16 rfl rfl)
theorem dX6_mourners_115 : decode cX6_mourners 115 = .ok (.aload_n 0, 1) := dk_42 (dk_at dksX6_mourners_4 19 rfl rfl)
theorem dX6_mourners_116 : decode cX6_mourners 116 = .ok (.getfield 129, 3) := dk_180 0 129 (dk_at dksX6_mourners_4 20 rfl rfl)
theorem dX6_mourners_119 : decode cX6_mourners 119 = .ok (.aload_n 0, 1) := dk_42 (dk_at dksX6_mourners_4 23 rfl rfl)
theorem dX6_mourners_120 : decode cX6_mourners 120 = .ok (.getfield 43, 3) := dk_180 0 43 (dk_at dksX6_mourners_5 0 rfl rfl)
theorem dX6_mourners_123 : decode cX6_mourners 123 = .ok (.iconst 2, 1) := dk_5 (dk_at dksX6_mourners_5 3 rfl rfl)
theorem dX6_mourners_124 : decode cX6_mourners 124 = .ok (.iload 5, 2) := dk_21 5 (dk_at dksX6_mourners_5 4 rfl rfl)
theorem dX6_mourners_126 : decode cX6_mourners 126 = .ok (.imul, 1) := dk_104 (dk_at dksX6_mourners_5 6 rfl rfl)
theorem dX6_mourners_127 : decode cX6_mourners 127 = .ok (.iconst 1, 1) := dk_4 (dk_at dksX6_mourners_5 7 rfl rfl)
theorem dX6_mourners_128 : decode cX6_mourners 128 = .ok (.iadd, 1) := dk_96 (dk_at dksX6_mourners_5 8 rfl rfl)
theorem dX6_mourners_129 : decode cX6_mourners 129 = .ok (.iaload, 1) := dk_46 (dk_at dksX6_mourners_5 9 rfl rfl)
theorem dX6_mourners_130 : decode cX6_mourners 130 = .ok (.iastore, 1) := dk_79 (dk_at dksX6_mourners_5 10 rfl rfl)
theorem dX6_mourners_131 : decode cX6_mourners 131 = .ok (.aload_n 0, 1) := dk_42 (dk_at dksX6_mourners_5 11 rfl rfl)
theorem dX6_mourners_132 : decode cX6_mourners 132 = .ok (.getfield 31, 3) := dk_180 0 31 (dk_at dksX6_mourners_5 12 rfl rfl)
theorem dX6_mourners_135 : decode cX6_mourners 135 = .ok (.bipush 21, 2) := dk_16 21 (dk_at dksX6_mourners_5 15 rfl rfl)
theorem dX6_mourners_137 : decode cX6_mourners 137 = .ok (.aload_n 0, 1) := dk_42 (dk_at dksX6_mourners_5 17 rfl rfl)
theorem dX6_mourners_138 : decode cX6_mourners 138 = .ok (.getfield 129, 3) := dk_180 0 129 (dk_at dksX6_mourners_5 18 rfl rfl)
theorem dX6_mourners_141 : decode cX6_mourners 141 = .ok (.iadd, 1) := dk_96 (dk_at dksX6_mourners_5 21 rfl rfl)
theorem dX6_mourners_142 : decode cX6_mourners 142 = .ok (.iconst (-1), 1) := dk_2 (dk_at dksX6_mourners_5 22 rfl rfl)
theorem dX6_mourners_143 : decode cX6_mourners 143 = .ok (.iastore, 1) := dk_79 (dk_at dksX6_mourners_5 23 rfl rfl)
theorem dX6_mourners_144 : decode cX6_mourners 144 = .ok (.aload_n 0, 1) := dk_42 (dk_at dksX6_mourners_6 0 rfl rfl)
theorem dX6_mourners_145 : decode cX6_mourners 145 = .ok (.getfield 31, 3) := dk_180 0 31 (dk_at dksX6_mourners_6 1 rfl rfl)
theorem dX6_mourners_148 : decode cX6_mourners 148 = .ok (.bipush 29, 2) := dk_16 29 (dk_at dksX6_mourners_6 4 rfl rfl)
theorem dX6_mourners_150 : decode cX6_mourners 150 = .ok (.aload_n 0, 1) := dk_42 (dk_at dksX6_mourners_6 6 rfl rfl)
theorem dX6_mourners_151 : decode cX6_mourners 151 = .ok (.getfield 129, 3) := dk_180 0 129 (dk_at dksX6_mourners_6 7 rfl rfl)
theorem dX6_mourners_154 : decode cX6_mourners 154 = .ok (.iadd, 1) := dk_96 (dk_at dksX6_mourners_6 10 rfl rfl)
theorem dX6_mourners_155 : decode cX6_mourners 155 = .ok (.iconst (-1), 1) := dk_2 (dk_at dksX6_mourners_6 11 rfl rfl)
theorem dX6_mourners_156 : decode cX6_mourners 156 = .ok (.iastore, 1) := dk_79 (dk_at dksX6_mourners_6 12 rfl rfl)
theorem dX6_mourners_157 : decode cX6_mourners 157 = .ok (.aload_n 0, 1) := dk_42 (dk_at dksX6_mourners_6 13 rfl rfl)
theorem dX6_mourners_158 : decode cX6_mourners 158 = .ok (.dup, 1) := dk_89 (dk_at dksX6_mourners_6 14 rfl rfl)
theorem dX6_mourners_159 : decode cX6_mourners 159 = .ok (.getfield 129, 3) := dk_180 0 129 (dk_at dksX6_mourners_6 15 rfl rfl)
theorem dX6_mourners_162 : decode cX6_mourners 162 = .ok (.iconst 1, 1) := dk_4 (dk_at dksX6_mourners_6 18 rfl rfl)
theorem dX6_mourners_163 : decode cX6_mourners 163 = .ok (.iadd, 1) := dk_96 (dk_at dksX6_mourners_6 19 rfl rfl)
theorem dX6_mourners_164 : decode cX6_mourners 164 = .ok (.putfield 129, 3) := dk_181 0 129 (dk_at dksX6_mourners_6 20 rfl rfl)
theorem dX6_mourners_167 : decode cX6_mourners 167 = .ok (.iinc 5 1, 3) := dk_132 5 1 (dk_at dksX6_mourners_7 0 rfl rfl)
theorem dX6_mourners_170 : decode cX6_mourners 170 = .ok (.goto (-89), 3) := dk_167 255 167 (dk_at dksX6_mourners_7 3 rfl rfl)
theorem dX6_mourners_173 : decode cX6_mourners 173 = .ok (.aload_n 0, 1) := dk_42 (dk_at dksX6_mourners_7 6 rfl rfl)
theorem dX6_mourners_174 : decode cX6_mourners 174 = .ok (.invokevirtual 225, 3) := dk_182 0 225 (dk_at dksX6_mourners_7 7 rfl rfl)
theorem dX6_mourners_177 : decode cX6_mourners 177 = .ok (.ireturn, 1) := dk_172 (dk_at dksX6_mourners_7 10 rfl rfl)
abbrev cX6_readsMourner : ByteArray := prog_15_method_30_code
def yX6_readsMourner : MethodName := ⟨RX6, "readsMourner", "()Z"⟩
def dkwX6_readsMourner_4 : List UInt8 := [4, 167, 0, 4, 3, 172]
abbrev dktX6_readsMourner_4 : List UInt8 := dkwX6_readsMourner_4 ++ []
def dkwX6_readsMourner_3 : List UInt8 := [180, 0, 199, 4, 96, 181, 0, 199, 42, 180, 0, 43, 5, 42, 180, 0, 199, 104, 4, 100, 46, 155, 0, 7]
abbrev dktX6_readsMourner_3 : List UInt8 := dkwX6_readsMourner_3 ++ dktX6_readsMourner_4
def dkwX6_readsMourner_2 : List UInt8 := [156, 0, 7, 2, 167, 0, 17, 42, 18, 205, 3, 42, 180, 0, 122, 182, 0, 207, 182, 0, 182, 79, 42, 89]
abbrev dktX6_readsMourner_2 : List UInt8 := dkwX6_readsMourner_2 ++ dktX6_readsMourner_3
def dkwX6_readsMourner_1 : List UInt8 := [180, 0, 43, 5, 42, 180, 0, 199, 104, 27, 79, 42, 180, 0, 43, 5, 42, 180, 0, 199, 104, 4, 96, 27]
abbrev dktX6_readsMourner_1 : List UInt8 := dkwX6_readsMourner_1 ++ dktX6_readsMourner_2
def dkwX6_readsMourner_0 : List UInt8 := [42, 180, 0, 129, 42, 180, 0, 199, 96, 16, 8, 160, 0, 5, 3, 172, 42, 3, 182, 0, 202, 60, 42]
abbrev dktX6_readsMourner_0 : List UInt8 := dkwX6_readsMourner_0 ++ dktX6_readsMourner_1
theorem dksX6_readsMourner_0 : cX6_readsMourner.data.toList.drop 0 = dktX6_readsMourner_0 := by decide +kernel
theorem dksX6_readsMourner_1 : cX6_readsMourner.data.toList.drop 23 = dktX6_readsMourner_1 := dk_seg dksX6_readsMourner_0 23 rfl rfl
theorem dksX6_readsMourner_2 : cX6_readsMourner.data.toList.drop 47 = dktX6_readsMourner_2 := dk_seg dksX6_readsMourner_1 24 rfl rfl
theorem dksX6_readsMourner_3 : cX6_readsMourner.data.toList.drop 71 = dktX6_readsMourner_3 := dk_seg dksX6_readsMourner_2 24 rfl rfl
theorem dksX6_readsMourner_4 : cX6_readsMourner.data.toList.drop 95 = dktX6_readsMourner_4 := dk_seg dksX6_readsMourner_3 24 rfl rfl
theorem dX6_readsMourner_0 : decode cX6_readsMourner 0 = .ok (.aload_n 0, 1) := dk_42 (dk_at dksX6_readsMourner_0 0 rfl rfl)
theorem dX6_readsMourner_1 : decode cX6_readsMourner 1 = .ok (.getfield 129, 3) := dk_180 0 129 (dk_at dksX6_readsMourner_0 1 rfl rfl)
theorem dX6_readsMourner_4 : decode cX6_readsMourner 4 = .ok (.aload_n 0, 1) := dk_42 (dk_at dksX6_readsMourner_0 4 rfl rfl)
theorem dX6_readsMourner_5 : decode cX6_readsMourner 5 = .ok (.getfield 199, 3) := dk_180 0 199 (dk_at dksX6_readsMourner_0 5 rfl rfl)
theorem dX6_readsMourner_8 : decode cX6_readsMourner 8 = .ok (.iadd, 1) := dk_96 (dk_at dksX6_readsMourner_0 8 rfl rfl)
theorem dX6_readsMourner_9 : decode cX6_readsMourner 9 = .ok (.bipush 8, 2) := dk_16 8 (dk_at dksX6_readsMourner_0 9 rfl rfl)
theorem dX6_readsMourner_11 : decode cX6_readsMourner 11 = .ok (.if_icmp .ne 5, 3) := dk_160 0 5 (dk_at dksX6_readsMourner_0 11 rfl rfl)
theorem dX6_readsMourner_14 : decode cX6_readsMourner 14 = .ok (.iconst 0, 1) := dk_3 (dk_at dksX6_readsMourner_0 14 rfl rfl)
theorem dX6_readsMourner_15 : decode cX6_readsMourner 15 = .ok (.ireturn, 1) := dk_172 (dk_at dksX6_readsMourner_0 15 rfl rfl)
theorem dX6_readsMourner_16 : decode cX6_readsMourner 16 = .ok (.aload_n 0, 1) := dk_42 (dk_at dksX6_readsMourner_0 16 rfl rfl)
theorem dX6_readsMourner_17 : decode cX6_readsMourner 17 = .ok (.iconst 0, 1) := dk_3 (dk_at dksX6_readsMourner_0 17 rfl rfl)
theorem dX6_readsMourner_18 : decode cX6_readsMourner 18 = .ok (.invokevirtual 202, 3) := dk_182 0 202 (dk_at dksX6_readsMourner_0 18 rfl rfl)
theorem dX6_readsMourner_21 : decode cX6_readsMourner 21 = .ok (.istore_n 1, 1) := dk_60 (dk_at dksX6_readsMourner_0 21 rfl rfl)
theorem dX6_readsMourner_22 : decode cX6_readsMourner 22 = .ok (.aload_n 0, 1) := dk_42 (dk_at dksX6_readsMourner_0 22 rfl rfl)
theorem dX6_readsMourner_23 : decode cX6_readsMourner 23 = .ok (.getfield 43, 3) := dk_180 0 43 (dk_at dksX6_readsMourner_1 0 rfl rfl)
theorem dX6_readsMourner_26 : decode cX6_readsMourner 26 = .ok (.iconst 2, 1) := dk_5 (dk_at dksX6_readsMourner_1 3 rfl rfl)
theorem dX6_readsMourner_27 : decode cX6_readsMourner 27 = .ok (.aload_n 0, 1) := dk_42 (dk_at dksX6_readsMourner_1 4 rfl rfl)
theorem dX6_readsMourner_28 : decode cX6_readsMourner 28 = .ok (.getfield 199, 3) := dk_180 0 199 (dk_at dksX6_readsMourner_1 5 rfl rfl)
theorem dX6_readsMourner_31 : decode cX6_readsMourner 31 = .ok (.imul, 1) := dk_104 (dk_at dksX6_readsMourner_1 8 rfl rfl)
theorem dX6_readsMourner_32 : decode cX6_readsMourner 32 = .ok (.iload_n 1, 1) := dk_27 (dk_at dksX6_readsMourner_1 9 rfl rfl)
theorem dX6_readsMourner_33 : decode cX6_readsMourner 33 = .ok (.iastore, 1) := dk_79 (dk_at dksX6_readsMourner_1 10 rfl rfl)
theorem dX6_readsMourner_34 : decode cX6_readsMourner 34 = .ok (.aload_n 0, 1) := dk_42 (dk_at dksX6_readsMourner_1 11 rfl rfl)
theorem dX6_readsMourner_35 : decode cX6_readsMourner 35 = .ok (.getfield 43, 3) := dk_180 0 43 (dk_at dksX6_readsMourner_1 12 rfl rfl)
theorem dX6_readsMourner_38 : decode cX6_readsMourner 38 = .ok (.iconst 2, 1) := dk_5 (dk_at dksX6_readsMourner_1 15 rfl rfl)
theorem dX6_readsMourner_39 : decode cX6_readsMourner 39 = .ok (.aload_n 0, 1) := dk_42 (dk_at dksX6_readsMourner_1 16 rfl rfl)
theorem dX6_readsMourner_40 : decode cX6_readsMourner 40 = .ok (.getfield 199, 3) := dk_180 0 199 (dk_at dksX6_readsMourner_1 17 rfl rfl)
theorem dX6_readsMourner_43 : decode cX6_readsMourner 43 = .ok (.imul, 1) := dk_104 (dk_at dksX6_readsMourner_1 20 rfl rfl)
theorem dX6_readsMourner_44 : decode cX6_readsMourner 44 = .ok (.iconst 1, 1) := dk_4 (dk_at dksX6_readsMourner_1 21 rfl rfl)
theorem dX6_readsMourner_45 : decode cX6_readsMourner 45 = .ok (.iadd, 1) := dk_96 (dk_at dksX6_readsMourner_1 22 rfl rfl)
theorem dX6_readsMourner_46 : decode cX6_readsMourner 46 = .ok (.iload_n 1, 1) := dk_27 (dk_at dksX6_readsMourner_1 23 rfl rfl)
theorem dX6_readsMourner_47 : decode cX6_readsMourner 47 = .ok (.ifCond .ge 7, 3) := dk_156 0 7 (dk_at dksX6_readsMourner_2 0 rfl rfl)
theorem dX6_readsMourner_50 : decode cX6_readsMourner 50 = .ok (.iconst (-1), 1) := dk_2 (dk_at dksX6_readsMourner_2 3 rfl rfl)
theorem dX6_readsMourner_51 : decode cX6_readsMourner 51 = .ok (.goto 17, 3) := dk_167 0 17 (dk_at dksX6_readsMourner_2 4 rfl rfl)
theorem dX6_readsMourner_54 : decode cX6_readsMourner 54 = .ok (.aload_n 0, 1) := dk_42 (dk_at dksX6_readsMourner_2 7 rfl rfl)
theorem dX6_readsMourner_55 : decode cX6_readsMourner 55 = .ok (.ldc 205, 2) := dk_18 205 (dk_at dksX6_readsMourner_2 8 rfl rfl)
theorem dX6_readsMourner_57 : decode cX6_readsMourner 57 = .ok (.iconst 0, 1) := dk_3 (dk_at dksX6_readsMourner_2 10 rfl rfl)
theorem dX6_readsMourner_58 : decode cX6_readsMourner 58 = .ok (.aload_n 0, 1) := dk_42 (dk_at dksX6_readsMourner_2 11 rfl rfl)
theorem dX6_readsMourner_59 : decode cX6_readsMourner 59 = .ok (.getfield 122, 3) := dk_180 0 122 (dk_at dksX6_readsMourner_2 12 rfl rfl)
theorem dX6_readsMourner_62 : decode cX6_readsMourner 62 = .ok (.invokevirtual 207, 3) := dk_182 0 207 (dk_at dksX6_readsMourner_2 15 rfl rfl)
theorem dX6_readsMourner_65 : decode cX6_readsMourner 65 = .ok (.invokevirtual 182, 3) := dk_182 0 182 (dk_at dksX6_readsMourner_2 18 rfl rfl)
theorem dX6_readsMourner_68 : decode cX6_readsMourner 68 = .ok (.iastore, 1) := dk_79 (dk_at dksX6_readsMourner_2 21 rfl rfl)
theorem dX6_readsMourner_69 : decode cX6_readsMourner 69 = .ok (.aload_n 0, 1) := dk_42 (dk_at dksX6_readsMourner_2 22 rfl rfl)
theorem dX6_readsMourner_70 : decode cX6_readsMourner 70 = .ok (.dup, 1) := dk_89 (dk_at dksX6_readsMourner_2 23 rfl rfl)
theorem dX6_readsMourner_71 : decode cX6_readsMourner 71 = .ok (.getfield 199, 3) := dk_180 0 199 (dk_at dksX6_readsMourner_3 0 rfl rfl)
theorem dX6_readsMourner_74 : decode cX6_readsMourner 74 = .ok (.iconst 1, 1) := dk_4 (dk_at dksX6_readsMourner_3 3 rfl rfl)
theorem dX6_readsMourner_75 : decode cX6_readsMourner 75 = .ok (.iadd, 1) := dk_96 (dk_at dksX6_readsMourner_3 4 rfl rfl)
theorem dX6_readsMourner_76 : decode cX6_readsMourner 76 = .ok (.putfield 199, 3) := dk_181 0 199 (dk_at dksX6_readsMourner_3 5 rfl rfl)
theorem dX6_readsMourner_79 : decode cX6_readsMourner 79 = .ok (.aload_n 0, 1) := dk_42 (dk_at dksX6_readsMourner_3 8 rfl rfl)
theorem dX6_readsMourner_80 : decode cX6_readsMourner 80 = .ok (.getfield 43, 3) := dk_180 0 43 (dk_at dksX6_readsMourner_3 9 rfl rfl)
theorem dX6_readsMourner_83 : decode cX6_readsMourner 83 = .ok (.iconst 2, 1) := dk_5 (dk_at dksX6_readsMourner_3 12 rfl rfl)
theorem dX6_readsMourner_84 : decode cX6_readsMourner 84 = .ok (.aload_n 0, 1) := dk_42 (dk_at dksX6_readsMourner_3 13 rfl rfl)
theorem dX6_readsMourner_85 : decode cX6_readsMourner 85 = .ok (.getfield 199, 3) := dk_180 0 199 (dk_at dksX6_readsMourner_3 14 rfl rfl)
theorem dX6_readsMourner_88 : decode cX6_readsMourner 88 = .ok (.imul, 1) := dk_104 (dk_at dksX6_readsMourner_3 17 rfl rfl)
theorem dX6_readsMourner_89 : decode cX6_readsMourner 89 = .ok (.iconst 1, 1) := dk_4 (dk_at dksX6_readsMourner_3 18 rfl rfl)
theorem dX6_readsMourner_90 : decode cX6_readsMourner 90 = .ok (.isub, 1) := dk_100 (dk_at dksX6_readsMourner_3 19 rfl rfl)
theorem dX6_readsMourner_91 : decode cX6_readsMourner 91 = .ok (.iaload, 1) := dk_46 (dk_at dksX6_readsMourner_3 20 rfl rfl)
theorem dX6_readsMourner_92 : decode cX6_readsMourner 92 = .ok (.ifCond .lt 7, 3) := dk_155 0 7 (dk_at dksX6_readsMourner_3 21 rfl rfl)
theorem dX6_readsMourner_95 : decode cX6_readsMourner 95 = .ok (.iconst 1, 1) := dk_4 (dk_at dksX6_readsMourner_4 0 rfl rfl)
theorem dX6_readsMourner_96 : decode cX6_readsMourner 96 = .ok (.goto 4, 3) := dk_167 0 4 (dk_at dksX6_readsMourner_4 1 rfl rfl)
theorem dX6_readsMourner_99 : decode cX6_readsMourner 99 = .ok (.iconst 0, 1) := dk_3 (dk_at dksX6_readsMourner_4 4 rfl rfl)
theorem dX6_readsMourner_100 : decode cX6_readsMourner 100 = .ok (.ireturn, 1) := dk_172 (dk_at dksX6_readsMourner_4 5 rfl rfl)
abbrev cX6_weather : ByteArray := prog_15_method_34_code
def yX6_weather : MethodName := ⟨RX6, "weather", "()I"⟩
def dkwX6_weather_4 : List UInt8 := [27, 172]
abbrev dktX6_weather_4 : List UInt8 := dkwX6_weather_4 ++ []
def dkwX6_weather_3 : List UInt8 := [61, 28, 27, 162, 0, 21, 42, 180, 0, 28, 28, 42, 180, 0, 46, 28, 46, 79, 132, 2, 1, 167, 255, 236]
abbrev dktX6_weather_3 : List UInt8 := dkwX6_weather_3 ++ dktX6_weather_4
def dkwX6_weather_2 : List UInt8 := [42, 180, 0, 139, 42, 180, 0, 151, 162, 0, 10, 2, 42, 180, 0, 139, 100, 172, 42, 27, 181, 0, 17, 3]
abbrev dktX6_weather_2 : List UInt8 := dkwX6_weather_2 ++ dktX6_weather_3
def dkwX6_weather_1 : List UInt8 := [153, 0, 20, 42, 180, 0, 46, 27, 42, 4, 182, 0, 189, 79, 132, 1, 1, 167, 255, 229, 27, 153, 0, 14]
abbrev dktX6_weather_1 : List UInt8 := dkwX6_weather_1 ++ dktX6_weather_2
def dkwX6_weather_0 : List UInt8 := [42, 3, 181, 0, 112, 42, 16, 80, 182, 0, 176, 87, 3, 60, 27, 16, 20, 162, 0, 27, 42, 182, 0, 172]
abbrev dktX6_weather_0 : List UInt8 := dkwX6_weather_0 ++ dktX6_weather_1
theorem dksX6_weather_0 : cX6_weather.data.toList.drop 0 = dktX6_weather_0 := by decide +kernel
theorem dksX6_weather_1 : cX6_weather.data.toList.drop 24 = dktX6_weather_1 := dk_seg dksX6_weather_0 24 rfl rfl
theorem dksX6_weather_2 : cX6_weather.data.toList.drop 48 = dktX6_weather_2 := dk_seg dksX6_weather_1 24 rfl rfl
theorem dksX6_weather_3 : cX6_weather.data.toList.drop 72 = dktX6_weather_3 := dk_seg dksX6_weather_2 24 rfl rfl
theorem dksX6_weather_4 : cX6_weather.data.toList.drop 96 = dktX6_weather_4 := dk_seg dksX6_weather_3 24 rfl rfl
theorem dX6_weather_0 : decode cX6_weather 0 = .ok (.aload_n 0, 1) := dk_42 (dk_at dksX6_weather_0 0 rfl rfl)
theorem dX6_weather_1 : decode cX6_weather 1 = .ok (.iconst 0, 1) := dk_3 (dk_at dksX6_weather_0 1 rfl rfl)
theorem dX6_weather_2 : decode cX6_weather 2 = .ok (.putfield 112, 3) := dk_181 0 112 (dk_at dksX6_weather_0 2 rfl rfl)
theorem dX6_weather_5 : decode cX6_weather 5 = .ok (.aload_n 0, 1) := dk_42 (dk_at dksX6_weather_0 5 rfl rfl)
theorem dX6_weather_6 : decode cX6_weather 6 = .ok (.bipush 80, 2) := dk_16 80 (dk_at dksX6_weather_0 6 rfl rfl)
theorem dX6_weather_8 : decode cX6_weather 8 = .ok (.invokevirtual 176, 3) := dk_182 0 176 (dk_at dksX6_weather_0 8 rfl rfl)
theorem dX6_weather_11 : decode cX6_weather 11 = .ok (.pop, 1) := dk_87 (dk_at dksX6_weather_0 11 rfl rfl)
theorem dX6_weather_12 : decode cX6_weather 12 = .ok (.iconst 0, 1) := dk_3 (dk_at dksX6_weather_0 12 rfl rfl)
theorem dX6_weather_13 : decode cX6_weather 13 = .ok (.istore_n 1, 1) := dk_60 (dk_at dksX6_weather_0 13 rfl rfl)
theorem dX6_weather_14 : decode cX6_weather 14 = .ok (.iload_n 1, 1) := dk_27 (dk_at dksX6_weather_0 14 rfl rfl)
theorem dX6_weather_15 : decode cX6_weather 15 = .ok (.bipush 20, 2) := dk_16 20 (dk_at dksX6_weather_0 15 rfl rfl)
theorem dX6_weather_17 : decode cX6_weather 17 = .ok (.if_icmp .ge 27, 3) := dk_162 0 27 (dk_at dksX6_weather_0 17 rfl rfl)
theorem dX6_weather_20 : decode cX6_weather 20 = .ok (.aload_n 0, 1) := dk_42 (dk_at dksX6_weather_0 20 rfl rfl)
theorem dX6_weather_21 : decode cX6_weather 21 = .ok (.invokevirtual 172, 3) := dk_182 0 172 (dk_at dksX6_weather_0 21 rfl rfl)
theorem dX6_weather_24 : decode cX6_weather 24 = .ok (.ifCond .eq 20, 3) := dk_153 0 20 (dk_at dksX6_weather_1 0 rfl rfl)
theorem dX6_weather_27 : decode cX6_weather 27 = .ok (.aload_n 0, 1) := dk_42 (dk_at dksX6_weather_1 3 rfl rfl)
theorem dX6_weather_28 : decode cX6_weather 28 = .ok (.getfield 46, 3) := dk_180 0 46 (dk_at dksX6_weather_1 4 rfl rfl)
theorem dX6_weather_31 : decode cX6_weather 31 = .ok (.iload_n 1, 1) := dk_27 (dk_at dksX6_weather_1 7 rfl rfl)
theorem dX6_weather_32 : decode cX6_weather 32 = .ok (.aload_n 0, 1) := dk_42 (dk_at dksX6_weather_1 8 rfl rfl)
theorem dX6_weather_33 : decode cX6_weather 33 = .ok (.iconst 1, 1) := dk_4 (dk_at dksX6_weather_1 9 rfl rfl)
theorem dX6_weather_34 : decode cX6_weather 34 = .ok (.invokevirtual 189, 3) := dk_182 0 189 (dk_at dksX6_weather_1 10 rfl rfl)
theorem dX6_weather_37 : decode cX6_weather 37 = .ok (.iastore, 1) := dk_79 (dk_at dksX6_weather_1 13 rfl rfl)
theorem dX6_weather_38 : decode cX6_weather 38 = .ok (.iinc 1 1, 3) := dk_132 1 1 (dk_at dksX6_weather_1 14 rfl rfl)
theorem dX6_weather_41 : decode cX6_weather 41 = .ok (.goto (-27), 3) := dk_167 255 229 (dk_at dksX6_weather_1 17 rfl rfl)
theorem dX6_weather_44 : decode cX6_weather 44 = .ok (.iload_n 1, 1) := dk_27 (dk_at dksX6_weather_1 20 rfl rfl)
theorem dX6_weather_45 : decode cX6_weather 45 = .ok (.ifCond .eq 14, 3) := dk_153 0 14 (dk_at dksX6_weather_1 21 rfl rfl)
theorem dX6_weather_48 : decode cX6_weather 48 = .ok (.aload_n 0, 1) := dk_42 (dk_at dksX6_weather_2 0 rfl rfl)
theorem dX6_weather_49 : decode cX6_weather 49 = .ok (.getfield 139, 3) := dk_180 0 139 (dk_at dksX6_weather_2 1 rfl rfl)
theorem dX6_weather_52 : decode cX6_weather 52 = .ok (.aload_n 0, 1) := dk_42 (dk_at dksX6_weather_2 4 rfl rfl)
theorem dX6_weather_53 : decode cX6_weather 53 = .ok (.getfield 151, 3) := dk_180 0 151 (dk_at dksX6_weather_2 5 rfl rfl)
theorem dX6_weather_56 : decode cX6_weather 56 = .ok (.if_icmp .ge 10, 3) := dk_162 0 10 (dk_at dksX6_weather_2 8 rfl rfl)
theorem dX6_weather_59 : decode cX6_weather 59 = .ok (.iconst (-1), 1) := dk_2 (dk_at dksX6_weather_2 11 rfl rfl)
theorem dX6_weather_60 : decode cX6_weather 60 = .ok (.aload_n 0, 1) := dk_42 (dk_at dksX6_weather_2 12 rfl rfl)
theorem dX6_weather_61 : decode cX6_weather 61 = .ok (.getfield 139, 3) := dk_180 0 139 (dk_at dksX6_weather_2 13 rfl rfl)
theorem dX6_weather_64 : decode cX6_weather 64 = .ok (.isub, 1) := dk_100 (dk_at dksX6_weather_2 16 rfl rfl)
theorem dX6_weather_65 : decode cX6_weather 65 = .ok (.ireturn, 1) := dk_172 (dk_at dksX6_weather_2 17 rfl rfl)
theorem dX6_weather_66 : decode cX6_weather 66 = .ok (.aload_n 0, 1) := dk_42 (dk_at dksX6_weather_2 18 rfl rfl)
theorem dX6_weather_67 : decode cX6_weather 67 = .ok (.iload_n 1, 1) := dk_27 (dk_at dksX6_weather_2 19 rfl rfl)
theorem dX6_weather_68 : decode cX6_weather 68 = .ok (.putfield 17, 3) := dk_181 0 17 (dk_at dksX6_weather_2 20 rfl rfl)
theorem dX6_weather_71 : decode cX6_weather 71 = .ok (.iconst 0, 1) := dk_3 (dk_at dksX6_weather_2 23 rfl rfl)
theorem dX6_weather_72 : decode cX6_weather 72 = .ok (.istore_n 2, 1) := dk_61 (dk_at dksX6_weather_3 0 rfl rfl)
theorem dX6_weather_73 : decode cX6_weather 73 = .ok (.iload_n 2, 1) := dk_28 (dk_at dksX6_weather_3 1 rfl rfl)
theorem dX6_weather_74 : decode cX6_weather 74 = .ok (.iload_n 1, 1) := dk_27 (dk_at dksX6_weather_3 2 rfl rfl)
theorem dX6_weather_75 : decode cX6_weather 75 = .ok (.if_icmp .ge 21, 3) := dk_162 0 21 (dk_at dksX6_weather_3 3 rfl rfl)
theorem dX6_weather_78 : decode cX6_weather 78 = .ok (.aload_n 0, 1) := dk_42 (dk_at dksX6_weather_3 6 rfl rfl)
theorem dX6_weather_79 : decode cX6_weather 79 = .ok (.getfield 28, 3) := dk_180 0 28 (dk_at dksX6_weather_3 7 rfl rfl)
theorem dX6_weather_82 : decode cX6_weather 82 = .ok (.iload_n 2, 1) := dk_28 (dk_at dksX6_weather_3 10 rfl rfl)
theorem dX6_weather_83 : decode cX6_weather 83 = .ok (.aload_n 0, 1) := dk_42 (dk_at dksX6_weather_3 11 rfl rfl)
theorem dX6_weather_84 : decode cX6_weather 84 = .ok (.getfield 46, 3) := dk_180 0 46 (dk_at dksX6_weather_3 12 rfl rfl)
theorem dX6_weather_87 : decode cX6_weather 87 = .ok (.iload_n 2, 1) := dk_28 (dk_at dksX6_weather_3 15 rfl rfl)
theorem dX6_weather_88 : decode cX6_weather 88 = .ok (.iaload, 1) := dk_46 (dk_at dksX6_weather_3 16 rfl rfl)
theorem dX6_weather_89 : decode cX6_weather 89 = .ok (.iastore, 1) := dk_79 (dk_at dksX6_weather_3 17 rfl rfl)
theorem dX6_weather_90 : decode cX6_weather 90 = .ok (.iinc 2 1, 3) := dk_132 2 1 (dk_at dksX6_weather_3 18 rfl rfl)
theorem dX6_weather_93 : decode cX6_weather 93 = .ok (.goto (-20), 3) := dk_167 255 236 (dk_at dksX6_weather_3 21 rfl rfl)
theorem dX6_weather_96 : decode cX6_weather 96 = .ok (.iload_n 1, 1) := dk_27 (dk_at dksX6_weather_4 0 rfl rfl)
theorem dX6_weather_97 : decode cX6_weather 97 = .ok (.ireturn, 1) := dk_172 (dk_at dksX6_weather_4 1 rfl rfl)
abbrev cX6_rule : ByteArray := prog_15_method_41_code
def yX6_rule : MethodName := ⟨RX6, "rule", "()I"⟩
def dkwX6_rule_1 : List UInt8 := [182, 1, 2, 27, 172]
abbrev dktX6_rule_1 : List UInt8 := dkwX6_rule_1 ++ []
def dkwX6_rule_0 : List UInt8 := [42, 3, 181, 0, 112, 42, 182, 0, 255, 60, 27, 154, 0, 15, 42, 42, 180, 0, 52, 42, 180, 0, 231]
abbrev dktX6_rule_0 : List UInt8 := dkwX6_rule_0 ++ dktX6_rule_1
theorem dksX6_rule_0 : cX6_rule.data.toList.drop 0 = dktX6_rule_0 := by decide +kernel
theorem dksX6_rule_1 : cX6_rule.data.toList.drop 23 = dktX6_rule_1 := dk_seg dksX6_rule_0 23 rfl rfl
theorem dX6_rule_0 : decode cX6_rule 0 = .ok (.aload_n 0, 1) := dk_42 (dk_at dksX6_rule_0 0 rfl rfl)
theorem dX6_rule_1 : decode cX6_rule 1 = .ok (.iconst 0, 1) := dk_3 (dk_at dksX6_rule_0 1 rfl rfl)
theorem dX6_rule_2 : decode cX6_rule 2 = .ok (.putfield 112, 3) := dk_181 0 112 (dk_at dksX6_rule_0 2 rfl rfl)
theorem dX6_rule_5 : decode cX6_rule 5 = .ok (.aload_n 0, 1) := dk_42 (dk_at dksX6_rule_0 5 rfl rfl)
theorem dX6_rule_6 : decode cX6_rule 6 = .ok (.invokevirtual 255, 3) := dk_182 0 255 (dk_at dksX6_rule_0 6 rfl rfl)
theorem dX6_rule_9 : decode cX6_rule 9 = .ok (.istore_n 1, 1) := dk_60 (dk_at dksX6_rule_0 9 rfl rfl)
theorem dX6_rule_10 : decode cX6_rule 10 = .ok (.iload_n 1, 1) := dk_27 (dk_at dksX6_rule_0 10 rfl rfl)
theorem dX6_rule_11 : decode cX6_rule 11 = .ok (.ifCond .ne 15, 3) := dk_154 0 15 (dk_at dksX6_rule_0 11 rfl rfl)
theorem dX6_rule_14 : decode cX6_rule 14 = .ok (.aload_n 0, 1) := dk_42 (dk_at dksX6_rule_0 14 rfl rfl)
theorem dX6_rule_15 : decode cX6_rule 15 = .ok (.aload_n 0, 1) := dk_42 (dk_at dksX6_rule_0 15 rfl rfl)
theorem dX6_rule_16 : decode cX6_rule 16 = .ok (.getfield 52, 3) := dk_180 0 52 (dk_at dksX6_rule_0 16 rfl rfl)
theorem dX6_rule_19 : decode cX6_rule 19 = .ok (.aload_n 0, 1) := dk_42 (dk_at dksX6_rule_0 19 rfl rfl)
theorem dX6_rule_20 : decode cX6_rule 20 = .ok (.getfield 231, 3) := dk_180 0 231 (dk_at dksX6_rule_0 20 rfl rfl)
theorem dX6_rule_23 : decode cX6_rule 23 = .ok (.invokevirtual 258, 3) := dk_182 1 2 (dk_at dksX6_rule_1 0 rfl rfl)
theorem dX6_rule_26 : decode cX6_rule 26 = .ok (.iload_n 1, 1) := dk_27 (dk_at dksX6_rule_1 3 rfl rfl)
theorem dX6_rule_27 : decode cX6_rule 27 = .ok (.ireturn, 1) := dk_172 (dk_at dksX6_rule_1 4 rfl rfl)
abbrev cX6_readsRule : ByteArray := prog_15_method_39_code
def yX6_readsRule : MethodName := ⟨RX6, "readsRule", "()I"⟩
def dkwX6_readsRule_1 : List UInt8 := [4, 167, 0, 4, 3, 61, 42, 27, 16, 40, 28, 182, 0, 221, 172]
abbrev dktX6_readsRule_1 : List UInt8 := dkwX6_readsRule_1 ++ []
def dkwX6_readsRule_0 : List UInt8 := [42, 16, 40, 182, 0, 176, 60, 42, 3, 181, 0, 231, 27, 153, 0, 11, 42, 3, 182, 0, 243, 153, 0, 7]
abbrev dktX6_readsRule_0 : List UInt8 := dkwX6_readsRule_0 ++ dktX6_readsRule_1
theorem dksX6_readsRule_0 : cX6_readsRule.data.toList.drop 0 = dktX6_readsRule_0 := by decide +kernel
theorem dksX6_readsRule_1 : cX6_readsRule.data.toList.drop 24 = dktX6_readsRule_1 := dk_seg dksX6_readsRule_0 24 rfl rfl
theorem dX6_readsRule_0 : decode cX6_readsRule 0 = .ok (.aload_n 0, 1) := dk_42 (dk_at dksX6_readsRule_0 0 rfl rfl)
theorem dX6_readsRule_1 : decode cX6_readsRule 1 = .ok (.bipush 40, 2) := dk_16 40 (dk_at dksX6_readsRule_0 1 rfl rfl)
theorem dX6_readsRule_3 : decode cX6_readsRule 3 = .ok (.invokevirtual 176, 3) := dk_182 0 176 (dk_at dksX6_readsRule_0 3 rfl rfl)
theorem dX6_readsRule_6 : decode cX6_readsRule 6 = .ok (.istore_n 1, 1) := dk_60 (dk_at dksX6_readsRule_0 6 rfl rfl)
theorem dX6_readsRule_7 : decode cX6_readsRule 7 = .ok (.aload_n 0, 1) := dk_42 (dk_at dksX6_readsRule_0 7 rfl rfl)
theorem dX6_readsRule_8 : decode cX6_readsRule 8 = .ok (.iconst 0, 1) := dk_3 (dk_at dksX6_readsRule_0 8 rfl rfl)
theorem dX6_readsRule_9 : decode cX6_readsRule 9 = .ok (.putfield 231, 3) := dk_181 0 231 (dk_at dksX6_readsRule_0 9 rfl rfl)
theorem dX6_readsRule_12 : decode cX6_readsRule 12 = .ok (.iload_n 1, 1) := dk_27 (dk_at dksX6_readsRule_0 12 rfl rfl)
theorem dX6_readsRule_13 : decode cX6_readsRule 13 = .ok (.ifCond .eq 11, 3) := dk_153 0 11 (dk_at dksX6_readsRule_0 13 rfl rfl)
theorem dX6_readsRule_16 : decode cX6_readsRule 16 = .ok (.aload_n 0, 1) := dk_42 (dk_at dksX6_readsRule_0 16 rfl rfl)
theorem dX6_readsRule_17 : decode cX6_readsRule 17 = .ok (.iconst 0, 1) := dk_3 (dk_at dksX6_readsRule_0 17 rfl rfl)
theorem dX6_readsRule_18 : decode cX6_readsRule 18 = .ok (.invokevirtual 243, 3) := dk_182 0 243 (dk_at dksX6_readsRule_0 18 rfl rfl)
theorem dX6_readsRule_21 : decode cX6_readsRule 21 = .ok (.ifCond .eq 7, 3) := dk_153 0 7 (dk_at dksX6_readsRule_0 21 rfl rfl)
theorem dX6_readsRule_24 : decode cX6_readsRule 24 = .ok (.iconst 1, 1) := dk_4 (dk_at dksX6_readsRule_1 0 rfl rfl)
theorem dX6_readsRule_25 : decode cX6_readsRule 25 = .ok (.goto 4, 3) := dk_167 0 4 (dk_at dksX6_readsRule_1 1 rfl rfl)
theorem dX6_readsRule_28 : decode cX6_readsRule 28 = .ok (.iconst 0, 1) := dk_3 (dk_at dksX6_readsRule_1 4 rfl rfl)
theorem dX6_readsRule_29 : decode cX6_readsRule 29 = .ok (.istore_n 2, 1) := dk_61 (dk_at dksX6_readsRule_1 5 rfl rfl)
theorem dX6_readsRule_30 : decode cX6_readsRule 30 = .ok (.aload_n 0, 1) := dk_42 (dk_at dksX6_readsRule_1 6 rfl rfl)
theorem dX6_readsRule_31 : decode cX6_readsRule 31 = .ok (.iload_n 1, 1) := dk_27 (dk_at dksX6_readsRule_1 7 rfl rfl)
theorem dX6_readsRule_32 : decode cX6_readsRule 32 = .ok (.bipush 40, 2) := dk_16 40 (dk_at dksX6_readsRule_1 8 rfl rfl)
theorem dX6_readsRule_34 : decode cX6_readsRule 34 = .ok (.iload_n 2, 1) := dk_28 (dk_at dksX6_readsRule_1 10 rfl rfl)
theorem dX6_readsRule_35 : decode cX6_readsRule 35 = .ok (.invokevirtual 221, 3) := dk_182 0 221 (dk_at dksX6_readsRule_1 11 rfl rfl)
theorem dX6_readsRule_38 : decode cX6_readsRule 38 = .ok (.ireturn, 1) := dk_172 (dk_at dksX6_readsRule_1 14 rfl rfl)
abbrev cX6_readsRank : ByteArray := prog_15_method_38_code
def yX6_readsRank : MethodName := ⟨RX6, "readsRank", "(I)Z"⟩
def dkwX6_readsRank_4 : List UInt8 := [96, 182, 0, 237, 27, 158, 0, 7, 4, 167, 0, 4, 3, 61, 167, 255, 170, 4, 172]
abbrev dktX6_readsRank_4 : List UInt8 := dkwX6_readsRank_4 ++ []
def dkwX6_readsRank_3 : List UInt8 := [42, 17, 7, 208, 29, 96, 27, 154, 0, 7, 3, 167, 0, 13, 27, 4, 160, 0, 7, 6, 167, 0, 4, 8]
abbrev dktX6_readsRank_3 : List UInt8 := dkwX6_readsRank_3 ++ dktX6_readsRank_4
def dkwX6_readsRank_2 : List UInt8 := [18, 250, 182, 0, 182, 62, 29, 156, 0, 5, 4, 172, 42, 27, 4, 96, 182, 0, 243, 154, 0, 5, 3, 172]
abbrev dktX6_readsRank_2 : List UInt8 := dkwX6_readsRank_2 ++ dktX6_readsRank_3
def dkwX6_readsRank_1 : List UInt8 := [28, 153, 0, 88, 42, 27, 154, 0, 8, 18, 246, 167, 0, 15, 27, 4, 160, 0, 8, 18, 248, 167, 0, 5]
abbrev dktX6_readsRank_1 : List UInt8 := dkwX6_readsRank_1 ++ dktX6_readsRank_2
def dkwX6_readsRank_0 : List UInt8 := [27, 6, 160, 0, 8, 42, 182, 0, 234, 172, 42, 27, 4, 96, 182, 0, 243, 154, 0, 5, 3, 172, 4, 61]
abbrev dktX6_readsRank_0 : List UInt8 := dkwX6_readsRank_0 ++ dktX6_readsRank_1
theorem dksX6_readsRank_0 : cX6_readsRank.data.toList.drop 0 = dktX6_readsRank_0 := by decide +kernel
theorem dksX6_readsRank_1 : cX6_readsRank.data.toList.drop 24 = dktX6_readsRank_1 := dk_seg dksX6_readsRank_0 24 rfl rfl
theorem dksX6_readsRank_2 : cX6_readsRank.data.toList.drop 48 = dktX6_readsRank_2 := dk_seg dksX6_readsRank_1 24 rfl rfl
theorem dksX6_readsRank_3 : cX6_readsRank.data.toList.drop 72 = dktX6_readsRank_3 := dk_seg dksX6_readsRank_2 24 rfl rfl
theorem dksX6_readsRank_4 : cX6_readsRank.data.toList.drop 96 = dktX6_readsRank_4 := dk_seg dksX6_readsRank_3 24 rfl rfl
theorem dX6_readsRank_0 : decode cX6_readsRank 0 = .ok (.iload_n 1, 1) := dk_27 (dk_at dksX6_readsRank_0 0 rfl rfl)
theorem dX6_readsRank_1 : decode cX6_readsRank 1 = .ok (.iconst 3, 1) := dk_6 (dk_at dksX6_readsRank_0 1 rfl rfl)
theorem dX6_readsRank_2 : decode cX6_readsRank 2 = .ok (.if_icmp .ne 8, 3) := dk_160 0 8 (dk_at dksX6_readsRank_0 2 rfl rfl)
theorem dX6_readsRank_5 : decode cX6_readsRank 5 = .ok (.aload_n 0, 1) := dk_42 (dk_at dksX6_readsRank_0 5 rfl rfl)
theorem dX6_readsRank_6 : decode cX6_readsRank 6 = .ok (.invokevirtual 234, 3) := dk_182 0 234 (dk_at dksX6_readsRank_0 6 rfl rfl)
theorem dX6_readsRank_9 : decode cX6_readsRank 9 = .ok (.ireturn, 1) := dk_172 (dk_at dksX6_readsRank_0 9 rfl rfl)
theorem dX6_readsRank_10 : decode cX6_readsRank 10 = .ok (.aload_n 0, 1) := dk_42 (dk_at dksX6_readsRank_0 10 rfl rfl)
theorem dX6_readsRank_11 : decode cX6_readsRank 11 = .ok (.iload_n 1, 1) := dk_27 (dk_at dksX6_readsRank_0 11 rfl rfl)
theorem dX6_readsRank_12 : decode cX6_readsRank 12 = .ok (.iconst 1, 1) := dk_4 (dk_at dksX6_readsRank_0 12 rfl rfl)
theorem dX6_readsRank_13 : decode cX6_readsRank 13 = .ok (.iadd, 1) := dk_96 (dk_at dksX6_readsRank_0 13 rfl rfl)
theorem dX6_readsRank_14 : decode cX6_readsRank 14 = .ok (.invokevirtual 243, 3) := dk_182 0 243 (dk_at dksX6_readsRank_0 14 rfl rfl)
theorem dX6_readsRank_17 : decode cX6_readsRank 17 = .ok (.ifCond .ne 5, 3) := dk_154 0 5 (dk_at dksX6_readsRank_0 17 rfl rfl)
theorem dX6_readsRank_20 : decode cX6_readsRank 20 = .ok (.iconst 0, 1) := dk_3 (dk_at dksX6_readsRank_0 20 rfl rfl)
theorem dX6_readsRank_21 : decode cX6_readsRank 21 = .ok (.ireturn, 1) := dk_172 (dk_at dksX6_readsRank_0 21 rfl rfl)
theorem dX6_readsRank_22 : decode cX6_readsRank 22 = .ok (.iconst 1, 1) := dk_4 (dk_at dksX6_readsRank_0 22 rfl rfl)
theorem dX6_readsRank_23 : decode cX6_readsRank 23 = .ok (.istore_n 2, 1) := dk_61 (dk_at dksX6_readsRank_0 23 rfl rfl)
theorem dX6_readsRank_24 : decode cX6_readsRank 24 = .ok (.iload_n 2, 1) := dk_28 (dk_at dksX6_readsRank_1 0 rfl rfl)
theorem dX6_readsRank_25 : decode cX6_readsRank 25 = .ok (.ifCond .eq 88, 3) := dk_153 0 88 (dk_at dksX6_readsRank_1 1 rfl rfl)
theorem dX6_readsRank_28 : decode cX6_readsRank 28 = .ok (.aload_n 0, 1) := dk_42 (dk_at dksX6_readsRank_1 4 rfl rfl)
theorem dX6_readsRank_29 : decode cX6_readsRank 29 = .ok (.iload_n 1, 1) := dk_27 (dk_at dksX6_readsRank_1 5 rfl rfl)
theorem dX6_readsRank_30 : decode cX6_readsRank 30 = .ok (.ifCond .ne 8, 3) := dk_154 0 8 (dk_at dksX6_readsRank_1 6 rfl rfl)
theorem dX6_readsRank_33 : decode cX6_readsRank 33 = .ok (.ldc 246, 2) := dk_18 246 (dk_at dksX6_readsRank_1 9 rfl rfl)
theorem dX6_readsRank_35 : decode cX6_readsRank 35 = .ok (.goto 15, 3) := dk_167 0 15 (dk_at dksX6_readsRank_1 11 rfl rfl)
theorem dX6_readsRank_38 : decode cX6_readsRank 38 = .ok (.iload_n 1, 1) := dk_27 (dk_at dksX6_readsRank_1 14 rfl rfl)
theorem dX6_readsRank_39 : decode cX6_readsRank 39 = .ok (.iconst 1, 1) := dk_4 (dk_at dksX6_readsRank_1 15 rfl rfl)
theorem dX6_readsRank_40 : decode cX6_readsRank 40 = .ok (.if_icmp .ne 8, 3) := dk_160 0 8 (dk_at dksX6_readsRank_1 16 rfl rfl)
theorem dX6_readsRank_43 : decode cX6_readsRank 43 = .ok (.ldc 248, 2) := dk_18 248 (dk_at dksX6_readsRank_1 19 rfl rfl)
theorem dX6_readsRank_45 : decode cX6_readsRank 45 = .ok (.goto 5, 3) := dk_167 0 5 (dk_at dksX6_readsRank_1 21 rfl rfl)
theorem dX6_readsRank_48 : decode cX6_readsRank 48 = .ok (.ldc 250, 2) := dk_18 250 (dk_at dksX6_readsRank_2 0 rfl rfl)
theorem dX6_readsRank_50 : decode cX6_readsRank 50 = .ok (.invokevirtual 182, 3) := dk_182 0 182 (dk_at dksX6_readsRank_2 2 rfl rfl)
theorem dX6_readsRank_53 : decode cX6_readsRank 53 = .ok (.istore_n 3, 1) := dk_62 (dk_at dksX6_readsRank_2 5 rfl rfl)
theorem dX6_readsRank_54 : decode cX6_readsRank 54 = .ok (.iload_n 3, 1) := dk_29 (dk_at dksX6_readsRank_2 6 rfl rfl)
theorem dX6_readsRank_55 : decode cX6_readsRank 55 = .ok (.ifCond .ge 5, 3) := dk_156 0 5 (dk_at dksX6_readsRank_2 7 rfl rfl)
theorem dX6_readsRank_58 : decode cX6_readsRank 58 = .ok (.iconst 1, 1) := dk_4 (dk_at dksX6_readsRank_2 10 rfl rfl)
theorem dX6_readsRank_59 : decode cX6_readsRank 59 = .ok (.ireturn, 1) := dk_172 (dk_at dksX6_readsRank_2 11 rfl rfl)
theorem dX6_readsRank_60 : decode cX6_readsRank 60 = .ok (.aload_n 0, 1) := dk_42 (dk_at dksX6_readsRank_2 12 rfl rfl)
theorem dX6_readsRank_61 : decode cX6_readsRank 61 = .ok (.iload_n 1, 1) := dk_27 (dk_at dksX6_readsRank_2 13 rfl rfl)
theorem dX6_readsRank_62 : decode cX6_readsRank 62 = .ok (.iconst 1, 1) := dk_4 (dk_at dksX6_readsRank_2 14 rfl rfl)
theorem dX6_readsRank_63 : decode cX6_readsRank 63 = .ok (.iadd, 1) := dk_96 (dk_at dksX6_readsRank_2 15 rfl rfl)
theorem dX6_readsRank_64 : decode cX6_readsRank 64 = .ok (.invokevirtual 243, 3) := dk_182 0 243 (dk_at dksX6_readsRank_2 16 rfl rfl)
theorem dX6_readsRank_67 : decode cX6_readsRank 67 = .ok (.ifCond .ne 5, 3) := dk_154 0 5 (dk_at dksX6_readsRank_2 19 rfl rfl)
theorem dX6_readsRank_70 : decode cX6_readsRank 70 = .ok (.iconst 0, 1) := dk_3 (dk_at dksX6_readsRank_2 22 rfl rfl)
theorem dX6_readsRank_71 : decode cX6_readsRank 71 = .ok (.ireturn, 1) := dk_172 (dk_at dksX6_readsRank_2 23 rfl rfl)
theorem dX6_readsRank_72 : decode cX6_readsRank 72 = .ok (.aload_n 0, 1) := dk_42 (dk_at dksX6_readsRank_3 0 rfl rfl)
theorem dX6_readsRank_73 : decode cX6_readsRank 73 = .ok (.sipush 2000, 3) := dk_17 7 208 (dk_at dksX6_readsRank_3 1 rfl rfl)
theorem dX6_readsRank_76 : decode cX6_readsRank 76 = .ok (.iload_n 3, 1) := dk_29 (dk_at dksX6_readsRank_3 4 rfl rfl)
theorem dX6_readsRank_77 : decode cX6_readsRank 77 = .ok (.iadd, 1) := dk_96 (dk_at dksX6_readsRank_3 5 rfl rfl)
theorem dX6_readsRank_78 : decode cX6_readsRank 78 = .ok (.iload_n 1, 1) := dk_27 (dk_at dksX6_readsRank_3 6 rfl rfl)
theorem dX6_readsRank_79 : decode cX6_readsRank 79 = .ok (.ifCond .ne 7, 3) := dk_154 0 7 (dk_at dksX6_readsRank_3 7 rfl rfl)
theorem dX6_readsRank_82 : decode cX6_readsRank 82 = .ok (.iconst 0, 1) := dk_3 (dk_at dksX6_readsRank_3 10 rfl rfl)
theorem dX6_readsRank_83 : decode cX6_readsRank 83 = .ok (.goto 13, 3) := dk_167 0 13 (dk_at dksX6_readsRank_3 11 rfl rfl)
theorem dX6_readsRank_86 : decode cX6_readsRank 86 = .ok (.iload_n 1, 1) := dk_27 (dk_at dksX6_readsRank_3 14 rfl rfl)
theorem dX6_readsRank_87 : decode cX6_readsRank 87 = .ok (.iconst 1, 1) := dk_4 (dk_at dksX6_readsRank_3 15 rfl rfl)
theorem dX6_readsRank_88 : decode cX6_readsRank 88 = .ok (.if_icmp .ne 7, 3) := dk_160 0 7 (dk_at dksX6_readsRank_3 16 rfl rfl)
theorem dX6_readsRank_91 : decode cX6_readsRank 91 = .ok (.iconst 3, 1) := dk_6 (dk_at dksX6_readsRank_3 19 rfl rfl)
theorem dX6_readsRank_92 : decode cX6_readsRank 92 = .ok (.goto 4, 3) := dk_167 0 4 (dk_at dksX6_readsRank_3 20 rfl rfl)
theorem dX6_readsRank_95 : decode cX6_readsRank 95 = .ok (.iconst 5, 1) := dk_8 (dk_at dksX6_readsRank_3 23 rfl rfl)
theorem dX6_readsRank_96 : decode cX6_readsRank 96 = .ok (.iadd, 1) := dk_96 (dk_at dksX6_readsRank_4 0 rfl rfl)
theorem dX6_readsRank_97 : decode cX6_readsRank 97 = .ok (.invokevirtual 237, 3) := dk_182 0 237 (dk_at dksX6_readsRank_4 1 rfl rfl)
theorem dX6_readsRank_100 : decode cX6_readsRank 100 = .ok (.iload_n 1, 1) := dk_27 (dk_at dksX6_readsRank_4 4 rfl rfl)
theorem dX6_readsRank_101 : decode cX6_readsRank 101 = .ok (.ifCond .le 7, 3) := dk_158 0 7 (dk_at dksX6_readsRank_4 5 rfl rfl)
theorem dX6_readsRank_104 : decode cX6_readsRank 104 = .ok (.iconst 1, 1) := dk_4 (dk_at dksX6_readsRank_4 8 rfl rfl)
theorem dX6_readsRank_105 : decode cX6_readsRank 105 = .ok (.goto 4, 3) := dk_167 0 4 (dk_at dksX6_readsRank_4 9 rfl rfl)
theorem dX6_readsRank_108 : decode cX6_readsRank 108 = .ok (.iconst 0, 1) := dk_3 (dk_at dksX6_readsRank_4 12 rfl rfl)
theorem dX6_readsRank_109 : decode cX6_readsRank 109 = .ok (.istore_n 2, 1) := dk_61 (dk_at dksX6_readsRank_4 13 rfl rfl)
theorem dX6_readsRank_110 : decode cX6_readsRank 110 = .ok (.goto (-86), 3) := dk_167 255 170 (dk_at dksX6_readsRank_4 14 rfl rfl)
theorem dX6_readsRank_113 : decode cX6_readsRank 113 = .ok (.iconst 1, 1) := dk_4 (dk_at dksX6_readsRank_4 17 rfl rfl)
theorem dX6_readsRank_114 : decode cX6_readsRank 114 = .ok (.ireturn, 1) := dk_172 (dk_at dksX6_readsRank_4 18 rfl rfl)
abbrev cX6_readsThing : ByteArray := prog_15_method_37_code
def yX6_readsThing : MethodName := ⟨RX6, "readsThing", "()Z"⟩
def dkwX6_readsThing_5 : List UInt8 := [181, 0, 142, 4, 172]
abbrev dktX6_readsThing_5 : List UInt8 := dkwX6_readsThing_5 ++ []
def dkwX6_readsThing_4 : List UInt8 := [182, 0, 243, 153, 0, 12, 42, 16, 41, 182, 0, 217, 154, 0, 5, 3, 172, 42, 89, 180, 0, 142, 4, 100]
abbrev dktX6_readsThing_4 : List UInt8 := dkwX6_readsThing_4 ++ dktX6_readsThing_5
def dkwX6_readsThing_3 : List UInt8 := [16, 40, 182, 0, 217, 154, 0, 5, 3, 172, 42, 89, 180, 0, 142, 4, 96, 181, 0, 142, 42, 3]
abbrev dktX6_readsThing_3 : List UInt8 := dkwX6_readsThing_3 ++ dktX6_readsThing_4
def dkwX6_readsThing_2 : List UInt8 := [27, 155, 0, 14, 42, 17, 3, 232, 27, 96, 182, 0, 237, 4, 172, 42, 180, 0, 142, 7, 159, 0, 12, 42]
abbrev dktX6_readsThing_2 : List UInt8 := dkwX6_readsThing_2 ++ dktX6_readsThing_3
def dkwX6_readsThing_1 : List UInt8 := [182, 0, 172, 153, 0, 14, 42, 42, 6, 182, 0, 189, 182, 0, 237, 4, 172, 42, 18, 241, 182, 0, 182, 60]
abbrev dktX6_readsThing_1 : List UInt8 := dkwX6_readsThing_1 ++ dktX6_readsThing_2
def dkwX6_readsThing_0 : List UInt8 := [42, 16, 45, 182, 0, 217, 153, 0, 17, 42, 182, 0, 234, 60, 42, 17, 11, 184, 182, 0, 237, 27, 172, 42]
abbrev dktX6_readsThing_0 : List UInt8 := dkwX6_readsThing_0 ++ dktX6_readsThing_1
theorem dksX6_readsThing_0 : cX6_readsThing.data.toList.drop 0 = dktX6_readsThing_0 := by decide +kernel
theorem dksX6_readsThing_1 : cX6_readsThing.data.toList.drop 24 = dktX6_readsThing_1 := dk_seg dksX6_readsThing_0 24 rfl rfl
theorem dksX6_readsThing_2 : cX6_readsThing.data.toList.drop 48 = dktX6_readsThing_2 := dk_seg dksX6_readsThing_1 24 rfl rfl
theorem dksX6_readsThing_3 : cX6_readsThing.data.toList.drop 72 = dktX6_readsThing_3 := dk_seg dksX6_readsThing_2 24 rfl rfl
theorem dksX6_readsThing_4 : cX6_readsThing.data.toList.drop 94 = dktX6_readsThing_4 := dk_seg dksX6_readsThing_3 22 rfl rfl
theorem dksX6_readsThing_5 : cX6_readsThing.data.toList.drop 118 = dktX6_readsThing_5 := dk_seg dksX6_readsThing_4 24 rfl rfl
theorem dX6_readsThing_0 : decode cX6_readsThing 0 = .ok (.aload_n 0, 1) := dk_42 (dk_at dksX6_readsThing_0 0 rfl rfl)
theorem dX6_readsThing_1 : decode cX6_readsThing 1 = .ok (.bipush 45, 2) := dk_16 45 (dk_at dksX6_readsThing_0 1 rfl rfl)
theorem dX6_readsThing_3 : decode cX6_readsThing 3 = .ok (.invokevirtual 217, 3) := dk_182 0 217 (dk_at dksX6_readsThing_0 3 rfl rfl)
theorem dX6_readsThing_6 : decode cX6_readsThing 6 = .ok (.ifCond .eq 17, 3) := dk_153 0 17 (dk_at dksX6_readsThing_0 6 rfl rfl)
theorem dX6_readsThing_9 : decode cX6_readsThing 9 = .ok (.aload_n 0, 1) := dk_42 (dk_at dksX6_readsThing_0 9 rfl rfl)
theorem dX6_readsThing_10 : decode cX6_readsThing 10 = .ok (.invokevirtual 234, 3) := dk_182 0 234 (dk_at dksX6_readsThing_0 10 rfl rfl)
theorem dX6_readsThing_13 : decode cX6_readsThing 13 = .ok (.istore_n 1, 1) := dk_60 (dk_at dksX6_readsThing_0 13 rfl rfl)
theorem dX6_readsThing_14 : decode cX6_readsThing 14 = .ok (.aload_n 0, 1) := dk_42 (dk_at dksX6_readsThing_0 14 rfl rfl)
theorem dX6_readsThing_15 : decode cX6_readsThing 15 = .ok (.sipush 3000, 3) := dk_17 11 184 (dk_at dksX6_readsThing_0 15 rfl rfl)
theorem dX6_readsThing_18 : decode cX6_readsThing 18 = .ok (.invokevirtual 237, 3) := dk_182 0 237 (dk_at dksX6_readsThing_0 18 rfl rfl)
theorem dX6_readsThing_21 : decode cX6_readsThing 21 = .ok (.iload_n 1, 1) := dk_27 (dk_at dksX6_readsThing_0 21 rfl rfl)
theorem dX6_readsThing_22 : decode cX6_readsThing 22 = .ok (.ireturn, 1) := dk_172 (dk_at dksX6_readsThing_0 22 rfl rfl)
theorem dX6_readsThing_23 : decode cX6_readsThing 23 = .ok (.aload_n 0, 1) := dk_42 (dk_at dksX6_readsThing_0 23 rfl rfl)
theorem dX6_readsThing_24 : decode cX6_readsThing 24 = .ok (.invokevirtual 172, 3) := dk_182 0 172 (dk_at dksX6_readsThing_1 0 rfl rfl)
theorem dX6_readsThing_27 : decode cX6_readsThing 27 = .ok (.ifCond .eq 14, 3) := dk_153 0 14 (dk_at dksX6_readsThing_1 3 rfl rfl)
theorem dX6_readsThing_30 : decode cX6_readsThing 30 = .ok (.aload_n 0, 1) := dk_42 (dk_at dksX6_readsThing_1 6 rfl rfl)
theorem dX6_readsThing_31 : decode cX6_readsThing 31 = .ok (.aload_n 0, 1) := dk_42 (dk_at dksX6_readsThing_1 7 rfl rfl)
theorem dX6_readsThing_32 : decode cX6_readsThing 32 = .ok (.iconst 3, 1) := dk_6 (dk_at dksX6_readsThing_1 8 rfl rfl)
theorem dX6_readsThing_33 : decode cX6_readsThing 33 = .ok (.invokevirtual 189, 3) := dk_182 0 189 (dk_at dksX6_readsThing_1 9 rfl rfl)
theorem dX6_readsThing_36 : decode cX6_readsThing 36 = .ok (.invokevirtual 237, 3) := dk_182 0 237 (dk_at dksX6_readsThing_1 12 rfl rfl)
theorem dX6_readsThing_39 : decode cX6_readsThing 39 = .ok (.iconst 1, 1) := dk_4 (dk_at dksX6_readsThing_1 15 rfl rfl)
theorem dX6_readsThing_40 : decode cX6_readsThing 40 = .ok (.ireturn, 1) := dk_172 (dk_at dksX6_readsThing_1 16 rfl rfl)
theorem dX6_readsThing_41 : decode cX6_readsThing 41 = .ok (.aload_n 0, 1) := dk_42 (dk_at dksX6_readsThing_1 17 rfl rfl)
theorem dX6_readsThing_42 : decode cX6_readsThing 42 = .ok (.ldc 241, 2) := dk_18 241 (dk_at dksX6_readsThing_1 18 rfl rfl)
theorem dX6_readsThing_44 : decode cX6_readsThing 44 = .ok (.invokevirtual 182, 3) := dk_182 0 182 (dk_at dksX6_readsThing_1 20 rfl rfl)
theorem dX6_readsThing_47 : decode cX6_readsThing 47 = .ok (.istore_n 1, 1) := dk_60 (dk_at dksX6_readsThing_1 23 rfl rfl)
theorem dX6_readsThing_48 : decode cX6_readsThing 48 = .ok (.iload_n 1, 1) := dk_27 (dk_at dksX6_readsThing_2 0 rfl rfl)
theorem dX6_readsThing_49 : decode cX6_readsThing 49 = .ok (.ifCond .lt 14, 3) := dk_155 0 14 (dk_at dksX6_readsThing_2 1 rfl rfl)
theorem dX6_readsThing_52 : decode cX6_readsThing 52 = .ok (.aload_n 0, 1) := dk_42 (dk_at dksX6_readsThing_2 4 rfl rfl)
theorem dX6_readsThing_53 : decode cX6_readsThing 53 = .ok (.sipush 1000, 3) := dk_17 3 232 (dk_at dksX6_readsThing_2 5 rfl rfl)
theorem dX6_readsThing_56 : decode cX6_readsThing 56 = .ok (.iload_n 1, 1) := dk_27 (dk_at dksX6_readsThing_2 8 rfl rfl)
theorem dX6_readsThing_57 : decode cX6_readsThing 57 = .ok (.iadd, 1) := dk_96 (dk_at dksX6_readsThing_2 9 rfl rfl)
theorem dX6_readsThing_58 : decode cX6_readsThing 58 = .ok (.invokevirtual 237, 3) := dk_182 0 237 (dk_at dksX6_readsThing_2 10 rfl rfl)
theorem dX6_readsThing_61 : decode cX6_readsThing 61 = .ok (.iconst 1, 1) := dk_4 (dk_at dksX6_readsThing_2 13 rfl rfl)
theorem dX6_readsThing_62 : decode cX6_readsThing 62 = .ok (.ireturn, 1) := dk_172 (dk_at dksX6_readsThing_2 14 rfl rfl)
theorem dX6_readsThing_63 : decode cX6_readsThing 63 = .ok (.aload_n 0, 1) := dk_42 (dk_at dksX6_readsThing_2 15 rfl rfl)
theorem dX6_readsThing_64 : decode cX6_readsThing 64 = .ok (.getfield 142, 3) := dk_180 0 142 (dk_at dksX6_readsThing_2 16 rfl rfl)
theorem dX6_readsThing_67 : decode cX6_readsThing 67 = .ok (.iconst 4, 1) := dk_7 (dk_at dksX6_readsThing_2 19 rfl rfl)
theorem dX6_readsThing_68 : decode cX6_readsThing 68 = .ok (.if_icmp .eq 12, 3) := dk_159 0 12 (dk_at dksX6_readsThing_2 20 rfl rfl)
theorem dX6_readsThing_71 : decode cX6_readsThing 71 = .ok (.aload_n 0, 1) := dk_42 (dk_at dksX6_readsThing_2 23 rfl rfl)
theorem dX6_readsThing_72 : decode cX6_readsThing 72 = .ok (.bipush 40, 2) := dk_16 40 (dk_at dksX6_readsThing_3 0 rfl rfl)
theorem dX6_readsThing_74 : decode cX6_readsThing 74 = .ok (.invokevirtual 217, 3) := dk_182 0 217 (dk_at dksX6_readsThing_3 2 rfl rfl)
theorem dX6_readsThing_77 : decode cX6_readsThing 77 = .ok (.ifCond .ne 5, 3) := dk_154 0 5 (dk_at dksX6_readsThing_3 5 rfl rfl)
theorem dX6_readsThing_80 : decode cX6_readsThing 80 = .ok (.iconst 0, 1) := dk_3 (dk_at dksX6_readsThing_3 8 rfl rfl)
theorem dX6_readsThing_81 : decode cX6_readsThing 81 = .ok (.ireturn, 1) := dk_172 (dk_at dksX6_readsThing_3 9 rfl rfl)
theorem dX6_readsThing_82 : decode cX6_readsThing 82 = .ok (.aload_n 0, 1) := dk_42 (dk_at dksX6_readsThing_3 10 rfl rfl)
theorem dX6_readsThing_83 : decode cX6_readsThing 83 = .ok (.dup, 1) := dk_89 (dk_at dksX6_readsThing_3 11 rfl rfl)
theorem dX6_readsThing_84 : decode cX6_readsThing 84 = .ok (.getfield 142, 3) := dk_180 0 142 (dk_at dksX6_readsThing_3 12 rfl rfl)
theorem dX6_readsThing_87 : decode cX6_readsThing 87 = .ok (.iconst 1, 1) := dk_4 (dk_at dksX6_readsThing_3 15 rfl rfl)
theorem dX6_readsThing_88 : decode cX6_readsThing 88 = .ok (.iadd, 1) := dk_96 (dk_at dksX6_readsThing_3 16 rfl rfl)
theorem dX6_readsThing_89 : decode cX6_readsThing 89 = .ok (.putfield 142, 3) := dk_181 0 142 (dk_at dksX6_readsThing_3 17 rfl rfl)
theorem dX6_readsThing_92 : decode cX6_readsThing 92 = .ok (.aload_n 0, 1) := dk_42 (dk_at dksX6_readsThing_3 20 rfl rfl)
theorem dX6_readsThing_93 : decode cX6_readsThing 93 = .ok (.iconst 0, 1) := dk_3 (dk_at dksX6_readsThing_3 21 rfl rfl)
theorem dX6_readsThing_94 : decode cX6_readsThing 94 = .ok (.invokevirtual 243, 3) := dk_182 0 243 (dk_at dksX6_readsThing_4 0 rfl rfl)
theorem dX6_readsThing_97 : decode cX6_readsThing 97 = .ok (.ifCond .eq 12, 3) := dk_153 0 12 (dk_at dksX6_readsThing_4 3 rfl rfl)
theorem dX6_readsThing_100 : decode cX6_readsThing 100 = .ok (.aload_n 0, 1) := dk_42 (dk_at dksX6_readsThing_4 6 rfl rfl)
theorem dX6_readsThing_101 : decode cX6_readsThing 101 = .ok (.bipush 41, 2) := dk_16 41 (dk_at dksX6_readsThing_4 7 rfl rfl)
theorem dX6_readsThing_103 : decode cX6_readsThing 103 = .ok (.invokevirtual 217, 3) := dk_182 0 217 (dk_at dksX6_readsThing_4 9 rfl rfl)
theorem dX6_readsThing_106 : decode cX6_readsThing 106 = .ok (.ifCond .ne 5, 3) := dk_154 0 5 (dk_at dksX6_readsThing_4 12 rfl rfl)
theorem dX6_readsThing_109 : decode cX6_readsThing 109 = .ok (.iconst 0, 1) := dk_3 (dk_at dksX6_readsThing_4 15 rfl rfl)
theorem dX6_readsThing_110 : decode cX6_readsThing 110 = .ok (.ireturn, 1) := dk_172 (dk_at dksX6_readsThing_4 16 rfl rfl)
theorem dX6_readsThing_111 : decode cX6_readsThing 111 = .ok (.aload_n 0, 1) := dk_42 (dk_at dksX6_readsThing_4 17 rfl rfl)
theorem dX6_readsThing_112 : decode cX6_readsThing 112 = .ok (.dup, 1) := dk_89 (dk_at dksX6_readsThing_4 18 rfl rfl)
theorem dX6_readsThing_113 : decode cX6_readsThing 113 = .ok (.getfield 142, 3) := dk_180 0 142 (dk_at dksX6_readsThing_4 19 rfl rfl)
theorem dX6_readsThing_116 : decode cX6_readsThing 116 = .ok (.iconst 1, 1) := dk_4 (dk_at dksX6_readsThing_4 22 rfl rfl)
theorem dX6_readsThing_117 : decode cX6_readsThing 117 = .ok (.isub, 1) := dk_100 (dk_at dksX6_readsThing_4 23 rfl rfl)
theorem dX6_readsThing_118 : decode cX6_readsThing 118 = .ok (.putfield 142, 3) := dk_181 0 142 (dk_at dksX6_readsThing_5 0 rfl rfl)
theorem dX6_readsThing_121 : decode cX6_readsThing 121 = .ok (.iconst 1, 1) := dk_4 (dk_at dksX6_readsThing_5 3 rfl rfl)
theorem dX6_readsThing_122 : decode cX6_readsThing 122 = .ok (.ireturn, 1) := dk_172 (dk_at dksX6_readsThing_5 4 rfl rfl)
abbrev cX6_codes : ByteArray := prog_15_method_36_code
def yX6_codes : MethodName := ⟨RX6, "codes", "(I)V"⟩
def dkwX6_codes_0 : List UInt8 := [42, 180, 0, 52, 42, 180, 0, 231, 27, 79, 42, 89, 180, 0, 231, 4, 96, 181, 0, 231, 177]
abbrev dktX6_codes_0 : List UInt8 := dkwX6_codes_0 ++ []
theorem dksX6_codes_0 : cX6_codes.data.toList.drop 0 = dktX6_codes_0 := by decide +kernel
theorem dX6_codes_0 : decode cX6_codes 0 = .ok (.aload_n 0, 1) := dk_42 (dk_at dksX6_codes_0 0 rfl rfl)
theorem dX6_codes_1 : decode cX6_codes 1 = .ok (.getfield 52, 3) := dk_180 0 52 (dk_at dksX6_codes_0 1 rfl rfl)
theorem dX6_codes_4 : decode cX6_codes 4 = .ok (.aload_n 0, 1) := dk_42 (dk_at dksX6_codes_0 4 rfl rfl)
theorem dX6_codes_5 : decode cX6_codes 5 = .ok (.getfield 231, 3) := dk_180 0 231 (dk_at dksX6_codes_0 5 rfl rfl)
theorem dX6_codes_8 : decode cX6_codes 8 = .ok (.iload_n 1, 1) := dk_27 (dk_at dksX6_codes_0 8 rfl rfl)
theorem dX6_codes_9 : decode cX6_codes 9 = .ok (.iastore, 1) := dk_79 (dk_at dksX6_codes_0 9 rfl rfl)
theorem dX6_codes_10 : decode cX6_codes 10 = .ok (.aload_n 0, 1) := dk_42 (dk_at dksX6_codes_0 10 rfl rfl)
theorem dX6_codes_11 : decode cX6_codes 11 = .ok (.dup, 1) := dk_89 (dk_at dksX6_codes_0 11 rfl rfl)
theorem dX6_codes_12 : decode cX6_codes 12 = .ok (.getfield 231, 3) := dk_180 0 231 (dk_at dksX6_codes_0 12 rfl rfl)
theorem dX6_codes_15 : decode cX6_codes 15 = .ok (.iconst 1, 1) := dk_4 (dk_at dksX6_codes_0 15 rfl rfl)
theorem dX6_codes_16 : decode cX6_codes 16 = .ok (.iadd, 1) := dk_96 (dk_at dksX6_codes_0 16 rfl rfl)
theorem dX6_codes_17 : decode cX6_codes 17 = .ok (.putfield 231, 3) := dk_181 0 231 (dk_at dksX6_codes_0 17 rfl rfl)
theorem dX6_codes_20 : decode cX6_codes 20 = .ok (.return_, 1) := dk_177 (dk_at dksX6_codes_0 20 rfl rfl)
abbrev cX6_laysCode : ByteArray := prog_15_method_40_code
def yX6_laysCode : MethodName := ⟨RX6, "laysCode", "([II)V"⟩
def dkwX6_laysCode_1 : List UInt8 := [167, 255, 239, 177]
abbrev dktX6_laysCode_1 : List UInt8 := dkwX6_laysCode_1 ++ []
def dkwX6_laysCode_0 : List UInt8 := [42, 28, 181, 0, 252, 3, 62, 29, 28, 162, 0, 18, 42, 180, 0, 49, 29, 43, 29, 46, 79, 132, 3, 1]
abbrev dktX6_laysCode_0 : List UInt8 := dkwX6_laysCode_0 ++ dktX6_laysCode_1
theorem dksX6_laysCode_0 : cX6_laysCode.data.toList.drop 0 = dktX6_laysCode_0 := by decide +kernel
theorem dksX6_laysCode_1 : cX6_laysCode.data.toList.drop 24 = dktX6_laysCode_1 := dk_seg dksX6_laysCode_0 24 rfl rfl
theorem dX6_laysCode_0 : decode cX6_laysCode 0 = .ok (.aload_n 0, 1) := dk_42 (dk_at dksX6_laysCode_0 0 rfl rfl)
theorem dX6_laysCode_1 : decode cX6_laysCode 1 = .ok (.iload_n 2, 1) := dk_28 (dk_at dksX6_laysCode_0 1 rfl rfl)
theorem dX6_laysCode_2 : decode cX6_laysCode 2 = .ok (.putfield 252, 3) := dk_181 0 252 (dk_at dksX6_laysCode_0 2 rfl rfl)
theorem dX6_laysCode_5 : decode cX6_laysCode 5 = .ok (.iconst 0, 1) := dk_3 (dk_at dksX6_laysCode_0 5 rfl rfl)
theorem dX6_laysCode_6 : decode cX6_laysCode 6 = .ok (.istore_n 3, 1) := dk_62 (dk_at dksX6_laysCode_0 6 rfl rfl)
theorem dX6_laysCode_7 : decode cX6_laysCode 7 = .ok (.iload_n 3, 1) := dk_29 (dk_at dksX6_laysCode_0 7 rfl rfl)
theorem dX6_laysCode_8 : decode cX6_laysCode 8 = .ok (.iload_n 2, 1) := dk_28 (dk_at dksX6_laysCode_0 8 rfl rfl)
theorem dX6_laysCode_9 : decode cX6_laysCode 9 = .ok (.if_icmp .ge 18, 3) := dk_162 0 18 (dk_at dksX6_laysCode_0 9 rfl rfl)
theorem dX6_laysCode_12 : decode cX6_laysCode 12 = .ok (.aload_n 0, 1) := dk_42 (dk_at dksX6_laysCode_0 12 rfl rfl)
theorem dX6_laysCode_13 : decode cX6_laysCode 13 = .ok (.getfield 49, 3) := dk_180 0 49 (dk_at dksX6_laysCode_0 13 rfl rfl)
theorem dX6_laysCode_16 : decode cX6_laysCode 16 = .ok (.iload_n 3, 1) := dk_29 (dk_at dksX6_laysCode_0 16 rfl rfl)
theorem dX6_laysCode_17 : decode cX6_laysCode 17 = .ok (.aload_n 1, 1) := dk_43 (dk_at dksX6_laysCode_0 17 rfl rfl)
theorem dX6_laysCode_18 : decode cX6_laysCode 18 = .ok (.iload_n 3, 1) := dk_29 (dk_at dksX6_laysCode_0 18 rfl rfl)
theorem dX6_laysCode_19 : decode cX6_laysCode 19 = .ok (.iaload, 1) := dk_46 (dk_at dksX6_laysCode_0 19 rfl rfl)
theorem dX6_laysCode_20 : decode cX6_laysCode 20 = .ok (.iastore, 1) := dk_79 (dk_at dksX6_laysCode_0 20 rfl rfl)
theorem dX6_laysCode_21 : decode cX6_laysCode 21 = .ok (.iinc 3 1, 3) := dk_132 3 1 (dk_at dksX6_laysCode_0 21 rfl rfl)
theorem dX6_laysCode_24 : decode cX6_laysCode 24 = .ok (.goto (-17), 3) := dk_167 255 239 (dk_at dksX6_laysCode_1 0 rfl rfl)
theorem dX6_laysCode_27 : decode cX6_laysCode 27 = .ok (.return_, 1) := dk_177 (dk_at dksX6_laysCode_1 3 rfl rfl)
abbrev cX6_hearse : ByteArray := prog_15_method_47_code
def yX6_hearse : MethodName := ⟨RX6, "hearse", "(II)I"⟩
def dkwX6_hearse_5 : List UInt8 := [182, 1, 19, 172, 42, 27, 182, 1, 49, 172]
abbrev dktX6_hearse_5 : List UInt8 := dkwX6_hearse_5 ++ []
def dkwX6_hearse_4 : List UInt8 := [182, 1, 46, 172, 42, 42, 180, 0, 31, 16, 21, 27, 182, 1, 19, 172, 42, 42, 180, 0, 31, 16, 29, 27]
abbrev dktX6_hearse_4 : List UInt8 := dkwX6_hearse_4 ++ dktX6_hearse_5
def dkwX6_hearse_3 : List UInt8 := [42, 180, 0, 31, 27, 46, 172, 42, 180, 0, 31, 16, 6, 27, 96, 46, 172, 42, 42, 180, 0, 31, 27]
abbrev dktX6_hearse_3 : List UInt8 := dkwX6_hearse_3 ++ dktX6_hearse_4
def dkwX6_hearse_2 : List UInt8 := [170, 0, 0, 0, 84, 0, 0, 0, 0, 0, 0, 0, 4, 0, 0, 0, 33, 0, 0, 0, 40, 0, 0, 0, 50, 0, 0, 0, 60, 0, 0, 0, 72]
abbrev dktX6_hearse_2 : List UInt8 := dkwX6_hearse_2 ++ dktX6_hearse_3
def dkwX6_hearse_1 : List UInt8 := [154, 0, 8, 42, 182, 1, 43, 172, 28]
abbrev dktX6_hearse_1 : List UInt8 := dkwX6_hearse_1 ++ dktX6_hearse_2
def dkwX6_hearse_0 : List UInt8 := [42, 3, 181, 0, 112, 42, 27, 182, 1, 38, 153, 0, 15, 28, 133, 9, 20, 1, 41, 184, 0, 125]
abbrev dktX6_hearse_0 : List UInt8 := dkwX6_hearse_0 ++ dktX6_hearse_1
theorem dksX6_hearse_0 : cX6_hearse.data.toList.drop 0 = dktX6_hearse_0 := by decide +kernel
theorem dksX6_hearse_1 : cX6_hearse.data.toList.drop 22 = dktX6_hearse_1 := dk_seg dksX6_hearse_0 22 rfl rfl
theorem dksX6_hearse_2 : cX6_hearse.data.toList.drop 31 = dktX6_hearse_2 := dk_seg dksX6_hearse_1 9 rfl rfl
theorem dksX6_hearse_3 : cX6_hearse.data.toList.drop 64 = dktX6_hearse_3 := dk_seg dksX6_hearse_2 33 rfl rfl
theorem dksX6_hearse_4 : cX6_hearse.data.toList.drop 87 = dktX6_hearse_4 := dk_seg dksX6_hearse_3 23 rfl rfl
theorem dksX6_hearse_5 : cX6_hearse.data.toList.drop 111 = dktX6_hearse_5 := dk_seg dksX6_hearse_4 24 rfl rfl
theorem dX6_hearse_0 : decode cX6_hearse 0 = .ok (.aload_n 0, 1) := dk_42 (dk_at dksX6_hearse_0 0 rfl rfl)
theorem dX6_hearse_1 : decode cX6_hearse 1 = .ok (.iconst 0, 1) := dk_3 (dk_at dksX6_hearse_0 1 rfl rfl)
theorem dX6_hearse_2 : decode cX6_hearse 2 = .ok (.putfield 112, 3) := dk_181 0 112 (dk_at dksX6_hearse_0 2 rfl rfl)
theorem dX6_hearse_5 : decode cX6_hearse 5 = .ok (.aload_n 0, 1) := dk_42 (dk_at dksX6_hearse_0 5 rfl rfl)
theorem dX6_hearse_6 : decode cX6_hearse 6 = .ok (.iload_n 1, 1) := dk_27 (dk_at dksX6_hearse_0 6 rfl rfl)
theorem dX6_hearse_7 : decode cX6_hearse 7 = .ok (.invokevirtual 294, 3) := dk_182 1 38 (dk_at dksX6_hearse_0 7 rfl rfl)
theorem dX6_hearse_10 : decode cX6_hearse 10 = .ok (.ifCond .eq 15, 3) := dk_153 0 15 (dk_at dksX6_hearse_0 10 rfl rfl)
theorem dX6_hearse_13 : decode cX6_hearse 13 = .ok (.iload_n 2, 1) := dk_28 (dk_at dksX6_hearse_0 13 rfl rfl)
theorem dX6_hearse_14 : decode cX6_hearse 14 = .ok (.i2l, 1) := dk_133 (dk_at dksX6_hearse_0 14 rfl rfl)
theorem dX6_hearse_15 : decode cX6_hearse 15 = .ok (.lconst 0, 1) := dk_9 (dk_at dksX6_hearse_0 15 rfl rfl)
theorem dX6_hearse_16 : decode cX6_hearse 16 = .ok (.ldc2_w 297, 3) := dk_20 1 41 (dk_at dksX6_hearse_0 16 rfl rfl)
theorem dX6_hearse_19 : decode cX6_hearse 19 = .ok (.invokestatic 125, 3) := dk_184 0 125 (dk_at dksX6_hearse_0 19 rfl rfl)
theorem dX6_hearse_22 : decode cX6_hearse 22 = .ok (.ifCond .ne 8, 3) := dk_154 0 8 (dk_at dksX6_hearse_1 0 rfl rfl)
theorem dX6_hearse_25 : decode cX6_hearse 25 = .ok (.aload_n 0, 1) := dk_42 (dk_at dksX6_hearse_1 3 rfl rfl)
theorem dX6_hearse_26 : decode cX6_hearse 26 = .ok (.invokevirtual 299, 3) := dk_182 1 43 (dk_at dksX6_hearse_1 4 rfl rfl)
theorem dX6_hearse_29 : decode cX6_hearse 29 = .ok (.ireturn, 1) := dk_172 (dk_at dksX6_hearse_1 7 rfl rfl)
theorem dX6_hearse_30 : decode cX6_hearse 30 = .ok (.iload_n 2, 1) := dk_28 (dk_at dksX6_hearse_1 8 rfl rfl)
theorem dX6_hearse_31 : decode cX6_hearse 31 = .ok (.tableswitch 84 0 4 #[33, 40, 50, 60, 72], 33) := by decide +kernel
theorem dX6_hearse_64 : decode cX6_hearse 64 = .ok (.aload_n 0, 1) := dk_42 (dk_at dksX6_hearse_3 0 rfl rfl)
theorem dX6_hearse_65 : decode cX6_hearse 65 = .ok (.getfield 31, 3) := dk_180 0 31 (dk_at dksX6_hearse_3 1 rfl rfl)
theorem dX6_hearse_68 : decode cX6_hearse 68 = .ok (.iload_n 1, 1) := dk_27 (dk_at dksX6_hearse_3 4 rfl rfl)
theorem dX6_hearse_69 : decode cX6_hearse 69 = .ok (.iaload, 1) := dk_46 (dk_at dksX6_hearse_3 5 rfl rfl)
theorem dX6_hearse_70 : decode cX6_hearse 70 = .ok (.ireturn, 1) := dk_172 (dk_at dksX6_hearse_3 6 rfl rfl)
theorem dX6_hearse_71 : decode cX6_hearse 71 = .ok (.aload_n 0, 1) := dk_42 (dk_at dksX6_hearse_3 7 rfl rfl)
theorem dX6_hearse_72 : decode cX6_hearse 72 = .ok (.getfield 31, 3) := dk_180 0 31 (dk_at dksX6_hearse_3 8 rfl rfl)
theorem dX6_hearse_75 : decode cX6_hearse 75 = .ok (.bipush 6, 2) := dk_16 6 (dk_at dksX6_hearse_3 11 rfl rfl)
theorem dX6_hearse_77 : decode cX6_hearse 77 = .ok (.iload_n 1, 1) := dk_27 (dk_at dksX6_hearse_3 13 rfl rfl)
theorem dX6_hearse_78 : decode cX6_hearse 78 = .ok (.iadd, 1) := dk_96 (dk_at dksX6_hearse_3 14 rfl rfl)
theorem dX6_hearse_79 : decode cX6_hearse 79 = .ok (.iaload, 1) := dk_46 (dk_at dksX6_hearse_3 15 rfl rfl)
theorem dX6_hearse_80 : decode cX6_hearse 80 = .ok (.ireturn, 1) := dk_172 (dk_at dksX6_hearse_3 16 rfl rfl)
theorem dX6_hearse_81 : decode cX6_hearse 81 = .ok (.aload_n 0, 1) := dk_42 (dk_at dksX6_hearse_3 17 rfl rfl)
theorem dX6_hearse_82 : decode cX6_hearse 82 = .ok (.aload_n 0, 1) := dk_42 (dk_at dksX6_hearse_3 18 rfl rfl)
theorem dX6_hearse_83 : decode cX6_hearse 83 = .ok (.getfield 31, 3) := dk_180 0 31 (dk_at dksX6_hearse_3 19 rfl rfl)
theorem dX6_hearse_86 : decode cX6_hearse 86 = .ok (.iload_n 1, 1) := dk_27 (dk_at dksX6_hearse_3 22 rfl rfl)
theorem dX6_hearse_87 : decode cX6_hearse 87 = .ok (.invokevirtual 302, 3) := dk_182 1 46 (dk_at dksX6_hearse_4 0 rfl rfl)
theorem dX6_hearse_90 : decode cX6_hearse 90 = .ok (.ireturn, 1) := dk_172 (dk_at dksX6_hearse_4 3 rfl rfl)
theorem dX6_hearse_91 : decode cX6_hearse 91 = .ok (.aload_n 0, 1) := dk_42 (dk_at dksX6_hearse_4 4 rfl rfl)
theorem dX6_hearse_92 : decode cX6_hearse 92 = .ok (.aload_n 0, 1) := dk_42 (dk_at dksX6_hearse_4 5 rfl rfl)
theorem dX6_hearse_93 : decode cX6_hearse 93 = .ok (.getfield 31, 3) := dk_180 0 31 (dk_at dksX6_hearse_4 6 rfl rfl)
theorem dX6_hearse_96 : decode cX6_hearse 96 = .ok (.bipush 21, 2) := dk_16 21 (dk_at dksX6_hearse_4 9 rfl rfl)
theorem dX6_hearse_98 : decode cX6_hearse 98 = .ok (.iload_n 1, 1) := dk_27 (dk_at dksX6_hearse_4 11 rfl rfl)
theorem dX6_hearse_99 : decode cX6_hearse 99 = .ok (.invokevirtual 275, 3) := dk_182 1 19 (dk_at dksX6_hearse_4 12 rfl rfl)
theorem dX6_hearse_102 : decode cX6_hearse 102 = .ok (.ireturn, 1) := dk_172 (dk_at dksX6_hearse_4 15 rfl rfl)
theorem dX6_hearse_103 : decode cX6_hearse 103 = .ok (.aload_n 0, 1) := dk_42 (dk_at dksX6_hearse_4 16 rfl rfl)
theorem dX6_hearse_104 : decode cX6_hearse 104 = .ok (.aload_n 0, 1) := dk_42 (dk_at dksX6_hearse_4 17 rfl rfl)
theorem dX6_hearse_105 : decode cX6_hearse 105 = .ok (.getfield 31, 3) := dk_180 0 31 (dk_at dksX6_hearse_4 18 rfl rfl)
theorem dX6_hearse_108 : decode cX6_hearse 108 = .ok (.bipush 29, 2) := dk_16 29 (dk_at dksX6_hearse_4 21 rfl rfl)
theorem dX6_hearse_110 : decode cX6_hearse 110 = .ok (.iload_n 1, 1) := dk_27 (dk_at dksX6_hearse_4 23 rfl rfl)
theorem dX6_hearse_111 : decode cX6_hearse 111 = .ok (.invokevirtual 275, 3) := dk_182 1 19 (dk_at dksX6_hearse_5 0 rfl rfl)
theorem dX6_hearse_114 : decode cX6_hearse 114 = .ok (.ireturn, 1) := dk_172 (dk_at dksX6_hearse_5 3 rfl rfl)
theorem dX6_hearse_115 : decode cX6_hearse 115 = .ok (.aload_n 0, 1) := dk_42 (dk_at dksX6_hearse_5 4 rfl rfl)
theorem dX6_hearse_116 : decode cX6_hearse 116 = .ok (.iload_n 1, 1) := dk_27 (dk_at dksX6_hearse_5 5 rfl rfl)
theorem dX6_hearse_117 : decode cX6_hearse 117 = .ok (.invokevirtual 305, 3) := dk_182 1 49 (dk_at dksX6_hearse_5 6 rfl rfl)
theorem dX6_hearse_120 : decode cX6_hearse 120 = .ok (.ireturn, 1) := dk_172 (dk_at dksX6_hearse_5 9 rfl rfl)
abbrev cX6_isHearse : ByteArray := prog_15_method_10_code
def yX6_isHearse : MethodName := ⟨RX6, "isHearse", "(I)Z"⟩
def dkwX6_isHearse_0 : List UInt8 := [27, 133, 9, 42, 180, 0, 122, 4, 100, 133, 184, 0, 125, 172]
abbrev dktX6_isHearse_0 : List UInt8 := dkwX6_isHearse_0 ++ []
theorem dksX6_isHearse_0 : cX6_isHearse.data.toList.drop 0 = dktX6_isHearse_0 := by decide +kernel
theorem dX6_isHearse_0 : decode cX6_isHearse 0 = .ok (.iload_n 1, 1) := dk_27 (dk_at dksX6_isHearse_0 0 rfl rfl)
theorem dX6_isHearse_1 : decode cX6_isHearse 1 = .ok (.i2l, 1) := dk_133 (dk_at dksX6_isHearse_0 1 rfl rfl)
theorem dX6_isHearse_2 : decode cX6_isHearse 2 = .ok (.lconst 0, 1) := dk_9 (dk_at dksX6_isHearse_0 2 rfl rfl)
theorem dX6_isHearse_3 : decode cX6_isHearse 3 = .ok (.aload_n 0, 1) := dk_42 (dk_at dksX6_isHearse_0 3 rfl rfl)
theorem dX6_isHearse_4 : decode cX6_isHearse 4 = .ok (.getfield 122, 3) := dk_180 0 122 (dk_at dksX6_isHearse_0 4 rfl rfl)
theorem dX6_isHearse_7 : decode cX6_isHearse 7 = .ok (.iconst 1, 1) := dk_4 (dk_at dksX6_isHearse_0 7 rfl rfl)
theorem dX6_isHearse_8 : decode cX6_isHearse 8 = .ok (.isub, 1) := dk_100 (dk_at dksX6_isHearse_0 8 rfl rfl)
theorem dX6_isHearse_9 : decode cX6_isHearse 9 = .ok (.i2l, 1) := dk_133 (dk_at dksX6_isHearse_0 9 rfl rfl)
theorem dX6_isHearse_10 : decode cX6_isHearse 10 = .ok (.invokestatic 125, 3) := dk_184 0 125 (dk_at dksX6_isHearse_0 10 rfl rfl)
theorem dX6_isHearse_13 : decode cX6_isHearse 13 = .ok (.ireturn, 1) := dk_172 (dk_at dksX6_isHearse_0 13 rfl rfl)
abbrev cX6_refuse : ByteArray := prog_15_method_3_code
def yX6_refuse : MethodName := ⟨RX6, "refuse", "()I"⟩
def dkwX6_refuse_0 : List UInt8 := [42, 4, 181, 0, 112, 3, 172]
abbrev dktX6_refuse_0 : List UInt8 := dkwX6_refuse_0 ++ []
theorem dksX6_refuse_0 : cX6_refuse.data.toList.drop 0 = dktX6_refuse_0 := by decide +kernel
theorem dX6_refuse_0 : decode cX6_refuse 0 = .ok (.aload_n 0, 1) := dk_42 (dk_at dksX6_refuse_0 0 rfl rfl)
theorem dX6_refuse_1 : decode cX6_refuse 1 = .ok (.iconst 1, 1) := dk_4 (dk_at dksX6_refuse_0 1 rfl rfl)
theorem dX6_refuse_2 : decode cX6_refuse 2 = .ok (.putfield 112, 3) := dk_181 0 112 (dk_at dksX6_refuse_0 2 rfl rfl)
theorem dX6_refuse_5 : decode cX6_refuse 5 = .ok (.iconst 0, 1) := dk_3 (dk_at dksX6_refuse_0 5 rfl rfl)
theorem dX6_refuse_6 : decode cX6_refuse 6 = .ok (.ireturn, 1) := dk_172 (dk_at dksX6_refuse_0 6 rfl rfl)
abbrev cX6_paceOf : ByteArray := prog_15_method_45_code
def yX6_paceOf : MethodName := ⟨RX6, "paceOf", "([II)I"⟩
def dkwX6_paceOf_4 : List UInt8 := [28, 182, 1, 19, 184, 1, 23, 79, 3, 6, 42, 182, 1, 28, 184, 0, 145, 184, 1, 31, 172]
abbrev dktX6_paceOf_4 : List UInt8 := dkwX6_paceOf_4 ++ []
def dkwX6_paceOf_3 : List UInt8 := [16, 37, 46, 16, 10, 112, 79, 42, 180, 0, 58, 8, 28, 79, 42, 180, 0, 58, 16, 6, 42, 43, 16, 21]
abbrev dktX6_paceOf_3 : List UInt8 := dkwX6_paceOf_3 ++ dktX6_paceOf_4
def dkwX6_paceOf_2 : List UInt8 := [184, 0, 154, 79, 42, 180, 0, 58, 6, 42, 43, 16, 37, 46, 182, 1, 16, 79, 42, 180, 0, 58, 7, 43]
abbrev dktX6_paceOf_2 : List UInt8 := dkwX6_paceOf_2 ++ dktX6_paceOf_3
def dkwX6_paceOf_1 : List UInt8 := [42, 43, 43, 28, 46, 182, 1, 13, 79, 42, 180, 0, 58, 5, 42, 180, 0, 20, 43, 28, 46, 51]
abbrev dktX6_paceOf_1 : List UInt8 := dkwX6_paceOf_1 ++ dktX6_paceOf_2
def dkwX6_paceOf_0 : List UInt8 := [43, 28, 184, 1, 10, 154, 0, 5, 3, 172, 42, 180, 0, 58, 3, 43, 28, 46, 79, 42, 180, 0, 58, 4]
abbrev dktX6_paceOf_0 : List UInt8 := dkwX6_paceOf_0 ++ dktX6_paceOf_1
theorem dksX6_paceOf_0 : cX6_paceOf.data.toList.drop 0 = dktX6_paceOf_0 := by decide +kernel
theorem dksX6_paceOf_1 : cX6_paceOf.data.toList.drop 24 = dktX6_paceOf_1 := dk_seg dksX6_paceOf_0 24 rfl rfl
theorem dksX6_paceOf_2 : cX6_paceOf.data.toList.drop 46 = dktX6_paceOf_2 := dk_seg dksX6_paceOf_1 22 rfl rfl
theorem dksX6_paceOf_3 : cX6_paceOf.data.toList.drop 70 = dktX6_paceOf_3 := dk_seg dksX6_paceOf_2 24 rfl rfl
theorem dksX6_paceOf_4 : cX6_paceOf.data.toList.drop 94 = dktX6_paceOf_4 := dk_seg dksX6_paceOf_3 24 rfl rfl
theorem dX6_paceOf_0 : decode cX6_paceOf 0 = .ok (.aload_n 1, 1) := dk_43 (dk_at dksX6_paceOf_0 0 rfl rfl)
theorem dX6_paceOf_1 : decode cX6_paceOf 1 = .ok (.iload_n 2, 1) := dk_28 (dk_at dksX6_paceOf_0 1 rfl rfl)
theorem dX6_paceOf_2 : decode cX6_paceOf 2 = .ok (.invokestatic 266, 3) := dk_184 1 10 (dk_at dksX6_paceOf_0 2 rfl rfl)
theorem dX6_paceOf_5 : decode cX6_paceOf 5 = .ok (.ifCond .ne 5, 3) := dk_154 0 5 (dk_at dksX6_paceOf_0 5 rfl rfl)
theorem dX6_paceOf_8 : decode cX6_paceOf 8 = .ok (.iconst 0, 1) := dk_3 (dk_at dksX6_paceOf_0 8 rfl rfl)
theorem dX6_paceOf_9 : decode cX6_paceOf 9 = .ok (.ireturn, 1) := dk_172 (dk_at dksX6_paceOf_0 9 rfl rfl)
theorem dX6_paceOf_10 : decode cX6_paceOf 10 = .ok (.aload_n 0, 1) := dk_42 (dk_at dksX6_paceOf_0 10 rfl rfl)
theorem dX6_paceOf_11 : decode cX6_paceOf 11 = .ok (.getfield 58, 3) := dk_180 0 58 (dk_at dksX6_paceOf_0 11 rfl rfl)
theorem dX6_paceOf_14 : decode cX6_paceOf 14 = .ok (.iconst 0, 1) := dk_3 (dk_at dksX6_paceOf_0 14 rfl rfl)
theorem dX6_paceOf_15 : decode cX6_paceOf 15 = .ok (.aload_n 1, 1) := dk_43 (dk_at dksX6_paceOf_0 15 rfl rfl)
theorem dX6_paceOf_16 : decode cX6_paceOf 16 = .ok (.iload_n 2, 1) := dk_28 (dk_at dksX6_paceOf_0 16 rfl rfl)
theorem dX6_paceOf_17 : decode cX6_paceOf 17 = .ok (.iaload, 1) := dk_46 (dk_at dksX6_paceOf_0 17 rfl rfl)
theorem dX6_paceOf_18 : decode cX6_paceOf 18 = .ok (.iastore, 1) := dk_79 (dk_at dksX6_paceOf_0 18 rfl rfl)
theorem dX6_paceOf_19 : decode cX6_paceOf 19 = .ok (.aload_n 0, 1) := dk_42 (dk_at dksX6_paceOf_0 19 rfl rfl)
theorem dX6_paceOf_20 : decode cX6_paceOf 20 = .ok (.getfield 58, 3) := dk_180 0 58 (dk_at dksX6_paceOf_0 20 rfl rfl)
theorem dX6_paceOf_23 : decode cX6_paceOf 23 = .ok (.iconst 1, 1) := dk_4 (dk_at dksX6_paceOf_0 23 rfl rfl)
theorem dX6_paceOf_24 : decode cX6_paceOf 24 = .ok (.aload_n 0, 1) := dk_42 (dk_at dksX6_paceOf_1 0 rfl rfl)
theorem dX6_paceOf_25 : decode cX6_paceOf 25 = .ok (.aload_n 1, 1) := dk_43 (dk_at dksX6_paceOf_1 1 rfl rfl)
theorem dX6_paceOf_26 : decode cX6_paceOf 26 = .ok (.aload_n 1, 1) := dk_43 (dk_at dksX6_paceOf_1 2 rfl rfl)
theorem dX6_paceOf_27 : decode cX6_paceOf 27 = .ok (.iload_n 2, 1) := dk_28 (dk_at dksX6_paceOf_1 3 rfl rfl)
theorem dX6_paceOf_28 : decode cX6_paceOf 28 = .ok (.iaload, 1) := dk_46 (dk_at dksX6_paceOf_1 4 rfl rfl)
theorem dX6_paceOf_29 : decode cX6_paceOf 29 = .ok (.invokevirtual 269, 3) := dk_182 1 13 (dk_at dksX6_paceOf_1 5 rfl rfl)
theorem dX6_paceOf_32 : decode cX6_paceOf 32 = .ok (.iastore, 1) := dk_79 (dk_at dksX6_paceOf_1 8 rfl rfl)
theorem dX6_paceOf_33 : decode cX6_paceOf 33 = .ok (.aload_n 0, 1) := dk_42 (dk_at dksX6_paceOf_1 9 rfl rfl)
theorem dX6_paceOf_34 : decode cX6_paceOf 34 = .ok (.getfield 58, 3) := dk_180 0 58 (dk_at dksX6_paceOf_1 10 rfl rfl)
theorem dX6_paceOf_37 : decode cX6_paceOf 37 = .ok (.iconst 2, 1) := dk_5 (dk_at dksX6_paceOf_1 13 rfl rfl)
theorem dX6_paceOf_38 : decode cX6_paceOf 38 = .ok (.aload_n 0, 1) := dk_42 (dk_at dksX6_paceOf_1 14 rfl rfl)
theorem dX6_paceOf_39 : decode cX6_paceOf 39 = .ok (.getfield 20, 3) := dk_180 0 20 (dk_at dksX6_paceOf_1 15 rfl rfl)
theorem dX6_paceOf_42 : decode cX6_paceOf 42 = .ok (.aload_n 1, 1) := dk_43 (dk_at dksX6_paceOf_1 18 rfl rfl)
theorem dX6_paceOf_43 : decode cX6_paceOf 43 = .ok (.iload_n 2, 1) := dk_28 (dk_at dksX6_paceOf_1 19 rfl rfl)
theorem dX6_paceOf_44 : decode cX6_paceOf 44 = .ok (.iaload, 1) := dk_46 (dk_at dksX6_paceOf_1 20 rfl rfl)
theorem dX6_paceOf_45 : decode cX6_paceOf 45 = .ok (.baload, 1) := dk_51 (dk_at dksX6_paceOf_1 21 rfl rfl)
theorem dX6_paceOf_46 : decode cX6_paceOf 46 = .ok (.invokestatic 154, 3) := dk_184 0 154 (dk_at dksX6_paceOf_2 0 rfl rfl)
theorem dX6_paceOf_49 : decode cX6_paceOf 49 = .ok (.iastore, 1) := dk_79 (dk_at dksX6_paceOf_2 3 rfl rfl)
theorem dX6_paceOf_50 : decode cX6_paceOf 50 = .ok (.aload_n 0, 1) := dk_42 (dk_at dksX6_paceOf_2 4 rfl rfl)
theorem dX6_paceOf_51 : decode cX6_paceOf 51 = .ok (.getfield 58, 3) := dk_180 0 58 (dk_at dksX6_paceOf_2 5 rfl rfl)
theorem dX6_paceOf_54 : decode cX6_paceOf 54 = .ok (.iconst 3, 1) := dk_6 (dk_at dksX6_paceOf_2 8 rfl rfl)
theorem dX6_paceOf_55 : decode cX6_paceOf 55 = .ok (.aload_n 0, 1) := dk_42 (dk_at dksX6_paceOf_2 9 rfl rfl)
theorem dX6_paceOf_56 : decode cX6_paceOf 56 = .ok (.aload_n 1, 1) := dk_43 (dk_at dksX6_paceOf_2 10 rfl rfl)
theorem dX6_paceOf_57 : decode cX6_paceOf 57 = .ok (.bipush 37, 2) := dk_16 37 (dk_at dksX6_paceOf_2 11 rfl rfl)
theorem dX6_paceOf_59 : decode cX6_paceOf 59 = .ok (.iaload, 1) := dk_46 (dk_at dksX6_paceOf_2 13 rfl rfl)
theorem dX6_paceOf_60 : decode cX6_paceOf 60 = .ok (.invokevirtual 272, 3) := dk_182 1 16 (dk_at dksX6_paceOf_2 14 rfl rfl)
theorem dX6_paceOf_63 : decode cX6_paceOf 63 = .ok (.iastore, 1) := dk_79 (dk_at dksX6_paceOf_2 17 rfl rfl)
theorem dX6_paceOf_64 : decode cX6_paceOf 64 = .ok (.aload_n 0, 1) := dk_42 (dk_at dksX6_paceOf_2 18 rfl rfl)
theorem dX6_paceOf_65 : decode cX6_paceOf 65 = .ok (.getfield 58, 3) := dk_180 0 58 (dk_at dksX6_paceOf_2 19 rfl rfl)
theorem dX6_paceOf_68 : decode cX6_paceOf 68 = .ok (.iconst 4, 1) := dk_7 (dk_at dksX6_paceOf_2 22 rfl rfl)
theorem dX6_paceOf_69 : decode cX6_paceOf 69 = .ok (.aload_n 1, 1) := dk_43 (dk_at dksX6_paceOf_2 23 rfl rfl)
theorem dX6_paceOf_70 : decode cX6_paceOf 70 = .ok (.bipush 37, 2) := dk_16 37 (dk_at dksX6_paceOf_3 0 rfl rfl)
theorem dX6_paceOf_72 : decode cX6_paceOf 72 = .ok (.iaload, 1) := dk_46 (dk_at dksX6_paceOf_3 2 rfl rfl)
theorem dX6_paceOf_73 : decode cX6_paceOf 73 = .ok (.bipush 10, 2) := dk_16 10 (dk_at dksX6_paceOf_3 3 rfl rfl)
theorem dX6_paceOf_75 : decode cX6_paceOf 75 = .ok (.irem, 1) := dk_112 (dk_at dksX6_paceOf_3 5 rfl rfl)
theorem dX6_paceOf_76 : decode cX6_paceOf 76 = .ok (.iastore, 1) := dk_79 (dk_at dksX6_paceOf_3 6 rfl rfl)
theorem dX6_paceOf_77 : decode cX6_paceOf 77 = .ok (.aload_n 0, 1) := dk_42 (dk_at dksX6_paceOf_3 7 rfl rfl)
theorem dX6_paceOf_78 : decode cX6_paceOf 78 = .ok (.getfield 58, 3) := dk_180 0 58 (dk_at dksX6_paceOf_3 8 rfl rfl)
theorem dX6_paceOf_81 : decode cX6_paceOf 81 = .ok (.iconst 5, 1) := dk_8 (dk_at dksX6_paceOf_3 11 rfl rfl)
theorem dX6_paceOf_82 : decode cX6_paceOf 82 = .ok (.iload_n 2, 1) := dk_28 (dk_at dksX6_paceOf_3 12 rfl rfl)
theorem dX6_paceOf_83 : decode cX6_paceOf 83 = .ok (.iastore, 1) := dk_79 (dk_at dksX6_paceOf_3 13 rfl rfl)
theorem dX6_paceOf_84 : decode cX6_paceOf 84 = .ok (.aload_n 0, 1) := dk_42 (dk_at dksX6_paceOf_3 14 rfl rfl)
theorem dX6_paceOf_85 : decode cX6_paceOf 85 = .ok (.getfield 58, 3) := dk_180 0 58 (dk_at dksX6_paceOf_3 15 rfl rfl)
theorem dX6_paceOf_88 : decode cX6_paceOf 88 = .ok (.bipush 6, 2) := dk_16 6 (dk_at dksX6_paceOf_3 18 rfl rfl)
theorem dX6_paceOf_90 : decode cX6_paceOf 90 = .ok (.aload_n 0, 1) := dk_42 (dk_at dksX6_paceOf_3 20 rfl rfl)
theorem dX6_paceOf_91 : decode cX6_paceOf 91 = .ok (.aload_n 1, 1) := dk_43 (dk_at dksX6_paceOf_3 21 rfl rfl)
theorem dX6_paceOf_92 : decode cX6_paceOf 92 = .ok (.bipush 21, 2) := dk_16 21 (dk_at dksX6_paceOf_3 22 rfl rfl)
theorem dX6_paceOf_94 : decode cX6_paceOf 94 = .ok (.iload_n 2, 1) := dk_28 (dk_at dksX6_paceOf_4 0 rfl rfl)
theorem dX6_paceOf_95 : decode cX6_paceOf 95 = .ok (.invokevirtual 275, 3) := dk_182 1 19 (dk_at dksX6_paceOf_4 1 rfl rfl)
theorem dX6_paceOf_98 : decode cX6_paceOf 98 = .ok (.invokestatic 279, 3) := dk_184 1 23 (dk_at dksX6_paceOf_4 4 rfl rfl)
theorem dX6_paceOf_101 : decode cX6_paceOf 101 = .ok (.iastore, 1) := dk_79 (dk_at dksX6_paceOf_4 7 rfl rfl)
theorem dX6_paceOf_102 : decode cX6_paceOf 102 = .ok (.iconst 0, 1) := dk_3 (dk_at dksX6_paceOf_4 8 rfl rfl)
theorem dX6_paceOf_103 : decode cX6_paceOf 103 = .ok (.iconst 3, 1) := dk_6 (dk_at dksX6_paceOf_4 9 rfl rfl)
theorem dX6_paceOf_104 : decode cX6_paceOf 104 = .ok (.aload_n 0, 1) := dk_42 (dk_at dksX6_paceOf_4 10 rfl rfl)
theorem dX6_paceOf_105 : decode cX6_paceOf 105 = .ok (.invokevirtual 284, 3) := dk_182 1 28 (dk_at dksX6_paceOf_4 11 rfl rfl)
theorem dX6_paceOf_108 : decode cX6_paceOf 108 = .ok (.invokestatic 145, 3) := dk_184 0 145 (dk_at dksX6_paceOf_4 14 rfl rfl)
theorem dX6_paceOf_111 : decode cX6_paceOf 111 = .ok (.invokestatic 287, 3) := dk_184 1 31 (dk_at dksX6_paceOf_4 17 rfl rfl)
theorem dX6_paceOf_114 : decode cX6_paceOf 114 = .ok (.ireturn, 1) := dk_172 (dk_at dksX6_paceOf_4 20 rfl rfl)
abbrev cX6_isOn : ByteArray := prog_15_method_12_code
def yX6_isOn : MethodName := ⟨RX6, "isOn", "([II)Z"⟩
def dkwX6_isOn_0 : List UInt8 := [42, 27, 46, 155, 0, 7, 4, 167, 0, 4, 3, 172]
abbrev dktX6_isOn_0 : List UInt8 := dkwX6_isOn_0 ++ []
theorem dksX6_isOn_0 : cX6_isOn.data.toList.drop 0 = dktX6_isOn_0 := by decide +kernel
theorem dX6_isOn_0 : decode cX6_isOn 0 = .ok (.aload_n 0, 1) := dk_42 (dk_at dksX6_isOn_0 0 rfl rfl)
theorem dX6_isOn_1 : decode cX6_isOn 1 = .ok (.iload_n 1, 1) := dk_27 (dk_at dksX6_isOn_0 1 rfl rfl)
theorem dX6_isOn_2 : decode cX6_isOn 2 = .ok (.iaload, 1) := dk_46 (dk_at dksX6_isOn_0 2 rfl rfl)
theorem dX6_isOn_3 : decode cX6_isOn 3 = .ok (.ifCond .lt 7, 3) := dk_155 0 7 (dk_at dksX6_isOn_0 3 rfl rfl)
theorem dX6_isOn_6 : decode cX6_isOn 6 = .ok (.iconst 1, 1) := dk_4 (dk_at dksX6_isOn_0 6 rfl rfl)
theorem dX6_isOn_7 : decode cX6_isOn 7 = .ok (.goto 4, 3) := dk_167 0 4 (dk_at dksX6_isOn_0 7 rfl rfl)
theorem dX6_isOn_10 : decode cX6_isOn 10 = .ok (.iconst 0, 1) := dk_3 (dk_at dksX6_isOn_0 10 rfl rfl)
theorem dX6_isOn_11 : decode cX6_isOn 11 = .ok (.ireturn, 1) := dk_172 (dk_at dksX6_isOn_0 11 rfl rfl)
abbrev cX6_freeAhead : ByteArray := prog_15_method_44_code
def yX6_freeAhead : MethodName := ⟨RX6, "freeAhead", "([II)I"⟩
def dkwX6_freeAhead_1 : List UInt8 := [42, 43, 28, 29, 96, 4, 96, 182, 0, 195, 156, 0, 9, 132, 3, 1, 167, 255, 218, 29, 172]
abbrev dktX6_freeAhead_1 : List UInt8 := dkwX6_freeAhead_1 ++ []
def dkwX6_freeAhead_0 : List UInt8 := [3, 62, 28, 29, 96, 42, 182, 0, 192, 162, 0, 34, 28, 29, 96, 4, 96, 42, 182, 0, 192, 159, 0, 16]
abbrev dktX6_freeAhead_0 : List UInt8 := dkwX6_freeAhead_0 ++ dktX6_freeAhead_1
theorem dksX6_freeAhead_0 : cX6_freeAhead.data.toList.drop 0 = dktX6_freeAhead_0 := by decide +kernel
theorem dksX6_freeAhead_1 : cX6_freeAhead.data.toList.drop 24 = dktX6_freeAhead_1 := dk_seg dksX6_freeAhead_0 24 rfl rfl
theorem dX6_freeAhead_0 : decode cX6_freeAhead 0 = .ok (.iconst 0, 1) := dk_3 (dk_at dksX6_freeAhead_0 0 rfl rfl)
theorem dX6_freeAhead_1 : decode cX6_freeAhead 1 = .ok (.istore_n 3, 1) := dk_62 (dk_at dksX6_freeAhead_0 1 rfl rfl)
theorem dX6_freeAhead_2 : decode cX6_freeAhead 2 = .ok (.iload_n 2, 1) := dk_28 (dk_at dksX6_freeAhead_0 2 rfl rfl)
theorem dX6_freeAhead_3 : decode cX6_freeAhead 3 = .ok (.iload_n 3, 1) := dk_29 (dk_at dksX6_freeAhead_0 3 rfl rfl)
theorem dX6_freeAhead_4 : decode cX6_freeAhead 4 = .ok (.iadd, 1) := dk_96 (dk_at dksX6_freeAhead_0 4 rfl rfl)
theorem dX6_freeAhead_5 : decode cX6_freeAhead 5 = .ok (.aload_n 0, 1) := dk_42 (dk_at dksX6_freeAhead_0 5 rfl rfl)
theorem dX6_freeAhead_6 : decode cX6_freeAhead 6 = .ok (.invokevirtual 192, 3) := dk_182 0 192 (dk_at dksX6_freeAhead_0 6 rfl rfl)
theorem dX6_freeAhead_9 : decode cX6_freeAhead 9 = .ok (.if_icmp .ge 34, 3) := dk_162 0 34 (dk_at dksX6_freeAhead_0 9 rfl rfl)
theorem dX6_freeAhead_12 : decode cX6_freeAhead 12 = .ok (.iload_n 2, 1) := dk_28 (dk_at dksX6_freeAhead_0 12 rfl rfl)
theorem dX6_freeAhead_13 : decode cX6_freeAhead 13 = .ok (.iload_n 3, 1) := dk_29 (dk_at dksX6_freeAhead_0 13 rfl rfl)
theorem dX6_freeAhead_14 : decode cX6_freeAhead 14 = .ok (.iadd, 1) := dk_96 (dk_at dksX6_freeAhead_0 14 rfl rfl)
theorem dX6_freeAhead_15 : decode cX6_freeAhead 15 = .ok (.iconst 1, 1) := dk_4 (dk_at dksX6_freeAhead_0 15 rfl rfl)
theorem dX6_freeAhead_16 : decode cX6_freeAhead 16 = .ok (.iadd, 1) := dk_96 (dk_at dksX6_freeAhead_0 16 rfl rfl)
theorem dX6_freeAhead_17 : decode cX6_freeAhead 17 = .ok (.aload_n 0, 1) := dk_42 (dk_at dksX6_freeAhead_0 17 rfl rfl)
theorem dX6_freeAhead_18 : decode cX6_freeAhead 18 = .ok (.invokevirtual 192, 3) := dk_182 0 192 (dk_at dksX6_freeAhead_0 18 rfl rfl)
theorem dX6_freeAhead_21 : decode cX6_freeAhead 21 = .ok (.if_icmp .eq 16, 3) := dk_159 0 16 (dk_at dksX6_freeAhead_0 21 rfl rfl)
theorem dX6_freeAhead_24 : decode cX6_freeAhead 24 = .ok (.aload_n 0, 1) := dk_42 (dk_at dksX6_freeAhead_1 0 rfl rfl)
theorem dX6_freeAhead_25 : decode cX6_freeAhead 25 = .ok (.aload_n 1, 1) := dk_43 (dk_at dksX6_freeAhead_1 1 rfl rfl)
theorem dX6_freeAhead_26 : decode cX6_freeAhead 26 = .ok (.iload_n 2, 1) := dk_28 (dk_at dksX6_freeAhead_1 2 rfl rfl)
theorem dX6_freeAhead_27 : decode cX6_freeAhead 27 = .ok (.iload_n 3, 1) := dk_29 (dk_at dksX6_freeAhead_1 3 rfl rfl)
theorem dX6_freeAhead_28 : decode cX6_freeAhead 28 = .ok (.iadd, 1) := dk_96 (dk_at dksX6_freeAhead_1 4 rfl rfl)
theorem dX6_freeAhead_29 : decode cX6_freeAhead 29 = .ok (.iconst 1, 1) := dk_4 (dk_at dksX6_freeAhead_1 5 rfl rfl)
theorem dX6_freeAhead_30 : decode cX6_freeAhead 30 = .ok (.iadd, 1) := dk_96 (dk_at dksX6_freeAhead_1 6 rfl rfl)
theorem dX6_freeAhead_31 : decode cX6_freeAhead 31 = .ok (.invokevirtual 195, 3) := dk_182 0 195 (dk_at dksX6_freeAhead_1 7 rfl rfl)
theorem dX6_freeAhead_34 : decode cX6_freeAhead 34 = .ok (.ifCond .ge 9, 3) := dk_156 0 9 (dk_at dksX6_freeAhead_1 10 rfl rfl)
theorem dX6_freeAhead_37 : decode cX6_freeAhead 37 = .ok (.iinc 3 1, 3) := dk_132 3 1 (dk_at dksX6_freeAhead_1 13 rfl rfl)
theorem dX6_freeAhead_40 : decode cX6_freeAhead 40 = .ok (.goto (-38), 3) := dk_167 255 218 (dk_at dksX6_freeAhead_1 16 rfl rfl)
theorem dX6_freeAhead_43 : decode cX6_freeAhead 43 = .ok (.iload_n 3, 1) := dk_29 (dk_at dksX6_freeAhead_1 19 rfl rfl)
theorem dX6_freeAhead_44 : decode cX6_freeAhead 44 = .ok (.ireturn, 1) := dk_172 (dk_at dksX6_freeAhead_1 20 rfl rfl)
abbrev cX6_weatherOn : ByteArray := prog_15_method_35_code
def yX6_weatherOn : MethodName := ⟨RX6, "weatherOn", "(I)I"⟩
def dkwX6_weatherOn_0 : List UInt8 := [42, 180, 0, 28, 27, 42, 180, 0, 17, 112, 46, 172]
abbrev dktX6_weatherOn_0 : List UInt8 := dkwX6_weatherOn_0 ++ []
theorem dksX6_weatherOn_0 : cX6_weatherOn.data.toList.drop 0 = dktX6_weatherOn_0 := by decide +kernel
theorem dX6_weatherOn_0 : decode cX6_weatherOn 0 = .ok (.aload_n 0, 1) := dk_42 (dk_at dksX6_weatherOn_0 0 rfl rfl)
theorem dX6_weatherOn_1 : decode cX6_weatherOn 1 = .ok (.getfield 28, 3) := dk_180 0 28 (dk_at dksX6_weatherOn_0 1 rfl rfl)
theorem dX6_weatherOn_4 : decode cX6_weatherOn 4 = .ok (.iload_n 1, 1) := dk_27 (dk_at dksX6_weatherOn_0 4 rfl rfl)
theorem dX6_weatherOn_5 : decode cX6_weatherOn 5 = .ok (.aload_n 0, 1) := dk_42 (dk_at dksX6_weatherOn_0 5 rfl rfl)
theorem dX6_weatherOn_6 : decode cX6_weatherOn 6 = .ok (.getfield 17, 3) := dk_180 0 17 (dk_at dksX6_weatherOn_0 6 rfl rfl)
theorem dX6_weatherOn_9 : decode cX6_weatherOn 9 = .ok (.irem, 1) := dk_112 (dk_at dksX6_weatherOn_0 9 rfl rfl)
theorem dX6_weatherOn_10 : decode cX6_weatherOn 10 = .ok (.iaload, 1) := dk_46 (dk_at dksX6_weatherOn_0 10 rfl rfl)
theorem dX6_weatherOn_11 : decode cX6_weatherOn 11 = .ok (.ireturn, 1) := dk_172 (dk_at dksX6_weatherOn_0 11 rfl rfl)
abbrev cX6_bitsBy : ByteArray := prog_15_method_15_code
def yX6_bitsBy : MethodName := ⟨RX6, "bitsBy", "([III)I"⟩
def dkwX6_bitsBy_1 : List UInt8 := [160, 0, 10, 4, 21, 5, 120, 167, 0, 4, 3, 128, 54, 4, 132, 5, 1, 167, 255, 221, 21, 4, 172]
abbrev dktX6_bitsBy_1 : List UInt8 := dkwX6_bitsBy_1 ++ []
def dkwX6_bitsBy_0 : List UInt8 := [3, 54, 4, 3, 54, 5, 21, 5, 42, 180, 0, 129, 162, 0, 32, 21, 4, 43, 28, 21, 5, 96, 46, 29]
abbrev dktX6_bitsBy_0 : List UInt8 := dkwX6_bitsBy_0 ++ dktX6_bitsBy_1
theorem dksX6_bitsBy_0 : cX6_bitsBy.data.toList.drop 0 = dktX6_bitsBy_0 := by decide +kernel
theorem dksX6_bitsBy_1 : cX6_bitsBy.data.toList.drop 24 = dktX6_bitsBy_1 := dk_seg dksX6_bitsBy_0 24 rfl rfl
theorem dX6_bitsBy_0 : decode cX6_bitsBy 0 = .ok (.iconst 0, 1) := dk_3 (dk_at dksX6_bitsBy_0 0 rfl rfl)
theorem dX6_bitsBy_1 : decode cX6_bitsBy 1 = .ok (.istore 4, 2) := dk_54 4 (dk_at dksX6_bitsBy_0 1 rfl rfl)
theorem dX6_bitsBy_3 : decode cX6_bitsBy 3 = .ok (.iconst 0, 1) := dk_3 (dk_at dksX6_bitsBy_0 3 rfl rfl)
theorem dX6_bitsBy_4 : decode cX6_bitsBy 4 = .ok (.istore 5, 2) := dk_54 5 (dk_at dksX6_bitsBy_0 4 rfl rfl)
theorem dX6_bitsBy_6 : decode cX6_bitsBy 6 = .ok (.iload 5, 2) := dk_21 5 (dk_at dksX6_bitsBy_0 6 rfl rfl)
theorem dX6_bitsBy_8 : decode cX6_bitsBy 8 = .ok (.aload_n 0, 1) := dk_42 (dk_at dksX6_bitsBy_0 8 rfl rfl)
theorem dX6_bitsBy_9 : decode cX6_bitsBy 9 = .ok (.getfield 129, 3) := dk_180 0 129 (dk_at dksX6_bitsBy_0 9 rfl rfl)
theorem dX6_bitsBy_12 : decode cX6_bitsBy 12 = .ok (.if_icmp .ge 32, 3) := dk_162 0 32 (dk_at dksX6_bitsBy_0 12 rfl rfl)
theorem dX6_bitsBy_15 : decode cX6_bitsBy 15 = .ok (.iload 4, 2) := dk_21 4 (dk_at dksX6_bitsBy_0 15 rfl rfl)
theorem dX6_bitsBy_17 : decode cX6_bitsBy 17 = .ok (.aload_n 1, 1) := dk_43 (dk_at dksX6_bitsBy_0 17 rfl rfl)
theorem dX6_bitsBy_18 : decode cX6_bitsBy 18 = .ok (.iload_n 2, 1) := dk_28 (dk_at dksX6_bitsBy_0 18 rfl rfl)
theorem dX6_bitsBy_19 : decode cX6_bitsBy 19 = .ok (.iload 5, 2) := dk_21 5 (dk_at dksX6_bitsBy_0 19 rfl rfl)
theorem dX6_bitsBy_21 : decode cX6_bitsBy 21 = .ok (.iadd, 1) := dk_96 (dk_at dksX6_bitsBy_0 21 rfl rfl)
theorem dX6_bitsBy_22 : decode cX6_bitsBy 22 = .ok (.iaload, 1) := dk_46 (dk_at dksX6_bitsBy_0 22 rfl rfl)
theorem dX6_bitsBy_23 : decode cX6_bitsBy 23 = .ok (.iload_n 3, 1) := dk_29 (dk_at dksX6_bitsBy_0 23 rfl rfl)
theorem dX6_bitsBy_24 : decode cX6_bitsBy 24 = .ok (.if_icmp .ne 10, 3) := dk_160 0 10 (dk_at dksX6_bitsBy_1 0 rfl rfl)
theorem dX6_bitsBy_27 : decode cX6_bitsBy 27 = .ok (.iconst 1, 1) := dk_4 (dk_at dksX6_bitsBy_1 3 rfl rfl)
theorem dX6_bitsBy_28 : decode cX6_bitsBy 28 = .ok (.iload 5, 2) := dk_21 5 (dk_at dksX6_bitsBy_1 4 rfl rfl)
theorem dX6_bitsBy_30 : decode cX6_bitsBy 30 = .ok (.ishl, 1) := dk_120 (dk_at dksX6_bitsBy_1 6 rfl rfl)
theorem dX6_bitsBy_31 : decode cX6_bitsBy 31 = .ok (.goto 4, 3) := dk_167 0 4 (dk_at dksX6_bitsBy_1 7 rfl rfl)
theorem dX6_bitsBy_34 : decode cX6_bitsBy 34 = .ok (.iconst 0, 1) := dk_3 (dk_at dksX6_bitsBy_1 10 rfl rfl)
theorem dX6_bitsBy_35 : decode cX6_bitsBy 35 = .ok (.ior, 1) := dk_128 (dk_at dksX6_bitsBy_1 11 rfl rfl)
theorem dX6_bitsBy_36 : decode cX6_bitsBy 36 = .ok (.istore 4, 2) := dk_54 4 (dk_at dksX6_bitsBy_1 12 rfl rfl)
theorem dX6_bitsBy_38 : decode cX6_bitsBy 38 = .ok (.iinc 5 1, 3) := dk_132 5 1 (dk_at dksX6_bitsBy_1 14 rfl rfl)
theorem dX6_bitsBy_41 : decode cX6_bitsBy 41 = .ok (.goto (-35), 3) := dk_167 255 221 (dk_at dksX6_bitsBy_1 17 rfl rfl)
theorem dX6_bitsBy_44 : decode cX6_bitsBy 44 = .ok (.iload 4, 2) := dk_21 4 (dk_at dksX6_bitsBy_1 20 rfl rfl)
theorem dX6_bitsBy_46 : decode cX6_bitsBy 46 = .ok (.ireturn, 1) := dk_172 (dk_at dksX6_bitsBy_1 22 rfl rfl)
abbrev cX6_ruled : ByteArray := prog_15_method_43_code
def yX6_ruled : MethodName := ⟨RX6, "ruled", "()I"⟩
def dkwX6_ruled_6 : List UInt8 := [164, 0, 7, 4, 167, 0, 4, 3, 184, 0, 154, 96, 167, 0, 9, 42, 180, 0, 55, 3, 46, 172]
abbrev dktX6_ruled_6 : List UInt8 := dkwX6_ruled_6 ++ []
def dkwX6_ruled_5 : List UInt8 := [132, 1, 1, 132, 2, 1, 167, 255, 138, 42, 180, 0, 252, 154, 0, 26, 4, 42, 180, 0, 58, 4, 46, 5]
abbrev dktX6_ruled_5 : List UInt8 := dkwX6_ruled_5 ++ dktX6_ruled_6
def dkwX6_ruled_4 : List UInt8 := [27, 29, 17, 3, 232, 161, 0, 16, 42, 180, 0, 58, 29, 17, 3, 232, 100, 46, 167, 0, 4, 29, 79]
abbrev dktX6_ruled_4 : List UInt8 := dkwX6_ruled_4 ++ dktX6_ruled_5
def dkwX6_ruled_3 : List UInt8 := [180, 0, 55, 27, 4, 100, 46, 42, 180, 0, 55, 27, 46, 184, 1, 6, 79, 167, 0, 33, 42, 180, 0, 55]
abbrev dktX6_ruled_3 : List UInt8 := dkwX6_ruled_3 ++ dktX6_ruled_4
def dkwX6_ruled_2 : List UInt8 := [17, 7, 208, 161, 0, 39, 132, 1, 255, 42, 180, 0, 55, 27, 4, 100, 29, 17, 7, 208, 100, 42]
abbrev dktX6_ruled_2 : List UInt8 := dkwX6_ruled_2 ++ dktX6_ruled_3
def dkwX6_ruled_1 : List UInt8 := [160, 0, 23, 42, 180, 0, 55, 27, 4, 100, 42, 180, 0, 55, 27, 4, 100, 46, 116, 79, 167, 0, 76, 29]
abbrev dktX6_ruled_1 : List UInt8 := dkwX6_ruled_1 ++ dktX6_ruled_2
def dkwX6_ruled_0 : List UInt8 := [3, 60, 3, 61, 28, 42, 180, 0, 252, 162, 0, 116, 42, 180, 0, 49, 28, 46, 62, 29, 17, 11, 184]
abbrev dktX6_ruled_0 : List UInt8 := dkwX6_ruled_0 ++ dktX6_ruled_1
theorem dksX6_ruled_0 : cX6_ruled.data.toList.drop 0 = dktX6_ruled_0 := by decide +kernel
theorem dksX6_ruled_1 : cX6_ruled.data.toList.drop 23 = dktX6_ruled_1 := dk_seg dksX6_ruled_0 23 rfl rfl
theorem dksX6_ruled_2 : cX6_ruled.data.toList.drop 47 = dktX6_ruled_2 := dk_seg dksX6_ruled_1 24 rfl rfl
theorem dksX6_ruled_3 : cX6_ruled.data.toList.drop 69 = dktX6_ruled_3 := dk_seg dksX6_ruled_2 22 rfl rfl
theorem dksX6_ruled_4 : cX6_ruled.data.toList.drop 93 = dktX6_ruled_4 := dk_seg dksX6_ruled_3 24 rfl rfl
theorem dksX6_ruled_5 : cX6_ruled.data.toList.drop 116 = dktX6_ruled_5 := dk_seg dksX6_ruled_4 23 rfl rfl
theorem dksX6_ruled_6 : cX6_ruled.data.toList.drop 140 = dktX6_ruled_6 := dk_seg dksX6_ruled_5 24 rfl rfl
theorem dX6_ruled_0 : decode cX6_ruled 0 = .ok (.iconst 0, 1) := dk_3 (dk_at dksX6_ruled_0 0 rfl rfl)
theorem dX6_ruled_1 : decode cX6_ruled 1 = .ok (.istore_n 1, 1) := dk_60 (dk_at dksX6_ruled_0 1 rfl rfl)
theorem dX6_ruled_2 : decode cX6_ruled 2 = .ok (.iconst 0, 1) := dk_3 (dk_at dksX6_ruled_0 2 rfl rfl)
theorem dX6_ruled_3 : decode cX6_ruled 3 = .ok (.istore_n 2, 1) := dk_61 (dk_at dksX6_ruled_0 3 rfl rfl)
theorem dX6_ruled_4 : decode cX6_ruled 4 = .ok (.iload_n 2, 1) := dk_28 (dk_at dksX6_ruled_0 4 rfl rfl)
theorem dX6_ruled_5 : decode cX6_ruled 5 = .ok (.aload_n 0, 1) := dk_42 (dk_at dksX6_ruled_0 5 rfl rfl)
theorem dX6_ruled_6 : decode cX6_ruled 6 = .ok (.getfield 252, 3) := dk_180 0 252 (dk_at dksX6_ruled_0 6 rfl rfl)
theorem dX6_ruled_9 : decode cX6_ruled 9 = .ok (.if_icmp .ge 116, 3) := dk_162 0 116 (dk_at dksX6_ruled_0 9 rfl rfl)
theorem dX6_ruled_12 : decode cX6_ruled 12 = .ok (.aload_n 0, 1) := dk_42 (dk_at dksX6_ruled_0 12 rfl rfl)
theorem dX6_ruled_13 : decode cX6_ruled 13 = .ok (.getfield 49, 3) := dk_180 0 49 (dk_at dksX6_ruled_0 13 rfl rfl)
theorem dX6_ruled_16 : decode cX6_ruled 16 = .ok (.iload_n 2, 1) := dk_28 (dk_at dksX6_ruled_0 16 rfl rfl)
theorem dX6_ruled_17 : decode cX6_ruled 17 = .ok (.iaload, 1) := dk_46 (dk_at dksX6_ruled_0 17 rfl rfl)
theorem dX6_ruled_18 : decode cX6_ruled 18 = .ok (.istore_n 3, 1) := dk_62 (dk_at dksX6_ruled_0 18 rfl rfl)
theorem dX6_ruled_19 : decode cX6_ruled 19 = .ok (.iload_n 3, 1) := dk_29 (dk_at dksX6_ruled_0 19 rfl rfl)
theorem dX6_ruled_20 : decode cX6_ruled 20 = .ok (.sipush 3000, 3) := dk_17 11 184 (dk_at dksX6_ruled_0 20 rfl rfl)
theorem dX6_ruled_23 : decode cX6_ruled 23 = .ok (.if_icmp .ne 23, 3) := dk_160 0 23 (dk_at dksX6_ruled_1 0 rfl rfl)
theorem dX6_ruled_26 : decode cX6_ruled 26 = .ok (.aload_n 0, 1) := dk_42 (dk_at dksX6_ruled_1 3 rfl rfl)
theorem dX6_ruled_27 : decode cX6_ruled 27 = .ok (.getfield 55, 3) := dk_180 0 55 (dk_at dksX6_ruled_1 4 rfl rfl)
theorem dX6_ruled_30 : decode cX6_ruled 30 = .ok (.iload_n 1, 1) := dk_27 (dk_at dksX6_ruled_1 7 rfl rfl)
theorem dX6_ruled_31 : decode cX6_ruled 31 = .ok (.iconst 1, 1) := dk_4 (dk_at dksX6_ruled_1 8 rfl rfl)
theorem dX6_ruled_32 : decode cX6_ruled 32 = .ok (.isub, 1) := dk_100 (dk_at dksX6_ruled_1 9 rfl rfl)
theorem dX6_ruled_33 : decode cX6_ruled 33 = .ok (.aload_n 0, 1) := dk_42 (dk_at dksX6_ruled_1 10 rfl rfl)
theorem dX6_ruled_34 : decode cX6_ruled 34 = .ok (.getfield 55, 3) := dk_180 0 55 (dk_at dksX6_ruled_1 11 rfl rfl)
theorem dX6_ruled_37 : decode cX6_ruled 37 = .ok (.iload_n 1, 1) := dk_27 (dk_at dksX6_ruled_1 14 rfl rfl)
theorem dX6_ruled_38 : decode cX6_ruled 38 = .ok (.iconst 1, 1) := dk_4 (dk_at dksX6_ruled_1 15 rfl rfl)
theorem dX6_ruled_39 : decode cX6_ruled 39 = .ok (.isub, 1) := dk_100 (dk_at dksX6_ruled_1 16 rfl rfl)
theorem dX6_ruled_40 : decode cX6_ruled 40 = .ok (.iaload, 1) := dk_46 (dk_at dksX6_ruled_1 17 rfl rfl)
theorem dX6_ruled_41 : decode cX6_ruled 41 = .ok (.ineg, 1) := dk_116 (dk_at dksX6_ruled_1 18 rfl rfl)
theorem dX6_ruled_42 : decode cX6_ruled 42 = .ok (.iastore, 1) := dk_79 (dk_at dksX6_ruled_1 19 rfl rfl)
theorem dX6_ruled_43 : decode cX6_ruled 43 = .ok (.goto 76, 3) := dk_167 0 76 (dk_at dksX6_ruled_1 20 rfl rfl)
theorem dX6_ruled_46 : decode cX6_ruled 46 = .ok (.iload_n 3, 1) := dk_29 (dk_at dksX6_ruled_1 23 rfl rfl)
theorem dX6_ruled_47 : decode cX6_ruled 47 = .ok (.sipush 2000, 3) := dk_17 7 208 (dk_at dksX6_ruled_2 0 rfl rfl)
theorem dX6_ruled_50 : decode cX6_ruled 50 = .ok (.if_icmp .lt 39, 3) := dk_161 0 39 (dk_at dksX6_ruled_2 3 rfl rfl)
theorem dX6_ruled_53 : decode cX6_ruled 53 = .ok (.iinc 1 (-1), 3) := dk_132 1 255 (dk_at dksX6_ruled_2 6 rfl rfl)
theorem dX6_ruled_56 : decode cX6_ruled 56 = .ok (.aload_n 0, 1) := dk_42 (dk_at dksX6_ruled_2 9 rfl rfl)
theorem dX6_ruled_57 : decode cX6_ruled 57 = .ok (.getfield 55, 3) := dk_180 0 55 (dk_at dksX6_ruled_2 10 rfl rfl)
theorem dX6_ruled_60 : decode cX6_ruled 60 = .ok (.iload_n 1, 1) := dk_27 (dk_at dksX6_ruled_2 13 rfl rfl)
theorem dX6_ruled_61 : decode cX6_ruled 61 = .ok (.iconst 1, 1) := dk_4 (dk_at dksX6_ruled_2 14 rfl rfl)
theorem dX6_ruled_62 : decode cX6_ruled 62 = .ok (.isub, 1) := dk_100 (dk_at dksX6_ruled_2 15 rfl rfl)
theorem dX6_ruled_63 : decode cX6_ruled 63 = .ok (.iload_n 3, 1) := dk_29 (dk_at dksX6_ruled_2 16 rfl rfl)
theorem dX6_ruled_64 : decode cX6_ruled 64 = .ok (.sipush 2000, 3) := dk_17 7 208 (dk_at dksX6_ruled_2 17 rfl rfl)
theorem dX6_ruled_67 : decode cX6_ruled 67 = .ok (.isub, 1) := dk_100 (dk_at dksX6_ruled_2 20 rfl rfl)
theorem dX6_ruled_68 : decode cX6_ruled 68 = .ok (.aload_n 0, 1) := dk_42 (dk_at dksX6_ruled_2 21 rfl rfl)
theorem dX6_ruled_69 : decode cX6_ruled 69 = .ok (.getfield 55, 3) := dk_180 0 55 (dk_at dksX6_ruled_3 0 rfl rfl)
theorem dX6_ruled_72 : decode cX6_ruled 72 = .ok (.iload_n 1, 1) := dk_27 (dk_at dksX6_ruled_3 3 rfl rfl)
theorem dX6_ruled_73 : decode cX6_ruled 73 = .ok (.iconst 1, 1) := dk_4 (dk_at dksX6_ruled_3 4 rfl rfl)
theorem dX6_ruled_74 : decode cX6_ruled 74 = .ok (.isub, 1) := dk_100 (dk_at dksX6_ruled_3 5 rfl rfl)
theorem dX6_ruled_75 : decode cX6_ruled 75 = .ok (.iaload, 1) := dk_46 (dk_at dksX6_ruled_3 6 rfl rfl)
theorem dX6_ruled_76 : decode cX6_ruled 76 = .ok (.aload_n 0, 1) := dk_42 (dk_at dksX6_ruled_3 7 rfl rfl)
theorem dX6_ruled_77 : decode cX6_ruled 77 = .ok (.getfield 55, 3) := dk_180 0 55 (dk_at dksX6_ruled_3 8 rfl rfl)
theorem dX6_ruled_80 : decode cX6_ruled 80 = .ok (.iload_n 1, 1) := dk_27 (dk_at dksX6_ruled_3 11 rfl rfl)
theorem dX6_ruled_81 : decode cX6_ruled 81 = .ok (.iaload, 1) := dk_46 (dk_at dksX6_ruled_3 12 rfl rfl)
theorem dX6_ruled_82 : decode cX6_ruled 82 = .ok (.invokestatic 262, 3) := dk_184 1 6 (dk_at dksX6_ruled_3 13 rfl rfl)
theorem dX6_ruled_85 : decode cX6_ruled 85 = .ok (.iastore, 1) := dk_79 (dk_at dksX6_ruled_3 16 rfl rfl)
theorem dX6_ruled_86 : decode cX6_ruled 86 = .ok (.goto 33, 3) := dk_167 0 33 (dk_at dksX6_ruled_3 17 rfl rfl)
theorem dX6_ruled_89 : decode cX6_ruled 89 = .ok (.aload_n 0, 1) := dk_42 (dk_at dksX6_ruled_3 20 rfl rfl)
theorem dX6_ruled_90 : decode cX6_ruled 90 = .ok (.getfield 55, 3) := dk_180 0 55 (dk_at dksX6_ruled_3 21 rfl rfl)
theorem dX6_ruled_93 : decode cX6_ruled 93 = .ok (.iload_n 1, 1) := dk_27 (dk_at dksX6_ruled_4 0 rfl rfl)
theorem dX6_ruled_94 : decode cX6_ruled 94 = .ok (.iload_n 3, 1) := dk_29 (dk_at dksX6_ruled_4 1 rfl rfl)
theorem dX6_ruled_95 : decode cX6_ruled 95 = .ok (.sipush 1000, 3) := dk_17 3 232 (dk_at dksX6_ruled_4 2 rfl rfl)
theorem dX6_ruled_98 : decode cX6_ruled 98 = .ok (.if_icmp .lt 16, 3) := dk_161 0 16 (dk_at dksX6_ruled_4 5 rfl rfl)
theorem dX6_ruled_101 : decode cX6_ruled 101 = .ok (.aload_n 0, 1) := dk_42 (dk_at dksX6_ruled_4 8 rfl rfl)
theorem dX6_ruled_102 : decode cX6_ruled 102 = .ok (.getfield 58, 3) := dk_180 0 58 (dk_at dksX6_ruled_4 9 rfl rfl)
theorem dX6_ruled_105 : decode cX6_ruled 105 = .ok (.iload_n 3, 1) := dk_29 (dk_at dksX6_ruled_4 12 rfl rfl)
theorem dX6_ruled_106 : decode cX6_ruled 106 = .ok (.sipush 1000, 3) := dk_17 3 232 (dk_at dksX6_ruled_4 13 rfl rfl)
theorem dX6_ruled_109 : decode cX6_ruled 109 = .ok (.isub, 1) := dk_100 (dk_at dksX6_ruled_4 16 rfl rfl)
theorem dX6_ruled_110 : decode cX6_ruled 110 = .ok (.iaload, 1) := dk_46 (dk_at dksX6_ruled_4 17 rfl rfl)
theorem dX6_ruled_111 : decode cX6_ruled 111 = .ok (.goto 4, 3) := dk_167 0 4 (dk_at dksX6_ruled_4 18 rfl rfl)
theorem dX6_ruled_114 : decode cX6_ruled 114 = .ok (.iload_n 3, 1) := dk_29 (dk_at dksX6_ruled_4 21 rfl rfl)
theorem dX6_ruled_115 : decode cX6_ruled 115 = .ok (.iastore, 1) := dk_79 (dk_at dksX6_ruled_4 22 rfl rfl)
theorem dX6_ruled_116 : decode cX6_ruled 116 = .ok (.iinc 1 1, 3) := dk_132 1 1 (dk_at dksX6_ruled_5 0 rfl rfl)
theorem dX6_ruled_119 : decode cX6_ruled 119 = .ok (.iinc 2 1, 3) := dk_132 2 1 (dk_at dksX6_ruled_5 3 rfl rfl)
theorem dX6_ruled_122 : decode cX6_ruled 122 = .ok (.goto (-118), 3) := dk_167 255 138 (dk_at dksX6_ruled_5 6 rfl rfl)
theorem dX6_ruled_125 : decode cX6_ruled 125 = .ok (.aload_n 0, 1) := dk_42 (dk_at dksX6_ruled_5 9 rfl rfl)
theorem dX6_ruled_126 : decode cX6_ruled 126 = .ok (.getfield 252, 3) := dk_180 0 252 (dk_at dksX6_ruled_5 10 rfl rfl)
theorem dX6_ruled_129 : decode cX6_ruled 129 = .ok (.ifCond .ne 26, 3) := dk_154 0 26 (dk_at dksX6_ruled_5 13 rfl rfl)
theorem dX6_ruled_132 : decode cX6_ruled 132 = .ok (.iconst 1, 1) := dk_4 (dk_at dksX6_ruled_5 16 rfl rfl)
theorem dX6_ruled_133 : decode cX6_ruled 133 = .ok (.aload_n 0, 1) := dk_42 (dk_at dksX6_ruled_5 17 rfl rfl)
theorem dX6_ruled_134 : decode cX6_ruled 134 = .ok (.getfield 58, 3) := dk_180 0 58 (dk_at dksX6_ruled_5 18 rfl rfl)
theorem dX6_ruled_137 : decode cX6_ruled 137 = .ok (.iconst 1, 1) := dk_4 (dk_at dksX6_ruled_5 21 rfl rfl)
theorem dX6_ruled_138 : decode cX6_ruled 138 = .ok (.iaload, 1) := dk_46 (dk_at dksX6_ruled_5 22 rfl rfl)
theorem dX6_ruled_139 : decode cX6_ruled 139 = .ok (.iconst 2, 1) := dk_5 (dk_at dksX6_ruled_5 23 rfl rfl)
theorem dX6_ruled_140 : decode cX6_ruled 140 = .ok (.if_icmp .le 7, 3) := dk_164 0 7 (dk_at dksX6_ruled_6 0 rfl rfl)
theorem dX6_ruled_143 : decode cX6_ruled 143 = .ok (.iconst 1, 1) := dk_4 (dk_at dksX6_ruled_6 3 rfl rfl)
theorem dX6_ruled_144 : decode cX6_ruled 144 = .ok (.goto 4, 3) := dk_167 0 4 (dk_at dksX6_ruled_6 4 rfl rfl)
theorem dX6_ruled_147 : decode cX6_ruled 147 = .ok (.iconst 0, 1) := dk_3 (dk_at dksX6_ruled_6 7 rfl rfl)
theorem dX6_ruled_148 : decode cX6_ruled 148 = .ok (.invokestatic 154, 3) := dk_184 0 154 (dk_at dksX6_ruled_6 8 rfl rfl)
theorem dX6_ruled_151 : decode cX6_ruled 151 = .ok (.iadd, 1) := dk_96 (dk_at dksX6_ruled_6 11 rfl rfl)
theorem dX6_ruled_152 : decode cX6_ruled 152 = .ok (.goto 9, 3) := dk_167 0 9 (dk_at dksX6_ruled_6 12 rfl rfl)
theorem dX6_ruled_155 : decode cX6_ruled 155 = .ok (.aload_n 0, 1) := dk_42 (dk_at dksX6_ruled_6 15 rfl rfl)
theorem dX6_ruled_156 : decode cX6_ruled 156 = .ok (.getfield 55, 3) := dk_180 0 55 (dk_at dksX6_ruled_6 16 rfl rfl)
theorem dX6_ruled_159 : decode cX6_ruled 159 = .ok (.iconst 0, 1) := dk_3 (dk_at dksX6_ruled_6 19 rfl rfl)
theorem dX6_ruled_160 : decode cX6_ruled 160 = .ok (.iaload, 1) := dk_46 (dk_at dksX6_ruled_6 20 rfl rfl)
theorem dX6_ruled_161 : decode cX6_ruled 161 = .ok (.ireturn, 1) := dk_172 (dk_at dksX6_ruled_6 21 rfl rfl)
abbrev cX6_worked : ByteArray := prog_15_method_42_code
def yX6_worked : MethodName := ⟨RX6, "worked", "(III)I"⟩
def dkwX6_worked_4 : List UInt8 := [100, 172, 27, 28, 104, 172, 28, 154, 0, 7, 3, 167, 0, 6, 27, 28, 108, 172]
abbrev dktX6_worked_4 : List UInt8 := dkwX6_worked_4 ++ []
def dkwX6_worked_3 : List UInt8 := [184, 0, 154, 172, 27, 28, 160, 0, 7, 4, 167, 0, 4, 3, 184, 0, 154, 172, 27, 28, 96, 172, 27, 28]
abbrev dktX6_worked_3 : List UInt8 := dkwX6_worked_3 ++ dktX6_worked_4
def dkwX6_worked_2 : List UInt8 := [27, 28, 162, 0, 7, 4, 167, 0, 4, 3, 184, 0, 154, 172, 27, 28, 164, 0, 7, 4, 167, 0, 4, 3]
abbrev dktX6_worked_2 : List UInt8 := dkwX6_worked_2 ++ dktX6_worked_3
def dkwX6_worked_1 : List UInt8 := [170, 0, 0, 0, 0, 0, 93, 0, 0, 0, 0, 0, 0, 0, 5, 0, 0, 0, 39, 0, 0, 0, 53, 0, 0, 0, 67, 0, 0, 0, 81, 0, 0, 0, 85, 0, 0, 0, 89]
abbrev dktX6_worked_1 : List UInt8 := dkwX6_worked_1 ++ dktX6_worked_2
def dkwX6_worked_0 : List UInt8 := [26]
abbrev dktX6_worked_0 : List UInt8 := dkwX6_worked_0 ++ dktX6_worked_1
theorem dksX6_worked_0 : cX6_worked.data.toList.drop 0 = dktX6_worked_0 := by decide +kernel
theorem dksX6_worked_1 : cX6_worked.data.toList.drop 1 = dktX6_worked_1 := dk_seg dksX6_worked_0 1 rfl rfl
theorem dksX6_worked_2 : cX6_worked.data.toList.drop 40 = dktX6_worked_2 := dk_seg dksX6_worked_1 39 rfl rfl
theorem dksX6_worked_3 : cX6_worked.data.toList.drop 64 = dktX6_worked_3 := dk_seg dksX6_worked_2 24 rfl rfl
theorem dksX6_worked_4 : cX6_worked.data.toList.drop 88 = dktX6_worked_4 := dk_seg dksX6_worked_3 24 rfl rfl
theorem dX6_worked_0 : decode cX6_worked 0 = .ok (.iload_n 0, 1) := dk_26 (dk_at dksX6_worked_0 0 rfl rfl)
theorem dX6_worked_1 : decode cX6_worked 1 = .ok (.tableswitch 93 0 5 #[39, 53, 67, 81, 85, 89], 39) := by decide +kernel
theorem dX6_worked_40 : decode cX6_worked 40 = .ok (.iload_n 1, 1) := dk_27 (dk_at dksX6_worked_2 0 rfl rfl)
theorem dX6_worked_41 : decode cX6_worked 41 = .ok (.iload_n 2, 1) := dk_28 (dk_at dksX6_worked_2 1 rfl rfl)
theorem dX6_worked_42 : decode cX6_worked 42 = .ok (.if_icmp .ge 7, 3) := dk_162 0 7 (dk_at dksX6_worked_2 2 rfl rfl)
theorem dX6_worked_45 : decode cX6_worked 45 = .ok (.iconst 1, 1) := dk_4 (dk_at dksX6_worked_2 5 rfl rfl)
theorem dX6_worked_46 : decode cX6_worked 46 = .ok (.goto 4, 3) := dk_167 0 4 (dk_at dksX6_worked_2 6 rfl rfl)
theorem dX6_worked_49 : decode cX6_worked 49 = .ok (.iconst 0, 1) := dk_3 (dk_at dksX6_worked_2 9 rfl rfl)
theorem dX6_worked_50 : decode cX6_worked 50 = .ok (.invokestatic 154, 3) := dk_184 0 154 (dk_at dksX6_worked_2 10 rfl rfl)
theorem dX6_worked_53 : decode cX6_worked 53 = .ok (.ireturn, 1) := dk_172 (dk_at dksX6_worked_2 13 rfl rfl)
theorem dX6_worked_54 : decode cX6_worked 54 = .ok (.iload_n 1, 1) := dk_27 (dk_at dksX6_worked_2 14 rfl rfl)
theorem dX6_worked_55 : decode cX6_worked 55 = .ok (.iload_n 2, 1) := dk_28 (dk_at dksX6_worked_2 15 rfl rfl)
theorem dX6_worked_56 : decode cX6_worked 56 = .ok (.if_icmp .le 7, 3) := dk_164 0 7 (dk_at dksX6_worked_2 16 rfl rfl)
theorem dX6_worked_59 : decode cX6_worked 59 = .ok (.iconst 1, 1) := dk_4 (dk_at dksX6_worked_2 19 rfl rfl)
theorem dX6_worked_60 : decode cX6_worked 60 = .ok (.goto 4, 3) := dk_167 0 4 (dk_at dksX6_worked_2 20 rfl rfl)
theorem dX6_worked_63 : decode cX6_worked 63 = .ok (.iconst 0, 1) := dk_3 (dk_at dksX6_worked_2 23 rfl rfl)
theorem dX6_worked_64 : decode cX6_worked 64 = .ok (.invokestatic 154, 3) := dk_184 0 154 (dk_at dksX6_worked_3 0 rfl rfl)
theorem dX6_worked_67 : decode cX6_worked 67 = .ok (.ireturn, 1) := dk_172 (dk_at dksX6_worked_3 3 rfl rfl)
theorem dX6_worked_68 : decode cX6_worked 68 = .ok (.iload_n 1, 1) := dk_27 (dk_at dksX6_worked_3 4 rfl rfl)
theorem dX6_worked_69 : decode cX6_worked 69 = .ok (.iload_n 2, 1) := dk_28 (dk_at dksX6_worked_3 5 rfl rfl)
theorem dX6_worked_70 : decode cX6_worked 70 = .ok (.if_icmp .ne 7, 3) := dk_160 0 7 (dk_at dksX6_worked_3 6 rfl rfl)
theorem dX6_worked_73 : decode cX6_worked 73 = .ok (.iconst 1, 1) := dk_4 (dk_at dksX6_worked_3 9 rfl rfl)
theorem dX6_worked_74 : decode cX6_worked 74 = .ok (.goto 4, 3) := dk_167 0 4 (dk_at dksX6_worked_3 10 rfl rfl)
theorem dX6_worked_77 : decode cX6_worked 77 = .ok (.iconst 0, 1) := dk_3 (dk_at dksX6_worked_3 13 rfl rfl)
theorem dX6_worked_78 : decode cX6_worked 78 = .ok (.invokestatic 154, 3) := dk_184 0 154 (dk_at dksX6_worked_3 14 rfl rfl)
theorem dX6_worked_81 : decode cX6_worked 81 = .ok (.ireturn, 1) := dk_172 (dk_at dksX6_worked_3 17 rfl rfl)
theorem dX6_worked_82 : decode cX6_worked 82 = .ok (.iload_n 1, 1) := dk_27 (dk_at dksX6_worked_3 18 rfl rfl)
theorem dX6_worked_83 : decode cX6_worked 83 = .ok (.iload_n 2, 1) := dk_28 (dk_at dksX6_worked_3 19 rfl rfl)
theorem dX6_worked_84 : decode cX6_worked 84 = .ok (.iadd, 1) := dk_96 (dk_at dksX6_worked_3 20 rfl rfl)
theorem dX6_worked_85 : decode cX6_worked 85 = .ok (.ireturn, 1) := dk_172 (dk_at dksX6_worked_3 21 rfl rfl)
theorem dX6_worked_86 : decode cX6_worked 86 = .ok (.iload_n 1, 1) := dk_27 (dk_at dksX6_worked_3 22 rfl rfl)
theorem dX6_worked_87 : decode cX6_worked 87 = .ok (.iload_n 2, 1) := dk_28 (dk_at dksX6_worked_3 23 rfl rfl)
theorem dX6_worked_88 : decode cX6_worked 88 = .ok (.isub, 1) := dk_100 (dk_at dksX6_worked_4 0 rfl rfl)
theorem dX6_worked_89 : decode cX6_worked 89 = .ok (.ireturn, 1) := dk_172 (dk_at dksX6_worked_4 1 rfl rfl)
theorem dX6_worked_90 : decode cX6_worked 90 = .ok (.iload_n 1, 1) := dk_27 (dk_at dksX6_worked_4 2 rfl rfl)
theorem dX6_worked_91 : decode cX6_worked 91 = .ok (.iload_n 2, 1) := dk_28 (dk_at dksX6_worked_4 3 rfl rfl)
theorem dX6_worked_92 : decode cX6_worked 92 = .ok (.imul, 1) := dk_104 (dk_at dksX6_worked_4 4 rfl rfl)
theorem dX6_worked_93 : decode cX6_worked 93 = .ok (.ireturn, 1) := dk_172 (dk_at dksX6_worked_4 5 rfl rfl)
theorem dX6_worked_94 : decode cX6_worked 94 = .ok (.iload_n 2, 1) := dk_28 (dk_at dksX6_worked_4 6 rfl rfl)
theorem dX6_worked_95 : decode cX6_worked 95 = .ok (.ifCond .ne 7, 3) := dk_154 0 7 (dk_at dksX6_worked_4 7 rfl rfl)
theorem dX6_worked_98 : decode cX6_worked 98 = .ok (.iconst 0, 1) := dk_3 (dk_at dksX6_worked_4 10 rfl rfl)
theorem dX6_worked_99 : decode cX6_worked 99 = .ok (.goto 6, 3) := dk_167 0 6 (dk_at dksX6_worked_4 11 rfl rfl)
theorem dX6_worked_102 : decode cX6_worked 102 = .ok (.iload_n 1, 1) := dk_27 (dk_at dksX6_worked_4 14 rfl rfl)
theorem dX6_worked_103 : decode cX6_worked 103 = .ok (.iload_n 2, 1) := dk_28 (dk_at dksX6_worked_4 15 rfl rfl)
theorem dX6_worked_104 : decode cX6_worked 104 = .ok (.idiv, 1) := dk_108 (dk_at dksX6_worked_4 16 rfl rfl)
theorem dX6_worked_105 : decode cX6_worked 105 = .ok (.ireturn, 1) := dk_172 (dk_at dksX6_worked_4 17 rfl rfl)
abbrev cX6_owners : ByteArray := prog_15_method_16_code
def yX6_owners : MethodName := ⟨RX6, "owners", "(I)I"⟩
def dkwX6_owners_1 : List UInt8 := [29, 120, 167, 0, 4, 3, 128, 61, 132, 3, 1, 167, 255, 225, 28, 172]
abbrev dktX6_owners_1 : List UInt8 := dkwX6_owners_1 ++ []
def dkwX6_owners_0 : List UInt8 := [3, 61, 3, 62, 29, 42, 180, 0, 129, 162, 0, 29, 28, 42, 180, 0, 24, 29, 46, 27, 160, 0, 9, 4]
abbrev dktX6_owners_0 : List UInt8 := dkwX6_owners_0 ++ dktX6_owners_1
theorem dksX6_owners_0 : cX6_owners.data.toList.drop 0 = dktX6_owners_0 := by decide +kernel
theorem dksX6_owners_1 : cX6_owners.data.toList.drop 24 = dktX6_owners_1 := dk_seg dksX6_owners_0 24 rfl rfl
theorem dX6_owners_0 : decode cX6_owners 0 = .ok (.iconst 0, 1) := dk_3 (dk_at dksX6_owners_0 0 rfl rfl)
theorem dX6_owners_1 : decode cX6_owners 1 = .ok (.istore_n 2, 1) := dk_61 (dk_at dksX6_owners_0 1 rfl rfl)
theorem dX6_owners_2 : decode cX6_owners 2 = .ok (.iconst 0, 1) := dk_3 (dk_at dksX6_owners_0 2 rfl rfl)
theorem dX6_owners_3 : decode cX6_owners 3 = .ok (.istore_n 3, 1) := dk_62 (dk_at dksX6_owners_0 3 rfl rfl)
theorem dX6_owners_4 : decode cX6_owners 4 = .ok (.iload_n 3, 1) := dk_29 (dk_at dksX6_owners_0 4 rfl rfl)
theorem dX6_owners_5 : decode cX6_owners 5 = .ok (.aload_n 0, 1) := dk_42 (dk_at dksX6_owners_0 5 rfl rfl)
theorem dX6_owners_6 : decode cX6_owners 6 = .ok (.getfield 129, 3) := dk_180 0 129 (dk_at dksX6_owners_0 6 rfl rfl)
theorem dX6_owners_9 : decode cX6_owners 9 = .ok (.if_icmp .ge 29, 3) := dk_162 0 29 (dk_at dksX6_owners_0 9 rfl rfl)
theorem dX6_owners_12 : decode cX6_owners 12 = .ok (.iload_n 2, 1) := dk_28 (dk_at dksX6_owners_0 12 rfl rfl)
theorem dX6_owners_13 : decode cX6_owners 13 = .ok (.aload_n 0, 1) := dk_42 (dk_at dksX6_owners_0 13 rfl rfl)
theorem dX6_owners_14 : decode cX6_owners 14 = .ok (.getfield 24, 3) := dk_180 0 24 (dk_at dksX6_owners_0 14 rfl rfl)
theorem dX6_owners_17 : decode cX6_owners 17 = .ok (.iload_n 3, 1) := dk_29 (dk_at dksX6_owners_0 17 rfl rfl)
theorem dX6_owners_18 : decode cX6_owners 18 = .ok (.iaload, 1) := dk_46 (dk_at dksX6_owners_0 18 rfl rfl)
theorem dX6_owners_19 : decode cX6_owners 19 = .ok (.iload_n 1, 1) := dk_27 (dk_at dksX6_owners_0 19 rfl rfl)
theorem dX6_owners_20 : decode cX6_owners 20 = .ok (.if_icmp .ne 9, 3) := dk_160 0 9 (dk_at dksX6_owners_0 20 rfl rfl)
theorem dX6_owners_23 : decode cX6_owners 23 = .ok (.iconst 1, 1) := dk_4 (dk_at dksX6_owners_0 23 rfl rfl)
theorem dX6_owners_24 : decode cX6_owners 24 = .ok (.iload_n 3, 1) := dk_29 (dk_at dksX6_owners_1 0 rfl rfl)
theorem dX6_owners_25 : decode cX6_owners 25 = .ok (.ishl, 1) := dk_120 (dk_at dksX6_owners_1 1 rfl rfl)
theorem dX6_owners_26 : decode cX6_owners 26 = .ok (.goto 4, 3) := dk_167 0 4 (dk_at dksX6_owners_1 2 rfl rfl)
theorem dX6_owners_29 : decode cX6_owners 29 = .ok (.iconst 0, 1) := dk_3 (dk_at dksX6_owners_1 5 rfl rfl)
theorem dX6_owners_30 : decode cX6_owners 30 = .ok (.ior, 1) := dk_128 (dk_at dksX6_owners_1 6 rfl rfl)
theorem dX6_owners_31 : decode cX6_owners 31 = .ok (.istore_n 2, 1) := dk_61 (dk_at dksX6_owners_1 7 rfl rfl)
theorem dX6_owners_32 : decode cX6_owners 32 = .ok (.iinc 3 1, 3) := dk_132 3 1 (dk_at dksX6_owners_1 8 rfl rfl)
theorem dX6_owners_35 : decode cX6_owners 35 = .ok (.goto (-31), 3) := dk_167 255 225 (dk_at dksX6_owners_1 11 rfl rfl)
theorem dX6_owners_38 : decode cX6_owners 38 = .ok (.iload_n 2, 1) := dk_28 (dk_at dksX6_owners_1 14 rfl rfl)
theorem dX6_owners_39 : decode cX6_owners 39 = .ok (.ireturn, 1) := dk_172 (dk_at dksX6_owners_1 15 rfl rfl)
abbrev cX6_mourner : ByteArray := prog_15_method_48_code
def yX6_mourner : MethodName := ⟨RX6, "mourner", "(II)I"⟩
def dkwX6_mourner_5 : List UInt8 := [27, 96, 46, 182, 1, 57, 172]
abbrev dktX6_mourner_5 : List UInt8 := dkwX6_mourner_5 ++ []
def dkwX6_mourner_4 : List UInt8 := [96, 46, 172, 42, 180, 0, 31, 16, 29, 27, 96, 46, 172, 42, 42, 180, 0, 31, 42, 180, 0, 31, 16, 13]
abbrev dktX6_mourner_4 : List UInt8 := dkwX6_mourner_4 ++ dktX6_mourner_5
def dkwX6_mourner_3 : List UInt8 := [42, 180, 0, 31, 16, 13, 27, 96, 46, 172, 42, 180, 0, 24, 27, 46, 172, 42, 180, 0, 31, 16, 21, 27]
abbrev dktX6_mourner_3 : List UInt8 := dkwX6_mourner_3 ++ dktX6_mourner_4
def dkwX6_mourner_2 : List UInt8 := [170, 0, 0, 0, 66, 0, 0, 0, 0, 0, 0, 0, 3, 0, 0, 0, 29, 0, 0, 0, 39, 0, 0, 0, 46, 0, 0, 0, 56]
abbrev dktX6_mourner_2 : List UInt8 := dkwX6_mourner_2 ++ dktX6_mourner_3
def dkwX6_mourner_1 : List UInt8 := [154, 0, 8, 42, 182, 1, 43, 172, 28]
abbrev dktX6_mourner_1 : List UInt8 := dkwX6_mourner_1 ++ dktX6_mourner_2
def dkwX6_mourner_0 : List UInt8 := [42, 3, 181, 0, 112, 42, 27, 182, 1, 52, 153, 0, 15, 28, 133, 9, 20, 1, 55, 184, 0, 125]
abbrev dktX6_mourner_0 : List UInt8 := dkwX6_mourner_0 ++ dktX6_mourner_1
theorem dksX6_mourner_0 : cX6_mourner.data.toList.drop 0 = dktX6_mourner_0 := by decide +kernel
theorem dksX6_mourner_1 : cX6_mourner.data.toList.drop 22 = dktX6_mourner_1 := dk_seg dksX6_mourner_0 22 rfl rfl
theorem dksX6_mourner_2 : cX6_mourner.data.toList.drop 31 = dktX6_mourner_2 := dk_seg dksX6_mourner_1 9 rfl rfl
theorem dksX6_mourner_3 : cX6_mourner.data.toList.drop 60 = dktX6_mourner_3 := dk_seg dksX6_mourner_2 29 rfl rfl
theorem dksX6_mourner_4 : cX6_mourner.data.toList.drop 84 = dktX6_mourner_4 := dk_seg dksX6_mourner_3 24 rfl rfl
theorem dksX6_mourner_5 : cX6_mourner.data.toList.drop 108 = dktX6_mourner_5 := dk_seg dksX6_mourner_4 24 rfl rfl
theorem dX6_mourner_0 : decode cX6_mourner 0 = .ok (.aload_n 0, 1) := dk_42 (dk_at dksX6_mourner_0 0 rfl rfl)
theorem dX6_mourner_1 : decode cX6_mourner 1 = .ok (.iconst 0, 1) := dk_3 (dk_at dksX6_mourner_0 1 rfl rfl)
theorem dX6_mourner_2 : decode cX6_mourner 2 = .ok (.putfield 112, 3) := dk_181 0 112 (dk_at dksX6_mourner_0 2 rfl rfl)
theorem dX6_mourner_5 : decode cX6_mourner 5 = .ok (.aload_n 0, 1) := dk_42 (dk_at dksX6_mourner_0 5 rfl rfl)
theorem dX6_mourner_6 : decode cX6_mourner 6 = .ok (.iload_n 1, 1) := dk_27 (dk_at dksX6_mourner_0 6 rfl rfl)
theorem dX6_mourner_7 : decode cX6_mourner 7 = .ok (.invokevirtual 308, 3) := dk_182 1 52 (dk_at dksX6_mourner_0 7 rfl rfl)
theorem dX6_mourner_10 : decode cX6_mourner 10 = .ok (.ifCond .eq 15, 3) := dk_153 0 15 (dk_at dksX6_mourner_0 10 rfl rfl)
theorem dX6_mourner_13 : decode cX6_mourner 13 = .ok (.iload_n 2, 1) := dk_28 (dk_at dksX6_mourner_0 13 rfl rfl)
theorem dX6_mourner_14 : decode cX6_mourner 14 = .ok (.i2l, 1) := dk_133 (dk_at dksX6_mourner_0 14 rfl rfl)
theorem dX6_mourner_15 : decode cX6_mourner 15 = .ok (.lconst 0, 1) := dk_9 (dk_at dksX6_mourner_0 15 rfl rfl)
theorem dX6_mourner_16 : decode cX6_mourner 16 = .ok (.ldc2_w 311, 3) := dk_20 1 55 (dk_at dksX6_mourner_0 16 rfl rfl)
theorem dX6_mourner_19 : decode cX6_mourner 19 = .ok (.invokestatic 125, 3) := dk_184 0 125 (dk_at dksX6_mourner_0 19 rfl rfl)
theorem dX6_mourner_22 : decode cX6_mourner 22 = .ok (.ifCond .ne 8, 3) := dk_154 0 8 (dk_at dksX6_mourner_1 0 rfl rfl)
theorem dX6_mourner_25 : decode cX6_mourner 25 = .ok (.aload_n 0, 1) := dk_42 (dk_at dksX6_mourner_1 3 rfl rfl)
theorem dX6_mourner_26 : decode cX6_mourner 26 = .ok (.invokevirtual 299, 3) := dk_182 1 43 (dk_at dksX6_mourner_1 4 rfl rfl)
theorem dX6_mourner_29 : decode cX6_mourner 29 = .ok (.ireturn, 1) := dk_172 (dk_at dksX6_mourner_1 7 rfl rfl)
theorem dX6_mourner_30 : decode cX6_mourner 30 = .ok (.iload_n 2, 1) := dk_28 (dk_at dksX6_mourner_1 8 rfl rfl)
theorem dX6_mourner_31 : decode cX6_mourner 31 = .ok (.tableswitch 66 0 3 #[29, 39, 46, 56], 29) := by decide +kernel
theorem dX6_mourner_60 : decode cX6_mourner 60 = .ok (.aload_n 0, 1) := dk_42 (dk_at dksX6_mourner_3 0 rfl rfl)
theorem dX6_mourner_61 : decode cX6_mourner 61 = .ok (.getfield 31, 3) := dk_180 0 31 (dk_at dksX6_mourner_3 1 rfl rfl)
theorem dX6_mourner_64 : decode cX6_mourner 64 = .ok (.bipush 13, 2) := dk_16 13 (dk_at dksX6_mourner_3 4 rfl rfl)
theorem dX6_mourner_66 : decode cX6_mourner 66 = .ok (.iload_n 1, 1) := dk_27 (dk_at dksX6_mourner_3 6 rfl rfl)
theorem dX6_mourner_67 : decode cX6_mourner 67 = .ok (.iadd, 1) := dk_96 (dk_at dksX6_mourner_3 7 rfl rfl)
theorem dX6_mourner_68 : decode cX6_mourner 68 = .ok (.iaload, 1) := dk_46 (dk_at dksX6_mourner_3 8 rfl rfl)
theorem dX6_mourner_69 : decode cX6_mourner 69 = .ok (.ireturn, 1) := dk_172 (dk_at dksX6_mourner_3 9 rfl rfl)
theorem dX6_mourner_70 : decode cX6_mourner 70 = .ok (.aload_n 0, 1) := dk_42 (dk_at dksX6_mourner_3 10 rfl rfl)
theorem dX6_mourner_71 : decode cX6_mourner 71 = .ok (.getfield 24, 3) := dk_180 0 24 (dk_at dksX6_mourner_3 11 rfl rfl)
theorem dX6_mourner_74 : decode cX6_mourner 74 = .ok (.iload_n 1, 1) := dk_27 (dk_at dksX6_mourner_3 14 rfl rfl)
theorem dX6_mourner_75 : decode cX6_mourner 75 = .ok (.iaload, 1) := dk_46 (dk_at dksX6_mourner_3 15 rfl rfl)
theorem dX6_mourner_76 : decode cX6_mourner 76 = .ok (.ireturn, 1) := dk_172 (dk_at dksX6_mourner_3 16 rfl rfl)
theorem dX6_mourner_77 : decode cX6_mourner 77 = .ok (.aload_n 0, 1) := dk_42 (dk_at dksX6_mourner_3 17 rfl rfl)
theorem dX6_mourner_78 : decode cX6_mourner 78 = .ok (.getfield 31, 3) := dk_180 0 31 (dk_at dksX6_mourner_3 18 rfl rfl)
theorem dX6_mourner_81 : decode cX6_mourner 81 = .ok (.bipush 21, 2) := dk_16 21 (dk_at dksX6_mourner_3 21 rfl rfl)
theorem dX6_mourner_83 : decode cX6_mourner 83 = .ok (.iload_n 1, 1) := dk_27 (dk_at dksX6_mourner_3 23 rfl rfl)
theorem dX6_mourner_84 : decode cX6_mourner 84 = .ok (.iadd, 1) := dk_96 (dk_at dksX6_mourner_4 0 rfl rfl)
theorem dX6_mourner_85 : decode cX6_mourner 85 = .ok (.iaload, 1) := dk_46 (dk_at dksX6_mourner_4 1 rfl rfl)
theorem dX6_mourner_86 : decode cX6_mourner 86 = .ok (.ireturn, 1) := dk_172 (dk_at dksX6_mourner_4 2 rfl rfl)
theorem dX6_mourner_87 : decode cX6_mourner 87 = .ok (.aload_n 0, 1) := dk_42 (dk_at dksX6_mourner_4 3 rfl rfl)
theorem dX6_mourner_88 : decode cX6_mourner 88 = .ok (.getfield 31, 3) := dk_180 0 31 (dk_at dksX6_mourner_4 4 rfl rfl)
theorem dX6_mourner_91 : decode cX6_mourner 91 = .ok (.bipush 29, 2) := dk_16 29 (dk_at dksX6_mourner_4 7 rfl rfl)
theorem dX6_mourner_93 : decode cX6_mourner 93 = .ok (.iload_n 1, 1) := dk_27 (dk_at dksX6_mourner_4 9 rfl rfl)
theorem dX6_mourner_94 : decode cX6_mourner 94 = .ok (.iadd, 1) := dk_96 (dk_at dksX6_mourner_4 10 rfl rfl)
theorem dX6_mourner_95 : decode cX6_mourner 95 = .ok (.iaload, 1) := dk_46 (dk_at dksX6_mourner_4 11 rfl rfl)
theorem dX6_mourner_96 : decode cX6_mourner 96 = .ok (.ireturn, 1) := dk_172 (dk_at dksX6_mourner_4 12 rfl rfl)
theorem dX6_mourner_97 : decode cX6_mourner 97 = .ok (.aload_n 0, 1) := dk_42 (dk_at dksX6_mourner_4 13 rfl rfl)
theorem dX6_mourner_98 : decode cX6_mourner 98 = .ok (.aload_n 0, 1) := dk_42 (dk_at dksX6_mourner_4 14 rfl rfl)
theorem dX6_mourner_99 : decode cX6_mourner 99 = .ok (.getfield 31, 3) := dk_180 0 31 (dk_at dksX6_mourner_4 15 rfl rfl)
theorem dX6_mourner_102 : decode cX6_mourner 102 = .ok (.aload_n 0, 1) := dk_42 (dk_at dksX6_mourner_4 18 rfl rfl)
theorem dX6_mourner_103 : decode cX6_mourner 103 = .ok (.getfield 31, 3) := dk_180 0 31 (dk_at dksX6_mourner_4 19 rfl rfl)
theorem dX6_mourner_106 : decode cX6_mourner 106 = .ok (.bipush 13, 2) := dk_16 13 (dk_at dksX6_mourner_4 22 rfl rfl)
theorem dX6_mourner_108 : decode cX6_mourner 108 = .ok (.iload_n 1, 1) := dk_27 (dk_at dksX6_mourner_5 0 rfl rfl)
theorem dX6_mourner_109 : decode cX6_mourner 109 = .ok (.iadd, 1) := dk_96 (dk_at dksX6_mourner_5 1 rfl rfl)
theorem dX6_mourner_110 : decode cX6_mourner 110 = .ok (.iaload, 1) := dk_46 (dk_at dksX6_mourner_5 2 rfl rfl)
theorem dX6_mourner_111 : decode cX6_mourner 111 = .ok (.invokevirtual 313, 3) := dk_182 1 57 (dk_at dksX6_mourner_5 3 rfl rfl)
theorem dX6_mourner_114 : decode cX6_mourner 114 = .ok (.ireturn, 1) := dk_172 (dk_at dksX6_mourner_5 6 rfl rfl)
abbrev cX6_isMourner : ByteArray := prog_15_method_11_code
def yX6_isMourner : MethodName := ⟨RX6, "isMourner", "(I)Z"⟩
def dkwX6_isMourner_0 : List UInt8 := [27, 133, 9, 42, 180, 0, 129, 4, 100, 133, 184, 0, 125, 172]
abbrev dktX6_isMourner_0 : List UInt8 := dkwX6_isMourner_0 ++ []
theorem dksX6_isMourner_0 : cX6_isMourner.data.toList.drop 0 = dktX6_isMourner_0 := by decide +kernel
theorem dX6_isMourner_0 : decode cX6_isMourner 0 = .ok (.iload_n 1, 1) := dk_27 (dk_at dksX6_isMourner_0 0 rfl rfl)
theorem dX6_isMourner_1 : decode cX6_isMourner 1 = .ok (.i2l, 1) := dk_133 (dk_at dksX6_isMourner_0 1 rfl rfl)
theorem dX6_isMourner_2 : decode cX6_isMourner 2 = .ok (.lconst 0, 1) := dk_9 (dk_at dksX6_isMourner_0 2 rfl rfl)
theorem dX6_isMourner_3 : decode cX6_isMourner 3 = .ok (.aload_n 0, 1) := dk_42 (dk_at dksX6_isMourner_0 3 rfl rfl)
theorem dX6_isMourner_4 : decode cX6_isMourner 4 = .ok (.getfield 129, 3) := dk_180 0 129 (dk_at dksX6_isMourner_0 4 rfl rfl)
theorem dX6_isMourner_7 : decode cX6_isMourner 7 = .ok (.iconst 1, 1) := dk_4 (dk_at dksX6_isMourner_0 7 rfl rfl)
theorem dX6_isMourner_8 : decode cX6_isMourner 8 = .ok (.isub, 1) := dk_100 (dk_at dksX6_isMourner_0 8 rfl rfl)
theorem dX6_isMourner_9 : decode cX6_isMourner 9 = .ok (.i2l, 1) := dk_133 (dk_at dksX6_isMourner_0 9 rfl rfl)
theorem dX6_isMourner_10 : decode cX6_isMourner 10 = .ok (.invokestatic 125, 3) := dk_184 0 125 (dk_at dksX6_isMourner_0 10 rfl rfl)
theorem dX6_isMourner_13 : decode cX6_isMourner 13 = .ok (.ireturn, 1) := dk_172 (dk_at dksX6_isMourner_0 13 rfl rfl)
abbrev cX6_nearest : ByteArray := prog_15_method_46_code
def yX6_nearest : MethodName := ⟨RX6, "nearest", "([II)I"⟩
def dkwX6_nearest_3 : List UInt8 := [43, 29, 46, 164, 0, 8, 21, 4, 167, 0, 4, 29, 62, 132, 4, 1, 167, 255, 173, 29, 172]
abbrev dktX6_nearest_3 : List UInt8 := dkwX6_nearest_3 ++ []
def dkwX6_nearest_2 : List UInt8 := [100, 184, 1, 34, 54, 6, 21, 5, 21, 6, 161, 0, 20, 21, 5, 21, 6, 160, 0, 18, 43, 21, 4, 46]
abbrev dktX6_nearest_2 : List UInt8 := dkwX6_nearest_2 ++ dktX6_nearest_3
def dkwX6_nearest_1 : List UInt8 := [21, 4, 46, 28, 100, 184, 1, 34, 54, 5, 29, 156, 0, 9, 19, 1, 37, 167, 0, 11, 43, 29, 46, 28]
abbrev dktX6_nearest_1 : List UInt8 := dkwX6_nearest_1 ++ dktX6_nearest_2
def dkwX6_nearest_0 : List UInt8 := [2, 62, 3, 54, 4, 21, 4, 42, 180, 0, 122, 162, 0, 80, 43, 21, 4, 184, 1, 10, 153, 0, 65, 43]
abbrev dktX6_nearest_0 : List UInt8 := dkwX6_nearest_0 ++ dktX6_nearest_1
theorem dksX6_nearest_0 : cX6_nearest.data.toList.drop 0 = dktX6_nearest_0 := by decide +kernel
theorem dksX6_nearest_1 : cX6_nearest.data.toList.drop 24 = dktX6_nearest_1 := dk_seg dksX6_nearest_0 24 rfl rfl
theorem dksX6_nearest_2 : cX6_nearest.data.toList.drop 48 = dktX6_nearest_2 := dk_seg dksX6_nearest_1 24 rfl rfl
theorem dksX6_nearest_3 : cX6_nearest.data.toList.drop 72 = dktX6_nearest_3 := dk_seg dksX6_nearest_2 24 rfl rfl
theorem dX6_nearest_0 : decode cX6_nearest 0 = .ok (.iconst (-1), 1) := dk_2 (dk_at dksX6_nearest_0 0 rfl rfl)
theorem dX6_nearest_1 : decode cX6_nearest 1 = .ok (.istore_n 3, 1) := dk_62 (dk_at dksX6_nearest_0 1 rfl rfl)
theorem dX6_nearest_2 : decode cX6_nearest 2 = .ok (.iconst 0, 1) := dk_3 (dk_at dksX6_nearest_0 2 rfl rfl)
theorem dX6_nearest_3 : decode cX6_nearest 3 = .ok (.istore 4, 2) := dk_54 4 (dk_at dksX6_nearest_0 3 rfl rfl)
theorem dX6_nearest_5 : decode cX6_nearest 5 = .ok (.iload 4, 2) := dk_21 4 (dk_at dksX6_nearest_0 5 rfl rfl)
theorem dX6_nearest_7 : decode cX6_nearest 7 = .ok (.aload_n 0, 1) := dk_42 (dk_at dksX6_nearest_0 7 rfl rfl)
theorem dX6_nearest_8 : decode cX6_nearest 8 = .ok (.getfield 122, 3) := dk_180 0 122 (dk_at dksX6_nearest_0 8 rfl rfl)
theorem dX6_nearest_11 : decode cX6_nearest 11 = .ok (.if_icmp .ge 80, 3) := dk_162 0 80 (dk_at dksX6_nearest_0 11 rfl rfl)
theorem dX6_nearest_14 : decode cX6_nearest 14 = .ok (.aload_n 1, 1) := dk_43 (dk_at dksX6_nearest_0 14 rfl rfl)
theorem dX6_nearest_15 : decode cX6_nearest 15 = .ok (.iload 4, 2) := dk_21 4 (dk_at dksX6_nearest_0 15 rfl rfl)
theorem dX6_nearest_17 : decode cX6_nearest 17 = .ok (.invokestatic 266, 3) := dk_184 1 10 (dk_at dksX6_nearest_0 17 rfl rfl)
theorem dX6_nearest_20 : decode cX6_nearest 20 = .ok (.ifCond .eq 65, 3) := dk_153 0 65 (dk_at dksX6_nearest_0 20 rfl rfl)
theorem dX6_nearest_23 : decode cX6_nearest 23 = .ok (.aload_n 1, 1) := dk_43 (dk_at dksX6_nearest_0 23 rfl rfl)
theorem dX6_nearest_24 : decode cX6_nearest 24 = .ok (.iload 4, 2) := dk_21 4 (dk_at dksX6_nearest_1 0 rfl rfl)
theorem dX6_nearest_26 : decode cX6_nearest 26 = .ok (.iaload, 1) := dk_46 (dk_at dksX6_nearest_1 2 rfl rfl)
theorem dX6_nearest_27 : decode cX6_nearest 27 = .ok (.iload_n 2, 1) := dk_28 (dk_at dksX6_nearest_1 3 rfl rfl)
theorem dX6_nearest_28 : decode cX6_nearest 28 = .ok (.isub, 1) := dk_100 (dk_at dksX6_nearest_1 4 rfl rfl)
theorem dX6_nearest_29 : decode cX6_nearest 29 = .ok (.invokestatic 290, 3) := dk_184 1 34 (dk_at dksX6_nearest_1 5 rfl rfl)
theorem dX6_nearest_32 : decode cX6_nearest 32 = .ok (.istore 5, 2) := dk_54 5 (dk_at dksX6_nearest_1 8 rfl rfl)
theorem dX6_nearest_34 : decode cX6_nearest 34 = .ok (.iload_n 3, 1) := dk_29 (dk_at dksX6_nearest_1 10 rfl rfl)
theorem dX6_nearest_35 : decode cX6_nearest 35 = .ok (.ifCond .ge 9, 3) := dk_156 0 9 (dk_at dksX6_nearest_1 11 rfl rfl)
theorem dX6_nearest_38 : decode cX6_nearest 38 = .ok (.ldc_w 293, 3) := dk_19 1 37 (dk_at dksX6_nearest_1 14 rfl rfl)
theorem dX6_nearest_41 : decode cX6_nearest 41 = .ok (.goto 11, 3) := dk_167 0 11 (dk_at dksX6_nearest_1 17 rfl rfl)
theorem dX6_nearest_44 : decode cX6_nearest 44 = .ok (.aload_n 1, 1) := dk_43 (dk_at dksX6_nearest_1 20 rfl rfl)
theorem dX6_nearest_45 : decode cX6_nearest 45 = .ok (.iload_n 3, 1) := dk_29 (dk_at dksX6_nearest_1 21 rfl rfl)
theorem dX6_nearest_46 : decode cX6_nearest 46 = .ok (.iaload, 1) := dk_46 (dk_at dksX6_nearest_1 22 rfl rfl)
theorem dX6_nearest_47 : decode cX6_nearest 47 = .ok (.iload_n 2, 1) := dk_28 (dk_at dksX6_nearest_1 23 rfl rfl)
theorem dX6_nearest_48 : decode cX6_nearest 48 = .ok (.isub, 1) := dk_100 (dk_at dksX6_nearest_2 0 rfl rfl)
theorem dX6_nearest_49 : decode cX6_nearest 49 = .ok (.invokestatic 290, 3) := dk_184 1 34 (dk_at dksX6_nearest_2 1 rfl rfl)
theorem dX6_nearest_52 : decode cX6_nearest 52 = .ok (.istore 6, 2) := dk_54 6 (dk_at dksX6_nearest_2 4 rfl rfl)
theorem dX6_nearest_54 : decode cX6_nearest 54 = .ok (.iload 5, 2) := dk_21 5 (dk_at dksX6_nearest_2 6 rfl rfl)
theorem dX6_nearest_56 : decode cX6_nearest 56 = .ok (.iload 6, 2) := dk_21 6 (dk_at dksX6_nearest_2 8 rfl rfl)
theorem dX6_nearest_58 : decode cX6_nearest 58 = .ok (.if_icmp .lt 20, 3) := dk_161 0 20 (dk_at dksX6_nearest_2 10 rfl rfl)
theorem dX6_nearest_61 : decode cX6_nearest 61 = .ok (.iload 5, 2) := dk_21 5 (dk_at dksX6_nearest_2 13 rfl rfl)
theorem dX6_nearest_63 : decode cX6_nearest 63 = .ok (.iload 6, 2) := dk_21 6 (dk_at dksX6_nearest_2 15 rfl rfl)
theorem dX6_nearest_65 : decode cX6_nearest 65 = .ok (.if_icmp .ne 18, 3) := dk_160 0 18 (dk_at dksX6_nearest_2 17 rfl rfl)
theorem dX6_nearest_68 : decode cX6_nearest 68 = .ok (.aload_n 1, 1) := dk_43 (dk_at dksX6_nearest_2 20 rfl rfl)
theorem dX6_nearest_69 : decode cX6_nearest 69 = .ok (.iload 4, 2) := dk_21 4 (dk_at dksX6_nearest_2 21 rfl rfl)
theorem dX6_nearest_71 : decode cX6_nearest 71 = .ok (.iaload, 1) := dk_46 (dk_at dksX6_nearest_2 23 rfl rfl)
theorem dX6_nearest_72 : decode cX6_nearest 72 = .ok (.aload_n 1, 1) := dk_43 (dk_at dksX6_nearest_3 0 rfl rfl)
theorem dX6_nearest_73 : decode cX6_nearest 73 = .ok (.iload_n 3, 1) := dk_29 (dk_at dksX6_nearest_3 1 rfl rfl)
theorem dX6_nearest_74 : decode cX6_nearest 74 = .ok (.iaload, 1) := dk_46 (dk_at dksX6_nearest_3 2 rfl rfl)
theorem dX6_nearest_75 : decode cX6_nearest 75 = .ok (.if_icmp .le 8, 3) := dk_164 0 8 (dk_at dksX6_nearest_3 3 rfl rfl)
theorem dX6_nearest_78 : decode cX6_nearest 78 = .ok (.iload 4, 2) := dk_21 4 (dk_at dksX6_nearest_3 6 rfl rfl)
theorem dX6_nearest_80 : decode cX6_nearest 80 = .ok (.goto 4, 3) := dk_167 0 4 (dk_at dksX6_nearest_3 8 rfl rfl)
theorem dX6_nearest_83 : decode cX6_nearest 83 = .ok (.iload_n 3, 1) := dk_29 (dk_at dksX6_nearest_3 11 rfl rfl)
theorem dX6_nearest_84 : decode cX6_nearest 84 = .ok (.istore_n 3, 1) := dk_62 (dk_at dksX6_nearest_3 12 rfl rfl)
theorem dX6_nearest_85 : decode cX6_nearest 85 = .ok (.iinc 4 1, 3) := dk_132 4 1 (dk_at dksX6_nearest_3 13 rfl rfl)
theorem dX6_nearest_88 : decode cX6_nearest 88 = .ok (.goto (-83), 3) := dk_167 255 173 (dk_at dksX6_nearest_3 16 rfl rfl)
theorem dX6_nearest_91 : decode cX6_nearest 91 = .ok (.iload_n 3, 1) := dk_29 (dk_at dksX6_nearest_3 19 rfl rfl)
theorem dX6_nearest_92 : decode cX6_nearest 92 = .ok (.ireturn, 1) := dk_172 (dk_at dksX6_nearest_3 20 rfl rfl)
abbrev cX6_sheet : ByteArray := prog_15_method_49_code
def yX6_sheet : MethodName := ⟨RX6, "sheet", "(IIII)I"⟩
def dkwX6_sheet_7 : List UInt8 := [21, 4, 96, 54, 6, 132, 7, 1, 167, 255, 128, 27, 6, 160, 0, 8, 16, 253, 167, 0, 5, 21, 5, 172]
abbrev dktX6_sheet_7 : List UInt8 := dkwX6_sheet_7 ++ []
def dkwX6_sheet_6 : List UInt8 := [167, 0, 5, 21, 9, 79, 21, 5, 42, 180, 0, 31, 16, 13, 21, 7, 96, 46, 96, 54, 5, 21, 6]
abbrev dktX6_sheet_6 : List UInt8 := dkwX6_sheet_6 ++ dktX6_sheet_7
def dkwX6_sheet_5 : List UInt8 := [96, 42, 180, 0, 31, 21, 7, 184, 0, 132, 153, 0, 16, 42, 180, 0, 31, 16, 13, 21, 7, 96, 46]
abbrev dktX6_sheet_5 : List UInt8 := dkwX6_sheet_5 ++ dktX6_sheet_6
def dkwX6_sheet_4 : List UInt8 := [42, 182, 0, 192, 4, 100, 21, 8, 184, 0, 145, 184, 1, 31, 54, 9, 42, 180, 0, 31, 16, 13, 21, 7]
abbrev dktX6_sheet_4 : List UInt8 := dkwX6_sheet_4 ++ dktX6_sheet_5
def dkwX6_sheet_3 : List UInt8 := [147, 167, 0, 5, 21, 6, 54, 8, 27, 6, 159, 0, 9, 21, 7, 28, 161, 0, 7, 3, 167, 0, 18, 3]
abbrev dktX6_sheet_3 : List UInt8 := dkwX6_sheet_3 ++ dktX6_sheet_4
def dkwX6_sheet_2 : List UInt8 := [42, 180, 0, 129, 162, 0, 125, 27, 154, 0, 9, 21, 6, 145, 167, 0, 16, 27, 4, 160, 0, 9, 21, 6]
abbrev dktX6_sheet_2 : List UInt8 := dkwX6_sheet_2 ++ dktX6_sheet_3
def dkwX6_sheet_1 : List UInt8 := [172, 27, 6, 159, 0, 10, 28, 156, 0, 6, 16, 254, 172, 3, 54, 5, 29, 54, 6, 3, 54, 7, 21, 7]
abbrev dktX6_sheet_1 : List UInt8 := dkwX6_sheet_1 ++ dktX6_sheet_2
def dkwX6_sheet_0 : List UInt8 := [42, 3, 181, 0, 112, 27, 133, 9, 20, 1, 60, 184, 0, 125, 153, 0, 9, 28, 16, 8, 164, 0, 5, 2]
abbrev dktX6_sheet_0 : List UInt8 := dkwX6_sheet_0 ++ dktX6_sheet_1
theorem dksX6_sheet_0 : cX6_sheet.data.toList.drop 0 = dktX6_sheet_0 := by decide +kernel
theorem dksX6_sheet_1 : cX6_sheet.data.toList.drop 24 = dktX6_sheet_1 := dk_seg dksX6_sheet_0 24 rfl rfl
theorem dksX6_sheet_2 : cX6_sheet.data.toList.drop 48 = dktX6_sheet_2 := dk_seg dksX6_sheet_1 24 rfl rfl
theorem dksX6_sheet_3 : cX6_sheet.data.toList.drop 72 = dktX6_sheet_3 := dk_seg dksX6_sheet_2 24 rfl rfl
theorem dksX6_sheet_4 : cX6_sheet.data.toList.drop 96 = dktX6_sheet_4 := dk_seg dksX6_sheet_3 24 rfl rfl
theorem dksX6_sheet_5 : cX6_sheet.data.toList.drop 120 = dktX6_sheet_5 := dk_seg dksX6_sheet_4 24 rfl rfl
theorem dksX6_sheet_6 : cX6_sheet.data.toList.drop 143 = dktX6_sheet_6 := dk_seg dksX6_sheet_5 23 rfl rfl
theorem dksX6_sheet_7 : cX6_sheet.data.toList.drop 166 = dktX6_sheet_7 := dk_seg dksX6_sheet_6 23 rfl rfl
theorem dX6_sheet_0 : decode cX6_sheet 0 = .ok (.aload_n 0, 1) := dk_42 (dk_at dksX6_sheet_0 0 rfl rfl)
theorem dX6_sheet_1 : decode cX6_sheet 1 = .ok (.iconst 0, 1) := dk_3 (dk_at dksX6_sheet_0 1 rfl rfl)
theorem dX6_sheet_2 : decode cX6_sheet 2 = .ok (.putfield 112, 3) := dk_181 0 112 (dk_at dksX6_sheet_0 2 rfl rfl)
theorem dX6_sheet_5 : decode cX6_sheet 5 = .ok (.iload_n 1, 1) := dk_27 (dk_at dksX6_sheet_0 5 rfl rfl)
theorem dX6_sheet_6 : decode cX6_sheet 6 = .ok (.i2l, 1) := dk_133 (dk_at dksX6_sheet_0 6 rfl rfl)
theorem dX6_sheet_7 : decode cX6_sheet 7 = .ok (.lconst 0, 1) := dk_9 (dk_at dksX6_sheet_0 7 rfl rfl)
theorem dX6_sheet_8 : decode cX6_sheet 8 = .ok (.ldc2_w 316, 3) := dk_20 1 60 (dk_at dksX6_sheet_0 8 rfl rfl)
theorem dX6_sheet_11 : decode cX6_sheet 11 = .ok (.invokestatic 125, 3) := dk_184 0 125 (dk_at dksX6_sheet_0 11 rfl rfl)
theorem dX6_sheet_14 : decode cX6_sheet 14 = .ok (.ifCond .eq 9, 3) := dk_153 0 9 (dk_at dksX6_sheet_0 14 rfl rfl)
theorem dX6_sheet_17 : decode cX6_sheet 17 = .ok (.iload_n 2, 1) := dk_28 (dk_at dksX6_sheet_0 17 rfl rfl)
theorem dX6_sheet_18 : decode cX6_sheet 18 = .ok (.bipush 8, 2) := dk_16 8 (dk_at dksX6_sheet_0 18 rfl rfl)
theorem dX6_sheet_20 : decode cX6_sheet 20 = .ok (.if_icmp .le 5, 3) := dk_164 0 5 (dk_at dksX6_sheet_0 20 rfl rfl)
theorem dX6_sheet_23 : decode cX6_sheet 23 = .ok (.iconst (-1), 1) := dk_2 (dk_at dksX6_sheet_0 23 rfl rfl)
theorem dX6_sheet_24 : decode cX6_sheet 24 = .ok (.ireturn, 1) := dk_172 (dk_at dksX6_sheet_1 0 rfl rfl)
theorem dX6_sheet_25 : decode cX6_sheet 25 = .ok (.iload_n 1, 1) := dk_27 (dk_at dksX6_sheet_1 1 rfl rfl)
theorem dX6_sheet_26 : decode cX6_sheet 26 = .ok (.iconst 3, 1) := dk_6 (dk_at dksX6_sheet_1 2 rfl rfl)
theorem dX6_sheet_27 : decode cX6_sheet 27 = .ok (.if_icmp .eq 10, 3) := dk_159 0 10 (dk_at dksX6_sheet_1 3 rfl rfl)
theorem dX6_sheet_30 : decode cX6_sheet 30 = .ok (.iload_n 2, 1) := dk_28 (dk_at dksX6_sheet_1 6 rfl rfl)
theorem dX6_sheet_31 : decode cX6_sheet 31 = .ok (.ifCond .ge 6, 3) := dk_156 0 6 (dk_at dksX6_sheet_1 7 rfl rfl)
theorem dX6_sheet_34 : decode cX6_sheet 34 = .ok (.bipush (-2), 2) := dk_16 254 (dk_at dksX6_sheet_1 10 rfl rfl)
theorem dX6_sheet_36 : decode cX6_sheet 36 = .ok (.ireturn, 1) := dk_172 (dk_at dksX6_sheet_1 12 rfl rfl)
theorem dX6_sheet_37 : decode cX6_sheet 37 = .ok (.iconst 0, 1) := dk_3 (dk_at dksX6_sheet_1 13 rfl rfl)
theorem dX6_sheet_38 : decode cX6_sheet 38 = .ok (.istore 5, 2) := dk_54 5 (dk_at dksX6_sheet_1 14 rfl rfl)
theorem dX6_sheet_40 : decode cX6_sheet 40 = .ok (.iload_n 3, 1) := dk_29 (dk_at dksX6_sheet_1 16 rfl rfl)
theorem dX6_sheet_41 : decode cX6_sheet 41 = .ok (.istore 6, 2) := dk_54 6 (dk_at dksX6_sheet_1 17 rfl rfl)
theorem dX6_sheet_43 : decode cX6_sheet 43 = .ok (.iconst 0, 1) := dk_3 (dk_at dksX6_sheet_1 19 rfl rfl)
theorem dX6_sheet_44 : decode cX6_sheet 44 = .ok (.istore 7, 2) := dk_54 7 (dk_at dksX6_sheet_1 20 rfl rfl)
theorem dX6_sheet_46 : decode cX6_sheet 46 = .ok (.iload 7, 2) := dk_21 7 (dk_at dksX6_sheet_1 22 rfl rfl)
theorem dX6_sheet_48 : decode cX6_sheet 48 = .ok (.aload_n 0, 1) := dk_42 (dk_at dksX6_sheet_2 0 rfl rfl)
theorem dX6_sheet_49 : decode cX6_sheet 49 = .ok (.getfield 129, 3) := dk_180 0 129 (dk_at dksX6_sheet_2 1 rfl rfl)
theorem dX6_sheet_52 : decode cX6_sheet 52 = .ok (.if_icmp .ge 125, 3) := dk_162 0 125 (dk_at dksX6_sheet_2 4 rfl rfl)
theorem dX6_sheet_55 : decode cX6_sheet 55 = .ok (.iload_n 1, 1) := dk_27 (dk_at dksX6_sheet_2 7 rfl rfl)
theorem dX6_sheet_56 : decode cX6_sheet 56 = .ok (.ifCond .ne 9, 3) := dk_154 0 9 (dk_at dksX6_sheet_2 8 rfl rfl)
theorem dX6_sheet_59 : decode cX6_sheet 59 = .ok (.iload 6, 2) := dk_21 6 (dk_at dksX6_sheet_2 11 rfl rfl)
theorem dX6_sheet_61 : decode cX6_sheet 61 = .ok (.i2b, 1) := dk_145 (dk_at dksX6_sheet_2 13 rfl rfl)
theorem dX6_sheet_62 : decode cX6_sheet 62 = .ok (.goto 16, 3) := dk_167 0 16 (dk_at dksX6_sheet_2 14 rfl rfl)
theorem dX6_sheet_65 : decode cX6_sheet 65 = .ok (.iload_n 1, 1) := dk_27 (dk_at dksX6_sheet_2 17 rfl rfl)
theorem dX6_sheet_66 : decode cX6_sheet 66 = .ok (.iconst 1, 1) := dk_4 (dk_at dksX6_sheet_2 18 rfl rfl)
theorem dX6_sheet_67 : decode cX6_sheet 67 = .ok (.if_icmp .ne 9, 3) := dk_160 0 9 (dk_at dksX6_sheet_2 19 rfl rfl)
theorem dX6_sheet_70 : decode cX6_sheet 70 = .ok (.iload 6, 2) := dk_21 6 (dk_at dksX6_sheet_2 22 rfl rfl)
theorem dX6_sheet_72 : decode cX6_sheet 72 = .ok (.i2s, 1) := dk_147 (dk_at dksX6_sheet_3 0 rfl rfl)
theorem dX6_sheet_73 : decode cX6_sheet 73 = .ok (.goto 5, 3) := dk_167 0 5 (dk_at dksX6_sheet_3 1 rfl rfl)
theorem dX6_sheet_76 : decode cX6_sheet 76 = .ok (.iload 6, 2) := dk_21 6 (dk_at dksX6_sheet_3 4 rfl rfl)
theorem dX6_sheet_78 : decode cX6_sheet 78 = .ok (.istore 8, 2) := dk_54 8 (dk_at dksX6_sheet_3 6 rfl rfl)
theorem dX6_sheet_80 : decode cX6_sheet 80 = .ok (.iload_n 1, 1) := dk_27 (dk_at dksX6_sheet_3 8 rfl rfl)
theorem dX6_sheet_81 : decode cX6_sheet 81 = .ok (.iconst 3, 1) := dk_6 (dk_at dksX6_sheet_3 9 rfl rfl)
theorem dX6_sheet_82 : decode cX6_sheet 82 = .ok (.if_icmp .eq 9, 3) := dk_159 0 9 (dk_at dksX6_sheet_3 10 rfl rfl)
theorem dX6_sheet_85 : decode cX6_sheet 85 = .ok (.iload 7, 2) := dk_21 7 (dk_at dksX6_sheet_3 13 rfl rfl)
theorem dX6_sheet_87 : decode cX6_sheet 87 = .ok (.iload_n 2, 1) := dk_28 (dk_at dksX6_sheet_3 15 rfl rfl)
theorem dX6_sheet_88 : decode cX6_sheet 88 = .ok (.if_icmp .lt 7, 3) := dk_161 0 7 (dk_at dksX6_sheet_3 16 rfl rfl)
theorem dX6_sheet_91 : decode cX6_sheet 91 = .ok (.iconst 0, 1) := dk_3 (dk_at dksX6_sheet_3 19 rfl rfl)
theorem dX6_sheet_92 : decode cX6_sheet 92 = .ok (.goto 18, 3) := dk_167 0 18 (dk_at dksX6_sheet_3 20 rfl rfl)
theorem dX6_sheet_95 : decode cX6_sheet 95 = .ok (.iconst 0, 1) := dk_3 (dk_at dksX6_sheet_3 23 rfl rfl)
theorem dX6_sheet_96 : decode cX6_sheet 96 = .ok (.aload_n 0, 1) := dk_42 (dk_at dksX6_sheet_4 0 rfl rfl)
theorem dX6_sheet_97 : decode cX6_sheet 97 = .ok (.invokevirtual 192, 3) := dk_182 0 192 (dk_at dksX6_sheet_4 1 rfl rfl)
theorem dX6_sheet_100 : decode cX6_sheet 100 = .ok (.iconst 1, 1) := dk_4 (dk_at dksX6_sheet_4 4 rfl rfl)
theorem dX6_sheet_101 : decode cX6_sheet 101 = .ok (.isub, 1) := dk_100 (dk_at dksX6_sheet_4 5 rfl rfl)
theorem dX6_sheet_102 : decode cX6_sheet 102 = .ok (.iload 8, 2) := dk_21 8 (dk_at dksX6_sheet_4 6 rfl rfl)
theorem dX6_sheet_104 : decode cX6_sheet 104 = .ok (.invokestatic 145, 3) := dk_184 0 145 (dk_at dksX6_sheet_4 8 rfl rfl)
theorem dX6_sheet_107 : decode cX6_sheet 107 = .ok (.invokestatic 287, 3) := dk_184 1 31 (dk_at dksX6_sheet_4 11 rfl rfl)
theorem dX6_sheet_110 : decode cX6_sheet 110 = .ok (.istore 9, 2) := dk_54 9 (dk_at dksX6_sheet_4 14 rfl rfl)
theorem dX6_sheet_112 : decode cX6_sheet 112 = .ok (.aload_n 0, 1) := dk_42 (dk_at dksX6_sheet_4 16 rfl rfl)
theorem dX6_sheet_113 : decode cX6_sheet 113 = .ok (.getfield 31, 3) := dk_180 0 31 (dk_at dksX6_sheet_4 17 rfl rfl)
theorem dX6_sheet_116 : decode cX6_sheet 116 = .ok (.bipush 13, 2) := dk_16 13 (dk_at dksX6_sheet_4 20 rfl rfl)
theorem dX6_sheet_118 : decode cX6_sheet 118 = .ok (.iload 7, 2) := dk_21 7 (dk_at dksX6_sheet_4 22 rfl rfl)
theorem dX6_sheet_120 : decode cX6_sheet 120 = .ok (.iadd, 1) := dk_96 (dk_at dksX6_sheet_5 0 rfl rfl)
theorem dX6_sheet_121 : decode cX6_sheet 121 = .ok (.aload_n 0, 1) := dk_42 (dk_at dksX6_sheet_5 1 rfl rfl)
theorem dX6_sheet_122 : decode cX6_sheet 122 = .ok (.getfield 31, 3) := dk_180 0 31 (dk_at dksX6_sheet_5 2 rfl rfl)
theorem dX6_sheet_125 : decode cX6_sheet 125 = .ok (.iload 7, 2) := dk_21 7 (dk_at dksX6_sheet_5 5 rfl rfl)
theorem dX6_sheet_127 : decode cX6_sheet 127 = .ok (.invokestatic 132, 3) := dk_184 0 132 (dk_at dksX6_sheet_5 7 rfl rfl)
theorem dX6_sheet_130 : decode cX6_sheet 130 = .ok (.ifCond .eq 16, 3) := dk_153 0 16 (dk_at dksX6_sheet_5 10 rfl rfl)
theorem dX6_sheet_133 : decode cX6_sheet 133 = .ok (.aload_n 0, 1) := dk_42 (dk_at dksX6_sheet_5 13 rfl rfl)
theorem dX6_sheet_134 : decode cX6_sheet 134 = .ok (.getfield 31, 3) := dk_180 0 31 (dk_at dksX6_sheet_5 14 rfl rfl)
theorem dX6_sheet_137 : decode cX6_sheet 137 = .ok (.bipush 13, 2) := dk_16 13 (dk_at dksX6_sheet_5 17 rfl rfl)
theorem dX6_sheet_139 : decode cX6_sheet 139 = .ok (.iload 7, 2) := dk_21 7 (dk_at dksX6_sheet_5 19 rfl rfl)
theorem dX6_sheet_141 : decode cX6_sheet 141 = .ok (.iadd, 1) := dk_96 (dk_at dksX6_sheet_5 21 rfl rfl)
theorem dX6_sheet_142 : decode cX6_sheet 142 = .ok (.iaload, 1) := dk_46 (dk_at dksX6_sheet_5 22 rfl rfl)
theorem dX6_sheet_143 : decode cX6_sheet 143 = .ok (.goto 5, 3) := dk_167 0 5 (dk_at dksX6_sheet_6 0 rfl rfl)
theorem dX6_sheet_146 : decode cX6_sheet 146 = .ok (.iload 9, 2) := dk_21 9 (dk_at dksX6_sheet_6 3 rfl rfl)
theorem dX6_sheet_148 : decode cX6_sheet 148 = .ok (.iastore, 1) := dk_79 (dk_at dksX6_sheet_6 5 rfl rfl)
theorem dX6_sheet_149 : decode cX6_sheet 149 = .ok (.iload 5, 2) := dk_21 5 (dk_at dksX6_sheet_6 6 rfl rfl)
theorem dX6_sheet_151 : decode cX6_sheet 151 = .ok (.aload_n 0, 1) := dk_42 (dk_at dksX6_sheet_6 8 rfl rfl)
theorem dX6_sheet_152 : decode cX6_sheet 152 = .ok (.getfield 31, 3) := dk_180 0 31 (dk_at dksX6_sheet_6 9 rfl rfl)
theorem dX6_sheet_155 : decode cX6_sheet 155 = .ok (.bipush 13, 2) := dk_16 13 (dk_at dksX6_sheet_6 12 rfl rfl)
theorem dX6_sheet_157 : decode cX6_sheet 157 = .ok (.iload 7, 2) := dk_21 7 (dk_at dksX6_sheet_6 14 rfl rfl)
theorem dX6_sheet_159 : decode cX6_sheet 159 = .ok (.iadd, 1) := dk_96 (dk_at dksX6_sheet_6 16 rfl rfl)
theorem dX6_sheet_160 : decode cX6_sheet 160 = .ok (.iaload, 1) := dk_46 (dk_at dksX6_sheet_6 17 rfl rfl)
theorem dX6_sheet_161 : decode cX6_sheet 161 = .ok (.iadd, 1) := dk_96 (dk_at dksX6_sheet_6 18 rfl rfl)
theorem dX6_sheet_162 : decode cX6_sheet 162 = .ok (.istore 5, 2) := dk_54 5 (dk_at dksX6_sheet_6 19 rfl rfl)
theorem dX6_sheet_164 : decode cX6_sheet 164 = .ok (.iload 6, 2) := dk_21 6 (dk_at dksX6_sheet_6 21 rfl rfl)
theorem dX6_sheet_166 : decode cX6_sheet 166 = .ok (.iload 4, 2) := dk_21 4 (dk_at dksX6_sheet_7 0 rfl rfl)
theorem dX6_sheet_168 : decode cX6_sheet 168 = .ok (.iadd, 1) := dk_96 (dk_at dksX6_sheet_7 2 rfl rfl)
theorem dX6_sheet_169 : decode cX6_sheet 169 = .ok (.istore 6, 2) := dk_54 6 (dk_at dksX6_sheet_7 3 rfl rfl)
theorem dX6_sheet_171 : decode cX6_sheet 171 = .ok (.iinc 7 1, 3) := dk_132 7 1 (dk_at dksX6_sheet_7 5 rfl rfl)
theorem dX6_sheet_174 : decode cX6_sheet 174 = .ok (.goto (-128), 3) := dk_167 255 128 (dk_at dksX6_sheet_7 8 rfl rfl)
theorem dX6_sheet_177 : decode cX6_sheet 177 = .ok (.iload_n 1, 1) := dk_27 (dk_at dksX6_sheet_7 11 rfl rfl)
theorem dX6_sheet_178 : decode cX6_sheet 178 = .ok (.iconst 3, 1) := dk_6 (dk_at dksX6_sheet_7 12 rfl rfl)
theorem dX6_sheet_179 : decode cX6_sheet 179 = .ok (.if_icmp .ne 8, 3) := dk_160 0 8 (dk_at dksX6_sheet_7 13 rfl rfl)
theorem dX6_sheet_182 : decode cX6_sheet 182 = .ok (.bipush (-3), 2) := dk_16 253 (dk_at dksX6_sheet_7 16 rfl rfl)
theorem dX6_sheet_184 : decode cX6_sheet 184 = .ok (.goto 5, 3) := dk_167 0 5 (dk_at dksX6_sheet_7 18 rfl rfl)
theorem dX6_sheet_187 : decode cX6_sheet 187 = .ok (.iload 5, 2) := dk_21 5 (dk_at dksX6_sheet_7 21 rfl rfl)
theorem dX6_sheet_189 : decode cX6_sheet 189 = .ok (.ireturn, 1) := dk_172 (dk_at dksX6_sheet_7 23 rfl rfl)
abbrev cX6_isEnded : ByteArray := prog_15_method_13_code
def yX6_isEnded : MethodName := ⟨RX6, "isEnded", "([II)Z"⟩
def dkwX6_isEnded_0 : List UInt8 := [42, 16, 29, 27, 96, 46, 155, 0, 7, 4, 167, 0, 4, 3, 172]
abbrev dktX6_isEnded_0 : List UInt8 := dkwX6_isEnded_0 ++ []
theorem dksX6_isEnded_0 : cX6_isEnded.data.toList.drop 0 = dktX6_isEnded_0 := by decide +kernel
theorem dX6_isEnded_0 : decode cX6_isEnded 0 = .ok (.aload_n 0, 1) := dk_42 (dk_at dksX6_isEnded_0 0 rfl rfl)
theorem dX6_isEnded_1 : decode cX6_isEnded 1 = .ok (.bipush 29, 2) := dk_16 29 (dk_at dksX6_isEnded_0 1 rfl rfl)
theorem dX6_isEnded_3 : decode cX6_isEnded 3 = .ok (.iload_n 1, 1) := dk_27 (dk_at dksX6_isEnded_0 3 rfl rfl)
theorem dX6_isEnded_4 : decode cX6_isEnded 4 = .ok (.iadd, 1) := dk_96 (dk_at dksX6_isEnded_0 4 rfl rfl)
theorem dX6_isEnded_5 : decode cX6_isEnded 5 = .ok (.iaload, 1) := dk_46 (dk_at dksX6_isEnded_0 5 rfl rfl)
theorem dX6_isEnded_6 : decode cX6_isEnded 6 = .ok (.ifCond .lt 7, 3) := dk_155 0 7 (dk_at dksX6_isEnded_0 6 rfl rfl)
theorem dX6_isEnded_9 : decode cX6_isEnded 9 = .ok (.iconst 1, 1) := dk_4 (dk_at dksX6_isEnded_0 9 rfl rfl)
theorem dX6_isEnded_10 : decode cX6_isEnded 10 = .ok (.goto 4, 3) := dk_167 0 4 (dk_at dksX6_isEnded_0 10 rfl rfl)
theorem dX6_isEnded_13 : decode cX6_isEnded 13 = .ok (.iconst 0, 1) := dk_3 (dk_at dksX6_isEnded_0 13 rfl rfl)
theorem dX6_isEnded_14 : decode cX6_isEnded 14 = .ok (.ireturn, 1) := dk_172 (dk_at dksX6_isEnded_0 14 rfl rfl)
abbrev cX6_undo : ByteArray := prog_15_method_53_code
def yX6_undo : MethodName := ⟨RX6, "undo", "()I"⟩
def dkwX6_undo_2 : List UInt8 := [27, 96, 46, 79, 132, 1, 1, 167, 255, 227, 42, 180, 0, 186, 172]
abbrev dktX6_undo_2 : List UInt8 := dkwX6_undo_2 ++ []
def dkwX6_undo_1 : List UInt8 := [3, 60, 27, 16, 38, 162, 0, 29, 42, 180, 0, 31, 27, 42, 180, 0, 61, 16, 38, 42, 180, 0, 186, 104]
abbrev dktX6_undo_1 : List UInt8 := dkwX6_undo_1 ++ dktX6_undo_2
def dkwX6_undo_0 : List UInt8 := [42, 3, 181, 0, 112, 42, 180, 0, 186, 154, 0, 5, 2, 172, 42, 89, 180, 0, 186, 4, 100, 181, 0, 186]
abbrev dktX6_undo_0 : List UInt8 := dkwX6_undo_0 ++ dktX6_undo_1
theorem dksX6_undo_0 : cX6_undo.data.toList.drop 0 = dktX6_undo_0 := by decide +kernel
theorem dksX6_undo_1 : cX6_undo.data.toList.drop 24 = dktX6_undo_1 := dk_seg dksX6_undo_0 24 rfl rfl
theorem dksX6_undo_2 : cX6_undo.data.toList.drop 48 = dktX6_undo_2 := dk_seg dksX6_undo_1 24 rfl rfl
theorem dX6_undo_0 : decode cX6_undo 0 = .ok (.aload_n 0, 1) := dk_42 (dk_at dksX6_undo_0 0 rfl rfl)
theorem dX6_undo_1 : decode cX6_undo 1 = .ok (.iconst 0, 1) := dk_3 (dk_at dksX6_undo_0 1 rfl rfl)
theorem dX6_undo_2 : decode cX6_undo 2 = .ok (.putfield 112, 3) := dk_181 0 112 (dk_at dksX6_undo_0 2 rfl rfl)
theorem dX6_undo_5 : decode cX6_undo 5 = .ok (.aload_n 0, 1) := dk_42 (dk_at dksX6_undo_0 5 rfl rfl)
theorem dX6_undo_6 : decode cX6_undo 6 = .ok (.getfield 186, 3) := dk_180 0 186 (dk_at dksX6_undo_0 6 rfl rfl)
theorem dX6_undo_9 : decode cX6_undo 9 = .ok (.ifCond .ne 5, 3) := dk_154 0 5 (dk_at dksX6_undo_0 9 rfl rfl)
theorem dX6_undo_12 : decode cX6_undo 12 = .ok (.iconst (-1), 1) := dk_2 (dk_at dksX6_undo_0 12 rfl rfl)
theorem dX6_undo_13 : decode cX6_undo 13 = .ok (.ireturn, 1) := dk_172 (dk_at dksX6_undo_0 13 rfl rfl)
theorem dX6_undo_14 : decode cX6_undo 14 = .ok (.aload_n 0, 1) := dk_42 (dk_at dksX6_undo_0 14 rfl rfl)
theorem dX6_undo_15 : decode cX6_undo 15 = .ok (.dup, 1) := dk_89 (dk_at dksX6_undo_0 15 rfl rfl)
theorem dX6_undo_16 : decode cX6_undo 16 = .ok (.getfield 186, 3) := dk_180 0 186 (dk_at dksX6_undo_0 16 rfl rfl)
theorem dX6_undo_19 : decode cX6_undo 19 = .ok (.iconst 1, 1) := dk_4 (dk_at dksX6_undo_0 19 rfl rfl)
theorem dX6_undo_20 : decode cX6_undo 20 = .ok (.isub, 1) := dk_100 (dk_at dksX6_undo_0 20 rfl rfl)
theorem dX6_undo_21 : decode cX6_undo 21 = .ok (.putfield 186, 3) := dk_181 0 186 (dk_at dksX6_undo_0 21 rfl rfl)
theorem dX6_undo_24 : decode cX6_undo 24 = .ok (.iconst 0, 1) := dk_3 (dk_at dksX6_undo_1 0 rfl rfl)
theorem dX6_undo_25 : decode cX6_undo 25 = .ok (.istore_n 1, 1) := dk_60 (dk_at dksX6_undo_1 1 rfl rfl)
theorem dX6_undo_26 : decode cX6_undo 26 = .ok (.iload_n 1, 1) := dk_27 (dk_at dksX6_undo_1 2 rfl rfl)
theorem dX6_undo_27 : decode cX6_undo 27 = .ok (.bipush 38, 2) := dk_16 38 (dk_at dksX6_undo_1 3 rfl rfl)
theorem dX6_undo_29 : decode cX6_undo 29 = .ok (.if_icmp .ge 29, 3) := dk_162 0 29 (dk_at dksX6_undo_1 5 rfl rfl)
theorem dX6_undo_32 : decode cX6_undo 32 = .ok (.aload_n 0, 1) := dk_42 (dk_at dksX6_undo_1 8 rfl rfl)
theorem dX6_undo_33 : decode cX6_undo 33 = .ok (.getfield 31, 3) := dk_180 0 31 (dk_at dksX6_undo_1 9 rfl rfl)
theorem dX6_undo_36 : decode cX6_undo 36 = .ok (.iload_n 1, 1) := dk_27 (dk_at dksX6_undo_1 12 rfl rfl)
theorem dX6_undo_37 : decode cX6_undo 37 = .ok (.aload_n 0, 1) := dk_42 (dk_at dksX6_undo_1 13 rfl rfl)
theorem dX6_undo_38 : decode cX6_undo 38 = .ok (.getfield 61, 3) := dk_180 0 61 (dk_at dksX6_undo_1 14 rfl rfl)
theorem dX6_undo_41 : decode cX6_undo 41 = .ok (.bipush 38, 2) := dk_16 38 (dk_at dksX6_undo_1 17 rfl rfl)
theorem dX6_undo_43 : decode cX6_undo 43 = .ok (.aload_n 0, 1) := dk_42 (dk_at dksX6_undo_1 19 rfl rfl)
theorem dX6_undo_44 : decode cX6_undo 44 = .ok (.getfield 186, 3) := dk_180 0 186 (dk_at dksX6_undo_1 20 rfl rfl)
theorem dX6_undo_47 : decode cX6_undo 47 = .ok (.imul, 1) := dk_104 (dk_at dksX6_undo_1 23 rfl rfl)
theorem dX6_undo_48 : decode cX6_undo 48 = .ok (.iload_n 1, 1) := dk_27 (dk_at dksX6_undo_2 0 rfl rfl)
theorem dX6_undo_49 : decode cX6_undo 49 = .ok (.iadd, 1) := dk_96 (dk_at dksX6_undo_2 1 rfl rfl)
theorem dX6_undo_50 : decode cX6_undo 50 = .ok (.iaload, 1) := dk_46 (dk_at dksX6_undo_2 2 rfl rfl)
theorem dX6_undo_51 : decode cX6_undo 51 = .ok (.iastore, 1) := dk_79 (dk_at dksX6_undo_2 3 rfl rfl)
theorem dX6_undo_52 : decode cX6_undo 52 = .ok (.iinc 1 1, 3) := dk_132 1 1 (dk_at dksX6_undo_2 4 rfl rfl)
theorem dX6_undo_55 : decode cX6_undo 55 = .ok (.goto (-29), 3) := dk_167 255 227 (dk_at dksX6_undo_2 7 rfl rfl)
theorem dX6_undo_58 : decode cX6_undo 58 = .ok (.aload_n 0, 1) := dk_42 (dk_at dksX6_undo_2 10 rfl rfl)
theorem dX6_undo_59 : decode cX6_undo 59 = .ok (.getfield 186, 3) := dk_180 0 186 (dk_at dksX6_undo_2 11 rfl rfl)
theorem dX6_undo_62 : decode cX6_undo 62 = .ok (.ireturn, 1) := dk_172 (dk_at dksX6_undo_2 14 rfl rfl)
abbrev cX6_steps : ByteArray := prog_15_method_63_code
def yX6_steps : MethodName := ⟨RX6, "steps", "(I)I"⟩
def dkwX6_steps_2 : List UInt8 := [180, 1, 74, 133, 182, 1, 102, 42, 42, 180, 0, 31, 16, 12, 46, 182, 1, 62, 172]
abbrev dktX6_steps_2 : List UInt8 := dkwX6_steps_2 ++ []
def dkwX6_steps_1 : List UInt8 := [42, 180, 0, 31, 27, 182, 1, 99, 42, 3, 181, 0, 119, 42, 42, 180, 1, 71, 133, 182, 1, 102, 42, 42]
abbrev dktX6_steps_1 : List UInt8 := dkwX6_steps_1 ++ dktX6_steps_2
def dkwX6_steps_0 : List UInt8 := [42, 3, 181, 0, 112, 27, 133, 9, 20, 1, 94, 184, 0, 125, 154, 0, 5, 2, 172, 42, 182, 1, 96, 42]
abbrev dktX6_steps_0 : List UInt8 := dkwX6_steps_0 ++ dktX6_steps_1
theorem dksX6_steps_0 : cX6_steps.data.toList.drop 0 = dktX6_steps_0 := by decide +kernel
theorem dksX6_steps_1 : cX6_steps.data.toList.drop 24 = dktX6_steps_1 := dk_seg dksX6_steps_0 24 rfl rfl
theorem dksX6_steps_2 : cX6_steps.data.toList.drop 48 = dktX6_steps_2 := dk_seg dksX6_steps_1 24 rfl rfl
theorem dX6_steps_0 : decode cX6_steps 0 = .ok (.aload_n 0, 1) := dk_42 (dk_at dksX6_steps_0 0 rfl rfl)
theorem dX6_steps_1 : decode cX6_steps 1 = .ok (.iconst 0, 1) := dk_3 (dk_at dksX6_steps_0 1 rfl rfl)
theorem dX6_steps_2 : decode cX6_steps 2 = .ok (.putfield 112, 3) := dk_181 0 112 (dk_at dksX6_steps_0 2 rfl rfl)
theorem dX6_steps_5 : decode cX6_steps 5 = .ok (.iload_n 1, 1) := dk_27 (dk_at dksX6_steps_0 5 rfl rfl)
theorem dX6_steps_6 : decode cX6_steps 6 = .ok (.i2l, 1) := dk_133 (dk_at dksX6_steps_0 6 rfl rfl)
theorem dX6_steps_7 : decode cX6_steps 7 = .ok (.lconst 0, 1) := dk_9 (dk_at dksX6_steps_0 7 rfl rfl)
theorem dX6_steps_8 : decode cX6_steps 8 = .ok (.ldc2_w 350, 3) := dk_20 1 94 (dk_at dksX6_steps_0 8 rfl rfl)
theorem dX6_steps_11 : decode cX6_steps 11 = .ok (.invokestatic 125, 3) := dk_184 0 125 (dk_at dksX6_steps_0 11 rfl rfl)
theorem dX6_steps_14 : decode cX6_steps 14 = .ok (.ifCond .ne 5, 3) := dk_154 0 5 (dk_at dksX6_steps_0 14 rfl rfl)
theorem dX6_steps_17 : decode cX6_steps 17 = .ok (.iconst (-1), 1) := dk_2 (dk_at dksX6_steps_0 17 rfl rfl)
theorem dX6_steps_18 : decode cX6_steps 18 = .ok (.ireturn, 1) := dk_172 (dk_at dksX6_steps_0 18 rfl rfl)
theorem dX6_steps_19 : decode cX6_steps 19 = .ok (.aload_n 0, 1) := dk_42 (dk_at dksX6_steps_0 19 rfl rfl)
theorem dX6_steps_20 : decode cX6_steps 20 = .ok (.invokevirtual 352, 3) := dk_182 1 96 (dk_at dksX6_steps_0 20 rfl rfl)
theorem dX6_steps_23 : decode cX6_steps 23 = .ok (.aload_n 0, 1) := dk_42 (dk_at dksX6_steps_0 23 rfl rfl)
theorem dX6_steps_24 : decode cX6_steps 24 = .ok (.aload_n 0, 1) := dk_42 (dk_at dksX6_steps_1 0 rfl rfl)
theorem dX6_steps_25 : decode cX6_steps 25 = .ok (.getfield 31, 3) := dk_180 0 31 (dk_at dksX6_steps_1 1 rfl rfl)
theorem dX6_steps_28 : decode cX6_steps 28 = .ok (.iload_n 1, 1) := dk_27 (dk_at dksX6_steps_1 4 rfl rfl)
theorem dX6_steps_29 : decode cX6_steps 29 = .ok (.invokevirtual 355, 3) := dk_182 1 99 (dk_at dksX6_steps_1 5 rfl rfl)
theorem dX6_steps_32 : decode cX6_steps 32 = .ok (.aload_n 0, 1) := dk_42 (dk_at dksX6_steps_1 8 rfl rfl)
theorem dX6_steps_33 : decode cX6_steps 33 = .ok (.iconst 0, 1) := dk_3 (dk_at dksX6_steps_1 9 rfl rfl)
theorem dX6_steps_34 : decode cX6_steps 34 = .ok (.putfield 119, 3) := dk_181 0 119 (dk_at dksX6_steps_1 10 rfl rfl)
theorem dX6_steps_37 : decode cX6_steps 37 = .ok (.aload_n 0, 1) := dk_42 (dk_at dksX6_steps_1 13 rfl rfl)
theorem dX6_steps_38 : decode cX6_steps 38 = .ok (.aload_n 0, 1) := dk_42 (dk_at dksX6_steps_1 14 rfl rfl)
theorem dX6_steps_39 : decode cX6_steps 39 = .ok (.getfield 327, 3) := dk_180 1 71 (dk_at dksX6_steps_1 15 rfl rfl)
theorem dX6_steps_42 : decode cX6_steps 42 = .ok (.i2l, 1) := dk_133 (dk_at dksX6_steps_1 18 rfl rfl)
theorem dX6_steps_43 : decode cX6_steps 43 = .ok (.invokevirtual 358, 3) := dk_182 1 102 (dk_at dksX6_steps_1 19 rfl rfl)
theorem dX6_steps_46 : decode cX6_steps 46 = .ok (.aload_n 0, 1) := dk_42 (dk_at dksX6_steps_1 22 rfl rfl)
theorem dX6_steps_47 : decode cX6_steps 47 = .ok (.aload_n 0, 1) := dk_42 (dk_at dksX6_steps_1 23 rfl rfl)
theorem dX6_steps_48 : decode cX6_steps 48 = .ok (.getfield 330, 3) := dk_180 1 74 (dk_at dksX6_steps_2 0 rfl rfl)
theorem dX6_steps_51 : decode cX6_steps 51 = .ok (.i2l, 1) := dk_133 (dk_at dksX6_steps_2 3 rfl rfl)
theorem dX6_steps_52 : decode cX6_steps 52 = .ok (.invokevirtual 358, 3) := dk_182 1 102 (dk_at dksX6_steps_2 4 rfl rfl)
theorem dX6_steps_55 : decode cX6_steps 55 = .ok (.aload_n 0, 1) := dk_42 (dk_at dksX6_steps_2 7 rfl rfl)
theorem dX6_steps_56 : decode cX6_steps 56 = .ok (.aload_n 0, 1) := dk_42 (dk_at dksX6_steps_2 8 rfl rfl)
theorem dX6_steps_57 : decode cX6_steps 57 = .ok (.getfield 31, 3) := dk_180 0 31 (dk_at dksX6_steps_2 9 rfl rfl)
theorem dX6_steps_60 : decode cX6_steps 60 = .ok (.bipush 12, 2) := dk_16 12 (dk_at dksX6_steps_2 12 rfl rfl)
theorem dX6_steps_62 : decode cX6_steps 62 = .ok (.iaload, 1) := dk_46 (dk_at dksX6_steps_2 14 rfl rfl)
theorem dX6_steps_63 : decode cX6_steps 63 = .ok (.invokevirtual 318, 3) := dk_182 1 62 (dk_at dksX6_steps_2 15 rfl rfl)
theorem dX6_steps_66 : decode cX6_steps 66 = .ok (.ireturn, 1) := dk_172 (dk_at dksX6_steps_2 18 rfl rfl)
abbrev cX6_putsBy : ByteArray := prog_15_method_50_code
def yX6_putsBy : MethodName := ⟨RX6, "putsBy", "()V"⟩
def dkwX6_putsBy_1 : List UInt8 := [180, 0, 31, 27, 46, 79, 132, 1, 1, 167, 255, 227, 177]
abbrev dktX6_putsBy_1 : List UInt8 := dkwX6_putsBy_1 ++ []
def dkwX6_putsBy_0 : List UInt8 := [3, 60, 27, 16, 38, 162, 0, 29, 42, 180, 0, 61, 16, 38, 42, 180, 0, 186, 104, 27, 96, 42]
abbrev dktX6_putsBy_0 : List UInt8 := dkwX6_putsBy_0 ++ dktX6_putsBy_1
theorem dksX6_putsBy_0 : cX6_putsBy.data.toList.drop 0 = dktX6_putsBy_0 := by decide +kernel
theorem dksX6_putsBy_1 : cX6_putsBy.data.toList.drop 22 = dktX6_putsBy_1 := dk_seg dksX6_putsBy_0 22 rfl rfl
theorem dX6_putsBy_0 : decode cX6_putsBy 0 = .ok (.iconst 0, 1) := dk_3 (dk_at dksX6_putsBy_0 0 rfl rfl)
theorem dX6_putsBy_1 : decode cX6_putsBy 1 = .ok (.istore_n 1, 1) := dk_60 (dk_at dksX6_putsBy_0 1 rfl rfl)
theorem dX6_putsBy_2 : decode cX6_putsBy 2 = .ok (.iload_n 1, 1) := dk_27 (dk_at dksX6_putsBy_0 2 rfl rfl)
theorem dX6_putsBy_3 : decode cX6_putsBy 3 = .ok (.bipush 38, 2) := dk_16 38 (dk_at dksX6_putsBy_0 3 rfl rfl)
theorem dX6_putsBy_5 : decode cX6_putsBy 5 = .ok (.if_icmp .ge 29, 3) := dk_162 0 29 (dk_at dksX6_putsBy_0 5 rfl rfl)
theorem dX6_putsBy_8 : decode cX6_putsBy 8 = .ok (.aload_n 0, 1) := dk_42 (dk_at dksX6_putsBy_0 8 rfl rfl)
theorem dX6_putsBy_9 : decode cX6_putsBy 9 = .ok (.getfield 61, 3) := dk_180 0 61 (dk_at dksX6_putsBy_0 9 rfl rfl)
theorem dX6_putsBy_12 : decode cX6_putsBy 12 = .ok (.bipush 38, 2) := dk_16 38 (dk_at dksX6_putsBy_0 12 rfl rfl)
theorem dX6_putsBy_14 : decode cX6_putsBy 14 = .ok (.aload_n 0, 1) := dk_42 (dk_at dksX6_putsBy_0 14 rfl rfl)
theorem dX6_putsBy_15 : decode cX6_putsBy 15 = .ok (.getfield 186, 3) := dk_180 0 186 (dk_at dksX6_putsBy_0 15 rfl rfl)
theorem dX6_putsBy_18 : decode cX6_putsBy 18 = .ok (.imul, 1) := dk_104 (dk_at dksX6_putsBy_0 18 rfl rfl)
theorem dX6_putsBy_19 : decode cX6_putsBy 19 = .ok (.iload_n 1, 1) := dk_27 (dk_at dksX6_putsBy_0 19 rfl rfl)
theorem dX6_putsBy_20 : decode cX6_putsBy 20 = .ok (.iadd, 1) := dk_96 (dk_at dksX6_putsBy_0 20 rfl rfl)
theorem dX6_putsBy_21 : decode cX6_putsBy 21 = .ok (.aload_n 0, 1) := dk_42 (dk_at dksX6_putsBy_0 21 rfl rfl)
theorem dX6_putsBy_22 : decode cX6_putsBy 22 = .ok (.getfield 31, 3) := dk_180 0 31 (dk_at dksX6_putsBy_1 0 rfl rfl)
theorem dX6_putsBy_25 : decode cX6_putsBy 25 = .ok (.iload_n 1, 1) := dk_27 (dk_at dksX6_putsBy_1 3 rfl rfl)
theorem dX6_putsBy_26 : decode cX6_putsBy 26 = .ok (.iaload, 1) := dk_46 (dk_at dksX6_putsBy_1 4 rfl rfl)
theorem dX6_putsBy_27 : decode cX6_putsBy 27 = .ok (.iastore, 1) := dk_79 (dk_at dksX6_putsBy_1 5 rfl rfl)
theorem dX6_putsBy_28 : decode cX6_putsBy 28 = .ok (.iinc 1 1, 3) := dk_132 1 1 (dk_at dksX6_putsBy_1 6 rfl rfl)
theorem dX6_putsBy_31 : decode cX6_putsBy 31 = .ok (.goto (-29), 3) := dk_167 255 227 (dk_at dksX6_putsBy_1 9 rfl rfl)
theorem dX6_putsBy_34 : decode cX6_putsBy 34 = .ok (.return_, 1) := dk_177 (dk_at dksX6_putsBy_1 12 rfl rfl)
abbrev cX6_goesOn : ByteArray := prog_15_method_59_code
def yX6_goesOn : MethodName := ⟨RX6, "goesOn", "([II)V"⟩
def dkwX6_goesOn_3 : List UInt8 := [177]
abbrev dktX6_goesOn_3 : List UInt8 := dkwX6_goesOn_3 ++ []
def dkwX6_goesOn_2 : List UInt8 := [132, 3, 1, 167, 255, 240, 3, 62, 29, 28, 162, 0, 14, 42, 43, 182, 1, 87, 132, 3, 1, 167, 255, 243]
abbrev dktX6_goesOn_2 : List UInt8 := dkwX6_goesOn_2 ++ dktX6_goesOn_3
def dkwX6_goesOn_1 : List UInt8 := [79, 132, 3, 1, 167, 255, 240, 3, 62, 29, 16, 8, 162, 0, 16, 42, 180, 0, 67, 29, 3, 79]
abbrev dktX6_goesOn_1 : List UInt8 := dkwX6_goesOn_1 ++ dktX6_goesOn_2
def dkwX6_goesOn_0 : List UInt8 := [42, 3, 181, 1, 71, 42, 3, 181, 1, 74, 3, 62, 29, 16, 30, 162, 0, 16, 42, 180, 0, 64, 29, 3]
abbrev dktX6_goesOn_0 : List UInt8 := dkwX6_goesOn_0 ++ dktX6_goesOn_1
theorem dksX6_goesOn_0 : cX6_goesOn.data.toList.drop 0 = dktX6_goesOn_0 := by decide +kernel
theorem dksX6_goesOn_1 : cX6_goesOn.data.toList.drop 24 = dktX6_goesOn_1 := dk_seg dksX6_goesOn_0 24 rfl rfl
theorem dksX6_goesOn_2 : cX6_goesOn.data.toList.drop 46 = dktX6_goesOn_2 := dk_seg dksX6_goesOn_1 22 rfl rfl
theorem dksX6_goesOn_3 : cX6_goesOn.data.toList.drop 70 = dktX6_goesOn_3 := dk_seg dksX6_goesOn_2 24 rfl rfl
theorem dX6_goesOn_0 : decode cX6_goesOn 0 = .ok (.aload_n 0, 1) := dk_42 (dk_at dksX6_goesOn_0 0 rfl rfl)
theorem dX6_goesOn_1 : decode cX6_goesOn 1 = .ok (.iconst 0, 1) := dk_3 (dk_at dksX6_goesOn_0 1 rfl rfl)
theorem dX6_goesOn_2 : decode cX6_goesOn 2 = .ok (.putfield 327, 3) := dk_181 1 71 (dk_at dksX6_goesOn_0 2 rfl rfl)
theorem dX6_goesOn_5 : decode cX6_goesOn 5 = .ok (.aload_n 0, 1) := dk_42 (dk_at dksX6_goesOn_0 5 rfl rfl)
theorem dX6_goesOn_6 : decode cX6_goesOn 6 = .ok (.iconst 0, 1) := dk_3 (dk_at dksX6_goesOn_0 6 rfl rfl)
theorem dX6_goesOn_7 : decode cX6_goesOn 7 = .ok (.putfield 330, 3) := dk_181 1 74 (dk_at dksX6_goesOn_0 7 rfl rfl)
theorem dX6_goesOn_10 : decode cX6_goesOn 10 = .ok (.iconst 0, 1) := dk_3 (dk_at dksX6_goesOn_0 10 rfl rfl)
theorem dX6_goesOn_11 : decode cX6_goesOn 11 = .ok (.istore_n 3, 1) := dk_62 (dk_at dksX6_goesOn_0 11 rfl rfl)
theorem dX6_goesOn_12 : decode cX6_goesOn 12 = .ok (.iload_n 3, 1) := dk_29 (dk_at dksX6_goesOn_0 12 rfl rfl)
theorem dX6_goesOn_13 : decode cX6_goesOn 13 = .ok (.bipush 30, 2) := dk_16 30 (dk_at dksX6_goesOn_0 13 rfl rfl)
theorem dX6_goesOn_15 : decode cX6_goesOn 15 = .ok (.if_icmp .ge 16, 3) := dk_162 0 16 (dk_at dksX6_goesOn_0 15 rfl rfl)
theorem dX6_goesOn_18 : decode cX6_goesOn 18 = .ok (.aload_n 0, 1) := dk_42 (dk_at dksX6_goesOn_0 18 rfl rfl)
theorem dX6_goesOn_19 : decode cX6_goesOn 19 = .ok (.getfield 64, 3) := dk_180 0 64 (dk_at dksX6_goesOn_0 19 rfl rfl)
theorem dX6_goesOn_22 : decode cX6_goesOn 22 = .ok (.iload_n 3, 1) := dk_29 (dk_at dksX6_goesOn_0 22 rfl rfl)
theorem dX6_goesOn_23 : decode cX6_goesOn 23 = .ok (.iconst 0, 1) := dk_3 (dk_at dksX6_goesOn_0 23 rfl rfl)
theorem dX6_goesOn_24 : decode cX6_goesOn 24 = .ok (.iastore, 1) := dk_79 (dk_at dksX6_goesOn_1 0 rfl rfl)
theorem dX6_goesOn_25 : decode cX6_goesOn 25 = .ok (.iinc 3 1, 3) := dk_132 3 1 (dk_at dksX6_goesOn_1 1 rfl rfl)
theorem dX6_goesOn_28 : decode cX6_goesOn 28 = .ok (.goto (-16), 3) := dk_167 255 240 (dk_at dksX6_goesOn_1 4 rfl rfl)
theorem dX6_goesOn_31 : decode cX6_goesOn 31 = .ok (.iconst 0, 1) := dk_3 (dk_at dksX6_goesOn_1 7 rfl rfl)
theorem dX6_goesOn_32 : decode cX6_goesOn 32 = .ok (.istore_n 3, 1) := dk_62 (dk_at dksX6_goesOn_1 8 rfl rfl)
theorem dX6_goesOn_33 : decode cX6_goesOn 33 = .ok (.iload_n 3, 1) := dk_29 (dk_at dksX6_goesOn_1 9 rfl rfl)
theorem dX6_goesOn_34 : decode cX6_goesOn 34 = .ok (.bipush 8, 2) := dk_16 8 (dk_at dksX6_goesOn_1 10 rfl rfl)
theorem dX6_goesOn_36 : decode cX6_goesOn 36 = .ok (.if_icmp .ge 16, 3) := dk_162 0 16 (dk_at dksX6_goesOn_1 12 rfl rfl)
theorem dX6_goesOn_39 : decode cX6_goesOn 39 = .ok (.aload_n 0, 1) := dk_42 (dk_at dksX6_goesOn_1 15 rfl rfl)
theorem dX6_goesOn_40 : decode cX6_goesOn 40 = .ok (.getfield 67, 3) := dk_180 0 67 (dk_at dksX6_goesOn_1 16 rfl rfl)
theorem dX6_goesOn_43 : decode cX6_goesOn 43 = .ok (.iload_n 3, 1) := dk_29 (dk_at dksX6_goesOn_1 19 rfl rfl)
theorem dX6_goesOn_44 : decode cX6_goesOn 44 = .ok (.iconst 0, 1) := dk_3 (dk_at dksX6_goesOn_1 20 rfl rfl)
theorem dX6_goesOn_45 : decode cX6_goesOn 45 = .ok (.iastore, 1) := dk_79 (dk_at dksX6_goesOn_1 21 rfl rfl)
theorem dX6_goesOn_46 : decode cX6_goesOn 46 = .ok (.iinc 3 1, 3) := dk_132 3 1 (dk_at dksX6_goesOn_2 0 rfl rfl)
theorem dX6_goesOn_49 : decode cX6_goesOn 49 = .ok (.goto (-16), 3) := dk_167 255 240 (dk_at dksX6_goesOn_2 3 rfl rfl)
theorem dX6_goesOn_52 : decode cX6_goesOn 52 = .ok (.iconst 0, 1) := dk_3 (dk_at dksX6_goesOn_2 6 rfl rfl)
theorem dX6_goesOn_53 : decode cX6_goesOn 53 = .ok (.istore_n 3, 1) := dk_62 (dk_at dksX6_goesOn_2 7 rfl rfl)
theorem dX6_goesOn_54 : decode cX6_goesOn 54 = .ok (.iload_n 3, 1) := dk_29 (dk_at dksX6_goesOn_2 8 rfl rfl)
theorem dX6_goesOn_55 : decode cX6_goesOn 55 = .ok (.iload_n 2, 1) := dk_28 (dk_at dksX6_goesOn_2 9 rfl rfl)
theorem dX6_goesOn_56 : decode cX6_goesOn 56 = .ok (.if_icmp .ge 14, 3) := dk_162 0 14 (dk_at dksX6_goesOn_2 10 rfl rfl)
theorem dX6_goesOn_59 : decode cX6_goesOn 59 = .ok (.aload_n 0, 1) := dk_42 (dk_at dksX6_goesOn_2 13 rfl rfl)
theorem dX6_goesOn_60 : decode cX6_goesOn 60 = .ok (.aload_n 1, 1) := dk_43 (dk_at dksX6_goesOn_2 14 rfl rfl)
theorem dX6_goesOn_61 : decode cX6_goesOn 61 = .ok (.invokevirtual 343, 3) := dk_182 1 87 (dk_at dksX6_goesOn_2 15 rfl rfl)
theorem dX6_goesOn_64 : decode cX6_goesOn 64 = .ok (.iinc 3 1, 3) := dk_132 3 1 (dk_at dksX6_goesOn_2 18 rfl rfl)
theorem dX6_goesOn_67 : decode cX6_goesOn 67 = .ok (.goto (-13), 3) := dk_167 255 243 (dk_at dksX6_goesOn_2 21 rfl rfl)
theorem dX6_goesOn_70 : decode cX6_goesOn 70 = .ok (.return_, 1) := dk_177 (dk_at dksX6_goesOn_3 0 rfl rfl)
abbrev cX6_stepGoes : ByteArray := prog_15_method_58_code
def yX6_stepGoes : MethodName := ⟨RX6, "stepGoes", "([I)V"⟩
def dkwX6_stepGoes_2 : List UInt8 := [154, 0, 9, 42, 43, 28, 182, 1, 84, 132, 2, 1, 167, 255, 231, 43, 16, 37, 92, 46, 4, 96, 79, 177]
abbrev dktX6_stepGoes_2 : List UInt8 := dkwX6_stepGoes_2 ++ []
def dkwX6_stepGoes_1 : List UInt8 := [182, 1, 81, 132, 2, 1, 167, 255, 234, 3, 61, 28, 42, 180, 0, 129, 162, 0, 23, 43, 28, 184, 0, 132]
abbrev dktX6_stepGoes_1 : List UInt8 := dkwX6_stepGoes_1 ++ dktX6_stepGoes_2
def dkwX6_stepGoes_0 : List UInt8 := [42, 43, 182, 1, 77, 3, 61, 28, 42, 180, 1, 65, 162, 0, 20, 42, 43, 42, 180, 0, 70, 28, 46]
abbrev dktX6_stepGoes_0 : List UInt8 := dkwX6_stepGoes_0 ++ dktX6_stepGoes_1
theorem dksX6_stepGoes_0 : cX6_stepGoes.data.toList.drop 0 = dktX6_stepGoes_0 := by decide +kernel
theorem dksX6_stepGoes_1 : cX6_stepGoes.data.toList.drop 23 = dktX6_stepGoes_1 := dk_seg dksX6_stepGoes_0 23 rfl rfl
theorem dksX6_stepGoes_2 : cX6_stepGoes.data.toList.drop 47 = dktX6_stepGoes_2 := dk_seg dksX6_stepGoes_1 24 rfl rfl
theorem dX6_stepGoes_0 : decode cX6_stepGoes 0 = .ok (.aload_n 0, 1) := dk_42 (dk_at dksX6_stepGoes_0 0 rfl rfl)
theorem dX6_stepGoes_1 : decode cX6_stepGoes 1 = .ok (.aload_n 1, 1) := dk_43 (dk_at dksX6_stepGoes_0 1 rfl rfl)
theorem dX6_stepGoes_2 : decode cX6_stepGoes 2 = .ok (.invokevirtual 333, 3) := dk_182 1 77 (dk_at dksX6_stepGoes_0 2 rfl rfl)
theorem dX6_stepGoes_5 : decode cX6_stepGoes 5 = .ok (.iconst 0, 1) := dk_3 (dk_at dksX6_stepGoes_0 5 rfl rfl)
theorem dX6_stepGoes_6 : decode cX6_stepGoes 6 = .ok (.istore_n 2, 1) := dk_61 (dk_at dksX6_stepGoes_0 6 rfl rfl)
theorem dX6_stepGoes_7 : decode cX6_stepGoes 7 = .ok (.iload_n 2, 1) := dk_28 (dk_at dksX6_stepGoes_0 7 rfl rfl)
theorem dX6_stepGoes_8 : decode cX6_stepGoes 8 = .ok (.aload_n 0, 1) := dk_42 (dk_at dksX6_stepGoes_0 8 rfl rfl)
theorem dX6_stepGoes_9 : decode cX6_stepGoes 9 = .ok (.getfield 321, 3) := dk_180 1 65 (dk_at dksX6_stepGoes_0 9 rfl rfl)
theorem dX6_stepGoes_12 : decode cX6_stepGoes 12 = .ok (.if_icmp .ge 20, 3) := dk_162 0 20 (dk_at dksX6_stepGoes_0 12 rfl rfl)
theorem dX6_stepGoes_15 : decode cX6_stepGoes 15 = .ok (.aload_n 0, 1) := dk_42 (dk_at dksX6_stepGoes_0 15 rfl rfl)
theorem dX6_stepGoes_16 : decode cX6_stepGoes 16 = .ok (.aload_n 1, 1) := dk_43 (dk_at dksX6_stepGoes_0 16 rfl rfl)
theorem dX6_stepGoes_17 : decode cX6_stepGoes 17 = .ok (.aload_n 0, 1) := dk_42 (dk_at dksX6_stepGoes_0 17 rfl rfl)
theorem dX6_stepGoes_18 : decode cX6_stepGoes 18 = .ok (.getfield 70, 3) := dk_180 0 70 (dk_at dksX6_stepGoes_0 18 rfl rfl)
theorem dX6_stepGoes_21 : decode cX6_stepGoes 21 = .ok (.iload_n 2, 1) := dk_28 (dk_at dksX6_stepGoes_0 21 rfl rfl)
theorem dX6_stepGoes_22 : decode cX6_stepGoes 22 = .ok (.iaload, 1) := dk_46 (dk_at dksX6_stepGoes_0 22 rfl rfl)
theorem dX6_stepGoes_23 : decode cX6_stepGoes 23 = .ok (.invokevirtual 337, 3) := dk_182 1 81 (dk_at dksX6_stepGoes_1 0 rfl rfl)
theorem dX6_stepGoes_26 : decode cX6_stepGoes 26 = .ok (.iinc 2 1, 3) := dk_132 2 1 (dk_at dksX6_stepGoes_1 3 rfl rfl)
theorem dX6_stepGoes_29 : decode cX6_stepGoes 29 = .ok (.goto (-22), 3) := dk_167 255 234 (dk_at dksX6_stepGoes_1 6 rfl rfl)
theorem dX6_stepGoes_32 : decode cX6_stepGoes 32 = .ok (.iconst 0, 1) := dk_3 (dk_at dksX6_stepGoes_1 9 rfl rfl)
theorem dX6_stepGoes_33 : decode cX6_stepGoes 33 = .ok (.istore_n 2, 1) := dk_61 (dk_at dksX6_stepGoes_1 10 rfl rfl)
theorem dX6_stepGoes_34 : decode cX6_stepGoes 34 = .ok (.iload_n 2, 1) := dk_28 (dk_at dksX6_stepGoes_1 11 rfl rfl)
theorem dX6_stepGoes_35 : decode cX6_stepGoes 35 = .ok (.aload_n 0, 1) := dk_42 (dk_at dksX6_stepGoes_1 12 rfl rfl)
theorem dX6_stepGoes_36 : decode cX6_stepGoes 36 = .ok (.getfield 129, 3) := dk_180 0 129 (dk_at dksX6_stepGoes_1 13 rfl rfl)
theorem dX6_stepGoes_39 : decode cX6_stepGoes 39 = .ok (.if_icmp .ge 23, 3) := dk_162 0 23 (dk_at dksX6_stepGoes_1 16 rfl rfl)
theorem dX6_stepGoes_42 : decode cX6_stepGoes 42 = .ok (.aload_n 1, 1) := dk_43 (dk_at dksX6_stepGoes_1 19 rfl rfl)
theorem dX6_stepGoes_43 : decode cX6_stepGoes 43 = .ok (.iload_n 2, 1) := dk_28 (dk_at dksX6_stepGoes_1 20 rfl rfl)
theorem dX6_stepGoes_44 : decode cX6_stepGoes 44 = .ok (.invokestatic 132, 3) := dk_184 0 132 (dk_at dksX6_stepGoes_1 21 rfl rfl)
theorem dX6_stepGoes_47 : decode cX6_stepGoes 47 = .ok (.ifCond .ne 9, 3) := dk_154 0 9 (dk_at dksX6_stepGoes_2 0 rfl rfl)
theorem dX6_stepGoes_50 : decode cX6_stepGoes 50 = .ok (.aload_n 0, 1) := dk_42 (dk_at dksX6_stepGoes_2 3 rfl rfl)
theorem dX6_stepGoes_51 : decode cX6_stepGoes 51 = .ok (.aload_n 1, 1) := dk_43 (dk_at dksX6_stepGoes_2 4 rfl rfl)
theorem dX6_stepGoes_52 : decode cX6_stepGoes 52 = .ok (.iload_n 2, 1) := dk_28 (dk_at dksX6_stepGoes_2 5 rfl rfl)
theorem dX6_stepGoes_53 : decode cX6_stepGoes 53 = .ok (.invokevirtual 340, 3) := dk_182 1 84 (dk_at dksX6_stepGoes_2 6 rfl rfl)
theorem dX6_stepGoes_56 : decode cX6_stepGoes 56 = .ok (.iinc 2 1, 3) := dk_132 2 1 (dk_at dksX6_stepGoes_2 9 rfl rfl)
theorem dX6_stepGoes_59 : decode cX6_stepGoes 59 = .ok (.goto (-25), 3) := dk_167 255 231 (dk_at dksX6_stepGoes_2 12 rfl rfl)
theorem dX6_stepGoes_62 : decode cX6_stepGoes 62 = .ok (.aload_n 1, 1) := dk_43 (dk_at dksX6_stepGoes_2 15 rfl rfl)
theorem dX6_stepGoes_63 : decode cX6_stepGoes 63 = .ok (.bipush 37, 2) := dk_16 37 (dk_at dksX6_stepGoes_2 16 rfl rfl)
theorem dX6_stepGoes_65 : decode cX6_stepGoes 65 = .ok (.dup2, 1) := dk_92 (dk_at dksX6_stepGoes_2 18 rfl rfl)
theorem dX6_stepGoes_66 : decode cX6_stepGoes 66 = .ok (.iaload, 1) := dk_46 (dk_at dksX6_stepGoes_2 19 rfl rfl)
theorem dX6_stepGoes_67 : decode cX6_stepGoes 67 = .ok (.iconst 1, 1) := dk_4 (dk_at dksX6_stepGoes_2 20 rfl rfl)
theorem dX6_stepGoes_68 : decode cX6_stepGoes 68 = .ok (.iadd, 1) := dk_96 (dk_at dksX6_stepGoes_2 21 rfl rfl)
theorem dX6_stepGoes_69 : decode cX6_stepGoes 69 = .ok (.iastore, 1) := dk_79 (dk_at dksX6_stepGoes_2 22 rfl rfl)
theorem dX6_stepGoes_70 : decode cX6_stepGoes 70 = .ok (.return_, 1) := dk_177 (dk_at dksX6_stepGoes_2 23 rfl rfl)
abbrev cX6_laysLine : ByteArray := prog_15_method_54_code
def yX6_laysLine : MethodName := ⟨RX6, "laysLine", "([I)V"⟩
def dkwX6_laysLine_2 : List UInt8 := [132, 2, 255, 167, 255, 218, 177]
abbrev dktX6_laysLine_2 : List UInt8 := dkwX6_laysLine_2 ++ []
def dkwX6_laysLine_1 : List UInt8 := [155, 0, 23, 42, 180, 0, 70, 42, 180, 1, 65, 29, 79, 42, 89, 180, 1, 65, 4, 96, 181, 1, 65]
abbrev dktX6_laysLine_1 : List UInt8 := dkwX6_laysLine_1 ++ dktX6_laysLine_2
def dkwX6_laysLine_0 : List UInt8 := [42, 3, 181, 1, 65, 42, 182, 0, 192, 4, 100, 61, 28, 155, 0, 40, 42, 43, 28, 182, 0, 195, 62, 29]
abbrev dktX6_laysLine_0 : List UInt8 := dkwX6_laysLine_0 ++ dktX6_laysLine_1
theorem dksX6_laysLine_0 : cX6_laysLine.data.toList.drop 0 = dktX6_laysLine_0 := by decide +kernel
theorem dksX6_laysLine_1 : cX6_laysLine.data.toList.drop 24 = dktX6_laysLine_1 := dk_seg dksX6_laysLine_0 24 rfl rfl
theorem dksX6_laysLine_2 : cX6_laysLine.data.toList.drop 47 = dktX6_laysLine_2 := dk_seg dksX6_laysLine_1 23 rfl rfl
theorem dX6_laysLine_0 : decode cX6_laysLine 0 = .ok (.aload_n 0, 1) := dk_42 (dk_at dksX6_laysLine_0 0 rfl rfl)
theorem dX6_laysLine_1 : decode cX6_laysLine 1 = .ok (.iconst 0, 1) := dk_3 (dk_at dksX6_laysLine_0 1 rfl rfl)
theorem dX6_laysLine_2 : decode cX6_laysLine 2 = .ok (.putfield 321, 3) := dk_181 1 65 (dk_at dksX6_laysLine_0 2 rfl rfl)
theorem dX6_laysLine_5 : decode cX6_laysLine 5 = .ok (.aload_n 0, 1) := dk_42 (dk_at dksX6_laysLine_0 5 rfl rfl)
theorem dX6_laysLine_6 : decode cX6_laysLine 6 = .ok (.invokevirtual 192, 3) := dk_182 0 192 (dk_at dksX6_laysLine_0 6 rfl rfl)
theorem dX6_laysLine_9 : decode cX6_laysLine 9 = .ok (.iconst 1, 1) := dk_4 (dk_at dksX6_laysLine_0 9 rfl rfl)
theorem dX6_laysLine_10 : decode cX6_laysLine 10 = .ok (.isub, 1) := dk_100 (dk_at dksX6_laysLine_0 10 rfl rfl)
theorem dX6_laysLine_11 : decode cX6_laysLine 11 = .ok (.istore_n 2, 1) := dk_61 (dk_at dksX6_laysLine_0 11 rfl rfl)
theorem dX6_laysLine_12 : decode cX6_laysLine 12 = .ok (.iload_n 2, 1) := dk_28 (dk_at dksX6_laysLine_0 12 rfl rfl)
theorem dX6_laysLine_13 : decode cX6_laysLine 13 = .ok (.ifCond .lt 40, 3) := dk_155 0 40 (dk_at dksX6_laysLine_0 13 rfl rfl)
theorem dX6_laysLine_16 : decode cX6_laysLine 16 = .ok (.aload_n 0, 1) := dk_42 (dk_at dksX6_laysLine_0 16 rfl rfl)
theorem dX6_laysLine_17 : decode cX6_laysLine 17 = .ok (.aload_n 1, 1) := dk_43 (dk_at dksX6_laysLine_0 17 rfl rfl)
theorem dX6_laysLine_18 : decode cX6_laysLine 18 = .ok (.iload_n 2, 1) := dk_28 (dk_at dksX6_laysLine_0 18 rfl rfl)
theorem dX6_laysLine_19 : decode cX6_laysLine 19 = .ok (.invokevirtual 195, 3) := dk_182 0 195 (dk_at dksX6_laysLine_0 19 rfl rfl)
theorem dX6_laysLine_22 : decode cX6_laysLine 22 = .ok (.istore_n 3, 1) := dk_62 (dk_at dksX6_laysLine_0 22 rfl rfl)
theorem dX6_laysLine_23 : decode cX6_laysLine 23 = .ok (.iload_n 3, 1) := dk_29 (dk_at dksX6_laysLine_0 23 rfl rfl)
theorem dX6_laysLine_24 : decode cX6_laysLine 24 = .ok (.ifCond .lt 23, 3) := dk_155 0 23 (dk_at dksX6_laysLine_1 0 rfl rfl)
theorem dX6_laysLine_27 : decode cX6_laysLine 27 = .ok (.aload_n 0, 1) := dk_42 (dk_at dksX6_laysLine_1 3 rfl rfl)
theorem dX6_laysLine_28 : decode cX6_laysLine 28 = .ok (.getfield 70, 3) := dk_180 0 70 (dk_at dksX6_laysLine_1 4 rfl rfl)
theorem dX6_laysLine_31 : decode cX6_laysLine 31 = .ok (.aload_n 0, 1) := dk_42 (dk_at dksX6_laysLine_1 7 rfl rfl)
theorem dX6_laysLine_32 : decode cX6_laysLine 32 = .ok (.getfield 321, 3) := dk_180 1 65 (dk_at dksX6_laysLine_1 8 rfl rfl)
theorem dX6_laysLine_35 : decode cX6_laysLine 35 = .ok (.iload_n 3, 1) := dk_29 (dk_at dksX6_laysLine_1 11 rfl rfl)
theorem dX6_laysLine_36 : decode cX6_laysLine 36 = .ok (.iastore, 1) := dk_79 (dk_at dksX6_laysLine_1 12 rfl rfl)
theorem dX6_laysLine_37 : decode cX6_laysLine 37 = .ok (.aload_n 0, 1) := dk_42 (dk_at dksX6_laysLine_1 13 rfl rfl)
theorem dX6_laysLine_38 : decode cX6_laysLine 38 = .ok (.dup, 1) := dk_89 (dk_at dksX6_laysLine_1 14 rfl rfl)
theorem dX6_laysLine_39 : decode cX6_laysLine 39 = .ok (.getfield 321, 3) := dk_180 1 65 (dk_at dksX6_laysLine_1 15 rfl rfl)
theorem dX6_laysLine_42 : decode cX6_laysLine 42 = .ok (.iconst 1, 1) := dk_4 (dk_at dksX6_laysLine_1 18 rfl rfl)
theorem dX6_laysLine_43 : decode cX6_laysLine 43 = .ok (.iadd, 1) := dk_96 (dk_at dksX6_laysLine_1 19 rfl rfl)
theorem dX6_laysLine_44 : decode cX6_laysLine 44 = .ok (.putfield 321, 3) := dk_181 1 65 (dk_at dksX6_laysLine_1 20 rfl rfl)
theorem dX6_laysLine_47 : decode cX6_laysLine 47 = .ok (.iinc 2 (-1), 3) := dk_132 2 255 (dk_at dksX6_laysLine_2 0 rfl rfl)
theorem dX6_laysLine_50 : decode cX6_laysLine 50 = .ok (.goto (-38), 3) := dk_167 255 218 (dk_at dksX6_laysLine_2 3 rfl rfl)
theorem dX6_laysLine_53 : decode cX6_laysLine 53 = .ok (.return_, 1) := dk_177 (dk_at dksX6_laysLine_2 6 rfl rfl)
abbrev cX6_hearseGoes : ByteArray := prog_15_method_56_code
def yX6_hearseGoes : MethodName := ⟨RX6, "hearseGoes", "([II)V"⟩
def dkwX6_hearseGoes_3 : List UInt8 := [43, 28, 2, 79, 167, 0, 7, 43, 28, 29, 79, 177]
abbrev dktX6_hearseGoes_3 : List UInt8 := dkwX6_hearseGoes_3 ++ []
def dkwX6_hearseGoes_2 : List UInt8 := [182, 0, 192, 160, 0, 28, 43, 16, 12, 92, 46, 4, 96, 79, 43, 16, 6, 28, 96, 43, 16, 12, 46, 79]
abbrev dktX6_hearseGoes_2 : List UInt8 := dkwX6_hearseGoes_2 ++ dktX6_hearseGoes_3
def dkwX6_hearseGoes_1 : List UInt8 := [180, 1, 71, 4, 96, 181, 1, 71, 42, 180, 0, 64, 29, 92, 46, 4, 96, 79, 167, 0, 40, 29, 42]
abbrev dktX6_hearseGoes_1 : List UInt8 := dkwX6_hearseGoes_1 ++ dktX6_hearseGoes_2
def dkwX6_hearseGoes_0 : List UInt8 := [42, 43, 28, 42, 43, 28, 182, 1, 46, 182, 1, 68, 62, 29, 43, 28, 46, 160, 0, 26, 42, 89]
abbrev dktX6_hearseGoes_0 : List UInt8 := dkwX6_hearseGoes_0 ++ dktX6_hearseGoes_1
theorem dksX6_hearseGoes_0 : cX6_hearseGoes.data.toList.drop 0 = dktX6_hearseGoes_0 := by decide +kernel
theorem dksX6_hearseGoes_1 : cX6_hearseGoes.data.toList.drop 22 = dktX6_hearseGoes_1 := dk_seg dksX6_hearseGoes_0 22 rfl rfl
theorem dksX6_hearseGoes_2 : cX6_hearseGoes.data.toList.drop 45 = dktX6_hearseGoes_2 := dk_seg dksX6_hearseGoes_1 23 rfl rfl
theorem dksX6_hearseGoes_3 : cX6_hearseGoes.data.toList.drop 69 = dktX6_hearseGoes_3 := dk_seg dksX6_hearseGoes_2 24 rfl rfl
theorem dX6_hearseGoes_0 : decode cX6_hearseGoes 0 = .ok (.aload_n 0, 1) := dk_42 (dk_at dksX6_hearseGoes_0 0 rfl rfl)
theorem dX6_hearseGoes_1 : decode cX6_hearseGoes 1 = .ok (.aload_n 1, 1) := dk_43 (dk_at dksX6_hearseGoes_0 1 rfl rfl)
theorem dX6_hearseGoes_2 : decode cX6_hearseGoes 2 = .ok (.iload_n 2, 1) := dk_28 (dk_at dksX6_hearseGoes_0 2 rfl rfl)
theorem dX6_hearseGoes_3 : decode cX6_hearseGoes 3 = .ok (.aload_n 0, 1) := dk_42 (dk_at dksX6_hearseGoes_0 3 rfl rfl)
theorem dX6_hearseGoes_4 : decode cX6_hearseGoes 4 = .ok (.aload_n 1, 1) := dk_43 (dk_at dksX6_hearseGoes_0 4 rfl rfl)
theorem dX6_hearseGoes_5 : decode cX6_hearseGoes 5 = .ok (.iload_n 2, 1) := dk_28 (dk_at dksX6_hearseGoes_0 5 rfl rfl)
theorem dX6_hearseGoes_6 : decode cX6_hearseGoes 6 = .ok (.invokevirtual 302, 3) := dk_182 1 46 (dk_at dksX6_hearseGoes_0 6 rfl rfl)
theorem dX6_hearseGoes_9 : decode cX6_hearseGoes 9 = .ok (.invokevirtual 324, 3) := dk_182 1 68 (dk_at dksX6_hearseGoes_0 9 rfl rfl)
theorem dX6_hearseGoes_12 : decode cX6_hearseGoes 12 = .ok (.istore_n 3, 1) := dk_62 (dk_at dksX6_hearseGoes_0 12 rfl rfl)
theorem dX6_hearseGoes_13 : decode cX6_hearseGoes 13 = .ok (.iload_n 3, 1) := dk_29 (dk_at dksX6_hearseGoes_0 13 rfl rfl)
theorem dX6_hearseGoes_14 : decode cX6_hearseGoes 14 = .ok (.aload_n 1, 1) := dk_43 (dk_at dksX6_hearseGoes_0 14 rfl rfl)
theorem dX6_hearseGoes_15 : decode cX6_hearseGoes 15 = .ok (.iload_n 2, 1) := dk_28 (dk_at dksX6_hearseGoes_0 15 rfl rfl)
theorem dX6_hearseGoes_16 : decode cX6_hearseGoes 16 = .ok (.iaload, 1) := dk_46 (dk_at dksX6_hearseGoes_0 16 rfl rfl)
theorem dX6_hearseGoes_17 : decode cX6_hearseGoes 17 = .ok (.if_icmp .ne 26, 3) := dk_160 0 26 (dk_at dksX6_hearseGoes_0 17 rfl rfl)
theorem dX6_hearseGoes_20 : decode cX6_hearseGoes 20 = .ok (.aload_n 0, 1) := dk_42 (dk_at dksX6_hearseGoes_0 20 rfl rfl)
theorem dX6_hearseGoes_21 : decode cX6_hearseGoes 21 = .ok (.dup, 1) := dk_89 (dk_at dksX6_hearseGoes_0 21 rfl rfl)
theorem dX6_hearseGoes_22 : decode cX6_hearseGoes 22 = .ok (.getfield 327, 3) := dk_180 1 71 (dk_at dksX6_hearseGoes_1 0 rfl rfl)
theorem dX6_hearseGoes_25 : decode cX6_hearseGoes 25 = .ok (.iconst 1, 1) := dk_4 (dk_at dksX6_hearseGoes_1 3 rfl rfl)
theorem dX6_hearseGoes_26 : decode cX6_hearseGoes 26 = .ok (.iadd, 1) := dk_96 (dk_at dksX6_hearseGoes_1 4 rfl rfl)
theorem dX6_hearseGoes_27 : decode cX6_hearseGoes 27 = .ok (.putfield 327, 3) := dk_181 1 71 (dk_at dksX6_hearseGoes_1 5 rfl rfl)
theorem dX6_hearseGoes_30 : decode cX6_hearseGoes 30 = .ok (.aload_n 0, 1) := dk_42 (dk_at dksX6_hearseGoes_1 8 rfl rfl)
theorem dX6_hearseGoes_31 : decode cX6_hearseGoes 31 = .ok (.getfield 64, 3) := dk_180 0 64 (dk_at dksX6_hearseGoes_1 9 rfl rfl)
theorem dX6_hearseGoes_34 : decode cX6_hearseGoes 34 = .ok (.iload_n 3, 1) := dk_29 (dk_at dksX6_hearseGoes_1 12 rfl rfl)
theorem dX6_hearseGoes_35 : decode cX6_hearseGoes 35 = .ok (.dup2, 1) := dk_92 (dk_at dksX6_hearseGoes_1 13 rfl rfl)
theorem dX6_hearseGoes_36 : decode cX6_hearseGoes 36 = .ok (.iaload, 1) := dk_46 (dk_at dksX6_hearseGoes_1 14 rfl rfl)
theorem dX6_hearseGoes_37 : decode cX6_hearseGoes 37 = .ok (.iconst 1, 1) := dk_4 (dk_at dksX6_hearseGoes_1 15 rfl rfl)
theorem dX6_hearseGoes_38 : decode cX6_hearseGoes 38 = .ok (.iadd, 1) := dk_96 (dk_at dksX6_hearseGoes_1 16 rfl rfl)
theorem dX6_hearseGoes_39 : decode cX6_hearseGoes 39 = .ok (.iastore, 1) := dk_79 (dk_at dksX6_hearseGoes_1 17 rfl rfl)
theorem dX6_hearseGoes_40 : decode cX6_hearseGoes 40 = .ok (.goto 40, 3) := dk_167 0 40 (dk_at dksX6_hearseGoes_1 18 rfl rfl)
theorem dX6_hearseGoes_43 : decode cX6_hearseGoes 43 = .ok (.iload_n 3, 1) := dk_29 (dk_at dksX6_hearseGoes_1 21 rfl rfl)
theorem dX6_hearseGoes_44 : decode cX6_hearseGoes 44 = .ok (.aload_n 0, 1) := dk_42 (dk_at dksX6_hearseGoes_1 22 rfl rfl)
theorem dX6_hearseGoes_45 : decode cX6_hearseGoes 45 = .ok (.invokevirtual 192, 3) := dk_182 0 192 (dk_at dksX6_hearseGoes_2 0 rfl rfl)
theorem dX6_hearseGoes_48 : decode cX6_hearseGoes 48 = .ok (.if_icmp .ne 28, 3) := dk_160 0 28 (dk_at dksX6_hearseGoes_2 3 rfl rfl)
theorem dX6_hearseGoes_51 : decode cX6_hearseGoes 51 = .ok (.aload_n 1, 1) := dk_43 (dk_at dksX6_hearseGoes_2 6 rfl rfl)
theorem dX6_hearseGoes_52 : decode cX6_hearseGoes 52 = .ok (.bipush 12, 2) := dk_16 12 (dk_at dksX6_hearseGoes_2 7 rfl rfl)
theorem dX6_hearseGoes_54 : decode cX6_hearseGoes 54 = .ok (.dup2, 1) := dk_92 (dk_at dksX6_hearseGoes_2 9 rfl rfl)
theorem dX6_hearseGoes_55 : decode cX6_hearseGoes 55 = .ok (.iaload, 1) := dk_46 (dk_at dksX6_hearseGoes_2 10 rfl rfl)
theorem dX6_hearseGoes_56 : decode cX6_hearseGoes 56 = .ok (.iconst 1, 1) := dk_4 (dk_at dksX6_hearseGoes_2 11 rfl rfl)
theorem dX6_hearseGoes_57 : decode cX6_hearseGoes 57 = .ok (.iadd, 1) := dk_96 (dk_at dksX6_hearseGoes_2 12 rfl rfl)
theorem dX6_hearseGoes_58 : decode cX6_hearseGoes 58 = .ok (.iastore, 1) := dk_79 (dk_at dksX6_hearseGoes_2 13 rfl rfl)
theorem dX6_hearseGoes_59 : decode cX6_hearseGoes 59 = .ok (.aload_n 1, 1) := dk_43 (dk_at dksX6_hearseGoes_2 14 rfl rfl)
theorem dX6_hearseGoes_60 : decode cX6_hearseGoes 60 = .ok (.bipush 6, 2) := dk_16 6 (dk_at dksX6_hearseGoes_2 15 rfl rfl)
theorem dX6_hearseGoes_62 : decode cX6_hearseGoes 62 = .ok (.iload_n 2, 1) := dk_28 (dk_at dksX6_hearseGoes_2 17 rfl rfl)
theorem dX6_hearseGoes_63 : decode cX6_hearseGoes 63 = .ok (.iadd, 1) := dk_96 (dk_at dksX6_hearseGoes_2 18 rfl rfl)
theorem dX6_hearseGoes_64 : decode cX6_hearseGoes 64 = .ok (.aload_n 1, 1) := dk_43 (dk_at dksX6_hearseGoes_2 19 rfl rfl)
theorem dX6_hearseGoes_65 : decode cX6_hearseGoes 65 = .ok (.bipush 12, 2) := dk_16 12 (dk_at dksX6_hearseGoes_2 20 rfl rfl)
theorem dX6_hearseGoes_67 : decode cX6_hearseGoes 67 = .ok (.iaload, 1) := dk_46 (dk_at dksX6_hearseGoes_2 22 rfl rfl)
theorem dX6_hearseGoes_68 : decode cX6_hearseGoes 68 = .ok (.iastore, 1) := dk_79 (dk_at dksX6_hearseGoes_2 23 rfl rfl)
theorem dX6_hearseGoes_69 : decode cX6_hearseGoes 69 = .ok (.aload_n 1, 1) := dk_43 (dk_at dksX6_hearseGoes_3 0 rfl rfl)
theorem dX6_hearseGoes_70 : decode cX6_hearseGoes 70 = .ok (.iload_n 2, 1) := dk_28 (dk_at dksX6_hearseGoes_3 1 rfl rfl)
theorem dX6_hearseGoes_71 : decode cX6_hearseGoes 71 = .ok (.iconst (-1), 1) := dk_2 (dk_at dksX6_hearseGoes_3 2 rfl rfl)
theorem dX6_hearseGoes_72 : decode cX6_hearseGoes 72 = .ok (.iastore, 1) := dk_79 (dk_at dksX6_hearseGoes_3 3 rfl rfl)
theorem dX6_hearseGoes_73 : decode cX6_hearseGoes 73 = .ok (.goto 7, 3) := dk_167 0 7 (dk_at dksX6_hearseGoes_3 4 rfl rfl)
theorem dX6_hearseGoes_76 : decode cX6_hearseGoes 76 = .ok (.aload_n 1, 1) := dk_43 (dk_at dksX6_hearseGoes_3 7 rfl rfl)
theorem dX6_hearseGoes_77 : decode cX6_hearseGoes 77 = .ok (.iload_n 2, 1) := dk_28 (dk_at dksX6_hearseGoes_3 8 rfl rfl)
theorem dX6_hearseGoes_78 : decode cX6_hearseGoes 78 = .ok (.iload_n 3, 1) := dk_29 (dk_at dksX6_hearseGoes_3 9 rfl rfl)
theorem dX6_hearseGoes_79 : decode cX6_hearseGoes 79 = .ok (.iastore, 1) := dk_79 (dk_at dksX6_hearseGoes_3 10 rfl rfl)
theorem dX6_hearseGoes_80 : decode cX6_hearseGoes 80 = .ok (.return_, 1) := dk_177 (dk_at dksX6_hearseGoes_3 11 rfl rfl)
abbrev cX6_goal : ByteArray := prog_15_method_55_code
def yX6_goal : MethodName := ⟨RX6, "goal", "([III)I"⟩
def dkwX6_goal_5 : List UInt8 := [154, 0, 8, 21, 9, 154, 0, 7, 4, 167, 0, 4, 3, 54, 6, 132, 8, 1, 167, 255, 148, 21, 5, 172]
abbrev dktX6_goal_5 : List UInt8 := dkwX6_goal_5 ++ []
def dkwX6_goal_4 : List UInt8 := [153, 0, 18, 21, 6, 153, 0, 8, 21, 7, 154, 0, 8, 21, 8, 167, 0, 5, 21, 5, 54, 5, 21, 6]
abbrev dktX6_goal_4 : List UInt8 := dkwX6_goal_4 ++ dktX6_goal_5
def dkwX6_goal_3 : List UInt8 := [159, 0, 13, 42, 43, 21, 8, 182, 0, 195, 156, 0, 7, 4, 167, 0, 4, 3, 54, 9, 21, 9]
abbrev dktX6_goal_3 : List UInt8 := dkwX6_goal_3 ++ dktX6_goal_4
def dkwX6_goal_2 : List UInt8 := [42, 180, 0, 20, 21, 8, 51, 153, 0, 7, 4, 167, 0, 4, 3, 54, 7, 21, 8, 42, 182, 0, 192]
abbrev dktX6_goal_2 : List UInt8 := dkwX6_goal_2 ++ dktX6_goal_3
def dkwX6_goal_1 : List UInt8 := [96, 54, 8, 21, 8, 42, 182, 0, 192, 21, 4, 29, 96, 184, 0, 145, 163, 0, 98, 21, 7, 154, 0, 13]
abbrev dktX6_goal_1 : List UInt8 := dkwX6_goal_1 ++ dktX6_goal_2
def dkwX6_goal_0 : List UInt8 := [43, 28, 46, 54, 4, 21, 4, 54, 5, 3, 54, 6, 42, 180, 0, 20, 21, 4, 51, 54, 7, 21, 4, 4]
abbrev dktX6_goal_0 : List UInt8 := dkwX6_goal_0 ++ dktX6_goal_1
theorem dksX6_goal_0 : cX6_goal.data.toList.drop 0 = dktX6_goal_0 := by decide +kernel
theorem dksX6_goal_1 : cX6_goal.data.toList.drop 24 = dktX6_goal_1 := dk_seg dksX6_goal_0 24 rfl rfl
theorem dksX6_goal_2 : cX6_goal.data.toList.drop 48 = dktX6_goal_2 := dk_seg dksX6_goal_1 24 rfl rfl
theorem dksX6_goal_3 : cX6_goal.data.toList.drop 71 = dktX6_goal_3 := dk_seg dksX6_goal_2 23 rfl rfl
theorem dksX6_goal_4 : cX6_goal.data.toList.drop 93 = dktX6_goal_4 := dk_seg dksX6_goal_3 22 rfl rfl
theorem dksX6_goal_5 : cX6_goal.data.toList.drop 117 = dktX6_goal_5 := dk_seg dksX6_goal_4 24 rfl rfl
theorem dX6_goal_0 : decode cX6_goal 0 = .ok (.aload_n 1, 1) := dk_43 (dk_at dksX6_goal_0 0 rfl rfl)
theorem dX6_goal_1 : decode cX6_goal 1 = .ok (.iload_n 2, 1) := dk_28 (dk_at dksX6_goal_0 1 rfl rfl)
theorem dX6_goal_2 : decode cX6_goal 2 = .ok (.iaload, 1) := dk_46 (dk_at dksX6_goal_0 2 rfl rfl)
theorem dX6_goal_3 : decode cX6_goal 3 = .ok (.istore 4, 2) := dk_54 4 (dk_at dksX6_goal_0 3 rfl rfl)
theorem dX6_goal_5 : decode cX6_goal 5 = .ok (.iload 4, 2) := dk_21 4 (dk_at dksX6_goal_0 5 rfl rfl)
theorem dX6_goal_7 : decode cX6_goal 7 = .ok (.istore 5, 2) := dk_54 5 (dk_at dksX6_goal_0 7 rfl rfl)
theorem dX6_goal_9 : decode cX6_goal 9 = .ok (.iconst 0, 1) := dk_3 (dk_at dksX6_goal_0 9 rfl rfl)
theorem dX6_goal_10 : decode cX6_goal 10 = .ok (.istore 6, 2) := dk_54 6 (dk_at dksX6_goal_0 10 rfl rfl)
theorem dX6_goal_12 : decode cX6_goal 12 = .ok (.aload_n 0, 1) := dk_42 (dk_at dksX6_goal_0 12 rfl rfl)
theorem dX6_goal_13 : decode cX6_goal 13 = .ok (.getfield 20, 3) := dk_180 0 20 (dk_at dksX6_goal_0 13 rfl rfl)
theorem dX6_goal_16 : decode cX6_goal 16 = .ok (.iload 4, 2) := dk_21 4 (dk_at dksX6_goal_0 16 rfl rfl)
theorem dX6_goal_18 : decode cX6_goal 18 = .ok (.baload, 1) := dk_51 (dk_at dksX6_goal_0 18 rfl rfl)
theorem dX6_goal_19 : decode cX6_goal 19 = .ok (.istore 7, 2) := dk_54 7 (dk_at dksX6_goal_0 19 rfl rfl)
theorem dX6_goal_21 : decode cX6_goal 21 = .ok (.iload 4, 2) := dk_21 4 (dk_at dksX6_goal_0 21 rfl rfl)
theorem dX6_goal_23 : decode cX6_goal 23 = .ok (.iconst 1, 1) := dk_4 (dk_at dksX6_goal_0 23 rfl rfl)
theorem dX6_goal_24 : decode cX6_goal 24 = .ok (.iadd, 1) := dk_96 (dk_at dksX6_goal_1 0 rfl rfl)
theorem dX6_goal_25 : decode cX6_goal 25 = .ok (.istore 8, 2) := dk_54 8 (dk_at dksX6_goal_1 1 rfl rfl)
theorem dX6_goal_27 : decode cX6_goal 27 = .ok (.iload 8, 2) := dk_21 8 (dk_at dksX6_goal_1 3 rfl rfl)
theorem dX6_goal_29 : decode cX6_goal 29 = .ok (.aload_n 0, 1) := dk_42 (dk_at dksX6_goal_1 5 rfl rfl)
theorem dX6_goal_30 : decode cX6_goal 30 = .ok (.invokevirtual 192, 3) := dk_182 0 192 (dk_at dksX6_goal_1 6 rfl rfl)
theorem dX6_goal_33 : decode cX6_goal 33 = .ok (.iload 4, 2) := dk_21 4 (dk_at dksX6_goal_1 9 rfl rfl)
theorem dX6_goal_35 : decode cX6_goal 35 = .ok (.iload_n 3, 1) := dk_29 (dk_at dksX6_goal_1 11 rfl rfl)
theorem dX6_goal_36 : decode cX6_goal 36 = .ok (.iadd, 1) := dk_96 (dk_at dksX6_goal_1 12 rfl rfl)
theorem dX6_goal_37 : decode cX6_goal 37 = .ok (.invokestatic 145, 3) := dk_184 0 145 (dk_at dksX6_goal_1 13 rfl rfl)
theorem dX6_goal_40 : decode cX6_goal 40 = .ok (.if_icmp .gt 98, 3) := dk_163 0 98 (dk_at dksX6_goal_1 16 rfl rfl)
theorem dX6_goal_43 : decode cX6_goal 43 = .ok (.iload 7, 2) := dk_21 7 (dk_at dksX6_goal_1 19 rfl rfl)
theorem dX6_goal_45 : decode cX6_goal 45 = .ok (.ifCond .ne 13, 3) := dk_154 0 13 (dk_at dksX6_goal_1 21 rfl rfl)
theorem dX6_goal_48 : decode cX6_goal 48 = .ok (.aload_n 0, 1) := dk_42 (dk_at dksX6_goal_2 0 rfl rfl)
theorem dX6_goal_49 : decode cX6_goal 49 = .ok (.getfield 20, 3) := dk_180 0 20 (dk_at dksX6_goal_2 1 rfl rfl)
theorem dX6_goal_52 : decode cX6_goal 52 = .ok (.iload 8, 2) := dk_21 8 (dk_at dksX6_goal_2 4 rfl rfl)
theorem dX6_goal_54 : decode cX6_goal 54 = .ok (.baload, 1) := dk_51 (dk_at dksX6_goal_2 6 rfl rfl)
theorem dX6_goal_55 : decode cX6_goal 55 = .ok (.ifCond .eq 7, 3) := dk_153 0 7 (dk_at dksX6_goal_2 7 rfl rfl)
theorem dX6_goal_58 : decode cX6_goal 58 = .ok (.iconst 1, 1) := dk_4 (dk_at dksX6_goal_2 10 rfl rfl)
theorem dX6_goal_59 : decode cX6_goal 59 = .ok (.goto 4, 3) := dk_167 0 4 (dk_at dksX6_goal_2 11 rfl rfl)
theorem dX6_goal_62 : decode cX6_goal 62 = .ok (.iconst 0, 1) := dk_3 (dk_at dksX6_goal_2 14 rfl rfl)
theorem dX6_goal_63 : decode cX6_goal 63 = .ok (.istore 7, 2) := dk_54 7 (dk_at dksX6_goal_2 15 rfl rfl)
theorem dX6_goal_65 : decode cX6_goal 65 = .ok (.iload 8, 2) := dk_21 8 (dk_at dksX6_goal_2 17 rfl rfl)
theorem dX6_goal_67 : decode cX6_goal 67 = .ok (.aload_n 0, 1) := dk_42 (dk_at dksX6_goal_2 19 rfl rfl)
theorem dX6_goal_68 : decode cX6_goal 68 = .ok (.invokevirtual 192, 3) := dk_182 0 192 (dk_at dksX6_goal_2 20 rfl rfl)
theorem dX6_goal_71 : decode cX6_goal 71 = .ok (.if_icmp .eq 13, 3) := dk_159 0 13 (dk_at dksX6_goal_3 0 rfl rfl)
theorem dX6_goal_74 : decode cX6_goal 74 = .ok (.aload_n 0, 1) := dk_42 (dk_at dksX6_goal_3 3 rfl rfl)
theorem dX6_goal_75 : decode cX6_goal 75 = .ok (.aload_n 1, 1) := dk_43 (dk_at dksX6_goal_3 4 rfl rfl)
theorem dX6_goal_76 : decode cX6_goal 76 = .ok (.iload 8, 2) := dk_21 8 (dk_at dksX6_goal_3 5 rfl rfl)
theorem dX6_goal_78 : decode cX6_goal 78 = .ok (.invokevirtual 195, 3) := dk_182 0 195 (dk_at dksX6_goal_3 7 rfl rfl)
theorem dX6_goal_81 : decode cX6_goal 81 = .ok (.ifCond .ge 7, 3) := dk_156 0 7 (dk_at dksX6_goal_3 10 rfl rfl)
theorem dX6_goal_84 : decode cX6_goal 84 = .ok (.iconst 1, 1) := dk_4 (dk_at dksX6_goal_3 13 rfl rfl)
theorem dX6_goal_85 : decode cX6_goal 85 = .ok (.goto 4, 3) := dk_167 0 4 (dk_at dksX6_goal_3 14 rfl rfl)
theorem dX6_goal_88 : decode cX6_goal 88 = .ok (.iconst 0, 1) := dk_3 (dk_at dksX6_goal_3 17 rfl rfl)
theorem dX6_goal_89 : decode cX6_goal 89 = .ok (.istore 9, 2) := dk_54 9 (dk_at dksX6_goal_3 18 rfl rfl)
theorem dX6_goal_91 : decode cX6_goal 91 = .ok (.iload 9, 2) := dk_21 9 (dk_at dksX6_goal_3 20 rfl rfl)
theorem dX6_goal_93 : decode cX6_goal 93 = .ok (.ifCond .eq 18, 3) := dk_153 0 18 (dk_at dksX6_goal_4 0 rfl rfl)
theorem dX6_goal_96 : decode cX6_goal 96 = .ok (.iload 6, 2) := dk_21 6 (dk_at dksX6_goal_4 3 rfl rfl)
theorem dX6_goal_98 : decode cX6_goal 98 = .ok (.ifCond .eq 8, 3) := dk_153 0 8 (dk_at dksX6_goal_4 5 rfl rfl)
theorem dX6_goal_101 : decode cX6_goal 101 = .ok (.iload 7, 2) := dk_21 7 (dk_at dksX6_goal_4 8 rfl rfl)
theorem dX6_goal_103 : decode cX6_goal 103 = .ok (.ifCond .ne 8, 3) := dk_154 0 8 (dk_at dksX6_goal_4 10 rfl rfl)
theorem dX6_goal_106 : decode cX6_goal 106 = .ok (.iload 8, 2) := dk_21 8 (dk_at dksX6_goal_4 13 rfl rfl)
theorem dX6_goal_108 : decode cX6_goal 108 = .ok (.goto 5, 3) := dk_167 0 5 (dk_at dksX6_goal_4 15 rfl rfl)
theorem dX6_goal_111 : decode cX6_goal 111 = .ok (.iload 5, 2) := dk_21 5 (dk_at dksX6_goal_4 18 rfl rfl)
theorem dX6_goal_113 : decode cX6_goal 113 = .ok (.istore 5, 2) := dk_54 5 (dk_at dksX6_goal_4 20 rfl rfl)
theorem dX6_goal_115 : decode cX6_goal 115 = .ok (.iload 6, 2) := dk_21 6 (dk_at dksX6_goal_4 22 rfl rfl)
theorem dX6_goal_117 : decode cX6_goal 117 = .ok (.ifCond .ne 8, 3) := dk_154 0 8 (dk_at dksX6_goal_5 0 rfl rfl)
theorem dX6_goal_120 : decode cX6_goal 120 = .ok (.iload 9, 2) := dk_21 9 (dk_at dksX6_goal_5 3 rfl rfl)
theorem dX6_goal_122 : decode cX6_goal 122 = .ok (.ifCond .ne 7, 3) := dk_154 0 7 (dk_at dksX6_goal_5 5 rfl rfl)
theorem dX6_goal_125 : decode cX6_goal 125 = .ok (.iconst 1, 1) := dk_4 (dk_at dksX6_goal_5 8 rfl rfl)
theorem dX6_goal_126 : decode cX6_goal 126 = .ok (.goto 4, 3) := dk_167 0 4 (dk_at dksX6_goal_5 9 rfl rfl)
theorem dX6_goal_129 : decode cX6_goal 129 = .ok (.iconst 0, 1) := dk_3 (dk_at dksX6_goal_5 12 rfl rfl)
theorem dX6_goal_130 : decode cX6_goal 130 = .ok (.istore 6, 2) := dk_54 6 (dk_at dksX6_goal_5 13 rfl rfl)
theorem dX6_goal_132 : decode cX6_goal 132 = .ok (.iinc 8 1, 3) := dk_132 8 1 (dk_at dksX6_goal_5 15 rfl rfl)
theorem dX6_goal_135 : decode cX6_goal 135 = .ok (.goto (-108), 3) := dk_167 255 148 (dk_at dksX6_goal_5 18 rfl rfl)
theorem dX6_goal_138 : decode cX6_goal 138 = .ok (.iload 5, 2) := dk_21 5 (dk_at dksX6_goal_5 21 rfl rfl)
theorem dX6_goal_140 : decode cX6_goal 140 = .ok (.ireturn, 1) := dk_172 (dk_at dksX6_goal_5 23 rfl rfl)
abbrev cX6_mournerGoes : ByteArray := prog_15_method_57_code
def yX6_mournerGoes : MethodName := ⟨RX6, "mournerGoes", "([II)V"⟩
def dkwX6_mournerGoes_6 : List UInt8 := [5, 100, 184, 1, 31, 79, 177]
abbrev dktX6_mournerGoes_6 : List UInt8 := dkwX6_mournerGoes_6 ++ []
def dkwX6_mournerGoes_5 : List UInt8 := [46, 21, 4, 164, 0, 16, 43, 29, 46, 21, 4, 5, 96, 184, 0, 145, 167, 0, 13, 43, 29, 46, 21, 4]
abbrev dktX6_mournerGoes_5 : List UInt8 := dkwX6_mournerGoes_5 ++ dktX6_mournerGoes_6
def dkwX6_mournerGoes_4 : List UInt8 := [181, 1, 74, 42, 180, 0, 67, 28, 92, 46, 4, 96, 79, 29, 155, 0, 40, 43, 16, 13, 28, 96, 43, 29]
abbrev dktX6_mournerGoes_4 : List UInt8 := dkwX6_mournerGoes_4 ++ dktX6_mournerGoes_5
def dkwX6_mournerGoes_3 : List UInt8 := [184, 1, 34, 162, 0, 33, 21, 5, 62, 43, 16, 21, 28, 96, 29, 79, 42, 89, 180, 1, 74, 4, 96]
abbrev dktX6_mournerGoes_3 : List UInt8 := dkwX6_mournerGoes_3 ++ dktX6_mournerGoes_4
def dkwX6_mournerGoes_2 : List UInt8 := [155, 0, 59, 29, 155, 0, 25, 43, 21, 5, 46, 21, 4, 100, 184, 1, 34, 43, 29, 46, 21, 4, 100]
abbrev dktX6_mournerGoes_2 : List UInt8 := dkwX6_mournerGoes_2 ++ dktX6_mournerGoes_3
def dkwX6_mournerGoes_1 : List UInt8 := [29, 79, 177, 43, 16, 13, 28, 96, 46, 54, 4, 42, 43, 21, 4, 182, 1, 57, 54, 5, 21, 5]
abbrev dktX6_mournerGoes_1 : List UInt8 := dkwX6_mournerGoes_1 ++ dktX6_mournerGoes_2
def dkwX6_mournerGoes_0 : List UInt8 := [43, 16, 21, 28, 96, 46, 62, 29, 155, 0, 19, 43, 29, 184, 1, 10, 154, 0, 11, 43, 16, 29, 28, 96]
abbrev dktX6_mournerGoes_0 : List UInt8 := dkwX6_mournerGoes_0 ++ dktX6_mournerGoes_1
theorem dksX6_mournerGoes_0 : cX6_mournerGoes.data.toList.drop 0 = dktX6_mournerGoes_0 := by decide +kernel
theorem dksX6_mournerGoes_1 : cX6_mournerGoes.data.toList.drop 24 = dktX6_mournerGoes_1 := dk_seg dksX6_mournerGoes_0 24 rfl rfl
theorem dksX6_mournerGoes_2 : cX6_mournerGoes.data.toList.drop 46 = dktX6_mournerGoes_2 := dk_seg dksX6_mournerGoes_1 22 rfl rfl
theorem dksX6_mournerGoes_3 : cX6_mournerGoes.data.toList.drop 69 = dktX6_mournerGoes_3 := dk_seg dksX6_mournerGoes_2 23 rfl rfl
theorem dksX6_mournerGoes_4 : cX6_mournerGoes.data.toList.drop 92 = dktX6_mournerGoes_4 := dk_seg dksX6_mournerGoes_3 23 rfl rfl
theorem dksX6_mournerGoes_5 : cX6_mournerGoes.data.toList.drop 116 = dktX6_mournerGoes_5 := dk_seg dksX6_mournerGoes_4 24 rfl rfl
theorem dksX6_mournerGoes_6 : cX6_mournerGoes.data.toList.drop 140 = dktX6_mournerGoes_6 := dk_seg dksX6_mournerGoes_5 24 rfl rfl
theorem dX6_mournerGoes_0 : decode cX6_mournerGoes 0 = .ok (.aload_n 1, 1) := dk_43 (dk_at dksX6_mournerGoes_0 0 rfl rfl)
theorem dX6_mournerGoes_1 : decode cX6_mournerGoes 1 = .ok (.bipush 21, 2) := dk_16 21 (dk_at dksX6_mournerGoes_0 1 rfl rfl)
theorem dX6_mournerGoes_3 : decode cX6_mournerGoes 3 = .ok (.iload_n 2, 1) := dk_28 (dk_at dksX6_mournerGoes_0 3 rfl rfl)
theorem dX6_mournerGoes_4 : decode cX6_mournerGoes 4 = .ok (.iadd, 1) := dk_96 (dk_at dksX6_mournerGoes_0 4 rfl rfl)
theorem dX6_mournerGoes_5 : decode cX6_mournerGoes 5 = .ok (.iaload, 1) := dk_46 (dk_at dksX6_mournerGoes_0 5 rfl rfl)
theorem dX6_mournerGoes_6 : decode cX6_mournerGoes 6 = .ok (.istore_n 3, 1) := dk_62 (dk_at dksX6_mournerGoes_0 6 rfl rfl)
theorem dX6_mournerGoes_7 : decode cX6_mournerGoes 7 = .ok (.iload_n 3, 1) := dk_29 (dk_at dksX6_mournerGoes_0 7 rfl rfl)
theorem dX6_mournerGoes_8 : decode cX6_mournerGoes 8 = .ok (.ifCond .lt 19, 3) := dk_155 0 19 (dk_at dksX6_mournerGoes_0 8 rfl rfl)
theorem dX6_mournerGoes_11 : decode cX6_mournerGoes 11 = .ok (.aload_n 1, 1) := dk_43 (dk_at dksX6_mournerGoes_0 11 rfl rfl)
theorem dX6_mournerGoes_12 : decode cX6_mournerGoes 12 = .ok (.iload_n 3, 1) := dk_29 (dk_at dksX6_mournerGoes_0 12 rfl rfl)
theorem dX6_mournerGoes_13 : decode cX6_mournerGoes 13 = .ok (.invokestatic 266, 3) := dk_184 1 10 (dk_at dksX6_mournerGoes_0 13 rfl rfl)
theorem dX6_mournerGoes_16 : decode cX6_mournerGoes 16 = .ok (.ifCond .ne 11, 3) := dk_154 0 11 (dk_at dksX6_mournerGoes_0 16 rfl rfl)
theorem dX6_mournerGoes_19 : decode cX6_mournerGoes 19 = .ok (.aload_n 1, 1) := dk_43 (dk_at dksX6_mournerGoes_0 19 rfl rfl)
theorem dX6_mournerGoes_20 : decode cX6_mournerGoes 20 = .ok (.bipush 29, 2) := dk_16 29 (dk_at dksX6_mournerGoes_0 20 rfl rfl)
theorem dX6_mournerGoes_22 : decode cX6_mournerGoes 22 = .ok (.iload_n 2, 1) := dk_28 (dk_at dksX6_mournerGoes_0 22 rfl rfl)
theorem dX6_mournerGoes_23 : decode cX6_mournerGoes 23 = .ok (.iadd, 1) := dk_96 (dk_at dksX6_mournerGoes_0 23 rfl rfl)
theorem dX6_mournerGoes_24 : decode cX6_mournerGoes 24 = .ok (.iload_n 3, 1) := dk_29 (dk_at dksX6_mournerGoes_1 0 rfl rfl)
theorem dX6_mournerGoes_25 : decode cX6_mournerGoes 25 = .ok (.iastore, 1) := dk_79 (dk_at dksX6_mournerGoes_1 1 rfl rfl)
theorem dX6_mournerGoes_26 : decode cX6_mournerGoes 26 = .ok (.return_, 1) := dk_177 (dk_at dksX6_mournerGoes_1 2 rfl rfl)
theorem dX6_mournerGoes_27 : decode cX6_mournerGoes 27 = .ok (.aload_n 1, 1) := dk_43 (dk_at dksX6_mournerGoes_1 3 rfl rfl)
theorem dX6_mournerGoes_28 : decode cX6_mournerGoes 28 = .ok (.bipush 13, 2) := dk_16 13 (dk_at dksX6_mournerGoes_1 4 rfl rfl)
theorem dX6_mournerGoes_30 : decode cX6_mournerGoes 30 = .ok (.iload_n 2, 1) := dk_28 (dk_at dksX6_mournerGoes_1 6 rfl rfl)
theorem dX6_mournerGoes_31 : decode cX6_mournerGoes 31 = .ok (.iadd, 1) := dk_96 (dk_at dksX6_mournerGoes_1 7 rfl rfl)
theorem dX6_mournerGoes_32 : decode cX6_mournerGoes 32 = .ok (.iaload, 1) := dk_46 (dk_at dksX6_mournerGoes_1 8 rfl rfl)
theorem dX6_mournerGoes_33 : decode cX6_mournerGoes 33 = .ok (.istore 4, 2) := dk_54 4 (dk_at dksX6_mournerGoes_1 9 rfl rfl)
theorem dX6_mournerGoes_35 : decode cX6_mournerGoes 35 = .ok (.aload_n 0, 1) := dk_42 (dk_at dksX6_mournerGoes_1 11 rfl rfl)
theorem dX6_mournerGoes_36 : decode cX6_mournerGoes 36 = .ok (.aload_n 1, 1) := dk_43 (dk_at dksX6_mournerGoes_1 12 rfl rfl)
theorem dX6_mournerGoes_37 : decode cX6_mournerGoes 37 = .ok (.iload 4, 2) := dk_21 4 (dk_at dksX6_mournerGoes_1 13 rfl rfl)
theorem dX6_mournerGoes_39 : decode cX6_mournerGoes 39 = .ok (.invokevirtual 313, 3) := dk_182 1 57 (dk_at dksX6_mournerGoes_1 15 rfl rfl)
theorem dX6_mournerGoes_42 : decode cX6_mournerGoes 42 = .ok (.istore 5, 2) := dk_54 5 (dk_at dksX6_mournerGoes_1 18 rfl rfl)
theorem dX6_mournerGoes_44 : decode cX6_mournerGoes 44 = .ok (.iload 5, 2) := dk_21 5 (dk_at dksX6_mournerGoes_1 20 rfl rfl)
theorem dX6_mournerGoes_46 : decode cX6_mournerGoes 46 = .ok (.ifCond .lt 59, 3) := dk_155 0 59 (dk_at dksX6_mournerGoes_2 0 rfl rfl)
theorem dX6_mournerGoes_49 : decode cX6_mournerGoes 49 = .ok (.iload_n 3, 1) := dk_29 (dk_at dksX6_mournerGoes_2 3 rfl rfl)
theorem dX6_mournerGoes_50 : decode cX6_mournerGoes 50 = .ok (.ifCond .lt 25, 3) := dk_155 0 25 (dk_at dksX6_mournerGoes_2 4 rfl rfl)
theorem dX6_mournerGoes_53 : decode cX6_mournerGoes 53 = .ok (.aload_n 1, 1) := dk_43 (dk_at dksX6_mournerGoes_2 7 rfl rfl)
theorem dX6_mournerGoes_54 : decode cX6_mournerGoes 54 = .ok (.iload 5, 2) := dk_21 5 (dk_at dksX6_mournerGoes_2 8 rfl rfl)
theorem dX6_mournerGoes_56 : decode cX6_mournerGoes 56 = .ok (.iaload, 1) := dk_46 (dk_at dksX6_mournerGoes_2 10 rfl rfl)
theorem dX6_mournerGoes_57 : decode cX6_mournerGoes 57 = .ok (.iload 4, 2) := dk_21 4 (dk_at dksX6_mournerGoes_2 11 rfl rfl)
theorem dX6_mournerGoes_59 : decode cX6_mournerGoes 59 = .ok (.isub, 1) := dk_100 (dk_at dksX6_mournerGoes_2 13 rfl rfl)
theorem dX6_mournerGoes_60 : decode cX6_mournerGoes 60 = .ok (.invokestatic 290, 3) := dk_184 1 34 (dk_at dksX6_mournerGoes_2 14 rfl rfl)
theorem dX6_mournerGoes_63 : decode cX6_mournerGoes 63 = .ok (.aload_n 1, 1) := dk_43 (dk_at dksX6_mournerGoes_2 17 rfl rfl)
theorem dX6_mournerGoes_64 : decode cX6_mournerGoes 64 = .ok (.iload_n 3, 1) := dk_29 (dk_at dksX6_mournerGoes_2 18 rfl rfl)
theorem dX6_mournerGoes_65 : decode cX6_mournerGoes 65 = .ok (.iaload, 1) := dk_46 (dk_at dksX6_mournerGoes_2 19 rfl rfl)
theorem dX6_mournerGoes_66 : decode cX6_mournerGoes 66 = .ok (.iload 4, 2) := dk_21 4 (dk_at dksX6_mournerGoes_2 20 rfl rfl)
theorem dX6_mournerGoes_68 : decode cX6_mournerGoes 68 = .ok (.isub, 1) := dk_100 (dk_at dksX6_mournerGoes_2 22 rfl rfl)
theorem dX6_mournerGoes_69 : decode cX6_mournerGoes 69 = .ok (.invokestatic 290, 3) := dk_184 1 34 (dk_at dksX6_mournerGoes_3 0 rfl rfl)
theorem dX6_mournerGoes_72 : decode cX6_mournerGoes 72 = .ok (.if_icmp .ge 33, 3) := dk_162 0 33 (dk_at dksX6_mournerGoes_3 3 rfl rfl)
theorem dX6_mournerGoes_75 : decode cX6_mournerGoes 75 = .ok (.iload 5, 2) := dk_21 5 (dk_at dksX6_mournerGoes_3 6 rfl rfl)
theorem dX6_mournerGoes_77 : decode cX6_mournerGoes 77 = .ok (.istore_n 3, 1) := dk_62 (dk_at dksX6_mournerGoes_3 8 rfl rfl)
theorem dX6_mournerGoes_78 : decode cX6_mournerGoes 78 = .ok (.aload_n 1, 1) := dk_43 (dk_at dksX6_mournerGoes_3 9 rfl rfl)
theorem dX6_mournerGoes_79 : decode cX6_mournerGoes 79 = .ok (.bipush 21, 2) := dk_16 21 (dk_at dksX6_mournerGoes_3 10 rfl rfl)
theorem dX6_mournerGoes_81 : decode cX6_mournerGoes 81 = .ok (.iload_n 2, 1) := dk_28 (dk_at dksX6_mournerGoes_3 12 rfl rfl)
theorem dX6_mournerGoes_82 : decode cX6_mournerGoes 82 = .ok (.iadd, 1) := dk_96 (dk_at dksX6_mournerGoes_3 13 rfl rfl)
theorem dX6_mournerGoes_83 : decode cX6_mournerGoes 83 = .ok (.iload_n 3, 1) := dk_29 (dk_at dksX6_mournerGoes_3 14 rfl rfl)
theorem dX6_mournerGoes_84 : decode cX6_mournerGoes 84 = .ok (.iastore, 1) := dk_79 (dk_at dksX6_mournerGoes_3 15 rfl rfl)
theorem dX6_mournerGoes_85 : decode cX6_mournerGoes 85 = .ok (.aload_n 0, 1) := dk_42 (dk_at dksX6_mournerGoes_3 16 rfl rfl)
theorem dX6_mournerGoes_86 : decode cX6_mournerGoes 86 = .ok (.dup, 1) := dk_89 (dk_at dksX6_mournerGoes_3 17 rfl rfl)
theorem dX6_mournerGoes_87 : decode cX6_mournerGoes 87 = .ok (.getfield 330, 3) := dk_180 1 74 (dk_at dksX6_mournerGoes_3 18 rfl rfl)
theorem dX6_mournerGoes_90 : decode cX6_mournerGoes 90 = .ok (.iconst 1, 1) := dk_4 (dk_at dksX6_mournerGoes_3 21 rfl rfl)
theorem dX6_mournerGoes_91 : decode cX6_mournerGoes 91 = .ok (.iadd, 1) := dk_96 (dk_at dksX6_mournerGoes_3 22 rfl rfl)
theorem dX6_mournerGoes_92 : decode cX6_mournerGoes 92 = .ok (.putfield 330, 3) := dk_181 1 74 (dk_at dksX6_mournerGoes_4 0 rfl rfl)
theorem dX6_mournerGoes_95 : decode cX6_mournerGoes 95 = .ok (.aload_n 0, 1) := dk_42 (dk_at dksX6_mournerGoes_4 3 rfl rfl)
theorem dX6_mournerGoes_96 : decode cX6_mournerGoes 96 = .ok (.getfield 67, 3) := dk_180 0 67 (dk_at dksX6_mournerGoes_4 4 rfl rfl)
theorem dX6_mournerGoes_99 : decode cX6_mournerGoes 99 = .ok (.iload_n 2, 1) := dk_28 (dk_at dksX6_mournerGoes_4 7 rfl rfl)
theorem dX6_mournerGoes_100 : decode cX6_mournerGoes 100 = .ok (.dup2, 1) := dk_92 (dk_at dksX6_mournerGoes_4 8 rfl rfl)
theorem dX6_mournerGoes_101 : decode cX6_mournerGoes 101 = .ok (.iaload, 1) := dk_46 (dk_at dksX6_mournerGoes_4 9 rfl rfl)
theorem dX6_mournerGoes_102 : decode cX6_mournerGoes 102 = .ok (.iconst 1, 1) := dk_4 (dk_at dksX6_mournerGoes_4 10 rfl rfl)
theorem dX6_mournerGoes_103 : decode cX6_mournerGoes 103 = .ok (.iadd, 1) := dk_96 (dk_at dksX6_mournerGoes_4 11 rfl rfl)
theorem dX6_mournerGoes_104 : decode cX6_mournerGoes 104 = .ok (.iastore, 1) := dk_79 (dk_at dksX6_mournerGoes_4 12 rfl rfl)
theorem dX6_mournerGoes_105 : decode cX6_mournerGoes 105 = .ok (.iload_n 3, 1) := dk_29 (dk_at dksX6_mournerGoes_4 13 rfl rfl)
theorem dX6_mournerGoes_106 : decode cX6_mournerGoes 106 = .ok (.ifCond .lt 40, 3) := dk_155 0 40 (dk_at dksX6_mournerGoes_4 14 rfl rfl)
theorem dX6_mournerGoes_109 : decode cX6_mournerGoes 109 = .ok (.aload_n 1, 1) := dk_43 (dk_at dksX6_mournerGoes_4 17 rfl rfl)
theorem dX6_mournerGoes_110 : decode cX6_mournerGoes 110 = .ok (.bipush 13, 2) := dk_16 13 (dk_at dksX6_mournerGoes_4 18 rfl rfl)
theorem dX6_mournerGoes_112 : decode cX6_mournerGoes 112 = .ok (.iload_n 2, 1) := dk_28 (dk_at dksX6_mournerGoes_4 20 rfl rfl)
theorem dX6_mournerGoes_113 : decode cX6_mournerGoes 113 = .ok (.iadd, 1) := dk_96 (dk_at dksX6_mournerGoes_4 21 rfl rfl)
theorem dX6_mournerGoes_114 : decode cX6_mournerGoes 114 = .ok (.aload_n 1, 1) := dk_43 (dk_at dksX6_mournerGoes_4 22 rfl rfl)
theorem dX6_mournerGoes_115 : decode cX6_mournerGoes 115 = .ok (.iload_n 3, 1) := dk_29 (dk_at dksX6_mournerGoes_4 23 rfl rfl)
theorem dX6_mournerGoes_116 : decode cX6_mournerGoes 116 = .ok (.iaload, 1) := dk_46 (dk_at dksX6_mournerGoes_5 0 rfl rfl)
theorem dX6_mournerGoes_117 : decode cX6_mournerGoes 117 = .ok (.iload 4, 2) := dk_21 4 (dk_at dksX6_mournerGoes_5 1 rfl rfl)
theorem dX6_mournerGoes_119 : decode cX6_mournerGoes 119 = .ok (.if_icmp .le 16, 3) := dk_164 0 16 (dk_at dksX6_mournerGoes_5 3 rfl rfl)
theorem dX6_mournerGoes_122 : decode cX6_mournerGoes 122 = .ok (.aload_n 1, 1) := dk_43 (dk_at dksX6_mournerGoes_5 6 rfl rfl)
theorem dX6_mournerGoes_123 : decode cX6_mournerGoes 123 = .ok (.iload_n 3, 1) := dk_29 (dk_at dksX6_mournerGoes_5 7 rfl rfl)
theorem dX6_mournerGoes_124 : decode cX6_mournerGoes 124 = .ok (.iaload, 1) := dk_46 (dk_at dksX6_mournerGoes_5 8 rfl rfl)
theorem dX6_mournerGoes_125 : decode cX6_mournerGoes 125 = .ok (.iload 4, 2) := dk_21 4 (dk_at dksX6_mournerGoes_5 9 rfl rfl)
theorem dX6_mournerGoes_127 : decode cX6_mournerGoes 127 = .ok (.iconst 2, 1) := dk_5 (dk_at dksX6_mournerGoes_5 11 rfl rfl)
theorem dX6_mournerGoes_128 : decode cX6_mournerGoes 128 = .ok (.iadd, 1) := dk_96 (dk_at dksX6_mournerGoes_5 12 rfl rfl)
theorem dX6_mournerGoes_129 : decode cX6_mournerGoes 129 = .ok (.invokestatic 145, 3) := dk_184 0 145 (dk_at dksX6_mournerGoes_5 13 rfl rfl)
theorem dX6_mournerGoes_132 : decode cX6_mournerGoes 132 = .ok (.goto 13, 3) := dk_167 0 13 (dk_at dksX6_mournerGoes_5 16 rfl rfl)
theorem dX6_mournerGoes_135 : decode cX6_mournerGoes 135 = .ok (.aload_n 1, 1) := dk_43 (dk_at dksX6_mournerGoes_5 19 rfl rfl)
theorem dX6_mournerGoes_136 : decode cX6_mournerGoes 136 = .ok (.iload_n 3, 1) := dk_29 (dk_at dksX6_mournerGoes_5 20 rfl rfl)
theorem dX6_mournerGoes_137 : decode cX6_mournerGoes 137 = .ok (.iaload, 1) := dk_46 (dk_at dksX6_mournerGoes_5 21 rfl rfl)
theorem dX6_mournerGoes_138 : decode cX6_mournerGoes 138 = .ok (.iload 4, 2) := dk_21 4 (dk_at dksX6_mournerGoes_5 22 rfl rfl)
theorem dX6_mournerGoes_140 : decode cX6_mournerGoes 140 = .ok (.iconst 2, 1) := dk_5 (dk_at dksX6_mournerGoes_6 0 rfl rfl)
theorem dX6_mournerGoes_141 : decode cX6_mournerGoes 141 = .ok (.isub, 1) := dk_100 (dk_at dksX6_mournerGoes_6 1 rfl rfl)
theorem dX6_mournerGoes_142 : decode cX6_mournerGoes 142 = .ok (.invokestatic 287, 3) := dk_184 1 31 (dk_at dksX6_mournerGoes_6 2 rfl rfl)
theorem dX6_mournerGoes_145 : decode cX6_mournerGoes 145 = .ok (.iastore, 1) := dk_79 (dk_at dksX6_mournerGoes_6 5 rfl rfl)
theorem dX6_mournerGoes_146 : decode cX6_mournerGoes 146 = .ok (.return_, 1) := dk_177 (dk_at dksX6_mournerGoes_6 6 rfl rfl)
abbrev cX6_enters : ByteArray := prog_15_method_8_code
def yX6_enters : MethodName := ⟨RX6, "enters", "(J)V"⟩
def dkwX6_enters_0 : List UInt8 := [42, 180, 0, 9, 42, 180, 0, 119, 31, 80, 42, 89, 180, 0, 119, 4, 96, 181, 0, 119, 177]
abbrev dktX6_enters_0 : List UInt8 := dkwX6_enters_0 ++ []
theorem dksX6_enters_0 : cX6_enters.data.toList.drop 0 = dktX6_enters_0 := by decide +kernel
theorem dX6_enters_0 : decode cX6_enters 0 = .ok (.aload_n 0, 1) := dk_42 (dk_at dksX6_enters_0 0 rfl rfl)
theorem dX6_enters_1 : decode cX6_enters 1 = .ok (.getfield 9, 3) := dk_180 0 9 (dk_at dksX6_enters_0 1 rfl rfl)
theorem dX6_enters_4 : decode cX6_enters 4 = .ok (.aload_n 0, 1) := dk_42 (dk_at dksX6_enters_0 4 rfl rfl)
theorem dX6_enters_5 : decode cX6_enters 5 = .ok (.getfield 119, 3) := dk_180 0 119 (dk_at dksX6_enters_0 5 rfl rfl)
theorem dX6_enters_8 : decode cX6_enters 8 = .ok (.lload_n 1, 1) := dk_31 (dk_at dksX6_enters_0 8 rfl rfl)
theorem dX6_enters_9 : decode cX6_enters 9 = .ok (.lastore, 1) := dk_80 (dk_at dksX6_enters_0 9 rfl rfl)
theorem dX6_enters_10 : decode cX6_enters 10 = .ok (.aload_n 0, 1) := dk_42 (dk_at dksX6_enters_0 10 rfl rfl)
theorem dX6_enters_11 : decode cX6_enters 11 = .ok (.dup, 1) := dk_89 (dk_at dksX6_enters_0 11 rfl rfl)
theorem dX6_enters_12 : decode cX6_enters 12 = .ok (.getfield 119, 3) := dk_180 0 119 (dk_at dksX6_enters_0 12 rfl rfl)
theorem dX6_enters_15 : decode cX6_enters 15 = .ok (.iconst 1, 1) := dk_4 (dk_at dksX6_enters_0 15 rfl rfl)
theorem dX6_enters_16 : decode cX6_enters 16 = .ok (.iadd, 1) := dk_96 (dk_at dksX6_enters_0 16 rfl rfl)
theorem dX6_enters_17 : decode cX6_enters 17 = .ok (.putfield 119, 3) := dk_181 0 119 (dk_at dksX6_enters_0 17 rfl rfl)
theorem dX6_enters_20 : decode cX6_enters 20 = .ok (.return_, 1) := dk_177 (dk_at dksX6_enters_0 20 rfl rfl)
abbrev cX6_adds : ByteArray := prog_15_method_51_code
def yX6_adds : MethodName := ⟨RX6, "adds", "(I)I"⟩
def dkwX6_adds_2 : List UInt8 := [167, 255, 231, 42, 89, 180, 0, 186, 4, 100, 181, 0, 186, 27, 172]
abbrev dktX6_adds_2 : List UInt8 := dkwX6_adds_2 ++ []
def dkwX6_adds_1 : List UInt8 := [17, 2, 58, 162, 0, 24, 42, 180, 0, 61, 28, 42, 180, 0, 61, 28, 16, 38, 96, 46, 79, 132, 2, 1]
abbrev dktX6_adds_1 : List UInt8 := dkwX6_adds_1 ++ dktX6_adds_2
def dkwX6_adds_0 : List UInt8 := [42, 89, 180, 0, 186, 4, 96, 181, 0, 186, 42, 180, 0, 186, 16, 15, 164, 0, 43, 3, 61, 28]
abbrev dktX6_adds_0 : List UInt8 := dkwX6_adds_0 ++ dktX6_adds_1
theorem dksX6_adds_0 : cX6_adds.data.toList.drop 0 = dktX6_adds_0 := by decide +kernel
theorem dksX6_adds_1 : cX6_adds.data.toList.drop 22 = dktX6_adds_1 := dk_seg dksX6_adds_0 22 rfl rfl
theorem dksX6_adds_2 : cX6_adds.data.toList.drop 46 = dktX6_adds_2 := dk_seg dksX6_adds_1 24 rfl rfl
theorem dX6_adds_0 : decode cX6_adds 0 = .ok (.aload_n 0, 1) := dk_42 (dk_at dksX6_adds_0 0 rfl rfl)
theorem dX6_adds_1 : decode cX6_adds 1 = .ok (.dup, 1) := dk_89 (dk_at dksX6_adds_0 1 rfl rfl)
theorem dX6_adds_2 : decode cX6_adds 2 = .ok (.getfield 186, 3) := dk_180 0 186 (dk_at dksX6_adds_0 2 rfl rfl)
theorem dX6_adds_5 : decode cX6_adds 5 = .ok (.iconst 1, 1) := dk_4 (dk_at dksX6_adds_0 5 rfl rfl)
theorem dX6_adds_6 : decode cX6_adds 6 = .ok (.iadd, 1) := dk_96 (dk_at dksX6_adds_0 6 rfl rfl)
theorem dX6_adds_7 : decode cX6_adds 7 = .ok (.putfield 186, 3) := dk_181 0 186 (dk_at dksX6_adds_0 7 rfl rfl)
theorem dX6_adds_10 : decode cX6_adds 10 = .ok (.aload_n 0, 1) := dk_42 (dk_at dksX6_adds_0 10 rfl rfl)
theorem dX6_adds_11 : decode cX6_adds 11 = .ok (.getfield 186, 3) := dk_180 0 186 (dk_at dksX6_adds_0 11 rfl rfl)
theorem dX6_adds_14 : decode cX6_adds 14 = .ok (.bipush 15, 2) := dk_16 15 (dk_at dksX6_adds_0 14 rfl rfl)
theorem dX6_adds_16 : decode cX6_adds 16 = .ok (.if_icmp .le 43, 3) := dk_164 0 43 (dk_at dksX6_adds_0 16 rfl rfl)
theorem dX6_adds_19 : decode cX6_adds 19 = .ok (.iconst 0, 1) := dk_3 (dk_at dksX6_adds_0 19 rfl rfl)
theorem dX6_adds_20 : decode cX6_adds 20 = .ok (.istore_n 2, 1) := dk_61 (dk_at dksX6_adds_0 20 rfl rfl)
theorem dX6_adds_21 : decode cX6_adds 21 = .ok (.iload_n 2, 1) := dk_28 (dk_at dksX6_adds_0 21 rfl rfl)
theorem dX6_adds_22 : decode cX6_adds 22 = .ok (.sipush 570, 3) := dk_17 2 58 (dk_at dksX6_adds_1 0 rfl rfl)
theorem dX6_adds_25 : decode cX6_adds 25 = .ok (.if_icmp .ge 24, 3) := dk_162 0 24 (dk_at dksX6_adds_1 3 rfl rfl)
theorem dX6_adds_28 : decode cX6_adds 28 = .ok (.aload_n 0, 1) := dk_42 (dk_at dksX6_adds_1 6 rfl rfl)
theorem dX6_adds_29 : decode cX6_adds 29 = .ok (.getfield 61, 3) := dk_180 0 61 (dk_at dksX6_adds_1 7 rfl rfl)
theorem dX6_adds_32 : decode cX6_adds 32 = .ok (.iload_n 2, 1) := dk_28 (dk_at dksX6_adds_1 10 rfl rfl)
theorem dX6_adds_33 : decode cX6_adds 33 = .ok (.aload_n 0, 1) := dk_42 (dk_at dksX6_adds_1 11 rfl rfl)
theorem dX6_adds_34 : decode cX6_adds 34 = .ok (.getfield 61, 3) := dk_180 0 61 (dk_at dksX6_adds_1 12 rfl rfl)
theorem dX6_adds_37 : decode cX6_adds 37 = .ok (.iload_n 2, 1) := dk_28 (dk_at dksX6_adds_1 15 rfl rfl)
theorem dX6_adds_38 : decode cX6_adds 38 = .ok (.bipush 38, 2) := dk_16 38 (dk_at dksX6_adds_1 16 rfl rfl)
theorem dX6_adds_40 : decode cX6_adds 40 = .ok (.iadd, 1) := dk_96 (dk_at dksX6_adds_1 18 rfl rfl)
theorem dX6_adds_41 : decode cX6_adds 41 = .ok (.iaload, 1) := dk_46 (dk_at dksX6_adds_1 19 rfl rfl)
theorem dX6_adds_42 : decode cX6_adds 42 = .ok (.iastore, 1) := dk_79 (dk_at dksX6_adds_1 20 rfl rfl)
theorem dX6_adds_43 : decode cX6_adds 43 = .ok (.iinc 2 1, 3) := dk_132 2 1 (dk_at dksX6_adds_1 21 rfl rfl)
theorem dX6_adds_46 : decode cX6_adds 46 = .ok (.goto (-25), 3) := dk_167 255 231 (dk_at dksX6_adds_2 0 rfl rfl)
theorem dX6_adds_49 : decode cX6_adds 49 = .ok (.aload_n 0, 1) := dk_42 (dk_at dksX6_adds_2 3 rfl rfl)
theorem dX6_adds_50 : decode cX6_adds 50 = .ok (.dup, 1) := dk_89 (dk_at dksX6_adds_2 4 rfl rfl)
theorem dX6_adds_51 : decode cX6_adds 51 = .ok (.getfield 186, 3) := dk_180 0 186 (dk_at dksX6_adds_2 5 rfl rfl)
theorem dX6_adds_54 : decode cX6_adds 54 = .ok (.iconst 1, 1) := dk_4 (dk_at dksX6_adds_2 8 rfl rfl)
theorem dX6_adds_55 : decode cX6_adds 55 = .ok (.isub, 1) := dk_100 (dk_at dksX6_adds_2 9 rfl rfl)
theorem dX6_adds_56 : decode cX6_adds 56 = .ok (.putfield 186, 3) := dk_181 0 186 (dk_at dksX6_adds_2 10 rfl rfl)
theorem dX6_adds_59 : decode cX6_adds 59 = .ok (.iload_n 1, 1) := dk_27 (dk_at dksX6_adds_2 13 rfl rfl)
theorem dX6_adds_60 : decode cX6_adds 60 = .ok (.ireturn, 1) := dk_172 (dk_at dksX6_adds_2 14 rfl rfl)
abbrev cX6_turnsTo : ByteArray := prog_15_method_64_code
def yX6_turnsTo : MethodName := ⟨RX6, "turnsTo", "(I)I"⟩
def dkwX6_turnsTo_0 : List UInt8 := [42, 3, 181, 0, 112, 42, 182, 1, 96, 42, 42, 42, 180, 0, 31, 27, 182, 1, 106, 182, 1, 109, 172]
abbrev dktX6_turnsTo_0 : List UInt8 := dkwX6_turnsTo_0 ++ []
theorem dksX6_turnsTo_0 : cX6_turnsTo.data.toList.drop 0 = dktX6_turnsTo_0 := by decide +kernel
theorem dX6_turnsTo_0 : decode cX6_turnsTo 0 = .ok (.aload_n 0, 1) := dk_42 (dk_at dksX6_turnsTo_0 0 rfl rfl)
theorem dX6_turnsTo_1 : decode cX6_turnsTo 1 = .ok (.iconst 0, 1) := dk_3 (dk_at dksX6_turnsTo_0 1 rfl rfl)
theorem dX6_turnsTo_2 : decode cX6_turnsTo 2 = .ok (.putfield 112, 3) := dk_181 0 112 (dk_at dksX6_turnsTo_0 2 rfl rfl)
theorem dX6_turnsTo_5 : decode cX6_turnsTo 5 = .ok (.aload_n 0, 1) := dk_42 (dk_at dksX6_turnsTo_0 5 rfl rfl)
theorem dX6_turnsTo_6 : decode cX6_turnsTo 6 = .ok (.invokevirtual 352, 3) := dk_182 1 96 (dk_at dksX6_turnsTo_0 6 rfl rfl)
theorem dX6_turnsTo_9 : decode cX6_turnsTo 9 = .ok (.aload_n 0, 1) := dk_42 (dk_at dksX6_turnsTo_0 9 rfl rfl)
theorem dX6_turnsTo_10 : decode cX6_turnsTo 10 = .ok (.aload_n 0, 1) := dk_42 (dk_at dksX6_turnsTo_0 10 rfl rfl)
theorem dX6_turnsTo_11 : decode cX6_turnsTo 11 = .ok (.aload_n 0, 1) := dk_42 (dk_at dksX6_turnsTo_0 11 rfl rfl)
theorem dX6_turnsTo_12 : decode cX6_turnsTo 12 = .ok (.getfield 31, 3) := dk_180 0 31 (dk_at dksX6_turnsTo_0 12 rfl rfl)
theorem dX6_turnsTo_15 : decode cX6_turnsTo 15 = .ok (.iload_n 1, 1) := dk_27 (dk_at dksX6_turnsTo_0 15 rfl rfl)
theorem dX6_turnsTo_16 : decode cX6_turnsTo 16 = .ok (.invokevirtual 362, 3) := dk_182 1 106 (dk_at dksX6_turnsTo_0 16 rfl rfl)
theorem dX6_turnsTo_19 : decode cX6_turnsTo 19 = .ok (.invokevirtual 365, 3) := dk_182 1 109 (dk_at dksX6_turnsTo_0 19 rfl rfl)
theorem dX6_turnsTo_22 : decode cX6_turnsTo 22 = .ok (.ireturn, 1) := dk_172 (dk_at dksX6_turnsTo_0 22 rfl rfl)
abbrev cX6_turnsOne : ByteArray := prog_15_method_60_code
def yX6_turnsOne : MethodName := ⟨RX6, "turnsOne", "([II)I"⟩
def dkwX6_turnsOne_3 : List UInt8 := [167, 0, 4, 29, 172]
abbrev dktX6_turnsOne_3 : List UInt8 := dkwX6_turnsOne_3 ++ []
def dkwX6_turnsOne_2 : List UInt8 := [160, 0, 6, 16, 253, 172, 43, 16, 21, 28, 96, 42, 180, 0, 24, 28, 46, 79, 29, 156, 0, 8, 16, 252]
abbrev dktX6_turnsOne_2 : List UInt8 := dkwX6_turnsOne_2 ++ dktX6_turnsOne_3
def dkwX6_turnsOne_1 : List UInt8 := [28, 96, 46, 62, 43, 42, 180, 0, 24, 28, 46, 184, 1, 10, 153, 0, 13, 29, 42, 180, 0, 24, 28, 46]
abbrev dktX6_turnsOne_1 : List UInt8 := dkwX6_turnsOne_1 ++ dktX6_turnsOne_2
def dkwX6_turnsOne_0 : List UInt8 := [42, 28, 182, 1, 52, 154, 0, 5, 2, 172, 43, 28, 184, 0, 132, 153, 0, 6, 16, 254, 172, 43, 16, 21]
abbrev dktX6_turnsOne_0 : List UInt8 := dkwX6_turnsOne_0 ++ dktX6_turnsOne_1
theorem dksX6_turnsOne_0 : cX6_turnsOne.data.toList.drop 0 = dktX6_turnsOne_0 := by decide +kernel
theorem dksX6_turnsOne_1 : cX6_turnsOne.data.toList.drop 24 = dktX6_turnsOne_1 := dk_seg dksX6_turnsOne_0 24 rfl rfl
theorem dksX6_turnsOne_2 : cX6_turnsOne.data.toList.drop 48 = dktX6_turnsOne_2 := dk_seg dksX6_turnsOne_1 24 rfl rfl
theorem dksX6_turnsOne_3 : cX6_turnsOne.data.toList.drop 72 = dktX6_turnsOne_3 := dk_seg dksX6_turnsOne_2 24 rfl rfl
theorem dX6_turnsOne_0 : decode cX6_turnsOne 0 = .ok (.aload_n 0, 1) := dk_42 (dk_at dksX6_turnsOne_0 0 rfl rfl)
theorem dX6_turnsOne_1 : decode cX6_turnsOne 1 = .ok (.iload_n 2, 1) := dk_28 (dk_at dksX6_turnsOne_0 1 rfl rfl)
theorem dX6_turnsOne_2 : decode cX6_turnsOne 2 = .ok (.invokevirtual 308, 3) := dk_182 1 52 (dk_at dksX6_turnsOne_0 2 rfl rfl)
theorem dX6_turnsOne_5 : decode cX6_turnsOne 5 = .ok (.ifCond .ne 5, 3) := dk_154 0 5 (dk_at dksX6_turnsOne_0 5 rfl rfl)
theorem dX6_turnsOne_8 : decode cX6_turnsOne 8 = .ok (.iconst (-1), 1) := dk_2 (dk_at dksX6_turnsOne_0 8 rfl rfl)
theorem dX6_turnsOne_9 : decode cX6_turnsOne 9 = .ok (.ireturn, 1) := dk_172 (dk_at dksX6_turnsOne_0 9 rfl rfl)
theorem dX6_turnsOne_10 : decode cX6_turnsOne 10 = .ok (.aload_n 1, 1) := dk_43 (dk_at dksX6_turnsOne_0 10 rfl rfl)
theorem dX6_turnsOne_11 : decode cX6_turnsOne 11 = .ok (.iload_n 2, 1) := dk_28 (dk_at dksX6_turnsOne_0 11 rfl rfl)
theorem dX6_turnsOne_12 : decode cX6_turnsOne 12 = .ok (.invokestatic 132, 3) := dk_184 0 132 (dk_at dksX6_turnsOne_0 12 rfl rfl)
theorem dX6_turnsOne_15 : decode cX6_turnsOne 15 = .ok (.ifCond .eq 6, 3) := dk_153 0 6 (dk_at dksX6_turnsOne_0 15 rfl rfl)
theorem dX6_turnsOne_18 : decode cX6_turnsOne 18 = .ok (.bipush (-2), 2) := dk_16 254 (dk_at dksX6_turnsOne_0 18 rfl rfl)
theorem dX6_turnsOne_20 : decode cX6_turnsOne 20 = .ok (.ireturn, 1) := dk_172 (dk_at dksX6_turnsOne_0 20 rfl rfl)
theorem dX6_turnsOne_21 : decode cX6_turnsOne 21 = .ok (.aload_n 1, 1) := dk_43 (dk_at dksX6_turnsOne_0 21 rfl rfl)
theorem dX6_turnsOne_22 : decode cX6_turnsOne 22 = .ok (.bipush 21, 2) := dk_16 21 (dk_at dksX6_turnsOne_0 22 rfl rfl)
theorem dX6_turnsOne_24 : decode cX6_turnsOne 24 = .ok (.iload_n 2, 1) := dk_28 (dk_at dksX6_turnsOne_1 0 rfl rfl)
theorem dX6_turnsOne_25 : decode cX6_turnsOne 25 = .ok (.iadd, 1) := dk_96 (dk_at dksX6_turnsOne_1 1 rfl rfl)
theorem dX6_turnsOne_26 : decode cX6_turnsOne 26 = .ok (.iaload, 1) := dk_46 (dk_at dksX6_turnsOne_1 2 rfl rfl)
theorem dX6_turnsOne_27 : decode cX6_turnsOne 27 = .ok (.istore_n 3, 1) := dk_62 (dk_at dksX6_turnsOne_1 3 rfl rfl)
theorem dX6_turnsOne_28 : decode cX6_turnsOne 28 = .ok (.aload_n 1, 1) := dk_43 (dk_at dksX6_turnsOne_1 4 rfl rfl)
theorem dX6_turnsOne_29 : decode cX6_turnsOne 29 = .ok (.aload_n 0, 1) := dk_42 (dk_at dksX6_turnsOne_1 5 rfl rfl)
theorem dX6_turnsOne_30 : decode cX6_turnsOne 30 = .ok (.getfield 24, 3) := dk_180 0 24 (dk_at dksX6_turnsOne_1 6 rfl rfl)
theorem dX6_turnsOne_33 : decode cX6_turnsOne 33 = .ok (.iload_n 2, 1) := dk_28 (dk_at dksX6_turnsOne_1 9 rfl rfl)
theorem dX6_turnsOne_34 : decode cX6_turnsOne 34 = .ok (.iaload, 1) := dk_46 (dk_at dksX6_turnsOne_1 10 rfl rfl)
theorem dX6_turnsOne_35 : decode cX6_turnsOne 35 = .ok (.invokestatic 266, 3) := dk_184 1 10 (dk_at dksX6_turnsOne_1 11 rfl rfl)
theorem dX6_turnsOne_38 : decode cX6_turnsOne 38 = .ok (.ifCond .eq 13, 3) := dk_153 0 13 (dk_at dksX6_turnsOne_1 14 rfl rfl)
theorem dX6_turnsOne_41 : decode cX6_turnsOne 41 = .ok (.iload_n 3, 1) := dk_29 (dk_at dksX6_turnsOne_1 17 rfl rfl)
theorem dX6_turnsOne_42 : decode cX6_turnsOne 42 = .ok (.aload_n 0, 1) := dk_42 (dk_at dksX6_turnsOne_1 18 rfl rfl)
theorem dX6_turnsOne_43 : decode cX6_turnsOne 43 = .ok (.getfield 24, 3) := dk_180 0 24 (dk_at dksX6_turnsOne_1 19 rfl rfl)
theorem dX6_turnsOne_46 : decode cX6_turnsOne 46 = .ok (.iload_n 2, 1) := dk_28 (dk_at dksX6_turnsOne_1 22 rfl rfl)
theorem dX6_turnsOne_47 : decode cX6_turnsOne 47 = .ok (.iaload, 1) := dk_46 (dk_at dksX6_turnsOne_1 23 rfl rfl)
theorem dX6_turnsOne_48 : decode cX6_turnsOne 48 = .ok (.if_icmp .ne 6, 3) := dk_160 0 6 (dk_at dksX6_turnsOne_2 0 rfl rfl)
theorem dX6_turnsOne_51 : decode cX6_turnsOne 51 = .ok (.bipush (-3), 2) := dk_16 253 (dk_at dksX6_turnsOne_2 3 rfl rfl)
theorem dX6_turnsOne_53 : decode cX6_turnsOne 53 = .ok (.ireturn, 1) := dk_172 (dk_at dksX6_turnsOne_2 5 rfl rfl)
theorem dX6_turnsOne_54 : decode cX6_turnsOne 54 = .ok (.aload_n 1, 1) := dk_43 (dk_at dksX6_turnsOne_2 6 rfl rfl)
theorem dX6_turnsOne_55 : decode cX6_turnsOne 55 = .ok (.bipush 21, 2) := dk_16 21 (dk_at dksX6_turnsOne_2 7 rfl rfl)
theorem dX6_turnsOne_57 : decode cX6_turnsOne 57 = .ok (.iload_n 2, 1) := dk_28 (dk_at dksX6_turnsOne_2 9 rfl rfl)
theorem dX6_turnsOne_58 : decode cX6_turnsOne 58 = .ok (.iadd, 1) := dk_96 (dk_at dksX6_turnsOne_2 10 rfl rfl)
theorem dX6_turnsOne_59 : decode cX6_turnsOne 59 = .ok (.aload_n 0, 1) := dk_42 (dk_at dksX6_turnsOne_2 11 rfl rfl)
theorem dX6_turnsOne_60 : decode cX6_turnsOne 60 = .ok (.getfield 24, 3) := dk_180 0 24 (dk_at dksX6_turnsOne_2 12 rfl rfl)
theorem dX6_turnsOne_63 : decode cX6_turnsOne 63 = .ok (.iload_n 2, 1) := dk_28 (dk_at dksX6_turnsOne_2 15 rfl rfl)
theorem dX6_turnsOne_64 : decode cX6_turnsOne 64 = .ok (.iaload, 1) := dk_46 (dk_at dksX6_turnsOne_2 16 rfl rfl)
theorem dX6_turnsOne_65 : decode cX6_turnsOne 65 = .ok (.iastore, 1) := dk_79 (dk_at dksX6_turnsOne_2 17 rfl rfl)
theorem dX6_turnsOne_66 : decode cX6_turnsOne 66 = .ok (.iload_n 3, 1) := dk_29 (dk_at dksX6_turnsOne_2 18 rfl rfl)
theorem dX6_turnsOne_67 : decode cX6_turnsOne 67 = .ok (.ifCond .ge 8, 3) := dk_156 0 8 (dk_at dksX6_turnsOne_2 19 rfl rfl)
theorem dX6_turnsOne_70 : decode cX6_turnsOne 70 = .ok (.bipush (-4), 2) := dk_16 252 (dk_at dksX6_turnsOne_2 22 rfl rfl)
theorem dX6_turnsOne_72 : decode cX6_turnsOne 72 = .ok (.goto 4, 3) := dk_167 0 4 (dk_at dksX6_turnsOne_3 0 rfl rfl)
theorem dX6_turnsOne_75 : decode cX6_turnsOne 75 = .ok (.iload_n 3, 1) := dk_29 (dk_at dksX6_turnsOne_3 3 rfl rfl)
theorem dX6_turnsOne_76 : decode cX6_turnsOne 76 = .ok (.ireturn, 1) := dk_172 (dk_at dksX6_turnsOne_3 4 rfl rfl)
abbrev cX6_counted : ByteArray := prog_15_method_52_code
def yX6_counted : MethodName := ⟨RX6, "counted", "(I)I"⟩
def dkwX6_counted_0 : List UInt8 := [27, 156, 0, 13, 27, 16, 252, 159, 0, 7, 27, 167, 0, 8, 42, 27, 182, 1, 62, 172]
abbrev dktX6_counted_0 : List UInt8 := dkwX6_counted_0 ++ []
theorem dksX6_counted_0 : cX6_counted.data.toList.drop 0 = dktX6_counted_0 := by decide +kernel
theorem dX6_counted_0 : decode cX6_counted 0 = .ok (.iload_n 1, 1) := dk_27 (dk_at dksX6_counted_0 0 rfl rfl)
theorem dX6_counted_1 : decode cX6_counted 1 = .ok (.ifCond .ge 13, 3) := dk_156 0 13 (dk_at dksX6_counted_0 1 rfl rfl)
theorem dX6_counted_4 : decode cX6_counted 4 = .ok (.iload_n 1, 1) := dk_27 (dk_at dksX6_counted_0 4 rfl rfl)
theorem dX6_counted_5 : decode cX6_counted 5 = .ok (.bipush (-4), 2) := dk_16 252 (dk_at dksX6_counted_0 5 rfl rfl)
theorem dX6_counted_7 : decode cX6_counted 7 = .ok (.if_icmp .eq 7, 3) := dk_159 0 7 (dk_at dksX6_counted_0 7 rfl rfl)
theorem dX6_counted_10 : decode cX6_counted 10 = .ok (.iload_n 1, 1) := dk_27 (dk_at dksX6_counted_0 10 rfl rfl)
theorem dX6_counted_11 : decode cX6_counted 11 = .ok (.goto 8, 3) := dk_167 0 8 (dk_at dksX6_counted_0 11 rfl rfl)
theorem dX6_counted_14 : decode cX6_counted 14 = .ok (.aload_n 0, 1) := dk_42 (dk_at dksX6_counted_0 14 rfl rfl)
theorem dX6_counted_15 : decode cX6_counted 15 = .ok (.iload_n 1, 1) := dk_27 (dk_at dksX6_counted_0 15 rfl rfl)
theorem dX6_counted_16 : decode cX6_counted 16 = .ok (.invokevirtual 318, 3) := dk_182 1 62 (dk_at dksX6_counted_0 16 rfl rfl)
theorem dX6_counted_19 : decode cX6_counted 19 = .ok (.ireturn, 1) := dk_172 (dk_at dksX6_counted_0 19 rfl rfl)
abbrev cX6_pushes : ByteArray := prog_15_method_65_code
def yX6_pushes : MethodName := ⟨RX6, "pushes", "(II)I"⟩
def dkwX6_pushes_0 : List UInt8 := [42, 3, 181, 0, 112, 42, 182, 1, 96, 42, 42, 42, 180, 0, 31, 27, 28, 182, 1, 112, 182, 1, 109, 172]
abbrev dktX6_pushes_0 : List UInt8 := dkwX6_pushes_0 ++ []
theorem dksX6_pushes_0 : cX6_pushes.data.toList.drop 0 = dktX6_pushes_0 := by decide +kernel
theorem dX6_pushes_0 : decode cX6_pushes 0 = .ok (.aload_n 0, 1) := dk_42 (dk_at dksX6_pushes_0 0 rfl rfl)
theorem dX6_pushes_1 : decode cX6_pushes 1 = .ok (.iconst 0, 1) := dk_3 (dk_at dksX6_pushes_0 1 rfl rfl)
theorem dX6_pushes_2 : decode cX6_pushes 2 = .ok (.putfield 112, 3) := dk_181 0 112 (dk_at dksX6_pushes_0 2 rfl rfl)
theorem dX6_pushes_5 : decode cX6_pushes 5 = .ok (.aload_n 0, 1) := dk_42 (dk_at dksX6_pushes_0 5 rfl rfl)
theorem dX6_pushes_6 : decode cX6_pushes 6 = .ok (.invokevirtual 352, 3) := dk_182 1 96 (dk_at dksX6_pushes_0 6 rfl rfl)
theorem dX6_pushes_9 : decode cX6_pushes 9 = .ok (.aload_n 0, 1) := dk_42 (dk_at dksX6_pushes_0 9 rfl rfl)
theorem dX6_pushes_10 : decode cX6_pushes 10 = .ok (.aload_n 0, 1) := dk_42 (dk_at dksX6_pushes_0 10 rfl rfl)
theorem dX6_pushes_11 : decode cX6_pushes 11 = .ok (.aload_n 0, 1) := dk_42 (dk_at dksX6_pushes_0 11 rfl rfl)
theorem dX6_pushes_12 : decode cX6_pushes 12 = .ok (.getfield 31, 3) := dk_180 0 31 (dk_at dksX6_pushes_0 12 rfl rfl)
theorem dX6_pushes_15 : decode cX6_pushes 15 = .ok (.iload_n 1, 1) := dk_27 (dk_at dksX6_pushes_0 15 rfl rfl)
theorem dX6_pushes_16 : decode cX6_pushes 16 = .ok (.iload_n 2, 1) := dk_28 (dk_at dksX6_pushes_0 16 rfl rfl)
theorem dX6_pushes_17 : decode cX6_pushes 17 = .ok (.invokevirtual 368, 3) := dk_182 1 112 (dk_at dksX6_pushes_0 17 rfl rfl)
theorem dX6_pushes_20 : decode cX6_pushes 20 = .ok (.invokevirtual 365, 3) := dk_182 1 109 (dk_at dksX6_pushes_0 20 rfl rfl)
theorem dX6_pushes_23 : decode cX6_pushes 23 = .ok (.ireturn, 1) := dk_172 (dk_at dksX6_pushes_0 23 rfl rfl)
abbrev cX6_pushesOne : ByteArray := prog_15_method_61_code
def yX6_pushesOne : MethodName := ⟨RX6, "pushesOne", "([III)I"⟩
def dkwX6_pushesOne_3 : List UInt8 := [96, 46, 172]
abbrev dktX6_pushesOne_3 : List UInt8 := dkwX6_pushesOne_3 ++ []
def dkwX6_pushesOne_2 : List UInt8 := [182, 0, 192, 4, 100, 43, 16, 13, 28, 96, 46, 29, 96, 184, 0, 145, 184, 1, 31, 79, 43, 16, 13, 28]
abbrev dktX6_pushesOne_2 : List UInt8 := dkwX6_pushesOne_2 ++ dktX6_pushesOne_3
def dkwX6_pushesOne_1 : List UInt8 := [154, 0, 5, 2, 172, 43, 28, 184, 0, 132, 153, 0, 6, 16, 254, 172, 43, 16, 13, 28, 96, 3, 42]
abbrev dktX6_pushesOne_1 : List UInt8 := dkwX6_pushesOne_1 ++ dktX6_pushesOne_2
def dkwX6_pushesOne_0 : List UInt8 := [42, 28, 182, 1, 52, 153, 0, 21, 29, 133, 20, 1, 90, 20, 1, 92, 184, 0, 125, 153, 0, 7, 29]
abbrev dktX6_pushesOne_0 : List UInt8 := dkwX6_pushesOne_0 ++ dktX6_pushesOne_1
theorem dksX6_pushesOne_0 : cX6_pushesOne.data.toList.drop 0 = dktX6_pushesOne_0 := by decide +kernel
theorem dksX6_pushesOne_1 : cX6_pushesOne.data.toList.drop 23 = dktX6_pushesOne_1 := dk_seg dksX6_pushesOne_0 23 rfl rfl
theorem dksX6_pushesOne_2 : cX6_pushesOne.data.toList.drop 46 = dktX6_pushesOne_2 := dk_seg dksX6_pushesOne_1 23 rfl rfl
theorem dksX6_pushesOne_3 : cX6_pushesOne.data.toList.drop 70 = dktX6_pushesOne_3 := dk_seg dksX6_pushesOne_2 24 rfl rfl
theorem dX6_pushesOne_0 : decode cX6_pushesOne 0 = .ok (.aload_n 0, 1) := dk_42 (dk_at dksX6_pushesOne_0 0 rfl rfl)
theorem dX6_pushesOne_1 : decode cX6_pushesOne 1 = .ok (.iload_n 2, 1) := dk_28 (dk_at dksX6_pushesOne_0 1 rfl rfl)
theorem dX6_pushesOne_2 : decode cX6_pushesOne 2 = .ok (.invokevirtual 308, 3) := dk_182 1 52 (dk_at dksX6_pushesOne_0 2 rfl rfl)
theorem dX6_pushesOne_5 : decode cX6_pushesOne 5 = .ok (.ifCond .eq 21, 3) := dk_153 0 21 (dk_at dksX6_pushesOne_0 5 rfl rfl)
theorem dX6_pushesOne_8 : decode cX6_pushesOne 8 = .ok (.iload_n 3, 1) := dk_29 (dk_at dksX6_pushesOne_0 8 rfl rfl)
theorem dX6_pushesOne_9 : decode cX6_pushesOne 9 = .ok (.i2l, 1) := dk_133 (dk_at dksX6_pushesOne_0 9 rfl rfl)
theorem dX6_pushesOne_10 : decode cX6_pushesOne 10 = .ok (.ldc2_w 346, 3) := dk_20 1 90 (dk_at dksX6_pushesOne_0 10 rfl rfl)
theorem dX6_pushesOne_13 : decode cX6_pushesOne 13 = .ok (.ldc2_w 348, 3) := dk_20 1 92 (dk_at dksX6_pushesOne_0 13 rfl rfl)
theorem dX6_pushesOne_16 : decode cX6_pushesOne 16 = .ok (.invokestatic 125, 3) := dk_184 0 125 (dk_at dksX6_pushesOne_0 16 rfl rfl)
theorem dX6_pushesOne_19 : decode cX6_pushesOne 19 = .ok (.ifCond .eq 7, 3) := dk_153 0 7 (dk_at dksX6_pushesOne_0 19 rfl rfl)
theorem dX6_pushesOne_22 : decode cX6_pushesOne 22 = .ok (.iload_n 3, 1) := dk_29 (dk_at dksX6_pushesOne_0 22 rfl rfl)
theorem dX6_pushesOne_23 : decode cX6_pushesOne 23 = .ok (.ifCond .ne 5, 3) := dk_154 0 5 (dk_at dksX6_pushesOne_1 0 rfl rfl)
theorem dX6_pushesOne_26 : decode cX6_pushesOne 26 = .ok (.iconst (-1), 1) := dk_2 (dk_at dksX6_pushesOne_1 3 rfl rfl)
theorem dX6_pushesOne_27 : decode cX6_pushesOne 27 = .ok (.ireturn, 1) := dk_172 (dk_at dksX6_pushesOne_1 4 rfl rfl)
theorem dX6_pushesOne_28 : decode cX6_pushesOne 28 = .ok (.aload_n 1, 1) := dk_43 (dk_at dksX6_pushesOne_1 5 rfl rfl)
theorem dX6_pushesOne_29 : decode cX6_pushesOne 29 = .ok (.iload_n 2, 1) := dk_28 (dk_at dksX6_pushesOne_1 6 rfl rfl)
theorem dX6_pushesOne_30 : decode cX6_pushesOne 30 = .ok (.invokestatic 132, 3) := dk_184 0 132 (dk_at dksX6_pushesOne_1 7 rfl rfl)
theorem dX6_pushesOne_33 : decode cX6_pushesOne 33 = .ok (.ifCond .eq 6, 3) := dk_153 0 6 (dk_at dksX6_pushesOne_1 10 rfl rfl)
theorem dX6_pushesOne_36 : decode cX6_pushesOne 36 = .ok (.bipush (-2), 2) := dk_16 254 (dk_at dksX6_pushesOne_1 13 rfl rfl)
theorem dX6_pushesOne_38 : decode cX6_pushesOne 38 = .ok (.ireturn, 1) := dk_172 (dk_at dksX6_pushesOne_1 15 rfl rfl)
theorem dX6_pushesOne_39 : decode cX6_pushesOne 39 = .ok (.aload_n 1, 1) := dk_43 (dk_at dksX6_pushesOne_1 16 rfl rfl)
theorem dX6_pushesOne_40 : decode cX6_pushesOne 40 = .ok (.bipush 13, 2) := dk_16 13 (dk_at dksX6_pushesOne_1 17 rfl rfl)
theorem dX6_pushesOne_42 : decode cX6_pushesOne 42 = .ok (.iload_n 2, 1) := dk_28 (dk_at dksX6_pushesOne_1 19 rfl rfl)
theorem dX6_pushesOne_43 : decode cX6_pushesOne 43 = .ok (.iadd, 1) := dk_96 (dk_at dksX6_pushesOne_1 20 rfl rfl)
theorem dX6_pushesOne_44 : decode cX6_pushesOne 44 = .ok (.iconst 0, 1) := dk_3 (dk_at dksX6_pushesOne_1 21 rfl rfl)
theorem dX6_pushesOne_45 : decode cX6_pushesOne 45 = .ok (.aload_n 0, 1) := dk_42 (dk_at dksX6_pushesOne_1 22 rfl rfl)
theorem dX6_pushesOne_46 : decode cX6_pushesOne 46 = .ok (.invokevirtual 192, 3) := dk_182 0 192 (dk_at dksX6_pushesOne_2 0 rfl rfl)
theorem dX6_pushesOne_49 : decode cX6_pushesOne 49 = .ok (.iconst 1, 1) := dk_4 (dk_at dksX6_pushesOne_2 3 rfl rfl)
theorem dX6_pushesOne_50 : decode cX6_pushesOne 50 = .ok (.isub, 1) := dk_100 (dk_at dksX6_pushesOne_2 4 rfl rfl)
theorem dX6_pushesOne_51 : decode cX6_pushesOne 51 = .ok (.aload_n 1, 1) := dk_43 (dk_at dksX6_pushesOne_2 5 rfl rfl)
theorem dX6_pushesOne_52 : decode cX6_pushesOne 52 = .ok (.bipush 13, 2) := dk_16 13 (dk_at dksX6_pushesOne_2 6 rfl rfl)
theorem dX6_pushesOne_54 : decode cX6_pushesOne 54 = .ok (.iload_n 2, 1) := dk_28 (dk_at dksX6_pushesOne_2 8 rfl rfl)
theorem dX6_pushesOne_55 : decode cX6_pushesOne 55 = .ok (.iadd, 1) := dk_96 (dk_at dksX6_pushesOne_2 9 rfl rfl)
theorem dX6_pushesOne_56 : decode cX6_pushesOne 56 = .ok (.iaload, 1) := dk_46 (dk_at dksX6_pushesOne_2 10 rfl rfl)
theorem dX6_pushesOne_57 : decode cX6_pushesOne 57 = .ok (.iload_n 3, 1) := dk_29 (dk_at dksX6_pushesOne_2 11 rfl rfl)
theorem dX6_pushesOne_58 : decode cX6_pushesOne 58 = .ok (.iadd, 1) := dk_96 (dk_at dksX6_pushesOne_2 12 rfl rfl)
theorem dX6_pushesOne_59 : decode cX6_pushesOne 59 = .ok (.invokestatic 145, 3) := dk_184 0 145 (dk_at dksX6_pushesOne_2 13 rfl rfl)
theorem dX6_pushesOne_62 : decode cX6_pushesOne 62 = .ok (.invokestatic 287, 3) := dk_184 1 31 (dk_at dksX6_pushesOne_2 16 rfl rfl)
theorem dX6_pushesOne_65 : decode cX6_pushesOne 65 = .ok (.iastore, 1) := dk_79 (dk_at dksX6_pushesOne_2 19 rfl rfl)
theorem dX6_pushesOne_66 : decode cX6_pushesOne 66 = .ok (.aload_n 1, 1) := dk_43 (dk_at dksX6_pushesOne_2 20 rfl rfl)
theorem dX6_pushesOne_67 : decode cX6_pushesOne 67 = .ok (.bipush 13, 2) := dk_16 13 (dk_at dksX6_pushesOne_2 21 rfl rfl)
theorem dX6_pushesOne_69 : decode cX6_pushesOne 69 = .ok (.iload_n 2, 1) := dk_28 (dk_at dksX6_pushesOne_2 23 rfl rfl)
theorem dX6_pushesOne_70 : decode cX6_pushesOne 70 = .ok (.iadd, 1) := dk_96 (dk_at dksX6_pushesOne_3 0 rfl rfl)
theorem dX6_pushesOne_71 : decode cX6_pushesOne 71 = .ok (.iaload, 1) := dk_46 (dk_at dksX6_pushesOne_3 1 rfl rfl)
theorem dX6_pushesOne_72 : decode cX6_pushesOne 72 = .ok (.ireturn, 1) := dk_172 (dk_at dksX6_pushesOne_3 2 rfl rfl)
abbrev cX6_swaps : ByteArray := prog_15_method_66_code
def yX6_swaps : MethodName := ⟨RX6, "swaps", "(II)I"⟩
def dkwX6_swaps_0 : List UInt8 := [42, 3, 181, 0, 112, 42, 182, 1, 96, 42, 42, 27, 28, 182, 1, 115, 182, 1, 109, 172]
abbrev dktX6_swaps_0 : List UInt8 := dkwX6_swaps_0 ++ []
theorem dksX6_swaps_0 : cX6_swaps.data.toList.drop 0 = dktX6_swaps_0 := by decide +kernel
theorem dX6_swaps_0 : decode cX6_swaps 0 = .ok (.aload_n 0, 1) := dk_42 (dk_at dksX6_swaps_0 0 rfl rfl)
theorem dX6_swaps_1 : decode cX6_swaps 1 = .ok (.iconst 0, 1) := dk_3 (dk_at dksX6_swaps_0 1 rfl rfl)
theorem dX6_swaps_2 : decode cX6_swaps 2 = .ok (.putfield 112, 3) := dk_181 0 112 (dk_at dksX6_swaps_0 2 rfl rfl)
theorem dX6_swaps_5 : decode cX6_swaps 5 = .ok (.aload_n 0, 1) := dk_42 (dk_at dksX6_swaps_0 5 rfl rfl)
theorem dX6_swaps_6 : decode cX6_swaps 6 = .ok (.invokevirtual 352, 3) := dk_182 1 96 (dk_at dksX6_swaps_0 6 rfl rfl)
theorem dX6_swaps_9 : decode cX6_swaps 9 = .ok (.aload_n 0, 1) := dk_42 (dk_at dksX6_swaps_0 9 rfl rfl)
theorem dX6_swaps_10 : decode cX6_swaps 10 = .ok (.aload_n 0, 1) := dk_42 (dk_at dksX6_swaps_0 10 rfl rfl)
theorem dX6_swaps_11 : decode cX6_swaps 11 = .ok (.iload_n 1, 1) := dk_27 (dk_at dksX6_swaps_0 11 rfl rfl)
theorem dX6_swaps_12 : decode cX6_swaps 12 = .ok (.iload_n 2, 1) := dk_28 (dk_at dksX6_swaps_0 12 rfl rfl)
theorem dX6_swaps_13 : decode cX6_swaps 13 = .ok (.invokevirtual 371, 3) := dk_182 1 115 (dk_at dksX6_swaps_0 13 rfl rfl)
theorem dX6_swaps_16 : decode cX6_swaps 16 = .ok (.invokevirtual 365, 3) := dk_182 1 109 (dk_at dksX6_swaps_0 16 rfl rfl)
theorem dX6_swaps_19 : decode cX6_swaps 19 = .ok (.ireturn, 1) := dk_172 (dk_at dksX6_swaps_0 19 rfl rfl)
abbrev cX6_swapsTwo : ByteArray := prog_15_method_62_code
def yX6_swapsTwo : MethodName := ⟨RX6, "swapsTwo", "(II)I"⟩
def dkwX6_swapsTwo_3 : List UInt8 := [29, 79, 42, 180, 0, 31, 27, 46, 42, 180, 0, 31, 28, 46, 100, 184, 1, 34, 172]
abbrev dktX6_swapsTwo_3 : List UInt8 := dkwX6_swapsTwo_3 ++ []
def dkwX6_swapsTwo_2 : List UInt8 := [42, 180, 0, 31, 27, 46, 62, 42, 180, 0, 31, 27, 42, 180, 0, 31, 28, 46, 79, 42, 180, 0, 31, 28]
abbrev dktX6_swapsTwo_2 : List UInt8 := dkwX6_swapsTwo_2 ++ dktX6_swapsTwo_3
def dkwX6_swapsTwo_1 : List UInt8 := [180, 0, 31, 27, 184, 1, 10, 153, 0, 14, 42, 180, 0, 31, 28, 184, 1, 10, 154, 0, 6, 16, 254, 172]
abbrev dktX6_swapsTwo_1 : List UInt8 := dkwX6_swapsTwo_1 ++ dktX6_swapsTwo_2
def dkwX6_swapsTwo_0 : List UInt8 := [42, 27, 182, 1, 38, 153, 0, 16, 42, 28, 182, 1, 38, 153, 0, 8, 27, 28, 160, 0, 5, 2, 172, 42]
abbrev dktX6_swapsTwo_0 : List UInt8 := dkwX6_swapsTwo_0 ++ dktX6_swapsTwo_1
theorem dksX6_swapsTwo_0 : cX6_swapsTwo.data.toList.drop 0 = dktX6_swapsTwo_0 := by decide +kernel
theorem dksX6_swapsTwo_1 : cX6_swapsTwo.data.toList.drop 24 = dktX6_swapsTwo_1 := dk_seg dksX6_swapsTwo_0 24 rfl rfl
theorem dksX6_swapsTwo_2 : cX6_swapsTwo.data.toList.drop 48 = dktX6_swapsTwo_2 := dk_seg dksX6_swapsTwo_1 24 rfl rfl
theorem dksX6_swapsTwo_3 : cX6_swapsTwo.data.toList.drop 72 = dktX6_swapsTwo_3 := dk_seg dksX6_swapsTwo_2 24 rfl rfl
theorem dX6_swapsTwo_0 : decode cX6_swapsTwo 0 = .ok (.aload_n 0, 1) := dk_42 (dk_at dksX6_swapsTwo_0 0 rfl rfl)
theorem dX6_swapsTwo_1 : decode cX6_swapsTwo 1 = .ok (.iload_n 1, 1) := dk_27 (dk_at dksX6_swapsTwo_0 1 rfl rfl)
theorem dX6_swapsTwo_2 : decode cX6_swapsTwo 2 = .ok (.invokevirtual 294, 3) := dk_182 1 38 (dk_at dksX6_swapsTwo_0 2 rfl rfl)
theorem dX6_swapsTwo_5 : decode cX6_swapsTwo 5 = .ok (.ifCond .eq 16, 3) := dk_153 0 16 (dk_at dksX6_swapsTwo_0 5 rfl rfl)
theorem dX6_swapsTwo_8 : decode cX6_swapsTwo 8 = .ok (.aload_n 0, 1) := dk_42 (dk_at dksX6_swapsTwo_0 8 rfl rfl)
theorem dX6_swapsTwo_9 : decode cX6_swapsTwo 9 = .ok (.iload_n 2, 1) := dk_28 (dk_at dksX6_swapsTwo_0 9 rfl rfl)
theorem dX6_swapsTwo_10 : decode cX6_swapsTwo 10 = .ok (.invokevirtual 294, 3) := dk_182 1 38 (dk_at dksX6_swapsTwo_0 10 rfl rfl)
theorem dX6_swapsTwo_13 : decode cX6_swapsTwo 13 = .ok (.ifCond .eq 8, 3) := dk_153 0 8 (dk_at dksX6_swapsTwo_0 13 rfl rfl)
theorem dX6_swapsTwo_16 : decode cX6_swapsTwo 16 = .ok (.iload_n 1, 1) := dk_27 (dk_at dksX6_swapsTwo_0 16 rfl rfl)
theorem dX6_swapsTwo_17 : decode cX6_swapsTwo 17 = .ok (.iload_n 2, 1) := dk_28 (dk_at dksX6_swapsTwo_0 17 rfl rfl)
theorem dX6_swapsTwo_18 : decode cX6_swapsTwo 18 = .ok (.if_icmp .ne 5, 3) := dk_160 0 5 (dk_at dksX6_swapsTwo_0 18 rfl rfl)
theorem dX6_swapsTwo_21 : decode cX6_swapsTwo 21 = .ok (.iconst (-1), 1) := dk_2 (dk_at dksX6_swapsTwo_0 21 rfl rfl)
theorem dX6_swapsTwo_22 : decode cX6_swapsTwo 22 = .ok (.ireturn, 1) := dk_172 (dk_at dksX6_swapsTwo_0 22 rfl rfl)
theorem dX6_swapsTwo_23 : decode cX6_swapsTwo 23 = .ok (.aload_n 0, 1) := dk_42 (dk_at dksX6_swapsTwo_0 23 rfl rfl)
theorem dX6_swapsTwo_24 : decode cX6_swapsTwo 24 = .ok (.getfield 31, 3) := dk_180 0 31 (dk_at dksX6_swapsTwo_1 0 rfl rfl)
theorem dX6_swapsTwo_27 : decode cX6_swapsTwo 27 = .ok (.iload_n 1, 1) := dk_27 (dk_at dksX6_swapsTwo_1 3 rfl rfl)
theorem dX6_swapsTwo_28 : decode cX6_swapsTwo 28 = .ok (.invokestatic 266, 3) := dk_184 1 10 (dk_at dksX6_swapsTwo_1 4 rfl rfl)
theorem dX6_swapsTwo_31 : decode cX6_swapsTwo 31 = .ok (.ifCond .eq 14, 3) := dk_153 0 14 (dk_at dksX6_swapsTwo_1 7 rfl rfl)
theorem dX6_swapsTwo_34 : decode cX6_swapsTwo 34 = .ok (.aload_n 0, 1) := dk_42 (dk_at dksX6_swapsTwo_1 10 rfl rfl)
theorem dX6_swapsTwo_35 : decode cX6_swapsTwo 35 = .ok (.getfield 31, 3) := dk_180 0 31 (dk_at dksX6_swapsTwo_1 11 rfl rfl)
theorem dX6_swapsTwo_38 : decode cX6_swapsTwo 38 = .ok (.iload_n 2, 1) := dk_28 (dk_at dksX6_swapsTwo_1 14 rfl rfl)
theorem dX6_swapsTwo_39 : decode cX6_swapsTwo 39 = .ok (.invokestatic 266, 3) := dk_184 1 10 (dk_at dksX6_swapsTwo_1 15 rfl rfl)
theorem dX6_swapsTwo_42 : decode cX6_swapsTwo 42 = .ok (.ifCond .ne 6, 3) := dk_154 0 6 (dk_at dksX6_swapsTwo_1 18 rfl rfl)
theorem dX6_swapsTwo_45 : decode cX6_swapsTwo 45 = .ok (.bipush (-2), 2) := dk_16 254 (dk_at dksX6_swapsTwo_1 21 rfl rfl)
theorem dX6_swapsTwo_47 : decode cX6_swapsTwo 47 = .ok (.ireturn, 1) := dk_172 (dk_at dksX6_swapsTwo_1 23 rfl rfl)
theorem dX6_swapsTwo_48 : decode cX6_swapsTwo 48 = .ok (.aload_n 0, 1) := dk_42 (dk_at dksX6_swapsTwo_2 0 rfl rfl)
theorem dX6_swapsTwo_49 : decode cX6_swapsTwo 49 = .ok (.getfield 31, 3) := dk_180 0 31 (dk_at dksX6_swapsTwo_2 1 rfl rfl)
theorem dX6_swapsTwo_52 : decode cX6_swapsTwo 52 = .ok (.iload_n 1, 1) := dk_27 (dk_at dksX6_swapsTwo_2 4 rfl rfl)
theorem dX6_swapsTwo_53 : decode cX6_swapsTwo 53 = .ok (.iaload, 1) := dk_46 (dk_at dksX6_swapsTwo_2 5 rfl rfl)
theorem dX6_swapsTwo_54 : decode cX6_swapsTwo 54 = .ok (.istore_n 3, 1) := dk_62 (dk_at dksX6_swapsTwo_2 6 rfl rfl)
theorem dX6_swapsTwo_55 : decode cX6_swapsTwo 55 = .ok (.aload_n 0, 1) := dk_42 (dk_at dksX6_swapsTwo_2 7 rfl rfl)
theorem dX6_swapsTwo_56 : decode cX6_swapsTwo 56 = .ok (.getfield 31, 3) := dk_180 0 31 (dk_at dksX6_swapsTwo_2 8 rfl rfl)
theorem dX6_swapsTwo_59 : decode cX6_swapsTwo 59 = .ok (.iload_n 1, 1) := dk_27 (dk_at dksX6_swapsTwo_2 11 rfl rfl)
theorem dX6_swapsTwo_60 : decode cX6_swapsTwo 60 = .ok (.aload_n 0, 1) := dk_42 (dk_at dksX6_swapsTwo_2 12 rfl rfl)
theorem dX6_swapsTwo_61 : decode cX6_swapsTwo 61 = .ok (.getfield 31, 3) := dk_180 0 31 (dk_at dksX6_swapsTwo_2 13 rfl rfl)
theorem dX6_swapsTwo_64 : decode cX6_swapsTwo 64 = .ok (.iload_n 2, 1) := dk_28 (dk_at dksX6_swapsTwo_2 16 rfl rfl)
theorem dX6_swapsTwo_65 : decode cX6_swapsTwo 65 = .ok (.iaload, 1) := dk_46 (dk_at dksX6_swapsTwo_2 17 rfl rfl)
theorem dX6_swapsTwo_66 : decode cX6_swapsTwo 66 = .ok (.iastore, 1) := dk_79 (dk_at dksX6_swapsTwo_2 18 rfl rfl)
theorem dX6_swapsTwo_67 : decode cX6_swapsTwo 67 = .ok (.aload_n 0, 1) := dk_42 (dk_at dksX6_swapsTwo_2 19 rfl rfl)
theorem dX6_swapsTwo_68 : decode cX6_swapsTwo 68 = .ok (.getfield 31, 3) := dk_180 0 31 (dk_at dksX6_swapsTwo_2 20 rfl rfl)
theorem dX6_swapsTwo_71 : decode cX6_swapsTwo 71 = .ok (.iload_n 2, 1) := dk_28 (dk_at dksX6_swapsTwo_2 23 rfl rfl)
theorem dX6_swapsTwo_72 : decode cX6_swapsTwo 72 = .ok (.iload_n 3, 1) := dk_29 (dk_at dksX6_swapsTwo_3 0 rfl rfl)
theorem dX6_swapsTwo_73 : decode cX6_swapsTwo 73 = .ok (.iastore, 1) := dk_79 (dk_at dksX6_swapsTwo_3 1 rfl rfl)
theorem dX6_swapsTwo_74 : decode cX6_swapsTwo 74 = .ok (.aload_n 0, 1) := dk_42 (dk_at dksX6_swapsTwo_3 2 rfl rfl)
theorem dX6_swapsTwo_75 : decode cX6_swapsTwo 75 = .ok (.getfield 31, 3) := dk_180 0 31 (dk_at dksX6_swapsTwo_3 3 rfl rfl)
theorem dX6_swapsTwo_78 : decode cX6_swapsTwo 78 = .ok (.iload_n 1, 1) := dk_27 (dk_at dksX6_swapsTwo_3 6 rfl rfl)
theorem dX6_swapsTwo_79 : decode cX6_swapsTwo 79 = .ok (.iaload, 1) := dk_46 (dk_at dksX6_swapsTwo_3 7 rfl rfl)
theorem dX6_swapsTwo_80 : decode cX6_swapsTwo 80 = .ok (.aload_n 0, 1) := dk_42 (dk_at dksX6_swapsTwo_3 8 rfl rfl)
theorem dX6_swapsTwo_81 : decode cX6_swapsTwo 81 = .ok (.getfield 31, 3) := dk_180 0 31 (dk_at dksX6_swapsTwo_3 9 rfl rfl)
theorem dX6_swapsTwo_84 : decode cX6_swapsTwo 84 = .ok (.iload_n 2, 1) := dk_28 (dk_at dksX6_swapsTwo_3 12 rfl rfl)
theorem dX6_swapsTwo_85 : decode cX6_swapsTwo 85 = .ok (.iaload, 1) := dk_46 (dk_at dksX6_swapsTwo_3 13 rfl rfl)
theorem dX6_swapsTwo_86 : decode cX6_swapsTwo 86 = .ok (.isub, 1) := dk_100 (dk_at dksX6_swapsTwo_3 14 rfl rfl)
theorem dX6_swapsTwo_87 : decode cX6_swapsTwo 87 = .ok (.invokestatic 290, 3) := dk_184 1 34 (dk_at dksX6_swapsTwo_3 15 rfl rfl)
theorem dX6_swapsTwo_90 : decode cX6_swapsTwo 90 = .ok (.ireturn, 1) := dk_172 (dk_at dksX6_swapsTwo_3 18 rfl rfl)
abbrev cX6_hour : ByteArray := prog_15_method_69_code
def yX6_hour : MethodName := ⟨RX6, "hour", "()I"⟩
def dkwX6_hour_6 : List UInt8 := [3, 172]
abbrev dktX6_hour_6 : List UInt8 := dkwX6_hour_6 ++ []
def dkwX6_hour_5 : List UInt8 := [180, 0, 31, 16, 37, 46, 133, 182, 1, 102, 21, 4, 158, 0, 12, 42, 21, 4, 182, 1, 62, 167, 0, 4]
abbrev dktX6_hour_5 : List UInt8 := dkwX6_hour_5 ++ dktX6_hour_6
def dkwX6_hour_4 : List UInt8 := [21, 4, 42, 180, 1, 118, 162, 0, 7, 4, 167, 0, 4, 3, 184, 0, 154, 133, 182, 1, 102, 42, 42]
abbrev dktX6_hour_4 : List UInt8 := dkwX6_hour_4 ++ dktX6_hour_5
def dkwX6_hour_3 : List UInt8 := [162, 0, 18, 42, 21, 4, 182, 1, 129, 153, 0, 9, 132, 4, 1, 167, 255, 235, 42, 3, 181, 0, 119, 42]
abbrev dktX6_hour_3 : List UInt8 := dkwX6_hour_3 ++ dktX6_hour_4
def dkwX6_hour_2 : List UInt8 := [182, 0, 221, 62, 29, 156, 0, 5, 29, 172, 42, 182, 1, 96, 3, 54, 4, 21, 4, 42, 180, 1, 118]
abbrev dktX6_hour_2 : List UInt8 := dkwX6_hour_2 ++ dktX6_hour_3
def dkwX6_hour_1 : List UInt8 := [180, 0, 139, 42, 180, 0, 151, 162, 0, 11, 42, 182, 1, 126, 61, 167, 255, 236, 42, 27, 16, 60, 28]
abbrev dktX6_hour_1 : List UInt8 := dkwX6_hour_1 ++ dktX6_hour_2
def dkwX6_hour_0 : List UInt8 := [42, 3, 181, 0, 112, 42, 16, 60, 182, 0, 176, 60, 42, 3, 181, 1, 118, 4, 61, 28, 153, 0, 22, 42]
abbrev dktX6_hour_0 : List UInt8 := dkwX6_hour_0 ++ dktX6_hour_1
theorem dksX6_hour_0 : cX6_hour.data.toList.drop 0 = dktX6_hour_0 := by decide +kernel
theorem dksX6_hour_1 : cX6_hour.data.toList.drop 24 = dktX6_hour_1 := dk_seg dksX6_hour_0 24 rfl rfl
theorem dksX6_hour_2 : cX6_hour.data.toList.drop 47 = dktX6_hour_2 := dk_seg dksX6_hour_1 23 rfl rfl
theorem dksX6_hour_3 : cX6_hour.data.toList.drop 70 = dktX6_hour_3 := dk_seg dksX6_hour_2 23 rfl rfl
theorem dksX6_hour_4 : cX6_hour.data.toList.drop 94 = dktX6_hour_4 := dk_seg dksX6_hour_3 24 rfl rfl
theorem dksX6_hour_5 : cX6_hour.data.toList.drop 117 = dktX6_hour_5 := dk_seg dksX6_hour_4 23 rfl rfl
theorem dksX6_hour_6 : cX6_hour.data.toList.drop 141 = dktX6_hour_6 := dk_seg dksX6_hour_5 24 rfl rfl
theorem dX6_hour_0 : decode cX6_hour 0 = .ok (.aload_n 0, 1) := dk_42 (dk_at dksX6_hour_0 0 rfl rfl)
theorem dX6_hour_1 : decode cX6_hour 1 = .ok (.iconst 0, 1) := dk_3 (dk_at dksX6_hour_0 1 rfl rfl)
theorem dX6_hour_2 : decode cX6_hour 2 = .ok (.putfield 112, 3) := dk_181 0 112 (dk_at dksX6_hour_0 2 rfl rfl)
theorem dX6_hour_5 : decode cX6_hour 5 = .ok (.aload_n 0, 1) := dk_42 (dk_at dksX6_hour_0 5 rfl rfl)
theorem dX6_hour_6 : decode cX6_hour 6 = .ok (.bipush 60, 2) := dk_16 60 (dk_at dksX6_hour_0 6 rfl rfl)
theorem dX6_hour_8 : decode cX6_hour 8 = .ok (.invokevirtual 176, 3) := dk_182 0 176 (dk_at dksX6_hour_0 8 rfl rfl)
theorem dX6_hour_11 : decode cX6_hour 11 = .ok (.istore_n 1, 1) := dk_60 (dk_at dksX6_hour_0 11 rfl rfl)
theorem dX6_hour_12 : decode cX6_hour 12 = .ok (.aload_n 0, 1) := dk_42 (dk_at dksX6_hour_0 12 rfl rfl)
theorem dX6_hour_13 : decode cX6_hour 13 = .ok (.iconst 0, 1) := dk_3 (dk_at dksX6_hour_0 13 rfl rfl)
theorem dX6_hour_14 : decode cX6_hour 14 = .ok (.putfield 374, 3) := dk_181 1 118 (dk_at dksX6_hour_0 14 rfl rfl)
theorem dX6_hour_17 : decode cX6_hour 17 = .ok (.iconst 1, 1) := dk_4 (dk_at dksX6_hour_0 17 rfl rfl)
theorem dX6_hour_18 : decode cX6_hour 18 = .ok (.istore_n 2, 1) := dk_61 (dk_at dksX6_hour_0 18 rfl rfl)
theorem dX6_hour_19 : decode cX6_hour 19 = .ok (.iload_n 2, 1) := dk_28 (dk_at dksX6_hour_0 19 rfl rfl)
theorem dX6_hour_20 : decode cX6_hour 20 = .ok (.ifCond .eq 22, 3) := dk_153 0 22 (dk_at dksX6_hour_0 20 rfl rfl)
theorem dX6_hour_23 : decode cX6_hour 23 = .ok (.aload_n 0, 1) := dk_42 (dk_at dksX6_hour_0 23 rfl rfl)
theorem dX6_hour_24 : decode cX6_hour 24 = .ok (.getfield 139, 3) := dk_180 0 139 (dk_at dksX6_hour_1 0 rfl rfl)
theorem dX6_hour_27 : decode cX6_hour 27 = .ok (.aload_n 0, 1) := dk_42 (dk_at dksX6_hour_1 3 rfl rfl)
theorem dX6_hour_28 : decode cX6_hour 28 = .ok (.getfield 151, 3) := dk_180 0 151 (dk_at dksX6_hour_1 4 rfl rfl)
theorem dX6_hour_31 : decode cX6_hour 31 = .ok (.if_icmp .ge 11, 3) := dk_162 0 11 (dk_at dksX6_hour_1 7 rfl rfl)
theorem dX6_hour_34 : decode cX6_hour 34 = .ok (.aload_n 0, 1) := dk_42 (dk_at dksX6_hour_1 10 rfl rfl)
theorem dX6_hour_35 : decode cX6_hour 35 = .ok (.invokevirtual 382, 3) := dk_182 1 126 (dk_at dksX6_hour_1 11 rfl rfl)
theorem dX6_hour_38 : decode cX6_hour 38 = .ok (.istore_n 2, 1) := dk_61 (dk_at dksX6_hour_1 14 rfl rfl)
theorem dX6_hour_39 : decode cX6_hour 39 = .ok (.goto (-20), 3) := dk_167 255 236 (dk_at dksX6_hour_1 15 rfl rfl)
theorem dX6_hour_42 : decode cX6_hour 42 = .ok (.aload_n 0, 1) := dk_42 (dk_at dksX6_hour_1 18 rfl rfl)
theorem dX6_hour_43 : decode cX6_hour 43 = .ok (.iload_n 1, 1) := dk_27 (dk_at dksX6_hour_1 19 rfl rfl)
theorem dX6_hour_44 : decode cX6_hour 44 = .ok (.bipush 60, 2) := dk_16 60 (dk_at dksX6_hour_1 20 rfl rfl)
theorem dX6_hour_46 : decode cX6_hour 46 = .ok (.iload_n 2, 1) := dk_28 (dk_at dksX6_hour_1 22 rfl rfl)
theorem dX6_hour_47 : decode cX6_hour 47 = .ok (.invokevirtual 221, 3) := dk_182 0 221 (dk_at dksX6_hour_2 0 rfl rfl)
theorem dX6_hour_50 : decode cX6_hour 50 = .ok (.istore_n 3, 1) := dk_62 (dk_at dksX6_hour_2 3 rfl rfl)
theorem dX6_hour_51 : decode cX6_hour 51 = .ok (.iload_n 3, 1) := dk_29 (dk_at dksX6_hour_2 4 rfl rfl)
theorem dX6_hour_52 : decode cX6_hour 52 = .ok (.ifCond .ge 5, 3) := dk_156 0 5 (dk_at dksX6_hour_2 5 rfl rfl)
theorem dX6_hour_55 : decode cX6_hour 55 = .ok (.iload_n 3, 1) := dk_29 (dk_at dksX6_hour_2 8 rfl rfl)
theorem dX6_hour_56 : decode cX6_hour 56 = .ok (.ireturn, 1) := dk_172 (dk_at dksX6_hour_2 9 rfl rfl)
theorem dX6_hour_57 : decode cX6_hour 57 = .ok (.aload_n 0, 1) := dk_42 (dk_at dksX6_hour_2 10 rfl rfl)
theorem dX6_hour_58 : decode cX6_hour 58 = .ok (.invokevirtual 352, 3) := dk_182 1 96 (dk_at dksX6_hour_2 11 rfl rfl)
theorem dX6_hour_61 : decode cX6_hour 61 = .ok (.iconst 0, 1) := dk_3 (dk_at dksX6_hour_2 14 rfl rfl)
theorem dX6_hour_62 : decode cX6_hour 62 = .ok (.istore 4, 2) := dk_54 4 (dk_at dksX6_hour_2 15 rfl rfl)
theorem dX6_hour_64 : decode cX6_hour 64 = .ok (.iload 4, 2) := dk_21 4 (dk_at dksX6_hour_2 17 rfl rfl)
theorem dX6_hour_66 : decode cX6_hour 66 = .ok (.aload_n 0, 1) := dk_42 (dk_at dksX6_hour_2 19 rfl rfl)
theorem dX6_hour_67 : decode cX6_hour 67 = .ok (.getfield 374, 3) := dk_180 1 118 (dk_at dksX6_hour_2 20 rfl rfl)
theorem dX6_hour_70 : decode cX6_hour 70 = .ok (.if_icmp .ge 18, 3) := dk_162 0 18 (dk_at dksX6_hour_3 0 rfl rfl)
theorem dX6_hour_73 : decode cX6_hour 73 = .ok (.aload_n 0, 1) := dk_42 (dk_at dksX6_hour_3 3 rfl rfl)
theorem dX6_hour_74 : decode cX6_hour 74 = .ok (.iload 4, 2) := dk_21 4 (dk_at dksX6_hour_3 4 rfl rfl)
theorem dX6_hour_76 : decode cX6_hour 76 = .ok (.invokevirtual 385, 3) := dk_182 1 129 (dk_at dksX6_hour_3 6 rfl rfl)
theorem dX6_hour_79 : decode cX6_hour 79 = .ok (.ifCond .eq 9, 3) := dk_153 0 9 (dk_at dksX6_hour_3 9 rfl rfl)
theorem dX6_hour_82 : decode cX6_hour 82 = .ok (.iinc 4 1, 3) := dk_132 4 1 (dk_at dksX6_hour_3 12 rfl rfl)
theorem dX6_hour_85 : decode cX6_hour 85 = .ok (.goto (-21), 3) := dk_167 255 235 (dk_at dksX6_hour_3 15 rfl rfl)
theorem dX6_hour_88 : decode cX6_hour 88 = .ok (.aload_n 0, 1) := dk_42 (dk_at dksX6_hour_3 18 rfl rfl)
theorem dX6_hour_89 : decode cX6_hour 89 = .ok (.iconst 0, 1) := dk_3 (dk_at dksX6_hour_3 19 rfl rfl)
theorem dX6_hour_90 : decode cX6_hour 90 = .ok (.putfield 119, 3) := dk_181 0 119 (dk_at dksX6_hour_3 20 rfl rfl)
theorem dX6_hour_93 : decode cX6_hour 93 = .ok (.aload_n 0, 1) := dk_42 (dk_at dksX6_hour_3 23 rfl rfl)
theorem dX6_hour_94 : decode cX6_hour 94 = .ok (.iload 4, 2) := dk_21 4 (dk_at dksX6_hour_4 0 rfl rfl)
theorem dX6_hour_96 : decode cX6_hour 96 = .ok (.aload_n 0, 1) := dk_42 (dk_at dksX6_hour_4 2 rfl rfl)
theorem dX6_hour_97 : decode cX6_hour 97 = .ok (.getfield 374, 3) := dk_180 1 118 (dk_at dksX6_hour_4 3 rfl rfl)
theorem dX6_hour_100 : decode cX6_hour 100 = .ok (.if_icmp .ge 7, 3) := dk_162 0 7 (dk_at dksX6_hour_4 6 rfl rfl)
theorem dX6_hour_103 : decode cX6_hour 103 = .ok (.iconst 1, 1) := dk_4 (dk_at dksX6_hour_4 9 rfl rfl)
theorem dX6_hour_104 : decode cX6_hour 104 = .ok (.goto 4, 3) := dk_167 0 4 (dk_at dksX6_hour_4 10 rfl rfl)
theorem dX6_hour_107 : decode cX6_hour 107 = .ok (.iconst 0, 1) := dk_3 (dk_at dksX6_hour_4 13 rfl rfl)
theorem dX6_hour_108 : decode cX6_hour 108 = .ok (.invokestatic 154, 3) := dk_184 0 154 (dk_at dksX6_hour_4 14 rfl rfl)
theorem dX6_hour_111 : decode cX6_hour 111 = .ok (.i2l, 1) := dk_133 (dk_at dksX6_hour_4 17 rfl rfl)
theorem dX6_hour_112 : decode cX6_hour 112 = .ok (.invokevirtual 358, 3) := dk_182 1 102 (dk_at dksX6_hour_4 18 rfl rfl)
theorem dX6_hour_115 : decode cX6_hour 115 = .ok (.aload_n 0, 1) := dk_42 (dk_at dksX6_hour_4 21 rfl rfl)
theorem dX6_hour_116 : decode cX6_hour 116 = .ok (.aload_n 0, 1) := dk_42 (dk_at dksX6_hour_4 22 rfl rfl)
theorem dX6_hour_117 : decode cX6_hour 117 = .ok (.getfield 31, 3) := dk_180 0 31 (dk_at dksX6_hour_5 0 rfl rfl)
theorem dX6_hour_120 : decode cX6_hour 120 = .ok (.bipush 37, 2) := dk_16 37 (dk_at dksX6_hour_5 3 rfl rfl)
theorem dX6_hour_122 : decode cX6_hour 122 = .ok (.iaload, 1) := dk_46 (dk_at dksX6_hour_5 5 rfl rfl)
theorem dX6_hour_123 : decode cX6_hour 123 = .ok (.i2l, 1) := dk_133 (dk_at dksX6_hour_5 6 rfl rfl)
theorem dX6_hour_124 : decode cX6_hour 124 = .ok (.invokevirtual 358, 3) := dk_182 1 102 (dk_at dksX6_hour_5 7 rfl rfl)
theorem dX6_hour_127 : decode cX6_hour 127 = .ok (.iload 4, 2) := dk_21 4 (dk_at dksX6_hour_5 10 rfl rfl)
theorem dX6_hour_129 : decode cX6_hour 129 = .ok (.ifCond .le 12, 3) := dk_158 0 12 (dk_at dksX6_hour_5 12 rfl rfl)
theorem dX6_hour_132 : decode cX6_hour 132 = .ok (.aload_n 0, 1) := dk_42 (dk_at dksX6_hour_5 15 rfl rfl)
theorem dX6_hour_133 : decode cX6_hour 133 = .ok (.iload 4, 2) := dk_21 4 (dk_at dksX6_hour_5 16 rfl rfl)
theorem dX6_hour_135 : decode cX6_hour 135 = .ok (.invokevirtual 318, 3) := dk_182 1 62 (dk_at dksX6_hour_5 18 rfl rfl)
theorem dX6_hour_138 : decode cX6_hour 138 = .ok (.goto 4, 3) := dk_167 0 4 (dk_at dksX6_hour_5 21 rfl rfl)
theorem dX6_hour_141 : decode cX6_hour 141 = .ok (.iconst 0, 1) := dk_3 (dk_at dksX6_hour_6 0 rfl rfl)
theorem dX6_hour_142 : decode cX6_hour 142 = .ok (.ireturn, 1) := dk_172 (dk_at dksX6_hour_6 1 rfl rfl)
abbrev cX6_readsAct : ByteArray := prog_15_method_67_code
def yX6_readsAct : MethodName := ⟨RX6, "readsAct", "()Z"⟩
def dkwX6_readsAct_5 : List UInt8 := [155, 0, 7, 4, 167, 0, 4, 3, 172]
abbrev dktX6_readsAct_5 : List UInt8 := dkwX6_readsAct_5 ++ []
def dkwX6_readsAct_4 : List UInt8 := [27, 46, 7, 160, 0, 7, 3, 167, 0, 4, 4, 16, 9, 182, 1, 123, 79, 42, 180, 0, 79, 27, 46]
abbrev dktX6_readsAct_4 : List UInt8 := dkwX6_readsAct_4 ++ dktX6_readsAct_5
def dkwX6_readsAct_3 : List UInt8 := [180, 0, 76, 27, 46, 155, 0, 7, 4, 167, 0, 4, 3, 172, 42, 180, 0, 79, 27, 42, 42, 180, 0, 73]
abbrev dktX6_readsAct_3 : List UInt8 := dkwX6_readsAct_3 ++ dktX6_readsAct_4
def dkwX6_readsAct_2 : List UInt8 := [182, 0, 189, 79, 42, 180, 0, 76, 27, 46, 155, 0, 13, 42, 180, 0, 73, 27, 46, 5, 162, 0, 18, 42]
abbrev dktX6_readsAct_2 : List UInt8 := dkwX6_readsAct_2 ++ dktX6_readsAct_3
def dkwX6_readsAct_1 : List UInt8 := [96, 181, 1, 118, 42, 180, 0, 73, 27, 46, 156, 0, 5, 3, 172, 42, 180, 0, 76, 27, 42, 4]
abbrev dktX6_readsAct_1 : List UInt8 := dkwX6_readsAct_1 ++ dktX6_readsAct_2
def dkwX6_readsAct_0 : List UInt8 := [42, 180, 1, 118, 60, 42, 180, 0, 73, 27, 42, 19, 1, 121, 182, 0, 182, 79, 42, 89, 180, 1, 118, 4]
abbrev dktX6_readsAct_0 : List UInt8 := dkwX6_readsAct_0 ++ dktX6_readsAct_1
theorem dksX6_readsAct_0 : cX6_readsAct.data.toList.drop 0 = dktX6_readsAct_0 := by decide +kernel
theorem dksX6_readsAct_1 : cX6_readsAct.data.toList.drop 24 = dktX6_readsAct_1 := dk_seg dksX6_readsAct_0 24 rfl rfl
theorem dksX6_readsAct_2 : cX6_readsAct.data.toList.drop 46 = dktX6_readsAct_2 := dk_seg dksX6_readsAct_1 22 rfl rfl
theorem dksX6_readsAct_3 : cX6_readsAct.data.toList.drop 70 = dktX6_readsAct_3 := dk_seg dksX6_readsAct_2 24 rfl rfl
theorem dksX6_readsAct_4 : cX6_readsAct.data.toList.drop 94 = dktX6_readsAct_4 := dk_seg dksX6_readsAct_3 24 rfl rfl
theorem dksX6_readsAct_5 : cX6_readsAct.data.toList.drop 117 = dktX6_readsAct_5 := dk_seg dksX6_readsAct_4 23 rfl rfl
theorem dX6_readsAct_0 : decode cX6_readsAct 0 = .ok (.aload_n 0, 1) := dk_42 (dk_at dksX6_readsAct_0 0 rfl rfl)
theorem dX6_readsAct_1 : decode cX6_readsAct 1 = .ok (.getfield 374, 3) := dk_180 1 118 (dk_at dksX6_readsAct_0 1 rfl rfl)
theorem dX6_readsAct_4 : decode cX6_readsAct 4 = .ok (.istore_n 1, 1) := dk_60 (dk_at dksX6_readsAct_0 4 rfl rfl)
theorem dX6_readsAct_5 : decode cX6_readsAct 5 = .ok (.aload_n 0, 1) := dk_42 (dk_at dksX6_readsAct_0 5 rfl rfl)
theorem dX6_readsAct_6 : decode cX6_readsAct 6 = .ok (.getfield 73, 3) := dk_180 0 73 (dk_at dksX6_readsAct_0 6 rfl rfl)
theorem dX6_readsAct_9 : decode cX6_readsAct 9 = .ok (.iload_n 1, 1) := dk_27 (dk_at dksX6_readsAct_0 9 rfl rfl)
theorem dX6_readsAct_10 : decode cX6_readsAct 10 = .ok (.aload_n 0, 1) := dk_42 (dk_at dksX6_readsAct_0 10 rfl rfl)
theorem dX6_readsAct_11 : decode cX6_readsAct 11 = .ok (.ldc_w 377, 3) := dk_19 1 121 (dk_at dksX6_readsAct_0 11 rfl rfl)
theorem dX6_readsAct_14 : decode cX6_readsAct 14 = .ok (.invokevirtual 182, 3) := dk_182 0 182 (dk_at dksX6_readsAct_0 14 rfl rfl)
theorem dX6_readsAct_17 : decode cX6_readsAct 17 = .ok (.iastore, 1) := dk_79 (dk_at dksX6_readsAct_0 17 rfl rfl)
theorem dX6_readsAct_18 : decode cX6_readsAct 18 = .ok (.aload_n 0, 1) := dk_42 (dk_at dksX6_readsAct_0 18 rfl rfl)
theorem dX6_readsAct_19 : decode cX6_readsAct 19 = .ok (.dup, 1) := dk_89 (dk_at dksX6_readsAct_0 19 rfl rfl)
theorem dX6_readsAct_20 : decode cX6_readsAct 20 = .ok (.getfield 374, 3) := dk_180 1 118 (dk_at dksX6_readsAct_0 20 rfl rfl)
theorem dX6_readsAct_23 : decode cX6_readsAct 23 = .ok (.iconst 1, 1) := dk_4 (dk_at dksX6_readsAct_0 23 rfl rfl)
theorem dX6_readsAct_24 : decode cX6_readsAct 24 = .ok (.iadd, 1) := dk_96 (dk_at dksX6_readsAct_1 0 rfl rfl)
theorem dX6_readsAct_25 : decode cX6_readsAct 25 = .ok (.putfield 374, 3) := dk_181 1 118 (dk_at dksX6_readsAct_1 1 rfl rfl)
theorem dX6_readsAct_28 : decode cX6_readsAct 28 = .ok (.aload_n 0, 1) := dk_42 (dk_at dksX6_readsAct_1 4 rfl rfl)
theorem dX6_readsAct_29 : decode cX6_readsAct 29 = .ok (.getfield 73, 3) := dk_180 0 73 (dk_at dksX6_readsAct_1 5 rfl rfl)
theorem dX6_readsAct_32 : decode cX6_readsAct 32 = .ok (.iload_n 1, 1) := dk_27 (dk_at dksX6_readsAct_1 8 rfl rfl)
theorem dX6_readsAct_33 : decode cX6_readsAct 33 = .ok (.iaload, 1) := dk_46 (dk_at dksX6_readsAct_1 9 rfl rfl)
theorem dX6_readsAct_34 : decode cX6_readsAct 34 = .ok (.ifCond .ge 5, 3) := dk_156 0 5 (dk_at dksX6_readsAct_1 10 rfl rfl)
theorem dX6_readsAct_37 : decode cX6_readsAct 37 = .ok (.iconst 0, 1) := dk_3 (dk_at dksX6_readsAct_1 13 rfl rfl)
theorem dX6_readsAct_38 : decode cX6_readsAct 38 = .ok (.ireturn, 1) := dk_172 (dk_at dksX6_readsAct_1 14 rfl rfl)
theorem dX6_readsAct_39 : decode cX6_readsAct 39 = .ok (.aload_n 0, 1) := dk_42 (dk_at dksX6_readsAct_1 15 rfl rfl)
theorem dX6_readsAct_40 : decode cX6_readsAct 40 = .ok (.getfield 76, 3) := dk_180 0 76 (dk_at dksX6_readsAct_1 16 rfl rfl)
theorem dX6_readsAct_43 : decode cX6_readsAct 43 = .ok (.iload_n 1, 1) := dk_27 (dk_at dksX6_readsAct_1 19 rfl rfl)
theorem dX6_readsAct_44 : decode cX6_readsAct 44 = .ok (.aload_n 0, 1) := dk_42 (dk_at dksX6_readsAct_1 20 rfl rfl)
theorem dX6_readsAct_45 : decode cX6_readsAct 45 = .ok (.iconst 1, 1) := dk_4 (dk_at dksX6_readsAct_1 21 rfl rfl)
theorem dX6_readsAct_46 : decode cX6_readsAct 46 = .ok (.invokevirtual 189, 3) := dk_182 0 189 (dk_at dksX6_readsAct_2 0 rfl rfl)
theorem dX6_readsAct_49 : decode cX6_readsAct 49 = .ok (.iastore, 1) := dk_79 (dk_at dksX6_readsAct_2 3 rfl rfl)
theorem dX6_readsAct_50 : decode cX6_readsAct 50 = .ok (.aload_n 0, 1) := dk_42 (dk_at dksX6_readsAct_2 4 rfl rfl)
theorem dX6_readsAct_51 : decode cX6_readsAct 51 = .ok (.getfield 76, 3) := dk_180 0 76 (dk_at dksX6_readsAct_2 5 rfl rfl)
theorem dX6_readsAct_54 : decode cX6_readsAct 54 = .ok (.iload_n 1, 1) := dk_27 (dk_at dksX6_readsAct_2 8 rfl rfl)
theorem dX6_readsAct_55 : decode cX6_readsAct 55 = .ok (.iaload, 1) := dk_46 (dk_at dksX6_readsAct_2 9 rfl rfl)
theorem dX6_readsAct_56 : decode cX6_readsAct 56 = .ok (.ifCond .lt 13, 3) := dk_155 0 13 (dk_at dksX6_readsAct_2 10 rfl rfl)
theorem dX6_readsAct_59 : decode cX6_readsAct 59 = .ok (.aload_n 0, 1) := dk_42 (dk_at dksX6_readsAct_2 13 rfl rfl)
theorem dX6_readsAct_60 : decode cX6_readsAct 60 = .ok (.getfield 73, 3) := dk_180 0 73 (dk_at dksX6_readsAct_2 14 rfl rfl)
theorem dX6_readsAct_63 : decode cX6_readsAct 63 = .ok (.iload_n 1, 1) := dk_27 (dk_at dksX6_readsAct_2 17 rfl rfl)
theorem dX6_readsAct_64 : decode cX6_readsAct 64 = .ok (.iaload, 1) := dk_46 (dk_at dksX6_readsAct_2 18 rfl rfl)
theorem dX6_readsAct_65 : decode cX6_readsAct 65 = .ok (.iconst 2, 1) := dk_5 (dk_at dksX6_readsAct_2 19 rfl rfl)
theorem dX6_readsAct_66 : decode cX6_readsAct 66 = .ok (.if_icmp .ge 18, 3) := dk_162 0 18 (dk_at dksX6_readsAct_2 20 rfl rfl)
theorem dX6_readsAct_69 : decode cX6_readsAct 69 = .ok (.aload_n 0, 1) := dk_42 (dk_at dksX6_readsAct_2 23 rfl rfl)
theorem dX6_readsAct_70 : decode cX6_readsAct 70 = .ok (.getfield 76, 3) := dk_180 0 76 (dk_at dksX6_readsAct_3 0 rfl rfl)
theorem dX6_readsAct_73 : decode cX6_readsAct 73 = .ok (.iload_n 1, 1) := dk_27 (dk_at dksX6_readsAct_3 3 rfl rfl)
theorem dX6_readsAct_74 : decode cX6_readsAct 74 = .ok (.iaload, 1) := dk_46 (dk_at dksX6_readsAct_3 4 rfl rfl)
theorem dX6_readsAct_75 : decode cX6_readsAct 75 = .ok (.ifCond .lt 7, 3) := dk_155 0 7 (dk_at dksX6_readsAct_3 5 rfl rfl)
theorem dX6_readsAct_78 : decode cX6_readsAct 78 = .ok (.iconst 1, 1) := dk_4 (dk_at dksX6_readsAct_3 8 rfl rfl)
theorem dX6_readsAct_79 : decode cX6_readsAct 79 = .ok (.goto 4, 3) := dk_167 0 4 (dk_at dksX6_readsAct_3 9 rfl rfl)
theorem dX6_readsAct_82 : decode cX6_readsAct 82 = .ok (.iconst 0, 1) := dk_3 (dk_at dksX6_readsAct_3 12 rfl rfl)
theorem dX6_readsAct_83 : decode cX6_readsAct 83 = .ok (.ireturn, 1) := dk_172 (dk_at dksX6_readsAct_3 13 rfl rfl)
theorem dX6_readsAct_84 : decode cX6_readsAct 84 = .ok (.aload_n 0, 1) := dk_42 (dk_at dksX6_readsAct_3 14 rfl rfl)
theorem dX6_readsAct_85 : decode cX6_readsAct 85 = .ok (.getfield 79, 3) := dk_180 0 79 (dk_at dksX6_readsAct_3 15 rfl rfl)
theorem dX6_readsAct_88 : decode cX6_readsAct 88 = .ok (.iload_n 1, 1) := dk_27 (dk_at dksX6_readsAct_3 18 rfl rfl)
theorem dX6_readsAct_89 : decode cX6_readsAct 89 = .ok (.aload_n 0, 1) := dk_42 (dk_at dksX6_readsAct_3 19 rfl rfl)
theorem dX6_readsAct_90 : decode cX6_readsAct 90 = .ok (.aload_n 0, 1) := dk_42 (dk_at dksX6_readsAct_3 20 rfl rfl)
theorem dX6_readsAct_91 : decode cX6_readsAct 91 = .ok (.getfield 73, 3) := dk_180 0 73 (dk_at dksX6_readsAct_3 21 rfl rfl)
theorem dX6_readsAct_94 : decode cX6_readsAct 94 = .ok (.iload_n 1, 1) := dk_27 (dk_at dksX6_readsAct_4 0 rfl rfl)
theorem dX6_readsAct_95 : decode cX6_readsAct 95 = .ok (.iaload, 1) := dk_46 (dk_at dksX6_readsAct_4 1 rfl rfl)
theorem dX6_readsAct_96 : decode cX6_readsAct 96 = .ok (.iconst 4, 1) := dk_7 (dk_at dksX6_readsAct_4 2 rfl rfl)
theorem dX6_readsAct_97 : decode cX6_readsAct 97 = .ok (.if_icmp .ne 7, 3) := dk_160 0 7 (dk_at dksX6_readsAct_4 3 rfl rfl)
theorem dX6_readsAct_100 : decode cX6_readsAct 100 = .ok (.iconst 0, 1) := dk_3 (dk_at dksX6_readsAct_4 6 rfl rfl)
theorem dX6_readsAct_101 : decode cX6_readsAct 101 = .ok (.goto 4, 3) := dk_167 0 4 (dk_at dksX6_readsAct_4 7 rfl rfl)
theorem dX6_readsAct_104 : decode cX6_readsAct 104 = .ok (.iconst 1, 1) := dk_4 (dk_at dksX6_readsAct_4 10 rfl rfl)
theorem dX6_readsAct_105 : decode cX6_readsAct 105 = .ok (.bipush 9, 2) := dk_16 9 (dk_at dksX6_readsAct_4 11 rfl rfl)
theorem dX6_readsAct_107 : decode cX6_readsAct 107 = .ok (.invokevirtual 379, 3) := dk_182 1 123 (dk_at dksX6_readsAct_4 13 rfl rfl)
theorem dX6_readsAct_110 : decode cX6_readsAct 110 = .ok (.iastore, 1) := dk_79 (dk_at dksX6_readsAct_4 16 rfl rfl)
theorem dX6_readsAct_111 : decode cX6_readsAct 111 = .ok (.aload_n 0, 1) := dk_42 (dk_at dksX6_readsAct_4 17 rfl rfl)
theorem dX6_readsAct_112 : decode cX6_readsAct 112 = .ok (.getfield 79, 3) := dk_180 0 79 (dk_at dksX6_readsAct_4 18 rfl rfl)
theorem dX6_readsAct_115 : decode cX6_readsAct 115 = .ok (.iload_n 1, 1) := dk_27 (dk_at dksX6_readsAct_4 21 rfl rfl)
theorem dX6_readsAct_116 : decode cX6_readsAct 116 = .ok (.iaload, 1) := dk_46 (dk_at dksX6_readsAct_4 22 rfl rfl)
theorem dX6_readsAct_117 : decode cX6_readsAct 117 = .ok (.ifCond .lt 7, 3) := dk_155 0 7 (dk_at dksX6_readsAct_5 0 rfl rfl)
theorem dX6_readsAct_120 : decode cX6_readsAct 120 = .ok (.iconst 1, 1) := dk_4 (dk_at dksX6_readsAct_5 3 rfl rfl)
theorem dX6_readsAct_121 : decode cX6_readsAct 121 = .ok (.goto 4, 3) := dk_167 0 4 (dk_at dksX6_readsAct_5 4 rfl rfl)
theorem dX6_readsAct_124 : decode cX6_readsAct 124 = .ok (.iconst 0, 1) := dk_3 (dk_at dksX6_readsAct_5 7 rfl rfl)
theorem dX6_readsAct_125 : decode cX6_readsAct 125 = .ok (.ireturn, 1) := dk_172 (dk_at dksX6_readsAct_5 8 rfl rfl)
abbrev cX6_digitIn : ByteArray := prog_15_method_25_code
def yX6_digitIn : MethodName := ⟨RX6, "digitIn", "(II)I"⟩
def dkwX6_digitIn_2 : List UInt8 := [180, 0, 37, 42, 180, 0, 139, 4, 100, 46, 16, 48, 100, 172]
abbrev dktX6_digitIn_2 : List UInt8 := dkwX6_digitIn_2 ++ []
def dkwX6_digitIn_1 : List UInt8 := [27, 133, 28, 133, 184, 0, 125, 154, 0, 5, 2, 172, 42, 89, 180, 0, 139, 4, 96, 181, 0, 139, 42]
abbrev dktX6_digitIn_1 : List UInt8 := dkwX6_digitIn_1 ++ dktX6_digitIn_2
def dkwX6_digitIn_0 : List UInt8 := [42, 180, 0, 139, 42, 180, 0, 151, 162, 0, 26, 42, 180, 0, 37, 42, 180, 0, 139, 46, 16, 48, 100, 133]
abbrev dktX6_digitIn_0 : List UInt8 := dkwX6_digitIn_0 ++ dktX6_digitIn_1
theorem dksX6_digitIn_0 : cX6_digitIn.data.toList.drop 0 = dktX6_digitIn_0 := by decide +kernel
theorem dksX6_digitIn_1 : cX6_digitIn.data.toList.drop 24 = dktX6_digitIn_1 := dk_seg dksX6_digitIn_0 24 rfl rfl
theorem dksX6_digitIn_2 : cX6_digitIn.data.toList.drop 47 = dktX6_digitIn_2 := dk_seg dksX6_digitIn_1 23 rfl rfl
theorem dX6_digitIn_0 : decode cX6_digitIn 0 = .ok (.aload_n 0, 1) := dk_42 (dk_at dksX6_digitIn_0 0 rfl rfl)
theorem dX6_digitIn_1 : decode cX6_digitIn 1 = .ok (.getfield 139, 3) := dk_180 0 139 (dk_at dksX6_digitIn_0 1 rfl rfl)
theorem dX6_digitIn_4 : decode cX6_digitIn 4 = .ok (.aload_n 0, 1) := dk_42 (dk_at dksX6_digitIn_0 4 rfl rfl)
theorem dX6_digitIn_5 : decode cX6_digitIn 5 = .ok (.getfield 151, 3) := dk_180 0 151 (dk_at dksX6_digitIn_0 5 rfl rfl)
theorem dX6_digitIn_8 : decode cX6_digitIn 8 = .ok (.if_icmp .ge 26, 3) := dk_162 0 26 (dk_at dksX6_digitIn_0 8 rfl rfl)
theorem dX6_digitIn_11 : decode cX6_digitIn 11 = .ok (.aload_n 0, 1) := dk_42 (dk_at dksX6_digitIn_0 11 rfl rfl)
theorem dX6_digitIn_12 : decode cX6_digitIn 12 = .ok (.getfield 37, 3) := dk_180 0 37 (dk_at dksX6_digitIn_0 12 rfl rfl)
theorem dX6_digitIn_15 : decode cX6_digitIn 15 = .ok (.aload_n 0, 1) := dk_42 (dk_at dksX6_digitIn_0 15 rfl rfl)
theorem dX6_digitIn_16 : decode cX6_digitIn 16 = .ok (.getfield 139, 3) := dk_180 0 139 (dk_at dksX6_digitIn_0 16 rfl rfl)
theorem dX6_digitIn_19 : decode cX6_digitIn 19 = .ok (.iaload, 1) := dk_46 (dk_at dksX6_digitIn_0 19 rfl rfl)
theorem dX6_digitIn_20 : decode cX6_digitIn 20 = .ok (.bipush 48, 2) := dk_16 48 (dk_at dksX6_digitIn_0 20 rfl rfl)
theorem dX6_digitIn_22 : decode cX6_digitIn 22 = .ok (.isub, 1) := dk_100 (dk_at dksX6_digitIn_0 22 rfl rfl)
theorem dX6_digitIn_23 : decode cX6_digitIn 23 = .ok (.i2l, 1) := dk_133 (dk_at dksX6_digitIn_0 23 rfl rfl)
theorem dX6_digitIn_24 : decode cX6_digitIn 24 = .ok (.iload_n 1, 1) := dk_27 (dk_at dksX6_digitIn_1 0 rfl rfl)
theorem dX6_digitIn_25 : decode cX6_digitIn 25 = .ok (.i2l, 1) := dk_133 (dk_at dksX6_digitIn_1 1 rfl rfl)
theorem dX6_digitIn_26 : decode cX6_digitIn 26 = .ok (.iload_n 2, 1) := dk_28 (dk_at dksX6_digitIn_1 2 rfl rfl)
theorem dX6_digitIn_27 : decode cX6_digitIn 27 = .ok (.i2l, 1) := dk_133 (dk_at dksX6_digitIn_1 3 rfl rfl)
theorem dX6_digitIn_28 : decode cX6_digitIn 28 = .ok (.invokestatic 125, 3) := dk_184 0 125 (dk_at dksX6_digitIn_1 4 rfl rfl)
theorem dX6_digitIn_31 : decode cX6_digitIn 31 = .ok (.ifCond .ne 5, 3) := dk_154 0 5 (dk_at dksX6_digitIn_1 7 rfl rfl)
theorem dX6_digitIn_34 : decode cX6_digitIn 34 = .ok (.iconst (-1), 1) := dk_2 (dk_at dksX6_digitIn_1 10 rfl rfl)
theorem dX6_digitIn_35 : decode cX6_digitIn 35 = .ok (.ireturn, 1) := dk_172 (dk_at dksX6_digitIn_1 11 rfl rfl)
theorem dX6_digitIn_36 : decode cX6_digitIn 36 = .ok (.aload_n 0, 1) := dk_42 (dk_at dksX6_digitIn_1 12 rfl rfl)
theorem dX6_digitIn_37 : decode cX6_digitIn 37 = .ok (.dup, 1) := dk_89 (dk_at dksX6_digitIn_1 13 rfl rfl)
theorem dX6_digitIn_38 : decode cX6_digitIn 38 = .ok (.getfield 139, 3) := dk_180 0 139 (dk_at dksX6_digitIn_1 14 rfl rfl)
theorem dX6_digitIn_41 : decode cX6_digitIn 41 = .ok (.iconst 1, 1) := dk_4 (dk_at dksX6_digitIn_1 17 rfl rfl)
theorem dX6_digitIn_42 : decode cX6_digitIn 42 = .ok (.iadd, 1) := dk_96 (dk_at dksX6_digitIn_1 18 rfl rfl)
theorem dX6_digitIn_43 : decode cX6_digitIn 43 = .ok (.putfield 139, 3) := dk_181 0 139 (dk_at dksX6_digitIn_1 19 rfl rfl)
theorem dX6_digitIn_46 : decode cX6_digitIn 46 = .ok (.aload_n 0, 1) := dk_42 (dk_at dksX6_digitIn_1 22 rfl rfl)
theorem dX6_digitIn_47 : decode cX6_digitIn 47 = .ok (.getfield 37, 3) := dk_180 0 37 (dk_at dksX6_digitIn_2 0 rfl rfl)
theorem dX6_digitIn_50 : decode cX6_digitIn 50 = .ok (.aload_n 0, 1) := dk_42 (dk_at dksX6_digitIn_2 3 rfl rfl)
theorem dX6_digitIn_51 : decode cX6_digitIn 51 = .ok (.getfield 139, 3) := dk_180 0 139 (dk_at dksX6_digitIn_2 4 rfl rfl)
theorem dX6_digitIn_54 : decode cX6_digitIn 54 = .ok (.iconst 1, 1) := dk_4 (dk_at dksX6_digitIn_2 7 rfl rfl)
theorem dX6_digitIn_55 : decode cX6_digitIn 55 = .ok (.isub, 1) := dk_100 (dk_at dksX6_digitIn_2 8 rfl rfl)
theorem dX6_digitIn_56 : decode cX6_digitIn 56 = .ok (.iaload, 1) := dk_46 (dk_at dksX6_digitIn_2 9 rfl rfl)
theorem dX6_digitIn_57 : decode cX6_digitIn 57 = .ok (.bipush 48, 2) := dk_16 48 (dk_at dksX6_digitIn_2 10 rfl rfl)
theorem dX6_digitIn_59 : decode cX6_digitIn 59 = .ok (.isub, 1) := dk_100 (dk_at dksX6_digitIn_2 12 rfl rfl)
theorem dX6_digitIn_60 : decode cX6_digitIn 60 = .ok (.ireturn, 1) := dk_172 (dk_at dksX6_digitIn_2 13 rfl rfl)
abbrev cX6_does : ByteArray := prog_15_method_68_code
def yX6_does : MethodName := ⟨RX6, "does", "(I)Z"⟩
def dkwX6_does_6 : List UInt8 := [3, 172, 42, 28, 42, 180, 0, 79, 27, 46, 182, 1, 115, 155, 0, 7, 4, 167, 0, 4, 3, 172]
abbrev dktX6_does_6 : List UInt8 := dkwX6_does_6 ++ []
def dkwX6_does_5 : List UInt8 := [172, 42, 42, 180, 0, 31, 28, 42, 180, 0, 79, 27, 46, 116, 182, 1, 112, 155, 0, 7, 4, 167, 0, 4]
abbrev dktX6_does_5 : List UInt8 := dkwX6_does_5 ++ dktX6_does_6
def dkwX6_does_4 : List UInt8 := [172, 42, 42, 180, 0, 31, 28, 42, 180, 0, 79, 27, 46, 182, 1, 112, 155, 0, 7, 4, 167, 0, 4, 3]
abbrev dktX6_does_4 : List UInt8 := dkwX6_does_4 ++ dktX6_does_5
def dkwX6_does_3 : List UInt8 := [42, 180, 0, 31, 28, 182, 1, 106, 62, 29, 156, 0, 9, 29, 16, 252, 160, 0, 7, 4, 167, 0, 4, 3]
abbrev dktX6_does_3 : List UInt8 := dkwX6_does_3 ++ dktX6_does_4
def dkwX6_does_2 : List UInt8 := [3, 62, 29, 28, 162, 0, 17, 42, 42, 180, 0, 31, 182, 1, 87, 132, 3, 1, 167, 255, 240, 4, 172, 42]
abbrev dktX6_does_2 : List UInt8 := dkwX6_does_2 ++ dktX6_does_3
def dkwX6_does_1 : List UInt8 := [170, 0, 0, 0, 0, 0, 129, 0, 0, 0, 0, 0, 0, 0, 3, 0, 0, 0, 31, 0, 0, 0, 54, 0, 0, 0, 80, 0, 0, 0, 104]
abbrev dktX6_does_1 : List UInt8 := dkwX6_does_1 ++ dktX6_does_2
def dkwX6_does_0 : List UInt8 := [42, 180, 0, 76, 27, 46, 61, 42, 180, 0, 73, 27, 46]
abbrev dktX6_does_0 : List UInt8 := dkwX6_does_0 ++ dktX6_does_1
theorem dksX6_does_0 : cX6_does.data.toList.drop 0 = dktX6_does_0 := by decide +kernel
theorem dksX6_does_1 : cX6_does.data.toList.drop 13 = dktX6_does_1 := dk_seg dksX6_does_0 13 rfl rfl
theorem dksX6_does_2 : cX6_does.data.toList.drop 44 = dktX6_does_2 := dk_seg dksX6_does_1 31 rfl rfl
theorem dksX6_does_3 : cX6_does.data.toList.drop 68 = dktX6_does_3 := dk_seg dksX6_does_2 24 rfl rfl
theorem dksX6_does_4 : cX6_does.data.toList.drop 92 = dktX6_does_4 := dk_seg dksX6_does_3 24 rfl rfl
theorem dksX6_does_5 : cX6_does.data.toList.drop 116 = dktX6_does_5 := dk_seg dksX6_does_4 24 rfl rfl
theorem dksX6_does_6 : cX6_does.data.toList.drop 140 = dktX6_does_6 := dk_seg dksX6_does_5 24 rfl rfl
theorem dX6_does_0 : decode cX6_does 0 = .ok (.aload_n 0, 1) := dk_42 (dk_at dksX6_does_0 0 rfl rfl)
theorem dX6_does_1 : decode cX6_does 1 = .ok (.getfield 76, 3) := dk_180 0 76 (dk_at dksX6_does_0 1 rfl rfl)
theorem dX6_does_4 : decode cX6_does 4 = .ok (.iload_n 1, 1) := dk_27 (dk_at dksX6_does_0 4 rfl rfl)
theorem dX6_does_5 : decode cX6_does 5 = .ok (.iaload, 1) := dk_46 (dk_at dksX6_does_0 5 rfl rfl)
theorem dX6_does_6 : decode cX6_does 6 = .ok (.istore_n 2, 1) := dk_61 (dk_at dksX6_does_0 6 rfl rfl)
theorem dX6_does_7 : decode cX6_does 7 = .ok (.aload_n 0, 1) := dk_42 (dk_at dksX6_does_0 7 rfl rfl)
theorem dX6_does_8 : decode cX6_does 8 = .ok (.getfield 73, 3) := dk_180 0 73 (dk_at dksX6_does_0 8 rfl rfl)
theorem dX6_does_11 : decode cX6_does 11 = .ok (.iload_n 1, 1) := dk_27 (dk_at dksX6_does_0 11 rfl rfl)
theorem dX6_does_12 : decode cX6_does 12 = .ok (.iaload, 1) := dk_46 (dk_at dksX6_does_0 12 rfl rfl)
theorem dX6_does_13 : decode cX6_does 13 = .ok (.tableswitch 129 0 3 #[31, 54, 80, 104], 31) := by decide +kernel
theorem dX6_does_44 : decode cX6_does 44 = .ok (.iconst 0, 1) := dk_3 (dk_at dksX6_does_2 0 rfl rfl)
theorem dX6_does_45 : decode cX6_does 45 = .ok (.istore_n 3, 1) := dk_62 (dk_at dksX6_does_2 1 rfl rfl)
theorem dX6_does_46 : decode cX6_does 46 = .ok (.iload_n 3, 1) := dk_29 (dk_at dksX6_does_2 2 rfl rfl)
theorem dX6_does_47 : decode cX6_does 47 = .ok (.iload_n 2, 1) := dk_28 (dk_at dksX6_does_2 3 rfl rfl)
theorem dX6_does_48 : decode cX6_does 48 = .ok (.if_icmp .ge 17, 3) := dk_162 0 17 (dk_at dksX6_does_2 4 rfl rfl)
theorem dX6_does_51 : decode cX6_does 51 = .ok (.aload_n 0, 1) := dk_42 (dk_at dksX6_does_2 7 rfl rfl)
theorem dX6_does_52 : decode cX6_does 52 = .ok (.aload_n 0, 1) := dk_42 (dk_at dksX6_does_2 8 rfl rfl)
theorem dX6_does_53 : decode cX6_does 53 = .ok (.getfield 31, 3) := dk_180 0 31 (dk_at dksX6_does_2 9 rfl rfl)
theorem dX6_does_56 : decode cX6_does 56 = .ok (.invokevirtual 343, 3) := dk_182 1 87 (dk_at dksX6_does_2 12 rfl rfl)
theorem dX6_does_59 : decode cX6_does 59 = .ok (.iinc 3 1, 3) := dk_132 3 1 (dk_at dksX6_does_2 15 rfl rfl)
theorem dX6_does_62 : decode cX6_does 62 = .ok (.goto (-16), 3) := dk_167 255 240 (dk_at dksX6_does_2 18 rfl rfl)
theorem dX6_does_65 : decode cX6_does 65 = .ok (.iconst 1, 1) := dk_4 (dk_at dksX6_does_2 21 rfl rfl)
theorem dX6_does_66 : decode cX6_does 66 = .ok (.ireturn, 1) := dk_172 (dk_at dksX6_does_2 22 rfl rfl)
theorem dX6_does_67 : decode cX6_does 67 = .ok (.aload_n 0, 1) := dk_42 (dk_at dksX6_does_2 23 rfl rfl)
theorem dX6_does_68 : decode cX6_does 68 = .ok (.aload_n 0, 1) := dk_42 (dk_at dksX6_does_3 0 rfl rfl)
theorem dX6_does_69 : decode cX6_does 69 = .ok (.getfield 31, 3) := dk_180 0 31 (dk_at dksX6_does_3 1 rfl rfl)
theorem dX6_does_72 : decode cX6_does 72 = .ok (.iload_n 2, 1) := dk_28 (dk_at dksX6_does_3 4 rfl rfl)
theorem dX6_does_73 : decode cX6_does 73 = .ok (.invokevirtual 362, 3) := dk_182 1 106 (dk_at dksX6_does_3 5 rfl rfl)
theorem dX6_does_76 : decode cX6_does 76 = .ok (.istore_n 3, 1) := dk_62 (dk_at dksX6_does_3 8 rfl rfl)
theorem dX6_does_77 : decode cX6_does 77 = .ok (.iload_n 3, 1) := dk_29 (dk_at dksX6_does_3 9 rfl rfl)
theorem dX6_does_78 : decode cX6_does 78 = .ok (.ifCond .ge 9, 3) := dk_156 0 9 (dk_at dksX6_does_3 10 rfl rfl)
theorem dX6_does_81 : decode cX6_does 81 = .ok (.iload_n 3, 1) := dk_29 (dk_at dksX6_does_3 13 rfl rfl)
theorem dX6_does_82 : decode cX6_does 82 = .ok (.bipush (-4), 2) := dk_16 252 (dk_at dksX6_does_3 14 rfl rfl)
theorem dX6_does_84 : decode cX6_does 84 = .ok (.if_icmp .ne 7, 3) := dk_160 0 7 (dk_at dksX6_does_3 16 rfl rfl)
theorem dX6_does_87 : decode cX6_does 87 = .ok (.iconst 1, 1) := dk_4 (dk_at dksX6_does_3 19 rfl rfl)
theorem dX6_does_88 : decode cX6_does 88 = .ok (.goto 4, 3) := dk_167 0 4 (dk_at dksX6_does_3 20 rfl rfl)
theorem dX6_does_91 : decode cX6_does 91 = .ok (.iconst 0, 1) := dk_3 (dk_at dksX6_does_3 23 rfl rfl)
theorem dX6_does_92 : decode cX6_does 92 = .ok (.ireturn, 1) := dk_172 (dk_at dksX6_does_4 0 rfl rfl)
theorem dX6_does_93 : decode cX6_does 93 = .ok (.aload_n 0, 1) := dk_42 (dk_at dksX6_does_4 1 rfl rfl)
theorem dX6_does_94 : decode cX6_does 94 = .ok (.aload_n 0, 1) := dk_42 (dk_at dksX6_does_4 2 rfl rfl)
theorem dX6_does_95 : decode cX6_does 95 = .ok (.getfield 31, 3) := dk_180 0 31 (dk_at dksX6_does_4 3 rfl rfl)
theorem dX6_does_98 : decode cX6_does 98 = .ok (.iload_n 2, 1) := dk_28 (dk_at dksX6_does_4 6 rfl rfl)
theorem dX6_does_99 : decode cX6_does 99 = .ok (.aload_n 0, 1) := dk_42 (dk_at dksX6_does_4 7 rfl rfl)
theorem dX6_does_100 : decode cX6_does 100 = .ok (.getfield 79, 3) := dk_180 0 79 (dk_at dksX6_does_4 8 rfl rfl)
theorem dX6_does_103 : decode cX6_does 103 = .ok (.iload_n 1, 1) := dk_27 (dk_at dksX6_does_4 11 rfl rfl)
theorem dX6_does_104 : decode cX6_does 104 = .ok (.iaload, 1) := dk_46 (dk_at dksX6_does_4 12 rfl rfl)
theorem dX6_does_105 : decode cX6_does 105 = .ok (.invokevirtual 368, 3) := dk_182 1 112 (dk_at dksX6_does_4 13 rfl rfl)
theorem dX6_does_108 : decode cX6_does 108 = .ok (.ifCond .lt 7, 3) := dk_155 0 7 (dk_at dksX6_does_4 16 rfl rfl)
theorem dX6_does_111 : decode cX6_does 111 = .ok (.iconst 1, 1) := dk_4 (dk_at dksX6_does_4 19 rfl rfl)
theorem dX6_does_112 : decode cX6_does 112 = .ok (.goto 4, 3) := dk_167 0 4 (dk_at dksX6_does_4 20 rfl rfl)
theorem dX6_does_115 : decode cX6_does 115 = .ok (.iconst 0, 1) := dk_3 (dk_at dksX6_does_4 23 rfl rfl)
theorem dX6_does_116 : decode cX6_does 116 = .ok (.ireturn, 1) := dk_172 (dk_at dksX6_does_5 0 rfl rfl)
theorem dX6_does_117 : decode cX6_does 117 = .ok (.aload_n 0, 1) := dk_42 (dk_at dksX6_does_5 1 rfl rfl)
theorem dX6_does_118 : decode cX6_does 118 = .ok (.aload_n 0, 1) := dk_42 (dk_at dksX6_does_5 2 rfl rfl)
theorem dX6_does_119 : decode cX6_does 119 = .ok (.getfield 31, 3) := dk_180 0 31 (dk_at dksX6_does_5 3 rfl rfl)
theorem dX6_does_122 : decode cX6_does 122 = .ok (.iload_n 2, 1) := dk_28 (dk_at dksX6_does_5 6 rfl rfl)
theorem dX6_does_123 : decode cX6_does 123 = .ok (.aload_n 0, 1) := dk_42 (dk_at dksX6_does_5 7 rfl rfl)
theorem dX6_does_124 : decode cX6_does 124 = .ok (.getfield 79, 3) := dk_180 0 79 (dk_at dksX6_does_5 8 rfl rfl)
theorem dX6_does_127 : decode cX6_does 127 = .ok (.iload_n 1, 1) := dk_27 (dk_at dksX6_does_5 11 rfl rfl)
theorem dX6_does_128 : decode cX6_does 128 = .ok (.iaload, 1) := dk_46 (dk_at dksX6_does_5 12 rfl rfl)
theorem dX6_does_129 : decode cX6_does 129 = .ok (.ineg, 1) := dk_116 (dk_at dksX6_does_5 13 rfl rfl)
theorem dX6_does_130 : decode cX6_does 130 = .ok (.invokevirtual 368, 3) := dk_182 1 112 (dk_at dksX6_does_5 14 rfl rfl)
theorem dX6_does_133 : decode cX6_does 133 = .ok (.ifCond .lt 7, 3) := dk_155 0 7 (dk_at dksX6_does_5 17 rfl rfl)
theorem dX6_does_136 : decode cX6_does 136 = .ok (.iconst 1, 1) := dk_4 (dk_at dksX6_does_5 20 rfl rfl)
theorem dX6_does_137 : decode cX6_does 137 = .ok (.goto 4, 3) := dk_167 0 4 (dk_at dksX6_does_5 21 rfl rfl)
theorem dX6_does_140 : decode cX6_does 140 = .ok (.iconst 0, 1) := dk_3 (dk_at dksX6_does_6 0 rfl rfl)
theorem dX6_does_141 : decode cX6_does 141 = .ok (.ireturn, 1) := dk_172 (dk_at dksX6_does_6 1 rfl rfl)
theorem dX6_does_142 : decode cX6_does 142 = .ok (.aload_n 0, 1) := dk_42 (dk_at dksX6_does_6 2 rfl rfl)
theorem dX6_does_143 : decode cX6_does 143 = .ok (.iload_n 2, 1) := dk_28 (dk_at dksX6_does_6 3 rfl rfl)
theorem dX6_does_144 : decode cX6_does 144 = .ok (.aload_n 0, 1) := dk_42 (dk_at dksX6_does_6 4 rfl rfl)
theorem dX6_does_145 : decode cX6_does 145 = .ok (.getfield 79, 3) := dk_180 0 79 (dk_at dksX6_does_6 5 rfl rfl)
theorem dX6_does_148 : decode cX6_does 148 = .ok (.iload_n 1, 1) := dk_27 (dk_at dksX6_does_6 8 rfl rfl)
theorem dX6_does_149 : decode cX6_does 149 = .ok (.iaload, 1) := dk_46 (dk_at dksX6_does_6 9 rfl rfl)
theorem dX6_does_150 : decode cX6_does 150 = .ok (.invokevirtual 371, 3) := dk_182 1 115 (dk_at dksX6_does_6 10 rfl rfl)
theorem dX6_does_153 : decode cX6_does 153 = .ok (.ifCond .lt 7, 3) := dk_155 0 7 (dk_at dksX6_does_6 13 rfl rfl)
theorem dX6_does_156 : decode cX6_does 156 = .ok (.iconst 1, 1) := dk_4 (dk_at dksX6_does_6 16 rfl rfl)
theorem dX6_does_157 : decode cX6_does 157 = .ok (.goto 4, 3) := dk_167 0 4 (dk_at dksX6_does_6 17 rfl rfl)
theorem dX6_does_160 : decode cX6_does 160 = .ok (.iconst 0, 1) := dk_3 (dk_at dksX6_does_6 20 rfl rfl)
theorem dX6_does_161 : decode cX6_does 161 = .ok (.ireturn, 1) := dk_172 (dk_at dksX6_does_6 21 rfl rfl)
abbrev cX6_line : ByteArray := prog_15_method_71_code
def yX6_line : MethodName := ⟨RX6, "line", "()I"⟩
def dkwX6_line_2 : List UInt8 := [180, 1, 65, 172]
abbrev dktX6_line_2 : List UInt8 := dkwX6_line_2 ++ []
def dkwX6_line_1 : List UInt8 := [180, 1, 65, 162, 0, 20, 42, 42, 180, 0, 70, 27, 46, 133, 182, 1, 102, 132, 1, 1, 167, 255, 234, 42]
abbrev dktX6_line_1 : List UInt8 := dkwX6_line_1 ++ dktX6_line_2
def dkwX6_line_0 : List UInt8 := [42, 3, 181, 0, 112, 42, 42, 180, 0, 31, 182, 1, 77, 42, 3, 181, 0, 119, 3, 60, 27, 42]
abbrev dktX6_line_0 : List UInt8 := dkwX6_line_0 ++ dktX6_line_1
theorem dksX6_line_0 : cX6_line.data.toList.drop 0 = dktX6_line_0 := by decide +kernel
theorem dksX6_line_1 : cX6_line.data.toList.drop 22 = dktX6_line_1 := dk_seg dksX6_line_0 22 rfl rfl
theorem dksX6_line_2 : cX6_line.data.toList.drop 46 = dktX6_line_2 := dk_seg dksX6_line_1 24 rfl rfl
theorem dX6_line_0 : decode cX6_line 0 = .ok (.aload_n 0, 1) := dk_42 (dk_at dksX6_line_0 0 rfl rfl)
theorem dX6_line_1 : decode cX6_line 1 = .ok (.iconst 0, 1) := dk_3 (dk_at dksX6_line_0 1 rfl rfl)
theorem dX6_line_2 : decode cX6_line 2 = .ok (.putfield 112, 3) := dk_181 0 112 (dk_at dksX6_line_0 2 rfl rfl)
theorem dX6_line_5 : decode cX6_line 5 = .ok (.aload_n 0, 1) := dk_42 (dk_at dksX6_line_0 5 rfl rfl)
theorem dX6_line_6 : decode cX6_line 6 = .ok (.aload_n 0, 1) := dk_42 (dk_at dksX6_line_0 6 rfl rfl)
theorem dX6_line_7 : decode cX6_line 7 = .ok (.getfield 31, 3) := dk_180 0 31 (dk_at dksX6_line_0 7 rfl rfl)
theorem dX6_line_10 : decode cX6_line 10 = .ok (.invokevirtual 333, 3) := dk_182 1 77 (dk_at dksX6_line_0 10 rfl rfl)
theorem dX6_line_13 : decode cX6_line 13 = .ok (.aload_n 0, 1) := dk_42 (dk_at dksX6_line_0 13 rfl rfl)
theorem dX6_line_14 : decode cX6_line 14 = .ok (.iconst 0, 1) := dk_3 (dk_at dksX6_line_0 14 rfl rfl)
theorem dX6_line_15 : decode cX6_line 15 = .ok (.putfield 119, 3) := dk_181 0 119 (dk_at dksX6_line_0 15 rfl rfl)
theorem dX6_line_18 : decode cX6_line 18 = .ok (.iconst 0, 1) := dk_3 (dk_at dksX6_line_0 18 rfl rfl)
theorem dX6_line_19 : decode cX6_line 19 = .ok (.istore_n 1, 1) := dk_60 (dk_at dksX6_line_0 19 rfl rfl)
theorem dX6_line_20 : decode cX6_line 20 = .ok (.iload_n 1, 1) := dk_27 (dk_at dksX6_line_0 20 rfl rfl)
theorem dX6_line_21 : decode cX6_line 21 = .ok (.aload_n 0, 1) := dk_42 (dk_at dksX6_line_0 21 rfl rfl)
theorem dX6_line_22 : decode cX6_line 22 = .ok (.getfield 321, 3) := dk_180 1 65 (dk_at dksX6_line_1 0 rfl rfl)
theorem dX6_line_25 : decode cX6_line 25 = .ok (.if_icmp .ge 20, 3) := dk_162 0 20 (dk_at dksX6_line_1 3 rfl rfl)
theorem dX6_line_28 : decode cX6_line 28 = .ok (.aload_n 0, 1) := dk_42 (dk_at dksX6_line_1 6 rfl rfl)
theorem dX6_line_29 : decode cX6_line 29 = .ok (.aload_n 0, 1) := dk_42 (dk_at dksX6_line_1 7 rfl rfl)
theorem dX6_line_30 : decode cX6_line 30 = .ok (.getfield 70, 3) := dk_180 0 70 (dk_at dksX6_line_1 8 rfl rfl)
theorem dX6_line_33 : decode cX6_line 33 = .ok (.iload_n 1, 1) := dk_27 (dk_at dksX6_line_1 11 rfl rfl)
theorem dX6_line_34 : decode cX6_line 34 = .ok (.iaload, 1) := dk_46 (dk_at dksX6_line_1 12 rfl rfl)
theorem dX6_line_35 : decode cX6_line 35 = .ok (.i2l, 1) := dk_133 (dk_at dksX6_line_1 13 rfl rfl)
theorem dX6_line_36 : decode cX6_line 36 = .ok (.invokevirtual 358, 3) := dk_182 1 102 (dk_at dksX6_line_1 14 rfl rfl)
theorem dX6_line_39 : decode cX6_line 39 = .ok (.iinc 1 1, 3) := dk_132 1 1 (dk_at dksX6_line_1 17 rfl rfl)
theorem dX6_line_42 : decode cX6_line 42 = .ok (.goto (-22), 3) := dk_167 255 234 (dk_at dksX6_line_1 20 rfl rfl)
theorem dX6_line_45 : decode cX6_line 45 = .ok (.aload_n 0, 1) := dk_42 (dk_at dksX6_line_1 23 rfl rfl)
theorem dX6_line_46 : decode cX6_line 46 = .ok (.getfield 321, 3) := dk_180 1 65 (dk_at dksX6_line_2 0 rfl rfl)
theorem dX6_line_49 : decode cX6_line 49 = .ok (.ireturn, 1) := dk_172 (dk_at dksX6_line_2 3 rfl rfl)
abbrev cX6_ahead : ByteArray := prog_15_method_72_code
def yX6_ahead : MethodName := ⟨RX6, "ahead", "(I)I"⟩
def dkwX6_ahead_2 : List UInt8 := [42, 180, 0, 34, 28, 46, 133, 182, 1, 102, 132, 2, 1, 167, 255, 234, 42, 180, 0, 34, 16, 12, 46, 172]
abbrev dktX6_ahead_2 : List UInt8 := dkwX6_ahead_2 ++ []
def dkwX6_ahead_1 : List UInt8 := [42, 180, 0, 34, 27, 182, 1, 99, 42, 3, 181, 0, 119, 3, 61, 28, 42, 180, 0, 122, 162, 0, 20, 42]
abbrev dktX6_ahead_1 : List UInt8 := dkwX6_ahead_1 ++ dktX6_ahead_2
def dkwX6_ahead_0 : List UInt8 := [42, 3, 181, 0, 112, 27, 133, 9, 20, 1, 132, 184, 0, 125, 154, 0, 5, 2, 172, 42, 182, 1, 134, 42]
abbrev dktX6_ahead_0 : List UInt8 := dkwX6_ahead_0 ++ dktX6_ahead_1
theorem dksX6_ahead_0 : cX6_ahead.data.toList.drop 0 = dktX6_ahead_0 := by decide +kernel
theorem dksX6_ahead_1 : cX6_ahead.data.toList.drop 24 = dktX6_ahead_1 := dk_seg dksX6_ahead_0 24 rfl rfl
theorem dksX6_ahead_2 : cX6_ahead.data.toList.drop 48 = dktX6_ahead_2 := dk_seg dksX6_ahead_1 24 rfl rfl
theorem dX6_ahead_0 : decode cX6_ahead 0 = .ok (.aload_n 0, 1) := dk_42 (dk_at dksX6_ahead_0 0 rfl rfl)
theorem dX6_ahead_1 : decode cX6_ahead 1 = .ok (.iconst 0, 1) := dk_3 (dk_at dksX6_ahead_0 1 rfl rfl)
theorem dX6_ahead_2 : decode cX6_ahead 2 = .ok (.putfield 112, 3) := dk_181 0 112 (dk_at dksX6_ahead_0 2 rfl rfl)
theorem dX6_ahead_5 : decode cX6_ahead 5 = .ok (.iload_n 1, 1) := dk_27 (dk_at dksX6_ahead_0 5 rfl rfl)
theorem dX6_ahead_6 : decode cX6_ahead 6 = .ok (.i2l, 1) := dk_133 (dk_at dksX6_ahead_0 6 rfl rfl)
theorem dX6_ahead_7 : decode cX6_ahead 7 = .ok (.lconst 0, 1) := dk_9 (dk_at dksX6_ahead_0 7 rfl rfl)
theorem dX6_ahead_8 : decode cX6_ahead 8 = .ok (.ldc2_w 388, 3) := dk_20 1 132 (dk_at dksX6_ahead_0 8 rfl rfl)
theorem dX6_ahead_11 : decode cX6_ahead 11 = .ok (.invokestatic 125, 3) := dk_184 0 125 (dk_at dksX6_ahead_0 11 rfl rfl)
theorem dX6_ahead_14 : decode cX6_ahead 14 = .ok (.ifCond .ne 5, 3) := dk_154 0 5 (dk_at dksX6_ahead_0 14 rfl rfl)
theorem dX6_ahead_17 : decode cX6_ahead 17 = .ok (.iconst (-1), 1) := dk_2 (dk_at dksX6_ahead_0 17 rfl rfl)
theorem dX6_ahead_18 : decode cX6_ahead 18 = .ok (.ireturn, 1) := dk_172 (dk_at dksX6_ahead_0 18 rfl rfl)
theorem dX6_ahead_19 : decode cX6_ahead 19 = .ok (.aload_n 0, 1) := dk_42 (dk_at dksX6_ahead_0 19 rfl rfl)
theorem dX6_ahead_20 : decode cX6_ahead 20 = .ok (.invokevirtual 390, 3) := dk_182 1 134 (dk_at dksX6_ahead_0 20 rfl rfl)
theorem dX6_ahead_23 : decode cX6_ahead 23 = .ok (.aload_n 0, 1) := dk_42 (dk_at dksX6_ahead_0 23 rfl rfl)
theorem dX6_ahead_24 : decode cX6_ahead 24 = .ok (.aload_n 0, 1) := dk_42 (dk_at dksX6_ahead_1 0 rfl rfl)
theorem dX6_ahead_25 : decode cX6_ahead 25 = .ok (.getfield 34, 3) := dk_180 0 34 (dk_at dksX6_ahead_1 1 rfl rfl)
theorem dX6_ahead_28 : decode cX6_ahead 28 = .ok (.iload_n 1, 1) := dk_27 (dk_at dksX6_ahead_1 4 rfl rfl)
theorem dX6_ahead_29 : decode cX6_ahead 29 = .ok (.invokevirtual 355, 3) := dk_182 1 99 (dk_at dksX6_ahead_1 5 rfl rfl)
theorem dX6_ahead_32 : decode cX6_ahead 32 = .ok (.aload_n 0, 1) := dk_42 (dk_at dksX6_ahead_1 8 rfl rfl)
theorem dX6_ahead_33 : decode cX6_ahead 33 = .ok (.iconst 0, 1) := dk_3 (dk_at dksX6_ahead_1 9 rfl rfl)
theorem dX6_ahead_34 : decode cX6_ahead 34 = .ok (.putfield 119, 3) := dk_181 0 119 (dk_at dksX6_ahead_1 10 rfl rfl)
theorem dX6_ahead_37 : decode cX6_ahead 37 = .ok (.iconst 0, 1) := dk_3 (dk_at dksX6_ahead_1 13 rfl rfl)
theorem dX6_ahead_38 : decode cX6_ahead 38 = .ok (.istore_n 2, 1) := dk_61 (dk_at dksX6_ahead_1 14 rfl rfl)
theorem dX6_ahead_39 : decode cX6_ahead 39 = .ok (.iload_n 2, 1) := dk_28 (dk_at dksX6_ahead_1 15 rfl rfl)
theorem dX6_ahead_40 : decode cX6_ahead 40 = .ok (.aload_n 0, 1) := dk_42 (dk_at dksX6_ahead_1 16 rfl rfl)
theorem dX6_ahead_41 : decode cX6_ahead 41 = .ok (.getfield 122, 3) := dk_180 0 122 (dk_at dksX6_ahead_1 17 rfl rfl)
theorem dX6_ahead_44 : decode cX6_ahead 44 = .ok (.if_icmp .ge 20, 3) := dk_162 0 20 (dk_at dksX6_ahead_1 20 rfl rfl)
theorem dX6_ahead_47 : decode cX6_ahead 47 = .ok (.aload_n 0, 1) := dk_42 (dk_at dksX6_ahead_1 23 rfl rfl)
theorem dX6_ahead_48 : decode cX6_ahead 48 = .ok (.aload_n 0, 1) := dk_42 (dk_at dksX6_ahead_2 0 rfl rfl)
theorem dX6_ahead_49 : decode cX6_ahead 49 = .ok (.getfield 34, 3) := dk_180 0 34 (dk_at dksX6_ahead_2 1 rfl rfl)
theorem dX6_ahead_52 : decode cX6_ahead 52 = .ok (.iload_n 2, 1) := dk_28 (dk_at dksX6_ahead_2 4 rfl rfl)
theorem dX6_ahead_53 : decode cX6_ahead 53 = .ok (.iaload, 1) := dk_46 (dk_at dksX6_ahead_2 5 rfl rfl)
theorem dX6_ahead_54 : decode cX6_ahead 54 = .ok (.i2l, 1) := dk_133 (dk_at dksX6_ahead_2 6 rfl rfl)
theorem dX6_ahead_55 : decode cX6_ahead 55 = .ok (.invokevirtual 358, 3) := dk_182 1 102 (dk_at dksX6_ahead_2 7 rfl rfl)
theorem dX6_ahead_58 : decode cX6_ahead 58 = .ok (.iinc 2 1, 3) := dk_132 2 1 (dk_at dksX6_ahead_2 10 rfl rfl)
theorem dX6_ahead_61 : decode cX6_ahead 61 = .ok (.goto (-22), 3) := dk_167 255 234 (dk_at dksX6_ahead_2 13 rfl rfl)
theorem dX6_ahead_64 : decode cX6_ahead 64 = .ok (.aload_n 0, 1) := dk_42 (dk_at dksX6_ahead_2 16 rfl rfl)
theorem dX6_ahead_65 : decode cX6_ahead 65 = .ok (.getfield 34, 3) := dk_180 0 34 (dk_at dksX6_ahead_2 17 rfl rfl)
theorem dX6_ahead_68 : decode cX6_ahead 68 = .ok (.bipush 12, 2) := dk_16 12 (dk_at dksX6_ahead_2 20 rfl rfl)
theorem dX6_ahead_70 : decode cX6_ahead 70 = .ok (.iaload, 1) := dk_46 (dk_at dksX6_ahead_2 22 rfl rfl)
theorem dX6_ahead_71 : decode cX6_ahead 71 = .ok (.ireturn, 1) := dk_172 (dk_at dksX6_ahead_2 23 rfl rfl)
abbrev cX6_copies : ByteArray := prog_15_method_70_code
def yX6_copies : MethodName := ⟨RX6, "copies", "()V"⟩
def dkwX6_copies_1 : List UInt8 := [167, 255, 235, 177]
abbrev dktX6_copies_1 : List UInt8 := dkwX6_copies_1 ++ []
def dkwX6_copies_0 : List UInt8 := [3, 60, 27, 16, 38, 162, 0, 21, 42, 180, 0, 34, 27, 42, 180, 0, 31, 27, 46, 79, 132, 1, 1]
abbrev dktX6_copies_0 : List UInt8 := dkwX6_copies_0 ++ dktX6_copies_1
theorem dksX6_copies_0 : cX6_copies.data.toList.drop 0 = dktX6_copies_0 := by decide +kernel
theorem dksX6_copies_1 : cX6_copies.data.toList.drop 23 = dktX6_copies_1 := dk_seg dksX6_copies_0 23 rfl rfl
theorem dX6_copies_0 : decode cX6_copies 0 = .ok (.iconst 0, 1) := dk_3 (dk_at dksX6_copies_0 0 rfl rfl)
theorem dX6_copies_1 : decode cX6_copies 1 = .ok (.istore_n 1, 1) := dk_60 (dk_at dksX6_copies_0 1 rfl rfl)
theorem dX6_copies_2 : decode cX6_copies 2 = .ok (.iload_n 1, 1) := dk_27 (dk_at dksX6_copies_0 2 rfl rfl)
theorem dX6_copies_3 : decode cX6_copies 3 = .ok (.bipush 38, 2) := dk_16 38 (dk_at dksX6_copies_0 3 rfl rfl)
theorem dX6_copies_5 : decode cX6_copies 5 = .ok (.if_icmp .ge 21, 3) := dk_162 0 21 (dk_at dksX6_copies_0 5 rfl rfl)
theorem dX6_copies_8 : decode cX6_copies 8 = .ok (.aload_n 0, 1) := dk_42 (dk_at dksX6_copies_0 8 rfl rfl)
theorem dX6_copies_9 : decode cX6_copies 9 = .ok (.getfield 34, 3) := dk_180 0 34 (dk_at dksX6_copies_0 9 rfl rfl)
theorem dX6_copies_12 : decode cX6_copies 12 = .ok (.iload_n 1, 1) := dk_27 (dk_at dksX6_copies_0 12 rfl rfl)
theorem dX6_copies_13 : decode cX6_copies 13 = .ok (.aload_n 0, 1) := dk_42 (dk_at dksX6_copies_0 13 rfl rfl)
theorem dX6_copies_14 : decode cX6_copies 14 = .ok (.getfield 31, 3) := dk_180 0 31 (dk_at dksX6_copies_0 14 rfl rfl)
theorem dX6_copies_17 : decode cX6_copies 17 = .ok (.iload_n 1, 1) := dk_27 (dk_at dksX6_copies_0 17 rfl rfl)
theorem dX6_copies_18 : decode cX6_copies 18 = .ok (.iaload, 1) := dk_46 (dk_at dksX6_copies_0 18 rfl rfl)
theorem dX6_copies_19 : decode cX6_copies 19 = .ok (.iastore, 1) := dk_79 (dk_at dksX6_copies_0 19 rfl rfl)
theorem dX6_copies_20 : decode cX6_copies 20 = .ok (.iinc 1 1, 3) := dk_132 1 1 (dk_at dksX6_copies_0 20 rfl rfl)
theorem dX6_copies_23 : decode cX6_copies 23 = .ok (.goto (-21), 3) := dk_167 255 235 (dk_at dksX6_copies_1 0 rfl rfl)
theorem dX6_copies_26 : decode cX6_copies 26 = .ok (.return_, 1) := dk_177 (dk_at dksX6_copies_1 3 rfl rfl)
abbrev cX6_arrives : ByteArray := prog_15_method_73_code
def yX6_arrives : MethodName := ⟨RX6, "arrives", "(I)I"⟩
def dkwX6_arrives_3 : List UInt8 := [132, 2, 1, 167, 255, 206, 16, 254, 172]
abbrev dktX6_arrives_3 : List UInt8 := dkwX6_arrives_3 ++ []
def dkwX6_arrives_2 : List UInt8 := [180, 0, 34, 16, 6, 27, 96, 46, 133, 182, 1, 102, 28, 172, 42, 42, 180, 0, 34, 182, 1, 87]
abbrev dktX6_arrives_2 : List UInt8 := dkwX6_arrives_2 ++ dktX6_arrives_3
def dkwX6_arrives_1 : List UInt8 := [17, 0, 200, 163, 0, 49, 42, 180, 0, 34, 27, 184, 1, 10, 154, 0, 24, 42, 3, 181, 0, 119, 42, 42]
abbrev dktX6_arrives_1 : List UInt8 := dkwX6_arrives_1 ++ dktX6_arrives_2
def dkwX6_arrives_0 : List UInt8 := [42, 3, 181, 0, 112, 42, 27, 182, 1, 38, 154, 0, 5, 2, 172, 42, 182, 1, 134, 3, 61, 28]
abbrev dktX6_arrives_0 : List UInt8 := dkwX6_arrives_0 ++ dktX6_arrives_1
theorem dksX6_arrives_0 : cX6_arrives.data.toList.drop 0 = dktX6_arrives_0 := by decide +kernel
theorem dksX6_arrives_1 : cX6_arrives.data.toList.drop 22 = dktX6_arrives_1 := dk_seg dksX6_arrives_0 22 rfl rfl
theorem dksX6_arrives_2 : cX6_arrives.data.toList.drop 46 = dktX6_arrives_2 := dk_seg dksX6_arrives_1 24 rfl rfl
theorem dksX6_arrives_3 : cX6_arrives.data.toList.drop 68 = dktX6_arrives_3 := dk_seg dksX6_arrives_2 22 rfl rfl
theorem dX6_arrives_0 : decode cX6_arrives 0 = .ok (.aload_n 0, 1) := dk_42 (dk_at dksX6_arrives_0 0 rfl rfl)
theorem dX6_arrives_1 : decode cX6_arrives 1 = .ok (.iconst 0, 1) := dk_3 (dk_at dksX6_arrives_0 1 rfl rfl)
theorem dX6_arrives_2 : decode cX6_arrives 2 = .ok (.putfield 112, 3) := dk_181 0 112 (dk_at dksX6_arrives_0 2 rfl rfl)
theorem dX6_arrives_5 : decode cX6_arrives 5 = .ok (.aload_n 0, 1) := dk_42 (dk_at dksX6_arrives_0 5 rfl rfl)
theorem dX6_arrives_6 : decode cX6_arrives 6 = .ok (.iload_n 1, 1) := dk_27 (dk_at dksX6_arrives_0 6 rfl rfl)
theorem dX6_arrives_7 : decode cX6_arrives 7 = .ok (.invokevirtual 294, 3) := dk_182 1 38 (dk_at dksX6_arrives_0 7 rfl rfl)
theorem dX6_arrives_10 : decode cX6_arrives 10 = .ok (.ifCond .ne 5, 3) := dk_154 0 5 (dk_at dksX6_arrives_0 10 rfl rfl)
theorem dX6_arrives_13 : decode cX6_arrives 13 = .ok (.iconst (-1), 1) := dk_2 (dk_at dksX6_arrives_0 13 rfl rfl)
theorem dX6_arrives_14 : decode cX6_arrives 14 = .ok (.ireturn, 1) := dk_172 (dk_at dksX6_arrives_0 14 rfl rfl)
theorem dX6_arrives_15 : decode cX6_arrives 15 = .ok (.aload_n 0, 1) := dk_42 (dk_at dksX6_arrives_0 15 rfl rfl)
theorem dX6_arrives_16 : decode cX6_arrives 16 = .ok (.invokevirtual 390, 3) := dk_182 1 134 (dk_at dksX6_arrives_0 16 rfl rfl)
theorem dX6_arrives_19 : decode cX6_arrives 19 = .ok (.iconst 0, 1) := dk_3 (dk_at dksX6_arrives_0 19 rfl rfl)
theorem dX6_arrives_20 : decode cX6_arrives 20 = .ok (.istore_n 2, 1) := dk_61 (dk_at dksX6_arrives_0 20 rfl rfl)
theorem dX6_arrives_21 : decode cX6_arrives 21 = .ok (.iload_n 2, 1) := dk_28 (dk_at dksX6_arrives_0 21 rfl rfl)
theorem dX6_arrives_22 : decode cX6_arrives 22 = .ok (.sipush 200, 3) := dk_17 0 200 (dk_at dksX6_arrives_1 0 rfl rfl)
theorem dX6_arrives_25 : decode cX6_arrives 25 = .ok (.if_icmp .gt 49, 3) := dk_163 0 49 (dk_at dksX6_arrives_1 3 rfl rfl)
theorem dX6_arrives_28 : decode cX6_arrives 28 = .ok (.aload_n 0, 1) := dk_42 (dk_at dksX6_arrives_1 6 rfl rfl)
theorem dX6_arrives_29 : decode cX6_arrives 29 = .ok (.getfield 34, 3) := dk_180 0 34 (dk_at dksX6_arrives_1 7 rfl rfl)
theorem dX6_arrives_32 : decode cX6_arrives 32 = .ok (.iload_n 1, 1) := dk_27 (dk_at dksX6_arrives_1 10 rfl rfl)
theorem dX6_arrives_33 : decode cX6_arrives 33 = .ok (.invokestatic 266, 3) := dk_184 1 10 (dk_at dksX6_arrives_1 11 rfl rfl)
theorem dX6_arrives_36 : decode cX6_arrives 36 = .ok (.ifCond .ne 24, 3) := dk_154 0 24 (dk_at dksX6_arrives_1 14 rfl rfl)
theorem dX6_arrives_39 : decode cX6_arrives 39 = .ok (.aload_n 0, 1) := dk_42 (dk_at dksX6_arrives_1 17 rfl rfl)
theorem dX6_arrives_40 : decode cX6_arrives 40 = .ok (.iconst 0, 1) := dk_3 (dk_at dksX6_arrives_1 18 rfl rfl)
theorem dX6_arrives_41 : decode cX6_arrives 41 = .ok (.putfield 119, 3) := dk_181 0 119 (dk_at dksX6_arrives_1 19 rfl rfl)
theorem dX6_arrives_44 : decode cX6_arrives 44 = .ok (.aload_n 0, 1) := dk_42 (dk_at dksX6_arrives_1 22 rfl rfl)
theorem dX6_arrives_45 : decode cX6_arrives 45 = .ok (.aload_n 0, 1) := dk_42 (dk_at dksX6_arrives_1 23 rfl rfl)
theorem dX6_arrives_46 : decode cX6_arrives 46 = .ok (.getfield 34, 3) := dk_180 0 34 (dk_at dksX6_arrives_2 0 rfl rfl)
theorem dX6_arrives_49 : decode cX6_arrives 49 = .ok (.bipush 6, 2) := dk_16 6 (dk_at dksX6_arrives_2 3 rfl rfl)
theorem dX6_arrives_51 : decode cX6_arrives 51 = .ok (.iload_n 1, 1) := dk_27 (dk_at dksX6_arrives_2 5 rfl rfl)
theorem dX6_arrives_52 : decode cX6_arrives 52 = .ok (.iadd, 1) := dk_96 (dk_at dksX6_arrives_2 6 rfl rfl)
theorem dX6_arrives_53 : decode cX6_arrives 53 = .ok (.iaload, 1) := dk_46 (dk_at dksX6_arrives_2 7 rfl rfl)
theorem dX6_arrives_54 : decode cX6_arrives 54 = .ok (.i2l, 1) := dk_133 (dk_at dksX6_arrives_2 8 rfl rfl)
theorem dX6_arrives_55 : decode cX6_arrives 55 = .ok (.invokevirtual 358, 3) := dk_182 1 102 (dk_at dksX6_arrives_2 9 rfl rfl)
theorem dX6_arrives_58 : decode cX6_arrives 58 = .ok (.iload_n 2, 1) := dk_28 (dk_at dksX6_arrives_2 12 rfl rfl)
theorem dX6_arrives_59 : decode cX6_arrives 59 = .ok (.ireturn, 1) := dk_172 (dk_at dksX6_arrives_2 13 rfl rfl)
theorem dX6_arrives_60 : decode cX6_arrives 60 = .ok (.aload_n 0, 1) := dk_42 (dk_at dksX6_arrives_2 14 rfl rfl)
theorem dX6_arrives_61 : decode cX6_arrives 61 = .ok (.aload_n 0, 1) := dk_42 (dk_at dksX6_arrives_2 15 rfl rfl)
theorem dX6_arrives_62 : decode cX6_arrives 62 = .ok (.getfield 34, 3) := dk_180 0 34 (dk_at dksX6_arrives_2 16 rfl rfl)
theorem dX6_arrives_65 : decode cX6_arrives 65 = .ok (.invokevirtual 343, 3) := dk_182 1 87 (dk_at dksX6_arrives_2 19 rfl rfl)
theorem dX6_arrives_68 : decode cX6_arrives 68 = .ok (.iinc 2 1, 3) := dk_132 2 1 (dk_at dksX6_arrives_3 0 rfl rfl)
theorem dX6_arrives_71 : decode cX6_arrives 71 = .ok (.goto (-50), 3) := dk_167 255 206 (dk_at dksX6_arrives_3 3 rfl rfl)
theorem dX6_arrives_74 : decode cX6_arrives 74 = .ok (.bipush (-2), 2) := dk_16 254 (dk_at dksX6_arrives_3 6 rfl rfl)
theorem dX6_arrives_76 : decode cX6_arrives 76 = .ok (.ireturn, 1) := dk_172 (dk_at dksX6_arrives_3 8 rfl rfl)
abbrev cX6_jam : ByteArray := prog_15_method_74_code
def yX6_jam : MethodName := ⟨RX6, "jam", "(I)I"⟩
def dkwX6_jam_4 : List UInt8 := [28, 172]
abbrev dktX6_jam_4 : List UInt8 := dkwX6_jam_4 ++ []
def dkwX6_jam_3 : List UInt8 := [3, 181, 0, 119, 42, 42, 180, 0, 64, 28, 46, 133, 182, 1, 102, 42, 42, 180, 1, 71, 133, 182, 1, 102]
abbrev dktX6_jam_3 : List UInt8 := dkwX6_jam_3 ++ dktX6_jam_4
def dkwX6_jam_2 : List UInt8 := [29, 46, 42, 180, 0, 64, 28, 46, 164, 0, 7, 29, 167, 0, 4, 28, 61, 132, 3, 1, 167, 255, 224, 42]
abbrev dktX6_jam_2 : List UInt8 := dkwX6_jam_2 ++ dktX6_jam_3
def dkwX6_jam_1 : List UInt8 := [42, 180, 0, 34, 27, 182, 1, 99, 3, 61, 3, 62, 29, 42, 180, 0, 13, 162, 0, 30, 42, 180, 0, 64]
abbrev dktX6_jam_1 : List UInt8 := dkwX6_jam_1 ++ dktX6_jam_2
def dkwX6_jam_0 : List UInt8 := [42, 3, 181, 0, 112, 27, 133, 10, 20, 1, 94, 184, 0, 125, 154, 0, 5, 2, 172, 42, 182, 1, 134, 42]
abbrev dktX6_jam_0 : List UInt8 := dkwX6_jam_0 ++ dktX6_jam_1
theorem dksX6_jam_0 : cX6_jam.data.toList.drop 0 = dktX6_jam_0 := by decide +kernel
theorem dksX6_jam_1 : cX6_jam.data.toList.drop 24 = dktX6_jam_1 := dk_seg dksX6_jam_0 24 rfl rfl
theorem dksX6_jam_2 : cX6_jam.data.toList.drop 48 = dktX6_jam_2 := dk_seg dksX6_jam_1 24 rfl rfl
theorem dksX6_jam_3 : cX6_jam.data.toList.drop 72 = dktX6_jam_3 := dk_seg dksX6_jam_2 24 rfl rfl
theorem dksX6_jam_4 : cX6_jam.data.toList.drop 96 = dktX6_jam_4 := dk_seg dksX6_jam_3 24 rfl rfl
theorem dX6_jam_0 : decode cX6_jam 0 = .ok (.aload_n 0, 1) := dk_42 (dk_at dksX6_jam_0 0 rfl rfl)
theorem dX6_jam_1 : decode cX6_jam 1 = .ok (.iconst 0, 1) := dk_3 (dk_at dksX6_jam_0 1 rfl rfl)
theorem dX6_jam_2 : decode cX6_jam 2 = .ok (.putfield 112, 3) := dk_181 0 112 (dk_at dksX6_jam_0 2 rfl rfl)
theorem dX6_jam_5 : decode cX6_jam 5 = .ok (.iload_n 1, 1) := dk_27 (dk_at dksX6_jam_0 5 rfl rfl)
theorem dX6_jam_6 : decode cX6_jam 6 = .ok (.i2l, 1) := dk_133 (dk_at dksX6_jam_0 6 rfl rfl)
theorem dX6_jam_7 : decode cX6_jam 7 = .ok (.lconst 1, 1) := dk_10 (dk_at dksX6_jam_0 7 rfl rfl)
theorem dX6_jam_8 : decode cX6_jam 8 = .ok (.ldc2_w 350, 3) := dk_20 1 94 (dk_at dksX6_jam_0 8 rfl rfl)
theorem dX6_jam_11 : decode cX6_jam 11 = .ok (.invokestatic 125, 3) := dk_184 0 125 (dk_at dksX6_jam_0 11 rfl rfl)
theorem dX6_jam_14 : decode cX6_jam 14 = .ok (.ifCond .ne 5, 3) := dk_154 0 5 (dk_at dksX6_jam_0 14 rfl rfl)
theorem dX6_jam_17 : decode cX6_jam 17 = .ok (.iconst (-1), 1) := dk_2 (dk_at dksX6_jam_0 17 rfl rfl)
theorem dX6_jam_18 : decode cX6_jam 18 = .ok (.ireturn, 1) := dk_172 (dk_at dksX6_jam_0 18 rfl rfl)
theorem dX6_jam_19 : decode cX6_jam 19 = .ok (.aload_n 0, 1) := dk_42 (dk_at dksX6_jam_0 19 rfl rfl)
theorem dX6_jam_20 : decode cX6_jam 20 = .ok (.invokevirtual 390, 3) := dk_182 1 134 (dk_at dksX6_jam_0 20 rfl rfl)
theorem dX6_jam_23 : decode cX6_jam 23 = .ok (.aload_n 0, 1) := dk_42 (dk_at dksX6_jam_0 23 rfl rfl)
theorem dX6_jam_24 : decode cX6_jam 24 = .ok (.aload_n 0, 1) := dk_42 (dk_at dksX6_jam_1 0 rfl rfl)
theorem dX6_jam_25 : decode cX6_jam 25 = .ok (.getfield 34, 3) := dk_180 0 34 (dk_at dksX6_jam_1 1 rfl rfl)
theorem dX6_jam_28 : decode cX6_jam 28 = .ok (.iload_n 1, 1) := dk_27 (dk_at dksX6_jam_1 4 rfl rfl)
theorem dX6_jam_29 : decode cX6_jam 29 = .ok (.invokevirtual 355, 3) := dk_182 1 99 (dk_at dksX6_jam_1 5 rfl rfl)
theorem dX6_jam_32 : decode cX6_jam 32 = .ok (.iconst 0, 1) := dk_3 (dk_at dksX6_jam_1 8 rfl rfl)
theorem dX6_jam_33 : decode cX6_jam 33 = .ok (.istore_n 2, 1) := dk_61 (dk_at dksX6_jam_1 9 rfl rfl)
theorem dX6_jam_34 : decode cX6_jam 34 = .ok (.iconst 0, 1) := dk_3 (dk_at dksX6_jam_1 10 rfl rfl)
theorem dX6_jam_35 : decode cX6_jam 35 = .ok (.istore_n 3, 1) := dk_62 (dk_at dksX6_jam_1 11 rfl rfl)
theorem dX6_jam_36 : decode cX6_jam 36 = .ok (.iload_n 3, 1) := dk_29 (dk_at dksX6_jam_1 12 rfl rfl)
theorem dX6_jam_37 : decode cX6_jam 37 = .ok (.aload_n 0, 1) := dk_42 (dk_at dksX6_jam_1 13 rfl rfl)
theorem dX6_jam_38 : decode cX6_jam 38 = .ok (.getfield 13, 3) := dk_180 0 13 (dk_at dksX6_jam_1 14 rfl rfl)
theorem dX6_jam_41 : decode cX6_jam 41 = .ok (.if_icmp .ge 30, 3) := dk_162 0 30 (dk_at dksX6_jam_1 17 rfl rfl)
theorem dX6_jam_44 : decode cX6_jam 44 = .ok (.aload_n 0, 1) := dk_42 (dk_at dksX6_jam_1 20 rfl rfl)
theorem dX6_jam_45 : decode cX6_jam 45 = .ok (.getfield 64, 3) := dk_180 0 64 (dk_at dksX6_jam_1 21 rfl rfl)
theorem dX6_jam_48 : decode cX6_jam 48 = .ok (.iload_n 3, 1) := dk_29 (dk_at dksX6_jam_2 0 rfl rfl)
theorem dX6_jam_49 : decode cX6_jam 49 = .ok (.iaload, 1) := dk_46 (dk_at dksX6_jam_2 1 rfl rfl)
theorem dX6_jam_50 : decode cX6_jam 50 = .ok (.aload_n 0, 1) := dk_42 (dk_at dksX6_jam_2 2 rfl rfl)
theorem dX6_jam_51 : decode cX6_jam 51 = .ok (.getfield 64, 3) := dk_180 0 64 (dk_at dksX6_jam_2 3 rfl rfl)
theorem dX6_jam_54 : decode cX6_jam 54 = .ok (.iload_n 2, 1) := dk_28 (dk_at dksX6_jam_2 6 rfl rfl)
theorem dX6_jam_55 : decode cX6_jam 55 = .ok (.iaload, 1) := dk_46 (dk_at dksX6_jam_2 7 rfl rfl)
theorem dX6_jam_56 : decode cX6_jam 56 = .ok (.if_icmp .le 7, 3) := dk_164 0 7 (dk_at dksX6_jam_2 8 rfl rfl)
theorem dX6_jam_59 : decode cX6_jam 59 = .ok (.iload_n 3, 1) := dk_29 (dk_at dksX6_jam_2 11 rfl rfl)
theorem dX6_jam_60 : decode cX6_jam 60 = .ok (.goto 4, 3) := dk_167 0 4 (dk_at dksX6_jam_2 12 rfl rfl)
theorem dX6_jam_63 : decode cX6_jam 63 = .ok (.iload_n 2, 1) := dk_28 (dk_at dksX6_jam_2 15 rfl rfl)
theorem dX6_jam_64 : decode cX6_jam 64 = .ok (.istore_n 2, 1) := dk_61 (dk_at dksX6_jam_2 16 rfl rfl)
theorem dX6_jam_65 : decode cX6_jam 65 = .ok (.iinc 3 1, 3) := dk_132 3 1 (dk_at dksX6_jam_2 17 rfl rfl)
theorem dX6_jam_68 : decode cX6_jam 68 = .ok (.goto (-32), 3) := dk_167 255 224 (dk_at dksX6_jam_2 20 rfl rfl)
theorem dX6_jam_71 : decode cX6_jam 71 = .ok (.aload_n 0, 1) := dk_42 (dk_at dksX6_jam_2 23 rfl rfl)
theorem dX6_jam_72 : decode cX6_jam 72 = .ok (.iconst 0, 1) := dk_3 (dk_at dksX6_jam_3 0 rfl rfl)
theorem dX6_jam_73 : decode cX6_jam 73 = .ok (.putfield 119, 3) := dk_181 0 119 (dk_at dksX6_jam_3 1 rfl rfl)
theorem dX6_jam_76 : decode cX6_jam 76 = .ok (.aload_n 0, 1) := dk_42 (dk_at dksX6_jam_3 4 rfl rfl)
theorem dX6_jam_77 : decode cX6_jam 77 = .ok (.aload_n 0, 1) := dk_42 (dk_at dksX6_jam_3 5 rfl rfl)
theorem dX6_jam_78 : decode cX6_jam 78 = .ok (.getfield 64, 3) := dk_180 0 64 (dk_at dksX6_jam_3 6 rfl rfl)
theorem dX6_jam_81 : decode cX6_jam 81 = .ok (.iload_n 2, 1) := dk_28 (dk_at dksX6_jam_3 9 rfl rfl)
theorem dX6_jam_82 : decode cX6_jam 82 = .ok (.iaload, 1) := dk_46 (dk_at dksX6_jam_3 10 rfl rfl)
theorem dX6_jam_83 : decode cX6_jam 83 = .ok (.i2l, 1) := dk_133 (dk_at dksX6_jam_3 11 rfl rfl)
theorem dX6_jam_84 : decode cX6_jam 84 = .ok (.invokevirtual 358, 3) := dk_182 1 102 (dk_at dksX6_jam_3 12 rfl rfl)
theorem dX6_jam_87 : decode cX6_jam 87 = .ok (.aload_n 0, 1) := dk_42 (dk_at dksX6_jam_3 15 rfl rfl)
theorem dX6_jam_88 : decode cX6_jam 88 = .ok (.aload_n 0, 1) := dk_42 (dk_at dksX6_jam_3 16 rfl rfl)
theorem dX6_jam_89 : decode cX6_jam 89 = .ok (.getfield 327, 3) := dk_180 1 71 (dk_at dksX6_jam_3 17 rfl rfl)
theorem dX6_jam_92 : decode cX6_jam 92 = .ok (.i2l, 1) := dk_133 (dk_at dksX6_jam_3 20 rfl rfl)
theorem dX6_jam_93 : decode cX6_jam 93 = .ok (.invokevirtual 358, 3) := dk_182 1 102 (dk_at dksX6_jam_3 21 rfl rfl)
theorem dX6_jam_96 : decode cX6_jam 96 = .ok (.iload_n 2, 1) := dk_28 (dk_at dksX6_jam_4 0 rfl rfl)
theorem dX6_jam_97 : decode cX6_jam 97 = .ok (.ireturn, 1) := dk_172 (dk_at dksX6_jam_4 1 rfl rfl)
abbrev cX6_passes : ByteArray := prog_15_method_76_code
def yX6_passes : MethodName := ⟨RX6, "passes", "(II)I"⟩
def dkwX6_passes_5 : List UInt8 := [167, 255, 209, 16, 254, 172]
abbrev dktX6_passes_5 : List UInt8 := dkwX6_passes_5 ++ []
def dkwX6_passes_4 : List UInt8 := [153, 0, 21, 42, 3, 181, 0, 119, 42, 42, 180, 0, 34, 27, 46, 133, 182, 1, 102, 29, 172, 132, 3, 1]
abbrev dktX6_passes_4 : List UInt8 := dkwX6_passes_4 ++ dktX6_passes_5
def dkwX6_passes_3 : List UInt8 := [29, 16, 60, 163, 0, 47, 42, 42, 180, 0, 34, 182, 1, 87, 42, 180, 0, 34, 27, 28, 184, 1, 137]
abbrev dktX6_passes_3 : List UInt8 := dkwX6_passes_3 ++ dktX6_passes_4
def dkwX6_passes_2 : List UInt8 := [153, 0, 15, 42, 180, 0, 31, 27, 28, 184, 1, 137, 153, 0, 6, 16, 254, 172, 42, 182, 1, 134, 4, 62]
abbrev dktX6_passes_2 : List UInt8 := dkwX6_passes_2 ++ dktX6_passes_3
def dkwX6_passes_1 : List UInt8 := [160, 0, 5, 2, 172, 42, 180, 0, 31, 27, 184, 1, 10, 153, 0, 26, 42, 180, 0, 31, 28, 184, 1, 10]
abbrev dktX6_passes_1 : List UInt8 := dkwX6_passes_1 ++ dktX6_passes_2
def dkwX6_passes_0 : List UInt8 := [42, 3, 181, 0, 112, 42, 27, 182, 1, 38, 153, 0, 16, 42, 28, 182, 1, 38, 153, 0, 8, 27, 28]
abbrev dktX6_passes_0 : List UInt8 := dkwX6_passes_0 ++ dktX6_passes_1
theorem dksX6_passes_0 : cX6_passes.data.toList.drop 0 = dktX6_passes_0 := by decide +kernel
theorem dksX6_passes_1 : cX6_passes.data.toList.drop 23 = dktX6_passes_1 := dk_seg dksX6_passes_0 23 rfl rfl
theorem dksX6_passes_2 : cX6_passes.data.toList.drop 47 = dktX6_passes_2 := dk_seg dksX6_passes_1 24 rfl rfl
theorem dksX6_passes_3 : cX6_passes.data.toList.drop 71 = dktX6_passes_3 := dk_seg dksX6_passes_2 24 rfl rfl
theorem dksX6_passes_4 : cX6_passes.data.toList.drop 94 = dktX6_passes_4 := dk_seg dksX6_passes_3 23 rfl rfl
theorem dksX6_passes_5 : cX6_passes.data.toList.drop 118 = dktX6_passes_5 := dk_seg dksX6_passes_4 24 rfl rfl
theorem dX6_passes_0 : decode cX6_passes 0 = .ok (.aload_n 0, 1) := dk_42 (dk_at dksX6_passes_0 0 rfl rfl)
theorem dX6_passes_1 : decode cX6_passes 1 = .ok (.iconst 0, 1) := dk_3 (dk_at dksX6_passes_0 1 rfl rfl)
theorem dX6_passes_2 : decode cX6_passes 2 = .ok (.putfield 112, 3) := dk_181 0 112 (dk_at dksX6_passes_0 2 rfl rfl)
theorem dX6_passes_5 : decode cX6_passes 5 = .ok (.aload_n 0, 1) := dk_42 (dk_at dksX6_passes_0 5 rfl rfl)
theorem dX6_passes_6 : decode cX6_passes 6 = .ok (.iload_n 1, 1) := dk_27 (dk_at dksX6_passes_0 6 rfl rfl)
theorem dX6_passes_7 : decode cX6_passes 7 = .ok (.invokevirtual 294, 3) := dk_182 1 38 (dk_at dksX6_passes_0 7 rfl rfl)
theorem dX6_passes_10 : decode cX6_passes 10 = .ok (.ifCond .eq 16, 3) := dk_153 0 16 (dk_at dksX6_passes_0 10 rfl rfl)
theorem dX6_passes_13 : decode cX6_passes 13 = .ok (.aload_n 0, 1) := dk_42 (dk_at dksX6_passes_0 13 rfl rfl)
theorem dX6_passes_14 : decode cX6_passes 14 = .ok (.iload_n 2, 1) := dk_28 (dk_at dksX6_passes_0 14 rfl rfl)
theorem dX6_passes_15 : decode cX6_passes 15 = .ok (.invokevirtual 294, 3) := dk_182 1 38 (dk_at dksX6_passes_0 15 rfl rfl)
theorem dX6_passes_18 : decode cX6_passes 18 = .ok (.ifCond .eq 8, 3) := dk_153 0 8 (dk_at dksX6_passes_0 18 rfl rfl)
theorem dX6_passes_21 : decode cX6_passes 21 = .ok (.iload_n 1, 1) := dk_27 (dk_at dksX6_passes_0 21 rfl rfl)
theorem dX6_passes_22 : decode cX6_passes 22 = .ok (.iload_n 2, 1) := dk_28 (dk_at dksX6_passes_0 22 rfl rfl)
theorem dX6_passes_23 : decode cX6_passes 23 = .ok (.if_icmp .ne 5, 3) := dk_160 0 5 (dk_at dksX6_passes_1 0 rfl rfl)
theorem dX6_passes_26 : decode cX6_passes 26 = .ok (.iconst (-1), 1) := dk_2 (dk_at dksX6_passes_1 3 rfl rfl)
theorem dX6_passes_27 : decode cX6_passes 27 = .ok (.ireturn, 1) := dk_172 (dk_at dksX6_passes_1 4 rfl rfl)
theorem dX6_passes_28 : decode cX6_passes 28 = .ok (.aload_n 0, 1) := dk_42 (dk_at dksX6_passes_1 5 rfl rfl)
theorem dX6_passes_29 : decode cX6_passes 29 = .ok (.getfield 31, 3) := dk_180 0 31 (dk_at dksX6_passes_1 6 rfl rfl)
theorem dX6_passes_32 : decode cX6_passes 32 = .ok (.iload_n 1, 1) := dk_27 (dk_at dksX6_passes_1 9 rfl rfl)
theorem dX6_passes_33 : decode cX6_passes 33 = .ok (.invokestatic 266, 3) := dk_184 1 10 (dk_at dksX6_passes_1 10 rfl rfl)
theorem dX6_passes_36 : decode cX6_passes 36 = .ok (.ifCond .eq 26, 3) := dk_153 0 26 (dk_at dksX6_passes_1 13 rfl rfl)
theorem dX6_passes_39 : decode cX6_passes 39 = .ok (.aload_n 0, 1) := dk_42 (dk_at dksX6_passes_1 16 rfl rfl)
theorem dX6_passes_40 : decode cX6_passes 40 = .ok (.getfield 31, 3) := dk_180 0 31 (dk_at dksX6_passes_1 17 rfl rfl)
theorem dX6_passes_43 : decode cX6_passes 43 = .ok (.iload_n 2, 1) := dk_28 (dk_at dksX6_passes_1 20 rfl rfl)
theorem dX6_passes_44 : decode cX6_passes 44 = .ok (.invokestatic 266, 3) := dk_184 1 10 (dk_at dksX6_passes_1 21 rfl rfl)
theorem dX6_passes_47 : decode cX6_passes 47 = .ok (.ifCond .eq 15, 3) := dk_153 0 15 (dk_at dksX6_passes_2 0 rfl rfl)
theorem dX6_passes_50 : decode cX6_passes 50 = .ok (.aload_n 0, 1) := dk_42 (dk_at dksX6_passes_2 3 rfl rfl)
theorem dX6_passes_51 : decode cX6_passes 51 = .ok (.getfield 31, 3) := dk_180 0 31 (dk_at dksX6_passes_2 4 rfl rfl)
theorem dX6_passes_54 : decode cX6_passes 54 = .ok (.iload_n 1, 1) := dk_27 (dk_at dksX6_passes_2 7 rfl rfl)
theorem dX6_passes_55 : decode cX6_passes 55 = .ok (.iload_n 2, 1) := dk_28 (dk_at dksX6_passes_2 8 rfl rfl)
theorem dX6_passes_56 : decode cX6_passes 56 = .ok (.invokestatic 393, 3) := dk_184 1 137 (dk_at dksX6_passes_2 9 rfl rfl)
theorem dX6_passes_59 : decode cX6_passes 59 = .ok (.ifCond .eq 6, 3) := dk_153 0 6 (dk_at dksX6_passes_2 12 rfl rfl)
theorem dX6_passes_62 : decode cX6_passes 62 = .ok (.bipush (-2), 2) := dk_16 254 (dk_at dksX6_passes_2 15 rfl rfl)
theorem dX6_passes_64 : decode cX6_passes 64 = .ok (.ireturn, 1) := dk_172 (dk_at dksX6_passes_2 17 rfl rfl)
theorem dX6_passes_65 : decode cX6_passes 65 = .ok (.aload_n 0, 1) := dk_42 (dk_at dksX6_passes_2 18 rfl rfl)
theorem dX6_passes_66 : decode cX6_passes 66 = .ok (.invokevirtual 390, 3) := dk_182 1 134 (dk_at dksX6_passes_2 19 rfl rfl)
theorem dX6_passes_69 : decode cX6_passes 69 = .ok (.iconst 1, 1) := dk_4 (dk_at dksX6_passes_2 22 rfl rfl)
theorem dX6_passes_70 : decode cX6_passes 70 = .ok (.istore_n 3, 1) := dk_62 (dk_at dksX6_passes_2 23 rfl rfl)
theorem dX6_passes_71 : decode cX6_passes 71 = .ok (.iload_n 3, 1) := dk_29 (dk_at dksX6_passes_3 0 rfl rfl)
theorem dX6_passes_72 : decode cX6_passes 72 = .ok (.bipush 60, 2) := dk_16 60 (dk_at dksX6_passes_3 1 rfl rfl)
theorem dX6_passes_74 : decode cX6_passes 74 = .ok (.if_icmp .gt 47, 3) := dk_163 0 47 (dk_at dksX6_passes_3 3 rfl rfl)
theorem dX6_passes_77 : decode cX6_passes 77 = .ok (.aload_n 0, 1) := dk_42 (dk_at dksX6_passes_3 6 rfl rfl)
theorem dX6_passes_78 : decode cX6_passes 78 = .ok (.aload_n 0, 1) := dk_42 (dk_at dksX6_passes_3 7 rfl rfl)
theorem dX6_passes_79 : decode cX6_passes 79 = .ok (.getfield 34, 3) := dk_180 0 34 (dk_at dksX6_passes_3 8 rfl rfl)
theorem dX6_passes_82 : decode cX6_passes 82 = .ok (.invokevirtual 343, 3) := dk_182 1 87 (dk_at dksX6_passes_3 11 rfl rfl)
theorem dX6_passes_85 : decode cX6_passes 85 = .ok (.aload_n 0, 1) := dk_42 (dk_at dksX6_passes_3 14 rfl rfl)
theorem dX6_passes_86 : decode cX6_passes 86 = .ok (.getfield 34, 3) := dk_180 0 34 (dk_at dksX6_passes_3 15 rfl rfl)
theorem dX6_passes_89 : decode cX6_passes 89 = .ok (.iload_n 1, 1) := dk_27 (dk_at dksX6_passes_3 18 rfl rfl)
theorem dX6_passes_90 : decode cX6_passes 90 = .ok (.iload_n 2, 1) := dk_28 (dk_at dksX6_passes_3 19 rfl rfl)
theorem dX6_passes_91 : decode cX6_passes 91 = .ok (.invokestatic 393, 3) := dk_184 1 137 (dk_at dksX6_passes_3 20 rfl rfl)
theorem dX6_passes_94 : decode cX6_passes 94 = .ok (.ifCond .eq 21, 3) := dk_153 0 21 (dk_at dksX6_passes_4 0 rfl rfl)
theorem dX6_passes_97 : decode cX6_passes 97 = .ok (.aload_n 0, 1) := dk_42 (dk_at dksX6_passes_4 3 rfl rfl)
theorem dX6_passes_98 : decode cX6_passes 98 = .ok (.iconst 0, 1) := dk_3 (dk_at dksX6_passes_4 4 rfl rfl)
theorem dX6_passes_99 : decode cX6_passes 99 = .ok (.putfield 119, 3) := dk_181 0 119 (dk_at dksX6_passes_4 5 rfl rfl)
theorem dX6_passes_102 : decode cX6_passes 102 = .ok (.aload_n 0, 1) := dk_42 (dk_at dksX6_passes_4 8 rfl rfl)
theorem dX6_passes_103 : decode cX6_passes 103 = .ok (.aload_n 0, 1) := dk_42 (dk_at dksX6_passes_4 9 rfl rfl)
theorem dX6_passes_104 : decode cX6_passes 104 = .ok (.getfield 34, 3) := dk_180 0 34 (dk_at dksX6_passes_4 10 rfl rfl)
theorem dX6_passes_107 : decode cX6_passes 107 = .ok (.iload_n 1, 1) := dk_27 (dk_at dksX6_passes_4 13 rfl rfl)
theorem dX6_passes_108 : decode cX6_passes 108 = .ok (.iaload, 1) := dk_46 (dk_at dksX6_passes_4 14 rfl rfl)
theorem dX6_passes_109 : decode cX6_passes 109 = .ok (.i2l, 1) := dk_133 (dk_at dksX6_passes_4 15 rfl rfl)
theorem dX6_passes_110 : decode cX6_passes 110 = .ok (.invokevirtual 358, 3) := dk_182 1 102 (dk_at dksX6_passes_4 16 rfl rfl)
theorem dX6_passes_113 : decode cX6_passes 113 = .ok (.iload_n 3, 1) := dk_29 (dk_at dksX6_passes_4 19 rfl rfl)
theorem dX6_passes_114 : decode cX6_passes 114 = .ok (.ireturn, 1) := dk_172 (dk_at dksX6_passes_4 20 rfl rfl)
theorem dX6_passes_115 : decode cX6_passes 115 = .ok (.iinc 3 1, 3) := dk_132 3 1 (dk_at dksX6_passes_4 21 rfl rfl)
theorem dX6_passes_118 : decode cX6_passes 118 = .ok (.goto (-47), 3) := dk_167 255 209 (dk_at dksX6_passes_5 0 rfl rfl)
theorem dX6_passes_121 : decode cX6_passes 121 = .ok (.bipush (-2), 2) := dk_16 254 (dk_at dksX6_passes_5 3 rfl rfl)
theorem dX6_passes_123 : decode cX6_passes 123 = .ok (.ireturn, 1) := dk_172 (dk_at dksX6_passes_5 5 rfl rfl)
abbrev cX6_isAhead : ByteArray := prog_15_method_75_code
def yX6_isAhead : MethodName := ⟨RX6, "isAhead", "([III)Z"⟩
def dkwX6_isAhead_2 : List UInt8 := [16, 6, 28, 96, 46, 162, 0, 7, 4, 167, 0, 4, 3, 172]
abbrev dktX6_isAhead_2 : List UInt8 := dkwX6_isAhead_2 ++ []
def dkwX6_isAhead_1 : List UInt8 := [164, 0, 7, 4, 167, 0, 4, 3, 172, 42, 28, 184, 1, 10, 154, 0, 18, 42, 16, 6, 27, 96, 46, 42]
abbrev dktX6_isAhead_1 : List UInt8 := dkwX6_isAhead_1 ++ dktX6_isAhead_2
def dkwX6_isAhead_0 : List UInt8 := [42, 27, 184, 1, 10, 153, 0, 26, 42, 28, 184, 1, 10, 153, 0, 16, 42, 27, 46, 42, 28, 46]
abbrev dktX6_isAhead_0 : List UInt8 := dkwX6_isAhead_0 ++ dktX6_isAhead_1
theorem dksX6_isAhead_0 : cX6_isAhead.data.toList.drop 0 = dktX6_isAhead_0 := by decide +kernel
theorem dksX6_isAhead_1 : cX6_isAhead.data.toList.drop 22 = dktX6_isAhead_1 := dk_seg dksX6_isAhead_0 22 rfl rfl
theorem dksX6_isAhead_2 : cX6_isAhead.data.toList.drop 46 = dktX6_isAhead_2 := dk_seg dksX6_isAhead_1 24 rfl rfl
theorem dX6_isAhead_0 : decode cX6_isAhead 0 = .ok (.aload_n 0, 1) := dk_42 (dk_at dksX6_isAhead_0 0 rfl rfl)
theorem dX6_isAhead_1 : decode cX6_isAhead 1 = .ok (.iload_n 1, 1) := dk_27 (dk_at dksX6_isAhead_0 1 rfl rfl)
theorem dX6_isAhead_2 : decode cX6_isAhead 2 = .ok (.invokestatic 266, 3) := dk_184 1 10 (dk_at dksX6_isAhead_0 2 rfl rfl)
theorem dX6_isAhead_5 : decode cX6_isAhead 5 = .ok (.ifCond .eq 26, 3) := dk_153 0 26 (dk_at dksX6_isAhead_0 5 rfl rfl)
theorem dX6_isAhead_8 : decode cX6_isAhead 8 = .ok (.aload_n 0, 1) := dk_42 (dk_at dksX6_isAhead_0 8 rfl rfl)
theorem dX6_isAhead_9 : decode cX6_isAhead 9 = .ok (.iload_n 2, 1) := dk_28 (dk_at dksX6_isAhead_0 9 rfl rfl)
theorem dX6_isAhead_10 : decode cX6_isAhead 10 = .ok (.invokestatic 266, 3) := dk_184 1 10 (dk_at dksX6_isAhead_0 10 rfl rfl)
theorem dX6_isAhead_13 : decode cX6_isAhead 13 = .ok (.ifCond .eq 16, 3) := dk_153 0 16 (dk_at dksX6_isAhead_0 13 rfl rfl)
theorem dX6_isAhead_16 : decode cX6_isAhead 16 = .ok (.aload_n 0, 1) := dk_42 (dk_at dksX6_isAhead_0 16 rfl rfl)
theorem dX6_isAhead_17 : decode cX6_isAhead 17 = .ok (.iload_n 1, 1) := dk_27 (dk_at dksX6_isAhead_0 17 rfl rfl)
theorem dX6_isAhead_18 : decode cX6_isAhead 18 = .ok (.iaload, 1) := dk_46 (dk_at dksX6_isAhead_0 18 rfl rfl)
theorem dX6_isAhead_19 : decode cX6_isAhead 19 = .ok (.aload_n 0, 1) := dk_42 (dk_at dksX6_isAhead_0 19 rfl rfl)
theorem dX6_isAhead_20 : decode cX6_isAhead 20 = .ok (.iload_n 2, 1) := dk_28 (dk_at dksX6_isAhead_0 20 rfl rfl)
theorem dX6_isAhead_21 : decode cX6_isAhead 21 = .ok (.iaload, 1) := dk_46 (dk_at dksX6_isAhead_0 21 rfl rfl)
theorem dX6_isAhead_22 : decode cX6_isAhead 22 = .ok (.if_icmp .le 7, 3) := dk_164 0 7 (dk_at dksX6_isAhead_1 0 rfl rfl)
theorem dX6_isAhead_25 : decode cX6_isAhead 25 = .ok (.iconst 1, 1) := dk_4 (dk_at dksX6_isAhead_1 3 rfl rfl)
theorem dX6_isAhead_26 : decode cX6_isAhead 26 = .ok (.goto 4, 3) := dk_167 0 4 (dk_at dksX6_isAhead_1 4 rfl rfl)
theorem dX6_isAhead_29 : decode cX6_isAhead 29 = .ok (.iconst 0, 1) := dk_3 (dk_at dksX6_isAhead_1 7 rfl rfl)
theorem dX6_isAhead_30 : decode cX6_isAhead 30 = .ok (.ireturn, 1) := dk_172 (dk_at dksX6_isAhead_1 8 rfl rfl)
theorem dX6_isAhead_31 : decode cX6_isAhead 31 = .ok (.aload_n 0, 1) := dk_42 (dk_at dksX6_isAhead_1 9 rfl rfl)
theorem dX6_isAhead_32 : decode cX6_isAhead 32 = .ok (.iload_n 2, 1) := dk_28 (dk_at dksX6_isAhead_1 10 rfl rfl)
theorem dX6_isAhead_33 : decode cX6_isAhead 33 = .ok (.invokestatic 266, 3) := dk_184 1 10 (dk_at dksX6_isAhead_1 11 rfl rfl)
theorem dX6_isAhead_36 : decode cX6_isAhead 36 = .ok (.ifCond .ne 18, 3) := dk_154 0 18 (dk_at dksX6_isAhead_1 14 rfl rfl)
theorem dX6_isAhead_39 : decode cX6_isAhead 39 = .ok (.aload_n 0, 1) := dk_42 (dk_at dksX6_isAhead_1 17 rfl rfl)
theorem dX6_isAhead_40 : decode cX6_isAhead 40 = .ok (.bipush 6, 2) := dk_16 6 (dk_at dksX6_isAhead_1 18 rfl rfl)
theorem dX6_isAhead_42 : decode cX6_isAhead 42 = .ok (.iload_n 1, 1) := dk_27 (dk_at dksX6_isAhead_1 20 rfl rfl)
theorem dX6_isAhead_43 : decode cX6_isAhead 43 = .ok (.iadd, 1) := dk_96 (dk_at dksX6_isAhead_1 21 rfl rfl)
theorem dX6_isAhead_44 : decode cX6_isAhead 44 = .ok (.iaload, 1) := dk_46 (dk_at dksX6_isAhead_1 22 rfl rfl)
theorem dX6_isAhead_45 : decode cX6_isAhead 45 = .ok (.aload_n 0, 1) := dk_42 (dk_at dksX6_isAhead_1 23 rfl rfl)
theorem dX6_isAhead_46 : decode cX6_isAhead 46 = .ok (.bipush 6, 2) := dk_16 6 (dk_at dksX6_isAhead_2 0 rfl rfl)
theorem dX6_isAhead_48 : decode cX6_isAhead 48 = .ok (.iload_n 2, 1) := dk_28 (dk_at dksX6_isAhead_2 2 rfl rfl)
theorem dX6_isAhead_49 : decode cX6_isAhead 49 = .ok (.iadd, 1) := dk_96 (dk_at dksX6_isAhead_2 3 rfl rfl)
theorem dX6_isAhead_50 : decode cX6_isAhead 50 = .ok (.iaload, 1) := dk_46 (dk_at dksX6_isAhead_2 4 rfl rfl)
theorem dX6_isAhead_51 : decode cX6_isAhead 51 = .ok (.if_icmp .ge 7, 3) := dk_162 0 7 (dk_at dksX6_isAhead_2 5 rfl rfl)
theorem dX6_isAhead_54 : decode cX6_isAhead 54 = .ok (.iconst 1, 1) := dk_4 (dk_at dksX6_isAhead_2 8 rfl rfl)
theorem dX6_isAhead_55 : decode cX6_isAhead 55 = .ok (.goto 4, 3) := dk_167 0 4 (dk_at dksX6_isAhead_2 9 rfl rfl)
theorem dX6_isAhead_58 : decode cX6_isAhead 58 = .ok (.iconst 0, 1) := dk_3 (dk_at dksX6_isAhead_2 12 rfl rfl)
theorem dX6_isAhead_59 : decode cX6_isAhead 59 = .ok (.ireturn, 1) := dk_172 (dk_at dksX6_isAhead_2 13 rfl rfl)
abbrev cX6_ends : ByteArray := prog_15_method_77_code
def yX6_ends : MethodName := ⟨RX6, "ends", "(I)I"⟩
def dkwX6_ends_4 : List UInt8 := [16, 254, 172]
abbrev dktX6_ends_4 : List UInt8 := dkwX6_ends_4 ++ []
def dkwX6_ends_3 : List UInt8 := [180, 0, 34, 16, 29, 27, 96, 46, 172, 42, 42, 180, 0, 34, 182, 1, 87, 132, 2, 1, 167, 255, 195]
abbrev dktX6_ends_3 : List UInt8 := dkwX6_ends_3 ++ dktX6_ends_4
def dkwX6_ends_2 : List UInt8 := [42, 3, 181, 0, 119, 42, 28, 133, 182, 1, 102, 42, 42, 180, 0, 67, 27, 46, 133, 182, 1, 102, 42]
abbrev dktX6_ends_2 : List UInt8 := dkwX6_ends_2 ++ dktX6_ends_3
def dkwX6_ends_1 : List UInt8 := [3, 182, 1, 99, 3, 61, 28, 17, 0, 200, 163, 0, 60, 42, 180, 0, 34, 27, 184, 0, 132, 153, 0, 35]
abbrev dktX6_ends_1 : List UInt8 := dkwX6_ends_1 ++ dktX6_ends_2
def dkwX6_ends_0 : List UInt8 := [42, 3, 181, 0, 112, 42, 27, 182, 1, 52, 154, 0, 5, 2, 172, 42, 182, 1, 134, 42, 42, 180, 0, 34]
abbrev dktX6_ends_0 : List UInt8 := dkwX6_ends_0 ++ dktX6_ends_1
theorem dksX6_ends_0 : cX6_ends.data.toList.drop 0 = dktX6_ends_0 := by decide +kernel
theorem dksX6_ends_1 : cX6_ends.data.toList.drop 24 = dktX6_ends_1 := dk_seg dksX6_ends_0 24 rfl rfl
theorem dksX6_ends_2 : cX6_ends.data.toList.drop 48 = dktX6_ends_2 := dk_seg dksX6_ends_1 24 rfl rfl
theorem dksX6_ends_3 : cX6_ends.data.toList.drop 71 = dktX6_ends_3 := dk_seg dksX6_ends_2 23 rfl rfl
theorem dksX6_ends_4 : cX6_ends.data.toList.drop 94 = dktX6_ends_4 := dk_seg dksX6_ends_3 23 rfl rfl
theorem dX6_ends_0 : decode cX6_ends 0 = .ok (.aload_n 0, 1) := dk_42 (dk_at dksX6_ends_0 0 rfl rfl)
theorem dX6_ends_1 : decode cX6_ends 1 = .ok (.iconst 0, 1) := dk_3 (dk_at dksX6_ends_0 1 rfl rfl)
theorem dX6_ends_2 : decode cX6_ends 2 = .ok (.putfield 112, 3) := dk_181 0 112 (dk_at dksX6_ends_0 2 rfl rfl)
theorem dX6_ends_5 : decode cX6_ends 5 = .ok (.aload_n 0, 1) := dk_42 (dk_at dksX6_ends_0 5 rfl rfl)
theorem dX6_ends_6 : decode cX6_ends 6 = .ok (.iload_n 1, 1) := dk_27 (dk_at dksX6_ends_0 6 rfl rfl)
theorem dX6_ends_7 : decode cX6_ends 7 = .ok (.invokevirtual 308, 3) := dk_182 1 52 (dk_at dksX6_ends_0 7 rfl rfl)
theorem dX6_ends_10 : decode cX6_ends 10 = .ok (.ifCond .ne 5, 3) := dk_154 0 5 (dk_at dksX6_ends_0 10 rfl rfl)
theorem dX6_ends_13 : decode cX6_ends 13 = .ok (.iconst (-1), 1) := dk_2 (dk_at dksX6_ends_0 13 rfl rfl)
theorem dX6_ends_14 : decode cX6_ends 14 = .ok (.ireturn, 1) := dk_172 (dk_at dksX6_ends_0 14 rfl rfl)
theorem dX6_ends_15 : decode cX6_ends 15 = .ok (.aload_n 0, 1) := dk_42 (dk_at dksX6_ends_0 15 rfl rfl)
theorem dX6_ends_16 : decode cX6_ends 16 = .ok (.invokevirtual 390, 3) := dk_182 1 134 (dk_at dksX6_ends_0 16 rfl rfl)
theorem dX6_ends_19 : decode cX6_ends 19 = .ok (.aload_n 0, 1) := dk_42 (dk_at dksX6_ends_0 19 rfl rfl)
theorem dX6_ends_20 : decode cX6_ends 20 = .ok (.aload_n 0, 1) := dk_42 (dk_at dksX6_ends_0 20 rfl rfl)
theorem dX6_ends_21 : decode cX6_ends 21 = .ok (.getfield 34, 3) := dk_180 0 34 (dk_at dksX6_ends_0 21 rfl rfl)
theorem dX6_ends_24 : decode cX6_ends 24 = .ok (.iconst 0, 1) := dk_3 (dk_at dksX6_ends_1 0 rfl rfl)
theorem dX6_ends_25 : decode cX6_ends 25 = .ok (.invokevirtual 355, 3) := dk_182 1 99 (dk_at dksX6_ends_1 1 rfl rfl)
theorem dX6_ends_28 : decode cX6_ends 28 = .ok (.iconst 0, 1) := dk_3 (dk_at dksX6_ends_1 4 rfl rfl)
theorem dX6_ends_29 : decode cX6_ends 29 = .ok (.istore_n 2, 1) := dk_61 (dk_at dksX6_ends_1 5 rfl rfl)
theorem dX6_ends_30 : decode cX6_ends 30 = .ok (.iload_n 2, 1) := dk_28 (dk_at dksX6_ends_1 6 rfl rfl)
theorem dX6_ends_31 : decode cX6_ends 31 = .ok (.sipush 200, 3) := dk_17 0 200 (dk_at dksX6_ends_1 7 rfl rfl)
theorem dX6_ends_34 : decode cX6_ends 34 = .ok (.if_icmp .gt 60, 3) := dk_163 0 60 (dk_at dksX6_ends_1 10 rfl rfl)
theorem dX6_ends_37 : decode cX6_ends 37 = .ok (.aload_n 0, 1) := dk_42 (dk_at dksX6_ends_1 13 rfl rfl)
theorem dX6_ends_38 : decode cX6_ends 38 = .ok (.getfield 34, 3) := dk_180 0 34 (dk_at dksX6_ends_1 14 rfl rfl)
theorem dX6_ends_41 : decode cX6_ends 41 = .ok (.iload_n 1, 1) := dk_27 (dk_at dksX6_ends_1 17 rfl rfl)
theorem dX6_ends_42 : decode cX6_ends 42 = .ok (.invokestatic 132, 3) := dk_184 0 132 (dk_at dksX6_ends_1 18 rfl rfl)
theorem dX6_ends_45 : decode cX6_ends 45 = .ok (.ifCond .eq 35, 3) := dk_153 0 35 (dk_at dksX6_ends_1 21 rfl rfl)
theorem dX6_ends_48 : decode cX6_ends 48 = .ok (.aload_n 0, 1) := dk_42 (dk_at dksX6_ends_2 0 rfl rfl)
theorem dX6_ends_49 : decode cX6_ends 49 = .ok (.iconst 0, 1) := dk_3 (dk_at dksX6_ends_2 1 rfl rfl)
theorem dX6_ends_50 : decode cX6_ends 50 = .ok (.putfield 119, 3) := dk_181 0 119 (dk_at dksX6_ends_2 2 rfl rfl)
theorem dX6_ends_53 : decode cX6_ends 53 = .ok (.aload_n 0, 1) := dk_42 (dk_at dksX6_ends_2 5 rfl rfl)
theorem dX6_ends_54 : decode cX6_ends 54 = .ok (.iload_n 2, 1) := dk_28 (dk_at dksX6_ends_2 6 rfl rfl)
theorem dX6_ends_55 : decode cX6_ends 55 = .ok (.i2l, 1) := dk_133 (dk_at dksX6_ends_2 7 rfl rfl)
theorem dX6_ends_56 : decode cX6_ends 56 = .ok (.invokevirtual 358, 3) := dk_182 1 102 (dk_at dksX6_ends_2 8 rfl rfl)
theorem dX6_ends_59 : decode cX6_ends 59 = .ok (.aload_n 0, 1) := dk_42 (dk_at dksX6_ends_2 11 rfl rfl)
theorem dX6_ends_60 : decode cX6_ends 60 = .ok (.aload_n 0, 1) := dk_42 (dk_at dksX6_ends_2 12 rfl rfl)
theorem dX6_ends_61 : decode cX6_ends 61 = .ok (.getfield 67, 3) := dk_180 0 67 (dk_at dksX6_ends_2 13 rfl rfl)
theorem dX6_ends_64 : decode cX6_ends 64 = .ok (.iload_n 1, 1) := dk_27 (dk_at dksX6_ends_2 16 rfl rfl)
theorem dX6_ends_65 : decode cX6_ends 65 = .ok (.iaload, 1) := dk_46 (dk_at dksX6_ends_2 17 rfl rfl)
theorem dX6_ends_66 : decode cX6_ends 66 = .ok (.i2l, 1) := dk_133 (dk_at dksX6_ends_2 18 rfl rfl)
theorem dX6_ends_67 : decode cX6_ends 67 = .ok (.invokevirtual 358, 3) := dk_182 1 102 (dk_at dksX6_ends_2 19 rfl rfl)
theorem dX6_ends_70 : decode cX6_ends 70 = .ok (.aload_n 0, 1) := dk_42 (dk_at dksX6_ends_2 22 rfl rfl)
theorem dX6_ends_71 : decode cX6_ends 71 = .ok (.getfield 34, 3) := dk_180 0 34 (dk_at dksX6_ends_3 0 rfl rfl)
theorem dX6_ends_74 : decode cX6_ends 74 = .ok (.bipush 29, 2) := dk_16 29 (dk_at dksX6_ends_3 3 rfl rfl)
theorem dX6_ends_76 : decode cX6_ends 76 = .ok (.iload_n 1, 1) := dk_27 (dk_at dksX6_ends_3 5 rfl rfl)
theorem dX6_ends_77 : decode cX6_ends 77 = .ok (.iadd, 1) := dk_96 (dk_at dksX6_ends_3 6 rfl rfl)
theorem dX6_ends_78 : decode cX6_ends 78 = .ok (.iaload, 1) := dk_46 (dk_at dksX6_ends_3 7 rfl rfl)
theorem dX6_ends_79 : decode cX6_ends 79 = .ok (.ireturn, 1) := dk_172 (dk_at dksX6_ends_3 8 rfl rfl)
theorem dX6_ends_80 : decode cX6_ends 80 = .ok (.aload_n 0, 1) := dk_42 (dk_at dksX6_ends_3 9 rfl rfl)
theorem dX6_ends_81 : decode cX6_ends 81 = .ok (.aload_n 0, 1) := dk_42 (dk_at dksX6_ends_3 10 rfl rfl)
theorem dX6_ends_82 : decode cX6_ends 82 = .ok (.getfield 34, 3) := dk_180 0 34 (dk_at dksX6_ends_3 11 rfl rfl)
theorem dX6_ends_85 : decode cX6_ends 85 = .ok (.invokevirtual 343, 3) := dk_182 1 87 (dk_at dksX6_ends_3 14 rfl rfl)
theorem dX6_ends_88 : decode cX6_ends 88 = .ok (.iinc 2 1, 3) := dk_132 2 1 (dk_at dksX6_ends_3 17 rfl rfl)
theorem dX6_ends_91 : decode cX6_ends 91 = .ok (.goto (-61), 3) := dk_167 255 195 (dk_at dksX6_ends_3 20 rfl rfl)
theorem dX6_ends_94 : decode cX6_ends 94 = .ok (.bipush (-2), 2) := dk_16 254 (dk_at dksX6_ends_4 0 rfl rfl)
theorem dX6_ends_96 : decode cX6_ends 96 = .ok (.ireturn, 1) := dk_172 (dk_at dksX6_ends_4 2 rfl rfl)
abbrev cX6_right : ByteArray := prog_15_method_79_code
def yX6_right : MethodName := ⟨RX6, "right", "()I"⟩
def dkwX6_right_1 : List UInt8 := [182, 1, 102, 42, 42, 42, 180, 0, 34, 3, 182, 1, 141, 133, 182, 1, 102, 27, 184, 1, 23, 172]
abbrev dktX6_right_1 : List UInt8 := dkwX6_right_1 ++ []
def dkwX6_right_0 : List UInt8 := [42, 3, 181, 0, 112, 42, 182, 1, 134, 42, 182, 1, 145, 60, 42, 3, 181, 0, 119, 42, 27, 133]
abbrev dktX6_right_0 : List UInt8 := dkwX6_right_0 ++ dktX6_right_1
theorem dksX6_right_0 : cX6_right.data.toList.drop 0 = dktX6_right_0 := by decide +kernel
theorem dksX6_right_1 : cX6_right.data.toList.drop 22 = dktX6_right_1 := dk_seg dksX6_right_0 22 rfl rfl
theorem dX6_right_0 : decode cX6_right 0 = .ok (.aload_n 0, 1) := dk_42 (dk_at dksX6_right_0 0 rfl rfl)
theorem dX6_right_1 : decode cX6_right 1 = .ok (.iconst 0, 1) := dk_3 (dk_at dksX6_right_0 1 rfl rfl)
theorem dX6_right_2 : decode cX6_right 2 = .ok (.putfield 112, 3) := dk_181 0 112 (dk_at dksX6_right_0 2 rfl rfl)
theorem dX6_right_5 : decode cX6_right 5 = .ok (.aload_n 0, 1) := dk_42 (dk_at dksX6_right_0 5 rfl rfl)
theorem dX6_right_6 : decode cX6_right 6 = .ok (.invokevirtual 390, 3) := dk_182 1 134 (dk_at dksX6_right_0 6 rfl rfl)
theorem dX6_right_9 : decode cX6_right 9 = .ok (.aload_n 0, 1) := dk_42 (dk_at dksX6_right_0 9 rfl rfl)
theorem dX6_right_10 : decode cX6_right 10 = .ok (.invokevirtual 401, 3) := dk_182 1 145 (dk_at dksX6_right_0 10 rfl rfl)
theorem dX6_right_13 : decode cX6_right 13 = .ok (.istore_n 1, 1) := dk_60 (dk_at dksX6_right_0 13 rfl rfl)
theorem dX6_right_14 : decode cX6_right 14 = .ok (.aload_n 0, 1) := dk_42 (dk_at dksX6_right_0 14 rfl rfl)
theorem dX6_right_15 : decode cX6_right 15 = .ok (.iconst 0, 1) := dk_3 (dk_at dksX6_right_0 15 rfl rfl)
theorem dX6_right_16 : decode cX6_right 16 = .ok (.putfield 119, 3) := dk_181 0 119 (dk_at dksX6_right_0 16 rfl rfl)
theorem dX6_right_19 : decode cX6_right 19 = .ok (.aload_n 0, 1) := dk_42 (dk_at dksX6_right_0 19 rfl rfl)
theorem dX6_right_20 : decode cX6_right 20 = .ok (.iload_n 1, 1) := dk_27 (dk_at dksX6_right_0 20 rfl rfl)
theorem dX6_right_21 : decode cX6_right 21 = .ok (.i2l, 1) := dk_133 (dk_at dksX6_right_0 21 rfl rfl)
theorem dX6_right_22 : decode cX6_right 22 = .ok (.invokevirtual 358, 3) := dk_182 1 102 (dk_at dksX6_right_1 0 rfl rfl)
theorem dX6_right_25 : decode cX6_right 25 = .ok (.aload_n 0, 1) := dk_42 (dk_at dksX6_right_1 3 rfl rfl)
theorem dX6_right_26 : decode cX6_right 26 = .ok (.aload_n 0, 1) := dk_42 (dk_at dksX6_right_1 4 rfl rfl)
theorem dX6_right_27 : decode cX6_right 27 = .ok (.aload_n 0, 1) := dk_42 (dk_at dksX6_right_1 5 rfl rfl)
theorem dX6_right_28 : decode cX6_right 28 = .ok (.getfield 34, 3) := dk_180 0 34 (dk_at dksX6_right_1 6 rfl rfl)
theorem dX6_right_31 : decode cX6_right 31 = .ok (.iconst 0, 1) := dk_3 (dk_at dksX6_right_1 9 rfl rfl)
theorem dX6_right_32 : decode cX6_right 32 = .ok (.invokevirtual 397, 3) := dk_182 1 141 (dk_at dksX6_right_1 10 rfl rfl)
theorem dX6_right_35 : decode cX6_right 35 = .ok (.i2l, 1) := dk_133 (dk_at dksX6_right_1 13 rfl rfl)
theorem dX6_right_36 : decode cX6_right 36 = .ok (.invokevirtual 358, 3) := dk_182 1 102 (dk_at dksX6_right_1 14 rfl rfl)
theorem dX6_right_39 : decode cX6_right 39 = .ok (.iload_n 1, 1) := dk_27 (dk_at dksX6_right_1 17 rfl rfl)
theorem dX6_right_40 : decode cX6_right 40 = .ok (.invokestatic 279, 3) := dk_184 1 23 (dk_at dksX6_right_1 18 rfl rfl)
theorem dX6_right_43 : decode cX6_right 43 = .ok (.ireturn, 1) := dk_172 (dk_at dksX6_right_1 21 rfl rfl)
abbrev cX6_rightThen : ByteArray := prog_15_method_78_code
def yX6_rightThen : MethodName := ⟨RX6, "rightThen", "()I"⟩
def dkwX6_rightThen_2 : List UInt8 := [167, 255, 213, 42, 42, 180, 0, 34, 4, 182, 1, 141, 172]
abbrev dktX6_rightThen_2 : List UInt8 := dkwX6_rightThen_2 ++ []
def dkwX6_rightThen_1 : List UInt8 := [180, 1, 65, 158, 0, 7, 4, 167, 0, 4, 3, 60, 42, 42, 180, 0, 34, 182, 1, 87, 132, 2, 1]
abbrev dktX6_rightThen_1 : List UInt8 := dkwX6_rightThen_1 ++ dktX6_rightThen_2
def dkwX6_rightThen_0 : List UInt8 := [4, 60, 3, 61, 28, 17, 0, 200, 162, 0, 42, 27, 153, 0, 38, 42, 42, 180, 0, 34, 182, 1, 77, 42]
abbrev dktX6_rightThen_0 : List UInt8 := dkwX6_rightThen_0 ++ dktX6_rightThen_1
theorem dksX6_rightThen_0 : cX6_rightThen.data.toList.drop 0 = dktX6_rightThen_0 := by decide +kernel
theorem dksX6_rightThen_1 : cX6_rightThen.data.toList.drop 24 = dktX6_rightThen_1 := dk_seg dksX6_rightThen_0 24 rfl rfl
theorem dksX6_rightThen_2 : cX6_rightThen.data.toList.drop 47 = dktX6_rightThen_2 := dk_seg dksX6_rightThen_1 23 rfl rfl
theorem dX6_rightThen_0 : decode cX6_rightThen 0 = .ok (.iconst 1, 1) := dk_4 (dk_at dksX6_rightThen_0 0 rfl rfl)
theorem dX6_rightThen_1 : decode cX6_rightThen 1 = .ok (.istore_n 1, 1) := dk_60 (dk_at dksX6_rightThen_0 1 rfl rfl)
theorem dX6_rightThen_2 : decode cX6_rightThen 2 = .ok (.iconst 0, 1) := dk_3 (dk_at dksX6_rightThen_0 2 rfl rfl)
theorem dX6_rightThen_3 : decode cX6_rightThen 3 = .ok (.istore_n 2, 1) := dk_61 (dk_at dksX6_rightThen_0 3 rfl rfl)
theorem dX6_rightThen_4 : decode cX6_rightThen 4 = .ok (.iload_n 2, 1) := dk_28 (dk_at dksX6_rightThen_0 4 rfl rfl)
theorem dX6_rightThen_5 : decode cX6_rightThen 5 = .ok (.sipush 200, 3) := dk_17 0 200 (dk_at dksX6_rightThen_0 5 rfl rfl)
theorem dX6_rightThen_8 : decode cX6_rightThen 8 = .ok (.if_icmp .ge 42, 3) := dk_162 0 42 (dk_at dksX6_rightThen_0 8 rfl rfl)
theorem dX6_rightThen_11 : decode cX6_rightThen 11 = .ok (.iload_n 1, 1) := dk_27 (dk_at dksX6_rightThen_0 11 rfl rfl)
theorem dX6_rightThen_12 : decode cX6_rightThen 12 = .ok (.ifCond .eq 38, 3) := dk_153 0 38 (dk_at dksX6_rightThen_0 12 rfl rfl)
theorem dX6_rightThen_15 : decode cX6_rightThen 15 = .ok (.aload_n 0, 1) := dk_42 (dk_at dksX6_rightThen_0 15 rfl rfl)
theorem dX6_rightThen_16 : decode cX6_rightThen 16 = .ok (.aload_n 0, 1) := dk_42 (dk_at dksX6_rightThen_0 16 rfl rfl)
theorem dX6_rightThen_17 : decode cX6_rightThen 17 = .ok (.getfield 34, 3) := dk_180 0 34 (dk_at dksX6_rightThen_0 17 rfl rfl)
theorem dX6_rightThen_20 : decode cX6_rightThen 20 = .ok (.invokevirtual 333, 3) := dk_182 1 77 (dk_at dksX6_rightThen_0 20 rfl rfl)
theorem dX6_rightThen_23 : decode cX6_rightThen 23 = .ok (.aload_n 0, 1) := dk_42 (dk_at dksX6_rightThen_0 23 rfl rfl)
theorem dX6_rightThen_24 : decode cX6_rightThen 24 = .ok (.getfield 321, 3) := dk_180 1 65 (dk_at dksX6_rightThen_1 0 rfl rfl)
theorem dX6_rightThen_27 : decode cX6_rightThen 27 = .ok (.ifCond .le 7, 3) := dk_158 0 7 (dk_at dksX6_rightThen_1 3 rfl rfl)
theorem dX6_rightThen_30 : decode cX6_rightThen 30 = .ok (.iconst 1, 1) := dk_4 (dk_at dksX6_rightThen_1 6 rfl rfl)
theorem dX6_rightThen_31 : decode cX6_rightThen 31 = .ok (.goto 4, 3) := dk_167 0 4 (dk_at dksX6_rightThen_1 7 rfl rfl)
theorem dX6_rightThen_34 : decode cX6_rightThen 34 = .ok (.iconst 0, 1) := dk_3 (dk_at dksX6_rightThen_1 10 rfl rfl)
theorem dX6_rightThen_35 : decode cX6_rightThen 35 = .ok (.istore_n 1, 1) := dk_60 (dk_at dksX6_rightThen_1 11 rfl rfl)
theorem dX6_rightThen_36 : decode cX6_rightThen 36 = .ok (.aload_n 0, 1) := dk_42 (dk_at dksX6_rightThen_1 12 rfl rfl)
theorem dX6_rightThen_37 : decode cX6_rightThen 37 = .ok (.aload_n 0, 1) := dk_42 (dk_at dksX6_rightThen_1 13 rfl rfl)
theorem dX6_rightThen_38 : decode cX6_rightThen 38 = .ok (.getfield 34, 3) := dk_180 0 34 (dk_at dksX6_rightThen_1 14 rfl rfl)
theorem dX6_rightThen_41 : decode cX6_rightThen 41 = .ok (.invokevirtual 343, 3) := dk_182 1 87 (dk_at dksX6_rightThen_1 17 rfl rfl)
theorem dX6_rightThen_44 : decode cX6_rightThen 44 = .ok (.iinc 2 1, 3) := dk_132 2 1 (dk_at dksX6_rightThen_1 20 rfl rfl)
theorem dX6_rightThen_47 : decode cX6_rightThen 47 = .ok (.goto (-43), 3) := dk_167 255 213 (dk_at dksX6_rightThen_2 0 rfl rfl)
theorem dX6_rightThen_50 : decode cX6_rightThen 50 = .ok (.aload_n 0, 1) := dk_42 (dk_at dksX6_rightThen_2 3 rfl rfl)
theorem dX6_rightThen_51 : decode cX6_rightThen 51 = .ok (.aload_n 0, 1) := dk_42 (dk_at dksX6_rightThen_2 4 rfl rfl)
theorem dX6_rightThen_52 : decode cX6_rightThen 52 = .ok (.getfield 34, 3) := dk_180 0 34 (dk_at dksX6_rightThen_2 5 rfl rfl)
theorem dX6_rightThen_55 : decode cX6_rightThen 55 = .ok (.iconst 1, 1) := dk_4 (dk_at dksX6_rightThen_2 8 rfl rfl)
theorem dX6_rightThen_56 : decode cX6_rightThen 56 = .ok (.invokevirtual 397, 3) := dk_182 1 141 (dk_at dksX6_rightThen_2 9 rfl rfl)
theorem dX6_rightThen_59 : decode cX6_rightThen 59 = .ok (.ireturn, 1) := dk_172 (dk_at dksX6_rightThen_2 12 rfl rfl)
abbrev cX6_endedBy : ByteArray := prog_15_method_17_code
def yX6_endedBy : MethodName := ⟨RX6, "endedBy", "([IZ)I"⟩
def dkwX6_endedBy_2 : List UInt8 := [160, 0, 10, 4, 21, 4, 120, 167, 0, 4, 3, 128, 62, 132, 4, 1, 167, 255, 198, 29, 172]
abbrev dktX6_endedBy_2 : List UInt8 := dkwX6_endedBy_2 ++ []
def dkwX6_endedBy_1 : List UInt8 := [43, 16, 29, 21, 4, 96, 46, 42, 180, 0, 24, 21, 4, 46, 160, 0, 7, 4, 167, 0, 4, 3, 28]
abbrev dktX6_endedBy_1 : List UInt8 := dkwX6_endedBy_1 ++ dktX6_endedBy_2
def dkwX6_endedBy_0 : List UInt8 := [3, 62, 3, 54, 4, 21, 4, 42, 180, 0, 129, 162, 0, 55, 29, 43, 21, 4, 184, 0, 132, 153, 0, 36]
abbrev dktX6_endedBy_0 : List UInt8 := dkwX6_endedBy_0 ++ dktX6_endedBy_1
theorem dksX6_endedBy_0 : cX6_endedBy.data.toList.drop 0 = dktX6_endedBy_0 := by decide +kernel
theorem dksX6_endedBy_1 : cX6_endedBy.data.toList.drop 24 = dktX6_endedBy_1 := dk_seg dksX6_endedBy_0 24 rfl rfl
theorem dksX6_endedBy_2 : cX6_endedBy.data.toList.drop 47 = dktX6_endedBy_2 := dk_seg dksX6_endedBy_1 23 rfl rfl
theorem dX6_endedBy_0 : decode cX6_endedBy 0 = .ok (.iconst 0, 1) := dk_3 (dk_at dksX6_endedBy_0 0 rfl rfl)
theorem dX6_endedBy_1 : decode cX6_endedBy 1 = .ok (.istore_n 3, 1) := dk_62 (dk_at dksX6_endedBy_0 1 rfl rfl)
theorem dX6_endedBy_2 : decode cX6_endedBy 2 = .ok (.iconst 0, 1) := dk_3 (dk_at dksX6_endedBy_0 2 rfl rfl)
theorem dX6_endedBy_3 : decode cX6_endedBy 3 = .ok (.istore 4, 2) := dk_54 4 (dk_at dksX6_endedBy_0 3 rfl rfl)
theorem dX6_endedBy_5 : decode cX6_endedBy 5 = .ok (.iload 4, 2) := dk_21 4 (dk_at dksX6_endedBy_0 5 rfl rfl)
theorem dX6_endedBy_7 : decode cX6_endedBy 7 = .ok (.aload_n 0, 1) := dk_42 (dk_at dksX6_endedBy_0 7 rfl rfl)
theorem dX6_endedBy_8 : decode cX6_endedBy 8 = .ok (.getfield 129, 3) := dk_180 0 129 (dk_at dksX6_endedBy_0 8 rfl rfl)
theorem dX6_endedBy_11 : decode cX6_endedBy 11 = .ok (.if_icmp .ge 55, 3) := dk_162 0 55 (dk_at dksX6_endedBy_0 11 rfl rfl)
theorem dX6_endedBy_14 : decode cX6_endedBy 14 = .ok (.iload_n 3, 1) := dk_29 (dk_at dksX6_endedBy_0 14 rfl rfl)
theorem dX6_endedBy_15 : decode cX6_endedBy 15 = .ok (.aload_n 1, 1) := dk_43 (dk_at dksX6_endedBy_0 15 rfl rfl)
theorem dX6_endedBy_16 : decode cX6_endedBy 16 = .ok (.iload 4, 2) := dk_21 4 (dk_at dksX6_endedBy_0 16 rfl rfl)
theorem dX6_endedBy_18 : decode cX6_endedBy 18 = .ok (.invokestatic 132, 3) := dk_184 0 132 (dk_at dksX6_endedBy_0 18 rfl rfl)
theorem dX6_endedBy_21 : decode cX6_endedBy 21 = .ok (.ifCond .eq 36, 3) := dk_153 0 36 (dk_at dksX6_endedBy_0 21 rfl rfl)
theorem dX6_endedBy_24 : decode cX6_endedBy 24 = .ok (.aload_n 1, 1) := dk_43 (dk_at dksX6_endedBy_1 0 rfl rfl)
theorem dX6_endedBy_25 : decode cX6_endedBy 25 = .ok (.bipush 29, 2) := dk_16 29 (dk_at dksX6_endedBy_1 1 rfl rfl)
theorem dX6_endedBy_27 : decode cX6_endedBy 27 = .ok (.iload 4, 2) := dk_21 4 (dk_at dksX6_endedBy_1 3 rfl rfl)
theorem dX6_endedBy_29 : decode cX6_endedBy 29 = .ok (.iadd, 1) := dk_96 (dk_at dksX6_endedBy_1 5 rfl rfl)
theorem dX6_endedBy_30 : decode cX6_endedBy 30 = .ok (.iaload, 1) := dk_46 (dk_at dksX6_endedBy_1 6 rfl rfl)
theorem dX6_endedBy_31 : decode cX6_endedBy 31 = .ok (.aload_n 0, 1) := dk_42 (dk_at dksX6_endedBy_1 7 rfl rfl)
theorem dX6_endedBy_32 : decode cX6_endedBy 32 = .ok (.getfield 24, 3) := dk_180 0 24 (dk_at dksX6_endedBy_1 8 rfl rfl)
theorem dX6_endedBy_35 : decode cX6_endedBy 35 = .ok (.iload 4, 2) := dk_21 4 (dk_at dksX6_endedBy_1 11 rfl rfl)
theorem dX6_endedBy_37 : decode cX6_endedBy 37 = .ok (.iaload, 1) := dk_46 (dk_at dksX6_endedBy_1 13 rfl rfl)
theorem dX6_endedBy_38 : decode cX6_endedBy 38 = .ok (.if_icmp .ne 7, 3) := dk_160 0 7 (dk_at dksX6_endedBy_1 14 rfl rfl)
theorem dX6_endedBy_41 : decode cX6_endedBy 41 = .ok (.iconst 1, 1) := dk_4 (dk_at dksX6_endedBy_1 17 rfl rfl)
theorem dX6_endedBy_42 : decode cX6_endedBy 42 = .ok (.goto 4, 3) := dk_167 0 4 (dk_at dksX6_endedBy_1 18 rfl rfl)
theorem dX6_endedBy_45 : decode cX6_endedBy 45 = .ok (.iconst 0, 1) := dk_3 (dk_at dksX6_endedBy_1 21 rfl rfl)
theorem dX6_endedBy_46 : decode cX6_endedBy 46 = .ok (.iload_n 2, 1) := dk_28 (dk_at dksX6_endedBy_1 22 rfl rfl)
theorem dX6_endedBy_47 : decode cX6_endedBy 47 = .ok (.if_icmp .ne 10, 3) := dk_160 0 10 (dk_at dksX6_endedBy_2 0 rfl rfl)
theorem dX6_endedBy_50 : decode cX6_endedBy 50 = .ok (.iconst 1, 1) := dk_4 (dk_at dksX6_endedBy_2 3 rfl rfl)
theorem dX6_endedBy_51 : decode cX6_endedBy 51 = .ok (.iload 4, 2) := dk_21 4 (dk_at dksX6_endedBy_2 4 rfl rfl)
theorem dX6_endedBy_53 : decode cX6_endedBy 53 = .ok (.ishl, 1) := dk_120 (dk_at dksX6_endedBy_2 6 rfl rfl)
theorem dX6_endedBy_54 : decode cX6_endedBy 54 = .ok (.goto 4, 3) := dk_167 0 4 (dk_at dksX6_endedBy_2 7 rfl rfl)
theorem dX6_endedBy_57 : decode cX6_endedBy 57 = .ok (.iconst 0, 1) := dk_3 (dk_at dksX6_endedBy_2 10 rfl rfl)
theorem dX6_endedBy_58 : decode cX6_endedBy 58 = .ok (.ior, 1) := dk_128 (dk_at dksX6_endedBy_2 11 rfl rfl)
theorem dX6_endedBy_59 : decode cX6_endedBy 59 = .ok (.istore_n 3, 1) := dk_62 (dk_at dksX6_endedBy_2 12 rfl rfl)
theorem dX6_endedBy_60 : decode cX6_endedBy 60 = .ok (.iinc 4 1, 3) := dk_132 4 1 (dk_at dksX6_endedBy_2 13 rfl rfl)
theorem dX6_endedBy_63 : decode cX6_endedBy 63 = .ok (.goto (-58), 3) := dk_167 255 198 (dk_at dksX6_endedBy_2 16 rfl rfl)
theorem dX6_endedBy_66 : decode cX6_endedBy 66 = .ok (.iload_n 3, 1) := dk_29 (dk_at dksX6_endedBy_2 19 rfl rfl)
theorem dX6_endedBy_67 : decode cX6_endedBy 67 = .ok (.ireturn, 1) := dk_172 (dk_at dksX6_endedBy_2 20 rfl rfl)
abbrev cX6_order : ByteArray := prog_15_method_81_code
def yX6_order : MethodName := ⟨RX6, "order", "()I"⟩
def dkwX6_order_2 : List UInt8 := [46, 133, 182, 1, 102, 132, 1, 1, 167, 255, 223, 42, 180, 1, 148, 172]
abbrev dktX6_order_2 : List UInt8 := dkwX6_order_2 ++ []
def dkwX6_order_1 : List UInt8 := [42, 180, 0, 122, 162, 0, 31, 42, 180, 0, 31, 27, 184, 1, 10, 153, 0, 14, 42, 42, 180, 0, 85, 27]
abbrev dktX6_order_1 : List UInt8 := dkwX6_order_1 ++ dktX6_order_2
def dkwX6_order_0 : List UInt8 := [42, 3, 181, 0, 112, 42, 2, 181, 1, 148, 42, 3, 3, 182, 1, 151, 42, 3, 181, 0, 119, 3, 60, 27]
abbrev dktX6_order_0 : List UInt8 := dkwX6_order_0 ++ dktX6_order_1
theorem dksX6_order_0 : cX6_order.data.toList.drop 0 = dktX6_order_0 := by decide +kernel
theorem dksX6_order_1 : cX6_order.data.toList.drop 24 = dktX6_order_1 := dk_seg dksX6_order_0 24 rfl rfl
theorem dksX6_order_2 : cX6_order.data.toList.drop 48 = dktX6_order_2 := dk_seg dksX6_order_1 24 rfl rfl
theorem dX6_order_0 : decode cX6_order 0 = .ok (.aload_n 0, 1) := dk_42 (dk_at dksX6_order_0 0 rfl rfl)
theorem dX6_order_1 : decode cX6_order 1 = .ok (.iconst 0, 1) := dk_3 (dk_at dksX6_order_0 1 rfl rfl)
theorem dX6_order_2 : decode cX6_order 2 = .ok (.putfield 112, 3) := dk_181 0 112 (dk_at dksX6_order_0 2 rfl rfl)
theorem dX6_order_5 : decode cX6_order 5 = .ok (.aload_n 0, 1) := dk_42 (dk_at dksX6_order_0 5 rfl rfl)
theorem dX6_order_6 : decode cX6_order 6 = .ok (.iconst (-1), 1) := dk_2 (dk_at dksX6_order_0 6 rfl rfl)
theorem dX6_order_7 : decode cX6_order 7 = .ok (.putfield 404, 3) := dk_181 1 148 (dk_at dksX6_order_0 7 rfl rfl)
theorem dX6_order_10 : decode cX6_order 10 = .ok (.aload_n 0, 1) := dk_42 (dk_at dksX6_order_0 10 rfl rfl)
theorem dX6_order_11 : decode cX6_order 11 = .ok (.iconst 0, 1) := dk_3 (dk_at dksX6_order_0 11 rfl rfl)
theorem dX6_order_12 : decode cX6_order 12 = .ok (.iconst 0, 1) := dk_3 (dk_at dksX6_order_0 12 rfl rfl)
theorem dX6_order_13 : decode cX6_order 13 = .ok (.invokevirtual 407, 3) := dk_182 1 151 (dk_at dksX6_order_0 13 rfl rfl)
theorem dX6_order_16 : decode cX6_order 16 = .ok (.aload_n 0, 1) := dk_42 (dk_at dksX6_order_0 16 rfl rfl)
theorem dX6_order_17 : decode cX6_order 17 = .ok (.iconst 0, 1) := dk_3 (dk_at dksX6_order_0 17 rfl rfl)
theorem dX6_order_18 : decode cX6_order 18 = .ok (.putfield 119, 3) := dk_181 0 119 (dk_at dksX6_order_0 18 rfl rfl)
theorem dX6_order_21 : decode cX6_order 21 = .ok (.iconst 0, 1) := dk_3 (dk_at dksX6_order_0 21 rfl rfl)
theorem dX6_order_22 : decode cX6_order 22 = .ok (.istore_n 1, 1) := dk_60 (dk_at dksX6_order_0 22 rfl rfl)
theorem dX6_order_23 : decode cX6_order 23 = .ok (.iload_n 1, 1) := dk_27 (dk_at dksX6_order_0 23 rfl rfl)
theorem dX6_order_24 : decode cX6_order 24 = .ok (.aload_n 0, 1) := dk_42 (dk_at dksX6_order_1 0 rfl rfl)
theorem dX6_order_25 : decode cX6_order 25 = .ok (.getfield 122, 3) := dk_180 0 122 (dk_at dksX6_order_1 1 rfl rfl)
theorem dX6_order_28 : decode cX6_order 28 = .ok (.if_icmp .ge 31, 3) := dk_162 0 31 (dk_at dksX6_order_1 4 rfl rfl)
theorem dX6_order_31 : decode cX6_order 31 = .ok (.aload_n 0, 1) := dk_42 (dk_at dksX6_order_1 7 rfl rfl)
theorem dX6_order_32 : decode cX6_order 32 = .ok (.getfield 31, 3) := dk_180 0 31 (dk_at dksX6_order_1 8 rfl rfl)
theorem dX6_order_35 : decode cX6_order 35 = .ok (.iload_n 1, 1) := dk_27 (dk_at dksX6_order_1 11 rfl rfl)
theorem dX6_order_36 : decode cX6_order 36 = .ok (.invokestatic 266, 3) := dk_184 1 10 (dk_at dksX6_order_1 12 rfl rfl)
theorem dX6_order_39 : decode cX6_order 39 = .ok (.ifCond .eq 14, 3) := dk_153 0 14 (dk_at dksX6_order_1 15 rfl rfl)
theorem dX6_order_42 : decode cX6_order 42 = .ok (.aload_n 0, 1) := dk_42 (dk_at dksX6_order_1 18 rfl rfl)
theorem dX6_order_43 : decode cX6_order 43 = .ok (.aload_n 0, 1) := dk_42 (dk_at dksX6_order_1 19 rfl rfl)
theorem dX6_order_44 : decode cX6_order 44 = .ok (.getfield 85, 3) := dk_180 0 85 (dk_at dksX6_order_1 20 rfl rfl)
theorem dX6_order_47 : decode cX6_order 47 = .ok (.iload_n 1, 1) := dk_27 (dk_at dksX6_order_1 23 rfl rfl)
theorem dX6_order_48 : decode cX6_order 48 = .ok (.iaload, 1) := dk_46 (dk_at dksX6_order_2 0 rfl rfl)
theorem dX6_order_49 : decode cX6_order 49 = .ok (.i2l, 1) := dk_133 (dk_at dksX6_order_2 1 rfl rfl)
theorem dX6_order_50 : decode cX6_order 50 = .ok (.invokevirtual 358, 3) := dk_182 1 102 (dk_at dksX6_order_2 2 rfl rfl)
theorem dX6_order_53 : decode cX6_order 53 = .ok (.iinc 1 1, 3) := dk_132 1 1 (dk_at dksX6_order_2 5 rfl rfl)
theorem dX6_order_56 : decode cX6_order 56 = .ok (.goto (-33), 3) := dk_167 255 223 (dk_at dksX6_order_2 8 rfl rfl)
theorem dX6_order_59 : decode cX6_order 59 = .ok (.aload_n 0, 1) := dk_42 (dk_at dksX6_order_2 11 rfl rfl)
theorem dX6_order_60 : decode cX6_order 60 = .ok (.getfield 404, 3) := dk_180 1 148 (dk_at dksX6_order_2 12 rfl rfl)
theorem dX6_order_63 : decode cX6_order 63 = .ok (.ireturn, 1) := dk_172 (dk_at dksX6_order_2 15 rfl rfl)
abbrev cX6_places : ByteArray := prog_15_method_80_code
def yX6_places : MethodName := ⟨RX6, "places", "(II)V"⟩
def dkwX6_places_7 : List UInt8 := [27, 4, 96, 28, 4, 21, 4, 120, 128, 182, 1, 151, 132, 3, 1, 167, 255, 200, 177]
abbrev dktX6_places_7 : List UInt8 := dkwX6_places_7 ++ []
def dkwX6_places_6 : List UInt8 := [54, 4, 21, 4, 155, 0, 32, 28, 21, 4, 184, 1, 155, 154, 0, 23, 42, 180, 0, 82, 27, 29, 79, 42]
abbrev dktX6_places_6 : List UInt8 := dkwX6_places_6 ++ dktX6_places_7
def dkwX6_places_5 : List UInt8 := [182, 1, 151, 177, 3, 62, 29, 42, 182, 0, 192, 162, 0, 54, 42, 42, 180, 0, 31, 29, 182, 0, 195]
abbrev dktX6_places_5 : List UInt8 := dkwX6_places_5 ++ dktX6_places_6
def dkwX6_places_4 : List UInt8 := [42, 180, 0, 82, 27, 2, 79, 42, 180, 0, 31, 27, 184, 1, 10, 154, 0, 12, 42, 27, 4, 96, 28]
abbrev dktX6_places_4 : List UInt8 := dkwX6_places_4 ++ dktX6_places_5
def dkwX6_places_3 : List UInt8 := [162, 0, 23, 42, 180, 0, 85, 21, 4, 42, 180, 0, 82, 21, 4, 46, 79, 132, 4, 1, 167, 255, 230, 177]
abbrev dktX6_places_3 : List UInt8 := dkwX6_places_3 ++ dktX6_places_4
def dkwX6_places_2 : List UInt8 := [62, 29, 42, 180, 1, 148, 164, 0, 40, 42, 29, 181, 1, 148, 3, 54, 4, 21, 4, 42, 180, 0, 122]
abbrev dktX6_places_2 : List UInt8 := dkwX6_places_2 ++ dktX6_places_3
def dkwX6_places_1 : List UInt8 := [180, 0, 34, 29, 42, 180, 0, 82, 29, 46, 79, 132, 3, 1, 167, 255, 233, 42, 182, 1, 145, 184, 1, 23]
abbrev dktX6_places_1 : List UInt8 := dkwX6_places_1 ++ dktX6_places_2
def dkwX6_places_0 : List UInt8 := [27, 42, 180, 0, 122, 160, 0, 89, 42, 182, 1, 134, 3, 62, 29, 42, 180, 0, 122, 162, 0, 21, 42]
abbrev dktX6_places_0 : List UInt8 := dkwX6_places_0 ++ dktX6_places_1
theorem dksX6_places_0 : cX6_places.data.toList.drop 0 = dktX6_places_0 := by decide +kernel
theorem dksX6_places_1 : cX6_places.data.toList.drop 23 = dktX6_places_1 := dk_seg dksX6_places_0 23 rfl rfl
theorem dksX6_places_2 : cX6_places.data.toList.drop 47 = dktX6_places_2 := dk_seg dksX6_places_1 24 rfl rfl
theorem dksX6_places_3 : cX6_places.data.toList.drop 70 = dktX6_places_3 := dk_seg dksX6_places_2 23 rfl rfl
theorem dksX6_places_4 : cX6_places.data.toList.drop 94 = dktX6_places_4 := dk_seg dksX6_places_3 24 rfl rfl
theorem dksX6_places_5 : cX6_places.data.toList.drop 117 = dktX6_places_5 := dk_seg dksX6_places_4 23 rfl rfl
theorem dksX6_places_6 : cX6_places.data.toList.drop 140 = dktX6_places_6 := dk_seg dksX6_places_5 23 rfl rfl
theorem dksX6_places_7 : cX6_places.data.toList.drop 164 = dktX6_places_7 := dk_seg dksX6_places_6 24 rfl rfl
theorem dX6_places_0 : decode cX6_places 0 = .ok (.iload_n 1, 1) := dk_27 (dk_at dksX6_places_0 0 rfl rfl)
theorem dX6_places_1 : decode cX6_places 1 = .ok (.aload_n 0, 1) := dk_42 (dk_at dksX6_places_0 1 rfl rfl)
theorem dX6_places_2 : decode cX6_places 2 = .ok (.getfield 122, 3) := dk_180 0 122 (dk_at dksX6_places_0 2 rfl rfl)
theorem dX6_places_5 : decode cX6_places 5 = .ok (.if_icmp .ne 89, 3) := dk_160 0 89 (dk_at dksX6_places_0 5 rfl rfl)
theorem dX6_places_8 : decode cX6_places 8 = .ok (.aload_n 0, 1) := dk_42 (dk_at dksX6_places_0 8 rfl rfl)
theorem dX6_places_9 : decode cX6_places 9 = .ok (.invokevirtual 390, 3) := dk_182 1 134 (dk_at dksX6_places_0 9 rfl rfl)
theorem dX6_places_12 : decode cX6_places 12 = .ok (.iconst 0, 1) := dk_3 (dk_at dksX6_places_0 12 rfl rfl)
theorem dX6_places_13 : decode cX6_places 13 = .ok (.istore_n 3, 1) := dk_62 (dk_at dksX6_places_0 13 rfl rfl)
theorem dX6_places_14 : decode cX6_places 14 = .ok (.iload_n 3, 1) := dk_29 (dk_at dksX6_places_0 14 rfl rfl)
theorem dX6_places_15 : decode cX6_places 15 = .ok (.aload_n 0, 1) := dk_42 (dk_at dksX6_places_0 15 rfl rfl)
theorem dX6_places_16 : decode cX6_places 16 = .ok (.getfield 122, 3) := dk_180 0 122 (dk_at dksX6_places_0 16 rfl rfl)
theorem dX6_places_19 : decode cX6_places 19 = .ok (.if_icmp .ge 21, 3) := dk_162 0 21 (dk_at dksX6_places_0 19 rfl rfl)
theorem dX6_places_22 : decode cX6_places 22 = .ok (.aload_n 0, 1) := dk_42 (dk_at dksX6_places_0 22 rfl rfl)
theorem dX6_places_23 : decode cX6_places 23 = .ok (.getfield 34, 3) := dk_180 0 34 (dk_at dksX6_places_1 0 rfl rfl)
theorem dX6_places_26 : decode cX6_places 26 = .ok (.iload_n 3, 1) := dk_29 (dk_at dksX6_places_1 3 rfl rfl)
theorem dX6_places_27 : decode cX6_places 27 = .ok (.aload_n 0, 1) := dk_42 (dk_at dksX6_places_1 4 rfl rfl)
theorem dX6_places_28 : decode cX6_places 28 = .ok (.getfield 82, 3) := dk_180 0 82 (dk_at dksX6_places_1 5 rfl rfl)
theorem dX6_places_31 : decode cX6_places 31 = .ok (.iload_n 3, 1) := dk_29 (dk_at dksX6_places_1 8 rfl rfl)
theorem dX6_places_32 : decode cX6_places 32 = .ok (.iaload, 1) := dk_46 (dk_at dksX6_places_1 9 rfl rfl)
theorem dX6_places_33 : decode cX6_places 33 = .ok (.iastore, 1) := dk_79 (dk_at dksX6_places_1 10 rfl rfl)
theorem dX6_places_34 : decode cX6_places 34 = .ok (.iinc 3 1, 3) := dk_132 3 1 (dk_at dksX6_places_1 11 rfl rfl)
theorem dX6_places_37 : decode cX6_places 37 = .ok (.goto (-23), 3) := dk_167 255 233 (dk_at dksX6_places_1 14 rfl rfl)
theorem dX6_places_40 : decode cX6_places 40 = .ok (.aload_n 0, 1) := dk_42 (dk_at dksX6_places_1 17 rfl rfl)
theorem dX6_places_41 : decode cX6_places 41 = .ok (.invokevirtual 401, 3) := dk_182 1 145 (dk_at dksX6_places_1 18 rfl rfl)
theorem dX6_places_44 : decode cX6_places 44 = .ok (.invokestatic 279, 3) := dk_184 1 23 (dk_at dksX6_places_1 21 rfl rfl)
theorem dX6_places_47 : decode cX6_places 47 = .ok (.istore_n 3, 1) := dk_62 (dk_at dksX6_places_2 0 rfl rfl)
theorem dX6_places_48 : decode cX6_places 48 = .ok (.iload_n 3, 1) := dk_29 (dk_at dksX6_places_2 1 rfl rfl)
theorem dX6_places_49 : decode cX6_places 49 = .ok (.aload_n 0, 1) := dk_42 (dk_at dksX6_places_2 2 rfl rfl)
theorem dX6_places_50 : decode cX6_places 50 = .ok (.getfield 404, 3) := dk_180 1 148 (dk_at dksX6_places_2 3 rfl rfl)
theorem dX6_places_53 : decode cX6_places 53 = .ok (.if_icmp .le 40, 3) := dk_164 0 40 (dk_at dksX6_places_2 6 rfl rfl)
theorem dX6_places_56 : decode cX6_places 56 = .ok (.aload_n 0, 1) := dk_42 (dk_at dksX6_places_2 9 rfl rfl)
theorem dX6_places_57 : decode cX6_places 57 = .ok (.iload_n 3, 1) := dk_29 (dk_at dksX6_places_2 10 rfl rfl)
theorem dX6_places_58 : decode cX6_places 58 = .ok (.putfield 404, 3) := dk_181 1 148 (dk_at dksX6_places_2 11 rfl rfl)
theorem dX6_places_61 : decode cX6_places 61 = .ok (.iconst 0, 1) := dk_3 (dk_at dksX6_places_2 14 rfl rfl)
theorem dX6_places_62 : decode cX6_places 62 = .ok (.istore 4, 2) := dk_54 4 (dk_at dksX6_places_2 15 rfl rfl)
theorem dX6_places_64 : decode cX6_places 64 = .ok (.iload 4, 2) := dk_21 4 (dk_at dksX6_places_2 17 rfl rfl)
theorem dX6_places_66 : decode cX6_places 66 = .ok (.aload_n 0, 1) := dk_42 (dk_at dksX6_places_2 19 rfl rfl)
theorem dX6_places_67 : decode cX6_places 67 = .ok (.getfield 122, 3) := dk_180 0 122 (dk_at dksX6_places_2 20 rfl rfl)
theorem dX6_places_70 : decode cX6_places 70 = .ok (.if_icmp .ge 23, 3) := dk_162 0 23 (dk_at dksX6_places_3 0 rfl rfl)
theorem dX6_places_73 : decode cX6_places 73 = .ok (.aload_n 0, 1) := dk_42 (dk_at dksX6_places_3 3 rfl rfl)
theorem dX6_places_74 : decode cX6_places 74 = .ok (.getfield 85, 3) := dk_180 0 85 (dk_at dksX6_places_3 4 rfl rfl)
theorem dX6_places_77 : decode cX6_places 77 = .ok (.iload 4, 2) := dk_21 4 (dk_at dksX6_places_3 7 rfl rfl)
theorem dX6_places_79 : decode cX6_places 79 = .ok (.aload_n 0, 1) := dk_42 (dk_at dksX6_places_3 9 rfl rfl)
theorem dX6_places_80 : decode cX6_places 80 = .ok (.getfield 82, 3) := dk_180 0 82 (dk_at dksX6_places_3 10 rfl rfl)
theorem dX6_places_83 : decode cX6_places 83 = .ok (.iload 4, 2) := dk_21 4 (dk_at dksX6_places_3 13 rfl rfl)
theorem dX6_places_85 : decode cX6_places 85 = .ok (.iaload, 1) := dk_46 (dk_at dksX6_places_3 15 rfl rfl)
theorem dX6_places_86 : decode cX6_places 86 = .ok (.iastore, 1) := dk_79 (dk_at dksX6_places_3 16 rfl rfl)
theorem dX6_places_87 : decode cX6_places 87 = .ok (.iinc 4 1, 3) := dk_132 4 1 (dk_at dksX6_places_3 17 rfl rfl)
theorem dX6_places_90 : decode cX6_places 90 = .ok (.goto (-26), 3) := dk_167 255 230 (dk_at dksX6_places_3 20 rfl rfl)
theorem dX6_places_93 : decode cX6_places 93 = .ok (.return_, 1) := dk_177 (dk_at dksX6_places_3 23 rfl rfl)
theorem dX6_places_94 : decode cX6_places 94 = .ok (.aload_n 0, 1) := dk_42 (dk_at dksX6_places_4 0 rfl rfl)
theorem dX6_places_95 : decode cX6_places 95 = .ok (.getfield 82, 3) := dk_180 0 82 (dk_at dksX6_places_4 1 rfl rfl)
theorem dX6_places_98 : decode cX6_places 98 = .ok (.iload_n 1, 1) := dk_27 (dk_at dksX6_places_4 4 rfl rfl)
theorem dX6_places_99 : decode cX6_places 99 = .ok (.iconst (-1), 1) := dk_2 (dk_at dksX6_places_4 5 rfl rfl)
theorem dX6_places_100 : decode cX6_places 100 = .ok (.iastore, 1) := dk_79 (dk_at dksX6_places_4 6 rfl rfl)
theorem dX6_places_101 : decode cX6_places 101 = .ok (.aload_n 0, 1) := dk_42 (dk_at dksX6_places_4 7 rfl rfl)
theorem dX6_places_102 : decode cX6_places 102 = .ok (.getfield 31, 3) := dk_180 0 31 (dk_at dksX6_places_4 8 rfl rfl)
theorem dX6_places_105 : decode cX6_places 105 = .ok (.iload_n 1, 1) := dk_27 (dk_at dksX6_places_4 11 rfl rfl)
theorem dX6_places_106 : decode cX6_places 106 = .ok (.invokestatic 266, 3) := dk_184 1 10 (dk_at dksX6_places_4 12 rfl rfl)
theorem dX6_places_109 : decode cX6_places 109 = .ok (.ifCond .ne 12, 3) := dk_154 0 12 (dk_at dksX6_places_4 15 rfl rfl)
theorem dX6_places_112 : decode cX6_places 112 = .ok (.aload_n 0, 1) := dk_42 (dk_at dksX6_places_4 18 rfl rfl)
theorem dX6_places_113 : decode cX6_places 113 = .ok (.iload_n 1, 1) := dk_27 (dk_at dksX6_places_4 19 rfl rfl)
theorem dX6_places_114 : decode cX6_places 114 = .ok (.iconst 1, 1) := dk_4 (dk_at dksX6_places_4 20 rfl rfl)
theorem dX6_places_115 : decode cX6_places 115 = .ok (.iadd, 1) := dk_96 (dk_at dksX6_places_4 21 rfl rfl)
theorem dX6_places_116 : decode cX6_places 116 = .ok (.iload_n 2, 1) := dk_28 (dk_at dksX6_places_4 22 rfl rfl)
theorem dX6_places_117 : decode cX6_places 117 = .ok (.invokevirtual 407, 3) := dk_182 1 151 (dk_at dksX6_places_5 0 rfl rfl)
theorem dX6_places_120 : decode cX6_places 120 = .ok (.return_, 1) := dk_177 (dk_at dksX6_places_5 3 rfl rfl)
theorem dX6_places_121 : decode cX6_places 121 = .ok (.iconst 0, 1) := dk_3 (dk_at dksX6_places_5 4 rfl rfl)
theorem dX6_places_122 : decode cX6_places 122 = .ok (.istore_n 3, 1) := dk_62 (dk_at dksX6_places_5 5 rfl rfl)
theorem dX6_places_123 : decode cX6_places 123 = .ok (.iload_n 3, 1) := dk_29 (dk_at dksX6_places_5 6 rfl rfl)
theorem dX6_places_124 : decode cX6_places 124 = .ok (.aload_n 0, 1) := dk_42 (dk_at dksX6_places_5 7 rfl rfl)
theorem dX6_places_125 : decode cX6_places 125 = .ok (.invokevirtual 192, 3) := dk_182 0 192 (dk_at dksX6_places_5 8 rfl rfl)
theorem dX6_places_128 : decode cX6_places 128 = .ok (.if_icmp .ge 54, 3) := dk_162 0 54 (dk_at dksX6_places_5 11 rfl rfl)
theorem dX6_places_131 : decode cX6_places 131 = .ok (.aload_n 0, 1) := dk_42 (dk_at dksX6_places_5 14 rfl rfl)
theorem dX6_places_132 : decode cX6_places 132 = .ok (.aload_n 0, 1) := dk_42 (dk_at dksX6_places_5 15 rfl rfl)
theorem dX6_places_133 : decode cX6_places 133 = .ok (.getfield 31, 3) := dk_180 0 31 (dk_at dksX6_places_5 16 rfl rfl)
theorem dX6_places_136 : decode cX6_places 136 = .ok (.iload_n 3, 1) := dk_29 (dk_at dksX6_places_5 19 rfl rfl)
theorem dX6_places_137 : decode cX6_places 137 = .ok (.invokevirtual 195, 3) := dk_182 0 195 (dk_at dksX6_places_5 20 rfl rfl)
theorem dX6_places_140 : decode cX6_places 140 = .ok (.istore 4, 2) := dk_54 4 (dk_at dksX6_places_6 0 rfl rfl)
theorem dX6_places_142 : decode cX6_places 142 = .ok (.iload 4, 2) := dk_21 4 (dk_at dksX6_places_6 2 rfl rfl)
theorem dX6_places_144 : decode cX6_places 144 = .ok (.ifCond .lt 32, 3) := dk_155 0 32 (dk_at dksX6_places_6 4 rfl rfl)
theorem dX6_places_147 : decode cX6_places 147 = .ok (.iload_n 2, 1) := dk_28 (dk_at dksX6_places_6 7 rfl rfl)
theorem dX6_places_148 : decode cX6_places 148 = .ok (.iload 4, 2) := dk_21 4 (dk_at dksX6_places_6 8 rfl rfl)
theorem dX6_places_150 : decode cX6_places 150 = .ok (.invokestatic 411, 3) := dk_184 1 155 (dk_at dksX6_places_6 10 rfl rfl)
theorem dX6_places_153 : decode cX6_places 153 = .ok (.ifCond .ne 23, 3) := dk_154 0 23 (dk_at dksX6_places_6 13 rfl rfl)
theorem dX6_places_156 : decode cX6_places 156 = .ok (.aload_n 0, 1) := dk_42 (dk_at dksX6_places_6 16 rfl rfl)
theorem dX6_places_157 : decode cX6_places 157 = .ok (.getfield 82, 3) := dk_180 0 82 (dk_at dksX6_places_6 17 rfl rfl)
theorem dX6_places_160 : decode cX6_places 160 = .ok (.iload_n 1, 1) := dk_27 (dk_at dksX6_places_6 20 rfl rfl)
theorem dX6_places_161 : decode cX6_places 161 = .ok (.iload_n 3, 1) := dk_29 (dk_at dksX6_places_6 21 rfl rfl)
theorem dX6_places_162 : decode cX6_places 162 = .ok (.iastore, 1) := dk_79 (dk_at dksX6_places_6 22 rfl rfl)
theorem dX6_places_163 : decode cX6_places 163 = .ok (.aload_n 0, 1) := dk_42 (dk_at dksX6_places_6 23 rfl rfl)
theorem dX6_places_164 : decode cX6_places 164 = .ok (.iload_n 1, 1) := dk_27 (dk_at dksX6_places_7 0 rfl rfl)
theorem dX6_places_165 : decode cX6_places 165 = .ok (.iconst 1, 1) := dk_4 (dk_at dksX6_places_7 1 rfl rfl)
theorem dX6_places_166 : decode cX6_places 166 = .ok (.iadd, 1) := dk_96 (dk_at dksX6_places_7 2 rfl rfl)
theorem dX6_places_167 : decode cX6_places 167 = .ok (.iload_n 2, 1) := dk_28 (dk_at dksX6_places_7 3 rfl rfl)
theorem dX6_places_168 : decode cX6_places 168 = .ok (.iconst 1, 1) := dk_4 (dk_at dksX6_places_7 4 rfl rfl)
theorem dX6_places_169 : decode cX6_places 169 = .ok (.iload 4, 2) := dk_21 4 (dk_at dksX6_places_7 5 rfl rfl)
theorem dX6_places_171 : decode cX6_places 171 = .ok (.ishl, 1) := dk_120 (dk_at dksX6_places_7 7 rfl rfl)
theorem dX6_places_172 : decode cX6_places 172 = .ok (.ior, 1) := dk_128 (dk_at dksX6_places_7 8 rfl rfl)
theorem dX6_places_173 : decode cX6_places 173 = .ok (.invokevirtual 407, 3) := dk_182 1 151 (dk_at dksX6_places_7 9 rfl rfl)
theorem dX6_places_176 : decode cX6_places 176 = .ok (.iinc 3 1, 3) := dk_132 3 1 (dk_at dksX6_places_7 12 rfl rfl)
theorem dX6_places_179 : decode cX6_places 179 = .ok (.goto (-56), 3) := dk_167 255 200 (dk_at dksX6_places_7 15 rfl rfl)
theorem dX6_places_182 : decode cX6_places 182 = .ok (.return_, 1) := dk_177 (dk_at dksX6_places_7 18 rfl rfl)
abbrev cX6_has : ByteArray := prog_15_method_5_code
def yX6_has : MethodName := ⟨RX6, "has", "(II)Z"⟩
def dkwX6_has_0 : List UInt8 := [26, 27, 122, 4, 126, 4, 160, 0, 7, 4, 167, 0, 4, 3, 172]
abbrev dktX6_has_0 : List UInt8 := dkwX6_has_0 ++ []
theorem dksX6_has_0 : cX6_has.data.toList.drop 0 = dktX6_has_0 := by decide +kernel
theorem dX6_has_0 : decode cX6_has 0 = .ok (.iload_n 0, 1) := dk_26 (dk_at dksX6_has_0 0 rfl rfl)
theorem dX6_has_1 : decode cX6_has 1 = .ok (.iload_n 1, 1) := dk_27 (dk_at dksX6_has_0 1 rfl rfl)
theorem dX6_has_2 : decode cX6_has 2 = .ok (.ishr, 1) := dk_122 (dk_at dksX6_has_0 2 rfl rfl)
theorem dX6_has_3 : decode cX6_has 3 = .ok (.iconst 1, 1) := dk_4 (dk_at dksX6_has_0 3 rfl rfl)
theorem dX6_has_4 : decode cX6_has 4 = .ok (.iand, 1) := dk_126 (dk_at dksX6_has_0 4 rfl rfl)
theorem dX6_has_5 : decode cX6_has 5 = .ok (.iconst 1, 1) := dk_4 (dk_at dksX6_has_0 5 rfl rfl)
theorem dX6_has_6 : decode cX6_has 6 = .ok (.if_icmp .ne 7, 3) := dk_160 0 7 (dk_at dksX6_has_0 6 rfl rfl)
theorem dX6_has_9 : decode cX6_has 9 = .ok (.iconst 1, 1) := dk_4 (dk_at dksX6_has_0 9 rfl rfl)
theorem dX6_has_10 : decode cX6_has 10 = .ok (.goto 4, 3) := dk_167 0 4 (dk_at dksX6_has_0 10 rfl rfl)
theorem dX6_has_13 : decode cX6_has 13 = .ok (.iconst 0, 1) := dk_3 (dk_at dksX6_has_0 13 rfl rfl)
theorem dX6_has_14 : decode cX6_has 14 = .ok (.ireturn, 1) := dk_172 (dk_at dksX6_has_0 14 rfl rfl)
abbrev cX6_stands : ByteArray := prog_15_method_82_code
def yX6_stands : MethodName := ⟨RX6, "stands", "(I)I"⟩
def dkwX6_stands_4 : List UInt8 := [28, 155, 0, 14, 42, 3, 181, 0, 119, 42, 29, 133, 182, 1, 102, 28, 172]
abbrev dktX6_stands_4 : List UInt8 := dkwX6_stands_4 ++ []
def dkwX6_stands_3 : List UInt8 := [79, 42, 182, 1, 145, 27, 184, 1, 155, 153, 0, 9, 21, 4, 61, 132, 3, 1, 132, 4, 255, 167, 255, 206]
abbrev dktX6_stands_3 : List UInt8 := dkwX6_stands_3 ++ dktX6_stands_4
def dkwX6_stands_2 : List UInt8 := [42, 182, 1, 134, 42, 180, 0, 34, 16, 13, 27, 96, 21, 4, 79, 42, 180, 0, 34, 16, 21, 27, 96, 2]
abbrev dktX6_stands_2 : List UInt8 := dkwX6_stands_2 ++ dktX6_stands_3
def dkwX6_stands_1 : List UInt8 := [153, 0, 6, 16, 254, 172, 16, 254, 61, 3, 62, 42, 182, 0, 192, 4, 100, 54, 4, 21, 4, 155, 0, 51]
abbrev dktX6_stands_1 : List UInt8 := dkwX6_stands_1 ++ dktX6_stands_2
def dkwX6_stands_0 : List UInt8 := [42, 3, 181, 0, 112, 42, 27, 182, 1, 52, 154, 0, 5, 2, 172, 42, 180, 0, 31, 27, 184, 0, 132]
abbrev dktX6_stands_0 : List UInt8 := dkwX6_stands_0 ++ dktX6_stands_1
theorem dksX6_stands_0 : cX6_stands.data.toList.drop 0 = dktX6_stands_0 := by decide +kernel
theorem dksX6_stands_1 : cX6_stands.data.toList.drop 23 = dktX6_stands_1 := dk_seg dksX6_stands_0 23 rfl rfl
theorem dksX6_stands_2 : cX6_stands.data.toList.drop 47 = dktX6_stands_2 := dk_seg dksX6_stands_1 24 rfl rfl
theorem dksX6_stands_3 : cX6_stands.data.toList.drop 71 = dktX6_stands_3 := dk_seg dksX6_stands_2 24 rfl rfl
theorem dksX6_stands_4 : cX6_stands.data.toList.drop 95 = dktX6_stands_4 := dk_seg dksX6_stands_3 24 rfl rfl
theorem dX6_stands_0 : decode cX6_stands 0 = .ok (.aload_n 0, 1) := dk_42 (dk_at dksX6_stands_0 0 rfl rfl)
theorem dX6_stands_1 : decode cX6_stands 1 = .ok (.iconst 0, 1) := dk_3 (dk_at dksX6_stands_0 1 rfl rfl)
theorem dX6_stands_2 : decode cX6_stands 2 = .ok (.putfield 112, 3) := dk_181 0 112 (dk_at dksX6_stands_0 2 rfl rfl)
theorem dX6_stands_5 : decode cX6_stands 5 = .ok (.aload_n 0, 1) := dk_42 (dk_at dksX6_stands_0 5 rfl rfl)
theorem dX6_stands_6 : decode cX6_stands 6 = .ok (.iload_n 1, 1) := dk_27 (dk_at dksX6_stands_0 6 rfl rfl)
theorem dX6_stands_7 : decode cX6_stands 7 = .ok (.invokevirtual 308, 3) := dk_182 1 52 (dk_at dksX6_stands_0 7 rfl rfl)
theorem dX6_stands_10 : decode cX6_stands 10 = .ok (.ifCond .ne 5, 3) := dk_154 0 5 (dk_at dksX6_stands_0 10 rfl rfl)
theorem dX6_stands_13 : decode cX6_stands 13 = .ok (.iconst (-1), 1) := dk_2 (dk_at dksX6_stands_0 13 rfl rfl)
theorem dX6_stands_14 : decode cX6_stands 14 = .ok (.ireturn, 1) := dk_172 (dk_at dksX6_stands_0 14 rfl rfl)
theorem dX6_stands_15 : decode cX6_stands 15 = .ok (.aload_n 0, 1) := dk_42 (dk_at dksX6_stands_0 15 rfl rfl)
theorem dX6_stands_16 : decode cX6_stands 16 = .ok (.getfield 31, 3) := dk_180 0 31 (dk_at dksX6_stands_0 16 rfl rfl)
theorem dX6_stands_19 : decode cX6_stands 19 = .ok (.iload_n 1, 1) := dk_27 (dk_at dksX6_stands_0 19 rfl rfl)
theorem dX6_stands_20 : decode cX6_stands 20 = .ok (.invokestatic 132, 3) := dk_184 0 132 (dk_at dksX6_stands_0 20 rfl rfl)
theorem dX6_stands_23 : decode cX6_stands 23 = .ok (.ifCond .eq 6, 3) := dk_153 0 6 (dk_at dksX6_stands_1 0 rfl rfl)
theorem dX6_stands_26 : decode cX6_stands 26 = .ok (.bipush (-2), 2) := dk_16 254 (dk_at dksX6_stands_1 3 rfl rfl)
theorem dX6_stands_28 : decode cX6_stands 28 = .ok (.ireturn, 1) := dk_172 (dk_at dksX6_stands_1 5 rfl rfl)
theorem dX6_stands_29 : decode cX6_stands 29 = .ok (.bipush (-2), 2) := dk_16 254 (dk_at dksX6_stands_1 6 rfl rfl)
theorem dX6_stands_31 : decode cX6_stands 31 = .ok (.istore_n 2, 1) := dk_61 (dk_at dksX6_stands_1 8 rfl rfl)
theorem dX6_stands_32 : decode cX6_stands 32 = .ok (.iconst 0, 1) := dk_3 (dk_at dksX6_stands_1 9 rfl rfl)
theorem dX6_stands_33 : decode cX6_stands 33 = .ok (.istore_n 3, 1) := dk_62 (dk_at dksX6_stands_1 10 rfl rfl)
theorem dX6_stands_34 : decode cX6_stands 34 = .ok (.aload_n 0, 1) := dk_42 (dk_at dksX6_stands_1 11 rfl rfl)
theorem dX6_stands_35 : decode cX6_stands 35 = .ok (.invokevirtual 192, 3) := dk_182 0 192 (dk_at dksX6_stands_1 12 rfl rfl)
theorem dX6_stands_38 : decode cX6_stands 38 = .ok (.iconst 1, 1) := dk_4 (dk_at dksX6_stands_1 15 rfl rfl)
theorem dX6_stands_39 : decode cX6_stands 39 = .ok (.isub, 1) := dk_100 (dk_at dksX6_stands_1 16 rfl rfl)
theorem dX6_stands_40 : decode cX6_stands 40 = .ok (.istore 4, 2) := dk_54 4 (dk_at dksX6_stands_1 17 rfl rfl)
theorem dX6_stands_42 : decode cX6_stands 42 = .ok (.iload 4, 2) := dk_21 4 (dk_at dksX6_stands_1 19 rfl rfl)
theorem dX6_stands_44 : decode cX6_stands 44 = .ok (.ifCond .lt 51, 3) := dk_155 0 51 (dk_at dksX6_stands_1 21 rfl rfl)
theorem dX6_stands_47 : decode cX6_stands 47 = .ok (.aload_n 0, 1) := dk_42 (dk_at dksX6_stands_2 0 rfl rfl)
theorem dX6_stands_48 : decode cX6_stands 48 = .ok (.invokevirtual 390, 3) := dk_182 1 134 (dk_at dksX6_stands_2 1 rfl rfl)
theorem dX6_stands_51 : decode cX6_stands 51 = .ok (.aload_n 0, 1) := dk_42 (dk_at dksX6_stands_2 4 rfl rfl)
theorem dX6_stands_52 : decode cX6_stands 52 = .ok (.getfield 34, 3) := dk_180 0 34 (dk_at dksX6_stands_2 5 rfl rfl)
theorem dX6_stands_55 : decode cX6_stands 55 = .ok (.bipush 13, 2) := dk_16 13 (dk_at dksX6_stands_2 8 rfl rfl)
theorem dX6_stands_57 : decode cX6_stands 57 = .ok (.iload_n 1, 1) := dk_27 (dk_at dksX6_stands_2 10 rfl rfl)
theorem dX6_stands_58 : decode cX6_stands 58 = .ok (.iadd, 1) := dk_96 (dk_at dksX6_stands_2 11 rfl rfl)
theorem dX6_stands_59 : decode cX6_stands 59 = .ok (.iload 4, 2) := dk_21 4 (dk_at dksX6_stands_2 12 rfl rfl)
theorem dX6_stands_61 : decode cX6_stands 61 = .ok (.iastore, 1) := dk_79 (dk_at dksX6_stands_2 14 rfl rfl)
theorem dX6_stands_62 : decode cX6_stands 62 = .ok (.aload_n 0, 1) := dk_42 (dk_at dksX6_stands_2 15 rfl rfl)
theorem dX6_stands_63 : decode cX6_stands 63 = .ok (.getfield 34, 3) := dk_180 0 34 (dk_at dksX6_stands_2 16 rfl rfl)
theorem dX6_stands_66 : decode cX6_stands 66 = .ok (.bipush 21, 2) := dk_16 21 (dk_at dksX6_stands_2 19 rfl rfl)
theorem dX6_stands_68 : decode cX6_stands 68 = .ok (.iload_n 1, 1) := dk_27 (dk_at dksX6_stands_2 21 rfl rfl)
theorem dX6_stands_69 : decode cX6_stands 69 = .ok (.iadd, 1) := dk_96 (dk_at dksX6_stands_2 22 rfl rfl)
theorem dX6_stands_70 : decode cX6_stands 70 = .ok (.iconst (-1), 1) := dk_2 (dk_at dksX6_stands_2 23 rfl rfl)
theorem dX6_stands_71 : decode cX6_stands 71 = .ok (.iastore, 1) := dk_79 (dk_at dksX6_stands_3 0 rfl rfl)
theorem dX6_stands_72 : decode cX6_stands 72 = .ok (.aload_n 0, 1) := dk_42 (dk_at dksX6_stands_3 1 rfl rfl)
theorem dX6_stands_73 : decode cX6_stands 73 = .ok (.invokevirtual 401, 3) := dk_182 1 145 (dk_at dksX6_stands_3 2 rfl rfl)
theorem dX6_stands_76 : decode cX6_stands 76 = .ok (.iload_n 1, 1) := dk_27 (dk_at dksX6_stands_3 5 rfl rfl)
theorem dX6_stands_77 : decode cX6_stands 77 = .ok (.invokestatic 411, 3) := dk_184 1 155 (dk_at dksX6_stands_3 6 rfl rfl)
theorem dX6_stands_80 : decode cX6_stands 80 = .ok (.ifCond .eq 9, 3) := dk_153 0 9 (dk_at dksX6_stands_3 9 rfl rfl)
theorem dX6_stands_83 : decode cX6_stands 83 = .ok (.iload 4, 2) := dk_21 4 (dk_at dksX6_stands_3 12 rfl rfl)
theorem dX6_stands_85 : decode cX6_stands 85 = .ok (.istore_n 2, 1) := dk_61 (dk_at dksX6_stands_3 14 rfl rfl)
theorem dX6_stands_86 : decode cX6_stands 86 = .ok (.iinc 3 1, 3) := dk_132 3 1 (dk_at dksX6_stands_3 15 rfl rfl)
theorem dX6_stands_89 : decode cX6_stands 89 = .ok (.iinc 4 (-1), 3) := dk_132 4 255 (dk_at dksX6_stands_3 18 rfl rfl)
theorem dX6_stands_92 : decode cX6_stands 92 = .ok (.goto (-50), 3) := dk_167 255 206 (dk_at dksX6_stands_3 21 rfl rfl)
theorem dX6_stands_95 : decode cX6_stands 95 = .ok (.iload_n 2, 1) := dk_28 (dk_at dksX6_stands_4 0 rfl rfl)
theorem dX6_stands_96 : decode cX6_stands 96 = .ok (.ifCond .lt 14, 3) := dk_155 0 14 (dk_at dksX6_stands_4 1 rfl rfl)
theorem dX6_stands_99 : decode cX6_stands 99 = .ok (.aload_n 0, 1) := dk_42 (dk_at dksX6_stands_4 4 rfl rfl)
theorem dX6_stands_100 : decode cX6_stands 100 = .ok (.iconst 0, 1) := dk_3 (dk_at dksX6_stands_4 5 rfl rfl)
theorem dX6_stands_101 : decode cX6_stands 101 = .ok (.putfield 119, 3) := dk_181 0 119 (dk_at dksX6_stands_4 6 rfl rfl)
theorem dX6_stands_104 : decode cX6_stands 104 = .ok (.aload_n 0, 1) := dk_42 (dk_at dksX6_stands_4 9 rfl rfl)
theorem dX6_stands_105 : decode cX6_stands 105 = .ok (.iload_n 3, 1) := dk_29 (dk_at dksX6_stands_4 10 rfl rfl)
theorem dX6_stands_106 : decode cX6_stands 106 = .ok (.i2l, 1) := dk_133 (dk_at dksX6_stands_4 11 rfl rfl)
theorem dX6_stands_107 : decode cX6_stands 107 = .ok (.invokevirtual 358, 3) := dk_182 1 102 (dk_at dksX6_stands_4 12 rfl rfl)
theorem dX6_stands_110 : decode cX6_stands 110 = .ok (.iload_n 2, 1) := dk_28 (dk_at dksX6_stands_4 15 rfl rfl)
theorem dX6_stands_111 : decode cX6_stands 111 = .ok (.ireturn, 1) := dk_172 (dk_at dksX6_stands_4 16 rfl rfl)
abbrev cX6_when : ByteArray := prog_15_method_83_code
def yX6_when : MethodName := ⟨RX6, "when", "(I)I"⟩
def dkwX6_when_6 : List UInt8 := [167, 255, 141, 28, 155, 0, 14, 42, 3, 181, 0, 119, 42, 29, 133, 182, 1, 102, 28, 172]
abbrev dktX6_when_6 : List UInt8 := dkwX6_when_6 ++ []
def dkwX6_when_5 : List UInt8 := [184, 1, 155, 153, 0, 17, 28, 156, 0, 8, 21, 4, 167, 0, 4, 29, 62, 21, 4, 61, 132, 4, 255]
abbrev dktX6_when_5 : List UInt8 := dkwX6_when_5 ++ dktX6_when_6
def dkwX6_when_4 : List UInt8 := [182, 1, 106, 54, 6, 21, 6, 156, 0, 10, 21, 6, 16, 252, 160, 0, 28, 42, 182, 1, 145, 27]
abbrev dktX6_when_4 : List UInt8 := dkwX6_when_4 ++ dktX6_when_5
def dkwX6_when_3 : List UInt8 := [4, 167, 0, 4, 3, 54, 5, 21, 5, 153, 0, 7, 3, 167, 0, 12, 42, 42, 180, 0, 34, 27]
abbrev dktX6_when_3 : List UInt8 := dkwX6_when_3 ++ dktX6_when_4
def dkwX6_when_2 : List UInt8 := [184, 0, 132, 154, 0, 25, 42, 180, 0, 34, 16, 21, 27, 96, 46, 42, 180, 0, 24, 27, 46, 160, 0, 7]
abbrev dktX6_when_2 : List UInt8 := dkwX6_when_2 ++ dktX6_when_3
def dkwX6_when_1 : List UInt8 := [21, 4, 155, 0, 116, 42, 182, 1, 134, 42, 42, 180, 0, 34, 21, 4, 182, 1, 99, 42, 180, 0, 34, 27]
abbrev dktX6_when_1 : List UInt8 := dkwX6_when_1 ++ dktX6_when_2
def dkwX6_when_0 : List UInt8 := [42, 3, 181, 0, 112, 42, 27, 182, 1, 52, 154, 0, 5, 2, 172, 16, 254, 61, 3, 62, 16, 60, 54, 4]
abbrev dktX6_when_0 : List UInt8 := dkwX6_when_0 ++ dktX6_when_1
theorem dksX6_when_0 : cX6_when.data.toList.drop 0 = dktX6_when_0 := by decide +kernel
theorem dksX6_when_1 : cX6_when.data.toList.drop 24 = dktX6_when_1 := dk_seg dksX6_when_0 24 rfl rfl
theorem dksX6_when_2 : cX6_when.data.toList.drop 48 = dktX6_when_2 := dk_seg dksX6_when_1 24 rfl rfl
theorem dksX6_when_3 : cX6_when.data.toList.drop 72 = dktX6_when_3 := dk_seg dksX6_when_2 24 rfl rfl
theorem dksX6_when_4 : cX6_when.data.toList.drop 94 = dktX6_when_4 := dk_seg dksX6_when_3 22 rfl rfl
theorem dksX6_when_5 : cX6_when.data.toList.drop 116 = dktX6_when_5 := dk_seg dksX6_when_4 22 rfl rfl
theorem dksX6_when_6 : cX6_when.data.toList.drop 139 = dktX6_when_6 := dk_seg dksX6_when_5 23 rfl rfl
theorem dX6_when_0 : decode cX6_when 0 = .ok (.aload_n 0, 1) := dk_42 (dk_at dksX6_when_0 0 rfl rfl)
theorem dX6_when_1 : decode cX6_when 1 = .ok (.iconst 0, 1) := dk_3 (dk_at dksX6_when_0 1 rfl rfl)
theorem dX6_when_2 : decode cX6_when 2 = .ok (.putfield 112, 3) := dk_181 0 112 (dk_at dksX6_when_0 2 rfl rfl)
theorem dX6_when_5 : decode cX6_when 5 = .ok (.aload_n 0, 1) := dk_42 (dk_at dksX6_when_0 5 rfl rfl)
theorem dX6_when_6 : decode cX6_when 6 = .ok (.iload_n 1, 1) := dk_27 (dk_at dksX6_when_0 6 rfl rfl)
theorem dX6_when_7 : decode cX6_when 7 = .ok (.invokevirtual 308, 3) := dk_182 1 52 (dk_at dksX6_when_0 7 rfl rfl)
theorem dX6_when_10 : decode cX6_when 10 = .ok (.ifCond .ne 5, 3) := dk_154 0 5 (dk_at dksX6_when_0 10 rfl rfl)
theorem dX6_when_13 : decode cX6_when 13 = .ok (.iconst (-1), 1) := dk_2 (dk_at dksX6_when_0 13 rfl rfl)
theorem dX6_when_14 : decode cX6_when 14 = .ok (.ireturn, 1) := dk_172 (dk_at dksX6_when_0 14 rfl rfl)
theorem dX6_when_15 : decode cX6_when 15 = .ok (.bipush (-2), 2) := dk_16 254 (dk_at dksX6_when_0 15 rfl rfl)
theorem dX6_when_17 : decode cX6_when 17 = .ok (.istore_n 2, 1) := dk_61 (dk_at dksX6_when_0 17 rfl rfl)
theorem dX6_when_18 : decode cX6_when 18 = .ok (.iconst 0, 1) := dk_3 (dk_at dksX6_when_0 18 rfl rfl)
theorem dX6_when_19 : decode cX6_when 19 = .ok (.istore_n 3, 1) := dk_62 (dk_at dksX6_when_0 19 rfl rfl)
theorem dX6_when_20 : decode cX6_when 20 = .ok (.bipush 60, 2) := dk_16 60 (dk_at dksX6_when_0 20 rfl rfl)
theorem dX6_when_22 : decode cX6_when 22 = .ok (.istore 4, 2) := dk_54 4 (dk_at dksX6_when_0 22 rfl rfl)
theorem dX6_when_24 : decode cX6_when 24 = .ok (.iload 4, 2) := dk_21 4 (dk_at dksX6_when_1 0 rfl rfl)
theorem dX6_when_26 : decode cX6_when 26 = .ok (.ifCond .lt 116, 3) := dk_155 0 116 (dk_at dksX6_when_1 2 rfl rfl)
theorem dX6_when_29 : decode cX6_when 29 = .ok (.aload_n 0, 1) := dk_42 (dk_at dksX6_when_1 5 rfl rfl)
theorem dX6_when_30 : decode cX6_when 30 = .ok (.invokevirtual 390, 3) := dk_182 1 134 (dk_at dksX6_when_1 6 rfl rfl)
theorem dX6_when_33 : decode cX6_when 33 = .ok (.aload_n 0, 1) := dk_42 (dk_at dksX6_when_1 9 rfl rfl)
theorem dX6_when_34 : decode cX6_when 34 = .ok (.aload_n 0, 1) := dk_42 (dk_at dksX6_when_1 10 rfl rfl)
theorem dX6_when_35 : decode cX6_when 35 = .ok (.getfield 34, 3) := dk_180 0 34 (dk_at dksX6_when_1 11 rfl rfl)
theorem dX6_when_38 : decode cX6_when 38 = .ok (.iload 4, 2) := dk_21 4 (dk_at dksX6_when_1 14 rfl rfl)
theorem dX6_when_40 : decode cX6_when 40 = .ok (.invokevirtual 355, 3) := dk_182 1 99 (dk_at dksX6_when_1 16 rfl rfl)
theorem dX6_when_43 : decode cX6_when 43 = .ok (.aload_n 0, 1) := dk_42 (dk_at dksX6_when_1 19 rfl rfl)
theorem dX6_when_44 : decode cX6_when 44 = .ok (.getfield 34, 3) := dk_180 0 34 (dk_at dksX6_when_1 20 rfl rfl)
theorem dX6_when_47 : decode cX6_when 47 = .ok (.iload_n 1, 1) := dk_27 (dk_at dksX6_when_1 23 rfl rfl)
theorem dX6_when_48 : decode cX6_when 48 = .ok (.invokestatic 132, 3) := dk_184 0 132 (dk_at dksX6_when_2 0 rfl rfl)
theorem dX6_when_51 : decode cX6_when 51 = .ok (.ifCond .ne 25, 3) := dk_154 0 25 (dk_at dksX6_when_2 3 rfl rfl)
theorem dX6_when_54 : decode cX6_when 54 = .ok (.aload_n 0, 1) := dk_42 (dk_at dksX6_when_2 6 rfl rfl)
theorem dX6_when_55 : decode cX6_when 55 = .ok (.getfield 34, 3) := dk_180 0 34 (dk_at dksX6_when_2 7 rfl rfl)
theorem dX6_when_58 : decode cX6_when 58 = .ok (.bipush 21, 2) := dk_16 21 (dk_at dksX6_when_2 10 rfl rfl)
theorem dX6_when_60 : decode cX6_when 60 = .ok (.iload_n 1, 1) := dk_27 (dk_at dksX6_when_2 12 rfl rfl)
theorem dX6_when_61 : decode cX6_when 61 = .ok (.iadd, 1) := dk_96 (dk_at dksX6_when_2 13 rfl rfl)
theorem dX6_when_62 : decode cX6_when 62 = .ok (.iaload, 1) := dk_46 (dk_at dksX6_when_2 14 rfl rfl)
theorem dX6_when_63 : decode cX6_when 63 = .ok (.aload_n 0, 1) := dk_42 (dk_at dksX6_when_2 15 rfl rfl)
theorem dX6_when_64 : decode cX6_when 64 = .ok (.getfield 24, 3) := dk_180 0 24 (dk_at dksX6_when_2 16 rfl rfl)
theorem dX6_when_67 : decode cX6_when 67 = .ok (.iload_n 1, 1) := dk_27 (dk_at dksX6_when_2 19 rfl rfl)
theorem dX6_when_68 : decode cX6_when 68 = .ok (.iaload, 1) := dk_46 (dk_at dksX6_when_2 20 rfl rfl)
theorem dX6_when_69 : decode cX6_when 69 = .ok (.if_icmp .ne 7, 3) := dk_160 0 7 (dk_at dksX6_when_2 21 rfl rfl)
theorem dX6_when_72 : decode cX6_when 72 = .ok (.iconst 1, 1) := dk_4 (dk_at dksX6_when_3 0 rfl rfl)
theorem dX6_when_73 : decode cX6_when 73 = .ok (.goto 4, 3) := dk_167 0 4 (dk_at dksX6_when_3 1 rfl rfl)
theorem dX6_when_76 : decode cX6_when 76 = .ok (.iconst 0, 1) := dk_3 (dk_at dksX6_when_3 4 rfl rfl)
theorem dX6_when_77 : decode cX6_when 77 = .ok (.istore 5, 2) := dk_54 5 (dk_at dksX6_when_3 5 rfl rfl)
theorem dX6_when_79 : decode cX6_when 79 = .ok (.iload 5, 2) := dk_21 5 (dk_at dksX6_when_3 7 rfl rfl)
theorem dX6_when_81 : decode cX6_when 81 = .ok (.ifCond .eq 7, 3) := dk_153 0 7 (dk_at dksX6_when_3 9 rfl rfl)
theorem dX6_when_84 : decode cX6_when 84 = .ok (.iconst 0, 1) := dk_3 (dk_at dksX6_when_3 12 rfl rfl)
theorem dX6_when_85 : decode cX6_when 85 = .ok (.goto 12, 3) := dk_167 0 12 (dk_at dksX6_when_3 13 rfl rfl)
theorem dX6_when_88 : decode cX6_when 88 = .ok (.aload_n 0, 1) := dk_42 (dk_at dksX6_when_3 16 rfl rfl)
theorem dX6_when_89 : decode cX6_when 89 = .ok (.aload_n 0, 1) := dk_42 (dk_at dksX6_when_3 17 rfl rfl)
theorem dX6_when_90 : decode cX6_when 90 = .ok (.getfield 34, 3) := dk_180 0 34 (dk_at dksX6_when_3 18 rfl rfl)
theorem dX6_when_93 : decode cX6_when 93 = .ok (.iload_n 1, 1) := dk_27 (dk_at dksX6_when_3 21 rfl rfl)
theorem dX6_when_94 : decode cX6_when 94 = .ok (.invokevirtual 362, 3) := dk_182 1 106 (dk_at dksX6_when_4 0 rfl rfl)
theorem dX6_when_97 : decode cX6_when 97 = .ok (.istore 6, 2) := dk_54 6 (dk_at dksX6_when_4 3 rfl rfl)
theorem dX6_when_99 : decode cX6_when 99 = .ok (.iload 6, 2) := dk_21 6 (dk_at dksX6_when_4 5 rfl rfl)
theorem dX6_when_101 : decode cX6_when 101 = .ok (.ifCond .ge 10, 3) := dk_156 0 10 (dk_at dksX6_when_4 7 rfl rfl)
theorem dX6_when_104 : decode cX6_when 104 = .ok (.iload 6, 2) := dk_21 6 (dk_at dksX6_when_4 10 rfl rfl)
theorem dX6_when_106 : decode cX6_when 106 = .ok (.bipush (-4), 2) := dk_16 252 (dk_at dksX6_when_4 12 rfl rfl)
theorem dX6_when_108 : decode cX6_when 108 = .ok (.if_icmp .ne 28, 3) := dk_160 0 28 (dk_at dksX6_when_4 14 rfl rfl)
theorem dX6_when_111 : decode cX6_when 111 = .ok (.aload_n 0, 1) := dk_42 (dk_at dksX6_when_4 17 rfl rfl)
theorem dX6_when_112 : decode cX6_when 112 = .ok (.invokevirtual 401, 3) := dk_182 1 145 (dk_at dksX6_when_4 18 rfl rfl)
theorem dX6_when_115 : decode cX6_when 115 = .ok (.iload_n 1, 1) := dk_27 (dk_at dksX6_when_4 21 rfl rfl)
theorem dX6_when_116 : decode cX6_when 116 = .ok (.invokestatic 411, 3) := dk_184 1 155 (dk_at dksX6_when_5 0 rfl rfl)
theorem dX6_when_119 : decode cX6_when 119 = .ok (.ifCond .eq 17, 3) := dk_153 0 17 (dk_at dksX6_when_5 3 rfl rfl)
theorem dX6_when_122 : decode cX6_when 122 = .ok (.iload_n 2, 1) := dk_28 (dk_at dksX6_when_5 6 rfl rfl)
theorem dX6_when_123 : decode cX6_when 123 = .ok (.ifCond .ge 8, 3) := dk_156 0 8 (dk_at dksX6_when_5 7 rfl rfl)
theorem dX6_when_126 : decode cX6_when 126 = .ok (.iload 4, 2) := dk_21 4 (dk_at dksX6_when_5 10 rfl rfl)
theorem dX6_when_128 : decode cX6_when 128 = .ok (.goto 4, 3) := dk_167 0 4 (dk_at dksX6_when_5 12 rfl rfl)
theorem dX6_when_131 : decode cX6_when 131 = .ok (.iload_n 3, 1) := dk_29 (dk_at dksX6_when_5 15 rfl rfl)
theorem dX6_when_132 : decode cX6_when 132 = .ok (.istore_n 3, 1) := dk_62 (dk_at dksX6_when_5 16 rfl rfl)
theorem dX6_when_133 : decode cX6_when 133 = .ok (.iload 4, 2) := dk_21 4 (dk_at dksX6_when_5 17 rfl rfl)
theorem dX6_when_135 : decode cX6_when 135 = .ok (.istore_n 2, 1) := dk_61 (dk_at dksX6_when_5 19 rfl rfl)
theorem dX6_when_136 : decode cX6_when 136 = .ok (.iinc 4 (-1), 3) := dk_132 4 255 (dk_at dksX6_when_5 20 rfl rfl)
theorem dX6_when_139 : decode cX6_when 139 = .ok (.goto (-115), 3) := dk_167 255 141 (dk_at dksX6_when_6 0 rfl rfl)
theorem dX6_when_142 : decode cX6_when 142 = .ok (.iload_n 2, 1) := dk_28 (dk_at dksX6_when_6 3 rfl rfl)
theorem dX6_when_143 : decode cX6_when 143 = .ok (.ifCond .lt 14, 3) := dk_155 0 14 (dk_at dksX6_when_6 4 rfl rfl)
theorem dX6_when_146 : decode cX6_when 146 = .ok (.aload_n 0, 1) := dk_42 (dk_at dksX6_when_6 7 rfl rfl)
theorem dX6_when_147 : decode cX6_when 147 = .ok (.iconst 0, 1) := dk_3 (dk_at dksX6_when_6 8 rfl rfl)
theorem dX6_when_148 : decode cX6_when 148 = .ok (.putfield 119, 3) := dk_181 0 119 (dk_at dksX6_when_6 9 rfl rfl)
theorem dX6_when_151 : decode cX6_when 151 = .ok (.aload_n 0, 1) := dk_42 (dk_at dksX6_when_6 12 rfl rfl)
theorem dX6_when_152 : decode cX6_when 152 = .ok (.iload_n 3, 1) := dk_29 (dk_at dksX6_when_6 13 rfl rfl)
theorem dX6_when_153 : decode cX6_when 153 = .ok (.i2l, 1) := dk_133 (dk_at dksX6_when_6 14 rfl rfl)
theorem dX6_when_154 : decode cX6_when 154 = .ok (.invokevirtual 358, 3) := dk_182 1 102 (dk_at dksX6_when_6 15 rfl rfl)
theorem dX6_when_157 : decode cX6_when 157 = .ok (.iload_n 2, 1) := dk_28 (dk_at dksX6_when_6 18 rfl rfl)
theorem dX6_when_158 : decode cX6_when 158 = .ok (.ireturn, 1) := dk_172 (dk_at dksX6_when_6 19 rfl rfl)
abbrev cX6_mends : ByteArray := prog_15_method_84_code
def yX6_mends : MethodName := ⟨RX6, "mends", "(I)I"⟩
def dkwX6_mends_7 : List UInt8 := [28, 133, 182, 1, 102, 28, 184, 1, 23, 172]
abbrev dktX6_mends_7 : List UInt8 := dkwX6_mends_7 ++ []
def dkwX6_mends_6 : List UInt8 := [167, 0, 4, 28, 61, 132, 3, 1, 167, 255, 132, 28, 156, 0, 6, 16, 254, 172, 42, 3, 181, 0, 119, 42]
abbrev dktX6_mends_6 : List UInt8 := dkwX6_mends_6 ++ dktX6_mends_7
def dkwX6_mends_5 : List UInt8 := [132, 5, 1, 167, 255, 195, 21, 4, 153, 0, 18, 42, 182, 1, 145, 184, 1, 23, 27, 161, 0, 7, 29]
abbrev dktX6_mends_5 : List UInt8 := dkwX6_mends_5 ++ dktX6_mends_6
def dkwX6_mends_4 : List UInt8 := [153, 0, 19, 21, 6, 156, 0, 10, 21, 6, 16, 252, 160, 0, 7, 4, 167, 0, 4, 3, 54, 4]
abbrev dktX6_mends_4 : List UInt8 := dkwX6_mends_4 ++ dktX6_mends_5
def dkwX6_mends_3 : List UInt8 := [184, 1, 155, 153, 0, 16, 42, 42, 180, 0, 34, 21, 5, 182, 1, 106, 167, 0, 4, 3, 54, 6, 21, 4]
abbrev dktX6_mends_3 : List UInt8 := dkwX6_mends_3 ++ dktX6_mends_4
def dkwX6_mends_2 : List UInt8 := [42, 182, 1, 134, 4, 54, 4, 3, 54, 5, 21, 5, 42, 180, 0, 129, 162, 0, 58, 29, 21, 5]
abbrev dktX6_mends_2 : List UInt8 := dkwX6_mends_2 ++ dktX6_mends_3
def dkwX6_mends_1 : List UInt8 := [4, 42, 180, 0, 129, 120, 162, 0, 120, 28, 155, 0, 14, 29, 184, 1, 23, 28, 184, 1, 23, 162, 0, 99]
abbrev dktX6_mends_1 : List UInt8 := dkwX6_mends_1 ++ dktX6_mends_2
def dkwX6_mends_0 : List UInt8 := [42, 3, 181, 0, 112, 27, 133, 9, 20, 1, 159, 184, 0, 125, 154, 0, 5, 2, 172, 2, 61, 3, 62, 29]
abbrev dktX6_mends_0 : List UInt8 := dkwX6_mends_0 ++ dktX6_mends_1
theorem dksX6_mends_0 : cX6_mends.data.toList.drop 0 = dktX6_mends_0 := by decide +kernel
theorem dksX6_mends_1 : cX6_mends.data.toList.drop 24 = dktX6_mends_1 := dk_seg dksX6_mends_0 24 rfl rfl
theorem dksX6_mends_2 : cX6_mends.data.toList.drop 48 = dktX6_mends_2 := dk_seg dksX6_mends_1 24 rfl rfl
theorem dksX6_mends_3 : cX6_mends.data.toList.drop 70 = dktX6_mends_3 := dk_seg dksX6_mends_2 22 rfl rfl
theorem dksX6_mends_4 : cX6_mends.data.toList.drop 94 = dktX6_mends_4 := dk_seg dksX6_mends_3 24 rfl rfl
theorem dksX6_mends_5 : cX6_mends.data.toList.drop 116 = dktX6_mends_5 := dk_seg dksX6_mends_4 22 rfl rfl
theorem dksX6_mends_6 : cX6_mends.data.toList.drop 139 = dktX6_mends_6 := dk_seg dksX6_mends_5 23 rfl rfl
theorem dksX6_mends_7 : cX6_mends.data.toList.drop 163 = dktX6_mends_7 := dk_seg dksX6_mends_6 24 rfl rfl
theorem dX6_mends_0 : decode cX6_mends 0 = .ok (.aload_n 0, 1) := dk_42 (dk_at dksX6_mends_0 0 rfl rfl)
theorem dX6_mends_1 : decode cX6_mends 1 = .ok (.iconst 0, 1) := dk_3 (dk_at dksX6_mends_0 1 rfl rfl)
theorem dX6_mends_2 : decode cX6_mends 2 = .ok (.putfield 112, 3) := dk_181 0 112 (dk_at dksX6_mends_0 2 rfl rfl)
theorem dX6_mends_5 : decode cX6_mends 5 = .ok (.iload_n 1, 1) := dk_27 (dk_at dksX6_mends_0 5 rfl rfl)
theorem dX6_mends_6 : decode cX6_mends 6 = .ok (.i2l, 1) := dk_133 (dk_at dksX6_mends_0 6 rfl rfl)
theorem dX6_mends_7 : decode cX6_mends 7 = .ok (.lconst 0, 1) := dk_9 (dk_at dksX6_mends_0 7 rfl rfl)
theorem dX6_mends_8 : decode cX6_mends 8 = .ok (.ldc2_w 415, 3) := dk_20 1 159 (dk_at dksX6_mends_0 8 rfl rfl)
theorem dX6_mends_11 : decode cX6_mends 11 = .ok (.invokestatic 125, 3) := dk_184 0 125 (dk_at dksX6_mends_0 11 rfl rfl)
theorem dX6_mends_14 : decode cX6_mends 14 = .ok (.ifCond .ne 5, 3) := dk_154 0 5 (dk_at dksX6_mends_0 14 rfl rfl)
theorem dX6_mends_17 : decode cX6_mends 17 = .ok (.iconst (-1), 1) := dk_2 (dk_at dksX6_mends_0 17 rfl rfl)
theorem dX6_mends_18 : decode cX6_mends 18 = .ok (.ireturn, 1) := dk_172 (dk_at dksX6_mends_0 18 rfl rfl)
theorem dX6_mends_19 : decode cX6_mends 19 = .ok (.iconst (-1), 1) := dk_2 (dk_at dksX6_mends_0 19 rfl rfl)
theorem dX6_mends_20 : decode cX6_mends 20 = .ok (.istore_n 2, 1) := dk_61 (dk_at dksX6_mends_0 20 rfl rfl)
theorem dX6_mends_21 : decode cX6_mends 21 = .ok (.iconst 0, 1) := dk_3 (dk_at dksX6_mends_0 21 rfl rfl)
theorem dX6_mends_22 : decode cX6_mends 22 = .ok (.istore_n 3, 1) := dk_62 (dk_at dksX6_mends_0 22 rfl rfl)
theorem dX6_mends_23 : decode cX6_mends 23 = .ok (.iload_n 3, 1) := dk_29 (dk_at dksX6_mends_0 23 rfl rfl)
theorem dX6_mends_24 : decode cX6_mends 24 = .ok (.iconst 1, 1) := dk_4 (dk_at dksX6_mends_1 0 rfl rfl)
theorem dX6_mends_25 : decode cX6_mends 25 = .ok (.aload_n 0, 1) := dk_42 (dk_at dksX6_mends_1 1 rfl rfl)
theorem dX6_mends_26 : decode cX6_mends 26 = .ok (.getfield 129, 3) := dk_180 0 129 (dk_at dksX6_mends_1 2 rfl rfl)
theorem dX6_mends_29 : decode cX6_mends 29 = .ok (.ishl, 1) := dk_120 (dk_at dksX6_mends_1 5 rfl rfl)
theorem dX6_mends_30 : decode cX6_mends 30 = .ok (.if_icmp .ge 120, 3) := dk_162 0 120 (dk_at dksX6_mends_1 6 rfl rfl)
theorem dX6_mends_33 : decode cX6_mends 33 = .ok (.iload_n 2, 1) := dk_28 (dk_at dksX6_mends_1 9 rfl rfl)
theorem dX6_mends_34 : decode cX6_mends 34 = .ok (.ifCond .lt 14, 3) := dk_155 0 14 (dk_at dksX6_mends_1 10 rfl rfl)
theorem dX6_mends_37 : decode cX6_mends 37 = .ok (.iload_n 3, 1) := dk_29 (dk_at dksX6_mends_1 13 rfl rfl)
theorem dX6_mends_38 : decode cX6_mends 38 = .ok (.invokestatic 279, 3) := dk_184 1 23 (dk_at dksX6_mends_1 14 rfl rfl)
theorem dX6_mends_41 : decode cX6_mends 41 = .ok (.iload_n 2, 1) := dk_28 (dk_at dksX6_mends_1 17 rfl rfl)
theorem dX6_mends_42 : decode cX6_mends 42 = .ok (.invokestatic 279, 3) := dk_184 1 23 (dk_at dksX6_mends_1 18 rfl rfl)
theorem dX6_mends_45 : decode cX6_mends 45 = .ok (.if_icmp .ge 99, 3) := dk_162 0 99 (dk_at dksX6_mends_1 21 rfl rfl)
theorem dX6_mends_48 : decode cX6_mends 48 = .ok (.aload_n 0, 1) := dk_42 (dk_at dksX6_mends_2 0 rfl rfl)
theorem dX6_mends_49 : decode cX6_mends 49 = .ok (.invokevirtual 390, 3) := dk_182 1 134 (dk_at dksX6_mends_2 1 rfl rfl)
theorem dX6_mends_52 : decode cX6_mends 52 = .ok (.iconst 1, 1) := dk_4 (dk_at dksX6_mends_2 4 rfl rfl)
theorem dX6_mends_53 : decode cX6_mends 53 = .ok (.istore 4, 2) := dk_54 4 (dk_at dksX6_mends_2 5 rfl rfl)
theorem dX6_mends_55 : decode cX6_mends 55 = .ok (.iconst 0, 1) := dk_3 (dk_at dksX6_mends_2 7 rfl rfl)
theorem dX6_mends_56 : decode cX6_mends 56 = .ok (.istore 5, 2) := dk_54 5 (dk_at dksX6_mends_2 8 rfl rfl)
theorem dX6_mends_58 : decode cX6_mends 58 = .ok (.iload 5, 2) := dk_21 5 (dk_at dksX6_mends_2 10 rfl rfl)
theorem dX6_mends_60 : decode cX6_mends 60 = .ok (.aload_n 0, 1) := dk_42 (dk_at dksX6_mends_2 12 rfl rfl)
theorem dX6_mends_61 : decode cX6_mends 61 = .ok (.getfield 129, 3) := dk_180 0 129 (dk_at dksX6_mends_2 13 rfl rfl)
theorem dX6_mends_64 : decode cX6_mends 64 = .ok (.if_icmp .ge 58, 3) := dk_162 0 58 (dk_at dksX6_mends_2 16 rfl rfl)
theorem dX6_mends_67 : decode cX6_mends 67 = .ok (.iload_n 3, 1) := dk_29 (dk_at dksX6_mends_2 19 rfl rfl)
theorem dX6_mends_68 : decode cX6_mends 68 = .ok (.iload 5, 2) := dk_21 5 (dk_at dksX6_mends_2 20 rfl rfl)
theorem dX6_mends_70 : decode cX6_mends 70 = .ok (.invokestatic 411, 3) := dk_184 1 155 (dk_at dksX6_mends_3 0 rfl rfl)
theorem dX6_mends_73 : decode cX6_mends 73 = .ok (.ifCond .eq 16, 3) := dk_153 0 16 (dk_at dksX6_mends_3 3 rfl rfl)
theorem dX6_mends_76 : decode cX6_mends 76 = .ok (.aload_n 0, 1) := dk_42 (dk_at dksX6_mends_3 6 rfl rfl)
theorem dX6_mends_77 : decode cX6_mends 77 = .ok (.aload_n 0, 1) := dk_42 (dk_at dksX6_mends_3 7 rfl rfl)
theorem dX6_mends_78 : decode cX6_mends 78 = .ok (.getfield 34, 3) := dk_180 0 34 (dk_at dksX6_mends_3 8 rfl rfl)
theorem dX6_mends_81 : decode cX6_mends 81 = .ok (.iload 5, 2) := dk_21 5 (dk_at dksX6_mends_3 11 rfl rfl)
theorem dX6_mends_83 : decode cX6_mends 83 = .ok (.invokevirtual 362, 3) := dk_182 1 106 (dk_at dksX6_mends_3 13 rfl rfl)
theorem dX6_mends_86 : decode cX6_mends 86 = .ok (.goto 4, 3) := dk_167 0 4 (dk_at dksX6_mends_3 16 rfl rfl)
theorem dX6_mends_89 : decode cX6_mends 89 = .ok (.iconst 0, 1) := dk_3 (dk_at dksX6_mends_3 19 rfl rfl)
theorem dX6_mends_90 : decode cX6_mends 90 = .ok (.istore 6, 2) := dk_54 6 (dk_at dksX6_mends_3 20 rfl rfl)
theorem dX6_mends_92 : decode cX6_mends 92 = .ok (.iload 4, 2) := dk_21 4 (dk_at dksX6_mends_3 22 rfl rfl)
theorem dX6_mends_94 : decode cX6_mends 94 = .ok (.ifCond .eq 19, 3) := dk_153 0 19 (dk_at dksX6_mends_4 0 rfl rfl)
theorem dX6_mends_97 : decode cX6_mends 97 = .ok (.iload 6, 2) := dk_21 6 (dk_at dksX6_mends_4 3 rfl rfl)
theorem dX6_mends_99 : decode cX6_mends 99 = .ok (.ifCond .ge 10, 3) := dk_156 0 10 (dk_at dksX6_mends_4 5 rfl rfl)
theorem dX6_mends_102 : decode cX6_mends 102 = .ok (.iload 6, 2) := dk_21 6 (dk_at dksX6_mends_4 8 rfl rfl)
theorem dX6_mends_104 : decode cX6_mends 104 = .ok (.bipush (-4), 2) := dk_16 252 (dk_at dksX6_mends_4 10 rfl rfl)
theorem dX6_mends_106 : decode cX6_mends 106 = .ok (.if_icmp .ne 7, 3) := dk_160 0 7 (dk_at dksX6_mends_4 12 rfl rfl)
theorem dX6_mends_109 : decode cX6_mends 109 = .ok (.iconst 1, 1) := dk_4 (dk_at dksX6_mends_4 15 rfl rfl)
theorem dX6_mends_110 : decode cX6_mends 110 = .ok (.goto 4, 3) := dk_167 0 4 (dk_at dksX6_mends_4 16 rfl rfl)
theorem dX6_mends_113 : decode cX6_mends 113 = .ok (.iconst 0, 1) := dk_3 (dk_at dksX6_mends_4 19 rfl rfl)
theorem dX6_mends_114 : decode cX6_mends 114 = .ok (.istore 4, 2) := dk_54 4 (dk_at dksX6_mends_4 20 rfl rfl)
theorem dX6_mends_116 : decode cX6_mends 116 = .ok (.iinc 5 1, 3) := dk_132 5 1 (dk_at dksX6_mends_5 0 rfl rfl)
theorem dX6_mends_119 : decode cX6_mends 119 = .ok (.goto (-61), 3) := dk_167 255 195 (dk_at dksX6_mends_5 3 rfl rfl)
theorem dX6_mends_122 : decode cX6_mends 122 = .ok (.iload 4, 2) := dk_21 4 (dk_at dksX6_mends_5 6 rfl rfl)
theorem dX6_mends_124 : decode cX6_mends 124 = .ok (.ifCond .eq 18, 3) := dk_153 0 18 (dk_at dksX6_mends_5 8 rfl rfl)
theorem dX6_mends_127 : decode cX6_mends 127 = .ok (.aload_n 0, 1) := dk_42 (dk_at dksX6_mends_5 11 rfl rfl)
theorem dX6_mends_128 : decode cX6_mends 128 = .ok (.invokevirtual 401, 3) := dk_182 1 145 (dk_at dksX6_mends_5 12 rfl rfl)
theorem dX6_mends_131 : decode cX6_mends 131 = .ok (.invokestatic 279, 3) := dk_184 1 23 (dk_at dksX6_mends_5 15 rfl rfl)
theorem dX6_mends_134 : decode cX6_mends 134 = .ok (.iload_n 1, 1) := dk_27 (dk_at dksX6_mends_5 18 rfl rfl)
theorem dX6_mends_135 : decode cX6_mends 135 = .ok (.if_icmp .lt 7, 3) := dk_161 0 7 (dk_at dksX6_mends_5 19 rfl rfl)
theorem dX6_mends_138 : decode cX6_mends 138 = .ok (.iload_n 3, 1) := dk_29 (dk_at dksX6_mends_5 22 rfl rfl)
theorem dX6_mends_139 : decode cX6_mends 139 = .ok (.goto 4, 3) := dk_167 0 4 (dk_at dksX6_mends_6 0 rfl rfl)
theorem dX6_mends_142 : decode cX6_mends 142 = .ok (.iload_n 2, 1) := dk_28 (dk_at dksX6_mends_6 3 rfl rfl)
theorem dX6_mends_143 : decode cX6_mends 143 = .ok (.istore_n 2, 1) := dk_61 (dk_at dksX6_mends_6 4 rfl rfl)
theorem dX6_mends_144 : decode cX6_mends 144 = .ok (.iinc 3 1, 3) := dk_132 3 1 (dk_at dksX6_mends_6 5 rfl rfl)
theorem dX6_mends_147 : decode cX6_mends 147 = .ok (.goto (-124), 3) := dk_167 255 132 (dk_at dksX6_mends_6 8 rfl rfl)
theorem dX6_mends_150 : decode cX6_mends 150 = .ok (.iload_n 2, 1) := dk_28 (dk_at dksX6_mends_6 11 rfl rfl)
theorem dX6_mends_151 : decode cX6_mends 151 = .ok (.ifCond .ge 6, 3) := dk_156 0 6 (dk_at dksX6_mends_6 12 rfl rfl)
theorem dX6_mends_154 : decode cX6_mends 154 = .ok (.bipush (-2), 2) := dk_16 254 (dk_at dksX6_mends_6 15 rfl rfl)
theorem dX6_mends_156 : decode cX6_mends 156 = .ok (.ireturn, 1) := dk_172 (dk_at dksX6_mends_6 17 rfl rfl)
theorem dX6_mends_157 : decode cX6_mends 157 = .ok (.aload_n 0, 1) := dk_42 (dk_at dksX6_mends_6 18 rfl rfl)
theorem dX6_mends_158 : decode cX6_mends 158 = .ok (.iconst 0, 1) := dk_3 (dk_at dksX6_mends_6 19 rfl rfl)
theorem dX6_mends_159 : decode cX6_mends 159 = .ok (.putfield 119, 3) := dk_181 0 119 (dk_at dksX6_mends_6 20 rfl rfl)
theorem dX6_mends_162 : decode cX6_mends 162 = .ok (.aload_n 0, 1) := dk_42 (dk_at dksX6_mends_6 23 rfl rfl)
theorem dX6_mends_163 : decode cX6_mends 163 = .ok (.iload_n 2, 1) := dk_28 (dk_at dksX6_mends_7 0 rfl rfl)
theorem dX6_mends_164 : decode cX6_mends 164 = .ok (.i2l, 1) := dk_133 (dk_at dksX6_mends_7 1 rfl rfl)
theorem dX6_mends_165 : decode cX6_mends 165 = .ok (.invokevirtual 358, 3) := dk_182 1 102 (dk_at dksX6_mends_7 2 rfl rfl)
theorem dX6_mends_168 : decode cX6_mends 168 = .ok (.iload_n 2, 1) := dk_28 (dk_at dksX6_mends_7 5 rfl rfl)
theorem dX6_mends_169 : decode cX6_mends 169 = .ok (.invokestatic 279, 3) := dk_184 1 23 (dk_at dksX6_mends_7 6 rfl rfl)
theorem dX6_mends_172 : decode cX6_mends 172 = .ok (.ireturn, 1) := dk_172 (dk_at dksX6_mends_7 9 rfl rfl)
abbrev cX6_misleads : ByteArray := prog_15_method_85_code
def yX6_misleads : MethodName := ⟨RX6, "misleads", "()I"⟩
def dkwX6_misleads_8 : List UInt8 := [182, 1, 49, 2, 130, 126, 184, 1, 23, 133, 182, 1, 102, 28, 172]
abbrev dktX6_misleads_8 : List UInt8 := dkwX6_misleads_8 ++ []
def dkwX6_misleads_7 : List UInt8 := [167, 255, 113, 28, 155, 0, 31, 42, 3, 181, 0, 119, 42, 29, 133, 182, 1, 102, 42, 27, 42, 28]
abbrev dktX6_misleads_7 : List UInt8 := dkwX6_misleads_7 ++ dktX6_misleads_8
def dkwX6_misleads_6 : List UInt8 := [21, 5, 29, 164, 0, 8, 21, 4, 167, 0, 4, 28, 61, 29, 21, 5, 184, 1, 31, 62, 132, 4, 1]
abbrev dktX6_misleads_6 : List UInt8 := dkwX6_misleads_6 ++ dktX6_misleads_7
def dkwX6_misleads_5 : List UInt8 := [132, 5, 1, 167, 255, 193, 42, 182, 1, 145, 42, 21, 4, 182, 1, 49, 2, 130, 126, 184, 1, 23, 54, 5]
abbrev dktX6_misleads_5 : List UInt8 := dkwX6_misleads_5 ++ dktX6_misleads_6
def dkwX6_misleads_4 : List UInt8 := [21, 5, 96, 46, 21, 4, 160, 0, 7, 2, 167, 0, 13, 42, 180, 0, 34, 16, 21, 21, 5, 96, 46, 79]
abbrev dktX6_misleads_4 : List UInt8 := dkwX6_misleads_4 ++ dktX6_misleads_5
def dkwX6_misleads_3 : List UInt8 := [16, 21, 21, 5, 96, 42, 180, 0, 34, 21, 5, 184, 0, 132, 154, 0, 22, 42, 180, 0, 34, 16, 21]
abbrev dktX6_misleads_3 : List UInt8 := dkwX6_misleads_3 ++ dktX6_misleads_4
def dkwX6_misleads_2 : List UInt8 := [180, 0, 34, 21, 4, 2, 79, 3, 54, 5, 21, 5, 42, 180, 0, 129, 162, 0, 60, 42, 180, 0, 34]
abbrev dktX6_misleads_2 : List UInt8 := dkwX6_misleads_2 ++ dktX6_misleads_3
def dkwX6_misleads_1 : List UInt8 := [42, 180, 0, 122, 162, 0, 140, 42, 180, 0, 31, 21, 4, 184, 1, 10, 153, 0, 122, 42, 182, 1, 134, 42]
abbrev dktX6_misleads_1 : List UInt8 := dkwX6_misleads_1 ++ dktX6_misleads_2
def dkwX6_misleads_0 : List UInt8 := [42, 3, 181, 0, 112, 42, 182, 1, 134, 42, 182, 1, 145, 60, 16, 254, 61, 2, 62, 3, 54, 4, 21, 4]
abbrev dktX6_misleads_0 : List UInt8 := dkwX6_misleads_0 ++ dktX6_misleads_1
theorem dksX6_misleads_0 : cX6_misleads.data.toList.drop 0 = dktX6_misleads_0 := by decide +kernel
theorem dksX6_misleads_1 : cX6_misleads.data.toList.drop 24 = dktX6_misleads_1 := dk_seg dksX6_misleads_0 24 rfl rfl
theorem dksX6_misleads_2 : cX6_misleads.data.toList.drop 48 = dktX6_misleads_2 := dk_seg dksX6_misleads_1 24 rfl rfl
theorem dksX6_misleads_3 : cX6_misleads.data.toList.drop 71 = dktX6_misleads_3 := dk_seg dksX6_misleads_2 23 rfl rfl
theorem dksX6_misleads_4 : cX6_misleads.data.toList.drop 94 = dktX6_misleads_4 := dk_seg dksX6_misleads_3 23 rfl rfl
theorem dksX6_misleads_5 : cX6_misleads.data.toList.drop 118 = dktX6_misleads_5 := dk_seg dksX6_misleads_4 24 rfl rfl
theorem dksX6_misleads_6 : cX6_misleads.data.toList.drop 142 = dktX6_misleads_6 := dk_seg dksX6_misleads_5 24 rfl rfl
theorem dksX6_misleads_7 : cX6_misleads.data.toList.drop 165 = dktX6_misleads_7 := dk_seg dksX6_misleads_6 23 rfl rfl
theorem dksX6_misleads_8 : cX6_misleads.data.toList.drop 187 = dktX6_misleads_8 := dk_seg dksX6_misleads_7 22 rfl rfl
theorem dX6_misleads_0 : decode cX6_misleads 0 = .ok (.aload_n 0, 1) := dk_42 (dk_at dksX6_misleads_0 0 rfl rfl)
theorem dX6_misleads_1 : decode cX6_misleads 1 = .ok (.iconst 0, 1) := dk_3 (dk_at dksX6_misleads_0 1 rfl rfl)
theorem dX6_misleads_2 : decode cX6_misleads 2 = .ok (.putfield 112, 3) := dk_181 0 112 (dk_at dksX6_misleads_0 2 rfl rfl)
theorem dX6_misleads_5 : decode cX6_misleads 5 = .ok (.aload_n 0, 1) := dk_42 (dk_at dksX6_misleads_0 5 rfl rfl)
theorem dX6_misleads_6 : decode cX6_misleads 6 = .ok (.invokevirtual 390, 3) := dk_182 1 134 (dk_at dksX6_misleads_0 6 rfl rfl)
theorem dX6_misleads_9 : decode cX6_misleads 9 = .ok (.aload_n 0, 1) := dk_42 (dk_at dksX6_misleads_0 9 rfl rfl)
theorem dX6_misleads_10 : decode cX6_misleads 10 = .ok (.invokevirtual 401, 3) := dk_182 1 145 (dk_at dksX6_misleads_0 10 rfl rfl)
theorem dX6_misleads_13 : decode cX6_misleads 13 = .ok (.istore_n 1, 1) := dk_60 (dk_at dksX6_misleads_0 13 rfl rfl)
theorem dX6_misleads_14 : decode cX6_misleads 14 = .ok (.bipush (-2), 2) := dk_16 254 (dk_at dksX6_misleads_0 14 rfl rfl)
theorem dX6_misleads_16 : decode cX6_misleads 16 = .ok (.istore_n 2, 1) := dk_61 (dk_at dksX6_misleads_0 16 rfl rfl)
theorem dX6_misleads_17 : decode cX6_misleads 17 = .ok (.iconst (-1), 1) := dk_2 (dk_at dksX6_misleads_0 17 rfl rfl)
theorem dX6_misleads_18 : decode cX6_misleads 18 = .ok (.istore_n 3, 1) := dk_62 (dk_at dksX6_misleads_0 18 rfl rfl)
theorem dX6_misleads_19 : decode cX6_misleads 19 = .ok (.iconst 0, 1) := dk_3 (dk_at dksX6_misleads_0 19 rfl rfl)
theorem dX6_misleads_20 : decode cX6_misleads 20 = .ok (.istore 4, 2) := dk_54 4 (dk_at dksX6_misleads_0 20 rfl rfl)
theorem dX6_misleads_22 : decode cX6_misleads 22 = .ok (.iload 4, 2) := dk_21 4 (dk_at dksX6_misleads_0 22 rfl rfl)
theorem dX6_misleads_24 : decode cX6_misleads 24 = .ok (.aload_n 0, 1) := dk_42 (dk_at dksX6_misleads_1 0 rfl rfl)
theorem dX6_misleads_25 : decode cX6_misleads 25 = .ok (.getfield 122, 3) := dk_180 0 122 (dk_at dksX6_misleads_1 1 rfl rfl)
theorem dX6_misleads_28 : decode cX6_misleads 28 = .ok (.if_icmp .ge 140, 3) := dk_162 0 140 (dk_at dksX6_misleads_1 4 rfl rfl)
theorem dX6_misleads_31 : decode cX6_misleads 31 = .ok (.aload_n 0, 1) := dk_42 (dk_at dksX6_misleads_1 7 rfl rfl)
theorem dX6_misleads_32 : decode cX6_misleads 32 = .ok (.getfield 31, 3) := dk_180 0 31 (dk_at dksX6_misleads_1 8 rfl rfl)
theorem dX6_misleads_35 : decode cX6_misleads 35 = .ok (.iload 4, 2) := dk_21 4 (dk_at dksX6_misleads_1 11 rfl rfl)
theorem dX6_misleads_37 : decode cX6_misleads 37 = .ok (.invokestatic 266, 3) := dk_184 1 10 (dk_at dksX6_misleads_1 13 rfl rfl)
theorem dX6_misleads_40 : decode cX6_misleads 40 = .ok (.ifCond .eq 122, 3) := dk_153 0 122 (dk_at dksX6_misleads_1 16 rfl rfl)
theorem dX6_misleads_43 : decode cX6_misleads 43 = .ok (.aload_n 0, 1) := dk_42 (dk_at dksX6_misleads_1 19 rfl rfl)
theorem dX6_misleads_44 : decode cX6_misleads 44 = .ok (.invokevirtual 390, 3) := dk_182 1 134 (dk_at dksX6_misleads_1 20 rfl rfl)
theorem dX6_misleads_47 : decode cX6_misleads 47 = .ok (.aload_n 0, 1) := dk_42 (dk_at dksX6_misleads_1 23 rfl rfl)
theorem dX6_misleads_48 : decode cX6_misleads 48 = .ok (.getfield 34, 3) := dk_180 0 34 (dk_at dksX6_misleads_2 0 rfl rfl)
theorem dX6_misleads_51 : decode cX6_misleads 51 = .ok (.iload 4, 2) := dk_21 4 (dk_at dksX6_misleads_2 3 rfl rfl)
theorem dX6_misleads_53 : decode cX6_misleads 53 = .ok (.iconst (-1), 1) := dk_2 (dk_at dksX6_misleads_2 5 rfl rfl)
theorem dX6_misleads_54 : decode cX6_misleads 54 = .ok (.iastore, 1) := dk_79 (dk_at dksX6_misleads_2 6 rfl rfl)
theorem dX6_misleads_55 : decode cX6_misleads 55 = .ok (.iconst 0, 1) := dk_3 (dk_at dksX6_misleads_2 7 rfl rfl)
theorem dX6_misleads_56 : decode cX6_misleads 56 = .ok (.istore 5, 2) := dk_54 5 (dk_at dksX6_misleads_2 8 rfl rfl)
theorem dX6_misleads_58 : decode cX6_misleads 58 = .ok (.iload 5, 2) := dk_21 5 (dk_at dksX6_misleads_2 10 rfl rfl)
theorem dX6_misleads_60 : decode cX6_misleads 60 = .ok (.aload_n 0, 1) := dk_42 (dk_at dksX6_misleads_2 12 rfl rfl)
theorem dX6_misleads_61 : decode cX6_misleads 61 = .ok (.getfield 129, 3) := dk_180 0 129 (dk_at dksX6_misleads_2 13 rfl rfl)
theorem dX6_misleads_64 : decode cX6_misleads 64 = .ok (.if_icmp .ge 60, 3) := dk_162 0 60 (dk_at dksX6_misleads_2 16 rfl rfl)
theorem dX6_misleads_67 : decode cX6_misleads 67 = .ok (.aload_n 0, 1) := dk_42 (dk_at dksX6_misleads_2 19 rfl rfl)
theorem dX6_misleads_68 : decode cX6_misleads 68 = .ok (.getfield 34, 3) := dk_180 0 34 (dk_at dksX6_misleads_2 20 rfl rfl)
theorem dX6_misleads_71 : decode cX6_misleads 71 = .ok (.bipush 21, 2) := dk_16 21 (dk_at dksX6_misleads_3 0 rfl rfl)
theorem dX6_misleads_73 : decode cX6_misleads 73 = .ok (.iload 5, 2) := dk_21 5 (dk_at dksX6_misleads_3 2 rfl rfl)
theorem dX6_misleads_75 : decode cX6_misleads 75 = .ok (.iadd, 1) := dk_96 (dk_at dksX6_misleads_3 4 rfl rfl)
theorem dX6_misleads_76 : decode cX6_misleads 76 = .ok (.aload_n 0, 1) := dk_42 (dk_at dksX6_misleads_3 5 rfl rfl)
theorem dX6_misleads_77 : decode cX6_misleads 77 = .ok (.getfield 34, 3) := dk_180 0 34 (dk_at dksX6_misleads_3 6 rfl rfl)
theorem dX6_misleads_80 : decode cX6_misleads 80 = .ok (.iload 5, 2) := dk_21 5 (dk_at dksX6_misleads_3 9 rfl rfl)
theorem dX6_misleads_82 : decode cX6_misleads 82 = .ok (.invokestatic 132, 3) := dk_184 0 132 (dk_at dksX6_misleads_3 11 rfl rfl)
theorem dX6_misleads_85 : decode cX6_misleads 85 = .ok (.ifCond .ne 22, 3) := dk_154 0 22 (dk_at dksX6_misleads_3 14 rfl rfl)
theorem dX6_misleads_88 : decode cX6_misleads 88 = .ok (.aload_n 0, 1) := dk_42 (dk_at dksX6_misleads_3 17 rfl rfl)
theorem dX6_misleads_89 : decode cX6_misleads 89 = .ok (.getfield 34, 3) := dk_180 0 34 (dk_at dksX6_misleads_3 18 rfl rfl)
theorem dX6_misleads_92 : decode cX6_misleads 92 = .ok (.bipush 21, 2) := dk_16 21 (dk_at dksX6_misleads_3 21 rfl rfl)
theorem dX6_misleads_94 : decode cX6_misleads 94 = .ok (.iload 5, 2) := dk_21 5 (dk_at dksX6_misleads_4 0 rfl rfl)
theorem dX6_misleads_96 : decode cX6_misleads 96 = .ok (.iadd, 1) := dk_96 (dk_at dksX6_misleads_4 2 rfl rfl)
theorem dX6_misleads_97 : decode cX6_misleads 97 = .ok (.iaload, 1) := dk_46 (dk_at dksX6_misleads_4 3 rfl rfl)
theorem dX6_misleads_98 : decode cX6_misleads 98 = .ok (.iload 4, 2) := dk_21 4 (dk_at dksX6_misleads_4 4 rfl rfl)
theorem dX6_misleads_100 : decode cX6_misleads 100 = .ok (.if_icmp .ne 7, 3) := dk_160 0 7 (dk_at dksX6_misleads_4 6 rfl rfl)
theorem dX6_misleads_103 : decode cX6_misleads 103 = .ok (.iconst (-1), 1) := dk_2 (dk_at dksX6_misleads_4 9 rfl rfl)
theorem dX6_misleads_104 : decode cX6_misleads 104 = .ok (.goto 13, 3) := dk_167 0 13 (dk_at dksX6_misleads_4 10 rfl rfl)
theorem dX6_misleads_107 : decode cX6_misleads 107 = .ok (.aload_n 0, 1) := dk_42 (dk_at dksX6_misleads_4 13 rfl rfl)
theorem dX6_misleads_108 : decode cX6_misleads 108 = .ok (.getfield 34, 3) := dk_180 0 34 (dk_at dksX6_misleads_4 14 rfl rfl)
theorem dX6_misleads_111 : decode cX6_misleads 111 = .ok (.bipush 21, 2) := dk_16 21 (dk_at dksX6_misleads_4 17 rfl rfl)
theorem dX6_misleads_113 : decode cX6_misleads 113 = .ok (.iload 5, 2) := dk_21 5 (dk_at dksX6_misleads_4 19 rfl rfl)
theorem dX6_misleads_115 : decode cX6_misleads 115 = .ok (.iadd, 1) := dk_96 (dk_at dksX6_misleads_4 21 rfl rfl)
theorem dX6_misleads_116 : decode cX6_misleads 116 = .ok (.iaload, 1) := dk_46 (dk_at dksX6_misleads_4 22 rfl rfl)
theorem dX6_misleads_117 : decode cX6_misleads 117 = .ok (.iastore, 1) := dk_79 (dk_at dksX6_misleads_4 23 rfl rfl)
theorem dX6_misleads_118 : decode cX6_misleads 118 = .ok (.iinc 5 1, 3) := dk_132 5 1 (dk_at dksX6_misleads_5 0 rfl rfl)
theorem dX6_misleads_121 : decode cX6_misleads 121 = .ok (.goto (-63), 3) := dk_167 255 193 (dk_at dksX6_misleads_5 3 rfl rfl)
theorem dX6_misleads_124 : decode cX6_misleads 124 = .ok (.aload_n 0, 1) := dk_42 (dk_at dksX6_misleads_5 6 rfl rfl)
theorem dX6_misleads_125 : decode cX6_misleads 125 = .ok (.invokevirtual 401, 3) := dk_182 1 145 (dk_at dksX6_misleads_5 7 rfl rfl)
theorem dX6_misleads_128 : decode cX6_misleads 128 = .ok (.aload_n 0, 1) := dk_42 (dk_at dksX6_misleads_5 10 rfl rfl)
theorem dX6_misleads_129 : decode cX6_misleads 129 = .ok (.iload 4, 2) := dk_21 4 (dk_at dksX6_misleads_5 11 rfl rfl)
theorem dX6_misleads_131 : decode cX6_misleads 131 = .ok (.invokevirtual 305, 3) := dk_182 1 49 (dk_at dksX6_misleads_5 13 rfl rfl)
theorem dX6_misleads_134 : decode cX6_misleads 134 = .ok (.iconst (-1), 1) := dk_2 (dk_at dksX6_misleads_5 16 rfl rfl)
theorem dX6_misleads_135 : decode cX6_misleads 135 = .ok (.ixor, 1) := dk_130 (dk_at dksX6_misleads_5 17 rfl rfl)
theorem dX6_misleads_136 : decode cX6_misleads 136 = .ok (.iand, 1) := dk_126 (dk_at dksX6_misleads_5 18 rfl rfl)
theorem dX6_misleads_137 : decode cX6_misleads 137 = .ok (.invokestatic 279, 3) := dk_184 1 23 (dk_at dksX6_misleads_5 19 rfl rfl)
theorem dX6_misleads_140 : decode cX6_misleads 140 = .ok (.istore 5, 2) := dk_54 5 (dk_at dksX6_misleads_5 22 rfl rfl)
theorem dX6_misleads_142 : decode cX6_misleads 142 = .ok (.iload 5, 2) := dk_21 5 (dk_at dksX6_misleads_6 0 rfl rfl)
theorem dX6_misleads_144 : decode cX6_misleads 144 = .ok (.iload_n 3, 1) := dk_29 (dk_at dksX6_misleads_6 2 rfl rfl)
theorem dX6_misleads_145 : decode cX6_misleads 145 = .ok (.if_icmp .le 8, 3) := dk_164 0 8 (dk_at dksX6_misleads_6 3 rfl rfl)
theorem dX6_misleads_148 : decode cX6_misleads 148 = .ok (.iload 4, 2) := dk_21 4 (dk_at dksX6_misleads_6 6 rfl rfl)
theorem dX6_misleads_150 : decode cX6_misleads 150 = .ok (.goto 4, 3) := dk_167 0 4 (dk_at dksX6_misleads_6 8 rfl rfl)
theorem dX6_misleads_153 : decode cX6_misleads 153 = .ok (.iload_n 2, 1) := dk_28 (dk_at dksX6_misleads_6 11 rfl rfl)
theorem dX6_misleads_154 : decode cX6_misleads 154 = .ok (.istore_n 2, 1) := dk_61 (dk_at dksX6_misleads_6 12 rfl rfl)
theorem dX6_misleads_155 : decode cX6_misleads 155 = .ok (.iload_n 3, 1) := dk_29 (dk_at dksX6_misleads_6 13 rfl rfl)
theorem dX6_misleads_156 : decode cX6_misleads 156 = .ok (.iload 5, 2) := dk_21 5 (dk_at dksX6_misleads_6 14 rfl rfl)
theorem dX6_misleads_158 : decode cX6_misleads 158 = .ok (.invokestatic 287, 3) := dk_184 1 31 (dk_at dksX6_misleads_6 16 rfl rfl)
theorem dX6_misleads_161 : decode cX6_misleads 161 = .ok (.istore_n 3, 1) := dk_62 (dk_at dksX6_misleads_6 19 rfl rfl)
theorem dX6_misleads_162 : decode cX6_misleads 162 = .ok (.iinc 4 1, 3) := dk_132 4 1 (dk_at dksX6_misleads_6 20 rfl rfl)
theorem dX6_misleads_165 : decode cX6_misleads 165 = .ok (.goto (-143), 3) := dk_167 255 113 (dk_at dksX6_misleads_7 0 rfl rfl)
theorem dX6_misleads_168 : decode cX6_misleads 168 = .ok (.iload_n 2, 1) := dk_28 (dk_at dksX6_misleads_7 3 rfl rfl)
theorem dX6_misleads_169 : decode cX6_misleads 169 = .ok (.ifCond .lt 31, 3) := dk_155 0 31 (dk_at dksX6_misleads_7 4 rfl rfl)
theorem dX6_misleads_172 : decode cX6_misleads 172 = .ok (.aload_n 0, 1) := dk_42 (dk_at dksX6_misleads_7 7 rfl rfl)
theorem dX6_misleads_173 : decode cX6_misleads 173 = .ok (.iconst 0, 1) := dk_3 (dk_at dksX6_misleads_7 8 rfl rfl)
theorem dX6_misleads_174 : decode cX6_misleads 174 = .ok (.putfield 119, 3) := dk_181 0 119 (dk_at dksX6_misleads_7 9 rfl rfl)
theorem dX6_misleads_177 : decode cX6_misleads 177 = .ok (.aload_n 0, 1) := dk_42 (dk_at dksX6_misleads_7 12 rfl rfl)
theorem dX6_misleads_178 : decode cX6_misleads 178 = .ok (.iload_n 3, 1) := dk_29 (dk_at dksX6_misleads_7 13 rfl rfl)
theorem dX6_misleads_179 : decode cX6_misleads 179 = .ok (.i2l, 1) := dk_133 (dk_at dksX6_misleads_7 14 rfl rfl)
theorem dX6_misleads_180 : decode cX6_misleads 180 = .ok (.invokevirtual 358, 3) := dk_182 1 102 (dk_at dksX6_misleads_7 15 rfl rfl)
theorem dX6_misleads_183 : decode cX6_misleads 183 = .ok (.aload_n 0, 1) := dk_42 (dk_at dksX6_misleads_7 18 rfl rfl)
theorem dX6_misleads_184 : decode cX6_misleads 184 = .ok (.iload_n 1, 1) := dk_27 (dk_at dksX6_misleads_7 19 rfl rfl)
theorem dX6_misleads_185 : decode cX6_misleads 185 = .ok (.aload_n 0, 1) := dk_42 (dk_at dksX6_misleads_7 20 rfl rfl)
theorem dX6_misleads_186 : decode cX6_misleads 186 = .ok (.iload_n 2, 1) := dk_28 (dk_at dksX6_misleads_7 21 rfl rfl)
theorem dX6_misleads_187 : decode cX6_misleads 187 = .ok (.invokevirtual 305, 3) := dk_182 1 49 (dk_at dksX6_misleads_8 0 rfl rfl)
theorem dX6_misleads_190 : decode cX6_misleads 190 = .ok (.iconst (-1), 1) := dk_2 (dk_at dksX6_misleads_8 3 rfl rfl)
theorem dX6_misleads_191 : decode cX6_misleads 191 = .ok (.ixor, 1) := dk_130 (dk_at dksX6_misleads_8 4 rfl rfl)
theorem dX6_misleads_192 : decode cX6_misleads 192 = .ok (.iand, 1) := dk_126 (dk_at dksX6_misleads_8 5 rfl rfl)
theorem dX6_misleads_193 : decode cX6_misleads 193 = .ok (.invokestatic 279, 3) := dk_184 1 23 (dk_at dksX6_misleads_8 6 rfl rfl)
theorem dX6_misleads_196 : decode cX6_misleads 196 = .ok (.i2l, 1) := dk_133 (dk_at dksX6_misleads_8 9 rfl rfl)
theorem dX6_misleads_197 : decode cX6_misleads 197 = .ok (.invokevirtual 358, 3) := dk_182 1 102 (dk_at dksX6_misleads_8 10 rfl rfl)
theorem dX6_misleads_200 : decode cX6_misleads 200 = .ok (.iload_n 2, 1) := dk_28 (dk_at dksX6_misleads_8 13 rfl rfl)
theorem dX6_misleads_201 : decode cX6_misleads 201 = .ok (.ireturn, 1) := dk_172 (dk_at dksX6_misleads_8 14 rfl rfl)
abbrev cX6_crowd : ByteArray := prog_15_method_86_code
def yX6_crowd : MethodName := ⟨RX6, "crowd", "()I"⟩
def dkwX6_crowd_5 : List UInt8 := [182, 1, 49, 126, 184, 1, 23, 133, 182, 1, 102, 27, 172]
abbrev dktX6_crowd_5 : List UInt8 := dkwX6_crowd_5 ++ []
def dkwX6_crowd_4 : List UInt8 := [182, 1, 19, 61, 42, 3, 181, 0, 119, 42, 28, 184, 1, 23, 133, 182, 1, 102, 42, 28, 42, 27]
abbrev dktX6_crowd_4 : List UInt8 := dkwX6_crowd_4 ++ dktX6_crowd_5
def dkwX6_crowd_3 : List UInt8 := [164, 0, 7, 28, 167, 0, 4, 27, 60, 132, 2, 1, 167, 255, 208, 42, 42, 180, 0, 34, 16, 29, 27]
abbrev dktX6_crowd_3 : List UInt8 := dkwX6_crowd_3 ++ dktX6_crowd_4
def dkwX6_crowd_2 : List UInt8 := [16, 29, 28, 182, 1, 19, 184, 1, 23, 42, 42, 180, 0, 34, 16, 29, 27, 182, 1, 19, 184, 1, 23]
abbrev dktX6_crowd_2 : List UInt8 := dkwX6_crowd_2 ++ dktX6_crowd_3
def dkwX6_crowd_1 : List UInt8 := [17, 0, 200, 182, 1, 99, 3, 60, 4, 61, 28, 42, 180, 0, 122, 162, 0, 46, 42, 42, 180, 0, 34]
abbrev dktX6_crowd_1 : List UInt8 := dkwX6_crowd_1 ++ dktX6_crowd_2
def dkwX6_crowd_0 : List UInt8 := [42, 3, 181, 0, 112, 42, 180, 0, 122, 154, 0, 6, 16, 254, 172, 42, 182, 1, 134, 42, 42, 180, 0, 34]
abbrev dktX6_crowd_0 : List UInt8 := dkwX6_crowd_0 ++ dktX6_crowd_1
theorem dksX6_crowd_0 : cX6_crowd.data.toList.drop 0 = dktX6_crowd_0 := by decide +kernel
theorem dksX6_crowd_1 : cX6_crowd.data.toList.drop 24 = dktX6_crowd_1 := dk_seg dksX6_crowd_0 24 rfl rfl
theorem dksX6_crowd_2 : cX6_crowd.data.toList.drop 47 = dktX6_crowd_2 := dk_seg dksX6_crowd_1 23 rfl rfl
theorem dksX6_crowd_3 : cX6_crowd.data.toList.drop 70 = dktX6_crowd_3 := dk_seg dksX6_crowd_2 23 rfl rfl
theorem dksX6_crowd_4 : cX6_crowd.data.toList.drop 93 = dktX6_crowd_4 := dk_seg dksX6_crowd_3 23 rfl rfl
theorem dksX6_crowd_5 : cX6_crowd.data.toList.drop 115 = dktX6_crowd_5 := dk_seg dksX6_crowd_4 22 rfl rfl
theorem dX6_crowd_0 : decode cX6_crowd 0 = .ok (.aload_n 0, 1) := dk_42 (dk_at dksX6_crowd_0 0 rfl rfl)
theorem dX6_crowd_1 : decode cX6_crowd 1 = .ok (.iconst 0, 1) := dk_3 (dk_at dksX6_crowd_0 1 rfl rfl)
theorem dX6_crowd_2 : decode cX6_crowd 2 = .ok (.putfield 112, 3) := dk_181 0 112 (dk_at dksX6_crowd_0 2 rfl rfl)
theorem dX6_crowd_5 : decode cX6_crowd 5 = .ok (.aload_n 0, 1) := dk_42 (dk_at dksX6_crowd_0 5 rfl rfl)
theorem dX6_crowd_6 : decode cX6_crowd 6 = .ok (.getfield 122, 3) := dk_180 0 122 (dk_at dksX6_crowd_0 6 rfl rfl)
theorem dX6_crowd_9 : decode cX6_crowd 9 = .ok (.ifCond .ne 6, 3) := dk_154 0 6 (dk_at dksX6_crowd_0 9 rfl rfl)
theorem dX6_crowd_12 : decode cX6_crowd 12 = .ok (.bipush (-2), 2) := dk_16 254 (dk_at dksX6_crowd_0 12 rfl rfl)
theorem dX6_crowd_14 : decode cX6_crowd 14 = .ok (.ireturn, 1) := dk_172 (dk_at dksX6_crowd_0 14 rfl rfl)
theorem dX6_crowd_15 : decode cX6_crowd 15 = .ok (.aload_n 0, 1) := dk_42 (dk_at dksX6_crowd_0 15 rfl rfl)
theorem dX6_crowd_16 : decode cX6_crowd 16 = .ok (.invokevirtual 390, 3) := dk_182 1 134 (dk_at dksX6_crowd_0 16 rfl rfl)
theorem dX6_crowd_19 : decode cX6_crowd 19 = .ok (.aload_n 0, 1) := dk_42 (dk_at dksX6_crowd_0 19 rfl rfl)
theorem dX6_crowd_20 : decode cX6_crowd 20 = .ok (.aload_n 0, 1) := dk_42 (dk_at dksX6_crowd_0 20 rfl rfl)
theorem dX6_crowd_21 : decode cX6_crowd 21 = .ok (.getfield 34, 3) := dk_180 0 34 (dk_at dksX6_crowd_0 21 rfl rfl)
theorem dX6_crowd_24 : decode cX6_crowd 24 = .ok (.sipush 200, 3) := dk_17 0 200 (dk_at dksX6_crowd_1 0 rfl rfl)
theorem dX6_crowd_27 : decode cX6_crowd 27 = .ok (.invokevirtual 355, 3) := dk_182 1 99 (dk_at dksX6_crowd_1 3 rfl rfl)
theorem dX6_crowd_30 : decode cX6_crowd 30 = .ok (.iconst 0, 1) := dk_3 (dk_at dksX6_crowd_1 6 rfl rfl)
theorem dX6_crowd_31 : decode cX6_crowd 31 = .ok (.istore_n 1, 1) := dk_60 (dk_at dksX6_crowd_1 7 rfl rfl)
theorem dX6_crowd_32 : decode cX6_crowd 32 = .ok (.iconst 1, 1) := dk_4 (dk_at dksX6_crowd_1 8 rfl rfl)
theorem dX6_crowd_33 : decode cX6_crowd 33 = .ok (.istore_n 2, 1) := dk_61 (dk_at dksX6_crowd_1 9 rfl rfl)
theorem dX6_crowd_34 : decode cX6_crowd 34 = .ok (.iload_n 2, 1) := dk_28 (dk_at dksX6_crowd_1 10 rfl rfl)
theorem dX6_crowd_35 : decode cX6_crowd 35 = .ok (.aload_n 0, 1) := dk_42 (dk_at dksX6_crowd_1 11 rfl rfl)
theorem dX6_crowd_36 : decode cX6_crowd 36 = .ok (.getfield 122, 3) := dk_180 0 122 (dk_at dksX6_crowd_1 12 rfl rfl)
theorem dX6_crowd_39 : decode cX6_crowd 39 = .ok (.if_icmp .ge 46, 3) := dk_162 0 46 (dk_at dksX6_crowd_1 15 rfl rfl)
theorem dX6_crowd_42 : decode cX6_crowd 42 = .ok (.aload_n 0, 1) := dk_42 (dk_at dksX6_crowd_1 18 rfl rfl)
theorem dX6_crowd_43 : decode cX6_crowd 43 = .ok (.aload_n 0, 1) := dk_42 (dk_at dksX6_crowd_1 19 rfl rfl)
theorem dX6_crowd_44 : decode cX6_crowd 44 = .ok (.getfield 34, 3) := dk_180 0 34 (dk_at dksX6_crowd_1 20 rfl rfl)
theorem dX6_crowd_47 : decode cX6_crowd 47 = .ok (.bipush 29, 2) := dk_16 29 (dk_at dksX6_crowd_2 0 rfl rfl)
theorem dX6_crowd_49 : decode cX6_crowd 49 = .ok (.iload_n 2, 1) := dk_28 (dk_at dksX6_crowd_2 2 rfl rfl)
theorem dX6_crowd_50 : decode cX6_crowd 50 = .ok (.invokevirtual 275, 3) := dk_182 1 19 (dk_at dksX6_crowd_2 3 rfl rfl)
theorem dX6_crowd_53 : decode cX6_crowd 53 = .ok (.invokestatic 279, 3) := dk_184 1 23 (dk_at dksX6_crowd_2 6 rfl rfl)
theorem dX6_crowd_56 : decode cX6_crowd 56 = .ok (.aload_n 0, 1) := dk_42 (dk_at dksX6_crowd_2 9 rfl rfl)
theorem dX6_crowd_57 : decode cX6_crowd 57 = .ok (.aload_n 0, 1) := dk_42 (dk_at dksX6_crowd_2 10 rfl rfl)
theorem dX6_crowd_58 : decode cX6_crowd 58 = .ok (.getfield 34, 3) := dk_180 0 34 (dk_at dksX6_crowd_2 11 rfl rfl)
theorem dX6_crowd_61 : decode cX6_crowd 61 = .ok (.bipush 29, 2) := dk_16 29 (dk_at dksX6_crowd_2 14 rfl rfl)
theorem dX6_crowd_63 : decode cX6_crowd 63 = .ok (.iload_n 1, 1) := dk_27 (dk_at dksX6_crowd_2 16 rfl rfl)
theorem dX6_crowd_64 : decode cX6_crowd 64 = .ok (.invokevirtual 275, 3) := dk_182 1 19 (dk_at dksX6_crowd_2 17 rfl rfl)
theorem dX6_crowd_67 : decode cX6_crowd 67 = .ok (.invokestatic 279, 3) := dk_184 1 23 (dk_at dksX6_crowd_2 20 rfl rfl)
theorem dX6_crowd_70 : decode cX6_crowd 70 = .ok (.if_icmp .le 7, 3) := dk_164 0 7 (dk_at dksX6_crowd_3 0 rfl rfl)
theorem dX6_crowd_73 : decode cX6_crowd 73 = .ok (.iload_n 2, 1) := dk_28 (dk_at dksX6_crowd_3 3 rfl rfl)
theorem dX6_crowd_74 : decode cX6_crowd 74 = .ok (.goto 4, 3) := dk_167 0 4 (dk_at dksX6_crowd_3 4 rfl rfl)
theorem dX6_crowd_77 : decode cX6_crowd 77 = .ok (.iload_n 1, 1) := dk_27 (dk_at dksX6_crowd_3 7 rfl rfl)
theorem dX6_crowd_78 : decode cX6_crowd 78 = .ok (.istore_n 1, 1) := dk_60 (dk_at dksX6_crowd_3 8 rfl rfl)
theorem dX6_crowd_79 : decode cX6_crowd 79 = .ok (.iinc 2 1, 3) := dk_132 2 1 (dk_at dksX6_crowd_3 9 rfl rfl)
theorem dX6_crowd_82 : decode cX6_crowd 82 = .ok (.goto (-48), 3) := dk_167 255 208 (dk_at dksX6_crowd_3 12 rfl rfl)
theorem dX6_crowd_85 : decode cX6_crowd 85 = .ok (.aload_n 0, 1) := dk_42 (dk_at dksX6_crowd_3 15 rfl rfl)
theorem dX6_crowd_86 : decode cX6_crowd 86 = .ok (.aload_n 0, 1) := dk_42 (dk_at dksX6_crowd_3 16 rfl rfl)
theorem dX6_crowd_87 : decode cX6_crowd 87 = .ok (.getfield 34, 3) := dk_180 0 34 (dk_at dksX6_crowd_3 17 rfl rfl)
theorem dX6_crowd_90 : decode cX6_crowd 90 = .ok (.bipush 29, 2) := dk_16 29 (dk_at dksX6_crowd_3 20 rfl rfl)
theorem dX6_crowd_92 : decode cX6_crowd 92 = .ok (.iload_n 1, 1) := dk_27 (dk_at dksX6_crowd_3 22 rfl rfl)
theorem dX6_crowd_93 : decode cX6_crowd 93 = .ok (.invokevirtual 275, 3) := dk_182 1 19 (dk_at dksX6_crowd_4 0 rfl rfl)
theorem dX6_crowd_96 : decode cX6_crowd 96 = .ok (.istore_n 2, 1) := dk_61 (dk_at dksX6_crowd_4 3 rfl rfl)
theorem dX6_crowd_97 : decode cX6_crowd 97 = .ok (.aload_n 0, 1) := dk_42 (dk_at dksX6_crowd_4 4 rfl rfl)
theorem dX6_crowd_98 : decode cX6_crowd 98 = .ok (.iconst 0, 1) := dk_3 (dk_at dksX6_crowd_4 5 rfl rfl)
theorem dX6_crowd_99 : decode cX6_crowd 99 = .ok (.putfield 119, 3) := dk_181 0 119 (dk_at dksX6_crowd_4 6 rfl rfl)
theorem dX6_crowd_102 : decode cX6_crowd 102 = .ok (.aload_n 0, 1) := dk_42 (dk_at dksX6_crowd_4 9 rfl rfl)
theorem dX6_crowd_103 : decode cX6_crowd 103 = .ok (.iload_n 2, 1) := dk_28 (dk_at dksX6_crowd_4 10 rfl rfl)
theorem dX6_crowd_104 : decode cX6_crowd 104 = .ok (.invokestatic 279, 3) := dk_184 1 23 (dk_at dksX6_crowd_4 11 rfl rfl)
theorem dX6_crowd_107 : decode cX6_crowd 107 = .ok (.i2l, 1) := dk_133 (dk_at dksX6_crowd_4 14 rfl rfl)
theorem dX6_crowd_108 : decode cX6_crowd 108 = .ok (.invokevirtual 358, 3) := dk_182 1 102 (dk_at dksX6_crowd_4 15 rfl rfl)
theorem dX6_crowd_111 : decode cX6_crowd 111 = .ok (.aload_n 0, 1) := dk_42 (dk_at dksX6_crowd_4 18 rfl rfl)
theorem dX6_crowd_112 : decode cX6_crowd 112 = .ok (.iload_n 2, 1) := dk_28 (dk_at dksX6_crowd_4 19 rfl rfl)
theorem dX6_crowd_113 : decode cX6_crowd 113 = .ok (.aload_n 0, 1) := dk_42 (dk_at dksX6_crowd_4 20 rfl rfl)
theorem dX6_crowd_114 : decode cX6_crowd 114 = .ok (.iload_n 1, 1) := dk_27 (dk_at dksX6_crowd_4 21 rfl rfl)
theorem dX6_crowd_115 : decode cX6_crowd 115 = .ok (.invokevirtual 305, 3) := dk_182 1 49 (dk_at dksX6_crowd_5 0 rfl rfl)
theorem dX6_crowd_118 : decode cX6_crowd 118 = .ok (.iand, 1) := dk_126 (dk_at dksX6_crowd_5 3 rfl rfl)
theorem dX6_crowd_119 : decode cX6_crowd 119 = .ok (.invokestatic 279, 3) := dk_184 1 23 (dk_at dksX6_crowd_5 4 rfl rfl)
theorem dX6_crowd_122 : decode cX6_crowd 122 = .ok (.i2l, 1) := dk_133 (dk_at dksX6_crowd_5 7 rfl rfl)
theorem dX6_crowd_123 : decode cX6_crowd 123 = .ok (.invokevirtual 358, 3) := dk_182 1 102 (dk_at dksX6_crowd_5 8 rfl rfl)
theorem dX6_crowd_126 : decode cX6_crowd 126 = .ok (.iload_n 1, 1) := dk_27 (dk_at dksX6_crowd_5 11 rfl rfl)
theorem dX6_crowd_127 : decode cX6_crowd 127 = .ok (.ireturn, 1) := dk_172 (dk_at dksX6_crowd_5 12 rfl rfl)
abbrev cX6_shares : ByteArray := prog_15_method_88_code
def yX6_shares : MethodName := ⟨RX6, "shares", "(I)I"⟩
def dkwX6_shares_2 : List UInt8 := [42, 180, 0, 91, 28, 46, 133, 182, 1, 102, 132, 2, 1, 167, 255, 234, 42, 180, 1, 148, 172]
abbrev dktX6_shares_2 : List UInt8 := dkwX6_shares_2 ++ []
def dkwX6_shares_1 : List UInt8 := [42, 3, 3, 3, 27, 182, 1, 161, 42, 3, 181, 0, 119, 3, 61, 28, 42, 180, 0, 129, 162, 0, 20, 42]
abbrev dktX6_shares_1 : List UInt8 := dkwX6_shares_1 ++ dktX6_shares_2
def dkwX6_shares_0 : List UInt8 := [42, 3, 181, 0, 112, 27, 133, 9, 20, 1, 165, 184, 0, 125, 154, 0, 5, 2, 172, 42, 2, 181, 1, 148]
abbrev dktX6_shares_0 : List UInt8 := dkwX6_shares_0 ++ dktX6_shares_1
theorem dksX6_shares_0 : cX6_shares.data.toList.drop 0 = dktX6_shares_0 := by decide +kernel
theorem dksX6_shares_1 : cX6_shares.data.toList.drop 24 = dktX6_shares_1 := dk_seg dksX6_shares_0 24 rfl rfl
theorem dksX6_shares_2 : cX6_shares.data.toList.drop 48 = dktX6_shares_2 := dk_seg dksX6_shares_1 24 rfl rfl
theorem dX6_shares_0 : decode cX6_shares 0 = .ok (.aload_n 0, 1) := dk_42 (dk_at dksX6_shares_0 0 rfl rfl)
theorem dX6_shares_1 : decode cX6_shares 1 = .ok (.iconst 0, 1) := dk_3 (dk_at dksX6_shares_0 1 rfl rfl)
theorem dX6_shares_2 : decode cX6_shares 2 = .ok (.putfield 112, 3) := dk_181 0 112 (dk_at dksX6_shares_0 2 rfl rfl)
theorem dX6_shares_5 : decode cX6_shares 5 = .ok (.iload_n 1, 1) := dk_27 (dk_at dksX6_shares_0 5 rfl rfl)
theorem dX6_shares_6 : decode cX6_shares 6 = .ok (.i2l, 1) := dk_133 (dk_at dksX6_shares_0 6 rfl rfl)
theorem dX6_shares_7 : decode cX6_shares 7 = .ok (.lconst 0, 1) := dk_9 (dk_at dksX6_shares_0 7 rfl rfl)
theorem dX6_shares_8 : decode cX6_shares 8 = .ok (.ldc2_w 421, 3) := dk_20 1 165 (dk_at dksX6_shares_0 8 rfl rfl)
theorem dX6_shares_11 : decode cX6_shares 11 = .ok (.invokestatic 125, 3) := dk_184 0 125 (dk_at dksX6_shares_0 11 rfl rfl)
theorem dX6_shares_14 : decode cX6_shares 14 = .ok (.ifCond .ne 5, 3) := dk_154 0 5 (dk_at dksX6_shares_0 14 rfl rfl)
theorem dX6_shares_17 : decode cX6_shares 17 = .ok (.iconst (-1), 1) := dk_2 (dk_at dksX6_shares_0 17 rfl rfl)
theorem dX6_shares_18 : decode cX6_shares 18 = .ok (.ireturn, 1) := dk_172 (dk_at dksX6_shares_0 18 rfl rfl)
theorem dX6_shares_19 : decode cX6_shares 19 = .ok (.aload_n 0, 1) := dk_42 (dk_at dksX6_shares_0 19 rfl rfl)
theorem dX6_shares_20 : decode cX6_shares 20 = .ok (.iconst (-1), 1) := dk_2 (dk_at dksX6_shares_0 20 rfl rfl)
theorem dX6_shares_21 : decode cX6_shares 21 = .ok (.putfield 404, 3) := dk_181 1 148 (dk_at dksX6_shares_0 21 rfl rfl)
theorem dX6_shares_24 : decode cX6_shares 24 = .ok (.aload_n 0, 1) := dk_42 (dk_at dksX6_shares_1 0 rfl rfl)
theorem dX6_shares_25 : decode cX6_shares 25 = .ok (.iconst 0, 1) := dk_3 (dk_at dksX6_shares_1 1 rfl rfl)
theorem dX6_shares_26 : decode cX6_shares 26 = .ok (.iconst 0, 1) := dk_3 (dk_at dksX6_shares_1 2 rfl rfl)
theorem dX6_shares_27 : decode cX6_shares 27 = .ok (.iconst 0, 1) := dk_3 (dk_at dksX6_shares_1 3 rfl rfl)
theorem dX6_shares_28 : decode cX6_shares 28 = .ok (.iload_n 1, 1) := dk_27 (dk_at dksX6_shares_1 4 rfl rfl)
theorem dX6_shares_29 : decode cX6_shares 29 = .ok (.invokevirtual 417, 3) := dk_182 1 161 (dk_at dksX6_shares_1 5 rfl rfl)
theorem dX6_shares_32 : decode cX6_shares 32 = .ok (.aload_n 0, 1) := dk_42 (dk_at dksX6_shares_1 8 rfl rfl)
theorem dX6_shares_33 : decode cX6_shares 33 = .ok (.iconst 0, 1) := dk_3 (dk_at dksX6_shares_1 9 rfl rfl)
theorem dX6_shares_34 : decode cX6_shares 34 = .ok (.putfield 119, 3) := dk_181 0 119 (dk_at dksX6_shares_1 10 rfl rfl)
theorem dX6_shares_37 : decode cX6_shares 37 = .ok (.iconst 0, 1) := dk_3 (dk_at dksX6_shares_1 13 rfl rfl)
theorem dX6_shares_38 : decode cX6_shares 38 = .ok (.istore_n 2, 1) := dk_61 (dk_at dksX6_shares_1 14 rfl rfl)
theorem dX6_shares_39 : decode cX6_shares 39 = .ok (.iload_n 2, 1) := dk_28 (dk_at dksX6_shares_1 15 rfl rfl)
theorem dX6_shares_40 : decode cX6_shares 40 = .ok (.aload_n 0, 1) := dk_42 (dk_at dksX6_shares_1 16 rfl rfl)
theorem dX6_shares_41 : decode cX6_shares 41 = .ok (.getfield 129, 3) := dk_180 0 129 (dk_at dksX6_shares_1 17 rfl rfl)
theorem dX6_shares_44 : decode cX6_shares 44 = .ok (.if_icmp .ge 20, 3) := dk_162 0 20 (dk_at dksX6_shares_1 20 rfl rfl)
theorem dX6_shares_47 : decode cX6_shares 47 = .ok (.aload_n 0, 1) := dk_42 (dk_at dksX6_shares_1 23 rfl rfl)
theorem dX6_shares_48 : decode cX6_shares 48 = .ok (.aload_n 0, 1) := dk_42 (dk_at dksX6_shares_2 0 rfl rfl)
theorem dX6_shares_49 : decode cX6_shares 49 = .ok (.getfield 91, 3) := dk_180 0 91 (dk_at dksX6_shares_2 1 rfl rfl)
theorem dX6_shares_52 : decode cX6_shares 52 = .ok (.iload_n 2, 1) := dk_28 (dk_at dksX6_shares_2 4 rfl rfl)
theorem dX6_shares_53 : decode cX6_shares 53 = .ok (.iaload, 1) := dk_46 (dk_at dksX6_shares_2 5 rfl rfl)
theorem dX6_shares_54 : decode cX6_shares 54 = .ok (.i2l, 1) := dk_133 (dk_at dksX6_shares_2 6 rfl rfl)
theorem dX6_shares_55 : decode cX6_shares 55 = .ok (.invokevirtual 358, 3) := dk_182 1 102 (dk_at dksX6_shares_2 7 rfl rfl)
theorem dX6_shares_58 : decode cX6_shares 58 = .ok (.iinc 2 1, 3) := dk_132 2 1 (dk_at dksX6_shares_2 10 rfl rfl)
theorem dX6_shares_61 : decode cX6_shares 61 = .ok (.goto (-22), 3) := dk_167 255 234 (dk_at dksX6_shares_2 13 rfl rfl)
theorem dX6_shares_64 : decode cX6_shares 64 = .ok (.aload_n 0, 1) := dk_42 (dk_at dksX6_shares_2 16 rfl rfl)
theorem dX6_shares_65 : decode cX6_shares 65 = .ok (.getfield 404, 3) := dk_180 1 148 (dk_at dksX6_shares_2 17 rfl rfl)
theorem dX6_shares_68 : decode cX6_shares 68 = .ok (.ireturn, 1) := dk_172 (dk_at dksX6_shares_2 20 rfl rfl)
abbrev cX6_sharesFrom : ByteArray := prog_15_method_87_code
def yX6_sharesFrom : MethodName := ⟨RX6, "sharesFrom", "(IIII)V"⟩
def dkwX6_sharesFrom_8 : List UInt8 := [167, 255, 161, 177]
abbrev dktX6_sharesFrom_8 : List UInt8 := dkwX6_sharesFrom_8 ++ []
def dkwX6_sharesFrom_7 : List UInt8 := [79, 42, 27, 4, 96, 28, 4, 21, 5, 120, 128, 29, 4, 96, 21, 4, 182, 1, 161, 132, 5, 1]
abbrev dktX6_sharesFrom_7 : List UInt8 := dkwX6_sharesFrom_7 ++ dktX6_sharesFrom_8
def dkwX6_sharesFrom_6 : List UInt8 := [180, 0, 31, 16, 13, 27, 96, 46, 100, 184, 1, 34, 21, 4, 163, 0, 29, 42, 180, 0, 88, 27, 21, 5]
abbrev dktX6_sharesFrom_6 : List UInt8 := dkwX6_sharesFrom_6 ++ dktX6_sharesFrom_7
def dkwX6_sharesFrom_5 : List UInt8 := [154, 0, 66, 42, 180, 0, 31, 21, 5, 184, 1, 10, 153, 0, 54, 42, 180, 0, 31, 21, 5, 46, 42]
abbrev dktX6_sharesFrom_5 : List UInt8 := dkwX6_sharesFrom_5 ++ dktX6_sharesFrom_6
def dkwX6_sharesFrom_4 : List UInt8 := [180, 0, 122, 162, 0, 92, 42, 180, 0, 31, 27, 184, 0, 132, 154, 0, 81, 28, 21, 5, 184, 1, 155]
abbrev dktX6_sharesFrom_4 : List UInt8 := dkwX6_sharesFrom_4 ++ dktX6_sharesFrom_5
def dkwX6_sharesFrom_3 : List UInt8 := [180, 0, 88, 27, 2, 79, 42, 27, 4, 96, 28, 29, 21, 4, 182, 1, 161, 3, 54, 5, 21, 5, 42]
abbrev dktX6_sharesFrom_3 : List UInt8 := dkwX6_sharesFrom_3 ++ dktX6_sharesFrom_4
def dkwX6_sharesFrom_2 : List UInt8 := [132, 5, 1, 167, 255, 230, 177, 29, 42, 180, 0, 129, 96, 27, 100, 42, 180, 1, 148, 163, 0, 4, 177, 42]
abbrev dktX6_sharesFrom_2 : List UInt8 := dkwX6_sharesFrom_2 ++ dktX6_sharesFrom_3
def dkwX6_sharesFrom_1 : List UInt8 := [21, 5, 42, 180, 0, 129, 162, 0, 23, 42, 180, 0, 91, 21, 5, 42, 180, 0, 88, 21, 5, 46, 79]
abbrev dktX6_sharesFrom_1 : List UInt8 := dkwX6_sharesFrom_1 ++ dktX6_sharesFrom_2
def dkwX6_sharesFrom_0 : List UInt8 := [27, 42, 180, 0, 129, 160, 0, 49, 29, 42, 180, 1, 148, 164, 0, 40, 42, 29, 181, 1, 148, 3, 54, 5]
abbrev dktX6_sharesFrom_0 : List UInt8 := dkwX6_sharesFrom_0 ++ dktX6_sharesFrom_1
theorem dksX6_sharesFrom_0 : cX6_sharesFrom.data.toList.drop 0 = dktX6_sharesFrom_0 := by decide +kernel
theorem dksX6_sharesFrom_1 : cX6_sharesFrom.data.toList.drop 24 = dktX6_sharesFrom_1 := dk_seg dksX6_sharesFrom_0 24 rfl rfl
theorem dksX6_sharesFrom_2 : cX6_sharesFrom.data.toList.drop 47 = dktX6_sharesFrom_2 := dk_seg dksX6_sharesFrom_1 23 rfl rfl
theorem dksX6_sharesFrom_3 : cX6_sharesFrom.data.toList.drop 71 = dktX6_sharesFrom_3 := dk_seg dksX6_sharesFrom_2 24 rfl rfl
theorem dksX6_sharesFrom_4 : cX6_sharesFrom.data.toList.drop 94 = dktX6_sharesFrom_4 := dk_seg dksX6_sharesFrom_3 23 rfl rfl
theorem dksX6_sharesFrom_5 : cX6_sharesFrom.data.toList.drop 117 = dktX6_sharesFrom_5 := dk_seg dksX6_sharesFrom_4 23 rfl rfl
theorem dksX6_sharesFrom_6 : cX6_sharesFrom.data.toList.drop 140 = dktX6_sharesFrom_6 := dk_seg dksX6_sharesFrom_5 23 rfl rfl
theorem dksX6_sharesFrom_7 : cX6_sharesFrom.data.toList.drop 164 = dktX6_sharesFrom_7 := dk_seg dksX6_sharesFrom_6 24 rfl rfl
theorem dksX6_sharesFrom_8 : cX6_sharesFrom.data.toList.drop 186 = dktX6_sharesFrom_8 := dk_seg dksX6_sharesFrom_7 22 rfl rfl
theorem dX6_sharesFrom_0 : decode cX6_sharesFrom 0 = .ok (.iload_n 1, 1) := dk_27 (dk_at dksX6_sharesFrom_0 0 rfl rfl)
theorem dX6_sharesFrom_1 : decode cX6_sharesFrom 1 = .ok (.aload_n 0, 1) := dk_42 (dk_at dksX6_sharesFrom_0 1 rfl rfl)
theorem dX6_sharesFrom_2 : decode cX6_sharesFrom 2 = .ok (.getfield 129, 3) := dk_180 0 129 (dk_at dksX6_sharesFrom_0 2 rfl rfl)
theorem dX6_sharesFrom_5 : decode cX6_sharesFrom 5 = .ok (.if_icmp .ne 49, 3) := dk_160 0 49 (dk_at dksX6_sharesFrom_0 5 rfl rfl)
theorem dX6_sharesFrom_8 : decode cX6_sharesFrom 8 = .ok (.iload_n 3, 1) := dk_29 (dk_at dksX6_sharesFrom_0 8 rfl rfl)
theorem dX6_sharesFrom_9 : decode cX6_sharesFrom 9 = .ok (.aload_n 0, 1) := dk_42 (dk_at dksX6_sharesFrom_0 9 rfl rfl)
theorem dX6_sharesFrom_10 : decode cX6_sharesFrom 10 = .ok (.getfield 404, 3) := dk_180 1 148 (dk_at dksX6_sharesFrom_0 10 rfl rfl)
theorem dX6_sharesFrom_13 : decode cX6_sharesFrom 13 = .ok (.if_icmp .le 40, 3) := dk_164 0 40 (dk_at dksX6_sharesFrom_0 13 rfl rfl)
theorem dX6_sharesFrom_16 : decode cX6_sharesFrom 16 = .ok (.aload_n 0, 1) := dk_42 (dk_at dksX6_sharesFrom_0 16 rfl rfl)
theorem dX6_sharesFrom_17 : decode cX6_sharesFrom 17 = .ok (.iload_n 3, 1) := dk_29 (dk_at dksX6_sharesFrom_0 17 rfl rfl)
theorem dX6_sharesFrom_18 : decode cX6_sharesFrom 18 = .ok (.putfield 404, 3) := dk_181 1 148 (dk_at dksX6_sharesFrom_0 18 rfl rfl)
theorem dX6_sharesFrom_21 : decode cX6_sharesFrom 21 = .ok (.iconst 0, 1) := dk_3 (dk_at dksX6_sharesFrom_0 21 rfl rfl)
theorem dX6_sharesFrom_22 : decode cX6_sharesFrom 22 = .ok (.istore 5, 2) := dk_54 5 (dk_at dksX6_sharesFrom_0 22 rfl rfl)
theorem dX6_sharesFrom_24 : decode cX6_sharesFrom 24 = .ok (.iload 5, 2) := dk_21 5 (dk_at dksX6_sharesFrom_1 0 rfl rfl)
theorem dX6_sharesFrom_26 : decode cX6_sharesFrom 26 = .ok (.aload_n 0, 1) := dk_42 (dk_at dksX6_sharesFrom_1 2 rfl rfl)
theorem dX6_sharesFrom_27 : decode cX6_sharesFrom 27 = .ok (.getfield 129, 3) := dk_180 0 129 (dk_at dksX6_sharesFrom_1 3 rfl rfl)
theorem dX6_sharesFrom_30 : decode cX6_sharesFrom 30 = .ok (.if_icmp .ge 23, 3) := dk_162 0 23 (dk_at dksX6_sharesFrom_1 6 rfl rfl)
theorem dX6_sharesFrom_33 : decode cX6_sharesFrom 33 = .ok (.aload_n 0, 1) := dk_42 (dk_at dksX6_sharesFrom_1 9 rfl rfl)
theorem dX6_sharesFrom_34 : decode cX6_sharesFrom 34 = .ok (.getfield 91, 3) := dk_180 0 91 (dk_at dksX6_sharesFrom_1 10 rfl rfl)
theorem dX6_sharesFrom_37 : decode cX6_sharesFrom 37 = .ok (.iload 5, 2) := dk_21 5 (dk_at dksX6_sharesFrom_1 13 rfl rfl)
theorem dX6_sharesFrom_39 : decode cX6_sharesFrom 39 = .ok (.aload_n 0, 1) := dk_42 (dk_at dksX6_sharesFrom_1 15 rfl rfl)
theorem dX6_sharesFrom_40 : decode cX6_sharesFrom 40 = .ok (.getfield 88, 3) := dk_180 0 88 (dk_at dksX6_sharesFrom_1 16 rfl rfl)
theorem dX6_sharesFrom_43 : decode cX6_sharesFrom 43 = .ok (.iload 5, 2) := dk_21 5 (dk_at dksX6_sharesFrom_1 19 rfl rfl)
theorem dX6_sharesFrom_45 : decode cX6_sharesFrom 45 = .ok (.iaload, 1) := dk_46 (dk_at dksX6_sharesFrom_1 21 rfl rfl)
theorem dX6_sharesFrom_46 : decode cX6_sharesFrom 46 = .ok (.iastore, 1) := dk_79 (dk_at dksX6_sharesFrom_1 22 rfl rfl)
theorem dX6_sharesFrom_47 : decode cX6_sharesFrom 47 = .ok (.iinc 5 1, 3) := dk_132 5 1 (dk_at dksX6_sharesFrom_2 0 rfl rfl)
theorem dX6_sharesFrom_50 : decode cX6_sharesFrom 50 = .ok (.goto (-26), 3) := dk_167 255 230 (dk_at dksX6_sharesFrom_2 3 rfl rfl)
theorem dX6_sharesFrom_53 : decode cX6_sharesFrom 53 = .ok (.return_, 1) := dk_177 (dk_at dksX6_sharesFrom_2 6 rfl rfl)
theorem dX6_sharesFrom_54 : decode cX6_sharesFrom 54 = .ok (.iload_n 3, 1) := dk_29 (dk_at dksX6_sharesFrom_2 7 rfl rfl)
theorem dX6_sharesFrom_55 : decode cX6_sharesFrom 55 = .ok (.aload_n 0, 1) := dk_42 (dk_at dksX6_sharesFrom_2 8 rfl rfl)
theorem dX6_sharesFrom_56 : decode cX6_sharesFrom 56 = .ok (.getfield 129, 3) := dk_180 0 129 (dk_at dksX6_sharesFrom_2 9 rfl rfl)
theorem dX6_sharesFrom_59 : decode cX6_sharesFrom 59 = .ok (.iadd, 1) := dk_96 (dk_at dksX6_sharesFrom_2 12 rfl rfl)
theorem dX6_sharesFrom_60 : decode cX6_sharesFrom 60 = .ok (.iload_n 1, 1) := dk_27 (dk_at dksX6_sharesFrom_2 13 rfl rfl)
theorem dX6_sharesFrom_61 : decode cX6_sharesFrom 61 = .ok (.isub, 1) := dk_100 (dk_at dksX6_sharesFrom_2 14 rfl rfl)
theorem dX6_sharesFrom_62 : decode cX6_sharesFrom 62 = .ok (.aload_n 0, 1) := dk_42 (dk_at dksX6_sharesFrom_2 15 rfl rfl)
theorem dX6_sharesFrom_63 : decode cX6_sharesFrom 63 = .ok (.getfield 404, 3) := dk_180 1 148 (dk_at dksX6_sharesFrom_2 16 rfl rfl)
theorem dX6_sharesFrom_66 : decode cX6_sharesFrom 66 = .ok (.if_icmp .gt 4, 3) := dk_163 0 4 (dk_at dksX6_sharesFrom_2 19 rfl rfl)
theorem dX6_sharesFrom_69 : decode cX6_sharesFrom 69 = .ok (.return_, 1) := dk_177 (dk_at dksX6_sharesFrom_2 22 rfl rfl)
theorem dX6_sharesFrom_70 : decode cX6_sharesFrom 70 = .ok (.aload_n 0, 1) := dk_42 (dk_at dksX6_sharesFrom_2 23 rfl rfl)
theorem dX6_sharesFrom_71 : decode cX6_sharesFrom 71 = .ok (.getfield 88, 3) := dk_180 0 88 (dk_at dksX6_sharesFrom_3 0 rfl rfl)
theorem dX6_sharesFrom_74 : decode cX6_sharesFrom 74 = .ok (.iload_n 1, 1) := dk_27 (dk_at dksX6_sharesFrom_3 3 rfl rfl)
theorem dX6_sharesFrom_75 : decode cX6_sharesFrom 75 = .ok (.iconst (-1), 1) := dk_2 (dk_at dksX6_sharesFrom_3 4 rfl rfl)
theorem dX6_sharesFrom_76 : decode cX6_sharesFrom 76 = .ok (.iastore, 1) := dk_79 (dk_at dksX6_sharesFrom_3 5 rfl rfl)
theorem dX6_sharesFrom_77 : decode cX6_sharesFrom 77 = .ok (.aload_n 0, 1) := dk_42 (dk_at dksX6_sharesFrom_3 6 rfl rfl)
theorem dX6_sharesFrom_78 : decode cX6_sharesFrom 78 = .ok (.iload_n 1, 1) := dk_27 (dk_at dksX6_sharesFrom_3 7 rfl rfl)
theorem dX6_sharesFrom_79 : decode cX6_sharesFrom 79 = .ok (.iconst 1, 1) := dk_4 (dk_at dksX6_sharesFrom_3 8 rfl rfl)
theorem dX6_sharesFrom_80 : decode cX6_sharesFrom 80 = .ok (.iadd, 1) := dk_96 (dk_at dksX6_sharesFrom_3 9 rfl rfl)
theorem dX6_sharesFrom_81 : decode cX6_sharesFrom 81 = .ok (.iload_n 2, 1) := dk_28 (dk_at dksX6_sharesFrom_3 10 rfl rfl)
theorem dX6_sharesFrom_82 : decode cX6_sharesFrom 82 = .ok (.iload_n 3, 1) := dk_29 (dk_at dksX6_sharesFrom_3 11 rfl rfl)
theorem dX6_sharesFrom_83 : decode cX6_sharesFrom 83 = .ok (.iload 4, 2) := dk_21 4 (dk_at dksX6_sharesFrom_3 12 rfl rfl)
theorem dX6_sharesFrom_85 : decode cX6_sharesFrom 85 = .ok (.invokevirtual 417, 3) := dk_182 1 161 (dk_at dksX6_sharesFrom_3 14 rfl rfl)
theorem dX6_sharesFrom_88 : decode cX6_sharesFrom 88 = .ok (.iconst 0, 1) := dk_3 (dk_at dksX6_sharesFrom_3 17 rfl rfl)
theorem dX6_sharesFrom_89 : decode cX6_sharesFrom 89 = .ok (.istore 5, 2) := dk_54 5 (dk_at dksX6_sharesFrom_3 18 rfl rfl)
theorem dX6_sharesFrom_91 : decode cX6_sharesFrom 91 = .ok (.iload 5, 2) := dk_21 5 (dk_at dksX6_sharesFrom_3 20 rfl rfl)
theorem dX6_sharesFrom_93 : decode cX6_sharesFrom 93 = .ok (.aload_n 0, 1) := dk_42 (dk_at dksX6_sharesFrom_3 22 rfl rfl)
theorem dX6_sharesFrom_94 : decode cX6_sharesFrom 94 = .ok (.getfield 122, 3) := dk_180 0 122 (dk_at dksX6_sharesFrom_4 0 rfl rfl)
theorem dX6_sharesFrom_97 : decode cX6_sharesFrom 97 = .ok (.if_icmp .ge 92, 3) := dk_162 0 92 (dk_at dksX6_sharesFrom_4 3 rfl rfl)
theorem dX6_sharesFrom_100 : decode cX6_sharesFrom 100 = .ok (.aload_n 0, 1) := dk_42 (dk_at dksX6_sharesFrom_4 6 rfl rfl)
theorem dX6_sharesFrom_101 : decode cX6_sharesFrom 101 = .ok (.getfield 31, 3) := dk_180 0 31 (dk_at dksX6_sharesFrom_4 7 rfl rfl)
theorem dX6_sharesFrom_104 : decode cX6_sharesFrom 104 = .ok (.iload_n 1, 1) := dk_27 (dk_at dksX6_sharesFrom_4 10 rfl rfl)
theorem dX6_sharesFrom_105 : decode cX6_sharesFrom 105 = .ok (.invokestatic 132, 3) := dk_184 0 132 (dk_at dksX6_sharesFrom_4 11 rfl rfl)
theorem dX6_sharesFrom_108 : decode cX6_sharesFrom 108 = .ok (.ifCond .ne 81, 3) := dk_154 0 81 (dk_at dksX6_sharesFrom_4 14 rfl rfl)
theorem dX6_sharesFrom_111 : decode cX6_sharesFrom 111 = .ok (.iload_n 2, 1) := dk_28 (dk_at dksX6_sharesFrom_4 17 rfl rfl)
theorem dX6_sharesFrom_112 : decode cX6_sharesFrom 112 = .ok (.iload 5, 2) := dk_21 5 (dk_at dksX6_sharesFrom_4 18 rfl rfl)
theorem dX6_sharesFrom_114 : decode cX6_sharesFrom 114 = .ok (.invokestatic 411, 3) := dk_184 1 155 (dk_at dksX6_sharesFrom_4 20 rfl rfl)
theorem dX6_sharesFrom_117 : decode cX6_sharesFrom 117 = .ok (.ifCond .ne 66, 3) := dk_154 0 66 (dk_at dksX6_sharesFrom_5 0 rfl rfl)
theorem dX6_sharesFrom_120 : decode cX6_sharesFrom 120 = .ok (.aload_n 0, 1) := dk_42 (dk_at dksX6_sharesFrom_5 3 rfl rfl)
theorem dX6_sharesFrom_121 : decode cX6_sharesFrom 121 = .ok (.getfield 31, 3) := dk_180 0 31 (dk_at dksX6_sharesFrom_5 4 rfl rfl)
theorem dX6_sharesFrom_124 : decode cX6_sharesFrom 124 = .ok (.iload 5, 2) := dk_21 5 (dk_at dksX6_sharesFrom_5 7 rfl rfl)
theorem dX6_sharesFrom_126 : decode cX6_sharesFrom 126 = .ok (.invokestatic 266, 3) := dk_184 1 10 (dk_at dksX6_sharesFrom_5 9 rfl rfl)
theorem dX6_sharesFrom_129 : decode cX6_sharesFrom 129 = .ok (.ifCond .eq 54, 3) := dk_153 0 54 (dk_at dksX6_sharesFrom_5 12 rfl rfl)
theorem dX6_sharesFrom_132 : decode cX6_sharesFrom 132 = .ok (.aload_n 0, 1) := dk_42 (dk_at dksX6_sharesFrom_5 15 rfl rfl)
theorem dX6_sharesFrom_133 : decode cX6_sharesFrom 133 = .ok (.getfield 31, 3) := dk_180 0 31 (dk_at dksX6_sharesFrom_5 16 rfl rfl)
theorem dX6_sharesFrom_136 : decode cX6_sharesFrom 136 = .ok (.iload 5, 2) := dk_21 5 (dk_at dksX6_sharesFrom_5 19 rfl rfl)
theorem dX6_sharesFrom_138 : decode cX6_sharesFrom 138 = .ok (.iaload, 1) := dk_46 (dk_at dksX6_sharesFrom_5 21 rfl rfl)
theorem dX6_sharesFrom_139 : decode cX6_sharesFrom 139 = .ok (.aload_n 0, 1) := dk_42 (dk_at dksX6_sharesFrom_5 22 rfl rfl)
theorem dX6_sharesFrom_140 : decode cX6_sharesFrom 140 = .ok (.getfield 31, 3) := dk_180 0 31 (dk_at dksX6_sharesFrom_6 0 rfl rfl)
theorem dX6_sharesFrom_143 : decode cX6_sharesFrom 143 = .ok (.bipush 13, 2) := dk_16 13 (dk_at dksX6_sharesFrom_6 3 rfl rfl)
theorem dX6_sharesFrom_145 : decode cX6_sharesFrom 145 = .ok (.iload_n 1, 1) := dk_27 (dk_at dksX6_sharesFrom_6 5 rfl rfl)
theorem dX6_sharesFrom_146 : decode cX6_sharesFrom 146 = .ok (.iadd, 1) := dk_96 (dk_at dksX6_sharesFrom_6 6 rfl rfl)
theorem dX6_sharesFrom_147 : decode cX6_sharesFrom 147 = .ok (.iaload, 1) := dk_46 (dk_at dksX6_sharesFrom_6 7 rfl rfl)
theorem dX6_sharesFrom_148 : decode cX6_sharesFrom 148 = .ok (.isub, 1) := dk_100 (dk_at dksX6_sharesFrom_6 8 rfl rfl)
theorem dX6_sharesFrom_149 : decode cX6_sharesFrom 149 = .ok (.invokestatic 290, 3) := dk_184 1 34 (dk_at dksX6_sharesFrom_6 9 rfl rfl)
theorem dX6_sharesFrom_152 : decode cX6_sharesFrom 152 = .ok (.iload 4, 2) := dk_21 4 (dk_at dksX6_sharesFrom_6 12 rfl rfl)
theorem dX6_sharesFrom_154 : decode cX6_sharesFrom 154 = .ok (.if_icmp .gt 29, 3) := dk_163 0 29 (dk_at dksX6_sharesFrom_6 14 rfl rfl)
theorem dX6_sharesFrom_157 : decode cX6_sharesFrom 157 = .ok (.aload_n 0, 1) := dk_42 (dk_at dksX6_sharesFrom_6 17 rfl rfl)
theorem dX6_sharesFrom_158 : decode cX6_sharesFrom 158 = .ok (.getfield 88, 3) := dk_180 0 88 (dk_at dksX6_sharesFrom_6 18 rfl rfl)
theorem dX6_sharesFrom_161 : decode cX6_sharesFrom 161 = .ok (.iload_n 1, 1) := dk_27 (dk_at dksX6_sharesFrom_6 21 rfl rfl)
theorem dX6_sharesFrom_162 : decode cX6_sharesFrom 162 = .ok (.iload 5, 2) := dk_21 5 (dk_at dksX6_sharesFrom_6 22 rfl rfl)
theorem dX6_sharesFrom_164 : decode cX6_sharesFrom 164 = .ok (.iastore, 1) := dk_79 (dk_at dksX6_sharesFrom_7 0 rfl rfl)
theorem dX6_sharesFrom_165 : decode cX6_sharesFrom 165 = .ok (.aload_n 0, 1) := dk_42 (dk_at dksX6_sharesFrom_7 1 rfl rfl)
theorem dX6_sharesFrom_166 : decode cX6_sharesFrom 166 = .ok (.iload_n 1, 1) := dk_27 (dk_at dksX6_sharesFrom_7 2 rfl rfl)
theorem dX6_sharesFrom_167 : decode cX6_sharesFrom 167 = .ok (.iconst 1, 1) := dk_4 (dk_at dksX6_sharesFrom_7 3 rfl rfl)
theorem dX6_sharesFrom_168 : decode cX6_sharesFrom 168 = .ok (.iadd, 1) := dk_96 (dk_at dksX6_sharesFrom_7 4 rfl rfl)
theorem dX6_sharesFrom_169 : decode cX6_sharesFrom 169 = .ok (.iload_n 2, 1) := dk_28 (dk_at dksX6_sharesFrom_7 5 rfl rfl)
theorem dX6_sharesFrom_170 : decode cX6_sharesFrom 170 = .ok (.iconst 1, 1) := dk_4 (dk_at dksX6_sharesFrom_7 6 rfl rfl)
theorem dX6_sharesFrom_171 : decode cX6_sharesFrom 171 = .ok (.iload 5, 2) := dk_21 5 (dk_at dksX6_sharesFrom_7 7 rfl rfl)
theorem dX6_sharesFrom_173 : decode cX6_sharesFrom 173 = .ok (.ishl, 1) := dk_120 (dk_at dksX6_sharesFrom_7 9 rfl rfl)
theorem dX6_sharesFrom_174 : decode cX6_sharesFrom 174 = .ok (.ior, 1) := dk_128 (dk_at dksX6_sharesFrom_7 10 rfl rfl)
theorem dX6_sharesFrom_175 : decode cX6_sharesFrom 175 = .ok (.iload_n 3, 1) := dk_29 (dk_at dksX6_sharesFrom_7 11 rfl rfl)
theorem dX6_sharesFrom_176 : decode cX6_sharesFrom 176 = .ok (.iconst 1, 1) := dk_4 (dk_at dksX6_sharesFrom_7 12 rfl rfl)
theorem dX6_sharesFrom_177 : decode cX6_sharesFrom 177 = .ok (.iadd, 1) := dk_96 (dk_at dksX6_sharesFrom_7 13 rfl rfl)
theorem dX6_sharesFrom_178 : decode cX6_sharesFrom 178 = .ok (.iload 4, 2) := dk_21 4 (dk_at dksX6_sharesFrom_7 14 rfl rfl)
theorem dX6_sharesFrom_180 : decode cX6_sharesFrom 180 = .ok (.invokevirtual 417, 3) := dk_182 1 161 (dk_at dksX6_sharesFrom_7 16 rfl rfl)
theorem dX6_sharesFrom_183 : decode cX6_sharesFrom 183 = .ok (.iinc 5 1, 3) := dk_132 5 1 (dk_at dksX6_sharesFrom_7 19 rfl rfl)
theorem dX6_sharesFrom_186 : decode cX6_sharesFrom 186 = .ok (.goto (-95), 3) := dk_167 255 161 (dk_at dksX6_sharesFrom_8 0 rfl rfl)
theorem dX6_sharesFrom_189 : decode cX6_sharesFrom 189 = .ok (.return_, 1) := dk_177 (dk_at dksX6_sharesFrom_8 3 rfl rfl)
abbrev cX6_strangers : ByteArray := prog_15_method_89_code
def yX6_strangers : MethodName := ⟨RX6, "strangers", "()I"⟩
def dkwX6_strangers_6 : List UInt8 := [172, 42, 3, 181, 0, 119, 42, 28, 133, 182, 1, 102, 42, 29, 133, 182, 1, 102, 27, 172]
abbrev dktX6_strangers_6 : List UInt8 := dkwX6_strangers_6 ++ []
def dkwX6_strangers_5 : List UInt8 := [21, 4, 61, 21, 5, 62, 132, 5, 1, 167, 255, 162, 132, 4, 1, 167, 255, 141, 28, 156, 0, 6, 16, 254]
abbrev dktX6_strangers_5 : List UInt8 := dkwX6_strangers_5 ++ dktX6_strangers_6
def dkwX6_strangers_4 : List UInt8 := [154, 0, 30, 42, 180, 0, 31, 21, 5, 184, 0, 132, 154, 0, 18, 21, 6, 27, 162, 0, 12, 21, 6, 60]
abbrev dktX6_strangers_4 : List UInt8 := dkwX6_strangers_4 ++ dktX6_strangers_5
def dkwX6_strangers_3 : List UInt8 := [21, 4, 46, 42, 180, 0, 24, 21, 5, 46, 159, 0, 42, 42, 180, 0, 31, 21, 4, 184, 0, 132]
abbrev dktX6_strangers_3 : List UInt8 := dkwX6_strangers_3 ++ dktX6_strangers_4
def dkwX6_strangers_2 : List UInt8 := [21, 4, 96, 46, 42, 180, 0, 31, 16, 13, 21, 5, 96, 46, 100, 184, 1, 34, 54, 6, 42, 180, 0, 24]
abbrev dktX6_strangers_2 : List UInt8 := dkwX6_strangers_2 ++ dktX6_strangers_3
def dkwX6_strangers_1 : List UInt8 := [162, 0, 112, 21, 4, 4, 96, 54, 5, 21, 5, 42, 180, 0, 129, 162, 0, 91, 42, 180, 0, 31, 16, 13]
abbrev dktX6_strangers_1 : List UInt8 := dkwX6_strangers_1 ++ dktX6_strangers_2
def dkwX6_strangers_0 : List UInt8 := [42, 3, 181, 0, 112, 19, 1, 37, 60, 2, 61, 2, 62, 3, 54, 4, 21, 4, 42, 180, 0, 129]
abbrev dktX6_strangers_0 : List UInt8 := dkwX6_strangers_0 ++ dktX6_strangers_1
theorem dksX6_strangers_0 : cX6_strangers.data.toList.drop 0 = dktX6_strangers_0 := by decide +kernel
theorem dksX6_strangers_1 : cX6_strangers.data.toList.drop 22 = dktX6_strangers_1 := dk_seg dksX6_strangers_0 22 rfl rfl
theorem dksX6_strangers_2 : cX6_strangers.data.toList.drop 46 = dktX6_strangers_2 := dk_seg dksX6_strangers_1 24 rfl rfl
theorem dksX6_strangers_3 : cX6_strangers.data.toList.drop 70 = dktX6_strangers_3 := dk_seg dksX6_strangers_2 24 rfl rfl
theorem dksX6_strangers_4 : cX6_strangers.data.toList.drop 92 = dktX6_strangers_4 := dk_seg dksX6_strangers_3 22 rfl rfl
theorem dksX6_strangers_5 : cX6_strangers.data.toList.drop 116 = dktX6_strangers_5 := dk_seg dksX6_strangers_4 24 rfl rfl
theorem dksX6_strangers_6 : cX6_strangers.data.toList.drop 140 = dktX6_strangers_6 := dk_seg dksX6_strangers_5 24 rfl rfl
theorem dX6_strangers_0 : decode cX6_strangers 0 = .ok (.aload_n 0, 1) := dk_42 (dk_at dksX6_strangers_0 0 rfl rfl)
theorem dX6_strangers_1 : decode cX6_strangers 1 = .ok (.iconst 0, 1) := dk_3 (dk_at dksX6_strangers_0 1 rfl rfl)
theorem dX6_strangers_2 : decode cX6_strangers 2 = .ok (.putfield 112, 3) := dk_181 0 112 (dk_at dksX6_strangers_0 2 rfl rfl)
theorem dX6_strangers_5 : decode cX6_strangers 5 = .ok (.ldc_w 293, 3) := dk_19 1 37 (dk_at dksX6_strangers_0 5 rfl rfl)
theorem dX6_strangers_8 : decode cX6_strangers 8 = .ok (.istore_n 1, 1) := dk_60 (dk_at dksX6_strangers_0 8 rfl rfl)
theorem dX6_strangers_9 : decode cX6_strangers 9 = .ok (.iconst (-1), 1) := dk_2 (dk_at dksX6_strangers_0 9 rfl rfl)
theorem dX6_strangers_10 : decode cX6_strangers 10 = .ok (.istore_n 2, 1) := dk_61 (dk_at dksX6_strangers_0 10 rfl rfl)
theorem dX6_strangers_11 : decode cX6_strangers 11 = .ok (.iconst (-1), 1) := dk_2 (dk_at dksX6_strangers_0 11 rfl rfl)
theorem dX6_strangers_12 : decode cX6_strangers 12 = .ok (.istore_n 3, 1) := dk_62 (dk_at dksX6_strangers_0 12 rfl rfl)
theorem dX6_strangers_13 : decode cX6_strangers 13 = .ok (.iconst 0, 1) := dk_3 (dk_at dksX6_strangers_0 13 rfl rfl)
theorem dX6_strangers_14 : decode cX6_strangers 14 = .ok (.istore 4, 2) := dk_54 4 (dk_at dksX6_strangers_0 14 rfl rfl)
theorem dX6_strangers_16 : decode cX6_strangers 16 = .ok (.iload 4, 2) := dk_21 4 (dk_at dksX6_strangers_0 16 rfl rfl)
theorem dX6_strangers_18 : decode cX6_strangers 18 = .ok (.aload_n 0, 1) := dk_42 (dk_at dksX6_strangers_0 18 rfl rfl)
theorem dX6_strangers_19 : decode cX6_strangers 19 = .ok (.getfield 129, 3) := dk_180 0 129 (dk_at dksX6_strangers_0 19 rfl rfl)
theorem dX6_strangers_22 : decode cX6_strangers 22 = .ok (.if_icmp .ge 112, 3) := dk_162 0 112 (dk_at dksX6_strangers_1 0 rfl rfl)
theorem dX6_strangers_25 : decode cX6_strangers 25 = .ok (.iload 4, 2) := dk_21 4 (dk_at dksX6_strangers_1 3 rfl rfl)
theorem dX6_strangers_27 : decode cX6_strangers 27 = .ok (.iconst 1, 1) := dk_4 (dk_at dksX6_strangers_1 5 rfl rfl)
theorem dX6_strangers_28 : decode cX6_strangers 28 = .ok (.iadd, 1) := dk_96 (dk_at dksX6_strangers_1 6 rfl rfl)
theorem dX6_strangers_29 : decode cX6_strangers 29 = .ok (.istore 5, 2) := dk_54 5 (dk_at dksX6_strangers_1 7 rfl rfl)
theorem dX6_strangers_31 : decode cX6_strangers 31 = .ok (.iload 5, 2) := dk_21 5 (dk_at dksX6_strangers_1 9 rfl rfl)
theorem dX6_strangers_33 : decode cX6_strangers 33 = .ok (.aload_n 0, 1) := dk_42 (dk_at dksX6_strangers_1 11 rfl rfl)
theorem dX6_strangers_34 : decode cX6_strangers 34 = .ok (.getfield 129, 3) := dk_180 0 129 (dk_at dksX6_strangers_1 12 rfl rfl)
theorem dX6_strangers_37 : decode cX6_strangers 37 = .ok (.if_icmp .ge 91, 3) := dk_162 0 91 (dk_at dksX6_strangers_1 15 rfl rfl)
theorem dX6_strangers_40 : decode cX6_strangers 40 = .ok (.aload_n 0, 1) := dk_42 (dk_at dksX6_strangers_1 18 rfl rfl)
theorem dX6_strangers_41 : decode cX6_strangers 41 = .ok (.getfield 31, 3) := dk_180 0 31 (dk_at dksX6_strangers_1 19 rfl rfl)
theorem dX6_strangers_44 : decode cX6_strangers 44 = .ok (.bipush 13, 2) := dk_16 13 (dk_at dksX6_strangers_1 22 rfl rfl)
theorem dX6_strangers_46 : decode cX6_strangers 46 = .ok (.iload 4, 2) := dk_21 4 (dk_at dksX6_strangers_2 0 rfl rfl)
theorem dX6_strangers_48 : decode cX6_strangers 48 = .ok (.iadd, 1) := dk_96 (dk_at dksX6_strangers_2 2 rfl rfl)
theorem dX6_strangers_49 : decode cX6_strangers 49 = .ok (.iaload, 1) := dk_46 (dk_at dksX6_strangers_2 3 rfl rfl)
theorem dX6_strangers_50 : decode cX6_strangers 50 = .ok (.aload_n 0, 1) := dk_42 (dk_at dksX6_strangers_2 4 rfl rfl)
theorem dX6_strangers_51 : decode cX6_strangers 51 = .ok (.getfield 31, 3) := dk_180 0 31 (dk_at dksX6_strangers_2 5 rfl rfl)
theorem dX6_strangers_54 : decode cX6_strangers 54 = .ok (.bipush 13, 2) := dk_16 13 (dk_at dksX6_strangers_2 8 rfl rfl)
theorem dX6_strangers_56 : decode cX6_strangers 56 = .ok (.iload 5, 2) := dk_21 5 (dk_at dksX6_strangers_2 10 rfl rfl)
theorem dX6_strangers_58 : decode cX6_strangers 58 = .ok (.iadd, 1) := dk_96 (dk_at dksX6_strangers_2 12 rfl rfl)
theorem dX6_strangers_59 : decode cX6_strangers 59 = .ok (.iaload, 1) := dk_46 (dk_at dksX6_strangers_2 13 rfl rfl)
theorem dX6_strangers_60 : decode cX6_strangers 60 = .ok (.isub, 1) := dk_100 (dk_at dksX6_strangers_2 14 rfl rfl)
theorem dX6_strangers_61 : decode cX6_strangers 61 = .ok (.invokestatic 290, 3) := dk_184 1 34 (dk_at dksX6_strangers_2 15 rfl rfl)
theorem dX6_strangers_64 : decode cX6_strangers 64 = .ok (.istore 6, 2) := dk_54 6 (dk_at dksX6_strangers_2 18 rfl rfl)
theorem dX6_strangers_66 : decode cX6_strangers 66 = .ok (.aload_n 0, 1) := dk_42 (dk_at dksX6_strangers_2 20 rfl rfl)
theorem dX6_strangers_67 : decode cX6_strangers 67 = .ok (.getfield 24, 3) := dk_180 0 24 (dk_at dksX6_strangers_2 21 rfl rfl)
theorem dX6_strangers_70 : decode cX6_strangers 70 = .ok (.iload 4, 2) := dk_21 4 (dk_at dksX6_strangers_3 0 rfl rfl)
theorem dX6_strangers_72 : decode cX6_strangers 72 = .ok (.iaload, 1) := dk_46 (dk_at dksX6_strangers_3 2 rfl rfl)
theorem dX6_strangers_73 : decode cX6_strangers 73 = .ok (.aload_n 0, 1) := dk_42 (dk_at dksX6_strangers_3 3 rfl rfl)
theorem dX6_strangers_74 : decode cX6_strangers 74 = .ok (.getfield 24, 3) := dk_180 0 24 (dk_at dksX6_strangers_3 4 rfl rfl)
theorem dX6_strangers_77 : decode cX6_strangers 77 = .ok (.iload 5, 2) := dk_21 5 (dk_at dksX6_strangers_3 7 rfl rfl)
theorem dX6_strangers_79 : decode cX6_strangers 79 = .ok (.iaload, 1) := dk_46 (dk_at dksX6_strangers_3 9 rfl rfl)
theorem dX6_strangers_80 : decode cX6_strangers 80 = .ok (.if_icmp .eq 42, 3) := dk_159 0 42 (dk_at dksX6_strangers_3 10 rfl rfl)
theorem dX6_strangers_83 : decode cX6_strangers 83 = .ok (.aload_n 0, 1) := dk_42 (dk_at dksX6_strangers_3 13 rfl rfl)
theorem dX6_strangers_84 : decode cX6_strangers 84 = .ok (.getfield 31, 3) := dk_180 0 31 (dk_at dksX6_strangers_3 14 rfl rfl)
theorem dX6_strangers_87 : decode cX6_strangers 87 = .ok (.iload 4, 2) := dk_21 4 (dk_at dksX6_strangers_3 17 rfl rfl)
theorem dX6_strangers_89 : decode cX6_strangers 89 = .ok (.invokestatic 132, 3) := dk_184 0 132 (dk_at dksX6_strangers_3 19 rfl rfl)
theorem dX6_strangers_92 : decode cX6_strangers 92 = .ok (.ifCond .ne 30, 3) := dk_154 0 30 (dk_at dksX6_strangers_4 0 rfl rfl)
theorem dX6_strangers_95 : decode cX6_strangers 95 = .ok (.aload_n 0, 1) := dk_42 (dk_at dksX6_strangers_4 3 rfl rfl)
theorem dX6_strangers_96 : decode cX6_strangers 96 = .ok (.getfield 31, 3) := dk_180 0 31 (dk_at dksX6_strangers_4 4 rfl rfl)
theorem dX6_strangers_99 : decode cX6_strangers 99 = .ok (.iload 5, 2) := dk_21 5 (dk_at dksX6_strangers_4 7 rfl rfl)
theorem dX6_strangers_101 : decode cX6_strangers 101 = .ok (.invokestatic 132, 3) := dk_184 0 132 (dk_at dksX6_strangers_4 9 rfl rfl)
theorem dX6_strangers_104 : decode cX6_strangers 104 = .ok (.ifCond .ne 18, 3) := dk_154 0 18 (dk_at dksX6_strangers_4 12 rfl rfl)
theorem dX6_strangers_107 : decode cX6_strangers 107 = .ok (.iload 6, 2) := dk_21 6 (dk_at dksX6_strangers_4 15 rfl rfl)
theorem dX6_strangers_109 : decode cX6_strangers 109 = .ok (.iload_n 1, 1) := dk_27 (dk_at dksX6_strangers_4 17 rfl rfl)
theorem dX6_strangers_110 : decode cX6_strangers 110 = .ok (.if_icmp .ge 12, 3) := dk_162 0 12 (dk_at dksX6_strangers_4 18 rfl rfl)
theorem dX6_strangers_113 : decode cX6_strangers 113 = .ok (.iload 6, 2) := dk_21 6 (dk_at dksX6_strangers_4 21 rfl rfl)
theorem dX6_strangers_115 : decode cX6_strangers 115 = .ok (.istore_n 1, 1) := dk_60 (dk_at dksX6_strangers_4 23 rfl rfl)
theorem dX6_strangers_116 : decode cX6_strangers 116 = .ok (.iload 4, 2) := dk_21 4 (dk_at dksX6_strangers_5 0 rfl rfl)
theorem dX6_strangers_118 : decode cX6_strangers 118 = .ok (.istore_n 2, 1) := dk_61 (dk_at dksX6_strangers_5 2 rfl rfl)
theorem dX6_strangers_119 : decode cX6_strangers 119 = .ok (.iload 5, 2) := dk_21 5 (dk_at dksX6_strangers_5 3 rfl rfl)
theorem dX6_strangers_121 : decode cX6_strangers 121 = .ok (.istore_n 3, 1) := dk_62 (dk_at dksX6_strangers_5 5 rfl rfl)
theorem dX6_strangers_122 : decode cX6_strangers 122 = .ok (.iinc 5 1, 3) := dk_132 5 1 (dk_at dksX6_strangers_5 6 rfl rfl)
theorem dX6_strangers_125 : decode cX6_strangers 125 = .ok (.goto (-94), 3) := dk_167 255 162 (dk_at dksX6_strangers_5 9 rfl rfl)
theorem dX6_strangers_128 : decode cX6_strangers 128 = .ok (.iinc 4 1, 3) := dk_132 4 1 (dk_at dksX6_strangers_5 12 rfl rfl)
theorem dX6_strangers_131 : decode cX6_strangers 131 = .ok (.goto (-115), 3) := dk_167 255 141 (dk_at dksX6_strangers_5 15 rfl rfl)
theorem dX6_strangers_134 : decode cX6_strangers 134 = .ok (.iload_n 2, 1) := dk_28 (dk_at dksX6_strangers_5 18 rfl rfl)
theorem dX6_strangers_135 : decode cX6_strangers 135 = .ok (.ifCond .ge 6, 3) := dk_156 0 6 (dk_at dksX6_strangers_5 19 rfl rfl)
theorem dX6_strangers_138 : decode cX6_strangers 138 = .ok (.bipush (-2), 2) := dk_16 254 (dk_at dksX6_strangers_5 22 rfl rfl)
theorem dX6_strangers_140 : decode cX6_strangers 140 = .ok (.ireturn, 1) := dk_172 (dk_at dksX6_strangers_6 0 rfl rfl)
theorem dX6_strangers_141 : decode cX6_strangers 141 = .ok (.aload_n 0, 1) := dk_42 (dk_at dksX6_strangers_6 1 rfl rfl)
theorem dX6_strangers_142 : decode cX6_strangers 142 = .ok (.iconst 0, 1) := dk_3 (dk_at dksX6_strangers_6 2 rfl rfl)
theorem dX6_strangers_143 : decode cX6_strangers 143 = .ok (.putfield 119, 3) := dk_181 0 119 (dk_at dksX6_strangers_6 3 rfl rfl)
theorem dX6_strangers_146 : decode cX6_strangers 146 = .ok (.aload_n 0, 1) := dk_42 (dk_at dksX6_strangers_6 6 rfl rfl)
theorem dX6_strangers_147 : decode cX6_strangers 147 = .ok (.iload_n 2, 1) := dk_28 (dk_at dksX6_strangers_6 7 rfl rfl)
theorem dX6_strangers_148 : decode cX6_strangers 148 = .ok (.i2l, 1) := dk_133 (dk_at dksX6_strangers_6 8 rfl rfl)
theorem dX6_strangers_149 : decode cX6_strangers 149 = .ok (.invokevirtual 358, 3) := dk_182 1 102 (dk_at dksX6_strangers_6 9 rfl rfl)
theorem dX6_strangers_152 : decode cX6_strangers 152 = .ok (.aload_n 0, 1) := dk_42 (dk_at dksX6_strangers_6 12 rfl rfl)
theorem dX6_strangers_153 : decode cX6_strangers 153 = .ok (.iload_n 3, 1) := dk_29 (dk_at dksX6_strangers_6 13 rfl rfl)
theorem dX6_strangers_154 : decode cX6_strangers 154 = .ok (.i2l, 1) := dk_133 (dk_at dksX6_strangers_6 14 rfl rfl)
theorem dX6_strangers_155 : decode cX6_strangers 155 = .ok (.invokevirtual 358, 3) := dk_182 1 102 (dk_at dksX6_strangers_6 15 rfl rfl)
theorem dX6_strangers_158 : decode cX6_strangers 158 = .ok (.iload_n 1, 1) := dk_27 (dk_at dksX6_strangers_6 18 rfl rfl)
theorem dX6_strangers_159 : decode cX6_strangers 159 = .ok (.ireturn, 1) := dk_172 (dk_at dksX6_strangers_6 19 rfl rfl)
abbrev cX6_doubts : ByteArray := prog_15_method_90_code
def yX6_doubts : MethodName := ⟨RX6, "doubts", "()I"⟩
def dkwX6_doubts_7 : List UInt8 := [181, 0, 119, 42, 27, 184, 1, 23, 133, 182, 1, 102, 27, 172]
abbrev dktX6_doubts_7 : List UInt8 := dkwX6_doubts_7 ++ []
def dkwX6_doubts_6 : List UInt8 := [184, 0, 132, 154, 0, 9, 4, 28, 120, 167, 0, 4, 3, 128, 60, 132, 2, 1, 167, 255, 108, 42, 3]
abbrev dktX6_doubts_6 : List UInt8 := dkwX6_doubts_6 ++ dktX6_doubts_7
def dkwX6_doubts_5 : List UInt8 := [184, 0, 154, 96, 54, 4, 132, 5, 1, 167, 255, 173, 27, 21, 4, 4, 164, 0, 20, 42, 180, 0, 31, 28]
abbrev dktX6_doubts_5 : List UInt8 := dkwX6_doubts_5 ++ dktX6_doubts_6
def dkwX6_doubts_4 : List UInt8 := [46, 42, 180, 0, 31, 16, 13, 28, 96, 46, 100, 184, 1, 34, 160, 0, 7, 4, 167, 0, 4, 3]
abbrev dktX6_doubts_4 : List UInt8 := dkwX6_doubts_4 ++ dktX6_doubts_5
def dkwX6_doubts_3 : List UInt8 := [180, 0, 31, 21, 5, 46, 42, 180, 0, 31, 16, 13, 28, 96, 46, 100, 184, 1, 34, 42, 180, 0, 31, 29]
abbrev dktX6_doubts_3 : List UInt8 := dkwX6_doubts_3 ++ dktX6_doubts_4
def dkwX6_doubts_2 : List UInt8 := [162, 0, 80, 29, 155, 0, 76, 21, 4, 42, 180, 0, 31, 21, 5, 184, 1, 10, 153, 0, 49, 42]
abbrev dktX6_doubts_2 : List UInt8 := dkwX6_doubts_2 ++ dktX6_doubts_3
def dkwX6_doubts_1 : List UInt8 := [180, 0, 31, 16, 13, 28, 96, 46, 182, 1, 57, 62, 3, 54, 4, 3, 54, 5, 21, 5, 42, 180, 0, 122]
abbrev dktX6_doubts_1 : List UInt8 := dkwX6_doubts_1 ++ dktX6_doubts_2
def dkwX6_doubts_0 : List UInt8 := [42, 3, 181, 0, 112, 3, 60, 3, 61, 28, 42, 180, 0, 129, 162, 0, 146, 42, 42, 180, 0, 31, 42]
abbrev dktX6_doubts_0 : List UInt8 := dkwX6_doubts_0 ++ dktX6_doubts_1
theorem dksX6_doubts_0 : cX6_doubts.data.toList.drop 0 = dktX6_doubts_0 := by decide +kernel
theorem dksX6_doubts_1 : cX6_doubts.data.toList.drop 23 = dktX6_doubts_1 := dk_seg dksX6_doubts_0 23 rfl rfl
theorem dksX6_doubts_2 : cX6_doubts.data.toList.drop 47 = dktX6_doubts_2 := dk_seg dksX6_doubts_1 24 rfl rfl
theorem dksX6_doubts_3 : cX6_doubts.data.toList.drop 69 = dktX6_doubts_3 := dk_seg dksX6_doubts_2 22 rfl rfl
theorem dksX6_doubts_4 : cX6_doubts.data.toList.drop 93 = dktX6_doubts_4 := dk_seg dksX6_doubts_3 24 rfl rfl
theorem dksX6_doubts_5 : cX6_doubts.data.toList.drop 115 = dktX6_doubts_5 := dk_seg dksX6_doubts_4 22 rfl rfl
theorem dksX6_doubts_6 : cX6_doubts.data.toList.drop 139 = dktX6_doubts_6 := dk_seg dksX6_doubts_5 24 rfl rfl
theorem dksX6_doubts_7 : cX6_doubts.data.toList.drop 162 = dktX6_doubts_7 := dk_seg dksX6_doubts_6 23 rfl rfl
theorem dX6_doubts_0 : decode cX6_doubts 0 = .ok (.aload_n 0, 1) := dk_42 (dk_at dksX6_doubts_0 0 rfl rfl)
theorem dX6_doubts_1 : decode cX6_doubts 1 = .ok (.iconst 0, 1) := dk_3 (dk_at dksX6_doubts_0 1 rfl rfl)
theorem dX6_doubts_2 : decode cX6_doubts 2 = .ok (.putfield 112, 3) := dk_181 0 112 (dk_at dksX6_doubts_0 2 rfl rfl)
theorem dX6_doubts_5 : decode cX6_doubts 5 = .ok (.iconst 0, 1) := dk_3 (dk_at dksX6_doubts_0 5 rfl rfl)
theorem dX6_doubts_6 : decode cX6_doubts 6 = .ok (.istore_n 1, 1) := dk_60 (dk_at dksX6_doubts_0 6 rfl rfl)
theorem dX6_doubts_7 : decode cX6_doubts 7 = .ok (.iconst 0, 1) := dk_3 (dk_at dksX6_doubts_0 7 rfl rfl)
theorem dX6_doubts_8 : decode cX6_doubts 8 = .ok (.istore_n 2, 1) := dk_61 (dk_at dksX6_doubts_0 8 rfl rfl)
theorem dX6_doubts_9 : decode cX6_doubts 9 = .ok (.iload_n 2, 1) := dk_28 (dk_at dksX6_doubts_0 9 rfl rfl)
theorem dX6_doubts_10 : decode cX6_doubts 10 = .ok (.aload_n 0, 1) := dk_42 (dk_at dksX6_doubts_0 10 rfl rfl)
theorem dX6_doubts_11 : decode cX6_doubts 11 = .ok (.getfield 129, 3) := dk_180 0 129 (dk_at dksX6_doubts_0 11 rfl rfl)
theorem dX6_doubts_14 : decode cX6_doubts 14 = .ok (.if_icmp .ge 146, 3) := dk_162 0 146 (dk_at dksX6_doubts_0 14 rfl rfl)
theorem dX6_doubts_17 : decode cX6_doubts 17 = .ok (.aload_n 0, 1) := dk_42 (dk_at dksX6_doubts_0 17 rfl rfl)
theorem dX6_doubts_18 : decode cX6_doubts 18 = .ok (.aload_n 0, 1) := dk_42 (dk_at dksX6_doubts_0 18 rfl rfl)
theorem dX6_doubts_19 : decode cX6_doubts 19 = .ok (.getfield 31, 3) := dk_180 0 31 (dk_at dksX6_doubts_0 19 rfl rfl)
theorem dX6_doubts_22 : decode cX6_doubts 22 = .ok (.aload_n 0, 1) := dk_42 (dk_at dksX6_doubts_0 22 rfl rfl)
theorem dX6_doubts_23 : decode cX6_doubts 23 = .ok (.getfield 31, 3) := dk_180 0 31 (dk_at dksX6_doubts_1 0 rfl rfl)
theorem dX6_doubts_26 : decode cX6_doubts 26 = .ok (.bipush 13, 2) := dk_16 13 (dk_at dksX6_doubts_1 3 rfl rfl)
theorem dX6_doubts_28 : decode cX6_doubts 28 = .ok (.iload_n 2, 1) := dk_28 (dk_at dksX6_doubts_1 5 rfl rfl)
theorem dX6_doubts_29 : decode cX6_doubts 29 = .ok (.iadd, 1) := dk_96 (dk_at dksX6_doubts_1 6 rfl rfl)
theorem dX6_doubts_30 : decode cX6_doubts 30 = .ok (.iaload, 1) := dk_46 (dk_at dksX6_doubts_1 7 rfl rfl)
theorem dX6_doubts_31 : decode cX6_doubts 31 = .ok (.invokevirtual 313, 3) := dk_182 1 57 (dk_at dksX6_doubts_1 8 rfl rfl)
theorem dX6_doubts_34 : decode cX6_doubts 34 = .ok (.istore_n 3, 1) := dk_62 (dk_at dksX6_doubts_1 11 rfl rfl)
theorem dX6_doubts_35 : decode cX6_doubts 35 = .ok (.iconst 0, 1) := dk_3 (dk_at dksX6_doubts_1 12 rfl rfl)
theorem dX6_doubts_36 : decode cX6_doubts 36 = .ok (.istore 4, 2) := dk_54 4 (dk_at dksX6_doubts_1 13 rfl rfl)
theorem dX6_doubts_38 : decode cX6_doubts 38 = .ok (.iconst 0, 1) := dk_3 (dk_at dksX6_doubts_1 15 rfl rfl)
theorem dX6_doubts_39 : decode cX6_doubts 39 = .ok (.istore 5, 2) := dk_54 5 (dk_at dksX6_doubts_1 16 rfl rfl)
theorem dX6_doubts_41 : decode cX6_doubts 41 = .ok (.iload 5, 2) := dk_21 5 (dk_at dksX6_doubts_1 18 rfl rfl)
theorem dX6_doubts_43 : decode cX6_doubts 43 = .ok (.aload_n 0, 1) := dk_42 (dk_at dksX6_doubts_1 20 rfl rfl)
theorem dX6_doubts_44 : decode cX6_doubts 44 = .ok (.getfield 122, 3) := dk_180 0 122 (dk_at dksX6_doubts_1 21 rfl rfl)
theorem dX6_doubts_47 : decode cX6_doubts 47 = .ok (.if_icmp .ge 80, 3) := dk_162 0 80 (dk_at dksX6_doubts_2 0 rfl rfl)
theorem dX6_doubts_50 : decode cX6_doubts 50 = .ok (.iload_n 3, 1) := dk_29 (dk_at dksX6_doubts_2 3 rfl rfl)
theorem dX6_doubts_51 : decode cX6_doubts 51 = .ok (.ifCond .lt 76, 3) := dk_155 0 76 (dk_at dksX6_doubts_2 4 rfl rfl)
theorem dX6_doubts_54 : decode cX6_doubts 54 = .ok (.iload 4, 2) := dk_21 4 (dk_at dksX6_doubts_2 7 rfl rfl)
theorem dX6_doubts_56 : decode cX6_doubts 56 = .ok (.aload_n 0, 1) := dk_42 (dk_at dksX6_doubts_2 9 rfl rfl)
theorem dX6_doubts_57 : decode cX6_doubts 57 = .ok (.getfield 31, 3) := dk_180 0 31 (dk_at dksX6_doubts_2 10 rfl rfl)
theorem dX6_doubts_60 : decode cX6_doubts 60 = .ok (.iload 5, 2) := dk_21 5 (dk_at dksX6_doubts_2 13 rfl rfl)
theorem dX6_doubts_62 : decode cX6_doubts 62 = .ok (.invokestatic 266, 3) := dk_184 1 10 (dk_at dksX6_doubts_2 15 rfl rfl)
theorem dX6_doubts_65 : decode cX6_doubts 65 = .ok (.ifCond .eq 49, 3) := dk_153 0 49 (dk_at dksX6_doubts_2 18 rfl rfl)
theorem dX6_doubts_68 : decode cX6_doubts 68 = .ok (.aload_n 0, 1) := dk_42 (dk_at dksX6_doubts_2 21 rfl rfl)
theorem dX6_doubts_69 : decode cX6_doubts 69 = .ok (.getfield 31, 3) := dk_180 0 31 (dk_at dksX6_doubts_3 0 rfl rfl)
theorem dX6_doubts_72 : decode cX6_doubts 72 = .ok (.iload 5, 2) := dk_21 5 (dk_at dksX6_doubts_3 3 rfl rfl)
theorem dX6_doubts_74 : decode cX6_doubts 74 = .ok (.iaload, 1) := dk_46 (dk_at dksX6_doubts_3 5 rfl rfl)
theorem dX6_doubts_75 : decode cX6_doubts 75 = .ok (.aload_n 0, 1) := dk_42 (dk_at dksX6_doubts_3 6 rfl rfl)
theorem dX6_doubts_76 : decode cX6_doubts 76 = .ok (.getfield 31, 3) := dk_180 0 31 (dk_at dksX6_doubts_3 7 rfl rfl)
theorem dX6_doubts_79 : decode cX6_doubts 79 = .ok (.bipush 13, 2) := dk_16 13 (dk_at dksX6_doubts_3 10 rfl rfl)
theorem dX6_doubts_81 : decode cX6_doubts 81 = .ok (.iload_n 2, 1) := dk_28 (dk_at dksX6_doubts_3 12 rfl rfl)
theorem dX6_doubts_82 : decode cX6_doubts 82 = .ok (.iadd, 1) := dk_96 (dk_at dksX6_doubts_3 13 rfl rfl)
theorem dX6_doubts_83 : decode cX6_doubts 83 = .ok (.iaload, 1) := dk_46 (dk_at dksX6_doubts_3 14 rfl rfl)
theorem dX6_doubts_84 : decode cX6_doubts 84 = .ok (.isub, 1) := dk_100 (dk_at dksX6_doubts_3 15 rfl rfl)
theorem dX6_doubts_85 : decode cX6_doubts 85 = .ok (.invokestatic 290, 3) := dk_184 1 34 (dk_at dksX6_doubts_3 16 rfl rfl)
theorem dX6_doubts_88 : decode cX6_doubts 88 = .ok (.aload_n 0, 1) := dk_42 (dk_at dksX6_doubts_3 19 rfl rfl)
theorem dX6_doubts_89 : decode cX6_doubts 89 = .ok (.getfield 31, 3) := dk_180 0 31 (dk_at dksX6_doubts_3 20 rfl rfl)
theorem dX6_doubts_92 : decode cX6_doubts 92 = .ok (.iload_n 3, 1) := dk_29 (dk_at dksX6_doubts_3 23 rfl rfl)
theorem dX6_doubts_93 : decode cX6_doubts 93 = .ok (.iaload, 1) := dk_46 (dk_at dksX6_doubts_4 0 rfl rfl)
theorem dX6_doubts_94 : decode cX6_doubts 94 = .ok (.aload_n 0, 1) := dk_42 (dk_at dksX6_doubts_4 1 rfl rfl)
theorem dX6_doubts_95 : decode cX6_doubts 95 = .ok (.getfield 31, 3) := dk_180 0 31 (dk_at dksX6_doubts_4 2 rfl rfl)
theorem dX6_doubts_98 : decode cX6_doubts 98 = .ok (.bipush 13, 2) := dk_16 13 (dk_at dksX6_doubts_4 5 rfl rfl)
theorem dX6_doubts_100 : decode cX6_doubts 100 = .ok (.iload_n 2, 1) := dk_28 (dk_at dksX6_doubts_4 7 rfl rfl)
theorem dX6_doubts_101 : decode cX6_doubts 101 = .ok (.iadd, 1) := dk_96 (dk_at dksX6_doubts_4 8 rfl rfl)
theorem dX6_doubts_102 : decode cX6_doubts 102 = .ok (.iaload, 1) := dk_46 (dk_at dksX6_doubts_4 9 rfl rfl)
theorem dX6_doubts_103 : decode cX6_doubts 103 = .ok (.isub, 1) := dk_100 (dk_at dksX6_doubts_4 10 rfl rfl)
theorem dX6_doubts_104 : decode cX6_doubts 104 = .ok (.invokestatic 290, 3) := dk_184 1 34 (dk_at dksX6_doubts_4 11 rfl rfl)
theorem dX6_doubts_107 : decode cX6_doubts 107 = .ok (.if_icmp .ne 7, 3) := dk_160 0 7 (dk_at dksX6_doubts_4 14 rfl rfl)
theorem dX6_doubts_110 : decode cX6_doubts 110 = .ok (.iconst 1, 1) := dk_4 (dk_at dksX6_doubts_4 17 rfl rfl)
theorem dX6_doubts_111 : decode cX6_doubts 111 = .ok (.goto 4, 3) := dk_167 0 4 (dk_at dksX6_doubts_4 18 rfl rfl)
theorem dX6_doubts_114 : decode cX6_doubts 114 = .ok (.iconst 0, 1) := dk_3 (dk_at dksX6_doubts_4 21 rfl rfl)
theorem dX6_doubts_115 : decode cX6_doubts 115 = .ok (.invokestatic 154, 3) := dk_184 0 154 (dk_at dksX6_doubts_5 0 rfl rfl)
theorem dX6_doubts_118 : decode cX6_doubts 118 = .ok (.iadd, 1) := dk_96 (dk_at dksX6_doubts_5 3 rfl rfl)
theorem dX6_doubts_119 : decode cX6_doubts 119 = .ok (.istore 4, 2) := dk_54 4 (dk_at dksX6_doubts_5 4 rfl rfl)
theorem dX6_doubts_121 : decode cX6_doubts 121 = .ok (.iinc 5 1, 3) := dk_132 5 1 (dk_at dksX6_doubts_5 6 rfl rfl)
theorem dX6_doubts_124 : decode cX6_doubts 124 = .ok (.goto (-83), 3) := dk_167 255 173 (dk_at dksX6_doubts_5 9 rfl rfl)
theorem dX6_doubts_127 : decode cX6_doubts 127 = .ok (.iload_n 1, 1) := dk_27 (dk_at dksX6_doubts_5 12 rfl rfl)
theorem dX6_doubts_128 : decode cX6_doubts 128 = .ok (.iload 4, 2) := dk_21 4 (dk_at dksX6_doubts_5 13 rfl rfl)
theorem dX6_doubts_130 : decode cX6_doubts 130 = .ok (.iconst 1, 1) := dk_4 (dk_at dksX6_doubts_5 15 rfl rfl)
theorem dX6_doubts_131 : decode cX6_doubts 131 = .ok (.if_icmp .le 20, 3) := dk_164 0 20 (dk_at dksX6_doubts_5 16 rfl rfl)
theorem dX6_doubts_134 : decode cX6_doubts 134 = .ok (.aload_n 0, 1) := dk_42 (dk_at dksX6_doubts_5 19 rfl rfl)
theorem dX6_doubts_135 : decode cX6_doubts 135 = .ok (.getfield 31, 3) := dk_180 0 31 (dk_at dksX6_doubts_5 20 rfl rfl)
theorem dX6_doubts_138 : decode cX6_doubts 138 = .ok (.iload_n 2, 1) := dk_28 (dk_at dksX6_doubts_5 23 rfl rfl)
theorem dX6_doubts_139 : decode cX6_doubts 139 = .ok (.invokestatic 132, 3) := dk_184 0 132 (dk_at dksX6_doubts_6 0 rfl rfl)
theorem dX6_doubts_142 : decode cX6_doubts 142 = .ok (.ifCond .ne 9, 3) := dk_154 0 9 (dk_at dksX6_doubts_6 3 rfl rfl)
theorem dX6_doubts_145 : decode cX6_doubts 145 = .ok (.iconst 1, 1) := dk_4 (dk_at dksX6_doubts_6 6 rfl rfl)
theorem dX6_doubts_146 : decode cX6_doubts 146 = .ok (.iload_n 2, 1) := dk_28 (dk_at dksX6_doubts_6 7 rfl rfl)
theorem dX6_doubts_147 : decode cX6_doubts 147 = .ok (.ishl, 1) := dk_120 (dk_at dksX6_doubts_6 8 rfl rfl)
theorem dX6_doubts_148 : decode cX6_doubts 148 = .ok (.goto 4, 3) := dk_167 0 4 (dk_at dksX6_doubts_6 9 rfl rfl)
theorem dX6_doubts_151 : decode cX6_doubts 151 = .ok (.iconst 0, 1) := dk_3 (dk_at dksX6_doubts_6 12 rfl rfl)
theorem dX6_doubts_152 : decode cX6_doubts 152 = .ok (.ior, 1) := dk_128 (dk_at dksX6_doubts_6 13 rfl rfl)
theorem dX6_doubts_153 : decode cX6_doubts 153 = .ok (.istore_n 1, 1) := dk_60 (dk_at dksX6_doubts_6 14 rfl rfl)
theorem dX6_doubts_154 : decode cX6_doubts 154 = .ok (.iinc 2 1, 3) := dk_132 2 1 (dk_at dksX6_doubts_6 15 rfl rfl)
theorem dX6_doubts_157 : decode cX6_doubts 157 = .ok (.goto (-148), 3) := dk_167 255 108 (dk_at dksX6_doubts_6 18 rfl rfl)
theorem dX6_doubts_160 : decode cX6_doubts 160 = .ok (.aload_n 0, 1) := dk_42 (dk_at dksX6_doubts_6 21 rfl rfl)
theorem dX6_doubts_161 : decode cX6_doubts 161 = .ok (.iconst 0, 1) := dk_3 (dk_at dksX6_doubts_6 22 rfl rfl)
theorem dX6_doubts_162 : decode cX6_doubts 162 = .ok (.putfield 119, 3) := dk_181 0 119 (dk_at dksX6_doubts_7 0 rfl rfl)
theorem dX6_doubts_165 : decode cX6_doubts 165 = .ok (.aload_n 0, 1) := dk_42 (dk_at dksX6_doubts_7 3 rfl rfl)
theorem dX6_doubts_166 : decode cX6_doubts 166 = .ok (.iload_n 1, 1) := dk_27 (dk_at dksX6_doubts_7 4 rfl rfl)
theorem dX6_doubts_167 : decode cX6_doubts 167 = .ok (.invokestatic 279, 3) := dk_184 1 23 (dk_at dksX6_doubts_7 5 rfl rfl)
theorem dX6_doubts_170 : decode cX6_doubts 170 = .ok (.i2l, 1) := dk_133 (dk_at dksX6_doubts_7 8 rfl rfl)
theorem dX6_doubts_171 : decode cX6_doubts 171 = .ok (.invokevirtual 358, 3) := dk_182 1 102 (dk_at dksX6_doubts_7 9 rfl rfl)
theorem dX6_doubts_174 : decode cX6_doubts 174 = .ok (.iload_n 1, 1) := dk_27 (dk_at dksX6_doubts_7 12 rfl rfl)
theorem dX6_doubts_175 : decode cX6_doubts 175 = .ok (.ireturn, 1) := dk_172 (dk_at dksX6_doubts_7 13 rfl rfl)
abbrev cX6_heard : ByteArray := prog_15_method_91_code
def yX6_heard : MethodName := ⟨RX6, "heard", "(II)I"⟩
def dkwX6_heard_4 : List UInt8 := [79, 42, 89, 180, 1, 167, 4, 96, 181, 1, 167, 42, 180, 1, 167, 172]
abbrev dktX6_heard_4 : List UInt8 := dkwX6_heard_4 ++ []
def dkwX6_heard_3 : List UInt8 := [160, 0, 5, 2, 172, 42, 180, 0, 94, 42, 180, 1, 167, 27, 79, 42, 180, 0, 97, 42, 180, 1, 167, 28]
abbrev dktX6_heard_3 : List UInt8 := dkwX6_heard_3 ++ dktX6_heard_4
def dkwX6_heard_2 : List UInt8 := [167, 0, 4, 3, 184, 0, 154, 133, 29, 133, 184, 0, 125, 153, 0, 12, 42, 180, 1, 167, 16, 8]
abbrev dktX6_heard_2 : List UInt8 := dkwX6_heard_2 ++ dktX6_heard_3
def dkwX6_heard_1 : List UInt8 := [16, 8, 62, 27, 133, 9, 20, 1, 60, 184, 0, 125, 153, 0, 36, 28, 133, 27, 4, 160, 0, 7, 4]
abbrev dktX6_heard_1 : List UInt8 := dkwX6_heard_1 ++ dktX6_heard_2
def dkwX6_heard_0 : List UInt8 := [42, 3, 181, 0, 112, 27, 4, 160, 0, 8, 16, 6, 167, 0, 14, 27, 6, 160, 0, 7, 4, 167, 0, 5]
abbrev dktX6_heard_0 : List UInt8 := dkwX6_heard_0 ++ dktX6_heard_1
theorem dksX6_heard_0 : cX6_heard.data.toList.drop 0 = dktX6_heard_0 := by decide +kernel
theorem dksX6_heard_1 : cX6_heard.data.toList.drop 24 = dktX6_heard_1 := dk_seg dksX6_heard_0 24 rfl rfl
theorem dksX6_heard_2 : cX6_heard.data.toList.drop 47 = dktX6_heard_2 := dk_seg dksX6_heard_1 23 rfl rfl
theorem dksX6_heard_3 : cX6_heard.data.toList.drop 69 = dktX6_heard_3 := dk_seg dksX6_heard_2 22 rfl rfl
theorem dksX6_heard_4 : cX6_heard.data.toList.drop 93 = dktX6_heard_4 := dk_seg dksX6_heard_3 24 rfl rfl
theorem dX6_heard_0 : decode cX6_heard 0 = .ok (.aload_n 0, 1) := dk_42 (dk_at dksX6_heard_0 0 rfl rfl)
theorem dX6_heard_1 : decode cX6_heard 1 = .ok (.iconst 0, 1) := dk_3 (dk_at dksX6_heard_0 1 rfl rfl)
theorem dX6_heard_2 : decode cX6_heard 2 = .ok (.putfield 112, 3) := dk_181 0 112 (dk_at dksX6_heard_0 2 rfl rfl)
theorem dX6_heard_5 : decode cX6_heard 5 = .ok (.iload_n 1, 1) := dk_27 (dk_at dksX6_heard_0 5 rfl rfl)
theorem dX6_heard_6 : decode cX6_heard 6 = .ok (.iconst 1, 1) := dk_4 (dk_at dksX6_heard_0 6 rfl rfl)
theorem dX6_heard_7 : decode cX6_heard 7 = .ok (.if_icmp .ne 8, 3) := dk_160 0 8 (dk_at dksX6_heard_0 7 rfl rfl)
theorem dX6_heard_10 : decode cX6_heard 10 = .ok (.bipush 6, 2) := dk_16 6 (dk_at dksX6_heard_0 10 rfl rfl)
theorem dX6_heard_12 : decode cX6_heard 12 = .ok (.goto 14, 3) := dk_167 0 14 (dk_at dksX6_heard_0 12 rfl rfl)
theorem dX6_heard_15 : decode cX6_heard 15 = .ok (.iload_n 1, 1) := dk_27 (dk_at dksX6_heard_0 15 rfl rfl)
theorem dX6_heard_16 : decode cX6_heard 16 = .ok (.iconst 3, 1) := dk_6 (dk_at dksX6_heard_0 16 rfl rfl)
theorem dX6_heard_17 : decode cX6_heard 17 = .ok (.if_icmp .ne 7, 3) := dk_160 0 7 (dk_at dksX6_heard_0 17 rfl rfl)
theorem dX6_heard_20 : decode cX6_heard 20 = .ok (.iconst 1, 1) := dk_4 (dk_at dksX6_heard_0 20 rfl rfl)
theorem dX6_heard_21 : decode cX6_heard 21 = .ok (.goto 5, 3) := dk_167 0 5 (dk_at dksX6_heard_0 21 rfl rfl)
theorem dX6_heard_24 : decode cX6_heard 24 = .ok (.bipush 8, 2) := dk_16 8 (dk_at dksX6_heard_1 0 rfl rfl)
theorem dX6_heard_26 : decode cX6_heard 26 = .ok (.istore_n 3, 1) := dk_62 (dk_at dksX6_heard_1 2 rfl rfl)
theorem dX6_heard_27 : decode cX6_heard 27 = .ok (.iload_n 1, 1) := dk_27 (dk_at dksX6_heard_1 3 rfl rfl)
theorem dX6_heard_28 : decode cX6_heard 28 = .ok (.i2l, 1) := dk_133 (dk_at dksX6_heard_1 4 rfl rfl)
theorem dX6_heard_29 : decode cX6_heard 29 = .ok (.lconst 0, 1) := dk_9 (dk_at dksX6_heard_1 5 rfl rfl)
theorem dX6_heard_30 : decode cX6_heard 30 = .ok (.ldc2_w 316, 3) := dk_20 1 60 (dk_at dksX6_heard_1 6 rfl rfl)
theorem dX6_heard_33 : decode cX6_heard 33 = .ok (.invokestatic 125, 3) := dk_184 0 125 (dk_at dksX6_heard_1 9 rfl rfl)
theorem dX6_heard_36 : decode cX6_heard 36 = .ok (.ifCond .eq 36, 3) := dk_153 0 36 (dk_at dksX6_heard_1 12 rfl rfl)
theorem dX6_heard_39 : decode cX6_heard 39 = .ok (.iload_n 2, 1) := dk_28 (dk_at dksX6_heard_1 15 rfl rfl)
theorem dX6_heard_40 : decode cX6_heard 40 = .ok (.i2l, 1) := dk_133 (dk_at dksX6_heard_1 16 rfl rfl)
theorem dX6_heard_41 : decode cX6_heard 41 = .ok (.iload_n 1, 1) := dk_27 (dk_at dksX6_heard_1 17 rfl rfl)
theorem dX6_heard_42 : decode cX6_heard 42 = .ok (.iconst 1, 1) := dk_4 (dk_at dksX6_heard_1 18 rfl rfl)
theorem dX6_heard_43 : decode cX6_heard 43 = .ok (.if_icmp .ne 7, 3) := dk_160 0 7 (dk_at dksX6_heard_1 19 rfl rfl)
theorem dX6_heard_46 : decode cX6_heard 46 = .ok (.iconst 1, 1) := dk_4 (dk_at dksX6_heard_1 22 rfl rfl)
theorem dX6_heard_47 : decode cX6_heard 47 = .ok (.goto 4, 3) := dk_167 0 4 (dk_at dksX6_heard_2 0 rfl rfl)
theorem dX6_heard_50 : decode cX6_heard 50 = .ok (.iconst 0, 1) := dk_3 (dk_at dksX6_heard_2 3 rfl rfl)
theorem dX6_heard_51 : decode cX6_heard 51 = .ok (.invokestatic 154, 3) := dk_184 0 154 (dk_at dksX6_heard_2 4 rfl rfl)
theorem dX6_heard_54 : decode cX6_heard 54 = .ok (.i2l, 1) := dk_133 (dk_at dksX6_heard_2 7 rfl rfl)
theorem dX6_heard_55 : decode cX6_heard 55 = .ok (.iload_n 3, 1) := dk_29 (dk_at dksX6_heard_2 8 rfl rfl)
theorem dX6_heard_56 : decode cX6_heard 56 = .ok (.i2l, 1) := dk_133 (dk_at dksX6_heard_2 9 rfl rfl)
theorem dX6_heard_57 : decode cX6_heard 57 = .ok (.invokestatic 125, 3) := dk_184 0 125 (dk_at dksX6_heard_2 10 rfl rfl)
theorem dX6_heard_60 : decode cX6_heard 60 = .ok (.ifCond .eq 12, 3) := dk_153 0 12 (dk_at dksX6_heard_2 13 rfl rfl)
theorem dX6_heard_63 : decode cX6_heard 63 = .ok (.aload_n 0, 1) := dk_42 (dk_at dksX6_heard_2 16 rfl rfl)
theorem dX6_heard_64 : decode cX6_heard 64 = .ok (.getfield 423, 3) := dk_180 1 167 (dk_at dksX6_heard_2 17 rfl rfl)
theorem dX6_heard_67 : decode cX6_heard 67 = .ok (.bipush 8, 2) := dk_16 8 (dk_at dksX6_heard_2 20 rfl rfl)
theorem dX6_heard_69 : decode cX6_heard 69 = .ok (.if_icmp .ne 5, 3) := dk_160 0 5 (dk_at dksX6_heard_3 0 rfl rfl)
theorem dX6_heard_72 : decode cX6_heard 72 = .ok (.iconst (-1), 1) := dk_2 (dk_at dksX6_heard_3 3 rfl rfl)
theorem dX6_heard_73 : decode cX6_heard 73 = .ok (.ireturn, 1) := dk_172 (dk_at dksX6_heard_3 4 rfl rfl)
theorem dX6_heard_74 : decode cX6_heard 74 = .ok (.aload_n 0, 1) := dk_42 (dk_at dksX6_heard_3 5 rfl rfl)
theorem dX6_heard_75 : decode cX6_heard 75 = .ok (.getfield 94, 3) := dk_180 0 94 (dk_at dksX6_heard_3 6 rfl rfl)
theorem dX6_heard_78 : decode cX6_heard 78 = .ok (.aload_n 0, 1) := dk_42 (dk_at dksX6_heard_3 9 rfl rfl)
theorem dX6_heard_79 : decode cX6_heard 79 = .ok (.getfield 423, 3) := dk_180 1 167 (dk_at dksX6_heard_3 10 rfl rfl)
theorem dX6_heard_82 : decode cX6_heard 82 = .ok (.iload_n 1, 1) := dk_27 (dk_at dksX6_heard_3 13 rfl rfl)
theorem dX6_heard_83 : decode cX6_heard 83 = .ok (.iastore, 1) := dk_79 (dk_at dksX6_heard_3 14 rfl rfl)
theorem dX6_heard_84 : decode cX6_heard 84 = .ok (.aload_n 0, 1) := dk_42 (dk_at dksX6_heard_3 15 rfl rfl)
theorem dX6_heard_85 : decode cX6_heard 85 = .ok (.getfield 97, 3) := dk_180 0 97 (dk_at dksX6_heard_3 16 rfl rfl)
theorem dX6_heard_88 : decode cX6_heard 88 = .ok (.aload_n 0, 1) := dk_42 (dk_at dksX6_heard_3 19 rfl rfl)
theorem dX6_heard_89 : decode cX6_heard 89 = .ok (.getfield 423, 3) := dk_180 1 167 (dk_at dksX6_heard_3 20 rfl rfl)
theorem dX6_heard_92 : decode cX6_heard 92 = .ok (.iload_n 2, 1) := dk_28 (dk_at dksX6_heard_3 23 rfl rfl)
theorem dX6_heard_93 : decode cX6_heard 93 = .ok (.iastore, 1) := dk_79 (dk_at dksX6_heard_4 0 rfl rfl)
theorem dX6_heard_94 : decode cX6_heard 94 = .ok (.aload_n 0, 1) := dk_42 (dk_at dksX6_heard_4 1 rfl rfl)
theorem dX6_heard_95 : decode cX6_heard 95 = .ok (.dup, 1) := dk_89 (dk_at dksX6_heard_4 2 rfl rfl)
theorem dX6_heard_96 : decode cX6_heard 96 = .ok (.getfield 423, 3) := dk_180 1 167 (dk_at dksX6_heard_4 3 rfl rfl)
theorem dX6_heard_99 : decode cX6_heard 99 = .ok (.iconst 1, 1) := dk_4 (dk_at dksX6_heard_4 6 rfl rfl)
theorem dX6_heard_100 : decode cX6_heard 100 = .ok (.iadd, 1) := dk_96 (dk_at dksX6_heard_4 7 rfl rfl)
theorem dX6_heard_101 : decode cX6_heard 101 = .ok (.putfield 423, 3) := dk_181 1 167 (dk_at dksX6_heard_4 8 rfl rfl)
theorem dX6_heard_104 : decode cX6_heard 104 = .ok (.aload_n 0, 1) := dk_42 (dk_at dksX6_heard_4 11 rfl rfl)
theorem dX6_heard_105 : decode cX6_heard 105 = .ok (.getfield 423, 3) := dk_180 1 167 (dk_at dksX6_heard_4 12 rfl rfl)
theorem dX6_heard_108 : decode cX6_heard 108 = .ok (.ireturn, 1) := dk_172 (dk_at dksX6_heard_4 15 rfl rfl)
abbrev cX6_forget : ByteArray := prog_15_method_92_code
def yX6_forget : MethodName := ⟨RX6, "forget", "()I"⟩
def dkwX6_forget_0 : List UInt8 := [42, 3, 181, 0, 112, 42, 180, 1, 167, 60, 42, 3, 181, 1, 167, 27, 172]
abbrev dktX6_forget_0 : List UInt8 := dkwX6_forget_0 ++ []
theorem dksX6_forget_0 : cX6_forget.data.toList.drop 0 = dktX6_forget_0 := by decide +kernel
theorem dX6_forget_0 : decode cX6_forget 0 = .ok (.aload_n 0, 1) := dk_42 (dk_at dksX6_forget_0 0 rfl rfl)
theorem dX6_forget_1 : decode cX6_forget 1 = .ok (.iconst 0, 1) := dk_3 (dk_at dksX6_forget_0 1 rfl rfl)
theorem dX6_forget_2 : decode cX6_forget 2 = .ok (.putfield 112, 3) := dk_181 0 112 (dk_at dksX6_forget_0 2 rfl rfl)
theorem dX6_forget_5 : decode cX6_forget 5 = .ok (.aload_n 0, 1) := dk_42 (dk_at dksX6_forget_0 5 rfl rfl)
theorem dX6_forget_6 : decode cX6_forget 6 = .ok (.getfield 423, 3) := dk_180 1 167 (dk_at dksX6_forget_0 6 rfl rfl)
theorem dX6_forget_9 : decode cX6_forget 9 = .ok (.istore_n 1, 1) := dk_60 (dk_at dksX6_forget_0 9 rfl rfl)
theorem dX6_forget_10 : decode cX6_forget 10 = .ok (.aload_n 0, 1) := dk_42 (dk_at dksX6_forget_0 10 rfl rfl)
theorem dX6_forget_11 : decode cX6_forget 11 = .ok (.iconst 0, 1) := dk_3 (dk_at dksX6_forget_0 11 rfl rfl)
theorem dX6_forget_12 : decode cX6_forget 12 = .ok (.putfield 423, 3) := dk_181 1 167 (dk_at dksX6_forget_0 12 rfl rfl)
theorem dX6_forget_15 : decode cX6_forget 15 = .ok (.iload_n 1, 1) := dk_27 (dk_at dksX6_forget_0 15 rfl rfl)
theorem dX6_forget_16 : decode cX6_forget 16 = .ok (.ireturn, 1) := dk_172 (dk_at dksX6_forget_0 16 rfl rfl)
abbrev cX6_fits : ByteArray := prog_15_method_94_code
def yX6_fits : MethodName := ⟨RX6, "fits", "()I"⟩
def dkwX6_fits_5 : List UInt8 := [182, 1, 102, 27, 172]
abbrev dktX6_fits_5 : List UInt8 := dkwX6_fits_5 ++ []
def dkwX6_fits_4 : List UInt8 := [167, 0, 4, 3, 128, 60, 132, 2, 1, 167, 255, 179, 42, 3, 181, 0, 119, 42, 27, 184, 1, 23, 133]
abbrev dktX6_fits_4 : List UInt8 := dkwX6_fits_4 ++ dktX6_fits_5
def dkwX6_fits_3 : List UInt8 := [153, 0, 7, 4, 167, 0, 4, 3, 62, 132, 4, 1, 167, 255, 212, 27, 29, 153, 0, 9, 4, 28, 120]
abbrev dktX6_fits_3 : List UInt8 := dkwX6_fits_3 ++ dktX6_fits_4
def dkwX6_fits_2 : List UInt8 := [153, 0, 29, 42, 28, 42, 180, 0, 94, 21, 4, 46, 42, 180, 0, 97, 21, 4, 46, 182, 1, 170]
abbrev dktX6_fits_2 : List UInt8 := dkwX6_fits_2 ++ dktX6_fits_3
def dkwX6_fits_1 : List UInt8 := [28, 42, 180, 0, 122, 162, 0, 75, 4, 62, 3, 54, 4, 21, 4, 42, 180, 1, 167, 162, 0, 41, 29]
abbrev dktX6_fits_1 : List UInt8 := dkwX6_fits_1 ++ dktX6_fits_2
def dkwX6_fits_0 : List UInt8 := [42, 3, 181, 0, 112, 42, 182, 1, 134, 42, 42, 180, 0, 34, 17, 0, 200, 182, 1, 99, 3, 60, 3, 61]
abbrev dktX6_fits_0 : List UInt8 := dkwX6_fits_0 ++ dktX6_fits_1
theorem dksX6_fits_0 : cX6_fits.data.toList.drop 0 = dktX6_fits_0 := by decide +kernel
theorem dksX6_fits_1 : cX6_fits.data.toList.drop 24 = dktX6_fits_1 := dk_seg dksX6_fits_0 24 rfl rfl
theorem dksX6_fits_2 : cX6_fits.data.toList.drop 47 = dktX6_fits_2 := dk_seg dksX6_fits_1 23 rfl rfl
theorem dksX6_fits_3 : cX6_fits.data.toList.drop 69 = dktX6_fits_3 := dk_seg dksX6_fits_2 22 rfl rfl
theorem dksX6_fits_4 : cX6_fits.data.toList.drop 92 = dktX6_fits_4 := dk_seg dksX6_fits_3 23 rfl rfl
theorem dksX6_fits_5 : cX6_fits.data.toList.drop 115 = dktX6_fits_5 := dk_seg dksX6_fits_4 23 rfl rfl
theorem dX6_fits_0 : decode cX6_fits 0 = .ok (.aload_n 0, 1) := dk_42 (dk_at dksX6_fits_0 0 rfl rfl)
theorem dX6_fits_1 : decode cX6_fits 1 = .ok (.iconst 0, 1) := dk_3 (dk_at dksX6_fits_0 1 rfl rfl)
theorem dX6_fits_2 : decode cX6_fits 2 = .ok (.putfield 112, 3) := dk_181 0 112 (dk_at dksX6_fits_0 2 rfl rfl)
theorem dX6_fits_5 : decode cX6_fits 5 = .ok (.aload_n 0, 1) := dk_42 (dk_at dksX6_fits_0 5 rfl rfl)
theorem dX6_fits_6 : decode cX6_fits 6 = .ok (.invokevirtual 390, 3) := dk_182 1 134 (dk_at dksX6_fits_0 6 rfl rfl)
theorem dX6_fits_9 : decode cX6_fits 9 = .ok (.aload_n 0, 1) := dk_42 (dk_at dksX6_fits_0 9 rfl rfl)
theorem dX6_fits_10 : decode cX6_fits 10 = .ok (.aload_n 0, 1) := dk_42 (dk_at dksX6_fits_0 10 rfl rfl)
theorem dX6_fits_11 : decode cX6_fits 11 = .ok (.getfield 34, 3) := dk_180 0 34 (dk_at dksX6_fits_0 11 rfl rfl)
theorem dX6_fits_14 : decode cX6_fits 14 = .ok (.sipush 200, 3) := dk_17 0 200 (dk_at dksX6_fits_0 14 rfl rfl)
theorem dX6_fits_17 : decode cX6_fits 17 = .ok (.invokevirtual 355, 3) := dk_182 1 99 (dk_at dksX6_fits_0 17 rfl rfl)
theorem dX6_fits_20 : decode cX6_fits 20 = .ok (.iconst 0, 1) := dk_3 (dk_at dksX6_fits_0 20 rfl rfl)
theorem dX6_fits_21 : decode cX6_fits 21 = .ok (.istore_n 1, 1) := dk_60 (dk_at dksX6_fits_0 21 rfl rfl)
theorem dX6_fits_22 : decode cX6_fits 22 = .ok (.iconst 0, 1) := dk_3 (dk_at dksX6_fits_0 22 rfl rfl)
theorem dX6_fits_23 : decode cX6_fits 23 = .ok (.istore_n 2, 1) := dk_61 (dk_at dksX6_fits_0 23 rfl rfl)
theorem dX6_fits_24 : decode cX6_fits 24 = .ok (.iload_n 2, 1) := dk_28 (dk_at dksX6_fits_1 0 rfl rfl)
theorem dX6_fits_25 : decode cX6_fits 25 = .ok (.aload_n 0, 1) := dk_42 (dk_at dksX6_fits_1 1 rfl rfl)
theorem dX6_fits_26 : decode cX6_fits 26 = .ok (.getfield 122, 3) := dk_180 0 122 (dk_at dksX6_fits_1 2 rfl rfl)
theorem dX6_fits_29 : decode cX6_fits 29 = .ok (.if_icmp .ge 75, 3) := dk_162 0 75 (dk_at dksX6_fits_1 5 rfl rfl)
theorem dX6_fits_32 : decode cX6_fits 32 = .ok (.iconst 1, 1) := dk_4 (dk_at dksX6_fits_1 8 rfl rfl)
theorem dX6_fits_33 : decode cX6_fits 33 = .ok (.istore_n 3, 1) := dk_62 (dk_at dksX6_fits_1 9 rfl rfl)
theorem dX6_fits_34 : decode cX6_fits 34 = .ok (.iconst 0, 1) := dk_3 (dk_at dksX6_fits_1 10 rfl rfl)
theorem dX6_fits_35 : decode cX6_fits 35 = .ok (.istore 4, 2) := dk_54 4 (dk_at dksX6_fits_1 11 rfl rfl)
theorem dX6_fits_37 : decode cX6_fits 37 = .ok (.iload 4, 2) := dk_21 4 (dk_at dksX6_fits_1 13 rfl rfl)
theorem dX6_fits_39 : decode cX6_fits 39 = .ok (.aload_n 0, 1) := dk_42 (dk_at dksX6_fits_1 15 rfl rfl)
theorem dX6_fits_40 : decode cX6_fits 40 = .ok (.getfield 423, 3) := dk_180 1 167 (dk_at dksX6_fits_1 16 rfl rfl)
theorem dX6_fits_43 : decode cX6_fits 43 = .ok (.if_icmp .ge 41, 3) := dk_162 0 41 (dk_at dksX6_fits_1 19 rfl rfl)
theorem dX6_fits_46 : decode cX6_fits 46 = .ok (.iload_n 3, 1) := dk_29 (dk_at dksX6_fits_1 22 rfl rfl)
theorem dX6_fits_47 : decode cX6_fits 47 = .ok (.ifCond .eq 29, 3) := dk_153 0 29 (dk_at dksX6_fits_2 0 rfl rfl)
theorem dX6_fits_50 : decode cX6_fits 50 = .ok (.aload_n 0, 1) := dk_42 (dk_at dksX6_fits_2 3 rfl rfl)
theorem dX6_fits_51 : decode cX6_fits 51 = .ok (.iload_n 2, 1) := dk_28 (dk_at dksX6_fits_2 4 rfl rfl)
theorem dX6_fits_52 : decode cX6_fits 52 = .ok (.aload_n 0, 1) := dk_42 (dk_at dksX6_fits_2 5 rfl rfl)
theorem dX6_fits_53 : decode cX6_fits 53 = .ok (.getfield 94, 3) := dk_180 0 94 (dk_at dksX6_fits_2 6 rfl rfl)
theorem dX6_fits_56 : decode cX6_fits 56 = .ok (.iload 4, 2) := dk_21 4 (dk_at dksX6_fits_2 9 rfl rfl)
theorem dX6_fits_58 : decode cX6_fits 58 = .ok (.iaload, 1) := dk_46 (dk_at dksX6_fits_2 11 rfl rfl)
theorem dX6_fits_59 : decode cX6_fits 59 = .ok (.aload_n 0, 1) := dk_42 (dk_at dksX6_fits_2 12 rfl rfl)
theorem dX6_fits_60 : decode cX6_fits 60 = .ok (.getfield 97, 3) := dk_180 0 97 (dk_at dksX6_fits_2 13 rfl rfl)
theorem dX6_fits_63 : decode cX6_fits 63 = .ok (.iload 4, 2) := dk_21 4 (dk_at dksX6_fits_2 16 rfl rfl)
theorem dX6_fits_65 : decode cX6_fits 65 = .ok (.iaload, 1) := dk_46 (dk_at dksX6_fits_2 18 rfl rfl)
theorem dX6_fits_66 : decode cX6_fits 66 = .ok (.invokevirtual 426, 3) := dk_182 1 170 (dk_at dksX6_fits_2 19 rfl rfl)
theorem dX6_fits_69 : decode cX6_fits 69 = .ok (.ifCond .eq 7, 3) := dk_153 0 7 (dk_at dksX6_fits_3 0 rfl rfl)
theorem dX6_fits_72 : decode cX6_fits 72 = .ok (.iconst 1, 1) := dk_4 (dk_at dksX6_fits_3 3 rfl rfl)
theorem dX6_fits_73 : decode cX6_fits 73 = .ok (.goto 4, 3) := dk_167 0 4 (dk_at dksX6_fits_3 4 rfl rfl)
theorem dX6_fits_76 : decode cX6_fits 76 = .ok (.iconst 0, 1) := dk_3 (dk_at dksX6_fits_3 7 rfl rfl)
theorem dX6_fits_77 : decode cX6_fits 77 = .ok (.istore_n 3, 1) := dk_62 (dk_at dksX6_fits_3 8 rfl rfl)
theorem dX6_fits_78 : decode cX6_fits 78 = .ok (.iinc 4 1, 3) := dk_132 4 1 (dk_at dksX6_fits_3 9 rfl rfl)
theorem dX6_fits_81 : decode cX6_fits 81 = .ok (.goto (-44), 3) := dk_167 255 212 (dk_at dksX6_fits_3 12 rfl rfl)
theorem dX6_fits_84 : decode cX6_fits 84 = .ok (.iload_n 1, 1) := dk_27 (dk_at dksX6_fits_3 15 rfl rfl)
theorem dX6_fits_85 : decode cX6_fits 85 = .ok (.iload_n 3, 1) := dk_29 (dk_at dksX6_fits_3 16 rfl rfl)
theorem dX6_fits_86 : decode cX6_fits 86 = .ok (.ifCond .eq 9, 3) := dk_153 0 9 (dk_at dksX6_fits_3 17 rfl rfl)
theorem dX6_fits_89 : decode cX6_fits 89 = .ok (.iconst 1, 1) := dk_4 (dk_at dksX6_fits_3 20 rfl rfl)
theorem dX6_fits_90 : decode cX6_fits 90 = .ok (.iload_n 2, 1) := dk_28 (dk_at dksX6_fits_3 21 rfl rfl)
theorem dX6_fits_91 : decode cX6_fits 91 = .ok (.ishl, 1) := dk_120 (dk_at dksX6_fits_3 22 rfl rfl)
theorem dX6_fits_92 : decode cX6_fits 92 = .ok (.goto 4, 3) := dk_167 0 4 (dk_at dksX6_fits_4 0 rfl rfl)
theorem dX6_fits_95 : decode cX6_fits 95 = .ok (.iconst 0, 1) := dk_3 (dk_at dksX6_fits_4 3 rfl rfl)
theorem dX6_fits_96 : decode cX6_fits 96 = .ok (.ior, 1) := dk_128 (dk_at dksX6_fits_4 4 rfl rfl)
theorem dX6_fits_97 : decode cX6_fits 97 = .ok (.istore_n 1, 1) := dk_60 (dk_at dksX6_fits_4 5 rfl rfl)
theorem dX6_fits_98 : decode cX6_fits 98 = .ok (.iinc 2 1, 3) := dk_132 2 1 (dk_at dksX6_fits_4 6 rfl rfl)
theorem dX6_fits_101 : decode cX6_fits 101 = .ok (.goto (-77), 3) := dk_167 255 179 (dk_at dksX6_fits_4 9 rfl rfl)
theorem dX6_fits_104 : decode cX6_fits 104 = .ok (.aload_n 0, 1) := dk_42 (dk_at dksX6_fits_4 12 rfl rfl)
theorem dX6_fits_105 : decode cX6_fits 105 = .ok (.iconst 0, 1) := dk_3 (dk_at dksX6_fits_4 13 rfl rfl)
theorem dX6_fits_106 : decode cX6_fits 106 = .ok (.putfield 119, 3) := dk_181 0 119 (dk_at dksX6_fits_4 14 rfl rfl)
theorem dX6_fits_109 : decode cX6_fits 109 = .ok (.aload_n 0, 1) := dk_42 (dk_at dksX6_fits_4 17 rfl rfl)
theorem dX6_fits_110 : decode cX6_fits 110 = .ok (.iload_n 1, 1) := dk_27 (dk_at dksX6_fits_4 18 rfl rfl)
theorem dX6_fits_111 : decode cX6_fits 111 = .ok (.invokestatic 279, 3) := dk_184 1 23 (dk_at dksX6_fits_4 19 rfl rfl)
theorem dX6_fits_114 : decode cX6_fits 114 = .ok (.i2l, 1) := dk_133 (dk_at dksX6_fits_4 22 rfl rfl)
theorem dX6_fits_115 : decode cX6_fits 115 = .ok (.invokevirtual 358, 3) := dk_182 1 102 (dk_at dksX6_fits_5 0 rfl rfl)
theorem dX6_fits_118 : decode cX6_fits 118 = .ok (.iload_n 1, 1) := dk_27 (dk_at dksX6_fits_5 3 rfl rfl)
theorem dX6_fits_119 : decode cX6_fits 119 = .ok (.ireturn, 1) := dk_172 (dk_at dksX6_fits_5 4 rfl rfl)
abbrev cX6_isSo : ByteArray := prog_15_method_93_code
def yX6_isSo : MethodName := ⟨RX6, "isSo", "(III)Z"⟩
def dkwX6_isSo_5 : List UInt8 := [172, 27, 5, 112, 29, 160, 0, 7, 4, 167, 0, 4, 3, 172]
abbrev dktX6_isSo_5 : List UInt8 := dkwX6_isSo_5 ++ []
def dkwX6_isSo_4 : List UInt8 := [172, 42, 42, 180, 0, 34, 16, 29, 27, 182, 1, 19, 184, 1, 23, 29, 161, 0, 7, 4, 167, 0, 4, 3]
abbrev dktX6_isSo_4 : List UInt8 := dkwX6_isSo_4 ++ dktX6_isSo_5
def dkwX6_isSo_3 : List UInt8 := [184, 1, 10, 154, 0, 20, 42, 180, 0, 34, 16, 6, 27, 96, 46, 29, 160, 0, 7, 4, 167, 0, 4, 3]
abbrev dktX6_isSo_3 : List UInt8 := dkwX6_isSo_3 ++ dktX6_isSo_4
def dkwX6_isSo_2 : List UInt8 := [42, 27, 182, 1, 49, 184, 1, 23, 29, 161, 0, 7, 4, 167, 0, 4, 3, 172, 42, 180, 0, 34, 27]
abbrev dktX6_isSo_2 : List UInt8 := dkwX6_isSo_2 ++ dktX6_isSo_3
def dkwX6_isSo_1 : List UInt8 := [170, 0, 0, 0, 0, 0, 99, 0, 0, 0, 0, 0, 0, 0, 2, 0, 0, 0, 27, 0, 0, 0, 45, 0, 0, 0, 75]
abbrev dktX6_isSo_1 : List UInt8 := dkwX6_isSo_1 ++ dktX6_isSo_2
def dkwX6_isSo_0 : List UInt8 := [28]
abbrev dktX6_isSo_0 : List UInt8 := dkwX6_isSo_0 ++ dktX6_isSo_1
theorem dksX6_isSo_0 : cX6_isSo.data.toList.drop 0 = dktX6_isSo_0 := by decide +kernel
theorem dksX6_isSo_1 : cX6_isSo.data.toList.drop 1 = dktX6_isSo_1 := dk_seg dksX6_isSo_0 1 rfl rfl
theorem dksX6_isSo_2 : cX6_isSo.data.toList.drop 28 = dktX6_isSo_2 := dk_seg dksX6_isSo_1 27 rfl rfl
theorem dksX6_isSo_3 : cX6_isSo.data.toList.drop 51 = dktX6_isSo_3 := dk_seg dksX6_isSo_2 23 rfl rfl
theorem dksX6_isSo_4 : cX6_isSo.data.toList.drop 75 = dktX6_isSo_4 := dk_seg dksX6_isSo_3 24 rfl rfl
theorem dksX6_isSo_5 : cX6_isSo.data.toList.drop 99 = dktX6_isSo_5 := dk_seg dksX6_isSo_4 24 rfl rfl
theorem dX6_isSo_0 : decode cX6_isSo 0 = .ok (.iload_n 2, 1) := dk_28 (dk_at dksX6_isSo_0 0 rfl rfl)
theorem dX6_isSo_1 : decode cX6_isSo 1 = .ok (.tableswitch 99 0 2 #[27, 45, 75], 27) := by decide +kernel
theorem dX6_isSo_28 : decode cX6_isSo 28 = .ok (.aload_n 0, 1) := dk_42 (dk_at dksX6_isSo_2 0 rfl rfl)
theorem dX6_isSo_29 : decode cX6_isSo 29 = .ok (.iload_n 1, 1) := dk_27 (dk_at dksX6_isSo_2 1 rfl rfl)
theorem dX6_isSo_30 : decode cX6_isSo 30 = .ok (.invokevirtual 305, 3) := dk_182 1 49 (dk_at dksX6_isSo_2 2 rfl rfl)
theorem dX6_isSo_33 : decode cX6_isSo 33 = .ok (.invokestatic 279, 3) := dk_184 1 23 (dk_at dksX6_isSo_2 5 rfl rfl)
theorem dX6_isSo_36 : decode cX6_isSo 36 = .ok (.iload_n 3, 1) := dk_29 (dk_at dksX6_isSo_2 8 rfl rfl)
theorem dX6_isSo_37 : decode cX6_isSo 37 = .ok (.if_icmp .lt 7, 3) := dk_161 0 7 (dk_at dksX6_isSo_2 9 rfl rfl)
theorem dX6_isSo_40 : decode cX6_isSo 40 = .ok (.iconst 1, 1) := dk_4 (dk_at dksX6_isSo_2 12 rfl rfl)
theorem dX6_isSo_41 : decode cX6_isSo 41 = .ok (.goto 4, 3) := dk_167 0 4 (dk_at dksX6_isSo_2 13 rfl rfl)
theorem dX6_isSo_44 : decode cX6_isSo 44 = .ok (.iconst 0, 1) := dk_3 (dk_at dksX6_isSo_2 16 rfl rfl)
theorem dX6_isSo_45 : decode cX6_isSo 45 = .ok (.ireturn, 1) := dk_172 (dk_at dksX6_isSo_2 17 rfl rfl)
theorem dX6_isSo_46 : decode cX6_isSo 46 = .ok (.aload_n 0, 1) := dk_42 (dk_at dksX6_isSo_2 18 rfl rfl)
theorem dX6_isSo_47 : decode cX6_isSo 47 = .ok (.getfield 34, 3) := dk_180 0 34 (dk_at dksX6_isSo_2 19 rfl rfl)
theorem dX6_isSo_50 : decode cX6_isSo 50 = .ok (.iload_n 1, 1) := dk_27 (dk_at dksX6_isSo_2 22 rfl rfl)
theorem dX6_isSo_51 : decode cX6_isSo 51 = .ok (.invokestatic 266, 3) := dk_184 1 10 (dk_at dksX6_isSo_3 0 rfl rfl)
theorem dX6_isSo_54 : decode cX6_isSo 54 = .ok (.ifCond .ne 20, 3) := dk_154 0 20 (dk_at dksX6_isSo_3 3 rfl rfl)
theorem dX6_isSo_57 : decode cX6_isSo 57 = .ok (.aload_n 0, 1) := dk_42 (dk_at dksX6_isSo_3 6 rfl rfl)
theorem dX6_isSo_58 : decode cX6_isSo 58 = .ok (.getfield 34, 3) := dk_180 0 34 (dk_at dksX6_isSo_3 7 rfl rfl)
theorem dX6_isSo_61 : decode cX6_isSo 61 = .ok (.bipush 6, 2) := dk_16 6 (dk_at dksX6_isSo_3 10 rfl rfl)
theorem dX6_isSo_63 : decode cX6_isSo 63 = .ok (.iload_n 1, 1) := dk_27 (dk_at dksX6_isSo_3 12 rfl rfl)
theorem dX6_isSo_64 : decode cX6_isSo 64 = .ok (.iadd, 1) := dk_96 (dk_at dksX6_isSo_3 13 rfl rfl)
theorem dX6_isSo_65 : decode cX6_isSo 65 = .ok (.iaload, 1) := dk_46 (dk_at dksX6_isSo_3 14 rfl rfl)
theorem dX6_isSo_66 : decode cX6_isSo 66 = .ok (.iload_n 3, 1) := dk_29 (dk_at dksX6_isSo_3 15 rfl rfl)
theorem dX6_isSo_67 : decode cX6_isSo 67 = .ok (.if_icmp .ne 7, 3) := dk_160 0 7 (dk_at dksX6_isSo_3 16 rfl rfl)
theorem dX6_isSo_70 : decode cX6_isSo 70 = .ok (.iconst 1, 1) := dk_4 (dk_at dksX6_isSo_3 19 rfl rfl)
theorem dX6_isSo_71 : decode cX6_isSo 71 = .ok (.goto 4, 3) := dk_167 0 4 (dk_at dksX6_isSo_3 20 rfl rfl)
theorem dX6_isSo_74 : decode cX6_isSo 74 = .ok (.iconst 0, 1) := dk_3 (dk_at dksX6_isSo_3 23 rfl rfl)
theorem dX6_isSo_75 : decode cX6_isSo 75 = .ok (.ireturn, 1) := dk_172 (dk_at dksX6_isSo_4 0 rfl rfl)
theorem dX6_isSo_76 : decode cX6_isSo 76 = .ok (.aload_n 0, 1) := dk_42 (dk_at dksX6_isSo_4 1 rfl rfl)
theorem dX6_isSo_77 : decode cX6_isSo 77 = .ok (.aload_n 0, 1) := dk_42 (dk_at dksX6_isSo_4 2 rfl rfl)
theorem dX6_isSo_78 : decode cX6_isSo 78 = .ok (.getfield 34, 3) := dk_180 0 34 (dk_at dksX6_isSo_4 3 rfl rfl)
theorem dX6_isSo_81 : decode cX6_isSo 81 = .ok (.bipush 29, 2) := dk_16 29 (dk_at dksX6_isSo_4 6 rfl rfl)
theorem dX6_isSo_83 : decode cX6_isSo 83 = .ok (.iload_n 1, 1) := dk_27 (dk_at dksX6_isSo_4 8 rfl rfl)
theorem dX6_isSo_84 : decode cX6_isSo 84 = .ok (.invokevirtual 275, 3) := dk_182 1 19 (dk_at dksX6_isSo_4 9 rfl rfl)
theorem dX6_isSo_87 : decode cX6_isSo 87 = .ok (.invokestatic 279, 3) := dk_184 1 23 (dk_at dksX6_isSo_4 12 rfl rfl)
theorem dX6_isSo_90 : decode cX6_isSo 90 = .ok (.iload_n 3, 1) := dk_29 (dk_at dksX6_isSo_4 15 rfl rfl)
theorem dX6_isSo_91 : decode cX6_isSo 91 = .ok (.if_icmp .lt 7, 3) := dk_161 0 7 (dk_at dksX6_isSo_4 16 rfl rfl)
theorem dX6_isSo_94 : decode cX6_isSo 94 = .ok (.iconst 1, 1) := dk_4 (dk_at dksX6_isSo_4 19 rfl rfl)
theorem dX6_isSo_95 : decode cX6_isSo 95 = .ok (.goto 4, 3) := dk_167 0 4 (dk_at dksX6_isSo_4 20 rfl rfl)
theorem dX6_isSo_98 : decode cX6_isSo 98 = .ok (.iconst 0, 1) := dk_3 (dk_at dksX6_isSo_4 23 rfl rfl)
theorem dX6_isSo_99 : decode cX6_isSo 99 = .ok (.ireturn, 1) := dk_172 (dk_at dksX6_isSo_5 0 rfl rfl)
theorem dX6_isSo_100 : decode cX6_isSo 100 = .ok (.iload_n 1, 1) := dk_27 (dk_at dksX6_isSo_5 1 rfl rfl)
theorem dX6_isSo_101 : decode cX6_isSo 101 = .ok (.iconst 2, 1) := dk_5 (dk_at dksX6_isSo_5 2 rfl rfl)
theorem dX6_isSo_102 : decode cX6_isSo 102 = .ok (.irem, 1) := dk_112 (dk_at dksX6_isSo_5 3 rfl rfl)
theorem dX6_isSo_103 : decode cX6_isSo 103 = .ok (.iload_n 3, 1) := dk_29 (dk_at dksX6_isSo_5 4 rfl rfl)
theorem dX6_isSo_104 : decode cX6_isSo 104 = .ok (.if_icmp .ne 7, 3) := dk_160 0 7 (dk_at dksX6_isSo_5 5 rfl rfl)
theorem dX6_isSo_107 : decode cX6_isSo 107 = .ok (.iconst 1, 1) := dk_4 (dk_at dksX6_isSo_5 8 rfl rfl)
theorem dX6_isSo_108 : decode cX6_isSo 108 = .ok (.goto 4, 3) := dk_167 0 4 (dk_at dksX6_isSo_5 9 rfl rfl)
theorem dX6_isSo_111 : decode cX6_isSo 111 = .ok (.iconst 0, 1) := dk_3 (dk_at dksX6_isSo_5 12 rfl rfl)
theorem dX6_isSo_112 : decode cX6_isSo 112 = .ok (.ireturn, 1) := dk_172 (dk_at dksX6_isSo_5 13 rfl rfl)
abbrev cX6_rains : ByteArray := prog_15_method_95_code
def yX6_rains : MethodName := ⟨RX6, "rains", "(III)I"⟩
def dkwX6_rains_8 : List UInt8 := [22, 8, 109, 182, 1, 102, 3, 172]
abbrev dktX6_rains_8 : List UInt8 := dkwX6_rains_8 ++ []
def dkwX6_rains_7 : List UInt8 := [22, 6, 184, 0, 115, 55, 8, 42, 3, 181, 0, 119, 42, 22, 4, 22, 8, 109, 182, 1, 102, 42, 22, 6]
abbrev dktX6_rains_7 : List UInt8 := dkwX6_rains_7 ++ dktX6_rains_8
def dkwX6_rains_6 : List UInt8 := [184, 1, 23, 28, 161, 0, 8, 22, 9, 167, 0, 4, 9, 97, 55, 4, 132, 8, 1, 167, 255, 173, 22, 4]
abbrev dktX6_rains_6 : List UInt8 := dkwX6_rains_6 ++ dktX6_rains_7
def dkwX6_rains_5 : List UInt8 := [133, 105, 55, 9, 132, 11, 1, 167, 255, 222, 22, 4, 21, 8, 3, 184, 1, 155, 153, 0, 17, 21, 8]
abbrev dktX6_rains_5 : List UInt8 := dkwX6_rains_5 ++ dktX6_rains_6
def dkwX6_rains_4 : List UInt8 := [162, 0, 34, 22, 9, 21, 8, 21, 11, 184, 1, 155, 153, 0, 8, 29, 133, 167, 0, 8, 16, 10, 29, 100]
abbrev dktX6_rains_4 : List UInt8 := dkwX6_rains_4 ++ dktX6_rains_5
def dkwX6_rains_3 : List UInt8 := [167, 255, 239, 3, 54, 8, 21, 8, 4, 27, 120, 162, 0, 81, 10, 55, 9, 3, 54, 11, 21, 11, 27]
abbrev dktX6_rains_3 : List UInt8 := dkwX6_rains_3 ++ dktX6_rains_4
def dkwX6_rains_2 : List UInt8 := [55, 6, 3, 54, 8, 21, 8, 27, 162, 0, 17, 22, 6, 20, 1, 176, 105, 55, 6, 132, 8, 1]
abbrev dktX6_rains_2 : List UInt8 := dkwX6_rains_2 ++ dktX6_rains_3
def dkwX6_rains_1 : List UInt8 := [184, 0, 125, 153, 0, 15, 29, 133, 9, 20, 1, 176, 184, 0, 125, 154, 0, 5, 2, 172, 9, 55, 4, 10]
abbrev dktX6_rains_1 : List UInt8 := dkwX6_rains_1 ++ dktX6_rains_2
def dkwX6_rains_0 : List UInt8 := [42, 3, 181, 0, 112, 27, 133, 10, 20, 1, 174, 184, 0, 125, 153, 0, 27, 28, 133, 9, 20, 1, 174]
abbrev dktX6_rains_0 : List UInt8 := dkwX6_rains_0 ++ dktX6_rains_1
theorem dksX6_rains_0 : cX6_rains.data.toList.drop 0 = dktX6_rains_0 := by decide +kernel
theorem dksX6_rains_1 : cX6_rains.data.toList.drop 23 = dktX6_rains_1 := dk_seg dksX6_rains_0 23 rfl rfl
theorem dksX6_rains_2 : cX6_rains.data.toList.drop 47 = dktX6_rains_2 := dk_seg dksX6_rains_1 24 rfl rfl
theorem dksX6_rains_3 : cX6_rains.data.toList.drop 69 = dktX6_rains_3 := dk_seg dksX6_rains_2 22 rfl rfl
theorem dksX6_rains_4 : cX6_rains.data.toList.drop 92 = dktX6_rains_4 := dk_seg dksX6_rains_3 23 rfl rfl
theorem dksX6_rains_5 : cX6_rains.data.toList.drop 116 = dktX6_rains_5 := dk_seg dksX6_rains_4 24 rfl rfl
theorem dksX6_rains_6 : cX6_rains.data.toList.drop 139 = dktX6_rains_6 := dk_seg dksX6_rains_5 23 rfl rfl
theorem dksX6_rains_7 : cX6_rains.data.toList.drop 163 = dktX6_rains_7 := dk_seg dksX6_rains_6 24 rfl rfl
theorem dksX6_rains_8 : cX6_rains.data.toList.drop 187 = dktX6_rains_8 := dk_seg dksX6_rains_7 24 rfl rfl
theorem dX6_rains_0 : decode cX6_rains 0 = .ok (.aload_n 0, 1) := dk_42 (dk_at dksX6_rains_0 0 rfl rfl)
theorem dX6_rains_1 : decode cX6_rains 1 = .ok (.iconst 0, 1) := dk_3 (dk_at dksX6_rains_0 1 rfl rfl)
theorem dX6_rains_2 : decode cX6_rains 2 = .ok (.putfield 112, 3) := dk_181 0 112 (dk_at dksX6_rains_0 2 rfl rfl)
theorem dX6_rains_5 : decode cX6_rains 5 = .ok (.iload_n 1, 1) := dk_27 (dk_at dksX6_rains_0 5 rfl rfl)
theorem dX6_rains_6 : decode cX6_rains 6 = .ok (.i2l, 1) := dk_133 (dk_at dksX6_rains_0 6 rfl rfl)
theorem dX6_rains_7 : decode cX6_rains 7 = .ok (.lconst 1, 1) := dk_10 (dk_at dksX6_rains_0 7 rfl rfl)
theorem dX6_rains_8 : decode cX6_rains 8 = .ok (.ldc2_w 430, 3) := dk_20 1 174 (dk_at dksX6_rains_0 8 rfl rfl)
theorem dX6_rains_11 : decode cX6_rains 11 = .ok (.invokestatic 125, 3) := dk_184 0 125 (dk_at dksX6_rains_0 11 rfl rfl)
theorem dX6_rains_14 : decode cX6_rains 14 = .ok (.ifCond .eq 27, 3) := dk_153 0 27 (dk_at dksX6_rains_0 14 rfl rfl)
theorem dX6_rains_17 : decode cX6_rains 17 = .ok (.iload_n 2, 1) := dk_28 (dk_at dksX6_rains_0 17 rfl rfl)
theorem dX6_rains_18 : decode cX6_rains 18 = .ok (.i2l, 1) := dk_133 (dk_at dksX6_rains_0 18 rfl rfl)
theorem dX6_rains_19 : decode cX6_rains 19 = .ok (.lconst 0, 1) := dk_9 (dk_at dksX6_rains_0 19 rfl rfl)
theorem dX6_rains_20 : decode cX6_rains 20 = .ok (.ldc2_w 430, 3) := dk_20 1 174 (dk_at dksX6_rains_0 20 rfl rfl)
theorem dX6_rains_23 : decode cX6_rains 23 = .ok (.invokestatic 125, 3) := dk_184 0 125 (dk_at dksX6_rains_1 0 rfl rfl)
theorem dX6_rains_26 : decode cX6_rains 26 = .ok (.ifCond .eq 15, 3) := dk_153 0 15 (dk_at dksX6_rains_1 3 rfl rfl)
theorem dX6_rains_29 : decode cX6_rains 29 = .ok (.iload_n 3, 1) := dk_29 (dk_at dksX6_rains_1 6 rfl rfl)
theorem dX6_rains_30 : decode cX6_rains 30 = .ok (.i2l, 1) := dk_133 (dk_at dksX6_rains_1 7 rfl rfl)
theorem dX6_rains_31 : decode cX6_rains 31 = .ok (.lconst 0, 1) := dk_9 (dk_at dksX6_rains_1 8 rfl rfl)
theorem dX6_rains_32 : decode cX6_rains 32 = .ok (.ldc2_w 432, 3) := dk_20 1 176 (dk_at dksX6_rains_1 9 rfl rfl)
theorem dX6_rains_35 : decode cX6_rains 35 = .ok (.invokestatic 125, 3) := dk_184 0 125 (dk_at dksX6_rains_1 12 rfl rfl)
theorem dX6_rains_38 : decode cX6_rains 38 = .ok (.ifCond .ne 5, 3) := dk_154 0 5 (dk_at dksX6_rains_1 15 rfl rfl)
theorem dX6_rains_41 : decode cX6_rains 41 = .ok (.iconst (-1), 1) := dk_2 (dk_at dksX6_rains_1 18 rfl rfl)
theorem dX6_rains_42 : decode cX6_rains 42 = .ok (.ireturn, 1) := dk_172 (dk_at dksX6_rains_1 19 rfl rfl)
theorem dX6_rains_43 : decode cX6_rains 43 = .ok (.lconst 0, 1) := dk_9 (dk_at dksX6_rains_1 20 rfl rfl)
theorem dX6_rains_44 : decode cX6_rains 44 = .ok (.lstore 4, 2) := dk_55 4 (dk_at dksX6_rains_1 21 rfl rfl)
theorem dX6_rains_46 : decode cX6_rains 46 = .ok (.lconst 1, 1) := dk_10 (dk_at dksX6_rains_1 23 rfl rfl)
theorem dX6_rains_47 : decode cX6_rains 47 = .ok (.lstore 6, 2) := dk_55 6 (dk_at dksX6_rains_2 0 rfl rfl)
theorem dX6_rains_49 : decode cX6_rains 49 = .ok (.iconst 0, 1) := dk_3 (dk_at dksX6_rains_2 2 rfl rfl)
theorem dX6_rains_50 : decode cX6_rains 50 = .ok (.istore 8, 2) := dk_54 8 (dk_at dksX6_rains_2 3 rfl rfl)
theorem dX6_rains_52 : decode cX6_rains 52 = .ok (.iload 8, 2) := dk_21 8 (dk_at dksX6_rains_2 5 rfl rfl)
theorem dX6_rains_54 : decode cX6_rains 54 = .ok (.iload_n 1, 1) := dk_27 (dk_at dksX6_rains_2 7 rfl rfl)
theorem dX6_rains_55 : decode cX6_rains 55 = .ok (.if_icmp .ge 17, 3) := dk_162 0 17 (dk_at dksX6_rains_2 8 rfl rfl)
theorem dX6_rains_58 : decode cX6_rains 58 = .ok (.lload 6, 2) := dk_22 6 (dk_at dksX6_rains_2 11 rfl rfl)
theorem dX6_rains_60 : decode cX6_rains 60 = .ok (.ldc2_w 432, 3) := dk_20 1 176 (dk_at dksX6_rains_2 13 rfl rfl)
theorem dX6_rains_63 : decode cX6_rains 63 = .ok (.lmul, 1) := dk_105 (dk_at dksX6_rains_2 16 rfl rfl)
theorem dX6_rains_64 : decode cX6_rains 64 = .ok (.lstore 6, 2) := dk_55 6 (dk_at dksX6_rains_2 17 rfl rfl)
theorem dX6_rains_66 : decode cX6_rains 66 = .ok (.iinc 8 1, 3) := dk_132 8 1 (dk_at dksX6_rains_2 19 rfl rfl)
theorem dX6_rains_69 : decode cX6_rains 69 = .ok (.goto (-17), 3) := dk_167 255 239 (dk_at dksX6_rains_3 0 rfl rfl)
theorem dX6_rains_72 : decode cX6_rains 72 = .ok (.iconst 0, 1) := dk_3 (dk_at dksX6_rains_3 3 rfl rfl)
theorem dX6_rains_73 : decode cX6_rains 73 = .ok (.istore 8, 2) := dk_54 8 (dk_at dksX6_rains_3 4 rfl rfl)
theorem dX6_rains_75 : decode cX6_rains 75 = .ok (.iload 8, 2) := dk_21 8 (dk_at dksX6_rains_3 6 rfl rfl)
theorem dX6_rains_77 : decode cX6_rains 77 = .ok (.iconst 1, 1) := dk_4 (dk_at dksX6_rains_3 8 rfl rfl)
theorem dX6_rains_78 : decode cX6_rains 78 = .ok (.iload_n 1, 1) := dk_27 (dk_at dksX6_rains_3 9 rfl rfl)
theorem dX6_rains_79 : decode cX6_rains 79 = .ok (.ishl, 1) := dk_120 (dk_at dksX6_rains_3 10 rfl rfl)
theorem dX6_rains_80 : decode cX6_rains 80 = .ok (.if_icmp .ge 81, 3) := dk_162 0 81 (dk_at dksX6_rains_3 11 rfl rfl)
theorem dX6_rains_83 : decode cX6_rains 83 = .ok (.lconst 1, 1) := dk_10 (dk_at dksX6_rains_3 14 rfl rfl)
theorem dX6_rains_84 : decode cX6_rains 84 = .ok (.lstore 9, 2) := dk_55 9 (dk_at dksX6_rains_3 15 rfl rfl)
theorem dX6_rains_86 : decode cX6_rains 86 = .ok (.iconst 0, 1) := dk_3 (dk_at dksX6_rains_3 17 rfl rfl)
theorem dX6_rains_87 : decode cX6_rains 87 = .ok (.istore 11, 2) := dk_54 11 (dk_at dksX6_rains_3 18 rfl rfl)
theorem dX6_rains_89 : decode cX6_rains 89 = .ok (.iload 11, 2) := dk_21 11 (dk_at dksX6_rains_3 20 rfl rfl)
theorem dX6_rains_91 : decode cX6_rains 91 = .ok (.iload_n 1, 1) := dk_27 (dk_at dksX6_rains_3 22 rfl rfl)
theorem dX6_rains_92 : decode cX6_rains 92 = .ok (.if_icmp .ge 34, 3) := dk_162 0 34 (dk_at dksX6_rains_4 0 rfl rfl)
theorem dX6_rains_95 : decode cX6_rains 95 = .ok (.lload 9, 2) := dk_22 9 (dk_at dksX6_rains_4 3 rfl rfl)
theorem dX6_rains_97 : decode cX6_rains 97 = .ok (.iload 8, 2) := dk_21 8 (dk_at dksX6_rains_4 5 rfl rfl)
theorem dX6_rains_99 : decode cX6_rains 99 = .ok (.iload 11, 2) := dk_21 11 (dk_at dksX6_rains_4 7 rfl rfl)
theorem dX6_rains_101 : decode cX6_rains 101 = .ok (.invokestatic 411, 3) := dk_184 1 155 (dk_at dksX6_rains_4 9 rfl rfl)
theorem dX6_rains_104 : decode cX6_rains 104 = .ok (.ifCond .eq 8, 3) := dk_153 0 8 (dk_at dksX6_rains_4 12 rfl rfl)
theorem dX6_rains_107 : decode cX6_rains 107 = .ok (.iload_n 3, 1) := dk_29 (dk_at dksX6_rains_4 15 rfl rfl)
theorem dX6_rains_108 : decode cX6_rains 108 = .ok (.i2l, 1) := dk_133 (dk_at dksX6_rains_4 16 rfl rfl)
theorem dX6_rains_109 : decode cX6_rains 109 = .ok (.goto 8, 3) := dk_167 0 8 (dk_at dksX6_rains_4 17 rfl rfl)
theorem dX6_rains_112 : decode cX6_rains 112 = .ok (.bipush 10, 2) := dk_16 10 (dk_at dksX6_rains_4 20 rfl rfl)
theorem dX6_rains_114 : decode cX6_rains 114 = .ok (.iload_n 3, 1) := dk_29 (dk_at dksX6_rains_4 22 rfl rfl)
theorem dX6_rains_115 : decode cX6_rains 115 = .ok (.isub, 1) := dk_100 (dk_at dksX6_rains_4 23 rfl rfl)
theorem dX6_rains_116 : decode cX6_rains 116 = .ok (.i2l, 1) := dk_133 (dk_at dksX6_rains_5 0 rfl rfl)
theorem dX6_rains_117 : decode cX6_rains 117 = .ok (.lmul, 1) := dk_105 (dk_at dksX6_rains_5 1 rfl rfl)
theorem dX6_rains_118 : decode cX6_rains 118 = .ok (.lstore 9, 2) := dk_55 9 (dk_at dksX6_rains_5 2 rfl rfl)
theorem dX6_rains_120 : decode cX6_rains 120 = .ok (.iinc 11 1, 3) := dk_132 11 1 (dk_at dksX6_rains_5 4 rfl rfl)
theorem dX6_rains_123 : decode cX6_rains 123 = .ok (.goto (-34), 3) := dk_167 255 222 (dk_at dksX6_rains_5 7 rfl rfl)
theorem dX6_rains_126 : decode cX6_rains 126 = .ok (.lload 4, 2) := dk_22 4 (dk_at dksX6_rains_5 10 rfl rfl)
theorem dX6_rains_128 : decode cX6_rains 128 = .ok (.iload 8, 2) := dk_21 8 (dk_at dksX6_rains_5 12 rfl rfl)
theorem dX6_rains_130 : decode cX6_rains 130 = .ok (.iconst 0, 1) := dk_3 (dk_at dksX6_rains_5 14 rfl rfl)
theorem dX6_rains_131 : decode cX6_rains 131 = .ok (.invokestatic 411, 3) := dk_184 1 155 (dk_at dksX6_rains_5 15 rfl rfl)
theorem dX6_rains_134 : decode cX6_rains 134 = .ok (.ifCond .eq 17, 3) := dk_153 0 17 (dk_at dksX6_rains_5 18 rfl rfl)
theorem dX6_rains_137 : decode cX6_rains 137 = .ok (.iload 8, 2) := dk_21 8 (dk_at dksX6_rains_5 21 rfl rfl)
theorem dX6_rains_139 : decode cX6_rains 139 = .ok (.invokestatic 279, 3) := dk_184 1 23 (dk_at dksX6_rains_6 0 rfl rfl)
theorem dX6_rains_142 : decode cX6_rains 142 = .ok (.iload_n 2, 1) := dk_28 (dk_at dksX6_rains_6 3 rfl rfl)
theorem dX6_rains_143 : decode cX6_rains 143 = .ok (.if_icmp .lt 8, 3) := dk_161 0 8 (dk_at dksX6_rains_6 4 rfl rfl)
theorem dX6_rains_146 : decode cX6_rains 146 = .ok (.lload 9, 2) := dk_22 9 (dk_at dksX6_rains_6 7 rfl rfl)
theorem dX6_rains_148 : decode cX6_rains 148 = .ok (.goto 4, 3) := dk_167 0 4 (dk_at dksX6_rains_6 9 rfl rfl)
theorem dX6_rains_151 : decode cX6_rains 151 = .ok (.lconst 0, 1) := dk_9 (dk_at dksX6_rains_6 12 rfl rfl)
theorem dX6_rains_152 : decode cX6_rains 152 = .ok (.ladd, 1) := dk_97 (dk_at dksX6_rains_6 13 rfl rfl)
theorem dX6_rains_153 : decode cX6_rains 153 = .ok (.lstore 4, 2) := dk_55 4 (dk_at dksX6_rains_6 14 rfl rfl)
theorem dX6_rains_155 : decode cX6_rains 155 = .ok (.iinc 8 1, 3) := dk_132 8 1 (dk_at dksX6_rains_6 16 rfl rfl)
theorem dX6_rains_158 : decode cX6_rains 158 = .ok (.goto (-83), 3) := dk_167 255 173 (dk_at dksX6_rains_6 19 rfl rfl)
theorem dX6_rains_161 : decode cX6_rains 161 = .ok (.lload 4, 2) := dk_22 4 (dk_at dksX6_rains_6 22 rfl rfl)
theorem dX6_rains_163 : decode cX6_rains 163 = .ok (.lload 6, 2) := dk_22 6 (dk_at dksX6_rains_7 0 rfl rfl)
theorem dX6_rains_165 : decode cX6_rains 165 = .ok (.invokestatic 115, 3) := dk_184 0 115 (dk_at dksX6_rains_7 2 rfl rfl)
theorem dX6_rains_168 : decode cX6_rains 168 = .ok (.lstore 8, 2) := dk_55 8 (dk_at dksX6_rains_7 5 rfl rfl)
theorem dX6_rains_170 : decode cX6_rains 170 = .ok (.aload_n 0, 1) := dk_42 (dk_at dksX6_rains_7 7 rfl rfl)
theorem dX6_rains_171 : decode cX6_rains 171 = .ok (.iconst 0, 1) := dk_3 (dk_at dksX6_rains_7 8 rfl rfl)
theorem dX6_rains_172 : decode cX6_rains 172 = .ok (.putfield 119, 3) := dk_181 0 119 (dk_at dksX6_rains_7 9 rfl rfl)
theorem dX6_rains_175 : decode cX6_rains 175 = .ok (.aload_n 0, 1) := dk_42 (dk_at dksX6_rains_7 12 rfl rfl)
theorem dX6_rains_176 : decode cX6_rains 176 = .ok (.lload 4, 2) := dk_22 4 (dk_at dksX6_rains_7 13 rfl rfl)
theorem dX6_rains_178 : decode cX6_rains 178 = .ok (.lload 8, 2) := dk_22 8 (dk_at dksX6_rains_7 15 rfl rfl)
theorem dX6_rains_180 : decode cX6_rains 180 = .ok (.ldiv, 1) := dk_109 (dk_at dksX6_rains_7 17 rfl rfl)
theorem dX6_rains_181 : decode cX6_rains 181 = .ok (.invokevirtual 358, 3) := dk_182 1 102 (dk_at dksX6_rains_7 18 rfl rfl)
theorem dX6_rains_184 : decode cX6_rains 184 = .ok (.aload_n 0, 1) := dk_42 (dk_at dksX6_rains_7 21 rfl rfl)
theorem dX6_rains_185 : decode cX6_rains 185 = .ok (.lload 6, 2) := dk_22 6 (dk_at dksX6_rains_7 22 rfl rfl)
theorem dX6_rains_187 : decode cX6_rains 187 = .ok (.lload 8, 2) := dk_22 8 (dk_at dksX6_rains_8 0 rfl rfl)
theorem dX6_rains_189 : decode cX6_rains 189 = .ok (.ldiv, 1) := dk_109 (dk_at dksX6_rains_8 2 rfl rfl)
theorem dX6_rains_190 : decode cX6_rains 190 = .ok (.invokevirtual 358, 3) := dk_182 1 102 (dk_at dksX6_rains_8 3 rfl rfl)
theorem dX6_rains_193 : decode cX6_rains 193 = .ok (.iconst 0, 1) := dk_3 (dk_at dksX6_rains_8 6 rfl rfl)
theorem dX6_rains_194 : decode cX6_rains 194 = .ok (.ireturn, 1) := dk_172 (dk_at dksX6_rains_8 7 rfl rfl)
abbrev cX6_common : ByteArray := prog_15_method_7_code
def yX6_common : MethodName := ⟨RX6, "common", "(JJ)J"⟩
def dkwX6_common_0 : List UInt8 := [32, 9, 148, 154, 0, 7, 30, 167, 0, 10, 32, 30, 32, 113, 184, 0, 115, 173]
abbrev dktX6_common_0 : List UInt8 := dkwX6_common_0 ++ []
theorem dksX6_common_0 : cX6_common.data.toList.drop 0 = dktX6_common_0 := by decide +kernel
theorem dX6_common_0 : decode cX6_common 0 = .ok (.lload_n 2, 1) := dk_32 (dk_at dksX6_common_0 0 rfl rfl)
theorem dX6_common_1 : decode cX6_common 1 = .ok (.lconst 0, 1) := dk_9 (dk_at dksX6_common_0 1 rfl rfl)
theorem dX6_common_2 : decode cX6_common 2 = .ok (.lcmp, 1) := dk_148 (dk_at dksX6_common_0 2 rfl rfl)
theorem dX6_common_3 : decode cX6_common 3 = .ok (.ifCond .ne 7, 3) := dk_154 0 7 (dk_at dksX6_common_0 3 rfl rfl)
theorem dX6_common_6 : decode cX6_common 6 = .ok (.lload_n 0, 1) := dk_30 (dk_at dksX6_common_0 6 rfl rfl)
theorem dX6_common_7 : decode cX6_common 7 = .ok (.goto 10, 3) := dk_167 0 10 (dk_at dksX6_common_0 7 rfl rfl)
theorem dX6_common_10 : decode cX6_common 10 = .ok (.lload_n 2, 1) := dk_32 (dk_at dksX6_common_0 10 rfl rfl)
theorem dX6_common_11 : decode cX6_common 11 = .ok (.lload_n 0, 1) := dk_30 (dk_at dksX6_common_0 11 rfl rfl)
theorem dX6_common_12 : decode cX6_common 12 = .ok (.lload_n 2, 1) := dk_32 (dk_at dksX6_common_0 12 rfl rfl)
theorem dX6_common_13 : decode cX6_common 13 = .ok (.lrem, 1) := dk_113 (dk_at dksX6_common_0 13 rfl rfl)
theorem dX6_common_14 : decode cX6_common 14 = .ok (.invokestatic 115, 3) := dk_184 0 115 (dk_at dksX6_common_0 14 rfl rfl)
theorem dX6_common_17 : decode cX6_common 17 = .ok (.lreturn, 1) := dk_173 (dk_at dksX6_common_0 17 rfl rfl)
abbrev cX6_law : ByteArray := prog_15_method_96_code
def yX6_law : MethodName := ⟨RX6, "law", "()I"⟩
def dkwX6_law_5 : List UInt8 := [182, 1, 102, 42, 28, 133, 182, 1, 102, 21, 4, 28, 100, 172]
abbrev dktX6_law_5 : List UInt8 := dkwX6_law_5 ++ []
def dkwX6_law_4 : List UInt8 := [184, 1, 23, 54, 4, 42, 42, 180, 0, 100, 29, 182, 1, 2, 42, 3, 181, 0, 119, 42, 21, 4, 133]
abbrev dktX6_law_4 : List UInt8 := dkwX6_law_4 ++ dktX6_law_5
def dkwX6_law_3 : List UInt8 := [167, 255, 230, 42, 42, 180, 0, 52, 42, 180, 0, 231, 182, 1, 2, 42, 182, 1, 134, 42, 182, 1, 145]
abbrev dktX6_law_3 : List UInt8 := dkwX6_law_3 ++ dktX6_law_4
def dkwX6_law_2 : List UInt8 := [180, 0, 252, 162, 0, 23, 42, 180, 0, 100, 21, 4, 42, 180, 0, 49, 21, 4, 46, 79, 132, 4, 1]
abbrev dktX6_law_2 : List UInt8 := dkwX6_law_2 ++ dktX6_law_3
def dkwX6_law_1 : List UInt8 := [182, 1, 134, 42, 182, 1, 145, 184, 1, 23, 61, 42, 180, 0, 252, 62, 3, 54, 4, 21, 4, 42]
abbrev dktX6_law_1 : List UInt8 := dkwX6_law_1 ++ dktX6_law_2
def dkwX6_law_0 : List UInt8 := [42, 3, 181, 0, 112, 42, 182, 0, 255, 60, 27, 156, 0, 11, 27, 4, 96, 17, 39, 16, 100, 172, 42]
abbrev dktX6_law_0 : List UInt8 := dkwX6_law_0 ++ dktX6_law_1
theorem dksX6_law_0 : cX6_law.data.toList.drop 0 = dktX6_law_0 := by decide +kernel
theorem dksX6_law_1 : cX6_law.data.toList.drop 23 = dktX6_law_1 := dk_seg dksX6_law_0 23 rfl rfl
theorem dksX6_law_2 : cX6_law.data.toList.drop 45 = dktX6_law_2 := dk_seg dksX6_law_1 22 rfl rfl
theorem dksX6_law_3 : cX6_law.data.toList.drop 68 = dktX6_law_3 := dk_seg dksX6_law_2 23 rfl rfl
theorem dksX6_law_4 : cX6_law.data.toList.drop 91 = dktX6_law_4 := dk_seg dksX6_law_3 23 rfl rfl
theorem dksX6_law_5 : cX6_law.data.toList.drop 114 = dktX6_law_5 := dk_seg dksX6_law_4 23 rfl rfl
theorem dX6_law_0 : decode cX6_law 0 = .ok (.aload_n 0, 1) := dk_42 (dk_at dksX6_law_0 0 rfl rfl)
theorem dX6_law_1 : decode cX6_law 1 = .ok (.iconst 0, 1) := dk_3 (dk_at dksX6_law_0 1 rfl rfl)
theorem dX6_law_2 : decode cX6_law 2 = .ok (.putfield 112, 3) := dk_181 0 112 (dk_at dksX6_law_0 2 rfl rfl)
theorem dX6_law_5 : decode cX6_law 5 = .ok (.aload_n 0, 1) := dk_42 (dk_at dksX6_law_0 5 rfl rfl)
theorem dX6_law_6 : decode cX6_law 6 = .ok (.invokevirtual 255, 3) := dk_182 0 255 (dk_at dksX6_law_0 6 rfl rfl)
theorem dX6_law_9 : decode cX6_law 9 = .ok (.istore_n 1, 1) := dk_60 (dk_at dksX6_law_0 9 rfl rfl)
theorem dX6_law_10 : decode cX6_law 10 = .ok (.iload_n 1, 1) := dk_27 (dk_at dksX6_law_0 10 rfl rfl)
theorem dX6_law_11 : decode cX6_law 11 = .ok (.ifCond .ge 11, 3) := dk_156 0 11 (dk_at dksX6_law_0 11 rfl rfl)
theorem dX6_law_14 : decode cX6_law 14 = .ok (.iload_n 1, 1) := dk_27 (dk_at dksX6_law_0 14 rfl rfl)
theorem dX6_law_15 : decode cX6_law 15 = .ok (.iconst 1, 1) := dk_4 (dk_at dksX6_law_0 15 rfl rfl)
theorem dX6_law_16 : decode cX6_law 16 = .ok (.iadd, 1) := dk_96 (dk_at dksX6_law_0 16 rfl rfl)
theorem dX6_law_17 : decode cX6_law 17 = .ok (.sipush 10000, 3) := dk_17 39 16 (dk_at dksX6_law_0 17 rfl rfl)
theorem dX6_law_20 : decode cX6_law 20 = .ok (.isub, 1) := dk_100 (dk_at dksX6_law_0 20 rfl rfl)
theorem dX6_law_21 : decode cX6_law 21 = .ok (.ireturn, 1) := dk_172 (dk_at dksX6_law_0 21 rfl rfl)
theorem dX6_law_22 : decode cX6_law 22 = .ok (.aload_n 0, 1) := dk_42 (dk_at dksX6_law_0 22 rfl rfl)
theorem dX6_law_23 : decode cX6_law 23 = .ok (.invokevirtual 390, 3) := dk_182 1 134 (dk_at dksX6_law_1 0 rfl rfl)
theorem dX6_law_26 : decode cX6_law 26 = .ok (.aload_n 0, 1) := dk_42 (dk_at dksX6_law_1 3 rfl rfl)
theorem dX6_law_27 : decode cX6_law 27 = .ok (.invokevirtual 401, 3) := dk_182 1 145 (dk_at dksX6_law_1 4 rfl rfl)
theorem dX6_law_30 : decode cX6_law 30 = .ok (.invokestatic 279, 3) := dk_184 1 23 (dk_at dksX6_law_1 7 rfl rfl)
theorem dX6_law_33 : decode cX6_law 33 = .ok (.istore_n 2, 1) := dk_61 (dk_at dksX6_law_1 10 rfl rfl)
theorem dX6_law_34 : decode cX6_law 34 = .ok (.aload_n 0, 1) := dk_42 (dk_at dksX6_law_1 11 rfl rfl)
theorem dX6_law_35 : decode cX6_law 35 = .ok (.getfield 252, 3) := dk_180 0 252 (dk_at dksX6_law_1 12 rfl rfl)
theorem dX6_law_38 : decode cX6_law 38 = .ok (.istore_n 3, 1) := dk_62 (dk_at dksX6_law_1 15 rfl rfl)
theorem dX6_law_39 : decode cX6_law 39 = .ok (.iconst 0, 1) := dk_3 (dk_at dksX6_law_1 16 rfl rfl)
theorem dX6_law_40 : decode cX6_law 40 = .ok (.istore 4, 2) := dk_54 4 (dk_at dksX6_law_1 17 rfl rfl)
theorem dX6_law_42 : decode cX6_law 42 = .ok (.iload 4, 2) := dk_21 4 (dk_at dksX6_law_1 19 rfl rfl)
theorem dX6_law_44 : decode cX6_law 44 = .ok (.aload_n 0, 1) := dk_42 (dk_at dksX6_law_1 21 rfl rfl)
theorem dX6_law_45 : decode cX6_law 45 = .ok (.getfield 252, 3) := dk_180 0 252 (dk_at dksX6_law_2 0 rfl rfl)
theorem dX6_law_48 : decode cX6_law 48 = .ok (.if_icmp .ge 23, 3) := dk_162 0 23 (dk_at dksX6_law_2 3 rfl rfl)
theorem dX6_law_51 : decode cX6_law 51 = .ok (.aload_n 0, 1) := dk_42 (dk_at dksX6_law_2 6 rfl rfl)
theorem dX6_law_52 : decode cX6_law 52 = .ok (.getfield 100, 3) := dk_180 0 100 (dk_at dksX6_law_2 7 rfl rfl)
theorem dX6_law_55 : decode cX6_law 55 = .ok (.iload 4, 2) := dk_21 4 (dk_at dksX6_law_2 10 rfl rfl)
theorem dX6_law_57 : decode cX6_law 57 = .ok (.aload_n 0, 1) := dk_42 (dk_at dksX6_law_2 12 rfl rfl)
theorem dX6_law_58 : decode cX6_law 58 = .ok (.getfield 49, 3) := dk_180 0 49 (dk_at dksX6_law_2 13 rfl rfl)
theorem dX6_law_61 : decode cX6_law 61 = .ok (.iload 4, 2) := dk_21 4 (dk_at dksX6_law_2 16 rfl rfl)
theorem dX6_law_63 : decode cX6_law 63 = .ok (.iaload, 1) := dk_46 (dk_at dksX6_law_2 18 rfl rfl)
theorem dX6_law_64 : decode cX6_law 64 = .ok (.iastore, 1) := dk_79 (dk_at dksX6_law_2 19 rfl rfl)
theorem dX6_law_65 : decode cX6_law 65 = .ok (.iinc 4 1, 3) := dk_132 4 1 (dk_at dksX6_law_2 20 rfl rfl)
theorem dX6_law_68 : decode cX6_law 68 = .ok (.goto (-26), 3) := dk_167 255 230 (dk_at dksX6_law_3 0 rfl rfl)
theorem dX6_law_71 : decode cX6_law 71 = .ok (.aload_n 0, 1) := dk_42 (dk_at dksX6_law_3 3 rfl rfl)
theorem dX6_law_72 : decode cX6_law 72 = .ok (.aload_n 0, 1) := dk_42 (dk_at dksX6_law_3 4 rfl rfl)
theorem dX6_law_73 : decode cX6_law 73 = .ok (.getfield 52, 3) := dk_180 0 52 (dk_at dksX6_law_3 5 rfl rfl)
theorem dX6_law_76 : decode cX6_law 76 = .ok (.aload_n 0, 1) := dk_42 (dk_at dksX6_law_3 8 rfl rfl)
theorem dX6_law_77 : decode cX6_law 77 = .ok (.getfield 231, 3) := dk_180 0 231 (dk_at dksX6_law_3 9 rfl rfl)
theorem dX6_law_80 : decode cX6_law 80 = .ok (.invokevirtual 258, 3) := dk_182 1 2 (dk_at dksX6_law_3 12 rfl rfl)
theorem dX6_law_83 : decode cX6_law 83 = .ok (.aload_n 0, 1) := dk_42 (dk_at dksX6_law_3 15 rfl rfl)
theorem dX6_law_84 : decode cX6_law 84 = .ok (.invokevirtual 390, 3) := dk_182 1 134 (dk_at dksX6_law_3 16 rfl rfl)
theorem dX6_law_87 : decode cX6_law 87 = .ok (.aload_n 0, 1) := dk_42 (dk_at dksX6_law_3 19 rfl rfl)
theorem dX6_law_88 : decode cX6_law 88 = .ok (.invokevirtual 401, 3) := dk_182 1 145 (dk_at dksX6_law_3 20 rfl rfl)
theorem dX6_law_91 : decode cX6_law 91 = .ok (.invokestatic 279, 3) := dk_184 1 23 (dk_at dksX6_law_4 0 rfl rfl)
theorem dX6_law_94 : decode cX6_law 94 = .ok (.istore 4, 2) := dk_54 4 (dk_at dksX6_law_4 3 rfl rfl)
theorem dX6_law_96 : decode cX6_law 96 = .ok (.aload_n 0, 1) := dk_42 (dk_at dksX6_law_4 5 rfl rfl)
theorem dX6_law_97 : decode cX6_law 97 = .ok (.aload_n 0, 1) := dk_42 (dk_at dksX6_law_4 6 rfl rfl)
theorem dX6_law_98 : decode cX6_law 98 = .ok (.getfield 100, 3) := dk_180 0 100 (dk_at dksX6_law_4 7 rfl rfl)
theorem dX6_law_101 : decode cX6_law 101 = .ok (.iload_n 3, 1) := dk_29 (dk_at dksX6_law_4 10 rfl rfl)
theorem dX6_law_102 : decode cX6_law 102 = .ok (.invokevirtual 258, 3) := dk_182 1 2 (dk_at dksX6_law_4 11 rfl rfl)
theorem dX6_law_105 : decode cX6_law 105 = .ok (.aload_n 0, 1) := dk_42 (dk_at dksX6_law_4 14 rfl rfl)
theorem dX6_law_106 : decode cX6_law 106 = .ok (.iconst 0, 1) := dk_3 (dk_at dksX6_law_4 15 rfl rfl)
theorem dX6_law_107 : decode cX6_law 107 = .ok (.putfield 119, 3) := dk_181 0 119 (dk_at dksX6_law_4 16 rfl rfl)
theorem dX6_law_110 : decode cX6_law 110 = .ok (.aload_n 0, 1) := dk_42 (dk_at dksX6_law_4 19 rfl rfl)
theorem dX6_law_111 : decode cX6_law 111 = .ok (.iload 4, 2) := dk_21 4 (dk_at dksX6_law_4 20 rfl rfl)
theorem dX6_law_113 : decode cX6_law 113 = .ok (.i2l, 1) := dk_133 (dk_at dksX6_law_4 22 rfl rfl)
theorem dX6_law_114 : decode cX6_law 114 = .ok (.invokevirtual 358, 3) := dk_182 1 102 (dk_at dksX6_law_5 0 rfl rfl)
theorem dX6_law_117 : decode cX6_law 117 = .ok (.aload_n 0, 1) := dk_42 (dk_at dksX6_law_5 3 rfl rfl)
theorem dX6_law_118 : decode cX6_law 118 = .ok (.iload_n 2, 1) := dk_28 (dk_at dksX6_law_5 4 rfl rfl)
theorem dX6_law_119 : decode cX6_law 119 = .ok (.i2l, 1) := dk_133 (dk_at dksX6_law_5 5 rfl rfl)
theorem dX6_law_120 : decode cX6_law 120 = .ok (.invokevirtual 358, 3) := dk_182 1 102 (dk_at dksX6_law_5 6 rfl rfl)
theorem dX6_law_123 : decode cX6_law 123 = .ok (.iload 4, 2) := dk_21 4 (dk_at dksX6_law_5 9 rfl rfl)
theorem dX6_law_125 : decode cX6_law 125 = .ok (.iload_n 2, 1) := dk_28 (dk_at dksX6_law_5 11 rfl rfl)
theorem dX6_law_126 : decode cX6_law 126 = .ok (.isub, 1) := dk_100 (dk_at dksX6_law_5 12 rfl rfl)
theorem dX6_law_127 : decode cX6_law 127 = .ok (.ireturn, 1) := dk_172 (dk_at dksX6_law_5 13 rfl rfl)
abbrev cX6_rests : ByteArray := prog_15_method_99_code
def yX6_rests : MethodName := ⟨RX6, "rests", "(I)I"⟩
def dkwX6_rests_4 : List UInt8 := [167, 255, 191, 28, 172]
abbrev dktX6_rests_4 : List UInt8 := dkwX6_rests_4 ++ []
def dkwX6_rests_3 : List UInt8 := [182, 1, 102, 42, 21, 4, 133, 182, 1, 102, 132, 2, 1, 132, 4, 1, 167, 255, 206, 132, 3, 1]
abbrev dktX6_rests_3 : List UInt8 := dkwX6_rests_3 ++ dktX6_rests_4
def dkwX6_rests_2 : List UInt8 := [27, 184, 1, 183, 153, 0, 33, 21, 4, 29, 27, 184, 1, 183, 153, 0, 23, 28, 154, 0, 16, 42, 29, 133]
abbrev dktX6_rests_2 : List UInt8 := dkwX6_rests_2 ++ dktX6_rests_3
def dkwX6_rests_1 : List UInt8 := [181, 0, 119, 3, 62, 29, 16, 9, 163, 0, 65, 3, 54, 4, 21, 4, 16, 9, 163, 0, 49, 29, 21, 4]
abbrev dktX6_rests_1 : List UInt8 := dkwX6_rests_1 ++ dktX6_rests_2
def dkwX6_rests_0 : List UInt8 := [42, 3, 181, 0, 112, 27, 133, 9, 20, 1, 181, 184, 0, 125, 154, 0, 5, 2, 172, 3, 61, 42, 3]
abbrev dktX6_rests_0 : List UInt8 := dkwX6_rests_0 ++ dktX6_rests_1
theorem dksX6_rests_0 : cX6_rests.data.toList.drop 0 = dktX6_rests_0 := by decide +kernel
theorem dksX6_rests_1 : cX6_rests.data.toList.drop 23 = dktX6_rests_1 := dk_seg dksX6_rests_0 23 rfl rfl
theorem dksX6_rests_2 : cX6_rests.data.toList.drop 47 = dktX6_rests_2 := dk_seg dksX6_rests_1 24 rfl rfl
theorem dksX6_rests_3 : cX6_rests.data.toList.drop 71 = dktX6_rests_3 := dk_seg dksX6_rests_2 24 rfl rfl
theorem dksX6_rests_4 : cX6_rests.data.toList.drop 93 = dktX6_rests_4 := dk_seg dksX6_rests_3 22 rfl rfl
theorem dX6_rests_0 : decode cX6_rests 0 = .ok (.aload_n 0, 1) := dk_42 (dk_at dksX6_rests_0 0 rfl rfl)
theorem dX6_rests_1 : decode cX6_rests 1 = .ok (.iconst 0, 1) := dk_3 (dk_at dksX6_rests_0 1 rfl rfl)
theorem dX6_rests_2 : decode cX6_rests 2 = .ok (.putfield 112, 3) := dk_181 0 112 (dk_at dksX6_rests_0 2 rfl rfl)
theorem dX6_rests_5 : decode cX6_rests 5 = .ok (.iload_n 1, 1) := dk_27 (dk_at dksX6_rests_0 5 rfl rfl)
theorem dX6_rests_6 : decode cX6_rests 6 = .ok (.i2l, 1) := dk_133 (dk_at dksX6_rests_0 6 rfl rfl)
theorem dX6_rests_7 : decode cX6_rests 7 = .ok (.lconst 0, 1) := dk_9 (dk_at dksX6_rests_0 7 rfl rfl)
theorem dX6_rests_8 : decode cX6_rests 8 = .ok (.ldc2_w 437, 3) := dk_20 1 181 (dk_at dksX6_rests_0 8 rfl rfl)
theorem dX6_rests_11 : decode cX6_rests 11 = .ok (.invokestatic 125, 3) := dk_184 0 125 (dk_at dksX6_rests_0 11 rfl rfl)
theorem dX6_rests_14 : decode cX6_rests 14 = .ok (.ifCond .ne 5, 3) := dk_154 0 5 (dk_at dksX6_rests_0 14 rfl rfl)
theorem dX6_rests_17 : decode cX6_rests 17 = .ok (.iconst (-1), 1) := dk_2 (dk_at dksX6_rests_0 17 rfl rfl)
theorem dX6_rests_18 : decode cX6_rests 18 = .ok (.ireturn, 1) := dk_172 (dk_at dksX6_rests_0 18 rfl rfl)
theorem dX6_rests_19 : decode cX6_rests 19 = .ok (.iconst 0, 1) := dk_3 (dk_at dksX6_rests_0 19 rfl rfl)
theorem dX6_rests_20 : decode cX6_rests 20 = .ok (.istore_n 2, 1) := dk_61 (dk_at dksX6_rests_0 20 rfl rfl)
theorem dX6_rests_21 : decode cX6_rests 21 = .ok (.aload_n 0, 1) := dk_42 (dk_at dksX6_rests_0 21 rfl rfl)
theorem dX6_rests_22 : decode cX6_rests 22 = .ok (.iconst 0, 1) := dk_3 (dk_at dksX6_rests_0 22 rfl rfl)
theorem dX6_rests_23 : decode cX6_rests 23 = .ok (.putfield 119, 3) := dk_181 0 119 (dk_at dksX6_rests_1 0 rfl rfl)
theorem dX6_rests_26 : decode cX6_rests 26 = .ok (.iconst 0, 1) := dk_3 (dk_at dksX6_rests_1 3 rfl rfl)
theorem dX6_rests_27 : decode cX6_rests 27 = .ok (.istore_n 3, 1) := dk_62 (dk_at dksX6_rests_1 4 rfl rfl)
theorem dX6_rests_28 : decode cX6_rests 28 = .ok (.iload_n 3, 1) := dk_29 (dk_at dksX6_rests_1 5 rfl rfl)
theorem dX6_rests_29 : decode cX6_rests 29 = .ok (.bipush 9, 2) := dk_16 9 (dk_at dksX6_rests_1 6 rfl rfl)
theorem dX6_rests_31 : decode cX6_rests 31 = .ok (.if_icmp .gt 65, 3) := dk_163 0 65 (dk_at dksX6_rests_1 8 rfl rfl)
theorem dX6_rests_34 : decode cX6_rests 34 = .ok (.iconst 0, 1) := dk_3 (dk_at dksX6_rests_1 11 rfl rfl)
theorem dX6_rests_35 : decode cX6_rests 35 = .ok (.istore 4, 2) := dk_54 4 (dk_at dksX6_rests_1 12 rfl rfl)
theorem dX6_rests_37 : decode cX6_rests 37 = .ok (.iload 4, 2) := dk_21 4 (dk_at dksX6_rests_1 14 rfl rfl)
theorem dX6_rests_39 : decode cX6_rests 39 = .ok (.bipush 9, 2) := dk_16 9 (dk_at dksX6_rests_1 16 rfl rfl)
theorem dX6_rests_41 : decode cX6_rests 41 = .ok (.if_icmp .gt 49, 3) := dk_163 0 49 (dk_at dksX6_rests_1 18 rfl rfl)
theorem dX6_rests_44 : decode cX6_rests 44 = .ok (.iload_n 3, 1) := dk_29 (dk_at dksX6_rests_1 21 rfl rfl)
theorem dX6_rests_45 : decode cX6_rests 45 = .ok (.iload 4, 2) := dk_21 4 (dk_at dksX6_rests_1 22 rfl rfl)
theorem dX6_rests_47 : decode cX6_rests 47 = .ok (.iload_n 1, 1) := dk_27 (dk_at dksX6_rests_2 0 rfl rfl)
theorem dX6_rests_48 : decode cX6_rests 48 = .ok (.invokestatic 439, 3) := dk_184 1 183 (dk_at dksX6_rests_2 1 rfl rfl)
theorem dX6_rests_51 : decode cX6_rests 51 = .ok (.ifCond .eq 33, 3) := dk_153 0 33 (dk_at dksX6_rests_2 4 rfl rfl)
theorem dX6_rests_54 : decode cX6_rests 54 = .ok (.iload 4, 2) := dk_21 4 (dk_at dksX6_rests_2 7 rfl rfl)
theorem dX6_rests_56 : decode cX6_rests 56 = .ok (.iload_n 3, 1) := dk_29 (dk_at dksX6_rests_2 9 rfl rfl)
theorem dX6_rests_57 : decode cX6_rests 57 = .ok (.iload_n 1, 1) := dk_27 (dk_at dksX6_rests_2 10 rfl rfl)
theorem dX6_rests_58 : decode cX6_rests 58 = .ok (.invokestatic 439, 3) := dk_184 1 183 (dk_at dksX6_rests_2 11 rfl rfl)
theorem dX6_rests_61 : decode cX6_rests 61 = .ok (.ifCond .eq 23, 3) := dk_153 0 23 (dk_at dksX6_rests_2 14 rfl rfl)
theorem dX6_rests_64 : decode cX6_rests 64 = .ok (.iload_n 2, 1) := dk_28 (dk_at dksX6_rests_2 17 rfl rfl)
theorem dX6_rests_65 : decode cX6_rests 65 = .ok (.ifCond .ne 16, 3) := dk_154 0 16 (dk_at dksX6_rests_2 18 rfl rfl)
theorem dX6_rests_68 : decode cX6_rests 68 = .ok (.aload_n 0, 1) := dk_42 (dk_at dksX6_rests_2 21 rfl rfl)
theorem dX6_rests_69 : decode cX6_rests 69 = .ok (.iload_n 3, 1) := dk_29 (dk_at dksX6_rests_2 22 rfl rfl)
theorem dX6_rests_70 : decode cX6_rests 70 = .ok (.i2l, 1) := dk_133 (dk_at dksX6_rests_2 23 rfl rfl)
theorem dX6_rests_71 : decode cX6_rests 71 = .ok (.invokevirtual 358, 3) := dk_182 1 102 (dk_at dksX6_rests_3 0 rfl rfl)
theorem dX6_rests_74 : decode cX6_rests 74 = .ok (.aload_n 0, 1) := dk_42 (dk_at dksX6_rests_3 3 rfl rfl)
theorem dX6_rests_75 : decode cX6_rests 75 = .ok (.iload 4, 2) := dk_21 4 (dk_at dksX6_rests_3 4 rfl rfl)
theorem dX6_rests_77 : decode cX6_rests 77 = .ok (.i2l, 1) := dk_133 (dk_at dksX6_rests_3 6 rfl rfl)
theorem dX6_rests_78 : decode cX6_rests 78 = .ok (.invokevirtual 358, 3) := dk_182 1 102 (dk_at dksX6_rests_3 7 rfl rfl)
theorem dX6_rests_81 : decode cX6_rests 81 = .ok (.iinc 2 1, 3) := dk_132 2 1 (dk_at dksX6_rests_3 10 rfl rfl)
theorem dX6_rests_84 : decode cX6_rests 84 = .ok (.iinc 4 1, 3) := dk_132 4 1 (dk_at dksX6_rests_3 13 rfl rfl)
theorem dX6_rests_87 : decode cX6_rests 87 = .ok (.goto (-50), 3) := dk_167 255 206 (dk_at dksX6_rests_3 16 rfl rfl)
theorem dX6_rests_90 : decode cX6_rests 90 = .ok (.iinc 3 1, 3) := dk_132 3 1 (dk_at dksX6_rests_3 19 rfl rfl)
theorem dX6_rests_93 : decode cX6_rests 93 = .ok (.goto (-65), 3) := dk_167 255 191 (dk_at dksX6_rests_4 0 rfl rfl)
theorem dX6_rests_96 : decode cX6_rests 96 = .ok (.iload_n 2, 1) := dk_28 (dk_at dksX6_rests_4 3 rfl rfl)
theorem dX6_rests_97 : decode cX6_rests 97 = .ok (.ireturn, 1) := dk_172 (dk_at dksX6_rests_4 4 rfl rfl)
abbrev cX6_isRest : ByteArray := prog_15_method_98_code
def yX6_isRest : MethodName := ⟨RX6, "isRest", "(III)Z"⟩
def dkwX6_isRest_1 : List UInt8 := [27, 28, 184, 1, 178, 163, 0, 7, 4, 167, 0, 4, 3, 62, 132, 4, 1, 167, 255, 220, 29, 172]
abbrev dktX6_isRest_1 : List UInt8 := dkwX6_isRest_1 ++ []
def dkwX6_isRest_0 : List UInt8 := [4, 62, 3, 54, 4, 21, 4, 16, 9, 163, 0, 35, 29, 153, 0, 23, 21, 4, 27, 28, 184, 1, 178, 26]
abbrev dktX6_isRest_0 : List UInt8 := dkwX6_isRest_0 ++ dktX6_isRest_1
theorem dksX6_isRest_0 : cX6_isRest.data.toList.drop 0 = dktX6_isRest_0 := by decide +kernel
theorem dksX6_isRest_1 : cX6_isRest.data.toList.drop 24 = dktX6_isRest_1 := dk_seg dksX6_isRest_0 24 rfl rfl
theorem dX6_isRest_0 : decode cX6_isRest 0 = .ok (.iconst 1, 1) := dk_4 (dk_at dksX6_isRest_0 0 rfl rfl)
theorem dX6_isRest_1 : decode cX6_isRest 1 = .ok (.istore_n 3, 1) := dk_62 (dk_at dksX6_isRest_0 1 rfl rfl)
theorem dX6_isRest_2 : decode cX6_isRest 2 = .ok (.iconst 0, 1) := dk_3 (dk_at dksX6_isRest_0 2 rfl rfl)
theorem dX6_isRest_3 : decode cX6_isRest 3 = .ok (.istore 4, 2) := dk_54 4 (dk_at dksX6_isRest_0 3 rfl rfl)
theorem dX6_isRest_5 : decode cX6_isRest 5 = .ok (.iload 4, 2) := dk_21 4 (dk_at dksX6_isRest_0 5 rfl rfl)
theorem dX6_isRest_7 : decode cX6_isRest 7 = .ok (.bipush 9, 2) := dk_16 9 (dk_at dksX6_isRest_0 7 rfl rfl)
theorem dX6_isRest_9 : decode cX6_isRest 9 = .ok (.if_icmp .gt 35, 3) := dk_163 0 35 (dk_at dksX6_isRest_0 9 rfl rfl)
theorem dX6_isRest_12 : decode cX6_isRest 12 = .ok (.iload_n 3, 1) := dk_29 (dk_at dksX6_isRest_0 12 rfl rfl)
theorem dX6_isRest_13 : decode cX6_isRest 13 = .ok (.ifCond .eq 23, 3) := dk_153 0 23 (dk_at dksX6_isRest_0 13 rfl rfl)
theorem dX6_isRest_16 : decode cX6_isRest 16 = .ok (.iload 4, 2) := dk_21 4 (dk_at dksX6_isRest_0 16 rfl rfl)
theorem dX6_isRest_18 : decode cX6_isRest 18 = .ok (.iload_n 1, 1) := dk_27 (dk_at dksX6_isRest_0 18 rfl rfl)
theorem dX6_isRest_19 : decode cX6_isRest 19 = .ok (.iload_n 2, 1) := dk_28 (dk_at dksX6_isRest_0 19 rfl rfl)
theorem dX6_isRest_20 : decode cX6_isRest 20 = .ok (.invokestatic 434, 3) := dk_184 1 178 (dk_at dksX6_isRest_0 20 rfl rfl)
theorem dX6_isRest_23 : decode cX6_isRest 23 = .ok (.iload_n 0, 1) := dk_26 (dk_at dksX6_isRest_0 23 rfl rfl)
theorem dX6_isRest_24 : decode cX6_isRest 24 = .ok (.iload_n 1, 1) := dk_27 (dk_at dksX6_isRest_1 0 rfl rfl)
theorem dX6_isRest_25 : decode cX6_isRest 25 = .ok (.iload_n 2, 1) := dk_28 (dk_at dksX6_isRest_1 1 rfl rfl)
theorem dX6_isRest_26 : decode cX6_isRest 26 = .ok (.invokestatic 434, 3) := dk_184 1 178 (dk_at dksX6_isRest_1 2 rfl rfl)
theorem dX6_isRest_29 : decode cX6_isRest 29 = .ok (.if_icmp .gt 7, 3) := dk_163 0 7 (dk_at dksX6_isRest_1 5 rfl rfl)
theorem dX6_isRest_32 : decode cX6_isRest 32 = .ok (.iconst 1, 1) := dk_4 (dk_at dksX6_isRest_1 8 rfl rfl)
theorem dX6_isRest_33 : decode cX6_isRest 33 = .ok (.goto 4, 3) := dk_167 0 4 (dk_at dksX6_isRest_1 9 rfl rfl)
theorem dX6_isRest_36 : decode cX6_isRest 36 = .ok (.iconst 0, 1) := dk_3 (dk_at dksX6_isRest_1 12 rfl rfl)
theorem dX6_isRest_37 : decode cX6_isRest 37 = .ok (.istore_n 3, 1) := dk_62 (dk_at dksX6_isRest_1 13 rfl rfl)
theorem dX6_isRest_38 : decode cX6_isRest 38 = .ok (.iinc 4 1, 3) := dk_132 4 1 (dk_at dksX6_isRest_1 14 rfl rfl)
theorem dX6_isRest_41 : decode cX6_isRest 41 = .ok (.goto (-36), 3) := dk_167 255 220 (dk_at dksX6_isRest_1 17 rfl rfl)
theorem dX6_isRest_44 : decode cX6_isRest 44 = .ok (.iload_n 3, 1) := dk_29 (dk_at dksX6_isRest_1 20 rfl rfl)
theorem dX6_isRest_45 : decode cX6_isRest 45 = .ok (.ireturn, 1) := dk_172 (dk_at dksX6_isRest_1 21 rfl rfl)
abbrev cX6_gets : ByteArray := prog_15_method_97_code
def yX6_gets : MethodName := ⟨RX6, "gets", "(III)I"⟩
def dkwX6_gets_1 : List UInt8 := [26, 5, 27, 104, 164, 0, 7, 4, 167, 0, 4, 3, 184, 0, 154, 104, 100, 172]
abbrev dktX6_gets_1 : List UInt8 := dkwX6_gets_1 ++ []
def dkwX6_gets_0 : List UInt8 := [26, 27, 164, 0, 7, 28, 167, 0, 15, 26, 27, 160, 0, 9, 28, 5, 108, 167, 0, 4, 3, 26, 100, 6]
abbrev dktX6_gets_0 : List UInt8 := dkwX6_gets_0 ++ dktX6_gets_1
theorem dksX6_gets_0 : cX6_gets.data.toList.drop 0 = dktX6_gets_0 := by decide +kernel
theorem dksX6_gets_1 : cX6_gets.data.toList.drop 24 = dktX6_gets_1 := dk_seg dksX6_gets_0 24 rfl rfl
theorem dX6_gets_0 : decode cX6_gets 0 = .ok (.iload_n 0, 1) := dk_26 (dk_at dksX6_gets_0 0 rfl rfl)
theorem dX6_gets_1 : decode cX6_gets 1 = .ok (.iload_n 1, 1) := dk_27 (dk_at dksX6_gets_0 1 rfl rfl)
theorem dX6_gets_2 : decode cX6_gets 2 = .ok (.if_icmp .le 7, 3) := dk_164 0 7 (dk_at dksX6_gets_0 2 rfl rfl)
theorem dX6_gets_5 : decode cX6_gets 5 = .ok (.iload_n 2, 1) := dk_28 (dk_at dksX6_gets_0 5 rfl rfl)
theorem dX6_gets_6 : decode cX6_gets 6 = .ok (.goto 15, 3) := dk_167 0 15 (dk_at dksX6_gets_0 6 rfl rfl)
theorem dX6_gets_9 : decode cX6_gets 9 = .ok (.iload_n 0, 1) := dk_26 (dk_at dksX6_gets_0 9 rfl rfl)
theorem dX6_gets_10 : decode cX6_gets 10 = .ok (.iload_n 1, 1) := dk_27 (dk_at dksX6_gets_0 10 rfl rfl)
theorem dX6_gets_11 : decode cX6_gets 11 = .ok (.if_icmp .ne 9, 3) := dk_160 0 9 (dk_at dksX6_gets_0 11 rfl rfl)
theorem dX6_gets_14 : decode cX6_gets 14 = .ok (.iload_n 2, 1) := dk_28 (dk_at dksX6_gets_0 14 rfl rfl)
theorem dX6_gets_15 : decode cX6_gets 15 = .ok (.iconst 2, 1) := dk_5 (dk_at dksX6_gets_0 15 rfl rfl)
theorem dX6_gets_16 : decode cX6_gets 16 = .ok (.idiv, 1) := dk_108 (dk_at dksX6_gets_0 16 rfl rfl)
theorem dX6_gets_17 : decode cX6_gets 17 = .ok (.goto 4, 3) := dk_167 0 4 (dk_at dksX6_gets_0 17 rfl rfl)
theorem dX6_gets_20 : decode cX6_gets 20 = .ok (.iconst 0, 1) := dk_3 (dk_at dksX6_gets_0 20 rfl rfl)
theorem dX6_gets_21 : decode cX6_gets 21 = .ok (.iload_n 0, 1) := dk_26 (dk_at dksX6_gets_0 21 rfl rfl)
theorem dX6_gets_22 : decode cX6_gets 22 = .ok (.isub, 1) := dk_100 (dk_at dksX6_gets_0 22 rfl rfl)
theorem dX6_gets_23 : decode cX6_gets 23 = .ok (.iconst 3, 1) := dk_6 (dk_at dksX6_gets_0 23 rfl rfl)
theorem dX6_gets_24 : decode cX6_gets 24 = .ok (.iload_n 0, 1) := dk_26 (dk_at dksX6_gets_1 0 rfl rfl)
theorem dX6_gets_25 : decode cX6_gets 25 = .ok (.iconst 2, 1) := dk_5 (dk_at dksX6_gets_1 1 rfl rfl)
theorem dX6_gets_26 : decode cX6_gets 26 = .ok (.iload_n 1, 1) := dk_27 (dk_at dksX6_gets_1 2 rfl rfl)
theorem dX6_gets_27 : decode cX6_gets 27 = .ok (.imul, 1) := dk_104 (dk_at dksX6_gets_1 3 rfl rfl)
theorem dX6_gets_28 : decode cX6_gets 28 = .ok (.if_icmp .le 7, 3) := dk_164 0 7 (dk_at dksX6_gets_1 4 rfl rfl)
theorem dX6_gets_31 : decode cX6_gets 31 = .ok (.iconst 1, 1) := dk_4 (dk_at dksX6_gets_1 7 rfl rfl)
theorem dX6_gets_32 : decode cX6_gets 32 = .ok (.goto 4, 3) := dk_167 0 4 (dk_at dksX6_gets_1 8 rfl rfl)
theorem dX6_gets_35 : decode cX6_gets 35 = .ok (.iconst 0, 1) := dk_3 (dk_at dksX6_gets_1 11 rfl rfl)
theorem dX6_gets_36 : decode cX6_gets 36 = .ok (.invokestatic 154, 3) := dk_184 0 154 (dk_at dksX6_gets_1 12 rfl rfl)
theorem dX6_gets_39 : decode cX6_gets 39 = .ok (.imul, 1) := dk_104 (dk_at dksX6_gets_1 15 rfl rfl)
theorem dX6_gets_40 : decode cX6_gets 40 = .ok (.isub, 1) := dk_100 (dk_at dksX6_gets_1 16 rfl rfl)
theorem dX6_gets_41 : decode cX6_gets 41 = .ok (.ireturn, 1) := dk_172 (dk_at dksX6_gets_1 17 rfl rfl)
abbrev cX6_years : ByteArray := prog_15_method_101_code
def yX6_years : MethodName := ⟨RX6, "years", "(II)I"⟩
def dkwX6_years_7 : List UInt8 := [184, 1, 23, 133, 182, 1, 102, 42, 180, 0, 34, 16, 12, 46, 172]
abbrev dktX6_years_7 : List UInt8 := dkwX6_years_7 ++ []
def dkwX6_years_6 : List UInt8 := [3, 181, 0, 119, 42, 29, 184, 1, 23, 133, 182, 1, 102, 42, 42, 42, 180, 0, 34, 4, 182, 1, 141]
abbrev dktX6_years_6 : List UInt8 := dkwX6_years_6 ++ dktX6_years_7
def dkwX6_years_5 : List UInt8 := [167, 255, 169, 42, 42, 180, 0, 34, 4, 182, 1, 141, 42, 42, 180, 0, 34, 3, 182, 1, 141, 128, 62, 42]
abbrev dktX6_years_5 : List UInt8 := dkwX6_years_5 ++ dktX6_years_6
def dkwX6_years_4 : List UInt8 := [167, 0, 21, 42, 42, 180, 0, 34, 21, 5, 42, 8, 182, 1, 190, 5, 100, 182, 1, 112, 87, 132, 3, 1]
abbrev dktX6_years_4 : List UInt8 := dkwX6_years_4 ++ dktX6_years_5
def dkwX6_years_3 : List UInt8 := [182, 1, 190, 54, 5, 21, 4, 5, 160, 0, 17, 42, 42, 180, 0, 34, 21, 5, 182, 1, 106, 87]
abbrev dktX6_years_3 : List UInt8 := dkwX6_years_3 ++ dktX6_years_4
def dkwX6_years_2 : List UInt8 := [42, 42, 180, 0, 34, 182, 1, 87, 167, 0, 58, 42, 180, 0, 129, 158, 0, 51, 42, 42, 180, 0, 129]
abbrev dktX6_years_2 : List UInt8 := dkwX6_years_2 ++ dktX6_years_3
def dkwX6_years_1 : List UInt8 := [42, 182, 1, 134, 3, 62, 29, 28, 162, 0, 88, 42, 7, 182, 1, 190, 54, 4, 21, 4, 5, 162, 0, 14]
abbrev dktX6_years_1 : List UInt8 := dkwX6_years_1 ++ dktX6_years_2
def dkwX6_years_0 : List UInt8 := [42, 3, 181, 0, 112, 28, 133, 10, 20, 1, 94, 184, 0, 125, 154, 0, 5, 2, 172, 42, 27, 181, 1, 186]
abbrev dktX6_years_0 : List UInt8 := dkwX6_years_0 ++ dktX6_years_1
theorem dksX6_years_0 : cX6_years.data.toList.drop 0 = dktX6_years_0 := by decide +kernel
theorem dksX6_years_1 : cX6_years.data.toList.drop 24 = dktX6_years_1 := dk_seg dksX6_years_0 24 rfl rfl
theorem dksX6_years_2 : cX6_years.data.toList.drop 48 = dktX6_years_2 := dk_seg dksX6_years_1 24 rfl rfl
theorem dksX6_years_3 : cX6_years.data.toList.drop 71 = dktX6_years_3 := dk_seg dksX6_years_2 23 rfl rfl
theorem dksX6_years_4 : cX6_years.data.toList.drop 93 = dktX6_years_4 := dk_seg dksX6_years_3 22 rfl rfl
theorem dksX6_years_5 : cX6_years.data.toList.drop 117 = dktX6_years_5 := dk_seg dksX6_years_4 24 rfl rfl
theorem dksX6_years_6 : cX6_years.data.toList.drop 141 = dktX6_years_6 := dk_seg dksX6_years_5 24 rfl rfl
theorem dksX6_years_7 : cX6_years.data.toList.drop 164 = dktX6_years_7 := dk_seg dksX6_years_6 23 rfl rfl
theorem dX6_years_0 : decode cX6_years 0 = .ok (.aload_n 0, 1) := dk_42 (dk_at dksX6_years_0 0 rfl rfl)
theorem dX6_years_1 : decode cX6_years 1 = .ok (.iconst 0, 1) := dk_3 (dk_at dksX6_years_0 1 rfl rfl)
theorem dX6_years_2 : decode cX6_years 2 = .ok (.putfield 112, 3) := dk_181 0 112 (dk_at dksX6_years_0 2 rfl rfl)
theorem dX6_years_5 : decode cX6_years 5 = .ok (.iload_n 2, 1) := dk_28 (dk_at dksX6_years_0 5 rfl rfl)
theorem dX6_years_6 : decode cX6_years 6 = .ok (.i2l, 1) := dk_133 (dk_at dksX6_years_0 6 rfl rfl)
theorem dX6_years_7 : decode cX6_years 7 = .ok (.lconst 1, 1) := dk_10 (dk_at dksX6_years_0 7 rfl rfl)
theorem dX6_years_8 : decode cX6_years 8 = .ok (.ldc2_w 350, 3) := dk_20 1 94 (dk_at dksX6_years_0 8 rfl rfl)
theorem dX6_years_11 : decode cX6_years 11 = .ok (.invokestatic 125, 3) := dk_184 0 125 (dk_at dksX6_years_0 11 rfl rfl)
theorem dX6_years_14 : decode cX6_years 14 = .ok (.ifCond .ne 5, 3) := dk_154 0 5 (dk_at dksX6_years_0 14 rfl rfl)
theorem dX6_years_17 : decode cX6_years 17 = .ok (.iconst (-1), 1) := dk_2 (dk_at dksX6_years_0 17 rfl rfl)
theorem dX6_years_18 : decode cX6_years 18 = .ok (.ireturn, 1) := dk_172 (dk_at dksX6_years_0 18 rfl rfl)
theorem dX6_years_19 : decode cX6_years 19 = .ok (.aload_n 0, 1) := dk_42 (dk_at dksX6_years_0 19 rfl rfl)
theorem dX6_years_20 : decode cX6_years 20 = .ok (.iload_n 1, 1) := dk_27 (dk_at dksX6_years_0 20 rfl rfl)
theorem dX6_years_21 : decode cX6_years 21 = .ok (.putfield 442, 3) := dk_181 1 186 (dk_at dksX6_years_0 21 rfl rfl)
theorem dX6_years_24 : decode cX6_years 24 = .ok (.aload_n 0, 1) := dk_42 (dk_at dksX6_years_1 0 rfl rfl)
theorem dX6_years_25 : decode cX6_years 25 = .ok (.invokevirtual 390, 3) := dk_182 1 134 (dk_at dksX6_years_1 1 rfl rfl)
theorem dX6_years_28 : decode cX6_years 28 = .ok (.iconst 0, 1) := dk_3 (dk_at dksX6_years_1 4 rfl rfl)
theorem dX6_years_29 : decode cX6_years 29 = .ok (.istore_n 3, 1) := dk_62 (dk_at dksX6_years_1 5 rfl rfl)
theorem dX6_years_30 : decode cX6_years 30 = .ok (.iload_n 3, 1) := dk_29 (dk_at dksX6_years_1 6 rfl rfl)
theorem dX6_years_31 : decode cX6_years 31 = .ok (.iload_n 2, 1) := dk_28 (dk_at dksX6_years_1 7 rfl rfl)
theorem dX6_years_32 : decode cX6_years 32 = .ok (.if_icmp .ge 88, 3) := dk_162 0 88 (dk_at dksX6_years_1 8 rfl rfl)
theorem dX6_years_35 : decode cX6_years 35 = .ok (.aload_n 0, 1) := dk_42 (dk_at dksX6_years_1 11 rfl rfl)
theorem dX6_years_36 : decode cX6_years 36 = .ok (.iconst 4, 1) := dk_7 (dk_at dksX6_years_1 12 rfl rfl)
theorem dX6_years_37 : decode cX6_years 37 = .ok (.invokevirtual 446, 3) := dk_182 1 190 (dk_at dksX6_years_1 13 rfl rfl)
theorem dX6_years_40 : decode cX6_years 40 = .ok (.istore 4, 2) := dk_54 4 (dk_at dksX6_years_1 16 rfl rfl)
theorem dX6_years_42 : decode cX6_years 42 = .ok (.iload 4, 2) := dk_21 4 (dk_at dksX6_years_1 18 rfl rfl)
theorem dX6_years_44 : decode cX6_years 44 = .ok (.iconst 2, 1) := dk_5 (dk_at dksX6_years_1 20 rfl rfl)
theorem dX6_years_45 : decode cX6_years 45 = .ok (.if_icmp .ge 14, 3) := dk_162 0 14 (dk_at dksX6_years_1 21 rfl rfl)
theorem dX6_years_48 : decode cX6_years 48 = .ok (.aload_n 0, 1) := dk_42 (dk_at dksX6_years_2 0 rfl rfl)
theorem dX6_years_49 : decode cX6_years 49 = .ok (.aload_n 0, 1) := dk_42 (dk_at dksX6_years_2 1 rfl rfl)
theorem dX6_years_50 : decode cX6_years 50 = .ok (.getfield 34, 3) := dk_180 0 34 (dk_at dksX6_years_2 2 rfl rfl)
theorem dX6_years_53 : decode cX6_years 53 = .ok (.invokevirtual 343, 3) := dk_182 1 87 (dk_at dksX6_years_2 5 rfl rfl)
theorem dX6_years_56 : decode cX6_years 56 = .ok (.goto 58, 3) := dk_167 0 58 (dk_at dksX6_years_2 8 rfl rfl)
theorem dX6_years_59 : decode cX6_years 59 = .ok (.aload_n 0, 1) := dk_42 (dk_at dksX6_years_2 11 rfl rfl)
theorem dX6_years_60 : decode cX6_years 60 = .ok (.getfield 129, 3) := dk_180 0 129 (dk_at dksX6_years_2 12 rfl rfl)
theorem dX6_years_63 : decode cX6_years 63 = .ok (.ifCond .le 51, 3) := dk_158 0 51 (dk_at dksX6_years_2 15 rfl rfl)
theorem dX6_years_66 : decode cX6_years 66 = .ok (.aload_n 0, 1) := dk_42 (dk_at dksX6_years_2 18 rfl rfl)
theorem dX6_years_67 : decode cX6_years 67 = .ok (.aload_n 0, 1) := dk_42 (dk_at dksX6_years_2 19 rfl rfl)
theorem dX6_years_68 : decode cX6_years 68 = .ok (.getfield 129, 3) := dk_180 0 129 (dk_at dksX6_years_2 20 rfl rfl)
theorem dX6_years_71 : decode cX6_years 71 = .ok (.invokevirtual 446, 3) := dk_182 1 190 (dk_at dksX6_years_3 0 rfl rfl)
theorem dX6_years_74 : decode cX6_years 74 = .ok (.istore 5, 2) := dk_54 5 (dk_at dksX6_years_3 3 rfl rfl)
theorem dX6_years_76 : decode cX6_years 76 = .ok (.iload 4, 2) := dk_21 4 (dk_at dksX6_years_3 5 rfl rfl)
theorem dX6_years_78 : decode cX6_years 78 = .ok (.iconst 2, 1) := dk_5 (dk_at dksX6_years_3 7 rfl rfl)
theorem dX6_years_79 : decode cX6_years 79 = .ok (.if_icmp .ne 17, 3) := dk_160 0 17 (dk_at dksX6_years_3 8 rfl rfl)
theorem dX6_years_82 : decode cX6_years 82 = .ok (.aload_n 0, 1) := dk_42 (dk_at dksX6_years_3 11 rfl rfl)
theorem dX6_years_83 : decode cX6_years 83 = .ok (.aload_n 0, 1) := dk_42 (dk_at dksX6_years_3 12 rfl rfl)
theorem dX6_years_84 : decode cX6_years 84 = .ok (.getfield 34, 3) := dk_180 0 34 (dk_at dksX6_years_3 13 rfl rfl)
theorem dX6_years_87 : decode cX6_years 87 = .ok (.iload 5, 2) := dk_21 5 (dk_at dksX6_years_3 16 rfl rfl)
theorem dX6_years_89 : decode cX6_years 89 = .ok (.invokevirtual 362, 3) := dk_182 1 106 (dk_at dksX6_years_3 18 rfl rfl)
theorem dX6_years_92 : decode cX6_years 92 = .ok (.pop, 1) := dk_87 (dk_at dksX6_years_3 21 rfl rfl)
theorem dX6_years_93 : decode cX6_years 93 = .ok (.goto 21, 3) := dk_167 0 21 (dk_at dksX6_years_4 0 rfl rfl)
theorem dX6_years_96 : decode cX6_years 96 = .ok (.aload_n 0, 1) := dk_42 (dk_at dksX6_years_4 3 rfl rfl)
theorem dX6_years_97 : decode cX6_years 97 = .ok (.aload_n 0, 1) := dk_42 (dk_at dksX6_years_4 4 rfl rfl)
theorem dX6_years_98 : decode cX6_years 98 = .ok (.getfield 34, 3) := dk_180 0 34 (dk_at dksX6_years_4 5 rfl rfl)
theorem dX6_years_101 : decode cX6_years 101 = .ok (.iload 5, 2) := dk_21 5 (dk_at dksX6_years_4 8 rfl rfl)
theorem dX6_years_103 : decode cX6_years 103 = .ok (.aload_n 0, 1) := dk_42 (dk_at dksX6_years_4 10 rfl rfl)
theorem dX6_years_104 : decode cX6_years 104 = .ok (.iconst 5, 1) := dk_8 (dk_at dksX6_years_4 11 rfl rfl)
theorem dX6_years_105 : decode cX6_years 105 = .ok (.invokevirtual 446, 3) := dk_182 1 190 (dk_at dksX6_years_4 12 rfl rfl)
theorem dX6_years_108 : decode cX6_years 108 = .ok (.iconst 2, 1) := dk_5 (dk_at dksX6_years_4 15 rfl rfl)
theorem dX6_years_109 : decode cX6_years 109 = .ok (.isub, 1) := dk_100 (dk_at dksX6_years_4 16 rfl rfl)
theorem dX6_years_110 : decode cX6_years 110 = .ok (.invokevirtual 368, 3) := dk_182 1 112 (dk_at dksX6_years_4 17 rfl rfl)
theorem dX6_years_113 : decode cX6_years 113 = .ok (.pop, 1) := dk_87 (dk_at dksX6_years_4 20 rfl rfl)
theorem dX6_years_114 : decode cX6_years 114 = .ok (.iinc 3 1, 3) := dk_132 3 1 (dk_at dksX6_years_4 21 rfl rfl)
theorem dX6_years_117 : decode cX6_years 117 = .ok (.goto (-87), 3) := dk_167 255 169 (dk_at dksX6_years_5 0 rfl rfl)
theorem dX6_years_120 : decode cX6_years 120 = .ok (.aload_n 0, 1) := dk_42 (dk_at dksX6_years_5 3 rfl rfl)
theorem dX6_years_121 : decode cX6_years 121 = .ok (.aload_n 0, 1) := dk_42 (dk_at dksX6_years_5 4 rfl rfl)
theorem dX6_years_122 : decode cX6_years 122 = .ok (.getfield 34, 3) := dk_180 0 34 (dk_at dksX6_years_5 5 rfl rfl)
theorem dX6_years_125 : decode cX6_years 125 = .ok (.iconst 1, 1) := dk_4 (dk_at dksX6_years_5 8 rfl rfl)
theorem dX6_years_126 : decode cX6_years 126 = .ok (.invokevirtual 397, 3) := dk_182 1 141 (dk_at dksX6_years_5 9 rfl rfl)
theorem dX6_years_129 : decode cX6_years 129 = .ok (.aload_n 0, 1) := dk_42 (dk_at dksX6_years_5 12 rfl rfl)
theorem dX6_years_130 : decode cX6_years 130 = .ok (.aload_n 0, 1) := dk_42 (dk_at dksX6_years_5 13 rfl rfl)
theorem dX6_years_131 : decode cX6_years 131 = .ok (.getfield 34, 3) := dk_180 0 34 (dk_at dksX6_years_5 14 rfl rfl)
theorem dX6_years_134 : decode cX6_years 134 = .ok (.iconst 0, 1) := dk_3 (dk_at dksX6_years_5 17 rfl rfl)
theorem dX6_years_135 : decode cX6_years 135 = .ok (.invokevirtual 397, 3) := dk_182 1 141 (dk_at dksX6_years_5 18 rfl rfl)
theorem dX6_years_138 : decode cX6_years 138 = .ok (.ior, 1) := dk_128 (dk_at dksX6_years_5 21 rfl rfl)
theorem dX6_years_139 : decode cX6_years 139 = .ok (.istore_n 3, 1) := dk_62 (dk_at dksX6_years_5 22 rfl rfl)
theorem dX6_years_140 : decode cX6_years 140 = .ok (.aload_n 0, 1) := dk_42 (dk_at dksX6_years_5 23 rfl rfl)
theorem dX6_years_141 : decode cX6_years 141 = .ok (.iconst 0, 1) := dk_3 (dk_at dksX6_years_6 0 rfl rfl)
theorem dX6_years_142 : decode cX6_years 142 = .ok (.putfield 119, 3) := dk_181 0 119 (dk_at dksX6_years_6 1 rfl rfl)
theorem dX6_years_145 : decode cX6_years 145 = .ok (.aload_n 0, 1) := dk_42 (dk_at dksX6_years_6 4 rfl rfl)
theorem dX6_years_146 : decode cX6_years 146 = .ok (.iload_n 3, 1) := dk_29 (dk_at dksX6_years_6 5 rfl rfl)
theorem dX6_years_147 : decode cX6_years 147 = .ok (.invokestatic 279, 3) := dk_184 1 23 (dk_at dksX6_years_6 6 rfl rfl)
theorem dX6_years_150 : decode cX6_years 150 = .ok (.i2l, 1) := dk_133 (dk_at dksX6_years_6 9 rfl rfl)
theorem dX6_years_151 : decode cX6_years 151 = .ok (.invokevirtual 358, 3) := dk_182 1 102 (dk_at dksX6_years_6 10 rfl rfl)
theorem dX6_years_154 : decode cX6_years 154 = .ok (.aload_n 0, 1) := dk_42 (dk_at dksX6_years_6 13 rfl rfl)
theorem dX6_years_155 : decode cX6_years 155 = .ok (.aload_n 0, 1) := dk_42 (dk_at dksX6_years_6 14 rfl rfl)
theorem dX6_years_156 : decode cX6_years 156 = .ok (.aload_n 0, 1) := dk_42 (dk_at dksX6_years_6 15 rfl rfl)
theorem dX6_years_157 : decode cX6_years 157 = .ok (.getfield 34, 3) := dk_180 0 34 (dk_at dksX6_years_6 16 rfl rfl)
theorem dX6_years_160 : decode cX6_years 160 = .ok (.iconst 1, 1) := dk_4 (dk_at dksX6_years_6 19 rfl rfl)
theorem dX6_years_161 : decode cX6_years 161 = .ok (.invokevirtual 397, 3) := dk_182 1 141 (dk_at dksX6_years_6 20 rfl rfl)
theorem dX6_years_164 : decode cX6_years 164 = .ok (.invokestatic 279, 3) := dk_184 1 23 (dk_at dksX6_years_7 0 rfl rfl)
theorem dX6_years_167 : decode cX6_years 167 = .ok (.i2l, 1) := dk_133 (dk_at dksX6_years_7 3 rfl rfl)
theorem dX6_years_168 : decode cX6_years 168 = .ok (.invokevirtual 358, 3) := dk_182 1 102 (dk_at dksX6_years_7 4 rfl rfl)
theorem dX6_years_171 : decode cX6_years 171 = .ok (.aload_n 0, 1) := dk_42 (dk_at dksX6_years_7 7 rfl rfl)
theorem dX6_years_172 : decode cX6_years 172 = .ok (.getfield 34, 3) := dk_180 0 34 (dk_at dksX6_years_7 8 rfl rfl)
theorem dX6_years_175 : decode cX6_years 175 = .ok (.bipush 12, 2) := dk_16 12 (dk_at dksX6_years_7 11 rfl rfl)
theorem dX6_years_177 : decode cX6_years 177 = .ok (.iaload, 1) := dk_46 (dk_at dksX6_years_7 13 rfl rfl)
theorem dX6_years_178 : decode cX6_years 178 = .ok (.ireturn, 1) := dk_172 (dk_at dksX6_years_7 14 rfl rfl)
abbrev cX6_draws : ByteArray := prog_15_method_100_code
def yX6_draws : MethodName := ⟨RX6, "draws", "(I)I"⟩
def dkwX6_draws_1 : List UInt8 := [112, 172]
abbrev dktX6_draws_1 : List UInt8 := dkwX6_draws_1 ++ []
def dkwX6_draws_0 : List UInt8 := [42, 42, 180, 1, 186, 19, 1, 189, 104, 17, 48, 57, 96, 181, 1, 186, 42, 180, 1, 186, 16, 16, 124, 27]
abbrev dktX6_draws_0 : List UInt8 := dkwX6_draws_0 ++ dktX6_draws_1
theorem dksX6_draws_0 : cX6_draws.data.toList.drop 0 = dktX6_draws_0 := by decide +kernel
theorem dksX6_draws_1 : cX6_draws.data.toList.drop 24 = dktX6_draws_1 := dk_seg dksX6_draws_0 24 rfl rfl
theorem dX6_draws_0 : decode cX6_draws 0 = .ok (.aload_n 0, 1) := dk_42 (dk_at dksX6_draws_0 0 rfl rfl)
theorem dX6_draws_1 : decode cX6_draws 1 = .ok (.aload_n 0, 1) := dk_42 (dk_at dksX6_draws_0 1 rfl rfl)
theorem dX6_draws_2 : decode cX6_draws 2 = .ok (.getfield 442, 3) := dk_180 1 186 (dk_at dksX6_draws_0 2 rfl rfl)
theorem dX6_draws_5 : decode cX6_draws 5 = .ok (.ldc_w 445, 3) := dk_19 1 189 (dk_at dksX6_draws_0 5 rfl rfl)
theorem dX6_draws_8 : decode cX6_draws 8 = .ok (.imul, 1) := dk_104 (dk_at dksX6_draws_0 8 rfl rfl)
theorem dX6_draws_9 : decode cX6_draws 9 = .ok (.sipush 12345, 3) := dk_17 48 57 (dk_at dksX6_draws_0 9 rfl rfl)
theorem dX6_draws_12 : decode cX6_draws 12 = .ok (.iadd, 1) := dk_96 (dk_at dksX6_draws_0 12 rfl rfl)
theorem dX6_draws_13 : decode cX6_draws 13 = .ok (.putfield 442, 3) := dk_181 1 186 (dk_at dksX6_draws_0 13 rfl rfl)
theorem dX6_draws_16 : decode cX6_draws 16 = .ok (.aload_n 0, 1) := dk_42 (dk_at dksX6_draws_0 16 rfl rfl)
theorem dX6_draws_17 : decode cX6_draws 17 = .ok (.getfield 442, 3) := dk_180 1 186 (dk_at dksX6_draws_0 17 rfl rfl)
theorem dX6_draws_20 : decode cX6_draws 20 = .ok (.bipush 16, 2) := dk_16 16 (dk_at dksX6_draws_0 20 rfl rfl)
theorem dX6_draws_22 : decode cX6_draws 22 = .ok (.iushr, 1) := dk_124 (dk_at dksX6_draws_0 22 rfl rfl)
theorem dX6_draws_23 : decode cX6_draws 23 = .ok (.iload_n 1, 1) := dk_27 (dk_at dksX6_draws_0 23 rfl rfl)
theorem dX6_draws_24 : decode cX6_draws 24 = .ok (.irem, 1) := dk_112 (dk_at dksX6_draws_1 0 rfl rfl)
theorem dX6_draws_25 : decode cX6_draws 25 = .ok (.ireturn, 1) := dk_172 (dk_at dksX6_draws_1 1 rfl rfl)
abbrev cX6_keep : ByteArray := prog_15_method_102_code
def yX6_keep : MethodName := ⟨RX6, "keep", "(I)Z"⟩
def dkwX6_keep_2 : List UInt8 := [16, 38, 27, 104, 28, 96, 42, 180, 0, 31, 28, 46, 79, 132, 2, 1, 167, 255, 230, 4, 172]
abbrev dktX6_keep_2 : List UInt8 := dkwX6_keep_2 ++ []
def dkwX6_keep_1 : List UInt8 := [4, 84, 42, 180, 0, 106, 27, 42, 180, 0, 211, 79, 3, 61, 28, 16, 38, 162, 0, 26, 42, 180, 0, 109]
abbrev dktX6_keep_1 : List UInt8 := dkwX6_keep_1 ++ dktX6_keep_2
def dkwX6_keep_0 : List UInt8 := [42, 3, 181, 0, 112, 27, 133, 9, 20, 1, 193, 184, 0, 125, 154, 0, 5, 3, 172, 42, 180, 0, 103, 27]
abbrev dktX6_keep_0 : List UInt8 := dkwX6_keep_0 ++ dktX6_keep_1
theorem dksX6_keep_0 : cX6_keep.data.toList.drop 0 = dktX6_keep_0 := by decide +kernel
theorem dksX6_keep_1 : cX6_keep.data.toList.drop 24 = dktX6_keep_1 := dk_seg dksX6_keep_0 24 rfl rfl
theorem dksX6_keep_2 : cX6_keep.data.toList.drop 48 = dktX6_keep_2 := dk_seg dksX6_keep_1 24 rfl rfl
theorem dX6_keep_0 : decode cX6_keep 0 = .ok (.aload_n 0, 1) := dk_42 (dk_at dksX6_keep_0 0 rfl rfl)
theorem dX6_keep_1 : decode cX6_keep 1 = .ok (.iconst 0, 1) := dk_3 (dk_at dksX6_keep_0 1 rfl rfl)
theorem dX6_keep_2 : decode cX6_keep 2 = .ok (.putfield 112, 3) := dk_181 0 112 (dk_at dksX6_keep_0 2 rfl rfl)
theorem dX6_keep_5 : decode cX6_keep 5 = .ok (.iload_n 1, 1) := dk_27 (dk_at dksX6_keep_0 5 rfl rfl)
theorem dX6_keep_6 : decode cX6_keep 6 = .ok (.i2l, 1) := dk_133 (dk_at dksX6_keep_0 6 rfl rfl)
theorem dX6_keep_7 : decode cX6_keep 7 = .ok (.lconst 0, 1) := dk_9 (dk_at dksX6_keep_0 7 rfl rfl)
theorem dX6_keep_8 : decode cX6_keep 8 = .ok (.ldc2_w 449, 3) := dk_20 1 193 (dk_at dksX6_keep_0 8 rfl rfl)
theorem dX6_keep_11 : decode cX6_keep 11 = .ok (.invokestatic 125, 3) := dk_184 0 125 (dk_at dksX6_keep_0 11 rfl rfl)
theorem dX6_keep_14 : decode cX6_keep 14 = .ok (.ifCond .ne 5, 3) := dk_154 0 5 (dk_at dksX6_keep_0 14 rfl rfl)
theorem dX6_keep_17 : decode cX6_keep 17 = .ok (.iconst 0, 1) := dk_3 (dk_at dksX6_keep_0 17 rfl rfl)
theorem dX6_keep_18 : decode cX6_keep 18 = .ok (.ireturn, 1) := dk_172 (dk_at dksX6_keep_0 18 rfl rfl)
theorem dX6_keep_19 : decode cX6_keep 19 = .ok (.aload_n 0, 1) := dk_42 (dk_at dksX6_keep_0 19 rfl rfl)
theorem dX6_keep_20 : decode cX6_keep 20 = .ok (.getfield 103, 3) := dk_180 0 103 (dk_at dksX6_keep_0 20 rfl rfl)
theorem dX6_keep_23 : decode cX6_keep 23 = .ok (.iload_n 1, 1) := dk_27 (dk_at dksX6_keep_0 23 rfl rfl)
theorem dX6_keep_24 : decode cX6_keep 24 = .ok (.iconst 1, 1) := dk_4 (dk_at dksX6_keep_1 0 rfl rfl)
theorem dX6_keep_25 : decode cX6_keep 25 = .ok (.bastore, 1) := dk_84 (dk_at dksX6_keep_1 1 rfl rfl)
theorem dX6_keep_26 : decode cX6_keep 26 = .ok (.aload_n 0, 1) := dk_42 (dk_at dksX6_keep_1 2 rfl rfl)
theorem dX6_keep_27 : decode cX6_keep 27 = .ok (.getfield 106, 3) := dk_180 0 106 (dk_at dksX6_keep_1 3 rfl rfl)
theorem dX6_keep_30 : decode cX6_keep 30 = .ok (.iload_n 1, 1) := dk_27 (dk_at dksX6_keep_1 6 rfl rfl)
theorem dX6_keep_31 : decode cX6_keep 31 = .ok (.aload_n 0, 1) := dk_42 (dk_at dksX6_keep_1 7 rfl rfl)
theorem dX6_keep_32 : decode cX6_keep 32 = .ok (.getfield 211, 3) := dk_180 0 211 (dk_at dksX6_keep_1 8 rfl rfl)
theorem dX6_keep_35 : decode cX6_keep 35 = .ok (.iastore, 1) := dk_79 (dk_at dksX6_keep_1 11 rfl rfl)
theorem dX6_keep_36 : decode cX6_keep 36 = .ok (.iconst 0, 1) := dk_3 (dk_at dksX6_keep_1 12 rfl rfl)
theorem dX6_keep_37 : decode cX6_keep 37 = .ok (.istore_n 2, 1) := dk_61 (dk_at dksX6_keep_1 13 rfl rfl)
theorem dX6_keep_38 : decode cX6_keep 38 = .ok (.iload_n 2, 1) := dk_28 (dk_at dksX6_keep_1 14 rfl rfl)
theorem dX6_keep_39 : decode cX6_keep 39 = .ok (.bipush 38, 2) := dk_16 38 (dk_at dksX6_keep_1 15 rfl rfl)
theorem dX6_keep_41 : decode cX6_keep 41 = .ok (.if_icmp .ge 26, 3) := dk_162 0 26 (dk_at dksX6_keep_1 17 rfl rfl)
theorem dX6_keep_44 : decode cX6_keep 44 = .ok (.aload_n 0, 1) := dk_42 (dk_at dksX6_keep_1 20 rfl rfl)
theorem dX6_keep_45 : decode cX6_keep 45 = .ok (.getfield 109, 3) := dk_180 0 109 (dk_at dksX6_keep_1 21 rfl rfl)
theorem dX6_keep_48 : decode cX6_keep 48 = .ok (.bipush 38, 2) := dk_16 38 (dk_at dksX6_keep_2 0 rfl rfl)
theorem dX6_keep_50 : decode cX6_keep 50 = .ok (.iload_n 1, 1) := dk_27 (dk_at dksX6_keep_2 2 rfl rfl)
theorem dX6_keep_51 : decode cX6_keep 51 = .ok (.imul, 1) := dk_104 (dk_at dksX6_keep_2 3 rfl rfl)
theorem dX6_keep_52 : decode cX6_keep 52 = .ok (.iload_n 2, 1) := dk_28 (dk_at dksX6_keep_2 4 rfl rfl)
theorem dX6_keep_53 : decode cX6_keep 53 = .ok (.iadd, 1) := dk_96 (dk_at dksX6_keep_2 5 rfl rfl)
theorem dX6_keep_54 : decode cX6_keep 54 = .ok (.aload_n 0, 1) := dk_42 (dk_at dksX6_keep_2 6 rfl rfl)
theorem dX6_keep_55 : decode cX6_keep 55 = .ok (.getfield 31, 3) := dk_180 0 31 (dk_at dksX6_keep_2 7 rfl rfl)
theorem dX6_keep_58 : decode cX6_keep 58 = .ok (.iload_n 2, 1) := dk_28 (dk_at dksX6_keep_2 10 rfl rfl)
theorem dX6_keep_59 : decode cX6_keep 59 = .ok (.iaload, 1) := dk_46 (dk_at dksX6_keep_2 11 rfl rfl)
theorem dX6_keep_60 : decode cX6_keep 60 = .ok (.iastore, 1) := dk_79 (dk_at dksX6_keep_2 12 rfl rfl)
theorem dX6_keep_61 : decode cX6_keep 61 = .ok (.iinc 2 1, 3) := dk_132 2 1 (dk_at dksX6_keep_2 13 rfl rfl)
theorem dX6_keep_64 : decode cX6_keep 64 = .ok (.goto (-26), 3) := dk_167 255 230 (dk_at dksX6_keep_2 16 rfl rfl)
theorem dX6_keep_67 : decode cX6_keep 67 = .ok (.iconst 1, 1) := dk_4 (dk_at dksX6_keep_2 19 rfl rfl)
theorem dX6_keep_68 : decode cX6_keep 68 = .ok (.ireturn, 1) := dk_172 (dk_at dksX6_keep_2 20 rfl rfl)
abbrev cX6_again : ByteArray := prog_15_method_103_code
def yX6_again : MethodName := ⟨RX6, "again", "(I)Z"⟩
def dkwX6_again_3 : List UInt8 := [167, 255, 230, 42, 3, 181, 0, 186, 4, 172]
abbrev dktX6_again_3 : List UInt8 := dkwX6_again_3 ++ []
def dkwX6_again_2 : List UInt8 := [162, 0, 26, 42, 180, 0, 31, 28, 42, 180, 0, 109, 16, 38, 27, 104, 28, 96, 46, 79, 132, 2, 1]
abbrev dktX6_again_2 : List UInt8 := dkwX6_again_2 ++ dktX6_again_3
def dkwX6_again_1 : List UInt8 := [153, 0, 16, 42, 180, 0, 106, 27, 46, 42, 180, 0, 211, 159, 0, 5, 3, 172, 3, 61, 28, 16, 38]
abbrev dktX6_again_1 : List UInt8 := dkwX6_again_1 ++ dktX6_again_2
def dkwX6_again_0 : List UInt8 := [42, 3, 181, 0, 112, 27, 133, 9, 20, 1, 193, 184, 0, 125, 153, 0, 25, 42, 180, 0, 103, 27, 51]
abbrev dktX6_again_0 : List UInt8 := dkwX6_again_0 ++ dktX6_again_1
theorem dksX6_again_0 : cX6_again.data.toList.drop 0 = dktX6_again_0 := by decide +kernel
theorem dksX6_again_1 : cX6_again.data.toList.drop 23 = dktX6_again_1 := dk_seg dksX6_again_0 23 rfl rfl
theorem dksX6_again_2 : cX6_again.data.toList.drop 46 = dktX6_again_2 := dk_seg dksX6_again_1 23 rfl rfl
theorem dksX6_again_3 : cX6_again.data.toList.drop 69 = dktX6_again_3 := dk_seg dksX6_again_2 23 rfl rfl
theorem dX6_again_0 : decode cX6_again 0 = .ok (.aload_n 0, 1) := dk_42 (dk_at dksX6_again_0 0 rfl rfl)
theorem dX6_again_1 : decode cX6_again 1 = .ok (.iconst 0, 1) := dk_3 (dk_at dksX6_again_0 1 rfl rfl)
theorem dX6_again_2 : decode cX6_again 2 = .ok (.putfield 112, 3) := dk_181 0 112 (dk_at dksX6_again_0 2 rfl rfl)
theorem dX6_again_5 : decode cX6_again 5 = .ok (.iload_n 1, 1) := dk_27 (dk_at dksX6_again_0 5 rfl rfl)
theorem dX6_again_6 : decode cX6_again 6 = .ok (.i2l, 1) := dk_133 (dk_at dksX6_again_0 6 rfl rfl)
theorem dX6_again_7 : decode cX6_again 7 = .ok (.lconst 0, 1) := dk_9 (dk_at dksX6_again_0 7 rfl rfl)
theorem dX6_again_8 : decode cX6_again 8 = .ok (.ldc2_w 449, 3) := dk_20 1 193 (dk_at dksX6_again_0 8 rfl rfl)
theorem dX6_again_11 : decode cX6_again 11 = .ok (.invokestatic 125, 3) := dk_184 0 125 (dk_at dksX6_again_0 11 rfl rfl)
theorem dX6_again_14 : decode cX6_again 14 = .ok (.ifCond .eq 25, 3) := dk_153 0 25 (dk_at dksX6_again_0 14 rfl rfl)
theorem dX6_again_17 : decode cX6_again 17 = .ok (.aload_n 0, 1) := dk_42 (dk_at dksX6_again_0 17 rfl rfl)
theorem dX6_again_18 : decode cX6_again 18 = .ok (.getfield 103, 3) := dk_180 0 103 (dk_at dksX6_again_0 18 rfl rfl)
theorem dX6_again_21 : decode cX6_again 21 = .ok (.iload_n 1, 1) := dk_27 (dk_at dksX6_again_0 21 rfl rfl)
theorem dX6_again_22 : decode cX6_again 22 = .ok (.baload, 1) := dk_51 (dk_at dksX6_again_0 22 rfl rfl)
theorem dX6_again_23 : decode cX6_again 23 = .ok (.ifCond .eq 16, 3) := dk_153 0 16 (dk_at dksX6_again_1 0 rfl rfl)
theorem dX6_again_26 : decode cX6_again 26 = .ok (.aload_n 0, 1) := dk_42 (dk_at dksX6_again_1 3 rfl rfl)
theorem dX6_again_27 : decode cX6_again 27 = .ok (.getfield 106, 3) := dk_180 0 106 (dk_at dksX6_again_1 4 rfl rfl)
theorem dX6_again_30 : decode cX6_again 30 = .ok (.iload_n 1, 1) := dk_27 (dk_at dksX6_again_1 7 rfl rfl)
theorem dX6_again_31 : decode cX6_again 31 = .ok (.iaload, 1) := dk_46 (dk_at dksX6_again_1 8 rfl rfl)
theorem dX6_again_32 : decode cX6_again 32 = .ok (.aload_n 0, 1) := dk_42 (dk_at dksX6_again_1 9 rfl rfl)
theorem dX6_again_33 : decode cX6_again 33 = .ok (.getfield 211, 3) := dk_180 0 211 (dk_at dksX6_again_1 10 rfl rfl)
theorem dX6_again_36 : decode cX6_again 36 = .ok (.if_icmp .eq 5, 3) := dk_159 0 5 (dk_at dksX6_again_1 13 rfl rfl)
theorem dX6_again_39 : decode cX6_again 39 = .ok (.iconst 0, 1) := dk_3 (dk_at dksX6_again_1 16 rfl rfl)
theorem dX6_again_40 : decode cX6_again 40 = .ok (.ireturn, 1) := dk_172 (dk_at dksX6_again_1 17 rfl rfl)
theorem dX6_again_41 : decode cX6_again 41 = .ok (.iconst 0, 1) := dk_3 (dk_at dksX6_again_1 18 rfl rfl)
theorem dX6_again_42 : decode cX6_again 42 = .ok (.istore_n 2, 1) := dk_61 (dk_at dksX6_again_1 19 rfl rfl)
theorem dX6_again_43 : decode cX6_again 43 = .ok (.iload_n 2, 1) := dk_28 (dk_at dksX6_again_1 20 rfl rfl)
theorem dX6_again_44 : decode cX6_again 44 = .ok (.bipush 38, 2) := dk_16 38 (dk_at dksX6_again_1 21 rfl rfl)
theorem dX6_again_46 : decode cX6_again 46 = .ok (.if_icmp .ge 26, 3) := dk_162 0 26 (dk_at dksX6_again_2 0 rfl rfl)
theorem dX6_again_49 : decode cX6_again 49 = .ok (.aload_n 0, 1) := dk_42 (dk_at dksX6_again_2 3 rfl rfl)
theorem dX6_again_50 : decode cX6_again 50 = .ok (.getfield 31, 3) := dk_180 0 31 (dk_at dksX6_again_2 4 rfl rfl)
theorem dX6_again_53 : decode cX6_again 53 = .ok (.iload_n 2, 1) := dk_28 (dk_at dksX6_again_2 7 rfl rfl)
theorem dX6_again_54 : decode cX6_again 54 = .ok (.aload_n 0, 1) := dk_42 (dk_at dksX6_again_2 8 rfl rfl)
theorem dX6_again_55 : decode cX6_again 55 = .ok (.getfield 109, 3) := dk_180 0 109 (dk_at dksX6_again_2 9 rfl rfl)
theorem dX6_again_58 : decode cX6_again 58 = .ok (.bipush 38, 2) := dk_16 38 (dk_at dksX6_again_2 12 rfl rfl)
theorem dX6_again_60 : decode cX6_again 60 = .ok (.iload_n 1, 1) := dk_27 (dk_at dksX6_again_2 14 rfl rfl)
theorem dX6_again_61 : decode cX6_again 61 = .ok (.imul, 1) := dk_104 (dk_at dksX6_again_2 15 rfl rfl)
theorem dX6_again_62 : decode cX6_again 62 = .ok (.iload_n 2, 1) := dk_28 (dk_at dksX6_again_2 16 rfl rfl)
theorem dX6_again_63 : decode cX6_again 63 = .ok (.iadd, 1) := dk_96 (dk_at dksX6_again_2 17 rfl rfl)
theorem dX6_again_64 : decode cX6_again 64 = .ok (.iaload, 1) := dk_46 (dk_at dksX6_again_2 18 rfl rfl)
theorem dX6_again_65 : decode cX6_again 65 = .ok (.iastore, 1) := dk_79 (dk_at dksX6_again_2 19 rfl rfl)
theorem dX6_again_66 : decode cX6_again 66 = .ok (.iinc 2 1, 3) := dk_132 2 1 (dk_at dksX6_again_2 20 rfl rfl)
theorem dX6_again_69 : decode cX6_again 69 = .ok (.goto (-26), 3) := dk_167 255 230 (dk_at dksX6_again_3 0 rfl rfl)
theorem dX6_again_72 : decode cX6_again 72 = .ok (.aload_n 0, 1) := dk_42 (dk_at dksX6_again_3 3 rfl rfl)
theorem dX6_again_73 : decode cX6_again 73 = .ok (.iconst 0, 1) := dk_3 (dk_at dksX6_again_3 4 rfl rfl)
theorem dX6_again_74 : decode cX6_again 74 = .ok (.putfield 186, 3) := dk_181 0 186 (dk_at dksX6_again_3 5 rfl rfl)
theorem dX6_again_77 : decode cX6_again 77 = .ok (.iconst 1, 1) := dk_4 (dk_at dksX6_again_3 8 rfl rfl)
theorem dX6_again_78 : decode cX6_again 78 = .ok (.ireturn, 1) := dk_172 (dk_at dksX6_again_3 9 rfl rfl)
abbrev cX6_count : ByteArray := prog_15_method_104_code
def yX6_count : MethodName := ⟨RX6, "count", "(I)I"⟩
def dkwX6_count_7 : List UInt8 := [180, 0, 119, 172, 42, 180, 0, 136, 172, 16, 156, 172]
abbrev dktX6_count_7 : List UInt8 := dkwX6_count_7 ++ []
def dkwX6_count_6 : List UInt8 := [42, 180, 0, 31, 16, 37, 46, 182, 1, 16, 172, 42, 180, 1, 167, 172, 42, 180, 0, 186, 172, 42]
abbrev dktX6_count_6 : List UInt8 := dkwX6_count_6 ++ dktX6_count_7
def dkwX6_count_5 : List UInt8 := [182, 1, 141, 128, 184, 1, 23, 172, 42, 42, 180, 0, 31, 4, 182, 1, 141, 184, 1, 23, 172, 28, 172, 42]
abbrev dktX6_count_5 : List UInt8 := dkwX6_count_5 ++ dktX6_count_6
def dkwX6_count_4 : List UInt8 := [180, 0, 31, 16, 12, 46, 172, 42, 42, 180, 0, 31, 4, 182, 1, 141, 42, 42, 180, 0, 31, 3]
abbrev dktX6_count_4 : List UInt8 := dkwX6_count_4 ++ dktX6_count_5
def dkwX6_count_3 : List UInt8 := [42, 180, 0, 13, 172, 42, 180, 0, 122, 172, 42, 180, 0, 129, 172, 42, 180, 0, 31, 16, 37, 46, 172, 42]
abbrev dktX6_count_3 : List UInt8 := dkwX6_count_3 ++ dktX6_count_4
def dkwX6_count_2 : List UInt8 := [170, 0, 0, 0, 0, 0, 0, 169, 0, 0, 0, 0, 0, 0, 0, 12, 0, 0, 0, 68, 0, 0, 0, 73, 0, 0, 0, 78, 0, 0, 0, 83, 0, 0, 0, 91, 0, 0, 0, 99, 0, 0, 0, 122, 0, 0, 0, 135, 0, 0, 0, 137, 0, 0, 0, 149, 0, 0, 0, 154, 0, 0, 0, 159, 0, 0, 0, 164]
abbrev dktX6_count_2 : List UInt8 := dkwX6_count_2 ++ dktX6_count_3
def dkwX6_count_1 : List UInt8 := [184, 0, 154, 96, 61, 132, 3, 1, 167, 255, 233, 27]
abbrev dktX6_count_1 : List UInt8 := dkwX6_count_1 ++ dktX6_count_2
def dkwX6_count_0 : List UInt8 := [42, 3, 181, 0, 112, 3, 61, 3, 62, 29, 42, 180, 0, 13, 162, 0, 21, 28, 42, 180, 0, 20, 29, 51]
abbrev dktX6_count_0 : List UInt8 := dkwX6_count_0 ++ dktX6_count_1
theorem dksX6_count_0 : cX6_count.data.toList.drop 0 = dktX6_count_0 := by decide +kernel
theorem dksX6_count_1 : cX6_count.data.toList.drop 24 = dktX6_count_1 := dk_seg dksX6_count_0 24 rfl rfl
theorem dksX6_count_2 : cX6_count.data.toList.drop 36 = dktX6_count_2 := dk_seg dksX6_count_1 12 rfl rfl
theorem dksX6_count_3 : cX6_count.data.toList.drop 104 = dktX6_count_3 := dk_seg dksX6_count_2 68 rfl rfl
theorem dksX6_count_4 : cX6_count.data.toList.drop 128 = dktX6_count_4 := dk_seg dksX6_count_3 24 rfl rfl
theorem dksX6_count_5 : cX6_count.data.toList.drop 150 = dktX6_count_5 := dk_seg dksX6_count_4 22 rfl rfl
theorem dksX6_count_6 : cX6_count.data.toList.drop 174 = dktX6_count_6 := dk_seg dksX6_count_5 24 rfl rfl
theorem dksX6_count_7 : cX6_count.data.toList.drop 196 = dktX6_count_7 := dk_seg dksX6_count_6 22 rfl rfl
theorem dX6_count_0 : decode cX6_count 0 = .ok (.aload_n 0, 1) := dk_42 (dk_at dksX6_count_0 0 rfl rfl)
theorem dX6_count_1 : decode cX6_count 1 = .ok (.iconst 0, 1) := dk_3 (dk_at dksX6_count_0 1 rfl rfl)
theorem dX6_count_2 : decode cX6_count 2 = .ok (.putfield 112, 3) := dk_181 0 112 (dk_at dksX6_count_0 2 rfl rfl)
theorem dX6_count_5 : decode cX6_count 5 = .ok (.iconst 0, 1) := dk_3 (dk_at dksX6_count_0 5 rfl rfl)
theorem dX6_count_6 : decode cX6_count 6 = .ok (.istore_n 2, 1) := dk_61 (dk_at dksX6_count_0 6 rfl rfl)
theorem dX6_count_7 : decode cX6_count 7 = .ok (.iconst 0, 1) := dk_3 (dk_at dksX6_count_0 7 rfl rfl)
theorem dX6_count_8 : decode cX6_count 8 = .ok (.istore_n 3, 1) := dk_62 (dk_at dksX6_count_0 8 rfl rfl)
theorem dX6_count_9 : decode cX6_count 9 = .ok (.iload_n 3, 1) := dk_29 (dk_at dksX6_count_0 9 rfl rfl)
theorem dX6_count_10 : decode cX6_count 10 = .ok (.aload_n 0, 1) := dk_42 (dk_at dksX6_count_0 10 rfl rfl)
theorem dX6_count_11 : decode cX6_count 11 = .ok (.getfield 13, 3) := dk_180 0 13 (dk_at dksX6_count_0 11 rfl rfl)
theorem dX6_count_14 : decode cX6_count 14 = .ok (.if_icmp .ge 21, 3) := dk_162 0 21 (dk_at dksX6_count_0 14 rfl rfl)
theorem dX6_count_17 : decode cX6_count 17 = .ok (.iload_n 2, 1) := dk_28 (dk_at dksX6_count_0 17 rfl rfl)
theorem dX6_count_18 : decode cX6_count 18 = .ok (.aload_n 0, 1) := dk_42 (dk_at dksX6_count_0 18 rfl rfl)
theorem dX6_count_19 : decode cX6_count 19 = .ok (.getfield 20, 3) := dk_180 0 20 (dk_at dksX6_count_0 19 rfl rfl)
theorem dX6_count_22 : decode cX6_count 22 = .ok (.iload_n 3, 1) := dk_29 (dk_at dksX6_count_0 22 rfl rfl)
theorem dX6_count_23 : decode cX6_count 23 = .ok (.baload, 1) := dk_51 (dk_at dksX6_count_0 23 rfl rfl)
theorem dX6_count_24 : decode cX6_count 24 = .ok (.invokestatic 154, 3) := dk_184 0 154 (dk_at dksX6_count_1 0 rfl rfl)
theorem dX6_count_27 : decode cX6_count 27 = .ok (.iadd, 1) := dk_96 (dk_at dksX6_count_1 3 rfl rfl)
theorem dX6_count_28 : decode cX6_count 28 = .ok (.istore_n 2, 1) := dk_61 (dk_at dksX6_count_1 4 rfl rfl)
theorem dX6_count_29 : decode cX6_count 29 = .ok (.iinc 3 1, 3) := dk_132 3 1 (dk_at dksX6_count_1 5 rfl rfl)
theorem dX6_count_32 : decode cX6_count 32 = .ok (.goto (-23), 3) := dk_167 255 233 (dk_at dksX6_count_1 8 rfl rfl)
theorem dX6_count_35 : decode cX6_count 35 = .ok (.iload_n 1, 1) := dk_27 (dk_at dksX6_count_1 11 rfl rfl)
theorem dX6_count_36 : decode cX6_count 36 = .ok (.tableswitch 169 0 12 #[68, 73, 78, 83, 91, 99, 122, 135, 137, 149, 154, 159, 164], 68) := by decide +kernel
theorem dX6_count_104 : decode cX6_count 104 = .ok (.aload_n 0, 1) := dk_42 (dk_at dksX6_count_3 0 rfl rfl)
theorem dX6_count_105 : decode cX6_count 105 = .ok (.getfield 13, 3) := dk_180 0 13 (dk_at dksX6_count_3 1 rfl rfl)
theorem dX6_count_108 : decode cX6_count 108 = .ok (.ireturn, 1) := dk_172 (dk_at dksX6_count_3 4 rfl rfl)
theorem dX6_count_109 : decode cX6_count 109 = .ok (.aload_n 0, 1) := dk_42 (dk_at dksX6_count_3 5 rfl rfl)
theorem dX6_count_110 : decode cX6_count 110 = .ok (.getfield 122, 3) := dk_180 0 122 (dk_at dksX6_count_3 6 rfl rfl)
theorem dX6_count_113 : decode cX6_count 113 = .ok (.ireturn, 1) := dk_172 (dk_at dksX6_count_3 9 rfl rfl)
theorem dX6_count_114 : decode cX6_count 114 = .ok (.aload_n 0, 1) := dk_42 (dk_at dksX6_count_3 10 rfl rfl)
theorem dX6_count_115 : decode cX6_count 115 = .ok (.getfield 129, 3) := dk_180 0 129 (dk_at dksX6_count_3 11 rfl rfl)
theorem dX6_count_118 : decode cX6_count 118 = .ok (.ireturn, 1) := dk_172 (dk_at dksX6_count_3 14 rfl rfl)
theorem dX6_count_119 : decode cX6_count 119 = .ok (.aload_n 0, 1) := dk_42 (dk_at dksX6_count_3 15 rfl rfl)
theorem dX6_count_120 : decode cX6_count 120 = .ok (.getfield 31, 3) := dk_180 0 31 (dk_at dksX6_count_3 16 rfl rfl)
theorem dX6_count_123 : decode cX6_count 123 = .ok (.bipush 37, 2) := dk_16 37 (dk_at dksX6_count_3 19 rfl rfl)
theorem dX6_count_125 : decode cX6_count 125 = .ok (.iaload, 1) := dk_46 (dk_at dksX6_count_3 21 rfl rfl)
theorem dX6_count_126 : decode cX6_count 126 = .ok (.ireturn, 1) := dk_172 (dk_at dksX6_count_3 22 rfl rfl)
theorem dX6_count_127 : decode cX6_count 127 = .ok (.aload_n 0, 1) := dk_42 (dk_at dksX6_count_3 23 rfl rfl)
theorem dX6_count_128 : decode cX6_count 128 = .ok (.getfield 31, 3) := dk_180 0 31 (dk_at dksX6_count_4 0 rfl rfl)
theorem dX6_count_131 : decode cX6_count 131 = .ok (.bipush 12, 2) := dk_16 12 (dk_at dksX6_count_4 3 rfl rfl)
theorem dX6_count_133 : decode cX6_count 133 = .ok (.iaload, 1) := dk_46 (dk_at dksX6_count_4 5 rfl rfl)
theorem dX6_count_134 : decode cX6_count 134 = .ok (.ireturn, 1) := dk_172 (dk_at dksX6_count_4 6 rfl rfl)
theorem dX6_count_135 : decode cX6_count 135 = .ok (.aload_n 0, 1) := dk_42 (dk_at dksX6_count_4 7 rfl rfl)
theorem dX6_count_136 : decode cX6_count 136 = .ok (.aload_n 0, 1) := dk_42 (dk_at dksX6_count_4 8 rfl rfl)
theorem dX6_count_137 : decode cX6_count 137 = .ok (.getfield 31, 3) := dk_180 0 31 (dk_at dksX6_count_4 9 rfl rfl)
theorem dX6_count_140 : decode cX6_count 140 = .ok (.iconst 1, 1) := dk_4 (dk_at dksX6_count_4 12 rfl rfl)
theorem dX6_count_141 : decode cX6_count 141 = .ok (.invokevirtual 397, 3) := dk_182 1 141 (dk_at dksX6_count_4 13 rfl rfl)
theorem dX6_count_144 : decode cX6_count 144 = .ok (.aload_n 0, 1) := dk_42 (dk_at dksX6_count_4 16 rfl rfl)
theorem dX6_count_145 : decode cX6_count 145 = .ok (.aload_n 0, 1) := dk_42 (dk_at dksX6_count_4 17 rfl rfl)
theorem dX6_count_146 : decode cX6_count 146 = .ok (.getfield 31, 3) := dk_180 0 31 (dk_at dksX6_count_4 18 rfl rfl)
theorem dX6_count_149 : decode cX6_count 149 = .ok (.iconst 0, 1) := dk_3 (dk_at dksX6_count_4 21 rfl rfl)
theorem dX6_count_150 : decode cX6_count 150 = .ok (.invokevirtual 397, 3) := dk_182 1 141 (dk_at dksX6_count_5 0 rfl rfl)
theorem dX6_count_153 : decode cX6_count 153 = .ok (.ior, 1) := dk_128 (dk_at dksX6_count_5 3 rfl rfl)
theorem dX6_count_154 : decode cX6_count 154 = .ok (.invokestatic 279, 3) := dk_184 1 23 (dk_at dksX6_count_5 4 rfl rfl)
theorem dX6_count_157 : decode cX6_count 157 = .ok (.ireturn, 1) := dk_172 (dk_at dksX6_count_5 7 rfl rfl)
theorem dX6_count_158 : decode cX6_count 158 = .ok (.aload_n 0, 1) := dk_42 (dk_at dksX6_count_5 8 rfl rfl)
theorem dX6_count_159 : decode cX6_count 159 = .ok (.aload_n 0, 1) := dk_42 (dk_at dksX6_count_5 9 rfl rfl)
theorem dX6_count_160 : decode cX6_count 160 = .ok (.getfield 31, 3) := dk_180 0 31 (dk_at dksX6_count_5 10 rfl rfl)
theorem dX6_count_163 : decode cX6_count 163 = .ok (.iconst 1, 1) := dk_4 (dk_at dksX6_count_5 13 rfl rfl)
theorem dX6_count_164 : decode cX6_count 164 = .ok (.invokevirtual 397, 3) := dk_182 1 141 (dk_at dksX6_count_5 14 rfl rfl)
theorem dX6_count_167 : decode cX6_count 167 = .ok (.invokestatic 279, 3) := dk_184 1 23 (dk_at dksX6_count_5 17 rfl rfl)
theorem dX6_count_170 : decode cX6_count 170 = .ok (.ireturn, 1) := dk_172 (dk_at dksX6_count_5 20 rfl rfl)
theorem dX6_count_171 : decode cX6_count 171 = .ok (.iload_n 2, 1) := dk_28 (dk_at dksX6_count_5 21 rfl rfl)
theorem dX6_count_172 : decode cX6_count 172 = .ok (.ireturn, 1) := dk_172 (dk_at dksX6_count_5 22 rfl rfl)
theorem dX6_count_173 : decode cX6_count 173 = .ok (.aload_n 0, 1) := dk_42 (dk_at dksX6_count_5 23 rfl rfl)
theorem dX6_count_174 : decode cX6_count 174 = .ok (.aload_n 0, 1) := dk_42 (dk_at dksX6_count_6 0 rfl rfl)
theorem dX6_count_175 : decode cX6_count 175 = .ok (.getfield 31, 3) := dk_180 0 31 (dk_at dksX6_count_6 1 rfl rfl)
theorem dX6_count_178 : decode cX6_count 178 = .ok (.bipush 37, 2) := dk_16 37 (dk_at dksX6_count_6 4 rfl rfl)
theorem dX6_count_180 : decode cX6_count 180 = .ok (.iaload, 1) := dk_46 (dk_at dksX6_count_6 6 rfl rfl)
theorem dX6_count_181 : decode cX6_count 181 = .ok (.invokevirtual 272, 3) := dk_182 1 16 (dk_at dksX6_count_6 7 rfl rfl)
theorem dX6_count_184 : decode cX6_count 184 = .ok (.ireturn, 1) := dk_172 (dk_at dksX6_count_6 10 rfl rfl)
theorem dX6_count_185 : decode cX6_count 185 = .ok (.aload_n 0, 1) := dk_42 (dk_at dksX6_count_6 11 rfl rfl)
theorem dX6_count_186 : decode cX6_count 186 = .ok (.getfield 423, 3) := dk_180 1 167 (dk_at dksX6_count_6 12 rfl rfl)
theorem dX6_count_189 : decode cX6_count 189 = .ok (.ireturn, 1) := dk_172 (dk_at dksX6_count_6 15 rfl rfl)
theorem dX6_count_190 : decode cX6_count 190 = .ok (.aload_n 0, 1) := dk_42 (dk_at dksX6_count_6 16 rfl rfl)
theorem dX6_count_191 : decode cX6_count 191 = .ok (.getfield 186, 3) := dk_180 0 186 (dk_at dksX6_count_6 17 rfl rfl)
theorem dX6_count_194 : decode cX6_count 194 = .ok (.ireturn, 1) := dk_172 (dk_at dksX6_count_6 20 rfl rfl)
theorem dX6_count_195 : decode cX6_count 195 = .ok (.aload_n 0, 1) := dk_42 (dk_at dksX6_count_6 21 rfl rfl)
theorem dX6_count_196 : decode cX6_count 196 = .ok (.getfield 119, 3) := dk_180 0 119 (dk_at dksX6_count_7 0 rfl rfl)
theorem dX6_count_199 : decode cX6_count 199 = .ok (.ireturn, 1) := dk_172 (dk_at dksX6_count_7 3 rfl rfl)
theorem dX6_count_200 : decode cX6_count 200 = .ok (.aload_n 0, 1) := dk_42 (dk_at dksX6_count_7 4 rfl rfl)
theorem dX6_count_201 : decode cX6_count 201 = .ok (.getfield 136, 3) := dk_180 0 136 (dk_at dksX6_count_7 5 rfl rfl)
theorem dX6_count_204 : decode cX6_count 204 = .ok (.ireturn, 1) := dk_172 (dk_at dksX6_count_7 8 rfl rfl)
theorem dX6_count_205 : decode cX6_count 205 = .ok (.bipush (-100), 2) := dk_16 156 (dk_at dksX6_count_7 9 rfl rfl)
theorem dX6_count_207 : decode cX6_count 207 = .ok (.ireturn, 1) := dk_172 (dk_at dksX6_count_7 11 rfl rfl)
abbrev cX6_row : ByteArray := prog_15_method_105_code
def yX6_row : MethodName := ⟨RX6, "row", "(I)J"⟩
def dkwX6_row_1 : List UInt8 := [181, 0, 112, 9, 173, 42, 180, 0, 9, 27, 47, 173]
abbrev dktX6_row_1 : List UInt8 := dkwX6_row_1 ++ []
def dkwX6_row_0 : List UInt8 := [42, 3, 181, 0, 112, 27, 133, 9, 42, 180, 0, 119, 4, 100, 133, 184, 0, 125, 154, 0, 10, 42, 4]
abbrev dktX6_row_0 : List UInt8 := dkwX6_row_0 ++ dktX6_row_1
theorem dksX6_row_0 : cX6_row.data.toList.drop 0 = dktX6_row_0 := by decide +kernel
theorem dksX6_row_1 : cX6_row.data.toList.drop 23 = dktX6_row_1 := dk_seg dksX6_row_0 23 rfl rfl
theorem dX6_row_0 : decode cX6_row 0 = .ok (.aload_n 0, 1) := dk_42 (dk_at dksX6_row_0 0 rfl rfl)
theorem dX6_row_1 : decode cX6_row 1 = .ok (.iconst 0, 1) := dk_3 (dk_at dksX6_row_0 1 rfl rfl)
theorem dX6_row_2 : decode cX6_row 2 = .ok (.putfield 112, 3) := dk_181 0 112 (dk_at dksX6_row_0 2 rfl rfl)
theorem dX6_row_5 : decode cX6_row 5 = .ok (.iload_n 1, 1) := dk_27 (dk_at dksX6_row_0 5 rfl rfl)
theorem dX6_row_6 : decode cX6_row 6 = .ok (.i2l, 1) := dk_133 (dk_at dksX6_row_0 6 rfl rfl)
theorem dX6_row_7 : decode cX6_row 7 = .ok (.lconst 0, 1) := dk_9 (dk_at dksX6_row_0 7 rfl rfl)
theorem dX6_row_8 : decode cX6_row 8 = .ok (.aload_n 0, 1) := dk_42 (dk_at dksX6_row_0 8 rfl rfl)
theorem dX6_row_9 : decode cX6_row 9 = .ok (.getfield 119, 3) := dk_180 0 119 (dk_at dksX6_row_0 9 rfl rfl)
theorem dX6_row_12 : decode cX6_row 12 = .ok (.iconst 1, 1) := dk_4 (dk_at dksX6_row_0 12 rfl rfl)
theorem dX6_row_13 : decode cX6_row 13 = .ok (.isub, 1) := dk_100 (dk_at dksX6_row_0 13 rfl rfl)
theorem dX6_row_14 : decode cX6_row 14 = .ok (.i2l, 1) := dk_133 (dk_at dksX6_row_0 14 rfl rfl)
theorem dX6_row_15 : decode cX6_row 15 = .ok (.invokestatic 125, 3) := dk_184 0 125 (dk_at dksX6_row_0 15 rfl rfl)
theorem dX6_row_18 : decode cX6_row 18 = .ok (.ifCond .ne 10, 3) := dk_154 0 10 (dk_at dksX6_row_0 18 rfl rfl)
theorem dX6_row_21 : decode cX6_row 21 = .ok (.aload_n 0, 1) := dk_42 (dk_at dksX6_row_0 21 rfl rfl)
theorem dX6_row_22 : decode cX6_row 22 = .ok (.iconst 1, 1) := dk_4 (dk_at dksX6_row_0 22 rfl rfl)
theorem dX6_row_23 : decode cX6_row 23 = .ok (.putfield 112, 3) := dk_181 0 112 (dk_at dksX6_row_1 0 rfl rfl)
theorem dX6_row_26 : decode cX6_row 26 = .ok (.lconst 0, 1) := dk_9 (dk_at dksX6_row_1 3 rfl rfl)
theorem dX6_row_27 : decode cX6_row 27 = .ok (.lreturn, 1) := dk_173 (dk_at dksX6_row_1 4 rfl rfl)
theorem dX6_row_28 : decode cX6_row 28 = .ok (.aload_n 0, 1) := dk_42 (dk_at dksX6_row_1 5 rfl rfl)
theorem dX6_row_29 : decode cX6_row 29 = .ok (.getfield 9, 3) := dk_180 0 9 (dk_at dksX6_row_1 6 rfl rfl)
theorem dX6_row_32 : decode cX6_row 32 = .ok (.iload_n 1, 1) := dk_27 (dk_at dksX6_row_1 9 rfl rfl)
theorem dX6_row_33 : decode cX6_row 33 = .ok (.laload, 1) := dk_47 (dk_at dksX6_row_1 10 rfl rfl)
theorem dX6_row_34 : decode cX6_row 34 = .ok (.lreturn, 1) := dk_173 (dk_at dksX6_row_1 11 rfl rfl)
theorem q84 : (Jvm.Cond.initialized "BehindAnotherHearseModel") ∈ lw_all := lw_g (lw_at lw_m1 6 rfl) rfl
theorem q1271 : (Jvm.Cond.instantiable "BehindAnotherHearseModel" (53 : Nat)) ∈ lw_all := lw_g (lw_at lw_m5 233 rfl) rfl
theorem q1273 : (Jvm.Cond.instanceMethod ({ cls := "BehindAnotherHearseModel", name := "<init>", desc := "()V" } : Jvm.MethodName)) ∈ lw_all := lw_g (lw_at lw_m5 235 rfl) rfl
theorem q1274 : (Jvm.Cond.code ({ cls := "BehindAnotherHearseModel", name := "<init>", desc := "()V" } : Jvm.MethodName) prog_15_method_1_code (1 : Nat) (Option.none : Option Jvm.ClassFile.FieldType)) ∈ lw_all := lw_g (lw_at lw_m5 236 rfl) rfl
theorem q1275 : (Jvm.Cond.methodLink "BehindAnotherHearseModel" (3 : Nat) ({ cls := "java/lang/Object", name := "<init>", desc := "()V" } : Jvm.MethodName)) ∈ lw_all := lw_g (lw_at lw_m5 237 rfl) rfl
theorem q1276 : (Jvm.Cond.fieldLink "BehindAnotherHearseModel" (112 : Nat) "BehindAnotherHearseModel" "thrown" "I") ∈ lw_all := lw_g (lw_at lw_m5 238 rfl) rfl
theorem q1277 : (Jvm.Cond.fieldLink "BehindAnotherHearseModel" (119 : Nat) "BehindAnotherHearseModel" "told" "I") ∈ lw_all := lw_g (lw_at lw_m5 239 rfl) rfl
theorem q1278 : (Jvm.Cond.fieldLink "BehindAnotherHearseModel" (9 : Nat) "BehindAnotherHearseModel" "row" "[J") ∈ lw_all := lw_g (lw_at lw_m6 0 rfl) rfl
theorem q1279 : (Jvm.Cond.fieldLink "BehindAnotherHearseModel" (13 : Nat) "BehindAnotherHearseModel" "cells" "I") ∈ lw_all := lw_g (lw_at lw_m6 1 rfl) rfl
theorem q1280 : (Jvm.Cond.fieldLink "BehindAnotherHearseModel" (122 : Nat) "BehindAnotherHearseModel" "hearses" "I") ∈ lw_all := lw_g (lw_at lw_m6 2 rfl) rfl
theorem q1281 : (Jvm.Cond.fieldLink "BehindAnotherHearseModel" (129 : Nat) "BehindAnotherHearseModel" "mourners" "I") ∈ lw_all := lw_g (lw_at lw_m6 3 rfl) rfl
theorem q1282 : (Jvm.Cond.fieldLink "BehindAnotherHearseModel" (211 : Nat) "BehindAnotherHearseModel" "changes" "I") ∈ lw_all := lw_g (lw_at lw_m6 4 rfl) rfl
theorem q1283 : (Jvm.Cond.fieldLink "BehindAnotherHearseModel" (17 : Nat) "BehindAnotherHearseModel" "skyLong" "I") ∈ lw_all := lw_g (lw_at lw_m6 5 rfl) rfl
theorem q1284 : (Jvm.Cond.fieldLink "BehindAnotherHearseModel" (20 : Nat) "BehindAnotherHearseModel" "corner" "[Z") ∈ lw_all := lw_g (lw_at lw_m6 6 rfl) rfl
theorem q1285 : (Jvm.Cond.fieldLink "BehindAnotherHearseModel" (24 : Nat) "BehindAnotherHearseModel" "own" "[I") ∈ lw_all := lw_g (lw_at lw_m6 7 rfl) rfl
theorem q1286 : (Jvm.Cond.fieldLink "BehindAnotherHearseModel" (28 : Nat) "BehindAnotherHearseModel" "sky" "[I") ∈ lw_all := lw_g (lw_at lw_m6 8 rfl) rfl
theorem q1287 : (Jvm.Cond.fieldLink "BehindAnotherHearseModel" (31 : Nat) "BehindAnotherHearseModel" "now" "[I") ∈ lw_all := lw_g (lw_at lw_m6 9 rfl) rfl
theorem q1288 : (Jvm.Cond.fieldLink "BehindAnotherHearseModel" (34 : Nat) "BehindAnotherHearseModel" "then" "[I") ∈ lw_all := lw_g (lw_at lw_m6 10 rfl) rfl
theorem q1289 : (Jvm.Cond.fieldLink "BehindAnotherHearseModel" (37 : Nat) "BehindAnotherHearseModel" "tape" "[I") ∈ lw_all := lw_g (lw_at lw_m6 11 rfl) rfl
theorem q1290 : (Jvm.Cond.fieldLink "BehindAnotherHearseModel" (136 : Nat) "BehindAnotherHearseModel" "taped" "I") ∈ lw_all := lw_g (lw_at lw_m6 12 rfl) rfl
theorem q1291 : (Jvm.Cond.fieldLink "BehindAnotherHearseModel" (139 : Nat) "BehindAnotherHearseModel" "at" "I") ∈ lw_all := lw_g (lw_at lw_m6 13 rfl) rfl
theorem q1292 : (Jvm.Cond.fieldLink "BehindAnotherHearseModel" (151 : Nat) "BehindAnotherHearseModel" "to" "I") ∈ lw_all := lw_g (lw_at lw_m6 14 rfl) rfl
theorem q1293 : (Jvm.Cond.fieldLink "BehindAnotherHearseModel" (142 : Nat) "BehindAnotherHearseModel" "nest" "I") ∈ lw_all := lw_g (lw_at lw_m6 15 rfl) rfl
theorem q1294 : (Jvm.Cond.fieldLink "BehindAnotherHearseModel" (40 : Nat) "BehindAnotherHearseModel" "readCorner" "[Z") ∈ lw_all := lw_g (lw_at lw_m6 16 rfl) rfl
theorem q1295 : (Jvm.Cond.fieldLink "BehindAnotherHearseModel" (43 : Nat) "BehindAnotherHearseModel" "read" "[I") ∈ lw_all := lw_g (lw_at lw_m6 17 rfl) rfl
theorem q1296 : (Jvm.Cond.fieldLink "BehindAnotherHearseModel" (199 : Nat) "BehindAnotherHearseModel" "readMany" "I") ∈ lw_all := lw_g (lw_at lw_m6 18 rfl) rfl
theorem q1297 : (Jvm.Cond.fieldLink "BehindAnotherHearseModel" (46 : Nat) "BehindAnotherHearseModel" "readSky" "[I") ∈ lw_all := lw_g (lw_at lw_m6 19 rfl) rfl
theorem q1298 : (Jvm.Cond.fieldLink "BehindAnotherHearseModel" (49 : Nat) "BehindAnotherHearseModel" "code" "[I") ∈ lw_all := lw_g (lw_at lw_m6 20 rfl) rfl
theorem q1299 : (Jvm.Cond.fieldLink "BehindAnotherHearseModel" (52 : Nat) "BehindAnotherHearseModel" "readCode" "[I") ∈ lw_all := lw_g (lw_at lw_m6 21 rfl) rfl
theorem q1300 : (Jvm.Cond.fieldLink "BehindAnotherHearseModel" (252 : Nat) "BehindAnotherHearseModel" "codeLong" "I") ∈ lw_all := lw_g (lw_at lw_m6 22 rfl) rfl
theorem q1301 : (Jvm.Cond.fieldLink "BehindAnotherHearseModel" (231 : Nat) "BehindAnotherHearseModel" "codesRead" "I") ∈ lw_all := lw_g (lw_at lw_m6 23 rfl) rfl
theorem q1302 : (Jvm.Cond.fieldLink "BehindAnotherHearseModel" (55 : Nat) "BehindAnotherHearseModel" "stack" "[I") ∈ lw_all := lw_g (lw_at lw_m6 24 rfl) rfl
theorem q1303 : (Jvm.Cond.fieldLink "BehindAnotherHearseModel" (58 : Nat) "BehindAnotherHearseModel" "asked" "[I") ∈ lw_all := lw_g (lw_at lw_m6 25 rfl) rfl
theorem q1304 : (Jvm.Cond.fieldLink "BehindAnotherHearseModel" (186 : Nat) "BehindAnotherHearseModel" "undos" "I") ∈ lw_all := lw_g (lw_at lw_m6 26 rfl) rfl
theorem q1305 : (Jvm.Cond.fieldLink "BehindAnotherHearseModel" (61 : Nat) "BehindAnotherHearseModel" "undone" "[I") ∈ lw_all := lw_g (lw_at lw_m6 27 rfl) rfl
theorem q1306 : (Jvm.Cond.fieldLink "BehindAnotherHearseModel" (327 : Nat) "BehindAnotherHearseModel" "waits" "I") ∈ lw_all := lw_g (lw_at lw_m6 28 rfl) rfl
theorem q1307 : (Jvm.Cond.fieldLink "BehindAnotherHearseModel" (330 : Nat) "BehindAnotherHearseModel" "turnings" "I") ∈ lw_all := lw_g (lw_at lw_m6 29 rfl) rfl
theorem q1308 : (Jvm.Cond.fieldLink "BehindAnotherHearseModel" (64 : Nat) "BehindAnotherHearseModel" "waitOn" "[I") ∈ lw_all := lw_g (lw_at lw_m6 30 rfl) rfl
theorem q1309 : (Jvm.Cond.fieldLink "BehindAnotherHearseModel" (67 : Nat) "BehindAnotherHearseModel" "turnOf" "[I") ∈ lw_all := lw_g (lw_at lw_m6 31 rfl) rfl
theorem q1310 : (Jvm.Cond.fieldLink "BehindAnotherHearseModel" (70 : Nat) "BehindAnotherHearseModel" "line" "[I") ∈ lw_all := lw_g (lw_at lw_m6 32 rfl) rfl
theorem q1311 : (Jvm.Cond.fieldLink "BehindAnotherHearseModel" (321 : Nat) "BehindAnotherHearseModel" "lineLong" "I") ∈ lw_all := lw_g (lw_at lw_m6 33 rfl) rfl
theorem q1312 : (Jvm.Cond.fieldLink "BehindAnotherHearseModel" (73 : Nat) "BehindAnotherHearseModel" "actSign" "[I") ∈ lw_all := lw_g (lw_at lw_m6 34 rfl) rfl
theorem q1313 : (Jvm.Cond.fieldLink "BehindAnotherHearseModel" (76 : Nat) "BehindAnotherHearseModel" "actOne" "[I") ∈ lw_all := lw_g (lw_at lw_m6 35 rfl) rfl
theorem q1314 : (Jvm.Cond.fieldLink "BehindAnotherHearseModel" (79 : Nat) "BehindAnotherHearseModel" "actTwo" "[I") ∈ lw_all := lw_g (lw_at lw_m6 36 rfl) rfl
theorem q1315 : (Jvm.Cond.fieldLink "BehindAnotherHearseModel" (374 : Nat) "BehindAnotherHearseModel" "acts" "I") ∈ lw_all := lw_g (lw_at lw_m6 37 rfl) rfl
theorem q1316 : (Jvm.Cond.fieldLink "BehindAnotherHearseModel" (82 : Nat) "BehindAnotherHearseModel" "place" "[I") ∈ lw_all := lw_g (lw_at lw_m6 38 rfl) rfl
theorem q1317 : (Jvm.Cond.fieldLink "BehindAnotherHearseModel" (85 : Nat) "BehindAnotherHearseModel" "bestPlace" "[I") ∈ lw_all := lw_g (lw_at lw_m6 39 rfl) rfl
theorem q1318 : (Jvm.Cond.fieldLink "BehindAnotherHearseModel" (404 : Nat) "BehindAnotherHearseModel" "bestMany" "I") ∈ lw_all := lw_g (lw_at lw_m6 40 rfl) rfl
theorem q1319 : (Jvm.Cond.fieldLink "BehindAnotherHearseModel" (88 : Nat) "BehindAnotherHearseModel" "given" "[I") ∈ lw_all := lw_g (lw_at lw_m6 41 rfl) rfl
theorem q1320 : (Jvm.Cond.fieldLink "BehindAnotherHearseModel" (91 : Nat) "BehindAnotherHearseModel" "bestGiven" "[I") ∈ lw_all := lw_g (lw_at lw_m6 42 rfl) rfl
theorem q1321 : (Jvm.Cond.fieldLink "BehindAnotherHearseModel" (423 : Nat) "BehindAnotherHearseModel" "heardMany" "I") ∈ lw_all := lw_g (lw_at lw_m6 43 rfl) rfl
theorem q1322 : (Jvm.Cond.fieldLink "BehindAnotherHearseModel" (94 : Nat) "BehindAnotherHearseModel" "heardWhat" "[I") ∈ lw_all := lw_g (lw_at lw_m6 44 rfl) rfl
theorem q1323 : (Jvm.Cond.fieldLink "BehindAnotherHearseModel" (97 : Nat) "BehindAnotherHearseModel" "heardOf" "[I") ∈ lw_all := lw_g (lw_at lw_m6 45 rfl) rfl
theorem q1324 : (Jvm.Cond.fieldLink "BehindAnotherHearseModel" (100 : Nat) "BehindAnotherHearseModel" "wasCode" "[I") ∈ lw_all := lw_g (lw_at lw_m6 46 rfl) rfl
theorem q1325 : (Jvm.Cond.fieldLink "BehindAnotherHearseModel" (442 : Nat) "BehindAnotherHearseModel" "random" "I") ∈ lw_all := lw_g (lw_at lw_m6 47 rfl) rfl
theorem q1326 : (Jvm.Cond.fieldLink "BehindAnotherHearseModel" (103 : Nat) "BehindAnotherHearseModel" "isKept" "[Z") ∈ lw_all := lw_g (lw_at lw_m6 48 rfl) rfl
theorem q1327 : (Jvm.Cond.fieldLink "BehindAnotherHearseModel" (106 : Nat) "BehindAnotherHearseModel" "keptChanges" "[I") ∈ lw_all := lw_g (lw_at lw_m6 49 rfl) rfl
theorem q1328 : (Jvm.Cond.fieldLink "BehindAnotherHearseModel" (109 : Nat) "BehindAnotherHearseModel" "kept" "[I") ∈ lw_all := lw_g (lw_at lw_m6 50 rfl) rfl
theorem q1329 : (Jvm.Cond.lays "BehindAnotherHearseModel" "BehindAnotherHearseModel" "thrown" "I") ∈ lw_all := lw_g (lw_at lw_m6 51 rfl) rfl
theorem q1330 : (Jvm.Cond.soleField "BehindAnotherHearseModel" "thrown") ∈ lw_all := lw_g (lw_at lw_m6 52 rfl) rfl
theorem q1331 : (Jvm.Cond.lays "BehindAnotherHearseModel" "BehindAnotherHearseModel" "told" "I") ∈ lw_all := lw_g (lw_at lw_m6 53 rfl) rfl
theorem q1332 : (Jvm.Cond.soleField "BehindAnotherHearseModel" "told") ∈ lw_all := lw_g (lw_at lw_m6 54 rfl) rfl
theorem q1333 : (Jvm.Cond.laysFinal "BehindAnotherHearseModel" "BehindAnotherHearseModel" "row" "[J") ∈ lw_all := lw_g (lw_at lw_m6 55 rfl) rfl
theorem q1334 : (Jvm.Cond.soleField "BehindAnotherHearseModel" "row") ∈ lw_all := lw_g (lw_at lw_m6 56 rfl) rfl
theorem q1335 : (Jvm.Cond.lays "BehindAnotherHearseModel" "BehindAnotherHearseModel" "cells" "I") ∈ lw_all := lw_g (lw_at lw_m6 57 rfl) rfl
theorem q1336 : (Jvm.Cond.soleField "BehindAnotherHearseModel" "cells") ∈ lw_all := lw_g (lw_at lw_m6 58 rfl) rfl
theorem q1337 : (Jvm.Cond.lays "BehindAnotherHearseModel" "BehindAnotherHearseModel" "hearses" "I") ∈ lw_all := lw_g (lw_at lw_m6 59 rfl) rfl
theorem q1338 : (Jvm.Cond.soleField "BehindAnotherHearseModel" "hearses") ∈ lw_all := lw_g (lw_at lw_m6 60 rfl) rfl
theorem q1339 : (Jvm.Cond.lays "BehindAnotherHearseModel" "BehindAnotherHearseModel" "mourners" "I") ∈ lw_all := lw_g (lw_at lw_m6 61 rfl) rfl
theorem q1340 : (Jvm.Cond.soleField "BehindAnotherHearseModel" "mourners") ∈ lw_all := lw_g (lw_at lw_m6 62 rfl) rfl
theorem q1341 : (Jvm.Cond.lays "BehindAnotherHearseModel" "BehindAnotherHearseModel" "changes" "I") ∈ lw_all := lw_g (lw_at lw_m6 63 rfl) rfl
theorem q1342 : (Jvm.Cond.soleField "BehindAnotherHearseModel" "changes") ∈ lw_all := lw_g (lw_at lw_m6 64 rfl) rfl
theorem q1343 : (Jvm.Cond.lays "BehindAnotherHearseModel" "BehindAnotherHearseModel" "skyLong" "I") ∈ lw_all := lw_g (lw_at lw_m6 65 rfl) rfl
theorem q1344 : (Jvm.Cond.soleField "BehindAnotherHearseModel" "skyLong") ∈ lw_all := lw_g (lw_at lw_m6 66 rfl) rfl
theorem q1345 : (Jvm.Cond.laysFinal "BehindAnotherHearseModel" "BehindAnotherHearseModel" "corner" "[Z") ∈ lw_all := lw_g (lw_at lw_m6 67 rfl) rfl
theorem q1346 : (Jvm.Cond.soleField "BehindAnotherHearseModel" "corner") ∈ lw_all := lw_g (lw_at lw_m6 68 rfl) rfl
theorem q1347 : (Jvm.Cond.laysFinal "BehindAnotherHearseModel" "BehindAnotherHearseModel" "own" "[I") ∈ lw_all := lw_g (lw_at lw_m6 69 rfl) rfl
theorem q1348 : (Jvm.Cond.soleField "BehindAnotherHearseModel" "own") ∈ lw_all := lw_g (lw_at lw_m6 70 rfl) rfl
theorem q1349 : (Jvm.Cond.laysFinal "BehindAnotherHearseModel" "BehindAnotherHearseModel" "sky" "[I") ∈ lw_all := lw_g (lw_at lw_m6 71 rfl) rfl
theorem q1350 : (Jvm.Cond.soleField "BehindAnotherHearseModel" "sky") ∈ lw_all := lw_g (lw_at lw_m6 72 rfl) rfl
theorem q1351 : (Jvm.Cond.laysFinal "BehindAnotherHearseModel" "BehindAnotherHearseModel" "now" "[I") ∈ lw_all := lw_g (lw_at lw_m6 73 rfl) rfl
theorem q1352 : (Jvm.Cond.soleField "BehindAnotherHearseModel" "now") ∈ lw_all := lw_g (lw_at lw_m6 74 rfl) rfl
theorem q1353 : (Jvm.Cond.laysFinal "BehindAnotherHearseModel" "BehindAnotherHearseModel" "then" "[I") ∈ lw_all := lw_g (lw_at lw_m6 75 rfl) rfl
theorem q1354 : (Jvm.Cond.soleField "BehindAnotherHearseModel" "then") ∈ lw_all := lw_g (lw_at lw_m6 76 rfl) rfl
theorem q1355 : (Jvm.Cond.laysFinal "BehindAnotherHearseModel" "BehindAnotherHearseModel" "tape" "[I") ∈ lw_all := lw_g (lw_at lw_m6 77 rfl) rfl
theorem q1356 : (Jvm.Cond.soleField "BehindAnotherHearseModel" "tape") ∈ lw_all := lw_g (lw_at lw_m6 78 rfl) rfl
theorem q1357 : (Jvm.Cond.lays "BehindAnotherHearseModel" "BehindAnotherHearseModel" "taped" "I") ∈ lw_all := lw_g (lw_at lw_m6 79 rfl) rfl
theorem q1358 : (Jvm.Cond.soleField "BehindAnotherHearseModel" "taped") ∈ lw_all := lw_g (lw_at lw_m6 80 rfl) rfl
theorem q1359 : (Jvm.Cond.lays "BehindAnotherHearseModel" "BehindAnotherHearseModel" "at" "I") ∈ lw_all := lw_g (lw_at lw_m6 81 rfl) rfl
theorem q1360 : (Jvm.Cond.soleField "BehindAnotherHearseModel" "at") ∈ lw_all := lw_g (lw_at lw_m6 82 rfl) rfl
theorem q1361 : (Jvm.Cond.lays "BehindAnotherHearseModel" "BehindAnotherHearseModel" "to" "I") ∈ lw_all := lw_g (lw_at lw_m6 83 rfl) rfl
theorem q1362 : (Jvm.Cond.soleField "BehindAnotherHearseModel" "to") ∈ lw_all := lw_g (lw_at lw_m6 84 rfl) rfl
theorem q1363 : (Jvm.Cond.lays "BehindAnotherHearseModel" "BehindAnotherHearseModel" "nest" "I") ∈ lw_all := lw_g (lw_at lw_m6 85 rfl) rfl
theorem q1364 : (Jvm.Cond.soleField "BehindAnotherHearseModel" "nest") ∈ lw_all := lw_g (lw_at lw_m6 86 rfl) rfl
theorem q1365 : (Jvm.Cond.laysFinal "BehindAnotherHearseModel" "BehindAnotherHearseModel" "readCorner" "[Z") ∈ lw_all := lw_g (lw_at lw_m6 87 rfl) rfl
theorem q1366 : (Jvm.Cond.soleField "BehindAnotherHearseModel" "readCorner") ∈ lw_all := lw_g (lw_at lw_m6 88 rfl) rfl
theorem q1367 : (Jvm.Cond.laysFinal "BehindAnotherHearseModel" "BehindAnotherHearseModel" "read" "[I") ∈ lw_all := lw_g (lw_at lw_m6 89 rfl) rfl
theorem q1368 : (Jvm.Cond.soleField "BehindAnotherHearseModel" "read") ∈ lw_all := lw_g (lw_at lw_m6 90 rfl) rfl
theorem q1369 : (Jvm.Cond.lays "BehindAnotherHearseModel" "BehindAnotherHearseModel" "readMany" "I") ∈ lw_all := lw_g (lw_at lw_m6 91 rfl) rfl
theorem q1370 : (Jvm.Cond.soleField "BehindAnotherHearseModel" "readMany") ∈ lw_all := lw_g (lw_at lw_m6 92 rfl) rfl
theorem q1371 : (Jvm.Cond.laysFinal "BehindAnotherHearseModel" "BehindAnotherHearseModel" "readSky" "[I") ∈ lw_all := lw_g (lw_at lw_m6 93 rfl) rfl
theorem q1372 : (Jvm.Cond.soleField "BehindAnotherHearseModel" "readSky") ∈ lw_all := lw_g (lw_at lw_m6 94 rfl) rfl
theorem q1373 : (Jvm.Cond.laysFinal "BehindAnotherHearseModel" "BehindAnotherHearseModel" "code" "[I") ∈ lw_all := lw_g (lw_at lw_m6 95 rfl) rfl
theorem q1374 : (Jvm.Cond.soleField "BehindAnotherHearseModel" "code") ∈ lw_all := lw_g (lw_at lw_m6 96 rfl) rfl
theorem q1375 : (Jvm.Cond.laysFinal "BehindAnotherHearseModel" "BehindAnotherHearseModel" "readCode" "[I") ∈ lw_all := lw_g (lw_at lw_m6 97 rfl) rfl
theorem q1376 : (Jvm.Cond.soleField "BehindAnotherHearseModel" "readCode") ∈ lw_all := lw_g (lw_at lw_m6 98 rfl) rfl
theorem q1377 : (Jvm.Cond.lays "BehindAnotherHearseModel" "BehindAnotherHearseModel" "codeLong" "I") ∈ lw_all := lw_g (lw_at lw_m6 99 rfl) rfl
theorem q1378 : (Jvm.Cond.soleField "BehindAnotherHearseModel" "codeLong") ∈ lw_all := lw_g (lw_at lw_m6 100 rfl) rfl
theorem q1379 : (Jvm.Cond.lays "BehindAnotherHearseModel" "BehindAnotherHearseModel" "codesRead" "I") ∈ lw_all := lw_g (lw_at lw_m6 101 rfl) rfl
theorem q1380 : (Jvm.Cond.soleField "BehindAnotherHearseModel" "codesRead") ∈ lw_all := lw_g (lw_at lw_m6 102 rfl) rfl
theorem q1381 : (Jvm.Cond.laysFinal "BehindAnotherHearseModel" "BehindAnotherHearseModel" "stack" "[I") ∈ lw_all := lw_g (lw_at lw_m6 103 rfl) rfl
theorem q1382 : (Jvm.Cond.soleField "BehindAnotherHearseModel" "stack") ∈ lw_all := lw_g (lw_at lw_m6 104 rfl) rfl
theorem q1383 : (Jvm.Cond.laysFinal "BehindAnotherHearseModel" "BehindAnotherHearseModel" "asked" "[I") ∈ lw_all := lw_g (lw_at lw_m6 105 rfl) rfl
theorem q1384 : (Jvm.Cond.soleField "BehindAnotherHearseModel" "asked") ∈ lw_all := lw_g (lw_at lw_m6 106 rfl) rfl
theorem q1385 : (Jvm.Cond.lays "BehindAnotherHearseModel" "BehindAnotherHearseModel" "undos" "I") ∈ lw_all := lw_g (lw_at lw_m6 107 rfl) rfl
theorem q1386 : (Jvm.Cond.soleField "BehindAnotherHearseModel" "undos") ∈ lw_all := lw_g (lw_at lw_m6 108 rfl) rfl
theorem q1387 : (Jvm.Cond.laysFinal "BehindAnotherHearseModel" "BehindAnotherHearseModel" "undone" "[I") ∈ lw_all := lw_g (lw_at lw_m6 109 rfl) rfl
theorem q1388 : (Jvm.Cond.soleField "BehindAnotherHearseModel" "undone") ∈ lw_all := lw_g (lw_at lw_m6 110 rfl) rfl
theorem q1389 : (Jvm.Cond.lays "BehindAnotherHearseModel" "BehindAnotherHearseModel" "waits" "I") ∈ lw_all := lw_g (lw_at lw_m6 111 rfl) rfl
theorem q1390 : (Jvm.Cond.soleField "BehindAnotherHearseModel" "waits") ∈ lw_all := lw_g (lw_at lw_m6 112 rfl) rfl
theorem q1391 : (Jvm.Cond.lays "BehindAnotherHearseModel" "BehindAnotherHearseModel" "turnings" "I") ∈ lw_all := lw_g (lw_at lw_m6 113 rfl) rfl
theorem q1392 : (Jvm.Cond.soleField "BehindAnotherHearseModel" "turnings") ∈ lw_all := lw_g (lw_at lw_m6 114 rfl) rfl
theorem q1393 : (Jvm.Cond.laysFinal "BehindAnotherHearseModel" "BehindAnotherHearseModel" "waitOn" "[I") ∈ lw_all := lw_g (lw_at lw_m6 115 rfl) rfl
theorem q1394 : (Jvm.Cond.soleField "BehindAnotherHearseModel" "waitOn") ∈ lw_all := lw_g (lw_at lw_m6 116 rfl) rfl
theorem q1395 : (Jvm.Cond.laysFinal "BehindAnotherHearseModel" "BehindAnotherHearseModel" "turnOf" "[I") ∈ lw_all := lw_g (lw_at lw_m6 117 rfl) rfl
theorem q1396 : (Jvm.Cond.soleField "BehindAnotherHearseModel" "turnOf") ∈ lw_all := lw_g (lw_at lw_m6 118 rfl) rfl
theorem q1397 : (Jvm.Cond.laysFinal "BehindAnotherHearseModel" "BehindAnotherHearseModel" "line" "[I") ∈ lw_all := lw_g (lw_at lw_m6 119 rfl) rfl
theorem q1398 : (Jvm.Cond.soleField "BehindAnotherHearseModel" "line") ∈ lw_all := lw_g (lw_at lw_m6 120 rfl) rfl
theorem q1399 : (Jvm.Cond.lays "BehindAnotherHearseModel" "BehindAnotherHearseModel" "lineLong" "I") ∈ lw_all := lw_g (lw_at lw_m6 121 rfl) rfl
theorem q1400 : (Jvm.Cond.soleField "BehindAnotherHearseModel" "lineLong") ∈ lw_all := lw_g (lw_at lw_m6 122 rfl) rfl
theorem q1401 : (Jvm.Cond.laysFinal "BehindAnotherHearseModel" "BehindAnotherHearseModel" "actSign" "[I") ∈ lw_all := lw_g (lw_at lw_m6 123 rfl) rfl
theorem q1402 : (Jvm.Cond.soleField "BehindAnotherHearseModel" "actSign") ∈ lw_all := lw_g (lw_at lw_m6 124 rfl) rfl
theorem q1403 : (Jvm.Cond.laysFinal "BehindAnotherHearseModel" "BehindAnotherHearseModel" "actOne" "[I") ∈ lw_all := lw_g (lw_at lw_m6 125 rfl) rfl
theorem q1404 : (Jvm.Cond.soleField "BehindAnotherHearseModel" "actOne") ∈ lw_all := lw_g (lw_at lw_m6 126 rfl) rfl
theorem q1405 : (Jvm.Cond.laysFinal "BehindAnotherHearseModel" "BehindAnotherHearseModel" "actTwo" "[I") ∈ lw_all := lw_g (lw_at lw_m6 127 rfl) rfl
theorem q1406 : (Jvm.Cond.soleField "BehindAnotherHearseModel" "actTwo") ∈ lw_all := lw_g (lw_at lw_m6 128 rfl) rfl
theorem q1407 : (Jvm.Cond.lays "BehindAnotherHearseModel" "BehindAnotherHearseModel" "acts" "I") ∈ lw_all := lw_g (lw_at lw_m6 129 rfl) rfl
theorem q1408 : (Jvm.Cond.soleField "BehindAnotherHearseModel" "acts") ∈ lw_all := lw_g (lw_at lw_m6 130 rfl) rfl
theorem q1409 : (Jvm.Cond.laysFinal "BehindAnotherHearseModel" "BehindAnotherHearseModel" "place" "[I") ∈ lw_all := lw_g (lw_at lw_m6 131 rfl) rfl
theorem q1410 : (Jvm.Cond.soleField "BehindAnotherHearseModel" "place") ∈ lw_all := lw_g (lw_at lw_m6 132 rfl) rfl
theorem q1411 : (Jvm.Cond.laysFinal "BehindAnotherHearseModel" "BehindAnotherHearseModel" "bestPlace" "[I") ∈ lw_all := lw_g (lw_at lw_m6 133 rfl) rfl
theorem q1412 : (Jvm.Cond.soleField "BehindAnotherHearseModel" "bestPlace") ∈ lw_all := lw_g (lw_at lw_m6 134 rfl) rfl
theorem q1413 : (Jvm.Cond.lays "BehindAnotherHearseModel" "BehindAnotherHearseModel" "bestMany" "I") ∈ lw_all := lw_g (lw_at lw_m6 135 rfl) rfl
theorem q1414 : (Jvm.Cond.soleField "BehindAnotherHearseModel" "bestMany") ∈ lw_all := lw_g (lw_at lw_m6 136 rfl) rfl
theorem q1415 : (Jvm.Cond.laysFinal "BehindAnotherHearseModel" "BehindAnotherHearseModel" "given" "[I") ∈ lw_all := lw_g (lw_at lw_m6 137 rfl) rfl
theorem q1416 : (Jvm.Cond.soleField "BehindAnotherHearseModel" "given") ∈ lw_all := lw_g (lw_at lw_m6 138 rfl) rfl
theorem q1417 : (Jvm.Cond.laysFinal "BehindAnotherHearseModel" "BehindAnotherHearseModel" "bestGiven" "[I") ∈ lw_all := lw_g (lw_at lw_m6 139 rfl) rfl
theorem q1418 : (Jvm.Cond.soleField "BehindAnotherHearseModel" "bestGiven") ∈ lw_all := lw_g (lw_at lw_m6 140 rfl) rfl
theorem q1419 : (Jvm.Cond.lays "BehindAnotherHearseModel" "BehindAnotherHearseModel" "heardMany" "I") ∈ lw_all := lw_g (lw_at lw_m6 141 rfl) rfl
theorem q1420 : (Jvm.Cond.soleField "BehindAnotherHearseModel" "heardMany") ∈ lw_all := lw_g (lw_at lw_m6 142 rfl) rfl
theorem q1421 : (Jvm.Cond.laysFinal "BehindAnotherHearseModel" "BehindAnotherHearseModel" "heardWhat" "[I") ∈ lw_all := lw_g (lw_at lw_m6 143 rfl) rfl
theorem q1422 : (Jvm.Cond.soleField "BehindAnotherHearseModel" "heardWhat") ∈ lw_all := lw_g (lw_at lw_m6 144 rfl) rfl
theorem q1423 : (Jvm.Cond.laysFinal "BehindAnotherHearseModel" "BehindAnotherHearseModel" "heardOf" "[I") ∈ lw_all := lw_g (lw_at lw_m6 145 rfl) rfl
theorem q1424 : (Jvm.Cond.soleField "BehindAnotherHearseModel" "heardOf") ∈ lw_all := lw_g (lw_at lw_m6 146 rfl) rfl
theorem q1425 : (Jvm.Cond.laysFinal "BehindAnotherHearseModel" "BehindAnotherHearseModel" "wasCode" "[I") ∈ lw_all := lw_g (lw_at lw_m6 147 rfl) rfl
theorem q1426 : (Jvm.Cond.soleField "BehindAnotherHearseModel" "wasCode") ∈ lw_all := lw_g (lw_at lw_m6 148 rfl) rfl
theorem q1427 : (Jvm.Cond.lays "BehindAnotherHearseModel" "BehindAnotherHearseModel" "random" "I") ∈ lw_all := lw_g (lw_at lw_m6 149 rfl) rfl
theorem q1428 : (Jvm.Cond.soleField "BehindAnotherHearseModel" "random") ∈ lw_all := lw_g (lw_at lw_m6 150 rfl) rfl
theorem q1429 : (Jvm.Cond.laysFinal "BehindAnotherHearseModel" "BehindAnotherHearseModel" "isKept" "[Z") ∈ lw_all := lw_g (lw_at lw_m6 151 rfl) rfl
theorem q1430 : (Jvm.Cond.soleField "BehindAnotherHearseModel" "isKept") ∈ lw_all := lw_g (lw_at lw_m6 152 rfl) rfl
theorem q1431 : (Jvm.Cond.laysFinal "BehindAnotherHearseModel" "BehindAnotherHearseModel" "keptChanges" "[I") ∈ lw_all := lw_g (lw_at lw_m6 153 rfl) rfl
theorem q1432 : (Jvm.Cond.soleField "BehindAnotherHearseModel" "keptChanges") ∈ lw_all := lw_g (lw_at lw_m6 154 rfl) rfl
theorem q1433 : (Jvm.Cond.laysFinal "BehindAnotherHearseModel" "BehindAnotherHearseModel" "kept" "[I") ∈ lw_all := lw_g (lw_at lw_m6 155 rfl) rfl
theorem q1434 : (Jvm.Cond.soleField "BehindAnotherHearseModel" "kept") ∈ lw_all := lw_g (lw_at lw_m6 156 rfl) rfl
theorem q1435 : (Jvm.Cond.superclass "BehindAnotherHearseModel" "java/lang/Object") ∈ lw_all := lw_g (lw_at lw_m6 157 rfl) rfl
theorem q1437 : (Jvm.Cond.instanceMethod ({ cls := "BehindAnotherHearseModel", name := "thrown", desc := "()I" } : Jvm.MethodName)) ∈ lw_all := lw_g (lw_at lw_m6 159 rfl) rfl
theorem q1438 : (Jvm.Cond.selects "BehindAnotherHearseModel" ({ cls := "BehindAnotherHearseModel", name := "thrown", desc := "()I" } : Jvm.MethodName) ({ cls := "BehindAnotherHearseModel", name := "thrown", desc := "()I" } : Jvm.MethodName)) ∈ lw_all := lw_g (lw_at lw_m6 160 rfl) rfl
theorem q1439 : (Jvm.Cond.code ({ cls := "BehindAnotherHearseModel", name := "thrown", desc := "()I" } : Jvm.MethodName) prog_15_method_2_code (1 : Nat) (Option.some Jvm.ClassFile.FieldType.int)) ∈ lw_all := lw_g (lw_at lw_m6 161 rfl) rfl
theorem q1441 : (Jvm.Cond.instanceMethod ({ cls := "BehindAnotherHearseModel", name := "sign", desc := "(I)I" } : Jvm.MethodName)) ∈ lw_all := lw_g (lw_at lw_m6 163 rfl) rfl
theorem q1442 : (Jvm.Cond.selects "BehindAnotherHearseModel" ({ cls := "BehindAnotherHearseModel", name := "sign", desc := "(I)I" } : Jvm.MethodName) ({ cls := "BehindAnotherHearseModel", name := "sign", desc := "(I)I" } : Jvm.MethodName)) ∈ lw_all := lw_g (lw_at lw_m6 164 rfl) rfl
theorem q1443 : (Jvm.Cond.code ({ cls := "BehindAnotherHearseModel", name := "sign", desc := "(I)I" } : Jvm.MethodName) prog_15_method_18_code (3 : Nat) (Option.some Jvm.ClassFile.FieldType.int)) ∈ lw_all := lw_g (lw_at lw_m6 165 rfl) rfl
theorem q1445 : (Jvm.Cond.instanceMethod ({ cls := "BehindAnotherHearseModel", name := "end", desc := "(I)Z" } : Jvm.MethodName)) ∈ lw_all := lw_g (lw_at lw_m6 167 rfl) rfl
theorem q1446 : (Jvm.Cond.selects "BehindAnotherHearseModel" ({ cls := "BehindAnotherHearseModel", name := "end", desc := "(I)Z" } : Jvm.MethodName) ({ cls := "BehindAnotherHearseModel", name := "end", desc := "(I)Z" } : Jvm.MethodName)) ∈ lw_all := lw_g (lw_at lw_m6 168 rfl) rfl
theorem q1447 : (Jvm.Cond.code ({ cls := "BehindAnotherHearseModel", name := "end", desc := "(I)Z" } : Jvm.MethodName) prog_15_method_19_code (2 : Nat) (Option.some Jvm.ClassFile.FieldType.boolean)) ∈ lw_all := lw_g (lw_at lw_m6 169 rfl) rfl
theorem q1448 : (Jvm.Cond.methodLink "BehindAnotherHearseModel" (125 : Nat) ({ cls := "BehindAnotherHearseModel", name := "in", desc := "(JJJ)Z" } : Jvm.MethodName)) ∈ lw_all := lw_g (lw_at lw_m6 170 rfl) rfl
theorem q1449 : (Jvm.Cond.static ({ cls := "BehindAnotherHearseModel", name := "in", desc := "(JJJ)Z" } : Jvm.MethodName)) ∈ lw_all := lw_g (lw_at lw_m6 171 rfl) rfl
theorem q1450 : (Jvm.Cond.code ({ cls := "BehindAnotherHearseModel", name := "in", desc := "(JJJ)Z" } : Jvm.MethodName) prog_15_method_4_code (6 : Nat) (Option.some Jvm.ClassFile.FieldType.boolean)) ∈ lw_all := lw_g (lw_at lw_m6 172 rfl) rfl
theorem q1452 : (Jvm.Cond.instanceMethod ({ cls := "BehindAnotherHearseModel", name := "avenue", desc := "()I" } : Jvm.MethodName)) ∈ lw_all := lw_g (lw_at lw_m6 174 rfl) rfl
theorem q1453 : (Jvm.Cond.selects "BehindAnotherHearseModel" ({ cls := "BehindAnotherHearseModel", name := "avenue", desc := "()I" } : Jvm.MethodName) ({ cls := "BehindAnotherHearseModel", name := "avenue", desc := "()I" } : Jvm.MethodName)) ∈ lw_all := lw_g (lw_at lw_m6 175 rfl) rfl
theorem q1454 : (Jvm.Cond.code ({ cls := "BehindAnotherHearseModel", name := "avenue", desc := "()I" } : Jvm.MethodName) prog_15_method_27_code (4 : Nat) (Option.some Jvm.ClassFile.FieldType.int)) ∈ lw_all := lw_g (lw_at lw_m6 176 rfl) rfl
theorem q1455 : (Jvm.Cond.methodLink "BehindAnotherHearseModel" (176 : Nat) ({ cls := "BehindAnotherHearseModel", name := "begins", desc := "(I)I" } : Jvm.MethodName)) ∈ lw_all := lw_g (lw_at lw_m6 177 rfl) rfl
theorem q1456 : (Jvm.Cond.privateMethod ({ cls := "BehindAnotherHearseModel", name := "begins", desc := "(I)I" } : Jvm.MethodName)) ∈ lw_tbl := lw_at lw_m6 178 rfl
theorem q1457 : (Jvm.Cond.instanceMethod ({ cls := "BehindAnotherHearseModel", name := "begins", desc := "(I)I" } : Jvm.MethodName)) ∈ lw_all := lw_g (lw_at lw_m6 179 rfl) rfl
theorem q1458 : (Jvm.Cond.code ({ cls := "BehindAnotherHearseModel", name := "begins", desc := "(I)I" } : Jvm.MethodName) prog_15_method_20_code (3 : Nat) (Option.some Jvm.ClassFile.FieldType.int)) ∈ lw_all := lw_g (lw_at lw_m6 180 rfl) rfl
theorem q1459 : (Jvm.Cond.methodLink "BehindAnotherHearseModel" (145 : Nat) ({ cls := "java/lang/Math", name := "min", desc := "(II)I" } : Jvm.MethodName)) ∈ lw_all := lw_g (lw_at lw_m6 181 rfl) rfl
theorem q1460 : (Jvm.Cond.stringRef "BehindAnotherHearseModel" (180 : Nat) ".c") ∈ lw_tbl := lw_at lw_m6 182 rfl
theorem q1461 : (Jvm.Cond.methodLink "BehindAnotherHearseModel" (182 : Nat) ({ cls := "BehindAnotherHearseModel", name := "takesOf", desc := "(Ljava/lang/String;)I" } : Jvm.MethodName)) ∈ lw_all := lw_g (lw_at lw_m6 183 rfl) rfl
theorem q1462 : (Jvm.Cond.privateMethod ({ cls := "BehindAnotherHearseModel", name := "takesOf", desc := "(Ljava/lang/String;)I" } : Jvm.MethodName)) ∈ lw_tbl := lw_at lw_m6 184 rfl
theorem q1463 : (Jvm.Cond.instanceMethod ({ cls := "BehindAnotherHearseModel", name := "takesOf", desc := "(Ljava/lang/String;)I" } : Jvm.MethodName)) ∈ lw_all := lw_g (lw_at lw_m6 185 rfl) rfl
theorem q1464 : (Jvm.Cond.code ({ cls := "BehindAnotherHearseModel", name := "takesOf", desc := "(Ljava/lang/String;)I" } : Jvm.MethodName) prog_15_method_23_code (3 : Nat) (Option.some Jvm.ClassFile.FieldType.int)) ∈ lw_all := lw_g (lw_at lw_m6 186 rfl) rfl
theorem q1465 : (Jvm.Cond.methodLink "BehindAnotherHearseModel" (162 : Nat) ({ cls := "java/lang/String", name := "length", desc := "()I" } : Jvm.MethodName)) ∈ lw_all := lw_g (lw_at lw_m6 187 rfl) rfl
theorem q1466 : (Jvm.Cond.methodLink "BehindAnotherHearseModel" (168 : Nat) ({ cls := "java/lang/String", name := "charAt", desc := "(I)C" } : Jvm.MethodName)) ∈ lw_all := lw_g (lw_at lw_m6 188 rfl) rfl
theorem q1486 : (Jvm.Cond.methodLink "BehindAnotherHearseModel" (154 : Nat) ({ cls := "BehindAnotherHearseModel", name := "flag", desc := "(Z)I" } : Jvm.MethodName)) ∈ lw_all := lw_g (lw_at lw_m6 208 rfl) rfl
theorem q1487 : (Jvm.Cond.static ({ cls := "BehindAnotherHearseModel", name := "flag", desc := "(Z)I" } : Jvm.MethodName)) ∈ lw_all := lw_g (lw_at lw_m6 209 rfl) rfl
theorem q1488 : (Jvm.Cond.code ({ cls := "BehindAnotherHearseModel", name := "flag", desc := "(Z)I" } : Jvm.MethodName) prog_15_method_6_code (1 : Nat) (Option.some Jvm.ClassFile.FieldType.int)) ∈ lw_all := lw_g (lw_at lw_m6 210 rfl) rfl
theorem q1490 : (Jvm.Cond.instanceMethod ({ cls := "BehindAnotherHearseModel", name := "hearses", desc := "()I" } : Jvm.MethodName)) ∈ lw_all := lw_g (lw_at lw_m6 212 rfl) rfl
theorem q1491 : (Jvm.Cond.selects "BehindAnotherHearseModel" ({ cls := "BehindAnotherHearseModel", name := "hearses", desc := "()I" } : Jvm.MethodName) ({ cls := "BehindAnotherHearseModel", name := "hearses", desc := "()I" } : Jvm.MethodName)) ∈ lw_all := lw_g (lw_at lw_m6 213 rfl) rfl
theorem q1492 : (Jvm.Cond.code ({ cls := "BehindAnotherHearseModel", name := "hearses", desc := "()I" } : Jvm.MethodName) prog_15_method_32_code (6 : Nat) (Option.some Jvm.ClassFile.FieldType.int)) ∈ lw_all := lw_g (lw_at lw_m6 214 rfl) rfl
theorem q1493 : (Jvm.Cond.methodLink "BehindAnotherHearseModel" (214 : Nat) ({ cls := "BehindAnotherHearseModel", name := "readsHearse", desc := "()Z" } : Jvm.MethodName)) ∈ lw_all := lw_g (lw_at lw_m6 215 rfl) rfl
theorem q1494 : (Jvm.Cond.privateMethod ({ cls := "BehindAnotherHearseModel", name := "readsHearse", desc := "()Z" } : Jvm.MethodName)) ∈ lw_tbl := lw_at lw_m6 216 rfl
theorem q1495 : (Jvm.Cond.instanceMethod ({ cls := "BehindAnotherHearseModel", name := "readsHearse", desc := "()Z" } : Jvm.MethodName)) ∈ lw_all := lw_g (lw_at lw_m6 217 rfl) rfl
theorem q1496 : (Jvm.Cond.code ({ cls := "BehindAnotherHearseModel", name := "readsHearse", desc := "()Z" } : Jvm.MethodName) prog_15_method_29_code (2 : Nat) (Option.some Jvm.ClassFile.FieldType.boolean)) ∈ lw_all := lw_g (lw_at lw_m6 218 rfl) rfl
theorem q1497 : (Jvm.Cond.methodLink "BehindAnotherHearseModel" (202 : Nat) ({ cls := "BehindAnotherHearseModel", name := "readsCell", desc := "(Z)I" } : Jvm.MethodName)) ∈ lw_all := lw_g (lw_at lw_m6 219 rfl) rfl
theorem q1498 : (Jvm.Cond.privateMethod ({ cls := "BehindAnotherHearseModel", name := "readsCell", desc := "(Z)I" } : Jvm.MethodName)) ∈ lw_tbl := lw_at lw_m6 220 rfl
theorem q1499 : (Jvm.Cond.instanceMethod ({ cls := "BehindAnotherHearseModel", name := "readsCell", desc := "(Z)I" } : Jvm.MethodName)) ∈ lw_all := lw_g (lw_at lw_m6 221 rfl) rfl
theorem q1500 : (Jvm.Cond.code ({ cls := "BehindAnotherHearseModel", name := "readsCell", desc := "(Z)I" } : Jvm.MethodName) prog_15_method_28_code (5 : Nat) (Option.some Jvm.ClassFile.FieldType.int)) ∈ lw_all := lw_g (lw_at lw_m6 222 rfl) rfl
theorem q1501 : (Jvm.Cond.methodLink "BehindAnotherHearseModel" (189 : Nat) ({ cls := "BehindAnotherHearseModel", name := "number", desc := "(I)I" } : Jvm.MethodName)) ∈ lw_all := lw_g (lw_at lw_m6 223 rfl) rfl
theorem q1502 : (Jvm.Cond.privateMethod ({ cls := "BehindAnotherHearseModel", name := "number", desc := "(I)I" } : Jvm.MethodName)) ∈ lw_tbl := lw_at lw_m6 224 rfl
theorem q1503 : (Jvm.Cond.instanceMethod ({ cls := "BehindAnotherHearseModel", name := "number", desc := "(I)I" } : Jvm.MethodName)) ∈ lw_all := lw_g (lw_at lw_m6 225 rfl) rfl
theorem q1504 : (Jvm.Cond.code ({ cls := "BehindAnotherHearseModel", name := "number", desc := "(I)I" } : Jvm.MethodName) prog_15_method_24_code (4 : Nat) (Option.some Jvm.ClassFile.FieldType.int)) ∈ lw_all := lw_g (lw_at lw_m6 226 rfl) rfl
theorem q1505 : (Jvm.Cond.methodLink "BehindAnotherHearseModel" (172 : Nat) ({ cls := "BehindAnotherHearseModel", name := "isDigit", desc := "()Z" } : Jvm.MethodName)) ∈ lw_all := lw_g (lw_at lw_m6 227 rfl) rfl
theorem q1506 : (Jvm.Cond.privateMethod ({ cls := "BehindAnotherHearseModel", name := "isDigit", desc := "()Z" } : Jvm.MethodName)) ∈ lw_tbl := lw_at lw_m6 228 rfl
theorem q1507 : (Jvm.Cond.instanceMethod ({ cls := "BehindAnotherHearseModel", name := "isDigit", desc := "()Z" } : Jvm.MethodName)) ∈ lw_all := lw_g (lw_at lw_m6 229 rfl) rfl
theorem q1508 : (Jvm.Cond.code ({ cls := "BehindAnotherHearseModel", name := "isDigit", desc := "()Z" } : Jvm.MethodName) prog_15_method_22_code (1 : Nat) (Option.some Jvm.ClassFile.FieldType.boolean)) ∈ lw_all := lw_g (lw_at lw_m6 230 rfl) rfl
theorem q1509 : (Jvm.Cond.constantLong "BehindAnotherHearseModel" (158 : Nat) (48 : Int64)) ∈ lw_all := lw_g (lw_at lw_m6 231 rfl) rfl
theorem q1510 : (Jvm.Cond.constantLong "BehindAnotherHearseModel" (160 : Nat) (57 : Int64)) ∈ lw_all := lw_g (lw_at lw_m6 232 rfl) rfl
theorem q1511 : (Jvm.Cond.methodLink "BehindAnotherHearseModel" (192 : Nat) ({ cls := "BehindAnotherHearseModel", name := "gate", desc := "()I" } : Jvm.MethodName)) ∈ lw_all := lw_g (lw_at lw_m6 233 rfl) rfl
theorem q1512 : (Jvm.Cond.privateMethod ({ cls := "BehindAnotherHearseModel", name := "gate", desc := "()I" } : Jvm.MethodName)) ∈ lw_tbl := lw_at lw_m6 234 rfl
theorem q1513 : (Jvm.Cond.instanceMethod ({ cls := "BehindAnotherHearseModel", name := "gate", desc := "()I" } : Jvm.MethodName)) ∈ lw_all := lw_g (lw_at lw_m6 235 rfl) rfl
theorem q1514 : (Jvm.Cond.code ({ cls := "BehindAnotherHearseModel", name := "gate", desc := "()I" } : Jvm.MethodName) prog_15_method_9_code (1 : Nat) (Option.some Jvm.ClassFile.FieldType.int)) ∈ lw_all := lw_g (lw_at lw_m6 236 rfl) rfl
theorem q1515 : (Jvm.Cond.methodLink "BehindAnotherHearseModel" (195 : Nat) ({ cls := "BehindAnotherHearseModel", name := "onCell", desc := "([II)I" } : Jvm.MethodName)) ∈ lw_all := lw_g (lw_at lw_m6 237 rfl) rfl
theorem q1516 : (Jvm.Cond.privateMethod ({ cls := "BehindAnotherHearseModel", name := "onCell", desc := "([II)I" } : Jvm.MethodName)) ∈ lw_tbl := lw_at lw_m6 238 rfl
theorem q1517 : (Jvm.Cond.instanceMethod ({ cls := "BehindAnotherHearseModel", name := "onCell", desc := "([II)I" } : Jvm.MethodName)) ∈ lw_all := lw_g (lw_at lw_m6 239 rfl) rfl
theorem q1518 : (Jvm.Cond.code ({ cls := "BehindAnotherHearseModel", name := "onCell", desc := "([II)I" } : Jvm.MethodName) prog_15_method_14_code (5 : Nat) (Option.some Jvm.ClassFile.FieldType.int)) ∈ lw_all := lw_g (lw_at lw_m7 0 rfl) rfl
theorem q1519 : (Jvm.Cond.methodLink "BehindAnotherHearseModel" (217 : Nat) ({ cls := "BehindAnotherHearseModel", name := "takes", desc := "(I)Z" } : Jvm.MethodName)) ∈ lw_all := lw_g (lw_at lw_m7 1 rfl) rfl
theorem q1520 : (Jvm.Cond.privateMethod ({ cls := "BehindAnotherHearseModel", name := "takes", desc := "(I)Z" } : Jvm.MethodName)) ∈ lw_tbl := lw_at lw_m7 2 rfl
theorem q1521 : (Jvm.Cond.instanceMethod ({ cls := "BehindAnotherHearseModel", name := "takes", desc := "(I)Z" } : Jvm.MethodName)) ∈ lw_all := lw_g (lw_at lw_m7 3 rfl) rfl
theorem q1522 : (Jvm.Cond.code ({ cls := "BehindAnotherHearseModel", name := "takes", desc := "(I)Z" } : Jvm.MethodName) prog_15_method_21_code (3 : Nat) (Option.some Jvm.ClassFile.FieldType.boolean)) ∈ lw_all := lw_g (lw_at lw_m7 4 rfl) rfl
theorem q1523 : (Jvm.Cond.methodLink "BehindAnotherHearseModel" (221 : Nat) ({ cls := "BehindAnotherHearseModel", name := "faultOf", desc := "(IIZ)I" } : Jvm.MethodName)) ∈ lw_all := lw_g (lw_at lw_m7 5 rfl) rfl
theorem q1524 : (Jvm.Cond.privateMethod ({ cls := "BehindAnotherHearseModel", name := "faultOf", desc := "(IIZ)I" } : Jvm.MethodName)) ∈ lw_tbl := lw_at lw_m7 6 rfl
theorem q1525 : (Jvm.Cond.instanceMethod ({ cls := "BehindAnotherHearseModel", name := "faultOf", desc := "(IIZ)I" } : Jvm.MethodName)) ∈ lw_all := lw_g (lw_at lw_m7 7 rfl) rfl
theorem q1526 : (Jvm.Cond.code ({ cls := "BehindAnotherHearseModel", name := "faultOf", desc := "(IIZ)I" } : Jvm.MethodName) prog_15_method_26_code (5 : Nat) (Option.some Jvm.ClassFile.FieldType.int)) ∈ lw_all := lw_g (lw_at lw_m7 8 rfl) rfl
theorem q1527 : (Jvm.Cond.methodLink "BehindAnotherHearseModel" (225 : Nat) ({ cls := "BehindAnotherHearseModel", name := "isNew", desc := "()I" } : Jvm.MethodName)) ∈ lw_all := lw_g (lw_at lw_m7 9 rfl) rfl
theorem q1528 : (Jvm.Cond.privateMethod ({ cls := "BehindAnotherHearseModel", name := "isNew", desc := "()I" } : Jvm.MethodName)) ∈ lw_tbl := lw_at lw_m7 10 rfl
theorem q1529 : (Jvm.Cond.instanceMethod ({ cls := "BehindAnotherHearseModel", name := "isNew", desc := "()I" } : Jvm.MethodName)) ∈ lw_all := lw_g (lw_at lw_m7 11 rfl) rfl
theorem q1530 : (Jvm.Cond.code ({ cls := "BehindAnotherHearseModel", name := "isNew", desc := "()I" } : Jvm.MethodName) prog_15_method_31_code (1 : Nat) (Option.some Jvm.ClassFile.FieldType.int)) ∈ lw_all := lw_g (lw_at lw_m7 12 rfl) rfl
theorem q1532 : (Jvm.Cond.instanceMethod ({ cls := "BehindAnotherHearseModel", name := "mourners", desc := "()I" } : Jvm.MethodName)) ∈ lw_all := lw_g (lw_at lw_m7 14 rfl) rfl
theorem q1533 : (Jvm.Cond.selects "BehindAnotherHearseModel" ({ cls := "BehindAnotherHearseModel", name := "mourners", desc := "()I" } : Jvm.MethodName) ({ cls := "BehindAnotherHearseModel", name := "mourners", desc := "()I" } : Jvm.MethodName)) ∈ lw_all := lw_g (lw_at lw_m7 15 rfl) rfl
theorem q1534 : (Jvm.Cond.code ({ cls := "BehindAnotherHearseModel", name := "mourners", desc := "()I" } : Jvm.MethodName) prog_15_method_33_code (6 : Nat) (Option.some Jvm.ClassFile.FieldType.int)) ∈ lw_all := lw_g (lw_at lw_m7 16 rfl) rfl
theorem q1535 : (Jvm.Cond.methodLink "BehindAnotherHearseModel" (228 : Nat) ({ cls := "BehindAnotherHearseModel", name := "readsMourner", desc := "()Z" } : Jvm.MethodName)) ∈ lw_all := lw_g (lw_at lw_m7 17 rfl) rfl
theorem q1536 : (Jvm.Cond.privateMethod ({ cls := "BehindAnotherHearseModel", name := "readsMourner", desc := "()Z" } : Jvm.MethodName)) ∈ lw_tbl := lw_at lw_m7 18 rfl
theorem q1537 : (Jvm.Cond.instanceMethod ({ cls := "BehindAnotherHearseModel", name := "readsMourner", desc := "()Z" } : Jvm.MethodName)) ∈ lw_all := lw_g (lw_at lw_m7 19 rfl) rfl
theorem q1538 : (Jvm.Cond.code ({ cls := "BehindAnotherHearseModel", name := "readsMourner", desc := "()Z" } : Jvm.MethodName) prog_15_method_30_code (2 : Nat) (Option.some Jvm.ClassFile.FieldType.boolean)) ∈ lw_all := lw_g (lw_at lw_m7 20 rfl) rfl
theorem q1539 : (Jvm.Cond.stringRef "BehindAnotherHearseModel" (205 : Nat) "abcdef") ∈ lw_tbl := lw_at lw_m7 21 rfl
theorem q1540 : (Jvm.Cond.methodLink "BehindAnotherHearseModel" (207 : Nat) ({ cls := "java/lang/String", name := "substring", desc := "(II)Ljava/lang/String;" } : Jvm.MethodName)) ∈ lw_all := lw_g (lw_at lw_m7 22 rfl) rfl
theorem q1610 : (Jvm.Cond.instanceMethod ({ cls := "BehindAnotherHearseModel", name := "weather", desc := "()I" } : Jvm.MethodName)) ∈ lw_all := lw_g (lw_at lw_m7 92 rfl) rfl
theorem q1611 : (Jvm.Cond.selects "BehindAnotherHearseModel" ({ cls := "BehindAnotherHearseModel", name := "weather", desc := "()I" } : Jvm.MethodName) ({ cls := "BehindAnotherHearseModel", name := "weather", desc := "()I" } : Jvm.MethodName)) ∈ lw_all := lw_g (lw_at lw_m7 93 rfl) rfl
theorem q1612 : (Jvm.Cond.code ({ cls := "BehindAnotherHearseModel", name := "weather", desc := "()I" } : Jvm.MethodName) prog_15_method_34_code (3 : Nat) (Option.some Jvm.ClassFile.FieldType.int)) ∈ lw_all := lw_g (lw_at lw_m7 94 rfl) rfl
theorem q1614 : (Jvm.Cond.instanceMethod ({ cls := "BehindAnotherHearseModel", name := "rule", desc := "()I" } : Jvm.MethodName)) ∈ lw_all := lw_g (lw_at lw_m7 96 rfl) rfl
theorem q1615 : (Jvm.Cond.selects "BehindAnotherHearseModel" ({ cls := "BehindAnotherHearseModel", name := "rule", desc := "()I" } : Jvm.MethodName) ({ cls := "BehindAnotherHearseModel", name := "rule", desc := "()I" } : Jvm.MethodName)) ∈ lw_all := lw_g (lw_at lw_m7 97 rfl) rfl
theorem q1616 : (Jvm.Cond.code ({ cls := "BehindAnotherHearseModel", name := "rule", desc := "()I" } : Jvm.MethodName) prog_15_method_41_code (2 : Nat) (Option.some Jvm.ClassFile.FieldType.int)) ∈ lw_all := lw_g (lw_at lw_m7 98 rfl) rfl
theorem q1617 : (Jvm.Cond.methodLink "BehindAnotherHearseModel" (255 : Nat) ({ cls := "BehindAnotherHearseModel", name := "readsRule", desc := "()I" } : Jvm.MethodName)) ∈ lw_all := lw_g (lw_at lw_m7 99 rfl) rfl
theorem q1618 : (Jvm.Cond.privateMethod ({ cls := "BehindAnotherHearseModel", name := "readsRule", desc := "()I" } : Jvm.MethodName)) ∈ lw_tbl := lw_at lw_m7 100 rfl
theorem q1619 : (Jvm.Cond.instanceMethod ({ cls := "BehindAnotherHearseModel", name := "readsRule", desc := "()I" } : Jvm.MethodName)) ∈ lw_all := lw_g (lw_at lw_m7 101 rfl) rfl
theorem q1620 : (Jvm.Cond.code ({ cls := "BehindAnotherHearseModel", name := "readsRule", desc := "()I" } : Jvm.MethodName) prog_15_method_39_code (3 : Nat) (Option.some Jvm.ClassFile.FieldType.int)) ∈ lw_all := lw_g (lw_at lw_m7 102 rfl) rfl
theorem q1621 : (Jvm.Cond.methodLink "BehindAnotherHearseModel" (243 : Nat) ({ cls := "BehindAnotherHearseModel", name := "readsRank", desc := "(I)Z" } : Jvm.MethodName)) ∈ lw_all := lw_g (lw_at lw_m7 103 rfl) rfl
theorem q1622 : (Jvm.Cond.privateMethod ({ cls := "BehindAnotherHearseModel", name := "readsRank", desc := "(I)Z" } : Jvm.MethodName)) ∈ lw_tbl := lw_at lw_m7 104 rfl
theorem q1623 : (Jvm.Cond.instanceMethod ({ cls := "BehindAnotherHearseModel", name := "readsRank", desc := "(I)Z" } : Jvm.MethodName)) ∈ lw_all := lw_g (lw_at lw_m7 105 rfl) rfl
theorem q1624 : (Jvm.Cond.code ({ cls := "BehindAnotherHearseModel", name := "readsRank", desc := "(I)Z" } : Jvm.MethodName) prog_15_method_38_code (4 : Nat) (Option.some Jvm.ClassFile.FieldType.boolean)) ∈ lw_all := lw_g (lw_at lw_m7 106 rfl) rfl
theorem q1625 : (Jvm.Cond.methodLink "BehindAnotherHearseModel" (234 : Nat) ({ cls := "BehindAnotherHearseModel", name := "readsThing", desc := "()Z" } : Jvm.MethodName)) ∈ lw_all := lw_g (lw_at lw_m7 107 rfl) rfl
theorem q1626 : (Jvm.Cond.privateMethod ({ cls := "BehindAnotherHearseModel", name := "readsThing", desc := "()Z" } : Jvm.MethodName)) ∈ lw_tbl := lw_at lw_m7 108 rfl
theorem q1627 : (Jvm.Cond.instanceMethod ({ cls := "BehindAnotherHearseModel", name := "readsThing", desc := "()Z" } : Jvm.MethodName)) ∈ lw_all := lw_g (lw_at lw_m7 109 rfl) rfl
theorem q1628 : (Jvm.Cond.code ({ cls := "BehindAnotherHearseModel", name := "readsThing", desc := "()Z" } : Jvm.MethodName) prog_15_method_37_code (2 : Nat) (Option.some Jvm.ClassFile.FieldType.boolean)) ∈ lw_all := lw_g (lw_at lw_m7 110 rfl) rfl
theorem q1629 : (Jvm.Cond.methodLink "BehindAnotherHearseModel" (237 : Nat) ({ cls := "BehindAnotherHearseModel", name := "codes", desc := "(I)V" } : Jvm.MethodName)) ∈ lw_all := lw_g (lw_at lw_m7 111 rfl) rfl
theorem q1630 : (Jvm.Cond.privateMethod ({ cls := "BehindAnotherHearseModel", name := "codes", desc := "(I)V" } : Jvm.MethodName)) ∈ lw_tbl := lw_at lw_m7 112 rfl
theorem q1631 : (Jvm.Cond.instanceMethod ({ cls := "BehindAnotherHearseModel", name := "codes", desc := "(I)V" } : Jvm.MethodName)) ∈ lw_all := lw_g (lw_at lw_m7 113 rfl) rfl
theorem q1632 : (Jvm.Cond.code ({ cls := "BehindAnotherHearseModel", name := "codes", desc := "(I)V" } : Jvm.MethodName) prog_15_method_36_code (2 : Nat) (Option.none : Option Jvm.ClassFile.FieldType)) ∈ lw_all := lw_g (lw_at lw_m7 114 rfl) rfl
theorem q1633 : (Jvm.Cond.stringRef "BehindAnotherHearseModel" (241 : Nat) "pgcwtim") ∈ lw_tbl := lw_at lw_m7 115 rfl
theorem q1634 : (Jvm.Cond.stringRef "BehindAnotherHearseModel" (246 : Nat) "<>=") ∈ lw_tbl := lw_at lw_m7 116 rfl
theorem q1635 : (Jvm.Cond.stringRef "BehindAnotherHearseModel" (248 : Nat) "+-") ∈ lw_tbl := lw_at lw_m7 117 rfl
theorem q1636 : (Jvm.Cond.stringRef "BehindAnotherHearseModel" (250 : Nat) "*/") ∈ lw_tbl := lw_at lw_m7 118 rfl
theorem q1637 : (Jvm.Cond.methodLink "BehindAnotherHearseModel" (258 : Nat) ({ cls := "BehindAnotherHearseModel", name := "laysCode", desc := "([II)V" } : Jvm.MethodName)) ∈ lw_all := lw_g (lw_at lw_m7 119 rfl) rfl
theorem q1638 : (Jvm.Cond.privateMethod ({ cls := "BehindAnotherHearseModel", name := "laysCode", desc := "([II)V" } : Jvm.MethodName)) ∈ lw_tbl := lw_at lw_m7 120 rfl
theorem q1639 : (Jvm.Cond.instanceMethod ({ cls := "BehindAnotherHearseModel", name := "laysCode", desc := "([II)V" } : Jvm.MethodName)) ∈ lw_all := lw_g (lw_at lw_m7 121 rfl) rfl
theorem q1640 : (Jvm.Cond.code ({ cls := "BehindAnotherHearseModel", name := "laysCode", desc := "([II)V" } : Jvm.MethodName) prog_15_method_40_code (4 : Nat) (Option.none : Option Jvm.ClassFile.FieldType)) ∈ lw_all := lw_g (lw_at lw_m7 122 rfl) rfl
theorem q1642 : (Jvm.Cond.instanceMethod ({ cls := "BehindAnotherHearseModel", name := "hearse", desc := "(II)I" } : Jvm.MethodName)) ∈ lw_all := lw_g (lw_at lw_m7 124 rfl) rfl
theorem q1643 : (Jvm.Cond.selects "BehindAnotherHearseModel" ({ cls := "BehindAnotherHearseModel", name := "hearse", desc := "(II)I" } : Jvm.MethodName) ({ cls := "BehindAnotherHearseModel", name := "hearse", desc := "(II)I" } : Jvm.MethodName)) ∈ lw_all := lw_g (lw_at lw_m7 125 rfl) rfl
theorem q1644 : (Jvm.Cond.code ({ cls := "BehindAnotherHearseModel", name := "hearse", desc := "(II)I" } : Jvm.MethodName) prog_15_method_47_code (3 : Nat) (Option.some Jvm.ClassFile.FieldType.int)) ∈ lw_all := lw_g (lw_at lw_m7 126 rfl) rfl
theorem q1645 : (Jvm.Cond.methodLink "BehindAnotherHearseModel" (294 : Nat) ({ cls := "BehindAnotherHearseModel", name := "isHearse", desc := "(I)Z" } : Jvm.MethodName)) ∈ lw_all := lw_g (lw_at lw_m7 127 rfl) rfl
theorem q1646 : (Jvm.Cond.privateMethod ({ cls := "BehindAnotherHearseModel", name := "isHearse", desc := "(I)Z" } : Jvm.MethodName)) ∈ lw_tbl := lw_at lw_m7 128 rfl
theorem q1647 : (Jvm.Cond.instanceMethod ({ cls := "BehindAnotherHearseModel", name := "isHearse", desc := "(I)Z" } : Jvm.MethodName)) ∈ lw_all := lw_g (lw_at lw_m7 129 rfl) rfl
theorem q1648 : (Jvm.Cond.code ({ cls := "BehindAnotherHearseModel", name := "isHearse", desc := "(I)Z" } : Jvm.MethodName) prog_15_method_10_code (2 : Nat) (Option.some Jvm.ClassFile.FieldType.boolean)) ∈ lw_all := lw_g (lw_at lw_m7 130 rfl) rfl
theorem q1649 : (Jvm.Cond.constantLong "BehindAnotherHearseModel" (297 : Nat) (5 : Int64)) ∈ lw_all := lw_g (lw_at lw_m7 131 rfl) rfl
theorem q1650 : (Jvm.Cond.methodLink "BehindAnotherHearseModel" (299 : Nat) ({ cls := "BehindAnotherHearseModel", name := "refuse", desc := "()I" } : Jvm.MethodName)) ∈ lw_all := lw_g (lw_at lw_m7 132 rfl) rfl
theorem q1651 : (Jvm.Cond.privateMethod ({ cls := "BehindAnotherHearseModel", name := "refuse", desc := "()I" } : Jvm.MethodName)) ∈ lw_tbl := lw_at lw_m7 133 rfl
theorem q1652 : (Jvm.Cond.instanceMethod ({ cls := "BehindAnotherHearseModel", name := "refuse", desc := "()I" } : Jvm.MethodName)) ∈ lw_all := lw_g (lw_at lw_m7 134 rfl) rfl
theorem q1653 : (Jvm.Cond.code ({ cls := "BehindAnotherHearseModel", name := "refuse", desc := "()I" } : Jvm.MethodName) prog_15_method_3_code (1 : Nat) (Option.some Jvm.ClassFile.FieldType.int)) ∈ lw_all := lw_g (lw_at lw_m7 135 rfl) rfl
theorem q1654 : (Jvm.Cond.methodLink "BehindAnotherHearseModel" (302 : Nat) ({ cls := "BehindAnotherHearseModel", name := "paceOf", desc := "([II)I" } : Jvm.MethodName)) ∈ lw_all := lw_g (lw_at lw_m7 136 rfl) rfl
theorem q1655 : (Jvm.Cond.privateMethod ({ cls := "BehindAnotherHearseModel", name := "paceOf", desc := "([II)I" } : Jvm.MethodName)) ∈ lw_tbl := lw_at lw_m7 137 rfl
theorem q1656 : (Jvm.Cond.instanceMethod ({ cls := "BehindAnotherHearseModel", name := "paceOf", desc := "([II)I" } : Jvm.MethodName)) ∈ lw_all := lw_g (lw_at lw_m7 138 rfl) rfl
theorem q1657 : (Jvm.Cond.code ({ cls := "BehindAnotherHearseModel", name := "paceOf", desc := "([II)I" } : Jvm.MethodName) prog_15_method_45_code (3 : Nat) (Option.some Jvm.ClassFile.FieldType.int)) ∈ lw_all := lw_g (lw_at lw_m7 139 rfl) rfl
theorem q1658 : (Jvm.Cond.methodLink "BehindAnotherHearseModel" (266 : Nat) ({ cls := "BehindAnotherHearseModel", name := "isOn", desc := "([II)Z" } : Jvm.MethodName)) ∈ lw_all := lw_g (lw_at lw_m7 140 rfl) rfl
theorem q1659 : (Jvm.Cond.static ({ cls := "BehindAnotherHearseModel", name := "isOn", desc := "([II)Z" } : Jvm.MethodName)) ∈ lw_all := lw_g (lw_at lw_m7 141 rfl) rfl
theorem q1660 : (Jvm.Cond.code ({ cls := "BehindAnotherHearseModel", name := "isOn", desc := "([II)Z" } : Jvm.MethodName) prog_15_method_12_code (2 : Nat) (Option.some Jvm.ClassFile.FieldType.boolean)) ∈ lw_all := lw_g (lw_at lw_m7 142 rfl) rfl
theorem q1661 : (Jvm.Cond.methodLink "BehindAnotherHearseModel" (269 : Nat) ({ cls := "BehindAnotherHearseModel", name := "freeAhead", desc := "([II)I" } : Jvm.MethodName)) ∈ lw_all := lw_g (lw_at lw_m7 143 rfl) rfl
theorem q1662 : (Jvm.Cond.privateMethod ({ cls := "BehindAnotherHearseModel", name := "freeAhead", desc := "([II)I" } : Jvm.MethodName)) ∈ lw_tbl := lw_at lw_m7 144 rfl
theorem q1663 : (Jvm.Cond.instanceMethod ({ cls := "BehindAnotherHearseModel", name := "freeAhead", desc := "([II)I" } : Jvm.MethodName)) ∈ lw_all := lw_g (lw_at lw_m7 145 rfl) rfl
theorem q1664 : (Jvm.Cond.code ({ cls := "BehindAnotherHearseModel", name := "freeAhead", desc := "([II)I" } : Jvm.MethodName) prog_15_method_44_code (4 : Nat) (Option.some Jvm.ClassFile.FieldType.int)) ∈ lw_all := lw_g (lw_at lw_m7 146 rfl) rfl
theorem q1665 : (Jvm.Cond.methodLink "BehindAnotherHearseModel" (272 : Nat) ({ cls := "BehindAnotherHearseModel", name := "weatherOn", desc := "(I)I" } : Jvm.MethodName)) ∈ lw_all := lw_g (lw_at lw_m7 147 rfl) rfl
theorem q1666 : (Jvm.Cond.privateMethod ({ cls := "BehindAnotherHearseModel", name := "weatherOn", desc := "(I)I" } : Jvm.MethodName)) ∈ lw_tbl := lw_at lw_m7 148 rfl
theorem q1667 : (Jvm.Cond.instanceMethod ({ cls := "BehindAnotherHearseModel", name := "weatherOn", desc := "(I)I" } : Jvm.MethodName)) ∈ lw_all := lw_g (lw_at lw_m7 149 rfl) rfl
theorem q1668 : (Jvm.Cond.code ({ cls := "BehindAnotherHearseModel", name := "weatherOn", desc := "(I)I" } : Jvm.MethodName) prog_15_method_35_code (2 : Nat) (Option.some Jvm.ClassFile.FieldType.int)) ∈ lw_all := lw_g (lw_at lw_m7 150 rfl) rfl
theorem q1669 : (Jvm.Cond.methodLink "BehindAnotherHearseModel" (275 : Nat) ({ cls := "BehindAnotherHearseModel", name := "bitsBy", desc := "([III)I" } : Jvm.MethodName)) ∈ lw_all := lw_g (lw_at lw_m7 151 rfl) rfl
theorem q1670 : (Jvm.Cond.privateMethod ({ cls := "BehindAnotherHearseModel", name := "bitsBy", desc := "([III)I" } : Jvm.MethodName)) ∈ lw_tbl := lw_at lw_m7 152 rfl
theorem q1671 : (Jvm.Cond.instanceMethod ({ cls := "BehindAnotherHearseModel", name := "bitsBy", desc := "([III)I" } : Jvm.MethodName)) ∈ lw_all := lw_g (lw_at lw_m7 153 rfl) rfl
theorem q1672 : (Jvm.Cond.code ({ cls := "BehindAnotherHearseModel", name := "bitsBy", desc := "([III)I" } : Jvm.MethodName) prog_15_method_15_code (6 : Nat) (Option.some Jvm.ClassFile.FieldType.int)) ∈ lw_all := lw_g (lw_at lw_m7 154 rfl) rfl
theorem q1673 : (Jvm.Cond.methodLink "BehindAnotherHearseModel" (279 : Nat) ({ cls := "java/lang/Integer", name := "bitCount", desc := "(I)I" } : Jvm.MethodName)) ∈ lw_all := lw_g (lw_at lw_m7 155 rfl) rfl
theorem q1674 : (Jvm.Cond.methodLink "BehindAnotherHearseModel" (284 : Nat) ({ cls := "BehindAnotherHearseModel", name := "ruled", desc := "()I" } : Jvm.MethodName)) ∈ lw_all := lw_g (lw_at lw_m7 156 rfl) rfl
theorem q1675 : (Jvm.Cond.privateMethod ({ cls := "BehindAnotherHearseModel", name := "ruled", desc := "()I" } : Jvm.MethodName)) ∈ lw_tbl := lw_at lw_m7 157 rfl
theorem q1676 : (Jvm.Cond.instanceMethod ({ cls := "BehindAnotherHearseModel", name := "ruled", desc := "()I" } : Jvm.MethodName)) ∈ lw_all := lw_g (lw_at lw_m7 158 rfl) rfl
theorem q1677 : (Jvm.Cond.code ({ cls := "BehindAnotherHearseModel", name := "ruled", desc := "()I" } : Jvm.MethodName) prog_15_method_43_code (4 : Nat) (Option.some Jvm.ClassFile.FieldType.int)) ∈ lw_all := lw_g (lw_at lw_m7 159 rfl) rfl
theorem q1678 : (Jvm.Cond.methodLink "BehindAnotherHearseModel" (262 : Nat) ({ cls := "BehindAnotherHearseModel", name := "worked", desc := "(III)I" } : Jvm.MethodName)) ∈ lw_all := lw_g (lw_at lw_m7 160 rfl) rfl
theorem q1679 : (Jvm.Cond.static ({ cls := "BehindAnotherHearseModel", name := "worked", desc := "(III)I" } : Jvm.MethodName)) ∈ lw_all := lw_g (lw_at lw_m7 161 rfl) rfl
theorem q1680 : (Jvm.Cond.code ({ cls := "BehindAnotherHearseModel", name := "worked", desc := "(III)I" } : Jvm.MethodName) prog_15_method_42_code (3 : Nat) (Option.some Jvm.ClassFile.FieldType.int)) ∈ lw_all := lw_g (lw_at lw_m7 162 rfl) rfl
theorem q1681 : (Jvm.Cond.methodLink "BehindAnotherHearseModel" (287 : Nat) ({ cls := "java/lang/Math", name := "max", desc := "(II)I" } : Jvm.MethodName)) ∈ lw_all := lw_g (lw_at lw_m7 163 rfl) rfl
theorem q1682 : (Jvm.Cond.methodLink "BehindAnotherHearseModel" (305 : Nat) ({ cls := "BehindAnotherHearseModel", name := "owners", desc := "(I)I" } : Jvm.MethodName)) ∈ lw_all := lw_g (lw_at lw_m7 164 rfl) rfl
theorem q1683 : (Jvm.Cond.privateMethod ({ cls := "BehindAnotherHearseModel", name := "owners", desc := "(I)I" } : Jvm.MethodName)) ∈ lw_tbl := lw_at lw_m7 165 rfl
theorem q1684 : (Jvm.Cond.instanceMethod ({ cls := "BehindAnotherHearseModel", name := "owners", desc := "(I)I" } : Jvm.MethodName)) ∈ lw_all := lw_g (lw_at lw_m7 166 rfl) rfl
theorem q1685 : (Jvm.Cond.code ({ cls := "BehindAnotherHearseModel", name := "owners", desc := "(I)I" } : Jvm.MethodName) prog_15_method_16_code (4 : Nat) (Option.some Jvm.ClassFile.FieldType.int)) ∈ lw_all := lw_g (lw_at lw_m7 167 rfl) rfl
theorem q1687 : (Jvm.Cond.instanceMethod ({ cls := "BehindAnotherHearseModel", name := "mourner", desc := "(II)I" } : Jvm.MethodName)) ∈ lw_all := lw_g (lw_at lw_m7 169 rfl) rfl
theorem q1688 : (Jvm.Cond.selects "BehindAnotherHearseModel" ({ cls := "BehindAnotherHearseModel", name := "mourner", desc := "(II)I" } : Jvm.MethodName) ({ cls := "BehindAnotherHearseModel", name := "mourner", desc := "(II)I" } : Jvm.MethodName)) ∈ lw_all := lw_g (lw_at lw_m7 170 rfl) rfl
theorem q1689 : (Jvm.Cond.code ({ cls := "BehindAnotherHearseModel", name := "mourner", desc := "(II)I" } : Jvm.MethodName) prog_15_method_48_code (3 : Nat) (Option.some Jvm.ClassFile.FieldType.int)) ∈ lw_all := lw_g (lw_at lw_m7 171 rfl) rfl
theorem q1690 : (Jvm.Cond.methodLink "BehindAnotherHearseModel" (308 : Nat) ({ cls := "BehindAnotherHearseModel", name := "isMourner", desc := "(I)Z" } : Jvm.MethodName)) ∈ lw_all := lw_g (lw_at lw_m7 172 rfl) rfl
theorem q1691 : (Jvm.Cond.privateMethod ({ cls := "BehindAnotherHearseModel", name := "isMourner", desc := "(I)Z" } : Jvm.MethodName)) ∈ lw_tbl := lw_at lw_m7 173 rfl
theorem q1692 : (Jvm.Cond.instanceMethod ({ cls := "BehindAnotherHearseModel", name := "isMourner", desc := "(I)Z" } : Jvm.MethodName)) ∈ lw_all := lw_g (lw_at lw_m7 174 rfl) rfl
theorem q1693 : (Jvm.Cond.code ({ cls := "BehindAnotherHearseModel", name := "isMourner", desc := "(I)Z" } : Jvm.MethodName) prog_15_method_11_code (2 : Nat) (Option.some Jvm.ClassFile.FieldType.boolean)) ∈ lw_all := lw_g (lw_at lw_m7 175 rfl) rfl
theorem q1694 : (Jvm.Cond.constantLong "BehindAnotherHearseModel" (311 : Nat) (4 : Int64)) ∈ lw_all := lw_g (lw_at lw_m7 176 rfl) rfl
theorem q1695 : (Jvm.Cond.methodLink "BehindAnotherHearseModel" (313 : Nat) ({ cls := "BehindAnotherHearseModel", name := "nearest", desc := "([II)I" } : Jvm.MethodName)) ∈ lw_all := lw_g (lw_at lw_m7 177 rfl) rfl
theorem q1696 : (Jvm.Cond.privateMethod ({ cls := "BehindAnotherHearseModel", name := "nearest", desc := "([II)I" } : Jvm.MethodName)) ∈ lw_tbl := lw_at lw_m7 178 rfl
theorem q1697 : (Jvm.Cond.instanceMethod ({ cls := "BehindAnotherHearseModel", name := "nearest", desc := "([II)I" } : Jvm.MethodName)) ∈ lw_all := lw_g (lw_at lw_m7 179 rfl) rfl
theorem q1698 : (Jvm.Cond.code ({ cls := "BehindAnotherHearseModel", name := "nearest", desc := "([II)I" } : Jvm.MethodName) prog_15_method_46_code (7 : Nat) (Option.some Jvm.ClassFile.FieldType.int)) ∈ lw_all := lw_g (lw_at lw_m7 180 rfl) rfl
theorem q1699 : (Jvm.Cond.methodLink "BehindAnotherHearseModel" (290 : Nat) ({ cls := "java/lang/Math", name := "abs", desc := "(I)I" } : Jvm.MethodName)) ∈ lw_all := lw_g (lw_at lw_m7 181 rfl) rfl
theorem q1700 : (Jvm.Cond.constant "BehindAnotherHearseModel" (293 : Nat) (1000000 : Int32)) ∈ lw_all := lw_g (lw_at lw_m7 182 rfl) rfl
theorem q1702 : (Jvm.Cond.instanceMethod ({ cls := "BehindAnotherHearseModel", name := "sheet", desc := "(IIII)I" } : Jvm.MethodName)) ∈ lw_all := lw_g (lw_at lw_m7 184 rfl) rfl
theorem q1703 : (Jvm.Cond.selects "BehindAnotherHearseModel" ({ cls := "BehindAnotherHearseModel", name := "sheet", desc := "(IIII)I" } : Jvm.MethodName) ({ cls := "BehindAnotherHearseModel", name := "sheet", desc := "(IIII)I" } : Jvm.MethodName)) ∈ lw_all := lw_g (lw_at lw_m7 185 rfl) rfl
theorem q1704 : (Jvm.Cond.code ({ cls := "BehindAnotherHearseModel", name := "sheet", desc := "(IIII)I" } : Jvm.MethodName) prog_15_method_49_code (10 : Nat) (Option.some Jvm.ClassFile.FieldType.int)) ∈ lw_all := lw_g (lw_at lw_m7 186 rfl) rfl
theorem q1705 : (Jvm.Cond.constantLong "BehindAnotherHearseModel" (316 : Nat) (3 : Int64)) ∈ lw_all := lw_g (lw_at lw_m7 187 rfl) rfl
theorem q1706 : (Jvm.Cond.methodLink "BehindAnotherHearseModel" (132 : Nat) ({ cls := "BehindAnotherHearseModel", name := "isEnded", desc := "([II)Z" } : Jvm.MethodName)) ∈ lw_all := lw_g (lw_at lw_m7 188 rfl) rfl
theorem q1707 : (Jvm.Cond.static ({ cls := "BehindAnotherHearseModel", name := "isEnded", desc := "([II)Z" } : Jvm.MethodName)) ∈ lw_all := lw_g (lw_at lw_m7 189 rfl) rfl
theorem q1708 : (Jvm.Cond.code ({ cls := "BehindAnotherHearseModel", name := "isEnded", desc := "([II)Z" } : Jvm.MethodName) prog_15_method_13_code (2 : Nat) (Option.some Jvm.ClassFile.FieldType.boolean)) ∈ lw_all := lw_g (lw_at lw_m7 190 rfl) rfl
theorem q1710 : (Jvm.Cond.instanceMethod ({ cls := "BehindAnotherHearseModel", name := "undo", desc := "()I" } : Jvm.MethodName)) ∈ lw_all := lw_g (lw_at lw_m7 192 rfl) rfl
theorem q1711 : (Jvm.Cond.selects "BehindAnotherHearseModel" ({ cls := "BehindAnotherHearseModel", name := "undo", desc := "()I" } : Jvm.MethodName) ({ cls := "BehindAnotherHearseModel", name := "undo", desc := "()I" } : Jvm.MethodName)) ∈ lw_all := lw_g (lw_at lw_m7 193 rfl) rfl
theorem q1712 : (Jvm.Cond.code ({ cls := "BehindAnotherHearseModel", name := "undo", desc := "()I" } : Jvm.MethodName) prog_15_method_53_code (2 : Nat) (Option.some Jvm.ClassFile.FieldType.int)) ∈ lw_all := lw_g (lw_at lw_m7 194 rfl) rfl
theorem q1714 : (Jvm.Cond.instanceMethod ({ cls := "BehindAnotherHearseModel", name := "steps", desc := "(I)I" } : Jvm.MethodName)) ∈ lw_all := lw_g (lw_at lw_m7 196 rfl) rfl
theorem q1715 : (Jvm.Cond.selects "BehindAnotherHearseModel" ({ cls := "BehindAnotherHearseModel", name := "steps", desc := "(I)I" } : Jvm.MethodName) ({ cls := "BehindAnotherHearseModel", name := "steps", desc := "(I)I" } : Jvm.MethodName)) ∈ lw_all := lw_g (lw_at lw_m7 197 rfl) rfl
theorem q1716 : (Jvm.Cond.code ({ cls := "BehindAnotherHearseModel", name := "steps", desc := "(I)I" } : Jvm.MethodName) prog_15_method_63_code (2 : Nat) (Option.some Jvm.ClassFile.FieldType.int)) ∈ lw_all := lw_g (lw_at lw_m7 198 rfl) rfl
theorem q1717 : (Jvm.Cond.constantLong "BehindAnotherHearseModel" (350 : Nat) (60 : Int64)) ∈ lw_all := lw_g (lw_at lw_m7 199 rfl) rfl
theorem q1718 : (Jvm.Cond.methodLink "BehindAnotherHearseModel" (352 : Nat) ({ cls := "BehindAnotherHearseModel", name := "putsBy", desc := "()V" } : Jvm.MethodName)) ∈ lw_all := lw_g (lw_at lw_m7 200 rfl) rfl
theorem q1719 : (Jvm.Cond.privateMethod ({ cls := "BehindAnotherHearseModel", name := "putsBy", desc := "()V" } : Jvm.MethodName)) ∈ lw_tbl := lw_at lw_m7 201 rfl
theorem q1720 : (Jvm.Cond.instanceMethod ({ cls := "BehindAnotherHearseModel", name := "putsBy", desc := "()V" } : Jvm.MethodName)) ∈ lw_all := lw_g (lw_at lw_m7 202 rfl) rfl
theorem q1721 : (Jvm.Cond.code ({ cls := "BehindAnotherHearseModel", name := "putsBy", desc := "()V" } : Jvm.MethodName) prog_15_method_50_code (2 : Nat) (Option.none : Option Jvm.ClassFile.FieldType)) ∈ lw_all := lw_g (lw_at lw_m7 203 rfl) rfl
theorem q1722 : (Jvm.Cond.methodLink "BehindAnotherHearseModel" (355 : Nat) ({ cls := "BehindAnotherHearseModel", name := "goesOn", desc := "([II)V" } : Jvm.MethodName)) ∈ lw_all := lw_g (lw_at lw_m7 204 rfl) rfl
theorem q1723 : (Jvm.Cond.privateMethod ({ cls := "BehindAnotherHearseModel", name := "goesOn", desc := "([II)V" } : Jvm.MethodName)) ∈ lw_tbl := lw_at lw_m7 205 rfl
theorem q1724 : (Jvm.Cond.instanceMethod ({ cls := "BehindAnotherHearseModel", name := "goesOn", desc := "([II)V" } : Jvm.MethodName)) ∈ lw_all := lw_g (lw_at lw_m7 206 rfl) rfl
theorem q1725 : (Jvm.Cond.code ({ cls := "BehindAnotherHearseModel", name := "goesOn", desc := "([II)V" } : Jvm.MethodName) prog_15_method_59_code (4 : Nat) (Option.none : Option Jvm.ClassFile.FieldType)) ∈ lw_all := lw_g (lw_at lw_m7 207 rfl) rfl
theorem q1726 : (Jvm.Cond.methodLink "BehindAnotherHearseModel" (343 : Nat) ({ cls := "BehindAnotherHearseModel", name := "stepGoes", desc := "([I)V" } : Jvm.MethodName)) ∈ lw_all := lw_g (lw_at lw_m7 208 rfl) rfl
theorem q1727 : (Jvm.Cond.privateMethod ({ cls := "BehindAnotherHearseModel", name := "stepGoes", desc := "([I)V" } : Jvm.MethodName)) ∈ lw_tbl := lw_at lw_m7 209 rfl
theorem q1728 : (Jvm.Cond.instanceMethod ({ cls := "BehindAnotherHearseModel", name := "stepGoes", desc := "([I)V" } : Jvm.MethodName)) ∈ lw_all := lw_g (lw_at lw_m7 210 rfl) rfl
theorem q1729 : (Jvm.Cond.code ({ cls := "BehindAnotherHearseModel", name := "stepGoes", desc := "([I)V" } : Jvm.MethodName) prog_15_method_58_code (3 : Nat) (Option.none : Option Jvm.ClassFile.FieldType)) ∈ lw_all := lw_g (lw_at lw_m7 211 rfl) rfl
theorem q1730 : (Jvm.Cond.methodLink "BehindAnotherHearseModel" (333 : Nat) ({ cls := "BehindAnotherHearseModel", name := "laysLine", desc := "([I)V" } : Jvm.MethodName)) ∈ lw_all := lw_g (lw_at lw_m7 212 rfl) rfl
theorem q1731 : (Jvm.Cond.privateMethod ({ cls := "BehindAnotherHearseModel", name := "laysLine", desc := "([I)V" } : Jvm.MethodName)) ∈ lw_tbl := lw_at lw_m7 213 rfl
theorem q1732 : (Jvm.Cond.instanceMethod ({ cls := "BehindAnotherHearseModel", name := "laysLine", desc := "([I)V" } : Jvm.MethodName)) ∈ lw_all := lw_g (lw_at lw_m7 214 rfl) rfl
theorem q1733 : (Jvm.Cond.code ({ cls := "BehindAnotherHearseModel", name := "laysLine", desc := "([I)V" } : Jvm.MethodName) prog_15_method_54_code (4 : Nat) (Option.none : Option Jvm.ClassFile.FieldType)) ∈ lw_all := lw_g (lw_at lw_m7 215 rfl) rfl
theorem q1734 : (Jvm.Cond.methodLink "BehindAnotherHearseModel" (337 : Nat) ({ cls := "BehindAnotherHearseModel", name := "hearseGoes", desc := "([II)V" } : Jvm.MethodName)) ∈ lw_all := lw_g (lw_at lw_m7 216 rfl) rfl
theorem q1735 : (Jvm.Cond.privateMethod ({ cls := "BehindAnotherHearseModel", name := "hearseGoes", desc := "([II)V" } : Jvm.MethodName)) ∈ lw_tbl := lw_at lw_m7 217 rfl
theorem q1736 : (Jvm.Cond.instanceMethod ({ cls := "BehindAnotherHearseModel", name := "hearseGoes", desc := "([II)V" } : Jvm.MethodName)) ∈ lw_all := lw_g (lw_at lw_m7 218 rfl) rfl
theorem q1737 : (Jvm.Cond.code ({ cls := "BehindAnotherHearseModel", name := "hearseGoes", desc := "([II)V" } : Jvm.MethodName) prog_15_method_56_code (4 : Nat) (Option.none : Option Jvm.ClassFile.FieldType)) ∈ lw_all := lw_g (lw_at lw_m7 219 rfl) rfl
theorem q1738 : (Jvm.Cond.methodLink "BehindAnotherHearseModel" (324 : Nat) ({ cls := "BehindAnotherHearseModel", name := "goal", desc := "([III)I" } : Jvm.MethodName)) ∈ lw_all := lw_g (lw_at lw_m7 220 rfl) rfl
theorem q1739 : (Jvm.Cond.privateMethod ({ cls := "BehindAnotherHearseModel", name := "goal", desc := "([III)I" } : Jvm.MethodName)) ∈ lw_tbl := lw_at lw_m7 221 rfl
theorem q1740 : (Jvm.Cond.instanceMethod ({ cls := "BehindAnotherHearseModel", name := "goal", desc := "([III)I" } : Jvm.MethodName)) ∈ lw_all := lw_g (lw_at lw_m7 222 rfl) rfl
theorem q1741 : (Jvm.Cond.code ({ cls := "BehindAnotherHearseModel", name := "goal", desc := "([III)I" } : Jvm.MethodName) prog_15_method_55_code (10 : Nat) (Option.some Jvm.ClassFile.FieldType.int)) ∈ lw_all := lw_g (lw_at lw_m7 223 rfl) rfl
theorem q1742 : (Jvm.Cond.methodLink "BehindAnotherHearseModel" (340 : Nat) ({ cls := "BehindAnotherHearseModel", name := "mournerGoes", desc := "([II)V" } : Jvm.MethodName)) ∈ lw_all := lw_g (lw_at lw_m7 224 rfl) rfl
theorem q1743 : (Jvm.Cond.privateMethod ({ cls := "BehindAnotherHearseModel", name := "mournerGoes", desc := "([II)V" } : Jvm.MethodName)) ∈ lw_tbl := lw_at lw_m7 225 rfl
theorem q1744 : (Jvm.Cond.instanceMethod ({ cls := "BehindAnotherHearseModel", name := "mournerGoes", desc := "([II)V" } : Jvm.MethodName)) ∈ lw_all := lw_g (lw_at lw_m7 226 rfl) rfl
theorem q1745 : (Jvm.Cond.code ({ cls := "BehindAnotherHearseModel", name := "mournerGoes", desc := "([II)V" } : Jvm.MethodName) prog_15_method_57_code (6 : Nat) (Option.none : Option Jvm.ClassFile.FieldType)) ∈ lw_all := lw_g (lw_at lw_m7 227 rfl) rfl
theorem q1746 : (Jvm.Cond.methodLink "BehindAnotherHearseModel" (358 : Nat) ({ cls := "BehindAnotherHearseModel", name := "enters", desc := "(J)V" } : Jvm.MethodName)) ∈ lw_all := lw_g (lw_at lw_m7 228 rfl) rfl
theorem q1747 : (Jvm.Cond.privateMethod ({ cls := "BehindAnotherHearseModel", name := "enters", desc := "(J)V" } : Jvm.MethodName)) ∈ lw_tbl := lw_at lw_m7 229 rfl
theorem q1748 : (Jvm.Cond.instanceMethod ({ cls := "BehindAnotherHearseModel", name := "enters", desc := "(J)V" } : Jvm.MethodName)) ∈ lw_all := lw_g (lw_at lw_m7 230 rfl) rfl
theorem q1749 : (Jvm.Cond.code ({ cls := "BehindAnotherHearseModel", name := "enters", desc := "(J)V" } : Jvm.MethodName) prog_15_method_8_code (3 : Nat) (Option.none : Option Jvm.ClassFile.FieldType)) ∈ lw_all := lw_g (lw_at lw_m7 231 rfl) rfl
theorem q1750 : (Jvm.Cond.methodLink "BehindAnotherHearseModel" (318 : Nat) ({ cls := "BehindAnotherHearseModel", name := "adds", desc := "(I)I" } : Jvm.MethodName)) ∈ lw_all := lw_g (lw_at lw_m7 232 rfl) rfl
theorem q1751 : (Jvm.Cond.privateMethod ({ cls := "BehindAnotherHearseModel", name := "adds", desc := "(I)I" } : Jvm.MethodName)) ∈ lw_tbl := lw_at lw_m7 233 rfl
theorem q1752 : (Jvm.Cond.instanceMethod ({ cls := "BehindAnotherHearseModel", name := "adds", desc := "(I)I" } : Jvm.MethodName)) ∈ lw_all := lw_g (lw_at lw_m7 234 rfl) rfl
theorem q1753 : (Jvm.Cond.code ({ cls := "BehindAnotherHearseModel", name := "adds", desc := "(I)I" } : Jvm.MethodName) prog_15_method_51_code (3 : Nat) (Option.some Jvm.ClassFile.FieldType.int)) ∈ lw_all := lw_g (lw_at lw_m7 235 rfl) rfl
theorem q1755 : (Jvm.Cond.instanceMethod ({ cls := "BehindAnotherHearseModel", name := "turnsTo", desc := "(I)I" } : Jvm.MethodName)) ∈ lw_all := lw_g (lw_at lw_m7 237 rfl) rfl
theorem q1756 : (Jvm.Cond.selects "BehindAnotherHearseModel" ({ cls := "BehindAnotherHearseModel", name := "turnsTo", desc := "(I)I" } : Jvm.MethodName) ({ cls := "BehindAnotherHearseModel", name := "turnsTo", desc := "(I)I" } : Jvm.MethodName)) ∈ lw_all := lw_g (lw_at lw_m7 238 rfl) rfl
theorem q1757 : (Jvm.Cond.code ({ cls := "BehindAnotherHearseModel", name := "turnsTo", desc := "(I)I" } : Jvm.MethodName) prog_15_method_64_code (2 : Nat) (Option.some Jvm.ClassFile.FieldType.int)) ∈ lw_all := lw_g (lw_at lw_m7 239 rfl) rfl
theorem q1758 : (Jvm.Cond.methodLink "BehindAnotherHearseModel" (362 : Nat) ({ cls := "BehindAnotherHearseModel", name := "turnsOne", desc := "([II)I" } : Jvm.MethodName)) ∈ lw_all := lw_g (lw_at lw_m8 0 rfl) rfl
theorem q1759 : (Jvm.Cond.privateMethod ({ cls := "BehindAnotherHearseModel", name := "turnsOne", desc := "([II)I" } : Jvm.MethodName)) ∈ lw_tbl := lw_at lw_m8 1 rfl
theorem q1760 : (Jvm.Cond.instanceMethod ({ cls := "BehindAnotherHearseModel", name := "turnsOne", desc := "([II)I" } : Jvm.MethodName)) ∈ lw_all := lw_g (lw_at lw_m8 2 rfl) rfl
theorem q1761 : (Jvm.Cond.code ({ cls := "BehindAnotherHearseModel", name := "turnsOne", desc := "([II)I" } : Jvm.MethodName) prog_15_method_60_code (4 : Nat) (Option.some Jvm.ClassFile.FieldType.int)) ∈ lw_all := lw_g (lw_at lw_m8 3 rfl) rfl
theorem q1762 : (Jvm.Cond.methodLink "BehindAnotherHearseModel" (365 : Nat) ({ cls := "BehindAnotherHearseModel", name := "counted", desc := "(I)I" } : Jvm.MethodName)) ∈ lw_all := lw_g (lw_at lw_m8 4 rfl) rfl
theorem q1763 : (Jvm.Cond.privateMethod ({ cls := "BehindAnotherHearseModel", name := "counted", desc := "(I)I" } : Jvm.MethodName)) ∈ lw_tbl := lw_at lw_m8 5 rfl
theorem q1764 : (Jvm.Cond.instanceMethod ({ cls := "BehindAnotherHearseModel", name := "counted", desc := "(I)I" } : Jvm.MethodName)) ∈ lw_all := lw_g (lw_at lw_m8 6 rfl) rfl
theorem q1765 : (Jvm.Cond.code ({ cls := "BehindAnotherHearseModel", name := "counted", desc := "(I)I" } : Jvm.MethodName) prog_15_method_52_code (2 : Nat) (Option.some Jvm.ClassFile.FieldType.int)) ∈ lw_all := lw_g (lw_at lw_m8 7 rfl) rfl
theorem q1767 : (Jvm.Cond.instanceMethod ({ cls := "BehindAnotherHearseModel", name := "pushes", desc := "(II)I" } : Jvm.MethodName)) ∈ lw_all := lw_g (lw_at lw_m8 9 rfl) rfl
theorem q1768 : (Jvm.Cond.selects "BehindAnotherHearseModel" ({ cls := "BehindAnotherHearseModel", name := "pushes", desc := "(II)I" } : Jvm.MethodName) ({ cls := "BehindAnotherHearseModel", name := "pushes", desc := "(II)I" } : Jvm.MethodName)) ∈ lw_all := lw_g (lw_at lw_m8 10 rfl) rfl
theorem q1769 : (Jvm.Cond.code ({ cls := "BehindAnotherHearseModel", name := "pushes", desc := "(II)I" } : Jvm.MethodName) prog_15_method_65_code (3 : Nat) (Option.some Jvm.ClassFile.FieldType.int)) ∈ lw_all := lw_g (lw_at lw_m8 11 rfl) rfl
theorem q1770 : (Jvm.Cond.methodLink "BehindAnotherHearseModel" (368 : Nat) ({ cls := "BehindAnotherHearseModel", name := "pushesOne", desc := "([III)I" } : Jvm.MethodName)) ∈ lw_all := lw_g (lw_at lw_m8 12 rfl) rfl
theorem q1771 : (Jvm.Cond.privateMethod ({ cls := "BehindAnotherHearseModel", name := "pushesOne", desc := "([III)I" } : Jvm.MethodName)) ∈ lw_tbl := lw_at lw_m8 13 rfl
theorem q1772 : (Jvm.Cond.instanceMethod ({ cls := "BehindAnotherHearseModel", name := "pushesOne", desc := "([III)I" } : Jvm.MethodName)) ∈ lw_all := lw_g (lw_at lw_m8 14 rfl) rfl
theorem q1773 : (Jvm.Cond.code ({ cls := "BehindAnotherHearseModel", name := "pushesOne", desc := "([III)I" } : Jvm.MethodName) prog_15_method_61_code (4 : Nat) (Option.some Jvm.ClassFile.FieldType.int)) ∈ lw_all := lw_g (lw_at lw_m8 15 rfl) rfl
theorem q1774 : (Jvm.Cond.constantLong "BehindAnotherHearseModel" (346 : Nat) (-9 : Int64)) ∈ lw_all := lw_g (lw_at lw_m8 16 rfl) rfl
theorem q1775 : (Jvm.Cond.constantLong "BehindAnotherHearseModel" (348 : Nat) (9 : Int64)) ∈ lw_all := lw_g (lw_at lw_m8 17 rfl) rfl
theorem q1777 : (Jvm.Cond.instanceMethod ({ cls := "BehindAnotherHearseModel", name := "swaps", desc := "(II)I" } : Jvm.MethodName)) ∈ lw_all := lw_g (lw_at lw_m8 19 rfl) rfl
theorem q1778 : (Jvm.Cond.selects "BehindAnotherHearseModel" ({ cls := "BehindAnotherHearseModel", name := "swaps", desc := "(II)I" } : Jvm.MethodName) ({ cls := "BehindAnotherHearseModel", name := "swaps", desc := "(II)I" } : Jvm.MethodName)) ∈ lw_all := lw_g (lw_at lw_m8 20 rfl) rfl
theorem q1779 : (Jvm.Cond.code ({ cls := "BehindAnotherHearseModel", name := "swaps", desc := "(II)I" } : Jvm.MethodName) prog_15_method_66_code (3 : Nat) (Option.some Jvm.ClassFile.FieldType.int)) ∈ lw_all := lw_g (lw_at lw_m8 21 rfl) rfl
theorem q1780 : (Jvm.Cond.methodLink "BehindAnotherHearseModel" (371 : Nat) ({ cls := "BehindAnotherHearseModel", name := "swapsTwo", desc := "(II)I" } : Jvm.MethodName)) ∈ lw_all := lw_g (lw_at lw_m8 22 rfl) rfl
theorem q1781 : (Jvm.Cond.privateMethod ({ cls := "BehindAnotherHearseModel", name := "swapsTwo", desc := "(II)I" } : Jvm.MethodName)) ∈ lw_tbl := lw_at lw_m8 23 rfl
theorem q1782 : (Jvm.Cond.instanceMethod ({ cls := "BehindAnotherHearseModel", name := "swapsTwo", desc := "(II)I" } : Jvm.MethodName)) ∈ lw_all := lw_g (lw_at lw_m8 24 rfl) rfl
theorem q1783 : (Jvm.Cond.code ({ cls := "BehindAnotherHearseModel", name := "swapsTwo", desc := "(II)I" } : Jvm.MethodName) prog_15_method_62_code (4 : Nat) (Option.some Jvm.ClassFile.FieldType.int)) ∈ lw_all := lw_g (lw_at lw_m8 25 rfl) rfl
theorem q1785 : (Jvm.Cond.instanceMethod ({ cls := "BehindAnotherHearseModel", name := "hour", desc := "()I" } : Jvm.MethodName)) ∈ lw_all := lw_g (lw_at lw_m8 27 rfl) rfl
theorem q1786 : (Jvm.Cond.selects "BehindAnotherHearseModel" ({ cls := "BehindAnotherHearseModel", name := "hour", desc := "()I" } : Jvm.MethodName) ({ cls := "BehindAnotherHearseModel", name := "hour", desc := "()I" } : Jvm.MethodName)) ∈ lw_all := lw_g (lw_at lw_m8 28 rfl) rfl
theorem q1787 : (Jvm.Cond.code ({ cls := "BehindAnotherHearseModel", name := "hour", desc := "()I" } : Jvm.MethodName) prog_15_method_69_code (5 : Nat) (Option.some Jvm.ClassFile.FieldType.int)) ∈ lw_all := lw_g (lw_at lw_m8 29 rfl) rfl
theorem q1788 : (Jvm.Cond.methodLink "BehindAnotherHearseModel" (382 : Nat) ({ cls := "BehindAnotherHearseModel", name := "readsAct", desc := "()Z" } : Jvm.MethodName)) ∈ lw_all := lw_g (lw_at lw_m8 30 rfl) rfl
theorem q1789 : (Jvm.Cond.privateMethod ({ cls := "BehindAnotherHearseModel", name := "readsAct", desc := "()Z" } : Jvm.MethodName)) ∈ lw_tbl := lw_at lw_m8 31 rfl
theorem q1790 : (Jvm.Cond.instanceMethod ({ cls := "BehindAnotherHearseModel", name := "readsAct", desc := "()Z" } : Jvm.MethodName)) ∈ lw_all := lw_g (lw_at lw_m8 32 rfl) rfl
theorem q1791 : (Jvm.Cond.code ({ cls := "BehindAnotherHearseModel", name := "readsAct", desc := "()Z" } : Jvm.MethodName) prog_15_method_67_code (2 : Nat) (Option.some Jvm.ClassFile.FieldType.boolean)) ∈ lw_all := lw_g (lw_at lw_m8 33 rfl) rfl
theorem q1792 : (Jvm.Cond.stringRef "BehindAnotherHearseModel" (377 : Nat) "ntpbx") ∈ lw_tbl := lw_at lw_m8 34 rfl
theorem q1793 : (Jvm.Cond.methodLink "BehindAnotherHearseModel" (379 : Nat) ({ cls := "BehindAnotherHearseModel", name := "digitIn", desc := "(II)I" } : Jvm.MethodName)) ∈ lw_all := lw_g (lw_at lw_m8 35 rfl) rfl
theorem q1794 : (Jvm.Cond.privateMethod ({ cls := "BehindAnotherHearseModel", name := "digitIn", desc := "(II)I" } : Jvm.MethodName)) ∈ lw_tbl := lw_at lw_m8 36 rfl
theorem q1795 : (Jvm.Cond.instanceMethod ({ cls := "BehindAnotherHearseModel", name := "digitIn", desc := "(II)I" } : Jvm.MethodName)) ∈ lw_all := lw_g (lw_at lw_m8 37 rfl) rfl
theorem q1796 : (Jvm.Cond.code ({ cls := "BehindAnotherHearseModel", name := "digitIn", desc := "(II)I" } : Jvm.MethodName) prog_15_method_25_code (3 : Nat) (Option.some Jvm.ClassFile.FieldType.int)) ∈ lw_all := lw_g (lw_at lw_m8 38 rfl) rfl
theorem q1797 : (Jvm.Cond.methodLink "BehindAnotherHearseModel" (385 : Nat) ({ cls := "BehindAnotherHearseModel", name := "does", desc := "(I)Z" } : Jvm.MethodName)) ∈ lw_all := lw_g (lw_at lw_m8 39 rfl) rfl
theorem q1798 : (Jvm.Cond.privateMethod ({ cls := "BehindAnotherHearseModel", name := "does", desc := "(I)Z" } : Jvm.MethodName)) ∈ lw_tbl := lw_at lw_m8 40 rfl
theorem q1799 : (Jvm.Cond.instanceMethod ({ cls := "BehindAnotherHearseModel", name := "does", desc := "(I)Z" } : Jvm.MethodName)) ∈ lw_all := lw_g (lw_at lw_m8 41 rfl) rfl
theorem q1800 : (Jvm.Cond.code ({ cls := "BehindAnotherHearseModel", name := "does", desc := "(I)Z" } : Jvm.MethodName) prog_15_method_68_code (4 : Nat) (Option.some Jvm.ClassFile.FieldType.boolean)) ∈ lw_all := lw_g (lw_at lw_m8 42 rfl) rfl
theorem q1802 : (Jvm.Cond.instanceMethod ({ cls := "BehindAnotherHearseModel", name := "line", desc := "()I" } : Jvm.MethodName)) ∈ lw_all := lw_g (lw_at lw_m8 44 rfl) rfl
theorem q1803 : (Jvm.Cond.selects "BehindAnotherHearseModel" ({ cls := "BehindAnotherHearseModel", name := "line", desc := "()I" } : Jvm.MethodName) ({ cls := "BehindAnotherHearseModel", name := "line", desc := "()I" } : Jvm.MethodName)) ∈ lw_all := lw_g (lw_at lw_m8 45 rfl) rfl
theorem q1804 : (Jvm.Cond.code ({ cls := "BehindAnotherHearseModel", name := "line", desc := "()I" } : Jvm.MethodName) prog_15_method_71_code (2 : Nat) (Option.some Jvm.ClassFile.FieldType.int)) ∈ lw_all := lw_g (lw_at lw_m8 46 rfl) rfl
theorem q1806 : (Jvm.Cond.instanceMethod ({ cls := "BehindAnotherHearseModel", name := "ahead", desc := "(I)I" } : Jvm.MethodName)) ∈ lw_all := lw_g (lw_at lw_m8 48 rfl) rfl
theorem q1807 : (Jvm.Cond.selects "BehindAnotherHearseModel" ({ cls := "BehindAnotherHearseModel", name := "ahead", desc := "(I)I" } : Jvm.MethodName) ({ cls := "BehindAnotherHearseModel", name := "ahead", desc := "(I)I" } : Jvm.MethodName)) ∈ lw_all := lw_g (lw_at lw_m8 49 rfl) rfl
theorem q1808 : (Jvm.Cond.code ({ cls := "BehindAnotherHearseModel", name := "ahead", desc := "(I)I" } : Jvm.MethodName) prog_15_method_72_code (3 : Nat) (Option.some Jvm.ClassFile.FieldType.int)) ∈ lw_all := lw_g (lw_at lw_m8 50 rfl) rfl
theorem q1809 : (Jvm.Cond.constantLong "BehindAnotherHearseModel" (388 : Nat) (99 : Int64)) ∈ lw_all := lw_g (lw_at lw_m8 51 rfl) rfl
theorem q1810 : (Jvm.Cond.methodLink "BehindAnotherHearseModel" (390 : Nat) ({ cls := "BehindAnotherHearseModel", name := "copies", desc := "()V" } : Jvm.MethodName)) ∈ lw_all := lw_g (lw_at lw_m8 52 rfl) rfl
theorem q1811 : (Jvm.Cond.privateMethod ({ cls := "BehindAnotherHearseModel", name := "copies", desc := "()V" } : Jvm.MethodName)) ∈ lw_tbl := lw_at lw_m8 53 rfl
theorem q1812 : (Jvm.Cond.instanceMethod ({ cls := "BehindAnotherHearseModel", name := "copies", desc := "()V" } : Jvm.MethodName)) ∈ lw_all := lw_g (lw_at lw_m8 54 rfl) rfl
theorem q1813 : (Jvm.Cond.code ({ cls := "BehindAnotherHearseModel", name := "copies", desc := "()V" } : Jvm.MethodName) prog_15_method_70_code (2 : Nat) (Option.none : Option Jvm.ClassFile.FieldType)) ∈ lw_all := lw_g (lw_at lw_m8 55 rfl) rfl
theorem q1815 : (Jvm.Cond.instanceMethod ({ cls := "BehindAnotherHearseModel", name := "arrives", desc := "(I)I" } : Jvm.MethodName)) ∈ lw_all := lw_g (lw_at lw_m8 57 rfl) rfl
theorem q1816 : (Jvm.Cond.selects "BehindAnotherHearseModel" ({ cls := "BehindAnotherHearseModel", name := "arrives", desc := "(I)I" } : Jvm.MethodName) ({ cls := "BehindAnotherHearseModel", name := "arrives", desc := "(I)I" } : Jvm.MethodName)) ∈ lw_all := lw_g (lw_at lw_m8 58 rfl) rfl
theorem q1817 : (Jvm.Cond.code ({ cls := "BehindAnotherHearseModel", name := "arrives", desc := "(I)I" } : Jvm.MethodName) prog_15_method_73_code (3 : Nat) (Option.some Jvm.ClassFile.FieldType.int)) ∈ lw_all := lw_g (lw_at lw_m8 59 rfl) rfl
theorem q1819 : (Jvm.Cond.instanceMethod ({ cls := "BehindAnotherHearseModel", name := "jam", desc := "(I)I" } : Jvm.MethodName)) ∈ lw_all := lw_g (lw_at lw_m8 61 rfl) rfl
theorem q1820 : (Jvm.Cond.selects "BehindAnotherHearseModel" ({ cls := "BehindAnotherHearseModel", name := "jam", desc := "(I)I" } : Jvm.MethodName) ({ cls := "BehindAnotherHearseModel", name := "jam", desc := "(I)I" } : Jvm.MethodName)) ∈ lw_all := lw_g (lw_at lw_m8 62 rfl) rfl
theorem q1821 : (Jvm.Cond.code ({ cls := "BehindAnotherHearseModel", name := "jam", desc := "(I)I" } : Jvm.MethodName) prog_15_method_74_code (4 : Nat) (Option.some Jvm.ClassFile.FieldType.int)) ∈ lw_all := lw_g (lw_at lw_m8 63 rfl) rfl
theorem q1823 : (Jvm.Cond.instanceMethod ({ cls := "BehindAnotherHearseModel", name := "passes", desc := "(II)I" } : Jvm.MethodName)) ∈ lw_all := lw_g (lw_at lw_m8 65 rfl) rfl
theorem q1824 : (Jvm.Cond.selects "BehindAnotherHearseModel" ({ cls := "BehindAnotherHearseModel", name := "passes", desc := "(II)I" } : Jvm.MethodName) ({ cls := "BehindAnotherHearseModel", name := "passes", desc := "(II)I" } : Jvm.MethodName)) ∈ lw_all := lw_g (lw_at lw_m8 66 rfl) rfl
theorem q1825 : (Jvm.Cond.code ({ cls := "BehindAnotherHearseModel", name := "passes", desc := "(II)I" } : Jvm.MethodName) prog_15_method_76_code (4 : Nat) (Option.some Jvm.ClassFile.FieldType.int)) ∈ lw_all := lw_g (lw_at lw_m8 67 rfl) rfl
theorem q1826 : (Jvm.Cond.methodLink "BehindAnotherHearseModel" (393 : Nat) ({ cls := "BehindAnotherHearseModel", name := "isAhead", desc := "([III)Z" } : Jvm.MethodName)) ∈ lw_all := lw_g (lw_at lw_m8 68 rfl) rfl
theorem q1827 : (Jvm.Cond.static ({ cls := "BehindAnotherHearseModel", name := "isAhead", desc := "([III)Z" } : Jvm.MethodName)) ∈ lw_all := lw_g (lw_at lw_m8 69 rfl) rfl
theorem q1828 : (Jvm.Cond.code ({ cls := "BehindAnotherHearseModel", name := "isAhead", desc := "([III)Z" } : Jvm.MethodName) prog_15_method_75_code (3 : Nat) (Option.some Jvm.ClassFile.FieldType.boolean)) ∈ lw_all := lw_g (lw_at lw_m8 70 rfl) rfl
theorem q1830 : (Jvm.Cond.instanceMethod ({ cls := "BehindAnotherHearseModel", name := "ends", desc := "(I)I" } : Jvm.MethodName)) ∈ lw_all := lw_g (lw_at lw_m8 72 rfl) rfl
theorem q1831 : (Jvm.Cond.selects "BehindAnotherHearseModel" ({ cls := "BehindAnotherHearseModel", name := "ends", desc := "(I)I" } : Jvm.MethodName) ({ cls := "BehindAnotherHearseModel", name := "ends", desc := "(I)I" } : Jvm.MethodName)) ∈ lw_all := lw_g (lw_at lw_m8 73 rfl) rfl
theorem q1832 : (Jvm.Cond.code ({ cls := "BehindAnotherHearseModel", name := "ends", desc := "(I)I" } : Jvm.MethodName) prog_15_method_77_code (3 : Nat) (Option.some Jvm.ClassFile.FieldType.int)) ∈ lw_all := lw_g (lw_at lw_m8 74 rfl) rfl
theorem q1834 : (Jvm.Cond.instanceMethod ({ cls := "BehindAnotherHearseModel", name := "right", desc := "()I" } : Jvm.MethodName)) ∈ lw_all := lw_g (lw_at lw_m8 76 rfl) rfl
theorem q1835 : (Jvm.Cond.selects "BehindAnotherHearseModel" ({ cls := "BehindAnotherHearseModel", name := "right", desc := "()I" } : Jvm.MethodName) ({ cls := "BehindAnotherHearseModel", name := "right", desc := "()I" } : Jvm.MethodName)) ∈ lw_all := lw_g (lw_at lw_m8 77 rfl) rfl
theorem q1836 : (Jvm.Cond.code ({ cls := "BehindAnotherHearseModel", name := "right", desc := "()I" } : Jvm.MethodName) prog_15_method_79_code (2 : Nat) (Option.some Jvm.ClassFile.FieldType.int)) ∈ lw_all := lw_g (lw_at lw_m8 78 rfl) rfl
theorem q1837 : (Jvm.Cond.methodLink "BehindAnotherHearseModel" (401 : Nat) ({ cls := "BehindAnotherHearseModel", name := "rightThen", desc := "()I" } : Jvm.MethodName)) ∈ lw_all := lw_g (lw_at lw_m8 79 rfl) rfl
theorem q1838 : (Jvm.Cond.privateMethod ({ cls := "BehindAnotherHearseModel", name := "rightThen", desc := "()I" } : Jvm.MethodName)) ∈ lw_tbl := lw_at lw_m8 80 rfl
theorem q1839 : (Jvm.Cond.instanceMethod ({ cls := "BehindAnotherHearseModel", name := "rightThen", desc := "()I" } : Jvm.MethodName)) ∈ lw_all := lw_g (lw_at lw_m8 81 rfl) rfl
theorem q1840 : (Jvm.Cond.code ({ cls := "BehindAnotherHearseModel", name := "rightThen", desc := "()I" } : Jvm.MethodName) prog_15_method_78_code (3 : Nat) (Option.some Jvm.ClassFile.FieldType.int)) ∈ lw_all := lw_g (lw_at lw_m8 82 rfl) rfl
theorem q1841 : (Jvm.Cond.methodLink "BehindAnotherHearseModel" (397 : Nat) ({ cls := "BehindAnotherHearseModel", name := "endedBy", desc := "([IZ)I" } : Jvm.MethodName)) ∈ lw_all := lw_g (lw_at lw_m8 83 rfl) rfl
theorem q1842 : (Jvm.Cond.privateMethod ({ cls := "BehindAnotherHearseModel", name := "endedBy", desc := "([IZ)I" } : Jvm.MethodName)) ∈ lw_tbl := lw_at lw_m8 84 rfl
theorem q1843 : (Jvm.Cond.instanceMethod ({ cls := "BehindAnotherHearseModel", name := "endedBy", desc := "([IZ)I" } : Jvm.MethodName)) ∈ lw_all := lw_g (lw_at lw_m8 85 rfl) rfl
theorem q1844 : (Jvm.Cond.code ({ cls := "BehindAnotherHearseModel", name := "endedBy", desc := "([IZ)I" } : Jvm.MethodName) prog_15_method_17_code (5 : Nat) (Option.some Jvm.ClassFile.FieldType.int)) ∈ lw_all := lw_g (lw_at lw_m8 86 rfl) rfl
theorem q1846 : (Jvm.Cond.instanceMethod ({ cls := "BehindAnotherHearseModel", name := "order", desc := "()I" } : Jvm.MethodName)) ∈ lw_all := lw_g (lw_at lw_m8 88 rfl) rfl
theorem q1847 : (Jvm.Cond.selects "BehindAnotherHearseModel" ({ cls := "BehindAnotherHearseModel", name := "order", desc := "()I" } : Jvm.MethodName) ({ cls := "BehindAnotherHearseModel", name := "order", desc := "()I" } : Jvm.MethodName)) ∈ lw_all := lw_g (lw_at lw_m8 89 rfl) rfl
theorem q1848 : (Jvm.Cond.code ({ cls := "BehindAnotherHearseModel", name := "order", desc := "()I" } : Jvm.MethodName) prog_15_method_81_code (2 : Nat) (Option.some Jvm.ClassFile.FieldType.int)) ∈ lw_all := lw_g (lw_at lw_m8 90 rfl) rfl
theorem q1849 : (Jvm.Cond.methodLink "BehindAnotherHearseModel" (407 : Nat) ({ cls := "BehindAnotherHearseModel", name := "places", desc := "(II)V" } : Jvm.MethodName)) ∈ lw_all := lw_g (lw_at lw_m8 91 rfl) rfl
theorem q1850 : (Jvm.Cond.privateMethod ({ cls := "BehindAnotherHearseModel", name := "places", desc := "(II)V" } : Jvm.MethodName)) ∈ lw_tbl := lw_at lw_m8 92 rfl
theorem q1851 : (Jvm.Cond.instanceMethod ({ cls := "BehindAnotherHearseModel", name := "places", desc := "(II)V" } : Jvm.MethodName)) ∈ lw_all := lw_g (lw_at lw_m8 93 rfl) rfl
theorem q1852 : (Jvm.Cond.code ({ cls := "BehindAnotherHearseModel", name := "places", desc := "(II)V" } : Jvm.MethodName) prog_15_method_80_code (5 : Nat) (Option.none : Option Jvm.ClassFile.FieldType)) ∈ lw_all := lw_g (lw_at lw_m8 94 rfl) rfl
theorem q1853 : (Jvm.Cond.methodLink "BehindAnotherHearseModel" (411 : Nat) ({ cls := "BehindAnotherHearseModel", name := "has", desc := "(II)Z" } : Jvm.MethodName)) ∈ lw_all := lw_g (lw_at lw_m8 95 rfl) rfl
theorem q1854 : (Jvm.Cond.static ({ cls := "BehindAnotherHearseModel", name := "has", desc := "(II)Z" } : Jvm.MethodName)) ∈ lw_all := lw_g (lw_at lw_m8 96 rfl) rfl
theorem q1855 : (Jvm.Cond.code ({ cls := "BehindAnotherHearseModel", name := "has", desc := "(II)Z" } : Jvm.MethodName) prog_15_method_5_code (2 : Nat) (Option.some Jvm.ClassFile.FieldType.boolean)) ∈ lw_all := lw_g (lw_at lw_m8 97 rfl) rfl
theorem q1857 : (Jvm.Cond.instanceMethod ({ cls := "BehindAnotherHearseModel", name := "stands", desc := "(I)I" } : Jvm.MethodName)) ∈ lw_all := lw_g (lw_at lw_m8 99 rfl) rfl
theorem q1858 : (Jvm.Cond.selects "BehindAnotherHearseModel" ({ cls := "BehindAnotherHearseModel", name := "stands", desc := "(I)I" } : Jvm.MethodName) ({ cls := "BehindAnotherHearseModel", name := "stands", desc := "(I)I" } : Jvm.MethodName)) ∈ lw_all := lw_g (lw_at lw_m8 100 rfl) rfl
theorem q1859 : (Jvm.Cond.code ({ cls := "BehindAnotherHearseModel", name := "stands", desc := "(I)I" } : Jvm.MethodName) prog_15_method_82_code (5 : Nat) (Option.some Jvm.ClassFile.FieldType.int)) ∈ lw_all := lw_g (lw_at lw_m8 101 rfl) rfl
theorem q1861 : (Jvm.Cond.instanceMethod ({ cls := "BehindAnotherHearseModel", name := "when", desc := "(I)I" } : Jvm.MethodName)) ∈ lw_all := lw_g (lw_at lw_m8 103 rfl) rfl
theorem q1862 : (Jvm.Cond.selects "BehindAnotherHearseModel" ({ cls := "BehindAnotherHearseModel", name := "when", desc := "(I)I" } : Jvm.MethodName) ({ cls := "BehindAnotherHearseModel", name := "when", desc := "(I)I" } : Jvm.MethodName)) ∈ lw_all := lw_g (lw_at lw_m8 104 rfl) rfl
theorem q1863 : (Jvm.Cond.code ({ cls := "BehindAnotherHearseModel", name := "when", desc := "(I)I" } : Jvm.MethodName) prog_15_method_83_code (7 : Nat) (Option.some Jvm.ClassFile.FieldType.int)) ∈ lw_all := lw_g (lw_at lw_m8 105 rfl) rfl
theorem q1865 : (Jvm.Cond.instanceMethod ({ cls := "BehindAnotherHearseModel", name := "mends", desc := "(I)I" } : Jvm.MethodName)) ∈ lw_all := lw_g (lw_at lw_m8 107 rfl) rfl
theorem q1866 : (Jvm.Cond.selects "BehindAnotherHearseModel" ({ cls := "BehindAnotherHearseModel", name := "mends", desc := "(I)I" } : Jvm.MethodName) ({ cls := "BehindAnotherHearseModel", name := "mends", desc := "(I)I" } : Jvm.MethodName)) ∈ lw_all := lw_g (lw_at lw_m8 108 rfl) rfl
theorem q1867 : (Jvm.Cond.code ({ cls := "BehindAnotherHearseModel", name := "mends", desc := "(I)I" } : Jvm.MethodName) prog_15_method_84_code (7 : Nat) (Option.some Jvm.ClassFile.FieldType.int)) ∈ lw_all := lw_g (lw_at lw_m8 109 rfl) rfl
theorem q1868 : (Jvm.Cond.constantLong "BehindAnotherHearseModel" (415 : Nat) (8 : Int64)) ∈ lw_all := lw_g (lw_at lw_m8 110 rfl) rfl
theorem q1870 : (Jvm.Cond.instanceMethod ({ cls := "BehindAnotherHearseModel", name := "misleads", desc := "()I" } : Jvm.MethodName)) ∈ lw_all := lw_g (lw_at lw_m8 112 rfl) rfl
theorem q1871 : (Jvm.Cond.selects "BehindAnotherHearseModel" ({ cls := "BehindAnotherHearseModel", name := "misleads", desc := "()I" } : Jvm.MethodName) ({ cls := "BehindAnotherHearseModel", name := "misleads", desc := "()I" } : Jvm.MethodName)) ∈ lw_all := lw_g (lw_at lw_m8 113 rfl) rfl
theorem q1872 : (Jvm.Cond.code ({ cls := "BehindAnotherHearseModel", name := "misleads", desc := "()I" } : Jvm.MethodName) prog_15_method_85_code (6 : Nat) (Option.some Jvm.ClassFile.FieldType.int)) ∈ lw_all := lw_g (lw_at lw_m8 114 rfl) rfl
theorem q1874 : (Jvm.Cond.instanceMethod ({ cls := "BehindAnotherHearseModel", name := "crowd", desc := "()I" } : Jvm.MethodName)) ∈ lw_all := lw_g (lw_at lw_m8 116 rfl) rfl
theorem q1875 : (Jvm.Cond.selects "BehindAnotherHearseModel" ({ cls := "BehindAnotherHearseModel", name := "crowd", desc := "()I" } : Jvm.MethodName) ({ cls := "BehindAnotherHearseModel", name := "crowd", desc := "()I" } : Jvm.MethodName)) ∈ lw_all := lw_g (lw_at lw_m8 117 rfl) rfl
theorem q1876 : (Jvm.Cond.code ({ cls := "BehindAnotherHearseModel", name := "crowd", desc := "()I" } : Jvm.MethodName) prog_15_method_86_code (3 : Nat) (Option.some Jvm.ClassFile.FieldType.int)) ∈ lw_all := lw_g (lw_at lw_m8 118 rfl) rfl
theorem q1878 : (Jvm.Cond.instanceMethod ({ cls := "BehindAnotherHearseModel", name := "shares", desc := "(I)I" } : Jvm.MethodName)) ∈ lw_all := lw_g (lw_at lw_m8 120 rfl) rfl
theorem q1879 : (Jvm.Cond.selects "BehindAnotherHearseModel" ({ cls := "BehindAnotherHearseModel", name := "shares", desc := "(I)I" } : Jvm.MethodName) ({ cls := "BehindAnotherHearseModel", name := "shares", desc := "(I)I" } : Jvm.MethodName)) ∈ lw_all := lw_g (lw_at lw_m8 121 rfl) rfl
theorem q1880 : (Jvm.Cond.code ({ cls := "BehindAnotherHearseModel", name := "shares", desc := "(I)I" } : Jvm.MethodName) prog_15_method_88_code (3 : Nat) (Option.some Jvm.ClassFile.FieldType.int)) ∈ lw_all := lw_g (lw_at lw_m8 122 rfl) rfl
theorem q1881 : (Jvm.Cond.constantLong "BehindAnotherHearseModel" (421 : Nat) (30 : Int64)) ∈ lw_all := lw_g (lw_at lw_m8 123 rfl) rfl
theorem q1882 : (Jvm.Cond.methodLink "BehindAnotherHearseModel" (417 : Nat) ({ cls := "BehindAnotherHearseModel", name := "sharesFrom", desc := "(IIII)V" } : Jvm.MethodName)) ∈ lw_all := lw_g (lw_at lw_m8 124 rfl) rfl
theorem q1883 : (Jvm.Cond.privateMethod ({ cls := "BehindAnotherHearseModel", name := "sharesFrom", desc := "(IIII)V" } : Jvm.MethodName)) ∈ lw_tbl := lw_at lw_m8 125 rfl
theorem q1884 : (Jvm.Cond.instanceMethod ({ cls := "BehindAnotherHearseModel", name := "sharesFrom", desc := "(IIII)V" } : Jvm.MethodName)) ∈ lw_all := lw_g (lw_at lw_m8 126 rfl) rfl
theorem q1885 : (Jvm.Cond.code ({ cls := "BehindAnotherHearseModel", name := "sharesFrom", desc := "(IIII)V" } : Jvm.MethodName) prog_15_method_87_code (6 : Nat) (Option.none : Option Jvm.ClassFile.FieldType)) ∈ lw_all := lw_g (lw_at lw_m8 127 rfl) rfl
theorem q1887 : (Jvm.Cond.instanceMethod ({ cls := "BehindAnotherHearseModel", name := "strangers", desc := "()I" } : Jvm.MethodName)) ∈ lw_all := lw_g (lw_at lw_m8 129 rfl) rfl
theorem q1888 : (Jvm.Cond.selects "BehindAnotherHearseModel" ({ cls := "BehindAnotherHearseModel", name := "strangers", desc := "()I" } : Jvm.MethodName) ({ cls := "BehindAnotherHearseModel", name := "strangers", desc := "()I" } : Jvm.MethodName)) ∈ lw_all := lw_g (lw_at lw_m8 130 rfl) rfl
theorem q1889 : (Jvm.Cond.code ({ cls := "BehindAnotherHearseModel", name := "strangers", desc := "()I" } : Jvm.MethodName) prog_15_method_89_code (7 : Nat) (Option.some Jvm.ClassFile.FieldType.int)) ∈ lw_all := lw_g (lw_at lw_m8 131 rfl) rfl
theorem q1891 : (Jvm.Cond.instanceMethod ({ cls := "BehindAnotherHearseModel", name := "doubts", desc := "()I" } : Jvm.MethodName)) ∈ lw_all := lw_g (lw_at lw_m8 133 rfl) rfl
theorem q1892 : (Jvm.Cond.selects "BehindAnotherHearseModel" ({ cls := "BehindAnotherHearseModel", name := "doubts", desc := "()I" } : Jvm.MethodName) ({ cls := "BehindAnotherHearseModel", name := "doubts", desc := "()I" } : Jvm.MethodName)) ∈ lw_all := lw_g (lw_at lw_m8 134 rfl) rfl
theorem q1893 : (Jvm.Cond.code ({ cls := "BehindAnotherHearseModel", name := "doubts", desc := "()I" } : Jvm.MethodName) prog_15_method_90_code (6 : Nat) (Option.some Jvm.ClassFile.FieldType.int)) ∈ lw_all := lw_g (lw_at lw_m8 135 rfl) rfl
theorem q1895 : (Jvm.Cond.instanceMethod ({ cls := "BehindAnotherHearseModel", name := "heard", desc := "(II)I" } : Jvm.MethodName)) ∈ lw_all := lw_g (lw_at lw_m8 137 rfl) rfl
theorem q1896 : (Jvm.Cond.selects "BehindAnotherHearseModel" ({ cls := "BehindAnotherHearseModel", name := "heard", desc := "(II)I" } : Jvm.MethodName) ({ cls := "BehindAnotherHearseModel", name := "heard", desc := "(II)I" } : Jvm.MethodName)) ∈ lw_all := lw_g (lw_at lw_m8 138 rfl) rfl
theorem q1897 : (Jvm.Cond.code ({ cls := "BehindAnotherHearseModel", name := "heard", desc := "(II)I" } : Jvm.MethodName) prog_15_method_91_code (4 : Nat) (Option.some Jvm.ClassFile.FieldType.int)) ∈ lw_all := lw_g (lw_at lw_m8 139 rfl) rfl
theorem q1899 : (Jvm.Cond.instanceMethod ({ cls := "BehindAnotherHearseModel", name := "forget", desc := "()I" } : Jvm.MethodName)) ∈ lw_all := lw_g (lw_at lw_m8 141 rfl) rfl
theorem q1900 : (Jvm.Cond.selects "BehindAnotherHearseModel" ({ cls := "BehindAnotherHearseModel", name := "forget", desc := "()I" } : Jvm.MethodName) ({ cls := "BehindAnotherHearseModel", name := "forget", desc := "()I" } : Jvm.MethodName)) ∈ lw_all := lw_g (lw_at lw_m8 142 rfl) rfl
theorem q1901 : (Jvm.Cond.code ({ cls := "BehindAnotherHearseModel", name := "forget", desc := "()I" } : Jvm.MethodName) prog_15_method_92_code (2 : Nat) (Option.some Jvm.ClassFile.FieldType.int)) ∈ lw_all := lw_g (lw_at lw_m8 143 rfl) rfl
theorem q1903 : (Jvm.Cond.instanceMethod ({ cls := "BehindAnotherHearseModel", name := "fits", desc := "()I" } : Jvm.MethodName)) ∈ lw_all := lw_g (lw_at lw_m8 145 rfl) rfl
theorem q1904 : (Jvm.Cond.selects "BehindAnotherHearseModel" ({ cls := "BehindAnotherHearseModel", name := "fits", desc := "()I" } : Jvm.MethodName) ({ cls := "BehindAnotherHearseModel", name := "fits", desc := "()I" } : Jvm.MethodName)) ∈ lw_all := lw_g (lw_at lw_m8 146 rfl) rfl
theorem q1905 : (Jvm.Cond.code ({ cls := "BehindAnotherHearseModel", name := "fits", desc := "()I" } : Jvm.MethodName) prog_15_method_94_code (5 : Nat) (Option.some Jvm.ClassFile.FieldType.int)) ∈ lw_all := lw_g (lw_at lw_m8 147 rfl) rfl
theorem q1906 : (Jvm.Cond.methodLink "BehindAnotherHearseModel" (426 : Nat) ({ cls := "BehindAnotherHearseModel", name := "isSo", desc := "(III)Z" } : Jvm.MethodName)) ∈ lw_all := lw_g (lw_at lw_m8 148 rfl) rfl
theorem q1907 : (Jvm.Cond.privateMethod ({ cls := "BehindAnotherHearseModel", name := "isSo", desc := "(III)Z" } : Jvm.MethodName)) ∈ lw_tbl := lw_at lw_m8 149 rfl
theorem q1908 : (Jvm.Cond.instanceMethod ({ cls := "BehindAnotherHearseModel", name := "isSo", desc := "(III)Z" } : Jvm.MethodName)) ∈ lw_all := lw_g (lw_at lw_m8 150 rfl) rfl
theorem q1909 : (Jvm.Cond.code ({ cls := "BehindAnotherHearseModel", name := "isSo", desc := "(III)Z" } : Jvm.MethodName) prog_15_method_93_code (4 : Nat) (Option.some Jvm.ClassFile.FieldType.boolean)) ∈ lw_all := lw_g (lw_at lw_m8 151 rfl) rfl
theorem q1911 : (Jvm.Cond.instanceMethod ({ cls := "BehindAnotherHearseModel", name := "rains", desc := "(III)I" } : Jvm.MethodName)) ∈ lw_all := lw_g (lw_at lw_m8 153 rfl) rfl
theorem q1912 : (Jvm.Cond.selects "BehindAnotherHearseModel" ({ cls := "BehindAnotherHearseModel", name := "rains", desc := "(III)I" } : Jvm.MethodName) ({ cls := "BehindAnotherHearseModel", name := "rains", desc := "(III)I" } : Jvm.MethodName)) ∈ lw_all := lw_g (lw_at lw_m8 154 rfl) rfl
theorem q1913 : (Jvm.Cond.code ({ cls := "BehindAnotherHearseModel", name := "rains", desc := "(III)I" } : Jvm.MethodName) prog_15_method_95_code (12 : Nat) (Option.some Jvm.ClassFile.FieldType.int)) ∈ lw_all := lw_g (lw_at lw_m8 155 rfl) rfl
theorem q1914 : (Jvm.Cond.constantLong "BehindAnotherHearseModel" (430 : Nat) (12 : Int64)) ∈ lw_all := lw_g (lw_at lw_m8 156 rfl) rfl
theorem q1915 : (Jvm.Cond.constantLong "BehindAnotherHearseModel" (432 : Nat) (10 : Int64)) ∈ lw_all := lw_g (lw_at lw_m8 157 rfl) rfl
theorem q1916 : (Jvm.Cond.methodLink "BehindAnotherHearseModel" (115 : Nat) ({ cls := "BehindAnotherHearseModel", name := "common", desc := "(JJ)J" } : Jvm.MethodName)) ∈ lw_all := lw_g (lw_at lw_m8 158 rfl) rfl
theorem q1917 : (Jvm.Cond.static ({ cls := "BehindAnotherHearseModel", name := "common", desc := "(JJ)J" } : Jvm.MethodName)) ∈ lw_all := lw_g (lw_at lw_m8 159 rfl) rfl
theorem q1918 : (Jvm.Cond.code ({ cls := "BehindAnotherHearseModel", name := "common", desc := "(JJ)J" } : Jvm.MethodName) prog_15_method_7_code (4 : Nat) (Option.some Jvm.ClassFile.FieldType.long)) ∈ lw_all := lw_g (lw_at lw_m8 160 rfl) rfl
theorem q1920 : (Jvm.Cond.instanceMethod ({ cls := "BehindAnotherHearseModel", name := "law", desc := "()I" } : Jvm.MethodName)) ∈ lw_all := lw_g (lw_at lw_m8 162 rfl) rfl
theorem q1921 : (Jvm.Cond.selects "BehindAnotherHearseModel" ({ cls := "BehindAnotherHearseModel", name := "law", desc := "()I" } : Jvm.MethodName) ({ cls := "BehindAnotherHearseModel", name := "law", desc := "()I" } : Jvm.MethodName)) ∈ lw_all := lw_g (lw_at lw_m8 163 rfl) rfl
theorem q1922 : (Jvm.Cond.code ({ cls := "BehindAnotherHearseModel", name := "law", desc := "()I" } : Jvm.MethodName) prog_15_method_96_code (5 : Nat) (Option.some Jvm.ClassFile.FieldType.int)) ∈ lw_all := lw_g (lw_at lw_m8 164 rfl) rfl
theorem q1924 : (Jvm.Cond.instanceMethod ({ cls := "BehindAnotherHearseModel", name := "rests", desc := "(I)I" } : Jvm.MethodName)) ∈ lw_all := lw_g (lw_at lw_m8 166 rfl) rfl
theorem q1925 : (Jvm.Cond.selects "BehindAnotherHearseModel" ({ cls := "BehindAnotherHearseModel", name := "rests", desc := "(I)I" } : Jvm.MethodName) ({ cls := "BehindAnotherHearseModel", name := "rests", desc := "(I)I" } : Jvm.MethodName)) ∈ lw_all := lw_g (lw_at lw_m8 167 rfl) rfl
theorem q1926 : (Jvm.Cond.code ({ cls := "BehindAnotherHearseModel", name := "rests", desc := "(I)I" } : Jvm.MethodName) prog_15_method_99_code (5 : Nat) (Option.some Jvm.ClassFile.FieldType.int)) ∈ lw_all := lw_g (lw_at lw_m8 168 rfl) rfl
theorem q1927 : (Jvm.Cond.constantLong "BehindAnotherHearseModel" (437 : Nat) (20 : Int64)) ∈ lw_all := lw_g (lw_at lw_m8 169 rfl) rfl
theorem q1928 : (Jvm.Cond.methodLink "BehindAnotherHearseModel" (439 : Nat) ({ cls := "BehindAnotherHearseModel", name := "isRest", desc := "(III)Z" } : Jvm.MethodName)) ∈ lw_all := lw_g (lw_at lw_m8 170 rfl) rfl
theorem q1929 : (Jvm.Cond.static ({ cls := "BehindAnotherHearseModel", name := "isRest", desc := "(III)Z" } : Jvm.MethodName)) ∈ lw_all := lw_g (lw_at lw_m8 171 rfl) rfl
theorem q1930 : (Jvm.Cond.code ({ cls := "BehindAnotherHearseModel", name := "isRest", desc := "(III)Z" } : Jvm.MethodName) prog_15_method_98_code (5 : Nat) (Option.some Jvm.ClassFile.FieldType.boolean)) ∈ lw_all := lw_g (lw_at lw_m8 172 rfl) rfl
theorem q1931 : (Jvm.Cond.methodLink "BehindAnotherHearseModel" (434 : Nat) ({ cls := "BehindAnotherHearseModel", name := "gets", desc := "(III)I" } : Jvm.MethodName)) ∈ lw_all := lw_g (lw_at lw_m8 173 rfl) rfl
theorem q1932 : (Jvm.Cond.static ({ cls := "BehindAnotherHearseModel", name := "gets", desc := "(III)I" } : Jvm.MethodName)) ∈ lw_all := lw_g (lw_at lw_m8 174 rfl) rfl
theorem q1933 : (Jvm.Cond.code ({ cls := "BehindAnotherHearseModel", name := "gets", desc := "(III)I" } : Jvm.MethodName) prog_15_method_97_code (3 : Nat) (Option.some Jvm.ClassFile.FieldType.int)) ∈ lw_all := lw_g (lw_at lw_m8 175 rfl) rfl
theorem q1935 : (Jvm.Cond.instanceMethod ({ cls := "BehindAnotherHearseModel", name := "years", desc := "(II)I" } : Jvm.MethodName)) ∈ lw_all := lw_g (lw_at lw_m8 177 rfl) rfl
theorem q1936 : (Jvm.Cond.selects "BehindAnotherHearseModel" ({ cls := "BehindAnotherHearseModel", name := "years", desc := "(II)I" } : Jvm.MethodName) ({ cls := "BehindAnotherHearseModel", name := "years", desc := "(II)I" } : Jvm.MethodName)) ∈ lw_all := lw_g (lw_at lw_m8 178 rfl) rfl
theorem q1937 : (Jvm.Cond.code ({ cls := "BehindAnotherHearseModel", name := "years", desc := "(II)I" } : Jvm.MethodName) prog_15_method_101_code (6 : Nat) (Option.some Jvm.ClassFile.FieldType.int)) ∈ lw_all := lw_g (lw_at lw_m8 179 rfl) rfl
theorem q1938 : (Jvm.Cond.methodLink "BehindAnotherHearseModel" (446 : Nat) ({ cls := "BehindAnotherHearseModel", name := "draws", desc := "(I)I" } : Jvm.MethodName)) ∈ lw_all := lw_g (lw_at lw_m8 180 rfl) rfl
theorem q1939 : (Jvm.Cond.privateMethod ({ cls := "BehindAnotherHearseModel", name := "draws", desc := "(I)I" } : Jvm.MethodName)) ∈ lw_tbl := lw_at lw_m8 181 rfl
theorem q1940 : (Jvm.Cond.instanceMethod ({ cls := "BehindAnotherHearseModel", name := "draws", desc := "(I)I" } : Jvm.MethodName)) ∈ lw_all := lw_g (lw_at lw_m8 182 rfl) rfl
theorem q1941 : (Jvm.Cond.code ({ cls := "BehindAnotherHearseModel", name := "draws", desc := "(I)I" } : Jvm.MethodName) prog_15_method_100_code (2 : Nat) (Option.some Jvm.ClassFile.FieldType.int)) ∈ lw_all := lw_g (lw_at lw_m8 183 rfl) rfl
theorem q1942 : (Jvm.Cond.constant "BehindAnotherHearseModel" (445 : Nat) (1103515245 : Int32)) ∈ lw_all := lw_g (lw_at lw_m8 184 rfl) rfl
theorem q1944 : (Jvm.Cond.instanceMethod ({ cls := "BehindAnotherHearseModel", name := "keep", desc := "(I)Z" } : Jvm.MethodName)) ∈ lw_all := lw_g (lw_at lw_m8 186 rfl) rfl
theorem q1945 : (Jvm.Cond.selects "BehindAnotherHearseModel" ({ cls := "BehindAnotherHearseModel", name := "keep", desc := "(I)Z" } : Jvm.MethodName) ({ cls := "BehindAnotherHearseModel", name := "keep", desc := "(I)Z" } : Jvm.MethodName)) ∈ lw_all := lw_g (lw_at lw_m8 187 rfl) rfl
theorem q1946 : (Jvm.Cond.code ({ cls := "BehindAnotherHearseModel", name := "keep", desc := "(I)Z" } : Jvm.MethodName) prog_15_method_102_code (3 : Nat) (Option.some Jvm.ClassFile.FieldType.boolean)) ∈ lw_all := lw_g (lw_at lw_m8 188 rfl) rfl
theorem q1947 : (Jvm.Cond.constantLong "BehindAnotherHearseModel" (449 : Nat) (2 : Int64)) ∈ lw_all := lw_g (lw_at lw_m8 189 rfl) rfl
theorem q1949 : (Jvm.Cond.instanceMethod ({ cls := "BehindAnotherHearseModel", name := "again", desc := "(I)Z" } : Jvm.MethodName)) ∈ lw_all := lw_g (lw_at lw_m8 191 rfl) rfl
theorem q1950 : (Jvm.Cond.selects "BehindAnotherHearseModel" ({ cls := "BehindAnotherHearseModel", name := "again", desc := "(I)Z" } : Jvm.MethodName) ({ cls := "BehindAnotherHearseModel", name := "again", desc := "(I)Z" } : Jvm.MethodName)) ∈ lw_all := lw_g (lw_at lw_m8 192 rfl) rfl
theorem q1951 : (Jvm.Cond.code ({ cls := "BehindAnotherHearseModel", name := "again", desc := "(I)Z" } : Jvm.MethodName) prog_15_method_103_code (3 : Nat) (Option.some Jvm.ClassFile.FieldType.boolean)) ∈ lw_all := lw_g (lw_at lw_m8 193 rfl) rfl
theorem q1953 : (Jvm.Cond.instanceMethod ({ cls := "BehindAnotherHearseModel", name := "count", desc := "(I)I" } : Jvm.MethodName)) ∈ lw_all := lw_g (lw_at lw_m8 195 rfl) rfl
theorem q1954 : (Jvm.Cond.selects "BehindAnotherHearseModel" ({ cls := "BehindAnotherHearseModel", name := "count", desc := "(I)I" } : Jvm.MethodName) ({ cls := "BehindAnotherHearseModel", name := "count", desc := "(I)I" } : Jvm.MethodName)) ∈ lw_all := lw_g (lw_at lw_m8 196 rfl) rfl
theorem q1955 : (Jvm.Cond.code ({ cls := "BehindAnotherHearseModel", name := "count", desc := "(I)I" } : Jvm.MethodName) prog_15_method_104_code (4 : Nat) (Option.some Jvm.ClassFile.FieldType.int)) ∈ lw_all := lw_g (lw_at lw_m8 197 rfl) rfl
theorem q1957 : (Jvm.Cond.instanceMethod ({ cls := "BehindAnotherHearseModel", name := "row", desc := "(I)J" } : Jvm.MethodName)) ∈ lw_all := lw_g (lw_at lw_m8 199 rfl) rfl
theorem q1958 : (Jvm.Cond.selects "BehindAnotherHearseModel" ({ cls := "BehindAnotherHearseModel", name := "row", desc := "(I)J" } : Jvm.MethodName) ({ cls := "BehindAnotherHearseModel", name := "row", desc := "(I)J" } : Jvm.MethodName)) ∈ lw_all := lw_g (lw_at lw_m8 200 rfl) rfl
theorem q1959 : (Jvm.Cond.code ({ cls := "BehindAnotherHearseModel", name := "row", desc := "(I)J" } : Jvm.MethodName) prog_15_method_105_code (2 : Nat) (Option.some Jvm.ClassFile.FieldType.long)) ∈ lw_all := lw_g (lw_at lw_m8 201 rfl) rfl
theorem q1967 : (Jvm.Cond.castable "BehindAnotherHearseModel" "java/lang/Object") ∈ lw_tbl := lw_at lw_m8 209 rfl
theorem in_X6 : ∀ w ∈ wsX60, w ∈ lw_all := lw_in wsX60 [1329, 1331, 1333, 1335, 1337, 1339, 1341, 1343, 1345, 1347, 1349, 1351, 1353, 1355, 1357, 1359, 1361, 1363, 1365, 1367, 1369, 1371, 1373, 1375, 1377, 1379, 1381, 1383, 1385, 1387, 1389, 1391, 1393, 1395, 1397, 1399, 1401, 1403, 1405, 1407, 1409, 1411, 1413, 1415, 1417, 1419, 1421, 1423, 1425, 1427, 1429, 1431, 1433] (by decide +kernel) (by decide +kernel)
