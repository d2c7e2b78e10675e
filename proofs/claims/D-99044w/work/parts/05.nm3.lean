/-! BehindAnotherHearse -/
set_option maxRecDepth 100000
def RX1 : String := "BehindAnotherHearse"
def TX1 : u_T := fun k => match k with
  | 0 => ("BehindAnotherHearse", "inTurn", "[I", true)
  | 1 => ("BehindAnotherHearse", "own", "[I", true)
  | 2 => ("BehindAnotherHearse", "corner", "[Z", true)
  | 3 => ("BehindAnotherHearse", "cells", "I", false)
  | 4 => ("BehindAnotherHearse", "hearses", "I", false)
  | 5 => ("BehindAnotherHearse", "men", "I", false)
  | 6 => ("BehindAnotherHearse", "came", "I", false)
  | 7 => ("BehindAnotherHearse", "undoMany", "I", false)
  | 8 => ("BehindAnotherHearse", "weather", "[B", false)
  | 9 => ("BehindAnotherHearse", "now", "LBehindAnotherHearse$Street;", true)
  | 10 => ("BehindAnotherHearse", "aside", "LBehindAnotherHearse$Street;", true)
  | 11 => ("BehindAnotherHearse", "tried", "LBehindAnotherHearse$Street;", true)
  | 12 => ("BehindAnotherHearse", "other", "LBehindAnotherHearse$Street;", true)
  | 13 => ("BehindAnotherHearse", "ahead", "[LBehindAnotherHearse$Street;", true)
  | 14 => ("BehindAnotherHearse", "text", "[B", true)
  | 15 => ("BehindAnotherHearse", "typed", "I", false)
  | 16 => ("BehindAnotherHearse", "row", "[J", true)
  | 17 => ("BehindAnotherHearse", "rowMany", "I", false)
  | 18 => ("BehindAnotherHearse", "rule", "LBehindAnotherHearse$Rule;", false)
  | 19 => ("BehindAnotherHearse", "asItIs", "LBehindAnotherHearse$Trial;", true)
  | 20 => ("BehindAnotherHearse", "seats", "[I", true)
  | 21 => ("BehindAnotherHearse", "bestSeats", "[I", true)
  | 22 => ("BehindAnotherHearse", "seated", "LBehindAnotherHearse$Trial;", true)
  | 23 => ("BehindAnotherHearse", "bestRight", "I", false)
  | 24 => ("BehindAnotherHearse", "shared", "[[I", true)
  | 25 => ("BehindAnotherHearse", "heardOf", "[I", true)
  | 26 => ("BehindAnotherHearse", "heardBy", "[I", true)
  | 27 => ("BehindAnotherHearse", "heardMany", "I", false)
  | 28 => ("BehindAnotherHearse", "drawn", "I", false)
  | _ => ("BehindAnotherHearse", "pages", "[LBehindAnotherHearse$Page;", true)
def tyX1 : Nat → FieldType := fun k => match k with
  | 0 => .array .int
  | 1 => .array .int
  | 2 => .array .boolean
  | 3 => .int
  | 4 => .int
  | 5 => .int
  | 6 => .int
  | 7 => .int
  | 8 => .array .byte
  | 9 => .object "BehindAnotherHearse$Street"
  | 10 => .object "BehindAnotherHearse$Street"
  | 11 => .object "BehindAnotherHearse$Street"
  | 12 => .object "BehindAnotherHearse$Street"
  | 13 => .array (.object "BehindAnotherHearse$Street")
  | 14 => .array .byte
  | 15 => .int
  | 16 => .array .long
  | 17 => .int
  | 18 => .object "BehindAnotherHearse$Rule"
  | 19 => .object "BehindAnotherHearse$Trial"
  | 20 => .array .int
  | 21 => .array .int
  | 22 => .object "BehindAnotherHearse$Trial"
  | 23 => .int
  | 24 => .array (.array .int)
  | 25 => .array .int
  | 26 => .array .int
  | 27 => .int
  | 28 => .int
  | _ => .array (.object "BehindAnotherHearse$Page")
abbrev wsX10 : List Cond := u_ws RX1 TX1 30
set_option maxRecDepth 100000 in
theorem nmX1 : ∀ a, a < 30 → ∀ b, b < 30 → a ≠ b → (TX1 a).2.1 ≠ (TX1 b).2.1 := by decide +kernel
set_option maxRecDepth 100000 in
theorem tyX1_ok : ∀ k, k < 30 → parseFieldDescriptor (TX1 k).2.2.1 = some (tyX1 k) := by decide +kernel
abbrev cX1_init : ByteArray := prog_1_method_3_code
def yX1_init : MethodName := ⟨RX1, "<init>", "()V"⟩
def dkwX1_init_9 : List UInt8 := [187, 0, 28, 89, 42, 183, 0, 30, 83, 132, 1, 1, 167, 255, 233, 177]
abbrev dktX1_init_9 : List UInt8 := dkwX1_init_9 ++ []
def dkwX1_init_8 : List UInt8 := [181, 0, 86, 42, 6, 189, 0, 89, 181, 0, 91, 3, 60, 27, 16, 15, 162, 0, 23, 42, 180, 0, 46, 27]
abbrev dktX1_init_8 : List UInt8 := dkwX1_init_8 ++ dktX1_init_9
def dkwX1_init_7 : List UInt8 := [16, 64, 197, 0, 78, 2, 181, 0, 80, 42, 16, 8, 188, 10, 181, 0, 83, 42, 16, 8, 188, 10]
abbrev dktX1_init_7 : List UInt8 := dkwX1_init_7 ++ dktX1_init_8
def dkwX1_init_6 : List UInt8 := [188, 10, 181, 0, 67, 42, 187, 0, 70, 89, 42, 42, 180, 0, 64, 183, 0, 72, 181, 0, 75, 42, 16, 9]
abbrev dktX1_init_6 : List UInt8 := dkwX1_init_6 ++ dktX1_init_7
def dkwX1_init_5 : List UInt8 := [42, 187, 0, 57, 89, 42, 183, 0, 59, 181, 0, 60, 42, 16, 6, 188, 10, 181, 0, 64, 42, 16, 6]
abbrev dktX1_init_5 : List UInt8 := dkwX1_init_5 ++ dktX1_init_6
def dkwX1_init_4 : List UInt8 := [16, 15, 189, 0, 28, 181, 0, 46, 42, 16, 80, 188, 8, 181, 0, 50, 42, 16, 16, 188, 11, 181, 0, 53]
abbrev dktX1_init_4 : List UInt8 := dkwX1_init_4 ++ dktX1_init_5
def dkwX1_init_3 : List UInt8 := [187, 0, 28, 89, 42, 183, 0, 30, 181, 0, 40, 42, 187, 0, 28, 89, 42, 183, 0, 30, 181, 0, 43, 42]
abbrev dktX1_init_3 : List UInt8 := dkwX1_init_3 ++ dktX1_init_4
def dkwX1_init_2 : List UInt8 := [187, 0, 28, 89, 42, 183, 0, 30, 181, 0, 33, 42, 187, 0, 28, 89, 42, 183, 0, 30, 181, 0, 37, 42]
abbrev dktX1_init_2 : List UInt8 := dkwX1_init_2 ++ dktX1_init_3
def dkwX1_init_1 : List UInt8 := [188, 4, 181, 0, 16, 42, 7, 181, 0, 20, 42, 4, 188, 8, 89, 3, 3, 84, 181, 0, 24, 42]
abbrev dktX1_init_1 : List UInt8 := dkwX1_init_1 ++ dktX1_init_2
def dkwX1_init_0 : List UInt8 := [42, 183, 0, 1, 42, 16, 6, 188, 10, 181, 0, 9, 42, 16, 8, 188, 10, 181, 0, 13, 42, 16, 30]
abbrev dktX1_init_0 : List UInt8 := dkwX1_init_0 ++ dktX1_init_1
theorem dksX1_init_0 : cX1_init.data.toList.drop 0 = dktX1_init_0 := by decide +kernel
theorem dksX1_init_1 : cX1_init.data.toList.drop 23 = dktX1_init_1 := dk_seg dksX1_init_0 23 rfl rfl
theorem dksX1_init_2 : cX1_init.data.toList.drop 45 = dktX1_init_2 := dk_seg dksX1_init_1 22 rfl rfl
theorem dksX1_init_3 : cX1_init.data.toList.drop 69 = dktX1_init_3 := dk_seg dksX1_init_2 24 rfl rfl
theorem dksX1_init_4 : cX1_init.data.toList.drop 93 = dktX1_init_4 := dk_seg dksX1_init_3 24 rfl rfl
theorem dksX1_init_5 : cX1_init.data.toList.drop 117 = dktX1_init_5 := dk_seg dksX1_init_4 24 rfl rfl
theorem dksX1_init_6 : cX1_init.data.toList.drop 140 = dktX1_init_6 := dk_seg dksX1_init_5 23 rfl rfl
theorem dksX1_init_7 : cX1_init.data.toList.drop 164 = dktX1_init_7 := dk_seg dksX1_init_6 24 rfl rfl
theorem dksX1_init_8 : cX1_init.data.toList.drop 186 = dktX1_init_8 := dk_seg dksX1_init_7 22 rfl rfl
theorem dksX1_init_9 : cX1_init.data.toList.drop 210 = dktX1_init_9 := dk_seg dksX1_init_8 24 rfl rfl
theorem dX1_init_0 : decode cX1_init 0 = .ok (.aload_n 0, 1) := dk_42 (dk_at dksX1_init_0 0 rfl rfl)
theorem dX1_init_1 : decode cX1_init 1 = .ok (.invokespecial 1, 3) := dk_183 0 1 (dk_at dksX1_init_0 1 rfl rfl)
theorem dX1_init_4 : decode cX1_init 4 = .ok (.aload_n 0, 1) := dk_42 (dk_at dksX1_init_0 4 rfl rfl)
theorem dX1_init_5 : decode cX1_init 5 = .ok (.bipush 6, 2) := dk_16 6 (dk_at dksX1_init_0 5 rfl rfl)
theorem dX1_init_7 : decode cX1_init 7 = .ok (.newarray .int, 2) := dk_188_10 (dk_at dksX1_init_0 7 rfl rfl)
theorem dX1_init_9 : decode cX1_init 9 = .ok (.putfield 9, 3) := dk_181 0 9 (dk_at dksX1_init_0 9 rfl rfl)
theorem dX1_init_12 : decode cX1_init 12 = .ok (.aload_n 0, 1) := dk_42 (dk_at dksX1_init_0 12 rfl rfl)
theorem dX1_init_13 : decode cX1_init 13 = .ok (.bipush 8, 2) := dk_16 8 (dk_at dksX1_init_0 13 rfl rfl)
theorem dX1_init_15 : decode cX1_init 15 = .ok (.newarray .int, 2) := dk_188_10 (dk_at dksX1_init_0 15 rfl rfl)
theorem dX1_init_17 : decode cX1_init 17 = .ok (.putfield 13, 3) := dk_181 0 13 (dk_at dksX1_init_0 17 rfl rfl)
theorem dX1_init_20 : decode cX1_init 20 = .ok (.aload_n 0, 1) := dk_42 (dk_at dksX1_init_0 20 rfl rfl)
theorem dX1_init_21 : decode cX1_init 21 = .ok (.bipush 30, 2) := dk_16 30 (dk_at dksX1_init_0 21 rfl rfl)
theorem dX1_init_23 : decode cX1_init 23 = .ok (.newarray .boolean, 2) := dk_188_4 (dk_at dksX1_init_1 0 rfl rfl)
theorem dX1_init_25 : decode cX1_init 25 = .ok (.putfield 16, 3) := dk_181 0 16 (dk_at dksX1_init_1 2 rfl rfl)
theorem dX1_init_28 : decode cX1_init 28 = .ok (.aload_n 0, 1) := dk_42 (dk_at dksX1_init_1 5 rfl rfl)
theorem dX1_init_29 : decode cX1_init 29 = .ok (.iconst 4, 1) := dk_7 (dk_at dksX1_init_1 6 rfl rfl)
theorem dX1_init_30 : decode cX1_init 30 = .ok (.putfield 20, 3) := dk_181 0 20 (dk_at dksX1_init_1 7 rfl rfl)
theorem dX1_init_33 : decode cX1_init 33 = .ok (.aload_n 0, 1) := dk_42 (dk_at dksX1_init_1 10 rfl rfl)
theorem dX1_init_34 : decode cX1_init 34 = .ok (.iconst 1, 1) := dk_4 (dk_at dksX1_init_1 11 rfl rfl)
theorem dX1_init_35 : decode cX1_init 35 = .ok (.newarray .byte, 2) := dk_188_8 (dk_at dksX1_init_1 12 rfl rfl)
theorem dX1_init_37 : decode cX1_init 37 = .ok (.dup, 1) := dk_89 (dk_at dksX1_init_1 14 rfl rfl)
theorem dX1_init_38 : decode cX1_init 38 = .ok (.iconst 0, 1) := dk_3 (dk_at dksX1_init_1 15 rfl rfl)
theorem dX1_init_39 : decode cX1_init 39 = .ok (.iconst 0, 1) := dk_3 (dk_at dksX1_init_1 16 rfl rfl)
theorem dX1_init_40 : decode cX1_init 40 = .ok (.bastore, 1) := dk_84 (dk_at dksX1_init_1 17 rfl rfl)
theorem dX1_init_41 : decode cX1_init 41 = .ok (.putfield 24, 3) := dk_181 0 24 (dk_at dksX1_init_1 18 rfl rfl)
theorem dX1_init_44 : decode cX1_init 44 = .ok (.aload_n 0, 1) := dk_42 (dk_at dksX1_init_1 21 rfl rfl)
theorem dX1_init_45 : decode cX1_init 45 = .ok (.new 28, 3) := dk_187 0 28 (dk_at dksX1_init_2 0 rfl rfl)
theorem dX1_init_48 : decode cX1_init 48 = .ok (.dup, 1) := dk_89 (dk_at dksX1_init_2 3 rfl rfl)
theorem dX1_init_49 : decode cX1_init 49 = .ok (.aload_n 0, 1) := dk_42 (dk_at dksX1_init_2 4 rfl rfl)
theorem dX1_init_50 : decode cX1_init 50 = .ok (.invokespecial 30, 3) := dk_183 0 30 (dk_at dksX1_init_2 5 rfl rfl)
theorem dX1_init_53 : decode cX1_init 53 = .ok (.putfield 33, 3) := dk_181 0 33 (dk_at dksX1_init_2 8 rfl rfl)
theorem dX1_init_56 : decode cX1_init 56 = .ok (.aload_n 0, 1) := dk_42 (dk_at dksX1_init_2 11 rfl rfl)
theorem dX1_init_57 : decode cX1_init 57 = .ok (.new 28, 3) := dk_187 0 28 (dk_at dksX1_init_2 12 rfl rfl)
theorem dX1_init_60 : decode cX1_init 60 = .ok (.dup, 1) := dk_89 (dk_at dksX1_init_2 15 rfl rfl)
theorem dX1_init_61 : decode cX1_init 61 = .ok (.aload_n 0, 1) := dk_42 (dk_at dksX1_init_2 16 rfl rfl)
theorem dX1_init_62 : decode cX1_init 62 = .ok (.invokespecial 30, 3) := dk_183 0 30 (dk_at dksX1_init_2 17 rfl rfl)
theorem dX1_init_65 : decode cX1_init 65 = .ok (.putfield 37, 3) := dk_181 0 37 (dk_at dksX1_init_2 20 rfl rfl)
theorem dX1_init_68 : decode cX1_init 68 = .ok (.aload_n 0, 1) := dk_42 (dk_at dksX1_init_2 23 rfl rfl)
theorem dX1_init_69 : decode cX1_init 69 = .ok (.new 28, 3) := dk_187 0 28 (dk_at dksX1_init_3 0 rfl rfl)
theorem dX1_init_72 : decode cX1_init 72 = .ok (.dup, 1) := dk_89 (dk_at dksX1_init_3 3 rfl rfl)
theorem dX1_init_73 : decode cX1_init 73 = .ok (.aload_n 0, 1) := dk_42 (dk_at dksX1_init_3 4 rfl rfl)
theorem dX1_init_74 : decode cX1_init 74 = .ok (.invokespecial 30, 3) := dk_183 0 30 (dk_at dksX1_init_3 5 rfl rfl)
theorem dX1_init_77 : decode cX1_init 77 = .ok (.putfield 40, 3) := dk_181 0 40 (dk_at dksX1_init_3 8 rfl rfl)
theorem dX1_init_80 : decode cX1_init 80 = .ok (.aload_n 0, 1) := dk_42 (dk_at dksX1_init_3 11 rfl rfl)
theorem dX1_init_81 : decode cX1_init 81 = .ok (.new 28, 3) := dk_187 0 28 (dk_at dksX1_init_3 12 rfl rfl)
theorem dX1_init_84 : decode cX1_init 84 = .ok (.dup, 1) := dk_89 (dk_at dksX1_init_3 15 rfl rfl)
theorem dX1_init_85 : decode cX1_init 85 = .ok (.aload_n 0, 1) := dk_42 (dk_at dksX1_init_3 16 rfl rfl)
theorem dX1_init_86 : decode cX1_init 86 = .ok (.invokespecial 30, 3) := dk_183 0 30 (dk_at dksX1_init_3 17 rfl rfl)
theorem dX1_init_89 : decode cX1_init 89 = .ok (.putfield 43, 3) := dk_181 0 43 (dk_at dksX1_init_3 20 rfl rfl)
theorem dX1_init_92 : decode cX1_init 92 = .ok (.aload_n 0, 1) := dk_42 (dk_at dksX1_init_3 23 rfl rfl)
theorem dX1_init_93 : decode cX1_init 93 = .ok (.bipush 15, 2) := dk_16 15 (dk_at dksX1_init_4 0 rfl rfl)
theorem dX1_init_95 : decode cX1_init 95 = .ok (.anewarray 28, 3) := dk_189 0 28 (dk_at dksX1_init_4 2 rfl rfl)
theorem dX1_init_98 : decode cX1_init 98 = .ok (.putfield 46, 3) := dk_181 0 46 (dk_at dksX1_init_4 5 rfl rfl)
theorem dX1_init_101 : decode cX1_init 101 = .ok (.aload_n 0, 1) := dk_42 (dk_at dksX1_init_4 8 rfl rfl)
theorem dX1_init_102 : decode cX1_init 102 = .ok (.bipush 80, 2) := dk_16 80 (dk_at dksX1_init_4 9 rfl rfl)
theorem dX1_init_104 : decode cX1_init 104 = .ok (.newarray .byte, 2) := dk_188_8 (dk_at dksX1_init_4 11 rfl rfl)
theorem dX1_init_106 : decode cX1_init 106 = .ok (.putfield 50, 3) := dk_181 0 50 (dk_at dksX1_init_4 13 rfl rfl)
theorem dX1_init_109 : decode cX1_init 109 = .ok (.aload_n 0, 1) := dk_42 (dk_at dksX1_init_4 16 rfl rfl)
theorem dX1_init_110 : decode cX1_init 110 = .ok (.bipush 16, 2) := dk_16 16 (dk_at dksX1_init_4 17 rfl rfl)
theorem dX1_init_112 : decode cX1_init 112 = .ok (.newarray .long, 2) := dk_188_11 (dk_at dksX1_init_4 19 rfl rfl)
theorem dX1_init_114 : decode cX1_init 114 = .ok (.putfield 53, 3) := dk_181 0 53 (dk_at dksX1_init_4 21 rfl rfl)
theorem dX1_init_117 : decode cX1_init 117 = .ok (.aload_n 0, 1) := dk_42 (dk_at dksX1_init_5 0 rfl rfl)
theorem dX1_init_118 : decode cX1_init 118 = .ok (.new 57, 3) := dk_187 0 57 (dk_at dksX1_init_5 1 rfl rfl)
theorem dX1_init_121 : decode cX1_init 121 = .ok (.dup, 1) := dk_89 (dk_at dksX1_init_5 4 rfl rfl)
theorem dX1_init_122 : decode cX1_init 122 = .ok (.aload_n 0, 1) := dk_42 (dk_at dksX1_init_5 5 rfl rfl)
theorem dX1_init_123 : decode cX1_init 123 = .ok (.invokespecial 59, 3) := dk_183 0 59 (dk_at dksX1_init_5 6 rfl rfl)
theorem dX1_init_126 : decode cX1_init 126 = .ok (.putfield 60, 3) := dk_181 0 60 (dk_at dksX1_init_5 9 rfl rfl)
theorem dX1_init_129 : decode cX1_init 129 = .ok (.aload_n 0, 1) := dk_42 (dk_at dksX1_init_5 12 rfl rfl)
theorem dX1_init_130 : decode cX1_init 130 = .ok (.bipush 6, 2) := dk_16 6 (dk_at dksX1_init_5 13 rfl rfl)
theorem dX1_init_132 : decode cX1_init 132 = .ok (.newarray .int, 2) := dk_188_10 (dk_at dksX1_init_5 15 rfl rfl)
theorem dX1_init_134 : decode cX1_init 134 = .ok (.putfield 64, 3) := dk_181 0 64 (dk_at dksX1_init_5 17 rfl rfl)
theorem dX1_init_137 : decode cX1_init 137 = .ok (.aload_n 0, 1) := dk_42 (dk_at dksX1_init_5 20 rfl rfl)
theorem dX1_init_138 : decode cX1_init 138 = .ok (.bipush 6, 2) := dk_16 6 (dk_at dksX1_init_5 21 rfl rfl)
theorem dX1_init_140 : decode cX1_init 140 = .ok (.newarray .int, 2) := dk_188_10 (dk_at dksX1_init_6 0 rfl rfl)
theorem dX1_init_142 : decode cX1_init 142 = .ok (.putfield 67, 3) := dk_181 0 67 (dk_at dksX1_init_6 2 rfl rfl)
theorem dX1_init_145 : decode cX1_init 145 = .ok (.aload_n 0, 1) := dk_42 (dk_at dksX1_init_6 5 rfl rfl)
theorem dX1_init_146 : decode cX1_init 146 = .ok (.new 70, 3) := dk_187 0 70 (dk_at dksX1_init_6 6 rfl rfl)
theorem dX1_init_149 : decode cX1_init 149 = .ok (.dup, 1) := dk_89 (dk_at dksX1_init_6 9 rfl rfl)
theorem dX1_init_150 : decode cX1_init 150 = .ok (.aload_n 0, 1) := dk_42 (dk_at dksX1_init_6 10 rfl rfl)
theorem dX1_init_151 : decode cX1_init 151 = .ok (.aload_n 0, 1) := dk_42 (dk_at dksX1_init_6 11 rfl rfl)
theorem dX1_init_152 : decode cX1_init 152 = .ok (.getfield 64, 3) := dk_180 0 64 (dk_at dksX1_init_6 12 rfl rfl)
theorem dX1_init_155 : decode cX1_init 155 = .ok (.invokespecial 72, 3) := dk_183 0 72 (dk_at dksX1_init_6 15 rfl rfl)
theorem dX1_init_158 : decode cX1_init 158 = .ok (.putfield 75, 3) := dk_181 0 75 (dk_at dksX1_init_6 18 rfl rfl)
theorem dX1_init_161 : decode cX1_init 161 = .ok (.aload_n 0, 1) := dk_42 (dk_at dksX1_init_6 21 rfl rfl)
theorem dX1_init_162 : decode cX1_init 162 = .ok (.bipush 9, 2) := dk_16 9 (dk_at dksX1_init_6 22 rfl rfl)
theorem dX1_init_164 : decode cX1_init 164 = .ok (.bipush 64, 2) := dk_16 64 (dk_at dksX1_init_7 0 rfl rfl)
theorem dX1_init_166 : decode cX1_init 166 = .ok (.multianewarray 78 2, 4) := by decide +kernel
theorem dX1_init_170 : decode cX1_init 170 = .ok (.putfield 80, 3) := dk_181 0 80 (dk_at dksX1_init_7 6 rfl rfl)
theorem dX1_init_173 : decode cX1_init 173 = .ok (.aload_n 0, 1) := dk_42 (dk_at dksX1_init_7 9 rfl rfl)
theorem dX1_init_174 : decode cX1_init 174 = .ok (.bipush 8, 2) := dk_16 8 (dk_at dksX1_init_7 10 rfl rfl)
theorem dX1_init_176 : decode cX1_init 176 = .ok (.newarray .int, 2) := dk_188_10 (dk_at dksX1_init_7 12 rfl rfl)
theorem dX1_init_178 : decode cX1_init 178 = .ok (.putfield 83, 3) := dk_181 0 83 (dk_at dksX1_init_7 14 rfl rfl)
theorem dX1_init_181 : decode cX1_init 181 = .ok (.aload_n 0, 1) := dk_42 (dk_at dksX1_init_7 17 rfl rfl)
theorem dX1_init_182 : decode cX1_init 182 = .ok (.bipush 8, 2) := dk_16 8 (dk_at dksX1_init_7 18 rfl rfl)
theorem dX1_init_184 : decode cX1_init 184 = .ok (.newarray .int, 2) := dk_188_10 (dk_at dksX1_init_7 20 rfl rfl)
theorem dX1_init_186 : decode cX1_init 186 = .ok (.putfield 86, 3) := dk_181 0 86 (dk_at dksX1_init_8 0 rfl rfl)
theorem dX1_init_189 : decode cX1_init 189 = .ok (.aload_n 0, 1) := dk_42 (dk_at dksX1_init_8 3 rfl rfl)
theorem dX1_init_190 : decode cX1_init 190 = .ok (.iconst 3, 1) := dk_6 (dk_at dksX1_init_8 4 rfl rfl)
theorem dX1_init_191 : decode cX1_init 191 = .ok (.anewarray 89, 3) := dk_189 0 89 (dk_at dksX1_init_8 5 rfl rfl)
theorem dX1_init_194 : decode cX1_init 194 = .ok (.putfield 91, 3) := dk_181 0 91 (dk_at dksX1_init_8 8 rfl rfl)
theorem dX1_init_197 : decode cX1_init 197 = .ok (.iconst 0, 1) := dk_3 (dk_at dksX1_init_8 11 rfl rfl)
theorem dX1_init_198 : decode cX1_init 198 = .ok (.istore_n 1, 1) := dk_60 (dk_at dksX1_init_8 12 rfl rfl)
theorem dX1_init_199 : decode cX1_init 199 = .ok (.iload_n 1, 1) := dk_27 (dk_at dksX1_init_8 13 rfl rfl)
theorem dX1_init_200 : decode cX1_init 200 = .ok (.bipush 15, 2) := dk_16 15 (dk_at dksX1_init_8 14 rfl rfl)
theorem dX1_init_202 : decode cX1_init 202 = .ok (.if_icmp .ge 23, 3) := dk_162 0 23 (dk_at dksX1_init_8 16 rfl rfl)
theorem dX1_init_205 : decode cX1_init 205 = .ok (.aload_n 0, 1) := dk_42 (dk_at dksX1_init_8 19 rfl rfl)
theorem dX1_init_206 : decode cX1_init 206 = .ok (.getfield 46, 3) := dk_180 0 46 (dk_at dksX1_init_8 20 rfl rfl)
theorem dX1_init_209 : decode cX1_init 209 = .ok (.iload_n 1, 1) := dk_27 (dk_at dksX1_init_8 23 rfl rfl)
theorem dX1_init_210 : decode cX1_init 210 = .ok (.new 28, 3) := dk_187 0 28 (dk_at dksX1_init_9 0 rfl rfl)
theorem dX1_init_213 : decode cX1_init 213 = .ok (.dup, 1) := dk_89 (dk_at dksX1_init_9 3 rfl rfl)
theorem dX1_init_214 : decode cX1_init 214 = .ok (.aload_n 0, 1) := dk_42 (dk_at dksX1_init_9 4 rfl rfl)
theorem dX1_init_215 : decode cX1_init 215 = .ok (.invokespecial 30, 3) := dk_183 0 30 (dk_at dksX1_init_9 5 rfl rfl)
theorem dX1_init_218 : decode cX1_init 218 = .ok (.aastore, 1) := dk_83 (dk_at dksX1_init_9 8 rfl rfl)
theorem dX1_init_219 : decode cX1_init 219 = .ok (.iinc 1 1, 3) := dk_132 1 1 (dk_at dksX1_init_9 9 rfl rfl)
theorem dX1_init_222 : decode cX1_init 222 = .ok (.goto (-23), 3) := dk_167 255 233 (dk_at dksX1_init_9 12 rfl rfl)
theorem dX1_init_225 : decode cX1_init 225 = .ok (.return_, 1) := dk_177 (dk_at dksX1_init_9 15 rfl rfl)
abbrev cX1_sign : ByteArray := prog_1_method_9_code
def yX1_sign : MethodName := ⟨RX1, "sign", "(I)I"⟩
def dkwX1_sign_2 : List UInt8 := [167, 255, 226, 42, 180, 0, 114, 172]
abbrev dktX1_sign_2 : List UInt8 := dkwX1_sign_2 ++ []
def dkwX1_sign_1 : List UInt8 := [42, 180, 0, 114, 27, 28, 122, 145, 84, 42, 89, 180, 0, 114, 4, 96, 181, 0, 114, 132, 2, 248]
abbrev dktX1_sign_1 : List UInt8 := dkwX1_sign_1 ++ dktX1_sign_2
def dkwX1_sign_0 : List UInt8 := [42, 180, 0, 114, 7, 96, 16, 80, 164, 0, 5, 2, 172, 16, 24, 61, 28, 155, 0, 32, 42, 180, 0, 50]
abbrev dktX1_sign_0 : List UInt8 := dkwX1_sign_0 ++ dktX1_sign_1
theorem dksX1_sign_0 : cX1_sign.data.toList.drop 0 = dktX1_sign_0 := by decide +kernel
theorem dksX1_sign_1 : cX1_sign.data.toList.drop 24 = dktX1_sign_1 := dk_seg dksX1_sign_0 24 rfl rfl
theorem dksX1_sign_2 : cX1_sign.data.toList.drop 46 = dktX1_sign_2 := dk_seg dksX1_sign_1 22 rfl rfl
theorem dX1_sign_0 : decode cX1_sign 0 = .ok (.aload_n 0, 1) := dk_42 (dk_at dksX1_sign_0 0 rfl rfl)
theorem dX1_sign_1 : decode cX1_sign 1 = .ok (.getfield 114, 3) := dk_180 0 114 (dk_at dksX1_sign_0 1 rfl rfl)
theorem dX1_sign_4 : decode cX1_sign 4 = .ok (.iconst 4, 1) := dk_7 (dk_at dksX1_sign_0 4 rfl rfl)
theorem dX1_sign_5 : decode cX1_sign 5 = .ok (.iadd, 1) := dk_96 (dk_at dksX1_sign_0 5 rfl rfl)
theorem dX1_sign_6 : decode cX1_sign 6 = .ok (.bipush 80, 2) := dk_16 80 (dk_at dksX1_sign_0 6 rfl rfl)
theorem dX1_sign_8 : decode cX1_sign 8 = .ok (.if_icmp .le 5, 3) := dk_164 0 5 (dk_at dksX1_sign_0 8 rfl rfl)
theorem dX1_sign_11 : decode cX1_sign 11 = .ok (.iconst (-1), 1) := dk_2 (dk_at dksX1_sign_0 11 rfl rfl)
theorem dX1_sign_12 : decode cX1_sign 12 = .ok (.ireturn, 1) := dk_172 (dk_at dksX1_sign_0 12 rfl rfl)
theorem dX1_sign_13 : decode cX1_sign 13 = .ok (.bipush 24, 2) := dk_16 24 (dk_at dksX1_sign_0 13 rfl rfl)
theorem dX1_sign_15 : decode cX1_sign 15 = .ok (.istore_n 2, 1) := dk_61 (dk_at dksX1_sign_0 15 rfl rfl)
theorem dX1_sign_16 : decode cX1_sign 16 = .ok (.iload_n 2, 1) := dk_28 (dk_at dksX1_sign_0 16 rfl rfl)
theorem dX1_sign_17 : decode cX1_sign 17 = .ok (.ifCond .lt 32, 3) := dk_155 0 32 (dk_at dksX1_sign_0 17 rfl rfl)
theorem dX1_sign_20 : decode cX1_sign 20 = .ok (.aload_n 0, 1) := dk_42 (dk_at dksX1_sign_0 20 rfl rfl)
theorem dX1_sign_21 : decode cX1_sign 21 = .ok (.getfield 50, 3) := dk_180 0 50 (dk_at dksX1_sign_0 21 rfl rfl)
theorem dX1_sign_24 : decode cX1_sign 24 = .ok (.aload_n 0, 1) := dk_42 (dk_at dksX1_sign_1 0 rfl rfl)
theorem dX1_sign_25 : decode cX1_sign 25 = .ok (.getfield 114, 3) := dk_180 0 114 (dk_at dksX1_sign_1 1 rfl rfl)
theorem dX1_sign_28 : decode cX1_sign 28 = .ok (.iload_n 1, 1) := dk_27 (dk_at dksX1_sign_1 4 rfl rfl)
theorem dX1_sign_29 : decode cX1_sign 29 = .ok (.iload_n 2, 1) := dk_28 (dk_at dksX1_sign_1 5 rfl rfl)
theorem dX1_sign_30 : decode cX1_sign 30 = .ok (.ishr, 1) := dk_122 (dk_at dksX1_sign_1 6 rfl rfl)
theorem dX1_sign_31 : decode cX1_sign 31 = .ok (.i2b, 1) := dk_145 (dk_at dksX1_sign_1 7 rfl rfl)
theorem dX1_sign_32 : decode cX1_sign 32 = .ok (.bastore, 1) := dk_84 (dk_at dksX1_sign_1 8 rfl rfl)
theorem dX1_sign_33 : decode cX1_sign 33 = .ok (.aload_n 0, 1) := dk_42 (dk_at dksX1_sign_1 9 rfl rfl)
theorem dX1_sign_34 : decode cX1_sign 34 = .ok (.dup, 1) := dk_89 (dk_at dksX1_sign_1 10 rfl rfl)
theorem dX1_sign_35 : decode cX1_sign 35 = .ok (.getfield 114, 3) := dk_180 0 114 (dk_at dksX1_sign_1 11 rfl rfl)
theorem dX1_sign_38 : decode cX1_sign 38 = .ok (.iconst 1, 1) := dk_4 (dk_at dksX1_sign_1 14 rfl rfl)
theorem dX1_sign_39 : decode cX1_sign 39 = .ok (.iadd, 1) := dk_96 (dk_at dksX1_sign_1 15 rfl rfl)
theorem dX1_sign_40 : decode cX1_sign 40 = .ok (.putfield 114, 3) := dk_181 0 114 (dk_at dksX1_sign_1 16 rfl rfl)
theorem dX1_sign_43 : decode cX1_sign 43 = .ok (.iinc 2 (-8), 3) := dk_132 2 248 (dk_at dksX1_sign_1 19 rfl rfl)
theorem dX1_sign_46 : decode cX1_sign 46 = .ok (.goto (-30), 3) := dk_167 255 226 (dk_at dksX1_sign_2 0 rfl rfl)
theorem dX1_sign_49 : decode cX1_sign 49 = .ok (.aload_n 0, 1) := dk_42 (dk_at dksX1_sign_2 3 rfl rfl)
theorem dX1_sign_50 : decode cX1_sign 50 = .ok (.getfield 114, 3) := dk_180 0 114 (dk_at dksX1_sign_2 4 rfl rfl)
theorem dX1_sign_53 : decode cX1_sign 53 = .ok (.ireturn, 1) := dk_172 (dk_at dksX1_sign_2 7 rfl rfl)
abbrev cX1_end : ByteArray := prog_1_method_10_code
def yX1_end : MethodName := ⟨RX1, "end", "(I)Z"⟩
def dkwX1_end_0 : List UInt8 := [27, 133, 9, 42, 180, 0, 114, 133, 184, 0, 101, 154, 0, 5, 3, 172, 42, 27, 181, 0, 114, 4, 172]
abbrev dktX1_end_0 : List UInt8 := dkwX1_end_0 ++ []
theorem dksX1_end_0 : cX1_end.data.toList.drop 0 = dktX1_end_0 := by decide +kernel
theorem dX1_end_0 : decode cX1_end 0 = .ok (.iload_n 1, 1) := dk_27 (dk_at dksX1_end_0 0 rfl rfl)
theorem dX1_end_1 : decode cX1_end 1 = .ok (.i2l, 1) := dk_133 (dk_at dksX1_end_0 1 rfl rfl)
theorem dX1_end_2 : decode cX1_end 2 = .ok (.lconst 0, 1) := dk_9 (dk_at dksX1_end_0 2 rfl rfl)
theorem dX1_end_3 : decode cX1_end 3 = .ok (.aload_n 0, 1) := dk_42 (dk_at dksX1_end_0 3 rfl rfl)
theorem dX1_end_4 : decode cX1_end 4 = .ok (.getfield 114, 3) := dk_180 0 114 (dk_at dksX1_end_0 4 rfl rfl)
theorem dX1_end_7 : decode cX1_end 7 = .ok (.i2l, 1) := dk_133 (dk_at dksX1_end_0 7 rfl rfl)
theorem dX1_end_8 : decode cX1_end 8 = .ok (.invokestatic 101, 3) := dk_184 0 101 (dk_at dksX1_end_0 8 rfl rfl)
theorem dX1_end_11 : decode cX1_end 11 = .ok (.ifCond .ne 5, 3) := dk_154 0 5 (dk_at dksX1_end_0 11 rfl rfl)
theorem dX1_end_14 : decode cX1_end 14 = .ok (.iconst 0, 1) := dk_3 (dk_at dksX1_end_0 14 rfl rfl)
theorem dX1_end_15 : decode cX1_end 15 = .ok (.ireturn, 1) := dk_172 (dk_at dksX1_end_0 15 rfl rfl)
theorem dX1_end_16 : decode cX1_end 16 = .ok (.aload_n 0, 1) := dk_42 (dk_at dksX1_end_0 16 rfl rfl)
theorem dX1_end_17 : decode cX1_end 17 = .ok (.iload_n 1, 1) := dk_27 (dk_at dksX1_end_0 17 rfl rfl)
theorem dX1_end_18 : decode cX1_end 18 = .ok (.putfield 114, 3) := dk_181 0 114 (dk_at dksX1_end_0 18 rfl rfl)
theorem dX1_end_21 : decode cX1_end 21 = .ok (.iconst 1, 1) := dk_4 (dk_at dksX1_end_0 21 rfl rfl)
theorem dX1_end_22 : decode cX1_end 22 = .ok (.ireturn, 1) := dk_172 (dk_at dksX1_end_0 22 rfl rfl)
abbrev cX1_in : ByteArray := prog_1_method_1_code
def yX1_in : MethodName := ⟨RX1, "in", "(JJJ)Z"⟩
def dkwX1_in_0 : List UInt8 := [30, 32, 148, 155, 0, 14, 30, 22, 4, 148, 157, 0, 7, 4, 167, 0, 4, 3, 172]
abbrev dktX1_in_0 : List UInt8 := dkwX1_in_0 ++ []
theorem dksX1_in_0 : cX1_in.data.toList.drop 0 = dktX1_in_0 := by decide +kernel
theorem dX1_in_0 : decode cX1_in 0 = .ok (.lload_n 0, 1) := dk_30 (dk_at dksX1_in_0 0 rfl rfl)
theorem dX1_in_1 : decode cX1_in 1 = .ok (.lload_n 2, 1) := dk_32 (dk_at dksX1_in_0 1 rfl rfl)
theorem dX1_in_2 : decode cX1_in 2 = .ok (.lcmp, 1) := dk_148 (dk_at dksX1_in_0 2 rfl rfl)
theorem dX1_in_3 : decode cX1_in 3 = .ok (.ifCond .lt 14, 3) := dk_155 0 14 (dk_at dksX1_in_0 3 rfl rfl)
theorem dX1_in_6 : decode cX1_in 6 = .ok (.lload_n 0, 1) := dk_30 (dk_at dksX1_in_0 6 rfl rfl)
theorem dX1_in_7 : decode cX1_in 7 = .ok (.lload 4, 2) := dk_22 4 (dk_at dksX1_in_0 7 rfl rfl)
theorem dX1_in_9 : decode cX1_in 9 = .ok (.lcmp, 1) := dk_148 (dk_at dksX1_in_0 9 rfl rfl)
theorem dX1_in_10 : decode cX1_in 10 = .ok (.ifCond .gt 7, 3) := dk_157 0 7 (dk_at dksX1_in_0 10 rfl rfl)
theorem dX1_in_13 : decode cX1_in 13 = .ok (.iconst 1, 1) := dk_4 (dk_at dksX1_in_0 13 rfl rfl)
theorem dX1_in_14 : decode cX1_in 14 = .ok (.goto 4, 3) := dk_167 0 4 (dk_at dksX1_in_0 14 rfl rfl)
theorem dX1_in_17 : decode cX1_in 17 = .ok (.iconst 0, 1) := dk_3 (dk_at dksX1_in_0 17 rfl rfl)
theorem dX1_in_18 : decode cX1_in 18 = .ok (.ireturn, 1) := dk_172 (dk_at dksX1_in_0 18 rfl rfl)
abbrev cX1_avenue : ByteArray := prog_1_method_11_code
def yX1_avenue : MethodName := ⟨RX1, "avenue", "()I"⟩
def dkwX1_avenue_5 : List UInt8 := [42, 180, 0, 91, 1, 184, 0, 156, 42, 3, 181, 0, 162, 29, 172]
abbrev dktX1_avenue_5 : List UInt8 := dkwX1_avenue_5 ++ []
def dkwX1_avenue_4 : List UInt8 := [181, 0, 98, 42, 3, 181, 0, 105, 42, 180, 0, 33, 3, 181, 0, 150, 42, 180, 0, 33, 3, 181, 0, 153]
abbrev dktX1_avenue_4 : List UInt8 := dkwX1_avenue_4 ++ dktX1_avenue_5
def dkwX1_avenue_3 : List UInt8 := [180, 0, 141, 100, 172, 44, 3, 42, 180, 0, 16, 3, 16, 30, 184, 0, 144, 42, 29, 181, 0, 20, 42, 3]
abbrev dktX1_avenue_3 : List UInt8 := dkwX1_avenue_3 ++ dktX1_avenue_4
def dkwX1_avenue_2 : List UInt8 := [182, 0, 128, 182, 0, 132, 132, 3, 1, 167, 255, 215, 43, 182, 0, 136, 167, 0, 13, 58, 4, 2, 25, 4]
abbrev dktX1_avenue_2 : List UInt8 := dkwX1_avenue_2 ++ dktX1_avenue_3
def dkwX1_avenue_1 : List UInt8 := [159, 0, 34, 44, 29, 43, 16, 99, 182, 0, 128, 84, 44, 29, 51, 154, 0, 13, 43, 43, 16, 46]
abbrev dktX1_avenue_1 : List UInt8 := dkwX1_avenue_1 ++ dktX1_avenue_2
def dkwX1_avenue_0 : List UInt8 := [42, 16, 30, 182, 0, 120, 76, 16, 30, 188, 4, 77, 3, 62, 29, 7, 161, 0, 11, 43, 182, 0, 124, 2]
abbrev dktX1_avenue_0 : List UInt8 := dkwX1_avenue_0 ++ dktX1_avenue_1
theorem dksX1_avenue_0 : cX1_avenue.data.toList.drop 0 = dktX1_avenue_0 := by decide +kernel
theorem dksX1_avenue_1 : cX1_avenue.data.toList.drop 24 = dktX1_avenue_1 := dk_seg dksX1_avenue_0 24 rfl rfl
theorem dksX1_avenue_2 : cX1_avenue.data.toList.drop 46 = dktX1_avenue_2 := dk_seg dksX1_avenue_1 22 rfl rfl
theorem dksX1_avenue_3 : cX1_avenue.data.toList.drop 70 = dktX1_avenue_3 := dk_seg dksX1_avenue_2 24 rfl rfl
theorem dksX1_avenue_4 : cX1_avenue.data.toList.drop 94 = dktX1_avenue_4 := dk_seg dksX1_avenue_3 24 rfl rfl
theorem dksX1_avenue_5 : cX1_avenue.data.toList.drop 118 = dktX1_avenue_5 := dk_seg dksX1_avenue_4 24 rfl rfl
theorem dX1_avenue_0 : decode cX1_avenue 0 = .ok (.aload_n 0, 1) := dk_42 (dk_at dksX1_avenue_0 0 rfl rfl)
theorem dX1_avenue_1 : decode cX1_avenue 1 = .ok (.bipush 30, 2) := dk_16 30 (dk_at dksX1_avenue_0 1 rfl rfl)
theorem dX1_avenue_3 : decode cX1_avenue 3 = .ok (.invokevirtual 120, 3) := dk_182 0 120 (dk_at dksX1_avenue_0 3 rfl rfl)
theorem dX1_avenue_6 : decode cX1_avenue 6 = .ok (.astore_n 1, 1) := dk_76 (dk_at dksX1_avenue_0 6 rfl rfl)
theorem dX1_avenue_7 : decode cX1_avenue 7 = .ok (.bipush 30, 2) := dk_16 30 (dk_at dksX1_avenue_0 7 rfl rfl)
theorem dX1_avenue_9 : decode cX1_avenue 9 = .ok (.newarray .boolean, 2) := dk_188_4 (dk_at dksX1_avenue_0 9 rfl rfl)
theorem dX1_avenue_11 : decode cX1_avenue 11 = .ok (.astore_n 2, 1) := dk_77 (dk_at dksX1_avenue_0 11 rfl rfl)
theorem dX1_avenue_12 : decode cX1_avenue 12 = .ok (.iconst 0, 1) := dk_3 (dk_at dksX1_avenue_0 12 rfl rfl)
theorem dX1_avenue_13 : decode cX1_avenue 13 = .ok (.istore_n 3, 1) := dk_62 (dk_at dksX1_avenue_0 13 rfl rfl)
theorem dX1_avenue_14 : decode cX1_avenue 14 = .ok (.iload_n 3, 1) := dk_29 (dk_at dksX1_avenue_0 14 rfl rfl)
theorem dX1_avenue_15 : decode cX1_avenue 15 = .ok (.iconst 4, 1) := dk_7 (dk_at dksX1_avenue_0 15 rfl rfl)
theorem dX1_avenue_16 : decode cX1_avenue 16 = .ok (.if_icmp .lt 11, 3) := dk_161 0 11 (dk_at dksX1_avenue_0 16 rfl rfl)
theorem dX1_avenue_19 : decode cX1_avenue 19 = .ok (.aload_n 1, 1) := dk_43 (dk_at dksX1_avenue_0 19 rfl rfl)
theorem dX1_avenue_20 : decode cX1_avenue 20 = .ok (.invokevirtual 124, 3) := dk_182 0 124 (dk_at dksX1_avenue_0 20 rfl rfl)
theorem dX1_avenue_23 : decode cX1_avenue 23 = .ok (.iconst (-1), 1) := dk_2 (dk_at dksX1_avenue_0 23 rfl rfl)
theorem dX1_avenue_24 : decode cX1_avenue 24 = .ok (.if_icmp .eq 34, 3) := dk_159 0 34 (dk_at dksX1_avenue_1 0 rfl rfl)
theorem dX1_avenue_27 : decode cX1_avenue 27 = .ok (.aload_n 2, 1) := dk_44 (dk_at dksX1_avenue_1 3 rfl rfl)
theorem dX1_avenue_28 : decode cX1_avenue 28 = .ok (.iload_n 3, 1) := dk_29 (dk_at dksX1_avenue_1 4 rfl rfl)
theorem dX1_avenue_29 : decode cX1_avenue 29 = .ok (.aload_n 1, 1) := dk_43 (dk_at dksX1_avenue_1 5 rfl rfl)
theorem dX1_avenue_30 : decode cX1_avenue 30 = .ok (.bipush 99, 2) := dk_16 99 (dk_at dksX1_avenue_1 6 rfl rfl)
theorem dX1_avenue_32 : decode cX1_avenue 32 = .ok (.invokevirtual 128, 3) := dk_182 0 128 (dk_at dksX1_avenue_1 8 rfl rfl)
theorem dX1_avenue_35 : decode cX1_avenue 35 = .ok (.bastore, 1) := dk_84 (dk_at dksX1_avenue_1 11 rfl rfl)
theorem dX1_avenue_36 : decode cX1_avenue 36 = .ok (.aload_n 2, 1) := dk_44 (dk_at dksX1_avenue_1 12 rfl rfl)
theorem dX1_avenue_37 : decode cX1_avenue 37 = .ok (.iload_n 3, 1) := dk_29 (dk_at dksX1_avenue_1 13 rfl rfl)
theorem dX1_avenue_38 : decode cX1_avenue 38 = .ok (.baload, 1) := dk_51 (dk_at dksX1_avenue_1 14 rfl rfl)
theorem dX1_avenue_39 : decode cX1_avenue 39 = .ok (.ifCond .ne 13, 3) := dk_154 0 13 (dk_at dksX1_avenue_1 15 rfl rfl)
theorem dX1_avenue_42 : decode cX1_avenue 42 = .ok (.aload_n 1, 1) := dk_43 (dk_at dksX1_avenue_1 18 rfl rfl)
theorem dX1_avenue_43 : decode cX1_avenue 43 = .ok (.aload_n 1, 1) := dk_43 (dk_at dksX1_avenue_1 19 rfl rfl)
theorem dX1_avenue_44 : decode cX1_avenue 44 = .ok (.bipush 46, 2) := dk_16 46 (dk_at dksX1_avenue_1 20 rfl rfl)
theorem dX1_avenue_46 : decode cX1_avenue 46 = .ok (.invokevirtual 128, 3) := dk_182 0 128 (dk_at dksX1_avenue_2 0 rfl rfl)
theorem dX1_avenue_49 : decode cX1_avenue 49 = .ok (.invokevirtual 132, 3) := dk_182 0 132 (dk_at dksX1_avenue_2 3 rfl rfl)
theorem dX1_avenue_52 : decode cX1_avenue 52 = .ok (.iinc 3 1, 3) := dk_132 3 1 (dk_at dksX1_avenue_2 6 rfl rfl)
theorem dX1_avenue_55 : decode cX1_avenue 55 = .ok (.goto (-41), 3) := dk_167 255 215 (dk_at dksX1_avenue_2 9 rfl rfl)
theorem dX1_avenue_58 : decode cX1_avenue 58 = .ok (.aload_n 1, 1) := dk_43 (dk_at dksX1_avenue_2 12 rfl rfl)
theorem dX1_avenue_59 : decode cX1_avenue 59 = .ok (.invokevirtual 136, 3) := dk_182 0 136 (dk_at dksX1_avenue_2 13 rfl rfl)
theorem dX1_avenue_62 : decode cX1_avenue 62 = .ok (.goto 13, 3) := dk_167 0 13 (dk_at dksX1_avenue_2 16 rfl rfl)
theorem dX1_avenue_65 : decode cX1_avenue 65 = .ok (.astore 4, 2) := dk_58 4 (dk_at dksX1_avenue_2 19 rfl rfl)
theorem dX1_avenue_67 : decode cX1_avenue 67 = .ok (.iconst (-1), 1) := dk_2 (dk_at dksX1_avenue_2 21 rfl rfl)
theorem dX1_avenue_68 : decode cX1_avenue 68 = .ok (.aload 4, 2) := dk_25 4 (dk_at dksX1_avenue_2 22 rfl rfl)
theorem dX1_avenue_70 : decode cX1_avenue 70 = .ok (.getfield 141, 3) := dk_180 0 141 (dk_at dksX1_avenue_3 0 rfl rfl)
theorem dX1_avenue_73 : decode cX1_avenue 73 = .ok (.isub, 1) := dk_100 (dk_at dksX1_avenue_3 3 rfl rfl)
theorem dX1_avenue_74 : decode cX1_avenue 74 = .ok (.ireturn, 1) := dk_172 (dk_at dksX1_avenue_3 4 rfl rfl)
theorem dX1_avenue_75 : decode cX1_avenue 75 = .ok (.aload_n 2, 1) := dk_44 (dk_at dksX1_avenue_3 5 rfl rfl)
theorem dX1_avenue_76 : decode cX1_avenue 76 = .ok (.iconst 0, 1) := dk_3 (dk_at dksX1_avenue_3 6 rfl rfl)
theorem dX1_avenue_77 : decode cX1_avenue 77 = .ok (.aload_n 0, 1) := dk_42 (dk_at dksX1_avenue_3 7 rfl rfl)
theorem dX1_avenue_78 : decode cX1_avenue 78 = .ok (.getfield 16, 3) := dk_180 0 16 (dk_at dksX1_avenue_3 8 rfl rfl)
theorem dX1_avenue_81 : decode cX1_avenue 81 = .ok (.iconst 0, 1) := dk_3 (dk_at dksX1_avenue_3 11 rfl rfl)
theorem dX1_avenue_82 : decode cX1_avenue 82 = .ok (.bipush 30, 2) := dk_16 30 (dk_at dksX1_avenue_3 12 rfl rfl)
theorem dX1_avenue_84 : decode cX1_avenue 84 = .ok (.invokestatic 144, 3) := dk_184 0 144 (dk_at dksX1_avenue_3 14 rfl rfl)
theorem dX1_avenue_87 : decode cX1_avenue 87 = .ok (.aload_n 0, 1) := dk_42 (dk_at dksX1_avenue_3 17 rfl rfl)
theorem dX1_avenue_88 : decode cX1_avenue 88 = .ok (.iload_n 3, 1) := dk_29 (dk_at dksX1_avenue_3 18 rfl rfl)
theorem dX1_avenue_89 : decode cX1_avenue 89 = .ok (.putfield 20, 3) := dk_181 0 20 (dk_at dksX1_avenue_3 19 rfl rfl)
theorem dX1_avenue_92 : decode cX1_avenue 92 = .ok (.aload_n 0, 1) := dk_42 (dk_at dksX1_avenue_3 22 rfl rfl)
theorem dX1_avenue_93 : decode cX1_avenue 93 = .ok (.iconst 0, 1) := dk_3 (dk_at dksX1_avenue_3 23 rfl rfl)
theorem dX1_avenue_94 : decode cX1_avenue 94 = .ok (.putfield 98, 3) := dk_181 0 98 (dk_at dksX1_avenue_4 0 rfl rfl)
theorem dX1_avenue_97 : decode cX1_avenue 97 = .ok (.aload_n 0, 1) := dk_42 (dk_at dksX1_avenue_4 3 rfl rfl)
theorem dX1_avenue_98 : decode cX1_avenue 98 = .ok (.iconst 0, 1) := dk_3 (dk_at dksX1_avenue_4 4 rfl rfl)
theorem dX1_avenue_99 : decode cX1_avenue 99 = .ok (.putfield 105, 3) := dk_181 0 105 (dk_at dksX1_avenue_4 5 rfl rfl)
theorem dX1_avenue_102 : decode cX1_avenue 102 = .ok (.aload_n 0, 1) := dk_42 (dk_at dksX1_avenue_4 8 rfl rfl)
theorem dX1_avenue_103 : decode cX1_avenue 103 = .ok (.getfield 33, 3) := dk_180 0 33 (dk_at dksX1_avenue_4 9 rfl rfl)
theorem dX1_avenue_106 : decode cX1_avenue 106 = .ok (.iconst 0, 1) := dk_3 (dk_at dksX1_avenue_4 12 rfl rfl)
theorem dX1_avenue_107 : decode cX1_avenue 107 = .ok (.putfield 150, 3) := dk_181 0 150 (dk_at dksX1_avenue_4 13 rfl rfl)
theorem dX1_avenue_110 : decode cX1_avenue 110 = .ok (.aload_n 0, 1) := dk_42 (dk_at dksX1_avenue_4 16 rfl rfl)
theorem dX1_avenue_111 : decode cX1_avenue 111 = .ok (.getfield 33, 3) := dk_180 0 33 (dk_at dksX1_avenue_4 17 rfl rfl)
theorem dX1_avenue_114 : decode cX1_avenue 114 = .ok (.iconst 0, 1) := dk_3 (dk_at dksX1_avenue_4 20 rfl rfl)
theorem dX1_avenue_115 : decode cX1_avenue 115 = .ok (.putfield 153, 3) := dk_181 0 153 (dk_at dksX1_avenue_4 21 rfl rfl)
theorem dX1_avenue_118 : decode cX1_avenue 118 = .ok (.aload_n 0, 1) := dk_42 (dk_at dksX1_avenue_5 0 rfl rfl)
theorem dX1_avenue_119 : decode cX1_avenue 119 = .ok (.getfield 91, 3) := dk_180 0 91 (dk_at dksX1_avenue_5 1 rfl rfl)
theorem dX1_avenue_122 : decode cX1_avenue 122 = .ok (.aconst_null, 1) := dk_1 (dk_at dksX1_avenue_5 4 rfl rfl)
theorem dX1_avenue_123 : decode cX1_avenue 123 = .ok (.invokestatic 156, 3) := dk_184 0 156 (dk_at dksX1_avenue_5 5 rfl rfl)
theorem dX1_avenue_126 : decode cX1_avenue 126 = .ok (.aload_n 0, 1) := dk_42 (dk_at dksX1_avenue_5 8 rfl rfl)
theorem dX1_avenue_127 : decode cX1_avenue 127 = .ok (.iconst 0, 1) := dk_3 (dk_at dksX1_avenue_5 9 rfl rfl)
theorem dX1_avenue_128 : decode cX1_avenue 128 = .ok (.putfield 162, 3) := dk_181 0 162 (dk_at dksX1_avenue_5 10 rfl rfl)
theorem dX1_avenue_131 : decode cX1_avenue 131 = .ok (.iload_n 3, 1) := dk_29 (dk_at dksX1_avenue_5 13 rfl rfl)
theorem dX1_avenue_132 : decode cX1_avenue 132 = .ok (.ireturn, 1) := dk_172 (dk_at dksX1_avenue_5 14 rfl rfl)
abbrev cX1_words : ByteArray := prog_1_method_8_code
def yX1_words : MethodName := ⟨RX1, "words", "(I)LBehindAnotherHearse$Words;"⟩
def dkwX1_words_0 : List UInt8 := [187, 0, 112, 89, 42, 180, 0, 50, 42, 180, 0, 114, 27, 183, 0, 117, 77, 42, 3, 181, 0, 114, 44, 176]
abbrev dktX1_words_0 : List UInt8 := dkwX1_words_0 ++ []
theorem dksX1_words_0 : cX1_words.data.toList.drop 0 = dktX1_words_0 := by decide +kernel
theorem dX1_words_0 : decode cX1_words 0 = .ok (.new 112, 3) := dk_187 0 112 (dk_at dksX1_words_0 0 rfl rfl)
theorem dX1_words_3 : decode cX1_words 3 = .ok (.dup, 1) := dk_89 (dk_at dksX1_words_0 3 rfl rfl)
theorem dX1_words_4 : decode cX1_words 4 = .ok (.aload_n 0, 1) := dk_42 (dk_at dksX1_words_0 4 rfl rfl)
theorem dX1_words_5 : decode cX1_words 5 = .ok (.getfield 50, 3) := dk_180 0 50 (dk_at dksX1_words_0 5 rfl rfl)
theorem dX1_words_8 : decode cX1_words 8 = .ok (.aload_n 0, 1) := dk_42 (dk_at dksX1_words_0 8 rfl rfl)
theorem dX1_words_9 : decode cX1_words 9 = .ok (.getfield 114, 3) := dk_180 0 114 (dk_at dksX1_words_0 9 rfl rfl)
theorem dX1_words_12 : decode cX1_words 12 = .ok (.iload_n 1, 1) := dk_27 (dk_at dksX1_words_0 12 rfl rfl)
theorem dX1_words_13 : decode cX1_words 13 = .ok (.invokespecial 117, 3) := dk_183 0 117 (dk_at dksX1_words_0 13 rfl rfl)
theorem dX1_words_16 : decode cX1_words 16 = .ok (.astore_n 2, 1) := dk_77 (dk_at dksX1_words_0 16 rfl rfl)
theorem dX1_words_17 : decode cX1_words 17 = .ok (.aload_n 0, 1) := dk_42 (dk_at dksX1_words_0 17 rfl rfl)
theorem dX1_words_18 : decode cX1_words 18 = .ok (.iconst 0, 1) := dk_3 (dk_at dksX1_words_0 18 rfl rfl)
theorem dX1_words_19 : decode cX1_words 19 = .ok (.putfield 114, 3) := dk_181 0 114 (dk_at dksX1_words_0 19 rfl rfl)
theorem dX1_words_22 : decode cX1_words 22 = .ok (.aload_n 2, 1) := dk_44 (dk_at dksX1_words_0 22 rfl rfl)
theorem dX1_words_23 : decode cX1_words 23 = .ok (.areturn, 1) := dk_176 (dk_at dksX1_words_0 23 rfl rfl)
abbrev cX1_hearses : ByteArray := prog_1_method_14_code
def yX1_hearses : MethodName := ⟨RX1, "hearses", "()I"⟩
def dkwX1_hearses_9 : List UInt8 := [167, 255, 208, 42, 182, 0, 191, 29, 172]
abbrev dktX1_hearses_9 : List UInt8 := dkwX1_hearses_9 ++ []
def dkwX1_hearses_8 : List UInt8 := [180, 0, 188, 42, 180, 0, 98, 3, 79, 132, 4, 1, 42, 89, 180, 0, 98, 4, 96, 181, 0, 98]
abbrev dktX1_hearses_8 : List UInt8 := dkwX1_hearses_8 ++ dktX1_hearses_9
def dkwX1_hearses_7 : List UInt8 := [162, 0, 48, 42, 180, 0, 33, 180, 0, 186, 42, 180, 0, 98, 44, 21, 4, 46, 79, 42, 180, 0, 33]
abbrev dktX1_hearses_7 : List UInt8 := dkwX1_hearses_7 ++ dktX1_hearses_8
def dkwX1_hearses_6 : List UInt8 := [182, 0, 136, 167, 0, 13, 58, 4, 2, 25, 4, 180, 0, 141, 100, 172, 3, 54, 4, 21, 4, 29]
abbrev dktX1_hearses_6 : List UInt8 := dkwX1_hearses_6 ++ dktX1_hearses_7
def dkwX1_hearses_5 : List UInt8 := [180, 0, 169, 4, 100, 183, 0, 170, 191, 132, 3, 1, 43, 16, 59, 182, 0, 128, 154, 255, 144, 43]
abbrev dktX1_hearses_5 : List UInt8 := dkwX1_hearses_5 ++ dktX1_hearses_6
def dkwX1_hearses_4 : List UInt8 := [167, 0, 4, 3, 128, 54, 4, 132, 5, 1, 167, 255, 227, 21, 4, 153, 0, 17, 187, 0, 139, 89, 43]
abbrev dktX1_hearses_4 : List UInt8 := dkwX1_hearses_4 ++ dktX1_hearses_5
def dkwX1_hearses_3 : List UInt8 := [54, 4, 3, 54, 5, 21, 5, 29, 162, 0, 29, 21, 4, 44, 21, 5, 46, 44, 29, 46, 160, 0, 7, 4]
abbrev dktX1_hearses_3 : List UInt8 := dkwX1_hearses_3 ++ dktX1_hearses_4
def dkwX1_hearses_2 : List UInt8 := [182, 0, 179, 79, 42, 180, 0, 33, 44, 29, 46, 182, 0, 183, 2, 159, 0, 7, 4, 167, 0, 4, 3]
abbrev dktX1_hearses_2 : List UInt8 := dkwX1_hearses_2 ++ dktX1_hearses_3
def dkwX1_hearses_1 : List UInt8 := [42, 180, 0, 98, 29, 96, 16, 6, 162, 0, 7, 4, 167, 0, 4, 3, 182, 0, 132, 44, 29, 42, 43]
abbrev dktX1_hearses_1 : List UInt8 := dkwX1_hearses_1 ++ dktX1_hearses_2
def dkwX1_hearses_0 : List UInt8 := [42, 16, 17, 182, 0, 120, 76, 43, 180, 0, 176, 154, 0, 5, 3, 172, 16, 6, 188, 10, 77, 3, 62, 43]
abbrev dktX1_hearses_0 : List UInt8 := dkwX1_hearses_0 ++ dktX1_hearses_1
theorem dksX1_hearses_0 : cX1_hearses.data.toList.drop 0 = dktX1_hearses_0 := by decide +kernel
theorem dksX1_hearses_1 : cX1_hearses.data.toList.drop 24 = dktX1_hearses_1 := dk_seg dksX1_hearses_0 24 rfl rfl
theorem dksX1_hearses_2 : cX1_hearses.data.toList.drop 47 = dktX1_hearses_2 := dk_seg dksX1_hearses_1 23 rfl rfl
theorem dksX1_hearses_3 : cX1_hearses.data.toList.drop 70 = dktX1_hearses_3 := dk_seg dksX1_hearses_2 23 rfl rfl
theorem dksX1_hearses_4 : cX1_hearses.data.toList.drop 94 = dktX1_hearses_4 := dk_seg dksX1_hearses_3 24 rfl rfl
theorem dksX1_hearses_5 : cX1_hearses.data.toList.drop 117 = dktX1_hearses_5 := dk_seg dksX1_hearses_4 23 rfl rfl
theorem dksX1_hearses_6 : cX1_hearses.data.toList.drop 139 = dktX1_hearses_6 := dk_seg dksX1_hearses_5 22 rfl rfl
theorem dksX1_hearses_7 : cX1_hearses.data.toList.drop 161 = dktX1_hearses_7 := dk_seg dksX1_hearses_6 22 rfl rfl
theorem dksX1_hearses_8 : cX1_hearses.data.toList.drop 184 = dktX1_hearses_8 := dk_seg dksX1_hearses_7 23 rfl rfl
theorem dksX1_hearses_9 : cX1_hearses.data.toList.drop 206 = dktX1_hearses_9 := dk_seg dksX1_hearses_8 22 rfl rfl
theorem dX1_hearses_0 : decode cX1_hearses 0 = .ok (.aload_n 0, 1) := dk_42 (dk_at dksX1_hearses_0 0 rfl rfl)
theorem dX1_hearses_1 : decode cX1_hearses 1 = .ok (.bipush 17, 2) := dk_16 17 (dk_at dksX1_hearses_0 1 rfl rfl)
theorem dX1_hearses_3 : decode cX1_hearses 3 = .ok (.invokevirtual 120, 3) := dk_182 0 120 (dk_at dksX1_hearses_0 3 rfl rfl)
theorem dX1_hearses_6 : decode cX1_hearses 6 = .ok (.astore_n 1, 1) := dk_76 (dk_at dksX1_hearses_0 6 rfl rfl)
theorem dX1_hearses_7 : decode cX1_hearses 7 = .ok (.aload_n 1, 1) := dk_43 (dk_at dksX1_hearses_0 7 rfl rfl)
theorem dX1_hearses_8 : decode cX1_hearses 8 = .ok (.getfield 176, 3) := dk_180 0 176 (dk_at dksX1_hearses_0 8 rfl rfl)
theorem dX1_hearses_11 : decode cX1_hearses 11 = .ok (.ifCond .ne 5, 3) := dk_154 0 5 (dk_at dksX1_hearses_0 11 rfl rfl)
theorem dX1_hearses_14 : decode cX1_hearses 14 = .ok (.iconst 0, 1) := dk_3 (dk_at dksX1_hearses_0 14 rfl rfl)
theorem dX1_hearses_15 : decode cX1_hearses 15 = .ok (.ireturn, 1) := dk_172 (dk_at dksX1_hearses_0 15 rfl rfl)
theorem dX1_hearses_16 : decode cX1_hearses 16 = .ok (.bipush 6, 2) := dk_16 6 (dk_at dksX1_hearses_0 16 rfl rfl)
theorem dX1_hearses_18 : decode cX1_hearses 18 = .ok (.newarray .int, 2) := dk_188_10 (dk_at dksX1_hearses_0 18 rfl rfl)
theorem dX1_hearses_20 : decode cX1_hearses 20 = .ok (.astore_n 2, 1) := dk_77 (dk_at dksX1_hearses_0 20 rfl rfl)
theorem dX1_hearses_21 : decode cX1_hearses 21 = .ok (.iconst 0, 1) := dk_3 (dk_at dksX1_hearses_0 21 rfl rfl)
theorem dX1_hearses_22 : decode cX1_hearses 22 = .ok (.istore_n 3, 1) := dk_62 (dk_at dksX1_hearses_0 22 rfl rfl)
theorem dX1_hearses_23 : decode cX1_hearses 23 = .ok (.aload_n 1, 1) := dk_43 (dk_at dksX1_hearses_0 23 rfl rfl)
theorem dX1_hearses_24 : decode cX1_hearses 24 = .ok (.aload_n 0, 1) := dk_42 (dk_at dksX1_hearses_1 0 rfl rfl)
theorem dX1_hearses_25 : decode cX1_hearses 25 = .ok (.getfield 98, 3) := dk_180 0 98 (dk_at dksX1_hearses_1 1 rfl rfl)
theorem dX1_hearses_28 : decode cX1_hearses 28 = .ok (.iload_n 3, 1) := dk_29 (dk_at dksX1_hearses_1 4 rfl rfl)
theorem dX1_hearses_29 : decode cX1_hearses 29 = .ok (.iadd, 1) := dk_96 (dk_at dksX1_hearses_1 5 rfl rfl)
theorem dX1_hearses_30 : decode cX1_hearses 30 = .ok (.bipush 6, 2) := dk_16 6 (dk_at dksX1_hearses_1 6 rfl rfl)
theorem dX1_hearses_32 : decode cX1_hearses 32 = .ok (.if_icmp .ge 7, 3) := dk_162 0 7 (dk_at dksX1_hearses_1 8 rfl rfl)
theorem dX1_hearses_35 : decode cX1_hearses 35 = .ok (.iconst 1, 1) := dk_4 (dk_at dksX1_hearses_1 11 rfl rfl)
theorem dX1_hearses_36 : decode cX1_hearses 36 = .ok (.goto 4, 3) := dk_167 0 4 (dk_at dksX1_hearses_1 12 rfl rfl)
theorem dX1_hearses_39 : decode cX1_hearses 39 = .ok (.iconst 0, 1) := dk_3 (dk_at dksX1_hearses_1 15 rfl rfl)
theorem dX1_hearses_40 : decode cX1_hearses 40 = .ok (.invokevirtual 132, 3) := dk_182 0 132 (dk_at dksX1_hearses_1 16 rfl rfl)
theorem dX1_hearses_43 : decode cX1_hearses 43 = .ok (.aload_n 2, 1) := dk_44 (dk_at dksX1_hearses_1 19 rfl rfl)
theorem dX1_hearses_44 : decode cX1_hearses 44 = .ok (.iload_n 3, 1) := dk_29 (dk_at dksX1_hearses_1 20 rfl rfl)
theorem dX1_hearses_45 : decode cX1_hearses 45 = .ok (.aload_n 0, 1) := dk_42 (dk_at dksX1_hearses_1 21 rfl rfl)
theorem dX1_hearses_46 : decode cX1_hearses 46 = .ok (.aload_n 1, 1) := dk_43 (dk_at dksX1_hearses_1 22 rfl rfl)
theorem dX1_hearses_47 : decode cX1_hearses 47 = .ok (.invokevirtual 179, 3) := dk_182 0 179 (dk_at dksX1_hearses_2 0 rfl rfl)
theorem dX1_hearses_50 : decode cX1_hearses 50 = .ok (.iastore, 1) := dk_79 (dk_at dksX1_hearses_2 3 rfl rfl)
theorem dX1_hearses_51 : decode cX1_hearses 51 = .ok (.aload_n 0, 1) := dk_42 (dk_at dksX1_hearses_2 4 rfl rfl)
theorem dX1_hearses_52 : decode cX1_hearses 52 = .ok (.getfield 33, 3) := dk_180 0 33 (dk_at dksX1_hearses_2 5 rfl rfl)
theorem dX1_hearses_55 : decode cX1_hearses 55 = .ok (.aload_n 2, 1) := dk_44 (dk_at dksX1_hearses_2 8 rfl rfl)
theorem dX1_hearses_56 : decode cX1_hearses 56 = .ok (.iload_n 3, 1) := dk_29 (dk_at dksX1_hearses_2 9 rfl rfl)
theorem dX1_hearses_57 : decode cX1_hearses 57 = .ok (.iaload, 1) := dk_46 (dk_at dksX1_hearses_2 10 rfl rfl)
theorem dX1_hearses_58 : decode cX1_hearses 58 = .ok (.invokevirtual 183, 3) := dk_182 0 183 (dk_at dksX1_hearses_2 11 rfl rfl)
theorem dX1_hearses_61 : decode cX1_hearses 61 = .ok (.iconst (-1), 1) := dk_2 (dk_at dksX1_hearses_2 14 rfl rfl)
theorem dX1_hearses_62 : decode cX1_hearses 62 = .ok (.if_icmp .eq 7, 3) := dk_159 0 7 (dk_at dksX1_hearses_2 15 rfl rfl)
theorem dX1_hearses_65 : decode cX1_hearses 65 = .ok (.iconst 1, 1) := dk_4 (dk_at dksX1_hearses_2 18 rfl rfl)
theorem dX1_hearses_66 : decode cX1_hearses 66 = .ok (.goto 4, 3) := dk_167 0 4 (dk_at dksX1_hearses_2 19 rfl rfl)
theorem dX1_hearses_69 : decode cX1_hearses 69 = .ok (.iconst 0, 1) := dk_3 (dk_at dksX1_hearses_2 22 rfl rfl)
theorem dX1_hearses_70 : decode cX1_hearses 70 = .ok (.istore 4, 2) := dk_54 4 (dk_at dksX1_hearses_3 0 rfl rfl)
theorem dX1_hearses_72 : decode cX1_hearses 72 = .ok (.iconst 0, 1) := dk_3 (dk_at dksX1_hearses_3 2 rfl rfl)
theorem dX1_hearses_73 : decode cX1_hearses 73 = .ok (.istore 5, 2) := dk_54 5 (dk_at dksX1_hearses_3 3 rfl rfl)
theorem dX1_hearses_75 : decode cX1_hearses 75 = .ok (.iload 5, 2) := dk_21 5 (dk_at dksX1_hearses_3 5 rfl rfl)
theorem dX1_hearses_77 : decode cX1_hearses 77 = .ok (.iload_n 3, 1) := dk_29 (dk_at dksX1_hearses_3 7 rfl rfl)
theorem dX1_hearses_78 : decode cX1_hearses 78 = .ok (.if_icmp .ge 29, 3) := dk_162 0 29 (dk_at dksX1_hearses_3 8 rfl rfl)
theorem dX1_hearses_81 : decode cX1_hearses 81 = .ok (.iload 4, 2) := dk_21 4 (dk_at dksX1_hearses_3 11 rfl rfl)
theorem dX1_hearses_83 : decode cX1_hearses 83 = .ok (.aload_n 2, 1) := dk_44 (dk_at dksX1_hearses_3 13 rfl rfl)
theorem dX1_hearses_84 : decode cX1_hearses 84 = .ok (.iload 5, 2) := dk_21 5 (dk_at dksX1_hearses_3 14 rfl rfl)
theorem dX1_hearses_86 : decode cX1_hearses 86 = .ok (.iaload, 1) := dk_46 (dk_at dksX1_hearses_3 16 rfl rfl)
theorem dX1_hearses_87 : decode cX1_hearses 87 = .ok (.aload_n 2, 1) := dk_44 (dk_at dksX1_hearses_3 17 rfl rfl)
theorem dX1_hearses_88 : decode cX1_hearses 88 = .ok (.iload_n 3, 1) := dk_29 (dk_at dksX1_hearses_3 18 rfl rfl)
theorem dX1_hearses_89 : decode cX1_hearses 89 = .ok (.iaload, 1) := dk_46 (dk_at dksX1_hearses_3 19 rfl rfl)
theorem dX1_hearses_90 : decode cX1_hearses 90 = .ok (.if_icmp .ne 7, 3) := dk_160 0 7 (dk_at dksX1_hearses_3 20 rfl rfl)
theorem dX1_hearses_93 : decode cX1_hearses 93 = .ok (.iconst 1, 1) := dk_4 (dk_at dksX1_hearses_3 23 rfl rfl)
theorem dX1_hearses_94 : decode cX1_hearses 94 = .ok (.goto 4, 3) := dk_167 0 4 (dk_at dksX1_hearses_4 0 rfl rfl)
theorem dX1_hearses_97 : decode cX1_hearses 97 = .ok (.iconst 0, 1) := dk_3 (dk_at dksX1_hearses_4 3 rfl rfl)
theorem dX1_hearses_98 : decode cX1_hearses 98 = .ok (.ior, 1) := dk_128 (dk_at dksX1_hearses_4 4 rfl rfl)
theorem dX1_hearses_99 : decode cX1_hearses 99 = .ok (.istore 4, 2) := dk_54 4 (dk_at dksX1_hearses_4 5 rfl rfl)
theorem dX1_hearses_101 : decode cX1_hearses 101 = .ok (.iinc 5 1, 3) := dk_132 5 1 (dk_at dksX1_hearses_4 7 rfl rfl)
theorem dX1_hearses_104 : decode cX1_hearses 104 = .ok (.goto (-29), 3) := dk_167 255 227 (dk_at dksX1_hearses_4 10 rfl rfl)
theorem dX1_hearses_107 : decode cX1_hearses 107 = .ok (.iload 4, 2) := dk_21 4 (dk_at dksX1_hearses_4 13 rfl rfl)
theorem dX1_hearses_109 : decode cX1_hearses 109 = .ok (.ifCond .eq 17, 3) := dk_153 0 17 (dk_at dksX1_hearses_4 15 rfl rfl)
theorem dX1_hearses_112 : decode cX1_hearses 112 = .ok (.new 139, 3) := dk_187 0 139 (dk_at dksX1_hearses_4 18 rfl rfl)
theorem dX1_hearses_115 : decode cX1_hearses 115 = .ok (.dup, 1) := dk_89 (dk_at dksX1_hearses_4 21 rfl rfl)
theorem dX1_hearses_116 : decode cX1_hearses 116 = .ok (.aload_n 1, 1) := dk_43 (dk_at dksX1_hearses_4 22 rfl rfl)
theorem dX1_hearses_117 : decode cX1_hearses 117 = .ok (.getfield 169, 3) := dk_180 0 169 (dk_at dksX1_hearses_5 0 rfl rfl)
theorem dX1_hearses_120 : decode cX1_hearses 120 = .ok (.iconst 1, 1) := dk_4 (dk_at dksX1_hearses_5 3 rfl rfl)
theorem dX1_hearses_121 : decode cX1_hearses 121 = .ok (.isub, 1) := dk_100 (dk_at dksX1_hearses_5 4 rfl rfl)
theorem dX1_hearses_122 : decode cX1_hearses 122 = .ok (.invokespecial 170, 3) := dk_183 0 170 (dk_at dksX1_hearses_5 5 rfl rfl)
theorem dX1_hearses_125 : decode cX1_hearses 125 = .ok (.athrow, 1) := dk_191 (dk_at dksX1_hearses_5 8 rfl rfl)
theorem dX1_hearses_126 : decode cX1_hearses 126 = .ok (.iinc 3 1, 3) := dk_132 3 1 (dk_at dksX1_hearses_5 9 rfl rfl)
theorem dX1_hearses_129 : decode cX1_hearses 129 = .ok (.aload_n 1, 1) := dk_43 (dk_at dksX1_hearses_5 12 rfl rfl)
theorem dX1_hearses_130 : decode cX1_hearses 130 = .ok (.bipush 59, 2) := dk_16 59 (dk_at dksX1_hearses_5 13 rfl rfl)
theorem dX1_hearses_132 : decode cX1_hearses 132 = .ok (.invokevirtual 128, 3) := dk_182 0 128 (dk_at dksX1_hearses_5 15 rfl rfl)
theorem dX1_hearses_135 : decode cX1_hearses 135 = .ok (.ifCond .ne (-112), 3) := dk_154 255 144 (dk_at dksX1_hearses_5 18 rfl rfl)
theorem dX1_hearses_138 : decode cX1_hearses 138 = .ok (.aload_n 1, 1) := dk_43 (dk_at dksX1_hearses_5 21 rfl rfl)
theorem dX1_hearses_139 : decode cX1_hearses 139 = .ok (.invokevirtual 136, 3) := dk_182 0 136 (dk_at dksX1_hearses_6 0 rfl rfl)
theorem dX1_hearses_142 : decode cX1_hearses 142 = .ok (.goto 13, 3) := dk_167 0 13 (dk_at dksX1_hearses_6 3 rfl rfl)
theorem dX1_hearses_145 : decode cX1_hearses 145 = .ok (.astore 4, 2) := dk_58 4 (dk_at dksX1_hearses_6 6 rfl rfl)
theorem dX1_hearses_147 : decode cX1_hearses 147 = .ok (.iconst (-1), 1) := dk_2 (dk_at dksX1_hearses_6 8 rfl rfl)
theorem dX1_hearses_148 : decode cX1_hearses 148 = .ok (.aload 4, 2) := dk_25 4 (dk_at dksX1_hearses_6 9 rfl rfl)
theorem dX1_hearses_150 : decode cX1_hearses 150 = .ok (.getfield 141, 3) := dk_180 0 141 (dk_at dksX1_hearses_6 11 rfl rfl)
theorem dX1_hearses_153 : decode cX1_hearses 153 = .ok (.isub, 1) := dk_100 (dk_at dksX1_hearses_6 14 rfl rfl)
theorem dX1_hearses_154 : decode cX1_hearses 154 = .ok (.ireturn, 1) := dk_172 (dk_at dksX1_hearses_6 15 rfl rfl)
theorem dX1_hearses_155 : decode cX1_hearses 155 = .ok (.iconst 0, 1) := dk_3 (dk_at dksX1_hearses_6 16 rfl rfl)
theorem dX1_hearses_156 : decode cX1_hearses 156 = .ok (.istore 4, 2) := dk_54 4 (dk_at dksX1_hearses_6 17 rfl rfl)
theorem dX1_hearses_158 : decode cX1_hearses 158 = .ok (.iload 4, 2) := dk_21 4 (dk_at dksX1_hearses_6 19 rfl rfl)
theorem dX1_hearses_160 : decode cX1_hearses 160 = .ok (.iload_n 3, 1) := dk_29 (dk_at dksX1_hearses_6 21 rfl rfl)
theorem dX1_hearses_161 : decode cX1_hearses 161 = .ok (.if_icmp .ge 48, 3) := dk_162 0 48 (dk_at dksX1_hearses_7 0 rfl rfl)
theorem dX1_hearses_164 : decode cX1_hearses 164 = .ok (.aload_n 0, 1) := dk_42 (dk_at dksX1_hearses_7 3 rfl rfl)
theorem dX1_hearses_165 : decode cX1_hearses 165 = .ok (.getfield 33, 3) := dk_180 0 33 (dk_at dksX1_hearses_7 4 rfl rfl)
theorem dX1_hearses_168 : decode cX1_hearses 168 = .ok (.getfield 186, 3) := dk_180 0 186 (dk_at dksX1_hearses_7 7 rfl rfl)
theorem dX1_hearses_171 : decode cX1_hearses 171 = .ok (.aload_n 0, 1) := dk_42 (dk_at dksX1_hearses_7 10 rfl rfl)
theorem dX1_hearses_172 : decode cX1_hearses 172 = .ok (.getfield 98, 3) := dk_180 0 98 (dk_at dksX1_hearses_7 11 rfl rfl)
theorem dX1_hearses_175 : decode cX1_hearses 175 = .ok (.aload_n 2, 1) := dk_44 (dk_at dksX1_hearses_7 14 rfl rfl)
theorem dX1_hearses_176 : decode cX1_hearses 176 = .ok (.iload 4, 2) := dk_21 4 (dk_at dksX1_hearses_7 15 rfl rfl)
theorem dX1_hearses_178 : decode cX1_hearses 178 = .ok (.iaload, 1) := dk_46 (dk_at dksX1_hearses_7 17 rfl rfl)
theorem dX1_hearses_179 : decode cX1_hearses 179 = .ok (.iastore, 1) := dk_79 (dk_at dksX1_hearses_7 18 rfl rfl)
theorem dX1_hearses_180 : decode cX1_hearses 180 = .ok (.aload_n 0, 1) := dk_42 (dk_at dksX1_hearses_7 19 rfl rfl)
theorem dX1_hearses_181 : decode cX1_hearses 181 = .ok (.getfield 33, 3) := dk_180 0 33 (dk_at dksX1_hearses_7 20 rfl rfl)
theorem dX1_hearses_184 : decode cX1_hearses 184 = .ok (.getfield 188, 3) := dk_180 0 188 (dk_at dksX1_hearses_8 0 rfl rfl)
theorem dX1_hearses_187 : decode cX1_hearses 187 = .ok (.aload_n 0, 1) := dk_42 (dk_at dksX1_hearses_8 3 rfl rfl)
theorem dX1_hearses_188 : decode cX1_hearses 188 = .ok (.getfield 98, 3) := dk_180 0 98 (dk_at dksX1_hearses_8 4 rfl rfl)
theorem dX1_hearses_191 : decode cX1_hearses 191 = .ok (.iconst 0, 1) := dk_3 (dk_at dksX1_hearses_8 7 rfl rfl)
theorem dX1_hearses_192 : decode cX1_hearses 192 = .ok (.iastore, 1) := dk_79 (dk_at dksX1_hearses_8 8 rfl rfl)
theorem dX1_hearses_193 : decode cX1_hearses 193 = .ok (.iinc 4 1, 3) := dk_132 4 1 (dk_at dksX1_hearses_8 9 rfl rfl)
theorem dX1_hearses_196 : decode cX1_hearses 196 = .ok (.aload_n 0, 1) := dk_42 (dk_at dksX1_hearses_8 12 rfl rfl)
theorem dX1_hearses_197 : decode cX1_hearses 197 = .ok (.dup, 1) := dk_89 (dk_at dksX1_hearses_8 13 rfl rfl)
theorem dX1_hearses_198 : decode cX1_hearses 198 = .ok (.getfield 98, 3) := dk_180 0 98 (dk_at dksX1_hearses_8 14 rfl rfl)
theorem dX1_hearses_201 : decode cX1_hearses 201 = .ok (.iconst 1, 1) := dk_4 (dk_at dksX1_hearses_8 17 rfl rfl)
theorem dX1_hearses_202 : decode cX1_hearses 202 = .ok (.iadd, 1) := dk_96 (dk_at dksX1_hearses_8 18 rfl rfl)
theorem dX1_hearses_203 : decode cX1_hearses 203 = .ok (.putfield 98, 3) := dk_181 0 98 (dk_at dksX1_hearses_8 19 rfl rfl)
theorem dX1_hearses_206 : decode cX1_hearses 206 = .ok (.goto (-48), 3) := dk_167 255 208 (dk_at dksX1_hearses_9 0 rfl rfl)
theorem dX1_hearses_209 : decode cX1_hearses 209 = .ok (.aload_n 0, 1) := dk_42 (dk_at dksX1_hearses_9 3 rfl rfl)
theorem dX1_hearses_210 : decode cX1_hearses 210 = .ok (.invokevirtual 191, 3) := dk_182 0 191 (dk_at dksX1_hearses_9 4 rfl rfl)
theorem dX1_hearses_213 : decode cX1_hearses 213 = .ok (.iload_n 3, 1) := dk_29 (dk_at dksX1_hearses_9 7 rfl rfl)
theorem dX1_hearses_214 : decode cX1_hearses 214 = .ok (.ireturn, 1) := dk_172 (dk_at dksX1_hearses_9 8 rfl rfl)
abbrev cX1_cell : ByteArray := prog_1_method_12_code
def yX1_cell : MethodName := ⟨RX1, "cell", "(LBehindAnotherHearse$Words;)I"⟩
def dkwX1_cell_1 : List UInt8 := [4, 100, 183, 0, 170, 191, 28, 172]
abbrev dktX1_cell_1 : List UInt8 := dkwX1_cell_1 ++ []
def dkwX1_cell_0 : List UInt8 := [43, 5, 182, 0, 165, 61, 28, 42, 180, 0, 20, 4, 100, 161, 0, 17, 187, 0, 139, 89, 43, 180, 0, 169]
abbrev dktX1_cell_0 : List UInt8 := dkwX1_cell_0 ++ dktX1_cell_1
theorem dksX1_cell_0 : cX1_cell.data.toList.drop 0 = dktX1_cell_0 := by decide +kernel
theorem dksX1_cell_1 : cX1_cell.data.toList.drop 24 = dktX1_cell_1 := dk_seg dksX1_cell_0 24 rfl rfl
theorem dX1_cell_0 : decode cX1_cell 0 = .ok (.aload_n 1, 1) := dk_43 (dk_at dksX1_cell_0 0 rfl rfl)
theorem dX1_cell_1 : decode cX1_cell 1 = .ok (.iconst 2, 1) := dk_5 (dk_at dksX1_cell_0 1 rfl rfl)
theorem dX1_cell_2 : decode cX1_cell 2 = .ok (.invokevirtual 165, 3) := dk_182 0 165 (dk_at dksX1_cell_0 2 rfl rfl)
theorem dX1_cell_5 : decode cX1_cell 5 = .ok (.istore_n 2, 1) := dk_61 (dk_at dksX1_cell_0 5 rfl rfl)
theorem dX1_cell_6 : decode cX1_cell 6 = .ok (.iload_n 2, 1) := dk_28 (dk_at dksX1_cell_0 6 rfl rfl)
theorem dX1_cell_7 : decode cX1_cell 7 = .ok (.aload_n 0, 1) := dk_42 (dk_at dksX1_cell_0 7 rfl rfl)
theorem dX1_cell_8 : decode cX1_cell 8 = .ok (.getfield 20, 3) := dk_180 0 20 (dk_at dksX1_cell_0 8 rfl rfl)
theorem dX1_cell_11 : decode cX1_cell 11 = .ok (.iconst 1, 1) := dk_4 (dk_at dksX1_cell_0 11 rfl rfl)
theorem dX1_cell_12 : decode cX1_cell 12 = .ok (.isub, 1) := dk_100 (dk_at dksX1_cell_0 12 rfl rfl)
theorem dX1_cell_13 : decode cX1_cell 13 = .ok (.if_icmp .lt 17, 3) := dk_161 0 17 (dk_at dksX1_cell_0 13 rfl rfl)
theorem dX1_cell_16 : decode cX1_cell 16 = .ok (.new 139, 3) := dk_187 0 139 (dk_at dksX1_cell_0 16 rfl rfl)
theorem dX1_cell_19 : decode cX1_cell 19 = .ok (.dup, 1) := dk_89 (dk_at dksX1_cell_0 19 rfl rfl)
theorem dX1_cell_20 : decode cX1_cell 20 = .ok (.aload_n 1, 1) := dk_43 (dk_at dksX1_cell_0 20 rfl rfl)
theorem dX1_cell_21 : decode cX1_cell 21 = .ok (.getfield 169, 3) := dk_180 0 169 (dk_at dksX1_cell_0 21 rfl rfl)
theorem dX1_cell_24 : decode cX1_cell 24 = .ok (.iconst 1, 1) := dk_4 (dk_at dksX1_cell_1 0 rfl rfl)
theorem dX1_cell_25 : decode cX1_cell 25 = .ok (.isub, 1) := dk_100 (dk_at dksX1_cell_1 1 rfl rfl)
theorem dX1_cell_26 : decode cX1_cell 26 = .ok (.invokespecial 170, 3) := dk_183 0 170 (dk_at dksX1_cell_1 2 rfl rfl)
theorem dX1_cell_29 : decode cX1_cell 29 = .ok (.athrow, 1) := dk_191 (dk_at dksX1_cell_1 5 rfl rfl)
theorem dX1_cell_30 : decode cX1_cell 30 = .ok (.iload_n 2, 1) := dk_28 (dk_at dksX1_cell_1 6 rfl rfl)
theorem dX1_cell_31 : decode cX1_cell 31 = .ok (.ireturn, 1) := dk_172 (dk_at dksX1_cell_1 7 rfl rfl)
abbrev cX1_comes : ByteArray := prog_1_method_13_code
def yX1_comes : MethodName := ⟨RX1, "comes", "()V"⟩
def dkwX1_comes_0 : List UInt8 := [42, 3, 181, 0, 162, 42, 89, 180, 0, 173, 4, 96, 181, 0, 173, 177]
abbrev dktX1_comes_0 : List UInt8 := dkwX1_comes_0 ++ []
theorem dksX1_comes_0 : cX1_comes.data.toList.drop 0 = dktX1_comes_0 := by decide +kernel
theorem dX1_comes_0 : decode cX1_comes 0 = .ok (.aload_n 0, 1) := dk_42 (dk_at dksX1_comes_0 0 rfl rfl)
theorem dX1_comes_1 : decode cX1_comes 1 = .ok (.iconst 0, 1) := dk_3 (dk_at dksX1_comes_0 1 rfl rfl)
theorem dX1_comes_2 : decode cX1_comes 2 = .ok (.putfield 162, 3) := dk_181 0 162 (dk_at dksX1_comes_0 2 rfl rfl)
theorem dX1_comes_5 : decode cX1_comes 5 = .ok (.aload_n 0, 1) := dk_42 (dk_at dksX1_comes_0 5 rfl rfl)
theorem dX1_comes_6 : decode cX1_comes 6 = .ok (.dup, 1) := dk_89 (dk_at dksX1_comes_0 6 rfl rfl)
theorem dX1_comes_7 : decode cX1_comes 7 = .ok (.getfield 173, 3) := dk_180 0 173 (dk_at dksX1_comes_0 7 rfl rfl)
theorem dX1_comes_10 : decode cX1_comes 10 = .ok (.iconst 1, 1) := dk_4 (dk_at dksX1_comes_0 10 rfl rfl)
theorem dX1_comes_11 : decode cX1_comes 11 = .ok (.iadd, 1) := dk_96 (dk_at dksX1_comes_0 11 rfl rfl)
theorem dX1_comes_12 : decode cX1_comes 12 = .ok (.putfield 173, 3) := dk_181 0 173 (dk_at dksX1_comes_0 12 rfl rfl)
theorem dX1_comes_15 : decode cX1_comes 15 = .ok (.return_, 1) := dk_177 (dk_at dksX1_comes_0 15 rfl rfl)
abbrev cX1_mourners : ByteArray := prog_1_method_15_code
def yX1_mourners : MethodName := ⟨RX1, "mourners", "()I"⟩
def dkwX1_mourners_8 : List UInt8 := [182, 0, 191, 29, 172]
abbrev dktX1_mourners_8 : List UInt8 := dkwX1_mourners_8 ++ []
def dkwX1_mourners_7 : List UInt8 := [180, 0, 105, 2, 79, 132, 4, 1, 42, 89, 180, 0, 105, 4, 96, 181, 0, 105, 167, 255, 178, 42]
abbrev dktX1_mourners_7 : List UInt8 := dkwX1_mourners_7 ++ dktX1_mourners_8
def dkwX1_mourners_6 : List UInt8 := [79, 42, 180, 0, 33, 180, 0, 200, 42, 180, 0, 105, 2, 79, 42, 180, 0, 33, 180, 0, 203, 42]
abbrev dktX1_mourners_6 : List UInt8 := dkwX1_mourners_6 ++ dktX1_mourners_7
def dkwX1_mourners_5 : List UInt8 := [180, 0, 105, 44, 21, 4, 50, 3, 46, 79, 42, 180, 0, 13, 42, 180, 0, 105, 44, 21, 4, 50, 4, 46]
abbrev dktX1_mourners_5 : List UInt8 := dkwX1_mourners_5 ++ dktX1_mourners_6
def dkwX1_mourners_4 : List UInt8 := [180, 0, 141, 100, 172, 3, 54, 4, 21, 4, 29, 162, 0, 78, 42, 180, 0, 33, 180, 0, 198, 42]
abbrev dktX1_mourners_4 : List UInt8 := dkwX1_mourners_4 ++ dktX1_mourners_5
def dkwX1_mourners_3 : List UInt8 := [132, 3, 1, 43, 16, 59, 182, 0, 128, 154, 255, 202, 43, 182, 0, 136, 167, 0, 13, 58, 4, 2, 25, 4]
abbrev dktX1_mourners_3 : List UInt8 := dkwX1_mourners_3 ++ dktX1_mourners_4
def dkwX1_mourners_2 : List UInt8 := [50, 3, 42, 43, 182, 0, 179, 79, 44, 29, 50, 4, 43, 16, 97, 42, 180, 0, 98, 182, 0, 194, 79]
abbrev dktX1_mourners_2 : List UInt8 := dkwX1_mourners_2 ++ dktX1_mourners_3
def dkwX1_mourners_1 : List UInt8 := [3, 62, 43, 42, 180, 0, 105, 29, 96, 16, 8, 162, 0, 7, 4, 167, 0, 4, 3, 182, 0, 132, 44, 29]
abbrev dktX1_mourners_1 : List UInt8 := dkwX1_mourners_1 ++ dktX1_mourners_2
def dkwX1_mourners_0 : List UInt8 := [42, 16, 39, 182, 0, 120, 76, 43, 180, 0, 176, 154, 0, 5, 3, 172, 16, 8, 5, 197, 0, 78, 2, 77]
abbrev dktX1_mourners_0 : List UInt8 := dkwX1_mourners_0 ++ dktX1_mourners_1
theorem dksX1_mourners_0 : cX1_mourners.data.toList.drop 0 = dktX1_mourners_0 := by decide +kernel
theorem dksX1_mourners_1 : cX1_mourners.data.toList.drop 24 = dktX1_mourners_1 := dk_seg dksX1_mourners_0 24 rfl rfl
theorem dksX1_mourners_2 : cX1_mourners.data.toList.drop 48 = dktX1_mourners_2 := dk_seg dksX1_mourners_1 24 rfl rfl
theorem dksX1_mourners_3 : cX1_mourners.data.toList.drop 71 = dktX1_mourners_3 := dk_seg dksX1_mourners_2 23 rfl rfl
theorem dksX1_mourners_4 : cX1_mourners.data.toList.drop 95 = dktX1_mourners_4 := dk_seg dksX1_mourners_3 24 rfl rfl
theorem dksX1_mourners_5 : cX1_mourners.data.toList.drop 117 = dktX1_mourners_5 := dk_seg dksX1_mourners_4 22 rfl rfl
theorem dksX1_mourners_6 : cX1_mourners.data.toList.drop 141 = dktX1_mourners_6 := dk_seg dksX1_mourners_5 24 rfl rfl
theorem dksX1_mourners_7 : cX1_mourners.data.toList.drop 163 = dktX1_mourners_7 := dk_seg dksX1_mourners_6 22 rfl rfl
theorem dksX1_mourners_8 : cX1_mourners.data.toList.drop 185 = dktX1_mourners_8 := dk_seg dksX1_mourners_7 22 rfl rfl
theorem dX1_mourners_0 : decode cX1_mourners 0 = .ok (.aload_n 0, 1) := dk_42 (dk_at dksX1_mourners_0 0 rfl rfl)
theorem dX1_mourners_1 : decode cX1_mourners 1 = .ok (.bipush 39, 2) := dk_16 39 (dk_at dksX1_mourners_0 1 rfl rfl)
theorem dX1_mourners_3 : decode cX1_mourners 3 = .ok (.invokevirtual 120, 3) := dk_182 0 120 (dk_at dksX1_mourners_0 3 rfl rfl)
theorem dX1_mourners_6 : decode cX1_mourners 6 = .ok (.astore_n 1, 1) := dk_76 (dk_at dksX1_mourners_0 6 rfl rfl)
theorem dX1_mourners_7 : decode cX1_mourners 7 = .ok (.aload_n 1, 1) := dk_43 (dk_at dksX1_mourners_0 7 rfl rfl)
theorem dX1_mourners_8 : decode cX1_mourners 8 = .ok (.getfield 176, 3) := dk_180 0 176 (dk_at dksX1_mourners_0 8 rfl rfl)
theorem dX1_mourners_11 : decode cX1_mourners 11 = .ok (.ifCond .ne 5, 3) := dk_154 0 5 (dk_at dksX1_mourners_0 11 rfl rfl)
theorem dX1_mourners_14 : decode cX1_mourners 14 = .ok (.iconst 0, 1) := dk_3 (dk_at dksX1_mourners_0 14 rfl rfl)
theorem dX1_mourners_15 : decode cX1_mourners 15 = .ok (.ireturn, 1) := dk_172 (dk_at dksX1_mourners_0 15 rfl rfl)
theorem dX1_mourners_16 : decode cX1_mourners 16 = .ok (.bipush 8, 2) := dk_16 8 (dk_at dksX1_mourners_0 16 rfl rfl)
theorem dX1_mourners_18 : decode cX1_mourners 18 = .ok (.iconst 2, 1) := dk_5 (dk_at dksX1_mourners_0 18 rfl rfl)
theorem dX1_mourners_19 : decode cX1_mourners 19 = .ok (.multianewarray 78 2, 4) := by decide +kernel
theorem dX1_mourners_23 : decode cX1_mourners 23 = .ok (.astore_n 2, 1) := dk_77 (dk_at dksX1_mourners_0 23 rfl rfl)
theorem dX1_mourners_24 : decode cX1_mourners 24 = .ok (.iconst 0, 1) := dk_3 (dk_at dksX1_mourners_1 0 rfl rfl)
theorem dX1_mourners_25 : decode cX1_mourners 25 = .ok (.istore_n 3, 1) := dk_62 (dk_at dksX1_mourners_1 1 rfl rfl)
theorem dX1_mourners_26 : decode cX1_mourners 26 = .ok (.aload_n 1, 1) := dk_43 (dk_at dksX1_mourners_1 2 rfl rfl)
theorem dX1_mourners_27 : decode cX1_mourners 27 = .ok (.aload_n 0, 1) := dk_42 (dk_at dksX1_mourners_1 3 rfl rfl)
theorem dX1_mourners_28 : decode cX1_mourners 28 = .ok (.getfield 105, 3) := dk_180 0 105 (dk_at dksX1_mourners_1 4 rfl rfl)
theorem dX1_mourners_31 : decode cX1_mourners 31 = .ok (.iload_n 3, 1) := dk_29 (dk_at dksX1_mourners_1 7 rfl rfl)
theorem dX1_mourners_32 : decode cX1_mourners 32 = .ok (.iadd, 1) := dk_96 (dk_at dksX1_mourners_1 8 rfl rfl)
theorem dX1_mourners_33 : decode cX1_mourners 33 = .ok (.bipush 8, 2) := dk_16 8 (dk_at dksX1_mourners_1 9 rfl rfl)
theorem dX1_mourners_35 : decode cX1_mourners 35 = .ok (.if_icmp .ge 7, 3) := dk_162 0 7 (dk_at dksX1_mourners_1 11 rfl rfl)
theorem dX1_mourners_38 : decode cX1_mourners 38 = .ok (.iconst 1, 1) := dk_4 (dk_at dksX1_mourners_1 14 rfl rfl)
theorem dX1_mourners_39 : decode cX1_mourners 39 = .ok (.goto 4, 3) := dk_167 0 4 (dk_at dksX1_mourners_1 15 rfl rfl)
theorem dX1_mourners_42 : decode cX1_mourners 42 = .ok (.iconst 0, 1) := dk_3 (dk_at dksX1_mourners_1 18 rfl rfl)
theorem dX1_mourners_43 : decode cX1_mourners 43 = .ok (.invokevirtual 132, 3) := dk_182 0 132 (dk_at dksX1_mourners_1 19 rfl rfl)
theorem dX1_mourners_46 : decode cX1_mourners 46 = .ok (.aload_n 2, 1) := dk_44 (dk_at dksX1_mourners_1 22 rfl rfl)
theorem dX1_mourners_47 : decode cX1_mourners 47 = .ok (.iload_n 3, 1) := dk_29 (dk_at dksX1_mourners_1 23 rfl rfl)
theorem dX1_mourners_48 : decode cX1_mourners 48 = .ok (.aaload, 1) := dk_50 (dk_at dksX1_mourners_2 0 rfl rfl)
theorem dX1_mourners_49 : decode cX1_mourners 49 = .ok (.iconst 0, 1) := dk_3 (dk_at dksX1_mourners_2 1 rfl rfl)
theorem dX1_mourners_50 : decode cX1_mourners 50 = .ok (.aload_n 0, 1) := dk_42 (dk_at dksX1_mourners_2 2 rfl rfl)
theorem dX1_mourners_51 : decode cX1_mourners 51 = .ok (.aload_n 1, 1) := dk_43 (dk_at dksX1_mourners_2 3 rfl rfl)
theorem dX1_mourners_52 : decode cX1_mourners 52 = .ok (.invokevirtual 179, 3) := dk_182 0 179 (dk_at dksX1_mourners_2 4 rfl rfl)
theorem dX1_mourners_55 : decode cX1_mourners 55 = .ok (.iastore, 1) := dk_79 (dk_at dksX1_mourners_2 7 rfl rfl)
theorem dX1_mourners_56 : decode cX1_mourners 56 = .ok (.aload_n 2, 1) := dk_44 (dk_at dksX1_mourners_2 8 rfl rfl)
theorem dX1_mourners_57 : decode cX1_mourners 57 = .ok (.iload_n 3, 1) := dk_29 (dk_at dksX1_mourners_2 9 rfl rfl)
theorem dX1_mourners_58 : decode cX1_mourners 58 = .ok (.aaload, 1) := dk_50 (dk_at dksX1_mourners_2 10 rfl rfl)
theorem dX1_mourners_59 : decode cX1_mourners 59 = .ok (.iconst 1, 1) := dk_4 (dk_at dksX1_mourners_2 11 rfl rfl)
theorem dX1_mourners_60 : decode cX1_mourners 60 = .ok (.aload_n 1, 1) := dk_43 (dk_at dksX1_mourners_2 12 rfl rfl)
theorem dX1_mourners_61 : decode cX1_mourners 61 = .ok (.bipush 97, 2) := dk_16 97 (dk_at dksX1_mourners_2 13 rfl rfl)
theorem dX1_mourners_63 : decode cX1_mourners 63 = .ok (.aload_n 0, 1) := dk_42 (dk_at dksX1_mourners_2 15 rfl rfl)
theorem dX1_mourners_64 : decode cX1_mourners 64 = .ok (.getfield 98, 3) := dk_180 0 98 (dk_at dksX1_mourners_2 16 rfl rfl)
theorem dX1_mourners_67 : decode cX1_mourners 67 = .ok (.invokevirtual 194, 3) := dk_182 0 194 (dk_at dksX1_mourners_2 19 rfl rfl)
theorem dX1_mourners_70 : decode cX1_mourners 70 = .ok (.iastore, 1) := dk_79 (dk_at dksX1_mourners_2 22 rfl rfl)
theorem dX1_mourners_71 : decode cX1_mourners 71 = .ok (.iinc 3 1, 3) := dk_132 3 1 (dk_at dksX1_mourners_3 0 rfl rfl)
theorem dX1_mourners_74 : decode cX1_mourners 74 = .ok (.aload_n 1, 1) := dk_43 (dk_at dksX1_mourners_3 3 rfl rfl)
theorem dX1_mourners_75 : decode cX1_mourners 75 = .ok (.bipush 59, 2) := dk_16 59 (dk_at dksX1_mourners_3 4 rfl rfl)
theorem dX1_mourners_77 : decode cX1_mourners 77 = .ok (.invokevirtual 128, 3) := dk_182 0 128 (dk_at dksX1_mourners_3 6 rfl rfl)
theorem dX1_mourners_80 : decode cX1_mourners 80 = .ok (.ifCond .ne (-54), 3) := dk_154 255 202 (dk_at dksX1_mourners_3 9 rfl rfl)
theorem dX1_mourners_83 : decode cX1_mourners 83 = .ok (.aload_n 1, 1) := dk_43 (dk_at dksX1_mourners_3 12 rfl rfl)
theorem dX1_mourners_84 : decode cX1_mourners 84 = .ok (.invokevirtual 136, 3) := dk_182 0 136 (dk_at dksX1_mourners_3 13 rfl rfl)
theorem dX1_mourners_87 : decode cX1_mourners 87 = .ok (.goto 13, 3) := dk_167 0 13 (dk_at dksX1_mourners_3 16 rfl rfl)
theorem dX1_mourners_90 : decode cX1_mourners 90 = .ok (.astore 4, 2) := dk_58 4 (dk_at dksX1_mourners_3 19 rfl rfl)
theorem dX1_mourners_92 : decode cX1_mourners 92 = .ok (.iconst (-1), 1) := dk_2 (dk_at dksX1_mourners_3 21 rfl rfl)
theorem dX1_mourners_93 : decode cX1_mourners 93 = .ok (.aload 4, 2) := dk_25 4 (dk_at dksX1_mourners_3 22 rfl rfl)
theorem dX1_mourners_95 : decode cX1_mourners 95 = .ok (.getfield 141, 3) := dk_180 0 141 (dk_at dksX1_mourners_4 0 rfl rfl)
theorem dX1_mourners_98 : decode cX1_mourners 98 = .ok (.isub, 1) := dk_100 (dk_at dksX1_mourners_4 3 rfl rfl)
theorem dX1_mourners_99 : decode cX1_mourners 99 = .ok (.ireturn, 1) := dk_172 (dk_at dksX1_mourners_4 4 rfl rfl)
theorem dX1_mourners_100 : decode cX1_mourners 100 = .ok (.iconst 0, 1) := dk_3 (dk_at dksX1_mourners_4 5 rfl rfl)
theorem dX1_mourners_101 : decode cX1_mourners 101 = .ok (.istore 4, 2) := dk_54 4 (dk_at dksX1_mourners_4 6 rfl rfl)
theorem dX1_mourners_103 : decode cX1_mourners 103 = .ok (.iload 4, 2) := dk_21 4 (dk_at dksX1_mourners_4 8 rfl rfl)
theorem dX1_mourners_105 : decode cX1_mourners 105 = .ok (.iload_n 3, 1) := dk_29 (dk_at dksX1_mourners_4 10 rfl rfl)
theorem dX1_mourners_106 : decode cX1_mourners 106 = .ok (.if_icmp .ge 78, 3) := dk_162 0 78 (dk_at dksX1_mourners_4 11 rfl rfl)
theorem dX1_mourners_109 : decode cX1_mourners 109 = .ok (.aload_n 0, 1) := dk_42 (dk_at dksX1_mourners_4 14 rfl rfl)
theorem dX1_mourners_110 : decode cX1_mourners 110 = .ok (.getfield 33, 3) := dk_180 0 33 (dk_at dksX1_mourners_4 15 rfl rfl)
theorem dX1_mourners_113 : decode cX1_mourners 113 = .ok (.getfield 198, 3) := dk_180 0 198 (dk_at dksX1_mourners_4 18 rfl rfl)
theorem dX1_mourners_116 : decode cX1_mourners 116 = .ok (.aload_n 0, 1) := dk_42 (dk_at dksX1_mourners_4 21 rfl rfl)
theorem dX1_mourners_117 : decode cX1_mourners 117 = .ok (.getfield 105, 3) := dk_180 0 105 (dk_at dksX1_mourners_5 0 rfl rfl)
theorem dX1_mourners_120 : decode cX1_mourners 120 = .ok (.aload_n 2, 1) := dk_44 (dk_at dksX1_mourners_5 3 rfl rfl)
theorem dX1_mourners_121 : decode cX1_mourners 121 = .ok (.iload 4, 2) := dk_21 4 (dk_at dksX1_mourners_5 4 rfl rfl)
theorem dX1_mourners_123 : decode cX1_mourners 123 = .ok (.aaload, 1) := dk_50 (dk_at dksX1_mourners_5 6 rfl rfl)
theorem dX1_mourners_124 : decode cX1_mourners 124 = .ok (.iconst 0, 1) := dk_3 (dk_at dksX1_mourners_5 7 rfl rfl)
theorem dX1_mourners_125 : decode cX1_mourners 125 = .ok (.iaload, 1) := dk_46 (dk_at dksX1_mourners_5 8 rfl rfl)
theorem dX1_mourners_126 : decode cX1_mourners 126 = .ok (.iastore, 1) := dk_79 (dk_at dksX1_mourners_5 9 rfl rfl)
theorem dX1_mourners_127 : decode cX1_mourners 127 = .ok (.aload_n 0, 1) := dk_42 (dk_at dksX1_mourners_5 10 rfl rfl)
theorem dX1_mourners_128 : decode cX1_mourners 128 = .ok (.getfield 13, 3) := dk_180 0 13 (dk_at dksX1_mourners_5 11 rfl rfl)
theorem dX1_mourners_131 : decode cX1_mourners 131 = .ok (.aload_n 0, 1) := dk_42 (dk_at dksX1_mourners_5 14 rfl rfl)
theorem dX1_mourners_132 : decode cX1_mourners 132 = .ok (.getfield 105, 3) := dk_180 0 105 (dk_at dksX1_mourners_5 15 rfl rfl)
theorem dX1_mourners_135 : decode cX1_mourners 135 = .ok (.aload_n 2, 1) := dk_44 (dk_at dksX1_mourners_5 18 rfl rfl)
theorem dX1_mourners_136 : decode cX1_mourners 136 = .ok (.iload 4, 2) := dk_21 4 (dk_at dksX1_mourners_5 19 rfl rfl)
theorem dX1_mourners_138 : decode cX1_mourners 138 = .ok (.aaload, 1) := dk_50 (dk_at dksX1_mourners_5 21 rfl rfl)
theorem dX1_mourners_139 : decode cX1_mourners 139 = .ok (.iconst 1, 1) := dk_4 (dk_at dksX1_mourners_5 22 rfl rfl)
theorem dX1_mourners_140 : decode cX1_mourners 140 = .ok (.iaload, 1) := dk_46 (dk_at dksX1_mourners_5 23 rfl rfl)
theorem dX1_mourners_141 : decode cX1_mourners 141 = .ok (.iastore, 1) := dk_79 (dk_at dksX1_mourners_6 0 rfl rfl)
theorem dX1_mourners_142 : decode cX1_mourners 142 = .ok (.aload_n 0, 1) := dk_42 (dk_at dksX1_mourners_6 1 rfl rfl)
theorem dX1_mourners_143 : decode cX1_mourners 143 = .ok (.getfield 33, 3) := dk_180 0 33 (dk_at dksX1_mourners_6 2 rfl rfl)
theorem dX1_mourners_146 : decode cX1_mourners 146 = .ok (.getfield 200, 3) := dk_180 0 200 (dk_at dksX1_mourners_6 5 rfl rfl)
theorem dX1_mourners_149 : decode cX1_mourners 149 = .ok (.aload_n 0, 1) := dk_42 (dk_at dksX1_mourners_6 8 rfl rfl)
theorem dX1_mourners_150 : decode cX1_mourners 150 = .ok (.getfield 105, 3) := dk_180 0 105 (dk_at dksX1_mourners_6 9 rfl rfl)
theorem dX1_mourners_153 : decode cX1_mourners 153 = .ok (.iconst (-1), 1) := dk_2 (dk_at dksX1_mourners_6 12 rfl rfl)
theorem dX1_mourners_154 : decode cX1_mourners 154 = .ok (.iastore, 1) := dk_79 (dk_at dksX1_mourners_6 13 rfl rfl)
theorem dX1_mourners_155 : decode cX1_mourners 155 = .ok (.aload_n 0, 1) := dk_42 (dk_at dksX1_mourners_6 14 rfl rfl)
theorem dX1_mourners_156 : decode cX1_mourners 156 = .ok (.getfield 33, 3) := dk_180 0 33 (dk_at dksX1_mourners_6 15 rfl rfl)
theorem dX1_mourners_159 : decode cX1_mourners 159 = .ok (.getfield 203, 3) := dk_180 0 203 (dk_at dksX1_mourners_6 18 rfl rfl)
theorem dX1_mourners_162 : decode cX1_mourners 162 = .ok (.aload_n 0, 1) := dk_42 (dk_at dksX1_mourners_6 21 rfl rfl)
theorem dX1_mourners_163 : decode cX1_mourners 163 = .ok (.getfield 105, 3) := dk_180 0 105 (dk_at dksX1_mourners_7 0 rfl rfl)
theorem dX1_mourners_166 : decode cX1_mourners 166 = .ok (.iconst (-1), 1) := dk_2 (dk_at dksX1_mourners_7 3 rfl rfl)
theorem dX1_mourners_167 : decode cX1_mourners 167 = .ok (.iastore, 1) := dk_79 (dk_at dksX1_mourners_7 4 rfl rfl)
theorem dX1_mourners_168 : decode cX1_mourners 168 = .ok (.iinc 4 1, 3) := dk_132 4 1 (dk_at dksX1_mourners_7 5 rfl rfl)
theorem dX1_mourners_171 : decode cX1_mourners 171 = .ok (.aload_n 0, 1) := dk_42 (dk_at dksX1_mourners_7 8 rfl rfl)
theorem dX1_mourners_172 : decode cX1_mourners 172 = .ok (.dup, 1) := dk_89 (dk_at dksX1_mourners_7 9 rfl rfl)
theorem dX1_mourners_173 : decode cX1_mourners 173 = .ok (.getfield 105, 3) := dk_180 0 105 (dk_at dksX1_mourners_7 10 rfl rfl)
theorem dX1_mourners_176 : decode cX1_mourners 176 = .ok (.iconst 1, 1) := dk_4 (dk_at dksX1_mourners_7 13 rfl rfl)
theorem dX1_mourners_177 : decode cX1_mourners 177 = .ok (.iadd, 1) := dk_96 (dk_at dksX1_mourners_7 14 rfl rfl)
theorem dX1_mourners_178 : decode cX1_mourners 178 = .ok (.putfield 105, 3) := dk_181 0 105 (dk_at dksX1_mourners_7 15 rfl rfl)
theorem dX1_mourners_181 : decode cX1_mourners 181 = .ok (.goto (-78), 3) := dk_167 255 178 (dk_at dksX1_mourners_7 18 rfl rfl)
theorem dX1_mourners_184 : decode cX1_mourners 184 = .ok (.aload_n 0, 1) := dk_42 (dk_at dksX1_mourners_7 21 rfl rfl)
theorem dX1_mourners_185 : decode cX1_mourners 185 = .ok (.invokevirtual 191, 3) := dk_182 0 191 (dk_at dksX1_mourners_8 0 rfl rfl)
theorem dX1_mourners_188 : decode cX1_mourners 188 = .ok (.iload_n 3, 1) := dk_29 (dk_at dksX1_mourners_8 3 rfl rfl)
theorem dX1_mourners_189 : decode cX1_mourners 189 = .ok (.ireturn, 1) := dk_172 (dk_at dksX1_mourners_8 4 rfl rfl)
abbrev cX1_weather : ByteArray := prog_1_method_16_code
def yX1_weather : MethodName := ⟨RX1, "weather", "()I"⟩
def dkwX1_weather_3 : List UInt8 := [172]
abbrev dktX1_weather_3 : List UInt8 := dkwX1_weather_3 ++ []
def dkwX1_weather_2 : List UInt8 := [182, 0, 136, 167, 0, 11, 78, 2, 45, 180, 0, 141, 100, 172, 42, 44, 181, 0, 24, 42, 180, 0, 24, 190]
abbrev dktX1_weather_2 : List UInt8 := dkwX1_weather_2 ++ dktX1_weather_3
def dkwX1_weather_1 : List UInt8 := [43, 180, 0, 169, 43, 16, 48, 16, 10, 182, 0, 194, 145, 84, 43, 182, 0, 124, 2, 160, 255, 236, 43]
abbrev dktX1_weather_1 : List UInt8 := dkwX1_weather_1 ++ dktX1_weather_2
def dkwX1_weather_0 : List UInt8 := [42, 16, 20, 182, 0, 120, 76, 4, 16, 20, 43, 180, 0, 176, 184, 0, 206, 184, 0, 212, 188, 8, 77, 44]
abbrev dktX1_weather_0 : List UInt8 := dkwX1_weather_0 ++ dktX1_weather_1
theorem dksX1_weather_0 : cX1_weather.data.toList.drop 0 = dktX1_weather_0 := by decide +kernel
theorem dksX1_weather_1 : cX1_weather.data.toList.drop 24 = dktX1_weather_1 := dk_seg dksX1_weather_0 24 rfl rfl
theorem dksX1_weather_2 : cX1_weather.data.toList.drop 47 = dktX1_weather_2 := dk_seg dksX1_weather_1 23 rfl rfl
theorem dksX1_weather_3 : cX1_weather.data.toList.drop 71 = dktX1_weather_3 := dk_seg dksX1_weather_2 24 rfl rfl
theorem dX1_weather_0 : decode cX1_weather 0 = .ok (.aload_n 0, 1) := dk_42 (dk_at dksX1_weather_0 0 rfl rfl)
theorem dX1_weather_1 : decode cX1_weather 1 = .ok (.bipush 20, 2) := dk_16 20 (dk_at dksX1_weather_0 1 rfl rfl)
theorem dX1_weather_3 : decode cX1_weather 3 = .ok (.invokevirtual 120, 3) := dk_182 0 120 (dk_at dksX1_weather_0 3 rfl rfl)
theorem dX1_weather_6 : decode cX1_weather 6 = .ok (.astore_n 1, 1) := dk_76 (dk_at dksX1_weather_0 6 rfl rfl)
theorem dX1_weather_7 : decode cX1_weather 7 = .ok (.iconst 1, 1) := dk_4 (dk_at dksX1_weather_0 7 rfl rfl)
theorem dX1_weather_8 : decode cX1_weather 8 = .ok (.bipush 20, 2) := dk_16 20 (dk_at dksX1_weather_0 8 rfl rfl)
theorem dX1_weather_10 : decode cX1_weather 10 = .ok (.aload_n 1, 1) := dk_43 (dk_at dksX1_weather_0 10 rfl rfl)
theorem dX1_weather_11 : decode cX1_weather 11 = .ok (.getfield 176, 3) := dk_180 0 176 (dk_at dksX1_weather_0 11 rfl rfl)
theorem dX1_weather_14 : decode cX1_weather 14 = .ok (.invokestatic 206, 3) := dk_184 0 206 (dk_at dksX1_weather_0 14 rfl rfl)
theorem dX1_weather_17 : decode cX1_weather 17 = .ok (.invokestatic 212, 3) := dk_184 0 212 (dk_at dksX1_weather_0 17 rfl rfl)
theorem dX1_weather_20 : decode cX1_weather 20 = .ok (.newarray .byte, 2) := dk_188_8 (dk_at dksX1_weather_0 20 rfl rfl)
theorem dX1_weather_22 : decode cX1_weather 22 = .ok (.astore_n 2, 1) := dk_77 (dk_at dksX1_weather_0 22 rfl rfl)
theorem dX1_weather_23 : decode cX1_weather 23 = .ok (.aload_n 2, 1) := dk_44 (dk_at dksX1_weather_0 23 rfl rfl)
theorem dX1_weather_24 : decode cX1_weather 24 = .ok (.aload_n 1, 1) := dk_43 (dk_at dksX1_weather_1 0 rfl rfl)
theorem dX1_weather_25 : decode cX1_weather 25 = .ok (.getfield 169, 3) := dk_180 0 169 (dk_at dksX1_weather_1 1 rfl rfl)
theorem dX1_weather_28 : decode cX1_weather 28 = .ok (.aload_n 1, 1) := dk_43 (dk_at dksX1_weather_1 4 rfl rfl)
theorem dX1_weather_29 : decode cX1_weather 29 = .ok (.bipush 48, 2) := dk_16 48 (dk_at dksX1_weather_1 5 rfl rfl)
theorem dX1_weather_31 : decode cX1_weather 31 = .ok (.bipush 10, 2) := dk_16 10 (dk_at dksX1_weather_1 7 rfl rfl)
theorem dX1_weather_33 : decode cX1_weather 33 = .ok (.invokevirtual 194, 3) := dk_182 0 194 (dk_at dksX1_weather_1 9 rfl rfl)
theorem dX1_weather_36 : decode cX1_weather 36 = .ok (.i2b, 1) := dk_145 (dk_at dksX1_weather_1 12 rfl rfl)
theorem dX1_weather_37 : decode cX1_weather 37 = .ok (.bastore, 1) := dk_84 (dk_at dksX1_weather_1 13 rfl rfl)
theorem dX1_weather_38 : decode cX1_weather 38 = .ok (.aload_n 1, 1) := dk_43 (dk_at dksX1_weather_1 14 rfl rfl)
theorem dX1_weather_39 : decode cX1_weather 39 = .ok (.invokevirtual 124, 3) := dk_182 0 124 (dk_at dksX1_weather_1 15 rfl rfl)
theorem dX1_weather_42 : decode cX1_weather 42 = .ok (.iconst (-1), 1) := dk_2 (dk_at dksX1_weather_1 18 rfl rfl)
theorem dX1_weather_43 : decode cX1_weather 43 = .ok (.if_icmp .ne (-20), 3) := dk_160 255 236 (dk_at dksX1_weather_1 19 rfl rfl)
theorem dX1_weather_46 : decode cX1_weather 46 = .ok (.aload_n 1, 1) := dk_43 (dk_at dksX1_weather_1 22 rfl rfl)
theorem dX1_weather_47 : decode cX1_weather 47 = .ok (.invokevirtual 136, 3) := dk_182 0 136 (dk_at dksX1_weather_2 0 rfl rfl)
theorem dX1_weather_50 : decode cX1_weather 50 = .ok (.goto 11, 3) := dk_167 0 11 (dk_at dksX1_weather_2 3 rfl rfl)
theorem dX1_weather_53 : decode cX1_weather 53 = .ok (.astore_n 3, 1) := dk_78 (dk_at dksX1_weather_2 6 rfl rfl)
theorem dX1_weather_54 : decode cX1_weather 54 = .ok (.iconst (-1), 1) := dk_2 (dk_at dksX1_weather_2 7 rfl rfl)
theorem dX1_weather_55 : decode cX1_weather 55 = .ok (.aload_n 3, 1) := dk_45 (dk_at dksX1_weather_2 8 rfl rfl)
theorem dX1_weather_56 : decode cX1_weather 56 = .ok (.getfield 141, 3) := dk_180 0 141 (dk_at dksX1_weather_2 9 rfl rfl)
theorem dX1_weather_59 : decode cX1_weather 59 = .ok (.isub, 1) := dk_100 (dk_at dksX1_weather_2 12 rfl rfl)
theorem dX1_weather_60 : decode cX1_weather 60 = .ok (.ireturn, 1) := dk_172 (dk_at dksX1_weather_2 13 rfl rfl)
theorem dX1_weather_61 : decode cX1_weather 61 = .ok (.aload_n 0, 1) := dk_42 (dk_at dksX1_weather_2 14 rfl rfl)
theorem dX1_weather_62 : decode cX1_weather 62 = .ok (.aload_n 2, 1) := dk_44 (dk_at dksX1_weather_2 15 rfl rfl)
theorem dX1_weather_63 : decode cX1_weather 63 = .ok (.putfield 24, 3) := dk_181 0 24 (dk_at dksX1_weather_2 16 rfl rfl)
theorem dX1_weather_66 : decode cX1_weather 66 = .ok (.aload_n 0, 1) := dk_42 (dk_at dksX1_weather_2 19 rfl rfl)
theorem dX1_weather_67 : decode cX1_weather 67 = .ok (.getfield 24, 3) := dk_180 0 24 (dk_at dksX1_weather_2 20 rfl rfl)
theorem dX1_weather_70 : decode cX1_weather 70 = .ok (.arraylength, 1) := dk_190 (dk_at dksX1_weather_2 23 rfl rfl)
theorem dX1_weather_71 : decode cX1_weather 71 = .ok (.ireturn, 1) := dk_172 (dk_at dksX1_weather_3 0 rfl rfl)
abbrev cX1_rule : ByteArray := prog_1_method_18_code
def yX1_rule : MethodName := ⟨RX1, "rule", "()I"⟩
def dkwX1_rule_2 : List UInt8 := [181, 0, 220, 3, 172, 78, 2, 45, 180, 0, 141, 100, 172]
abbrev dktX1_rule_2 : List UInt8 := dkwX1_rule_2 ++ []
def dkwX1_rule_1 : List UInt8 := [154, 0, 10, 42, 1, 181, 0, 220, 3, 172, 42, 187, 0, 224, 89, 42, 43, 28, 183, 0, 226, 182, 0, 229]
abbrev dktX1_rule_1 : List UInt8 := dkwX1_rule_1 ++ dktX1_rule_2
def dkwX1_rule_0 : List UInt8 := [42, 180, 0, 50, 182, 0, 215, 192, 0, 216, 76, 42, 180, 0, 114, 61, 42, 3, 181, 0, 114, 28]
abbrev dktX1_rule_0 : List UInt8 := dkwX1_rule_0 ++ dktX1_rule_1
theorem dksX1_rule_0 : cX1_rule.data.toList.drop 0 = dktX1_rule_0 := by decide +kernel
theorem dksX1_rule_1 : cX1_rule.data.toList.drop 22 = dktX1_rule_1 := dk_seg dksX1_rule_0 22 rfl rfl
theorem dksX1_rule_2 : cX1_rule.data.toList.drop 46 = dktX1_rule_2 := dk_seg dksX1_rule_1 24 rfl rfl
theorem dX1_rule_0 : decode cX1_rule 0 = .ok (.aload_n 0, 1) := dk_42 (dk_at dksX1_rule_0 0 rfl rfl)
theorem dX1_rule_1 : decode cX1_rule 1 = .ok (.getfield 50, 3) := dk_180 0 50 (dk_at dksX1_rule_0 1 rfl rfl)
theorem dX1_rule_4 : decode cX1_rule 4 = .ok (.invokevirtual 215, 3) := dk_182 0 215 (dk_at dksX1_rule_0 4 rfl rfl)
theorem dX1_rule_7 : decode cX1_rule 7 = .ok (.checkcast 216, 3) := dk_192 0 216 (dk_at dksX1_rule_0 7 rfl rfl)
theorem dX1_rule_10 : decode cX1_rule 10 = .ok (.astore_n 1, 1) := dk_76 (dk_at dksX1_rule_0 10 rfl rfl)
theorem dX1_rule_11 : decode cX1_rule 11 = .ok (.aload_n 0, 1) := dk_42 (dk_at dksX1_rule_0 11 rfl rfl)
theorem dX1_rule_12 : decode cX1_rule 12 = .ok (.getfield 114, 3) := dk_180 0 114 (dk_at dksX1_rule_0 12 rfl rfl)
theorem dX1_rule_15 : decode cX1_rule 15 = .ok (.istore_n 2, 1) := dk_61 (dk_at dksX1_rule_0 15 rfl rfl)
theorem dX1_rule_16 : decode cX1_rule 16 = .ok (.aload_n 0, 1) := dk_42 (dk_at dksX1_rule_0 16 rfl rfl)
theorem dX1_rule_17 : decode cX1_rule 17 = .ok (.iconst 0, 1) := dk_3 (dk_at dksX1_rule_0 17 rfl rfl)
theorem dX1_rule_18 : decode cX1_rule 18 = .ok (.putfield 114, 3) := dk_181 0 114 (dk_at dksX1_rule_0 18 rfl rfl)
theorem dX1_rule_21 : decode cX1_rule 21 = .ok (.iload_n 2, 1) := dk_28 (dk_at dksX1_rule_0 21 rfl rfl)
theorem dX1_rule_22 : decode cX1_rule 22 = .ok (.ifCond .ne 10, 3) := dk_154 0 10 (dk_at dksX1_rule_1 0 rfl rfl)
theorem dX1_rule_25 : decode cX1_rule 25 = .ok (.aload_n 0, 1) := dk_42 (dk_at dksX1_rule_1 3 rfl rfl)
theorem dX1_rule_26 : decode cX1_rule 26 = .ok (.aconst_null, 1) := dk_1 (dk_at dksX1_rule_1 4 rfl rfl)
theorem dX1_rule_27 : decode cX1_rule 27 = .ok (.putfield 220, 3) := dk_181 0 220 (dk_at dksX1_rule_1 5 rfl rfl)
theorem dX1_rule_30 : decode cX1_rule 30 = .ok (.iconst 0, 1) := dk_3 (dk_at dksX1_rule_1 8 rfl rfl)
theorem dX1_rule_31 : decode cX1_rule 31 = .ok (.ireturn, 1) := dk_172 (dk_at dksX1_rule_1 9 rfl rfl)
theorem dX1_rule_32 : decode cX1_rule 32 = .ok (.aload_n 0, 1) := dk_42 (dk_at dksX1_rule_1 10 rfl rfl)
theorem dX1_rule_33 : decode cX1_rule 33 = .ok (.new 224, 3) := dk_187 0 224 (dk_at dksX1_rule_1 11 rfl rfl)
theorem dX1_rule_36 : decode cX1_rule 36 = .ok (.dup, 1) := dk_89 (dk_at dksX1_rule_1 14 rfl rfl)
theorem dX1_rule_37 : decode cX1_rule 37 = .ok (.aload_n 0, 1) := dk_42 (dk_at dksX1_rule_1 15 rfl rfl)
theorem dX1_rule_38 : decode cX1_rule 38 = .ok (.aload_n 1, 1) := dk_43 (dk_at dksX1_rule_1 16 rfl rfl)
theorem dX1_rule_39 : decode cX1_rule 39 = .ok (.iload_n 2, 1) := dk_28 (dk_at dksX1_rule_1 17 rfl rfl)
theorem dX1_rule_40 : decode cX1_rule 40 = .ok (.invokespecial 226, 3) := dk_183 0 226 (dk_at dksX1_rule_1 18 rfl rfl)
theorem dX1_rule_43 : decode cX1_rule 43 = .ok (.invokevirtual 229, 3) := dk_182 0 229 (dk_at dksX1_rule_1 21 rfl rfl)
theorem dX1_rule_46 : decode cX1_rule 46 = .ok (.putfield 220, 3) := dk_181 0 220 (dk_at dksX1_rule_2 0 rfl rfl)
theorem dX1_rule_49 : decode cX1_rule 49 = .ok (.iconst 0, 1) := dk_3 (dk_at dksX1_rule_2 3 rfl rfl)
theorem dX1_rule_50 : decode cX1_rule 50 = .ok (.ireturn, 1) := dk_172 (dk_at dksX1_rule_2 4 rfl rfl)
theorem dX1_rule_51 : decode cX1_rule 51 = .ok (.astore_n 3, 1) := dk_78 (dk_at dksX1_rule_2 5 rfl rfl)
theorem dX1_rule_52 : decode cX1_rule 52 = .ok (.iconst (-1), 1) := dk_2 (dk_at dksX1_rule_2 6 rfl rfl)
theorem dX1_rule_53 : decode cX1_rule 53 = .ok (.aload_n 3, 1) := dk_45 (dk_at dksX1_rule_2 7 rfl rfl)
theorem dX1_rule_54 : decode cX1_rule 54 = .ok (.getfield 141, 3) := dk_180 0 141 (dk_at dksX1_rule_2 8 rfl rfl)
theorem dX1_rule_57 : decode cX1_rule 57 = .ok (.isub, 1) := dk_100 (dk_at dksX1_rule_2 11 rfl rfl)
theorem dX1_rule_58 : decode cX1_rule 58 = .ok (.ireturn, 1) := dk_172 (dk_at dksX1_rule_2 12 rfl rfl)
abbrev cX1_weatherOf : ByteArray := prog_1_method_17_code
def yX1_weatherOf : MethodName := ⟨RX1, "weatherOf", "(I)I"⟩
def dkwX1_weatherOf_0 : List UInt8 := [42, 180, 0, 24, 27, 42, 180, 0, 24, 190, 112, 51, 172]
abbrev dktX1_weatherOf_0 : List UInt8 := dkwX1_weatherOf_0 ++ []
theorem dksX1_weatherOf_0 : cX1_weatherOf.data.toList.drop 0 = dktX1_weatherOf_0 := by decide +kernel
theorem dX1_weatherOf_0 : decode cX1_weatherOf 0 = .ok (.aload_n 0, 1) := dk_42 (dk_at dksX1_weatherOf_0 0 rfl rfl)
theorem dX1_weatherOf_1 : decode cX1_weatherOf 1 = .ok (.getfield 24, 3) := dk_180 0 24 (dk_at dksX1_weatherOf_0 1 rfl rfl)
theorem dX1_weatherOf_4 : decode cX1_weatherOf 4 = .ok (.iload_n 1, 1) := dk_27 (dk_at dksX1_weatherOf_0 4 rfl rfl)
theorem dX1_weatherOf_5 : decode cX1_weatherOf 5 = .ok (.aload_n 0, 1) := dk_42 (dk_at dksX1_weatherOf_0 5 rfl rfl)
theorem dX1_weatherOf_6 : decode cX1_weatherOf 6 = .ok (.getfield 24, 3) := dk_180 0 24 (dk_at dksX1_weatherOf_0 6 rfl rfl)
theorem dX1_weatherOf_9 : decode cX1_weatherOf 9 = .ok (.arraylength, 1) := dk_190 (dk_at dksX1_weatherOf_0 9 rfl rfl)
theorem dX1_weatherOf_10 : decode cX1_weatherOf 10 = .ok (.irem, 1) := dk_112 (dk_at dksX1_weatherOf_0 10 rfl rfl)
theorem dX1_weatherOf_11 : decode cX1_weatherOf 11 = .ok (.baload, 1) := dk_51 (dk_at dksX1_weatherOf_0 11 rfl rfl)
theorem dX1_weatherOf_12 : decode cX1_weatherOf 12 = .ok (.ireturn, 1) := dk_172 (dk_at dksX1_weatherOf_0 12 rfl rfl)
abbrev cX1_sheet : ByteArray := prog_1_method_24_code
def yX1_sheet : MethodName := ⟨RX1, "sheet", "(IIII)I"⟩
def dkwX1_sheet_6 : List UInt8 := [199, 0, 8, 16, 253, 167, 0, 5, 21, 6, 172]
abbrev dktX1_sheet_6 : List UInt8 := dkwX1_sheet_6 ++ []
def dkwX1_sheet_5 : List UInt8 := [79, 21, 6, 42, 180, 0, 33, 180, 0, 198, 21, 7, 46, 96, 54, 6, 132, 7, 1, 167, 255, 170, 25, 5]
abbrev dktX1_sheet_5 : List UInt8 := dkwX1_sheet_5 ++ dktX1_sheet_6
def dkwX1_sheet_4 : List UInt8 := [3, 167, 0, 23, 3, 42, 180, 0, 20, 5, 100, 25, 5, 21, 7, 184, 1, 12, 184, 0, 206, 184, 0, 212]
abbrev dktX1_sheet_4 : List UInt8 := dkwX1_sheet_4 ++ dktX1_sheet_5
def dkwX1_sheet_3 : List UInt8 := [2, 160, 0, 48, 42, 180, 0, 33, 180, 0, 198, 21, 7, 25, 5, 198, 0, 9, 21, 7, 28, 161, 0, 7]
abbrev dktX1_sheet_3 : List UInt8 := dkwX1_sheet_3 ++ dktX1_sheet_4
def dkwX1_sheet_2 : List UInt8 := [54, 6, 3, 54, 7, 21, 7, 42, 180, 0, 105, 162, 0, 83, 42, 180, 0, 33, 180, 0, 203, 21, 7, 46]
abbrev dktX1_sheet_2 : List UInt8 := dkwX1_sheet_2 ++ dktX1_sheet_3
def dkwX1_sheet_1 : List UInt8 := [6, 162, 0, 21, 27, 28, 29, 21, 4, 184, 1, 6, 58, 5, 167, 0, 8, 58, 6, 16, 254, 172, 3]
abbrev dktX1_sheet_1 : List UInt8 := dkwX1_sheet_1 ++ dktX1_sheet_2
def dkwX1_sheet_0 : List UInt8 := [27, 133, 9, 20, 1, 4, 184, 0, 101, 153, 0, 9, 28, 16, 8, 164, 0, 5, 2, 172, 1, 58, 5, 27]
abbrev dktX1_sheet_0 : List UInt8 := dkwX1_sheet_0 ++ dktX1_sheet_1
theorem dksX1_sheet_0 : cX1_sheet.data.toList.drop 0 = dktX1_sheet_0 := by decide +kernel
theorem dksX1_sheet_1 : cX1_sheet.data.toList.drop 24 = dktX1_sheet_1 := dk_seg dksX1_sheet_0 24 rfl rfl
theorem dksX1_sheet_2 : cX1_sheet.data.toList.drop 47 = dktX1_sheet_2 := dk_seg dksX1_sheet_1 23 rfl rfl
theorem dksX1_sheet_3 : cX1_sheet.data.toList.drop 71 = dktX1_sheet_3 := dk_seg dksX1_sheet_2 24 rfl rfl
theorem dksX1_sheet_4 : cX1_sheet.data.toList.drop 95 = dktX1_sheet_4 := dk_seg dksX1_sheet_3 24 rfl rfl
theorem dksX1_sheet_5 : cX1_sheet.data.toList.drop 119 = dktX1_sheet_5 := dk_seg dksX1_sheet_4 24 rfl rfl
theorem dksX1_sheet_6 : cX1_sheet.data.toList.drop 143 = dktX1_sheet_6 := dk_seg dksX1_sheet_5 24 rfl rfl
theorem dX1_sheet_0 : decode cX1_sheet 0 = .ok (.iload_n 1, 1) := dk_27 (dk_at dksX1_sheet_0 0 rfl rfl)
theorem dX1_sheet_1 : decode cX1_sheet 1 = .ok (.i2l, 1) := dk_133 (dk_at dksX1_sheet_0 1 rfl rfl)
theorem dX1_sheet_2 : decode cX1_sheet 2 = .ok (.lconst 0, 1) := dk_9 (dk_at dksX1_sheet_0 2 rfl rfl)
theorem dX1_sheet_3 : decode cX1_sheet 3 = .ok (.ldc2_w 260, 3) := dk_20 1 4 (dk_at dksX1_sheet_0 3 rfl rfl)
theorem dX1_sheet_6 : decode cX1_sheet 6 = .ok (.invokestatic 101, 3) := dk_184 0 101 (dk_at dksX1_sheet_0 6 rfl rfl)
theorem dX1_sheet_9 : decode cX1_sheet 9 = .ok (.ifCond .eq 9, 3) := dk_153 0 9 (dk_at dksX1_sheet_0 9 rfl rfl)
theorem dX1_sheet_12 : decode cX1_sheet 12 = .ok (.iload_n 2, 1) := dk_28 (dk_at dksX1_sheet_0 12 rfl rfl)
theorem dX1_sheet_13 : decode cX1_sheet 13 = .ok (.bipush 8, 2) := dk_16 8 (dk_at dksX1_sheet_0 13 rfl rfl)
theorem dX1_sheet_15 : decode cX1_sheet 15 = .ok (.if_icmp .le 5, 3) := dk_164 0 5 (dk_at dksX1_sheet_0 15 rfl rfl)
theorem dX1_sheet_18 : decode cX1_sheet 18 = .ok (.iconst (-1), 1) := dk_2 (dk_at dksX1_sheet_0 18 rfl rfl)
theorem dX1_sheet_19 : decode cX1_sheet 19 = .ok (.ireturn, 1) := dk_172 (dk_at dksX1_sheet_0 19 rfl rfl)
theorem dX1_sheet_20 : decode cX1_sheet 20 = .ok (.aconst_null, 1) := dk_1 (dk_at dksX1_sheet_0 20 rfl rfl)
theorem dX1_sheet_21 : decode cX1_sheet 21 = .ok (.astore 5, 2) := dk_58 5 (dk_at dksX1_sheet_0 21 rfl rfl)
theorem dX1_sheet_23 : decode cX1_sheet 23 = .ok (.iload_n 1, 1) := dk_27 (dk_at dksX1_sheet_0 23 rfl rfl)
theorem dX1_sheet_24 : decode cX1_sheet 24 = .ok (.iconst 3, 1) := dk_6 (dk_at dksX1_sheet_1 0 rfl rfl)
theorem dX1_sheet_25 : decode cX1_sheet 25 = .ok (.if_icmp .ge 21, 3) := dk_162 0 21 (dk_at dksX1_sheet_1 1 rfl rfl)
theorem dX1_sheet_28 : decode cX1_sheet 28 = .ok (.iload_n 1, 1) := dk_27 (dk_at dksX1_sheet_1 4 rfl rfl)
theorem dX1_sheet_29 : decode cX1_sheet 29 = .ok (.iload_n 2, 1) := dk_28 (dk_at dksX1_sheet_1 5 rfl rfl)
theorem dX1_sheet_30 : decode cX1_sheet 30 = .ok (.iload_n 3, 1) := dk_29 (dk_at dksX1_sheet_1 6 rfl rfl)
theorem dX1_sheet_31 : decode cX1_sheet 31 = .ok (.iload 4, 2) := dk_21 4 (dk_at dksX1_sheet_1 7 rfl rfl)
theorem dX1_sheet_33 : decode cX1_sheet 33 = .ok (.invokestatic 262, 3) := dk_184 1 6 (dk_at dksX1_sheet_1 9 rfl rfl)
theorem dX1_sheet_36 : decode cX1_sheet 36 = .ok (.astore 5, 2) := dk_58 5 (dk_at dksX1_sheet_1 12 rfl rfl)
theorem dX1_sheet_38 : decode cX1_sheet 38 = .ok (.goto 8, 3) := dk_167 0 8 (dk_at dksX1_sheet_1 14 rfl rfl)
theorem dX1_sheet_41 : decode cX1_sheet 41 = .ok (.astore 6, 2) := dk_58 6 (dk_at dksX1_sheet_1 17 rfl rfl)
theorem dX1_sheet_43 : decode cX1_sheet 43 = .ok (.bipush (-2), 2) := dk_16 254 (dk_at dksX1_sheet_1 19 rfl rfl)
theorem dX1_sheet_45 : decode cX1_sheet 45 = .ok (.ireturn, 1) := dk_172 (dk_at dksX1_sheet_1 21 rfl rfl)
theorem dX1_sheet_46 : decode cX1_sheet 46 = .ok (.iconst 0, 1) := dk_3 (dk_at dksX1_sheet_1 22 rfl rfl)
theorem dX1_sheet_47 : decode cX1_sheet 47 = .ok (.istore 6, 2) := dk_54 6 (dk_at dksX1_sheet_2 0 rfl rfl)
theorem dX1_sheet_49 : decode cX1_sheet 49 = .ok (.iconst 0, 1) := dk_3 (dk_at dksX1_sheet_2 2 rfl rfl)
theorem dX1_sheet_50 : decode cX1_sheet 50 = .ok (.istore 7, 2) := dk_54 7 (dk_at dksX1_sheet_2 3 rfl rfl)
theorem dX1_sheet_52 : decode cX1_sheet 52 = .ok (.iload 7, 2) := dk_21 7 (dk_at dksX1_sheet_2 5 rfl rfl)
theorem dX1_sheet_54 : decode cX1_sheet 54 = .ok (.aload_n 0, 1) := dk_42 (dk_at dksX1_sheet_2 7 rfl rfl)
theorem dX1_sheet_55 : decode cX1_sheet 55 = .ok (.getfield 105, 3) := dk_180 0 105 (dk_at dksX1_sheet_2 8 rfl rfl)
theorem dX1_sheet_58 : decode cX1_sheet 58 = .ok (.if_icmp .ge 83, 3) := dk_162 0 83 (dk_at dksX1_sheet_2 11 rfl rfl)
theorem dX1_sheet_61 : decode cX1_sheet 61 = .ok (.aload_n 0, 1) := dk_42 (dk_at dksX1_sheet_2 14 rfl rfl)
theorem dX1_sheet_62 : decode cX1_sheet 62 = .ok (.getfield 33, 3) := dk_180 0 33 (dk_at dksX1_sheet_2 15 rfl rfl)
theorem dX1_sheet_65 : decode cX1_sheet 65 = .ok (.getfield 203, 3) := dk_180 0 203 (dk_at dksX1_sheet_2 18 rfl rfl)
theorem dX1_sheet_68 : decode cX1_sheet 68 = .ok (.iload 7, 2) := dk_21 7 (dk_at dksX1_sheet_2 21 rfl rfl)
theorem dX1_sheet_70 : decode cX1_sheet 70 = .ok (.iaload, 1) := dk_46 (dk_at dksX1_sheet_2 23 rfl rfl)
theorem dX1_sheet_71 : decode cX1_sheet 71 = .ok (.iconst (-1), 1) := dk_2 (dk_at dksX1_sheet_3 0 rfl rfl)
theorem dX1_sheet_72 : decode cX1_sheet 72 = .ok (.if_icmp .ne 48, 3) := dk_160 0 48 (dk_at dksX1_sheet_3 1 rfl rfl)
theorem dX1_sheet_75 : decode cX1_sheet 75 = .ok (.aload_n 0, 1) := dk_42 (dk_at dksX1_sheet_3 4 rfl rfl)
theorem dX1_sheet_76 : decode cX1_sheet 76 = .ok (.getfield 33, 3) := dk_180 0 33 (dk_at dksX1_sheet_3 5 rfl rfl)
theorem dX1_sheet_79 : decode cX1_sheet 79 = .ok (.getfield 198, 3) := dk_180 0 198 (dk_at dksX1_sheet_3 8 rfl rfl)
theorem dX1_sheet_82 : decode cX1_sheet 82 = .ok (.iload 7, 2) := dk_21 7 (dk_at dksX1_sheet_3 11 rfl rfl)
theorem dX1_sheet_84 : decode cX1_sheet 84 = .ok (.aload 5, 2) := dk_25 5 (dk_at dksX1_sheet_3 13 rfl rfl)
theorem dX1_sheet_86 : decode cX1_sheet 86 = .ok (.ifnull 9, 3) := dk_198 0 9 (dk_at dksX1_sheet_3 15 rfl rfl)
theorem dX1_sheet_89 : decode cX1_sheet 89 = .ok (.iload 7, 2) := dk_21 7 (dk_at dksX1_sheet_3 18 rfl rfl)
theorem dX1_sheet_91 : decode cX1_sheet 91 = .ok (.iload_n 2, 1) := dk_28 (dk_at dksX1_sheet_3 20 rfl rfl)
theorem dX1_sheet_92 : decode cX1_sheet 92 = .ok (.if_icmp .lt 7, 3) := dk_161 0 7 (dk_at dksX1_sheet_3 21 rfl rfl)
theorem dX1_sheet_95 : decode cX1_sheet 95 = .ok (.iconst 0, 1) := dk_3 (dk_at dksX1_sheet_4 0 rfl rfl)
theorem dX1_sheet_96 : decode cX1_sheet 96 = .ok (.goto 23, 3) := dk_167 0 23 (dk_at dksX1_sheet_4 1 rfl rfl)
theorem dX1_sheet_99 : decode cX1_sheet 99 = .ok (.iconst 0, 1) := dk_3 (dk_at dksX1_sheet_4 4 rfl rfl)
theorem dX1_sheet_100 : decode cX1_sheet 100 = .ok (.aload_n 0, 1) := dk_42 (dk_at dksX1_sheet_4 5 rfl rfl)
theorem dX1_sheet_101 : decode cX1_sheet 101 = .ok (.getfield 20, 3) := dk_180 0 20 (dk_at dksX1_sheet_4 6 rfl rfl)
theorem dX1_sheet_104 : decode cX1_sheet 104 = .ok (.iconst 2, 1) := dk_5 (dk_at dksX1_sheet_4 9 rfl rfl)
theorem dX1_sheet_105 : decode cX1_sheet 105 = .ok (.isub, 1) := dk_100 (dk_at dksX1_sheet_4 10 rfl rfl)
theorem dX1_sheet_106 : decode cX1_sheet 106 = .ok (.aload 5, 2) := dk_25 5 (dk_at dksX1_sheet_4 11 rfl rfl)
theorem dX1_sheet_108 : decode cX1_sheet 108 = .ok (.iload 7, 2) := dk_21 7 (dk_at dksX1_sheet_4 13 rfl rfl)
theorem dX1_sheet_110 : decode cX1_sheet 110 = .ok (.invokestatic 268, 3) := dk_184 1 12 (dk_at dksX1_sheet_4 15 rfl rfl)
theorem dX1_sheet_113 : decode cX1_sheet 113 = .ok (.invokestatic 206, 3) := dk_184 0 206 (dk_at dksX1_sheet_4 18 rfl rfl)
theorem dX1_sheet_116 : decode cX1_sheet 116 = .ok (.invokestatic 212, 3) := dk_184 0 212 (dk_at dksX1_sheet_4 21 rfl rfl)
theorem dX1_sheet_119 : decode cX1_sheet 119 = .ok (.iastore, 1) := dk_79 (dk_at dksX1_sheet_5 0 rfl rfl)
theorem dX1_sheet_120 : decode cX1_sheet 120 = .ok (.iload 6, 2) := dk_21 6 (dk_at dksX1_sheet_5 1 rfl rfl)
theorem dX1_sheet_122 : decode cX1_sheet 122 = .ok (.aload_n 0, 1) := dk_42 (dk_at dksX1_sheet_5 3 rfl rfl)
theorem dX1_sheet_123 : decode cX1_sheet 123 = .ok (.getfield 33, 3) := dk_180 0 33 (dk_at dksX1_sheet_5 4 rfl rfl)
theorem dX1_sheet_126 : decode cX1_sheet 126 = .ok (.getfield 198, 3) := dk_180 0 198 (dk_at dksX1_sheet_5 7 rfl rfl)
theorem dX1_sheet_129 : decode cX1_sheet 129 = .ok (.iload 7, 2) := dk_21 7 (dk_at dksX1_sheet_5 10 rfl rfl)
theorem dX1_sheet_131 : decode cX1_sheet 131 = .ok (.iaload, 1) := dk_46 (dk_at dksX1_sheet_5 12 rfl rfl)
theorem dX1_sheet_132 : decode cX1_sheet 132 = .ok (.iadd, 1) := dk_96 (dk_at dksX1_sheet_5 13 rfl rfl)
theorem dX1_sheet_133 : decode cX1_sheet 133 = .ok (.istore 6, 2) := dk_54 6 (dk_at dksX1_sheet_5 14 rfl rfl)
theorem dX1_sheet_135 : decode cX1_sheet 135 = .ok (.iinc 7 1, 3) := dk_132 7 1 (dk_at dksX1_sheet_5 16 rfl rfl)
theorem dX1_sheet_138 : decode cX1_sheet 138 = .ok (.goto (-86), 3) := dk_167 255 170 (dk_at dksX1_sheet_5 19 rfl rfl)
theorem dX1_sheet_141 : decode cX1_sheet 141 = .ok (.aload 5, 2) := dk_25 5 (dk_at dksX1_sheet_5 22 rfl rfl)
theorem dX1_sheet_143 : decode cX1_sheet 143 = .ok (.ifnonnull 8, 3) := dk_199 0 8 (dk_at dksX1_sheet_6 0 rfl rfl)
theorem dX1_sheet_146 : decode cX1_sheet 146 = .ok (.bipush (-3), 2) := dk_16 253 (dk_at dksX1_sheet_6 3 rfl rfl)
theorem dX1_sheet_148 : decode cX1_sheet 148 = .ok (.goto 5, 3) := dk_167 0 5 (dk_at dksX1_sheet_6 5 rfl rfl)
theorem dX1_sheet_151 : decode cX1_sheet 151 = .ok (.iload 6, 2) := dk_21 6 (dk_at dksX1_sheet_6 8 rfl rfl)
theorem dX1_sheet_153 : decode cX1_sheet 153 = .ok (.ireturn, 1) := dk_172 (dk_at dksX1_sheet_6 10 rfl rfl)
abbrev cX1_rowOf : ByteArray := prog_1_method_22_code
def yX1_rowOf : MethodName := ⟨RX1, "rowOf", "(IIII)Ljava/lang/Object;"⟩
def dkwX1_rowOf_5 : List UInt8 := [167, 255, 234, 25, 5, 176]
abbrev dktX1_rowOf_5 : List UInt8 := dkwX1_rowOf_5 ++ []
def dkwX1_rowOf_4 : List UInt8 := [21, 6, 27, 162, 0, 22, 25, 5, 21, 6, 21, 4, 79, 132, 6, 1, 21, 4, 29, 96, 54, 4]
abbrev dktX1_rowOf_4 : List UInt8 := dkwX1_rowOf_4 ++ dktX1_rowOf_5
def dkwX1_rowOf_3 : List UInt8 := [86, 132, 6, 1, 21, 4, 29, 96, 54, 4, 167, 255, 233, 25, 5, 176, 27, 188, 10, 58, 5, 3, 54, 6]
abbrev dktX1_rowOf_3 : List UInt8 := dkwX1_rowOf_3 ++ dktX1_rowOf_4
def dkwX1_rowOf_2 : List UInt8 := [160, 0, 40, 27, 188, 9, 58, 5, 3, 54, 6, 21, 6, 27, 162, 0, 23, 25, 5, 21, 6, 21, 4, 147]
abbrev dktX1_rowOf_2 : List UInt8 := dkwX1_rowOf_2 ++ dktX1_rowOf_3
def dkwX1_rowOf_1 : List UInt8 := [21, 6, 21, 4, 145, 84, 132, 6, 1, 21, 4, 29, 96, 54, 4, 167, 255, 233, 25, 5, 176, 26, 4]
abbrev dktX1_rowOf_1 : List UInt8 := dkwX1_rowOf_1 ++ dktX1_rowOf_2
def dkwX1_rowOf_0 : List UInt8 := [28, 54, 4, 26, 154, 0, 40, 27, 188, 8, 58, 5, 3, 54, 6, 21, 6, 27, 162, 0, 23, 25, 5]
abbrev dktX1_rowOf_0 : List UInt8 := dkwX1_rowOf_0 ++ dktX1_rowOf_1
theorem dksX1_rowOf_0 : cX1_rowOf.data.toList.drop 0 = dktX1_rowOf_0 := by decide +kernel
theorem dksX1_rowOf_1 : cX1_rowOf.data.toList.drop 23 = dktX1_rowOf_1 := dk_seg dksX1_rowOf_0 23 rfl rfl
theorem dksX1_rowOf_2 : cX1_rowOf.data.toList.drop 46 = dktX1_rowOf_2 := dk_seg dksX1_rowOf_1 23 rfl rfl
theorem dksX1_rowOf_3 : cX1_rowOf.data.toList.drop 70 = dktX1_rowOf_3 := dk_seg dksX1_rowOf_2 24 rfl rfl
theorem dksX1_rowOf_4 : cX1_rowOf.data.toList.drop 94 = dktX1_rowOf_4 := dk_seg dksX1_rowOf_3 24 rfl rfl
theorem dksX1_rowOf_5 : cX1_rowOf.data.toList.drop 116 = dktX1_rowOf_5 := dk_seg dksX1_rowOf_4 22 rfl rfl
theorem dX1_rowOf_0 : decode cX1_rowOf 0 = .ok (.iload_n 2, 1) := dk_28 (dk_at dksX1_rowOf_0 0 rfl rfl)
theorem dX1_rowOf_1 : decode cX1_rowOf 1 = .ok (.istore 4, 2) := dk_54 4 (dk_at dksX1_rowOf_0 1 rfl rfl)
theorem dX1_rowOf_3 : decode cX1_rowOf 3 = .ok (.iload_n 0, 1) := dk_26 (dk_at dksX1_rowOf_0 3 rfl rfl)
theorem dX1_rowOf_4 : decode cX1_rowOf 4 = .ok (.ifCond .ne 40, 3) := dk_154 0 40 (dk_at dksX1_rowOf_0 4 rfl rfl)
theorem dX1_rowOf_7 : decode cX1_rowOf 7 = .ok (.iload_n 1, 1) := dk_27 (dk_at dksX1_rowOf_0 7 rfl rfl)
theorem dX1_rowOf_8 : decode cX1_rowOf 8 = .ok (.newarray .byte, 2) := dk_188_8 (dk_at dksX1_rowOf_0 8 rfl rfl)
theorem dX1_rowOf_10 : decode cX1_rowOf 10 = .ok (.astore 5, 2) := dk_58 5 (dk_at dksX1_rowOf_0 10 rfl rfl)
theorem dX1_rowOf_12 : decode cX1_rowOf 12 = .ok (.iconst 0, 1) := dk_3 (dk_at dksX1_rowOf_0 12 rfl rfl)
theorem dX1_rowOf_13 : decode cX1_rowOf 13 = .ok (.istore 6, 2) := dk_54 6 (dk_at dksX1_rowOf_0 13 rfl rfl)
theorem dX1_rowOf_15 : decode cX1_rowOf 15 = .ok (.iload 6, 2) := dk_21 6 (dk_at dksX1_rowOf_0 15 rfl rfl)
theorem dX1_rowOf_17 : decode cX1_rowOf 17 = .ok (.iload_n 1, 1) := dk_27 (dk_at dksX1_rowOf_0 17 rfl rfl)
theorem dX1_rowOf_18 : decode cX1_rowOf 18 = .ok (.if_icmp .ge 23, 3) := dk_162 0 23 (dk_at dksX1_rowOf_0 18 rfl rfl)
theorem dX1_rowOf_21 : decode cX1_rowOf 21 = .ok (.aload 5, 2) := dk_25 5 (dk_at dksX1_rowOf_0 21 rfl rfl)
theorem dX1_rowOf_23 : decode cX1_rowOf 23 = .ok (.iload 6, 2) := dk_21 6 (dk_at dksX1_rowOf_1 0 rfl rfl)
theorem dX1_rowOf_25 : decode cX1_rowOf 25 = .ok (.iload 4, 2) := dk_21 4 (dk_at dksX1_rowOf_1 2 rfl rfl)
theorem dX1_rowOf_27 : decode cX1_rowOf 27 = .ok (.i2b, 1) := dk_145 (dk_at dksX1_rowOf_1 4 rfl rfl)
theorem dX1_rowOf_28 : decode cX1_rowOf 28 = .ok (.bastore, 1) := dk_84 (dk_at dksX1_rowOf_1 5 rfl rfl)
theorem dX1_rowOf_29 : decode cX1_rowOf 29 = .ok (.iinc 6 1, 3) := dk_132 6 1 (dk_at dksX1_rowOf_1 6 rfl rfl)
theorem dX1_rowOf_32 : decode cX1_rowOf 32 = .ok (.iload 4, 2) := dk_21 4 (dk_at dksX1_rowOf_1 9 rfl rfl)
theorem dX1_rowOf_34 : decode cX1_rowOf 34 = .ok (.iload_n 3, 1) := dk_29 (dk_at dksX1_rowOf_1 11 rfl rfl)
theorem dX1_rowOf_35 : decode cX1_rowOf 35 = .ok (.iadd, 1) := dk_96 (dk_at dksX1_rowOf_1 12 rfl rfl)
theorem dX1_rowOf_36 : decode cX1_rowOf 36 = .ok (.istore 4, 2) := dk_54 4 (dk_at dksX1_rowOf_1 13 rfl rfl)
theorem dX1_rowOf_38 : decode cX1_rowOf 38 = .ok (.goto (-23), 3) := dk_167 255 233 (dk_at dksX1_rowOf_1 15 rfl rfl)
theorem dX1_rowOf_41 : decode cX1_rowOf 41 = .ok (.aload 5, 2) := dk_25 5 (dk_at dksX1_rowOf_1 18 rfl rfl)
theorem dX1_rowOf_43 : decode cX1_rowOf 43 = .ok (.areturn, 1) := dk_176 (dk_at dksX1_rowOf_1 20 rfl rfl)
theorem dX1_rowOf_44 : decode cX1_rowOf 44 = .ok (.iload_n 0, 1) := dk_26 (dk_at dksX1_rowOf_1 21 rfl rfl)
theorem dX1_rowOf_45 : decode cX1_rowOf 45 = .ok (.iconst 1, 1) := dk_4 (dk_at dksX1_rowOf_1 22 rfl rfl)
theorem dX1_rowOf_46 : decode cX1_rowOf 46 = .ok (.if_icmp .ne 40, 3) := dk_160 0 40 (dk_at dksX1_rowOf_2 0 rfl rfl)
theorem dX1_rowOf_49 : decode cX1_rowOf 49 = .ok (.iload_n 1, 1) := dk_27 (dk_at dksX1_rowOf_2 3 rfl rfl)
theorem dX1_rowOf_50 : decode cX1_rowOf 50 = .ok (.newarray .short, 2) := dk_188_9 (dk_at dksX1_rowOf_2 4 rfl rfl)
theorem dX1_rowOf_52 : decode cX1_rowOf 52 = .ok (.astore 5, 2) := dk_58 5 (dk_at dksX1_rowOf_2 6 rfl rfl)
theorem dX1_rowOf_54 : decode cX1_rowOf 54 = .ok (.iconst 0, 1) := dk_3 (dk_at dksX1_rowOf_2 8 rfl rfl)
theorem dX1_rowOf_55 : decode cX1_rowOf 55 = .ok (.istore 6, 2) := dk_54 6 (dk_at dksX1_rowOf_2 9 rfl rfl)
theorem dX1_rowOf_57 : decode cX1_rowOf 57 = .ok (.iload 6, 2) := dk_21 6 (dk_at dksX1_rowOf_2 11 rfl rfl)
theorem dX1_rowOf_59 : decode cX1_rowOf 59 = .ok (.iload_n 1, 1) := dk_27 (dk_at dksX1_rowOf_2 13 rfl rfl)
theorem dX1_rowOf_60 : decode cX1_rowOf 60 = .ok (.if_icmp .ge 23, 3) := dk_162 0 23 (dk_at dksX1_rowOf_2 14 rfl rfl)
theorem dX1_rowOf_63 : decode cX1_rowOf 63 = .ok (.aload 5, 2) := dk_25 5 (dk_at dksX1_rowOf_2 17 rfl rfl)
theorem dX1_rowOf_65 : decode cX1_rowOf 65 = .ok (.iload 6, 2) := dk_21 6 (dk_at dksX1_rowOf_2 19 rfl rfl)
theorem dX1_rowOf_67 : decode cX1_rowOf 67 = .ok (.iload 4, 2) := dk_21 4 (dk_at dksX1_rowOf_2 21 rfl rfl)
theorem dX1_rowOf_69 : decode cX1_rowOf 69 = .ok (.i2s, 1) := dk_147 (dk_at dksX1_rowOf_2 23 rfl rfl)
theorem dX1_rowOf_70 : decode cX1_rowOf 70 = .ok (.sastore, 1) := dk_86 (dk_at dksX1_rowOf_3 0 rfl rfl)
theorem dX1_rowOf_71 : decode cX1_rowOf 71 = .ok (.iinc 6 1, 3) := dk_132 6 1 (dk_at dksX1_rowOf_3 1 rfl rfl)
theorem dX1_rowOf_74 : decode cX1_rowOf 74 = .ok (.iload 4, 2) := dk_21 4 (dk_at dksX1_rowOf_3 4 rfl rfl)
theorem dX1_rowOf_76 : decode cX1_rowOf 76 = .ok (.iload_n 3, 1) := dk_29 (dk_at dksX1_rowOf_3 6 rfl rfl)
theorem dX1_rowOf_77 : decode cX1_rowOf 77 = .ok (.iadd, 1) := dk_96 (dk_at dksX1_rowOf_3 7 rfl rfl)
theorem dX1_rowOf_78 : decode cX1_rowOf 78 = .ok (.istore 4, 2) := dk_54 4 (dk_at dksX1_rowOf_3 8 rfl rfl)
theorem dX1_rowOf_80 : decode cX1_rowOf 80 = .ok (.goto (-23), 3) := dk_167 255 233 (dk_at dksX1_rowOf_3 10 rfl rfl)
theorem dX1_rowOf_83 : decode cX1_rowOf 83 = .ok (.aload 5, 2) := dk_25 5 (dk_at dksX1_rowOf_3 13 rfl rfl)
theorem dX1_rowOf_85 : decode cX1_rowOf 85 = .ok (.areturn, 1) := dk_176 (dk_at dksX1_rowOf_3 15 rfl rfl)
theorem dX1_rowOf_86 : decode cX1_rowOf 86 = .ok (.iload_n 1, 1) := dk_27 (dk_at dksX1_rowOf_3 16 rfl rfl)
theorem dX1_rowOf_87 : decode cX1_rowOf 87 = .ok (.newarray .int, 2) := dk_188_10 (dk_at dksX1_rowOf_3 17 rfl rfl)
theorem dX1_rowOf_89 : decode cX1_rowOf 89 = .ok (.astore 5, 2) := dk_58 5 (dk_at dksX1_rowOf_3 19 rfl rfl)
theorem dX1_rowOf_91 : decode cX1_rowOf 91 = .ok (.iconst 0, 1) := dk_3 (dk_at dksX1_rowOf_3 21 rfl rfl)
theorem dX1_rowOf_92 : decode cX1_rowOf 92 = .ok (.istore 6, 2) := dk_54 6 (dk_at dksX1_rowOf_3 22 rfl rfl)
theorem dX1_rowOf_94 : decode cX1_rowOf 94 = .ok (.iload 6, 2) := dk_21 6 (dk_at dksX1_rowOf_4 0 rfl rfl)
theorem dX1_rowOf_96 : decode cX1_rowOf 96 = .ok (.iload_n 1, 1) := dk_27 (dk_at dksX1_rowOf_4 2 rfl rfl)
theorem dX1_rowOf_97 : decode cX1_rowOf 97 = .ok (.if_icmp .ge 22, 3) := dk_162 0 22 (dk_at dksX1_rowOf_4 3 rfl rfl)
theorem dX1_rowOf_100 : decode cX1_rowOf 100 = .ok (.aload 5, 2) := dk_25 5 (dk_at dksX1_rowOf_4 6 rfl rfl)
theorem dX1_rowOf_102 : decode cX1_rowOf 102 = .ok (.iload 6, 2) := dk_21 6 (dk_at dksX1_rowOf_4 8 rfl rfl)
theorem dX1_rowOf_104 : decode cX1_rowOf 104 = .ok (.iload 4, 2) := dk_21 4 (dk_at dksX1_rowOf_4 10 rfl rfl)
theorem dX1_rowOf_106 : decode cX1_rowOf 106 = .ok (.iastore, 1) := dk_79 (dk_at dksX1_rowOf_4 12 rfl rfl)
theorem dX1_rowOf_107 : decode cX1_rowOf 107 = .ok (.iinc 6 1, 3) := dk_132 6 1 (dk_at dksX1_rowOf_4 13 rfl rfl)
theorem dX1_rowOf_110 : decode cX1_rowOf 110 = .ok (.iload 4, 2) := dk_21 4 (dk_at dksX1_rowOf_4 16 rfl rfl)
theorem dX1_rowOf_112 : decode cX1_rowOf 112 = .ok (.iload_n 3, 1) := dk_29 (dk_at dksX1_rowOf_4 18 rfl rfl)
theorem dX1_rowOf_113 : decode cX1_rowOf 113 = .ok (.iadd, 1) := dk_96 (dk_at dksX1_rowOf_4 19 rfl rfl)
theorem dX1_rowOf_114 : decode cX1_rowOf 114 = .ok (.istore 4, 2) := dk_54 4 (dk_at dksX1_rowOf_4 20 rfl rfl)
theorem dX1_rowOf_116 : decode cX1_rowOf 116 = .ok (.goto (-22), 3) := dk_167 255 234 (dk_at dksX1_rowOf_5 0 rfl rfl)
theorem dX1_rowOf_119 : decode cX1_rowOf 119 = .ok (.aload 5, 2) := dk_25 5 (dk_at dksX1_rowOf_5 3 rfl rfl)
theorem dX1_rowOf_121 : decode cX1_rowOf 121 = .ok (.areturn, 1) := dk_176 (dk_at dksX1_rowOf_5 5 rfl rfl)
abbrev cX1_entry : ByteArray := prog_1_method_23_code
def yX1_entry : MethodName := ⟨RX1, "entry", "(Ljava/lang/Object;I)I"⟩
def dkwX1_entry_1 : List UInt8 := [192, 1, 1, 27, 53, 167, 0, 9, 42, 192, 1, 3, 27, 46, 172]
abbrev dktX1_entry_1 : List UInt8 := dkwX1_entry_1 ++ []
def dkwX1_entry_0 : List UInt8 := [42, 193, 0, 216, 153, 0, 10, 42, 192, 0, 216, 27, 51, 172, 42, 193, 1, 1, 153, 0, 12, 42]
abbrev dktX1_entry_0 : List UInt8 := dkwX1_entry_0 ++ dktX1_entry_1
theorem dksX1_entry_0 : cX1_entry.data.toList.drop 0 = dktX1_entry_0 := by decide +kernel
theorem dksX1_entry_1 : cX1_entry.data.toList.drop 22 = dktX1_entry_1 := dk_seg dksX1_entry_0 22 rfl rfl
theorem dX1_entry_0 : decode cX1_entry 0 = .ok (.aload_n 0, 1) := dk_42 (dk_at dksX1_entry_0 0 rfl rfl)
theorem dX1_entry_1 : decode cX1_entry 1 = .ok (.instanceof 216, 3) := dk_193 0 216 (dk_at dksX1_entry_0 1 rfl rfl)
theorem dX1_entry_4 : decode cX1_entry 4 = .ok (.ifCond .eq 10, 3) := dk_153 0 10 (dk_at dksX1_entry_0 4 rfl rfl)
theorem dX1_entry_7 : decode cX1_entry 7 = .ok (.aload_n 0, 1) := dk_42 (dk_at dksX1_entry_0 7 rfl rfl)
theorem dX1_entry_8 : decode cX1_entry 8 = .ok (.checkcast 216, 3) := dk_192 0 216 (dk_at dksX1_entry_0 8 rfl rfl)
theorem dX1_entry_11 : decode cX1_entry 11 = .ok (.iload_n 1, 1) := dk_27 (dk_at dksX1_entry_0 11 rfl rfl)
theorem dX1_entry_12 : decode cX1_entry 12 = .ok (.baload, 1) := dk_51 (dk_at dksX1_entry_0 12 rfl rfl)
theorem dX1_entry_13 : decode cX1_entry 13 = .ok (.ireturn, 1) := dk_172 (dk_at dksX1_entry_0 13 rfl rfl)
theorem dX1_entry_14 : decode cX1_entry 14 = .ok (.aload_n 0, 1) := dk_42 (dk_at dksX1_entry_0 14 rfl rfl)
theorem dX1_entry_15 : decode cX1_entry 15 = .ok (.instanceof 257, 3) := dk_193 1 1 (dk_at dksX1_entry_0 15 rfl rfl)
theorem dX1_entry_18 : decode cX1_entry 18 = .ok (.ifCond .eq 12, 3) := dk_153 0 12 (dk_at dksX1_entry_0 18 rfl rfl)
theorem dX1_entry_21 : decode cX1_entry 21 = .ok (.aload_n 0, 1) := dk_42 (dk_at dksX1_entry_0 21 rfl rfl)
theorem dX1_entry_22 : decode cX1_entry 22 = .ok (.checkcast 257, 3) := dk_192 1 1 (dk_at dksX1_entry_1 0 rfl rfl)
theorem dX1_entry_25 : decode cX1_entry 25 = .ok (.iload_n 1, 1) := dk_27 (dk_at dksX1_entry_1 3 rfl rfl)
theorem dX1_entry_26 : decode cX1_entry 26 = .ok (.saload, 1) := dk_53 (dk_at dksX1_entry_1 4 rfl rfl)
theorem dX1_entry_27 : decode cX1_entry 27 = .ok (.goto 9, 3) := dk_167 0 9 (dk_at dksX1_entry_1 5 rfl rfl)
theorem dX1_entry_30 : decode cX1_entry 30 = .ok (.aload_n 0, 1) := dk_42 (dk_at dksX1_entry_1 8 rfl rfl)
theorem dX1_entry_31 : decode cX1_entry 31 = .ok (.checkcast 259, 3) := dk_192 1 3 (dk_at dksX1_entry_1 9 rfl rfl)
theorem dX1_entry_34 : decode cX1_entry 34 = .ok (.iload_n 1, 1) := dk_27 (dk_at dksX1_entry_1 12 rfl rfl)
theorem dX1_entry_35 : decode cX1_entry 35 = .ok (.iaload, 1) := dk_46 (dk_at dksX1_entry_1 13 rfl rfl)
theorem dX1_entry_36 : decode cX1_entry 36 = .ok (.ireturn, 1) := dk_172 (dk_at dksX1_entry_1 14 rfl rfl)
abbrev cX1_steps : ByteArray := prog_1_method_27_code
def yX1_steps : MethodName := ⟨RX1, "steps", "(I)I"⟩
def dkwX1_steps_4 : List UInt8 := [180, 0, 153, 172]
abbrev dktX1_steps_4 : List UInt8 := dkwX1_steps_4 ++ []
def dkwX1_steps_3 : List UInt8 := [184, 1, 31, 133, 182, 1, 35, 42, 180, 0, 33, 42, 180, 0, 40, 182, 1, 16, 42, 180, 0, 33]
abbrev dktX1_steps_3 : List UInt8 := dkwX1_steps_3 ++ dktX1_steps_4
def dkwX1_steps_2 : List UInt8 := [42, 180, 0, 40, 180, 1, 28, 184, 1, 31, 133, 182, 1, 35, 42, 42, 180, 0, 40, 180, 1, 39]
abbrev dktX1_steps_2 : List UInt8 := dkwX1_steps_2 ++ dktX1_steps_3
def dkwX1_steps_1 : List UInt8 := [180, 0, 40, 42, 180, 0, 33, 182, 1, 16, 42, 180, 0, 40, 27, 182, 1, 25, 42, 3, 181, 0, 95, 42]
abbrev dktX1_steps_1 : List UInt8 := dkwX1_steps_1 ++ dktX1_steps_2
def dkwX1_steps_0 : List UInt8 := [27, 133, 9, 20, 1, 20, 184, 0, 101, 154, 0, 5, 2, 172, 42, 42, 180, 0, 33, 182, 1, 22, 42]
abbrev dktX1_steps_0 : List UInt8 := dkwX1_steps_0 ++ dktX1_steps_1
theorem dksX1_steps_0 : cX1_steps.data.toList.drop 0 = dktX1_steps_0 := by decide +kernel
theorem dksX1_steps_1 : cX1_steps.data.toList.drop 23 = dktX1_steps_1 := dk_seg dksX1_steps_0 23 rfl rfl
theorem dksX1_steps_2 : cX1_steps.data.toList.drop 47 = dktX1_steps_2 := dk_seg dksX1_steps_1 24 rfl rfl
theorem dksX1_steps_3 : cX1_steps.data.toList.drop 69 = dktX1_steps_3 := dk_seg dksX1_steps_2 22 rfl rfl
theorem dksX1_steps_4 : cX1_steps.data.toList.drop 91 = dktX1_steps_4 := dk_seg dksX1_steps_3 22 rfl rfl
theorem dX1_steps_0 : decode cX1_steps 0 = .ok (.iload_n 1, 1) := dk_27 (dk_at dksX1_steps_0 0 rfl rfl)
theorem dX1_steps_1 : decode cX1_steps 1 = .ok (.i2l, 1) := dk_133 (dk_at dksX1_steps_0 1 rfl rfl)
theorem dX1_steps_2 : decode cX1_steps 2 = .ok (.lconst 0, 1) := dk_9 (dk_at dksX1_steps_0 2 rfl rfl)
theorem dX1_steps_3 : decode cX1_steps 3 = .ok (.ldc2_w 276, 3) := dk_20 1 20 (dk_at dksX1_steps_0 3 rfl rfl)
theorem dX1_steps_6 : decode cX1_steps 6 = .ok (.invokestatic 101, 3) := dk_184 0 101 (dk_at dksX1_steps_0 6 rfl rfl)
theorem dX1_steps_9 : decode cX1_steps 9 = .ok (.ifCond .ne 5, 3) := dk_154 0 5 (dk_at dksX1_steps_0 9 rfl rfl)
theorem dX1_steps_12 : decode cX1_steps 12 = .ok (.iconst (-1), 1) := dk_2 (dk_at dksX1_steps_0 12 rfl rfl)
theorem dX1_steps_13 : decode cX1_steps 13 = .ok (.ireturn, 1) := dk_172 (dk_at dksX1_steps_0 13 rfl rfl)
theorem dX1_steps_14 : decode cX1_steps 14 = .ok (.aload_n 0, 1) := dk_42 (dk_at dksX1_steps_0 14 rfl rfl)
theorem dX1_steps_15 : decode cX1_steps 15 = .ok (.aload_n 0, 1) := dk_42 (dk_at dksX1_steps_0 15 rfl rfl)
theorem dX1_steps_16 : decode cX1_steps 16 = .ok (.getfield 33, 3) := dk_180 0 33 (dk_at dksX1_steps_0 16 rfl rfl)
theorem dX1_steps_19 : decode cX1_steps 19 = .ok (.invokevirtual 278, 3) := dk_182 1 22 (dk_at dksX1_steps_0 19 rfl rfl)
theorem dX1_steps_22 : decode cX1_steps 22 = .ok (.aload_n 0, 1) := dk_42 (dk_at dksX1_steps_0 22 rfl rfl)
theorem dX1_steps_23 : decode cX1_steps 23 = .ok (.getfield 40, 3) := dk_180 0 40 (dk_at dksX1_steps_1 0 rfl rfl)
theorem dX1_steps_26 : decode cX1_steps 26 = .ok (.aload_n 0, 1) := dk_42 (dk_at dksX1_steps_1 3 rfl rfl)
theorem dX1_steps_27 : decode cX1_steps 27 = .ok (.getfield 33, 3) := dk_180 0 33 (dk_at dksX1_steps_1 4 rfl rfl)
theorem dX1_steps_30 : decode cX1_steps 30 = .ok (.invokevirtual 272, 3) := dk_182 1 16 (dk_at dksX1_steps_1 7 rfl rfl)
theorem dX1_steps_33 : decode cX1_steps 33 = .ok (.aload_n 0, 1) := dk_42 (dk_at dksX1_steps_1 10 rfl rfl)
theorem dX1_steps_34 : decode cX1_steps 34 = .ok (.getfield 40, 3) := dk_180 0 40 (dk_at dksX1_steps_1 11 rfl rfl)
theorem dX1_steps_37 : decode cX1_steps 37 = .ok (.iload_n 1, 1) := dk_27 (dk_at dksX1_steps_1 14 rfl rfl)
theorem dX1_steps_38 : decode cX1_steps 38 = .ok (.invokevirtual 281, 3) := dk_182 1 25 (dk_at dksX1_steps_1 15 rfl rfl)
theorem dX1_steps_41 : decode cX1_steps 41 = .ok (.aload_n 0, 1) := dk_42 (dk_at dksX1_steps_1 18 rfl rfl)
theorem dX1_steps_42 : decode cX1_steps 42 = .ok (.iconst 0, 1) := dk_3 (dk_at dksX1_steps_1 19 rfl rfl)
theorem dX1_steps_43 : decode cX1_steps 43 = .ok (.putfield 95, 3) := dk_181 0 95 (dk_at dksX1_steps_1 20 rfl rfl)
theorem dX1_steps_46 : decode cX1_steps 46 = .ok (.aload_n 0, 1) := dk_42 (dk_at dksX1_steps_1 23 rfl rfl)
theorem dX1_steps_47 : decode cX1_steps 47 = .ok (.aload_n 0, 1) := dk_42 (dk_at dksX1_steps_2 0 rfl rfl)
theorem dX1_steps_48 : decode cX1_steps 48 = .ok (.getfield 40, 3) := dk_180 0 40 (dk_at dksX1_steps_2 1 rfl rfl)
theorem dX1_steps_51 : decode cX1_steps 51 = .ok (.getfield 284, 3) := dk_180 1 28 (dk_at dksX1_steps_2 4 rfl rfl)
theorem dX1_steps_54 : decode cX1_steps 54 = .ok (.invokestatic 287, 3) := dk_184 1 31 (dk_at dksX1_steps_2 7 rfl rfl)
theorem dX1_steps_57 : decode cX1_steps 57 = .ok (.i2l, 1) := dk_133 (dk_at dksX1_steps_2 10 rfl rfl)
theorem dX1_steps_58 : decode cX1_steps 58 = .ok (.invokevirtual 291, 3) := dk_182 1 35 (dk_at dksX1_steps_2 11 rfl rfl)
theorem dX1_steps_61 : decode cX1_steps 61 = .ok (.aload_n 0, 1) := dk_42 (dk_at dksX1_steps_2 14 rfl rfl)
theorem dX1_steps_62 : decode cX1_steps 62 = .ok (.aload_n 0, 1) := dk_42 (dk_at dksX1_steps_2 15 rfl rfl)
theorem dX1_steps_63 : decode cX1_steps 63 = .ok (.getfield 40, 3) := dk_180 0 40 (dk_at dksX1_steps_2 16 rfl rfl)
theorem dX1_steps_66 : decode cX1_steps 66 = .ok (.getfield 295, 3) := dk_180 1 39 (dk_at dksX1_steps_2 19 rfl rfl)
theorem dX1_steps_69 : decode cX1_steps 69 = .ok (.invokestatic 287, 3) := dk_184 1 31 (dk_at dksX1_steps_3 0 rfl rfl)
theorem dX1_steps_72 : decode cX1_steps 72 = .ok (.i2l, 1) := dk_133 (dk_at dksX1_steps_3 3 rfl rfl)
theorem dX1_steps_73 : decode cX1_steps 73 = .ok (.invokevirtual 291, 3) := dk_182 1 35 (dk_at dksX1_steps_3 4 rfl rfl)
theorem dX1_steps_76 : decode cX1_steps 76 = .ok (.aload_n 0, 1) := dk_42 (dk_at dksX1_steps_3 7 rfl rfl)
theorem dX1_steps_77 : decode cX1_steps 77 = .ok (.getfield 33, 3) := dk_180 0 33 (dk_at dksX1_steps_3 8 rfl rfl)
theorem dX1_steps_80 : decode cX1_steps 80 = .ok (.aload_n 0, 1) := dk_42 (dk_at dksX1_steps_3 11 rfl rfl)
theorem dX1_steps_81 : decode cX1_steps 81 = .ok (.getfield 40, 3) := dk_180 0 40 (dk_at dksX1_steps_3 12 rfl rfl)
theorem dX1_steps_84 : decode cX1_steps 84 = .ok (.invokevirtual 272, 3) := dk_182 1 16 (dk_at dksX1_steps_3 15 rfl rfl)
theorem dX1_steps_87 : decode cX1_steps 87 = .ok (.aload_n 0, 1) := dk_42 (dk_at dksX1_steps_3 18 rfl rfl)
theorem dX1_steps_88 : decode cX1_steps 88 = .ok (.getfield 33, 3) := dk_180 0 33 (dk_at dksX1_steps_3 19 rfl rfl)
theorem dX1_steps_91 : decode cX1_steps 91 = .ok (.getfield 153, 3) := dk_180 0 153 (dk_at dksX1_steps_4 0 rfl rfl)
theorem dX1_steps_94 : decode cX1_steps 94 = .ok (.ireturn, 1) := dk_172 (dk_at dksX1_steps_4 3 rfl rfl)
abbrev cX1_remember : ByteArray := prog_1_method_25_code
def yX1_remember : MethodName := ⟨RX1, "remember", "(LBehindAnotherHearse$Street;)V"⟩
def dkwX1_remember_3 : List UInt8 := [181, 0, 162, 177]
abbrev dktX1_remember_3 : List UInt8 := dkwX1_remember_3 ++ []
def dkwX1_remember_2 : List UInt8 := [181, 0, 162, 42, 180, 0, 46, 42, 180, 0, 162, 50, 43, 182, 1, 16, 42, 89, 180, 0, 162, 4, 96]
abbrev dktX1_remember_2 : List UInt8 := dkwX1_remember_2 ++ dktX1_remember_3
def dkwX1_remember_1 : List UInt8 := [180, 0, 46, 3, 16, 14, 184, 0, 144, 42, 180, 0, 46, 16, 14, 44, 83, 42, 89, 180, 0, 162, 4, 100]
abbrev dktX1_remember_1 : List UInt8 := dkwX1_remember_1 ++ dktX1_remember_2
def dkwX1_remember_0 : List UInt8 := [42, 180, 0, 162, 16, 15, 160, 0, 43, 42, 180, 0, 46, 3, 50, 77, 42, 180, 0, 46, 4, 42]
abbrev dktX1_remember_0 : List UInt8 := dkwX1_remember_0 ++ dktX1_remember_1
theorem dksX1_remember_0 : cX1_remember.data.toList.drop 0 = dktX1_remember_0 := by decide +kernel
theorem dksX1_remember_1 : cX1_remember.data.toList.drop 22 = dktX1_remember_1 := dk_seg dksX1_remember_0 22 rfl rfl
theorem dksX1_remember_2 : cX1_remember.data.toList.drop 46 = dktX1_remember_2 := dk_seg dksX1_remember_1 24 rfl rfl
theorem dksX1_remember_3 : cX1_remember.data.toList.drop 69 = dktX1_remember_3 := dk_seg dksX1_remember_2 23 rfl rfl
theorem dX1_remember_0 : decode cX1_remember 0 = .ok (.aload_n 0, 1) := dk_42 (dk_at dksX1_remember_0 0 rfl rfl)
theorem dX1_remember_1 : decode cX1_remember 1 = .ok (.getfield 162, 3) := dk_180 0 162 (dk_at dksX1_remember_0 1 rfl rfl)
theorem dX1_remember_4 : decode cX1_remember 4 = .ok (.bipush 15, 2) := dk_16 15 (dk_at dksX1_remember_0 4 rfl rfl)
theorem dX1_remember_6 : decode cX1_remember 6 = .ok (.if_icmp .ne 43, 3) := dk_160 0 43 (dk_at dksX1_remember_0 6 rfl rfl)
theorem dX1_remember_9 : decode cX1_remember 9 = .ok (.aload_n 0, 1) := dk_42 (dk_at dksX1_remember_0 9 rfl rfl)
theorem dX1_remember_10 : decode cX1_remember 10 = .ok (.getfield 46, 3) := dk_180 0 46 (dk_at dksX1_remember_0 10 rfl rfl)
theorem dX1_remember_13 : decode cX1_remember 13 = .ok (.iconst 0, 1) := dk_3 (dk_at dksX1_remember_0 13 rfl rfl)
theorem dX1_remember_14 : decode cX1_remember 14 = .ok (.aaload, 1) := dk_50 (dk_at dksX1_remember_0 14 rfl rfl)
theorem dX1_remember_15 : decode cX1_remember 15 = .ok (.astore_n 2, 1) := dk_77 (dk_at dksX1_remember_0 15 rfl rfl)
theorem dX1_remember_16 : decode cX1_remember 16 = .ok (.aload_n 0, 1) := dk_42 (dk_at dksX1_remember_0 16 rfl rfl)
theorem dX1_remember_17 : decode cX1_remember 17 = .ok (.getfield 46, 3) := dk_180 0 46 (dk_at dksX1_remember_0 17 rfl rfl)
theorem dX1_remember_20 : decode cX1_remember 20 = .ok (.iconst 1, 1) := dk_4 (dk_at dksX1_remember_0 20 rfl rfl)
theorem dX1_remember_21 : decode cX1_remember 21 = .ok (.aload_n 0, 1) := dk_42 (dk_at dksX1_remember_0 21 rfl rfl)
theorem dX1_remember_22 : decode cX1_remember 22 = .ok (.getfield 46, 3) := dk_180 0 46 (dk_at dksX1_remember_1 0 rfl rfl)
theorem dX1_remember_25 : decode cX1_remember 25 = .ok (.iconst 0, 1) := dk_3 (dk_at dksX1_remember_1 3 rfl rfl)
theorem dX1_remember_26 : decode cX1_remember 26 = .ok (.bipush 14, 2) := dk_16 14 (dk_at dksX1_remember_1 4 rfl rfl)
theorem dX1_remember_28 : decode cX1_remember 28 = .ok (.invokestatic 144, 3) := dk_184 0 144 (dk_at dksX1_remember_1 6 rfl rfl)
theorem dX1_remember_31 : decode cX1_remember 31 = .ok (.aload_n 0, 1) := dk_42 (dk_at dksX1_remember_1 9 rfl rfl)
theorem dX1_remember_32 : decode cX1_remember 32 = .ok (.getfield 46, 3) := dk_180 0 46 (dk_at dksX1_remember_1 10 rfl rfl)
theorem dX1_remember_35 : decode cX1_remember 35 = .ok (.bipush 14, 2) := dk_16 14 (dk_at dksX1_remember_1 13 rfl rfl)
theorem dX1_remember_37 : decode cX1_remember 37 = .ok (.aload_n 2, 1) := dk_44 (dk_at dksX1_remember_1 15 rfl rfl)
theorem dX1_remember_38 : decode cX1_remember 38 = .ok (.aastore, 1) := dk_83 (dk_at dksX1_remember_1 16 rfl rfl)
theorem dX1_remember_39 : decode cX1_remember 39 = .ok (.aload_n 0, 1) := dk_42 (dk_at dksX1_remember_1 17 rfl rfl)
theorem dX1_remember_40 : decode cX1_remember 40 = .ok (.dup, 1) := dk_89 (dk_at dksX1_remember_1 18 rfl rfl)
theorem dX1_remember_41 : decode cX1_remember 41 = .ok (.getfield 162, 3) := dk_180 0 162 (dk_at dksX1_remember_1 19 rfl rfl)
theorem dX1_remember_44 : decode cX1_remember 44 = .ok (.iconst 1, 1) := dk_4 (dk_at dksX1_remember_1 22 rfl rfl)
theorem dX1_remember_45 : decode cX1_remember 45 = .ok (.isub, 1) := dk_100 (dk_at dksX1_remember_1 23 rfl rfl)
theorem dX1_remember_46 : decode cX1_remember 46 = .ok (.putfield 162, 3) := dk_181 0 162 (dk_at dksX1_remember_2 0 rfl rfl)
theorem dX1_remember_49 : decode cX1_remember 49 = .ok (.aload_n 0, 1) := dk_42 (dk_at dksX1_remember_2 3 rfl rfl)
theorem dX1_remember_50 : decode cX1_remember 50 = .ok (.getfield 46, 3) := dk_180 0 46 (dk_at dksX1_remember_2 4 rfl rfl)
theorem dX1_remember_53 : decode cX1_remember 53 = .ok (.aload_n 0, 1) := dk_42 (dk_at dksX1_remember_2 7 rfl rfl)
theorem dX1_remember_54 : decode cX1_remember 54 = .ok (.getfield 162, 3) := dk_180 0 162 (dk_at dksX1_remember_2 8 rfl rfl)
theorem dX1_remember_57 : decode cX1_remember 57 = .ok (.aaload, 1) := dk_50 (dk_at dksX1_remember_2 11 rfl rfl)
theorem dX1_remember_58 : decode cX1_remember 58 = .ok (.aload_n 1, 1) := dk_43 (dk_at dksX1_remember_2 12 rfl rfl)
theorem dX1_remember_59 : decode cX1_remember 59 = .ok (.invokevirtual 272, 3) := dk_182 1 16 (dk_at dksX1_remember_2 13 rfl rfl)
theorem dX1_remember_62 : decode cX1_remember 62 = .ok (.aload_n 0, 1) := dk_42 (dk_at dksX1_remember_2 16 rfl rfl)
theorem dX1_remember_63 : decode cX1_remember 63 = .ok (.dup, 1) := dk_89 (dk_at dksX1_remember_2 17 rfl rfl)
theorem dX1_remember_64 : decode cX1_remember 64 = .ok (.getfield 162, 3) := dk_180 0 162 (dk_at dksX1_remember_2 18 rfl rfl)
theorem dX1_remember_67 : decode cX1_remember 67 = .ok (.iconst 1, 1) := dk_4 (dk_at dksX1_remember_2 21 rfl rfl)
theorem dX1_remember_68 : decode cX1_remember 68 = .ok (.iadd, 1) := dk_96 (dk_at dksX1_remember_2 22 rfl rfl)
theorem dX1_remember_69 : decode cX1_remember 69 = .ok (.putfield 162, 3) := dk_181 0 162 (dk_at dksX1_remember_3 0 rfl rfl)
theorem dX1_remember_72 : decode cX1_remember 72 = .ok (.return_, 1) := dk_177 (dk_at dksX1_remember_3 3 rfl rfl)
abbrev cX1_sumOf : ByteArray := prog_1_method_26_code
def yX1_sumOf : MethodName := ⟨RX1, "sumOf", "([I)I"⟩
def dkwX1_sumOf_1 : List UInt8 := [21, 5, 96, 60, 132, 4, 1, 167, 255, 236, 27, 172]
abbrev dktX1_sumOf_1 : List UInt8 := dkwX1_sumOf_1 ++ []
def dkwX1_sumOf_0 : List UInt8 := [3, 60, 42, 77, 44, 190, 62, 3, 54, 4, 21, 4, 29, 162, 0, 20, 44, 21, 4, 46, 54, 5, 27]
abbrev dktX1_sumOf_0 : List UInt8 := dkwX1_sumOf_0 ++ dktX1_sumOf_1
theorem dksX1_sumOf_0 : cX1_sumOf.data.toList.drop 0 = dktX1_sumOf_0 := by decide +kernel
theorem dksX1_sumOf_1 : cX1_sumOf.data.toList.drop 23 = dktX1_sumOf_1 := dk_seg dksX1_sumOf_0 23 rfl rfl
theorem dX1_sumOf_0 : decode cX1_sumOf 0 = .ok (.iconst 0, 1) := dk_3 (dk_at dksX1_sumOf_0 0 rfl rfl)
theorem dX1_sumOf_1 : decode cX1_sumOf 1 = .ok (.istore_n 1, 1) := dk_60 (dk_at dksX1_sumOf_0 1 rfl rfl)
theorem dX1_sumOf_2 : decode cX1_sumOf 2 = .ok (.aload_n 0, 1) := dk_42 (dk_at dksX1_sumOf_0 2 rfl rfl)
theorem dX1_sumOf_3 : decode cX1_sumOf 3 = .ok (.astore_n 2, 1) := dk_77 (dk_at dksX1_sumOf_0 3 rfl rfl)
theorem dX1_sumOf_4 : decode cX1_sumOf 4 = .ok (.aload_n 2, 1) := dk_44 (dk_at dksX1_sumOf_0 4 rfl rfl)
theorem dX1_sumOf_5 : decode cX1_sumOf 5 = .ok (.arraylength, 1) := dk_190 (dk_at dksX1_sumOf_0 5 rfl rfl)
theorem dX1_sumOf_6 : decode cX1_sumOf 6 = .ok (.istore_n 3, 1) := dk_62 (dk_at dksX1_sumOf_0 6 rfl rfl)
theorem dX1_sumOf_7 : decode cX1_sumOf 7 = .ok (.iconst 0, 1) := dk_3 (dk_at dksX1_sumOf_0 7 rfl rfl)
theorem dX1_sumOf_8 : decode cX1_sumOf 8 = .ok (.istore 4, 2) := dk_54 4 (dk_at dksX1_sumOf_0 8 rfl rfl)
theorem dX1_sumOf_10 : decode cX1_sumOf 10 = .ok (.iload 4, 2) := dk_21 4 (dk_at dksX1_sumOf_0 10 rfl rfl)
theorem dX1_sumOf_12 : decode cX1_sumOf 12 = .ok (.iload_n 3, 1) := dk_29 (dk_at dksX1_sumOf_0 12 rfl rfl)
theorem dX1_sumOf_13 : decode cX1_sumOf 13 = .ok (.if_icmp .ge 20, 3) := dk_162 0 20 (dk_at dksX1_sumOf_0 13 rfl rfl)
theorem dX1_sumOf_16 : decode cX1_sumOf 16 = .ok (.aload_n 2, 1) := dk_44 (dk_at dksX1_sumOf_0 16 rfl rfl)
theorem dX1_sumOf_17 : decode cX1_sumOf 17 = .ok (.iload 4, 2) := dk_21 4 (dk_at dksX1_sumOf_0 17 rfl rfl)
theorem dX1_sumOf_19 : decode cX1_sumOf 19 = .ok (.iaload, 1) := dk_46 (dk_at dksX1_sumOf_0 19 rfl rfl)
theorem dX1_sumOf_20 : decode cX1_sumOf 20 = .ok (.istore 5, 2) := dk_54 5 (dk_at dksX1_sumOf_0 20 rfl rfl)
theorem dX1_sumOf_22 : decode cX1_sumOf 22 = .ok (.iload_n 1, 1) := dk_27 (dk_at dksX1_sumOf_0 22 rfl rfl)
theorem dX1_sumOf_23 : decode cX1_sumOf 23 = .ok (.iload 5, 2) := dk_21 5 (dk_at dksX1_sumOf_1 0 rfl rfl)
theorem dX1_sumOf_25 : decode cX1_sumOf 25 = .ok (.iadd, 1) := dk_96 (dk_at dksX1_sumOf_1 2 rfl rfl)
theorem dX1_sumOf_26 : decode cX1_sumOf 26 = .ok (.istore_n 1, 1) := dk_60 (dk_at dksX1_sumOf_1 3 rfl rfl)
theorem dX1_sumOf_27 : decode cX1_sumOf 27 = .ok (.iinc 4 1, 3) := dk_132 4 1 (dk_at dksX1_sumOf_1 4 rfl rfl)
theorem dX1_sumOf_30 : decode cX1_sumOf 30 = .ok (.goto (-20), 3) := dk_167 255 236 (dk_at dksX1_sumOf_1 7 rfl rfl)
theorem dX1_sumOf_33 : decode cX1_sumOf 33 = .ok (.iload_n 1, 1) := dk_27 (dk_at dksX1_sumOf_1 10 rfl rfl)
theorem dX1_sumOf_34 : decode cX1_sumOf 34 = .ok (.ireturn, 1) := dk_172 (dk_at dksX1_sumOf_1 11 rfl rfl)
abbrev cX1_tell : ByteArray := prog_1_method_4_code
def yX1_tell : MethodName := ⟨RX1, "tell", "(J)V"⟩
def dkwX1_tell_0 : List UInt8 := [42, 180, 0, 53, 42, 180, 0, 95, 31, 80, 42, 89, 180, 0, 95, 4, 96, 181, 0, 95, 177]
abbrev dktX1_tell_0 : List UInt8 := dkwX1_tell_0 ++ []
theorem dksX1_tell_0 : cX1_tell.data.toList.drop 0 = dktX1_tell_0 := by decide +kernel
theorem dX1_tell_0 : decode cX1_tell 0 = .ok (.aload_n 0, 1) := dk_42 (dk_at dksX1_tell_0 0 rfl rfl)
theorem dX1_tell_1 : decode cX1_tell 1 = .ok (.getfield 53, 3) := dk_180 0 53 (dk_at dksX1_tell_0 1 rfl rfl)
theorem dX1_tell_4 : decode cX1_tell 4 = .ok (.aload_n 0, 1) := dk_42 (dk_at dksX1_tell_0 4 rfl rfl)
theorem dX1_tell_5 : decode cX1_tell 5 = .ok (.getfield 95, 3) := dk_180 0 95 (dk_at dksX1_tell_0 5 rfl rfl)
theorem dX1_tell_8 : decode cX1_tell 8 = .ok (.lload_n 1, 1) := dk_31 (dk_at dksX1_tell_0 8 rfl rfl)
theorem dX1_tell_9 : decode cX1_tell 9 = .ok (.lastore, 1) := dk_80 (dk_at dksX1_tell_0 9 rfl rfl)
theorem dX1_tell_10 : decode cX1_tell 10 = .ok (.aload_n 0, 1) := dk_42 (dk_at dksX1_tell_0 10 rfl rfl)
theorem dX1_tell_11 : decode cX1_tell 11 = .ok (.dup, 1) := dk_89 (dk_at dksX1_tell_0 11 rfl rfl)
theorem dX1_tell_12 : decode cX1_tell 12 = .ok (.getfield 95, 3) := dk_180 0 95 (dk_at dksX1_tell_0 12 rfl rfl)
theorem dX1_tell_15 : decode cX1_tell 15 = .ok (.iconst 1, 1) := dk_4 (dk_at dksX1_tell_0 15 rfl rfl)
theorem dX1_tell_16 : decode cX1_tell 16 = .ok (.iadd, 1) := dk_96 (dk_at dksX1_tell_0 16 rfl rfl)
theorem dX1_tell_17 : decode cX1_tell 17 = .ok (.putfield 95, 3) := dk_181 0 95 (dk_at dksX1_tell_0 17 rfl rfl)
theorem dX1_tell_20 : decode cX1_tell 20 = .ok (.return_, 1) := dk_177 (dk_at dksX1_tell_0 20 rfl rfl)
abbrev cX1_turnsTo : ByteArray := prog_1_method_28_code
def yX1_turnsTo : MethodName := ⟨RX1, "turnsTo", "(I)I"⟩
def dkwX1_turnsTo_2 : List UInt8 := [180, 0, 200, 27, 42, 180, 0, 13, 27, 46, 79, 29, 2, 160, 0, 8, 16, 252, 167, 0, 4, 29, 172]
abbrev dktX1_turnsTo_2 : List UInt8 := dkwX1_turnsTo_2 ++ []
def dkwX1_turnsTo_1 : List UInt8 := [172, 42, 42, 180, 0, 33, 182, 1, 22, 42, 180, 0, 33, 180, 0, 200, 27, 46, 62, 42, 180, 0, 33]
abbrev dktX1_turnsTo_1 : List UInt8 := dkwX1_turnsTo_1 ++ dktX1_turnsTo_2
def dkwX1_turnsTo_0 : List UInt8 := [42, 27, 182, 0, 251, 154, 0, 5, 2, 172, 42, 180, 0, 33, 27, 182, 1, 42, 61, 28, 156, 0, 5, 28]
abbrev dktX1_turnsTo_0 : List UInt8 := dkwX1_turnsTo_0 ++ dktX1_turnsTo_1
theorem dksX1_turnsTo_0 : cX1_turnsTo.data.toList.drop 0 = dktX1_turnsTo_0 := by decide +kernel
theorem dksX1_turnsTo_1 : cX1_turnsTo.data.toList.drop 24 = dktX1_turnsTo_1 := dk_seg dksX1_turnsTo_0 24 rfl rfl
theorem dksX1_turnsTo_2 : cX1_turnsTo.data.toList.drop 47 = dktX1_turnsTo_2 := dk_seg dksX1_turnsTo_1 23 rfl rfl
theorem dX1_turnsTo_0 : decode cX1_turnsTo 0 = .ok (.aload_n 0, 1) := dk_42 (dk_at dksX1_turnsTo_0 0 rfl rfl)
theorem dX1_turnsTo_1 : decode cX1_turnsTo 1 = .ok (.iload_n 1, 1) := dk_27 (dk_at dksX1_turnsTo_0 1 rfl rfl)
theorem dX1_turnsTo_2 : decode cX1_turnsTo 2 = .ok (.invokevirtual 251, 3) := dk_182 0 251 (dk_at dksX1_turnsTo_0 2 rfl rfl)
theorem dX1_turnsTo_5 : decode cX1_turnsTo 5 = .ok (.ifCond .ne 5, 3) := dk_154 0 5 (dk_at dksX1_turnsTo_0 5 rfl rfl)
theorem dX1_turnsTo_8 : decode cX1_turnsTo 8 = .ok (.iconst (-1), 1) := dk_2 (dk_at dksX1_turnsTo_0 8 rfl rfl)
theorem dX1_turnsTo_9 : decode cX1_turnsTo 9 = .ok (.ireturn, 1) := dk_172 (dk_at dksX1_turnsTo_0 9 rfl rfl)
theorem dX1_turnsTo_10 : decode cX1_turnsTo 10 = .ok (.aload_n 0, 1) := dk_42 (dk_at dksX1_turnsTo_0 10 rfl rfl)
theorem dX1_turnsTo_11 : decode cX1_turnsTo 11 = .ok (.getfield 33, 3) := dk_180 0 33 (dk_at dksX1_turnsTo_0 11 rfl rfl)
theorem dX1_turnsTo_14 : decode cX1_turnsTo 14 = .ok (.iload_n 1, 1) := dk_27 (dk_at dksX1_turnsTo_0 14 rfl rfl)
theorem dX1_turnsTo_15 : decode cX1_turnsTo 15 = .ok (.invokevirtual 298, 3) := dk_182 1 42 (dk_at dksX1_turnsTo_0 15 rfl rfl)
theorem dX1_turnsTo_18 : decode cX1_turnsTo 18 = .ok (.istore_n 2, 1) := dk_61 (dk_at dksX1_turnsTo_0 18 rfl rfl)
theorem dX1_turnsTo_19 : decode cX1_turnsTo 19 = .ok (.iload_n 2, 1) := dk_28 (dk_at dksX1_turnsTo_0 19 rfl rfl)
theorem dX1_turnsTo_20 : decode cX1_turnsTo 20 = .ok (.ifCond .ge 5, 3) := dk_156 0 5 (dk_at dksX1_turnsTo_0 20 rfl rfl)
theorem dX1_turnsTo_23 : decode cX1_turnsTo 23 = .ok (.iload_n 2, 1) := dk_28 (dk_at dksX1_turnsTo_0 23 rfl rfl)
theorem dX1_turnsTo_24 : decode cX1_turnsTo 24 = .ok (.ireturn, 1) := dk_172 (dk_at dksX1_turnsTo_1 0 rfl rfl)
theorem dX1_turnsTo_25 : decode cX1_turnsTo 25 = .ok (.aload_n 0, 1) := dk_42 (dk_at dksX1_turnsTo_1 1 rfl rfl)
theorem dX1_turnsTo_26 : decode cX1_turnsTo 26 = .ok (.aload_n 0, 1) := dk_42 (dk_at dksX1_turnsTo_1 2 rfl rfl)
theorem dX1_turnsTo_27 : decode cX1_turnsTo 27 = .ok (.getfield 33, 3) := dk_180 0 33 (dk_at dksX1_turnsTo_1 3 rfl rfl)
theorem dX1_turnsTo_30 : decode cX1_turnsTo 30 = .ok (.invokevirtual 278, 3) := dk_182 1 22 (dk_at dksX1_turnsTo_1 6 rfl rfl)
theorem dX1_turnsTo_33 : decode cX1_turnsTo 33 = .ok (.aload_n 0, 1) := dk_42 (dk_at dksX1_turnsTo_1 9 rfl rfl)
theorem dX1_turnsTo_34 : decode cX1_turnsTo 34 = .ok (.getfield 33, 3) := dk_180 0 33 (dk_at dksX1_turnsTo_1 10 rfl rfl)
theorem dX1_turnsTo_37 : decode cX1_turnsTo 37 = .ok (.getfield 200, 3) := dk_180 0 200 (dk_at dksX1_turnsTo_1 13 rfl rfl)
theorem dX1_turnsTo_40 : decode cX1_turnsTo 40 = .ok (.iload_n 1, 1) := dk_27 (dk_at dksX1_turnsTo_1 16 rfl rfl)
theorem dX1_turnsTo_41 : decode cX1_turnsTo 41 = .ok (.iaload, 1) := dk_46 (dk_at dksX1_turnsTo_1 17 rfl rfl)
theorem dX1_turnsTo_42 : decode cX1_turnsTo 42 = .ok (.istore_n 3, 1) := dk_62 (dk_at dksX1_turnsTo_1 18 rfl rfl)
theorem dX1_turnsTo_43 : decode cX1_turnsTo 43 = .ok (.aload_n 0, 1) := dk_42 (dk_at dksX1_turnsTo_1 19 rfl rfl)
theorem dX1_turnsTo_44 : decode cX1_turnsTo 44 = .ok (.getfield 33, 3) := dk_180 0 33 (dk_at dksX1_turnsTo_1 20 rfl rfl)
theorem dX1_turnsTo_47 : decode cX1_turnsTo 47 = .ok (.getfield 200, 3) := dk_180 0 200 (dk_at dksX1_turnsTo_2 0 rfl rfl)
theorem dX1_turnsTo_50 : decode cX1_turnsTo 50 = .ok (.iload_n 1, 1) := dk_27 (dk_at dksX1_turnsTo_2 3 rfl rfl)
theorem dX1_turnsTo_51 : decode cX1_turnsTo 51 = .ok (.aload_n 0, 1) := dk_42 (dk_at dksX1_turnsTo_2 4 rfl rfl)
theorem dX1_turnsTo_52 : decode cX1_turnsTo 52 = .ok (.getfield 13, 3) := dk_180 0 13 (dk_at dksX1_turnsTo_2 5 rfl rfl)
theorem dX1_turnsTo_55 : decode cX1_turnsTo 55 = .ok (.iload_n 1, 1) := dk_27 (dk_at dksX1_turnsTo_2 8 rfl rfl)
theorem dX1_turnsTo_56 : decode cX1_turnsTo 56 = .ok (.iaload, 1) := dk_46 (dk_at dksX1_turnsTo_2 9 rfl rfl)
theorem dX1_turnsTo_57 : decode cX1_turnsTo 57 = .ok (.iastore, 1) := dk_79 (dk_at dksX1_turnsTo_2 10 rfl rfl)
theorem dX1_turnsTo_58 : decode cX1_turnsTo 58 = .ok (.iload_n 3, 1) := dk_29 (dk_at dksX1_turnsTo_2 11 rfl rfl)
theorem dX1_turnsTo_59 : decode cX1_turnsTo 59 = .ok (.iconst (-1), 1) := dk_2 (dk_at dksX1_turnsTo_2 12 rfl rfl)
theorem dX1_turnsTo_60 : decode cX1_turnsTo 60 = .ok (.if_icmp .ne 8, 3) := dk_160 0 8 (dk_at dksX1_turnsTo_2 13 rfl rfl)
theorem dX1_turnsTo_63 : decode cX1_turnsTo 63 = .ok (.bipush (-4), 2) := dk_16 252 (dk_at dksX1_turnsTo_2 16 rfl rfl)
theorem dX1_turnsTo_65 : decode cX1_turnsTo 65 = .ok (.goto 4, 3) := dk_167 0 4 (dk_at dksX1_turnsTo_2 18 rfl rfl)
theorem dX1_turnsTo_68 : decode cX1_turnsTo 68 = .ok (.iload_n 3, 1) := dk_29 (dk_at dksX1_turnsTo_2 21 rfl rfl)
theorem dX1_turnsTo_69 : decode cX1_turnsTo 69 = .ok (.ireturn, 1) := dk_172 (dk_at dksX1_turnsTo_2 22 rfl rfl)
abbrev cX1_isMan : ByteArray := prog_1_method_6_code
def yX1_isMan : MethodName := ⟨RX1, "isMan", "(I)Z"⟩
def dkwX1_isMan_0 : List UInt8 := [27, 133, 9, 42, 180, 0, 105, 4, 100, 133, 184, 0, 101, 172]
abbrev dktX1_isMan_0 : List UInt8 := dkwX1_isMan_0 ++ []
theorem dksX1_isMan_0 : cX1_isMan.data.toList.drop 0 = dktX1_isMan_0 := by decide +kernel
theorem dX1_isMan_0 : decode cX1_isMan 0 = .ok (.iload_n 1, 1) := dk_27 (dk_at dksX1_isMan_0 0 rfl rfl)
theorem dX1_isMan_1 : decode cX1_isMan 1 = .ok (.i2l, 1) := dk_133 (dk_at dksX1_isMan_0 1 rfl rfl)
theorem dX1_isMan_2 : decode cX1_isMan 2 = .ok (.lconst 0, 1) := dk_9 (dk_at dksX1_isMan_0 2 rfl rfl)
theorem dX1_isMan_3 : decode cX1_isMan 3 = .ok (.aload_n 0, 1) := dk_42 (dk_at dksX1_isMan_0 3 rfl rfl)
theorem dX1_isMan_4 : decode cX1_isMan 4 = .ok (.getfield 105, 3) := dk_180 0 105 (dk_at dksX1_isMan_0 4 rfl rfl)
theorem dX1_isMan_7 : decode cX1_isMan 7 = .ok (.iconst 1, 1) := dk_4 (dk_at dksX1_isMan_0 7 rfl rfl)
theorem dX1_isMan_8 : decode cX1_isMan 8 = .ok (.isub, 1) := dk_100 (dk_at dksX1_isMan_0 8 rfl rfl)
theorem dX1_isMan_9 : decode cX1_isMan 9 = .ok (.i2l, 1) := dk_133 (dk_at dksX1_isMan_0 9 rfl rfl)
theorem dX1_isMan_10 : decode cX1_isMan 10 = .ok (.invokestatic 101, 3) := dk_184 0 101 (dk_at dksX1_isMan_0 10 rfl rfl)
theorem dX1_isMan_13 : decode cX1_isMan 13 = .ok (.ireturn, 1) := dk_172 (dk_at dksX1_isMan_0 13 rfl rfl)
abbrev cX1_pushes : ByteArray := prog_1_method_30_code
def yX1_pushes : MethodName := ⟨RX1, "pushes", "(II)I"⟩
def dkwX1_pushes_1 : List UInt8 := [182, 1, 22, 42, 180, 0, 33, 27, 28, 182, 1, 53, 42, 180, 0, 33, 180, 0, 198, 27, 46, 172]
abbrev dktX1_pushes_1 : List UInt8 := dkwX1_pushes_1 ++ []
def dkwX1_pushes_0 : List UInt8 := [42, 42, 180, 0, 33, 27, 28, 182, 1, 49, 62, 29, 156, 0, 5, 29, 172, 42, 42, 180, 0, 33]
abbrev dktX1_pushes_0 : List UInt8 := dkwX1_pushes_0 ++ dktX1_pushes_1
theorem dksX1_pushes_0 : cX1_pushes.data.toList.drop 0 = dktX1_pushes_0 := by decide +kernel
theorem dksX1_pushes_1 : cX1_pushes.data.toList.drop 22 = dktX1_pushes_1 := dk_seg dksX1_pushes_0 22 rfl rfl
theorem dX1_pushes_0 : decode cX1_pushes 0 = .ok (.aload_n 0, 1) := dk_42 (dk_at dksX1_pushes_0 0 rfl rfl)
theorem dX1_pushes_1 : decode cX1_pushes 1 = .ok (.aload_n 0, 1) := dk_42 (dk_at dksX1_pushes_0 1 rfl rfl)
theorem dX1_pushes_2 : decode cX1_pushes 2 = .ok (.getfield 33, 3) := dk_180 0 33 (dk_at dksX1_pushes_0 2 rfl rfl)
theorem dX1_pushes_5 : decode cX1_pushes 5 = .ok (.iload_n 1, 1) := dk_27 (dk_at dksX1_pushes_0 5 rfl rfl)
theorem dX1_pushes_6 : decode cX1_pushes 6 = .ok (.iload_n 2, 1) := dk_28 (dk_at dksX1_pushes_0 6 rfl rfl)
theorem dX1_pushes_7 : decode cX1_pushes 7 = .ok (.invokevirtual 305, 3) := dk_182 1 49 (dk_at dksX1_pushes_0 7 rfl rfl)
theorem dX1_pushes_10 : decode cX1_pushes 10 = .ok (.istore_n 3, 1) := dk_62 (dk_at dksX1_pushes_0 10 rfl rfl)
theorem dX1_pushes_11 : decode cX1_pushes 11 = .ok (.iload_n 3, 1) := dk_29 (dk_at dksX1_pushes_0 11 rfl rfl)
theorem dX1_pushes_12 : decode cX1_pushes 12 = .ok (.ifCond .ge 5, 3) := dk_156 0 5 (dk_at dksX1_pushes_0 12 rfl rfl)
theorem dX1_pushes_15 : decode cX1_pushes 15 = .ok (.iload_n 3, 1) := dk_29 (dk_at dksX1_pushes_0 15 rfl rfl)
theorem dX1_pushes_16 : decode cX1_pushes 16 = .ok (.ireturn, 1) := dk_172 (dk_at dksX1_pushes_0 16 rfl rfl)
theorem dX1_pushes_17 : decode cX1_pushes 17 = .ok (.aload_n 0, 1) := dk_42 (dk_at dksX1_pushes_0 17 rfl rfl)
theorem dX1_pushes_18 : decode cX1_pushes 18 = .ok (.aload_n 0, 1) := dk_42 (dk_at dksX1_pushes_0 18 rfl rfl)
theorem dX1_pushes_19 : decode cX1_pushes 19 = .ok (.getfield 33, 3) := dk_180 0 33 (dk_at dksX1_pushes_0 19 rfl rfl)
theorem dX1_pushes_22 : decode cX1_pushes 22 = .ok (.invokevirtual 278, 3) := dk_182 1 22 (dk_at dksX1_pushes_1 0 rfl rfl)
theorem dX1_pushes_25 : decode cX1_pushes 25 = .ok (.aload_n 0, 1) := dk_42 (dk_at dksX1_pushes_1 3 rfl rfl)
theorem dX1_pushes_26 : decode cX1_pushes 26 = .ok (.getfield 33, 3) := dk_180 0 33 (dk_at dksX1_pushes_1 4 rfl rfl)
theorem dX1_pushes_29 : decode cX1_pushes 29 = .ok (.iload_n 1, 1) := dk_27 (dk_at dksX1_pushes_1 7 rfl rfl)
theorem dX1_pushes_30 : decode cX1_pushes 30 = .ok (.iload_n 2, 1) := dk_28 (dk_at dksX1_pushes_1 8 rfl rfl)
theorem dX1_pushes_31 : decode cX1_pushes 31 = .ok (.invokevirtual 309, 3) := dk_182 1 53 (dk_at dksX1_pushes_1 9 rfl rfl)
theorem dX1_pushes_34 : decode cX1_pushes 34 = .ok (.aload_n 0, 1) := dk_42 (dk_at dksX1_pushes_1 12 rfl rfl)
theorem dX1_pushes_35 : decode cX1_pushes 35 = .ok (.getfield 33, 3) := dk_180 0 33 (dk_at dksX1_pushes_1 13 rfl rfl)
theorem dX1_pushes_38 : decode cX1_pushes 38 = .ok (.getfield 198, 3) := dk_180 0 198 (dk_at dksX1_pushes_1 16 rfl rfl)
theorem dX1_pushes_41 : decode cX1_pushes 41 = .ok (.iload_n 1, 1) := dk_27 (dk_at dksX1_pushes_1 19 rfl rfl)
theorem dX1_pushes_42 : decode cX1_pushes 42 = .ok (.iaload, 1) := dk_46 (dk_at dksX1_pushes_1 20 rfl rfl)
theorem dX1_pushes_43 : decode cX1_pushes 43 = .ok (.ireturn, 1) := dk_172 (dk_at dksX1_pushes_1 21 rfl rfl)
abbrev cX1_refusesPush : ByteArray := prog_1_method_29_code
def yX1_refusesPush : MethodName := ⟨RX1, "refusesPush", "(LBehindAnotherHearse$Street;II)I"⟩
def dkwX1_refusesPush_1 : List UInt8 := [154, 0, 5, 2, 172, 43, 180, 0, 203, 28, 46, 2, 160, 0, 7, 3, 167, 0, 5, 16, 254, 172]
abbrev dktX1_refusesPush_1 : List UInt8 := dkwX1_refusesPush_1 ++ []
def dkwX1_refusesPush_0 : List UInt8 := [42, 28, 182, 0, 251, 153, 0, 21, 29, 133, 20, 1, 45, 20, 1, 47, 184, 0, 101, 153, 0, 7, 29]
abbrev dktX1_refusesPush_0 : List UInt8 := dkwX1_refusesPush_0 ++ dktX1_refusesPush_1
theorem dksX1_refusesPush_0 : cX1_refusesPush.data.toList.drop 0 = dktX1_refusesPush_0 := by decide +kernel
theorem dksX1_refusesPush_1 : cX1_refusesPush.data.toList.drop 23 = dktX1_refusesPush_1 := dk_seg dksX1_refusesPush_0 23 rfl rfl
theorem dX1_refusesPush_0 : decode cX1_refusesPush 0 = .ok (.aload_n 0, 1) := dk_42 (dk_at dksX1_refusesPush_0 0 rfl rfl)
theorem dX1_refusesPush_1 : decode cX1_refusesPush 1 = .ok (.iload_n 2, 1) := dk_28 (dk_at dksX1_refusesPush_0 1 rfl rfl)
theorem dX1_refusesPush_2 : decode cX1_refusesPush 2 = .ok (.invokevirtual 251, 3) := dk_182 0 251 (dk_at dksX1_refusesPush_0 2 rfl rfl)
theorem dX1_refusesPush_5 : decode cX1_refusesPush 5 = .ok (.ifCond .eq 21, 3) := dk_153 0 21 (dk_at dksX1_refusesPush_0 5 rfl rfl)
theorem dX1_refusesPush_8 : decode cX1_refusesPush 8 = .ok (.iload_n 3, 1) := dk_29 (dk_at dksX1_refusesPush_0 8 rfl rfl)
theorem dX1_refusesPush_9 : decode cX1_refusesPush 9 = .ok (.i2l, 1) := dk_133 (dk_at dksX1_refusesPush_0 9 rfl rfl)
theorem dX1_refusesPush_10 : decode cX1_refusesPush 10 = .ok (.ldc2_w 301, 3) := dk_20 1 45 (dk_at dksX1_refusesPush_0 10 rfl rfl)
theorem dX1_refusesPush_13 : decode cX1_refusesPush 13 = .ok (.ldc2_w 303, 3) := dk_20 1 47 (dk_at dksX1_refusesPush_0 13 rfl rfl)
theorem dX1_refusesPush_16 : decode cX1_refusesPush 16 = .ok (.invokestatic 101, 3) := dk_184 0 101 (dk_at dksX1_refusesPush_0 16 rfl rfl)
theorem dX1_refusesPush_19 : decode cX1_refusesPush 19 = .ok (.ifCond .eq 7, 3) := dk_153 0 7 (dk_at dksX1_refusesPush_0 19 rfl rfl)
theorem dX1_refusesPush_22 : decode cX1_refusesPush 22 = .ok (.iload_n 3, 1) := dk_29 (dk_at dksX1_refusesPush_0 22 rfl rfl)
theorem dX1_refusesPush_23 : decode cX1_refusesPush 23 = .ok (.ifCond .ne 5, 3) := dk_154 0 5 (dk_at dksX1_refusesPush_1 0 rfl rfl)
theorem dX1_refusesPush_26 : decode cX1_refusesPush 26 = .ok (.iconst (-1), 1) := dk_2 (dk_at dksX1_refusesPush_1 3 rfl rfl)
theorem dX1_refusesPush_27 : decode cX1_refusesPush 27 = .ok (.ireturn, 1) := dk_172 (dk_at dksX1_refusesPush_1 4 rfl rfl)
theorem dX1_refusesPush_28 : decode cX1_refusesPush 28 = .ok (.aload_n 1, 1) := dk_43 (dk_at dksX1_refusesPush_1 5 rfl rfl)
theorem dX1_refusesPush_29 : decode cX1_refusesPush 29 = .ok (.getfield 203, 3) := dk_180 0 203 (dk_at dksX1_refusesPush_1 6 rfl rfl)
theorem dX1_refusesPush_32 : decode cX1_refusesPush 32 = .ok (.iload_n 2, 1) := dk_28 (dk_at dksX1_refusesPush_1 9 rfl rfl)
theorem dX1_refusesPush_33 : decode cX1_refusesPush 33 = .ok (.iaload, 1) := dk_46 (dk_at dksX1_refusesPush_1 10 rfl rfl)
theorem dX1_refusesPush_34 : decode cX1_refusesPush 34 = .ok (.iconst (-1), 1) := dk_2 (dk_at dksX1_refusesPush_1 11 rfl rfl)
theorem dX1_refusesPush_35 : decode cX1_refusesPush 35 = .ok (.if_icmp .ne 7, 3) := dk_160 0 7 (dk_at dksX1_refusesPush_1 12 rfl rfl)
theorem dX1_refusesPush_38 : decode cX1_refusesPush 38 = .ok (.iconst 0, 1) := dk_3 (dk_at dksX1_refusesPush_1 15 rfl rfl)
theorem dX1_refusesPush_39 : decode cX1_refusesPush 39 = .ok (.goto 5, 3) := dk_167 0 5 (dk_at dksX1_refusesPush_1 16 rfl rfl)
theorem dX1_refusesPush_42 : decode cX1_refusesPush 42 = .ok (.bipush (-2), 2) := dk_16 254 (dk_at dksX1_refusesPush_1 19 rfl rfl)
theorem dX1_refusesPush_44 : decode cX1_refusesPush 44 = .ok (.ireturn, 1) := dk_172 (dk_at dksX1_refusesPush_1 21 rfl rfl)
abbrev cX1_swaps : ByteArray := prog_1_method_33_code
def yX1_swaps : MethodName := ⟨RX1, "swaps", "(II)I"⟩
def dkwX1_swaps_2 : List UInt8 := [184, 1, 67, 172]
abbrev dktX1_swaps_2 : List UInt8 := dkwX1_swaps_2 ++ []
def dkwX1_swaps_1 : List UInt8 := [182, 1, 64, 42, 180, 0, 33, 180, 0, 186, 27, 46, 42, 180, 0, 33, 180, 0, 186, 28, 46, 100]
abbrev dktX1_swaps_1 : List UInt8 := dkwX1_swaps_1 ++ dktX1_swaps_2
def dkwX1_swaps_0 : List UInt8 := [42, 27, 28, 182, 1, 61, 62, 29, 156, 0, 5, 29, 172, 42, 42, 180, 0, 33, 182, 1, 22, 42, 27, 28]
abbrev dktX1_swaps_0 : List UInt8 := dkwX1_swaps_0 ++ dktX1_swaps_1
theorem dksX1_swaps_0 : cX1_swaps.data.toList.drop 0 = dktX1_swaps_0 := by decide +kernel
theorem dksX1_swaps_1 : cX1_swaps.data.toList.drop 24 = dktX1_swaps_1 := dk_seg dksX1_swaps_0 24 rfl rfl
theorem dksX1_swaps_2 : cX1_swaps.data.toList.drop 46 = dktX1_swaps_2 := dk_seg dksX1_swaps_1 22 rfl rfl
theorem dX1_swaps_0 : decode cX1_swaps 0 = .ok (.aload_n 0, 1) := dk_42 (dk_at dksX1_swaps_0 0 rfl rfl)
theorem dX1_swaps_1 : decode cX1_swaps 1 = .ok (.iload_n 1, 1) := dk_27 (dk_at dksX1_swaps_0 1 rfl rfl)
theorem dX1_swaps_2 : decode cX1_swaps 2 = .ok (.iload_n 2, 1) := dk_28 (dk_at dksX1_swaps_0 2 rfl rfl)
theorem dX1_swaps_3 : decode cX1_swaps 3 = .ok (.invokevirtual 317, 3) := dk_182 1 61 (dk_at dksX1_swaps_0 3 rfl rfl)
theorem dX1_swaps_6 : decode cX1_swaps 6 = .ok (.istore_n 3, 1) := dk_62 (dk_at dksX1_swaps_0 6 rfl rfl)
theorem dX1_swaps_7 : decode cX1_swaps 7 = .ok (.iload_n 3, 1) := dk_29 (dk_at dksX1_swaps_0 7 rfl rfl)
theorem dX1_swaps_8 : decode cX1_swaps 8 = .ok (.ifCond .ge 5, 3) := dk_156 0 5 (dk_at dksX1_swaps_0 8 rfl rfl)
theorem dX1_swaps_11 : decode cX1_swaps 11 = .ok (.iload_n 3, 1) := dk_29 (dk_at dksX1_swaps_0 11 rfl rfl)
theorem dX1_swaps_12 : decode cX1_swaps 12 = .ok (.ireturn, 1) := dk_172 (dk_at dksX1_swaps_0 12 rfl rfl)
theorem dX1_swaps_13 : decode cX1_swaps 13 = .ok (.aload_n 0, 1) := dk_42 (dk_at dksX1_swaps_0 13 rfl rfl)
theorem dX1_swaps_14 : decode cX1_swaps 14 = .ok (.aload_n 0, 1) := dk_42 (dk_at dksX1_swaps_0 14 rfl rfl)
theorem dX1_swaps_15 : decode cX1_swaps 15 = .ok (.getfield 33, 3) := dk_180 0 33 (dk_at dksX1_swaps_0 15 rfl rfl)
theorem dX1_swaps_18 : decode cX1_swaps 18 = .ok (.invokevirtual 278, 3) := dk_182 1 22 (dk_at dksX1_swaps_0 18 rfl rfl)
theorem dX1_swaps_21 : decode cX1_swaps 21 = .ok (.aload_n 0, 1) := dk_42 (dk_at dksX1_swaps_0 21 rfl rfl)
theorem dX1_swaps_22 : decode cX1_swaps 22 = .ok (.iload_n 1, 1) := dk_27 (dk_at dksX1_swaps_0 22 rfl rfl)
theorem dX1_swaps_23 : decode cX1_swaps 23 = .ok (.iload_n 2, 1) := dk_28 (dk_at dksX1_swaps_0 23 rfl rfl)
theorem dX1_swaps_24 : decode cX1_swaps 24 = .ok (.invokevirtual 320, 3) := dk_182 1 64 (dk_at dksX1_swaps_1 0 rfl rfl)
theorem dX1_swaps_27 : decode cX1_swaps 27 = .ok (.aload_n 0, 1) := dk_42 (dk_at dksX1_swaps_1 3 rfl rfl)
theorem dX1_swaps_28 : decode cX1_swaps 28 = .ok (.getfield 33, 3) := dk_180 0 33 (dk_at dksX1_swaps_1 4 rfl rfl)
theorem dX1_swaps_31 : decode cX1_swaps 31 = .ok (.getfield 186, 3) := dk_180 0 186 (dk_at dksX1_swaps_1 7 rfl rfl)
theorem dX1_swaps_34 : decode cX1_swaps 34 = .ok (.iload_n 1, 1) := dk_27 (dk_at dksX1_swaps_1 10 rfl rfl)
theorem dX1_swaps_35 : decode cX1_swaps 35 = .ok (.iaload, 1) := dk_46 (dk_at dksX1_swaps_1 11 rfl rfl)
theorem dX1_swaps_36 : decode cX1_swaps 36 = .ok (.aload_n 0, 1) := dk_42 (dk_at dksX1_swaps_1 12 rfl rfl)
theorem dX1_swaps_37 : decode cX1_swaps 37 = .ok (.getfield 33, 3) := dk_180 0 33 (dk_at dksX1_swaps_1 13 rfl rfl)
theorem dX1_swaps_40 : decode cX1_swaps 40 = .ok (.getfield 186, 3) := dk_180 0 186 (dk_at dksX1_swaps_1 16 rfl rfl)
theorem dX1_swaps_43 : decode cX1_swaps 43 = .ok (.iload_n 2, 1) := dk_28 (dk_at dksX1_swaps_1 19 rfl rfl)
theorem dX1_swaps_44 : decode cX1_swaps 44 = .ok (.iaload, 1) := dk_46 (dk_at dksX1_swaps_1 20 rfl rfl)
theorem dX1_swaps_45 : decode cX1_swaps 45 = .ok (.isub, 1) := dk_100 (dk_at dksX1_swaps_1 21 rfl rfl)
theorem dX1_swaps_46 : decode cX1_swaps 46 = .ok (.invokestatic 323, 3) := dk_184 1 67 (dk_at dksX1_swaps_2 0 rfl rfl)
theorem dX1_swaps_49 : decode cX1_swaps 49 = .ok (.ireturn, 1) := dk_172 (dk_at dksX1_swaps_2 3 rfl rfl)
abbrev cX1_refusesSwap : ByteArray := prog_1_method_31_code
def yX1_refusesSwap : MethodName := ⟨RX1, "refusesSwap", "(II)I"⟩
def dkwX1_refusesSwap_1 : List UInt8 := [180, 0, 33, 28, 182, 0, 236, 153, 0, 7, 3, 167, 0, 5, 16, 254, 172]
abbrev dktX1_refusesSwap_1 : List UInt8 := dkwX1_refusesSwap_1 ++ []
def dkwX1_refusesSwap_0 : List UInt8 := [42, 27, 28, 182, 1, 57, 154, 0, 5, 2, 172, 42, 180, 0, 33, 27, 182, 0, 236, 153, 0, 18, 42]
abbrev dktX1_refusesSwap_0 : List UInt8 := dkwX1_refusesSwap_0 ++ dktX1_refusesSwap_1
theorem dksX1_refusesSwap_0 : cX1_refusesSwap.data.toList.drop 0 = dktX1_refusesSwap_0 := by decide +kernel
theorem dksX1_refusesSwap_1 : cX1_refusesSwap.data.toList.drop 23 = dktX1_refusesSwap_1 := dk_seg dksX1_refusesSwap_0 23 rfl rfl
theorem dX1_refusesSwap_0 : decode cX1_refusesSwap 0 = .ok (.aload_n 0, 1) := dk_42 (dk_at dksX1_refusesSwap_0 0 rfl rfl)
theorem dX1_refusesSwap_1 : decode cX1_refusesSwap 1 = .ok (.iload_n 1, 1) := dk_27 (dk_at dksX1_refusesSwap_0 1 rfl rfl)
theorem dX1_refusesSwap_2 : decode cX1_refusesSwap 2 = .ok (.iload_n 2, 1) := dk_28 (dk_at dksX1_refusesSwap_0 2 rfl rfl)
theorem dX1_refusesSwap_3 : decode cX1_refusesSwap 3 = .ok (.invokevirtual 313, 3) := dk_182 1 57 (dk_at dksX1_refusesSwap_0 3 rfl rfl)
theorem dX1_refusesSwap_6 : decode cX1_refusesSwap 6 = .ok (.ifCond .ne 5, 3) := dk_154 0 5 (dk_at dksX1_refusesSwap_0 6 rfl rfl)
theorem dX1_refusesSwap_9 : decode cX1_refusesSwap 9 = .ok (.iconst (-1), 1) := dk_2 (dk_at dksX1_refusesSwap_0 9 rfl rfl)
theorem dX1_refusesSwap_10 : decode cX1_refusesSwap 10 = .ok (.ireturn, 1) := dk_172 (dk_at dksX1_refusesSwap_0 10 rfl rfl)
theorem dX1_refusesSwap_11 : decode cX1_refusesSwap 11 = .ok (.aload_n 0, 1) := dk_42 (dk_at dksX1_refusesSwap_0 11 rfl rfl)
theorem dX1_refusesSwap_12 : decode cX1_refusesSwap 12 = .ok (.getfield 33, 3) := dk_180 0 33 (dk_at dksX1_refusesSwap_0 12 rfl rfl)
theorem dX1_refusesSwap_15 : decode cX1_refusesSwap 15 = .ok (.iload_n 1, 1) := dk_27 (dk_at dksX1_refusesSwap_0 15 rfl rfl)
theorem dX1_refusesSwap_16 : decode cX1_refusesSwap 16 = .ok (.invokevirtual 236, 3) := dk_182 0 236 (dk_at dksX1_refusesSwap_0 16 rfl rfl)
theorem dX1_refusesSwap_19 : decode cX1_refusesSwap 19 = .ok (.ifCond .eq 18, 3) := dk_153 0 18 (dk_at dksX1_refusesSwap_0 19 rfl rfl)
theorem dX1_refusesSwap_22 : decode cX1_refusesSwap 22 = .ok (.aload_n 0, 1) := dk_42 (dk_at dksX1_refusesSwap_0 22 rfl rfl)
theorem dX1_refusesSwap_23 : decode cX1_refusesSwap 23 = .ok (.getfield 33, 3) := dk_180 0 33 (dk_at dksX1_refusesSwap_1 0 rfl rfl)
theorem dX1_refusesSwap_26 : decode cX1_refusesSwap 26 = .ok (.iload_n 2, 1) := dk_28 (dk_at dksX1_refusesSwap_1 3 rfl rfl)
theorem dX1_refusesSwap_27 : decode cX1_refusesSwap 27 = .ok (.invokevirtual 236, 3) := dk_182 0 236 (dk_at dksX1_refusesSwap_1 4 rfl rfl)
theorem dX1_refusesSwap_30 : decode cX1_refusesSwap 30 = .ok (.ifCond .eq 7, 3) := dk_153 0 7 (dk_at dksX1_refusesSwap_1 7 rfl rfl)
theorem dX1_refusesSwap_33 : decode cX1_refusesSwap 33 = .ok (.iconst 0, 1) := dk_3 (dk_at dksX1_refusesSwap_1 10 rfl rfl)
theorem dX1_refusesSwap_34 : decode cX1_refusesSwap 34 = .ok (.goto 5, 3) := dk_167 0 5 (dk_at dksX1_refusesSwap_1 11 rfl rfl)
theorem dX1_refusesSwap_37 : decode cX1_refusesSwap 37 = .ok (.bipush (-2), 2) := dk_16 254 (dk_at dksX1_refusesSwap_1 14 rfl rfl)
theorem dX1_refusesSwap_39 : decode cX1_refusesSwap 39 = .ok (.ireturn, 1) := dk_172 (dk_at dksX1_refusesSwap_1 16 rfl rfl)
abbrev cX1_areHearses : ByteArray := prog_1_method_7_code
def yX1_areHearses : MethodName := ⟨RX1, "areHearses", "(II)Z"⟩
def dkwX1_areHearses_1 : List UInt8 := [167, 0, 4, 3, 172]
abbrev dktX1_areHearses_1 : List UInt8 := dkwX1_areHearses_1 ++ []
def dkwX1_areHearses_0 : List UInt8 := [42, 27, 182, 0, 108, 153, 0, 20, 42, 28, 182, 0, 108, 153, 0, 12, 27, 28, 159, 0, 7, 4]
abbrev dktX1_areHearses_0 : List UInt8 := dkwX1_areHearses_0 ++ dktX1_areHearses_1
theorem dksX1_areHearses_0 : cX1_areHearses.data.toList.drop 0 = dktX1_areHearses_0 := by decide +kernel
theorem dksX1_areHearses_1 : cX1_areHearses.data.toList.drop 22 = dktX1_areHearses_1 := dk_seg dksX1_areHearses_0 22 rfl rfl
theorem dX1_areHearses_0 : decode cX1_areHearses 0 = .ok (.aload_n 0, 1) := dk_42 (dk_at dksX1_areHearses_0 0 rfl rfl)
theorem dX1_areHearses_1 : decode cX1_areHearses 1 = .ok (.iload_n 1, 1) := dk_27 (dk_at dksX1_areHearses_0 1 rfl rfl)
theorem dX1_areHearses_2 : decode cX1_areHearses 2 = .ok (.invokevirtual 108, 3) := dk_182 0 108 (dk_at dksX1_areHearses_0 2 rfl rfl)
theorem dX1_areHearses_5 : decode cX1_areHearses 5 = .ok (.ifCond .eq 20, 3) := dk_153 0 20 (dk_at dksX1_areHearses_0 5 rfl rfl)
theorem dX1_areHearses_8 : decode cX1_areHearses 8 = .ok (.aload_n 0, 1) := dk_42 (dk_at dksX1_areHearses_0 8 rfl rfl)
theorem dX1_areHearses_9 : decode cX1_areHearses 9 = .ok (.iload_n 2, 1) := dk_28 (dk_at dksX1_areHearses_0 9 rfl rfl)
theorem dX1_areHearses_10 : decode cX1_areHearses 10 = .ok (.invokevirtual 108, 3) := dk_182 0 108 (dk_at dksX1_areHearses_0 10 rfl rfl)
theorem dX1_areHearses_13 : decode cX1_areHearses 13 = .ok (.ifCond .eq 12, 3) := dk_153 0 12 (dk_at dksX1_areHearses_0 13 rfl rfl)
theorem dX1_areHearses_16 : decode cX1_areHearses 16 = .ok (.iload_n 1, 1) := dk_27 (dk_at dksX1_areHearses_0 16 rfl rfl)
theorem dX1_areHearses_17 : decode cX1_areHearses 17 = .ok (.iload_n 2, 1) := dk_28 (dk_at dksX1_areHearses_0 17 rfl rfl)
theorem dX1_areHearses_18 : decode cX1_areHearses 18 = .ok (.if_icmp .eq 7, 3) := dk_159 0 7 (dk_at dksX1_areHearses_0 18 rfl rfl)
theorem dX1_areHearses_21 : decode cX1_areHearses 21 = .ok (.iconst 1, 1) := dk_4 (dk_at dksX1_areHearses_0 21 rfl rfl)
theorem dX1_areHearses_22 : decode cX1_areHearses 22 = .ok (.goto 4, 3) := dk_167 0 4 (dk_at dksX1_areHearses_1 0 rfl rfl)
theorem dX1_areHearses_25 : decode cX1_areHearses 25 = .ok (.iconst 0, 1) := dk_3 (dk_at dksX1_areHearses_1 3 rfl rfl)
theorem dX1_areHearses_26 : decode cX1_areHearses 26 = .ok (.ireturn, 1) := dk_172 (dk_at dksX1_areHearses_1 4 rfl rfl)
abbrev cX1_isHearse : ByteArray := prog_1_method_5_code
def yX1_isHearse : MethodName := ⟨RX1, "isHearse", "(I)Z"⟩
def dkwX1_isHearse_0 : List UInt8 := [27, 133, 9, 42, 180, 0, 98, 4, 100, 133, 184, 0, 101, 172]
abbrev dktX1_isHearse_0 : List UInt8 := dkwX1_isHearse_0 ++ []
theorem dksX1_isHearse_0 : cX1_isHearse.data.toList.drop 0 = dktX1_isHearse_0 := by decide +kernel
theorem dX1_isHearse_0 : decode cX1_isHearse 0 = .ok (.iload_n 1, 1) := dk_27 (dk_at dksX1_isHearse_0 0 rfl rfl)
theorem dX1_isHearse_1 : decode cX1_isHearse 1 = .ok (.i2l, 1) := dk_133 (dk_at dksX1_isHearse_0 1 rfl rfl)
theorem dX1_isHearse_2 : decode cX1_isHearse 2 = .ok (.lconst 0, 1) := dk_9 (dk_at dksX1_isHearse_0 2 rfl rfl)
theorem dX1_isHearse_3 : decode cX1_isHearse 3 = .ok (.aload_n 0, 1) := dk_42 (dk_at dksX1_isHearse_0 3 rfl rfl)
theorem dX1_isHearse_4 : decode cX1_isHearse 4 = .ok (.getfield 98, 3) := dk_180 0 98 (dk_at dksX1_isHearse_0 4 rfl rfl)
theorem dX1_isHearse_7 : decode cX1_isHearse 7 = .ok (.iconst 1, 1) := dk_4 (dk_at dksX1_isHearse_0 7 rfl rfl)
theorem dX1_isHearse_8 : decode cX1_isHearse 8 = .ok (.isub, 1) := dk_100 (dk_at dksX1_isHearse_0 8 rfl rfl)
theorem dX1_isHearse_9 : decode cX1_isHearse 9 = .ok (.i2l, 1) := dk_133 (dk_at dksX1_isHearse_0 9 rfl rfl)
theorem dX1_isHearse_10 : decode cX1_isHearse 10 = .ok (.invokestatic 101, 3) := dk_184 0 101 (dk_at dksX1_isHearse_0 10 rfl rfl)
theorem dX1_isHearse_13 : decode cX1_isHearse 13 = .ok (.ireturn, 1) := dk_172 (dk_at dksX1_isHearse_0 13 rfl rfl)
abbrev cX1_goSwap : ByteArray := prog_1_method_32_code
def yX1_goSwap : MethodName := ⟨RX1, "goSwap", "(II)V"⟩
def dkwX1_goSwap_1 : List UInt8 := [180, 0, 186, 28, 46, 79, 42, 180, 0, 33, 180, 0, 186, 28, 29, 79, 177]
abbrev dktX1_goSwap_1 : List UInt8 := dkwX1_goSwap_1 ++ []
def dkwX1_goSwap_0 : List UInt8 := [42, 180, 0, 33, 180, 0, 186, 27, 46, 62, 42, 180, 0, 33, 180, 0, 186, 27, 42, 180, 0, 33]
abbrev dktX1_goSwap_0 : List UInt8 := dkwX1_goSwap_0 ++ dktX1_goSwap_1
theorem dksX1_goSwap_0 : cX1_goSwap.data.toList.drop 0 = dktX1_goSwap_0 := by decide +kernel
theorem dksX1_goSwap_1 : cX1_goSwap.data.toList.drop 22 = dktX1_goSwap_1 := dk_seg dksX1_goSwap_0 22 rfl rfl
theorem dX1_goSwap_0 : decode cX1_goSwap 0 = .ok (.aload_n 0, 1) := dk_42 (dk_at dksX1_goSwap_0 0 rfl rfl)
theorem dX1_goSwap_1 : decode cX1_goSwap 1 = .ok (.getfield 33, 3) := dk_180 0 33 (dk_at dksX1_goSwap_0 1 rfl rfl)
theorem dX1_goSwap_4 : decode cX1_goSwap 4 = .ok (.getfield 186, 3) := dk_180 0 186 (dk_at dksX1_goSwap_0 4 rfl rfl)
theorem dX1_goSwap_7 : decode cX1_goSwap 7 = .ok (.iload_n 1, 1) := dk_27 (dk_at dksX1_goSwap_0 7 rfl rfl)
theorem dX1_goSwap_8 : decode cX1_goSwap 8 = .ok (.iaload, 1) := dk_46 (dk_at dksX1_goSwap_0 8 rfl rfl)
theorem dX1_goSwap_9 : decode cX1_goSwap 9 = .ok (.istore_n 3, 1) := dk_62 (dk_at dksX1_goSwap_0 9 rfl rfl)
theorem dX1_goSwap_10 : decode cX1_goSwap 10 = .ok (.aload_n 0, 1) := dk_42 (dk_at dksX1_goSwap_0 10 rfl rfl)
theorem dX1_goSwap_11 : decode cX1_goSwap 11 = .ok (.getfield 33, 3) := dk_180 0 33 (dk_at dksX1_goSwap_0 11 rfl rfl)
theorem dX1_goSwap_14 : decode cX1_goSwap 14 = .ok (.getfield 186, 3) := dk_180 0 186 (dk_at dksX1_goSwap_0 14 rfl rfl)
theorem dX1_goSwap_17 : decode cX1_goSwap 17 = .ok (.iload_n 1, 1) := dk_27 (dk_at dksX1_goSwap_0 17 rfl rfl)
theorem dX1_goSwap_18 : decode cX1_goSwap 18 = .ok (.aload_n 0, 1) := dk_42 (dk_at dksX1_goSwap_0 18 rfl rfl)
theorem dX1_goSwap_19 : decode cX1_goSwap 19 = .ok (.getfield 33, 3) := dk_180 0 33 (dk_at dksX1_goSwap_0 19 rfl rfl)
theorem dX1_goSwap_22 : decode cX1_goSwap 22 = .ok (.getfield 186, 3) := dk_180 0 186 (dk_at dksX1_goSwap_1 0 rfl rfl)
theorem dX1_goSwap_25 : decode cX1_goSwap 25 = .ok (.iload_n 2, 1) := dk_28 (dk_at dksX1_goSwap_1 3 rfl rfl)
theorem dX1_goSwap_26 : decode cX1_goSwap 26 = .ok (.iaload, 1) := dk_46 (dk_at dksX1_goSwap_1 4 rfl rfl)
theorem dX1_goSwap_27 : decode cX1_goSwap 27 = .ok (.iastore, 1) := dk_79 (dk_at dksX1_goSwap_1 5 rfl rfl)
theorem dX1_goSwap_28 : decode cX1_goSwap 28 = .ok (.aload_n 0, 1) := dk_42 (dk_at dksX1_goSwap_1 6 rfl rfl)
theorem dX1_goSwap_29 : decode cX1_goSwap 29 = .ok (.getfield 33, 3) := dk_180 0 33 (dk_at dksX1_goSwap_1 7 rfl rfl)
theorem dX1_goSwap_32 : decode cX1_goSwap 32 = .ok (.getfield 186, 3) := dk_180 0 186 (dk_at dksX1_goSwap_1 10 rfl rfl)
theorem dX1_goSwap_35 : decode cX1_goSwap 35 = .ok (.iload_n 2, 1) := dk_28 (dk_at dksX1_goSwap_1 13 rfl rfl)
theorem dX1_goSwap_36 : decode cX1_goSwap 36 = .ok (.iload_n 3, 1) := dk_29 (dk_at dksX1_goSwap_1 14 rfl rfl)
theorem dX1_goSwap_37 : decode cX1_goSwap 37 = .ok (.iastore, 1) := dk_79 (dk_at dksX1_goSwap_1 15 rfl rfl)
theorem dX1_goSwap_38 : decode cX1_goSwap 38 = .ok (.return_, 1) := dk_177 (dk_at dksX1_goSwap_1 16 rfl rfl)
abbrev cX1_hour : ByteArray := prog_1_method_34_code
def yX1_hour : MethodName := ⟨RX1, "hour", "()I"⟩
def dkwX1_hour_5 : List UInt8 := [167, 0, 4, 9, 182, 1, 35, 42, 42, 180, 0, 33, 180, 0, 150, 133, 182, 1, 35, 28, 172]
abbrev dktX1_hour_5 : List UInt8 := dkwX1_hour_5 ++ []
def dkwX1_hour_4 : List UInt8 := [42, 42, 180, 0, 37, 182, 1, 22, 42, 3, 181, 0, 95, 42, 28, 43, 180, 1, 77, 162, 0, 7, 10]
abbrev dktX1_hour_4 : List UInt8 := dkwX1_hour_4 ++ dktX1_hour_5
def dkwX1_hour_3 : List UInt8 := [28, 46, 43, 180, 1, 87, 28, 46, 182, 1, 90, 153, 0, 9, 132, 2, 1, 167, 255, 220, 28, 158, 0, 11]
abbrev dktX1_hour_3 : List UInt8 := dkwX1_hour_3 ++ dktX1_hour_4
def dkwX1_hour_2 : List UInt8 := [182, 1, 16, 3, 61, 28, 43, 180, 1, 77, 162, 0, 34, 42, 43, 180, 1, 80, 28, 52, 43, 180, 1, 84]
abbrev dktX1_hour_2 : List UInt8 := dkwX1_hour_2 ++ dktX1_hour_3
def dkwX1_hour_1 : List UInt8 := [182, 1, 75, 167, 0, 11, 77, 2, 44, 180, 0, 141, 100, 172, 42, 180, 0, 37, 42, 180, 0, 33]
abbrev dktX1_hour_1 : List UInt8 := dkwX1_hour_1 ++ dktX1_hour_2
def dkwX1_hour_0 : List UInt8 := [187, 1, 70, 89, 42, 180, 0, 50, 42, 180, 0, 114, 183, 1, 72, 76, 42, 3, 181, 0, 114, 43]
abbrev dktX1_hour_0 : List UInt8 := dkwX1_hour_0 ++ dktX1_hour_1
theorem dksX1_hour_0 : cX1_hour.data.toList.drop 0 = dktX1_hour_0 := by decide +kernel
theorem dksX1_hour_1 : cX1_hour.data.toList.drop 22 = dktX1_hour_1 := dk_seg dksX1_hour_0 22 rfl rfl
theorem dksX1_hour_2 : cX1_hour.data.toList.drop 44 = dktX1_hour_2 := dk_seg dksX1_hour_1 22 rfl rfl
theorem dksX1_hour_3 : cX1_hour.data.toList.drop 68 = dktX1_hour_3 := dk_seg dksX1_hour_2 24 rfl rfl
theorem dksX1_hour_4 : cX1_hour.data.toList.drop 92 = dktX1_hour_4 := dk_seg dksX1_hour_3 24 rfl rfl
theorem dksX1_hour_5 : cX1_hour.data.toList.drop 115 = dktX1_hour_5 := dk_seg dksX1_hour_4 23 rfl rfl
theorem dX1_hour_0 : decode cX1_hour 0 = .ok (.new 326, 3) := dk_187 1 70 (dk_at dksX1_hour_0 0 rfl rfl)
theorem dX1_hour_3 : decode cX1_hour 3 = .ok (.dup, 1) := dk_89 (dk_at dksX1_hour_0 3 rfl rfl)
theorem dX1_hour_4 : decode cX1_hour 4 = .ok (.aload_n 0, 1) := dk_42 (dk_at dksX1_hour_0 4 rfl rfl)
theorem dX1_hour_5 : decode cX1_hour 5 = .ok (.getfield 50, 3) := dk_180 0 50 (dk_at dksX1_hour_0 5 rfl rfl)
theorem dX1_hour_8 : decode cX1_hour 8 = .ok (.aload_n 0, 1) := dk_42 (dk_at dksX1_hour_0 8 rfl rfl)
theorem dX1_hour_9 : decode cX1_hour 9 = .ok (.getfield 114, 3) := dk_180 0 114 (dk_at dksX1_hour_0 9 rfl rfl)
theorem dX1_hour_12 : decode cX1_hour 12 = .ok (.invokespecial 328, 3) := dk_183 1 72 (dk_at dksX1_hour_0 12 rfl rfl)
theorem dX1_hour_15 : decode cX1_hour 15 = .ok (.astore_n 1, 1) := dk_76 (dk_at dksX1_hour_0 15 rfl rfl)
theorem dX1_hour_16 : decode cX1_hour 16 = .ok (.aload_n 0, 1) := dk_42 (dk_at dksX1_hour_0 16 rfl rfl)
theorem dX1_hour_17 : decode cX1_hour 17 = .ok (.iconst 0, 1) := dk_3 (dk_at dksX1_hour_0 17 rfl rfl)
theorem dX1_hour_18 : decode cX1_hour 18 = .ok (.putfield 114, 3) := dk_181 0 114 (dk_at dksX1_hour_0 18 rfl rfl)
theorem dX1_hour_21 : decode cX1_hour 21 = .ok (.aload_n 1, 1) := dk_43 (dk_at dksX1_hour_0 21 rfl rfl)
theorem dX1_hour_22 : decode cX1_hour 22 = .ok (.invokevirtual 331, 3) := dk_182 1 75 (dk_at dksX1_hour_1 0 rfl rfl)
theorem dX1_hour_25 : decode cX1_hour 25 = .ok (.goto 11, 3) := dk_167 0 11 (dk_at dksX1_hour_1 3 rfl rfl)
theorem dX1_hour_28 : decode cX1_hour 28 = .ok (.astore_n 2, 1) := dk_77 (dk_at dksX1_hour_1 6 rfl rfl)
theorem dX1_hour_29 : decode cX1_hour 29 = .ok (.iconst (-1), 1) := dk_2 (dk_at dksX1_hour_1 7 rfl rfl)
theorem dX1_hour_30 : decode cX1_hour 30 = .ok (.aload_n 2, 1) := dk_44 (dk_at dksX1_hour_1 8 rfl rfl)
theorem dX1_hour_31 : decode cX1_hour 31 = .ok (.getfield 141, 3) := dk_180 0 141 (dk_at dksX1_hour_1 9 rfl rfl)
theorem dX1_hour_34 : decode cX1_hour 34 = .ok (.isub, 1) := dk_100 (dk_at dksX1_hour_1 12 rfl rfl)
theorem dX1_hour_35 : decode cX1_hour 35 = .ok (.ireturn, 1) := dk_172 (dk_at dksX1_hour_1 13 rfl rfl)
theorem dX1_hour_36 : decode cX1_hour 36 = .ok (.aload_n 0, 1) := dk_42 (dk_at dksX1_hour_1 14 rfl rfl)
theorem dX1_hour_37 : decode cX1_hour 37 = .ok (.getfield 37, 3) := dk_180 0 37 (dk_at dksX1_hour_1 15 rfl rfl)
theorem dX1_hour_40 : decode cX1_hour 40 = .ok (.aload_n 0, 1) := dk_42 (dk_at dksX1_hour_1 18 rfl rfl)
theorem dX1_hour_41 : decode cX1_hour 41 = .ok (.getfield 33, 3) := dk_180 0 33 (dk_at dksX1_hour_1 19 rfl rfl)
theorem dX1_hour_44 : decode cX1_hour 44 = .ok (.invokevirtual 272, 3) := dk_182 1 16 (dk_at dksX1_hour_2 0 rfl rfl)
theorem dX1_hour_47 : decode cX1_hour 47 = .ok (.iconst 0, 1) := dk_3 (dk_at dksX1_hour_2 3 rfl rfl)
theorem dX1_hour_48 : decode cX1_hour 48 = .ok (.istore_n 2, 1) := dk_61 (dk_at dksX1_hour_2 4 rfl rfl)
theorem dX1_hour_49 : decode cX1_hour 49 = .ok (.iload_n 2, 1) := dk_28 (dk_at dksX1_hour_2 5 rfl rfl)
theorem dX1_hour_50 : decode cX1_hour 50 = .ok (.aload_n 1, 1) := dk_43 (dk_at dksX1_hour_2 6 rfl rfl)
theorem dX1_hour_51 : decode cX1_hour 51 = .ok (.getfield 333, 3) := dk_180 1 77 (dk_at dksX1_hour_2 7 rfl rfl)
theorem dX1_hour_54 : decode cX1_hour 54 = .ok (.if_icmp .ge 34, 3) := dk_162 0 34 (dk_at dksX1_hour_2 10 rfl rfl)
theorem dX1_hour_57 : decode cX1_hour 57 = .ok (.aload_n 0, 1) := dk_42 (dk_at dksX1_hour_2 13 rfl rfl)
theorem dX1_hour_58 : decode cX1_hour 58 = .ok (.aload_n 1, 1) := dk_43 (dk_at dksX1_hour_2 14 rfl rfl)
theorem dX1_hour_59 : decode cX1_hour 59 = .ok (.getfield 336, 3) := dk_180 1 80 (dk_at dksX1_hour_2 15 rfl rfl)
theorem dX1_hour_62 : decode cX1_hour 62 = .ok (.iload_n 2, 1) := dk_28 (dk_at dksX1_hour_2 18 rfl rfl)
theorem dX1_hour_63 : decode cX1_hour 63 = .ok (.caload, 1) := dk_52 (dk_at dksX1_hour_2 19 rfl rfl)
theorem dX1_hour_64 : decode cX1_hour 64 = .ok (.aload_n 1, 1) := dk_43 (dk_at dksX1_hour_2 20 rfl rfl)
theorem dX1_hour_65 : decode cX1_hour 65 = .ok (.getfield 340, 3) := dk_180 1 84 (dk_at dksX1_hour_2 21 rfl rfl)
theorem dX1_hour_68 : decode cX1_hour 68 = .ok (.iload_n 2, 1) := dk_28 (dk_at dksX1_hour_3 0 rfl rfl)
theorem dX1_hour_69 : decode cX1_hour 69 = .ok (.iaload, 1) := dk_46 (dk_at dksX1_hour_3 1 rfl rfl)
theorem dX1_hour_70 : decode cX1_hour 70 = .ok (.aload_n 1, 1) := dk_43 (dk_at dksX1_hour_3 2 rfl rfl)
theorem dX1_hour_71 : decode cX1_hour 71 = .ok (.getfield 343, 3) := dk_180 1 87 (dk_at dksX1_hour_3 3 rfl rfl)
theorem dX1_hour_74 : decode cX1_hour 74 = .ok (.iload_n 2, 1) := dk_28 (dk_at dksX1_hour_3 6 rfl rfl)
theorem dX1_hour_75 : decode cX1_hour 75 = .ok (.iaload, 1) := dk_46 (dk_at dksX1_hour_3 7 rfl rfl)
theorem dX1_hour_76 : decode cX1_hour 76 = .ok (.invokevirtual 346, 3) := dk_182 1 90 (dk_at dksX1_hour_3 8 rfl rfl)
theorem dX1_hour_79 : decode cX1_hour 79 = .ok (.ifCond .eq 9, 3) := dk_153 0 9 (dk_at dksX1_hour_3 11 rfl rfl)
theorem dX1_hour_82 : decode cX1_hour 82 = .ok (.iinc 2 1, 3) := dk_132 2 1 (dk_at dksX1_hour_3 14 rfl rfl)
theorem dX1_hour_85 : decode cX1_hour 85 = .ok (.goto (-36), 3) := dk_167 255 220 (dk_at dksX1_hour_3 17 rfl rfl)
theorem dX1_hour_88 : decode cX1_hour 88 = .ok (.iload_n 2, 1) := dk_28 (dk_at dksX1_hour_3 20 rfl rfl)
theorem dX1_hour_89 : decode cX1_hour 89 = .ok (.ifCond .le 11, 3) := dk_158 0 11 (dk_at dksX1_hour_3 21 rfl rfl)
theorem dX1_hour_92 : decode cX1_hour 92 = .ok (.aload_n 0, 1) := dk_42 (dk_at dksX1_hour_4 0 rfl rfl)
theorem dX1_hour_93 : decode cX1_hour 93 = .ok (.aload_n 0, 1) := dk_42 (dk_at dksX1_hour_4 1 rfl rfl)
theorem dX1_hour_94 : decode cX1_hour 94 = .ok (.getfield 37, 3) := dk_180 0 37 (dk_at dksX1_hour_4 2 rfl rfl)
theorem dX1_hour_97 : decode cX1_hour 97 = .ok (.invokevirtual 278, 3) := dk_182 1 22 (dk_at dksX1_hour_4 5 rfl rfl)
theorem dX1_hour_100 : decode cX1_hour 100 = .ok (.aload_n 0, 1) := dk_42 (dk_at dksX1_hour_4 8 rfl rfl)
theorem dX1_hour_101 : decode cX1_hour 101 = .ok (.iconst 0, 1) := dk_3 (dk_at dksX1_hour_4 9 rfl rfl)
theorem dX1_hour_102 : decode cX1_hour 102 = .ok (.putfield 95, 3) := dk_181 0 95 (dk_at dksX1_hour_4 10 rfl rfl)
theorem dX1_hour_105 : decode cX1_hour 105 = .ok (.aload_n 0, 1) := dk_42 (dk_at dksX1_hour_4 13 rfl rfl)
theorem dX1_hour_106 : decode cX1_hour 106 = .ok (.iload_n 2, 1) := dk_28 (dk_at dksX1_hour_4 14 rfl rfl)
theorem dX1_hour_107 : decode cX1_hour 107 = .ok (.aload_n 1, 1) := dk_43 (dk_at dksX1_hour_4 15 rfl rfl)
theorem dX1_hour_108 : decode cX1_hour 108 = .ok (.getfield 333, 3) := dk_180 1 77 (dk_at dksX1_hour_4 16 rfl rfl)
theorem dX1_hour_111 : decode cX1_hour 111 = .ok (.if_icmp .ge 7, 3) := dk_162 0 7 (dk_at dksX1_hour_4 19 rfl rfl)
theorem dX1_hour_114 : decode cX1_hour 114 = .ok (.lconst 1, 1) := dk_10 (dk_at dksX1_hour_4 22 rfl rfl)
theorem dX1_hour_115 : decode cX1_hour 115 = .ok (.goto 4, 3) := dk_167 0 4 (dk_at dksX1_hour_5 0 rfl rfl)
theorem dX1_hour_118 : decode cX1_hour 118 = .ok (.lconst 0, 1) := dk_9 (dk_at dksX1_hour_5 3 rfl rfl)
theorem dX1_hour_119 : decode cX1_hour 119 = .ok (.invokevirtual 291, 3) := dk_182 1 35 (dk_at dksX1_hour_5 4 rfl rfl)
theorem dX1_hour_122 : decode cX1_hour 122 = .ok (.aload_n 0, 1) := dk_42 (dk_at dksX1_hour_5 7 rfl rfl)
theorem dX1_hour_123 : decode cX1_hour 123 = .ok (.aload_n 0, 1) := dk_42 (dk_at dksX1_hour_5 8 rfl rfl)
theorem dX1_hour_124 : decode cX1_hour 124 = .ok (.getfield 33, 3) := dk_180 0 33 (dk_at dksX1_hour_5 9 rfl rfl)
theorem dX1_hour_127 : decode cX1_hour 127 = .ok (.getfield 150, 3) := dk_180 0 150 (dk_at dksX1_hour_5 12 rfl rfl)
theorem dX1_hour_130 : decode cX1_hour 130 = .ok (.i2l, 1) := dk_133 (dk_at dksX1_hour_5 15 rfl rfl)
theorem dX1_hour_131 : decode cX1_hour 131 = .ok (.invokevirtual 291, 3) := dk_182 1 35 (dk_at dksX1_hour_5 16 rfl rfl)
theorem dX1_hour_134 : decode cX1_hour 134 = .ok (.iload_n 2, 1) := dk_28 (dk_at dksX1_hour_5 19 rfl rfl)
theorem dX1_hour_135 : decode cX1_hour 135 = .ok (.ireturn, 1) := dk_172 (dk_at dksX1_hour_5 20 rfl rfl)
abbrev cX1_act : ByteArray := prog_1_method_35_code
def yX1_act : MethodName := ⟨RX1, "act", "(CII)Z"⟩
def dkwX1_act_6 : List UInt8 := [156, 0, 5, 3, 172, 42, 180, 0, 33, 28, 21, 4, 182, 1, 53, 4, 172]
abbrev dktX1_act_6 : List UInt8 := dkwX1_act_6 ++ []
def dkwX1_act_5 : List UInt8 := [160, 0, 7, 29, 167, 0, 5, 29, 116, 54, 4, 42, 42, 180, 0, 33, 28, 21, 4, 182, 1, 49]
abbrev dktX1_act_5 : List UInt8 := dkwX1_act_5 ++ dktX1_act_6
def dkwX1_act_4 : List UInt8 := [172, 42, 28, 29, 182, 1, 61, 156, 0, 5, 3, 172, 42, 28, 29, 182, 1, 64, 4, 172, 27, 16, 112]
abbrev dktX1_act_4 : List UInt8 := dkwX1_act_4 ++ dktX1_act_5
def dkwX1_act_3 : List UInt8 := [182, 1, 42, 156, 0, 5, 3, 172, 42, 180, 0, 33, 180, 0, 200, 28, 42, 180, 0, 13, 28, 46, 79, 4]
abbrev dktX1_act_3 : List UInt8 := dkwX1_act_3 ++ dktX1_act_4
def dkwX1_act_2 : List UInt8 := [42, 180, 0, 33, 28, 182, 1, 25, 4, 172, 42, 28, 182, 0, 251, 153, 0, 14, 42, 180, 0, 33, 28]
abbrev dktX1_act_2 : List UInt8 := dkwX1_act_2 ++ dktX1_act_3
def dkwX1_act_1 : List UInt8 := [171, 0, 0, 0, 0, 0, 102, 0, 0, 0, 3, 0, 0, 0, 110, 0, 0, 0, 35, 0, 0, 0, 116, 0, 0, 0, 45, 0, 0, 0, 120, 0, 0, 0, 83]
abbrev dktX1_act_1 : List UInt8 := dkwX1_act_1 ++ dktX1_act_2
def dkwX1_act_0 : List UInt8 := [27]
abbrev dktX1_act_0 : List UInt8 := dkwX1_act_0 ++ dktX1_act_1
theorem dksX1_act_0 : cX1_act.data.toList.drop 0 = dktX1_act_0 := by decide +kernel
theorem dksX1_act_1 : cX1_act.data.toList.drop 1 = dktX1_act_1 := dk_seg dksX1_act_0 1 rfl rfl
theorem dksX1_act_2 : cX1_act.data.toList.drop 36 = dktX1_act_2 := dk_seg dksX1_act_1 35 rfl rfl
theorem dksX1_act_3 : cX1_act.data.toList.drop 59 = dktX1_act_3 := dk_seg dksX1_act_2 23 rfl rfl
theorem dksX1_act_4 : cX1_act.data.toList.drop 83 = dktX1_act_4 := dk_seg dksX1_act_3 24 rfl rfl
theorem dksX1_act_5 : cX1_act.data.toList.drop 106 = dktX1_act_5 := dk_seg dksX1_act_4 23 rfl rfl
theorem dksX1_act_6 : cX1_act.data.toList.drop 128 = dktX1_act_6 := dk_seg dksX1_act_5 22 rfl rfl
theorem dX1_act_0 : decode cX1_act 0 = .ok (.iload_n 1, 1) := dk_27 (dk_at dksX1_act_0 0 rfl rfl)
theorem dX1_act_1 : decode cX1_act 1 = .ok (.lookupswitch 102 #[(110, 35), (116, 45), (120, 83)], 35) := by decide +kernel
theorem dX1_act_36 : decode cX1_act 36 = .ok (.aload_n 0, 1) := dk_42 (dk_at dksX1_act_2 0 rfl rfl)
theorem dX1_act_37 : decode cX1_act 37 = .ok (.getfield 33, 3) := dk_180 0 33 (dk_at dksX1_act_2 1 rfl rfl)
theorem dX1_act_40 : decode cX1_act 40 = .ok (.iload_n 2, 1) := dk_28 (dk_at dksX1_act_2 4 rfl rfl)
theorem dX1_act_41 : decode cX1_act 41 = .ok (.invokevirtual 281, 3) := dk_182 1 25 (dk_at dksX1_act_2 5 rfl rfl)
theorem dX1_act_44 : decode cX1_act 44 = .ok (.iconst 1, 1) := dk_4 (dk_at dksX1_act_2 8 rfl rfl)
theorem dX1_act_45 : decode cX1_act 45 = .ok (.ireturn, 1) := dk_172 (dk_at dksX1_act_2 9 rfl rfl)
theorem dX1_act_46 : decode cX1_act 46 = .ok (.aload_n 0, 1) := dk_42 (dk_at dksX1_act_2 10 rfl rfl)
theorem dX1_act_47 : decode cX1_act 47 = .ok (.iload_n 2, 1) := dk_28 (dk_at dksX1_act_2 11 rfl rfl)
theorem dX1_act_48 : decode cX1_act 48 = .ok (.invokevirtual 251, 3) := dk_182 0 251 (dk_at dksX1_act_2 12 rfl rfl)
theorem dX1_act_51 : decode cX1_act 51 = .ok (.ifCond .eq 14, 3) := dk_153 0 14 (dk_at dksX1_act_2 15 rfl rfl)
theorem dX1_act_54 : decode cX1_act 54 = .ok (.aload_n 0, 1) := dk_42 (dk_at dksX1_act_2 18 rfl rfl)
theorem dX1_act_55 : decode cX1_act 55 = .ok (.getfield 33, 3) := dk_180 0 33 (dk_at dksX1_act_2 19 rfl rfl)
theorem dX1_act_58 : decode cX1_act 58 = .ok (.iload_n 2, 1) := dk_28 (dk_at dksX1_act_2 22 rfl rfl)
theorem dX1_act_59 : decode cX1_act 59 = .ok (.invokevirtual 298, 3) := dk_182 1 42 (dk_at dksX1_act_3 0 rfl rfl)
theorem dX1_act_62 : decode cX1_act 62 = .ok (.ifCond .ge 5, 3) := dk_156 0 5 (dk_at dksX1_act_3 3 rfl rfl)
theorem dX1_act_65 : decode cX1_act 65 = .ok (.iconst 0, 1) := dk_3 (dk_at dksX1_act_3 6 rfl rfl)
theorem dX1_act_66 : decode cX1_act 66 = .ok (.ireturn, 1) := dk_172 (dk_at dksX1_act_3 7 rfl rfl)
theorem dX1_act_67 : decode cX1_act 67 = .ok (.aload_n 0, 1) := dk_42 (dk_at dksX1_act_3 8 rfl rfl)
theorem dX1_act_68 : decode cX1_act 68 = .ok (.getfield 33, 3) := dk_180 0 33 (dk_at dksX1_act_3 9 rfl rfl)
theorem dX1_act_71 : decode cX1_act 71 = .ok (.getfield 200, 3) := dk_180 0 200 (dk_at dksX1_act_3 12 rfl rfl)
theorem dX1_act_74 : decode cX1_act 74 = .ok (.iload_n 2, 1) := dk_28 (dk_at dksX1_act_3 15 rfl rfl)
theorem dX1_act_75 : decode cX1_act 75 = .ok (.aload_n 0, 1) := dk_42 (dk_at dksX1_act_3 16 rfl rfl)
theorem dX1_act_76 : decode cX1_act 76 = .ok (.getfield 13, 3) := dk_180 0 13 (dk_at dksX1_act_3 17 rfl rfl)
theorem dX1_act_79 : decode cX1_act 79 = .ok (.iload_n 2, 1) := dk_28 (dk_at dksX1_act_3 20 rfl rfl)
theorem dX1_act_80 : decode cX1_act 80 = .ok (.iaload, 1) := dk_46 (dk_at dksX1_act_3 21 rfl rfl)
theorem dX1_act_81 : decode cX1_act 81 = .ok (.iastore, 1) := dk_79 (dk_at dksX1_act_3 22 rfl rfl)
theorem dX1_act_82 : decode cX1_act 82 = .ok (.iconst 1, 1) := dk_4 (dk_at dksX1_act_3 23 rfl rfl)
theorem dX1_act_83 : decode cX1_act 83 = .ok (.ireturn, 1) := dk_172 (dk_at dksX1_act_4 0 rfl rfl)
theorem dX1_act_84 : decode cX1_act 84 = .ok (.aload_n 0, 1) := dk_42 (dk_at dksX1_act_4 1 rfl rfl)
theorem dX1_act_85 : decode cX1_act 85 = .ok (.iload_n 2, 1) := dk_28 (dk_at dksX1_act_4 2 rfl rfl)
theorem dX1_act_86 : decode cX1_act 86 = .ok (.iload_n 3, 1) := dk_29 (dk_at dksX1_act_4 3 rfl rfl)
theorem dX1_act_87 : decode cX1_act 87 = .ok (.invokevirtual 317, 3) := dk_182 1 61 (dk_at dksX1_act_4 4 rfl rfl)
theorem dX1_act_90 : decode cX1_act 90 = .ok (.ifCond .ge 5, 3) := dk_156 0 5 (dk_at dksX1_act_4 7 rfl rfl)
theorem dX1_act_93 : decode cX1_act 93 = .ok (.iconst 0, 1) := dk_3 (dk_at dksX1_act_4 10 rfl rfl)
theorem dX1_act_94 : decode cX1_act 94 = .ok (.ireturn, 1) := dk_172 (dk_at dksX1_act_4 11 rfl rfl)
theorem dX1_act_95 : decode cX1_act 95 = .ok (.aload_n 0, 1) := dk_42 (dk_at dksX1_act_4 12 rfl rfl)
theorem dX1_act_96 : decode cX1_act 96 = .ok (.iload_n 2, 1) := dk_28 (dk_at dksX1_act_4 13 rfl rfl)
theorem dX1_act_97 : decode cX1_act 97 = .ok (.iload_n 3, 1) := dk_29 (dk_at dksX1_act_4 14 rfl rfl)
theorem dX1_act_98 : decode cX1_act 98 = .ok (.invokevirtual 320, 3) := dk_182 1 64 (dk_at dksX1_act_4 15 rfl rfl)
theorem dX1_act_101 : decode cX1_act 101 = .ok (.iconst 1, 1) := dk_4 (dk_at dksX1_act_4 18 rfl rfl)
theorem dX1_act_102 : decode cX1_act 102 = .ok (.ireturn, 1) := dk_172 (dk_at dksX1_act_4 19 rfl rfl)
theorem dX1_act_103 : decode cX1_act 103 = .ok (.iload_n 1, 1) := dk_27 (dk_at dksX1_act_4 20 rfl rfl)
theorem dX1_act_104 : decode cX1_act 104 = .ok (.bipush 112, 2) := dk_16 112 (dk_at dksX1_act_4 21 rfl rfl)
theorem dX1_act_106 : decode cX1_act 106 = .ok (.if_icmp .ne 7, 3) := dk_160 0 7 (dk_at dksX1_act_5 0 rfl rfl)
theorem dX1_act_109 : decode cX1_act 109 = .ok (.iload_n 3, 1) := dk_29 (dk_at dksX1_act_5 3 rfl rfl)
theorem dX1_act_110 : decode cX1_act 110 = .ok (.goto 5, 3) := dk_167 0 5 (dk_at dksX1_act_5 4 rfl rfl)
theorem dX1_act_113 : decode cX1_act 113 = .ok (.iload_n 3, 1) := dk_29 (dk_at dksX1_act_5 7 rfl rfl)
theorem dX1_act_114 : decode cX1_act 114 = .ok (.ineg, 1) := dk_116 (dk_at dksX1_act_5 8 rfl rfl)
theorem dX1_act_115 : decode cX1_act 115 = .ok (.istore 4, 2) := dk_54 4 (dk_at dksX1_act_5 9 rfl rfl)
theorem dX1_act_117 : decode cX1_act 117 = .ok (.aload_n 0, 1) := dk_42 (dk_at dksX1_act_5 11 rfl rfl)
theorem dX1_act_118 : decode cX1_act 118 = .ok (.aload_n 0, 1) := dk_42 (dk_at dksX1_act_5 12 rfl rfl)
theorem dX1_act_119 : decode cX1_act 119 = .ok (.getfield 33, 3) := dk_180 0 33 (dk_at dksX1_act_5 13 rfl rfl)
theorem dX1_act_122 : decode cX1_act 122 = .ok (.iload_n 2, 1) := dk_28 (dk_at dksX1_act_5 16 rfl rfl)
theorem dX1_act_123 : decode cX1_act 123 = .ok (.iload 4, 2) := dk_21 4 (dk_at dksX1_act_5 17 rfl rfl)
theorem dX1_act_125 : decode cX1_act 125 = .ok (.invokevirtual 305, 3) := dk_182 1 49 (dk_at dksX1_act_5 19 rfl rfl)
theorem dX1_act_128 : decode cX1_act 128 = .ok (.ifCond .ge 5, 3) := dk_156 0 5 (dk_at dksX1_act_6 0 rfl rfl)
theorem dX1_act_131 : decode cX1_act 131 = .ok (.iconst 0, 1) := dk_3 (dk_at dksX1_act_6 3 rfl rfl)
theorem dX1_act_132 : decode cX1_act 132 = .ok (.ireturn, 1) := dk_172 (dk_at dksX1_act_6 4 rfl rfl)
theorem dX1_act_133 : decode cX1_act 133 = .ok (.aload_n 0, 1) := dk_42 (dk_at dksX1_act_6 5 rfl rfl)
theorem dX1_act_134 : decode cX1_act 134 = .ok (.getfield 33, 3) := dk_180 0 33 (dk_at dksX1_act_6 6 rfl rfl)
theorem dX1_act_137 : decode cX1_act 137 = .ok (.iload_n 2, 1) := dk_28 (dk_at dksX1_act_6 9 rfl rfl)
theorem dX1_act_138 : decode cX1_act 138 = .ok (.iload 4, 2) := dk_21 4 (dk_at dksX1_act_6 10 rfl rfl)
theorem dX1_act_140 : decode cX1_act 140 = .ok (.invokevirtual 309, 3) := dk_182 1 53 (dk_at dksX1_act_6 12 rfl rfl)
theorem dX1_act_143 : decode cX1_act 143 = .ok (.iconst 1, 1) := dk_4 (dk_at dksX1_act_6 15 rfl rfl)
theorem dX1_act_144 : decode cX1_act 144 = .ok (.ireturn, 1) := dk_172 (dk_at dksX1_act_6 16 rfl rfl)
abbrev cX1_undo : ByteArray := prog_1_method_36_code
def yX1_undo : MethodName := ⟨RX1, "undo", "()I"⟩
def dkwX1_undo_1 : List UInt8 := [180, 0, 46, 42, 180, 0, 162, 50, 182, 1, 16, 42, 180, 0, 162, 172]
abbrev dktX1_undo_1 : List UInt8 := dkwX1_undo_1 ++ []
def dkwX1_undo_0 : List UInt8 := [42, 180, 0, 162, 154, 0, 5, 2, 172, 42, 89, 180, 0, 162, 4, 100, 181, 0, 162, 42, 180, 0, 33, 42]
abbrev dktX1_undo_0 : List UInt8 := dkwX1_undo_0 ++ dktX1_undo_1
theorem dksX1_undo_0 : cX1_undo.data.toList.drop 0 = dktX1_undo_0 := by decide +kernel
theorem dksX1_undo_1 : cX1_undo.data.toList.drop 24 = dktX1_undo_1 := dk_seg dksX1_undo_0 24 rfl rfl
theorem dX1_undo_0 : decode cX1_undo 0 = .ok (.aload_n 0, 1) := dk_42 (dk_at dksX1_undo_0 0 rfl rfl)
theorem dX1_undo_1 : decode cX1_undo 1 = .ok (.getfield 162, 3) := dk_180 0 162 (dk_at dksX1_undo_0 1 rfl rfl)
theorem dX1_undo_4 : decode cX1_undo 4 = .ok (.ifCond .ne 5, 3) := dk_154 0 5 (dk_at dksX1_undo_0 4 rfl rfl)
theorem dX1_undo_7 : decode cX1_undo 7 = .ok (.iconst (-1), 1) := dk_2 (dk_at dksX1_undo_0 7 rfl rfl)
theorem dX1_undo_8 : decode cX1_undo 8 = .ok (.ireturn, 1) := dk_172 (dk_at dksX1_undo_0 8 rfl rfl)
theorem dX1_undo_9 : decode cX1_undo 9 = .ok (.aload_n 0, 1) := dk_42 (dk_at dksX1_undo_0 9 rfl rfl)
theorem dX1_undo_10 : decode cX1_undo 10 = .ok (.dup, 1) := dk_89 (dk_at dksX1_undo_0 10 rfl rfl)
theorem dX1_undo_11 : decode cX1_undo 11 = .ok (.getfield 162, 3) := dk_180 0 162 (dk_at dksX1_undo_0 11 rfl rfl)
theorem dX1_undo_14 : decode cX1_undo 14 = .ok (.iconst 1, 1) := dk_4 (dk_at dksX1_undo_0 14 rfl rfl)
theorem dX1_undo_15 : decode cX1_undo 15 = .ok (.isub, 1) := dk_100 (dk_at dksX1_undo_0 15 rfl rfl)
theorem dX1_undo_16 : decode cX1_undo 16 = .ok (.putfield 162, 3) := dk_181 0 162 (dk_at dksX1_undo_0 16 rfl rfl)
theorem dX1_undo_19 : decode cX1_undo 19 = .ok (.aload_n 0, 1) := dk_42 (dk_at dksX1_undo_0 19 rfl rfl)
theorem dX1_undo_20 : decode cX1_undo 20 = .ok (.getfield 33, 3) := dk_180 0 33 (dk_at dksX1_undo_0 20 rfl rfl)
theorem dX1_undo_23 : decode cX1_undo 23 = .ok (.aload_n 0, 1) := dk_42 (dk_at dksX1_undo_0 23 rfl rfl)
theorem dX1_undo_24 : decode cX1_undo 24 = .ok (.getfield 46, 3) := dk_180 0 46 (dk_at dksX1_undo_1 0 rfl rfl)
theorem dX1_undo_27 : decode cX1_undo 27 = .ok (.aload_n 0, 1) := dk_42 (dk_at dksX1_undo_1 3 rfl rfl)
theorem dX1_undo_28 : decode cX1_undo 28 = .ok (.getfield 162, 3) := dk_180 0 162 (dk_at dksX1_undo_1 4 rfl rfl)
theorem dX1_undo_31 : decode cX1_undo 31 = .ok (.aaload, 1) := dk_50 (dk_at dksX1_undo_1 7 rfl rfl)
theorem dX1_undo_32 : decode cX1_undo 32 = .ok (.invokevirtual 272, 3) := dk_182 1 16 (dk_at dksX1_undo_1 8 rfl rfl)
theorem dX1_undo_35 : decode cX1_undo 35 = .ok (.aload_n 0, 1) := dk_42 (dk_at dksX1_undo_1 11 rfl rfl)
theorem dX1_undo_36 : decode cX1_undo 36 = .ok (.getfield 162, 3) := dk_180 0 162 (dk_at dksX1_undo_1 12 rfl rfl)
theorem dX1_undo_39 : decode cX1_undo 39 = .ok (.ireturn, 1) := dk_172 (dk_at dksX1_undo_1 15 rfl rfl)
abbrev cX1_line : ByteArray := prog_1_method_37_code
def yX1_line : MethodName := ⟨RX1, "line", "()I"⟩
def dkwX1_line_1 : List UInt8 := [42, 42, 180, 0, 9, 28, 46, 133, 182, 1, 35, 132, 2, 1, 167, 255, 237, 27, 172]
abbrev dktX1_line_1 : List UInt8 := dkwX1_line_1 ++ []
def dkwX1_line_0 : List UInt8 := [42, 180, 0, 33, 42, 180, 0, 9, 182, 1, 94, 60, 42, 3, 181, 0, 95, 3, 61, 28, 27, 162, 0, 20]
abbrev dktX1_line_0 : List UInt8 := dkwX1_line_0 ++ dktX1_line_1
theorem dksX1_line_0 : cX1_line.data.toList.drop 0 = dktX1_line_0 := by decide +kernel
theorem dksX1_line_1 : cX1_line.data.toList.drop 24 = dktX1_line_1 := dk_seg dksX1_line_0 24 rfl rfl
theorem dX1_line_0 : decode cX1_line 0 = .ok (.aload_n 0, 1) := dk_42 (dk_at dksX1_line_0 0 rfl rfl)
theorem dX1_line_1 : decode cX1_line 1 = .ok (.getfield 33, 3) := dk_180 0 33 (dk_at dksX1_line_0 1 rfl rfl)
theorem dX1_line_4 : decode cX1_line 4 = .ok (.aload_n 0, 1) := dk_42 (dk_at dksX1_line_0 4 rfl rfl)
theorem dX1_line_5 : decode cX1_line 5 = .ok (.getfield 9, 3) := dk_180 0 9 (dk_at dksX1_line_0 5 rfl rfl)
theorem dX1_line_8 : decode cX1_line 8 = .ok (.invokevirtual 350, 3) := dk_182 1 94 (dk_at dksX1_line_0 8 rfl rfl)
theorem dX1_line_11 : decode cX1_line 11 = .ok (.istore_n 1, 1) := dk_60 (dk_at dksX1_line_0 11 rfl rfl)
theorem dX1_line_12 : decode cX1_line 12 = .ok (.aload_n 0, 1) := dk_42 (dk_at dksX1_line_0 12 rfl rfl)
theorem dX1_line_13 : decode cX1_line 13 = .ok (.iconst 0, 1) := dk_3 (dk_at dksX1_line_0 13 rfl rfl)
theorem dX1_line_14 : decode cX1_line 14 = .ok (.putfield 95, 3) := dk_181 0 95 (dk_at dksX1_line_0 14 rfl rfl)
theorem dX1_line_17 : decode cX1_line 17 = .ok (.iconst 0, 1) := dk_3 (dk_at dksX1_line_0 17 rfl rfl)
theorem dX1_line_18 : decode cX1_line 18 = .ok (.istore_n 2, 1) := dk_61 (dk_at dksX1_line_0 18 rfl rfl)
theorem dX1_line_19 : decode cX1_line 19 = .ok (.iload_n 2, 1) := dk_28 (dk_at dksX1_line_0 19 rfl rfl)
theorem dX1_line_20 : decode cX1_line 20 = .ok (.iload_n 1, 1) := dk_27 (dk_at dksX1_line_0 20 rfl rfl)
theorem dX1_line_21 : decode cX1_line 21 = .ok (.if_icmp .ge 20, 3) := dk_162 0 20 (dk_at dksX1_line_0 21 rfl rfl)
theorem dX1_line_24 : decode cX1_line 24 = .ok (.aload_n 0, 1) := dk_42 (dk_at dksX1_line_1 0 rfl rfl)
theorem dX1_line_25 : decode cX1_line 25 = .ok (.aload_n 0, 1) := dk_42 (dk_at dksX1_line_1 1 rfl rfl)
theorem dX1_line_26 : decode cX1_line 26 = .ok (.getfield 9, 3) := dk_180 0 9 (dk_at dksX1_line_1 2 rfl rfl)
theorem dX1_line_29 : decode cX1_line 29 = .ok (.iload_n 2, 1) := dk_28 (dk_at dksX1_line_1 5 rfl rfl)
theorem dX1_line_30 : decode cX1_line 30 = .ok (.iaload, 1) := dk_46 (dk_at dksX1_line_1 6 rfl rfl)
theorem dX1_line_31 : decode cX1_line 31 = .ok (.i2l, 1) := dk_133 (dk_at dksX1_line_1 7 rfl rfl)
theorem dX1_line_32 : decode cX1_line 32 = .ok (.invokevirtual 291, 3) := dk_182 1 35 (dk_at dksX1_line_1 8 rfl rfl)
theorem dX1_line_35 : decode cX1_line 35 = .ok (.iinc 2 1, 3) := dk_132 2 1 (dk_at dksX1_line_1 11 rfl rfl)
theorem dX1_line_38 : decode cX1_line 38 = .ok (.goto (-19), 3) := dk_167 255 237 (dk_at dksX1_line_1 14 rfl rfl)
theorem dX1_line_41 : decode cX1_line 41 = .ok (.iload_n 1, 1) := dk_27 (dk_at dksX1_line_1 17 rfl rfl)
theorem dX1_line_42 : decode cX1_line 42 = .ok (.ireturn, 1) := dk_172 (dk_at dksX1_line_1 18 rfl rfl)
abbrev cX1_ahead : ByteArray := prog_1_method_38_code
def yX1_ahead : MethodName := ⟨RX1, "ahead", "(I)I"⟩
def dkwX1_ahead_3 : List UInt8 := [180, 0, 40, 180, 0, 153, 172]
abbrev dktX1_ahead_3 : List UInt8 := dkwX1_ahead_3 ++ []
def dkwX1_ahead_2 : List UInt8 := [162, 0, 23, 42, 42, 180, 0, 40, 180, 0, 186, 28, 46, 133, 182, 1, 35, 132, 2, 1, 167, 255, 231, 42]
abbrev dktX1_ahead_2 : List UInt8 := dkwX1_ahead_2 ++ dktX1_ahead_3
def dkwX1_ahead_1 : List UInt8 := [182, 1, 16, 42, 180, 0, 40, 27, 182, 1, 25, 42, 3, 181, 0, 95, 3, 61, 28, 42, 180, 0, 98]
abbrev dktX1_ahead_1 : List UInt8 := dkwX1_ahead_1 ++ dktX1_ahead_2
def dkwX1_ahead_0 : List UInt8 := [27, 133, 9, 20, 1, 97, 184, 0, 101, 154, 0, 5, 2, 172, 42, 180, 0, 40, 42, 180, 0, 33]
abbrev dktX1_ahead_0 : List UInt8 := dkwX1_ahead_0 ++ dktX1_ahead_1
theorem dksX1_ahead_0 : cX1_ahead.data.toList.drop 0 = dktX1_ahead_0 := by decide +kernel
theorem dksX1_ahead_1 : cX1_ahead.data.toList.drop 22 = dktX1_ahead_1 := dk_seg dksX1_ahead_0 22 rfl rfl
theorem dksX1_ahead_2 : cX1_ahead.data.toList.drop 45 = dktX1_ahead_2 := dk_seg dksX1_ahead_1 23 rfl rfl
theorem dksX1_ahead_3 : cX1_ahead.data.toList.drop 69 = dktX1_ahead_3 := dk_seg dksX1_ahead_2 24 rfl rfl
theorem dX1_ahead_0 : decode cX1_ahead 0 = .ok (.iload_n 1, 1) := dk_27 (dk_at dksX1_ahead_0 0 rfl rfl)
theorem dX1_ahead_1 : decode cX1_ahead 1 = .ok (.i2l, 1) := dk_133 (dk_at dksX1_ahead_0 1 rfl rfl)
theorem dX1_ahead_2 : decode cX1_ahead 2 = .ok (.lconst 0, 1) := dk_9 (dk_at dksX1_ahead_0 2 rfl rfl)
theorem dX1_ahead_3 : decode cX1_ahead 3 = .ok (.ldc2_w 353, 3) := dk_20 1 97 (dk_at dksX1_ahead_0 3 rfl rfl)
theorem dX1_ahead_6 : decode cX1_ahead 6 = .ok (.invokestatic 101, 3) := dk_184 0 101 (dk_at dksX1_ahead_0 6 rfl rfl)
theorem dX1_ahead_9 : decode cX1_ahead 9 = .ok (.ifCond .ne 5, 3) := dk_154 0 5 (dk_at dksX1_ahead_0 9 rfl rfl)
theorem dX1_ahead_12 : decode cX1_ahead 12 = .ok (.iconst (-1), 1) := dk_2 (dk_at dksX1_ahead_0 12 rfl rfl)
theorem dX1_ahead_13 : decode cX1_ahead 13 = .ok (.ireturn, 1) := dk_172 (dk_at dksX1_ahead_0 13 rfl rfl)
theorem dX1_ahead_14 : decode cX1_ahead 14 = .ok (.aload_n 0, 1) := dk_42 (dk_at dksX1_ahead_0 14 rfl rfl)
theorem dX1_ahead_15 : decode cX1_ahead 15 = .ok (.getfield 40, 3) := dk_180 0 40 (dk_at dksX1_ahead_0 15 rfl rfl)
theorem dX1_ahead_18 : decode cX1_ahead 18 = .ok (.aload_n 0, 1) := dk_42 (dk_at dksX1_ahead_0 18 rfl rfl)
theorem dX1_ahead_19 : decode cX1_ahead 19 = .ok (.getfield 33, 3) := dk_180 0 33 (dk_at dksX1_ahead_0 19 rfl rfl)
theorem dX1_ahead_22 : decode cX1_ahead 22 = .ok (.invokevirtual 272, 3) := dk_182 1 16 (dk_at dksX1_ahead_1 0 rfl rfl)
theorem dX1_ahead_25 : decode cX1_ahead 25 = .ok (.aload_n 0, 1) := dk_42 (dk_at dksX1_ahead_1 3 rfl rfl)
theorem dX1_ahead_26 : decode cX1_ahead 26 = .ok (.getfield 40, 3) := dk_180 0 40 (dk_at dksX1_ahead_1 4 rfl rfl)
theorem dX1_ahead_29 : decode cX1_ahead 29 = .ok (.iload_n 1, 1) := dk_27 (dk_at dksX1_ahead_1 7 rfl rfl)
theorem dX1_ahead_30 : decode cX1_ahead 30 = .ok (.invokevirtual 281, 3) := dk_182 1 25 (dk_at dksX1_ahead_1 8 rfl rfl)
theorem dX1_ahead_33 : decode cX1_ahead 33 = .ok (.aload_n 0, 1) := dk_42 (dk_at dksX1_ahead_1 11 rfl rfl)
theorem dX1_ahead_34 : decode cX1_ahead 34 = .ok (.iconst 0, 1) := dk_3 (dk_at dksX1_ahead_1 12 rfl rfl)
theorem dX1_ahead_35 : decode cX1_ahead 35 = .ok (.putfield 95, 3) := dk_181 0 95 (dk_at dksX1_ahead_1 13 rfl rfl)
theorem dX1_ahead_38 : decode cX1_ahead 38 = .ok (.iconst 0, 1) := dk_3 (dk_at dksX1_ahead_1 16 rfl rfl)
theorem dX1_ahead_39 : decode cX1_ahead 39 = .ok (.istore_n 2, 1) := dk_61 (dk_at dksX1_ahead_1 17 rfl rfl)
theorem dX1_ahead_40 : decode cX1_ahead 40 = .ok (.iload_n 2, 1) := dk_28 (dk_at dksX1_ahead_1 18 rfl rfl)
theorem dX1_ahead_41 : decode cX1_ahead 41 = .ok (.aload_n 0, 1) := dk_42 (dk_at dksX1_ahead_1 19 rfl rfl)
theorem dX1_ahead_42 : decode cX1_ahead 42 = .ok (.getfield 98, 3) := dk_180 0 98 (dk_at dksX1_ahead_1 20 rfl rfl)
theorem dX1_ahead_45 : decode cX1_ahead 45 = .ok (.if_icmp .ge 23, 3) := dk_162 0 23 (dk_at dksX1_ahead_2 0 rfl rfl)
theorem dX1_ahead_48 : decode cX1_ahead 48 = .ok (.aload_n 0, 1) := dk_42 (dk_at dksX1_ahead_2 3 rfl rfl)
theorem dX1_ahead_49 : decode cX1_ahead 49 = .ok (.aload_n 0, 1) := dk_42 (dk_at dksX1_ahead_2 4 rfl rfl)
theorem dX1_ahead_50 : decode cX1_ahead 50 = .ok (.getfield 40, 3) := dk_180 0 40 (dk_at dksX1_ahead_2 5 rfl rfl)
theorem dX1_ahead_53 : decode cX1_ahead 53 = .ok (.getfield 186, 3) := dk_180 0 186 (dk_at dksX1_ahead_2 8 rfl rfl)
theorem dX1_ahead_56 : decode cX1_ahead 56 = .ok (.iload_n 2, 1) := dk_28 (dk_at dksX1_ahead_2 11 rfl rfl)
theorem dX1_ahead_57 : decode cX1_ahead 57 = .ok (.iaload, 1) := dk_46 (dk_at dksX1_ahead_2 12 rfl rfl)
theorem dX1_ahead_58 : decode cX1_ahead 58 = .ok (.i2l, 1) := dk_133 (dk_at dksX1_ahead_2 13 rfl rfl)
theorem dX1_ahead_59 : decode cX1_ahead 59 = .ok (.invokevirtual 291, 3) := dk_182 1 35 (dk_at dksX1_ahead_2 14 rfl rfl)
theorem dX1_ahead_62 : decode cX1_ahead 62 = .ok (.iinc 2 1, 3) := dk_132 2 1 (dk_at dksX1_ahead_2 17 rfl rfl)
theorem dX1_ahead_65 : decode cX1_ahead 65 = .ok (.goto (-25), 3) := dk_167 255 231 (dk_at dksX1_ahead_2 20 rfl rfl)
theorem dX1_ahead_68 : decode cX1_ahead 68 = .ok (.aload_n 0, 1) := dk_42 (dk_at dksX1_ahead_2 23 rfl rfl)
theorem dX1_ahead_69 : decode cX1_ahead 69 = .ok (.getfield 40, 3) := dk_180 0 40 (dk_at dksX1_ahead_3 0 rfl rfl)
theorem dX1_ahead_72 : decode cX1_ahead 72 = .ok (.getfield 153, 3) := dk_180 0 153 (dk_at dksX1_ahead_3 3 rfl rfl)
theorem dX1_ahead_75 : decode cX1_ahead 75 = .ok (.ireturn, 1) := dk_172 (dk_at dksX1_ahead_3 6 rfl rfl)
abbrev cX1_arrives : ByteArray := prog_1_method_39_code
def yX1_arrives : MethodName := ⟨RX1, "arrives", "(I)I"⟩
def dkwX1_arrives_3 : List UInt8 := [167, 255, 207, 16, 254, 172]
abbrev dktX1_arrives_3 : List UInt8 := dkwX1_arrives_3 ++ []
def dkwX1_arrives_2 : List UInt8 := [180, 0, 40, 180, 0, 188, 27, 46, 133, 182, 1, 35, 28, 172, 42, 180, 0, 40, 182, 1, 99, 132, 2, 1]
abbrev dktX1_arrives_2 : List UInt8 := dkwX1_arrives_2 ++ dktX1_arrives_3
def dkwX1_arrives_1 : List UInt8 := [17, 0, 200, 163, 0, 48, 42, 180, 0, 40, 27, 182, 0, 236, 154, 0, 24, 42, 3, 181, 0, 95, 42, 42]
abbrev dktX1_arrives_1 : List UInt8 := dkwX1_arrives_1 ++ dktX1_arrives_2
def dkwX1_arrives_0 : List UInt8 := [42, 27, 182, 0, 108, 154, 0, 5, 2, 172, 42, 180, 0, 40, 42, 180, 0, 33, 182, 1, 16, 3, 61, 28]
abbrev dktX1_arrives_0 : List UInt8 := dkwX1_arrives_0 ++ dktX1_arrives_1
theorem dksX1_arrives_0 : cX1_arrives.data.toList.drop 0 = dktX1_arrives_0 := by decide +kernel
theorem dksX1_arrives_1 : cX1_arrives.data.toList.drop 24 = dktX1_arrives_1 := dk_seg dksX1_arrives_0 24 rfl rfl
theorem dksX1_arrives_2 : cX1_arrives.data.toList.drop 48 = dktX1_arrives_2 := dk_seg dksX1_arrives_1 24 rfl rfl
theorem dksX1_arrives_3 : cX1_arrives.data.toList.drop 72 = dktX1_arrives_3 := dk_seg dksX1_arrives_2 24 rfl rfl
theorem dX1_arrives_0 : decode cX1_arrives 0 = .ok (.aload_n 0, 1) := dk_42 (dk_at dksX1_arrives_0 0 rfl rfl)
theorem dX1_arrives_1 : decode cX1_arrives 1 = .ok (.iload_n 1, 1) := dk_27 (dk_at dksX1_arrives_0 1 rfl rfl)
theorem dX1_arrives_2 : decode cX1_arrives 2 = .ok (.invokevirtual 108, 3) := dk_182 0 108 (dk_at dksX1_arrives_0 2 rfl rfl)
theorem dX1_arrives_5 : decode cX1_arrives 5 = .ok (.ifCond .ne 5, 3) := dk_154 0 5 (dk_at dksX1_arrives_0 5 rfl rfl)
theorem dX1_arrives_8 : decode cX1_arrives 8 = .ok (.iconst (-1), 1) := dk_2 (dk_at dksX1_arrives_0 8 rfl rfl)
theorem dX1_arrives_9 : decode cX1_arrives 9 = .ok (.ireturn, 1) := dk_172 (dk_at dksX1_arrives_0 9 rfl rfl)
theorem dX1_arrives_10 : decode cX1_arrives 10 = .ok (.aload_n 0, 1) := dk_42 (dk_at dksX1_arrives_0 10 rfl rfl)
theorem dX1_arrives_11 : decode cX1_arrives 11 = .ok (.getfield 40, 3) := dk_180 0 40 (dk_at dksX1_arrives_0 11 rfl rfl)
theorem dX1_arrives_14 : decode cX1_arrives 14 = .ok (.aload_n 0, 1) := dk_42 (dk_at dksX1_arrives_0 14 rfl rfl)
theorem dX1_arrives_15 : decode cX1_arrives 15 = .ok (.getfield 33, 3) := dk_180 0 33 (dk_at dksX1_arrives_0 15 rfl rfl)
theorem dX1_arrives_18 : decode cX1_arrives 18 = .ok (.invokevirtual 272, 3) := dk_182 1 16 (dk_at dksX1_arrives_0 18 rfl rfl)
theorem dX1_arrives_21 : decode cX1_arrives 21 = .ok (.iconst 0, 1) := dk_3 (dk_at dksX1_arrives_0 21 rfl rfl)
theorem dX1_arrives_22 : decode cX1_arrives 22 = .ok (.istore_n 2, 1) := dk_61 (dk_at dksX1_arrives_0 22 rfl rfl)
theorem dX1_arrives_23 : decode cX1_arrives 23 = .ok (.iload_n 2, 1) := dk_28 (dk_at dksX1_arrives_0 23 rfl rfl)
theorem dX1_arrives_24 : decode cX1_arrives 24 = .ok (.sipush 200, 3) := dk_17 0 200 (dk_at dksX1_arrives_1 0 rfl rfl)
theorem dX1_arrives_27 : decode cX1_arrives 27 = .ok (.if_icmp .gt 48, 3) := dk_163 0 48 (dk_at dksX1_arrives_1 3 rfl rfl)
theorem dX1_arrives_30 : decode cX1_arrives 30 = .ok (.aload_n 0, 1) := dk_42 (dk_at dksX1_arrives_1 6 rfl rfl)
theorem dX1_arrives_31 : decode cX1_arrives 31 = .ok (.getfield 40, 3) := dk_180 0 40 (dk_at dksX1_arrives_1 7 rfl rfl)
theorem dX1_arrives_34 : decode cX1_arrives 34 = .ok (.iload_n 1, 1) := dk_27 (dk_at dksX1_arrives_1 10 rfl rfl)
theorem dX1_arrives_35 : decode cX1_arrives 35 = .ok (.invokevirtual 236, 3) := dk_182 0 236 (dk_at dksX1_arrives_1 11 rfl rfl)
theorem dX1_arrives_38 : decode cX1_arrives 38 = .ok (.ifCond .ne 24, 3) := dk_154 0 24 (dk_at dksX1_arrives_1 14 rfl rfl)
theorem dX1_arrives_41 : decode cX1_arrives 41 = .ok (.aload_n 0, 1) := dk_42 (dk_at dksX1_arrives_1 17 rfl rfl)
theorem dX1_arrives_42 : decode cX1_arrives 42 = .ok (.iconst 0, 1) := dk_3 (dk_at dksX1_arrives_1 18 rfl rfl)
theorem dX1_arrives_43 : decode cX1_arrives 43 = .ok (.putfield 95, 3) := dk_181 0 95 (dk_at dksX1_arrives_1 19 rfl rfl)
theorem dX1_arrives_46 : decode cX1_arrives 46 = .ok (.aload_n 0, 1) := dk_42 (dk_at dksX1_arrives_1 22 rfl rfl)
theorem dX1_arrives_47 : decode cX1_arrives 47 = .ok (.aload_n 0, 1) := dk_42 (dk_at dksX1_arrives_1 23 rfl rfl)
theorem dX1_arrives_48 : decode cX1_arrives 48 = .ok (.getfield 40, 3) := dk_180 0 40 (dk_at dksX1_arrives_2 0 rfl rfl)
theorem dX1_arrives_51 : decode cX1_arrives 51 = .ok (.getfield 188, 3) := dk_180 0 188 (dk_at dksX1_arrives_2 3 rfl rfl)
theorem dX1_arrives_54 : decode cX1_arrives 54 = .ok (.iload_n 1, 1) := dk_27 (dk_at dksX1_arrives_2 6 rfl rfl)
theorem dX1_arrives_55 : decode cX1_arrives 55 = .ok (.iaload, 1) := dk_46 (dk_at dksX1_arrives_2 7 rfl rfl)
theorem dX1_arrives_56 : decode cX1_arrives 56 = .ok (.i2l, 1) := dk_133 (dk_at dksX1_arrives_2 8 rfl rfl)
theorem dX1_arrives_57 : decode cX1_arrives 57 = .ok (.invokevirtual 291, 3) := dk_182 1 35 (dk_at dksX1_arrives_2 9 rfl rfl)
theorem dX1_arrives_60 : decode cX1_arrives 60 = .ok (.iload_n 2, 1) := dk_28 (dk_at dksX1_arrives_2 12 rfl rfl)
theorem dX1_arrives_61 : decode cX1_arrives 61 = .ok (.ireturn, 1) := dk_172 (dk_at dksX1_arrives_2 13 rfl rfl)
theorem dX1_arrives_62 : decode cX1_arrives 62 = .ok (.aload_n 0, 1) := dk_42 (dk_at dksX1_arrives_2 14 rfl rfl)
theorem dX1_arrives_63 : decode cX1_arrives 63 = .ok (.getfield 40, 3) := dk_180 0 40 (dk_at dksX1_arrives_2 15 rfl rfl)
theorem dX1_arrives_66 : decode cX1_arrives 66 = .ok (.invokevirtual 355, 3) := dk_182 1 99 (dk_at dksX1_arrives_2 18 rfl rfl)
theorem dX1_arrives_69 : decode cX1_arrives 69 = .ok (.iinc 2 1, 3) := dk_132 2 1 (dk_at dksX1_arrives_2 21 rfl rfl)
theorem dX1_arrives_72 : decode cX1_arrives 72 = .ok (.goto (-49), 3) := dk_167 255 207 (dk_at dksX1_arrives_3 0 rfl rfl)
theorem dX1_arrives_75 : decode cX1_arrives 75 = .ok (.bipush (-2), 2) := dk_16 254 (dk_at dksX1_arrives_3 3 rfl rfl)
theorem dX1_arrives_77 : decode cX1_arrives 77 = .ok (.ireturn, 1) := dk_172 (dk_at dksX1_arrives_3 5 rfl rfl)
abbrev cX1_jam : ByteArray := prog_1_method_40_code
def yX1_jam : MethodName := ⟨RX1, "jam", "(I)I"⟩
def dkwX1_jam_4 : List UInt8 := [182, 1, 35, 42, 42, 180, 0, 40, 180, 1, 28, 184, 1, 31, 133, 182, 1, 35, 28, 172]
abbrev dktX1_jam_4 : List UInt8 := dkwX1_jam_4 ++ []
def dkwX1_jam_3 : List UInt8 := [28, 61, 132, 3, 1, 167, 255, 218, 42, 3, 181, 0, 95, 42, 42, 180, 0, 40, 180, 1, 28, 28, 46, 133]
abbrev dktX1_jam_3 : List UInt8 := dkwX1_jam_3 ++ dktX1_jam_4
def dkwX1_jam_2 : List UInt8 := [180, 0, 40, 180, 1, 28, 29, 46, 42, 180, 0, 40, 180, 1, 28, 28, 46, 164, 0, 7, 29, 167, 0, 4]
abbrev dktX1_jam_2 : List UInt8 := dkwX1_jam_2 ++ dktX1_jam_3
def dkwX1_jam_1 : List UInt8 := [182, 1, 16, 42, 180, 0, 40, 27, 182, 1, 25, 3, 61, 4, 62, 29, 42, 180, 0, 20, 162, 0, 36, 42]
abbrev dktX1_jam_1 : List UInt8 := dkwX1_jam_1 ++ dktX1_jam_2
def dkwX1_jam_0 : List UInt8 := [27, 133, 10, 20, 1, 20, 184, 0, 101, 154, 0, 5, 2, 172, 42, 180, 0, 40, 42, 180, 0, 33]
abbrev dktX1_jam_0 : List UInt8 := dkwX1_jam_0 ++ dktX1_jam_1
theorem dksX1_jam_0 : cX1_jam.data.toList.drop 0 = dktX1_jam_0 := by decide +kernel
theorem dksX1_jam_1 : cX1_jam.data.toList.drop 22 = dktX1_jam_1 := dk_seg dksX1_jam_0 22 rfl rfl
theorem dksX1_jam_2 : cX1_jam.data.toList.drop 46 = dktX1_jam_2 := dk_seg dksX1_jam_1 24 rfl rfl
theorem dksX1_jam_3 : cX1_jam.data.toList.drop 70 = dktX1_jam_3 := dk_seg dksX1_jam_2 24 rfl rfl
theorem dksX1_jam_4 : cX1_jam.data.toList.drop 94 = dktX1_jam_4 := dk_seg dksX1_jam_3 24 rfl rfl
theorem dX1_jam_0 : decode cX1_jam 0 = .ok (.iload_n 1, 1) := dk_27 (dk_at dksX1_jam_0 0 rfl rfl)
theorem dX1_jam_1 : decode cX1_jam 1 = .ok (.i2l, 1) := dk_133 (dk_at dksX1_jam_0 1 rfl rfl)
theorem dX1_jam_2 : decode cX1_jam 2 = .ok (.lconst 1, 1) := dk_10 (dk_at dksX1_jam_0 2 rfl rfl)
theorem dX1_jam_3 : decode cX1_jam 3 = .ok (.ldc2_w 276, 3) := dk_20 1 20 (dk_at dksX1_jam_0 3 rfl rfl)
theorem dX1_jam_6 : decode cX1_jam 6 = .ok (.invokestatic 101, 3) := dk_184 0 101 (dk_at dksX1_jam_0 6 rfl rfl)
theorem dX1_jam_9 : decode cX1_jam 9 = .ok (.ifCond .ne 5, 3) := dk_154 0 5 (dk_at dksX1_jam_0 9 rfl rfl)
theorem dX1_jam_12 : decode cX1_jam 12 = .ok (.iconst (-1), 1) := dk_2 (dk_at dksX1_jam_0 12 rfl rfl)
theorem dX1_jam_13 : decode cX1_jam 13 = .ok (.ireturn, 1) := dk_172 (dk_at dksX1_jam_0 13 rfl rfl)
theorem dX1_jam_14 : decode cX1_jam 14 = .ok (.aload_n 0, 1) := dk_42 (dk_at dksX1_jam_0 14 rfl rfl)
theorem dX1_jam_15 : decode cX1_jam 15 = .ok (.getfield 40, 3) := dk_180 0 40 (dk_at dksX1_jam_0 15 rfl rfl)
theorem dX1_jam_18 : decode cX1_jam 18 = .ok (.aload_n 0, 1) := dk_42 (dk_at dksX1_jam_0 18 rfl rfl)
theorem dX1_jam_19 : decode cX1_jam 19 = .ok (.getfield 33, 3) := dk_180 0 33 (dk_at dksX1_jam_0 19 rfl rfl)
theorem dX1_jam_22 : decode cX1_jam 22 = .ok (.invokevirtual 272, 3) := dk_182 1 16 (dk_at dksX1_jam_1 0 rfl rfl)
theorem dX1_jam_25 : decode cX1_jam 25 = .ok (.aload_n 0, 1) := dk_42 (dk_at dksX1_jam_1 3 rfl rfl)
theorem dX1_jam_26 : decode cX1_jam 26 = .ok (.getfield 40, 3) := dk_180 0 40 (dk_at dksX1_jam_1 4 rfl rfl)
theorem dX1_jam_29 : decode cX1_jam 29 = .ok (.iload_n 1, 1) := dk_27 (dk_at dksX1_jam_1 7 rfl rfl)
theorem dX1_jam_30 : decode cX1_jam 30 = .ok (.invokevirtual 281, 3) := dk_182 1 25 (dk_at dksX1_jam_1 8 rfl rfl)
theorem dX1_jam_33 : decode cX1_jam 33 = .ok (.iconst 0, 1) := dk_3 (dk_at dksX1_jam_1 11 rfl rfl)
theorem dX1_jam_34 : decode cX1_jam 34 = .ok (.istore_n 2, 1) := dk_61 (dk_at dksX1_jam_1 12 rfl rfl)
theorem dX1_jam_35 : decode cX1_jam 35 = .ok (.iconst 1, 1) := dk_4 (dk_at dksX1_jam_1 13 rfl rfl)
theorem dX1_jam_36 : decode cX1_jam 36 = .ok (.istore_n 3, 1) := dk_62 (dk_at dksX1_jam_1 14 rfl rfl)
theorem dX1_jam_37 : decode cX1_jam 37 = .ok (.iload_n 3, 1) := dk_29 (dk_at dksX1_jam_1 15 rfl rfl)
theorem dX1_jam_38 : decode cX1_jam 38 = .ok (.aload_n 0, 1) := dk_42 (dk_at dksX1_jam_1 16 rfl rfl)
theorem dX1_jam_39 : decode cX1_jam 39 = .ok (.getfield 20, 3) := dk_180 0 20 (dk_at dksX1_jam_1 17 rfl rfl)
theorem dX1_jam_42 : decode cX1_jam 42 = .ok (.if_icmp .ge 36, 3) := dk_162 0 36 (dk_at dksX1_jam_1 20 rfl rfl)
theorem dX1_jam_45 : decode cX1_jam 45 = .ok (.aload_n 0, 1) := dk_42 (dk_at dksX1_jam_1 23 rfl rfl)
theorem dX1_jam_46 : decode cX1_jam 46 = .ok (.getfield 40, 3) := dk_180 0 40 (dk_at dksX1_jam_2 0 rfl rfl)
theorem dX1_jam_49 : decode cX1_jam 49 = .ok (.getfield 284, 3) := dk_180 1 28 (dk_at dksX1_jam_2 3 rfl rfl)
theorem dX1_jam_52 : decode cX1_jam 52 = .ok (.iload_n 3, 1) := dk_29 (dk_at dksX1_jam_2 6 rfl rfl)
theorem dX1_jam_53 : decode cX1_jam 53 = .ok (.iaload, 1) := dk_46 (dk_at dksX1_jam_2 7 rfl rfl)
theorem dX1_jam_54 : decode cX1_jam 54 = .ok (.aload_n 0, 1) := dk_42 (dk_at dksX1_jam_2 8 rfl rfl)
theorem dX1_jam_55 : decode cX1_jam 55 = .ok (.getfield 40, 3) := dk_180 0 40 (dk_at dksX1_jam_2 9 rfl rfl)
theorem dX1_jam_58 : decode cX1_jam 58 = .ok (.getfield 284, 3) := dk_180 1 28 (dk_at dksX1_jam_2 12 rfl rfl)
theorem dX1_jam_61 : decode cX1_jam 61 = .ok (.iload_n 2, 1) := dk_28 (dk_at dksX1_jam_2 15 rfl rfl)
theorem dX1_jam_62 : decode cX1_jam 62 = .ok (.iaload, 1) := dk_46 (dk_at dksX1_jam_2 16 rfl rfl)
theorem dX1_jam_63 : decode cX1_jam 63 = .ok (.if_icmp .le 7, 3) := dk_164 0 7 (dk_at dksX1_jam_2 17 rfl rfl)
theorem dX1_jam_66 : decode cX1_jam 66 = .ok (.iload_n 3, 1) := dk_29 (dk_at dksX1_jam_2 20 rfl rfl)
theorem dX1_jam_67 : decode cX1_jam 67 = .ok (.goto 4, 3) := dk_167 0 4 (dk_at dksX1_jam_2 21 rfl rfl)
theorem dX1_jam_70 : decode cX1_jam 70 = .ok (.iload_n 2, 1) := dk_28 (dk_at dksX1_jam_3 0 rfl rfl)
theorem dX1_jam_71 : decode cX1_jam 71 = .ok (.istore_n 2, 1) := dk_61 (dk_at dksX1_jam_3 1 rfl rfl)
theorem dX1_jam_72 : decode cX1_jam 72 = .ok (.iinc 3 1, 3) := dk_132 3 1 (dk_at dksX1_jam_3 2 rfl rfl)
theorem dX1_jam_75 : decode cX1_jam 75 = .ok (.goto (-38), 3) := dk_167 255 218 (dk_at dksX1_jam_3 5 rfl rfl)
theorem dX1_jam_78 : decode cX1_jam 78 = .ok (.aload_n 0, 1) := dk_42 (dk_at dksX1_jam_3 8 rfl rfl)
theorem dX1_jam_79 : decode cX1_jam 79 = .ok (.iconst 0, 1) := dk_3 (dk_at dksX1_jam_3 9 rfl rfl)
theorem dX1_jam_80 : decode cX1_jam 80 = .ok (.putfield 95, 3) := dk_181 0 95 (dk_at dksX1_jam_3 10 rfl rfl)
theorem dX1_jam_83 : decode cX1_jam 83 = .ok (.aload_n 0, 1) := dk_42 (dk_at dksX1_jam_3 13 rfl rfl)
theorem dX1_jam_84 : decode cX1_jam 84 = .ok (.aload_n 0, 1) := dk_42 (dk_at dksX1_jam_3 14 rfl rfl)
theorem dX1_jam_85 : decode cX1_jam 85 = .ok (.getfield 40, 3) := dk_180 0 40 (dk_at dksX1_jam_3 15 rfl rfl)
theorem dX1_jam_88 : decode cX1_jam 88 = .ok (.getfield 284, 3) := dk_180 1 28 (dk_at dksX1_jam_3 18 rfl rfl)
theorem dX1_jam_91 : decode cX1_jam 91 = .ok (.iload_n 2, 1) := dk_28 (dk_at dksX1_jam_3 21 rfl rfl)
theorem dX1_jam_92 : decode cX1_jam 92 = .ok (.iaload, 1) := dk_46 (dk_at dksX1_jam_3 22 rfl rfl)
theorem dX1_jam_93 : decode cX1_jam 93 = .ok (.i2l, 1) := dk_133 (dk_at dksX1_jam_3 23 rfl rfl)
theorem dX1_jam_94 : decode cX1_jam 94 = .ok (.invokevirtual 291, 3) := dk_182 1 35 (dk_at dksX1_jam_4 0 rfl rfl)
theorem dX1_jam_97 : decode cX1_jam 97 = .ok (.aload_n 0, 1) := dk_42 (dk_at dksX1_jam_4 3 rfl rfl)
theorem dX1_jam_98 : decode cX1_jam 98 = .ok (.aload_n 0, 1) := dk_42 (dk_at dksX1_jam_4 4 rfl rfl)
theorem dX1_jam_99 : decode cX1_jam 99 = .ok (.getfield 40, 3) := dk_180 0 40 (dk_at dksX1_jam_4 5 rfl rfl)
theorem dX1_jam_102 : decode cX1_jam 102 = .ok (.getfield 284, 3) := dk_180 1 28 (dk_at dksX1_jam_4 8 rfl rfl)
theorem dX1_jam_105 : decode cX1_jam 105 = .ok (.invokestatic 287, 3) := dk_184 1 31 (dk_at dksX1_jam_4 11 rfl rfl)
theorem dX1_jam_108 : decode cX1_jam 108 = .ok (.i2l, 1) := dk_133 (dk_at dksX1_jam_4 14 rfl rfl)
theorem dX1_jam_109 : decode cX1_jam 109 = .ok (.invokevirtual 291, 3) := dk_182 1 35 (dk_at dksX1_jam_4 15 rfl rfl)
theorem dX1_jam_112 : decode cX1_jam 112 = .ok (.iload_n 2, 1) := dk_28 (dk_at dksX1_jam_4 18 rfl rfl)
theorem dX1_jam_113 : decode cX1_jam 113 = .ok (.ireturn, 1) := dk_172 (dk_at dksX1_jam_4 19 rfl rfl)
abbrev cX1_passes : ByteArray := prog_1_method_42_code
def yX1_passes : MethodName := ⟨RX1, "passes", "(II)I"⟩
def dkwX1_passes_4 : List UInt8 := [42, 180, 0, 40, 180, 0, 186, 27, 46, 133, 182, 1, 35, 29, 172, 132, 3, 1, 167, 255, 204, 16, 254, 172]
abbrev dktX1_passes_4 : List UInt8 := dkwX1_passes_4 ++ []
def dkwX1_passes_3 : List UInt8 := [182, 1, 99, 42, 180, 0, 40, 27, 28, 184, 1, 101, 154, 0, 6, 167, 0, 24, 42, 3, 181, 0, 95, 42]
abbrev dktX1_passes_3 : List UInt8 := dkwX1_passes_3 ++ dktX1_passes_4
def dkwX1_passes_2 : List UInt8 := [172, 42, 180, 0, 40, 42, 180, 0, 33, 182, 1, 16, 4, 62, 29, 16, 60, 163, 0, 52, 42, 180, 0, 40]
abbrev dktX1_passes_2 : List UInt8 := dkwX1_passes_2 ++ dktX1_passes_3
def dkwX1_passes_1 : List UInt8 := [180, 0, 33, 28, 182, 0, 236, 153, 0, 15, 42, 180, 0, 33, 27, 28, 184, 1, 101, 153, 0, 6, 16, 254]
abbrev dktX1_passes_1 : List UInt8 := dkwX1_passes_1 ++ dktX1_passes_2
def dkwX1_passes_0 : List UInt8 := [42, 27, 28, 182, 1, 57, 154, 0, 5, 2, 172, 42, 180, 0, 33, 27, 182, 0, 236, 153, 0, 26, 42]
abbrev dktX1_passes_0 : List UInt8 := dkwX1_passes_0 ++ dktX1_passes_1
theorem dksX1_passes_0 : cX1_passes.data.toList.drop 0 = dktX1_passes_0 := by decide +kernel
theorem dksX1_passes_1 : cX1_passes.data.toList.drop 23 = dktX1_passes_1 := dk_seg dksX1_passes_0 23 rfl rfl
theorem dksX1_passes_2 : cX1_passes.data.toList.drop 47 = dktX1_passes_2 := dk_seg dksX1_passes_1 24 rfl rfl
theorem dksX1_passes_3 : cX1_passes.data.toList.drop 71 = dktX1_passes_3 := dk_seg dksX1_passes_2 24 rfl rfl
theorem dksX1_passes_4 : cX1_passes.data.toList.drop 95 = dktX1_passes_4 := dk_seg dksX1_passes_3 24 rfl rfl
theorem dX1_passes_0 : decode cX1_passes 0 = .ok (.aload_n 0, 1) := dk_42 (dk_at dksX1_passes_0 0 rfl rfl)
theorem dX1_passes_1 : decode cX1_passes 1 = .ok (.iload_n 1, 1) := dk_27 (dk_at dksX1_passes_0 1 rfl rfl)
theorem dX1_passes_2 : decode cX1_passes 2 = .ok (.iload_n 2, 1) := dk_28 (dk_at dksX1_passes_0 2 rfl rfl)
theorem dX1_passes_3 : decode cX1_passes 3 = .ok (.invokevirtual 313, 3) := dk_182 1 57 (dk_at dksX1_passes_0 3 rfl rfl)
theorem dX1_passes_6 : decode cX1_passes 6 = .ok (.ifCond .ne 5, 3) := dk_154 0 5 (dk_at dksX1_passes_0 6 rfl rfl)
theorem dX1_passes_9 : decode cX1_passes 9 = .ok (.iconst (-1), 1) := dk_2 (dk_at dksX1_passes_0 9 rfl rfl)
theorem dX1_passes_10 : decode cX1_passes 10 = .ok (.ireturn, 1) := dk_172 (dk_at dksX1_passes_0 10 rfl rfl)
theorem dX1_passes_11 : decode cX1_passes 11 = .ok (.aload_n 0, 1) := dk_42 (dk_at dksX1_passes_0 11 rfl rfl)
theorem dX1_passes_12 : decode cX1_passes 12 = .ok (.getfield 33, 3) := dk_180 0 33 (dk_at dksX1_passes_0 12 rfl rfl)
theorem dX1_passes_15 : decode cX1_passes 15 = .ok (.iload_n 1, 1) := dk_27 (dk_at dksX1_passes_0 15 rfl rfl)
theorem dX1_passes_16 : decode cX1_passes 16 = .ok (.invokevirtual 236, 3) := dk_182 0 236 (dk_at dksX1_passes_0 16 rfl rfl)
theorem dX1_passes_19 : decode cX1_passes 19 = .ok (.ifCond .eq 26, 3) := dk_153 0 26 (dk_at dksX1_passes_0 19 rfl rfl)
theorem dX1_passes_22 : decode cX1_passes 22 = .ok (.aload_n 0, 1) := dk_42 (dk_at dksX1_passes_0 22 rfl rfl)
theorem dX1_passes_23 : decode cX1_passes 23 = .ok (.getfield 33, 3) := dk_180 0 33 (dk_at dksX1_passes_1 0 rfl rfl)
theorem dX1_passes_26 : decode cX1_passes 26 = .ok (.iload_n 2, 1) := dk_28 (dk_at dksX1_passes_1 3 rfl rfl)
theorem dX1_passes_27 : decode cX1_passes 27 = .ok (.invokevirtual 236, 3) := dk_182 0 236 (dk_at dksX1_passes_1 4 rfl rfl)
theorem dX1_passes_30 : decode cX1_passes 30 = .ok (.ifCond .eq 15, 3) := dk_153 0 15 (dk_at dksX1_passes_1 7 rfl rfl)
theorem dX1_passes_33 : decode cX1_passes 33 = .ok (.aload_n 0, 1) := dk_42 (dk_at dksX1_passes_1 10 rfl rfl)
theorem dX1_passes_34 : decode cX1_passes 34 = .ok (.getfield 33, 3) := dk_180 0 33 (dk_at dksX1_passes_1 11 rfl rfl)
theorem dX1_passes_37 : decode cX1_passes 37 = .ok (.iload_n 1, 1) := dk_27 (dk_at dksX1_passes_1 14 rfl rfl)
theorem dX1_passes_38 : decode cX1_passes 38 = .ok (.iload_n 2, 1) := dk_28 (dk_at dksX1_passes_1 15 rfl rfl)
theorem dX1_passes_39 : decode cX1_passes 39 = .ok (.invokestatic 357, 3) := dk_184 1 101 (dk_at dksX1_passes_1 16 rfl rfl)
theorem dX1_passes_42 : decode cX1_passes 42 = .ok (.ifCond .eq 6, 3) := dk_153 0 6 (dk_at dksX1_passes_1 19 rfl rfl)
theorem dX1_passes_45 : decode cX1_passes 45 = .ok (.bipush (-2), 2) := dk_16 254 (dk_at dksX1_passes_1 22 rfl rfl)
theorem dX1_passes_47 : decode cX1_passes 47 = .ok (.ireturn, 1) := dk_172 (dk_at dksX1_passes_2 0 rfl rfl)
theorem dX1_passes_48 : decode cX1_passes 48 = .ok (.aload_n 0, 1) := dk_42 (dk_at dksX1_passes_2 1 rfl rfl)
theorem dX1_passes_49 : decode cX1_passes 49 = .ok (.getfield 40, 3) := dk_180 0 40 (dk_at dksX1_passes_2 2 rfl rfl)
theorem dX1_passes_52 : decode cX1_passes 52 = .ok (.aload_n 0, 1) := dk_42 (dk_at dksX1_passes_2 5 rfl rfl)
theorem dX1_passes_53 : decode cX1_passes 53 = .ok (.getfield 33, 3) := dk_180 0 33 (dk_at dksX1_passes_2 6 rfl rfl)
theorem dX1_passes_56 : decode cX1_passes 56 = .ok (.invokevirtual 272, 3) := dk_182 1 16 (dk_at dksX1_passes_2 9 rfl rfl)
theorem dX1_passes_59 : decode cX1_passes 59 = .ok (.iconst 1, 1) := dk_4 (dk_at dksX1_passes_2 12 rfl rfl)
theorem dX1_passes_60 : decode cX1_passes 60 = .ok (.istore_n 3, 1) := dk_62 (dk_at dksX1_passes_2 13 rfl rfl)
theorem dX1_passes_61 : decode cX1_passes 61 = .ok (.iload_n 3, 1) := dk_29 (dk_at dksX1_passes_2 14 rfl rfl)
theorem dX1_passes_62 : decode cX1_passes 62 = .ok (.bipush 60, 2) := dk_16 60 (dk_at dksX1_passes_2 15 rfl rfl)
theorem dX1_passes_64 : decode cX1_passes 64 = .ok (.if_icmp .gt 52, 3) := dk_163 0 52 (dk_at dksX1_passes_2 17 rfl rfl)
theorem dX1_passes_67 : decode cX1_passes 67 = .ok (.aload_n 0, 1) := dk_42 (dk_at dksX1_passes_2 20 rfl rfl)
theorem dX1_passes_68 : decode cX1_passes 68 = .ok (.getfield 40, 3) := dk_180 0 40 (dk_at dksX1_passes_2 21 rfl rfl)
theorem dX1_passes_71 : decode cX1_passes 71 = .ok (.invokevirtual 355, 3) := dk_182 1 99 (dk_at dksX1_passes_3 0 rfl rfl)
theorem dX1_passes_74 : decode cX1_passes 74 = .ok (.aload_n 0, 1) := dk_42 (dk_at dksX1_passes_3 3 rfl rfl)
theorem dX1_passes_75 : decode cX1_passes 75 = .ok (.getfield 40, 3) := dk_180 0 40 (dk_at dksX1_passes_3 4 rfl rfl)
theorem dX1_passes_78 : decode cX1_passes 78 = .ok (.iload_n 1, 1) := dk_27 (dk_at dksX1_passes_3 7 rfl rfl)
theorem dX1_passes_79 : decode cX1_passes 79 = .ok (.iload_n 2, 1) := dk_28 (dk_at dksX1_passes_3 8 rfl rfl)
theorem dX1_passes_80 : decode cX1_passes 80 = .ok (.invokestatic 357, 3) := dk_184 1 101 (dk_at dksX1_passes_3 9 rfl rfl)
theorem dX1_passes_83 : decode cX1_passes 83 = .ok (.ifCond .ne 6, 3) := dk_154 0 6 (dk_at dksX1_passes_3 12 rfl rfl)
theorem dX1_passes_86 : decode cX1_passes 86 = .ok (.goto 24, 3) := dk_167 0 24 (dk_at dksX1_passes_3 15 rfl rfl)
theorem dX1_passes_89 : decode cX1_passes 89 = .ok (.aload_n 0, 1) := dk_42 (dk_at dksX1_passes_3 18 rfl rfl)
theorem dX1_passes_90 : decode cX1_passes 90 = .ok (.iconst 0, 1) := dk_3 (dk_at dksX1_passes_3 19 rfl rfl)
theorem dX1_passes_91 : decode cX1_passes 91 = .ok (.putfield 95, 3) := dk_181 0 95 (dk_at dksX1_passes_3 20 rfl rfl)
theorem dX1_passes_94 : decode cX1_passes 94 = .ok (.aload_n 0, 1) := dk_42 (dk_at dksX1_passes_3 23 rfl rfl)
theorem dX1_passes_95 : decode cX1_passes 95 = .ok (.aload_n 0, 1) := dk_42 (dk_at dksX1_passes_4 0 rfl rfl)
theorem dX1_passes_96 : decode cX1_passes 96 = .ok (.getfield 40, 3) := dk_180 0 40 (dk_at dksX1_passes_4 1 rfl rfl)
theorem dX1_passes_99 : decode cX1_passes 99 = .ok (.getfield 186, 3) := dk_180 0 186 (dk_at dksX1_passes_4 4 rfl rfl)
theorem dX1_passes_102 : decode cX1_passes 102 = .ok (.iload_n 1, 1) := dk_27 (dk_at dksX1_passes_4 7 rfl rfl)
theorem dX1_passes_103 : decode cX1_passes 103 = .ok (.iaload, 1) := dk_46 (dk_at dksX1_passes_4 8 rfl rfl)
theorem dX1_passes_104 : decode cX1_passes 104 = .ok (.i2l, 1) := dk_133 (dk_at dksX1_passes_4 9 rfl rfl)
theorem dX1_passes_105 : decode cX1_passes 105 = .ok (.invokevirtual 291, 3) := dk_182 1 35 (dk_at dksX1_passes_4 10 rfl rfl)
theorem dX1_passes_108 : decode cX1_passes 108 = .ok (.iload_n 3, 1) := dk_29 (dk_at dksX1_passes_4 13 rfl rfl)
theorem dX1_passes_109 : decode cX1_passes 109 = .ok (.ireturn, 1) := dk_172 (dk_at dksX1_passes_4 14 rfl rfl)
theorem dX1_passes_110 : decode cX1_passes 110 = .ok (.iinc 3 1, 3) := dk_132 3 1 (dk_at dksX1_passes_4 15 rfl rfl)
theorem dX1_passes_113 : decode cX1_passes 113 = .ok (.goto (-52), 3) := dk_167 255 204 (dk_at dksX1_passes_4 18 rfl rfl)
theorem dX1_passes_116 : decode cX1_passes 116 = .ok (.bipush (-2), 2) := dk_16 254 (dk_at dksX1_passes_4 21 rfl rfl)
theorem dX1_passes_118 : decode cX1_passes 118 = .ok (.ireturn, 1) := dk_172 (dk_at dksX1_passes_4 23 rfl rfl)
abbrev cX1_isAhead : ByteArray := prog_1_method_41_code
def yX1_isAhead : MethodName := ⟨RX1, "isAhead", "(LBehindAnotherHearse$Street;II)Z"⟩
def dkwX1_isAhead_2 : List UInt8 := [180, 0, 188, 27, 46, 42, 180, 0, 188, 28, 46, 162, 0, 7, 4, 167, 0, 4, 3, 172]
abbrev dktX1_isAhead_2 : List UInt8 := dkwX1_isAhead_2 ++ []
def dkwX1_isAhead_1 : List UInt8 := [180, 0, 186, 28, 46, 164, 0, 7, 4, 167, 0, 4, 3, 172, 42, 28, 182, 0, 236, 154, 0, 18, 42]
abbrev dktX1_isAhead_1 : List UInt8 := dkwX1_isAhead_1 ++ dktX1_isAhead_2
def dkwX1_isAhead_0 : List UInt8 := [42, 27, 182, 0, 236, 153, 0, 32, 42, 28, 182, 0, 236, 153, 0, 22, 42, 180, 0, 186, 27, 46, 42]
abbrev dktX1_isAhead_0 : List UInt8 := dkwX1_isAhead_0 ++ dktX1_isAhead_1
theorem dksX1_isAhead_0 : cX1_isAhead.data.toList.drop 0 = dktX1_isAhead_0 := by decide +kernel
theorem dksX1_isAhead_1 : cX1_isAhead.data.toList.drop 23 = dktX1_isAhead_1 := dk_seg dksX1_isAhead_0 23 rfl rfl
theorem dksX1_isAhead_2 : cX1_isAhead.data.toList.drop 46 = dktX1_isAhead_2 := dk_seg dksX1_isAhead_1 23 rfl rfl
theorem dX1_isAhead_0 : decode cX1_isAhead 0 = .ok (.aload_n 0, 1) := dk_42 (dk_at dksX1_isAhead_0 0 rfl rfl)
theorem dX1_isAhead_1 : decode cX1_isAhead 1 = .ok (.iload_n 1, 1) := dk_27 (dk_at dksX1_isAhead_0 1 rfl rfl)
theorem dX1_isAhead_2 : decode cX1_isAhead 2 = .ok (.invokevirtual 236, 3) := dk_182 0 236 (dk_at dksX1_isAhead_0 2 rfl rfl)
theorem dX1_isAhead_5 : decode cX1_isAhead 5 = .ok (.ifCond .eq 32, 3) := dk_153 0 32 (dk_at dksX1_isAhead_0 5 rfl rfl)
theorem dX1_isAhead_8 : decode cX1_isAhead 8 = .ok (.aload_n 0, 1) := dk_42 (dk_at dksX1_isAhead_0 8 rfl rfl)
theorem dX1_isAhead_9 : decode cX1_isAhead 9 = .ok (.iload_n 2, 1) := dk_28 (dk_at dksX1_isAhead_0 9 rfl rfl)
theorem dX1_isAhead_10 : decode cX1_isAhead 10 = .ok (.invokevirtual 236, 3) := dk_182 0 236 (dk_at dksX1_isAhead_0 10 rfl rfl)
theorem dX1_isAhead_13 : decode cX1_isAhead 13 = .ok (.ifCond .eq 22, 3) := dk_153 0 22 (dk_at dksX1_isAhead_0 13 rfl rfl)
theorem dX1_isAhead_16 : decode cX1_isAhead 16 = .ok (.aload_n 0, 1) := dk_42 (dk_at dksX1_isAhead_0 16 rfl rfl)
theorem dX1_isAhead_17 : decode cX1_isAhead 17 = .ok (.getfield 186, 3) := dk_180 0 186 (dk_at dksX1_isAhead_0 17 rfl rfl)
theorem dX1_isAhead_20 : decode cX1_isAhead 20 = .ok (.iload_n 1, 1) := dk_27 (dk_at dksX1_isAhead_0 20 rfl rfl)
theorem dX1_isAhead_21 : decode cX1_isAhead 21 = .ok (.iaload, 1) := dk_46 (dk_at dksX1_isAhead_0 21 rfl rfl)
theorem dX1_isAhead_22 : decode cX1_isAhead 22 = .ok (.aload_n 0, 1) := dk_42 (dk_at dksX1_isAhead_0 22 rfl rfl)
theorem dX1_isAhead_23 : decode cX1_isAhead 23 = .ok (.getfield 186, 3) := dk_180 0 186 (dk_at dksX1_isAhead_1 0 rfl rfl)
theorem dX1_isAhead_26 : decode cX1_isAhead 26 = .ok (.iload_n 2, 1) := dk_28 (dk_at dksX1_isAhead_1 3 rfl rfl)
theorem dX1_isAhead_27 : decode cX1_isAhead 27 = .ok (.iaload, 1) := dk_46 (dk_at dksX1_isAhead_1 4 rfl rfl)
theorem dX1_isAhead_28 : decode cX1_isAhead 28 = .ok (.if_icmp .le 7, 3) := dk_164 0 7 (dk_at dksX1_isAhead_1 5 rfl rfl)
theorem dX1_isAhead_31 : decode cX1_isAhead 31 = .ok (.iconst 1, 1) := dk_4 (dk_at dksX1_isAhead_1 8 rfl rfl)
theorem dX1_isAhead_32 : decode cX1_isAhead 32 = .ok (.goto 4, 3) := dk_167 0 4 (dk_at dksX1_isAhead_1 9 rfl rfl)
theorem dX1_isAhead_35 : decode cX1_isAhead 35 = .ok (.iconst 0, 1) := dk_3 (dk_at dksX1_isAhead_1 12 rfl rfl)
theorem dX1_isAhead_36 : decode cX1_isAhead 36 = .ok (.ireturn, 1) := dk_172 (dk_at dksX1_isAhead_1 13 rfl rfl)
theorem dX1_isAhead_37 : decode cX1_isAhead 37 = .ok (.aload_n 0, 1) := dk_42 (dk_at dksX1_isAhead_1 14 rfl rfl)
theorem dX1_isAhead_38 : decode cX1_isAhead 38 = .ok (.iload_n 2, 1) := dk_28 (dk_at dksX1_isAhead_1 15 rfl rfl)
theorem dX1_isAhead_39 : decode cX1_isAhead 39 = .ok (.invokevirtual 236, 3) := dk_182 0 236 (dk_at dksX1_isAhead_1 16 rfl rfl)
theorem dX1_isAhead_42 : decode cX1_isAhead 42 = .ok (.ifCond .ne 18, 3) := dk_154 0 18 (dk_at dksX1_isAhead_1 19 rfl rfl)
theorem dX1_isAhead_45 : decode cX1_isAhead 45 = .ok (.aload_n 0, 1) := dk_42 (dk_at dksX1_isAhead_1 22 rfl rfl)
theorem dX1_isAhead_46 : decode cX1_isAhead 46 = .ok (.getfield 188, 3) := dk_180 0 188 (dk_at dksX1_isAhead_2 0 rfl rfl)
theorem dX1_isAhead_49 : decode cX1_isAhead 49 = .ok (.iload_n 1, 1) := dk_27 (dk_at dksX1_isAhead_2 3 rfl rfl)
theorem dX1_isAhead_50 : decode cX1_isAhead 50 = .ok (.iaload, 1) := dk_46 (dk_at dksX1_isAhead_2 4 rfl rfl)
theorem dX1_isAhead_51 : decode cX1_isAhead 51 = .ok (.aload_n 0, 1) := dk_42 (dk_at dksX1_isAhead_2 5 rfl rfl)
theorem dX1_isAhead_52 : decode cX1_isAhead 52 = .ok (.getfield 188, 3) := dk_180 0 188 (dk_at dksX1_isAhead_2 6 rfl rfl)
theorem dX1_isAhead_55 : decode cX1_isAhead 55 = .ok (.iload_n 2, 1) := dk_28 (dk_at dksX1_isAhead_2 9 rfl rfl)
theorem dX1_isAhead_56 : decode cX1_isAhead 56 = .ok (.iaload, 1) := dk_46 (dk_at dksX1_isAhead_2 10 rfl rfl)
theorem dX1_isAhead_57 : decode cX1_isAhead 57 = .ok (.if_icmp .ge 7, 3) := dk_162 0 7 (dk_at dksX1_isAhead_2 11 rfl rfl)
theorem dX1_isAhead_60 : decode cX1_isAhead 60 = .ok (.iconst 1, 1) := dk_4 (dk_at dksX1_isAhead_2 14 rfl rfl)
theorem dX1_isAhead_61 : decode cX1_isAhead 61 = .ok (.goto 4, 3) := dk_167 0 4 (dk_at dksX1_isAhead_2 15 rfl rfl)
theorem dX1_isAhead_64 : decode cX1_isAhead 64 = .ok (.iconst 0, 1) := dk_3 (dk_at dksX1_isAhead_2 18 rfl rfl)
theorem dX1_isAhead_65 : decode cX1_isAhead 65 = .ok (.ireturn, 1) := dk_172 (dk_at dksX1_isAhead_2 19 rfl rfl)
abbrev cX1_ends : ByteArray := prog_1_method_45_code
def yX1_ends : MethodName := ⟨RX1, "ends", "(I)I"⟩
def dkwX1_ends_4 : List UInt8 := [182, 1, 35, 42, 180, 0, 40, 180, 0, 203, 27, 46, 172]
abbrev dktX1_ends_4 : List UInt8 := dkwX1_ends_4 ++ []
def dkwX1_ends_3 : List UInt8 := [172, 42, 3, 181, 0, 95, 42, 28, 133, 182, 1, 35, 42, 42, 180, 0, 40, 180, 1, 39, 27, 46, 133]
abbrev dktX1_ends_3 : List UInt8 := dkwX1_ends_3 ++ dktX1_ends_4
def dkwX1_ends_2 : List UInt8 := [182, 1, 99, 132, 2, 1, 167, 255, 226, 42, 180, 0, 40, 180, 0, 203, 27, 46, 2, 160, 0, 6, 16, 254]
abbrev dktX1_ends_2 : List UInt8 := dkwX1_ends_2 ++ dktX1_ends_3
def dkwX1_ends_1 : List UInt8 := [17, 0, 200, 162, 0, 29, 42, 180, 0, 40, 180, 0, 203, 27, 46, 2, 160, 0, 16, 42, 180, 0, 40]
abbrev dktX1_ends_1 : List UInt8 := dkwX1_ends_1 ++ dktX1_ends_2
def dkwX1_ends_0 : List UInt8 := [42, 27, 182, 0, 251, 154, 0, 5, 2, 172, 42, 180, 0, 40, 42, 180, 0, 33, 182, 1, 16, 3, 61, 28]
abbrev dktX1_ends_0 : List UInt8 := dkwX1_ends_0 ++ dktX1_ends_1
theorem dksX1_ends_0 : cX1_ends.data.toList.drop 0 = dktX1_ends_0 := by decide +kernel
theorem dksX1_ends_1 : cX1_ends.data.toList.drop 24 = dktX1_ends_1 := dk_seg dksX1_ends_0 24 rfl rfl
theorem dksX1_ends_2 : cX1_ends.data.toList.drop 47 = dktX1_ends_2 := dk_seg dksX1_ends_1 23 rfl rfl
theorem dksX1_ends_3 : cX1_ends.data.toList.drop 71 = dktX1_ends_3 := dk_seg dksX1_ends_2 24 rfl rfl
theorem dksX1_ends_4 : cX1_ends.data.toList.drop 94 = dktX1_ends_4 := dk_seg dksX1_ends_3 23 rfl rfl
theorem dX1_ends_0 : decode cX1_ends 0 = .ok (.aload_n 0, 1) := dk_42 (dk_at dksX1_ends_0 0 rfl rfl)
theorem dX1_ends_1 : decode cX1_ends 1 = .ok (.iload_n 1, 1) := dk_27 (dk_at dksX1_ends_0 1 rfl rfl)
theorem dX1_ends_2 : decode cX1_ends 2 = .ok (.invokevirtual 251, 3) := dk_182 0 251 (dk_at dksX1_ends_0 2 rfl rfl)
theorem dX1_ends_5 : decode cX1_ends 5 = .ok (.ifCond .ne 5, 3) := dk_154 0 5 (dk_at dksX1_ends_0 5 rfl rfl)
theorem dX1_ends_8 : decode cX1_ends 8 = .ok (.iconst (-1), 1) := dk_2 (dk_at dksX1_ends_0 8 rfl rfl)
theorem dX1_ends_9 : decode cX1_ends 9 = .ok (.ireturn, 1) := dk_172 (dk_at dksX1_ends_0 9 rfl rfl)
theorem dX1_ends_10 : decode cX1_ends 10 = .ok (.aload_n 0, 1) := dk_42 (dk_at dksX1_ends_0 10 rfl rfl)
theorem dX1_ends_11 : decode cX1_ends 11 = .ok (.getfield 40, 3) := dk_180 0 40 (dk_at dksX1_ends_0 11 rfl rfl)
theorem dX1_ends_14 : decode cX1_ends 14 = .ok (.aload_n 0, 1) := dk_42 (dk_at dksX1_ends_0 14 rfl rfl)
theorem dX1_ends_15 : decode cX1_ends 15 = .ok (.getfield 33, 3) := dk_180 0 33 (dk_at dksX1_ends_0 15 rfl rfl)
theorem dX1_ends_18 : decode cX1_ends 18 = .ok (.invokevirtual 272, 3) := dk_182 1 16 (dk_at dksX1_ends_0 18 rfl rfl)
theorem dX1_ends_21 : decode cX1_ends 21 = .ok (.iconst 0, 1) := dk_3 (dk_at dksX1_ends_0 21 rfl rfl)
theorem dX1_ends_22 : decode cX1_ends 22 = .ok (.istore_n 2, 1) := dk_61 (dk_at dksX1_ends_0 22 rfl rfl)
theorem dX1_ends_23 : decode cX1_ends 23 = .ok (.iload_n 2, 1) := dk_28 (dk_at dksX1_ends_0 23 rfl rfl)
theorem dX1_ends_24 : decode cX1_ends 24 = .ok (.sipush 200, 3) := dk_17 0 200 (dk_at dksX1_ends_1 0 rfl rfl)
theorem dX1_ends_27 : decode cX1_ends 27 = .ok (.if_icmp .ge 29, 3) := dk_162 0 29 (dk_at dksX1_ends_1 3 rfl rfl)
theorem dX1_ends_30 : decode cX1_ends 30 = .ok (.aload_n 0, 1) := dk_42 (dk_at dksX1_ends_1 6 rfl rfl)
theorem dX1_ends_31 : decode cX1_ends 31 = .ok (.getfield 40, 3) := dk_180 0 40 (dk_at dksX1_ends_1 7 rfl rfl)
theorem dX1_ends_34 : decode cX1_ends 34 = .ok (.getfield 203, 3) := dk_180 0 203 (dk_at dksX1_ends_1 10 rfl rfl)
theorem dX1_ends_37 : decode cX1_ends 37 = .ok (.iload_n 1, 1) := dk_27 (dk_at dksX1_ends_1 13 rfl rfl)
theorem dX1_ends_38 : decode cX1_ends 38 = .ok (.iaload, 1) := dk_46 (dk_at dksX1_ends_1 14 rfl rfl)
theorem dX1_ends_39 : decode cX1_ends 39 = .ok (.iconst (-1), 1) := dk_2 (dk_at dksX1_ends_1 15 rfl rfl)
theorem dX1_ends_40 : decode cX1_ends 40 = .ok (.if_icmp .ne 16, 3) := dk_160 0 16 (dk_at dksX1_ends_1 16 rfl rfl)
theorem dX1_ends_43 : decode cX1_ends 43 = .ok (.aload_n 0, 1) := dk_42 (dk_at dksX1_ends_1 19 rfl rfl)
theorem dX1_ends_44 : decode cX1_ends 44 = .ok (.getfield 40, 3) := dk_180 0 40 (dk_at dksX1_ends_1 20 rfl rfl)
theorem dX1_ends_47 : decode cX1_ends 47 = .ok (.invokevirtual 355, 3) := dk_182 1 99 (dk_at dksX1_ends_2 0 rfl rfl)
theorem dX1_ends_50 : decode cX1_ends 50 = .ok (.iinc 2 1, 3) := dk_132 2 1 (dk_at dksX1_ends_2 3 rfl rfl)
theorem dX1_ends_53 : decode cX1_ends 53 = .ok (.goto (-30), 3) := dk_167 255 226 (dk_at dksX1_ends_2 6 rfl rfl)
theorem dX1_ends_56 : decode cX1_ends 56 = .ok (.aload_n 0, 1) := dk_42 (dk_at dksX1_ends_2 9 rfl rfl)
theorem dX1_ends_57 : decode cX1_ends 57 = .ok (.getfield 40, 3) := dk_180 0 40 (dk_at dksX1_ends_2 10 rfl rfl)
theorem dX1_ends_60 : decode cX1_ends 60 = .ok (.getfield 203, 3) := dk_180 0 203 (dk_at dksX1_ends_2 13 rfl rfl)
theorem dX1_ends_63 : decode cX1_ends 63 = .ok (.iload_n 1, 1) := dk_27 (dk_at dksX1_ends_2 16 rfl rfl)
theorem dX1_ends_64 : decode cX1_ends 64 = .ok (.iaload, 1) := dk_46 (dk_at dksX1_ends_2 17 rfl rfl)
theorem dX1_ends_65 : decode cX1_ends 65 = .ok (.iconst (-1), 1) := dk_2 (dk_at dksX1_ends_2 18 rfl rfl)
theorem dX1_ends_66 : decode cX1_ends 66 = .ok (.if_icmp .ne 6, 3) := dk_160 0 6 (dk_at dksX1_ends_2 19 rfl rfl)
theorem dX1_ends_69 : decode cX1_ends 69 = .ok (.bipush (-2), 2) := dk_16 254 (dk_at dksX1_ends_2 22 rfl rfl)
theorem dX1_ends_71 : decode cX1_ends 71 = .ok (.ireturn, 1) := dk_172 (dk_at dksX1_ends_3 0 rfl rfl)
theorem dX1_ends_72 : decode cX1_ends 72 = .ok (.aload_n 0, 1) := dk_42 (dk_at dksX1_ends_3 1 rfl rfl)
theorem dX1_ends_73 : decode cX1_ends 73 = .ok (.iconst 0, 1) := dk_3 (dk_at dksX1_ends_3 2 rfl rfl)
theorem dX1_ends_74 : decode cX1_ends 74 = .ok (.putfield 95, 3) := dk_181 0 95 (dk_at dksX1_ends_3 3 rfl rfl)
theorem dX1_ends_77 : decode cX1_ends 77 = .ok (.aload_n 0, 1) := dk_42 (dk_at dksX1_ends_3 6 rfl rfl)
theorem dX1_ends_78 : decode cX1_ends 78 = .ok (.iload_n 2, 1) := dk_28 (dk_at dksX1_ends_3 7 rfl rfl)
theorem dX1_ends_79 : decode cX1_ends 79 = .ok (.i2l, 1) := dk_133 (dk_at dksX1_ends_3 8 rfl rfl)
theorem dX1_ends_80 : decode cX1_ends 80 = .ok (.invokevirtual 291, 3) := dk_182 1 35 (dk_at dksX1_ends_3 9 rfl rfl)
theorem dX1_ends_83 : decode cX1_ends 83 = .ok (.aload_n 0, 1) := dk_42 (dk_at dksX1_ends_3 12 rfl rfl)
theorem dX1_ends_84 : decode cX1_ends 84 = .ok (.aload_n 0, 1) := dk_42 (dk_at dksX1_ends_3 13 rfl rfl)
theorem dX1_ends_85 : decode cX1_ends 85 = .ok (.getfield 40, 3) := dk_180 0 40 (dk_at dksX1_ends_3 14 rfl rfl)
theorem dX1_ends_88 : decode cX1_ends 88 = .ok (.getfield 295, 3) := dk_180 1 39 (dk_at dksX1_ends_3 17 rfl rfl)
theorem dX1_ends_91 : decode cX1_ends 91 = .ok (.iload_n 1, 1) := dk_27 (dk_at dksX1_ends_3 20 rfl rfl)
theorem dX1_ends_92 : decode cX1_ends 92 = .ok (.iaload, 1) := dk_46 (dk_at dksX1_ends_3 21 rfl rfl)
theorem dX1_ends_93 : decode cX1_ends 93 = .ok (.i2l, 1) := dk_133 (dk_at dksX1_ends_3 22 rfl rfl)
theorem dX1_ends_94 : decode cX1_ends 94 = .ok (.invokevirtual 291, 3) := dk_182 1 35 (dk_at dksX1_ends_4 0 rfl rfl)
theorem dX1_ends_97 : decode cX1_ends 97 = .ok (.aload_n 0, 1) := dk_42 (dk_at dksX1_ends_4 3 rfl rfl)
theorem dX1_ends_98 : decode cX1_ends 98 = .ok (.getfield 40, 3) := dk_180 0 40 (dk_at dksX1_ends_4 4 rfl rfl)
theorem dX1_ends_101 : decode cX1_ends 101 = .ok (.getfield 203, 3) := dk_180 0 203 (dk_at dksX1_ends_4 7 rfl rfl)
theorem dX1_ends_104 : decode cX1_ends 104 = .ok (.iload_n 1, 1) := dk_27 (dk_at dksX1_ends_4 10 rfl rfl)
theorem dX1_ends_105 : decode cX1_ends 105 = .ok (.iaload, 1) := dk_46 (dk_at dksX1_ends_4 11 rfl rfl)
theorem dX1_ends_106 : decode cX1_ends 106 = .ok (.ireturn, 1) := dk_172 (dk_at dksX1_ends_4 12 rfl rfl)
abbrev cX1_right : ByteArray := prog_1_method_46_code
def yX1_right : MethodName := ⟨RX1, "right", "()I"⟩
def dkwX1_right_1 : List UInt8 := [182, 1, 118, 43, 182, 1, 115, 2, 130, 126, 133, 182, 1, 35, 43, 182, 1, 115, 184, 1, 121, 172]
abbrev dktX1_right_1 : List UInt8 := dkwX1_right_1 ++ []
def dkwX1_right_0 : List UInt8 := [42, 180, 0, 60, 182, 1, 109, 76, 42, 3, 181, 0, 95, 42, 43, 182, 1, 115, 133, 182, 1, 35, 42, 43]
abbrev dktX1_right_0 : List UInt8 := dkwX1_right_0 ++ dktX1_right_1
theorem dksX1_right_0 : cX1_right.data.toList.drop 0 = dktX1_right_0 := by decide +kernel
theorem dksX1_right_1 : cX1_right.data.toList.drop 24 = dktX1_right_1 := dk_seg dksX1_right_0 24 rfl rfl
theorem dX1_right_0 : decode cX1_right 0 = .ok (.aload_n 0, 1) := dk_42 (dk_at dksX1_right_0 0 rfl rfl)
theorem dX1_right_1 : decode cX1_right 1 = .ok (.getfield 60, 3) := dk_180 0 60 (dk_at dksX1_right_0 1 rfl rfl)
theorem dX1_right_4 : decode cX1_right 4 = .ok (.invokevirtual 365, 3) := dk_182 1 109 (dk_at dksX1_right_0 4 rfl rfl)
theorem dX1_right_7 : decode cX1_right 7 = .ok (.astore_n 1, 1) := dk_76 (dk_at dksX1_right_0 7 rfl rfl)
theorem dX1_right_8 : decode cX1_right 8 = .ok (.aload_n 0, 1) := dk_42 (dk_at dksX1_right_0 8 rfl rfl)
theorem dX1_right_9 : decode cX1_right 9 = .ok (.iconst 0, 1) := dk_3 (dk_at dksX1_right_0 9 rfl rfl)
theorem dX1_right_10 : decode cX1_right 10 = .ok (.putfield 95, 3) := dk_181 0 95 (dk_at dksX1_right_0 10 rfl rfl)
theorem dX1_right_13 : decode cX1_right 13 = .ok (.aload_n 0, 1) := dk_42 (dk_at dksX1_right_0 13 rfl rfl)
theorem dX1_right_14 : decode cX1_right 14 = .ok (.aload_n 1, 1) := dk_43 (dk_at dksX1_right_0 14 rfl rfl)
theorem dX1_right_15 : decode cX1_right 15 = .ok (.invokevirtual 371, 3) := dk_182 1 115 (dk_at dksX1_right_0 15 rfl rfl)
theorem dX1_right_18 : decode cX1_right 18 = .ok (.i2l, 1) := dk_133 (dk_at dksX1_right_0 18 rfl rfl)
theorem dX1_right_19 : decode cX1_right 19 = .ok (.invokevirtual 291, 3) := dk_182 1 35 (dk_at dksX1_right_0 19 rfl rfl)
theorem dX1_right_22 : decode cX1_right 22 = .ok (.aload_n 0, 1) := dk_42 (dk_at dksX1_right_0 22 rfl rfl)
theorem dX1_right_23 : decode cX1_right 23 = .ok (.aload_n 1, 1) := dk_43 (dk_at dksX1_right_0 23 rfl rfl)
theorem dX1_right_24 : decode cX1_right 24 = .ok (.invokevirtual 374, 3) := dk_182 1 118 (dk_at dksX1_right_1 0 rfl rfl)
theorem dX1_right_27 : decode cX1_right 27 = .ok (.aload_n 1, 1) := dk_43 (dk_at dksX1_right_1 3 rfl rfl)
theorem dX1_right_28 : decode cX1_right 28 = .ok (.invokevirtual 371, 3) := dk_182 1 115 (dk_at dksX1_right_1 4 rfl rfl)
theorem dX1_right_31 : decode cX1_right 31 = .ok (.iconst (-1), 1) := dk_2 (dk_at dksX1_right_1 7 rfl rfl)
theorem dX1_right_32 : decode cX1_right 32 = .ok (.ixor, 1) := dk_130 (dk_at dksX1_right_1 8 rfl rfl)
theorem dX1_right_33 : decode cX1_right 33 = .ok (.iand, 1) := dk_126 (dk_at dksX1_right_1 9 rfl rfl)
theorem dX1_right_34 : decode cX1_right 34 = .ok (.i2l, 1) := dk_133 (dk_at dksX1_right_1 10 rfl rfl)
theorem dX1_right_35 : decode cX1_right 35 = .ok (.invokevirtual 291, 3) := dk_182 1 35 (dk_at dksX1_right_1 11 rfl rfl)
theorem dX1_right_38 : decode cX1_right 38 = .ok (.aload_n 1, 1) := dk_43 (dk_at dksX1_right_1 14 rfl rfl)
theorem dX1_right_39 : decode cX1_right 39 = .ok (.invokevirtual 371, 3) := dk_182 1 115 (dk_at dksX1_right_1 15 rfl rfl)
theorem dX1_right_42 : decode cX1_right 42 = .ok (.invokestatic 377, 3) := dk_184 1 121 (dk_at dksX1_right_1 18 rfl rfl)
theorem dX1_right_45 : decode cX1_right 45 = .ok (.ireturn, 1) := dk_172 (dk_at dksX1_right_1 21 rfl rfl)
abbrev cX1_has : ByteArray := prog_1_method_2_code
def yX1_has : MethodName := ⟨RX1, "has", "(II)Z"⟩
def dkwX1_has_0 : List UInt8 := [26, 27, 122, 4, 126, 4, 160, 0, 7, 4, 167, 0, 4, 3, 172]
abbrev dktX1_has_0 : List UInt8 := dkwX1_has_0 ++ []
theorem dksX1_has_0 : cX1_has.data.toList.drop 0 = dktX1_has_0 := by decide +kernel
theorem dX1_has_0 : decode cX1_has 0 = .ok (.iload_n 0, 1) := dk_26 (dk_at dksX1_has_0 0 rfl rfl)
theorem dX1_has_1 : decode cX1_has 1 = .ok (.iload_n 1, 1) := dk_27 (dk_at dksX1_has_0 1 rfl rfl)
theorem dX1_has_2 : decode cX1_has 2 = .ok (.ishr, 1) := dk_122 (dk_at dksX1_has_0 2 rfl rfl)
theorem dX1_has_3 : decode cX1_has 3 = .ok (.iconst 1, 1) := dk_4 (dk_at dksX1_has_0 3 rfl rfl)
theorem dX1_has_4 : decode cX1_has 4 = .ok (.iand, 1) := dk_126 (dk_at dksX1_has_0 4 rfl rfl)
theorem dX1_has_5 : decode cX1_has 5 = .ok (.iconst 1, 1) := dk_4 (dk_at dksX1_has_0 5 rfl rfl)
theorem dX1_has_6 : decode cX1_has 6 = .ok (.if_icmp .ne 7, 3) := dk_160 0 7 (dk_at dksX1_has_0 6 rfl rfl)
theorem dX1_has_9 : decode cX1_has 9 = .ok (.iconst 1, 1) := dk_4 (dk_at dksX1_has_0 9 rfl rfl)
theorem dX1_has_10 : decode cX1_has 10 = .ok (.goto 4, 3) := dk_167 0 4 (dk_at dksX1_has_0 10 rfl rfl)
theorem dX1_has_13 : decode cX1_has 13 = .ok (.iconst 0, 1) := dk_3 (dk_at dksX1_has_0 13 rfl rfl)
theorem dX1_has_14 : decode cX1_has 14 = .ok (.ireturn, 1) := dk_172 (dk_at dksX1_has_0 14 rfl rfl)
abbrev cX1_goToEnd : ByteArray := prog_1_method_43_code
def yX1_goToEnd : MethodName := ⟨RX1, "goToEnd", "(LBehindAnotherHearse$Street;)V"⟩
def dkwX1_goToEnd_1 : List UInt8 := [167, 255, 234, 177]
abbrev dktX1_goToEnd_1 : List UInt8 := dkwX1_goToEnd_1 ++ []
def dkwX1_goToEnd_0 : List UInt8 := [3, 61, 28, 17, 0, 200, 162, 0, 21, 42, 43, 182, 1, 105, 154, 0, 13, 43, 182, 1, 99, 132, 2, 1]
abbrev dktX1_goToEnd_0 : List UInt8 := dkwX1_goToEnd_0 ++ dktX1_goToEnd_1
theorem dksX1_goToEnd_0 : cX1_goToEnd.data.toList.drop 0 = dktX1_goToEnd_0 := by decide +kernel
theorem dksX1_goToEnd_1 : cX1_goToEnd.data.toList.drop 24 = dktX1_goToEnd_1 := dk_seg dksX1_goToEnd_0 24 rfl rfl
theorem dX1_goToEnd_0 : decode cX1_goToEnd 0 = .ok (.iconst 0, 1) := dk_3 (dk_at dksX1_goToEnd_0 0 rfl rfl)
theorem dX1_goToEnd_1 : decode cX1_goToEnd 1 = .ok (.istore_n 2, 1) := dk_61 (dk_at dksX1_goToEnd_0 1 rfl rfl)
theorem dX1_goToEnd_2 : decode cX1_goToEnd 2 = .ok (.iload_n 2, 1) := dk_28 (dk_at dksX1_goToEnd_0 2 rfl rfl)
theorem dX1_goToEnd_3 : decode cX1_goToEnd 3 = .ok (.sipush 200, 3) := dk_17 0 200 (dk_at dksX1_goToEnd_0 3 rfl rfl)
theorem dX1_goToEnd_6 : decode cX1_goToEnd 6 = .ok (.if_icmp .ge 21, 3) := dk_162 0 21 (dk_at dksX1_goToEnd_0 6 rfl rfl)
theorem dX1_goToEnd_9 : decode cX1_goToEnd 9 = .ok (.aload_n 0, 1) := dk_42 (dk_at dksX1_goToEnd_0 9 rfl rfl)
theorem dX1_goToEnd_10 : decode cX1_goToEnd 10 = .ok (.aload_n 1, 1) := dk_43 (dk_at dksX1_goToEnd_0 10 rfl rfl)
theorem dX1_goToEnd_11 : decode cX1_goToEnd 11 = .ok (.invokevirtual 361, 3) := dk_182 1 105 (dk_at dksX1_goToEnd_0 11 rfl rfl)
theorem dX1_goToEnd_14 : decode cX1_goToEnd 14 = .ok (.ifCond .ne 13, 3) := dk_154 0 13 (dk_at dksX1_goToEnd_0 14 rfl rfl)
theorem dX1_goToEnd_17 : decode cX1_goToEnd 17 = .ok (.aload_n 1, 1) := dk_43 (dk_at dksX1_goToEnd_0 17 rfl rfl)
theorem dX1_goToEnd_18 : decode cX1_goToEnd 18 = .ok (.invokevirtual 355, 3) := dk_182 1 99 (dk_at dksX1_goToEnd_0 18 rfl rfl)
theorem dX1_goToEnd_21 : decode cX1_goToEnd 21 = .ok (.iinc 2 1, 3) := dk_132 2 1 (dk_at dksX1_goToEnd_0 21 rfl rfl)
theorem dX1_goToEnd_24 : decode cX1_goToEnd 24 = .ok (.goto (-22), 3) := dk_167 255 234 (dk_at dksX1_goToEnd_1 0 rfl rfl)
theorem dX1_goToEnd_27 : decode cX1_goToEnd 27 = .ok (.return_, 1) := dk_177 (dk_at dksX1_goToEnd_1 3 rfl rfl)
abbrev cX1_isOver : ByteArray := prog_1_method_44_code
def yX1_isOver : MethodName := ⟨RX1, "isOver", "(LBehindAnotherHearse$Street;)Z"⟩
def dkwX1_isOver_2 : List UInt8 := [4, 167, 0, 4, 3, 126, 61, 132, 3, 1, 167, 255, 217, 28, 172]
abbrev dktX1_isOver_2 : List UInt8 := dkwX1_isOver_2 ++ []
def dkwX1_isOver_1 : List UInt8 := [162, 0, 37, 28, 43, 180, 0, 203, 29, 46, 2, 160, 0, 13, 43, 180, 0, 200, 29, 46, 2, 160, 0, 7]
abbrev dktX1_isOver_1 : List UInt8 := dkwX1_isOver_1 ++ dktX1_isOver_2
def dkwX1_isOver_0 : List UInt8 := [43, 180, 0, 153, 42, 180, 0, 98, 160, 0, 7, 4, 167, 0, 4, 3, 61, 3, 62, 29, 42, 180, 0, 105]
abbrev dktX1_isOver_0 : List UInt8 := dkwX1_isOver_0 ++ dktX1_isOver_1
theorem dksX1_isOver_0 : cX1_isOver.data.toList.drop 0 = dktX1_isOver_0 := by decide +kernel
theorem dksX1_isOver_1 : cX1_isOver.data.toList.drop 24 = dktX1_isOver_1 := dk_seg dksX1_isOver_0 24 rfl rfl
theorem dksX1_isOver_2 : cX1_isOver.data.toList.drop 48 = dktX1_isOver_2 := dk_seg dksX1_isOver_1 24 rfl rfl
theorem dX1_isOver_0 : decode cX1_isOver 0 = .ok (.aload_n 1, 1) := dk_43 (dk_at dksX1_isOver_0 0 rfl rfl)
theorem dX1_isOver_1 : decode cX1_isOver 1 = .ok (.getfield 153, 3) := dk_180 0 153 (dk_at dksX1_isOver_0 1 rfl rfl)
theorem dX1_isOver_4 : decode cX1_isOver 4 = .ok (.aload_n 0, 1) := dk_42 (dk_at dksX1_isOver_0 4 rfl rfl)
theorem dX1_isOver_5 : decode cX1_isOver 5 = .ok (.getfield 98, 3) := dk_180 0 98 (dk_at dksX1_isOver_0 5 rfl rfl)
theorem dX1_isOver_8 : decode cX1_isOver 8 = .ok (.if_icmp .ne 7, 3) := dk_160 0 7 (dk_at dksX1_isOver_0 8 rfl rfl)
theorem dX1_isOver_11 : decode cX1_isOver 11 = .ok (.iconst 1, 1) := dk_4 (dk_at dksX1_isOver_0 11 rfl rfl)
theorem dX1_isOver_12 : decode cX1_isOver 12 = .ok (.goto 4, 3) := dk_167 0 4 (dk_at dksX1_isOver_0 12 rfl rfl)
theorem dX1_isOver_15 : decode cX1_isOver 15 = .ok (.iconst 0, 1) := dk_3 (dk_at dksX1_isOver_0 15 rfl rfl)
theorem dX1_isOver_16 : decode cX1_isOver 16 = .ok (.istore_n 2, 1) := dk_61 (dk_at dksX1_isOver_0 16 rfl rfl)
theorem dX1_isOver_17 : decode cX1_isOver 17 = .ok (.iconst 0, 1) := dk_3 (dk_at dksX1_isOver_0 17 rfl rfl)
theorem dX1_isOver_18 : decode cX1_isOver 18 = .ok (.istore_n 3, 1) := dk_62 (dk_at dksX1_isOver_0 18 rfl rfl)
theorem dX1_isOver_19 : decode cX1_isOver 19 = .ok (.iload_n 3, 1) := dk_29 (dk_at dksX1_isOver_0 19 rfl rfl)
theorem dX1_isOver_20 : decode cX1_isOver 20 = .ok (.aload_n 0, 1) := dk_42 (dk_at dksX1_isOver_0 20 rfl rfl)
theorem dX1_isOver_21 : decode cX1_isOver 21 = .ok (.getfield 105, 3) := dk_180 0 105 (dk_at dksX1_isOver_0 21 rfl rfl)
theorem dX1_isOver_24 : decode cX1_isOver 24 = .ok (.if_icmp .ge 37, 3) := dk_162 0 37 (dk_at dksX1_isOver_1 0 rfl rfl)
theorem dX1_isOver_27 : decode cX1_isOver 27 = .ok (.iload_n 2, 1) := dk_28 (dk_at dksX1_isOver_1 3 rfl rfl)
theorem dX1_isOver_28 : decode cX1_isOver 28 = .ok (.aload_n 1, 1) := dk_43 (dk_at dksX1_isOver_1 4 rfl rfl)
theorem dX1_isOver_29 : decode cX1_isOver 29 = .ok (.getfield 203, 3) := dk_180 0 203 (dk_at dksX1_isOver_1 5 rfl rfl)
theorem dX1_isOver_32 : decode cX1_isOver 32 = .ok (.iload_n 3, 1) := dk_29 (dk_at dksX1_isOver_1 8 rfl rfl)
theorem dX1_isOver_33 : decode cX1_isOver 33 = .ok (.iaload, 1) := dk_46 (dk_at dksX1_isOver_1 9 rfl rfl)
theorem dX1_isOver_34 : decode cX1_isOver 34 = .ok (.iconst (-1), 1) := dk_2 (dk_at dksX1_isOver_1 10 rfl rfl)
theorem dX1_isOver_35 : decode cX1_isOver 35 = .ok (.if_icmp .ne 13, 3) := dk_160 0 13 (dk_at dksX1_isOver_1 11 rfl rfl)
theorem dX1_isOver_38 : decode cX1_isOver 38 = .ok (.aload_n 1, 1) := dk_43 (dk_at dksX1_isOver_1 14 rfl rfl)
theorem dX1_isOver_39 : decode cX1_isOver 39 = .ok (.getfield 200, 3) := dk_180 0 200 (dk_at dksX1_isOver_1 15 rfl rfl)
theorem dX1_isOver_42 : decode cX1_isOver 42 = .ok (.iload_n 3, 1) := dk_29 (dk_at dksX1_isOver_1 18 rfl rfl)
theorem dX1_isOver_43 : decode cX1_isOver 43 = .ok (.iaload, 1) := dk_46 (dk_at dksX1_isOver_1 19 rfl rfl)
theorem dX1_isOver_44 : decode cX1_isOver 44 = .ok (.iconst (-1), 1) := dk_2 (dk_at dksX1_isOver_1 20 rfl rfl)
theorem dX1_isOver_45 : decode cX1_isOver 45 = .ok (.if_icmp .ne 7, 3) := dk_160 0 7 (dk_at dksX1_isOver_1 21 rfl rfl)
theorem dX1_isOver_48 : decode cX1_isOver 48 = .ok (.iconst 1, 1) := dk_4 (dk_at dksX1_isOver_2 0 rfl rfl)
theorem dX1_isOver_49 : decode cX1_isOver 49 = .ok (.goto 4, 3) := dk_167 0 4 (dk_at dksX1_isOver_2 1 rfl rfl)
theorem dX1_isOver_52 : decode cX1_isOver 52 = .ok (.iconst 0, 1) := dk_3 (dk_at dksX1_isOver_2 4 rfl rfl)
theorem dX1_isOver_53 : decode cX1_isOver 53 = .ok (.iand, 1) := dk_126 (dk_at dksX1_isOver_2 5 rfl rfl)
theorem dX1_isOver_54 : decode cX1_isOver 54 = .ok (.istore_n 2, 1) := dk_61 (dk_at dksX1_isOver_2 6 rfl rfl)
theorem dX1_isOver_55 : decode cX1_isOver 55 = .ok (.iinc 3 1, 3) := dk_132 3 1 (dk_at dksX1_isOver_2 7 rfl rfl)
theorem dX1_isOver_58 : decode cX1_isOver 58 = .ok (.goto (-39), 3) := dk_167 255 217 (dk_at dksX1_isOver_2 10 rfl rfl)
theorem dX1_isOver_61 : decode cX1_isOver 61 = .ok (.iload_n 2, 1) := dk_28 (dk_at dksX1_isOver_2 13 rfl rfl)
theorem dX1_isOver_62 : decode cX1_isOver 62 = .ok (.ireturn, 1) := dk_172 (dk_at dksX1_isOver_2 14 rfl rfl)
abbrev cX1_order : ByteArray := prog_1_method_48_code
def yX1_order : MethodName := ⟨RX1, "order", "()I"⟩
def dkwX1_order_2 : List UInt8 := [182, 1, 35, 132, 1, 1, 167, 255, 223, 42, 180, 1, 129, 172]
abbrev dktX1_order_2 : List UInt8 := dkwX1_order_2 ++ []
def dkwX1_order_1 : List UInt8 := [162, 0, 31, 42, 180, 0, 33, 27, 182, 0, 236, 153, 0, 14, 42, 42, 180, 0, 67, 27, 46, 133]
abbrev dktX1_order_1 : List UInt8 := dkwX1_order_1 ++ dktX1_order_2
def dkwX1_order_0 : List UInt8 := [42, 2, 181, 1, 129, 42, 3, 3, 182, 1, 132, 42, 3, 181, 0, 95, 3, 60, 27, 42, 180, 0, 98]
abbrev dktX1_order_0 : List UInt8 := dkwX1_order_0 ++ dktX1_order_1
theorem dksX1_order_0 : cX1_order.data.toList.drop 0 = dktX1_order_0 := by decide +kernel
theorem dksX1_order_1 : cX1_order.data.toList.drop 23 = dktX1_order_1 := dk_seg dksX1_order_0 23 rfl rfl
theorem dksX1_order_2 : cX1_order.data.toList.drop 45 = dktX1_order_2 := dk_seg dksX1_order_1 22 rfl rfl
theorem dX1_order_0 : decode cX1_order 0 = .ok (.aload_n 0, 1) := dk_42 (dk_at dksX1_order_0 0 rfl rfl)
theorem dX1_order_1 : decode cX1_order 1 = .ok (.iconst (-1), 1) := dk_2 (dk_at dksX1_order_0 1 rfl rfl)
theorem dX1_order_2 : decode cX1_order 2 = .ok (.putfield 385, 3) := dk_181 1 129 (dk_at dksX1_order_0 2 rfl rfl)
theorem dX1_order_5 : decode cX1_order 5 = .ok (.aload_n 0, 1) := dk_42 (dk_at dksX1_order_0 5 rfl rfl)
theorem dX1_order_6 : decode cX1_order 6 = .ok (.iconst 0, 1) := dk_3 (dk_at dksX1_order_0 6 rfl rfl)
theorem dX1_order_7 : decode cX1_order 7 = .ok (.iconst 0, 1) := dk_3 (dk_at dksX1_order_0 7 rfl rfl)
theorem dX1_order_8 : decode cX1_order 8 = .ok (.invokevirtual 388, 3) := dk_182 1 132 (dk_at dksX1_order_0 8 rfl rfl)
theorem dX1_order_11 : decode cX1_order 11 = .ok (.aload_n 0, 1) := dk_42 (dk_at dksX1_order_0 11 rfl rfl)
theorem dX1_order_12 : decode cX1_order 12 = .ok (.iconst 0, 1) := dk_3 (dk_at dksX1_order_0 12 rfl rfl)
theorem dX1_order_13 : decode cX1_order 13 = .ok (.putfield 95, 3) := dk_181 0 95 (dk_at dksX1_order_0 13 rfl rfl)
theorem dX1_order_16 : decode cX1_order 16 = .ok (.iconst 0, 1) := dk_3 (dk_at dksX1_order_0 16 rfl rfl)
theorem dX1_order_17 : decode cX1_order 17 = .ok (.istore_n 1, 1) := dk_60 (dk_at dksX1_order_0 17 rfl rfl)
theorem dX1_order_18 : decode cX1_order 18 = .ok (.iload_n 1, 1) := dk_27 (dk_at dksX1_order_0 18 rfl rfl)
theorem dX1_order_19 : decode cX1_order 19 = .ok (.aload_n 0, 1) := dk_42 (dk_at dksX1_order_0 19 rfl rfl)
theorem dX1_order_20 : decode cX1_order 20 = .ok (.getfield 98, 3) := dk_180 0 98 (dk_at dksX1_order_0 20 rfl rfl)
theorem dX1_order_23 : decode cX1_order 23 = .ok (.if_icmp .ge 31, 3) := dk_162 0 31 (dk_at dksX1_order_1 0 rfl rfl)
theorem dX1_order_26 : decode cX1_order 26 = .ok (.aload_n 0, 1) := dk_42 (dk_at dksX1_order_1 3 rfl rfl)
theorem dX1_order_27 : decode cX1_order 27 = .ok (.getfield 33, 3) := dk_180 0 33 (dk_at dksX1_order_1 4 rfl rfl)
theorem dX1_order_30 : decode cX1_order 30 = .ok (.iload_n 1, 1) := dk_27 (dk_at dksX1_order_1 7 rfl rfl)
theorem dX1_order_31 : decode cX1_order 31 = .ok (.invokevirtual 236, 3) := dk_182 0 236 (dk_at dksX1_order_1 8 rfl rfl)
theorem dX1_order_34 : decode cX1_order 34 = .ok (.ifCond .eq 14, 3) := dk_153 0 14 (dk_at dksX1_order_1 11 rfl rfl)
theorem dX1_order_37 : decode cX1_order 37 = .ok (.aload_n 0, 1) := dk_42 (dk_at dksX1_order_1 14 rfl rfl)
theorem dX1_order_38 : decode cX1_order 38 = .ok (.aload_n 0, 1) := dk_42 (dk_at dksX1_order_1 15 rfl rfl)
theorem dX1_order_39 : decode cX1_order 39 = .ok (.getfield 67, 3) := dk_180 0 67 (dk_at dksX1_order_1 16 rfl rfl)
theorem dX1_order_42 : decode cX1_order 42 = .ok (.iload_n 1, 1) := dk_27 (dk_at dksX1_order_1 19 rfl rfl)
theorem dX1_order_43 : decode cX1_order 43 = .ok (.iaload, 1) := dk_46 (dk_at dksX1_order_1 20 rfl rfl)
theorem dX1_order_44 : decode cX1_order 44 = .ok (.i2l, 1) := dk_133 (dk_at dksX1_order_1 21 rfl rfl)
theorem dX1_order_45 : decode cX1_order 45 = .ok (.invokevirtual 291, 3) := dk_182 1 35 (dk_at dksX1_order_2 0 rfl rfl)
theorem dX1_order_48 : decode cX1_order 48 = .ok (.iinc 1 1, 3) := dk_132 1 1 (dk_at dksX1_order_2 3 rfl rfl)
theorem dX1_order_51 : decode cX1_order 51 = .ok (.goto (-33), 3) := dk_167 255 223 (dk_at dksX1_order_2 6 rfl rfl)
theorem dX1_order_54 : decode cX1_order 54 = .ok (.aload_n 0, 1) := dk_42 (dk_at dksX1_order_2 9 rfl rfl)
theorem dX1_order_55 : decode cX1_order 55 = .ok (.getfield 385, 3) := dk_180 1 129 (dk_at dksX1_order_2 10 rfl rfl)
theorem dX1_order_58 : decode cX1_order 58 = .ok (.ireturn, 1) := dk_172 (dk_at dksX1_order_2 13 rfl rfl)
abbrev cX1_goOrder : ByteArray := prog_1_method_47_code
def yX1_goOrder : MethodName := ⟨RX1, "goOrder", "(II)V"⟩
def dkwX1_goOrder_5 : List UInt8 := [128, 182, 1, 132, 132, 3, 1, 167, 255, 201, 177]
abbrev dktX1_goOrder_5 : List UInt8 := dkwX1_goOrder_5 ++ []
def dkwX1_goOrder_4 : List UInt8 := [184, 1, 135, 153, 0, 6, 167, 0, 22, 42, 180, 0, 64, 27, 29, 79, 42, 27, 4, 96, 28, 4, 29, 120]
abbrev dktX1_goOrder_4 : List UInt8 := dkwX1_goOrder_4 ++ dktX1_goOrder_5
def dkwX1_goOrder_3 : List UInt8 := [180, 0, 20, 4, 100, 162, 0, 51, 42, 180, 0, 33, 29, 182, 0, 183, 2, 159, 0, 33, 28, 29]
abbrev dktX1_goOrder_3 : List UInt8 := dkwX1_goOrder_3 ++ dktX1_goOrder_4
def dkwX1_goOrder_2 : List UInt8 := [42, 180, 0, 33, 27, 182, 0, 236, 154, 0, 12, 42, 27, 4, 96, 28, 182, 1, 132, 177, 3, 62, 29, 42]
abbrev dktX1_goOrder_2 : List UInt8 := dkwX1_goOrder_2 ++ dktX1_goOrder_3
def dkwX1_goOrder_1 : List UInt8 := [177, 42, 29, 181, 1, 129, 42, 180, 0, 64, 3, 42, 180, 0, 67, 3, 42, 180, 0, 98, 184, 0, 144, 177]
abbrev dktX1_goOrder_1 : List UInt8 := dkwX1_goOrder_1 ++ dktX1_goOrder_2
def dkwX1_goOrder_0 : List UInt8 := [27, 42, 180, 0, 98, 160, 0, 43, 42, 180, 0, 75, 182, 1, 126, 62, 29, 42, 180, 1, 129, 163, 0, 4]
abbrev dktX1_goOrder_0 : List UInt8 := dkwX1_goOrder_0 ++ dktX1_goOrder_1
theorem dksX1_goOrder_0 : cX1_goOrder.data.toList.drop 0 = dktX1_goOrder_0 := by decide +kernel
theorem dksX1_goOrder_1 : cX1_goOrder.data.toList.drop 24 = dktX1_goOrder_1 := dk_seg dksX1_goOrder_0 24 rfl rfl
theorem dksX1_goOrder_2 : cX1_goOrder.data.toList.drop 48 = dktX1_goOrder_2 := dk_seg dksX1_goOrder_1 24 rfl rfl
theorem dksX1_goOrder_3 : cX1_goOrder.data.toList.drop 72 = dktX1_goOrder_3 := dk_seg dksX1_goOrder_2 24 rfl rfl
theorem dksX1_goOrder_4 : cX1_goOrder.data.toList.drop 94 = dktX1_goOrder_4 := dk_seg dksX1_goOrder_3 22 rfl rfl
theorem dksX1_goOrder_5 : cX1_goOrder.data.toList.drop 118 = dktX1_goOrder_5 := dk_seg dksX1_goOrder_4 24 rfl rfl
theorem dX1_goOrder_0 : decode cX1_goOrder 0 = .ok (.iload_n 1, 1) := dk_27 (dk_at dksX1_goOrder_0 0 rfl rfl)
theorem dX1_goOrder_1 : decode cX1_goOrder 1 = .ok (.aload_n 0, 1) := dk_42 (dk_at dksX1_goOrder_0 1 rfl rfl)
theorem dX1_goOrder_2 : decode cX1_goOrder 2 = .ok (.getfield 98, 3) := dk_180 0 98 (dk_at dksX1_goOrder_0 2 rfl rfl)
theorem dX1_goOrder_5 : decode cX1_goOrder 5 = .ok (.if_icmp .ne 43, 3) := dk_160 0 43 (dk_at dksX1_goOrder_0 5 rfl rfl)
theorem dX1_goOrder_8 : decode cX1_goOrder 8 = .ok (.aload_n 0, 1) := dk_42 (dk_at dksX1_goOrder_0 8 rfl rfl)
theorem dX1_goOrder_9 : decode cX1_goOrder 9 = .ok (.getfield 75, 3) := dk_180 0 75 (dk_at dksX1_goOrder_0 9 rfl rfl)
theorem dX1_goOrder_12 : decode cX1_goOrder 12 = .ok (.invokevirtual 382, 3) := dk_182 1 126 (dk_at dksX1_goOrder_0 12 rfl rfl)
theorem dX1_goOrder_15 : decode cX1_goOrder 15 = .ok (.istore_n 3, 1) := dk_62 (dk_at dksX1_goOrder_0 15 rfl rfl)
theorem dX1_goOrder_16 : decode cX1_goOrder 16 = .ok (.iload_n 3, 1) := dk_29 (dk_at dksX1_goOrder_0 16 rfl rfl)
theorem dX1_goOrder_17 : decode cX1_goOrder 17 = .ok (.aload_n 0, 1) := dk_42 (dk_at dksX1_goOrder_0 17 rfl rfl)
theorem dX1_goOrder_18 : decode cX1_goOrder 18 = .ok (.getfield 385, 3) := dk_180 1 129 (dk_at dksX1_goOrder_0 18 rfl rfl)
theorem dX1_goOrder_21 : decode cX1_goOrder 21 = .ok (.if_icmp .gt 4, 3) := dk_163 0 4 (dk_at dksX1_goOrder_0 21 rfl rfl)
theorem dX1_goOrder_24 : decode cX1_goOrder 24 = .ok (.return_, 1) := dk_177 (dk_at dksX1_goOrder_1 0 rfl rfl)
theorem dX1_goOrder_25 : decode cX1_goOrder 25 = .ok (.aload_n 0, 1) := dk_42 (dk_at dksX1_goOrder_1 1 rfl rfl)
theorem dX1_goOrder_26 : decode cX1_goOrder 26 = .ok (.iload_n 3, 1) := dk_29 (dk_at dksX1_goOrder_1 2 rfl rfl)
theorem dX1_goOrder_27 : decode cX1_goOrder 27 = .ok (.putfield 385, 3) := dk_181 1 129 (dk_at dksX1_goOrder_1 3 rfl rfl)
theorem dX1_goOrder_30 : decode cX1_goOrder 30 = .ok (.aload_n 0, 1) := dk_42 (dk_at dksX1_goOrder_1 6 rfl rfl)
theorem dX1_goOrder_31 : decode cX1_goOrder 31 = .ok (.getfield 64, 3) := dk_180 0 64 (dk_at dksX1_goOrder_1 7 rfl rfl)
theorem dX1_goOrder_34 : decode cX1_goOrder 34 = .ok (.iconst 0, 1) := dk_3 (dk_at dksX1_goOrder_1 10 rfl rfl)
theorem dX1_goOrder_35 : decode cX1_goOrder 35 = .ok (.aload_n 0, 1) := dk_42 (dk_at dksX1_goOrder_1 11 rfl rfl)
theorem dX1_goOrder_36 : decode cX1_goOrder 36 = .ok (.getfield 67, 3) := dk_180 0 67 (dk_at dksX1_goOrder_1 12 rfl rfl)
theorem dX1_goOrder_39 : decode cX1_goOrder 39 = .ok (.iconst 0, 1) := dk_3 (dk_at dksX1_goOrder_1 15 rfl rfl)
theorem dX1_goOrder_40 : decode cX1_goOrder 40 = .ok (.aload_n 0, 1) := dk_42 (dk_at dksX1_goOrder_1 16 rfl rfl)
theorem dX1_goOrder_41 : decode cX1_goOrder 41 = .ok (.getfield 98, 3) := dk_180 0 98 (dk_at dksX1_goOrder_1 17 rfl rfl)
theorem dX1_goOrder_44 : decode cX1_goOrder 44 = .ok (.invokestatic 144, 3) := dk_184 0 144 (dk_at dksX1_goOrder_1 20 rfl rfl)
theorem dX1_goOrder_47 : decode cX1_goOrder 47 = .ok (.return_, 1) := dk_177 (dk_at dksX1_goOrder_1 23 rfl rfl)
theorem dX1_goOrder_48 : decode cX1_goOrder 48 = .ok (.aload_n 0, 1) := dk_42 (dk_at dksX1_goOrder_2 0 rfl rfl)
theorem dX1_goOrder_49 : decode cX1_goOrder 49 = .ok (.getfield 33, 3) := dk_180 0 33 (dk_at dksX1_goOrder_2 1 rfl rfl)
theorem dX1_goOrder_52 : decode cX1_goOrder 52 = .ok (.iload_n 1, 1) := dk_27 (dk_at dksX1_goOrder_2 4 rfl rfl)
theorem dX1_goOrder_53 : decode cX1_goOrder 53 = .ok (.invokevirtual 236, 3) := dk_182 0 236 (dk_at dksX1_goOrder_2 5 rfl rfl)
theorem dX1_goOrder_56 : decode cX1_goOrder 56 = .ok (.ifCond .ne 12, 3) := dk_154 0 12 (dk_at dksX1_goOrder_2 8 rfl rfl)
theorem dX1_goOrder_59 : decode cX1_goOrder 59 = .ok (.aload_n 0, 1) := dk_42 (dk_at dksX1_goOrder_2 11 rfl rfl)
theorem dX1_goOrder_60 : decode cX1_goOrder 60 = .ok (.iload_n 1, 1) := dk_27 (dk_at dksX1_goOrder_2 12 rfl rfl)
theorem dX1_goOrder_61 : decode cX1_goOrder 61 = .ok (.iconst 1, 1) := dk_4 (dk_at dksX1_goOrder_2 13 rfl rfl)
theorem dX1_goOrder_62 : decode cX1_goOrder 62 = .ok (.iadd, 1) := dk_96 (dk_at dksX1_goOrder_2 14 rfl rfl)
theorem dX1_goOrder_63 : decode cX1_goOrder 63 = .ok (.iload_n 2, 1) := dk_28 (dk_at dksX1_goOrder_2 15 rfl rfl)
theorem dX1_goOrder_64 : decode cX1_goOrder 64 = .ok (.invokevirtual 388, 3) := dk_182 1 132 (dk_at dksX1_goOrder_2 16 rfl rfl)
theorem dX1_goOrder_67 : decode cX1_goOrder 67 = .ok (.return_, 1) := dk_177 (dk_at dksX1_goOrder_2 19 rfl rfl)
theorem dX1_goOrder_68 : decode cX1_goOrder 68 = .ok (.iconst 0, 1) := dk_3 (dk_at dksX1_goOrder_2 20 rfl rfl)
theorem dX1_goOrder_69 : decode cX1_goOrder 69 = .ok (.istore_n 3, 1) := dk_62 (dk_at dksX1_goOrder_2 21 rfl rfl)
theorem dX1_goOrder_70 : decode cX1_goOrder 70 = .ok (.iload_n 3, 1) := dk_29 (dk_at dksX1_goOrder_2 22 rfl rfl)
theorem dX1_goOrder_71 : decode cX1_goOrder 71 = .ok (.aload_n 0, 1) := dk_42 (dk_at dksX1_goOrder_2 23 rfl rfl)
theorem dX1_goOrder_72 : decode cX1_goOrder 72 = .ok (.getfield 20, 3) := dk_180 0 20 (dk_at dksX1_goOrder_3 0 rfl rfl)
theorem dX1_goOrder_75 : decode cX1_goOrder 75 = .ok (.iconst 1, 1) := dk_4 (dk_at dksX1_goOrder_3 3 rfl rfl)
theorem dX1_goOrder_76 : decode cX1_goOrder 76 = .ok (.isub, 1) := dk_100 (dk_at dksX1_goOrder_3 4 rfl rfl)
theorem dX1_goOrder_77 : decode cX1_goOrder 77 = .ok (.if_icmp .ge 51, 3) := dk_162 0 51 (dk_at dksX1_goOrder_3 5 rfl rfl)
theorem dX1_goOrder_80 : decode cX1_goOrder 80 = .ok (.aload_n 0, 1) := dk_42 (dk_at dksX1_goOrder_3 8 rfl rfl)
theorem dX1_goOrder_81 : decode cX1_goOrder 81 = .ok (.getfield 33, 3) := dk_180 0 33 (dk_at dksX1_goOrder_3 9 rfl rfl)
theorem dX1_goOrder_84 : decode cX1_goOrder 84 = .ok (.iload_n 3, 1) := dk_29 (dk_at dksX1_goOrder_3 12 rfl rfl)
theorem dX1_goOrder_85 : decode cX1_goOrder 85 = .ok (.invokevirtual 183, 3) := dk_182 0 183 (dk_at dksX1_goOrder_3 13 rfl rfl)
theorem dX1_goOrder_88 : decode cX1_goOrder 88 = .ok (.iconst (-1), 1) := dk_2 (dk_at dksX1_goOrder_3 16 rfl rfl)
theorem dX1_goOrder_89 : decode cX1_goOrder 89 = .ok (.if_icmp .eq 33, 3) := dk_159 0 33 (dk_at dksX1_goOrder_3 17 rfl rfl)
theorem dX1_goOrder_92 : decode cX1_goOrder 92 = .ok (.iload_n 2, 1) := dk_28 (dk_at dksX1_goOrder_3 20 rfl rfl)
theorem dX1_goOrder_93 : decode cX1_goOrder 93 = .ok (.iload_n 3, 1) := dk_29 (dk_at dksX1_goOrder_3 21 rfl rfl)
theorem dX1_goOrder_94 : decode cX1_goOrder 94 = .ok (.invokestatic 391, 3) := dk_184 1 135 (dk_at dksX1_goOrder_4 0 rfl rfl)
theorem dX1_goOrder_97 : decode cX1_goOrder 97 = .ok (.ifCond .eq 6, 3) := dk_153 0 6 (dk_at dksX1_goOrder_4 3 rfl rfl)
theorem dX1_goOrder_100 : decode cX1_goOrder 100 = .ok (.goto 22, 3) := dk_167 0 22 (dk_at dksX1_goOrder_4 6 rfl rfl)
theorem dX1_goOrder_103 : decode cX1_goOrder 103 = .ok (.aload_n 0, 1) := dk_42 (dk_at dksX1_goOrder_4 9 rfl rfl)
theorem dX1_goOrder_104 : decode cX1_goOrder 104 = .ok (.getfield 64, 3) := dk_180 0 64 (dk_at dksX1_goOrder_4 10 rfl rfl)
theorem dX1_goOrder_107 : decode cX1_goOrder 107 = .ok (.iload_n 1, 1) := dk_27 (dk_at dksX1_goOrder_4 13 rfl rfl)
theorem dX1_goOrder_108 : decode cX1_goOrder 108 = .ok (.iload_n 3, 1) := dk_29 (dk_at dksX1_goOrder_4 14 rfl rfl)
theorem dX1_goOrder_109 : decode cX1_goOrder 109 = .ok (.iastore, 1) := dk_79 (dk_at dksX1_goOrder_4 15 rfl rfl)
theorem dX1_goOrder_110 : decode cX1_goOrder 110 = .ok (.aload_n 0, 1) := dk_42 (dk_at dksX1_goOrder_4 16 rfl rfl)
theorem dX1_goOrder_111 : decode cX1_goOrder 111 = .ok (.iload_n 1, 1) := dk_27 (dk_at dksX1_goOrder_4 17 rfl rfl)
theorem dX1_goOrder_112 : decode cX1_goOrder 112 = .ok (.iconst 1, 1) := dk_4 (dk_at dksX1_goOrder_4 18 rfl rfl)
theorem dX1_goOrder_113 : decode cX1_goOrder 113 = .ok (.iadd, 1) := dk_96 (dk_at dksX1_goOrder_4 19 rfl rfl)
theorem dX1_goOrder_114 : decode cX1_goOrder 114 = .ok (.iload_n 2, 1) := dk_28 (dk_at dksX1_goOrder_4 20 rfl rfl)
theorem dX1_goOrder_115 : decode cX1_goOrder 115 = .ok (.iconst 1, 1) := dk_4 (dk_at dksX1_goOrder_4 21 rfl rfl)
theorem dX1_goOrder_116 : decode cX1_goOrder 116 = .ok (.iload_n 3, 1) := dk_29 (dk_at dksX1_goOrder_4 22 rfl rfl)
theorem dX1_goOrder_117 : decode cX1_goOrder 117 = .ok (.ishl, 1) := dk_120 (dk_at dksX1_goOrder_4 23 rfl rfl)
theorem dX1_goOrder_118 : decode cX1_goOrder 118 = .ok (.ior, 1) := dk_128 (dk_at dksX1_goOrder_5 0 rfl rfl)
theorem dX1_goOrder_119 : decode cX1_goOrder 119 = .ok (.invokevirtual 388, 3) := dk_182 1 132 (dk_at dksX1_goOrder_5 1 rfl rfl)
theorem dX1_goOrder_122 : decode cX1_goOrder 122 = .ok (.iinc 3 1, 3) := dk_132 3 1 (dk_at dksX1_goOrder_5 4 rfl rfl)
theorem dX1_goOrder_125 : decode cX1_goOrder 125 = .ok (.goto (-55), 3) := dk_167 255 201 (dk_at dksX1_goOrder_5 7 rfl rfl)
theorem dX1_goOrder_128 : decode cX1_goOrder 128 = .ok (.return_, 1) := dk_177 (dk_at dksX1_goOrder_5 10 rfl rfl)
abbrev cX1_ownOf : ByteArray := prog_1_method_19_code
def yX1_ownOf : MethodName := ⟨RX1, "ownOf", "(I)I"⟩
def dkwX1_ownOf_1 : List UInt8 := [29, 120, 167, 0, 4, 3, 128, 61, 132, 3, 1, 167, 255, 225, 28, 172]
abbrev dktX1_ownOf_1 : List UInt8 := dkwX1_ownOf_1 ++ []
def dkwX1_ownOf_0 : List UInt8 := [3, 61, 3, 62, 29, 42, 180, 0, 105, 162, 0, 29, 28, 42, 180, 0, 13, 29, 46, 27, 160, 0, 9, 4]
abbrev dktX1_ownOf_0 : List UInt8 := dkwX1_ownOf_0 ++ dktX1_ownOf_1
theorem dksX1_ownOf_0 : cX1_ownOf.data.toList.drop 0 = dktX1_ownOf_0 := by decide +kernel
theorem dksX1_ownOf_1 : cX1_ownOf.data.toList.drop 24 = dktX1_ownOf_1 := dk_seg dksX1_ownOf_0 24 rfl rfl
theorem dX1_ownOf_0 : decode cX1_ownOf 0 = .ok (.iconst 0, 1) := dk_3 (dk_at dksX1_ownOf_0 0 rfl rfl)
theorem dX1_ownOf_1 : decode cX1_ownOf 1 = .ok (.istore_n 2, 1) := dk_61 (dk_at dksX1_ownOf_0 1 rfl rfl)
theorem dX1_ownOf_2 : decode cX1_ownOf 2 = .ok (.iconst 0, 1) := dk_3 (dk_at dksX1_ownOf_0 2 rfl rfl)
theorem dX1_ownOf_3 : decode cX1_ownOf 3 = .ok (.istore_n 3, 1) := dk_62 (dk_at dksX1_ownOf_0 3 rfl rfl)
theorem dX1_ownOf_4 : decode cX1_ownOf 4 = .ok (.iload_n 3, 1) := dk_29 (dk_at dksX1_ownOf_0 4 rfl rfl)
theorem dX1_ownOf_5 : decode cX1_ownOf 5 = .ok (.aload_n 0, 1) := dk_42 (dk_at dksX1_ownOf_0 5 rfl rfl)
theorem dX1_ownOf_6 : decode cX1_ownOf 6 = .ok (.getfield 105, 3) := dk_180 0 105 (dk_at dksX1_ownOf_0 6 rfl rfl)
theorem dX1_ownOf_9 : decode cX1_ownOf 9 = .ok (.if_icmp .ge 29, 3) := dk_162 0 29 (dk_at dksX1_ownOf_0 9 rfl rfl)
theorem dX1_ownOf_12 : decode cX1_ownOf 12 = .ok (.iload_n 2, 1) := dk_28 (dk_at dksX1_ownOf_0 12 rfl rfl)
theorem dX1_ownOf_13 : decode cX1_ownOf 13 = .ok (.aload_n 0, 1) := dk_42 (dk_at dksX1_ownOf_0 13 rfl rfl)
theorem dX1_ownOf_14 : decode cX1_ownOf 14 = .ok (.getfield 13, 3) := dk_180 0 13 (dk_at dksX1_ownOf_0 14 rfl rfl)
theorem dX1_ownOf_17 : decode cX1_ownOf 17 = .ok (.iload_n 3, 1) := dk_29 (dk_at dksX1_ownOf_0 17 rfl rfl)
theorem dX1_ownOf_18 : decode cX1_ownOf 18 = .ok (.iaload, 1) := dk_46 (dk_at dksX1_ownOf_0 18 rfl rfl)
theorem dX1_ownOf_19 : decode cX1_ownOf 19 = .ok (.iload_n 1, 1) := dk_27 (dk_at dksX1_ownOf_0 19 rfl rfl)
theorem dX1_ownOf_20 : decode cX1_ownOf 20 = .ok (.if_icmp .ne 9, 3) := dk_160 0 9 (dk_at dksX1_ownOf_0 20 rfl rfl)
theorem dX1_ownOf_23 : decode cX1_ownOf 23 = .ok (.iconst 1, 1) := dk_4 (dk_at dksX1_ownOf_0 23 rfl rfl)
theorem dX1_ownOf_24 : decode cX1_ownOf 24 = .ok (.iload_n 3, 1) := dk_29 (dk_at dksX1_ownOf_1 0 rfl rfl)
theorem dX1_ownOf_25 : decode cX1_ownOf 25 = .ok (.ishl, 1) := dk_120 (dk_at dksX1_ownOf_1 1 rfl rfl)
theorem dX1_ownOf_26 : decode cX1_ownOf 26 = .ok (.goto 4, 3) := dk_167 0 4 (dk_at dksX1_ownOf_1 2 rfl rfl)
theorem dX1_ownOf_29 : decode cX1_ownOf 29 = .ok (.iconst 0, 1) := dk_3 (dk_at dksX1_ownOf_1 5 rfl rfl)
theorem dX1_ownOf_30 : decode cX1_ownOf 30 = .ok (.ior, 1) := dk_128 (dk_at dksX1_ownOf_1 6 rfl rfl)
theorem dX1_ownOf_31 : decode cX1_ownOf 31 = .ok (.istore_n 2, 1) := dk_61 (dk_at dksX1_ownOf_1 7 rfl rfl)
theorem dX1_ownOf_32 : decode cX1_ownOf 32 = .ok (.iinc 3 1, 3) := dk_132 3 1 (dk_at dksX1_ownOf_1 8 rfl rfl)
theorem dX1_ownOf_35 : decode cX1_ownOf 35 = .ok (.goto (-31), 3) := dk_167 255 225 (dk_at dksX1_ownOf_1 11 rfl rfl)
theorem dX1_ownOf_38 : decode cX1_ownOf 38 = .ok (.iload_n 2, 1) := dk_28 (dk_at dksX1_ownOf_1 14 rfl rfl)
theorem dX1_ownOf_39 : decode cX1_ownOf 39 = .ok (.ireturn, 1) := dk_172 (dk_at dksX1_ownOf_1 15 rfl rfl)
abbrev cX1_stands : ByteArray := prog_1_method_49_code
def yX1_stands : MethodName := ⟨RX1, "stands", "(I)I"⟩
def dkwX1_stands_4 : List UInt8 := [160, 0, 6, 16, 254, 172, 42, 3, 181, 0, 95, 42, 29, 133, 182, 1, 35, 28, 172]
abbrev dktX1_stands_4 : List UInt8 := dkwX1_stands_4 ++ []
def dkwX1_stands_3 : List UInt8 := [28, 2, 160, 0, 8, 21, 4, 167, 0, 4, 28, 61, 132, 3, 1, 132, 4, 1, 167, 255, 200, 28, 2]
abbrev dktX1_stands_3 : List UInt8 := dkwX1_stands_3 ++ dktX1_stands_4
def dkwX1_stands_2 : List UInt8 := [89, 42, 27, 21, 4, 183, 1, 140, 182, 1, 143, 182, 1, 115, 27, 184, 1, 135, 154, 0, 6, 167, 0, 18]
abbrev dktX1_stands_2 : List UInt8 := dkwX1_stands_2 ++ dktX1_stands_3
def dkwX1_stands_1 : List UInt8 := [16, 254, 172, 2, 61, 3, 62, 3, 54, 4, 21, 4, 42, 180, 0, 20, 4, 100, 162, 0, 51, 187, 1, 138]
abbrev dktX1_stands_1 : List UInt8 := dkwX1_stands_1 ++ dktX1_stands_2
def dkwX1_stands_0 : List UInt8 := [42, 27, 182, 0, 251, 154, 0, 5, 2, 172, 42, 180, 0, 33, 180, 0, 203, 27, 46, 2, 159, 0, 6]
abbrev dktX1_stands_0 : List UInt8 := dkwX1_stands_0 ++ dktX1_stands_1
theorem dksX1_stands_0 : cX1_stands.data.toList.drop 0 = dktX1_stands_0 := by decide +kernel
theorem dksX1_stands_1 : cX1_stands.data.toList.drop 23 = dktX1_stands_1 := dk_seg dksX1_stands_0 23 rfl rfl
theorem dksX1_stands_2 : cX1_stands.data.toList.drop 47 = dktX1_stands_2 := dk_seg dksX1_stands_1 24 rfl rfl
theorem dksX1_stands_3 : cX1_stands.data.toList.drop 71 = dktX1_stands_3 := dk_seg dksX1_stands_2 24 rfl rfl
theorem dksX1_stands_4 : cX1_stands.data.toList.drop 94 = dktX1_stands_4 := dk_seg dksX1_stands_3 23 rfl rfl
theorem dX1_stands_0 : decode cX1_stands 0 = .ok (.aload_n 0, 1) := dk_42 (dk_at dksX1_stands_0 0 rfl rfl)
theorem dX1_stands_1 : decode cX1_stands 1 = .ok (.iload_n 1, 1) := dk_27 (dk_at dksX1_stands_0 1 rfl rfl)
theorem dX1_stands_2 : decode cX1_stands 2 = .ok (.invokevirtual 251, 3) := dk_182 0 251 (dk_at dksX1_stands_0 2 rfl rfl)
theorem dX1_stands_5 : decode cX1_stands 5 = .ok (.ifCond .ne 5, 3) := dk_154 0 5 (dk_at dksX1_stands_0 5 rfl rfl)
theorem dX1_stands_8 : decode cX1_stands 8 = .ok (.iconst (-1), 1) := dk_2 (dk_at dksX1_stands_0 8 rfl rfl)
theorem dX1_stands_9 : decode cX1_stands 9 = .ok (.ireturn, 1) := dk_172 (dk_at dksX1_stands_0 9 rfl rfl)
theorem dX1_stands_10 : decode cX1_stands 10 = .ok (.aload_n 0, 1) := dk_42 (dk_at dksX1_stands_0 10 rfl rfl)
theorem dX1_stands_11 : decode cX1_stands 11 = .ok (.getfield 33, 3) := dk_180 0 33 (dk_at dksX1_stands_0 11 rfl rfl)
theorem dX1_stands_14 : decode cX1_stands 14 = .ok (.getfield 203, 3) := dk_180 0 203 (dk_at dksX1_stands_0 14 rfl rfl)
theorem dX1_stands_17 : decode cX1_stands 17 = .ok (.iload_n 1, 1) := dk_27 (dk_at dksX1_stands_0 17 rfl rfl)
theorem dX1_stands_18 : decode cX1_stands 18 = .ok (.iaload, 1) := dk_46 (dk_at dksX1_stands_0 18 rfl rfl)
theorem dX1_stands_19 : decode cX1_stands 19 = .ok (.iconst (-1), 1) := dk_2 (dk_at dksX1_stands_0 19 rfl rfl)
theorem dX1_stands_20 : decode cX1_stands 20 = .ok (.if_icmp .eq 6, 3) := dk_159 0 6 (dk_at dksX1_stands_0 20 rfl rfl)
theorem dX1_stands_23 : decode cX1_stands 23 = .ok (.bipush (-2), 2) := dk_16 254 (dk_at dksX1_stands_1 0 rfl rfl)
theorem dX1_stands_25 : decode cX1_stands 25 = .ok (.ireturn, 1) := dk_172 (dk_at dksX1_stands_1 2 rfl rfl)
theorem dX1_stands_26 : decode cX1_stands 26 = .ok (.iconst (-1), 1) := dk_2 (dk_at dksX1_stands_1 3 rfl rfl)
theorem dX1_stands_27 : decode cX1_stands 27 = .ok (.istore_n 2, 1) := dk_61 (dk_at dksX1_stands_1 4 rfl rfl)
theorem dX1_stands_28 : decode cX1_stands 28 = .ok (.iconst 0, 1) := dk_3 (dk_at dksX1_stands_1 5 rfl rfl)
theorem dX1_stands_29 : decode cX1_stands 29 = .ok (.istore_n 3, 1) := dk_62 (dk_at dksX1_stands_1 6 rfl rfl)
theorem dX1_stands_30 : decode cX1_stands 30 = .ok (.iconst 0, 1) := dk_3 (dk_at dksX1_stands_1 7 rfl rfl)
theorem dX1_stands_31 : decode cX1_stands 31 = .ok (.istore 4, 2) := dk_54 4 (dk_at dksX1_stands_1 8 rfl rfl)
theorem dX1_stands_33 : decode cX1_stands 33 = .ok (.iload 4, 2) := dk_21 4 (dk_at dksX1_stands_1 10 rfl rfl)
theorem dX1_stands_35 : decode cX1_stands 35 = .ok (.aload_n 0, 1) := dk_42 (dk_at dksX1_stands_1 12 rfl rfl)
theorem dX1_stands_36 : decode cX1_stands 36 = .ok (.getfield 20, 3) := dk_180 0 20 (dk_at dksX1_stands_1 13 rfl rfl)
theorem dX1_stands_39 : decode cX1_stands 39 = .ok (.iconst 1, 1) := dk_4 (dk_at dksX1_stands_1 16 rfl rfl)
theorem dX1_stands_40 : decode cX1_stands 40 = .ok (.isub, 1) := dk_100 (dk_at dksX1_stands_1 17 rfl rfl)
theorem dX1_stands_41 : decode cX1_stands 41 = .ok (.if_icmp .ge 51, 3) := dk_162 0 51 (dk_at dksX1_stands_1 18 rfl rfl)
theorem dX1_stands_44 : decode cX1_stands 44 = .ok (.new 394, 3) := dk_187 1 138 (dk_at dksX1_stands_1 21 rfl rfl)
theorem dX1_stands_47 : decode cX1_stands 47 = .ok (.dup, 1) := dk_89 (dk_at dksX1_stands_2 0 rfl rfl)
theorem dX1_stands_48 : decode cX1_stands 48 = .ok (.aload_n 0, 1) := dk_42 (dk_at dksX1_stands_2 1 rfl rfl)
theorem dX1_stands_49 : decode cX1_stands 49 = .ok (.iload_n 1, 1) := dk_27 (dk_at dksX1_stands_2 2 rfl rfl)
theorem dX1_stands_50 : decode cX1_stands 50 = .ok (.iload 4, 2) := dk_21 4 (dk_at dksX1_stands_2 3 rfl rfl)
theorem dX1_stands_52 : decode cX1_stands 52 = .ok (.invokespecial 396, 3) := dk_183 1 140 (dk_at dksX1_stands_2 5 rfl rfl)
theorem dX1_stands_55 : decode cX1_stands 55 = .ok (.invokevirtual 399, 3) := dk_182 1 143 (dk_at dksX1_stands_2 8 rfl rfl)
theorem dX1_stands_58 : decode cX1_stands 58 = .ok (.invokevirtual 371, 3) := dk_182 1 115 (dk_at dksX1_stands_2 11 rfl rfl)
theorem dX1_stands_61 : decode cX1_stands 61 = .ok (.iload_n 1, 1) := dk_27 (dk_at dksX1_stands_2 14 rfl rfl)
theorem dX1_stands_62 : decode cX1_stands 62 = .ok (.invokestatic 391, 3) := dk_184 1 135 (dk_at dksX1_stands_2 15 rfl rfl)
theorem dX1_stands_65 : decode cX1_stands 65 = .ok (.ifCond .ne 6, 3) := dk_154 0 6 (dk_at dksX1_stands_2 18 rfl rfl)
theorem dX1_stands_68 : decode cX1_stands 68 = .ok (.goto 18, 3) := dk_167 0 18 (dk_at dksX1_stands_2 21 rfl rfl)
theorem dX1_stands_71 : decode cX1_stands 71 = .ok (.iload_n 2, 1) := dk_28 (dk_at dksX1_stands_3 0 rfl rfl)
theorem dX1_stands_72 : decode cX1_stands 72 = .ok (.iconst (-1), 1) := dk_2 (dk_at dksX1_stands_3 1 rfl rfl)
theorem dX1_stands_73 : decode cX1_stands 73 = .ok (.if_icmp .ne 8, 3) := dk_160 0 8 (dk_at dksX1_stands_3 2 rfl rfl)
theorem dX1_stands_76 : decode cX1_stands 76 = .ok (.iload 4, 2) := dk_21 4 (dk_at dksX1_stands_3 5 rfl rfl)
theorem dX1_stands_78 : decode cX1_stands 78 = .ok (.goto 4, 3) := dk_167 0 4 (dk_at dksX1_stands_3 7 rfl rfl)
theorem dX1_stands_81 : decode cX1_stands 81 = .ok (.iload_n 2, 1) := dk_28 (dk_at dksX1_stands_3 10 rfl rfl)
theorem dX1_stands_82 : decode cX1_stands 82 = .ok (.istore_n 2, 1) := dk_61 (dk_at dksX1_stands_3 11 rfl rfl)
theorem dX1_stands_83 : decode cX1_stands 83 = .ok (.iinc 3 1, 3) := dk_132 3 1 (dk_at dksX1_stands_3 12 rfl rfl)
theorem dX1_stands_86 : decode cX1_stands 86 = .ok (.iinc 4 1, 3) := dk_132 4 1 (dk_at dksX1_stands_3 15 rfl rfl)
theorem dX1_stands_89 : decode cX1_stands 89 = .ok (.goto (-56), 3) := dk_167 255 200 (dk_at dksX1_stands_3 18 rfl rfl)
theorem dX1_stands_92 : decode cX1_stands 92 = .ok (.iload_n 2, 1) := dk_28 (dk_at dksX1_stands_3 21 rfl rfl)
theorem dX1_stands_93 : decode cX1_stands 93 = .ok (.iconst (-1), 1) := dk_2 (dk_at dksX1_stands_3 22 rfl rfl)
theorem dX1_stands_94 : decode cX1_stands 94 = .ok (.if_icmp .ne 6, 3) := dk_160 0 6 (dk_at dksX1_stands_4 0 rfl rfl)
theorem dX1_stands_97 : decode cX1_stands 97 = .ok (.bipush (-2), 2) := dk_16 254 (dk_at dksX1_stands_4 3 rfl rfl)
theorem dX1_stands_99 : decode cX1_stands 99 = .ok (.ireturn, 1) := dk_172 (dk_at dksX1_stands_4 5 rfl rfl)
theorem dX1_stands_100 : decode cX1_stands 100 = .ok (.aload_n 0, 1) := dk_42 (dk_at dksX1_stands_4 6 rfl rfl)
theorem dX1_stands_101 : decode cX1_stands 101 = .ok (.iconst 0, 1) := dk_3 (dk_at dksX1_stands_4 7 rfl rfl)
theorem dX1_stands_102 : decode cX1_stands 102 = .ok (.putfield 95, 3) := dk_181 0 95 (dk_at dksX1_stands_4 8 rfl rfl)
theorem dX1_stands_105 : decode cX1_stands 105 = .ok (.aload_n 0, 1) := dk_42 (dk_at dksX1_stands_4 11 rfl rfl)
theorem dX1_stands_106 : decode cX1_stands 106 = .ok (.iload_n 3, 1) := dk_29 (dk_at dksX1_stands_4 12 rfl rfl)
theorem dX1_stands_107 : decode cX1_stands 107 = .ok (.i2l, 1) := dk_133 (dk_at dksX1_stands_4 13 rfl rfl)
theorem dX1_stands_108 : decode cX1_stands 108 = .ok (.invokevirtual 291, 3) := dk_182 1 35 (dk_at dksX1_stands_4 14 rfl rfl)
theorem dX1_stands_111 : decode cX1_stands 111 = .ok (.iload_n 2, 1) := dk_28 (dk_at dksX1_stands_4 17 rfl rfl)
theorem dX1_stands_112 : decode cX1_stands 112 = .ok (.ireturn, 1) := dk_172 (dk_at dksX1_stands_4 18 rfl rfl)
abbrev cX1_when : ByteArray := prog_1_method_50_code
def yX1_when : MethodName := ⟨RX1, "when", "(I)I"⟩
def dkwX1_when_7 : List UInt8 := [16, 254, 172, 42, 3, 181, 0, 95, 42, 29, 133, 182, 1, 35, 28, 172]
abbrev dktX1_when_7 : List UInt8 := dkwX1_when_7 ++ []
def dkwX1_when_6 : List UInt8 := [160, 0, 8, 21, 4, 167, 0, 4, 28, 61, 21, 4, 62, 132, 4, 1, 167, 255, 132, 28, 2, 160, 0, 6]
abbrev dktX1_when_6 : List UInt8 := dkwX1_when_6 ++ dktX1_when_7
def dkwX1_when_5 : List UInt8 := [180, 0, 40, 180, 0, 203, 27, 46, 42, 180, 0, 13, 27, 46, 159, 0, 6, 167, 0, 18, 28, 2]
abbrev dktX1_when_5 : List UInt8 := dkwX1_when_5 ++ dktX1_when_6
def dkwX1_when_4 : List UInt8 := [180, 0, 40, 180, 0, 200, 27, 42, 180, 0, 13, 27, 46, 79, 42, 42, 180, 0, 40, 182, 1, 144, 42]
abbrev dktX1_when_4 : List UInt8 := dkwX1_when_4 ++ dktX1_when_5
def dkwX1_when_3 : List UInt8 := [27, 46, 182, 0, 236, 154, 0, 6, 167, 0, 73, 42, 180, 0, 40, 42, 180, 0, 43, 182, 1, 16, 42]
abbrev dktX1_when_3 : List UInt8 := dkwX1_when_3 ++ dktX1_when_4
def dkwX1_when_2 : List UInt8 := [182, 1, 99, 42, 180, 0, 43, 180, 0, 203, 27, 46, 2, 160, 0, 92, 42, 180, 0, 43, 42, 180, 0, 13]
abbrev dktX1_when_2 : List UInt8 := dkwX1_when_2 ++ dktX1_when_3
def dkwX1_when_1 : List UInt8 := [182, 1, 16, 3, 54, 4, 21, 4, 16, 60, 163, 0, 123, 21, 4, 158, 0, 10, 42, 180, 0, 43]
abbrev dktX1_when_1 : List UInt8 := dkwX1_when_1 ++ dktX1_when_2
def dkwX1_when_0 : List UInt8 := [42, 27, 182, 0, 251, 154, 0, 5, 2, 172, 2, 61, 2, 62, 42, 180, 0, 43, 42, 180, 0, 33]
abbrev dktX1_when_0 : List UInt8 := dkwX1_when_0 ++ dktX1_when_1
theorem dksX1_when_0 : cX1_when.data.toList.drop 0 = dktX1_when_0 := by decide +kernel
theorem dksX1_when_1 : cX1_when.data.toList.drop 22 = dktX1_when_1 := dk_seg dksX1_when_0 22 rfl rfl
theorem dksX1_when_2 : cX1_when.data.toList.drop 44 = dktX1_when_2 := dk_seg dksX1_when_1 22 rfl rfl
theorem dksX1_when_3 : cX1_when.data.toList.drop 68 = dktX1_when_3 := dk_seg dksX1_when_2 24 rfl rfl
theorem dksX1_when_4 : cX1_when.data.toList.drop 91 = dktX1_when_4 := dk_seg dksX1_when_3 23 rfl rfl
theorem dksX1_when_5 : cX1_when.data.toList.drop 114 = dktX1_when_5 := dk_seg dksX1_when_4 23 rfl rfl
theorem dksX1_when_6 : cX1_when.data.toList.drop 136 = dktX1_when_6 := dk_seg dksX1_when_5 22 rfl rfl
theorem dksX1_when_7 : cX1_when.data.toList.drop 160 = dktX1_when_7 := dk_seg dksX1_when_6 24 rfl rfl
theorem dX1_when_0 : decode cX1_when 0 = .ok (.aload_n 0, 1) := dk_42 (dk_at dksX1_when_0 0 rfl rfl)
theorem dX1_when_1 : decode cX1_when 1 = .ok (.iload_n 1, 1) := dk_27 (dk_at dksX1_when_0 1 rfl rfl)
theorem dX1_when_2 : decode cX1_when 2 = .ok (.invokevirtual 251, 3) := dk_182 0 251 (dk_at dksX1_when_0 2 rfl rfl)
theorem dX1_when_5 : decode cX1_when 5 = .ok (.ifCond .ne 5, 3) := dk_154 0 5 (dk_at dksX1_when_0 5 rfl rfl)
theorem dX1_when_8 : decode cX1_when 8 = .ok (.iconst (-1), 1) := dk_2 (dk_at dksX1_when_0 8 rfl rfl)
theorem dX1_when_9 : decode cX1_when 9 = .ok (.ireturn, 1) := dk_172 (dk_at dksX1_when_0 9 rfl rfl)
theorem dX1_when_10 : decode cX1_when 10 = .ok (.iconst (-1), 1) := dk_2 (dk_at dksX1_when_0 10 rfl rfl)
theorem dX1_when_11 : decode cX1_when 11 = .ok (.istore_n 2, 1) := dk_61 (dk_at dksX1_when_0 11 rfl rfl)
theorem dX1_when_12 : decode cX1_when 12 = .ok (.iconst (-1), 1) := dk_2 (dk_at dksX1_when_0 12 rfl rfl)
theorem dX1_when_13 : decode cX1_when 13 = .ok (.istore_n 3, 1) := dk_62 (dk_at dksX1_when_0 13 rfl rfl)
theorem dX1_when_14 : decode cX1_when 14 = .ok (.aload_n 0, 1) := dk_42 (dk_at dksX1_when_0 14 rfl rfl)
theorem dX1_when_15 : decode cX1_when 15 = .ok (.getfield 43, 3) := dk_180 0 43 (dk_at dksX1_when_0 15 rfl rfl)
theorem dX1_when_18 : decode cX1_when 18 = .ok (.aload_n 0, 1) := dk_42 (dk_at dksX1_when_0 18 rfl rfl)
theorem dX1_when_19 : decode cX1_when 19 = .ok (.getfield 33, 3) := dk_180 0 33 (dk_at dksX1_when_0 19 rfl rfl)
theorem dX1_when_22 : decode cX1_when 22 = .ok (.invokevirtual 272, 3) := dk_182 1 16 (dk_at dksX1_when_1 0 rfl rfl)
theorem dX1_when_25 : decode cX1_when 25 = .ok (.iconst 0, 1) := dk_3 (dk_at dksX1_when_1 3 rfl rfl)
theorem dX1_when_26 : decode cX1_when 26 = .ok (.istore 4, 2) := dk_54 4 (dk_at dksX1_when_1 4 rfl rfl)
theorem dX1_when_28 : decode cX1_when 28 = .ok (.iload 4, 2) := dk_21 4 (dk_at dksX1_when_1 6 rfl rfl)
theorem dX1_when_30 : decode cX1_when 30 = .ok (.bipush 60, 2) := dk_16 60 (dk_at dksX1_when_1 8 rfl rfl)
theorem dX1_when_32 : decode cX1_when 32 = .ok (.if_icmp .gt 123, 3) := dk_163 0 123 (dk_at dksX1_when_1 10 rfl rfl)
theorem dX1_when_35 : decode cX1_when 35 = .ok (.iload 4, 2) := dk_21 4 (dk_at dksX1_when_1 13 rfl rfl)
theorem dX1_when_37 : decode cX1_when 37 = .ok (.ifCond .le 10, 3) := dk_158 0 10 (dk_at dksX1_when_1 15 rfl rfl)
theorem dX1_when_40 : decode cX1_when 40 = .ok (.aload_n 0, 1) := dk_42 (dk_at dksX1_when_1 18 rfl rfl)
theorem dX1_when_41 : decode cX1_when 41 = .ok (.getfield 43, 3) := dk_180 0 43 (dk_at dksX1_when_1 19 rfl rfl)
theorem dX1_when_44 : decode cX1_when 44 = .ok (.invokevirtual 355, 3) := dk_182 1 99 (dk_at dksX1_when_2 0 rfl rfl)
theorem dX1_when_47 : decode cX1_when 47 = .ok (.aload_n 0, 1) := dk_42 (dk_at dksX1_when_2 3 rfl rfl)
theorem dX1_when_48 : decode cX1_when 48 = .ok (.getfield 43, 3) := dk_180 0 43 (dk_at dksX1_when_2 4 rfl rfl)
theorem dX1_when_51 : decode cX1_when 51 = .ok (.getfield 203, 3) := dk_180 0 203 (dk_at dksX1_when_2 7 rfl rfl)
theorem dX1_when_54 : decode cX1_when 54 = .ok (.iload_n 1, 1) := dk_27 (dk_at dksX1_when_2 10 rfl rfl)
theorem dX1_when_55 : decode cX1_when 55 = .ok (.iaload, 1) := dk_46 (dk_at dksX1_when_2 11 rfl rfl)
theorem dX1_when_56 : decode cX1_when 56 = .ok (.iconst (-1), 1) := dk_2 (dk_at dksX1_when_2 12 rfl rfl)
theorem dX1_when_57 : decode cX1_when 57 = .ok (.if_icmp .ne 92, 3) := dk_160 0 92 (dk_at dksX1_when_2 13 rfl rfl)
theorem dX1_when_60 : decode cX1_when 60 = .ok (.aload_n 0, 1) := dk_42 (dk_at dksX1_when_2 16 rfl rfl)
theorem dX1_when_61 : decode cX1_when 61 = .ok (.getfield 43, 3) := dk_180 0 43 (dk_at dksX1_when_2 17 rfl rfl)
theorem dX1_when_64 : decode cX1_when 64 = .ok (.aload_n 0, 1) := dk_42 (dk_at dksX1_when_2 20 rfl rfl)
theorem dX1_when_65 : decode cX1_when 65 = .ok (.getfield 13, 3) := dk_180 0 13 (dk_at dksX1_when_2 21 rfl rfl)
theorem dX1_when_68 : decode cX1_when 68 = .ok (.iload_n 1, 1) := dk_27 (dk_at dksX1_when_3 0 rfl rfl)
theorem dX1_when_69 : decode cX1_when 69 = .ok (.iaload, 1) := dk_46 (dk_at dksX1_when_3 1 rfl rfl)
theorem dX1_when_70 : decode cX1_when 70 = .ok (.invokevirtual 236, 3) := dk_182 0 236 (dk_at dksX1_when_3 2 rfl rfl)
theorem dX1_when_73 : decode cX1_when 73 = .ok (.ifCond .ne 6, 3) := dk_154 0 6 (dk_at dksX1_when_3 5 rfl rfl)
theorem dX1_when_76 : decode cX1_when 76 = .ok (.goto 73, 3) := dk_167 0 73 (dk_at dksX1_when_3 8 rfl rfl)
theorem dX1_when_79 : decode cX1_when 79 = .ok (.aload_n 0, 1) := dk_42 (dk_at dksX1_when_3 11 rfl rfl)
theorem dX1_when_80 : decode cX1_when 80 = .ok (.getfield 40, 3) := dk_180 0 40 (dk_at dksX1_when_3 12 rfl rfl)
theorem dX1_when_83 : decode cX1_when 83 = .ok (.aload_n 0, 1) := dk_42 (dk_at dksX1_when_3 15 rfl rfl)
theorem dX1_when_84 : decode cX1_when 84 = .ok (.getfield 43, 3) := dk_180 0 43 (dk_at dksX1_when_3 16 rfl rfl)
theorem dX1_when_87 : decode cX1_when 87 = .ok (.invokevirtual 272, 3) := dk_182 1 16 (dk_at dksX1_when_3 19 rfl rfl)
theorem dX1_when_90 : decode cX1_when 90 = .ok (.aload_n 0, 1) := dk_42 (dk_at dksX1_when_3 22 rfl rfl)
theorem dX1_when_91 : decode cX1_when 91 = .ok (.getfield 40, 3) := dk_180 0 40 (dk_at dksX1_when_4 0 rfl rfl)
theorem dX1_when_94 : decode cX1_when 94 = .ok (.getfield 200, 3) := dk_180 0 200 (dk_at dksX1_when_4 3 rfl rfl)
theorem dX1_when_97 : decode cX1_when 97 = .ok (.iload_n 1, 1) := dk_27 (dk_at dksX1_when_4 6 rfl rfl)
theorem dX1_when_98 : decode cX1_when 98 = .ok (.aload_n 0, 1) := dk_42 (dk_at dksX1_when_4 7 rfl rfl)
theorem dX1_when_99 : decode cX1_when 99 = .ok (.getfield 13, 3) := dk_180 0 13 (dk_at dksX1_when_4 8 rfl rfl)
theorem dX1_when_102 : decode cX1_when 102 = .ok (.iload_n 1, 1) := dk_27 (dk_at dksX1_when_4 11 rfl rfl)
theorem dX1_when_103 : decode cX1_when 103 = .ok (.iaload, 1) := dk_46 (dk_at dksX1_when_4 12 rfl rfl)
theorem dX1_when_104 : decode cX1_when 104 = .ok (.iastore, 1) := dk_79 (dk_at dksX1_when_4 13 rfl rfl)
theorem dX1_when_105 : decode cX1_when 105 = .ok (.aload_n 0, 1) := dk_42 (dk_at dksX1_when_4 14 rfl rfl)
theorem dX1_when_106 : decode cX1_when 106 = .ok (.aload_n 0, 1) := dk_42 (dk_at dksX1_when_4 15 rfl rfl)
theorem dX1_when_107 : decode cX1_when 107 = .ok (.getfield 40, 3) := dk_180 0 40 (dk_at dksX1_when_4 16 rfl rfl)
theorem dX1_when_110 : decode cX1_when 110 = .ok (.invokevirtual 400, 3) := dk_182 1 144 (dk_at dksX1_when_4 19 rfl rfl)
theorem dX1_when_113 : decode cX1_when 113 = .ok (.aload_n 0, 1) := dk_42 (dk_at dksX1_when_4 22 rfl rfl)
theorem dX1_when_114 : decode cX1_when 114 = .ok (.getfield 40, 3) := dk_180 0 40 (dk_at dksX1_when_5 0 rfl rfl)
theorem dX1_when_117 : decode cX1_when 117 = .ok (.getfield 203, 3) := dk_180 0 203 (dk_at dksX1_when_5 3 rfl rfl)
theorem dX1_when_120 : decode cX1_when 120 = .ok (.iload_n 1, 1) := dk_27 (dk_at dksX1_when_5 6 rfl rfl)
theorem dX1_when_121 : decode cX1_when 121 = .ok (.iaload, 1) := dk_46 (dk_at dksX1_when_5 7 rfl rfl)
theorem dX1_when_122 : decode cX1_when 122 = .ok (.aload_n 0, 1) := dk_42 (dk_at dksX1_when_5 8 rfl rfl)
theorem dX1_when_123 : decode cX1_when 123 = .ok (.getfield 13, 3) := dk_180 0 13 (dk_at dksX1_when_5 9 rfl rfl)
theorem dX1_when_126 : decode cX1_when 126 = .ok (.iload_n 1, 1) := dk_27 (dk_at dksX1_when_5 12 rfl rfl)
theorem dX1_when_127 : decode cX1_when 127 = .ok (.iaload, 1) := dk_46 (dk_at dksX1_when_5 13 rfl rfl)
theorem dX1_when_128 : decode cX1_when 128 = .ok (.if_icmp .eq 6, 3) := dk_159 0 6 (dk_at dksX1_when_5 14 rfl rfl)
theorem dX1_when_131 : decode cX1_when 131 = .ok (.goto 18, 3) := dk_167 0 18 (dk_at dksX1_when_5 17 rfl rfl)
theorem dX1_when_134 : decode cX1_when 134 = .ok (.iload_n 2, 1) := dk_28 (dk_at dksX1_when_5 20 rfl rfl)
theorem dX1_when_135 : decode cX1_when 135 = .ok (.iconst (-1), 1) := dk_2 (dk_at dksX1_when_5 21 rfl rfl)
theorem dX1_when_136 : decode cX1_when 136 = .ok (.if_icmp .ne 8, 3) := dk_160 0 8 (dk_at dksX1_when_6 0 rfl rfl)
theorem dX1_when_139 : decode cX1_when 139 = .ok (.iload 4, 2) := dk_21 4 (dk_at dksX1_when_6 3 rfl rfl)
theorem dX1_when_141 : decode cX1_when 141 = .ok (.goto 4, 3) := dk_167 0 4 (dk_at dksX1_when_6 5 rfl rfl)
theorem dX1_when_144 : decode cX1_when 144 = .ok (.iload_n 2, 1) := dk_28 (dk_at dksX1_when_6 8 rfl rfl)
theorem dX1_when_145 : decode cX1_when 145 = .ok (.istore_n 2, 1) := dk_61 (dk_at dksX1_when_6 9 rfl rfl)
theorem dX1_when_146 : decode cX1_when 146 = .ok (.iload 4, 2) := dk_21 4 (dk_at dksX1_when_6 10 rfl rfl)
theorem dX1_when_148 : decode cX1_when 148 = .ok (.istore_n 3, 1) := dk_62 (dk_at dksX1_when_6 12 rfl rfl)
theorem dX1_when_149 : decode cX1_when 149 = .ok (.iinc 4 1, 3) := dk_132 4 1 (dk_at dksX1_when_6 13 rfl rfl)
theorem dX1_when_152 : decode cX1_when 152 = .ok (.goto (-124), 3) := dk_167 255 132 (dk_at dksX1_when_6 16 rfl rfl)
theorem dX1_when_155 : decode cX1_when 155 = .ok (.iload_n 2, 1) := dk_28 (dk_at dksX1_when_6 19 rfl rfl)
theorem dX1_when_156 : decode cX1_when 156 = .ok (.iconst (-1), 1) := dk_2 (dk_at dksX1_when_6 20 rfl rfl)
theorem dX1_when_157 : decode cX1_when 157 = .ok (.if_icmp .ne 6, 3) := dk_160 0 6 (dk_at dksX1_when_6 21 rfl rfl)
theorem dX1_when_160 : decode cX1_when 160 = .ok (.bipush (-2), 2) := dk_16 254 (dk_at dksX1_when_7 0 rfl rfl)
theorem dX1_when_162 : decode cX1_when 162 = .ok (.ireturn, 1) := dk_172 (dk_at dksX1_when_7 2 rfl rfl)
theorem dX1_when_163 : decode cX1_when 163 = .ok (.aload_n 0, 1) := dk_42 (dk_at dksX1_when_7 3 rfl rfl)
theorem dX1_when_164 : decode cX1_when 164 = .ok (.iconst 0, 1) := dk_3 (dk_at dksX1_when_7 4 rfl rfl)
theorem dX1_when_165 : decode cX1_when 165 = .ok (.putfield 95, 3) := dk_181 0 95 (dk_at dksX1_when_7 5 rfl rfl)
theorem dX1_when_168 : decode cX1_when 168 = .ok (.aload_n 0, 1) := dk_42 (dk_at dksX1_when_7 8 rfl rfl)
theorem dX1_when_169 : decode cX1_when 169 = .ok (.iload_n 3, 1) := dk_29 (dk_at dksX1_when_7 9 rfl rfl)
theorem dX1_when_170 : decode cX1_when 170 = .ok (.i2l, 1) := dk_133 (dk_at dksX1_when_7 10 rfl rfl)
theorem dX1_when_171 : decode cX1_when 171 = .ok (.invokevirtual 291, 3) := dk_182 1 35 (dk_at dksX1_when_7 11 rfl rfl)
theorem dX1_when_174 : decode cX1_when 174 = .ok (.iload_n 2, 1) := dk_28 (dk_at dksX1_when_7 14 rfl rfl)
theorem dX1_when_175 : decode cX1_when 175 = .ok (.ireturn, 1) := dk_172 (dk_at dksX1_when_7 15 rfl rfl)
abbrev cX1_mends : ByteArray := prog_1_method_51_code
def yX1_mends : MethodName := ⟨RX1, "mends", "(I)I"⟩
def dkwX1_mends_6 : List UInt8 := [184, 1, 121, 172]
abbrev dktX1_mends_6 : List UInt8 := dkwX1_mends_6 ++ []
def dkwX1_mends_5 : List UInt8 := [167, 255, 198, 29, 2, 160, 0, 6, 16, 254, 172, 42, 3, 181, 0, 95, 42, 29, 133, 182, 1, 35, 29]
abbrev dktX1_mends_5 : List UInt8 := dkwX1_mends_5 ++ dktX1_mends_6
def dkwX1_mends_4 : List UInt8 := [187, 1, 149, 89, 42, 21, 4, 183, 1, 151, 182, 1, 154, 27, 161, 0, 6, 21, 4, 62, 132, 4, 1]
abbrev dktX1_mends_4 : List UInt8 := dkwX1_mends_4 ++ dktX1_mends_5
def dkwX1_mends_3 : List UInt8 := [154, 0, 43, 29, 2, 159, 0, 18, 21, 4, 184, 1, 121, 29, 184, 1, 121, 161, 0, 6, 167, 0, 23]
abbrev dktX1_mends_3 : List UInt8 := dkwX1_mends_3 ++ dktX1_mends_4
def dkwX1_mends_2 : List UInt8 := [132, 3, 1, 167, 255, 224, 2, 62, 3, 54, 4, 21, 4, 28, 163, 0, 58, 21, 4, 28, 2, 130, 126]
abbrev dktX1_mends_2 : List UInt8 := dkwX1_mends_2 ++ dktX1_mends_3
def dkwX1_mends_1 : List UInt8 := [162, 0, 30, 28, 42, 180, 0, 33, 29, 182, 1, 42, 154, 0, 9, 4, 29, 120, 167, 0, 4, 3, 128, 61]
abbrev dktX1_mends_1 : List UInt8 := dkwX1_mends_1 ++ dktX1_mends_2
def dkwX1_mends_0 : List UInt8 := [27, 133, 9, 20, 1, 147, 184, 0, 101, 154, 0, 5, 2, 172, 3, 61, 3, 62, 29, 42, 180, 0, 105]
abbrev dktX1_mends_0 : List UInt8 := dkwX1_mends_0 ++ dktX1_mends_1
theorem dksX1_mends_0 : cX1_mends.data.toList.drop 0 = dktX1_mends_0 := by decide +kernel
theorem dksX1_mends_1 : cX1_mends.data.toList.drop 23 = dktX1_mends_1 := dk_seg dksX1_mends_0 23 rfl rfl
theorem dksX1_mends_2 : cX1_mends.data.toList.drop 47 = dktX1_mends_2 := dk_seg dksX1_mends_1 24 rfl rfl
theorem dksX1_mends_3 : cX1_mends.data.toList.drop 70 = dktX1_mends_3 := dk_seg dksX1_mends_2 23 rfl rfl
theorem dksX1_mends_4 : cX1_mends.data.toList.drop 93 = dktX1_mends_4 := dk_seg dksX1_mends_3 23 rfl rfl
theorem dksX1_mends_5 : cX1_mends.data.toList.drop 116 = dktX1_mends_5 := dk_seg dksX1_mends_4 23 rfl rfl
theorem dksX1_mends_6 : cX1_mends.data.toList.drop 139 = dktX1_mends_6 := dk_seg dksX1_mends_5 23 rfl rfl
theorem dX1_mends_0 : decode cX1_mends 0 = .ok (.iload_n 1, 1) := dk_27 (dk_at dksX1_mends_0 0 rfl rfl)
theorem dX1_mends_1 : decode cX1_mends 1 = .ok (.i2l, 1) := dk_133 (dk_at dksX1_mends_0 1 rfl rfl)
theorem dX1_mends_2 : decode cX1_mends 2 = .ok (.lconst 0, 1) := dk_9 (dk_at dksX1_mends_0 2 rfl rfl)
theorem dX1_mends_3 : decode cX1_mends 3 = .ok (.ldc2_w 403, 3) := dk_20 1 147 (dk_at dksX1_mends_0 3 rfl rfl)
theorem dX1_mends_6 : decode cX1_mends 6 = .ok (.invokestatic 101, 3) := dk_184 0 101 (dk_at dksX1_mends_0 6 rfl rfl)
theorem dX1_mends_9 : decode cX1_mends 9 = .ok (.ifCond .ne 5, 3) := dk_154 0 5 (dk_at dksX1_mends_0 9 rfl rfl)
theorem dX1_mends_12 : decode cX1_mends 12 = .ok (.iconst (-1), 1) := dk_2 (dk_at dksX1_mends_0 12 rfl rfl)
theorem dX1_mends_13 : decode cX1_mends 13 = .ok (.ireturn, 1) := dk_172 (dk_at dksX1_mends_0 13 rfl rfl)
theorem dX1_mends_14 : decode cX1_mends 14 = .ok (.iconst 0, 1) := dk_3 (dk_at dksX1_mends_0 14 rfl rfl)
theorem dX1_mends_15 : decode cX1_mends 15 = .ok (.istore_n 2, 1) := dk_61 (dk_at dksX1_mends_0 15 rfl rfl)
theorem dX1_mends_16 : decode cX1_mends 16 = .ok (.iconst 0, 1) := dk_3 (dk_at dksX1_mends_0 16 rfl rfl)
theorem dX1_mends_17 : decode cX1_mends 17 = .ok (.istore_n 3, 1) := dk_62 (dk_at dksX1_mends_0 17 rfl rfl)
theorem dX1_mends_18 : decode cX1_mends 18 = .ok (.iload_n 3, 1) := dk_29 (dk_at dksX1_mends_0 18 rfl rfl)
theorem dX1_mends_19 : decode cX1_mends 19 = .ok (.aload_n 0, 1) := dk_42 (dk_at dksX1_mends_0 19 rfl rfl)
theorem dX1_mends_20 : decode cX1_mends 20 = .ok (.getfield 105, 3) := dk_180 0 105 (dk_at dksX1_mends_0 20 rfl rfl)
theorem dX1_mends_23 : decode cX1_mends 23 = .ok (.if_icmp .ge 30, 3) := dk_162 0 30 (dk_at dksX1_mends_1 0 rfl rfl)
theorem dX1_mends_26 : decode cX1_mends 26 = .ok (.iload_n 2, 1) := dk_28 (dk_at dksX1_mends_1 3 rfl rfl)
theorem dX1_mends_27 : decode cX1_mends 27 = .ok (.aload_n 0, 1) := dk_42 (dk_at dksX1_mends_1 4 rfl rfl)
theorem dX1_mends_28 : decode cX1_mends 28 = .ok (.getfield 33, 3) := dk_180 0 33 (dk_at dksX1_mends_1 5 rfl rfl)
theorem dX1_mends_31 : decode cX1_mends 31 = .ok (.iload_n 3, 1) := dk_29 (dk_at dksX1_mends_1 8 rfl rfl)
theorem dX1_mends_32 : decode cX1_mends 32 = .ok (.invokevirtual 298, 3) := dk_182 1 42 (dk_at dksX1_mends_1 9 rfl rfl)
theorem dX1_mends_35 : decode cX1_mends 35 = .ok (.ifCond .ne 9, 3) := dk_154 0 9 (dk_at dksX1_mends_1 12 rfl rfl)
theorem dX1_mends_38 : decode cX1_mends 38 = .ok (.iconst 1, 1) := dk_4 (dk_at dksX1_mends_1 15 rfl rfl)
theorem dX1_mends_39 : decode cX1_mends 39 = .ok (.iload_n 3, 1) := dk_29 (dk_at dksX1_mends_1 16 rfl rfl)
theorem dX1_mends_40 : decode cX1_mends 40 = .ok (.ishl, 1) := dk_120 (dk_at dksX1_mends_1 17 rfl rfl)
theorem dX1_mends_41 : decode cX1_mends 41 = .ok (.goto 4, 3) := dk_167 0 4 (dk_at dksX1_mends_1 18 rfl rfl)
theorem dX1_mends_44 : decode cX1_mends 44 = .ok (.iconst 0, 1) := dk_3 (dk_at dksX1_mends_1 21 rfl rfl)
theorem dX1_mends_45 : decode cX1_mends 45 = .ok (.ior, 1) := dk_128 (dk_at dksX1_mends_1 22 rfl rfl)
theorem dX1_mends_46 : decode cX1_mends 46 = .ok (.istore_n 2, 1) := dk_61 (dk_at dksX1_mends_1 23 rfl rfl)
theorem dX1_mends_47 : decode cX1_mends 47 = .ok (.iinc 3 1, 3) := dk_132 3 1 (dk_at dksX1_mends_2 0 rfl rfl)
theorem dX1_mends_50 : decode cX1_mends 50 = .ok (.goto (-32), 3) := dk_167 255 224 (dk_at dksX1_mends_2 3 rfl rfl)
theorem dX1_mends_53 : decode cX1_mends 53 = .ok (.iconst (-1), 1) := dk_2 (dk_at dksX1_mends_2 6 rfl rfl)
theorem dX1_mends_54 : decode cX1_mends 54 = .ok (.istore_n 3, 1) := dk_62 (dk_at dksX1_mends_2 7 rfl rfl)
theorem dX1_mends_55 : decode cX1_mends 55 = .ok (.iconst 0, 1) := dk_3 (dk_at dksX1_mends_2 8 rfl rfl)
theorem dX1_mends_56 : decode cX1_mends 56 = .ok (.istore 4, 2) := dk_54 4 (dk_at dksX1_mends_2 9 rfl rfl)
theorem dX1_mends_58 : decode cX1_mends 58 = .ok (.iload 4, 2) := dk_21 4 (dk_at dksX1_mends_2 11 rfl rfl)
theorem dX1_mends_60 : decode cX1_mends 60 = .ok (.iload_n 2, 1) := dk_28 (dk_at dksX1_mends_2 13 rfl rfl)
theorem dX1_mends_61 : decode cX1_mends 61 = .ok (.if_icmp .gt 58, 3) := dk_163 0 58 (dk_at dksX1_mends_2 14 rfl rfl)
theorem dX1_mends_64 : decode cX1_mends 64 = .ok (.iload 4, 2) := dk_21 4 (dk_at dksX1_mends_2 17 rfl rfl)
theorem dX1_mends_66 : decode cX1_mends 66 = .ok (.iload_n 2, 1) := dk_28 (dk_at dksX1_mends_2 19 rfl rfl)
theorem dX1_mends_67 : decode cX1_mends 67 = .ok (.iconst (-1), 1) := dk_2 (dk_at dksX1_mends_2 20 rfl rfl)
theorem dX1_mends_68 : decode cX1_mends 68 = .ok (.ixor, 1) := dk_130 (dk_at dksX1_mends_2 21 rfl rfl)
theorem dX1_mends_69 : decode cX1_mends 69 = .ok (.iand, 1) := dk_126 (dk_at dksX1_mends_2 22 rfl rfl)
theorem dX1_mends_70 : decode cX1_mends 70 = .ok (.ifCond .ne 43, 3) := dk_154 0 43 (dk_at dksX1_mends_3 0 rfl rfl)
theorem dX1_mends_73 : decode cX1_mends 73 = .ok (.iload_n 3, 1) := dk_29 (dk_at dksX1_mends_3 3 rfl rfl)
theorem dX1_mends_74 : decode cX1_mends 74 = .ok (.iconst (-1), 1) := dk_2 (dk_at dksX1_mends_3 4 rfl rfl)
theorem dX1_mends_75 : decode cX1_mends 75 = .ok (.if_icmp .eq 18, 3) := dk_159 0 18 (dk_at dksX1_mends_3 5 rfl rfl)
theorem dX1_mends_78 : decode cX1_mends 78 = .ok (.iload 4, 2) := dk_21 4 (dk_at dksX1_mends_3 8 rfl rfl)
theorem dX1_mends_80 : decode cX1_mends 80 = .ok (.invokestatic 377, 3) := dk_184 1 121 (dk_at dksX1_mends_3 10 rfl rfl)
theorem dX1_mends_83 : decode cX1_mends 83 = .ok (.iload_n 3, 1) := dk_29 (dk_at dksX1_mends_3 13 rfl rfl)
theorem dX1_mends_84 : decode cX1_mends 84 = .ok (.invokestatic 377, 3) := dk_184 1 121 (dk_at dksX1_mends_3 14 rfl rfl)
theorem dX1_mends_87 : decode cX1_mends 87 = .ok (.if_icmp .lt 6, 3) := dk_161 0 6 (dk_at dksX1_mends_3 17 rfl rfl)
theorem dX1_mends_90 : decode cX1_mends 90 = .ok (.goto 23, 3) := dk_167 0 23 (dk_at dksX1_mends_3 20 rfl rfl)
theorem dX1_mends_93 : decode cX1_mends 93 = .ok (.new 405, 3) := dk_187 1 149 (dk_at dksX1_mends_4 0 rfl rfl)
theorem dX1_mends_96 : decode cX1_mends 96 = .ok (.dup, 1) := dk_89 (dk_at dksX1_mends_4 3 rfl rfl)
theorem dX1_mends_97 : decode cX1_mends 97 = .ok (.aload_n 0, 1) := dk_42 (dk_at dksX1_mends_4 4 rfl rfl)
theorem dX1_mends_98 : decode cX1_mends 98 = .ok (.iload 4, 2) := dk_21 4 (dk_at dksX1_mends_4 5 rfl rfl)
theorem dX1_mends_100 : decode cX1_mends 100 = .ok (.invokespecial 407, 3) := dk_183 1 151 (dk_at dksX1_mends_4 7 rfl rfl)
theorem dX1_mends_103 : decode cX1_mends 103 = .ok (.invokevirtual 410, 3) := dk_182 1 154 (dk_at dksX1_mends_4 10 rfl rfl)
theorem dX1_mends_106 : decode cX1_mends 106 = .ok (.iload_n 1, 1) := dk_27 (dk_at dksX1_mends_4 13 rfl rfl)
theorem dX1_mends_107 : decode cX1_mends 107 = .ok (.if_icmp .lt 6, 3) := dk_161 0 6 (dk_at dksX1_mends_4 14 rfl rfl)
theorem dX1_mends_110 : decode cX1_mends 110 = .ok (.iload 4, 2) := dk_21 4 (dk_at dksX1_mends_4 17 rfl rfl)
theorem dX1_mends_112 : decode cX1_mends 112 = .ok (.istore_n 3, 1) := dk_62 (dk_at dksX1_mends_4 19 rfl rfl)
theorem dX1_mends_113 : decode cX1_mends 113 = .ok (.iinc 4 1, 3) := dk_132 4 1 (dk_at dksX1_mends_4 20 rfl rfl)
theorem dX1_mends_116 : decode cX1_mends 116 = .ok (.goto (-58), 3) := dk_167 255 198 (dk_at dksX1_mends_5 0 rfl rfl)
theorem dX1_mends_119 : decode cX1_mends 119 = .ok (.iload_n 3, 1) := dk_29 (dk_at dksX1_mends_5 3 rfl rfl)
theorem dX1_mends_120 : decode cX1_mends 120 = .ok (.iconst (-1), 1) := dk_2 (dk_at dksX1_mends_5 4 rfl rfl)
theorem dX1_mends_121 : decode cX1_mends 121 = .ok (.if_icmp .ne 6, 3) := dk_160 0 6 (dk_at dksX1_mends_5 5 rfl rfl)
theorem dX1_mends_124 : decode cX1_mends 124 = .ok (.bipush (-2), 2) := dk_16 254 (dk_at dksX1_mends_5 8 rfl rfl)
theorem dX1_mends_126 : decode cX1_mends 126 = .ok (.ireturn, 1) := dk_172 (dk_at dksX1_mends_5 10 rfl rfl)
theorem dX1_mends_127 : decode cX1_mends 127 = .ok (.aload_n 0, 1) := dk_42 (dk_at dksX1_mends_5 11 rfl rfl)
theorem dX1_mends_128 : decode cX1_mends 128 = .ok (.iconst 0, 1) := dk_3 (dk_at dksX1_mends_5 12 rfl rfl)
theorem dX1_mends_129 : decode cX1_mends 129 = .ok (.putfield 95, 3) := dk_181 0 95 (dk_at dksX1_mends_5 13 rfl rfl)
theorem dX1_mends_132 : decode cX1_mends 132 = .ok (.aload_n 0, 1) := dk_42 (dk_at dksX1_mends_5 16 rfl rfl)
theorem dX1_mends_133 : decode cX1_mends 133 = .ok (.iload_n 3, 1) := dk_29 (dk_at dksX1_mends_5 17 rfl rfl)
theorem dX1_mends_134 : decode cX1_mends 134 = .ok (.i2l, 1) := dk_133 (dk_at dksX1_mends_5 18 rfl rfl)
theorem dX1_mends_135 : decode cX1_mends 135 = .ok (.invokevirtual 291, 3) := dk_182 1 35 (dk_at dksX1_mends_5 19 rfl rfl)
theorem dX1_mends_138 : decode cX1_mends 138 = .ok (.iload_n 3, 1) := dk_29 (dk_at dksX1_mends_5 22 rfl rfl)
theorem dX1_mends_139 : decode cX1_mends 139 = .ok (.invokestatic 377, 3) := dk_184 1 121 (dk_at dksX1_mends_6 0 rfl rfl)
theorem dX1_mends_142 : decode cX1_mends 142 = .ok (.ireturn, 1) := dk_172 (dk_at dksX1_mends_6 3 rfl rfl)
abbrev cX1_misleads : ByteArray := prog_1_method_52_code
def yX1_misleads : MethodName := ⟨RX1, "misleads", "()I"⟩
def dkwX1_misleads_4 : List UInt8 := [28, 133, 182, 1, 35, 42, 29, 42, 27, 182, 0, 248, 2, 130, 126, 184, 1, 121, 133, 182, 1, 35, 27, 172]
abbrev dktX1_misleads_4 : List UInt8 := dkwX1_misleads_4 ++ []
def dkwX1_misleads_3 : List UInt8 := [21, 5, 61, 132, 4, 1, 167, 255, 199, 27, 16, 254, 160, 0, 6, 16, 254, 172, 42, 3, 181, 0, 95, 42]
abbrev dktX1_misleads_3 : List UInt8 := dkwX1_misleads_3 ++ dktX1_misleads_4
def dkwX1_misleads_2 : List UInt8 := [89, 42, 21, 4, 183, 1, 157, 182, 1, 158, 54, 5, 21, 5, 28, 163, 0, 6, 167, 0, 9, 21, 4, 60]
abbrev dktX1_misleads_2 : List UInt8 := dkwX1_misleads_2 ++ dktX1_misleads_3
def dkwX1_misleads_1 : List UInt8 := [180, 0, 98, 162, 0, 54, 42, 180, 0, 33, 21, 4, 182, 0, 236, 154, 0, 6, 167, 0, 33, 187, 1, 155]
abbrev dktX1_misleads_1 : List UInt8 := dkwX1_misleads_1 ++ dktX1_misleads_2
def dkwX1_misleads_0 : List UInt8 := [16, 254, 60, 2, 61, 42, 180, 0, 60, 182, 1, 109, 182, 1, 115, 62, 3, 54, 4, 21, 4, 42]
abbrev dktX1_misleads_0 : List UInt8 := dkwX1_misleads_0 ++ dktX1_misleads_1
theorem dksX1_misleads_0 : cX1_misleads.data.toList.drop 0 = dktX1_misleads_0 := by decide +kernel
theorem dksX1_misleads_1 : cX1_misleads.data.toList.drop 22 = dktX1_misleads_1 := dk_seg dksX1_misleads_0 22 rfl rfl
theorem dksX1_misleads_2 : cX1_misleads.data.toList.drop 46 = dktX1_misleads_2 := dk_seg dksX1_misleads_1 24 rfl rfl
theorem dksX1_misleads_3 : cX1_misleads.data.toList.drop 70 = dktX1_misleads_3 := dk_seg dksX1_misleads_2 24 rfl rfl
theorem dksX1_misleads_4 : cX1_misleads.data.toList.drop 94 = dktX1_misleads_4 := dk_seg dksX1_misleads_3 24 rfl rfl
theorem dX1_misleads_0 : decode cX1_misleads 0 = .ok (.bipush (-2), 2) := dk_16 254 (dk_at dksX1_misleads_0 0 rfl rfl)
theorem dX1_misleads_2 : decode cX1_misleads 2 = .ok (.istore_n 1, 1) := dk_60 (dk_at dksX1_misleads_0 2 rfl rfl)
theorem dX1_misleads_3 : decode cX1_misleads 3 = .ok (.iconst (-1), 1) := dk_2 (dk_at dksX1_misleads_0 3 rfl rfl)
theorem dX1_misleads_4 : decode cX1_misleads 4 = .ok (.istore_n 2, 1) := dk_61 (dk_at dksX1_misleads_0 4 rfl rfl)
theorem dX1_misleads_5 : decode cX1_misleads 5 = .ok (.aload_n 0, 1) := dk_42 (dk_at dksX1_misleads_0 5 rfl rfl)
theorem dX1_misleads_6 : decode cX1_misleads 6 = .ok (.getfield 60, 3) := dk_180 0 60 (dk_at dksX1_misleads_0 6 rfl rfl)
theorem dX1_misleads_9 : decode cX1_misleads 9 = .ok (.invokevirtual 365, 3) := dk_182 1 109 (dk_at dksX1_misleads_0 9 rfl rfl)
theorem dX1_misleads_12 : decode cX1_misleads 12 = .ok (.invokevirtual 371, 3) := dk_182 1 115 (dk_at dksX1_misleads_0 12 rfl rfl)
theorem dX1_misleads_15 : decode cX1_misleads 15 = .ok (.istore_n 3, 1) := dk_62 (dk_at dksX1_misleads_0 15 rfl rfl)
theorem dX1_misleads_16 : decode cX1_misleads 16 = .ok (.iconst 0, 1) := dk_3 (dk_at dksX1_misleads_0 16 rfl rfl)
theorem dX1_misleads_17 : decode cX1_misleads 17 = .ok (.istore 4, 2) := dk_54 4 (dk_at dksX1_misleads_0 17 rfl rfl)
theorem dX1_misleads_19 : decode cX1_misleads 19 = .ok (.iload 4, 2) := dk_21 4 (dk_at dksX1_misleads_0 19 rfl rfl)
theorem dX1_misleads_21 : decode cX1_misleads 21 = .ok (.aload_n 0, 1) := dk_42 (dk_at dksX1_misleads_0 21 rfl rfl)
theorem dX1_misleads_22 : decode cX1_misleads 22 = .ok (.getfield 98, 3) := dk_180 0 98 (dk_at dksX1_misleads_1 0 rfl rfl)
theorem dX1_misleads_25 : decode cX1_misleads 25 = .ok (.if_icmp .ge 54, 3) := dk_162 0 54 (dk_at dksX1_misleads_1 3 rfl rfl)
theorem dX1_misleads_28 : decode cX1_misleads 28 = .ok (.aload_n 0, 1) := dk_42 (dk_at dksX1_misleads_1 6 rfl rfl)
theorem dX1_misleads_29 : decode cX1_misleads 29 = .ok (.getfield 33, 3) := dk_180 0 33 (dk_at dksX1_misleads_1 7 rfl rfl)
theorem dX1_misleads_32 : decode cX1_misleads 32 = .ok (.iload 4, 2) := dk_21 4 (dk_at dksX1_misleads_1 10 rfl rfl)
theorem dX1_misleads_34 : decode cX1_misleads 34 = .ok (.invokevirtual 236, 3) := dk_182 0 236 (dk_at dksX1_misleads_1 12 rfl rfl)
theorem dX1_misleads_37 : decode cX1_misleads 37 = .ok (.ifCond .ne 6, 3) := dk_154 0 6 (dk_at dksX1_misleads_1 15 rfl rfl)
theorem dX1_misleads_40 : decode cX1_misleads 40 = .ok (.goto 33, 3) := dk_167 0 33 (dk_at dksX1_misleads_1 18 rfl rfl)
theorem dX1_misleads_43 : decode cX1_misleads 43 = .ok (.new 411, 3) := dk_187 1 155 (dk_at dksX1_misleads_1 21 rfl rfl)
theorem dX1_misleads_46 : decode cX1_misleads 46 = .ok (.dup, 1) := dk_89 (dk_at dksX1_misleads_2 0 rfl rfl)
theorem dX1_misleads_47 : decode cX1_misleads 47 = .ok (.aload_n 0, 1) := dk_42 (dk_at dksX1_misleads_2 1 rfl rfl)
theorem dX1_misleads_48 : decode cX1_misleads 48 = .ok (.iload 4, 2) := dk_21 4 (dk_at dksX1_misleads_2 2 rfl rfl)
theorem dX1_misleads_50 : decode cX1_misleads 50 = .ok (.invokespecial 413, 3) := dk_183 1 157 (dk_at dksX1_misleads_2 4 rfl rfl)
theorem dX1_misleads_53 : decode cX1_misleads 53 = .ok (.invokevirtual 414, 3) := dk_182 1 158 (dk_at dksX1_misleads_2 7 rfl rfl)
theorem dX1_misleads_56 : decode cX1_misleads 56 = .ok (.istore 5, 2) := dk_54 5 (dk_at dksX1_misleads_2 10 rfl rfl)
theorem dX1_misleads_58 : decode cX1_misleads 58 = .ok (.iload 5, 2) := dk_21 5 (dk_at dksX1_misleads_2 12 rfl rfl)
theorem dX1_misleads_60 : decode cX1_misleads 60 = .ok (.iload_n 2, 1) := dk_28 (dk_at dksX1_misleads_2 14 rfl rfl)
theorem dX1_misleads_61 : decode cX1_misleads 61 = .ok (.if_icmp .gt 6, 3) := dk_163 0 6 (dk_at dksX1_misleads_2 15 rfl rfl)
theorem dX1_misleads_64 : decode cX1_misleads 64 = .ok (.goto 9, 3) := dk_167 0 9 (dk_at dksX1_misleads_2 18 rfl rfl)
theorem dX1_misleads_67 : decode cX1_misleads 67 = .ok (.iload 4, 2) := dk_21 4 (dk_at dksX1_misleads_2 21 rfl rfl)
theorem dX1_misleads_69 : decode cX1_misleads 69 = .ok (.istore_n 1, 1) := dk_60 (dk_at dksX1_misleads_2 23 rfl rfl)
theorem dX1_misleads_70 : decode cX1_misleads 70 = .ok (.iload 5, 2) := dk_21 5 (dk_at dksX1_misleads_3 0 rfl rfl)
theorem dX1_misleads_72 : decode cX1_misleads 72 = .ok (.istore_n 2, 1) := dk_61 (dk_at dksX1_misleads_3 2 rfl rfl)
theorem dX1_misleads_73 : decode cX1_misleads 73 = .ok (.iinc 4 1, 3) := dk_132 4 1 (dk_at dksX1_misleads_3 3 rfl rfl)
theorem dX1_misleads_76 : decode cX1_misleads 76 = .ok (.goto (-57), 3) := dk_167 255 199 (dk_at dksX1_misleads_3 6 rfl rfl)
theorem dX1_misleads_79 : decode cX1_misleads 79 = .ok (.iload_n 1, 1) := dk_27 (dk_at dksX1_misleads_3 9 rfl rfl)
theorem dX1_misleads_80 : decode cX1_misleads 80 = .ok (.bipush (-2), 2) := dk_16 254 (dk_at dksX1_misleads_3 10 rfl rfl)
theorem dX1_misleads_82 : decode cX1_misleads 82 = .ok (.if_icmp .ne 6, 3) := dk_160 0 6 (dk_at dksX1_misleads_3 12 rfl rfl)
theorem dX1_misleads_85 : decode cX1_misleads 85 = .ok (.bipush (-2), 2) := dk_16 254 (dk_at dksX1_misleads_3 15 rfl rfl)
theorem dX1_misleads_87 : decode cX1_misleads 87 = .ok (.ireturn, 1) := dk_172 (dk_at dksX1_misleads_3 17 rfl rfl)
theorem dX1_misleads_88 : decode cX1_misleads 88 = .ok (.aload_n 0, 1) := dk_42 (dk_at dksX1_misleads_3 18 rfl rfl)
theorem dX1_misleads_89 : decode cX1_misleads 89 = .ok (.iconst 0, 1) := dk_3 (dk_at dksX1_misleads_3 19 rfl rfl)
theorem dX1_misleads_90 : decode cX1_misleads 90 = .ok (.putfield 95, 3) := dk_181 0 95 (dk_at dksX1_misleads_3 20 rfl rfl)
theorem dX1_misleads_93 : decode cX1_misleads 93 = .ok (.aload_n 0, 1) := dk_42 (dk_at dksX1_misleads_3 23 rfl rfl)
theorem dX1_misleads_94 : decode cX1_misleads 94 = .ok (.iload_n 2, 1) := dk_28 (dk_at dksX1_misleads_4 0 rfl rfl)
theorem dX1_misleads_95 : decode cX1_misleads 95 = .ok (.i2l, 1) := dk_133 (dk_at dksX1_misleads_4 1 rfl rfl)
theorem dX1_misleads_96 : decode cX1_misleads 96 = .ok (.invokevirtual 291, 3) := dk_182 1 35 (dk_at dksX1_misleads_4 2 rfl rfl)
theorem dX1_misleads_99 : decode cX1_misleads 99 = .ok (.aload_n 0, 1) := dk_42 (dk_at dksX1_misleads_4 5 rfl rfl)
theorem dX1_misleads_100 : decode cX1_misleads 100 = .ok (.iload_n 3, 1) := dk_29 (dk_at dksX1_misleads_4 6 rfl rfl)
theorem dX1_misleads_101 : decode cX1_misleads 101 = .ok (.aload_n 0, 1) := dk_42 (dk_at dksX1_misleads_4 7 rfl rfl)
theorem dX1_misleads_102 : decode cX1_misleads 102 = .ok (.iload_n 1, 1) := dk_27 (dk_at dksX1_misleads_4 8 rfl rfl)
theorem dX1_misleads_103 : decode cX1_misleads 103 = .ok (.invokevirtual 248, 3) := dk_182 0 248 (dk_at dksX1_misleads_4 9 rfl rfl)
theorem dX1_misleads_106 : decode cX1_misleads 106 = .ok (.iconst (-1), 1) := dk_2 (dk_at dksX1_misleads_4 12 rfl rfl)
theorem dX1_misleads_107 : decode cX1_misleads 107 = .ok (.ixor, 1) := dk_130 (dk_at dksX1_misleads_4 13 rfl rfl)
theorem dX1_misleads_108 : decode cX1_misleads 108 = .ok (.iand, 1) := dk_126 (dk_at dksX1_misleads_4 14 rfl rfl)
theorem dX1_misleads_109 : decode cX1_misleads 109 = .ok (.invokestatic 377, 3) := dk_184 1 121 (dk_at dksX1_misleads_4 15 rfl rfl)
theorem dX1_misleads_112 : decode cX1_misleads 112 = .ok (.i2l, 1) := dk_133 (dk_at dksX1_misleads_4 18 rfl rfl)
theorem dX1_misleads_113 : decode cX1_misleads 113 = .ok (.invokevirtual 291, 3) := dk_182 1 35 (dk_at dksX1_misleads_4 19 rfl rfl)
theorem dX1_misleads_116 : decode cX1_misleads 116 = .ok (.iload_n 1, 1) := dk_27 (dk_at dksX1_misleads_4 22 rfl rfl)
theorem dX1_misleads_117 : decode cX1_misleads 117 = .ok (.ireturn, 1) := dk_172 (dk_at dksX1_misleads_4 23 rfl rfl)
abbrev cX1_crowd : ByteArray := prog_1_method_53_code
def yX1_crowd : MethodName := ⟨RX1, "crowd", "()I"⟩
def dkwX1_crowd_4 : List UInt8 := [184, 1, 121, 133, 182, 1, 35, 28, 172]
abbrev dktX1_crowd_4 : List UInt8 := dkwX1_crowd_4 ++ []
def dkwX1_crowd_3 : List UInt8 := [182, 0, 245, 184, 1, 121, 133, 182, 1, 35, 42, 43, 28, 182, 0, 245, 42, 28, 182, 0, 248, 126]
abbrev dktX1_crowd_3 : List UInt8 := dkwX1_crowd_3 ++ dktX1_crowd_4
def dkwX1_crowd_2 : List UInt8 := [164, 0, 7, 29, 167, 0, 4, 28, 61, 132, 3, 1, 167, 255, 220, 42, 3, 181, 0, 95, 42, 43, 28]
abbrev dktX1_crowd_2 : List UInt8 := dkwX1_crowd_2 ++ dktX1_crowd_3
def dkwX1_crowd_1 : List UInt8 := [180, 0, 98, 162, 0, 34, 43, 29, 182, 0, 245, 184, 1, 121, 43, 28, 182, 0, 245, 184, 1, 121]
abbrev dktX1_crowd_1 : List UInt8 := dkwX1_crowd_1 ++ dktX1_crowd_2
def dkwX1_crowd_0 : List UInt8 := [42, 180, 0, 98, 154, 0, 6, 16, 254, 172, 42, 180, 0, 60, 182, 1, 109, 76, 3, 61, 4, 62, 29, 42]
abbrev dktX1_crowd_0 : List UInt8 := dkwX1_crowd_0 ++ dktX1_crowd_1
theorem dksX1_crowd_0 : cX1_crowd.data.toList.drop 0 = dktX1_crowd_0 := by decide +kernel
theorem dksX1_crowd_1 : cX1_crowd.data.toList.drop 24 = dktX1_crowd_1 := dk_seg dksX1_crowd_0 24 rfl rfl
theorem dksX1_crowd_2 : cX1_crowd.data.toList.drop 46 = dktX1_crowd_2 := dk_seg dksX1_crowd_1 22 rfl rfl
theorem dksX1_crowd_3 : cX1_crowd.data.toList.drop 69 = dktX1_crowd_3 := dk_seg dksX1_crowd_2 23 rfl rfl
theorem dksX1_crowd_4 : cX1_crowd.data.toList.drop 91 = dktX1_crowd_4 := dk_seg dksX1_crowd_3 22 rfl rfl
theorem dX1_crowd_0 : decode cX1_crowd 0 = .ok (.aload_n 0, 1) := dk_42 (dk_at dksX1_crowd_0 0 rfl rfl)
theorem dX1_crowd_1 : decode cX1_crowd 1 = .ok (.getfield 98, 3) := dk_180 0 98 (dk_at dksX1_crowd_0 1 rfl rfl)
theorem dX1_crowd_4 : decode cX1_crowd 4 = .ok (.ifCond .ne 6, 3) := dk_154 0 6 (dk_at dksX1_crowd_0 4 rfl rfl)
theorem dX1_crowd_7 : decode cX1_crowd 7 = .ok (.bipush (-2), 2) := dk_16 254 (dk_at dksX1_crowd_0 7 rfl rfl)
theorem dX1_crowd_9 : decode cX1_crowd 9 = .ok (.ireturn, 1) := dk_172 (dk_at dksX1_crowd_0 9 rfl rfl)
theorem dX1_crowd_10 : decode cX1_crowd 10 = .ok (.aload_n 0, 1) := dk_42 (dk_at dksX1_crowd_0 10 rfl rfl)
theorem dX1_crowd_11 : decode cX1_crowd 11 = .ok (.getfield 60, 3) := dk_180 0 60 (dk_at dksX1_crowd_0 11 rfl rfl)
theorem dX1_crowd_14 : decode cX1_crowd 14 = .ok (.invokevirtual 365, 3) := dk_182 1 109 (dk_at dksX1_crowd_0 14 rfl rfl)
theorem dX1_crowd_17 : decode cX1_crowd 17 = .ok (.astore_n 1, 1) := dk_76 (dk_at dksX1_crowd_0 17 rfl rfl)
theorem dX1_crowd_18 : decode cX1_crowd 18 = .ok (.iconst 0, 1) := dk_3 (dk_at dksX1_crowd_0 18 rfl rfl)
theorem dX1_crowd_19 : decode cX1_crowd 19 = .ok (.istore_n 2, 1) := dk_61 (dk_at dksX1_crowd_0 19 rfl rfl)
theorem dX1_crowd_20 : decode cX1_crowd 20 = .ok (.iconst 1, 1) := dk_4 (dk_at dksX1_crowd_0 20 rfl rfl)
theorem dX1_crowd_21 : decode cX1_crowd 21 = .ok (.istore_n 3, 1) := dk_62 (dk_at dksX1_crowd_0 21 rfl rfl)
theorem dX1_crowd_22 : decode cX1_crowd 22 = .ok (.iload_n 3, 1) := dk_29 (dk_at dksX1_crowd_0 22 rfl rfl)
theorem dX1_crowd_23 : decode cX1_crowd 23 = .ok (.aload_n 0, 1) := dk_42 (dk_at dksX1_crowd_0 23 rfl rfl)
theorem dX1_crowd_24 : decode cX1_crowd 24 = .ok (.getfield 98, 3) := dk_180 0 98 (dk_at dksX1_crowd_1 0 rfl rfl)
theorem dX1_crowd_27 : decode cX1_crowd 27 = .ok (.if_icmp .ge 34, 3) := dk_162 0 34 (dk_at dksX1_crowd_1 3 rfl rfl)
theorem dX1_crowd_30 : decode cX1_crowd 30 = .ok (.aload_n 1, 1) := dk_43 (dk_at dksX1_crowd_1 6 rfl rfl)
theorem dX1_crowd_31 : decode cX1_crowd 31 = .ok (.iload_n 3, 1) := dk_29 (dk_at dksX1_crowd_1 7 rfl rfl)
theorem dX1_crowd_32 : decode cX1_crowd 32 = .ok (.invokevirtual 245, 3) := dk_182 0 245 (dk_at dksX1_crowd_1 8 rfl rfl)
theorem dX1_crowd_35 : decode cX1_crowd 35 = .ok (.invokestatic 377, 3) := dk_184 1 121 (dk_at dksX1_crowd_1 11 rfl rfl)
theorem dX1_crowd_38 : decode cX1_crowd 38 = .ok (.aload_n 1, 1) := dk_43 (dk_at dksX1_crowd_1 14 rfl rfl)
theorem dX1_crowd_39 : decode cX1_crowd 39 = .ok (.iload_n 2, 1) := dk_28 (dk_at dksX1_crowd_1 15 rfl rfl)
theorem dX1_crowd_40 : decode cX1_crowd 40 = .ok (.invokevirtual 245, 3) := dk_182 0 245 (dk_at dksX1_crowd_1 16 rfl rfl)
theorem dX1_crowd_43 : decode cX1_crowd 43 = .ok (.invokestatic 377, 3) := dk_184 1 121 (dk_at dksX1_crowd_1 19 rfl rfl)
theorem dX1_crowd_46 : decode cX1_crowd 46 = .ok (.if_icmp .le 7, 3) := dk_164 0 7 (dk_at dksX1_crowd_2 0 rfl rfl)
theorem dX1_crowd_49 : decode cX1_crowd 49 = .ok (.iload_n 3, 1) := dk_29 (dk_at dksX1_crowd_2 3 rfl rfl)
theorem dX1_crowd_50 : decode cX1_crowd 50 = .ok (.goto 4, 3) := dk_167 0 4 (dk_at dksX1_crowd_2 4 rfl rfl)
theorem dX1_crowd_53 : decode cX1_crowd 53 = .ok (.iload_n 2, 1) := dk_28 (dk_at dksX1_crowd_2 7 rfl rfl)
theorem dX1_crowd_54 : decode cX1_crowd 54 = .ok (.istore_n 2, 1) := dk_61 (dk_at dksX1_crowd_2 8 rfl rfl)
theorem dX1_crowd_55 : decode cX1_crowd 55 = .ok (.iinc 3 1, 3) := dk_132 3 1 (dk_at dksX1_crowd_2 9 rfl rfl)
theorem dX1_crowd_58 : decode cX1_crowd 58 = .ok (.goto (-36), 3) := dk_167 255 220 (dk_at dksX1_crowd_2 12 rfl rfl)
theorem dX1_crowd_61 : decode cX1_crowd 61 = .ok (.aload_n 0, 1) := dk_42 (dk_at dksX1_crowd_2 15 rfl rfl)
theorem dX1_crowd_62 : decode cX1_crowd 62 = .ok (.iconst 0, 1) := dk_3 (dk_at dksX1_crowd_2 16 rfl rfl)
theorem dX1_crowd_63 : decode cX1_crowd 63 = .ok (.putfield 95, 3) := dk_181 0 95 (dk_at dksX1_crowd_2 17 rfl rfl)
theorem dX1_crowd_66 : decode cX1_crowd 66 = .ok (.aload_n 0, 1) := dk_42 (dk_at dksX1_crowd_2 20 rfl rfl)
theorem dX1_crowd_67 : decode cX1_crowd 67 = .ok (.aload_n 1, 1) := dk_43 (dk_at dksX1_crowd_2 21 rfl rfl)
theorem dX1_crowd_68 : decode cX1_crowd 68 = .ok (.iload_n 2, 1) := dk_28 (dk_at dksX1_crowd_2 22 rfl rfl)
theorem dX1_crowd_69 : decode cX1_crowd 69 = .ok (.invokevirtual 245, 3) := dk_182 0 245 (dk_at dksX1_crowd_3 0 rfl rfl)
theorem dX1_crowd_72 : decode cX1_crowd 72 = .ok (.invokestatic 377, 3) := dk_184 1 121 (dk_at dksX1_crowd_3 3 rfl rfl)
theorem dX1_crowd_75 : decode cX1_crowd 75 = .ok (.i2l, 1) := dk_133 (dk_at dksX1_crowd_3 6 rfl rfl)
theorem dX1_crowd_76 : decode cX1_crowd 76 = .ok (.invokevirtual 291, 3) := dk_182 1 35 (dk_at dksX1_crowd_3 7 rfl rfl)
theorem dX1_crowd_79 : decode cX1_crowd 79 = .ok (.aload_n 0, 1) := dk_42 (dk_at dksX1_crowd_3 10 rfl rfl)
theorem dX1_crowd_80 : decode cX1_crowd 80 = .ok (.aload_n 1, 1) := dk_43 (dk_at dksX1_crowd_3 11 rfl rfl)
theorem dX1_crowd_81 : decode cX1_crowd 81 = .ok (.iload_n 2, 1) := dk_28 (dk_at dksX1_crowd_3 12 rfl rfl)
theorem dX1_crowd_82 : decode cX1_crowd 82 = .ok (.invokevirtual 245, 3) := dk_182 0 245 (dk_at dksX1_crowd_3 13 rfl rfl)
theorem dX1_crowd_85 : decode cX1_crowd 85 = .ok (.aload_n 0, 1) := dk_42 (dk_at dksX1_crowd_3 16 rfl rfl)
theorem dX1_crowd_86 : decode cX1_crowd 86 = .ok (.iload_n 2, 1) := dk_28 (dk_at dksX1_crowd_3 17 rfl rfl)
theorem dX1_crowd_87 : decode cX1_crowd 87 = .ok (.invokevirtual 248, 3) := dk_182 0 248 (dk_at dksX1_crowd_3 18 rfl rfl)
theorem dX1_crowd_90 : decode cX1_crowd 90 = .ok (.iand, 1) := dk_126 (dk_at dksX1_crowd_3 21 rfl rfl)
theorem dX1_crowd_91 : decode cX1_crowd 91 = .ok (.invokestatic 377, 3) := dk_184 1 121 (dk_at dksX1_crowd_4 0 rfl rfl)
theorem dX1_crowd_94 : decode cX1_crowd 94 = .ok (.i2l, 1) := dk_133 (dk_at dksX1_crowd_4 3 rfl rfl)
theorem dX1_crowd_95 : decode cX1_crowd 95 = .ok (.invokevirtual 291, 3) := dk_182 1 35 (dk_at dksX1_crowd_4 4 rfl rfl)
theorem dX1_crowd_98 : decode cX1_crowd 98 = .ok (.iload_n 2, 1) := dk_28 (dk_at dksX1_crowd_4 7 rfl rfl)
theorem dX1_crowd_99 : decode cX1_crowd 99 = .ok (.ireturn, 1) := dk_172 (dk_at dksX1_crowd_4 8 rfl rfl)
abbrev cX1_shares : ByteArray := prog_1_method_55_code
def yX1_shares : MethodName := ⟨RX1, "shares", "(I)I"⟩
def dkwX1_shares_10 : List UInt8 := [21, 4, 133, 182, 1, 35, 132, 3, 1, 167, 255, 158, 42, 180, 0, 80, 3, 50, 3, 46, 172]
abbrev dktX1_shares_10 : List UInt8 := dkwX1_shares_10 ++ []
def dkwX1_shares_9 : List UInt8 := [180, 0, 80, 29, 50, 28, 46, 159, 0, 9, 132, 4, 1, 167, 255, 213, 28, 4, 21, 4, 120, 128, 61, 42]
abbrev dktX1_shares_9 : List UInt8 := dkwX1_shares_9 ++ dktX1_shares_10
def dkwX1_shares_8 : List UInt8 := [182, 1, 167, 153, 0, 31, 4, 42, 180, 0, 80, 29, 4, 96, 50, 28, 4, 21, 4, 120, 128, 46, 96, 42]
abbrev dktX1_shares_8 : List UInt8 := dkwX1_shares_8 ++ dktX1_shares_9
def dkwX1_shares_7 : List UInt8 := [50, 28, 46, 42, 180, 0, 80, 29, 50, 28, 46, 159, 0, 59, 3, 54, 4, 42, 29, 21, 4, 28, 27]
abbrev dktX1_shares_7 : List UInt8 := dkwX1_shares_7 ++ dktX1_shares_8
def dkwX1_shares_6 : List UInt8 := [3, 181, 0, 95, 3, 62, 29, 42, 180, 0, 105, 162, 0, 96, 2, 54, 4, 42, 180, 0, 80, 29, 4, 96]
abbrev dktX1_shares_6 : List UInt8 := dkwX1_shares_6 ++ dktX1_shares_7
def dkwX1_shares_5 : List UInt8 := [180, 0, 80, 28, 50, 29, 21, 4, 79, 132, 3, 1, 167, 255, 167, 132, 2, 255, 167, 255, 155, 3, 61, 42]
abbrev dktX1_shares_5 : List UInt8 := dkwX1_shares_5 ++ dktX1_shares_6
def dkwX1_shares_4 : List UInt8 := [96, 50, 29, 4, 21, 5, 120, 128, 46, 96, 184, 0, 212, 54, 4, 132, 5, 1, 167, 255, 208, 42]
abbrev dktX1_shares_4 : List UInt8 := dkwX1_shares_4 ++ dktX1_shares_5
def dkwX1_shares_3 : List UInt8 := [162, 0, 45, 42, 28, 21, 5, 29, 27, 182, 1, 167, 153, 0, 27, 21, 4, 4, 42, 180, 0, 80, 28, 4]
abbrev dktX1_shares_3 : List UInt8 := dkwX1_shares_3 ++ dktX1_shares_4
def dkwX1_shares_2 : List UInt8 := [162, 0, 85, 42, 180, 0, 80, 28, 4, 96, 50, 29, 46, 54, 4, 3, 54, 5, 21, 5, 42, 180, 0, 98]
abbrev dktX1_shares_2 : List UInt8 := dkwX1_shares_2 ++ dktX1_shares_3
def dkwX1_shares_1 : List UInt8 := [184, 1, 164, 42, 180, 0, 105, 4, 100, 61, 28, 155, 0, 103, 3, 62, 29, 4, 42, 180, 0, 98, 120]
abbrev dktX1_shares_1 : List UInt8 := dkwX1_shares_1 ++ dktX1_shares_2
def dkwX1_shares_0 : List UInt8 := [27, 133, 9, 20, 1, 162, 184, 0, 101, 154, 0, 5, 2, 172, 42, 180, 0, 80, 42, 180, 0, 105, 50, 3]
abbrev dktX1_shares_0 : List UInt8 := dkwX1_shares_0 ++ dktX1_shares_1
theorem dksX1_shares_0 : cX1_shares.data.toList.drop 0 = dktX1_shares_0 := by decide +kernel
theorem dksX1_shares_1 : cX1_shares.data.toList.drop 24 = dktX1_shares_1 := dk_seg dksX1_shares_0 24 rfl rfl
theorem dksX1_shares_2 : cX1_shares.data.toList.drop 47 = dktX1_shares_2 := dk_seg dksX1_shares_1 23 rfl rfl
theorem dksX1_shares_3 : cX1_shares.data.toList.drop 71 = dktX1_shares_3 := dk_seg dksX1_shares_2 24 rfl rfl
theorem dksX1_shares_4 : cX1_shares.data.toList.drop 95 = dktX1_shares_4 := dk_seg dksX1_shares_3 24 rfl rfl
theorem dksX1_shares_5 : cX1_shares.data.toList.drop 117 = dktX1_shares_5 := dk_seg dksX1_shares_4 22 rfl rfl
theorem dksX1_shares_6 : cX1_shares.data.toList.drop 141 = dktX1_shares_6 := dk_seg dksX1_shares_5 24 rfl rfl
theorem dksX1_shares_7 : cX1_shares.data.toList.drop 165 = dktX1_shares_7 := dk_seg dksX1_shares_6 24 rfl rfl
theorem dksX1_shares_8 : cX1_shares.data.toList.drop 188 = dktX1_shares_8 := dk_seg dksX1_shares_7 23 rfl rfl
theorem dksX1_shares_9 : cX1_shares.data.toList.drop 212 = dktX1_shares_9 := dk_seg dksX1_shares_8 24 rfl rfl
theorem dksX1_shares_10 : cX1_shares.data.toList.drop 236 = dktX1_shares_10 := dk_seg dksX1_shares_9 24 rfl rfl
theorem dX1_shares_0 : decode cX1_shares 0 = .ok (.iload_n 1, 1) := dk_27 (dk_at dksX1_shares_0 0 rfl rfl)
theorem dX1_shares_1 : decode cX1_shares 1 = .ok (.i2l, 1) := dk_133 (dk_at dksX1_shares_0 1 rfl rfl)
theorem dX1_shares_2 : decode cX1_shares 2 = .ok (.lconst 0, 1) := dk_9 (dk_at dksX1_shares_0 2 rfl rfl)
theorem dX1_shares_3 : decode cX1_shares 3 = .ok (.ldc2_w 418, 3) := dk_20 1 162 (dk_at dksX1_shares_0 3 rfl rfl)
theorem dX1_shares_6 : decode cX1_shares 6 = .ok (.invokestatic 101, 3) := dk_184 0 101 (dk_at dksX1_shares_0 6 rfl rfl)
theorem dX1_shares_9 : decode cX1_shares 9 = .ok (.ifCond .ne 5, 3) := dk_154 0 5 (dk_at dksX1_shares_0 9 rfl rfl)
theorem dX1_shares_12 : decode cX1_shares 12 = .ok (.iconst (-1), 1) := dk_2 (dk_at dksX1_shares_0 12 rfl rfl)
theorem dX1_shares_13 : decode cX1_shares 13 = .ok (.ireturn, 1) := dk_172 (dk_at dksX1_shares_0 13 rfl rfl)
theorem dX1_shares_14 : decode cX1_shares 14 = .ok (.aload_n 0, 1) := dk_42 (dk_at dksX1_shares_0 14 rfl rfl)
theorem dX1_shares_15 : decode cX1_shares 15 = .ok (.getfield 80, 3) := dk_180 0 80 (dk_at dksX1_shares_0 15 rfl rfl)
theorem dX1_shares_18 : decode cX1_shares 18 = .ok (.aload_n 0, 1) := dk_42 (dk_at dksX1_shares_0 18 rfl rfl)
theorem dX1_shares_19 : decode cX1_shares 19 = .ok (.getfield 105, 3) := dk_180 0 105 (dk_at dksX1_shares_0 19 rfl rfl)
theorem dX1_shares_22 : decode cX1_shares 22 = .ok (.aaload, 1) := dk_50 (dk_at dksX1_shares_0 22 rfl rfl)
theorem dX1_shares_23 : decode cX1_shares 23 = .ok (.iconst 0, 1) := dk_3 (dk_at dksX1_shares_0 23 rfl rfl)
theorem dX1_shares_24 : decode cX1_shares 24 = .ok (.invokestatic 420, 3) := dk_184 1 164 (dk_at dksX1_shares_1 0 rfl rfl)
theorem dX1_shares_27 : decode cX1_shares 27 = .ok (.aload_n 0, 1) := dk_42 (dk_at dksX1_shares_1 3 rfl rfl)
theorem dX1_shares_28 : decode cX1_shares 28 = .ok (.getfield 105, 3) := dk_180 0 105 (dk_at dksX1_shares_1 4 rfl rfl)
theorem dX1_shares_31 : decode cX1_shares 31 = .ok (.iconst 1, 1) := dk_4 (dk_at dksX1_shares_1 7 rfl rfl)
theorem dX1_shares_32 : decode cX1_shares 32 = .ok (.isub, 1) := dk_100 (dk_at dksX1_shares_1 8 rfl rfl)
theorem dX1_shares_33 : decode cX1_shares 33 = .ok (.istore_n 2, 1) := dk_61 (dk_at dksX1_shares_1 9 rfl rfl)
theorem dX1_shares_34 : decode cX1_shares 34 = .ok (.iload_n 2, 1) := dk_28 (dk_at dksX1_shares_1 10 rfl rfl)
theorem dX1_shares_35 : decode cX1_shares 35 = .ok (.ifCond .lt 103, 3) := dk_155 0 103 (dk_at dksX1_shares_1 11 rfl rfl)
theorem dX1_shares_38 : decode cX1_shares 38 = .ok (.iconst 0, 1) := dk_3 (dk_at dksX1_shares_1 14 rfl rfl)
theorem dX1_shares_39 : decode cX1_shares 39 = .ok (.istore_n 3, 1) := dk_62 (dk_at dksX1_shares_1 15 rfl rfl)
theorem dX1_shares_40 : decode cX1_shares 40 = .ok (.iload_n 3, 1) := dk_29 (dk_at dksX1_shares_1 16 rfl rfl)
theorem dX1_shares_41 : decode cX1_shares 41 = .ok (.iconst 1, 1) := dk_4 (dk_at dksX1_shares_1 17 rfl rfl)
theorem dX1_shares_42 : decode cX1_shares 42 = .ok (.aload_n 0, 1) := dk_42 (dk_at dksX1_shares_1 18 rfl rfl)
theorem dX1_shares_43 : decode cX1_shares 43 = .ok (.getfield 98, 3) := dk_180 0 98 (dk_at dksX1_shares_1 19 rfl rfl)
theorem dX1_shares_46 : decode cX1_shares 46 = .ok (.ishl, 1) := dk_120 (dk_at dksX1_shares_1 22 rfl rfl)
theorem dX1_shares_47 : decode cX1_shares 47 = .ok (.if_icmp .ge 85, 3) := dk_162 0 85 (dk_at dksX1_shares_2 0 rfl rfl)
theorem dX1_shares_50 : decode cX1_shares 50 = .ok (.aload_n 0, 1) := dk_42 (dk_at dksX1_shares_2 3 rfl rfl)
theorem dX1_shares_51 : decode cX1_shares 51 = .ok (.getfield 80, 3) := dk_180 0 80 (dk_at dksX1_shares_2 4 rfl rfl)
theorem dX1_shares_54 : decode cX1_shares 54 = .ok (.iload_n 2, 1) := dk_28 (dk_at dksX1_shares_2 7 rfl rfl)
theorem dX1_shares_55 : decode cX1_shares 55 = .ok (.iconst 1, 1) := dk_4 (dk_at dksX1_shares_2 8 rfl rfl)
theorem dX1_shares_56 : decode cX1_shares 56 = .ok (.iadd, 1) := dk_96 (dk_at dksX1_shares_2 9 rfl rfl)
theorem dX1_shares_57 : decode cX1_shares 57 = .ok (.aaload, 1) := dk_50 (dk_at dksX1_shares_2 10 rfl rfl)
theorem dX1_shares_58 : decode cX1_shares 58 = .ok (.iload_n 3, 1) := dk_29 (dk_at dksX1_shares_2 11 rfl rfl)
theorem dX1_shares_59 : decode cX1_shares 59 = .ok (.iaload, 1) := dk_46 (dk_at dksX1_shares_2 12 rfl rfl)
theorem dX1_shares_60 : decode cX1_shares 60 = .ok (.istore 4, 2) := dk_54 4 (dk_at dksX1_shares_2 13 rfl rfl)
theorem dX1_shares_62 : decode cX1_shares 62 = .ok (.iconst 0, 1) := dk_3 (dk_at dksX1_shares_2 15 rfl rfl)
theorem dX1_shares_63 : decode cX1_shares 63 = .ok (.istore 5, 2) := dk_54 5 (dk_at dksX1_shares_2 16 rfl rfl)
theorem dX1_shares_65 : decode cX1_shares 65 = .ok (.iload 5, 2) := dk_21 5 (dk_at dksX1_shares_2 18 rfl rfl)
theorem dX1_shares_67 : decode cX1_shares 67 = .ok (.aload_n 0, 1) := dk_42 (dk_at dksX1_shares_2 20 rfl rfl)
theorem dX1_shares_68 : decode cX1_shares 68 = .ok (.getfield 98, 3) := dk_180 0 98 (dk_at dksX1_shares_2 21 rfl rfl)
theorem dX1_shares_71 : decode cX1_shares 71 = .ok (.if_icmp .ge 45, 3) := dk_162 0 45 (dk_at dksX1_shares_3 0 rfl rfl)
theorem dX1_shares_74 : decode cX1_shares 74 = .ok (.aload_n 0, 1) := dk_42 (dk_at dksX1_shares_3 3 rfl rfl)
theorem dX1_shares_75 : decode cX1_shares 75 = .ok (.iload_n 2, 1) := dk_28 (dk_at dksX1_shares_3 4 rfl rfl)
theorem dX1_shares_76 : decode cX1_shares 76 = .ok (.iload 5, 2) := dk_21 5 (dk_at dksX1_shares_3 5 rfl rfl)
theorem dX1_shares_78 : decode cX1_shares 78 = .ok (.iload_n 3, 1) := dk_29 (dk_at dksX1_shares_3 7 rfl rfl)
theorem dX1_shares_79 : decode cX1_shares 79 = .ok (.iload_n 1, 1) := dk_27 (dk_at dksX1_shares_3 8 rfl rfl)
theorem dX1_shares_80 : decode cX1_shares 80 = .ok (.invokevirtual 423, 3) := dk_182 1 167 (dk_at dksX1_shares_3 9 rfl rfl)
theorem dX1_shares_83 : decode cX1_shares 83 = .ok (.ifCond .eq 27, 3) := dk_153 0 27 (dk_at dksX1_shares_3 12 rfl rfl)
theorem dX1_shares_86 : decode cX1_shares 86 = .ok (.iload 4, 2) := dk_21 4 (dk_at dksX1_shares_3 15 rfl rfl)
theorem dX1_shares_88 : decode cX1_shares 88 = .ok (.iconst 1, 1) := dk_4 (dk_at dksX1_shares_3 17 rfl rfl)
theorem dX1_shares_89 : decode cX1_shares 89 = .ok (.aload_n 0, 1) := dk_42 (dk_at dksX1_shares_3 18 rfl rfl)
theorem dX1_shares_90 : decode cX1_shares 90 = .ok (.getfield 80, 3) := dk_180 0 80 (dk_at dksX1_shares_3 19 rfl rfl)
theorem dX1_shares_93 : decode cX1_shares 93 = .ok (.iload_n 2, 1) := dk_28 (dk_at dksX1_shares_3 22 rfl rfl)
theorem dX1_shares_94 : decode cX1_shares 94 = .ok (.iconst 1, 1) := dk_4 (dk_at dksX1_shares_3 23 rfl rfl)
theorem dX1_shares_95 : decode cX1_shares 95 = .ok (.iadd, 1) := dk_96 (dk_at dksX1_shares_4 0 rfl rfl)
theorem dX1_shares_96 : decode cX1_shares 96 = .ok (.aaload, 1) := dk_50 (dk_at dksX1_shares_4 1 rfl rfl)
theorem dX1_shares_97 : decode cX1_shares 97 = .ok (.iload_n 3, 1) := dk_29 (dk_at dksX1_shares_4 2 rfl rfl)
theorem dX1_shares_98 : decode cX1_shares 98 = .ok (.iconst 1, 1) := dk_4 (dk_at dksX1_shares_4 3 rfl rfl)
theorem dX1_shares_99 : decode cX1_shares 99 = .ok (.iload 5, 2) := dk_21 5 (dk_at dksX1_shares_4 4 rfl rfl)
theorem dX1_shares_101 : decode cX1_shares 101 = .ok (.ishl, 1) := dk_120 (dk_at dksX1_shares_4 6 rfl rfl)
theorem dX1_shares_102 : decode cX1_shares 102 = .ok (.ior, 1) := dk_128 (dk_at dksX1_shares_4 7 rfl rfl)
theorem dX1_shares_103 : decode cX1_shares 103 = .ok (.iaload, 1) := dk_46 (dk_at dksX1_shares_4 8 rfl rfl)
theorem dX1_shares_104 : decode cX1_shares 104 = .ok (.iadd, 1) := dk_96 (dk_at dksX1_shares_4 9 rfl rfl)
theorem dX1_shares_105 : decode cX1_shares 105 = .ok (.invokestatic 212, 3) := dk_184 0 212 (dk_at dksX1_shares_4 10 rfl rfl)
theorem dX1_shares_108 : decode cX1_shares 108 = .ok (.istore 4, 2) := dk_54 4 (dk_at dksX1_shares_4 13 rfl rfl)
theorem dX1_shares_110 : decode cX1_shares 110 = .ok (.iinc 5 1, 3) := dk_132 5 1 (dk_at dksX1_shares_4 15 rfl rfl)
theorem dX1_shares_113 : decode cX1_shares 113 = .ok (.goto (-48), 3) := dk_167 255 208 (dk_at dksX1_shares_4 18 rfl rfl)
theorem dX1_shares_116 : decode cX1_shares 116 = .ok (.aload_n 0, 1) := dk_42 (dk_at dksX1_shares_4 21 rfl rfl)
theorem dX1_shares_117 : decode cX1_shares 117 = .ok (.getfield 80, 3) := dk_180 0 80 (dk_at dksX1_shares_5 0 rfl rfl)
theorem dX1_shares_120 : decode cX1_shares 120 = .ok (.iload_n 2, 1) := dk_28 (dk_at dksX1_shares_5 3 rfl rfl)
theorem dX1_shares_121 : decode cX1_shares 121 = .ok (.aaload, 1) := dk_50 (dk_at dksX1_shares_5 4 rfl rfl)
theorem dX1_shares_122 : decode cX1_shares 122 = .ok (.iload_n 3, 1) := dk_29 (dk_at dksX1_shares_5 5 rfl rfl)
theorem dX1_shares_123 : decode cX1_shares 123 = .ok (.iload 4, 2) := dk_21 4 (dk_at dksX1_shares_5 6 rfl rfl)
theorem dX1_shares_125 : decode cX1_shares 125 = .ok (.iastore, 1) := dk_79 (dk_at dksX1_shares_5 8 rfl rfl)
theorem dX1_shares_126 : decode cX1_shares 126 = .ok (.iinc 3 1, 3) := dk_132 3 1 (dk_at dksX1_shares_5 9 rfl rfl)
theorem dX1_shares_129 : decode cX1_shares 129 = .ok (.goto (-89), 3) := dk_167 255 167 (dk_at dksX1_shares_5 12 rfl rfl)
theorem dX1_shares_132 : decode cX1_shares 132 = .ok (.iinc 2 (-1), 3) := dk_132 2 255 (dk_at dksX1_shares_5 15 rfl rfl)
theorem dX1_shares_135 : decode cX1_shares 135 = .ok (.goto (-101), 3) := dk_167 255 155 (dk_at dksX1_shares_5 18 rfl rfl)
theorem dX1_shares_138 : decode cX1_shares 138 = .ok (.iconst 0, 1) := dk_3 (dk_at dksX1_shares_5 21 rfl rfl)
theorem dX1_shares_139 : decode cX1_shares 139 = .ok (.istore_n 2, 1) := dk_61 (dk_at dksX1_shares_5 22 rfl rfl)
theorem dX1_shares_140 : decode cX1_shares 140 = .ok (.aload_n 0, 1) := dk_42 (dk_at dksX1_shares_5 23 rfl rfl)
theorem dX1_shares_141 : decode cX1_shares 141 = .ok (.iconst 0, 1) := dk_3 (dk_at dksX1_shares_6 0 rfl rfl)
theorem dX1_shares_142 : decode cX1_shares 142 = .ok (.putfield 95, 3) := dk_181 0 95 (dk_at dksX1_shares_6 1 rfl rfl)
theorem dX1_shares_145 : decode cX1_shares 145 = .ok (.iconst 0, 1) := dk_3 (dk_at dksX1_shares_6 4 rfl rfl)
theorem dX1_shares_146 : decode cX1_shares 146 = .ok (.istore_n 3, 1) := dk_62 (dk_at dksX1_shares_6 5 rfl rfl)
theorem dX1_shares_147 : decode cX1_shares 147 = .ok (.iload_n 3, 1) := dk_29 (dk_at dksX1_shares_6 6 rfl rfl)
theorem dX1_shares_148 : decode cX1_shares 148 = .ok (.aload_n 0, 1) := dk_42 (dk_at dksX1_shares_6 7 rfl rfl)
theorem dX1_shares_149 : decode cX1_shares 149 = .ok (.getfield 105, 3) := dk_180 0 105 (dk_at dksX1_shares_6 8 rfl rfl)
theorem dX1_shares_152 : decode cX1_shares 152 = .ok (.if_icmp .ge 96, 3) := dk_162 0 96 (dk_at dksX1_shares_6 11 rfl rfl)
theorem dX1_shares_155 : decode cX1_shares 155 = .ok (.iconst (-1), 1) := dk_2 (dk_at dksX1_shares_6 14 rfl rfl)
theorem dX1_shares_156 : decode cX1_shares 156 = .ok (.istore 4, 2) := dk_54 4 (dk_at dksX1_shares_6 15 rfl rfl)
theorem dX1_shares_158 : decode cX1_shares 158 = .ok (.aload_n 0, 1) := dk_42 (dk_at dksX1_shares_6 17 rfl rfl)
theorem dX1_shares_159 : decode cX1_shares 159 = .ok (.getfield 80, 3) := dk_180 0 80 (dk_at dksX1_shares_6 18 rfl rfl)
theorem dX1_shares_162 : decode cX1_shares 162 = .ok (.iload_n 3, 1) := dk_29 (dk_at dksX1_shares_6 21 rfl rfl)
theorem dX1_shares_163 : decode cX1_shares 163 = .ok (.iconst 1, 1) := dk_4 (dk_at dksX1_shares_6 22 rfl rfl)
theorem dX1_shares_164 : decode cX1_shares 164 = .ok (.iadd, 1) := dk_96 (dk_at dksX1_shares_6 23 rfl rfl)
theorem dX1_shares_165 : decode cX1_shares 165 = .ok (.aaload, 1) := dk_50 (dk_at dksX1_shares_7 0 rfl rfl)
theorem dX1_shares_166 : decode cX1_shares 166 = .ok (.iload_n 2, 1) := dk_28 (dk_at dksX1_shares_7 1 rfl rfl)
theorem dX1_shares_167 : decode cX1_shares 167 = .ok (.iaload, 1) := dk_46 (dk_at dksX1_shares_7 2 rfl rfl)
theorem dX1_shares_168 : decode cX1_shares 168 = .ok (.aload_n 0, 1) := dk_42 (dk_at dksX1_shares_7 3 rfl rfl)
theorem dX1_shares_169 : decode cX1_shares 169 = .ok (.getfield 80, 3) := dk_180 0 80 (dk_at dksX1_shares_7 4 rfl rfl)
theorem dX1_shares_172 : decode cX1_shares 172 = .ok (.iload_n 3, 1) := dk_29 (dk_at dksX1_shares_7 7 rfl rfl)
theorem dX1_shares_173 : decode cX1_shares 173 = .ok (.aaload, 1) := dk_50 (dk_at dksX1_shares_7 8 rfl rfl)
theorem dX1_shares_174 : decode cX1_shares 174 = .ok (.iload_n 2, 1) := dk_28 (dk_at dksX1_shares_7 9 rfl rfl)
theorem dX1_shares_175 : decode cX1_shares 175 = .ok (.iaload, 1) := dk_46 (dk_at dksX1_shares_7 10 rfl rfl)
theorem dX1_shares_176 : decode cX1_shares 176 = .ok (.if_icmp .eq 59, 3) := dk_159 0 59 (dk_at dksX1_shares_7 11 rfl rfl)
theorem dX1_shares_179 : decode cX1_shares 179 = .ok (.iconst 0, 1) := dk_3 (dk_at dksX1_shares_7 14 rfl rfl)
theorem dX1_shares_180 : decode cX1_shares 180 = .ok (.istore 4, 2) := dk_54 4 (dk_at dksX1_shares_7 15 rfl rfl)
theorem dX1_shares_182 : decode cX1_shares 182 = .ok (.aload_n 0, 1) := dk_42 (dk_at dksX1_shares_7 17 rfl rfl)
theorem dX1_shares_183 : decode cX1_shares 183 = .ok (.iload_n 3, 1) := dk_29 (dk_at dksX1_shares_7 18 rfl rfl)
theorem dX1_shares_184 : decode cX1_shares 184 = .ok (.iload 4, 2) := dk_21 4 (dk_at dksX1_shares_7 19 rfl rfl)
theorem dX1_shares_186 : decode cX1_shares 186 = .ok (.iload_n 2, 1) := dk_28 (dk_at dksX1_shares_7 21 rfl rfl)
theorem dX1_shares_187 : decode cX1_shares 187 = .ok (.iload_n 1, 1) := dk_27 (dk_at dksX1_shares_7 22 rfl rfl)
theorem dX1_shares_188 : decode cX1_shares 188 = .ok (.invokevirtual 423, 3) := dk_182 1 167 (dk_at dksX1_shares_8 0 rfl rfl)
theorem dX1_shares_191 : decode cX1_shares 191 = .ok (.ifCond .eq 31, 3) := dk_153 0 31 (dk_at dksX1_shares_8 3 rfl rfl)
theorem dX1_shares_194 : decode cX1_shares 194 = .ok (.iconst 1, 1) := dk_4 (dk_at dksX1_shares_8 6 rfl rfl)
theorem dX1_shares_195 : decode cX1_shares 195 = .ok (.aload_n 0, 1) := dk_42 (dk_at dksX1_shares_8 7 rfl rfl)
theorem dX1_shares_196 : decode cX1_shares 196 = .ok (.getfield 80, 3) := dk_180 0 80 (dk_at dksX1_shares_8 8 rfl rfl)
theorem dX1_shares_199 : decode cX1_shares 199 = .ok (.iload_n 3, 1) := dk_29 (dk_at dksX1_shares_8 11 rfl rfl)
theorem dX1_shares_200 : decode cX1_shares 200 = .ok (.iconst 1, 1) := dk_4 (dk_at dksX1_shares_8 12 rfl rfl)
theorem dX1_shares_201 : decode cX1_shares 201 = .ok (.iadd, 1) := dk_96 (dk_at dksX1_shares_8 13 rfl rfl)
theorem dX1_shares_202 : decode cX1_shares 202 = .ok (.aaload, 1) := dk_50 (dk_at dksX1_shares_8 14 rfl rfl)
theorem dX1_shares_203 : decode cX1_shares 203 = .ok (.iload_n 2, 1) := dk_28 (dk_at dksX1_shares_8 15 rfl rfl)
theorem dX1_shares_204 : decode cX1_shares 204 = .ok (.iconst 1, 1) := dk_4 (dk_at dksX1_shares_8 16 rfl rfl)
theorem dX1_shares_205 : decode cX1_shares 205 = .ok (.iload 4, 2) := dk_21 4 (dk_at dksX1_shares_8 17 rfl rfl)
theorem dX1_shares_207 : decode cX1_shares 207 = .ok (.ishl, 1) := dk_120 (dk_at dksX1_shares_8 19 rfl rfl)
theorem dX1_shares_208 : decode cX1_shares 208 = .ok (.ior, 1) := dk_128 (dk_at dksX1_shares_8 20 rfl rfl)
theorem dX1_shares_209 : decode cX1_shares 209 = .ok (.iaload, 1) := dk_46 (dk_at dksX1_shares_8 21 rfl rfl)
theorem dX1_shares_210 : decode cX1_shares 210 = .ok (.iadd, 1) := dk_96 (dk_at dksX1_shares_8 22 rfl rfl)
theorem dX1_shares_211 : decode cX1_shares 211 = .ok (.aload_n 0, 1) := dk_42 (dk_at dksX1_shares_8 23 rfl rfl)
theorem dX1_shares_212 : decode cX1_shares 212 = .ok (.getfield 80, 3) := dk_180 0 80 (dk_at dksX1_shares_9 0 rfl rfl)
theorem dX1_shares_215 : decode cX1_shares 215 = .ok (.iload_n 3, 1) := dk_29 (dk_at dksX1_shares_9 3 rfl rfl)
theorem dX1_shares_216 : decode cX1_shares 216 = .ok (.aaload, 1) := dk_50 (dk_at dksX1_shares_9 4 rfl rfl)
theorem dX1_shares_217 : decode cX1_shares 217 = .ok (.iload_n 2, 1) := dk_28 (dk_at dksX1_shares_9 5 rfl rfl)
theorem dX1_shares_218 : decode cX1_shares 218 = .ok (.iaload, 1) := dk_46 (dk_at dksX1_shares_9 6 rfl rfl)
theorem dX1_shares_219 : decode cX1_shares 219 = .ok (.if_icmp .eq 9, 3) := dk_159 0 9 (dk_at dksX1_shares_9 7 rfl rfl)
theorem dX1_shares_222 : decode cX1_shares 222 = .ok (.iinc 4 1, 3) := dk_132 4 1 (dk_at dksX1_shares_9 10 rfl rfl)
theorem dX1_shares_225 : decode cX1_shares 225 = .ok (.goto (-43), 3) := dk_167 255 213 (dk_at dksX1_shares_9 13 rfl rfl)
theorem dX1_shares_228 : decode cX1_shares 228 = .ok (.iload_n 2, 1) := dk_28 (dk_at dksX1_shares_9 16 rfl rfl)
theorem dX1_shares_229 : decode cX1_shares 229 = .ok (.iconst 1, 1) := dk_4 (dk_at dksX1_shares_9 17 rfl rfl)
theorem dX1_shares_230 : decode cX1_shares 230 = .ok (.iload 4, 2) := dk_21 4 (dk_at dksX1_shares_9 18 rfl rfl)
theorem dX1_shares_232 : decode cX1_shares 232 = .ok (.ishl, 1) := dk_120 (dk_at dksX1_shares_9 20 rfl rfl)
theorem dX1_shares_233 : decode cX1_shares 233 = .ok (.ior, 1) := dk_128 (dk_at dksX1_shares_9 21 rfl rfl)
theorem dX1_shares_234 : decode cX1_shares 234 = .ok (.istore_n 2, 1) := dk_61 (dk_at dksX1_shares_9 22 rfl rfl)
theorem dX1_shares_235 : decode cX1_shares 235 = .ok (.aload_n 0, 1) := dk_42 (dk_at dksX1_shares_9 23 rfl rfl)
theorem dX1_shares_236 : decode cX1_shares 236 = .ok (.iload 4, 2) := dk_21 4 (dk_at dksX1_shares_10 0 rfl rfl)
theorem dX1_shares_238 : decode cX1_shares 238 = .ok (.i2l, 1) := dk_133 (dk_at dksX1_shares_10 2 rfl rfl)
theorem dX1_shares_239 : decode cX1_shares 239 = .ok (.invokevirtual 291, 3) := dk_182 1 35 (dk_at dksX1_shares_10 3 rfl rfl)
theorem dX1_shares_242 : decode cX1_shares 242 = .ok (.iinc 3 1, 3) := dk_132 3 1 (dk_at dksX1_shares_10 6 rfl rfl)
theorem dX1_shares_245 : decode cX1_shares 245 = .ok (.goto (-98), 3) := dk_167 255 158 (dk_at dksX1_shares_10 9 rfl rfl)
theorem dX1_shares_248 : decode cX1_shares 248 = .ok (.aload_n 0, 1) := dk_42 (dk_at dksX1_shares_10 12 rfl rfl)
theorem dX1_shares_249 : decode cX1_shares 249 = .ok (.getfield 80, 3) := dk_180 0 80 (dk_at dksX1_shares_10 13 rfl rfl)
theorem dX1_shares_252 : decode cX1_shares 252 = .ok (.iconst 0, 1) := dk_3 (dk_at dksX1_shares_10 16 rfl rfl)
theorem dX1_shares_253 : decode cX1_shares 253 = .ok (.aaload, 1) := dk_50 (dk_at dksX1_shares_10 17 rfl rfl)
theorem dX1_shares_254 : decode cX1_shares 254 = .ok (.iconst 0, 1) := dk_3 (dk_at dksX1_shares_10 18 rfl rfl)
theorem dX1_shares_255 : decode cX1_shares 255 = .ok (.iaload, 1) := dk_46 (dk_at dksX1_shares_10 19 rfl rfl)
theorem dX1_shares_256 : decode cX1_shares 256 = .ok (.ireturn, 1) := dk_172 (dk_at dksX1_shares_10 20 rfl rfl)
abbrev cX1_canShare : ByteArray := prog_1_method_54_code
def yX1_canShare : MethodName := ⟨RX1, "canShare", "(IIII)Z"⟩
def dkwX1_canShare_2 : List UInt8 := [167, 0, 4, 3, 172]
abbrev dktX1_canShare_2 : List UInt8 := dkwX1_canShare_2 ++ []
def dkwX1_canShare_1 : List UInt8 := [29, 28, 184, 1, 135, 154, 0, 21, 42, 180, 0, 33, 27, 28, 182, 1, 159, 21, 4, 163, 0, 7, 4]
abbrev dktX1_canShare_1 : List UInt8 := dkwX1_canShare_1 ++ dktX1_canShare_2
def dkwX1_canShare_0 : List UInt8 := [42, 180, 0, 33, 180, 0, 203, 27, 46, 2, 160, 0, 40, 42, 180, 0, 33, 28, 182, 0, 236, 153, 0, 29]
abbrev dktX1_canShare_0 : List UInt8 := dkwX1_canShare_0 ++ dktX1_canShare_1
theorem dksX1_canShare_0 : cX1_canShare.data.toList.drop 0 = dktX1_canShare_0 := by decide +kernel
theorem dksX1_canShare_1 : cX1_canShare.data.toList.drop 24 = dktX1_canShare_1 := dk_seg dksX1_canShare_0 24 rfl rfl
theorem dksX1_canShare_2 : cX1_canShare.data.toList.drop 47 = dktX1_canShare_2 := dk_seg dksX1_canShare_1 23 rfl rfl
theorem dX1_canShare_0 : decode cX1_canShare 0 = .ok (.aload_n 0, 1) := dk_42 (dk_at dksX1_canShare_0 0 rfl rfl)
theorem dX1_canShare_1 : decode cX1_canShare 1 = .ok (.getfield 33, 3) := dk_180 0 33 (dk_at dksX1_canShare_0 1 rfl rfl)
theorem dX1_canShare_4 : decode cX1_canShare 4 = .ok (.getfield 203, 3) := dk_180 0 203 (dk_at dksX1_canShare_0 4 rfl rfl)
theorem dX1_canShare_7 : decode cX1_canShare 7 = .ok (.iload_n 1, 1) := dk_27 (dk_at dksX1_canShare_0 7 rfl rfl)
theorem dX1_canShare_8 : decode cX1_canShare 8 = .ok (.iaload, 1) := dk_46 (dk_at dksX1_canShare_0 8 rfl rfl)
theorem dX1_canShare_9 : decode cX1_canShare 9 = .ok (.iconst (-1), 1) := dk_2 (dk_at dksX1_canShare_0 9 rfl rfl)
theorem dX1_canShare_10 : decode cX1_canShare 10 = .ok (.if_icmp .ne 40, 3) := dk_160 0 40 (dk_at dksX1_canShare_0 10 rfl rfl)
theorem dX1_canShare_13 : decode cX1_canShare 13 = .ok (.aload_n 0, 1) := dk_42 (dk_at dksX1_canShare_0 13 rfl rfl)
theorem dX1_canShare_14 : decode cX1_canShare 14 = .ok (.getfield 33, 3) := dk_180 0 33 (dk_at dksX1_canShare_0 14 rfl rfl)
theorem dX1_canShare_17 : decode cX1_canShare 17 = .ok (.iload_n 2, 1) := dk_28 (dk_at dksX1_canShare_0 17 rfl rfl)
theorem dX1_canShare_18 : decode cX1_canShare 18 = .ok (.invokevirtual 236, 3) := dk_182 0 236 (dk_at dksX1_canShare_0 18 rfl rfl)
theorem dX1_canShare_21 : decode cX1_canShare 21 = .ok (.ifCond .eq 29, 3) := dk_153 0 29 (dk_at dksX1_canShare_0 21 rfl rfl)
theorem dX1_canShare_24 : decode cX1_canShare 24 = .ok (.iload_n 3, 1) := dk_29 (dk_at dksX1_canShare_1 0 rfl rfl)
theorem dX1_canShare_25 : decode cX1_canShare 25 = .ok (.iload_n 2, 1) := dk_28 (dk_at dksX1_canShare_1 1 rfl rfl)
theorem dX1_canShare_26 : decode cX1_canShare 26 = .ok (.invokestatic 391, 3) := dk_184 1 135 (dk_at dksX1_canShare_1 2 rfl rfl)
theorem dX1_canShare_29 : decode cX1_canShare 29 = .ok (.ifCond .ne 21, 3) := dk_154 0 21 (dk_at dksX1_canShare_1 5 rfl rfl)
theorem dX1_canShare_32 : decode cX1_canShare 32 = .ok (.aload_n 0, 1) := dk_42 (dk_at dksX1_canShare_1 8 rfl rfl)
theorem dX1_canShare_33 : decode cX1_canShare 33 = .ok (.getfield 33, 3) := dk_180 0 33 (dk_at dksX1_canShare_1 9 rfl rfl)
theorem dX1_canShare_36 : decode cX1_canShare 36 = .ok (.iload_n 1, 1) := dk_27 (dk_at dksX1_canShare_1 12 rfl rfl)
theorem dX1_canShare_37 : decode cX1_canShare 37 = .ok (.iload_n 2, 1) := dk_28 (dk_at dksX1_canShare_1 13 rfl rfl)
theorem dX1_canShare_38 : decode cX1_canShare 38 = .ok (.invokevirtual 415, 3) := dk_182 1 159 (dk_at dksX1_canShare_1 14 rfl rfl)
theorem dX1_canShare_41 : decode cX1_canShare 41 = .ok (.iload 4, 2) := dk_21 4 (dk_at dksX1_canShare_1 17 rfl rfl)
theorem dX1_canShare_43 : decode cX1_canShare 43 = .ok (.if_icmp .gt 7, 3) := dk_163 0 7 (dk_at dksX1_canShare_1 19 rfl rfl)
theorem dX1_canShare_46 : decode cX1_canShare 46 = .ok (.iconst 1, 1) := dk_4 (dk_at dksX1_canShare_1 22 rfl rfl)
theorem dX1_canShare_47 : decode cX1_canShare 47 = .ok (.goto 4, 3) := dk_167 0 4 (dk_at dksX1_canShare_2 0 rfl rfl)
theorem dX1_canShare_50 : decode cX1_canShare 50 = .ok (.iconst 0, 1) := dk_3 (dk_at dksX1_canShare_2 3 rfl rfl)
theorem dX1_canShare_51 : decode cX1_canShare 51 = .ok (.ireturn, 1) := dk_172 (dk_at dksX1_canShare_2 4 rfl rfl)
abbrev cX1_strangers : ByteArray := prog_1_method_56_code
def yX1_strangers : MethodName := ⟨RX1, "strangers", "()I"⟩
def dkwX1_strangers_7 : List UInt8 := [172]
abbrev dktX1_strangers_7 : List UInt8 := dkwX1_strangers_7 ++ []
def dkwX1_strangers_6 : List UInt8 := [160, 0, 6, 16, 254, 172, 42, 3, 181, 0, 95, 42, 28, 133, 182, 1, 35, 42, 29, 133, 182, 1, 35, 27]
abbrev dktX1_strangers_6 : List UInt8 := dkwX1_strangers_6 ++ dktX1_strangers_7
def dkwX1_strangers_5 : List UInt8 := [60, 21, 4, 61, 21, 5, 62, 132, 5, 1, 167, 255, 155, 132, 4, 1, 167, 255, 134, 27, 19, 1, 171]
abbrev dktX1_strangers_5 : List UInt8 := dkwX1_strangers_5 ++ dktX1_strangers_6
def dkwX1_strangers_4 : List UInt8 := [21, 4, 46, 42, 180, 0, 13, 21, 5, 46, 159, 0, 21, 21, 6, 27, 161, 0, 6, 167, 0, 12, 21, 6]
abbrev dktX1_strangers_4 : List UInt8 := dkwX1_strangers_4 ++ dktX1_strangers_5
def dkwX1_strangers_3 : List UInt8 := [46, 2, 160, 0, 52, 42, 180, 0, 33, 180, 0, 203, 21, 5, 46, 2, 160, 0, 38, 42, 180, 0, 13]
abbrev dktX1_strangers_3 : List UInt8 := dkwX1_strangers_3 ++ dktX1_strangers_4
def dkwX1_strangers_2 : List UInt8 := [180, 0, 33, 180, 0, 198, 21, 5, 46, 100, 184, 1, 67, 54, 6, 42, 180, 0, 33, 180, 0, 203, 21, 4]
abbrev dktX1_strangers_2 : List UInt8 := dkwX1_strangers_2 ++ dktX1_strangers_3
def dkwX1_strangers_1 : List UInt8 := [54, 5, 21, 5, 42, 180, 0, 105, 162, 0, 98, 42, 180, 0, 33, 180, 0, 198, 21, 4, 46, 42]
abbrev dktX1_strangers_1 : List UInt8 := dkwX1_strangers_1 ++ dktX1_strangers_2
def dkwX1_strangers_0 : List UInt8 := [19, 1, 171, 60, 2, 61, 2, 62, 3, 54, 4, 21, 4, 42, 180, 0, 105, 162, 0, 119, 21, 4, 4, 96]
abbrev dktX1_strangers_0 : List UInt8 := dkwX1_strangers_0 ++ dktX1_strangers_1
theorem dksX1_strangers_0 : cX1_strangers.data.toList.drop 0 = dktX1_strangers_0 := by decide +kernel
theorem dksX1_strangers_1 : cX1_strangers.data.toList.drop 24 = dktX1_strangers_1 := dk_seg dksX1_strangers_0 24 rfl rfl
theorem dksX1_strangers_2 : cX1_strangers.data.toList.drop 46 = dktX1_strangers_2 := dk_seg dksX1_strangers_1 22 rfl rfl
theorem dksX1_strangers_3 : cX1_strangers.data.toList.drop 70 = dktX1_strangers_3 := dk_seg dksX1_strangers_2 24 rfl rfl
theorem dksX1_strangers_4 : cX1_strangers.data.toList.drop 93 = dktX1_strangers_4 := dk_seg dksX1_strangers_3 23 rfl rfl
theorem dksX1_strangers_5 : cX1_strangers.data.toList.drop 117 = dktX1_strangers_5 := dk_seg dksX1_strangers_4 24 rfl rfl
theorem dksX1_strangers_6 : cX1_strangers.data.toList.drop 140 = dktX1_strangers_6 := dk_seg dksX1_strangers_5 23 rfl rfl
theorem dksX1_strangers_7 : cX1_strangers.data.toList.drop 164 = dktX1_strangers_7 := dk_seg dksX1_strangers_6 24 rfl rfl
theorem dX1_strangers_0 : decode cX1_strangers 0 = .ok (.ldc_w 427, 3) := dk_19 1 171 (dk_at dksX1_strangers_0 0 rfl rfl)
theorem dX1_strangers_3 : decode cX1_strangers 3 = .ok (.istore_n 1, 1) := dk_60 (dk_at dksX1_strangers_0 3 rfl rfl)
theorem dX1_strangers_4 : decode cX1_strangers 4 = .ok (.iconst (-1), 1) := dk_2 (dk_at dksX1_strangers_0 4 rfl rfl)
theorem dX1_strangers_5 : decode cX1_strangers 5 = .ok (.istore_n 2, 1) := dk_61 (dk_at dksX1_strangers_0 5 rfl rfl)
theorem dX1_strangers_6 : decode cX1_strangers 6 = .ok (.iconst (-1), 1) := dk_2 (dk_at dksX1_strangers_0 6 rfl rfl)
theorem dX1_strangers_7 : decode cX1_strangers 7 = .ok (.istore_n 3, 1) := dk_62 (dk_at dksX1_strangers_0 7 rfl rfl)
theorem dX1_strangers_8 : decode cX1_strangers 8 = .ok (.iconst 0, 1) := dk_3 (dk_at dksX1_strangers_0 8 rfl rfl)
theorem dX1_strangers_9 : decode cX1_strangers 9 = .ok (.istore 4, 2) := dk_54 4 (dk_at dksX1_strangers_0 9 rfl rfl)
theorem dX1_strangers_11 : decode cX1_strangers 11 = .ok (.iload 4, 2) := dk_21 4 (dk_at dksX1_strangers_0 11 rfl rfl)
theorem dX1_strangers_13 : decode cX1_strangers 13 = .ok (.aload_n 0, 1) := dk_42 (dk_at dksX1_strangers_0 13 rfl rfl)
theorem dX1_strangers_14 : decode cX1_strangers 14 = .ok (.getfield 105, 3) := dk_180 0 105 (dk_at dksX1_strangers_0 14 rfl rfl)
theorem dX1_strangers_17 : decode cX1_strangers 17 = .ok (.if_icmp .ge 119, 3) := dk_162 0 119 (dk_at dksX1_strangers_0 17 rfl rfl)
theorem dX1_strangers_20 : decode cX1_strangers 20 = .ok (.iload 4, 2) := dk_21 4 (dk_at dksX1_strangers_0 20 rfl rfl)
theorem dX1_strangers_22 : decode cX1_strangers 22 = .ok (.iconst 1, 1) := dk_4 (dk_at dksX1_strangers_0 22 rfl rfl)
theorem dX1_strangers_23 : decode cX1_strangers 23 = .ok (.iadd, 1) := dk_96 (dk_at dksX1_strangers_0 23 rfl rfl)
theorem dX1_strangers_24 : decode cX1_strangers 24 = .ok (.istore 5, 2) := dk_54 5 (dk_at dksX1_strangers_1 0 rfl rfl)
theorem dX1_strangers_26 : decode cX1_strangers 26 = .ok (.iload 5, 2) := dk_21 5 (dk_at dksX1_strangers_1 2 rfl rfl)
theorem dX1_strangers_28 : decode cX1_strangers 28 = .ok (.aload_n 0, 1) := dk_42 (dk_at dksX1_strangers_1 4 rfl rfl)
theorem dX1_strangers_29 : decode cX1_strangers 29 = .ok (.getfield 105, 3) := dk_180 0 105 (dk_at dksX1_strangers_1 5 rfl rfl)
theorem dX1_strangers_32 : decode cX1_strangers 32 = .ok (.if_icmp .ge 98, 3) := dk_162 0 98 (dk_at dksX1_strangers_1 8 rfl rfl)
theorem dX1_strangers_35 : decode cX1_strangers 35 = .ok (.aload_n 0, 1) := dk_42 (dk_at dksX1_strangers_1 11 rfl rfl)
theorem dX1_strangers_36 : decode cX1_strangers 36 = .ok (.getfield 33, 3) := dk_180 0 33 (dk_at dksX1_strangers_1 12 rfl rfl)
theorem dX1_strangers_39 : decode cX1_strangers 39 = .ok (.getfield 198, 3) := dk_180 0 198 (dk_at dksX1_strangers_1 15 rfl rfl)
theorem dX1_strangers_42 : decode cX1_strangers 42 = .ok (.iload 4, 2) := dk_21 4 (dk_at dksX1_strangers_1 18 rfl rfl)
theorem dX1_strangers_44 : decode cX1_strangers 44 = .ok (.iaload, 1) := dk_46 (dk_at dksX1_strangers_1 20 rfl rfl)
theorem dX1_strangers_45 : decode cX1_strangers 45 = .ok (.aload_n 0, 1) := dk_42 (dk_at dksX1_strangers_1 21 rfl rfl)
theorem dX1_strangers_46 : decode cX1_strangers 46 = .ok (.getfield 33, 3) := dk_180 0 33 (dk_at dksX1_strangers_2 0 rfl rfl)
theorem dX1_strangers_49 : decode cX1_strangers 49 = .ok (.getfield 198, 3) := dk_180 0 198 (dk_at dksX1_strangers_2 3 rfl rfl)
theorem dX1_strangers_52 : decode cX1_strangers 52 = .ok (.iload 5, 2) := dk_21 5 (dk_at dksX1_strangers_2 6 rfl rfl)
theorem dX1_strangers_54 : decode cX1_strangers 54 = .ok (.iaload, 1) := dk_46 (dk_at dksX1_strangers_2 8 rfl rfl)
theorem dX1_strangers_55 : decode cX1_strangers 55 = .ok (.isub, 1) := dk_100 (dk_at dksX1_strangers_2 9 rfl rfl)
theorem dX1_strangers_56 : decode cX1_strangers 56 = .ok (.invokestatic 323, 3) := dk_184 1 67 (dk_at dksX1_strangers_2 10 rfl rfl)
theorem dX1_strangers_59 : decode cX1_strangers 59 = .ok (.istore 6, 2) := dk_54 6 (dk_at dksX1_strangers_2 13 rfl rfl)
theorem dX1_strangers_61 : decode cX1_strangers 61 = .ok (.aload_n 0, 1) := dk_42 (dk_at dksX1_strangers_2 15 rfl rfl)
theorem dX1_strangers_62 : decode cX1_strangers 62 = .ok (.getfield 33, 3) := dk_180 0 33 (dk_at dksX1_strangers_2 16 rfl rfl)
theorem dX1_strangers_65 : decode cX1_strangers 65 = .ok (.getfield 203, 3) := dk_180 0 203 (dk_at dksX1_strangers_2 19 rfl rfl)
theorem dX1_strangers_68 : decode cX1_strangers 68 = .ok (.iload 4, 2) := dk_21 4 (dk_at dksX1_strangers_2 22 rfl rfl)
theorem dX1_strangers_70 : decode cX1_strangers 70 = .ok (.iaload, 1) := dk_46 (dk_at dksX1_strangers_3 0 rfl rfl)
theorem dX1_strangers_71 : decode cX1_strangers 71 = .ok (.iconst (-1), 1) := dk_2 (dk_at dksX1_strangers_3 1 rfl rfl)
theorem dX1_strangers_72 : decode cX1_strangers 72 = .ok (.if_icmp .ne 52, 3) := dk_160 0 52 (dk_at dksX1_strangers_3 2 rfl rfl)
theorem dX1_strangers_75 : decode cX1_strangers 75 = .ok (.aload_n 0, 1) := dk_42 (dk_at dksX1_strangers_3 5 rfl rfl)
theorem dX1_strangers_76 : decode cX1_strangers 76 = .ok (.getfield 33, 3) := dk_180 0 33 (dk_at dksX1_strangers_3 6 rfl rfl)
theorem dX1_strangers_79 : decode cX1_strangers 79 = .ok (.getfield 203, 3) := dk_180 0 203 (dk_at dksX1_strangers_3 9 rfl rfl)
theorem dX1_strangers_82 : decode cX1_strangers 82 = .ok (.iload 5, 2) := dk_21 5 (dk_at dksX1_strangers_3 12 rfl rfl)
theorem dX1_strangers_84 : decode cX1_strangers 84 = .ok (.iaload, 1) := dk_46 (dk_at dksX1_strangers_3 14 rfl rfl)
theorem dX1_strangers_85 : decode cX1_strangers 85 = .ok (.iconst (-1), 1) := dk_2 (dk_at dksX1_strangers_3 15 rfl rfl)
theorem dX1_strangers_86 : decode cX1_strangers 86 = .ok (.if_icmp .ne 38, 3) := dk_160 0 38 (dk_at dksX1_strangers_3 16 rfl rfl)
theorem dX1_strangers_89 : decode cX1_strangers 89 = .ok (.aload_n 0, 1) := dk_42 (dk_at dksX1_strangers_3 19 rfl rfl)
theorem dX1_strangers_90 : decode cX1_strangers 90 = .ok (.getfield 13, 3) := dk_180 0 13 (dk_at dksX1_strangers_3 20 rfl rfl)
theorem dX1_strangers_93 : decode cX1_strangers 93 = .ok (.iload 4, 2) := dk_21 4 (dk_at dksX1_strangers_4 0 rfl rfl)
theorem dX1_strangers_95 : decode cX1_strangers 95 = .ok (.iaload, 1) := dk_46 (dk_at dksX1_strangers_4 2 rfl rfl)
theorem dX1_strangers_96 : decode cX1_strangers 96 = .ok (.aload_n 0, 1) := dk_42 (dk_at dksX1_strangers_4 3 rfl rfl)
theorem dX1_strangers_97 : decode cX1_strangers 97 = .ok (.getfield 13, 3) := dk_180 0 13 (dk_at dksX1_strangers_4 4 rfl rfl)
theorem dX1_strangers_100 : decode cX1_strangers 100 = .ok (.iload 5, 2) := dk_21 5 (dk_at dksX1_strangers_4 7 rfl rfl)
theorem dX1_strangers_102 : decode cX1_strangers 102 = .ok (.iaload, 1) := dk_46 (dk_at dksX1_strangers_4 9 rfl rfl)
theorem dX1_strangers_103 : decode cX1_strangers 103 = .ok (.if_icmp .eq 21, 3) := dk_159 0 21 (dk_at dksX1_strangers_4 10 rfl rfl)
theorem dX1_strangers_106 : decode cX1_strangers 106 = .ok (.iload 6, 2) := dk_21 6 (dk_at dksX1_strangers_4 13 rfl rfl)
theorem dX1_strangers_108 : decode cX1_strangers 108 = .ok (.iload_n 1, 1) := dk_27 (dk_at dksX1_strangers_4 15 rfl rfl)
theorem dX1_strangers_109 : decode cX1_strangers 109 = .ok (.if_icmp .lt 6, 3) := dk_161 0 6 (dk_at dksX1_strangers_4 16 rfl rfl)
theorem dX1_strangers_112 : decode cX1_strangers 112 = .ok (.goto 12, 3) := dk_167 0 12 (dk_at dksX1_strangers_4 19 rfl rfl)
theorem dX1_strangers_115 : decode cX1_strangers 115 = .ok (.iload 6, 2) := dk_21 6 (dk_at dksX1_strangers_4 22 rfl rfl)
theorem dX1_strangers_117 : decode cX1_strangers 117 = .ok (.istore_n 1, 1) := dk_60 (dk_at dksX1_strangers_5 0 rfl rfl)
theorem dX1_strangers_118 : decode cX1_strangers 118 = .ok (.iload 4, 2) := dk_21 4 (dk_at dksX1_strangers_5 1 rfl rfl)
theorem dX1_strangers_120 : decode cX1_strangers 120 = .ok (.istore_n 2, 1) := dk_61 (dk_at dksX1_strangers_5 3 rfl rfl)
theorem dX1_strangers_121 : decode cX1_strangers 121 = .ok (.iload 5, 2) := dk_21 5 (dk_at dksX1_strangers_5 4 rfl rfl)
theorem dX1_strangers_123 : decode cX1_strangers 123 = .ok (.istore_n 3, 1) := dk_62 (dk_at dksX1_strangers_5 6 rfl rfl)
theorem dX1_strangers_124 : decode cX1_strangers 124 = .ok (.iinc 5 1, 3) := dk_132 5 1 (dk_at dksX1_strangers_5 7 rfl rfl)
theorem dX1_strangers_127 : decode cX1_strangers 127 = .ok (.goto (-101), 3) := dk_167 255 155 (dk_at dksX1_strangers_5 10 rfl rfl)
theorem dX1_strangers_130 : decode cX1_strangers 130 = .ok (.iinc 4 1, 3) := dk_132 4 1 (dk_at dksX1_strangers_5 13 rfl rfl)
theorem dX1_strangers_133 : decode cX1_strangers 133 = .ok (.goto (-122), 3) := dk_167 255 134 (dk_at dksX1_strangers_5 16 rfl rfl)
theorem dX1_strangers_136 : decode cX1_strangers 136 = .ok (.iload_n 1, 1) := dk_27 (dk_at dksX1_strangers_5 19 rfl rfl)
theorem dX1_strangers_137 : decode cX1_strangers 137 = .ok (.ldc_w 427, 3) := dk_19 1 171 (dk_at dksX1_strangers_5 20 rfl rfl)
theorem dX1_strangers_140 : decode cX1_strangers 140 = .ok (.if_icmp .ne 6, 3) := dk_160 0 6 (dk_at dksX1_strangers_6 0 rfl rfl)
theorem dX1_strangers_143 : decode cX1_strangers 143 = .ok (.bipush (-2), 2) := dk_16 254 (dk_at dksX1_strangers_6 3 rfl rfl)
theorem dX1_strangers_145 : decode cX1_strangers 145 = .ok (.ireturn, 1) := dk_172 (dk_at dksX1_strangers_6 5 rfl rfl)
theorem dX1_strangers_146 : decode cX1_strangers 146 = .ok (.aload_n 0, 1) := dk_42 (dk_at dksX1_strangers_6 6 rfl rfl)
theorem dX1_strangers_147 : decode cX1_strangers 147 = .ok (.iconst 0, 1) := dk_3 (dk_at dksX1_strangers_6 7 rfl rfl)
theorem dX1_strangers_148 : decode cX1_strangers 148 = .ok (.putfield 95, 3) := dk_181 0 95 (dk_at dksX1_strangers_6 8 rfl rfl)
theorem dX1_strangers_151 : decode cX1_strangers 151 = .ok (.aload_n 0, 1) := dk_42 (dk_at dksX1_strangers_6 11 rfl rfl)
theorem dX1_strangers_152 : decode cX1_strangers 152 = .ok (.iload_n 2, 1) := dk_28 (dk_at dksX1_strangers_6 12 rfl rfl)
theorem dX1_strangers_153 : decode cX1_strangers 153 = .ok (.i2l, 1) := dk_133 (dk_at dksX1_strangers_6 13 rfl rfl)
theorem dX1_strangers_154 : decode cX1_strangers 154 = .ok (.invokevirtual 291, 3) := dk_182 1 35 (dk_at dksX1_strangers_6 14 rfl rfl)
theorem dX1_strangers_157 : decode cX1_strangers 157 = .ok (.aload_n 0, 1) := dk_42 (dk_at dksX1_strangers_6 17 rfl rfl)
theorem dX1_strangers_158 : decode cX1_strangers 158 = .ok (.iload_n 3, 1) := dk_29 (dk_at dksX1_strangers_6 18 rfl rfl)
theorem dX1_strangers_159 : decode cX1_strangers 159 = .ok (.i2l, 1) := dk_133 (dk_at dksX1_strangers_6 19 rfl rfl)
theorem dX1_strangers_160 : decode cX1_strangers 160 = .ok (.invokevirtual 291, 3) := dk_182 1 35 (dk_at dksX1_strangers_6 20 rfl rfl)
theorem dX1_strangers_163 : decode cX1_strangers 163 = .ok (.iload_n 1, 1) := dk_27 (dk_at dksX1_strangers_6 23 rfl rfl)
theorem dX1_strangers_164 : decode cX1_strangers 164 = .ok (.ireturn, 1) := dk_172 (dk_at dksX1_strangers_7 0 rfl rfl)
abbrev cX1_doubts : ByteArray := prog_1_method_57_code
def yX1_doubts : MethodName := ⟨RX1, "doubts", "()I"⟩
def dkwX1_doubts_5 : List UInt8 := [167, 255, 147, 42, 3, 181, 0, 95, 42, 27, 184, 1, 121, 133, 182, 1, 35, 27, 172]
abbrev dktX1_doubts_5 : List UInt8 := dkwX1_doubts_5 ++ []
def dkwX1_doubts_4 : List UInt8 := [182, 1, 159, 160, 0, 9, 4, 28, 120, 167, 0, 4, 3, 128, 60, 132, 4, 1, 167, 255, 194, 132, 2, 1]
abbrev dktX1_doubts_4 : List UInt8 := dkwX1_doubts_4 ++ dktX1_doubts_5
def dkwX1_doubts_3 : List UInt8 := [182, 0, 236, 153, 0, 31, 42, 180, 0, 33, 28, 21, 4, 182, 1, 159, 42, 180, 0, 33, 28, 29]
abbrev dktX1_doubts_3 : List UInt8 := dkwX1_doubts_3 ++ dktX1_doubts_4
def dkwX1_doubts_2 : List UInt8 := [21, 4, 42, 180, 0, 98, 162, 0, 59, 27, 21, 4, 29, 159, 0, 43, 42, 180, 0, 33, 21, 4]
abbrev dktX1_doubts_2 : List UInt8 := dkwX1_doubts_2 ++ dktX1_doubts_3
def dkwX1_doubts_1 : List UInt8 := [180, 0, 33, 180, 0, 203, 28, 46, 2, 160, 0, 79, 29, 2, 160, 0, 6, 167, 0, 71, 3, 54, 4]
abbrev dktX1_doubts_1 : List UInt8 := dkwX1_doubts_1 ++ dktX1_doubts_2
def dkwX1_doubts_0 : List UInt8 := [3, 60, 3, 61, 28, 42, 180, 0, 105, 162, 0, 107, 42, 180, 0, 33, 28, 182, 0, 254, 62, 42]
abbrev dktX1_doubts_0 : List UInt8 := dkwX1_doubts_0 ++ dktX1_doubts_1
theorem dksX1_doubts_0 : cX1_doubts.data.toList.drop 0 = dktX1_doubts_0 := by decide +kernel
theorem dksX1_doubts_1 : cX1_doubts.data.toList.drop 22 = dktX1_doubts_1 := dk_seg dksX1_doubts_0 22 rfl rfl
theorem dksX1_doubts_2 : cX1_doubts.data.toList.drop 45 = dktX1_doubts_2 := dk_seg dksX1_doubts_1 23 rfl rfl
theorem dksX1_doubts_3 : cX1_doubts.data.toList.drop 67 = dktX1_doubts_3 := dk_seg dksX1_doubts_2 22 rfl rfl
theorem dksX1_doubts_4 : cX1_doubts.data.toList.drop 89 = dktX1_doubts_4 := dk_seg dksX1_doubts_3 22 rfl rfl
theorem dksX1_doubts_5 : cX1_doubts.data.toList.drop 113 = dktX1_doubts_5 := dk_seg dksX1_doubts_4 24 rfl rfl
theorem dX1_doubts_0 : decode cX1_doubts 0 = .ok (.iconst 0, 1) := dk_3 (dk_at dksX1_doubts_0 0 rfl rfl)
theorem dX1_doubts_1 : decode cX1_doubts 1 = .ok (.istore_n 1, 1) := dk_60 (dk_at dksX1_doubts_0 1 rfl rfl)
theorem dX1_doubts_2 : decode cX1_doubts 2 = .ok (.iconst 0, 1) := dk_3 (dk_at dksX1_doubts_0 2 rfl rfl)
theorem dX1_doubts_3 : decode cX1_doubts 3 = .ok (.istore_n 2, 1) := dk_61 (dk_at dksX1_doubts_0 3 rfl rfl)
theorem dX1_doubts_4 : decode cX1_doubts 4 = .ok (.iload_n 2, 1) := dk_28 (dk_at dksX1_doubts_0 4 rfl rfl)
theorem dX1_doubts_5 : decode cX1_doubts 5 = .ok (.aload_n 0, 1) := dk_42 (dk_at dksX1_doubts_0 5 rfl rfl)
theorem dX1_doubts_6 : decode cX1_doubts 6 = .ok (.getfield 105, 3) := dk_180 0 105 (dk_at dksX1_doubts_0 6 rfl rfl)
theorem dX1_doubts_9 : decode cX1_doubts 9 = .ok (.if_icmp .ge 107, 3) := dk_162 0 107 (dk_at dksX1_doubts_0 9 rfl rfl)
theorem dX1_doubts_12 : decode cX1_doubts 12 = .ok (.aload_n 0, 1) := dk_42 (dk_at dksX1_doubts_0 12 rfl rfl)
theorem dX1_doubts_13 : decode cX1_doubts 13 = .ok (.getfield 33, 3) := dk_180 0 33 (dk_at dksX1_doubts_0 13 rfl rfl)
theorem dX1_doubts_16 : decode cX1_doubts 16 = .ok (.iload_n 2, 1) := dk_28 (dk_at dksX1_doubts_0 16 rfl rfl)
theorem dX1_doubts_17 : decode cX1_doubts 17 = .ok (.invokevirtual 254, 3) := dk_182 0 254 (dk_at dksX1_doubts_0 17 rfl rfl)
theorem dX1_doubts_20 : decode cX1_doubts 20 = .ok (.istore_n 3, 1) := dk_62 (dk_at dksX1_doubts_0 20 rfl rfl)
theorem dX1_doubts_21 : decode cX1_doubts 21 = .ok (.aload_n 0, 1) := dk_42 (dk_at dksX1_doubts_0 21 rfl rfl)
theorem dX1_doubts_22 : decode cX1_doubts 22 = .ok (.getfield 33, 3) := dk_180 0 33 (dk_at dksX1_doubts_1 0 rfl rfl)
theorem dX1_doubts_25 : decode cX1_doubts 25 = .ok (.getfield 203, 3) := dk_180 0 203 (dk_at dksX1_doubts_1 3 rfl rfl)
theorem dX1_doubts_28 : decode cX1_doubts 28 = .ok (.iload_n 2, 1) := dk_28 (dk_at dksX1_doubts_1 6 rfl rfl)
theorem dX1_doubts_29 : decode cX1_doubts 29 = .ok (.iaload, 1) := dk_46 (dk_at dksX1_doubts_1 7 rfl rfl)
theorem dX1_doubts_30 : decode cX1_doubts 30 = .ok (.iconst (-1), 1) := dk_2 (dk_at dksX1_doubts_1 8 rfl rfl)
theorem dX1_doubts_31 : decode cX1_doubts 31 = .ok (.if_icmp .ne 79, 3) := dk_160 0 79 (dk_at dksX1_doubts_1 9 rfl rfl)
theorem dX1_doubts_34 : decode cX1_doubts 34 = .ok (.iload_n 3, 1) := dk_29 (dk_at dksX1_doubts_1 12 rfl rfl)
theorem dX1_doubts_35 : decode cX1_doubts 35 = .ok (.iconst (-1), 1) := dk_2 (dk_at dksX1_doubts_1 13 rfl rfl)
theorem dX1_doubts_36 : decode cX1_doubts 36 = .ok (.if_icmp .ne 6, 3) := dk_160 0 6 (dk_at dksX1_doubts_1 14 rfl rfl)
theorem dX1_doubts_39 : decode cX1_doubts 39 = .ok (.goto 71, 3) := dk_167 0 71 (dk_at dksX1_doubts_1 17 rfl rfl)
theorem dX1_doubts_42 : decode cX1_doubts 42 = .ok (.iconst 0, 1) := dk_3 (dk_at dksX1_doubts_1 20 rfl rfl)
theorem dX1_doubts_43 : decode cX1_doubts 43 = .ok (.istore 4, 2) := dk_54 4 (dk_at dksX1_doubts_1 21 rfl rfl)
theorem dX1_doubts_45 : decode cX1_doubts 45 = .ok (.iload 4, 2) := dk_21 4 (dk_at dksX1_doubts_2 0 rfl rfl)
theorem dX1_doubts_47 : decode cX1_doubts 47 = .ok (.aload_n 0, 1) := dk_42 (dk_at dksX1_doubts_2 2 rfl rfl)
theorem dX1_doubts_48 : decode cX1_doubts 48 = .ok (.getfield 98, 3) := dk_180 0 98 (dk_at dksX1_doubts_2 3 rfl rfl)
theorem dX1_doubts_51 : decode cX1_doubts 51 = .ok (.if_icmp .ge 59, 3) := dk_162 0 59 (dk_at dksX1_doubts_2 6 rfl rfl)
theorem dX1_doubts_54 : decode cX1_doubts 54 = .ok (.iload_n 1, 1) := dk_27 (dk_at dksX1_doubts_2 9 rfl rfl)
theorem dX1_doubts_55 : decode cX1_doubts 55 = .ok (.iload 4, 2) := dk_21 4 (dk_at dksX1_doubts_2 10 rfl rfl)
theorem dX1_doubts_57 : decode cX1_doubts 57 = .ok (.iload_n 3, 1) := dk_29 (dk_at dksX1_doubts_2 12 rfl rfl)
theorem dX1_doubts_58 : decode cX1_doubts 58 = .ok (.if_icmp .eq 43, 3) := dk_159 0 43 (dk_at dksX1_doubts_2 13 rfl rfl)
theorem dX1_doubts_61 : decode cX1_doubts 61 = .ok (.aload_n 0, 1) := dk_42 (dk_at dksX1_doubts_2 16 rfl rfl)
theorem dX1_doubts_62 : decode cX1_doubts 62 = .ok (.getfield 33, 3) := dk_180 0 33 (dk_at dksX1_doubts_2 17 rfl rfl)
theorem dX1_doubts_65 : decode cX1_doubts 65 = .ok (.iload 4, 2) := dk_21 4 (dk_at dksX1_doubts_2 20 rfl rfl)
theorem dX1_doubts_67 : decode cX1_doubts 67 = .ok (.invokevirtual 236, 3) := dk_182 0 236 (dk_at dksX1_doubts_3 0 rfl rfl)
theorem dX1_doubts_70 : decode cX1_doubts 70 = .ok (.ifCond .eq 31, 3) := dk_153 0 31 (dk_at dksX1_doubts_3 3 rfl rfl)
theorem dX1_doubts_73 : decode cX1_doubts 73 = .ok (.aload_n 0, 1) := dk_42 (dk_at dksX1_doubts_3 6 rfl rfl)
theorem dX1_doubts_74 : decode cX1_doubts 74 = .ok (.getfield 33, 3) := dk_180 0 33 (dk_at dksX1_doubts_3 7 rfl rfl)
theorem dX1_doubts_77 : decode cX1_doubts 77 = .ok (.iload_n 2, 1) := dk_28 (dk_at dksX1_doubts_3 10 rfl rfl)
theorem dX1_doubts_78 : decode cX1_doubts 78 = .ok (.iload 4, 2) := dk_21 4 (dk_at dksX1_doubts_3 11 rfl rfl)
theorem dX1_doubts_80 : decode cX1_doubts 80 = .ok (.invokevirtual 415, 3) := dk_182 1 159 (dk_at dksX1_doubts_3 13 rfl rfl)
theorem dX1_doubts_83 : decode cX1_doubts 83 = .ok (.aload_n 0, 1) := dk_42 (dk_at dksX1_doubts_3 16 rfl rfl)
theorem dX1_doubts_84 : decode cX1_doubts 84 = .ok (.getfield 33, 3) := dk_180 0 33 (dk_at dksX1_doubts_3 17 rfl rfl)
theorem dX1_doubts_87 : decode cX1_doubts 87 = .ok (.iload_n 2, 1) := dk_28 (dk_at dksX1_doubts_3 20 rfl rfl)
theorem dX1_doubts_88 : decode cX1_doubts 88 = .ok (.iload_n 3, 1) := dk_29 (dk_at dksX1_doubts_3 21 rfl rfl)
theorem dX1_doubts_89 : decode cX1_doubts 89 = .ok (.invokevirtual 415, 3) := dk_182 1 159 (dk_at dksX1_doubts_4 0 rfl rfl)
theorem dX1_doubts_92 : decode cX1_doubts 92 = .ok (.if_icmp .ne 9, 3) := dk_160 0 9 (dk_at dksX1_doubts_4 3 rfl rfl)
theorem dX1_doubts_95 : decode cX1_doubts 95 = .ok (.iconst 1, 1) := dk_4 (dk_at dksX1_doubts_4 6 rfl rfl)
theorem dX1_doubts_96 : decode cX1_doubts 96 = .ok (.iload_n 2, 1) := dk_28 (dk_at dksX1_doubts_4 7 rfl rfl)
theorem dX1_doubts_97 : decode cX1_doubts 97 = .ok (.ishl, 1) := dk_120 (dk_at dksX1_doubts_4 8 rfl rfl)
theorem dX1_doubts_98 : decode cX1_doubts 98 = .ok (.goto 4, 3) := dk_167 0 4 (dk_at dksX1_doubts_4 9 rfl rfl)
theorem dX1_doubts_101 : decode cX1_doubts 101 = .ok (.iconst 0, 1) := dk_3 (dk_at dksX1_doubts_4 12 rfl rfl)
theorem dX1_doubts_102 : decode cX1_doubts 102 = .ok (.ior, 1) := dk_128 (dk_at dksX1_doubts_4 13 rfl rfl)
theorem dX1_doubts_103 : decode cX1_doubts 103 = .ok (.istore_n 1, 1) := dk_60 (dk_at dksX1_doubts_4 14 rfl rfl)
theorem dX1_doubts_104 : decode cX1_doubts 104 = .ok (.iinc 4 1, 3) := dk_132 4 1 (dk_at dksX1_doubts_4 15 rfl rfl)
theorem dX1_doubts_107 : decode cX1_doubts 107 = .ok (.goto (-62), 3) := dk_167 255 194 (dk_at dksX1_doubts_4 18 rfl rfl)
theorem dX1_doubts_110 : decode cX1_doubts 110 = .ok (.iinc 2 1, 3) := dk_132 2 1 (dk_at dksX1_doubts_4 21 rfl rfl)
theorem dX1_doubts_113 : decode cX1_doubts 113 = .ok (.goto (-109), 3) := dk_167 255 147 (dk_at dksX1_doubts_5 0 rfl rfl)
theorem dX1_doubts_116 : decode cX1_doubts 116 = .ok (.aload_n 0, 1) := dk_42 (dk_at dksX1_doubts_5 3 rfl rfl)
theorem dX1_doubts_117 : decode cX1_doubts 117 = .ok (.iconst 0, 1) := dk_3 (dk_at dksX1_doubts_5 4 rfl rfl)
theorem dX1_doubts_118 : decode cX1_doubts 118 = .ok (.putfield 95, 3) := dk_181 0 95 (dk_at dksX1_doubts_5 5 rfl rfl)
theorem dX1_doubts_121 : decode cX1_doubts 121 = .ok (.aload_n 0, 1) := dk_42 (dk_at dksX1_doubts_5 8 rfl rfl)
theorem dX1_doubts_122 : decode cX1_doubts 122 = .ok (.iload_n 1, 1) := dk_27 (dk_at dksX1_doubts_5 9 rfl rfl)
theorem dX1_doubts_123 : decode cX1_doubts 123 = .ok (.invokestatic 377, 3) := dk_184 1 121 (dk_at dksX1_doubts_5 10 rfl rfl)
theorem dX1_doubts_126 : decode cX1_doubts 126 = .ok (.i2l, 1) := dk_133 (dk_at dksX1_doubts_5 13 rfl rfl)
theorem dX1_doubts_127 : decode cX1_doubts 127 = .ok (.invokevirtual 291, 3) := dk_182 1 35 (dk_at dksX1_doubts_5 14 rfl rfl)
theorem dX1_doubts_130 : decode cX1_doubts 130 = .ok (.iload_n 1, 1) := dk_27 (dk_at dksX1_doubts_5 17 rfl rfl)
theorem dX1_doubts_131 : decode cX1_doubts 131 = .ok (.ireturn, 1) := dk_172 (dk_at dksX1_doubts_5 18 rfl rfl)
abbrev cX1_heard : ByteArray := prog_1_method_58_code
def yX1_heard : MethodName := ⟨RX1, "heard", "(II)I"⟩
def dkwX1_heard_4 : List UInt8 := [181, 1, 172, 42, 180, 1, 172, 172]
abbrev dktX1_heard_4 : List UInt8 := dkwX1_heard_4 ++ []
def dkwX1_heard_3 : List UInt8 := [180, 1, 172, 27, 79, 42, 180, 0, 86, 42, 180, 1, 172, 28, 79, 42, 89, 180, 1, 172, 4, 96]
abbrev dktX1_heard_3 : List UInt8 := dkwX1_heard_3 ++ dktX1_heard_4
def dkwX1_heard_2 : List UInt8 := [184, 0, 101, 153, 0, 12, 42, 180, 1, 172, 16, 8, 160, 0, 5, 2, 172, 42, 180, 0, 83, 42]
abbrev dktX1_heard_2 : List UInt8 := dkwX1_heard_2 ++ dktX1_heard_3
def dkwX1_heard_1 : List UInt8 := [9, 20, 1, 4, 184, 0, 101, 153, 0, 32, 28, 133, 27, 4, 160, 0, 7, 10, 167, 0, 4, 9, 29, 133]
abbrev dktX1_heard_1 : List UInt8 := dkwX1_heard_1 ++ dktX1_heard_2
def dkwX1_heard_0 : List UInt8 := [27, 4, 160, 0, 8, 16, 6, 167, 0, 14, 27, 6, 160, 0, 7, 4, 167, 0, 5, 16, 8, 62, 27, 133]
abbrev dktX1_heard_0 : List UInt8 := dkwX1_heard_0 ++ dktX1_heard_1
theorem dksX1_heard_0 : cX1_heard.data.toList.drop 0 = dktX1_heard_0 := by decide +kernel
theorem dksX1_heard_1 : cX1_heard.data.toList.drop 24 = dktX1_heard_1 := dk_seg dksX1_heard_0 24 rfl rfl
theorem dksX1_heard_2 : cX1_heard.data.toList.drop 48 = dktX1_heard_2 := dk_seg dksX1_heard_1 24 rfl rfl
theorem dksX1_heard_3 : cX1_heard.data.toList.drop 70 = dktX1_heard_3 := dk_seg dksX1_heard_2 22 rfl rfl
theorem dksX1_heard_4 : cX1_heard.data.toList.drop 92 = dktX1_heard_4 := dk_seg dksX1_heard_3 22 rfl rfl
theorem dX1_heard_0 : decode cX1_heard 0 = .ok (.iload_n 1, 1) := dk_27 (dk_at dksX1_heard_0 0 rfl rfl)
theorem dX1_heard_1 : decode cX1_heard 1 = .ok (.iconst 1, 1) := dk_4 (dk_at dksX1_heard_0 1 rfl rfl)
theorem dX1_heard_2 : decode cX1_heard 2 = .ok (.if_icmp .ne 8, 3) := dk_160 0 8 (dk_at dksX1_heard_0 2 rfl rfl)
theorem dX1_heard_5 : decode cX1_heard 5 = .ok (.bipush 6, 2) := dk_16 6 (dk_at dksX1_heard_0 5 rfl rfl)
theorem dX1_heard_7 : decode cX1_heard 7 = .ok (.goto 14, 3) := dk_167 0 14 (dk_at dksX1_heard_0 7 rfl rfl)
theorem dX1_heard_10 : decode cX1_heard 10 = .ok (.iload_n 1, 1) := dk_27 (dk_at dksX1_heard_0 10 rfl rfl)
theorem dX1_heard_11 : decode cX1_heard 11 = .ok (.iconst 3, 1) := dk_6 (dk_at dksX1_heard_0 11 rfl rfl)
theorem dX1_heard_12 : decode cX1_heard 12 = .ok (.if_icmp .ne 7, 3) := dk_160 0 7 (dk_at dksX1_heard_0 12 rfl rfl)
theorem dX1_heard_15 : decode cX1_heard 15 = .ok (.iconst 1, 1) := dk_4 (dk_at dksX1_heard_0 15 rfl rfl)
theorem dX1_heard_16 : decode cX1_heard 16 = .ok (.goto 5, 3) := dk_167 0 5 (dk_at dksX1_heard_0 16 rfl rfl)
theorem dX1_heard_19 : decode cX1_heard 19 = .ok (.bipush 8, 2) := dk_16 8 (dk_at dksX1_heard_0 19 rfl rfl)
theorem dX1_heard_21 : decode cX1_heard 21 = .ok (.istore_n 3, 1) := dk_62 (dk_at dksX1_heard_0 21 rfl rfl)
theorem dX1_heard_22 : decode cX1_heard 22 = .ok (.iload_n 1, 1) := dk_27 (dk_at dksX1_heard_0 22 rfl rfl)
theorem dX1_heard_23 : decode cX1_heard 23 = .ok (.i2l, 1) := dk_133 (dk_at dksX1_heard_0 23 rfl rfl)
theorem dX1_heard_24 : decode cX1_heard 24 = .ok (.lconst 0, 1) := dk_9 (dk_at dksX1_heard_1 0 rfl rfl)
theorem dX1_heard_25 : decode cX1_heard 25 = .ok (.ldc2_w 260, 3) := dk_20 1 4 (dk_at dksX1_heard_1 1 rfl rfl)
theorem dX1_heard_28 : decode cX1_heard 28 = .ok (.invokestatic 101, 3) := dk_184 0 101 (dk_at dksX1_heard_1 4 rfl rfl)
theorem dX1_heard_31 : decode cX1_heard 31 = .ok (.ifCond .eq 32, 3) := dk_153 0 32 (dk_at dksX1_heard_1 7 rfl rfl)
theorem dX1_heard_34 : decode cX1_heard 34 = .ok (.iload_n 2, 1) := dk_28 (dk_at dksX1_heard_1 10 rfl rfl)
theorem dX1_heard_35 : decode cX1_heard 35 = .ok (.i2l, 1) := dk_133 (dk_at dksX1_heard_1 11 rfl rfl)
theorem dX1_heard_36 : decode cX1_heard 36 = .ok (.iload_n 1, 1) := dk_27 (dk_at dksX1_heard_1 12 rfl rfl)
theorem dX1_heard_37 : decode cX1_heard 37 = .ok (.iconst 1, 1) := dk_4 (dk_at dksX1_heard_1 13 rfl rfl)
theorem dX1_heard_38 : decode cX1_heard 38 = .ok (.if_icmp .ne 7, 3) := dk_160 0 7 (dk_at dksX1_heard_1 14 rfl rfl)
theorem dX1_heard_41 : decode cX1_heard 41 = .ok (.lconst 1, 1) := dk_10 (dk_at dksX1_heard_1 17 rfl rfl)
theorem dX1_heard_42 : decode cX1_heard 42 = .ok (.goto 4, 3) := dk_167 0 4 (dk_at dksX1_heard_1 18 rfl rfl)
theorem dX1_heard_45 : decode cX1_heard 45 = .ok (.lconst 0, 1) := dk_9 (dk_at dksX1_heard_1 21 rfl rfl)
theorem dX1_heard_46 : decode cX1_heard 46 = .ok (.iload_n 3, 1) := dk_29 (dk_at dksX1_heard_1 22 rfl rfl)
theorem dX1_heard_47 : decode cX1_heard 47 = .ok (.i2l, 1) := dk_133 (dk_at dksX1_heard_1 23 rfl rfl)
theorem dX1_heard_48 : decode cX1_heard 48 = .ok (.invokestatic 101, 3) := dk_184 0 101 (dk_at dksX1_heard_2 0 rfl rfl)
theorem dX1_heard_51 : decode cX1_heard 51 = .ok (.ifCond .eq 12, 3) := dk_153 0 12 (dk_at dksX1_heard_2 3 rfl rfl)
theorem dX1_heard_54 : decode cX1_heard 54 = .ok (.aload_n 0, 1) := dk_42 (dk_at dksX1_heard_2 6 rfl rfl)
theorem dX1_heard_55 : decode cX1_heard 55 = .ok (.getfield 428, 3) := dk_180 1 172 (dk_at dksX1_heard_2 7 rfl rfl)
theorem dX1_heard_58 : decode cX1_heard 58 = .ok (.bipush 8, 2) := dk_16 8 (dk_at dksX1_heard_2 10 rfl rfl)
theorem dX1_heard_60 : decode cX1_heard 60 = .ok (.if_icmp .ne 5, 3) := dk_160 0 5 (dk_at dksX1_heard_2 12 rfl rfl)
theorem dX1_heard_63 : decode cX1_heard 63 = .ok (.iconst (-1), 1) := dk_2 (dk_at dksX1_heard_2 15 rfl rfl)
theorem dX1_heard_64 : decode cX1_heard 64 = .ok (.ireturn, 1) := dk_172 (dk_at dksX1_heard_2 16 rfl rfl)
theorem dX1_heard_65 : decode cX1_heard 65 = .ok (.aload_n 0, 1) := dk_42 (dk_at dksX1_heard_2 17 rfl rfl)
theorem dX1_heard_66 : decode cX1_heard 66 = .ok (.getfield 83, 3) := dk_180 0 83 (dk_at dksX1_heard_2 18 rfl rfl)
theorem dX1_heard_69 : decode cX1_heard 69 = .ok (.aload_n 0, 1) := dk_42 (dk_at dksX1_heard_2 21 rfl rfl)
theorem dX1_heard_70 : decode cX1_heard 70 = .ok (.getfield 428, 3) := dk_180 1 172 (dk_at dksX1_heard_3 0 rfl rfl)
theorem dX1_heard_73 : decode cX1_heard 73 = .ok (.iload_n 1, 1) := dk_27 (dk_at dksX1_heard_3 3 rfl rfl)
theorem dX1_heard_74 : decode cX1_heard 74 = .ok (.iastore, 1) := dk_79 (dk_at dksX1_heard_3 4 rfl rfl)
theorem dX1_heard_75 : decode cX1_heard 75 = .ok (.aload_n 0, 1) := dk_42 (dk_at dksX1_heard_3 5 rfl rfl)
theorem dX1_heard_76 : decode cX1_heard 76 = .ok (.getfield 86, 3) := dk_180 0 86 (dk_at dksX1_heard_3 6 rfl rfl)
theorem dX1_heard_79 : decode cX1_heard 79 = .ok (.aload_n 0, 1) := dk_42 (dk_at dksX1_heard_3 9 rfl rfl)
theorem dX1_heard_80 : decode cX1_heard 80 = .ok (.getfield 428, 3) := dk_180 1 172 (dk_at dksX1_heard_3 10 rfl rfl)
theorem dX1_heard_83 : decode cX1_heard 83 = .ok (.iload_n 2, 1) := dk_28 (dk_at dksX1_heard_3 13 rfl rfl)
theorem dX1_heard_84 : decode cX1_heard 84 = .ok (.iastore, 1) := dk_79 (dk_at dksX1_heard_3 14 rfl rfl)
theorem dX1_heard_85 : decode cX1_heard 85 = .ok (.aload_n 0, 1) := dk_42 (dk_at dksX1_heard_3 15 rfl rfl)
theorem dX1_heard_86 : decode cX1_heard 86 = .ok (.dup, 1) := dk_89 (dk_at dksX1_heard_3 16 rfl rfl)
theorem dX1_heard_87 : decode cX1_heard 87 = .ok (.getfield 428, 3) := dk_180 1 172 (dk_at dksX1_heard_3 17 rfl rfl)
theorem dX1_heard_90 : decode cX1_heard 90 = .ok (.iconst 1, 1) := dk_4 (dk_at dksX1_heard_3 20 rfl rfl)
theorem dX1_heard_91 : decode cX1_heard 91 = .ok (.iadd, 1) := dk_96 (dk_at dksX1_heard_3 21 rfl rfl)
theorem dX1_heard_92 : decode cX1_heard 92 = .ok (.putfield 428, 3) := dk_181 1 172 (dk_at dksX1_heard_4 0 rfl rfl)
theorem dX1_heard_95 : decode cX1_heard 95 = .ok (.aload_n 0, 1) := dk_42 (dk_at dksX1_heard_4 3 rfl rfl)
theorem dX1_heard_96 : decode cX1_heard 96 = .ok (.getfield 428, 3) := dk_180 1 172 (dk_at dksX1_heard_4 4 rfl rfl)
theorem dX1_heard_99 : decode cX1_heard 99 = .ok (.ireturn, 1) := dk_172 (dk_at dksX1_heard_4 7 rfl rfl)
abbrev cX1_forget : ByteArray := prog_1_method_59_code
def yX1_forget : MethodName := ⟨RX1, "forget", "()I"⟩
def dkwX1_forget_0 : List UInt8 := [42, 180, 1, 172, 60, 42, 3, 181, 1, 172, 27, 172]
abbrev dktX1_forget_0 : List UInt8 := dkwX1_forget_0 ++ []
theorem dksX1_forget_0 : cX1_forget.data.toList.drop 0 = dktX1_forget_0 := by decide +kernel
theorem dX1_forget_0 : decode cX1_forget 0 = .ok (.aload_n 0, 1) := dk_42 (dk_at dksX1_forget_0 0 rfl rfl)
theorem dX1_forget_1 : decode cX1_forget 1 = .ok (.getfield 428, 3) := dk_180 1 172 (dk_at dksX1_forget_0 1 rfl rfl)
theorem dX1_forget_4 : decode cX1_forget 4 = .ok (.istore_n 1, 1) := dk_60 (dk_at dksX1_forget_0 4 rfl rfl)
theorem dX1_forget_5 : decode cX1_forget 5 = .ok (.aload_n 0, 1) := dk_42 (dk_at dksX1_forget_0 5 rfl rfl)
theorem dX1_forget_6 : decode cX1_forget 6 = .ok (.iconst 0, 1) := dk_3 (dk_at dksX1_forget_0 6 rfl rfl)
theorem dX1_forget_7 : decode cX1_forget 7 = .ok (.putfield 428, 3) := dk_181 1 172 (dk_at dksX1_forget_0 7 rfl rfl)
theorem dX1_forget_10 : decode cX1_forget 10 = .ok (.iload_n 1, 1) := dk_27 (dk_at dksX1_forget_0 10 rfl rfl)
theorem dX1_forget_11 : decode cX1_forget 11 = .ok (.ireturn, 1) := dk_172 (dk_at dksX1_forget_0 11 rfl rfl)
abbrev cX1_fits : ByteArray := prog_1_method_61_code
def yX1_fits : MethodName := ⟨RX1, "fits", "()I"⟩
def dkwX1_fits_4 : List UInt8 := [184, 1, 121, 133, 182, 1, 35, 28, 172]
abbrev dktX1_fits_4 : List UInt8 := dkwX1_fits_4 ++ []
def dkwX1_fits_3 : List UInt8 := [4, 29, 120, 167, 0, 4, 3, 128, 61, 132, 3, 1, 167, 255, 184, 42, 3, 181, 0, 95, 42, 28]
abbrev dktX1_fits_3 : List UInt8 := dkwX1_fits_3 ++ dktX1_fits_4
def dkwX1_fits_2 : List UInt8 := [180, 0, 86, 21, 5, 46, 182, 1, 175, 126, 54, 4, 132, 5, 1, 167, 255, 219, 28, 21, 4, 153, 0, 9]
abbrev dktX1_fits_2 : List UInt8 := dkwX1_fits_2 ++ dktX1_fits_3
def dkwX1_fits_1 : List UInt8 := [54, 5, 21, 5, 42, 180, 1, 172, 162, 0, 34, 21, 4, 42, 43, 29, 42, 180, 0, 83, 21, 5, 46, 42]
abbrev dktX1_fits_1 : List UInt8 := dkwX1_fits_1 ++ dktX1_fits_2
def dkwX1_fits_0 : List UInt8 := [42, 180, 0, 60, 182, 1, 109, 76, 3, 61, 3, 62, 29, 42, 180, 0, 98, 162, 0, 70, 4, 54, 4, 3]
abbrev dktX1_fits_0 : List UInt8 := dkwX1_fits_0 ++ dktX1_fits_1
theorem dksX1_fits_0 : cX1_fits.data.toList.drop 0 = dktX1_fits_0 := by decide +kernel
theorem dksX1_fits_1 : cX1_fits.data.toList.drop 24 = dktX1_fits_1 := dk_seg dksX1_fits_0 24 rfl rfl
theorem dksX1_fits_2 : cX1_fits.data.toList.drop 48 = dktX1_fits_2 := dk_seg dksX1_fits_1 24 rfl rfl
theorem dksX1_fits_3 : cX1_fits.data.toList.drop 72 = dktX1_fits_3 := dk_seg dksX1_fits_2 24 rfl rfl
theorem dksX1_fits_4 : cX1_fits.data.toList.drop 94 = dktX1_fits_4 := dk_seg dksX1_fits_3 22 rfl rfl
theorem dX1_fits_0 : decode cX1_fits 0 = .ok (.aload_n 0, 1) := dk_42 (dk_at dksX1_fits_0 0 rfl rfl)
theorem dX1_fits_1 : decode cX1_fits 1 = .ok (.getfield 60, 3) := dk_180 0 60 (dk_at dksX1_fits_0 1 rfl rfl)
theorem dX1_fits_4 : decode cX1_fits 4 = .ok (.invokevirtual 365, 3) := dk_182 1 109 (dk_at dksX1_fits_0 4 rfl rfl)
theorem dX1_fits_7 : decode cX1_fits 7 = .ok (.astore_n 1, 1) := dk_76 (dk_at dksX1_fits_0 7 rfl rfl)
theorem dX1_fits_8 : decode cX1_fits 8 = .ok (.iconst 0, 1) := dk_3 (dk_at dksX1_fits_0 8 rfl rfl)
theorem dX1_fits_9 : decode cX1_fits 9 = .ok (.istore_n 2, 1) := dk_61 (dk_at dksX1_fits_0 9 rfl rfl)
theorem dX1_fits_10 : decode cX1_fits 10 = .ok (.iconst 0, 1) := dk_3 (dk_at dksX1_fits_0 10 rfl rfl)
theorem dX1_fits_11 : decode cX1_fits 11 = .ok (.istore_n 3, 1) := dk_62 (dk_at dksX1_fits_0 11 rfl rfl)
theorem dX1_fits_12 : decode cX1_fits 12 = .ok (.iload_n 3, 1) := dk_29 (dk_at dksX1_fits_0 12 rfl rfl)
theorem dX1_fits_13 : decode cX1_fits 13 = .ok (.aload_n 0, 1) := dk_42 (dk_at dksX1_fits_0 13 rfl rfl)
theorem dX1_fits_14 : decode cX1_fits 14 = .ok (.getfield 98, 3) := dk_180 0 98 (dk_at dksX1_fits_0 14 rfl rfl)
theorem dX1_fits_17 : decode cX1_fits 17 = .ok (.if_icmp .ge 70, 3) := dk_162 0 70 (dk_at dksX1_fits_0 17 rfl rfl)
theorem dX1_fits_20 : decode cX1_fits 20 = .ok (.iconst 1, 1) := dk_4 (dk_at dksX1_fits_0 20 rfl rfl)
theorem dX1_fits_21 : decode cX1_fits 21 = .ok (.istore 4, 2) := dk_54 4 (dk_at dksX1_fits_0 21 rfl rfl)
theorem dX1_fits_23 : decode cX1_fits 23 = .ok (.iconst 0, 1) := dk_3 (dk_at dksX1_fits_0 23 rfl rfl)
theorem dX1_fits_24 : decode cX1_fits 24 = .ok (.istore 5, 2) := dk_54 5 (dk_at dksX1_fits_1 0 rfl rfl)
theorem dX1_fits_26 : decode cX1_fits 26 = .ok (.iload 5, 2) := dk_21 5 (dk_at dksX1_fits_1 2 rfl rfl)
theorem dX1_fits_28 : decode cX1_fits 28 = .ok (.aload_n 0, 1) := dk_42 (dk_at dksX1_fits_1 4 rfl rfl)
theorem dX1_fits_29 : decode cX1_fits 29 = .ok (.getfield 428, 3) := dk_180 1 172 (dk_at dksX1_fits_1 5 rfl rfl)
theorem dX1_fits_32 : decode cX1_fits 32 = .ok (.if_icmp .ge 34, 3) := dk_162 0 34 (dk_at dksX1_fits_1 8 rfl rfl)
theorem dX1_fits_35 : decode cX1_fits 35 = .ok (.iload 4, 2) := dk_21 4 (dk_at dksX1_fits_1 11 rfl rfl)
theorem dX1_fits_37 : decode cX1_fits 37 = .ok (.aload_n 0, 1) := dk_42 (dk_at dksX1_fits_1 13 rfl rfl)
theorem dX1_fits_38 : decode cX1_fits 38 = .ok (.aload_n 1, 1) := dk_43 (dk_at dksX1_fits_1 14 rfl rfl)
theorem dX1_fits_39 : decode cX1_fits 39 = .ok (.iload_n 3, 1) := dk_29 (dk_at dksX1_fits_1 15 rfl rfl)
theorem dX1_fits_40 : decode cX1_fits 40 = .ok (.aload_n 0, 1) := dk_42 (dk_at dksX1_fits_1 16 rfl rfl)
theorem dX1_fits_41 : decode cX1_fits 41 = .ok (.getfield 83, 3) := dk_180 0 83 (dk_at dksX1_fits_1 17 rfl rfl)
theorem dX1_fits_44 : decode cX1_fits 44 = .ok (.iload 5, 2) := dk_21 5 (dk_at dksX1_fits_1 20 rfl rfl)
theorem dX1_fits_46 : decode cX1_fits 46 = .ok (.iaload, 1) := dk_46 (dk_at dksX1_fits_1 22 rfl rfl)
theorem dX1_fits_47 : decode cX1_fits 47 = .ok (.aload_n 0, 1) := dk_42 (dk_at dksX1_fits_1 23 rfl rfl)
theorem dX1_fits_48 : decode cX1_fits 48 = .ok (.getfield 86, 3) := dk_180 0 86 (dk_at dksX1_fits_2 0 rfl rfl)
theorem dX1_fits_51 : decode cX1_fits 51 = .ok (.iload 5, 2) := dk_21 5 (dk_at dksX1_fits_2 3 rfl rfl)
theorem dX1_fits_53 : decode cX1_fits 53 = .ok (.iaload, 1) := dk_46 (dk_at dksX1_fits_2 5 rfl rfl)
theorem dX1_fits_54 : decode cX1_fits 54 = .ok (.invokevirtual 431, 3) := dk_182 1 175 (dk_at dksX1_fits_2 6 rfl rfl)
theorem dX1_fits_57 : decode cX1_fits 57 = .ok (.iand, 1) := dk_126 (dk_at dksX1_fits_2 9 rfl rfl)
theorem dX1_fits_58 : decode cX1_fits 58 = .ok (.istore 4, 2) := dk_54 4 (dk_at dksX1_fits_2 10 rfl rfl)
theorem dX1_fits_60 : decode cX1_fits 60 = .ok (.iinc 5 1, 3) := dk_132 5 1 (dk_at dksX1_fits_2 12 rfl rfl)
theorem dX1_fits_63 : decode cX1_fits 63 = .ok (.goto (-37), 3) := dk_167 255 219 (dk_at dksX1_fits_2 15 rfl rfl)
theorem dX1_fits_66 : decode cX1_fits 66 = .ok (.iload_n 2, 1) := dk_28 (dk_at dksX1_fits_2 18 rfl rfl)
theorem dX1_fits_67 : decode cX1_fits 67 = .ok (.iload 4, 2) := dk_21 4 (dk_at dksX1_fits_2 19 rfl rfl)
theorem dX1_fits_69 : decode cX1_fits 69 = .ok (.ifCond .eq 9, 3) := dk_153 0 9 (dk_at dksX1_fits_2 21 rfl rfl)
theorem dX1_fits_72 : decode cX1_fits 72 = .ok (.iconst 1, 1) := dk_4 (dk_at dksX1_fits_3 0 rfl rfl)
theorem dX1_fits_73 : decode cX1_fits 73 = .ok (.iload_n 3, 1) := dk_29 (dk_at dksX1_fits_3 1 rfl rfl)
theorem dX1_fits_74 : decode cX1_fits 74 = .ok (.ishl, 1) := dk_120 (dk_at dksX1_fits_3 2 rfl rfl)
theorem dX1_fits_75 : decode cX1_fits 75 = .ok (.goto 4, 3) := dk_167 0 4 (dk_at dksX1_fits_3 3 rfl rfl)
theorem dX1_fits_78 : decode cX1_fits 78 = .ok (.iconst 0, 1) := dk_3 (dk_at dksX1_fits_3 6 rfl rfl)
theorem dX1_fits_79 : decode cX1_fits 79 = .ok (.ior, 1) := dk_128 (dk_at dksX1_fits_3 7 rfl rfl)
theorem dX1_fits_80 : decode cX1_fits 80 = .ok (.istore_n 2, 1) := dk_61 (dk_at dksX1_fits_3 8 rfl rfl)
theorem dX1_fits_81 : decode cX1_fits 81 = .ok (.iinc 3 1, 3) := dk_132 3 1 (dk_at dksX1_fits_3 9 rfl rfl)
theorem dX1_fits_84 : decode cX1_fits 84 = .ok (.goto (-72), 3) := dk_167 255 184 (dk_at dksX1_fits_3 12 rfl rfl)
theorem dX1_fits_87 : decode cX1_fits 87 = .ok (.aload_n 0, 1) := dk_42 (dk_at dksX1_fits_3 15 rfl rfl)
theorem dX1_fits_88 : decode cX1_fits 88 = .ok (.iconst 0, 1) := dk_3 (dk_at dksX1_fits_3 16 rfl rfl)
theorem dX1_fits_89 : decode cX1_fits 89 = .ok (.putfield 95, 3) := dk_181 0 95 (dk_at dksX1_fits_3 17 rfl rfl)
theorem dX1_fits_92 : decode cX1_fits 92 = .ok (.aload_n 0, 1) := dk_42 (dk_at dksX1_fits_3 20 rfl rfl)
theorem dX1_fits_93 : decode cX1_fits 93 = .ok (.iload_n 2, 1) := dk_28 (dk_at dksX1_fits_3 21 rfl rfl)
theorem dX1_fits_94 : decode cX1_fits 94 = .ok (.invokestatic 377, 3) := dk_184 1 121 (dk_at dksX1_fits_4 0 rfl rfl)
theorem dX1_fits_97 : decode cX1_fits 97 = .ok (.i2l, 1) := dk_133 (dk_at dksX1_fits_4 3 rfl rfl)
theorem dX1_fits_98 : decode cX1_fits 98 = .ok (.invokevirtual 291, 3) := dk_182 1 35 (dk_at dksX1_fits_4 4 rfl rfl)
theorem dX1_fits_101 : decode cX1_fits 101 = .ok (.iload_n 2, 1) := dk_28 (dk_at dksX1_fits_4 7 rfl rfl)
theorem dX1_fits_102 : decode cX1_fits 102 = .ok (.ireturn, 1) := dk_172 (dk_at dksX1_fits_4 8 rfl rfl)
abbrev cX1_fitsTo : ByteArray := prog_1_method_60_code
def yX1_fitsTo : MethodName := ⟨RX1, "fitsTo", "(LBehindAnotherHearse$Street;III)Z"⟩
def dkwX1_fitsTo_5 : List UInt8 := [160, 0, 7, 4, 167, 0, 4, 3, 172]
abbrev dktX1_fitsTo_5 : List UInt8 := dkwX1_fitsTo_5 ++ []
def dkwX1_fitsTo_4 : List UInt8 := [182, 0, 245, 184, 1, 121, 21, 4, 161, 0, 7, 4, 167, 0, 4, 3, 172, 28, 5, 112, 21, 4]
abbrev dktX1_fitsTo_4 : List UInt8 := dkwX1_fitsTo_4 ++ dktX1_fitsTo_5
def dkwX1_fitsTo_3 : List UInt8 := [154, 0, 18, 43, 180, 0, 188, 28, 46, 21, 4, 160, 0, 7, 4, 167, 0, 4, 3, 172, 43, 28]
abbrev dktX1_fitsTo_3 : List UInt8 := dkwX1_fitsTo_3 ++ dktX1_fitsTo_4
def dkwX1_fitsTo_2 : List UInt8 := [42, 28, 182, 0, 248, 184, 1, 121, 21, 4, 161, 0, 7, 4, 167, 0, 4, 3, 172, 43, 28, 182, 0, 236]
abbrev dktX1_fitsTo_2 : List UInt8 := dkwX1_fitsTo_2 ++ dktX1_fitsTo_3
def dkwX1_fitsTo_1 : List UInt8 := [170, 0, 0, 0, 0, 0, 90, 0, 0, 0, 0, 0, 0, 0, 2, 0, 0, 0, 27, 0, 0, 0, 46, 0, 0, 0, 71]
abbrev dktX1_fitsTo_1 : List UInt8 := dkwX1_fitsTo_1 ++ dktX1_fitsTo_2
def dkwX1_fitsTo_0 : List UInt8 := [29]
abbrev dktX1_fitsTo_0 : List UInt8 := dkwX1_fitsTo_0 ++ dktX1_fitsTo_1
theorem dksX1_fitsTo_0 : cX1_fitsTo.data.toList.drop 0 = dktX1_fitsTo_0 := by decide +kernel
theorem dksX1_fitsTo_1 : cX1_fitsTo.data.toList.drop 1 = dktX1_fitsTo_1 := dk_seg dksX1_fitsTo_0 1 rfl rfl
theorem dksX1_fitsTo_2 : cX1_fitsTo.data.toList.drop 28 = dktX1_fitsTo_2 := dk_seg dksX1_fitsTo_1 27 rfl rfl
theorem dksX1_fitsTo_3 : cX1_fitsTo.data.toList.drop 52 = dktX1_fitsTo_3 := dk_seg dksX1_fitsTo_2 24 rfl rfl
theorem dksX1_fitsTo_4 : cX1_fitsTo.data.toList.drop 74 = dktX1_fitsTo_4 := dk_seg dksX1_fitsTo_3 22 rfl rfl
theorem dksX1_fitsTo_5 : cX1_fitsTo.data.toList.drop 96 = dktX1_fitsTo_5 := dk_seg dksX1_fitsTo_4 22 rfl rfl
theorem dX1_fitsTo_0 : decode cX1_fitsTo 0 = .ok (.iload_n 3, 1) := dk_29 (dk_at dksX1_fitsTo_0 0 rfl rfl)
theorem dX1_fitsTo_1 : decode cX1_fitsTo 1 = .ok (.tableswitch 90 0 2 #[27, 46, 71], 27) := by decide +kernel
theorem dX1_fitsTo_28 : decode cX1_fitsTo 28 = .ok (.aload_n 0, 1) := dk_42 (dk_at dksX1_fitsTo_2 0 rfl rfl)
theorem dX1_fitsTo_29 : decode cX1_fitsTo 29 = .ok (.iload_n 2, 1) := dk_28 (dk_at dksX1_fitsTo_2 1 rfl rfl)
theorem dX1_fitsTo_30 : decode cX1_fitsTo 30 = .ok (.invokevirtual 248, 3) := dk_182 0 248 (dk_at dksX1_fitsTo_2 2 rfl rfl)
theorem dX1_fitsTo_33 : decode cX1_fitsTo 33 = .ok (.invokestatic 377, 3) := dk_184 1 121 (dk_at dksX1_fitsTo_2 5 rfl rfl)
theorem dX1_fitsTo_36 : decode cX1_fitsTo 36 = .ok (.iload 4, 2) := dk_21 4 (dk_at dksX1_fitsTo_2 8 rfl rfl)
theorem dX1_fitsTo_38 : decode cX1_fitsTo 38 = .ok (.if_icmp .lt 7, 3) := dk_161 0 7 (dk_at dksX1_fitsTo_2 10 rfl rfl)
theorem dX1_fitsTo_41 : decode cX1_fitsTo 41 = .ok (.iconst 1, 1) := dk_4 (dk_at dksX1_fitsTo_2 13 rfl rfl)
theorem dX1_fitsTo_42 : decode cX1_fitsTo 42 = .ok (.goto 4, 3) := dk_167 0 4 (dk_at dksX1_fitsTo_2 14 rfl rfl)
theorem dX1_fitsTo_45 : decode cX1_fitsTo 45 = .ok (.iconst 0, 1) := dk_3 (dk_at dksX1_fitsTo_2 17 rfl rfl)
theorem dX1_fitsTo_46 : decode cX1_fitsTo 46 = .ok (.ireturn, 1) := dk_172 (dk_at dksX1_fitsTo_2 18 rfl rfl)
theorem dX1_fitsTo_47 : decode cX1_fitsTo 47 = .ok (.aload_n 1, 1) := dk_43 (dk_at dksX1_fitsTo_2 19 rfl rfl)
theorem dX1_fitsTo_48 : decode cX1_fitsTo 48 = .ok (.iload_n 2, 1) := dk_28 (dk_at dksX1_fitsTo_2 20 rfl rfl)
theorem dX1_fitsTo_49 : decode cX1_fitsTo 49 = .ok (.invokevirtual 236, 3) := dk_182 0 236 (dk_at dksX1_fitsTo_2 21 rfl rfl)
theorem dX1_fitsTo_52 : decode cX1_fitsTo 52 = .ok (.ifCond .ne 18, 3) := dk_154 0 18 (dk_at dksX1_fitsTo_3 0 rfl rfl)
theorem dX1_fitsTo_55 : decode cX1_fitsTo 55 = .ok (.aload_n 1, 1) := dk_43 (dk_at dksX1_fitsTo_3 3 rfl rfl)
theorem dX1_fitsTo_56 : decode cX1_fitsTo 56 = .ok (.getfield 188, 3) := dk_180 0 188 (dk_at dksX1_fitsTo_3 4 rfl rfl)
theorem dX1_fitsTo_59 : decode cX1_fitsTo 59 = .ok (.iload_n 2, 1) := dk_28 (dk_at dksX1_fitsTo_3 7 rfl rfl)
theorem dX1_fitsTo_60 : decode cX1_fitsTo 60 = .ok (.iaload, 1) := dk_46 (dk_at dksX1_fitsTo_3 8 rfl rfl)
theorem dX1_fitsTo_61 : decode cX1_fitsTo 61 = .ok (.iload 4, 2) := dk_21 4 (dk_at dksX1_fitsTo_3 9 rfl rfl)
theorem dX1_fitsTo_63 : decode cX1_fitsTo 63 = .ok (.if_icmp .ne 7, 3) := dk_160 0 7 (dk_at dksX1_fitsTo_3 11 rfl rfl)
theorem dX1_fitsTo_66 : decode cX1_fitsTo 66 = .ok (.iconst 1, 1) := dk_4 (dk_at dksX1_fitsTo_3 14 rfl rfl)
theorem dX1_fitsTo_67 : decode cX1_fitsTo 67 = .ok (.goto 4, 3) := dk_167 0 4 (dk_at dksX1_fitsTo_3 15 rfl rfl)
theorem dX1_fitsTo_70 : decode cX1_fitsTo 70 = .ok (.iconst 0, 1) := dk_3 (dk_at dksX1_fitsTo_3 18 rfl rfl)
theorem dX1_fitsTo_71 : decode cX1_fitsTo 71 = .ok (.ireturn, 1) := dk_172 (dk_at dksX1_fitsTo_3 19 rfl rfl)
theorem dX1_fitsTo_72 : decode cX1_fitsTo 72 = .ok (.aload_n 1, 1) := dk_43 (dk_at dksX1_fitsTo_3 20 rfl rfl)
theorem dX1_fitsTo_73 : decode cX1_fitsTo 73 = .ok (.iload_n 2, 1) := dk_28 (dk_at dksX1_fitsTo_3 21 rfl rfl)
theorem dX1_fitsTo_74 : decode cX1_fitsTo 74 = .ok (.invokevirtual 245, 3) := dk_182 0 245 (dk_at dksX1_fitsTo_4 0 rfl rfl)
theorem dX1_fitsTo_77 : decode cX1_fitsTo 77 = .ok (.invokestatic 377, 3) := dk_184 1 121 (dk_at dksX1_fitsTo_4 3 rfl rfl)
theorem dX1_fitsTo_80 : decode cX1_fitsTo 80 = .ok (.iload 4, 2) := dk_21 4 (dk_at dksX1_fitsTo_4 6 rfl rfl)
theorem dX1_fitsTo_82 : decode cX1_fitsTo 82 = .ok (.if_icmp .lt 7, 3) := dk_161 0 7 (dk_at dksX1_fitsTo_4 8 rfl rfl)
theorem dX1_fitsTo_85 : decode cX1_fitsTo 85 = .ok (.iconst 1, 1) := dk_4 (dk_at dksX1_fitsTo_4 11 rfl rfl)
theorem dX1_fitsTo_86 : decode cX1_fitsTo 86 = .ok (.goto 4, 3) := dk_167 0 4 (dk_at dksX1_fitsTo_4 12 rfl rfl)
theorem dX1_fitsTo_89 : decode cX1_fitsTo 89 = .ok (.iconst 0, 1) := dk_3 (dk_at dksX1_fitsTo_4 15 rfl rfl)
theorem dX1_fitsTo_90 : decode cX1_fitsTo 90 = .ok (.ireturn, 1) := dk_172 (dk_at dksX1_fitsTo_4 16 rfl rfl)
theorem dX1_fitsTo_91 : decode cX1_fitsTo 91 = .ok (.iload_n 2, 1) := dk_28 (dk_at dksX1_fitsTo_4 17 rfl rfl)
theorem dX1_fitsTo_92 : decode cX1_fitsTo 92 = .ok (.iconst 2, 1) := dk_5 (dk_at dksX1_fitsTo_4 18 rfl rfl)
theorem dX1_fitsTo_93 : decode cX1_fitsTo 93 = .ok (.irem, 1) := dk_112 (dk_at dksX1_fitsTo_4 19 rfl rfl)
theorem dX1_fitsTo_94 : decode cX1_fitsTo 94 = .ok (.iload 4, 2) := dk_21 4 (dk_at dksX1_fitsTo_4 20 rfl rfl)
theorem dX1_fitsTo_96 : decode cX1_fitsTo 96 = .ok (.if_icmp .ne 7, 3) := dk_160 0 7 (dk_at dksX1_fitsTo_5 0 rfl rfl)
theorem dX1_fitsTo_99 : decode cX1_fitsTo 99 = .ok (.iconst 1, 1) := dk_4 (dk_at dksX1_fitsTo_5 3 rfl rfl)
theorem dX1_fitsTo_100 : decode cX1_fitsTo 100 = .ok (.goto 4, 3) := dk_167 0 4 (dk_at dksX1_fitsTo_5 4 rfl rfl)
theorem dX1_fitsTo_103 : decode cX1_fitsTo 103 = .ok (.iconst 0, 1) := dk_3 (dk_at dksX1_fitsTo_5 7 rfl rfl)
theorem dX1_fitsTo_104 : decode cX1_fitsTo 104 = .ok (.ireturn, 1) := dk_172 (dk_at dksX1_fitsTo_5 8 rfl rfl)
abbrev cX1_rains : ByteArray := prog_1_method_64_code
def yX1_rains : MethodName := ⟨RX1, "rains", "(III)I"⟩
def dkwX1_rains_6 : List UInt8 := [181, 0, 95, 42, 22, 4, 22, 10, 109, 182, 1, 35, 42, 22, 8, 22, 10, 109, 182, 1, 35, 3, 172]
abbrev dktX1_rains_6 : List UInt8 := dkwX1_rains_6 ++ []
def dkwX1_rains_5 : List UInt8 := [167, 255, 184, 20, 1, 185, 27, 184, 1, 187, 55, 8, 22, 4, 22, 8, 184, 1, 179, 55, 10, 42, 3]
abbrev dktX1_rains_5 : List UInt8 := dkwX1_rains_5 ++ dktX1_rains_6
def dkwX1_rains_4 : List UInt8 := [97, 55, 4, 22, 6, 27, 4, 100, 21, 8, 100, 133, 105, 21, 8, 4, 96, 133, 109, 55, 6, 132, 8, 1]
abbrev dktX1_rains_4 : List UInt8 := dkwX1_rains_4 ++ dktX1_rains_5
def dkwX1_rains_3 : List UInt8 := [184, 1, 187, 105, 20, 1, 185, 29, 133, 101, 27, 4, 100, 21, 8, 100, 184, 1, 187, 105, 167, 0, 4, 9]
abbrev dktX1_rains_3 : List UInt8 := dkwX1_rains_3 ++ dktX1_rains_4
def dkwX1_rains_2 : List UInt8 := [21, 8, 27, 162, 0, 72, 22, 4, 21, 8, 4, 96, 28, 161, 0, 34, 22, 6, 29, 133, 21, 8, 4, 96]
abbrev dktX1_rains_2 : List UInt8 := dkwX1_rains_2 ++ dktX1_rains_3
def dkwX1_rains_1 : List UInt8 := [29, 133, 9, 20, 1, 185, 184, 0, 101, 154, 0, 5, 2, 172, 9, 55, 4, 10, 55, 6, 3, 54, 8]
abbrev dktX1_rains_1 : List UInt8 := dkwX1_rains_1 ++ dktX1_rains_2
def dkwX1_rains_0 : List UInt8 := [27, 133, 10, 20, 1, 183, 184, 0, 101, 153, 0, 27, 28, 133, 9, 20, 1, 183, 184, 0, 101, 153, 0, 15]
abbrev dktX1_rains_0 : List UInt8 := dkwX1_rains_0 ++ dktX1_rains_1
theorem dksX1_rains_0 : cX1_rains.data.toList.drop 0 = dktX1_rains_0 := by decide +kernel
theorem dksX1_rains_1 : cX1_rains.data.toList.drop 24 = dktX1_rains_1 := dk_seg dksX1_rains_0 24 rfl rfl
theorem dksX1_rains_2 : cX1_rains.data.toList.drop 47 = dktX1_rains_2 := dk_seg dksX1_rains_1 23 rfl rfl
theorem dksX1_rains_3 : cX1_rains.data.toList.drop 71 = dktX1_rains_3 := dk_seg dksX1_rains_2 24 rfl rfl
theorem dksX1_rains_4 : cX1_rains.data.toList.drop 95 = dktX1_rains_4 := dk_seg dksX1_rains_3 24 rfl rfl
theorem dksX1_rains_5 : cX1_rains.data.toList.drop 119 = dktX1_rains_5 := dk_seg dksX1_rains_4 24 rfl rfl
theorem dksX1_rains_6 : cX1_rains.data.toList.drop 142 = dktX1_rains_6 := dk_seg dksX1_rains_5 23 rfl rfl
theorem dX1_rains_0 : decode cX1_rains 0 = .ok (.iload_n 1, 1) := dk_27 (dk_at dksX1_rains_0 0 rfl rfl)
theorem dX1_rains_1 : decode cX1_rains 1 = .ok (.i2l, 1) := dk_133 (dk_at dksX1_rains_0 1 rfl rfl)
theorem dX1_rains_2 : decode cX1_rains 2 = .ok (.lconst 1, 1) := dk_10 (dk_at dksX1_rains_0 2 rfl rfl)
theorem dX1_rains_3 : decode cX1_rains 3 = .ok (.ldc2_w 439, 3) := dk_20 1 183 (dk_at dksX1_rains_0 3 rfl rfl)
theorem dX1_rains_6 : decode cX1_rains 6 = .ok (.invokestatic 101, 3) := dk_184 0 101 (dk_at dksX1_rains_0 6 rfl rfl)
theorem dX1_rains_9 : decode cX1_rains 9 = .ok (.ifCond .eq 27, 3) := dk_153 0 27 (dk_at dksX1_rains_0 9 rfl rfl)
theorem dX1_rains_12 : decode cX1_rains 12 = .ok (.iload_n 2, 1) := dk_28 (dk_at dksX1_rains_0 12 rfl rfl)
theorem dX1_rains_13 : decode cX1_rains 13 = .ok (.i2l, 1) := dk_133 (dk_at dksX1_rains_0 13 rfl rfl)
theorem dX1_rains_14 : decode cX1_rains 14 = .ok (.lconst 0, 1) := dk_9 (dk_at dksX1_rains_0 14 rfl rfl)
theorem dX1_rains_15 : decode cX1_rains 15 = .ok (.ldc2_w 439, 3) := dk_20 1 183 (dk_at dksX1_rains_0 15 rfl rfl)
theorem dX1_rains_18 : decode cX1_rains 18 = .ok (.invokestatic 101, 3) := dk_184 0 101 (dk_at dksX1_rains_0 18 rfl rfl)
theorem dX1_rains_21 : decode cX1_rains 21 = .ok (.ifCond .eq 15, 3) := dk_153 0 15 (dk_at dksX1_rains_0 21 rfl rfl)
theorem dX1_rains_24 : decode cX1_rains 24 = .ok (.iload_n 3, 1) := dk_29 (dk_at dksX1_rains_1 0 rfl rfl)
theorem dX1_rains_25 : decode cX1_rains 25 = .ok (.i2l, 1) := dk_133 (dk_at dksX1_rains_1 1 rfl rfl)
theorem dX1_rains_26 : decode cX1_rains 26 = .ok (.lconst 0, 1) := dk_9 (dk_at dksX1_rains_1 2 rfl rfl)
theorem dX1_rains_27 : decode cX1_rains 27 = .ok (.ldc2_w 441, 3) := dk_20 1 185 (dk_at dksX1_rains_1 3 rfl rfl)
theorem dX1_rains_30 : decode cX1_rains 30 = .ok (.invokestatic 101, 3) := dk_184 0 101 (dk_at dksX1_rains_1 6 rfl rfl)
theorem dX1_rains_33 : decode cX1_rains 33 = .ok (.ifCond .ne 5, 3) := dk_154 0 5 (dk_at dksX1_rains_1 9 rfl rfl)
theorem dX1_rains_36 : decode cX1_rains 36 = .ok (.iconst (-1), 1) := dk_2 (dk_at dksX1_rains_1 12 rfl rfl)
theorem dX1_rains_37 : decode cX1_rains 37 = .ok (.ireturn, 1) := dk_172 (dk_at dksX1_rains_1 13 rfl rfl)
theorem dX1_rains_38 : decode cX1_rains 38 = .ok (.lconst 0, 1) := dk_9 (dk_at dksX1_rains_1 14 rfl rfl)
theorem dX1_rains_39 : decode cX1_rains 39 = .ok (.lstore 4, 2) := dk_55 4 (dk_at dksX1_rains_1 15 rfl rfl)
theorem dX1_rains_41 : decode cX1_rains 41 = .ok (.lconst 1, 1) := dk_10 (dk_at dksX1_rains_1 17 rfl rfl)
theorem dX1_rains_42 : decode cX1_rains 42 = .ok (.lstore 6, 2) := dk_55 6 (dk_at dksX1_rains_1 18 rfl rfl)
theorem dX1_rains_44 : decode cX1_rains 44 = .ok (.iconst 0, 1) := dk_3 (dk_at dksX1_rains_1 20 rfl rfl)
theorem dX1_rains_45 : decode cX1_rains 45 = .ok (.istore 8, 2) := dk_54 8 (dk_at dksX1_rains_1 21 rfl rfl)
theorem dX1_rains_47 : decode cX1_rains 47 = .ok (.iload 8, 2) := dk_21 8 (dk_at dksX1_rains_2 0 rfl rfl)
theorem dX1_rains_49 : decode cX1_rains 49 = .ok (.iload_n 1, 1) := dk_27 (dk_at dksX1_rains_2 2 rfl rfl)
theorem dX1_rains_50 : decode cX1_rains 50 = .ok (.if_icmp .ge 72, 3) := dk_162 0 72 (dk_at dksX1_rains_2 3 rfl rfl)
theorem dX1_rains_53 : decode cX1_rains 53 = .ok (.lload 4, 2) := dk_22 4 (dk_at dksX1_rains_2 6 rfl rfl)
theorem dX1_rains_55 : decode cX1_rains 55 = .ok (.iload 8, 2) := dk_21 8 (dk_at dksX1_rains_2 8 rfl rfl)
theorem dX1_rains_57 : decode cX1_rains 57 = .ok (.iconst 1, 1) := dk_4 (dk_at dksX1_rains_2 10 rfl rfl)
theorem dX1_rains_58 : decode cX1_rains 58 = .ok (.iadd, 1) := dk_96 (dk_at dksX1_rains_2 11 rfl rfl)
theorem dX1_rains_59 : decode cX1_rains 59 = .ok (.iload_n 2, 1) := dk_28 (dk_at dksX1_rains_2 12 rfl rfl)
theorem dX1_rains_60 : decode cX1_rains 60 = .ok (.if_icmp .lt 34, 3) := dk_161 0 34 (dk_at dksX1_rains_2 13 rfl rfl)
theorem dX1_rains_63 : decode cX1_rains 63 = .ok (.lload 6, 2) := dk_22 6 (dk_at dksX1_rains_2 16 rfl rfl)
theorem dX1_rains_65 : decode cX1_rains 65 = .ok (.iload_n 3, 1) := dk_29 (dk_at dksX1_rains_2 18 rfl rfl)
theorem dX1_rains_66 : decode cX1_rains 66 = .ok (.i2l, 1) := dk_133 (dk_at dksX1_rains_2 19 rfl rfl)
theorem dX1_rains_67 : decode cX1_rains 67 = .ok (.iload 8, 2) := dk_21 8 (dk_at dksX1_rains_2 20 rfl rfl)
theorem dX1_rains_69 : decode cX1_rains 69 = .ok (.iconst 1, 1) := dk_4 (dk_at dksX1_rains_2 22 rfl rfl)
theorem dX1_rains_70 : decode cX1_rains 70 = .ok (.iadd, 1) := dk_96 (dk_at dksX1_rains_2 23 rfl rfl)
theorem dX1_rains_71 : decode cX1_rains 71 = .ok (.invokestatic 443, 3) := dk_184 1 187 (dk_at dksX1_rains_3 0 rfl rfl)
theorem dX1_rains_74 : decode cX1_rains 74 = .ok (.lmul, 1) := dk_105 (dk_at dksX1_rains_3 3 rfl rfl)
theorem dX1_rains_75 : decode cX1_rains 75 = .ok (.ldc2_w 441, 3) := dk_20 1 185 (dk_at dksX1_rains_3 4 rfl rfl)
theorem dX1_rains_78 : decode cX1_rains 78 = .ok (.iload_n 3, 1) := dk_29 (dk_at dksX1_rains_3 7 rfl rfl)
theorem dX1_rains_79 : decode cX1_rains 79 = .ok (.i2l, 1) := dk_133 (dk_at dksX1_rains_3 8 rfl rfl)
theorem dX1_rains_80 : decode cX1_rains 80 = .ok (.lsub, 1) := dk_101 (dk_at dksX1_rains_3 9 rfl rfl)
theorem dX1_rains_81 : decode cX1_rains 81 = .ok (.iload_n 1, 1) := dk_27 (dk_at dksX1_rains_3 10 rfl rfl)
theorem dX1_rains_82 : decode cX1_rains 82 = .ok (.iconst 1, 1) := dk_4 (dk_at dksX1_rains_3 11 rfl rfl)
theorem dX1_rains_83 : decode cX1_rains 83 = .ok (.isub, 1) := dk_100 (dk_at dksX1_rains_3 12 rfl rfl)
theorem dX1_rains_84 : decode cX1_rains 84 = .ok (.iload 8, 2) := dk_21 8 (dk_at dksX1_rains_3 13 rfl rfl)
theorem dX1_rains_86 : decode cX1_rains 86 = .ok (.isub, 1) := dk_100 (dk_at dksX1_rains_3 15 rfl rfl)
theorem dX1_rains_87 : decode cX1_rains 87 = .ok (.invokestatic 443, 3) := dk_184 1 187 (dk_at dksX1_rains_3 16 rfl rfl)
theorem dX1_rains_90 : decode cX1_rains 90 = .ok (.lmul, 1) := dk_105 (dk_at dksX1_rains_3 19 rfl rfl)
theorem dX1_rains_91 : decode cX1_rains 91 = .ok (.goto 4, 3) := dk_167 0 4 (dk_at dksX1_rains_3 20 rfl rfl)
theorem dX1_rains_94 : decode cX1_rains 94 = .ok (.lconst 0, 1) := dk_9 (dk_at dksX1_rains_3 23 rfl rfl)
theorem dX1_rains_95 : decode cX1_rains 95 = .ok (.ladd, 1) := dk_97 (dk_at dksX1_rains_4 0 rfl rfl)
theorem dX1_rains_96 : decode cX1_rains 96 = .ok (.lstore 4, 2) := dk_55 4 (dk_at dksX1_rains_4 1 rfl rfl)
theorem dX1_rains_98 : decode cX1_rains 98 = .ok (.lload 6, 2) := dk_22 6 (dk_at dksX1_rains_4 3 rfl rfl)
theorem dX1_rains_100 : decode cX1_rains 100 = .ok (.iload_n 1, 1) := dk_27 (dk_at dksX1_rains_4 5 rfl rfl)
theorem dX1_rains_101 : decode cX1_rains 101 = .ok (.iconst 1, 1) := dk_4 (dk_at dksX1_rains_4 6 rfl rfl)
theorem dX1_rains_102 : decode cX1_rains 102 = .ok (.isub, 1) := dk_100 (dk_at dksX1_rains_4 7 rfl rfl)
theorem dX1_rains_103 : decode cX1_rains 103 = .ok (.iload 8, 2) := dk_21 8 (dk_at dksX1_rains_4 8 rfl rfl)
theorem dX1_rains_105 : decode cX1_rains 105 = .ok (.isub, 1) := dk_100 (dk_at dksX1_rains_4 10 rfl rfl)
theorem dX1_rains_106 : decode cX1_rains 106 = .ok (.i2l, 1) := dk_133 (dk_at dksX1_rains_4 11 rfl rfl)
theorem dX1_rains_107 : decode cX1_rains 107 = .ok (.lmul, 1) := dk_105 (dk_at dksX1_rains_4 12 rfl rfl)
theorem dX1_rains_108 : decode cX1_rains 108 = .ok (.iload 8, 2) := dk_21 8 (dk_at dksX1_rains_4 13 rfl rfl)
theorem dX1_rains_110 : decode cX1_rains 110 = .ok (.iconst 1, 1) := dk_4 (dk_at dksX1_rains_4 15 rfl rfl)
theorem dX1_rains_111 : decode cX1_rains 111 = .ok (.iadd, 1) := dk_96 (dk_at dksX1_rains_4 16 rfl rfl)
theorem dX1_rains_112 : decode cX1_rains 112 = .ok (.i2l, 1) := dk_133 (dk_at dksX1_rains_4 17 rfl rfl)
theorem dX1_rains_113 : decode cX1_rains 113 = .ok (.ldiv, 1) := dk_109 (dk_at dksX1_rains_4 18 rfl rfl)
theorem dX1_rains_114 : decode cX1_rains 114 = .ok (.lstore 6, 2) := dk_55 6 (dk_at dksX1_rains_4 19 rfl rfl)
theorem dX1_rains_116 : decode cX1_rains 116 = .ok (.iinc 8 1, 3) := dk_132 8 1 (dk_at dksX1_rains_4 21 rfl rfl)
theorem dX1_rains_119 : decode cX1_rains 119 = .ok (.goto (-72), 3) := dk_167 255 184 (dk_at dksX1_rains_5 0 rfl rfl)
theorem dX1_rains_122 : decode cX1_rains 122 = .ok (.ldc2_w 441, 3) := dk_20 1 185 (dk_at dksX1_rains_5 3 rfl rfl)
theorem dX1_rains_125 : decode cX1_rains 125 = .ok (.iload_n 1, 1) := dk_27 (dk_at dksX1_rains_5 6 rfl rfl)
theorem dX1_rains_126 : decode cX1_rains 126 = .ok (.invokestatic 443, 3) := dk_184 1 187 (dk_at dksX1_rains_5 7 rfl rfl)
theorem dX1_rains_129 : decode cX1_rains 129 = .ok (.lstore 8, 2) := dk_55 8 (dk_at dksX1_rains_5 10 rfl rfl)
theorem dX1_rains_131 : decode cX1_rains 131 = .ok (.lload 4, 2) := dk_22 4 (dk_at dksX1_rains_5 12 rfl rfl)
theorem dX1_rains_133 : decode cX1_rains 133 = .ok (.lload 8, 2) := dk_22 8 (dk_at dksX1_rains_5 14 rfl rfl)
theorem dX1_rains_135 : decode cX1_rains 135 = .ok (.invokestatic 435, 3) := dk_184 1 179 (dk_at dksX1_rains_5 16 rfl rfl)
theorem dX1_rains_138 : decode cX1_rains 138 = .ok (.lstore 10, 2) := dk_55 10 (dk_at dksX1_rains_5 19 rfl rfl)
theorem dX1_rains_140 : decode cX1_rains 140 = .ok (.aload_n 0, 1) := dk_42 (dk_at dksX1_rains_5 21 rfl rfl)
theorem dX1_rains_141 : decode cX1_rains 141 = .ok (.iconst 0, 1) := dk_3 (dk_at dksX1_rains_5 22 rfl rfl)
theorem dX1_rains_142 : decode cX1_rains 142 = .ok (.putfield 95, 3) := dk_181 0 95 (dk_at dksX1_rains_6 0 rfl rfl)
theorem dX1_rains_145 : decode cX1_rains 145 = .ok (.aload_n 0, 1) := dk_42 (dk_at dksX1_rains_6 3 rfl rfl)
theorem dX1_rains_146 : decode cX1_rains 146 = .ok (.lload 4, 2) := dk_22 4 (dk_at dksX1_rains_6 4 rfl rfl)
theorem dX1_rains_148 : decode cX1_rains 148 = .ok (.lload 10, 2) := dk_22 10 (dk_at dksX1_rains_6 6 rfl rfl)
theorem dX1_rains_150 : decode cX1_rains 150 = .ok (.ldiv, 1) := dk_109 (dk_at dksX1_rains_6 8 rfl rfl)
theorem dX1_rains_151 : decode cX1_rains 151 = .ok (.invokevirtual 291, 3) := dk_182 1 35 (dk_at dksX1_rains_6 9 rfl rfl)
theorem dX1_rains_154 : decode cX1_rains 154 = .ok (.aload_n 0, 1) := dk_42 (dk_at dksX1_rains_6 12 rfl rfl)
theorem dX1_rains_155 : decode cX1_rains 155 = .ok (.lload 8, 2) := dk_22 8 (dk_at dksX1_rains_6 13 rfl rfl)
theorem dX1_rains_157 : decode cX1_rains 157 = .ok (.lload 10, 2) := dk_22 10 (dk_at dksX1_rains_6 15 rfl rfl)
theorem dX1_rains_159 : decode cX1_rains 159 = .ok (.ldiv, 1) := dk_109 (dk_at dksX1_rains_6 17 rfl rfl)
theorem dX1_rains_160 : decode cX1_rains 160 = .ok (.invokevirtual 291, 3) := dk_182 1 35 (dk_at dksX1_rains_6 18 rfl rfl)
theorem dX1_rains_163 : decode cX1_rains 163 = .ok (.iconst 0, 1) := dk_3 (dk_at dksX1_rains_6 21 rfl rfl)
theorem dX1_rains_164 : decode cX1_rains 164 = .ok (.ireturn, 1) := dk_172 (dk_at dksX1_rains_6 22 rfl rfl)
abbrev cX1_power : ByteArray := prog_1_method_63_code
def yX1_power : MethodName := ⟨RX1, "power", "(JI)J"⟩
def dkwX1_power_0 : List UInt8 := [10, 66, 3, 54, 5, 21, 5, 28, 162, 0, 13, 33, 30, 105, 66, 132, 5, 1, 167, 255, 243, 33, 173]
abbrev dktX1_power_0 : List UInt8 := dkwX1_power_0 ++ []
theorem dksX1_power_0 : cX1_power.data.toList.drop 0 = dktX1_power_0 := by decide +kernel
theorem dX1_power_0 : decode cX1_power 0 = .ok (.lconst 1, 1) := dk_10 (dk_at dksX1_power_0 0 rfl rfl)
theorem dX1_power_1 : decode cX1_power 1 = .ok (.lstore_n 3, 1) := dk_66 (dk_at dksX1_power_0 1 rfl rfl)
theorem dX1_power_2 : decode cX1_power 2 = .ok (.iconst 0, 1) := dk_3 (dk_at dksX1_power_0 2 rfl rfl)
theorem dX1_power_3 : decode cX1_power 3 = .ok (.istore 5, 2) := dk_54 5 (dk_at dksX1_power_0 3 rfl rfl)
theorem dX1_power_5 : decode cX1_power 5 = .ok (.iload 5, 2) := dk_21 5 (dk_at dksX1_power_0 5 rfl rfl)
theorem dX1_power_7 : decode cX1_power 7 = .ok (.iload_n 2, 1) := dk_28 (dk_at dksX1_power_0 7 rfl rfl)
theorem dX1_power_8 : decode cX1_power 8 = .ok (.if_icmp .ge 13, 3) := dk_162 0 13 (dk_at dksX1_power_0 8 rfl rfl)
theorem dX1_power_11 : decode cX1_power 11 = .ok (.lload_n 3, 1) := dk_33 (dk_at dksX1_power_0 11 rfl rfl)
theorem dX1_power_12 : decode cX1_power 12 = .ok (.lload_n 0, 1) := dk_30 (dk_at dksX1_power_0 12 rfl rfl)
theorem dX1_power_13 : decode cX1_power 13 = .ok (.lmul, 1) := dk_105 (dk_at dksX1_power_0 13 rfl rfl)
theorem dX1_power_14 : decode cX1_power 14 = .ok (.lstore_n 3, 1) := dk_66 (dk_at dksX1_power_0 14 rfl rfl)
theorem dX1_power_15 : decode cX1_power 15 = .ok (.iinc 5 1, 3) := dk_132 5 1 (dk_at dksX1_power_0 15 rfl rfl)
theorem dX1_power_18 : decode cX1_power 18 = .ok (.goto (-13), 3) := dk_167 255 243 (dk_at dksX1_power_0 18 rfl rfl)
theorem dX1_power_21 : decode cX1_power 21 = .ok (.lload_n 3, 1) := dk_33 (dk_at dksX1_power_0 21 rfl rfl)
theorem dX1_power_22 : decode cX1_power 22 = .ok (.lreturn, 1) := dk_173 (dk_at dksX1_power_0 22 rfl rfl)
abbrev cX1_common : ByteArray := prog_1_method_62_code
def yX1_common : MethodName := ⟨RX1, "common", "(JJ)J"⟩
def dkwX1_common_0 : List UInt8 := [32, 9, 148, 154, 0, 7, 30, 167, 0, 10, 32, 30, 32, 113, 184, 1, 179, 173]
abbrev dktX1_common_0 : List UInt8 := dkwX1_common_0 ++ []
theorem dksX1_common_0 : cX1_common.data.toList.drop 0 = dktX1_common_0 := by decide +kernel
theorem dX1_common_0 : decode cX1_common 0 = .ok (.lload_n 2, 1) := dk_32 (dk_at dksX1_common_0 0 rfl rfl)
theorem dX1_common_1 : decode cX1_common 1 = .ok (.lconst 0, 1) := dk_9 (dk_at dksX1_common_0 1 rfl rfl)
theorem dX1_common_2 : decode cX1_common 2 = .ok (.lcmp, 1) := dk_148 (dk_at dksX1_common_0 2 rfl rfl)
theorem dX1_common_3 : decode cX1_common 3 = .ok (.ifCond .ne 7, 3) := dk_154 0 7 (dk_at dksX1_common_0 3 rfl rfl)
theorem dX1_common_6 : decode cX1_common 6 = .ok (.lload_n 0, 1) := dk_30 (dk_at dksX1_common_0 6 rfl rfl)
theorem dX1_common_7 : decode cX1_common 7 = .ok (.goto 10, 3) := dk_167 0 10 (dk_at dksX1_common_0 7 rfl rfl)
theorem dX1_common_10 : decode cX1_common 10 = .ok (.lload_n 2, 1) := dk_32 (dk_at dksX1_common_0 10 rfl rfl)
theorem dX1_common_11 : decode cX1_common 11 = .ok (.lload_n 0, 1) := dk_30 (dk_at dksX1_common_0 11 rfl rfl)
theorem dX1_common_12 : decode cX1_common 12 = .ok (.lload_n 2, 1) := dk_32 (dk_at dksX1_common_0 12 rfl rfl)
theorem dX1_common_13 : decode cX1_common 13 = .ok (.lrem, 1) := dk_113 (dk_at dksX1_common_0 13 rfl rfl)
theorem dX1_common_14 : decode cX1_common 14 = .ok (.invokestatic 435, 3) := dk_184 1 179 (dk_at dksX1_common_0 14 rfl rfl)
theorem dX1_common_17 : decode cX1_common 17 = .ok (.lreturn, 1) := dk_173 (dk_at dksX1_common_0 17 rfl rfl)
abbrev cX1_law : ByteArray := prog_1_method_65_code
def yX1_law : MethodName := ⟨RX1, "law", "()I"⟩
def dkwX1_law_5 : List UInt8 := [182, 1, 35, 42, 21, 4, 133, 182, 1, 35, 21, 5, 21, 4, 100, 172]
abbrev dktX1_law_5 : List UInt8 := dkwX1_law_5 ++ []
def dkwX1_law_4 : List UInt8 := [21, 7, 172, 58, 8, 42, 43, 181, 0, 220, 25, 8, 191, 42, 3, 181, 0, 95, 42, 21, 5, 133]
abbrev dktX1_law_4 : List UInt8 := dkwX1_law_4 ++ dktX1_law_5
def dkwX1_law_3 : List UInt8 := [181, 0, 220, 167, 0, 34, 58, 6, 17, 216, 240, 25, 6, 180, 0, 141, 100, 54, 7, 42, 43, 181, 0, 220]
abbrev dktX1_law_3 : List UInt8 := dkwX1_law_3 ++ dktX1_law_4
def dkwX1_law_2 : List UInt8 := [89, 42, 44, 29, 183, 0, 226, 182, 0, 229, 181, 0, 220, 42, 180, 0, 60, 182, 1, 126, 54, 5, 42, 43]
abbrev dktX1_law_2 : List UInt8 := dkwX1_law_2 ++ dktX1_law_3
def dkwX1_law_1 : List UInt8 := [181, 0, 114, 42, 180, 0, 60, 182, 1, 126, 54, 4, 42, 29, 154, 0, 7, 1, 167, 0, 16, 187, 0, 224]
abbrev dktX1_law_1 : List UInt8 := dkwX1_law_1 ++ dktX1_law_2
def dkwX1_law_0 : List UInt8 := [42, 180, 0, 220, 76, 42, 180, 0, 50, 182, 0, 215, 192, 0, 216, 77, 42, 180, 0, 114, 62, 42, 3]
abbrev dktX1_law_0 : List UInt8 := dkwX1_law_0 ++ dktX1_law_1
theorem dksX1_law_0 : cX1_law.data.toList.drop 0 = dktX1_law_0 := by decide +kernel
theorem dksX1_law_1 : cX1_law.data.toList.drop 23 = dktX1_law_1 := dk_seg dksX1_law_0 23 rfl rfl
theorem dksX1_law_2 : cX1_law.data.toList.drop 47 = dktX1_law_2 := dk_seg dksX1_law_1 24 rfl rfl
theorem dksX1_law_3 : cX1_law.data.toList.drop 71 = dktX1_law_3 := dk_seg dksX1_law_2 24 rfl rfl
theorem dksX1_law_4 : cX1_law.data.toList.drop 95 = dktX1_law_4 := dk_seg dksX1_law_3 24 rfl rfl
theorem dksX1_law_5 : cX1_law.data.toList.drop 117 = dktX1_law_5 := dk_seg dksX1_law_4 22 rfl rfl
theorem dX1_law_0 : decode cX1_law 0 = .ok (.aload_n 0, 1) := dk_42 (dk_at dksX1_law_0 0 rfl rfl)
theorem dX1_law_1 : decode cX1_law 1 = .ok (.getfield 220, 3) := dk_180 0 220 (dk_at dksX1_law_0 1 rfl rfl)
theorem dX1_law_4 : decode cX1_law 4 = .ok (.astore_n 1, 1) := dk_76 (dk_at dksX1_law_0 4 rfl rfl)
theorem dX1_law_5 : decode cX1_law 5 = .ok (.aload_n 0, 1) := dk_42 (dk_at dksX1_law_0 5 rfl rfl)
theorem dX1_law_6 : decode cX1_law 6 = .ok (.getfield 50, 3) := dk_180 0 50 (dk_at dksX1_law_0 6 rfl rfl)
theorem dX1_law_9 : decode cX1_law 9 = .ok (.invokevirtual 215, 3) := dk_182 0 215 (dk_at dksX1_law_0 9 rfl rfl)
theorem dX1_law_12 : decode cX1_law 12 = .ok (.checkcast 216, 3) := dk_192 0 216 (dk_at dksX1_law_0 12 rfl rfl)
theorem dX1_law_15 : decode cX1_law 15 = .ok (.astore_n 2, 1) := dk_77 (dk_at dksX1_law_0 15 rfl rfl)
theorem dX1_law_16 : decode cX1_law 16 = .ok (.aload_n 0, 1) := dk_42 (dk_at dksX1_law_0 16 rfl rfl)
theorem dX1_law_17 : decode cX1_law 17 = .ok (.getfield 114, 3) := dk_180 0 114 (dk_at dksX1_law_0 17 rfl rfl)
theorem dX1_law_20 : decode cX1_law 20 = .ok (.istore_n 3, 1) := dk_62 (dk_at dksX1_law_0 20 rfl rfl)
theorem dX1_law_21 : decode cX1_law 21 = .ok (.aload_n 0, 1) := dk_42 (dk_at dksX1_law_0 21 rfl rfl)
theorem dX1_law_22 : decode cX1_law 22 = .ok (.iconst 0, 1) := dk_3 (dk_at dksX1_law_0 22 rfl rfl)
theorem dX1_law_23 : decode cX1_law 23 = .ok (.putfield 114, 3) := dk_181 0 114 (dk_at dksX1_law_1 0 rfl rfl)
theorem dX1_law_26 : decode cX1_law 26 = .ok (.aload_n 0, 1) := dk_42 (dk_at dksX1_law_1 3 rfl rfl)
theorem dX1_law_27 : decode cX1_law 27 = .ok (.getfield 60, 3) := dk_180 0 60 (dk_at dksX1_law_1 4 rfl rfl)
theorem dX1_law_30 : decode cX1_law 30 = .ok (.invokevirtual 382, 3) := dk_182 1 126 (dk_at dksX1_law_1 7 rfl rfl)
theorem dX1_law_33 : decode cX1_law 33 = .ok (.istore 4, 2) := dk_54 4 (dk_at dksX1_law_1 10 rfl rfl)
theorem dX1_law_35 : decode cX1_law 35 = .ok (.aload_n 0, 1) := dk_42 (dk_at dksX1_law_1 12 rfl rfl)
theorem dX1_law_36 : decode cX1_law 36 = .ok (.iload_n 3, 1) := dk_29 (dk_at dksX1_law_1 13 rfl rfl)
theorem dX1_law_37 : decode cX1_law 37 = .ok (.ifCond .ne 7, 3) := dk_154 0 7 (dk_at dksX1_law_1 14 rfl rfl)
theorem dX1_law_40 : decode cX1_law 40 = .ok (.aconst_null, 1) := dk_1 (dk_at dksX1_law_1 17 rfl rfl)
theorem dX1_law_41 : decode cX1_law 41 = .ok (.goto 16, 3) := dk_167 0 16 (dk_at dksX1_law_1 18 rfl rfl)
theorem dX1_law_44 : decode cX1_law 44 = .ok (.new 224, 3) := dk_187 0 224 (dk_at dksX1_law_1 21 rfl rfl)
theorem dX1_law_47 : decode cX1_law 47 = .ok (.dup, 1) := dk_89 (dk_at dksX1_law_2 0 rfl rfl)
theorem dX1_law_48 : decode cX1_law 48 = .ok (.aload_n 0, 1) := dk_42 (dk_at dksX1_law_2 1 rfl rfl)
theorem dX1_law_49 : decode cX1_law 49 = .ok (.aload_n 2, 1) := dk_44 (dk_at dksX1_law_2 2 rfl rfl)
theorem dX1_law_50 : decode cX1_law 50 = .ok (.iload_n 3, 1) := dk_29 (dk_at dksX1_law_2 3 rfl rfl)
theorem dX1_law_51 : decode cX1_law 51 = .ok (.invokespecial 226, 3) := dk_183 0 226 (dk_at dksX1_law_2 4 rfl rfl)
theorem dX1_law_54 : decode cX1_law 54 = .ok (.invokevirtual 229, 3) := dk_182 0 229 (dk_at dksX1_law_2 7 rfl rfl)
theorem dX1_law_57 : decode cX1_law 57 = .ok (.putfield 220, 3) := dk_181 0 220 (dk_at dksX1_law_2 10 rfl rfl)
theorem dX1_law_60 : decode cX1_law 60 = .ok (.aload_n 0, 1) := dk_42 (dk_at dksX1_law_2 13 rfl rfl)
theorem dX1_law_61 : decode cX1_law 61 = .ok (.getfield 60, 3) := dk_180 0 60 (dk_at dksX1_law_2 14 rfl rfl)
theorem dX1_law_64 : decode cX1_law 64 = .ok (.invokevirtual 382, 3) := dk_182 1 126 (dk_at dksX1_law_2 17 rfl rfl)
theorem dX1_law_67 : decode cX1_law 67 = .ok (.istore 5, 2) := dk_54 5 (dk_at dksX1_law_2 20 rfl rfl)
theorem dX1_law_69 : decode cX1_law 69 = .ok (.aload_n 0, 1) := dk_42 (dk_at dksX1_law_2 22 rfl rfl)
theorem dX1_law_70 : decode cX1_law 70 = .ok (.aload_n 1, 1) := dk_43 (dk_at dksX1_law_2 23 rfl rfl)
theorem dX1_law_71 : decode cX1_law 71 = .ok (.putfield 220, 3) := dk_181 0 220 (dk_at dksX1_law_3 0 rfl rfl)
theorem dX1_law_74 : decode cX1_law 74 = .ok (.goto 34, 3) := dk_167 0 34 (dk_at dksX1_law_3 3 rfl rfl)
theorem dX1_law_77 : decode cX1_law 77 = .ok (.astore 6, 2) := dk_58 6 (dk_at dksX1_law_3 6 rfl rfl)
theorem dX1_law_79 : decode cX1_law 79 = .ok (.sipush (-10000), 3) := dk_17 216 240 (dk_at dksX1_law_3 8 rfl rfl)
theorem dX1_law_82 : decode cX1_law 82 = .ok (.aload 6, 2) := dk_25 6 (dk_at dksX1_law_3 11 rfl rfl)
theorem dX1_law_84 : decode cX1_law 84 = .ok (.getfield 141, 3) := dk_180 0 141 (dk_at dksX1_law_3 13 rfl rfl)
theorem dX1_law_87 : decode cX1_law 87 = .ok (.isub, 1) := dk_100 (dk_at dksX1_law_3 16 rfl rfl)
theorem dX1_law_88 : decode cX1_law 88 = .ok (.istore 7, 2) := dk_54 7 (dk_at dksX1_law_3 17 rfl rfl)
theorem dX1_law_90 : decode cX1_law 90 = .ok (.aload_n 0, 1) := dk_42 (dk_at dksX1_law_3 19 rfl rfl)
theorem dX1_law_91 : decode cX1_law 91 = .ok (.aload_n 1, 1) := dk_43 (dk_at dksX1_law_3 20 rfl rfl)
theorem dX1_law_92 : decode cX1_law 92 = .ok (.putfield 220, 3) := dk_181 0 220 (dk_at dksX1_law_3 21 rfl rfl)
theorem dX1_law_95 : decode cX1_law 95 = .ok (.iload 7, 2) := dk_21 7 (dk_at dksX1_law_4 0 rfl rfl)
theorem dX1_law_97 : decode cX1_law 97 = .ok (.ireturn, 1) := dk_172 (dk_at dksX1_law_4 2 rfl rfl)
theorem dX1_law_98 : decode cX1_law 98 = .ok (.astore 8, 2) := dk_58 8 (dk_at dksX1_law_4 3 rfl rfl)
theorem dX1_law_100 : decode cX1_law 100 = .ok (.aload_n 0, 1) := dk_42 (dk_at dksX1_law_4 5 rfl rfl)
theorem dX1_law_101 : decode cX1_law 101 = .ok (.aload_n 1, 1) := dk_43 (dk_at dksX1_law_4 6 rfl rfl)
theorem dX1_law_102 : decode cX1_law 102 = .ok (.putfield 220, 3) := dk_181 0 220 (dk_at dksX1_law_4 7 rfl rfl)
theorem dX1_law_105 : decode cX1_law 105 = .ok (.aload 8, 2) := dk_25 8 (dk_at dksX1_law_4 10 rfl rfl)
theorem dX1_law_107 : decode cX1_law 107 = .ok (.athrow, 1) := dk_191 (dk_at dksX1_law_4 12 rfl rfl)
theorem dX1_law_108 : decode cX1_law 108 = .ok (.aload_n 0, 1) := dk_42 (dk_at dksX1_law_4 13 rfl rfl)
theorem dX1_law_109 : decode cX1_law 109 = .ok (.iconst 0, 1) := dk_3 (dk_at dksX1_law_4 14 rfl rfl)
theorem dX1_law_110 : decode cX1_law 110 = .ok (.putfield 95, 3) := dk_181 0 95 (dk_at dksX1_law_4 15 rfl rfl)
theorem dX1_law_113 : decode cX1_law 113 = .ok (.aload_n 0, 1) := dk_42 (dk_at dksX1_law_4 18 rfl rfl)
theorem dX1_law_114 : decode cX1_law 114 = .ok (.iload 5, 2) := dk_21 5 (dk_at dksX1_law_4 19 rfl rfl)
theorem dX1_law_116 : decode cX1_law 116 = .ok (.i2l, 1) := dk_133 (dk_at dksX1_law_4 21 rfl rfl)
theorem dX1_law_117 : decode cX1_law 117 = .ok (.invokevirtual 291, 3) := dk_182 1 35 (dk_at dksX1_law_5 0 rfl rfl)
theorem dX1_law_120 : decode cX1_law 120 = .ok (.aload_n 0, 1) := dk_42 (dk_at dksX1_law_5 3 rfl rfl)
theorem dX1_law_121 : decode cX1_law 121 = .ok (.iload 4, 2) := dk_21 4 (dk_at dksX1_law_5 4 rfl rfl)
theorem dX1_law_123 : decode cX1_law 123 = .ok (.i2l, 1) := dk_133 (dk_at dksX1_law_5 6 rfl rfl)
theorem dX1_law_124 : decode cX1_law 124 = .ok (.invokevirtual 291, 3) := dk_182 1 35 (dk_at dksX1_law_5 7 rfl rfl)
theorem dX1_law_127 : decode cX1_law 127 = .ok (.iload 5, 2) := dk_21 5 (dk_at dksX1_law_5 10 rfl rfl)
theorem dX1_law_129 : decode cX1_law 129 = .ok (.iload 4, 2) := dk_21 4 (dk_at dksX1_law_5 12 rfl rfl)
theorem dX1_law_131 : decode cX1_law 131 = .ok (.isub, 1) := dk_100 (dk_at dksX1_law_5 14 rfl rfl)
theorem dX1_law_132 : decode cX1_law 132 = .ok (.ireturn, 1) := dk_172 (dk_at dksX1_law_5 15 rfl rfl)
abbrev cX1_rests : ByteArray := prog_1_method_68_code
def yX1_rests : MethodName := ⟨RX1, "rests", "(I)I"⟩
def dkwX1_rests_4 : List UInt8 := [167, 255, 188, 28, 172]
abbrev dktX1_rests_4 : List UInt8 := dkwX1_rests_4 ++ []
def dkwX1_rests_3 : List UInt8 := [182, 1, 35, 42, 21, 4, 133, 182, 1, 35, 132, 2, 1, 132, 4, 1, 167, 255, 203, 132, 3, 1]
abbrev dktX1_rests_3 : List UInt8 := dkwX1_rests_3 ++ dktX1_rests_4
def dkwX1_rests_2 : List UInt8 := [153, 0, 36, 21, 4, 29, 27, 184, 1, 197, 154, 0, 6, 167, 0, 23, 28, 154, 0, 16, 42, 29, 133]
abbrev dktX1_rests_2 : List UInt8 := dkwX1_rests_2 ++ dktX1_rests_3
def dkwX1_rests_1 : List UInt8 := [16, 9, 163, 0, 68, 3, 54, 4, 21, 4, 16, 9, 163, 0, 52, 29, 21, 4, 27, 184, 1, 197]
abbrev dktX1_rests_1 : List UInt8 := dkwX1_rests_1 ++ dktX1_rests_2
def dkwX1_rests_0 : List UInt8 := [27, 133, 9, 20, 1, 195, 184, 0, 101, 154, 0, 5, 2, 172, 3, 61, 42, 3, 181, 0, 95, 3, 62, 29]
abbrev dktX1_rests_0 : List UInt8 := dkwX1_rests_0 ++ dktX1_rests_1
theorem dksX1_rests_0 : cX1_rests.data.toList.drop 0 = dktX1_rests_0 := by decide +kernel
theorem dksX1_rests_1 : cX1_rests.data.toList.drop 24 = dktX1_rests_1 := dk_seg dksX1_rests_0 24 rfl rfl
theorem dksX1_rests_2 : cX1_rests.data.toList.drop 46 = dktX1_rests_2 := dk_seg dksX1_rests_1 22 rfl rfl
theorem dksX1_rests_3 : cX1_rests.data.toList.drop 69 = dktX1_rests_3 := dk_seg dksX1_rests_2 23 rfl rfl
theorem dksX1_rests_4 : cX1_rests.data.toList.drop 91 = dktX1_rests_4 := dk_seg dksX1_rests_3 22 rfl rfl
theorem dX1_rests_0 : decode cX1_rests 0 = .ok (.iload_n 1, 1) := dk_27 (dk_at dksX1_rests_0 0 rfl rfl)
theorem dX1_rests_1 : decode cX1_rests 1 = .ok (.i2l, 1) := dk_133 (dk_at dksX1_rests_0 1 rfl rfl)
theorem dX1_rests_2 : decode cX1_rests 2 = .ok (.lconst 0, 1) := dk_9 (dk_at dksX1_rests_0 2 rfl rfl)
theorem dX1_rests_3 : decode cX1_rests 3 = .ok (.ldc2_w 451, 3) := dk_20 1 195 (dk_at dksX1_rests_0 3 rfl rfl)
theorem dX1_rests_6 : decode cX1_rests 6 = .ok (.invokestatic 101, 3) := dk_184 0 101 (dk_at dksX1_rests_0 6 rfl rfl)
theorem dX1_rests_9 : decode cX1_rests 9 = .ok (.ifCond .ne 5, 3) := dk_154 0 5 (dk_at dksX1_rests_0 9 rfl rfl)
theorem dX1_rests_12 : decode cX1_rests 12 = .ok (.iconst (-1), 1) := dk_2 (dk_at dksX1_rests_0 12 rfl rfl)
theorem dX1_rests_13 : decode cX1_rests 13 = .ok (.ireturn, 1) := dk_172 (dk_at dksX1_rests_0 13 rfl rfl)
theorem dX1_rests_14 : decode cX1_rests 14 = .ok (.iconst 0, 1) := dk_3 (dk_at dksX1_rests_0 14 rfl rfl)
theorem dX1_rests_15 : decode cX1_rests 15 = .ok (.istore_n 2, 1) := dk_61 (dk_at dksX1_rests_0 15 rfl rfl)
theorem dX1_rests_16 : decode cX1_rests 16 = .ok (.aload_n 0, 1) := dk_42 (dk_at dksX1_rests_0 16 rfl rfl)
theorem dX1_rests_17 : decode cX1_rests 17 = .ok (.iconst 0, 1) := dk_3 (dk_at dksX1_rests_0 17 rfl rfl)
theorem dX1_rests_18 : decode cX1_rests 18 = .ok (.putfield 95, 3) := dk_181 0 95 (dk_at dksX1_rests_0 18 rfl rfl)
theorem dX1_rests_21 : decode cX1_rests 21 = .ok (.iconst 0, 1) := dk_3 (dk_at dksX1_rests_0 21 rfl rfl)
theorem dX1_rests_22 : decode cX1_rests 22 = .ok (.istore_n 3, 1) := dk_62 (dk_at dksX1_rests_0 22 rfl rfl)
theorem dX1_rests_23 : decode cX1_rests 23 = .ok (.iload_n 3, 1) := dk_29 (dk_at dksX1_rests_0 23 rfl rfl)
theorem dX1_rests_24 : decode cX1_rests 24 = .ok (.bipush 9, 2) := dk_16 9 (dk_at dksX1_rests_1 0 rfl rfl)
theorem dX1_rests_26 : decode cX1_rests 26 = .ok (.if_icmp .gt 68, 3) := dk_163 0 68 (dk_at dksX1_rests_1 2 rfl rfl)
theorem dX1_rests_29 : decode cX1_rests 29 = .ok (.iconst 0, 1) := dk_3 (dk_at dksX1_rests_1 5 rfl rfl)
theorem dX1_rests_30 : decode cX1_rests 30 = .ok (.istore 4, 2) := dk_54 4 (dk_at dksX1_rests_1 6 rfl rfl)
theorem dX1_rests_32 : decode cX1_rests 32 = .ok (.iload 4, 2) := dk_21 4 (dk_at dksX1_rests_1 8 rfl rfl)
theorem dX1_rests_34 : decode cX1_rests 34 = .ok (.bipush 9, 2) := dk_16 9 (dk_at dksX1_rests_1 10 rfl rfl)
theorem dX1_rests_36 : decode cX1_rests 36 = .ok (.if_icmp .gt 52, 3) := dk_163 0 52 (dk_at dksX1_rests_1 12 rfl rfl)
theorem dX1_rests_39 : decode cX1_rests 39 = .ok (.iload_n 3, 1) := dk_29 (dk_at dksX1_rests_1 15 rfl rfl)
theorem dX1_rests_40 : decode cX1_rests 40 = .ok (.iload 4, 2) := dk_21 4 (dk_at dksX1_rests_1 16 rfl rfl)
theorem dX1_rests_42 : decode cX1_rests 42 = .ok (.iload_n 1, 1) := dk_27 (dk_at dksX1_rests_1 18 rfl rfl)
theorem dX1_rests_43 : decode cX1_rests 43 = .ok (.invokestatic 453, 3) := dk_184 1 197 (dk_at dksX1_rests_1 19 rfl rfl)
theorem dX1_rests_46 : decode cX1_rests 46 = .ok (.ifCond .eq 36, 3) := dk_153 0 36 (dk_at dksX1_rests_2 0 rfl rfl)
theorem dX1_rests_49 : decode cX1_rests 49 = .ok (.iload 4, 2) := dk_21 4 (dk_at dksX1_rests_2 3 rfl rfl)
theorem dX1_rests_51 : decode cX1_rests 51 = .ok (.iload_n 3, 1) := dk_29 (dk_at dksX1_rests_2 5 rfl rfl)
theorem dX1_rests_52 : decode cX1_rests 52 = .ok (.iload_n 1, 1) := dk_27 (dk_at dksX1_rests_2 6 rfl rfl)
theorem dX1_rests_53 : decode cX1_rests 53 = .ok (.invokestatic 453, 3) := dk_184 1 197 (dk_at dksX1_rests_2 7 rfl rfl)
theorem dX1_rests_56 : decode cX1_rests 56 = .ok (.ifCond .ne 6, 3) := dk_154 0 6 (dk_at dksX1_rests_2 10 rfl rfl)
theorem dX1_rests_59 : decode cX1_rests 59 = .ok (.goto 23, 3) := dk_167 0 23 (dk_at dksX1_rests_2 13 rfl rfl)
theorem dX1_rests_62 : decode cX1_rests 62 = .ok (.iload_n 2, 1) := dk_28 (dk_at dksX1_rests_2 16 rfl rfl)
theorem dX1_rests_63 : decode cX1_rests 63 = .ok (.ifCond .ne 16, 3) := dk_154 0 16 (dk_at dksX1_rests_2 17 rfl rfl)
theorem dX1_rests_66 : decode cX1_rests 66 = .ok (.aload_n 0, 1) := dk_42 (dk_at dksX1_rests_2 20 rfl rfl)
theorem dX1_rests_67 : decode cX1_rests 67 = .ok (.iload_n 3, 1) := dk_29 (dk_at dksX1_rests_2 21 rfl rfl)
theorem dX1_rests_68 : decode cX1_rests 68 = .ok (.i2l, 1) := dk_133 (dk_at dksX1_rests_2 22 rfl rfl)
theorem dX1_rests_69 : decode cX1_rests 69 = .ok (.invokevirtual 291, 3) := dk_182 1 35 (dk_at dksX1_rests_3 0 rfl rfl)
theorem dX1_rests_72 : decode cX1_rests 72 = .ok (.aload_n 0, 1) := dk_42 (dk_at dksX1_rests_3 3 rfl rfl)
theorem dX1_rests_73 : decode cX1_rests 73 = .ok (.iload 4, 2) := dk_21 4 (dk_at dksX1_rests_3 4 rfl rfl)
theorem dX1_rests_75 : decode cX1_rests 75 = .ok (.i2l, 1) := dk_133 (dk_at dksX1_rests_3 6 rfl rfl)
theorem dX1_rests_76 : decode cX1_rests 76 = .ok (.invokevirtual 291, 3) := dk_182 1 35 (dk_at dksX1_rests_3 7 rfl rfl)
theorem dX1_rests_79 : decode cX1_rests 79 = .ok (.iinc 2 1, 3) := dk_132 2 1 (dk_at dksX1_rests_3 10 rfl rfl)
theorem dX1_rests_82 : decode cX1_rests 82 = .ok (.iinc 4 1, 3) := dk_132 4 1 (dk_at dksX1_rests_3 13 rfl rfl)
theorem dX1_rests_85 : decode cX1_rests 85 = .ok (.goto (-53), 3) := dk_167 255 203 (dk_at dksX1_rests_3 16 rfl rfl)
theorem dX1_rests_88 : decode cX1_rests 88 = .ok (.iinc 3 1, 3) := dk_132 3 1 (dk_at dksX1_rests_3 19 rfl rfl)
theorem dX1_rests_91 : decode cX1_rests 91 = .ok (.goto (-68), 3) := dk_167 255 188 (dk_at dksX1_rests_4 0 rfl rfl)
theorem dX1_rests_94 : decode cX1_rests 94 = .ok (.iload_n 2, 1) := dk_28 (dk_at dksX1_rests_4 3 rfl rfl)
theorem dX1_rests_95 : decode cX1_rests 95 = .ok (.ireturn, 1) := dk_172 (dk_at dksX1_rests_4 4 rfl rfl)
abbrev cX1_isBest : ByteArray := prog_1_method_67_code
def yX1_isBest : MethodName := ⟨RX1, "isBest", "(III)Z"⟩
def dkwX1_isBest_1 : List UInt8 := [172, 132, 3, 1, 167, 255, 230, 4, 172]
abbrev dktX1_isBest_1 : List UInt8 := dkwX1_isBest_1 ++ []
def dkwX1_isBest_0 : List UInt8 := [3, 62, 29, 16, 9, 163, 0, 26, 29, 27, 28, 184, 1, 191, 26, 27, 28, 184, 1, 191, 164, 0, 5, 3]
abbrev dktX1_isBest_0 : List UInt8 := dkwX1_isBest_0 ++ dktX1_isBest_1
theorem dksX1_isBest_0 : cX1_isBest.data.toList.drop 0 = dktX1_isBest_0 := by decide +kernel
theorem dksX1_isBest_1 : cX1_isBest.data.toList.drop 24 = dktX1_isBest_1 := dk_seg dksX1_isBest_0 24 rfl rfl
theorem dX1_isBest_0 : decode cX1_isBest 0 = .ok (.iconst 0, 1) := dk_3 (dk_at dksX1_isBest_0 0 rfl rfl)
theorem dX1_isBest_1 : decode cX1_isBest 1 = .ok (.istore_n 3, 1) := dk_62 (dk_at dksX1_isBest_0 1 rfl rfl)
theorem dX1_isBest_2 : decode cX1_isBest 2 = .ok (.iload_n 3, 1) := dk_29 (dk_at dksX1_isBest_0 2 rfl rfl)
theorem dX1_isBest_3 : decode cX1_isBest 3 = .ok (.bipush 9, 2) := dk_16 9 (dk_at dksX1_isBest_0 3 rfl rfl)
theorem dX1_isBest_5 : decode cX1_isBest 5 = .ok (.if_icmp .gt 26, 3) := dk_163 0 26 (dk_at dksX1_isBest_0 5 rfl rfl)
theorem dX1_isBest_8 : decode cX1_isBest 8 = .ok (.iload_n 3, 1) := dk_29 (dk_at dksX1_isBest_0 8 rfl rfl)
theorem dX1_isBest_9 : decode cX1_isBest 9 = .ok (.iload_n 1, 1) := dk_27 (dk_at dksX1_isBest_0 9 rfl rfl)
theorem dX1_isBest_10 : decode cX1_isBest 10 = .ok (.iload_n 2, 1) := dk_28 (dk_at dksX1_isBest_0 10 rfl rfl)
theorem dX1_isBest_11 : decode cX1_isBest 11 = .ok (.invokestatic 447, 3) := dk_184 1 191 (dk_at dksX1_isBest_0 11 rfl rfl)
theorem dX1_isBest_14 : decode cX1_isBest 14 = .ok (.iload_n 0, 1) := dk_26 (dk_at dksX1_isBest_0 14 rfl rfl)
theorem dX1_isBest_15 : decode cX1_isBest 15 = .ok (.iload_n 1, 1) := dk_27 (dk_at dksX1_isBest_0 15 rfl rfl)
theorem dX1_isBest_16 : decode cX1_isBest 16 = .ok (.iload_n 2, 1) := dk_28 (dk_at dksX1_isBest_0 16 rfl rfl)
theorem dX1_isBest_17 : decode cX1_isBest 17 = .ok (.invokestatic 447, 3) := dk_184 1 191 (dk_at dksX1_isBest_0 17 rfl rfl)
theorem dX1_isBest_20 : decode cX1_isBest 20 = .ok (.if_icmp .le 5, 3) := dk_164 0 5 (dk_at dksX1_isBest_0 20 rfl rfl)
theorem dX1_isBest_23 : decode cX1_isBest 23 = .ok (.iconst 0, 1) := dk_3 (dk_at dksX1_isBest_0 23 rfl rfl)
theorem dX1_isBest_24 : decode cX1_isBest 24 = .ok (.ireturn, 1) := dk_172 (dk_at dksX1_isBest_1 0 rfl rfl)
theorem dX1_isBest_25 : decode cX1_isBest 25 = .ok (.iinc 3 1, 3) := dk_132 3 1 (dk_at dksX1_isBest_1 1 rfl rfl)
theorem dX1_isBest_28 : decode cX1_isBest 28 = .ok (.goto (-26), 3) := dk_167 255 230 (dk_at dksX1_isBest_1 4 rfl rfl)
theorem dX1_isBest_31 : decode cX1_isBest 31 = .ok (.iconst 1, 1) := dk_4 (dk_at dksX1_isBest_1 7 rfl rfl)
theorem dX1_isBest_32 : decode cX1_isBest 32 = .ok (.ireturn, 1) := dk_172 (dk_at dksX1_isBest_1 8 rfl rfl)
abbrev cX1_gets : ByteArray := prog_1_method_66_code
def yX1_gets : MethodName := ⟨RX1, "gets", "(III)I"⟩
def dkwX1_gets_1 : List UInt8 := [100, 26, 5, 27, 104, 164, 0, 7, 6, 167, 0, 4, 3, 100, 172]
abbrev dktX1_gets_1 : List UInt8 := dkwX1_gets_1 ++ []
def dkwX1_gets_0 : List UInt8 := [26, 27, 164, 0, 7, 28, 167, 0, 15, 26, 27, 160, 0, 9, 28, 5, 108, 167, 0, 4, 3, 62, 29, 26]
abbrev dktX1_gets_0 : List UInt8 := dkwX1_gets_0 ++ dktX1_gets_1
theorem dksX1_gets_0 : cX1_gets.data.toList.drop 0 = dktX1_gets_0 := by decide +kernel
theorem dksX1_gets_1 : cX1_gets.data.toList.drop 24 = dktX1_gets_1 := dk_seg dksX1_gets_0 24 rfl rfl
theorem dX1_gets_0 : decode cX1_gets 0 = .ok (.iload_n 0, 1) := dk_26 (dk_at dksX1_gets_0 0 rfl rfl)
theorem dX1_gets_1 : decode cX1_gets 1 = .ok (.iload_n 1, 1) := dk_27 (dk_at dksX1_gets_0 1 rfl rfl)
theorem dX1_gets_2 : decode cX1_gets 2 = .ok (.if_icmp .le 7, 3) := dk_164 0 7 (dk_at dksX1_gets_0 2 rfl rfl)
theorem dX1_gets_5 : decode cX1_gets 5 = .ok (.iload_n 2, 1) := dk_28 (dk_at dksX1_gets_0 5 rfl rfl)
theorem dX1_gets_6 : decode cX1_gets 6 = .ok (.goto 15, 3) := dk_167 0 15 (dk_at dksX1_gets_0 6 rfl rfl)
theorem dX1_gets_9 : decode cX1_gets 9 = .ok (.iload_n 0, 1) := dk_26 (dk_at dksX1_gets_0 9 rfl rfl)
theorem dX1_gets_10 : decode cX1_gets 10 = .ok (.iload_n 1, 1) := dk_27 (dk_at dksX1_gets_0 10 rfl rfl)
theorem dX1_gets_11 : decode cX1_gets 11 = .ok (.if_icmp .ne 9, 3) := dk_160 0 9 (dk_at dksX1_gets_0 11 rfl rfl)
theorem dX1_gets_14 : decode cX1_gets 14 = .ok (.iload_n 2, 1) := dk_28 (dk_at dksX1_gets_0 14 rfl rfl)
theorem dX1_gets_15 : decode cX1_gets 15 = .ok (.iconst 2, 1) := dk_5 (dk_at dksX1_gets_0 15 rfl rfl)
theorem dX1_gets_16 : decode cX1_gets 16 = .ok (.idiv, 1) := dk_108 (dk_at dksX1_gets_0 16 rfl rfl)
theorem dX1_gets_17 : decode cX1_gets 17 = .ok (.goto 4, 3) := dk_167 0 4 (dk_at dksX1_gets_0 17 rfl rfl)
theorem dX1_gets_20 : decode cX1_gets 20 = .ok (.iconst 0, 1) := dk_3 (dk_at dksX1_gets_0 20 rfl rfl)
theorem dX1_gets_21 : decode cX1_gets 21 = .ok (.istore_n 3, 1) := dk_62 (dk_at dksX1_gets_0 21 rfl rfl)
theorem dX1_gets_22 : decode cX1_gets 22 = .ok (.iload_n 3, 1) := dk_29 (dk_at dksX1_gets_0 22 rfl rfl)
theorem dX1_gets_23 : decode cX1_gets 23 = .ok (.iload_n 0, 1) := dk_26 (dk_at dksX1_gets_0 23 rfl rfl)
theorem dX1_gets_24 : decode cX1_gets 24 = .ok (.isub, 1) := dk_100 (dk_at dksX1_gets_1 0 rfl rfl)
theorem dX1_gets_25 : decode cX1_gets 25 = .ok (.iload_n 0, 1) := dk_26 (dk_at dksX1_gets_1 1 rfl rfl)
theorem dX1_gets_26 : decode cX1_gets 26 = .ok (.iconst 2, 1) := dk_5 (dk_at dksX1_gets_1 2 rfl rfl)
theorem dX1_gets_27 : decode cX1_gets 27 = .ok (.iload_n 1, 1) := dk_27 (dk_at dksX1_gets_1 3 rfl rfl)
theorem dX1_gets_28 : decode cX1_gets 28 = .ok (.imul, 1) := dk_104 (dk_at dksX1_gets_1 4 rfl rfl)
theorem dX1_gets_29 : decode cX1_gets 29 = .ok (.if_icmp .le 7, 3) := dk_164 0 7 (dk_at dksX1_gets_1 5 rfl rfl)
theorem dX1_gets_32 : decode cX1_gets 32 = .ok (.iconst 3, 1) := dk_6 (dk_at dksX1_gets_1 8 rfl rfl)
theorem dX1_gets_33 : decode cX1_gets 33 = .ok (.goto 4, 3) := dk_167 0 4 (dk_at dksX1_gets_1 9 rfl rfl)
theorem dX1_gets_36 : decode cX1_gets 36 = .ok (.iconst 0, 1) := dk_3 (dk_at dksX1_gets_1 12 rfl rfl)
theorem dX1_gets_37 : decode cX1_gets 37 = .ok (.isub, 1) := dk_100 (dk_at dksX1_gets_1 13 rfl rfl)
theorem dX1_gets_38 : decode cX1_gets 38 = .ok (.ireturn, 1) := dk_172 (dk_at dksX1_gets_1 14 rfl rfl)
abbrev cX1_years : ByteArray := prog_1_method_70_code
def yX1_years : MethodName := ⟨RX1, "years", "(II)I"⟩
def dkwX1_years_8 : List UInt8 := [42, 180, 0, 40, 182, 1, 115, 184, 1, 121, 133, 182, 1, 35, 42, 180, 0, 40, 180, 0, 153, 172]
abbrev dktX1_years_8 : List UInt8 := dkwX1_years_8 ++ []
def dkwX1_years_7 : List UInt8 := [167, 255, 123, 42, 3, 181, 0, 95, 42, 42, 180, 0, 40, 182, 1, 118, 184, 1, 121, 133, 182, 1, 35, 42]
abbrev dktX1_years_7 : List UInt8 := dkwX1_years_7 ++ dktX1_years_8
def dkwX1_years_6 : List UInt8 := [21, 5, 21, 6, 182, 1, 49, 154, 0, 14, 42, 180, 0, 40, 21, 5, 21, 6, 182, 1, 53, 132, 3, 1]
abbrev dktX1_years_6 : List UInt8 := dkwX1_years_6 ++ dktX1_years_7
def dkwX1_years_5 : List UInt8 := [79, 21, 4, 6, 162, 0, 6, 167, 0, 38, 42, 8, 182, 1, 205, 5, 100, 54, 6, 42, 42, 180, 0, 40]
abbrev dktX1_years_5 : List UInt8 := dkwX1_years_5 ++ dktX1_years_6
def dkwX1_years_4 : List UInt8 := [21, 5, 182, 1, 42, 154, 0, 20, 42, 180, 0, 40, 180, 0, 200, 21, 5, 42, 180, 0, 13, 21, 5, 46]
abbrev dktX1_years_4 : List UInt8 := dkwX1_years_4 ++ dktX1_years_5
def dkwX1_years_3 : List UInt8 := [167, 0, 92, 42, 42, 180, 0, 105, 182, 1, 205, 54, 5, 21, 4, 5, 160, 0, 32, 42, 180, 0, 40]
abbrev dktX1_years_3 : List UInt8 := dkwX1_years_3 ++ dktX1_years_4
def dkwX1_years_2 : List UInt8 := [162, 0, 10, 42, 180, 0, 40, 182, 1, 99, 21, 4, 5, 161, 0, 102, 42, 180, 0, 105, 154, 0, 6]
abbrev dktX1_years_2 : List UInt8 := dkwX1_years_2 ++ dktX1_years_3
def dkwX1_years_1 : List UInt8 := [180, 0, 33, 182, 1, 16, 3, 62, 29, 28, 162, 0, 134, 42, 7, 182, 1, 205, 54, 4, 21, 4, 5]
abbrev dktX1_years_1 : List UInt8 := dkwX1_years_1 ++ dktX1_years_2
def dkwX1_years_0 : List UInt8 := [28, 133, 10, 20, 1, 20, 184, 0, 101, 154, 0, 5, 2, 172, 42, 27, 181, 1, 201, 42, 180, 0, 40, 42]
abbrev dktX1_years_0 : List UInt8 := dkwX1_years_0 ++ dktX1_years_1
theorem dksX1_years_0 : cX1_years.data.toList.drop 0 = dktX1_years_0 := by decide +kernel
theorem dksX1_years_1 : cX1_years.data.toList.drop 24 = dktX1_years_1 := dk_seg dksX1_years_0 24 rfl rfl
theorem dksX1_years_2 : cX1_years.data.toList.drop 47 = dktX1_years_2 := dk_seg dksX1_years_1 23 rfl rfl
theorem dksX1_years_3 : cX1_years.data.toList.drop 70 = dktX1_years_3 := dk_seg dksX1_years_2 23 rfl rfl
theorem dksX1_years_4 : cX1_years.data.toList.drop 93 = dktX1_years_4 := dk_seg dksX1_years_3 23 rfl rfl
theorem dksX1_years_5 : cX1_years.data.toList.drop 117 = dktX1_years_5 := dk_seg dksX1_years_4 24 rfl rfl
theorem dksX1_years_6 : cX1_years.data.toList.drop 141 = dktX1_years_6 := dk_seg dksX1_years_5 24 rfl rfl
theorem dksX1_years_7 : cX1_years.data.toList.drop 165 = dktX1_years_7 := dk_seg dksX1_years_6 24 rfl rfl
theorem dksX1_years_8 : cX1_years.data.toList.drop 189 = dktX1_years_8 := dk_seg dksX1_years_7 24 rfl rfl
theorem dX1_years_0 : decode cX1_years 0 = .ok (.iload_n 2, 1) := dk_28 (dk_at dksX1_years_0 0 rfl rfl)
theorem dX1_years_1 : decode cX1_years 1 = .ok (.i2l, 1) := dk_133 (dk_at dksX1_years_0 1 rfl rfl)
theorem dX1_years_2 : decode cX1_years 2 = .ok (.lconst 1, 1) := dk_10 (dk_at dksX1_years_0 2 rfl rfl)
theorem dX1_years_3 : decode cX1_years 3 = .ok (.ldc2_w 276, 3) := dk_20 1 20 (dk_at dksX1_years_0 3 rfl rfl)
theorem dX1_years_6 : decode cX1_years 6 = .ok (.invokestatic 101, 3) := dk_184 0 101 (dk_at dksX1_years_0 6 rfl rfl)
theorem dX1_years_9 : decode cX1_years 9 = .ok (.ifCond .ne 5, 3) := dk_154 0 5 (dk_at dksX1_years_0 9 rfl rfl)
theorem dX1_years_12 : decode cX1_years 12 = .ok (.iconst (-1), 1) := dk_2 (dk_at dksX1_years_0 12 rfl rfl)
theorem dX1_years_13 : decode cX1_years 13 = .ok (.ireturn, 1) := dk_172 (dk_at dksX1_years_0 13 rfl rfl)
theorem dX1_years_14 : decode cX1_years 14 = .ok (.aload_n 0, 1) := dk_42 (dk_at dksX1_years_0 14 rfl rfl)
theorem dX1_years_15 : decode cX1_years 15 = .ok (.iload_n 1, 1) := dk_27 (dk_at dksX1_years_0 15 rfl rfl)
theorem dX1_years_16 : decode cX1_years 16 = .ok (.putfield 457, 3) := dk_181 1 201 (dk_at dksX1_years_0 16 rfl rfl)
theorem dX1_years_19 : decode cX1_years 19 = .ok (.aload_n 0, 1) := dk_42 (dk_at dksX1_years_0 19 rfl rfl)
theorem dX1_years_20 : decode cX1_years 20 = .ok (.getfield 40, 3) := dk_180 0 40 (dk_at dksX1_years_0 20 rfl rfl)
theorem dX1_years_23 : decode cX1_years 23 = .ok (.aload_n 0, 1) := dk_42 (dk_at dksX1_years_0 23 rfl rfl)
theorem dX1_years_24 : decode cX1_years 24 = .ok (.getfield 33, 3) := dk_180 0 33 (dk_at dksX1_years_1 0 rfl rfl)
theorem dX1_years_27 : decode cX1_years 27 = .ok (.invokevirtual 272, 3) := dk_182 1 16 (dk_at dksX1_years_1 3 rfl rfl)
theorem dX1_years_30 : decode cX1_years 30 = .ok (.iconst 0, 1) := dk_3 (dk_at dksX1_years_1 6 rfl rfl)
theorem dX1_years_31 : decode cX1_years 31 = .ok (.istore_n 3, 1) := dk_62 (dk_at dksX1_years_1 7 rfl rfl)
theorem dX1_years_32 : decode cX1_years 32 = .ok (.iload_n 3, 1) := dk_29 (dk_at dksX1_years_1 8 rfl rfl)
theorem dX1_years_33 : decode cX1_years 33 = .ok (.iload_n 2, 1) := dk_28 (dk_at dksX1_years_1 9 rfl rfl)
theorem dX1_years_34 : decode cX1_years 34 = .ok (.if_icmp .ge 134, 3) := dk_162 0 134 (dk_at dksX1_years_1 10 rfl rfl)
theorem dX1_years_37 : decode cX1_years 37 = .ok (.aload_n 0, 1) := dk_42 (dk_at dksX1_years_1 13 rfl rfl)
theorem dX1_years_38 : decode cX1_years 38 = .ok (.iconst 4, 1) := dk_7 (dk_at dksX1_years_1 14 rfl rfl)
theorem dX1_years_39 : decode cX1_years 39 = .ok (.invokevirtual 461, 3) := dk_182 1 205 (dk_at dksX1_years_1 15 rfl rfl)
theorem dX1_years_42 : decode cX1_years 42 = .ok (.istore 4, 2) := dk_54 4 (dk_at dksX1_years_1 18 rfl rfl)
theorem dX1_years_44 : decode cX1_years 44 = .ok (.iload 4, 2) := dk_21 4 (dk_at dksX1_years_1 20 rfl rfl)
theorem dX1_years_46 : decode cX1_years 46 = .ok (.iconst 2, 1) := dk_5 (dk_at dksX1_years_1 22 rfl rfl)
theorem dX1_years_47 : decode cX1_years 47 = .ok (.if_icmp .ge 10, 3) := dk_162 0 10 (dk_at dksX1_years_2 0 rfl rfl)
theorem dX1_years_50 : decode cX1_years 50 = .ok (.aload_n 0, 1) := dk_42 (dk_at dksX1_years_2 3 rfl rfl)
theorem dX1_years_51 : decode cX1_years 51 = .ok (.getfield 40, 3) := dk_180 0 40 (dk_at dksX1_years_2 4 rfl rfl)
theorem dX1_years_54 : decode cX1_years 54 = .ok (.invokevirtual 355, 3) := dk_182 1 99 (dk_at dksX1_years_2 7 rfl rfl)
theorem dX1_years_57 : decode cX1_years 57 = .ok (.iload 4, 2) := dk_21 4 (dk_at dksX1_years_2 10 rfl rfl)
theorem dX1_years_59 : decode cX1_years 59 = .ok (.iconst 2, 1) := dk_5 (dk_at dksX1_years_2 12 rfl rfl)
theorem dX1_years_60 : decode cX1_years 60 = .ok (.if_icmp .lt 102, 3) := dk_161 0 102 (dk_at dksX1_years_2 13 rfl rfl)
theorem dX1_years_63 : decode cX1_years 63 = .ok (.aload_n 0, 1) := dk_42 (dk_at dksX1_years_2 16 rfl rfl)
theorem dX1_years_64 : decode cX1_years 64 = .ok (.getfield 105, 3) := dk_180 0 105 (dk_at dksX1_years_2 17 rfl rfl)
theorem dX1_years_67 : decode cX1_years 67 = .ok (.ifCond .ne 6, 3) := dk_154 0 6 (dk_at dksX1_years_2 20 rfl rfl)
theorem dX1_years_70 : decode cX1_years 70 = .ok (.goto 92, 3) := dk_167 0 92 (dk_at dksX1_years_3 0 rfl rfl)
theorem dX1_years_73 : decode cX1_years 73 = .ok (.aload_n 0, 1) := dk_42 (dk_at dksX1_years_3 3 rfl rfl)
theorem dX1_years_74 : decode cX1_years 74 = .ok (.aload_n 0, 1) := dk_42 (dk_at dksX1_years_3 4 rfl rfl)
theorem dX1_years_75 : decode cX1_years 75 = .ok (.getfield 105, 3) := dk_180 0 105 (dk_at dksX1_years_3 5 rfl rfl)
theorem dX1_years_78 : decode cX1_years 78 = .ok (.invokevirtual 461, 3) := dk_182 1 205 (dk_at dksX1_years_3 8 rfl rfl)
theorem dX1_years_81 : decode cX1_years 81 = .ok (.istore 5, 2) := dk_54 5 (dk_at dksX1_years_3 11 rfl rfl)
theorem dX1_years_83 : decode cX1_years 83 = .ok (.iload 4, 2) := dk_21 4 (dk_at dksX1_years_3 13 rfl rfl)
theorem dX1_years_85 : decode cX1_years 85 = .ok (.iconst 2, 1) := dk_5 (dk_at dksX1_years_3 15 rfl rfl)
theorem dX1_years_86 : decode cX1_years 86 = .ok (.if_icmp .ne 32, 3) := dk_160 0 32 (dk_at dksX1_years_3 16 rfl rfl)
theorem dX1_years_89 : decode cX1_years 89 = .ok (.aload_n 0, 1) := dk_42 (dk_at dksX1_years_3 19 rfl rfl)
theorem dX1_years_90 : decode cX1_years 90 = .ok (.getfield 40, 3) := dk_180 0 40 (dk_at dksX1_years_3 20 rfl rfl)
theorem dX1_years_93 : decode cX1_years 93 = .ok (.iload 5, 2) := dk_21 5 (dk_at dksX1_years_4 0 rfl rfl)
theorem dX1_years_95 : decode cX1_years 95 = .ok (.invokevirtual 298, 3) := dk_182 1 42 (dk_at dksX1_years_4 2 rfl rfl)
theorem dX1_years_98 : decode cX1_years 98 = .ok (.ifCond .ne 20, 3) := dk_154 0 20 (dk_at dksX1_years_4 5 rfl rfl)
theorem dX1_years_101 : decode cX1_years 101 = .ok (.aload_n 0, 1) := dk_42 (dk_at dksX1_years_4 8 rfl rfl)
theorem dX1_years_102 : decode cX1_years 102 = .ok (.getfield 40, 3) := dk_180 0 40 (dk_at dksX1_years_4 9 rfl rfl)
theorem dX1_years_105 : decode cX1_years 105 = .ok (.getfield 200, 3) := dk_180 0 200 (dk_at dksX1_years_4 12 rfl rfl)
theorem dX1_years_108 : decode cX1_years 108 = .ok (.iload 5, 2) := dk_21 5 (dk_at dksX1_years_4 15 rfl rfl)
theorem dX1_years_110 : decode cX1_years 110 = .ok (.aload_n 0, 1) := dk_42 (dk_at dksX1_years_4 17 rfl rfl)
theorem dX1_years_111 : decode cX1_years 111 = .ok (.getfield 13, 3) := dk_180 0 13 (dk_at dksX1_years_4 18 rfl rfl)
theorem dX1_years_114 : decode cX1_years 114 = .ok (.iload 5, 2) := dk_21 5 (dk_at dksX1_years_4 21 rfl rfl)
theorem dX1_years_116 : decode cX1_years 116 = .ok (.iaload, 1) := dk_46 (dk_at dksX1_years_4 23 rfl rfl)
theorem dX1_years_117 : decode cX1_years 117 = .ok (.iastore, 1) := dk_79 (dk_at dksX1_years_5 0 rfl rfl)
theorem dX1_years_118 : decode cX1_years 118 = .ok (.iload 4, 2) := dk_21 4 (dk_at dksX1_years_5 1 rfl rfl)
theorem dX1_years_120 : decode cX1_years 120 = .ok (.iconst 3, 1) := dk_6 (dk_at dksX1_years_5 3 rfl rfl)
theorem dX1_years_121 : decode cX1_years 121 = .ok (.if_icmp .ge 6, 3) := dk_162 0 6 (dk_at dksX1_years_5 4 rfl rfl)
theorem dX1_years_124 : decode cX1_years 124 = .ok (.goto 38, 3) := dk_167 0 38 (dk_at dksX1_years_5 7 rfl rfl)
theorem dX1_years_127 : decode cX1_years 127 = .ok (.aload_n 0, 1) := dk_42 (dk_at dksX1_years_5 10 rfl rfl)
theorem dX1_years_128 : decode cX1_years 128 = .ok (.iconst 5, 1) := dk_8 (dk_at dksX1_years_5 11 rfl rfl)
theorem dX1_years_129 : decode cX1_years 129 = .ok (.invokevirtual 461, 3) := dk_182 1 205 (dk_at dksX1_years_5 12 rfl rfl)
theorem dX1_years_132 : decode cX1_years 132 = .ok (.iconst 2, 1) := dk_5 (dk_at dksX1_years_5 15 rfl rfl)
theorem dX1_years_133 : decode cX1_years 133 = .ok (.isub, 1) := dk_100 (dk_at dksX1_years_5 16 rfl rfl)
theorem dX1_years_134 : decode cX1_years 134 = .ok (.istore 6, 2) := dk_54 6 (dk_at dksX1_years_5 17 rfl rfl)
theorem dX1_years_136 : decode cX1_years 136 = .ok (.aload_n 0, 1) := dk_42 (dk_at dksX1_years_5 19 rfl rfl)
theorem dX1_years_137 : decode cX1_years 137 = .ok (.aload_n 0, 1) := dk_42 (dk_at dksX1_years_5 20 rfl rfl)
theorem dX1_years_138 : decode cX1_years 138 = .ok (.getfield 40, 3) := dk_180 0 40 (dk_at dksX1_years_5 21 rfl rfl)
theorem dX1_years_141 : decode cX1_years 141 = .ok (.iload 5, 2) := dk_21 5 (dk_at dksX1_years_6 0 rfl rfl)
theorem dX1_years_143 : decode cX1_years 143 = .ok (.iload 6, 2) := dk_21 6 (dk_at dksX1_years_6 2 rfl rfl)
theorem dX1_years_145 : decode cX1_years 145 = .ok (.invokevirtual 305, 3) := dk_182 1 49 (dk_at dksX1_years_6 4 rfl rfl)
theorem dX1_years_148 : decode cX1_years 148 = .ok (.ifCond .ne 14, 3) := dk_154 0 14 (dk_at dksX1_years_6 7 rfl rfl)
theorem dX1_years_151 : decode cX1_years 151 = .ok (.aload_n 0, 1) := dk_42 (dk_at dksX1_years_6 10 rfl rfl)
theorem dX1_years_152 : decode cX1_years 152 = .ok (.getfield 40, 3) := dk_180 0 40 (dk_at dksX1_years_6 11 rfl rfl)
theorem dX1_years_155 : decode cX1_years 155 = .ok (.iload 5, 2) := dk_21 5 (dk_at dksX1_years_6 14 rfl rfl)
theorem dX1_years_157 : decode cX1_years 157 = .ok (.iload 6, 2) := dk_21 6 (dk_at dksX1_years_6 16 rfl rfl)
theorem dX1_years_159 : decode cX1_years 159 = .ok (.invokevirtual 309, 3) := dk_182 1 53 (dk_at dksX1_years_6 18 rfl rfl)
theorem dX1_years_162 : decode cX1_years 162 = .ok (.iinc 3 1, 3) := dk_132 3 1 (dk_at dksX1_years_6 21 rfl rfl)
theorem dX1_years_165 : decode cX1_years 165 = .ok (.goto (-133), 3) := dk_167 255 123 (dk_at dksX1_years_7 0 rfl rfl)
theorem dX1_years_168 : decode cX1_years 168 = .ok (.aload_n 0, 1) := dk_42 (dk_at dksX1_years_7 3 rfl rfl)
theorem dX1_years_169 : decode cX1_years 169 = .ok (.iconst 0, 1) := dk_3 (dk_at dksX1_years_7 4 rfl rfl)
theorem dX1_years_170 : decode cX1_years 170 = .ok (.putfield 95, 3) := dk_181 0 95 (dk_at dksX1_years_7 5 rfl rfl)
theorem dX1_years_173 : decode cX1_years 173 = .ok (.aload_n 0, 1) := dk_42 (dk_at dksX1_years_7 8 rfl rfl)
theorem dX1_years_174 : decode cX1_years 174 = .ok (.aload_n 0, 1) := dk_42 (dk_at dksX1_years_7 9 rfl rfl)
theorem dX1_years_175 : decode cX1_years 175 = .ok (.getfield 40, 3) := dk_180 0 40 (dk_at dksX1_years_7 10 rfl rfl)
theorem dX1_years_178 : decode cX1_years 178 = .ok (.invokevirtual 374, 3) := dk_182 1 118 (dk_at dksX1_years_7 13 rfl rfl)
theorem dX1_years_181 : decode cX1_years 181 = .ok (.invokestatic 377, 3) := dk_184 1 121 (dk_at dksX1_years_7 16 rfl rfl)
theorem dX1_years_184 : decode cX1_years 184 = .ok (.i2l, 1) := dk_133 (dk_at dksX1_years_7 19 rfl rfl)
theorem dX1_years_185 : decode cX1_years 185 = .ok (.invokevirtual 291, 3) := dk_182 1 35 (dk_at dksX1_years_7 20 rfl rfl)
theorem dX1_years_188 : decode cX1_years 188 = .ok (.aload_n 0, 1) := dk_42 (dk_at dksX1_years_7 23 rfl rfl)
theorem dX1_years_189 : decode cX1_years 189 = .ok (.aload_n 0, 1) := dk_42 (dk_at dksX1_years_8 0 rfl rfl)
theorem dX1_years_190 : decode cX1_years 190 = .ok (.getfield 40, 3) := dk_180 0 40 (dk_at dksX1_years_8 1 rfl rfl)
theorem dX1_years_193 : decode cX1_years 193 = .ok (.invokevirtual 371, 3) := dk_182 1 115 (dk_at dksX1_years_8 4 rfl rfl)
theorem dX1_years_196 : decode cX1_years 196 = .ok (.invokestatic 377, 3) := dk_184 1 121 (dk_at dksX1_years_8 7 rfl rfl)
theorem dX1_years_199 : decode cX1_years 199 = .ok (.i2l, 1) := dk_133 (dk_at dksX1_years_8 10 rfl rfl)
theorem dX1_years_200 : decode cX1_years 200 = .ok (.invokevirtual 291, 3) := dk_182 1 35 (dk_at dksX1_years_8 11 rfl rfl)
theorem dX1_years_203 : decode cX1_years 203 = .ok (.aload_n 0, 1) := dk_42 (dk_at dksX1_years_8 14 rfl rfl)
theorem dX1_years_204 : decode cX1_years 204 = .ok (.getfield 40, 3) := dk_180 0 40 (dk_at dksX1_years_8 15 rfl rfl)
theorem dX1_years_207 : decode cX1_years 207 = .ok (.getfield 153, 3) := dk_180 0 153 (dk_at dksX1_years_8 18 rfl rfl)
theorem dX1_years_210 : decode cX1_years 210 = .ok (.ireturn, 1) := dk_172 (dk_at dksX1_years_8 21 rfl rfl)
abbrev cX1_draw : ByteArray := prog_1_method_69_code
def yX1_draw : MethodName := ⟨RX1, "draw", "(I)I"⟩
def dkwX1_draw_1 : List UInt8 := [112, 172]
abbrev dktX1_draw_1 : List UInt8 := dkwX1_draw_1 ++ []
def dkwX1_draw_0 : List UInt8 := [42, 42, 180, 1, 201, 19, 1, 204, 104, 17, 48, 57, 96, 181, 1, 201, 42, 180, 1, 201, 16, 16, 124, 27]
abbrev dktX1_draw_0 : List UInt8 := dkwX1_draw_0 ++ dktX1_draw_1
theorem dksX1_draw_0 : cX1_draw.data.toList.drop 0 = dktX1_draw_0 := by decide +kernel
theorem dksX1_draw_1 : cX1_draw.data.toList.drop 24 = dktX1_draw_1 := dk_seg dksX1_draw_0 24 rfl rfl
theorem dX1_draw_0 : decode cX1_draw 0 = .ok (.aload_n 0, 1) := dk_42 (dk_at dksX1_draw_0 0 rfl rfl)
theorem dX1_draw_1 : decode cX1_draw 1 = .ok (.aload_n 0, 1) := dk_42 (dk_at dksX1_draw_0 1 rfl rfl)
theorem dX1_draw_2 : decode cX1_draw 2 = .ok (.getfield 457, 3) := dk_180 1 201 (dk_at dksX1_draw_0 2 rfl rfl)
theorem dX1_draw_5 : decode cX1_draw 5 = .ok (.ldc_w 460, 3) := dk_19 1 204 (dk_at dksX1_draw_0 5 rfl rfl)
theorem dX1_draw_8 : decode cX1_draw 8 = .ok (.imul, 1) := dk_104 (dk_at dksX1_draw_0 8 rfl rfl)
theorem dX1_draw_9 : decode cX1_draw 9 = .ok (.sipush 12345, 3) := dk_17 48 57 (dk_at dksX1_draw_0 9 rfl rfl)
theorem dX1_draw_12 : decode cX1_draw 12 = .ok (.iadd, 1) := dk_96 (dk_at dksX1_draw_0 12 rfl rfl)
theorem dX1_draw_13 : decode cX1_draw 13 = .ok (.putfield 457, 3) := dk_181 1 201 (dk_at dksX1_draw_0 13 rfl rfl)
theorem dX1_draw_16 : decode cX1_draw 16 = .ok (.aload_n 0, 1) := dk_42 (dk_at dksX1_draw_0 16 rfl rfl)
theorem dX1_draw_17 : decode cX1_draw 17 = .ok (.getfield 457, 3) := dk_180 1 201 (dk_at dksX1_draw_0 17 rfl rfl)
theorem dX1_draw_20 : decode cX1_draw 20 = .ok (.bipush 16, 2) := dk_16 16 (dk_at dksX1_draw_0 20 rfl rfl)
theorem dX1_draw_22 : decode cX1_draw 22 = .ok (.iushr, 1) := dk_124 (dk_at dksX1_draw_0 22 rfl rfl)
theorem dX1_draw_23 : decode cX1_draw 23 = .ok (.iload_n 1, 1) := dk_27 (dk_at dksX1_draw_0 23 rfl rfl)
theorem dX1_draw_24 : decode cX1_draw 24 = .ok (.irem, 1) := dk_112 (dk_at dksX1_draw_1 0 rfl rfl)
theorem dX1_draw_25 : decode cX1_draw 25 = .ok (.ireturn, 1) := dk_172 (dk_at dksX1_draw_1 1 rfl rfl)
abbrev cX1_keep : ByteArray := prog_1_method_71_code
def yX1_keep : MethodName := ⟨RX1, "keep", "(I)Z"⟩
def dkwX1_keep_1 : List UInt8 := [183, 1, 210, 83, 4, 172]
abbrev dktX1_keep_1 : List UInt8 := dkwX1_keep_1 ++ []
def dkwX1_keep_0 : List UInt8 := [27, 133, 9, 20, 1, 208, 184, 0, 101, 154, 0, 5, 3, 172, 42, 180, 0, 91, 27, 187, 0, 89, 89, 42]
abbrev dktX1_keep_0 : List UInt8 := dkwX1_keep_0 ++ dktX1_keep_1
theorem dksX1_keep_0 : cX1_keep.data.toList.drop 0 = dktX1_keep_0 := by decide +kernel
theorem dksX1_keep_1 : cX1_keep.data.toList.drop 24 = dktX1_keep_1 := dk_seg dksX1_keep_0 24 rfl rfl
theorem dX1_keep_0 : decode cX1_keep 0 = .ok (.iload_n 1, 1) := dk_27 (dk_at dksX1_keep_0 0 rfl rfl)
theorem dX1_keep_1 : decode cX1_keep 1 = .ok (.i2l, 1) := dk_133 (dk_at dksX1_keep_0 1 rfl rfl)
theorem dX1_keep_2 : decode cX1_keep 2 = .ok (.lconst 0, 1) := dk_9 (dk_at dksX1_keep_0 2 rfl rfl)
theorem dX1_keep_3 : decode cX1_keep 3 = .ok (.ldc2_w 464, 3) := dk_20 1 208 (dk_at dksX1_keep_0 3 rfl rfl)
theorem dX1_keep_6 : decode cX1_keep 6 = .ok (.invokestatic 101, 3) := dk_184 0 101 (dk_at dksX1_keep_0 6 rfl rfl)
theorem dX1_keep_9 : decode cX1_keep 9 = .ok (.ifCond .ne 5, 3) := dk_154 0 5 (dk_at dksX1_keep_0 9 rfl rfl)
theorem dX1_keep_12 : decode cX1_keep 12 = .ok (.iconst 0, 1) := dk_3 (dk_at dksX1_keep_0 12 rfl rfl)
theorem dX1_keep_13 : decode cX1_keep 13 = .ok (.ireturn, 1) := dk_172 (dk_at dksX1_keep_0 13 rfl rfl)
theorem dX1_keep_14 : decode cX1_keep 14 = .ok (.aload_n 0, 1) := dk_42 (dk_at dksX1_keep_0 14 rfl rfl)
theorem dX1_keep_15 : decode cX1_keep 15 = .ok (.getfield 91, 3) := dk_180 0 91 (dk_at dksX1_keep_0 15 rfl rfl)
theorem dX1_keep_18 : decode cX1_keep 18 = .ok (.iload_n 1, 1) := dk_27 (dk_at dksX1_keep_0 18 rfl rfl)
theorem dX1_keep_19 : decode cX1_keep 19 = .ok (.new 89, 3) := dk_187 0 89 (dk_at dksX1_keep_0 19 rfl rfl)
theorem dX1_keep_22 : decode cX1_keep 22 = .ok (.dup, 1) := dk_89 (dk_at dksX1_keep_0 22 rfl rfl)
theorem dX1_keep_23 : decode cX1_keep 23 = .ok (.aload_n 0, 1) := dk_42 (dk_at dksX1_keep_0 23 rfl rfl)
theorem dX1_keep_24 : decode cX1_keep 24 = .ok (.invokespecial 466, 3) := dk_183 1 210 (dk_at dksX1_keep_1 0 rfl rfl)
theorem dX1_keep_27 : decode cX1_keep 27 = .ok (.aastore, 1) := dk_83 (dk_at dksX1_keep_1 3 rfl rfl)
theorem dX1_keep_28 : decode cX1_keep 28 = .ok (.iconst 1, 1) := dk_4 (dk_at dksX1_keep_1 4 rfl rfl)
theorem dX1_keep_29 : decode cX1_keep 29 = .ok (.ireturn, 1) := dk_172 (dk_at dksX1_keep_1 5 rfl rfl)
abbrev cX1_again : ByteArray := prog_1_method_72_code
def yX1_again : MethodName := ⟨RX1, "again", "(I)Z"⟩
def dkwX1_again_2 : List UInt8 := [180, 0, 91, 27, 50, 180, 1, 214, 182, 1, 16, 42, 3, 181, 0, 162, 4, 172]
abbrev dktX1_again_2 : List UInt8 := dkwX1_again_2 ++ []
def dkwX1_again_1 : List UInt8 := [180, 0, 91, 27, 50, 180, 1, 211, 42, 180, 0, 173, 159, 0, 5, 3, 172, 42, 180, 0, 33, 42]
abbrev dktX1_again_1 : List UInt8 := dkwX1_again_1 ++ dktX1_again_2
def dkwX1_again_0 : List UInt8 := [27, 133, 9, 20, 1, 208, 184, 0, 101, 153, 0, 28, 42, 180, 0, 91, 27, 50, 198, 0, 19, 42]
abbrev dktX1_again_0 : List UInt8 := dkwX1_again_0 ++ dktX1_again_1
theorem dksX1_again_0 : cX1_again.data.toList.drop 0 = dktX1_again_0 := by decide +kernel
theorem dksX1_again_1 : cX1_again.data.toList.drop 22 = dktX1_again_1 := dk_seg dksX1_again_0 22 rfl rfl
theorem dksX1_again_2 : cX1_again.data.toList.drop 44 = dktX1_again_2 := dk_seg dksX1_again_1 22 rfl rfl
theorem dX1_again_0 : decode cX1_again 0 = .ok (.iload_n 1, 1) := dk_27 (dk_at dksX1_again_0 0 rfl rfl)
theorem dX1_again_1 : decode cX1_again 1 = .ok (.i2l, 1) := dk_133 (dk_at dksX1_again_0 1 rfl rfl)
theorem dX1_again_2 : decode cX1_again 2 = .ok (.lconst 0, 1) := dk_9 (dk_at dksX1_again_0 2 rfl rfl)
theorem dX1_again_3 : decode cX1_again 3 = .ok (.ldc2_w 464, 3) := dk_20 1 208 (dk_at dksX1_again_0 3 rfl rfl)
theorem dX1_again_6 : decode cX1_again 6 = .ok (.invokestatic 101, 3) := dk_184 0 101 (dk_at dksX1_again_0 6 rfl rfl)
theorem dX1_again_9 : decode cX1_again 9 = .ok (.ifCond .eq 28, 3) := dk_153 0 28 (dk_at dksX1_again_0 9 rfl rfl)
theorem dX1_again_12 : decode cX1_again 12 = .ok (.aload_n 0, 1) := dk_42 (dk_at dksX1_again_0 12 rfl rfl)
theorem dX1_again_13 : decode cX1_again 13 = .ok (.getfield 91, 3) := dk_180 0 91 (dk_at dksX1_again_0 13 rfl rfl)
theorem dX1_again_16 : decode cX1_again 16 = .ok (.iload_n 1, 1) := dk_27 (dk_at dksX1_again_0 16 rfl rfl)
theorem dX1_again_17 : decode cX1_again 17 = .ok (.aaload, 1) := dk_50 (dk_at dksX1_again_0 17 rfl rfl)
theorem dX1_again_18 : decode cX1_again 18 = .ok (.ifnull 19, 3) := dk_198 0 19 (dk_at dksX1_again_0 18 rfl rfl)
theorem dX1_again_21 : decode cX1_again 21 = .ok (.aload_n 0, 1) := dk_42 (dk_at dksX1_again_0 21 rfl rfl)
theorem dX1_again_22 : decode cX1_again 22 = .ok (.getfield 91, 3) := dk_180 0 91 (dk_at dksX1_again_1 0 rfl rfl)
theorem dX1_again_25 : decode cX1_again 25 = .ok (.iload_n 1, 1) := dk_27 (dk_at dksX1_again_1 3 rfl rfl)
theorem dX1_again_26 : decode cX1_again 26 = .ok (.aaload, 1) := dk_50 (dk_at dksX1_again_1 4 rfl rfl)
theorem dX1_again_27 : decode cX1_again 27 = .ok (.getfield 467, 3) := dk_180 1 211 (dk_at dksX1_again_1 5 rfl rfl)
theorem dX1_again_30 : decode cX1_again 30 = .ok (.aload_n 0, 1) := dk_42 (dk_at dksX1_again_1 8 rfl rfl)
theorem dX1_again_31 : decode cX1_again 31 = .ok (.getfield 173, 3) := dk_180 0 173 (dk_at dksX1_again_1 9 rfl rfl)
theorem dX1_again_34 : decode cX1_again 34 = .ok (.if_icmp .eq 5, 3) := dk_159 0 5 (dk_at dksX1_again_1 12 rfl rfl)
theorem dX1_again_37 : decode cX1_again 37 = .ok (.iconst 0, 1) := dk_3 (dk_at dksX1_again_1 15 rfl rfl)
theorem dX1_again_38 : decode cX1_again 38 = .ok (.ireturn, 1) := dk_172 (dk_at dksX1_again_1 16 rfl rfl)
theorem dX1_again_39 : decode cX1_again 39 = .ok (.aload_n 0, 1) := dk_42 (dk_at dksX1_again_1 17 rfl rfl)
theorem dX1_again_40 : decode cX1_again 40 = .ok (.getfield 33, 3) := dk_180 0 33 (dk_at dksX1_again_1 18 rfl rfl)
theorem dX1_again_43 : decode cX1_again 43 = .ok (.aload_n 0, 1) := dk_42 (dk_at dksX1_again_1 21 rfl rfl)
theorem dX1_again_44 : decode cX1_again 44 = .ok (.getfield 91, 3) := dk_180 0 91 (dk_at dksX1_again_2 0 rfl rfl)
theorem dX1_again_47 : decode cX1_again 47 = .ok (.iload_n 1, 1) := dk_27 (dk_at dksX1_again_2 3 rfl rfl)
theorem dX1_again_48 : decode cX1_again 48 = .ok (.aaload, 1) := dk_50 (dk_at dksX1_again_2 4 rfl rfl)
theorem dX1_again_49 : decode cX1_again 49 = .ok (.getfield 470, 3) := dk_180 1 214 (dk_at dksX1_again_2 5 rfl rfl)
theorem dX1_again_52 : decode cX1_again 52 = .ok (.invokevirtual 272, 3) := dk_182 1 16 (dk_at dksX1_again_2 8 rfl rfl)
theorem dX1_again_55 : decode cX1_again 55 = .ok (.aload_n 0, 1) := dk_42 (dk_at dksX1_again_2 11 rfl rfl)
theorem dX1_again_56 : decode cX1_again 56 = .ok (.iconst 0, 1) := dk_3 (dk_at dksX1_again_2 12 rfl rfl)
theorem dX1_again_57 : decode cX1_again 57 = .ok (.putfield 162, 3) := dk_181 0 162 (dk_at dksX1_again_2 13 rfl rfl)
theorem dX1_again_60 : decode cX1_again 60 = .ok (.iconst 1, 1) := dk_4 (dk_at dksX1_again_2 16 rfl rfl)
theorem dX1_again_61 : decode cX1_again 61 = .ok (.ireturn, 1) := dk_172 (dk_at dksX1_again_2 17 rfl rfl)
abbrev cX1_count : ByteArray := prog_1_method_74_code
def yX1_count : MethodName := ⟨RX1, "count", "(I)I"⟩
def dkwX1_count_5 : List UInt8 := [42, 180, 1, 172, 172, 42, 180, 0, 162, 172, 42, 180, 0, 95, 172, 42, 180, 0, 114, 172, 16, 156, 172]
abbrev dktX1_count_5 : List UInt8 := dkwX1_count_5 ++ []
def dkwX1_count_4 : List UInt8 := [182, 1, 115, 184, 1, 121, 172, 42, 182, 1, 217, 172, 42, 42, 180, 0, 33, 180, 0, 150, 182, 1, 220, 172]
abbrev dktX1_count_4 : List UInt8 := dkwX1_count_4 ++ dktX1_count_5
def dkwX1_count_3 : List UInt8 := [180, 0, 33, 180, 0, 153, 172, 42, 180, 0, 33, 182, 1, 118, 184, 1, 121, 172, 42, 180, 0, 33]
abbrev dktX1_count_3 : List UInt8 := dkwX1_count_3 ++ dktX1_count_4
def dkwX1_count_2 : List UInt8 := [42, 180, 0, 20, 172, 42, 180, 0, 98, 172, 42, 180, 0, 105, 172, 42, 180, 0, 33, 180, 0, 150, 172, 42]
abbrev dktX1_count_2 : List UInt8 := dkwX1_count_2 ++ dktX1_count_3
def dkwX1_count_1 : List UInt8 := [170, 0, 0, 0, 0, 0, 157, 0, 0, 0, 0, 0, 0, 0, 12, 0, 0, 0, 67, 0, 0, 0, 72, 0, 0, 0, 77, 0, 0, 0, 82, 0, 0, 0, 90, 0, 0, 0, 98, 0, 0, 0, 109, 0, 0, 0, 120, 0, 0, 0, 125, 0, 0, 0, 137, 0, 0, 0, 142, 0, 0, 0, 147, 0, 0, 0, 152]
abbrev dktX1_count_1 : List UInt8 := dkwX1_count_1 ++ dktX1_count_2
def dkwX1_count_0 : List UInt8 := [27]
abbrev dktX1_count_0 : List UInt8 := dkwX1_count_0 ++ dktX1_count_1
theorem dksX1_count_0 : cX1_count.data.toList.drop 0 = dktX1_count_0 := by decide +kernel
theorem dksX1_count_1 : cX1_count.data.toList.drop 1 = dktX1_count_1 := dk_seg dksX1_count_0 1 rfl rfl
theorem dksX1_count_2 : cX1_count.data.toList.drop 68 = dktX1_count_2 := dk_seg dksX1_count_1 67 rfl rfl
theorem dksX1_count_3 : cX1_count.data.toList.drop 92 = dktX1_count_3 := dk_seg dksX1_count_2 24 rfl rfl
theorem dksX1_count_4 : cX1_count.data.toList.drop 114 = dktX1_count_4 := dk_seg dksX1_count_3 22 rfl rfl
theorem dksX1_count_5 : cX1_count.data.toList.drop 138 = dktX1_count_5 := dk_seg dksX1_count_4 24 rfl rfl
theorem dX1_count_0 : decode cX1_count 0 = .ok (.iload_n 1, 1) := dk_27 (dk_at dksX1_count_0 0 rfl rfl)
theorem dX1_count_1 : decode cX1_count 1 = .ok (.tableswitch 157 0 12 #[67, 72, 77, 82, 90, 98, 109, 120, 125, 137, 142, 147, 152], 67) := by decide +kernel
theorem dX1_count_68 : decode cX1_count 68 = .ok (.aload_n 0, 1) := dk_42 (dk_at dksX1_count_2 0 rfl rfl)
theorem dX1_count_69 : decode cX1_count 69 = .ok (.getfield 20, 3) := dk_180 0 20 (dk_at dksX1_count_2 1 rfl rfl)
theorem dX1_count_72 : decode cX1_count 72 = .ok (.ireturn, 1) := dk_172 (dk_at dksX1_count_2 4 rfl rfl)
theorem dX1_count_73 : decode cX1_count 73 = .ok (.aload_n 0, 1) := dk_42 (dk_at dksX1_count_2 5 rfl rfl)
theorem dX1_count_74 : decode cX1_count 74 = .ok (.getfield 98, 3) := dk_180 0 98 (dk_at dksX1_count_2 6 rfl rfl)
theorem dX1_count_77 : decode cX1_count 77 = .ok (.ireturn, 1) := dk_172 (dk_at dksX1_count_2 9 rfl rfl)
theorem dX1_count_78 : decode cX1_count 78 = .ok (.aload_n 0, 1) := dk_42 (dk_at dksX1_count_2 10 rfl rfl)
theorem dX1_count_79 : decode cX1_count 79 = .ok (.getfield 105, 3) := dk_180 0 105 (dk_at dksX1_count_2 11 rfl rfl)
theorem dX1_count_82 : decode cX1_count 82 = .ok (.ireturn, 1) := dk_172 (dk_at dksX1_count_2 14 rfl rfl)
theorem dX1_count_83 : decode cX1_count 83 = .ok (.aload_n 0, 1) := dk_42 (dk_at dksX1_count_2 15 rfl rfl)
theorem dX1_count_84 : decode cX1_count 84 = .ok (.getfield 33, 3) := dk_180 0 33 (dk_at dksX1_count_2 16 rfl rfl)
theorem dX1_count_87 : decode cX1_count 87 = .ok (.getfield 150, 3) := dk_180 0 150 (dk_at dksX1_count_2 19 rfl rfl)
theorem dX1_count_90 : decode cX1_count 90 = .ok (.ireturn, 1) := dk_172 (dk_at dksX1_count_2 22 rfl rfl)
theorem dX1_count_91 : decode cX1_count 91 = .ok (.aload_n 0, 1) := dk_42 (dk_at dksX1_count_2 23 rfl rfl)
theorem dX1_count_92 : decode cX1_count 92 = .ok (.getfield 33, 3) := dk_180 0 33 (dk_at dksX1_count_3 0 rfl rfl)
theorem dX1_count_95 : decode cX1_count 95 = .ok (.getfield 153, 3) := dk_180 0 153 (dk_at dksX1_count_3 3 rfl rfl)
theorem dX1_count_98 : decode cX1_count 98 = .ok (.ireturn, 1) := dk_172 (dk_at dksX1_count_3 6 rfl rfl)
theorem dX1_count_99 : decode cX1_count 99 = .ok (.aload_n 0, 1) := dk_42 (dk_at dksX1_count_3 7 rfl rfl)
theorem dX1_count_100 : decode cX1_count 100 = .ok (.getfield 33, 3) := dk_180 0 33 (dk_at dksX1_count_3 8 rfl rfl)
theorem dX1_count_103 : decode cX1_count 103 = .ok (.invokevirtual 374, 3) := dk_182 1 118 (dk_at dksX1_count_3 11 rfl rfl)
theorem dX1_count_106 : decode cX1_count 106 = .ok (.invokestatic 377, 3) := dk_184 1 121 (dk_at dksX1_count_3 14 rfl rfl)
theorem dX1_count_109 : decode cX1_count 109 = .ok (.ireturn, 1) := dk_172 (dk_at dksX1_count_3 17 rfl rfl)
theorem dX1_count_110 : decode cX1_count 110 = .ok (.aload_n 0, 1) := dk_42 (dk_at dksX1_count_3 18 rfl rfl)
theorem dX1_count_111 : decode cX1_count 111 = .ok (.getfield 33, 3) := dk_180 0 33 (dk_at dksX1_count_3 19 rfl rfl)
theorem dX1_count_114 : decode cX1_count 114 = .ok (.invokevirtual 371, 3) := dk_182 1 115 (dk_at dksX1_count_4 0 rfl rfl)
theorem dX1_count_117 : decode cX1_count 117 = .ok (.invokestatic 377, 3) := dk_184 1 121 (dk_at dksX1_count_4 3 rfl rfl)
theorem dX1_count_120 : decode cX1_count 120 = .ok (.ireturn, 1) := dk_172 (dk_at dksX1_count_4 6 rfl rfl)
theorem dX1_count_121 : decode cX1_count 121 = .ok (.aload_n 0, 1) := dk_42 (dk_at dksX1_count_4 7 rfl rfl)
theorem dX1_count_122 : decode cX1_count 122 = .ok (.invokevirtual 473, 3) := dk_182 1 217 (dk_at dksX1_count_4 8 rfl rfl)
theorem dX1_count_125 : decode cX1_count 125 = .ok (.ireturn, 1) := dk_172 (dk_at dksX1_count_4 11 rfl rfl)
theorem dX1_count_126 : decode cX1_count 126 = .ok (.aload_n 0, 1) := dk_42 (dk_at dksX1_count_4 12 rfl rfl)
theorem dX1_count_127 : decode cX1_count 127 = .ok (.aload_n 0, 1) := dk_42 (dk_at dksX1_count_4 13 rfl rfl)
theorem dX1_count_128 : decode cX1_count 128 = .ok (.getfield 33, 3) := dk_180 0 33 (dk_at dksX1_count_4 14 rfl rfl)
theorem dX1_count_131 : decode cX1_count 131 = .ok (.getfield 150, 3) := dk_180 0 150 (dk_at dksX1_count_4 17 rfl rfl)
theorem dX1_count_134 : decode cX1_count 134 = .ok (.invokevirtual 476, 3) := dk_182 1 220 (dk_at dksX1_count_4 20 rfl rfl)
theorem dX1_count_137 : decode cX1_count 137 = .ok (.ireturn, 1) := dk_172 (dk_at dksX1_count_4 23 rfl rfl)
theorem dX1_count_138 : decode cX1_count 138 = .ok (.aload_n 0, 1) := dk_42 (dk_at dksX1_count_5 0 rfl rfl)
theorem dX1_count_139 : decode cX1_count 139 = .ok (.getfield 428, 3) := dk_180 1 172 (dk_at dksX1_count_5 1 rfl rfl)
theorem dX1_count_142 : decode cX1_count 142 = .ok (.ireturn, 1) := dk_172 (dk_at dksX1_count_5 4 rfl rfl)
theorem dX1_count_143 : decode cX1_count 143 = .ok (.aload_n 0, 1) := dk_42 (dk_at dksX1_count_5 5 rfl rfl)
theorem dX1_count_144 : decode cX1_count 144 = .ok (.getfield 162, 3) := dk_180 0 162 (dk_at dksX1_count_5 6 rfl rfl)
theorem dX1_count_147 : decode cX1_count 147 = .ok (.ireturn, 1) := dk_172 (dk_at dksX1_count_5 9 rfl rfl)
theorem dX1_count_148 : decode cX1_count 148 = .ok (.aload_n 0, 1) := dk_42 (dk_at dksX1_count_5 10 rfl rfl)
theorem dX1_count_149 : decode cX1_count 149 = .ok (.getfield 95, 3) := dk_180 0 95 (dk_at dksX1_count_5 11 rfl rfl)
theorem dX1_count_152 : decode cX1_count 152 = .ok (.ireturn, 1) := dk_172 (dk_at dksX1_count_5 14 rfl rfl)
theorem dX1_count_153 : decode cX1_count 153 = .ok (.aload_n 0, 1) := dk_42 (dk_at dksX1_count_5 15 rfl rfl)
theorem dX1_count_154 : decode cX1_count 154 = .ok (.getfield 114, 3) := dk_180 0 114 (dk_at dksX1_count_5 16 rfl rfl)
theorem dX1_count_157 : decode cX1_count 157 = .ok (.ireturn, 1) := dk_172 (dk_at dksX1_count_5 19 rfl rfl)
theorem dX1_count_158 : decode cX1_count 158 = .ok (.bipush (-100), 2) := dk_16 156 (dk_at dksX1_count_5 20 rfl rfl)
theorem dX1_count_160 : decode cX1_count 160 = .ok (.ireturn, 1) := dk_172 (dk_at dksX1_count_5 22 rfl rfl)
abbrev cX1_corners : ByteArray := prog_1_method_73_code
def yX1_corners : MethodName := ⟨RX1, "corners", "()I"⟩
def dkwX1_corners_1 : List UInt8 := [167, 0, 4, 3, 96, 60, 132, 2, 1, 167, 255, 228, 27, 172]
abbrev dktX1_corners_1 : List UInt8 := dkwX1_corners_1 ++ []
def dkwX1_corners_0 : List UInt8 := [3, 60, 3, 61, 28, 42, 180, 0, 20, 162, 0, 26, 27, 42, 180, 0, 16, 28, 51, 153, 0, 7, 4]
abbrev dktX1_corners_0 : List UInt8 := dkwX1_corners_0 ++ dktX1_corners_1
theorem dksX1_corners_0 : cX1_corners.data.toList.drop 0 = dktX1_corners_0 := by decide +kernel
theorem dksX1_corners_1 : cX1_corners.data.toList.drop 23 = dktX1_corners_1 := dk_seg dksX1_corners_0 23 rfl rfl
theorem dX1_corners_0 : decode cX1_corners 0 = .ok (.iconst 0, 1) := dk_3 (dk_at dksX1_corners_0 0 rfl rfl)
theorem dX1_corners_1 : decode cX1_corners 1 = .ok (.istore_n 1, 1) := dk_60 (dk_at dksX1_corners_0 1 rfl rfl)
theorem dX1_corners_2 : decode cX1_corners 2 = .ok (.iconst 0, 1) := dk_3 (dk_at dksX1_corners_0 2 rfl rfl)
theorem dX1_corners_3 : decode cX1_corners 3 = .ok (.istore_n 2, 1) := dk_61 (dk_at dksX1_corners_0 3 rfl rfl)
theorem dX1_corners_4 : decode cX1_corners 4 = .ok (.iload_n 2, 1) := dk_28 (dk_at dksX1_corners_0 4 rfl rfl)
theorem dX1_corners_5 : decode cX1_corners 5 = .ok (.aload_n 0, 1) := dk_42 (dk_at dksX1_corners_0 5 rfl rfl)
theorem dX1_corners_6 : decode cX1_corners 6 = .ok (.getfield 20, 3) := dk_180 0 20 (dk_at dksX1_corners_0 6 rfl rfl)
theorem dX1_corners_9 : decode cX1_corners 9 = .ok (.if_icmp .ge 26, 3) := dk_162 0 26 (dk_at dksX1_corners_0 9 rfl rfl)
theorem dX1_corners_12 : decode cX1_corners 12 = .ok (.iload_n 1, 1) := dk_27 (dk_at dksX1_corners_0 12 rfl rfl)
theorem dX1_corners_13 : decode cX1_corners 13 = .ok (.aload_n 0, 1) := dk_42 (dk_at dksX1_corners_0 13 rfl rfl)
theorem dX1_corners_14 : decode cX1_corners 14 = .ok (.getfield 16, 3) := dk_180 0 16 (dk_at dksX1_corners_0 14 rfl rfl)
theorem dX1_corners_17 : decode cX1_corners 17 = .ok (.iload_n 2, 1) := dk_28 (dk_at dksX1_corners_0 17 rfl rfl)
theorem dX1_corners_18 : decode cX1_corners 18 = .ok (.baload, 1) := dk_51 (dk_at dksX1_corners_0 18 rfl rfl)
theorem dX1_corners_19 : decode cX1_corners 19 = .ok (.ifCond .eq 7, 3) := dk_153 0 7 (dk_at dksX1_corners_0 19 rfl rfl)
theorem dX1_corners_22 : decode cX1_corners 22 = .ok (.iconst 1, 1) := dk_4 (dk_at dksX1_corners_0 22 rfl rfl)
theorem dX1_corners_23 : decode cX1_corners 23 = .ok (.goto 4, 3) := dk_167 0 4 (dk_at dksX1_corners_1 0 rfl rfl)
theorem dX1_corners_26 : decode cX1_corners 26 = .ok (.iconst 0, 1) := dk_3 (dk_at dksX1_corners_1 3 rfl rfl)
theorem dX1_corners_27 : decode cX1_corners 27 = .ok (.iadd, 1) := dk_96 (dk_at dksX1_corners_1 4 rfl rfl)
theorem dX1_corners_28 : decode cX1_corners 28 = .ok (.istore_n 1, 1) := dk_60 (dk_at dksX1_corners_1 5 rfl rfl)
theorem dX1_corners_29 : decode cX1_corners 29 = .ok (.iinc 2 1, 3) := dk_132 2 1 (dk_at dksX1_corners_1 6 rfl rfl)
theorem dX1_corners_32 : decode cX1_corners 32 = .ok (.goto (-28), 3) := dk_167 255 228 (dk_at dksX1_corners_1 9 rfl rfl)
theorem dX1_corners_35 : decode cX1_corners 35 = .ok (.iload_n 1, 1) := dk_27 (dk_at dksX1_corners_1 12 rfl rfl)
theorem dX1_corners_36 : decode cX1_corners 36 = .ok (.ireturn, 1) := dk_172 (dk_at dksX1_corners_1 13 rfl rfl)
abbrev cX1_hearse : ByteArray := prog_1_method_20_code
def yX1_hearse : MethodName := ⟨RX1, "hearse", "(II)I"⟩
def dkwX1_hearse_5 : List UInt8 := [183, 0, 235, 191]
abbrev dktX1_hearse_5 : List UInt8 := dkwX1_hearse_5 ++ []
def dkwX1_hearse_4 : List UInt8 := [27, 182, 0, 242, 172, 42, 180, 0, 33, 27, 182, 0, 245, 172, 42, 27, 182, 0, 248, 172, 187, 0, 233, 89]
abbrev dktX1_hearse_4 : List UInt8 := dkwX1_hearse_4 ++ dktX1_hearse_5
def dkwX1_hearse_3 : List UInt8 := [27, 182, 0, 236, 153, 0, 14, 42, 180, 0, 33, 27, 182, 0, 239, 167, 0, 4, 3, 172, 42, 180, 0, 33]
abbrev dktX1_hearse_3 : List UInt8 := dkwX1_hearse_3 ++ dktX1_hearse_4
def dkwX1_hearse_2 : List UInt8 := [42, 180, 0, 33, 180, 0, 186, 27, 46, 172, 42, 180, 0, 33, 180, 0, 188, 27, 46, 172, 42, 180, 0, 33]
abbrev dktX1_hearse_2 : List UInt8 := dkwX1_hearse_2 ++ dktX1_hearse_3
def dkwX1_hearse_1 : List UInt8 := [170, 0, 0, 0, 0, 0, 107, 0, 0, 0, 0, 0, 0, 0, 5, 0, 0, 0, 39, 0, 0, 0, 49, 0, 0, 0, 59, 0, 0, 0, 83, 0, 0, 0, 92, 0, 0, 0, 101]
abbrev dktX1_hearse_1 : List UInt8 := dkwX1_hearse_1 ++ dktX1_hearse_2
def dkwX1_hearse_0 : List UInt8 := [42, 27, 182, 0, 108, 154, 0, 11, 187, 0, 233, 89, 183, 0, 235, 191, 28]
abbrev dktX1_hearse_0 : List UInt8 := dkwX1_hearse_0 ++ dktX1_hearse_1
theorem dksX1_hearse_0 : cX1_hearse.data.toList.drop 0 = dktX1_hearse_0 := by decide +kernel
theorem dksX1_hearse_1 : cX1_hearse.data.toList.drop 17 = dktX1_hearse_1 := dk_seg dksX1_hearse_0 17 rfl rfl
theorem dksX1_hearse_2 : cX1_hearse.data.toList.drop 56 = dktX1_hearse_2 := dk_seg dksX1_hearse_1 39 rfl rfl
theorem dksX1_hearse_3 : cX1_hearse.data.toList.drop 80 = dktX1_hearse_3 := dk_seg dksX1_hearse_2 24 rfl rfl
theorem dksX1_hearse_4 : cX1_hearse.data.toList.drop 104 = dktX1_hearse_4 := dk_seg dksX1_hearse_3 24 rfl rfl
theorem dksX1_hearse_5 : cX1_hearse.data.toList.drop 128 = dktX1_hearse_5 := dk_seg dksX1_hearse_4 24 rfl rfl
theorem dX1_hearse_0 : decode cX1_hearse 0 = .ok (.aload_n 0, 1) := dk_42 (dk_at dksX1_hearse_0 0 rfl rfl)
theorem dX1_hearse_1 : decode cX1_hearse 1 = .ok (.iload_n 1, 1) := dk_27 (dk_at dksX1_hearse_0 1 rfl rfl)
theorem dX1_hearse_2 : decode cX1_hearse 2 = .ok (.invokevirtual 108, 3) := dk_182 0 108 (dk_at dksX1_hearse_0 2 rfl rfl)
theorem dX1_hearse_5 : decode cX1_hearse 5 = .ok (.ifCond .ne 11, 3) := dk_154 0 11 (dk_at dksX1_hearse_0 5 rfl rfl)
theorem dX1_hearse_8 : decode cX1_hearse 8 = .ok (.new 233, 3) := dk_187 0 233 (dk_at dksX1_hearse_0 8 rfl rfl)
theorem dX1_hearse_11 : decode cX1_hearse 11 = .ok (.dup, 1) := dk_89 (dk_at dksX1_hearse_0 11 rfl rfl)
theorem dX1_hearse_12 : decode cX1_hearse 12 = .ok (.invokespecial 235, 3) := dk_183 0 235 (dk_at dksX1_hearse_0 12 rfl rfl)
theorem dX1_hearse_15 : decode cX1_hearse 15 = .ok (.athrow, 1) := dk_191 (dk_at dksX1_hearse_0 15 rfl rfl)
theorem dX1_hearse_16 : decode cX1_hearse 16 = .ok (.iload_n 2, 1) := dk_28 (dk_at dksX1_hearse_0 16 rfl rfl)
theorem dX1_hearse_17 : decode cX1_hearse 17 = .ok (.tableswitch 107 0 5 #[39, 49, 59, 83, 92, 101], 39) := by decide +kernel
theorem dX1_hearse_56 : decode cX1_hearse 56 = .ok (.aload_n 0, 1) := dk_42 (dk_at dksX1_hearse_2 0 rfl rfl)
theorem dX1_hearse_57 : decode cX1_hearse 57 = .ok (.getfield 33, 3) := dk_180 0 33 (dk_at dksX1_hearse_2 1 rfl rfl)
theorem dX1_hearse_60 : decode cX1_hearse 60 = .ok (.getfield 186, 3) := dk_180 0 186 (dk_at dksX1_hearse_2 4 rfl rfl)
theorem dX1_hearse_63 : decode cX1_hearse 63 = .ok (.iload_n 1, 1) := dk_27 (dk_at dksX1_hearse_2 7 rfl rfl)
theorem dX1_hearse_64 : decode cX1_hearse 64 = .ok (.iaload, 1) := dk_46 (dk_at dksX1_hearse_2 8 rfl rfl)
theorem dX1_hearse_65 : decode cX1_hearse 65 = .ok (.ireturn, 1) := dk_172 (dk_at dksX1_hearse_2 9 rfl rfl)
theorem dX1_hearse_66 : decode cX1_hearse 66 = .ok (.aload_n 0, 1) := dk_42 (dk_at dksX1_hearse_2 10 rfl rfl)
theorem dX1_hearse_67 : decode cX1_hearse 67 = .ok (.getfield 33, 3) := dk_180 0 33 (dk_at dksX1_hearse_2 11 rfl rfl)
theorem dX1_hearse_70 : decode cX1_hearse 70 = .ok (.getfield 188, 3) := dk_180 0 188 (dk_at dksX1_hearse_2 14 rfl rfl)
theorem dX1_hearse_73 : decode cX1_hearse 73 = .ok (.iload_n 1, 1) := dk_27 (dk_at dksX1_hearse_2 17 rfl rfl)
theorem dX1_hearse_74 : decode cX1_hearse 74 = .ok (.iaload, 1) := dk_46 (dk_at dksX1_hearse_2 18 rfl rfl)
theorem dX1_hearse_75 : decode cX1_hearse 75 = .ok (.ireturn, 1) := dk_172 (dk_at dksX1_hearse_2 19 rfl rfl)
theorem dX1_hearse_76 : decode cX1_hearse 76 = .ok (.aload_n 0, 1) := dk_42 (dk_at dksX1_hearse_2 20 rfl rfl)
theorem dX1_hearse_77 : decode cX1_hearse 77 = .ok (.getfield 33, 3) := dk_180 0 33 (dk_at dksX1_hearse_2 21 rfl rfl)
theorem dX1_hearse_80 : decode cX1_hearse 80 = .ok (.iload_n 1, 1) := dk_27 (dk_at dksX1_hearse_3 0 rfl rfl)
theorem dX1_hearse_81 : decode cX1_hearse 81 = .ok (.invokevirtual 236, 3) := dk_182 0 236 (dk_at dksX1_hearse_3 1 rfl rfl)
theorem dX1_hearse_84 : decode cX1_hearse 84 = .ok (.ifCond .eq 14, 3) := dk_153 0 14 (dk_at dksX1_hearse_3 4 rfl rfl)
theorem dX1_hearse_87 : decode cX1_hearse 87 = .ok (.aload_n 0, 1) := dk_42 (dk_at dksX1_hearse_3 7 rfl rfl)
theorem dX1_hearse_88 : decode cX1_hearse 88 = .ok (.getfield 33, 3) := dk_180 0 33 (dk_at dksX1_hearse_3 8 rfl rfl)
theorem dX1_hearse_91 : decode cX1_hearse 91 = .ok (.iload_n 1, 1) := dk_27 (dk_at dksX1_hearse_3 11 rfl rfl)
theorem dX1_hearse_92 : decode cX1_hearse 92 = .ok (.invokevirtual 239, 3) := dk_182 0 239 (dk_at dksX1_hearse_3 12 rfl rfl)
theorem dX1_hearse_95 : decode cX1_hearse 95 = .ok (.goto 4, 3) := dk_167 0 4 (dk_at dksX1_hearse_3 15 rfl rfl)
theorem dX1_hearse_98 : decode cX1_hearse 98 = .ok (.iconst 0, 1) := dk_3 (dk_at dksX1_hearse_3 18 rfl rfl)
theorem dX1_hearse_99 : decode cX1_hearse 99 = .ok (.ireturn, 1) := dk_172 (dk_at dksX1_hearse_3 19 rfl rfl)
theorem dX1_hearse_100 : decode cX1_hearse 100 = .ok (.aload_n 0, 1) := dk_42 (dk_at dksX1_hearse_3 20 rfl rfl)
theorem dX1_hearse_101 : decode cX1_hearse 101 = .ok (.getfield 33, 3) := dk_180 0 33 (dk_at dksX1_hearse_3 21 rfl rfl)
theorem dX1_hearse_104 : decode cX1_hearse 104 = .ok (.iload_n 1, 1) := dk_27 (dk_at dksX1_hearse_4 0 rfl rfl)
theorem dX1_hearse_105 : decode cX1_hearse 105 = .ok (.invokevirtual 242, 3) := dk_182 0 242 (dk_at dksX1_hearse_4 1 rfl rfl)
theorem dX1_hearse_108 : decode cX1_hearse 108 = .ok (.ireturn, 1) := dk_172 (dk_at dksX1_hearse_4 4 rfl rfl)
theorem dX1_hearse_109 : decode cX1_hearse 109 = .ok (.aload_n 0, 1) := dk_42 (dk_at dksX1_hearse_4 5 rfl rfl)
theorem dX1_hearse_110 : decode cX1_hearse 110 = .ok (.getfield 33, 3) := dk_180 0 33 (dk_at dksX1_hearse_4 6 rfl rfl)
theorem dX1_hearse_113 : decode cX1_hearse 113 = .ok (.iload_n 1, 1) := dk_27 (dk_at dksX1_hearse_4 9 rfl rfl)
theorem dX1_hearse_114 : decode cX1_hearse 114 = .ok (.invokevirtual 245, 3) := dk_182 0 245 (dk_at dksX1_hearse_4 10 rfl rfl)
theorem dX1_hearse_117 : decode cX1_hearse 117 = .ok (.ireturn, 1) := dk_172 (dk_at dksX1_hearse_4 13 rfl rfl)
theorem dX1_hearse_118 : decode cX1_hearse 118 = .ok (.aload_n 0, 1) := dk_42 (dk_at dksX1_hearse_4 14 rfl rfl)
theorem dX1_hearse_119 : decode cX1_hearse 119 = .ok (.iload_n 1, 1) := dk_27 (dk_at dksX1_hearse_4 15 rfl rfl)
theorem dX1_hearse_120 : decode cX1_hearse 120 = .ok (.invokevirtual 248, 3) := dk_182 0 248 (dk_at dksX1_hearse_4 16 rfl rfl)
theorem dX1_hearse_123 : decode cX1_hearse 123 = .ok (.ireturn, 1) := dk_172 (dk_at dksX1_hearse_4 19 rfl rfl)
theorem dX1_hearse_124 : decode cX1_hearse 124 = .ok (.new 233, 3) := dk_187 0 233 (dk_at dksX1_hearse_4 20 rfl rfl)
theorem dX1_hearse_127 : decode cX1_hearse 127 = .ok (.dup, 1) := dk_89 (dk_at dksX1_hearse_4 23 rfl rfl)
theorem dX1_hearse_128 : decode cX1_hearse 128 = .ok (.invokespecial 235, 3) := dk_183 0 235 (dk_at dksX1_hearse_5 0 rfl rfl)
theorem dX1_hearse_131 : decode cX1_hearse 131 = .ok (.athrow, 1) := dk_191 (dk_at dksX1_hearse_5 3 rfl rfl)
abbrev cX1_mourner : ByteArray := prog_1_method_21_code
def yX1_mourner : MethodName := ⟨RX1, "mourner", "(II)I"⟩
def dkwX1_mourner_4 : List UInt8 := [187, 0, 233, 89, 183, 0, 235, 191]
abbrev dktX1_mourner_4 : List UInt8 := dkwX1_mourner_4 ++ []
def dkwX1_mourner_3 : List UInt8 := [27, 46, 172, 42, 180, 0, 33, 180, 0, 203, 27, 46, 172, 42, 180, 0, 33, 27, 182, 0, 254, 172]
abbrev dktX1_mourner_3 : List UInt8 := dkwX1_mourner_3 ++ dktX1_mourner_4
def dkwX1_mourner_2 : List UInt8 := [42, 180, 0, 33, 180, 0, 198, 27, 46, 172, 42, 180, 0, 13, 27, 46, 172, 42, 180, 0, 33, 180, 0, 200]
abbrev dktX1_mourner_2 : List UInt8 := dkwX1_mourner_2 ++ dktX1_mourner_3
def dkwX1_mourner_1 : List UInt8 := [170, 0, 0, 0, 0, 0, 81, 0, 0, 0, 0, 0, 0, 0, 4, 0, 0, 0, 35, 0, 0, 0, 45, 0, 0, 0, 52, 0, 0, 0, 62, 0, 0, 0, 72]
abbrev dktX1_mourner_1 : List UInt8 := dkwX1_mourner_1 ++ dktX1_mourner_2
def dkwX1_mourner_0 : List UInt8 := [42, 27, 182, 0, 251, 154, 0, 11, 187, 0, 233, 89, 183, 0, 235, 191, 28]
abbrev dktX1_mourner_0 : List UInt8 := dkwX1_mourner_0 ++ dktX1_mourner_1
theorem dksX1_mourner_0 : cX1_mourner.data.toList.drop 0 = dktX1_mourner_0 := by decide +kernel
theorem dksX1_mourner_1 : cX1_mourner.data.toList.drop 17 = dktX1_mourner_1 := dk_seg dksX1_mourner_0 17 rfl rfl
theorem dksX1_mourner_2 : cX1_mourner.data.toList.drop 52 = dktX1_mourner_2 := dk_seg dksX1_mourner_1 35 rfl rfl
theorem dksX1_mourner_3 : cX1_mourner.data.toList.drop 76 = dktX1_mourner_3 := dk_seg dksX1_mourner_2 24 rfl rfl
theorem dksX1_mourner_4 : cX1_mourner.data.toList.drop 98 = dktX1_mourner_4 := dk_seg dksX1_mourner_3 22 rfl rfl
theorem dX1_mourner_0 : decode cX1_mourner 0 = .ok (.aload_n 0, 1) := dk_42 (dk_at dksX1_mourner_0 0 rfl rfl)
theorem dX1_mourner_1 : decode cX1_mourner 1 = .ok (.iload_n 1, 1) := dk_27 (dk_at dksX1_mourner_0 1 rfl rfl)
theorem dX1_mourner_2 : decode cX1_mourner 2 = .ok (.invokevirtual 251, 3) := dk_182 0 251 (dk_at dksX1_mourner_0 2 rfl rfl)
theorem dX1_mourner_5 : decode cX1_mourner 5 = .ok (.ifCond .ne 11, 3) := dk_154 0 11 (dk_at dksX1_mourner_0 5 rfl rfl)
theorem dX1_mourner_8 : decode cX1_mourner 8 = .ok (.new 233, 3) := dk_187 0 233 (dk_at dksX1_mourner_0 8 rfl rfl)
theorem dX1_mourner_11 : decode cX1_mourner 11 = .ok (.dup, 1) := dk_89 (dk_at dksX1_mourner_0 11 rfl rfl)
theorem dX1_mourner_12 : decode cX1_mourner 12 = .ok (.invokespecial 235, 3) := dk_183 0 235 (dk_at dksX1_mourner_0 12 rfl rfl)
theorem dX1_mourner_15 : decode cX1_mourner 15 = .ok (.athrow, 1) := dk_191 (dk_at dksX1_mourner_0 15 rfl rfl)
theorem dX1_mourner_16 : decode cX1_mourner 16 = .ok (.iload_n 2, 1) := dk_28 (dk_at dksX1_mourner_0 16 rfl rfl)
theorem dX1_mourner_17 : decode cX1_mourner 17 = .ok (.tableswitch 81 0 4 #[35, 45, 52, 62, 72], 35) := by decide +kernel
theorem dX1_mourner_52 : decode cX1_mourner 52 = .ok (.aload_n 0, 1) := dk_42 (dk_at dksX1_mourner_2 0 rfl rfl)
theorem dX1_mourner_53 : decode cX1_mourner 53 = .ok (.getfield 33, 3) := dk_180 0 33 (dk_at dksX1_mourner_2 1 rfl rfl)
theorem dX1_mourner_56 : decode cX1_mourner 56 = .ok (.getfield 198, 3) := dk_180 0 198 (dk_at dksX1_mourner_2 4 rfl rfl)
theorem dX1_mourner_59 : decode cX1_mourner 59 = .ok (.iload_n 1, 1) := dk_27 (dk_at dksX1_mourner_2 7 rfl rfl)
theorem dX1_mourner_60 : decode cX1_mourner 60 = .ok (.iaload, 1) := dk_46 (dk_at dksX1_mourner_2 8 rfl rfl)
theorem dX1_mourner_61 : decode cX1_mourner 61 = .ok (.ireturn, 1) := dk_172 (dk_at dksX1_mourner_2 9 rfl rfl)
theorem dX1_mourner_62 : decode cX1_mourner 62 = .ok (.aload_n 0, 1) := dk_42 (dk_at dksX1_mourner_2 10 rfl rfl)
theorem dX1_mourner_63 : decode cX1_mourner 63 = .ok (.getfield 13, 3) := dk_180 0 13 (dk_at dksX1_mourner_2 11 rfl rfl)
theorem dX1_mourner_66 : decode cX1_mourner 66 = .ok (.iload_n 1, 1) := dk_27 (dk_at dksX1_mourner_2 14 rfl rfl)
theorem dX1_mourner_67 : decode cX1_mourner 67 = .ok (.iaload, 1) := dk_46 (dk_at dksX1_mourner_2 15 rfl rfl)
theorem dX1_mourner_68 : decode cX1_mourner 68 = .ok (.ireturn, 1) := dk_172 (dk_at dksX1_mourner_2 16 rfl rfl)
theorem dX1_mourner_69 : decode cX1_mourner 69 = .ok (.aload_n 0, 1) := dk_42 (dk_at dksX1_mourner_2 17 rfl rfl)
theorem dX1_mourner_70 : decode cX1_mourner 70 = .ok (.getfield 33, 3) := dk_180 0 33 (dk_at dksX1_mourner_2 18 rfl rfl)
theorem dX1_mourner_73 : decode cX1_mourner 73 = .ok (.getfield 200, 3) := dk_180 0 200 (dk_at dksX1_mourner_2 21 rfl rfl)
theorem dX1_mourner_76 : decode cX1_mourner 76 = .ok (.iload_n 1, 1) := dk_27 (dk_at dksX1_mourner_3 0 rfl rfl)
theorem dX1_mourner_77 : decode cX1_mourner 77 = .ok (.iaload, 1) := dk_46 (dk_at dksX1_mourner_3 1 rfl rfl)
theorem dX1_mourner_78 : decode cX1_mourner 78 = .ok (.ireturn, 1) := dk_172 (dk_at dksX1_mourner_3 2 rfl rfl)
theorem dX1_mourner_79 : decode cX1_mourner 79 = .ok (.aload_n 0, 1) := dk_42 (dk_at dksX1_mourner_3 3 rfl rfl)
theorem dX1_mourner_80 : decode cX1_mourner 80 = .ok (.getfield 33, 3) := dk_180 0 33 (dk_at dksX1_mourner_3 4 rfl rfl)
theorem dX1_mourner_83 : decode cX1_mourner 83 = .ok (.getfield 203, 3) := dk_180 0 203 (dk_at dksX1_mourner_3 7 rfl rfl)
theorem dX1_mourner_86 : decode cX1_mourner 86 = .ok (.iload_n 1, 1) := dk_27 (dk_at dksX1_mourner_3 10 rfl rfl)
theorem dX1_mourner_87 : decode cX1_mourner 87 = .ok (.iaload, 1) := dk_46 (dk_at dksX1_mourner_3 11 rfl rfl)
theorem dX1_mourner_88 : decode cX1_mourner 88 = .ok (.ireturn, 1) := dk_172 (dk_at dksX1_mourner_3 12 rfl rfl)
theorem dX1_mourner_89 : decode cX1_mourner 89 = .ok (.aload_n 0, 1) := dk_42 (dk_at dksX1_mourner_3 13 rfl rfl)
theorem dX1_mourner_90 : decode cX1_mourner 90 = .ok (.getfield 33, 3) := dk_180 0 33 (dk_at dksX1_mourner_3 14 rfl rfl)
theorem dX1_mourner_93 : decode cX1_mourner 93 = .ok (.iload_n 1, 1) := dk_27 (dk_at dksX1_mourner_3 17 rfl rfl)
theorem dX1_mourner_94 : decode cX1_mourner 94 = .ok (.invokevirtual 254, 3) := dk_182 0 254 (dk_at dksX1_mourner_3 18 rfl rfl)
theorem dX1_mourner_97 : decode cX1_mourner 97 = .ok (.ireturn, 1) := dk_172 (dk_at dksX1_mourner_3 21 rfl rfl)
theorem dX1_mourner_98 : decode cX1_mourner 98 = .ok (.new 233, 3) := dk_187 0 233 (dk_at dksX1_mourner_4 0 rfl rfl)
theorem dX1_mourner_101 : decode cX1_mourner 101 = .ok (.dup, 1) := dk_89 (dk_at dksX1_mourner_4 3 rfl rfl)
theorem dX1_mourner_102 : decode cX1_mourner 102 = .ok (.invokespecial 235, 3) := dk_183 0 235 (dk_at dksX1_mourner_4 4 rfl rfl)
theorem dX1_mourner_105 : decode cX1_mourner 105 = .ok (.athrow, 1) := dk_191 (dk_at dksX1_mourner_4 7 rfl rfl)
abbrev cX1_row : ByteArray := prog_1_method_75_code
def yX1_row : MethodName := ⟨RX1, "row", "(I)J"⟩
def dkwX1_row_1 : List UInt8 := [42, 180, 0, 53, 27, 47, 173]
abbrev dktX1_row_1 : List UInt8 := dkwX1_row_1 ++ []
def dkwX1_row_0 : List UInt8 := [27, 133, 9, 42, 180, 0, 95, 4, 100, 133, 184, 0, 101, 154, 0, 11, 187, 0, 233, 89, 183, 0, 235, 191]
abbrev dktX1_row_0 : List UInt8 := dkwX1_row_0 ++ dktX1_row_1
theorem dksX1_row_0 : cX1_row.data.toList.drop 0 = dktX1_row_0 := by decide +kernel
theorem dksX1_row_1 : cX1_row.data.toList.drop 24 = dktX1_row_1 := dk_seg dksX1_row_0 24 rfl rfl
theorem dX1_row_0 : decode cX1_row 0 = .ok (.iload_n 1, 1) := dk_27 (dk_at dksX1_row_0 0 rfl rfl)
theorem dX1_row_1 : decode cX1_row 1 = .ok (.i2l, 1) := dk_133 (dk_at dksX1_row_0 1 rfl rfl)
theorem dX1_row_2 : decode cX1_row 2 = .ok (.lconst 0, 1) := dk_9 (dk_at dksX1_row_0 2 rfl rfl)
theorem dX1_row_3 : decode cX1_row 3 = .ok (.aload_n 0, 1) := dk_42 (dk_at dksX1_row_0 3 rfl rfl)
theorem dX1_row_4 : decode cX1_row 4 = .ok (.getfield 95, 3) := dk_180 0 95 (dk_at dksX1_row_0 4 rfl rfl)
theorem dX1_row_7 : decode cX1_row 7 = .ok (.iconst 1, 1) := dk_4 (dk_at dksX1_row_0 7 rfl rfl)
theorem dX1_row_8 : decode cX1_row 8 = .ok (.isub, 1) := dk_100 (dk_at dksX1_row_0 8 rfl rfl)
theorem dX1_row_9 : decode cX1_row 9 = .ok (.i2l, 1) := dk_133 (dk_at dksX1_row_0 9 rfl rfl)
theorem dX1_row_10 : decode cX1_row 10 = .ok (.invokestatic 101, 3) := dk_184 0 101 (dk_at dksX1_row_0 10 rfl rfl)
theorem dX1_row_13 : decode cX1_row 13 = .ok (.ifCond .ne 11, 3) := dk_154 0 11 (dk_at dksX1_row_0 13 rfl rfl)
theorem dX1_row_16 : decode cX1_row 16 = .ok (.new 233, 3) := dk_187 0 233 (dk_at dksX1_row_0 16 rfl rfl)
theorem dX1_row_19 : decode cX1_row 19 = .ok (.dup, 1) := dk_89 (dk_at dksX1_row_0 19 rfl rfl)
theorem dX1_row_20 : decode cX1_row 20 = .ok (.invokespecial 235, 3) := dk_183 0 235 (dk_at dksX1_row_0 20 rfl rfl)
theorem dX1_row_23 : decode cX1_row 23 = .ok (.athrow, 1) := dk_191 (dk_at dksX1_row_0 23 rfl rfl)
theorem dX1_row_24 : decode cX1_row 24 = .ok (.aload_n 0, 1) := dk_42 (dk_at dksX1_row_1 0 rfl rfl)
theorem dX1_row_25 : decode cX1_row 25 = .ok (.getfield 53, 3) := dk_180 0 53 (dk_at dksX1_row_1 1 rfl rfl)
theorem dX1_row_28 : decode cX1_row 28 = .ok (.iload_n 1, 1) := dk_27 (dk_at dksX1_row_1 4 rfl rfl)
theorem dX1_row_29 : decode cX1_row 29 = .ok (.laload, 1) := dk_47 (dk_at dksX1_row_1 5 rfl rfl)
theorem dX1_row_30 : decode cX1_row 30 = .ok (.lreturn, 1) := dk_173 (dk_at dksX1_row_1 6 rfl rfl)
theorem q79 : (Jvm.Cond.initialized "BehindAnotherHearse") ∈ lw_all := lw_g (lw_at lw_m1 1 rfl) rfl
theorem q108 : (Jvm.Cond.instantiable "BehindAnotherHearse" (30 : Nat)) ∈ lw_all := lw_g (lw_at lw_m1 30 rfl) rfl
theorem q110 : (Jvm.Cond.instanceMethod ({ cls := "BehindAnotherHearse", name := "<init>", desc := "()V" } : Jvm.MethodName)) ∈ lw_all := lw_g (lw_at lw_m1 32 rfl) rfl
theorem q111 : (Jvm.Cond.code ({ cls := "BehindAnotherHearse", name := "<init>", desc := "()V" } : Jvm.MethodName) prog_1_method_3_code (2 : Nat) (Option.none : Option Jvm.ClassFile.FieldType)) ∈ lw_all := lw_g (lw_at lw_m1 33 rfl) rfl
theorem q112 : (Jvm.Cond.methodLink "BehindAnotherHearse" (1 : Nat) ({ cls := "java/lang/Object", name := "<init>", desc := "()V" } : Jvm.MethodName)) ∈ lw_all := lw_g (lw_at lw_m1 34 rfl) rfl
theorem q115 : (Jvm.Cond.classLink "BehindAnotherHearse" (28 : Nat) "BehindAnotherHearse$Street") ∈ lw_all := lw_g (lw_at lw_m1 37 rfl) rfl
theorem q117 : (Jvm.Cond.methodLinkNest "BehindAnotherHearse" (30 : Nat) ({ cls := "BehindAnotherHearse$Street", name := "<init>", desc := "(LBehindAnotherHearse;)V" } : Jvm.MethodName) "BehindAnotherHearse") ∈ lw_tbl := lw_at lw_m1 39 rfl
theorem q125 : (Jvm.Cond.fieldLink "BehindAnotherHearse" (186 : Nat) "BehindAnotherHearse$Street" "at" "[I") ∈ lw_all := lw_g (lw_at lw_m1 47 rfl) rfl
theorem q127 : (Jvm.Cond.fieldLink "BehindAnotherHearse" (188 : Nat) "BehindAnotherHearse$Street" "rank" "[I") ∈ lw_all := lw_g (lw_at lw_m1 49 rfl) rfl
theorem q130 : (Jvm.Cond.fieldLink "BehindAnotherHearse" (198 : Nat) "BehindAnotherHearse$Street" "cell" "[I") ∈ lw_all := lw_g (lw_at lw_m1 52 rfl) rfl
theorem q135 : (Jvm.Cond.fieldLink "BehindAnotherHearse" (200 : Nat) "BehindAnotherHearse$Street" "follows" "[I") ∈ lw_all := lw_g (lw_at lw_m1 57 rfl) rfl
theorem q138 : (Jvm.Cond.fieldLink "BehindAnotherHearse" (203 : Nat) "BehindAnotherHearse$Street" "ended" "[I") ∈ lw_all := lw_g (lw_at lw_m1 60 rfl) rfl
theorem q140 : (Jvm.Cond.fieldLink "BehindAnotherHearse" (295 : Nat) "BehindAnotherHearse$Street" "changes" "[I") ∈ lw_all := lw_g (lw_at lw_m1 62 rfl) rfl
theorem q142 : (Jvm.Cond.fieldLink "BehindAnotherHearse" (284 : Nat) "BehindAnotherHearse$Street" "waits" "[I") ∈ lw_all := lw_g (lw_at lw_m1 64 rfl) rfl
theorem q145 : (Jvm.Cond.fieldLink "BehindAnotherHearse" (150 : Nat) "BehindAnotherHearse$Street" "step" "I") ∈ lw_all := lw_g (lw_at lw_m1 67 rfl) rfl
theorem q148 : (Jvm.Cond.fieldLink "BehindAnotherHearse" (153 : Nat) "BehindAnotherHearse$Street" "arrived" "I") ∈ lw_all := lw_g (lw_at lw_m1 70 rfl) rfl
theorem q175 : (Jvm.Cond.classLink "BehindAnotherHearse" (57 : Nat) "BehindAnotherHearse$AsItIs") ∈ lw_all := lw_g (lw_at lw_m1 97 rfl) rfl
theorem q177 : (Jvm.Cond.methodLinkNest "BehindAnotherHearse" (59 : Nat) ({ cls := "BehindAnotherHearse$AsItIs", name := "<init>", desc := "(LBehindAnotherHearse;)V" } : Jvm.MethodName) "BehindAnotherHearse") ∈ lw_tbl := lw_at lw_m1 99 rfl
theorem q192 : (Jvm.Cond.classLink "BehindAnotherHearse" (70 : Nat) "BehindAnotherHearse$Seated") ∈ lw_all := lw_g (lw_at lw_m1 114 rfl) rfl
theorem q194 : (Jvm.Cond.methodLink "BehindAnotherHearse" (72 : Nat) ({ cls := "BehindAnotherHearse$Seated", name := "<init>", desc := "(LBehindAnotherHearse;[I)V" } : Jvm.MethodName)) ∈ lw_all := lw_g (lw_at lw_m1 116 rfl) rfl
theorem q206 : (Jvm.Cond.classLink "BehindAnotherHearse" (78 : Nat) "[[I") ∈ lw_all := lw_g (lw_at lw_m1 128 rfl) rfl
theorem q208 : (Jvm.Cond.classLink "BehindAnotherHearse" (89 : Nat) "BehindAnotherHearse$Page") ∈ lw_all := lw_g (lw_at lw_m1 130 rfl) rfl
theorem q210 : (Jvm.Cond.fieldLink "BehindAnotherHearse" (9 : Nat) "BehindAnotherHearse" "inTurn" "[I") ∈ lw_all := lw_g (lw_at lw_m1 132 rfl) rfl
theorem q213 : (Jvm.Cond.fieldLink "BehindAnotherHearse" (13 : Nat) "BehindAnotherHearse" "own" "[I") ∈ lw_all := lw_g (lw_at lw_m1 135 rfl) rfl
theorem q215 : (Jvm.Cond.fieldLink "BehindAnotherHearse" (16 : Nat) "BehindAnotherHearse" "corner" "[Z") ∈ lw_all := lw_g (lw_at lw_m1 137 rfl) rfl
theorem q218 : (Jvm.Cond.fieldLink "BehindAnotherHearse" (20 : Nat) "BehindAnotherHearse" "cells" "I") ∈ lw_all := lw_g (lw_at lw_m1 140 rfl) rfl
theorem q222 : (Jvm.Cond.fieldLink "BehindAnotherHearse" (98 : Nat) "BehindAnotherHearse" "hearses" "I") ∈ lw_all := lw_g (lw_at lw_m1 144 rfl) rfl
theorem q225 : (Jvm.Cond.fieldLink "BehindAnotherHearse" (105 : Nat) "BehindAnotherHearse" "men" "I") ∈ lw_all := lw_g (lw_at lw_m1 147 rfl) rfl
theorem q228 : (Jvm.Cond.fieldLink "BehindAnotherHearse" (173 : Nat) "BehindAnotherHearse" "came" "I") ∈ lw_all := lw_g (lw_at lw_m1 150 rfl) rfl
theorem q229 : (Jvm.Cond.fieldLink "BehindAnotherHearse" (162 : Nat) "BehindAnotherHearse" "undoMany" "I") ∈ lw_all := lw_g (lw_at lw_m1 151 rfl) rfl
theorem q230 : (Jvm.Cond.fieldLink "BehindAnotherHearse" (24 : Nat) "BehindAnotherHearse" "weather" "[B") ∈ lw_all := lw_g (lw_at lw_m1 152 rfl) rfl
theorem q233 : (Jvm.Cond.fieldLink "BehindAnotherHearse" (33 : Nat) "BehindAnotherHearse" "now" "LBehindAnotherHearse$Street;") ∈ lw_all := lw_g (lw_at lw_m1 155 rfl) rfl
theorem q234 : (Jvm.Cond.fieldLink "BehindAnotherHearse" (37 : Nat) "BehindAnotherHearse" "aside" "LBehindAnotherHearse$Street;") ∈ lw_all := lw_g (lw_at lw_m1 156 rfl) rfl
theorem q236 : (Jvm.Cond.fieldLink "BehindAnotherHearse" (40 : Nat) "BehindAnotherHearse" "tried" "LBehindAnotherHearse$Street;") ∈ lw_all := lw_g (lw_at lw_m1 158 rfl) rfl
theorem q237 : (Jvm.Cond.fieldLink "BehindAnotherHearse" (43 : Nat) "BehindAnotherHearse" "other" "LBehindAnotherHearse$Street;") ∈ lw_all := lw_g (lw_at lw_m1 159 rfl) rfl
theorem q238 : (Jvm.Cond.fieldLink "BehindAnotherHearse" (46 : Nat) "BehindAnotherHearse" "ahead" "[LBehindAnotherHearse$Street;") ∈ lw_all := lw_g (lw_at lw_m1 160 rfl) rfl
theorem q239 : (Jvm.Cond.fieldLink "BehindAnotherHearse" (50 : Nat) "BehindAnotherHearse" "text" "[B") ∈ lw_all := lw_g (lw_at lw_m1 161 rfl) rfl
theorem q240 : (Jvm.Cond.fieldLink "BehindAnotherHearse" (114 : Nat) "BehindAnotherHearse" "typed" "I") ∈ lw_all := lw_g (lw_at lw_m1 162 rfl) rfl
theorem q241 : (Jvm.Cond.fieldLink "BehindAnotherHearse" (53 : Nat) "BehindAnotherHearse" "row" "[J") ∈ lw_all := lw_g (lw_at lw_m1 163 rfl) rfl
theorem q242 : (Jvm.Cond.fieldLink "BehindAnotherHearse" (95 : Nat) "BehindAnotherHearse" "rowMany" "I") ∈ lw_all := lw_g (lw_at lw_m1 164 rfl) rfl
theorem q244 : (Jvm.Cond.fieldLink "BehindAnotherHearse" (220 : Nat) "BehindAnotherHearse" "rule" "LBehindAnotherHearse$Rule;") ∈ lw_all := lw_g (lw_at lw_m1 166 rfl) rfl
theorem q245 : (Jvm.Cond.fieldLink "BehindAnotherHearse" (60 : Nat) "BehindAnotherHearse" "asItIs" "LBehindAnotherHearse$Trial;") ∈ lw_all := lw_g (lw_at lw_m1 167 rfl) rfl
theorem q246 : (Jvm.Cond.fieldLink "BehindAnotherHearse" (64 : Nat) "BehindAnotherHearse" "seats" "[I") ∈ lw_all := lw_g (lw_at lw_m1 168 rfl) rfl
theorem q247 : (Jvm.Cond.fieldLink "BehindAnotherHearse" (67 : Nat) "BehindAnotherHearse" "bestSeats" "[I") ∈ lw_all := lw_g (lw_at lw_m1 169 rfl) rfl
theorem q248 : (Jvm.Cond.fieldLink "BehindAnotherHearse" (75 : Nat) "BehindAnotherHearse" "seated" "LBehindAnotherHearse$Trial;") ∈ lw_all := lw_g (lw_at lw_m1 170 rfl) rfl
theorem q249 : (Jvm.Cond.fieldLink "BehindAnotherHearse" (385 : Nat) "BehindAnotherHearse" "bestRight" "I") ∈ lw_all := lw_g (lw_at lw_m1 171 rfl) rfl
theorem q250 : (Jvm.Cond.fieldLink "BehindAnotherHearse" (80 : Nat) "BehindAnotherHearse" "shared" "[[I") ∈ lw_all := lw_g (lw_at lw_m1 172 rfl) rfl
theorem q251 : (Jvm.Cond.fieldLink "BehindAnotherHearse" (83 : Nat) "BehindAnotherHearse" "heardOf" "[I") ∈ lw_all := lw_g (lw_at lw_m1 173 rfl) rfl
theorem q252 : (Jvm.Cond.fieldLink "BehindAnotherHearse" (86 : Nat) "BehindAnotherHearse" "heardBy" "[I") ∈ lw_all := lw_g (lw_at lw_m1 174 rfl) rfl
theorem q253 : (Jvm.Cond.fieldLink "BehindAnotherHearse" (428 : Nat) "BehindAnotherHearse" "heardMany" "I") ∈ lw_all := lw_g (lw_at lw_m1 175 rfl) rfl
theorem q254 : (Jvm.Cond.fieldLink "BehindAnotherHearse" (457 : Nat) "BehindAnotherHearse" "drawn" "I") ∈ lw_all := lw_g (lw_at lw_m1 176 rfl) rfl
theorem q255 : (Jvm.Cond.fieldLink "BehindAnotherHearse" (91 : Nat) "BehindAnotherHearse" "pages" "[LBehindAnotherHearse$Page;") ∈ lw_all := lw_g (lw_at lw_m1 177 rfl) rfl
theorem q256 : (Jvm.Cond.laysFinal "BehindAnotherHearse" "BehindAnotherHearse" "inTurn" "[I") ∈ lw_all := lw_g (lw_at lw_m1 178 rfl) rfl
theorem q257 : (Jvm.Cond.soleField "BehindAnotherHearse" "inTurn") ∈ lw_all := lw_g (lw_at lw_m1 179 rfl) rfl
theorem q258 : (Jvm.Cond.laysFinal "BehindAnotherHearse" "BehindAnotherHearse" "own" "[I") ∈ lw_all := lw_g (lw_at lw_m1 180 rfl) rfl
theorem q259 : (Jvm.Cond.soleField "BehindAnotherHearse" "own") ∈ lw_all := lw_g (lw_at lw_m1 181 rfl) rfl
theorem q260 : (Jvm.Cond.laysFinal "BehindAnotherHearse" "BehindAnotherHearse" "corner" "[Z") ∈ lw_all := lw_g (lw_at lw_m1 182 rfl) rfl
theorem q261 : (Jvm.Cond.soleField "BehindAnotherHearse" "corner") ∈ lw_all := lw_g (lw_at lw_m1 183 rfl) rfl
theorem q262 : (Jvm.Cond.lays "BehindAnotherHearse" "BehindAnotherHearse" "cells" "I") ∈ lw_all := lw_g (lw_at lw_m1 184 rfl) rfl
theorem q263 : (Jvm.Cond.soleField "BehindAnotherHearse" "cells") ∈ lw_all := lw_g (lw_at lw_m1 185 rfl) rfl
theorem q264 : (Jvm.Cond.lays "BehindAnotherHearse" "BehindAnotherHearse" "hearses" "I") ∈ lw_all := lw_g (lw_at lw_m1 186 rfl) rfl
theorem q265 : (Jvm.Cond.soleField "BehindAnotherHearse" "hearses") ∈ lw_all := lw_g (lw_at lw_m1 187 rfl) rfl
theorem q266 : (Jvm.Cond.lays "BehindAnotherHearse" "BehindAnotherHearse" "men" "I") ∈ lw_all := lw_g (lw_at lw_m1 188 rfl) rfl
theorem q267 : (Jvm.Cond.soleField "BehindAnotherHearse" "men") ∈ lw_all := lw_g (lw_at lw_m1 189 rfl) rfl
theorem q268 : (Jvm.Cond.lays "BehindAnotherHearse" "BehindAnotherHearse" "came" "I") ∈ lw_all := lw_g (lw_at lw_m1 190 rfl) rfl
theorem q269 : (Jvm.Cond.soleField "BehindAnotherHearse" "came") ∈ lw_all := lw_g (lw_at lw_m1 191 rfl) rfl
theorem q270 : (Jvm.Cond.lays "BehindAnotherHearse" "BehindAnotherHearse" "undoMany" "I") ∈ lw_all := lw_g (lw_at lw_m1 192 rfl) rfl
theorem q271 : (Jvm.Cond.soleField "BehindAnotherHearse" "undoMany") ∈ lw_all := lw_g (lw_at lw_m1 193 rfl) rfl
theorem q272 : (Jvm.Cond.lays "BehindAnotherHearse" "BehindAnotherHearse" "weather" "[B") ∈ lw_all := lw_g (lw_at lw_m1 194 rfl) rfl
theorem q273 : (Jvm.Cond.soleField "BehindAnotherHearse" "weather") ∈ lw_all := lw_g (lw_at lw_m1 195 rfl) rfl
theorem q274 : (Jvm.Cond.laysFinal "BehindAnotherHearse" "BehindAnotherHearse" "now" "LBehindAnotherHearse$Street;") ∈ lw_all := lw_g (lw_at lw_m1 196 rfl) rfl
theorem q275 : (Jvm.Cond.soleField "BehindAnotherHearse" "now") ∈ lw_all := lw_g (lw_at lw_m1 197 rfl) rfl
theorem q276 : (Jvm.Cond.laysFinal "BehindAnotherHearse" "BehindAnotherHearse" "aside" "LBehindAnotherHearse$Street;") ∈ lw_all := lw_g (lw_at lw_m1 198 rfl) rfl
theorem q277 : (Jvm.Cond.soleField "BehindAnotherHearse" "aside") ∈ lw_all := lw_g (lw_at lw_m1 199 rfl) rfl
theorem q278 : (Jvm.Cond.laysFinal "BehindAnotherHearse" "BehindAnotherHearse" "tried" "LBehindAnotherHearse$Street;") ∈ lw_all := lw_g (lw_at lw_m1 200 rfl) rfl
theorem q279 : (Jvm.Cond.soleField "BehindAnotherHearse" "tried") ∈ lw_all := lw_g (lw_at lw_m1 201 rfl) rfl
theorem q280 : (Jvm.Cond.laysFinal "BehindAnotherHearse" "BehindAnotherHearse" "other" "LBehindAnotherHearse$Street;") ∈ lw_all := lw_g (lw_at lw_m1 202 rfl) rfl
theorem q281 : (Jvm.Cond.soleField "BehindAnotherHearse" "other") ∈ lw_all := lw_g (lw_at lw_m1 203 rfl) rfl
theorem q282 : (Jvm.Cond.laysFinal "BehindAnotherHearse" "BehindAnotherHearse" "ahead" "[LBehindAnotherHearse$Street;") ∈ lw_all := lw_g (lw_at lw_m1 204 rfl) rfl
theorem q283 : (Jvm.Cond.soleField "BehindAnotherHearse" "ahead") ∈ lw_all := lw_g (lw_at lw_m1 205 rfl) rfl
theorem q284 : (Jvm.Cond.laysFinal "BehindAnotherHearse" "BehindAnotherHearse" "text" "[B") ∈ lw_all := lw_g (lw_at lw_m1 206 rfl) rfl
theorem q285 : (Jvm.Cond.soleField "BehindAnotherHearse" "text") ∈ lw_all := lw_g (lw_at lw_m1 207 rfl) rfl
theorem q286 : (Jvm.Cond.lays "BehindAnotherHearse" "BehindAnotherHearse" "typed" "I") ∈ lw_all := lw_g (lw_at lw_m1 208 rfl) rfl
theorem q287 : (Jvm.Cond.soleField "BehindAnotherHearse" "typed") ∈ lw_all := lw_g (lw_at lw_m1 209 rfl) rfl
theorem q288 : (Jvm.Cond.laysFinal "BehindAnotherHearse" "BehindAnotherHearse" "row" "[J") ∈ lw_all := lw_g (lw_at lw_m1 210 rfl) rfl
theorem q289 : (Jvm.Cond.soleField "BehindAnotherHearse" "row") ∈ lw_all := lw_g (lw_at lw_m1 211 rfl) rfl
theorem q290 : (Jvm.Cond.lays "BehindAnotherHearse" "BehindAnotherHearse" "rowMany" "I") ∈ lw_all := lw_g (lw_at lw_m1 212 rfl) rfl
theorem q291 : (Jvm.Cond.soleField "BehindAnotherHearse" "rowMany") ∈ lw_all := lw_g (lw_at lw_m1 213 rfl) rfl
theorem q292 : (Jvm.Cond.lays "BehindAnotherHearse" "BehindAnotherHearse" "rule" "LBehindAnotherHearse$Rule;") ∈ lw_all := lw_g (lw_at lw_m1 214 rfl) rfl
theorem q293 : (Jvm.Cond.soleField "BehindAnotherHearse" "rule") ∈ lw_all := lw_g (lw_at lw_m1 215 rfl) rfl
theorem q294 : (Jvm.Cond.laysFinal "BehindAnotherHearse" "BehindAnotherHearse" "asItIs" "LBehindAnotherHearse$Trial;") ∈ lw_all := lw_g (lw_at lw_m1 216 rfl) rfl
theorem q295 : (Jvm.Cond.soleField "BehindAnotherHearse" "asItIs") ∈ lw_all := lw_g (lw_at lw_m1 217 rfl) rfl
theorem q296 : (Jvm.Cond.laysFinal "BehindAnotherHearse" "BehindAnotherHearse" "seats" "[I") ∈ lw_all := lw_g (lw_at lw_m1 218 rfl) rfl
theorem q297 : (Jvm.Cond.soleField "BehindAnotherHearse" "seats") ∈ lw_all := lw_g (lw_at lw_m1 219 rfl) rfl
theorem q298 : (Jvm.Cond.laysFinal "BehindAnotherHearse" "BehindAnotherHearse" "bestSeats" "[I") ∈ lw_all := lw_g (lw_at lw_m1 220 rfl) rfl
theorem q299 : (Jvm.Cond.soleField "BehindAnotherHearse" "bestSeats") ∈ lw_all := lw_g (lw_at lw_m1 221 rfl) rfl
theorem q300 : (Jvm.Cond.laysFinal "BehindAnotherHearse" "BehindAnotherHearse" "seated" "LBehindAnotherHearse$Trial;") ∈ lw_all := lw_g (lw_at lw_m1 222 rfl) rfl
theorem q301 : (Jvm.Cond.soleField "BehindAnotherHearse" "seated") ∈ lw_all := lw_g (lw_at lw_m1 223 rfl) rfl
theorem q302 : (Jvm.Cond.lays "BehindAnotherHearse" "BehindAnotherHearse" "bestRight" "I") ∈ lw_all := lw_g (lw_at lw_m1 224 rfl) rfl
theorem q303 : (Jvm.Cond.soleField "BehindAnotherHearse" "bestRight") ∈ lw_all := lw_g (lw_at lw_m1 225 rfl) rfl
theorem q304 : (Jvm.Cond.laysFinal "BehindAnotherHearse" "BehindAnotherHearse" "shared" "[[I") ∈ lw_all := lw_g (lw_at lw_m1 226 rfl) rfl
theorem q305 : (Jvm.Cond.soleField "BehindAnotherHearse" "shared") ∈ lw_all := lw_g (lw_at lw_m1 227 rfl) rfl
theorem q306 : (Jvm.Cond.laysFinal "BehindAnotherHearse" "BehindAnotherHearse" "heardOf" "[I") ∈ lw_all := lw_g (lw_at lw_m1 228 rfl) rfl
theorem q307 : (Jvm.Cond.soleField "BehindAnotherHearse" "heardOf") ∈ lw_all := lw_g (lw_at lw_m1 229 rfl) rfl
theorem q308 : (Jvm.Cond.laysFinal "BehindAnotherHearse" "BehindAnotherHearse" "heardBy" "[I") ∈ lw_all := lw_g (lw_at lw_m1 230 rfl) rfl
theorem q309 : (Jvm.Cond.soleField "BehindAnotherHearse" "heardBy") ∈ lw_all := lw_g (lw_at lw_m1 231 rfl) rfl
theorem q310 : (Jvm.Cond.lays "BehindAnotherHearse" "BehindAnotherHearse" "heardMany" "I") ∈ lw_all := lw_g (lw_at lw_m1 232 rfl) rfl
theorem q311 : (Jvm.Cond.soleField "BehindAnotherHearse" "heardMany") ∈ lw_all := lw_g (lw_at lw_m1 233 rfl) rfl
theorem q312 : (Jvm.Cond.lays "BehindAnotherHearse" "BehindAnotherHearse" "drawn" "I") ∈ lw_all := lw_g (lw_at lw_m1 234 rfl) rfl
theorem q313 : (Jvm.Cond.soleField "BehindAnotherHearse" "drawn") ∈ lw_all := lw_g (lw_at lw_m1 235 rfl) rfl
theorem q314 : (Jvm.Cond.laysFinal "BehindAnotherHearse" "BehindAnotherHearse" "pages" "[LBehindAnotherHearse$Page;") ∈ lw_all := lw_g (lw_at lw_m1 236 rfl) rfl
theorem q315 : (Jvm.Cond.soleField "BehindAnotherHearse" "pages") ∈ lw_all := lw_g (lw_at lw_m1 237 rfl) rfl
theorem q316 : (Jvm.Cond.superclass "BehindAnotherHearse" "java/lang/Object") ∈ lw_all := lw_g (lw_at lw_m1 238 rfl) rfl
theorem q318 : (Jvm.Cond.instanceMethod ({ cls := "BehindAnotherHearse", name := "sign", desc := "(I)I" } : Jvm.MethodName)) ∈ lw_all := lw_g (lw_at lw_m2 0 rfl) rfl
theorem q319 : (Jvm.Cond.selects "BehindAnotherHearse" ({ cls := "BehindAnotherHearse", name := "sign", desc := "(I)I" } : Jvm.MethodName) ({ cls := "BehindAnotherHearse", name := "sign", desc := "(I)I" } : Jvm.MethodName)) ∈ lw_all := lw_g (lw_at lw_m2 1 rfl) rfl
theorem q320 : (Jvm.Cond.code ({ cls := "BehindAnotherHearse", name := "sign", desc := "(I)I" } : Jvm.MethodName) prog_1_method_9_code (3 : Nat) (Option.some Jvm.ClassFile.FieldType.int)) ∈ lw_all := lw_g (lw_at lw_m2 2 rfl) rfl
theorem q322 : (Jvm.Cond.instanceMethod ({ cls := "BehindAnotherHearse", name := "end", desc := "(I)Z" } : Jvm.MethodName)) ∈ lw_all := lw_g (lw_at lw_m2 4 rfl) rfl
theorem q323 : (Jvm.Cond.selects "BehindAnotherHearse" ({ cls := "BehindAnotherHearse", name := "end", desc := "(I)Z" } : Jvm.MethodName) ({ cls := "BehindAnotherHearse", name := "end", desc := "(I)Z" } : Jvm.MethodName)) ∈ lw_all := lw_g (lw_at lw_m2 5 rfl) rfl
theorem q324 : (Jvm.Cond.code ({ cls := "BehindAnotherHearse", name := "end", desc := "(I)Z" } : Jvm.MethodName) prog_1_method_10_code (2 : Nat) (Option.some Jvm.ClassFile.FieldType.boolean)) ∈ lw_all := lw_g (lw_at lw_m2 6 rfl) rfl
theorem q325 : (Jvm.Cond.methodLink "BehindAnotherHearse" (101 : Nat) ({ cls := "BehindAnotherHearse", name := "in", desc := "(JJJ)Z" } : Jvm.MethodName)) ∈ lw_all := lw_g (lw_at lw_m2 7 rfl) rfl
theorem q326 : (Jvm.Cond.static ({ cls := "BehindAnotherHearse", name := "in", desc := "(JJJ)Z" } : Jvm.MethodName)) ∈ lw_all := lw_g (lw_at lw_m2 8 rfl) rfl
theorem q327 : (Jvm.Cond.code ({ cls := "BehindAnotherHearse", name := "in", desc := "(JJJ)Z" } : Jvm.MethodName) prog_1_method_1_code (6 : Nat) (Option.some Jvm.ClassFile.FieldType.boolean)) ∈ lw_all := lw_g (lw_at lw_m2 9 rfl) rfl
theorem q329 : (Jvm.Cond.instanceMethod ({ cls := "BehindAnotherHearse", name := "avenue", desc := "()I" } : Jvm.MethodName)) ∈ lw_all := lw_g (lw_at lw_m2 11 rfl) rfl
theorem q330 : (Jvm.Cond.selects "BehindAnotherHearse" ({ cls := "BehindAnotherHearse", name := "avenue", desc := "()I" } : Jvm.MethodName) ({ cls := "BehindAnotherHearse", name := "avenue", desc := "()I" } : Jvm.MethodName)) ∈ lw_all := lw_g (lw_at lw_m2 12 rfl) rfl
theorem q331 : (Jvm.Cond.codeWith ({ cls := "BehindAnotherHearse", name := "avenue", desc := "()I" } : Jvm.MethodName) prog_1_method_11_code (5 : Nat) (Option.some Jvm.ClassFile.FieldType.int) [((14 : Nat), (62 : Nat), (65 : Nat), (139 : Nat))]) ∈ lw_all := lw_g (lw_at lw_m2 13 rfl) rfl
theorem q332 : (Jvm.Cond.classLink "BehindAnotherHearse" (139 : Nat) "BehindAnotherHearse$Fault") ∈ lw_all := lw_g (lw_at lw_m2 14 rfl) rfl
theorem q333 : (Jvm.Cond.methodLink "BehindAnotherHearse" (120 : Nat) ({ cls := "BehindAnotherHearse", name := "words", desc := "(I)LBehindAnotherHearse$Words;" } : Jvm.MethodName)) ∈ lw_all := lw_g (lw_at lw_m2 15 rfl) rfl
theorem q334 : (Jvm.Cond.privateMethod ({ cls := "BehindAnotherHearse", name := "words", desc := "(I)LBehindAnotherHearse$Words;" } : Jvm.MethodName)) ∈ lw_tbl := lw_at lw_m2 16 rfl
theorem q335 : (Jvm.Cond.instanceMethod ({ cls := "BehindAnotherHearse", name := "words", desc := "(I)LBehindAnotherHearse$Words;" } : Jvm.MethodName)) ∈ lw_all := lw_g (lw_at lw_m2 17 rfl) rfl
theorem q336 : (Jvm.Cond.code ({ cls := "BehindAnotherHearse", name := "words", desc := "(I)LBehindAnotherHearse$Words;" } : Jvm.MethodName) prog_1_method_8_code (3 : Nat) (Option.some (Jvm.ClassFile.FieldType.object "BehindAnotherHearse$Words"))) ∈ lw_all := lw_g (lw_at lw_m2 18 rfl) rfl
theorem q337 : (Jvm.Cond.classLink "BehindAnotherHearse" (112 : Nat) "BehindAnotherHearse$Words") ∈ lw_all := lw_g (lw_at lw_m2 19 rfl) rfl
theorem q339 : (Jvm.Cond.methodLink "BehindAnotherHearse" (117 : Nat) ({ cls := "BehindAnotherHearse$Words", name := "<init>", desc := "([BII)V" } : Jvm.MethodName)) ∈ lw_all := lw_g (lw_at lw_m2 21 rfl) rfl
theorem q348 : (Jvm.Cond.fieldLink "BehindAnotherHearse" (176 : Nat) "BehindAnotherHearse$Words" "size" "I") ∈ lw_all := lw_g (lw_at lw_m2 30 rfl) rfl
theorem q357 : (Jvm.Cond.fieldLink "BehindAnotherHearse" (169 : Nat) "BehindAnotherHearse$Words" "at" "I") ∈ lw_all := lw_g (lw_at lw_m2 39 rfl) rfl
theorem q367 : (Jvm.Cond.methodLink "BehindAnotherHearse" (124 : Nat) ({ cls := "BehindAnotherHearse$Words", name := "here", desc := "()I" } : Jvm.MethodName)) ∈ lw_all := lw_g (lw_at lw_m2 49 rfl) rfl
theorem q374 : (Jvm.Cond.methodLink "BehindAnotherHearse" (128 : Nat) ({ cls := "BehindAnotherHearse$Words", name := "passes", desc := "(C)Z" } : Jvm.MethodName)) ∈ lw_all := lw_g (lw_at lw_m2 56 rfl) rfl
theorem q382 : (Jvm.Cond.methodLink "BehindAnotherHearse" (132 : Nat) ({ cls := "BehindAnotherHearse$Words", name := "need", desc := "(Z)V" } : Jvm.MethodName)) ∈ lw_all := lw_g (lw_at lw_m2 64 rfl) rfl
theorem q436 : (Jvm.Cond.fieldLinkNest "BehindAnotherHearse" (141 : Nat) "BehindAnotherHearse$Fault" "at" "I" "BehindAnotherHearse") ∈ lw_tbl := lw_at lw_m2 118 rfl
theorem q452 : (Jvm.Cond.methodLink "BehindAnotherHearse" (136 : Nat) ({ cls := "BehindAnotherHearse$Words", name := "needEnd", desc := "()V" } : Jvm.MethodName)) ∈ lw_all := lw_g (lw_at lw_m2 134 rfl) rfl
theorem q460 : (Jvm.Cond.methodLink "BehindAnotherHearse" (144 : Nat) ({ cls := "java/lang/System", name := "arraycopy", desc := "(Ljava/lang/Object;ILjava/lang/Object;II)V" } : Jvm.MethodName)) ∈ lw_all := lw_g (lw_at lw_m2 142 rfl) rfl
theorem q463 : (Jvm.Cond.methodLink "BehindAnotherHearse" (156 : Nat) ({ cls := "java/util/Arrays", name := "fill", desc := "([Ljava/lang/Object;Ljava/lang/Object;)V" } : Jvm.MethodName)) ∈ lw_all := lw_g (lw_at lw_m2 145 rfl) rfl
theorem q467 : (Jvm.Cond.instanceMethod ({ cls := "BehindAnotherHearse", name := "hearses", desc := "()I" } : Jvm.MethodName)) ∈ lw_all := lw_g (lw_at lw_m2 149 rfl) rfl
theorem q468 : (Jvm.Cond.selects "BehindAnotherHearse" ({ cls := "BehindAnotherHearse", name := "hearses", desc := "()I" } : Jvm.MethodName) ({ cls := "BehindAnotherHearse", name := "hearses", desc := "()I" } : Jvm.MethodName)) ∈ lw_all := lw_g (lw_at lw_m2 150 rfl) rfl
theorem q469 : (Jvm.Cond.codeWith ({ cls := "BehindAnotherHearse", name := "hearses", desc := "()I" } : Jvm.MethodName) prog_1_method_14_code (6 : Nat) (Option.some Jvm.ClassFile.FieldType.int) [((23 : Nat), (142 : Nat), (145 : Nat), (139 : Nat))]) ∈ lw_all := lw_g (lw_at lw_m2 151 rfl) rfl
theorem q470 : (Jvm.Cond.methodLink "BehindAnotherHearse" (179 : Nat) ({ cls := "BehindAnotherHearse", name := "cell", desc := "(LBehindAnotherHearse$Words;)I" } : Jvm.MethodName)) ∈ lw_all := lw_g (lw_at lw_m2 152 rfl) rfl
theorem q471 : (Jvm.Cond.privateMethod ({ cls := "BehindAnotherHearse", name := "cell", desc := "(LBehindAnotherHearse$Words;)I" } : Jvm.MethodName)) ∈ lw_tbl := lw_at lw_m2 153 rfl
theorem q472 : (Jvm.Cond.instanceMethod ({ cls := "BehindAnotherHearse", name := "cell", desc := "(LBehindAnotherHearse$Words;)I" } : Jvm.MethodName)) ∈ lw_all := lw_g (lw_at lw_m2 154 rfl) rfl
theorem q473 : (Jvm.Cond.code ({ cls := "BehindAnotherHearse", name := "cell", desc := "(LBehindAnotherHearse$Words;)I" } : Jvm.MethodName) prog_1_method_12_code (3 : Nat) (Option.some Jvm.ClassFile.FieldType.int)) ∈ lw_all := lw_g (lw_at lw_m2 155 rfl) rfl
theorem q474 : (Jvm.Cond.methodLink "BehindAnotherHearse" (165 : Nat) ({ cls := "BehindAnotherHearse$Words", name := "number", desc := "(I)I" } : Jvm.MethodName)) ∈ lw_all := lw_g (lw_at lw_m2 156 rfl) rfl
theorem q491 : (Jvm.Cond.methodLink "BehindAnotherHearse" (170 : Nat) ({ cls := "BehindAnotherHearse$Fault", name := "<init>", desc := "(I)V" } : Jvm.MethodName)) ∈ lw_all := lw_g (lw_at lw_m2 173 rfl) rfl
theorem q492 : (Jvm.Cond.methodLink "BehindAnotherHearse" (183 : Nat) ({ cls := "BehindAnotherHearse$Street", name := "on", desc := "(I)I" } : Jvm.MethodName)) ∈ lw_all := lw_g (lw_at lw_m2 174 rfl) rfl
theorem q496 : (Jvm.Cond.methodLink "BehindAnotherHearse" (191 : Nat) ({ cls := "BehindAnotherHearse", name := "comes", desc := "()V" } : Jvm.MethodName)) ∈ lw_all := lw_g (lw_at lw_m2 178 rfl) rfl
theorem q497 : (Jvm.Cond.privateMethod ({ cls := "BehindAnotherHearse", name := "comes", desc := "()V" } : Jvm.MethodName)) ∈ lw_tbl := lw_at lw_m2 179 rfl
theorem q498 : (Jvm.Cond.instanceMethod ({ cls := "BehindAnotherHearse", name := "comes", desc := "()V" } : Jvm.MethodName)) ∈ lw_all := lw_g (lw_at lw_m2 180 rfl) rfl
theorem q499 : (Jvm.Cond.code ({ cls := "BehindAnotherHearse", name := "comes", desc := "()V" } : Jvm.MethodName) prog_1_method_13_code (1 : Nat) (Option.none : Option Jvm.ClassFile.FieldType)) ∈ lw_all := lw_g (lw_at lw_m2 181 rfl) rfl
theorem q501 : (Jvm.Cond.instanceMethod ({ cls := "BehindAnotherHearse", name := "mourners", desc := "()I" } : Jvm.MethodName)) ∈ lw_all := lw_g (lw_at lw_m2 183 rfl) rfl
theorem q502 : (Jvm.Cond.selects "BehindAnotherHearse" ({ cls := "BehindAnotherHearse", name := "mourners", desc := "()I" } : Jvm.MethodName) ({ cls := "BehindAnotherHearse", name := "mourners", desc := "()I" } : Jvm.MethodName)) ∈ lw_all := lw_g (lw_at lw_m2 184 rfl) rfl
theorem q503 : (Jvm.Cond.codeWith ({ cls := "BehindAnotherHearse", name := "mourners", desc := "()I" } : Jvm.MethodName) prog_1_method_15_code (5 : Nat) (Option.some Jvm.ClassFile.FieldType.int) [((26 : Nat), (87 : Nat), (90 : Nat), (139 : Nat))]) ∈ lw_all := lw_g (lw_at lw_m2 185 rfl) rfl
theorem q504 : (Jvm.Cond.methodLink "BehindAnotherHearse" (194 : Nat) ({ cls := "BehindAnotherHearse$Words", name := "one", desc := "(CI)I" } : Jvm.MethodName)) ∈ lw_all := lw_g (lw_at lw_m2 186 rfl) rfl
theorem q506 : (Jvm.Cond.instanceMethod ({ cls := "BehindAnotherHearse", name := "weather", desc := "()I" } : Jvm.MethodName)) ∈ lw_all := lw_g (lw_at lw_m2 188 rfl) rfl
theorem q507 : (Jvm.Cond.selects "BehindAnotherHearse" ({ cls := "BehindAnotherHearse", name := "weather", desc := "()I" } : Jvm.MethodName) ({ cls := "BehindAnotherHearse", name := "weather", desc := "()I" } : Jvm.MethodName)) ∈ lw_all := lw_g (lw_at lw_m2 189 rfl) rfl
theorem q508 : (Jvm.Cond.codeWith ({ cls := "BehindAnotherHearse", name := "weather", desc := "()I" } : Jvm.MethodName) prog_1_method_16_code (4 : Nat) (Option.some Jvm.ClassFile.FieldType.int) [((23 : Nat), (50 : Nat), (53 : Nat), (139 : Nat))]) ∈ lw_all := lw_g (lw_at lw_m2 190 rfl) rfl
theorem q509 : (Jvm.Cond.methodLink "BehindAnotherHearse" (206 : Nat) ({ cls := "java/lang/Math", name := "min", desc := "(II)I" } : Jvm.MethodName)) ∈ lw_all := lw_g (lw_at lw_m2 191 rfl) rfl
theorem q510 : (Jvm.Cond.methodLink "BehindAnotherHearse" (212 : Nat) ({ cls := "java/lang/Math", name := "max", desc := "(II)I" } : Jvm.MethodName)) ∈ lw_all := lw_g (lw_at lw_m2 192 rfl) rfl
theorem q514 : (Jvm.Cond.instanceMethod ({ cls := "BehindAnotherHearse", name := "rule", desc := "()I" } : Jvm.MethodName)) ∈ lw_all := lw_g (lw_at lw_m2 196 rfl) rfl
theorem q515 : (Jvm.Cond.selects "BehindAnotherHearse" ({ cls := "BehindAnotherHearse", name := "rule", desc := "()I" } : Jvm.MethodName) ({ cls := "BehindAnotherHearse", name := "rule", desc := "()I" } : Jvm.MethodName)) ∈ lw_all := lw_g (lw_at lw_m2 197 rfl) rfl
theorem q516 : (Jvm.Cond.codeWith ({ cls := "BehindAnotherHearse", name := "rule", desc := "()I" } : Jvm.MethodName) prog_1_method_18_code (4 : Nat) (Option.some Jvm.ClassFile.FieldType.int) [((32 : Nat), (50 : Nat), (51 : Nat), (139 : Nat))]) ∈ lw_all := lw_g (lw_at lw_m2 198 rfl) rfl
theorem q517 : (Jvm.Cond.methodLink "BehindAnotherHearse" (215 : Nat) ({ cls := "[B", name := "clone", desc := "()Ljava/lang/Object;" } : Jvm.MethodName)) ∈ lw_all := lw_g (lw_at lw_m2 199 rfl) rfl
theorem q523 : (Jvm.Cond.classLink "BehindAnotherHearse" (216 : Nat) "[B") ∈ lw_all := lw_g (lw_at lw_m2 205 rfl) rfl
theorem q524 : (Jvm.Cond.classLink "BehindAnotherHearse" (224 : Nat) "BehindAnotherHearse$Rule") ∈ lw_all := lw_g (lw_at lw_m2 206 rfl) rfl
theorem q526 : (Jvm.Cond.methodLink "BehindAnotherHearse" (226 : Nat) ({ cls := "BehindAnotherHearse$Rule", name := "<init>", desc := "(LBehindAnotherHearse;[BI)V" } : Jvm.MethodName)) ∈ lw_all := lw_g (lw_at lw_m2 208 rfl) rfl
theorem q544 : (Jvm.Cond.methodLink "BehindAnotherHearse" (229 : Nat) ({ cls := "BehindAnotherHearse$Rule", name := "read", desc := "()LBehindAnotherHearse$Rule;" } : Jvm.MethodName)) ∈ lw_all := lw_g (lw_at lw_m2 226 rfl) rfl
theorem q676 : (Jvm.Cond.privateMethod ({ cls := "BehindAnotherHearse", name := "weatherOf", desc := "(I)I" } : Jvm.MethodName)) ∈ lw_tbl := lw_at lw_m3 118 rfl
theorem q677 : (Jvm.Cond.instanceMethod ({ cls := "BehindAnotherHearse", name := "weatherOf", desc := "(I)I" } : Jvm.MethodName)) ∈ lw_all := lw_g (lw_at lw_m3 119 rfl) rfl
theorem q678 : (Jvm.Cond.code ({ cls := "BehindAnotherHearse", name := "weatherOf", desc := "(I)I" } : Jvm.MethodName) prog_1_method_17_code (2 : Nat) (Option.some Jvm.ClassFile.FieldType.int)) ∈ lw_all := lw_g (lw_at lw_m3 120 rfl) rfl
theorem q694 : (Jvm.Cond.instanceMethod ({ cls := "BehindAnotherHearse", name := "sheet", desc := "(IIII)I" } : Jvm.MethodName)) ∈ lw_all := lw_g (lw_at lw_m3 136 rfl) rfl
theorem q695 : (Jvm.Cond.selects "BehindAnotherHearse" ({ cls := "BehindAnotherHearse", name := "sheet", desc := "(IIII)I" } : Jvm.MethodName) ({ cls := "BehindAnotherHearse", name := "sheet", desc := "(IIII)I" } : Jvm.MethodName)) ∈ lw_all := lw_g (lw_at lw_m3 137 rfl) rfl
theorem q696 : (Jvm.Cond.codeWith ({ cls := "BehindAnotherHearse", name := "sheet", desc := "(IIII)I" } : Jvm.MethodName) prog_1_method_24_code (8 : Nat) (Option.some Jvm.ClassFile.FieldType.int) [((28 : Nat), (38 : Nat), (41 : Nat), (266 : Nat))]) ∈ lw_all := lw_g (lw_at lw_m3 138 rfl) rfl
theorem q697 : (Jvm.Cond.classLink "BehindAnotherHearse" (266 : Nat) "java/lang/NegativeArraySizeException") ∈ lw_all := lw_g (lw_at lw_m3 139 rfl) rfl
theorem q726 : (Jvm.Cond.constantLong "BehindAnotherHearse" (260 : Nat) (3 : Int64)) ∈ lw_all := lw_g (lw_at lw_m3 168 rfl) rfl
theorem q727 : (Jvm.Cond.methodLink "BehindAnotherHearse" (262 : Nat) ({ cls := "BehindAnotherHearse", name := "rowOf", desc := "(IIII)Ljava/lang/Object;" } : Jvm.MethodName)) ∈ lw_all := lw_g (lw_at lw_m3 169 rfl) rfl
theorem q728 : (Jvm.Cond.static ({ cls := "BehindAnotherHearse", name := "rowOf", desc := "(IIII)Ljava/lang/Object;" } : Jvm.MethodName)) ∈ lw_all := lw_g (lw_at lw_m3 170 rfl) rfl
theorem q729 : (Jvm.Cond.code ({ cls := "BehindAnotherHearse", name := "rowOf", desc := "(IIII)Ljava/lang/Object;" } : Jvm.MethodName) prog_1_method_22_code (7 : Nat) (Option.some (Jvm.ClassFile.FieldType.object "java/lang/Object"))) ∈ lw_all := lw_g (lw_at lw_m3 171 rfl) rfl
theorem q730 : (Jvm.Cond.methodLink "BehindAnotherHearse" (268 : Nat) ({ cls := "BehindAnotherHearse", name := "entry", desc := "(Ljava/lang/Object;I)I" } : Jvm.MethodName)) ∈ lw_all := lw_g (lw_at lw_m3 172 rfl) rfl
theorem q731 : (Jvm.Cond.static ({ cls := "BehindAnotherHearse", name := "entry", desc := "(Ljava/lang/Object;I)I" } : Jvm.MethodName)) ∈ lw_all := lw_g (lw_at lw_m3 173 rfl) rfl
theorem q732 : (Jvm.Cond.code ({ cls := "BehindAnotherHearse", name := "entry", desc := "(Ljava/lang/Object;I)I" } : Jvm.MethodName) prog_1_method_23_code (2 : Nat) (Option.some Jvm.ClassFile.FieldType.int)) ∈ lw_all := lw_g (lw_at lw_m3 174 rfl) rfl
theorem q733 : (Jvm.Cond.classLink "BehindAnotherHearse" (257 : Nat) "[S") ∈ lw_all := lw_g (lw_at lw_m3 175 rfl) rfl
theorem q734 : (Jvm.Cond.classLink "BehindAnotherHearse" (259 : Nat) "[I") ∈ lw_all := lw_g (lw_at lw_m3 176 rfl) rfl
theorem q737 : (Jvm.Cond.instanceMethod ({ cls := "BehindAnotherHearse", name := "steps", desc := "(I)I" } : Jvm.MethodName)) ∈ lw_all := lw_g (lw_at lw_m3 179 rfl) rfl
theorem q738 : (Jvm.Cond.selects "BehindAnotherHearse" ({ cls := "BehindAnotherHearse", name := "steps", desc := "(I)I" } : Jvm.MethodName) ({ cls := "BehindAnotherHearse", name := "steps", desc := "(I)I" } : Jvm.MethodName)) ∈ lw_all := lw_g (lw_at lw_m3 180 rfl) rfl
theorem q739 : (Jvm.Cond.code ({ cls := "BehindAnotherHearse", name := "steps", desc := "(I)I" } : Jvm.MethodName) prog_1_method_27_code (2 : Nat) (Option.some Jvm.ClassFile.FieldType.int)) ∈ lw_all := lw_g (lw_at lw_m3 181 rfl) rfl
theorem q740 : (Jvm.Cond.constantLong "BehindAnotherHearse" (276 : Nat) (60 : Int64)) ∈ lw_all := lw_g (lw_at lw_m3 182 rfl) rfl
theorem q741 : (Jvm.Cond.methodLink "BehindAnotherHearse" (278 : Nat) ({ cls := "BehindAnotherHearse", name := "remember", desc := "(LBehindAnotherHearse$Street;)V" } : Jvm.MethodName)) ∈ lw_all := lw_g (lw_at lw_m3 183 rfl) rfl
theorem q742 : (Jvm.Cond.privateMethod ({ cls := "BehindAnotherHearse", name := "remember", desc := "(LBehindAnotherHearse$Street;)V" } : Jvm.MethodName)) ∈ lw_tbl := lw_at lw_m3 184 rfl
theorem q743 : (Jvm.Cond.instanceMethod ({ cls := "BehindAnotherHearse", name := "remember", desc := "(LBehindAnotherHearse$Street;)V" } : Jvm.MethodName)) ∈ lw_all := lw_g (lw_at lw_m3 185 rfl) rfl
theorem q744 : (Jvm.Cond.code ({ cls := "BehindAnotherHearse", name := "remember", desc := "(LBehindAnotherHearse$Street;)V" } : Jvm.MethodName) prog_1_method_25_code (3 : Nat) (Option.none : Option Jvm.ClassFile.FieldType)) ∈ lw_all := lw_g (lw_at lw_m3 186 rfl) rfl
theorem q745 : (Jvm.Cond.methodLink "BehindAnotherHearse" (272 : Nat) ({ cls := "BehindAnotherHearse$Street", name := "be", desc := "(LBehindAnotherHearse$Street;)V" } : Jvm.MethodName)) ∈ lw_all := lw_g (lw_at lw_m3 187 rfl) rfl
theorem q753 : (Jvm.Cond.methodLink "BehindAnotherHearse" (281 : Nat) ({ cls := "BehindAnotherHearse$Street", name := "go", desc := "(I)V" } : Jvm.MethodName)) ∈ lw_all := lw_g (lw_at lw_m3 195 rfl) rfl
theorem q804 : (Jvm.Cond.methodLink "BehindAnotherHearse" (287 : Nat) ({ cls := "BehindAnotherHearse", name := "sumOf", desc := "([I)I" } : Jvm.MethodName)) ∈ lw_all := lw_g (lw_at lw_m4 6 rfl) rfl
theorem q805 : (Jvm.Cond.static ({ cls := "BehindAnotherHearse", name := "sumOf", desc := "([I)I" } : Jvm.MethodName)) ∈ lw_all := lw_g (lw_at lw_m4 7 rfl) rfl
theorem q806 : (Jvm.Cond.code ({ cls := "BehindAnotherHearse", name := "sumOf", desc := "([I)I" } : Jvm.MethodName) prog_1_method_26_code (6 : Nat) (Option.some Jvm.ClassFile.FieldType.int)) ∈ lw_all := lw_g (lw_at lw_m4 8 rfl) rfl
theorem q807 : (Jvm.Cond.methodLink "BehindAnotherHearse" (291 : Nat) ({ cls := "BehindAnotherHearse", name := "tell", desc := "(J)V" } : Jvm.MethodName)) ∈ lw_all := lw_g (lw_at lw_m4 9 rfl) rfl
theorem q808 : (Jvm.Cond.privateMethod ({ cls := "BehindAnotherHearse", name := "tell", desc := "(J)V" } : Jvm.MethodName)) ∈ lw_tbl := lw_at lw_m4 10 rfl
theorem q809 : (Jvm.Cond.instanceMethod ({ cls := "BehindAnotherHearse", name := "tell", desc := "(J)V" } : Jvm.MethodName)) ∈ lw_all := lw_g (lw_at lw_m4 11 rfl) rfl
theorem q810 : (Jvm.Cond.code ({ cls := "BehindAnotherHearse", name := "tell", desc := "(J)V" } : Jvm.MethodName) prog_1_method_4_code (3 : Nat) (Option.none : Option Jvm.ClassFile.FieldType)) ∈ lw_all := lw_g (lw_at lw_m4 12 rfl) rfl
theorem q812 : (Jvm.Cond.instanceMethod ({ cls := "BehindAnotherHearse", name := "turnsTo", desc := "(I)I" } : Jvm.MethodName)) ∈ lw_all := lw_g (lw_at lw_m4 14 rfl) rfl
theorem q813 : (Jvm.Cond.selects "BehindAnotherHearse" ({ cls := "BehindAnotherHearse", name := "turnsTo", desc := "(I)I" } : Jvm.MethodName) ({ cls := "BehindAnotherHearse", name := "turnsTo", desc := "(I)I" } : Jvm.MethodName)) ∈ lw_all := lw_g (lw_at lw_m4 15 rfl) rfl
theorem q814 : (Jvm.Cond.code ({ cls := "BehindAnotherHearse", name := "turnsTo", desc := "(I)I" } : Jvm.MethodName) prog_1_method_28_code (4 : Nat) (Option.some Jvm.ClassFile.FieldType.int)) ∈ lw_all := lw_g (lw_at lw_m4 16 rfl) rfl
theorem q815 : (Jvm.Cond.methodLink "BehindAnotherHearse" (251 : Nat) ({ cls := "BehindAnotherHearse", name := "isMan", desc := "(I)Z" } : Jvm.MethodName)) ∈ lw_all := lw_g (lw_at lw_m4 17 rfl) rfl
theorem q816 : (Jvm.Cond.privateMethod ({ cls := "BehindAnotherHearse", name := "isMan", desc := "(I)Z" } : Jvm.MethodName)) ∈ lw_tbl := lw_at lw_m4 18 rfl
theorem q817 : (Jvm.Cond.instanceMethod ({ cls := "BehindAnotherHearse", name := "isMan", desc := "(I)Z" } : Jvm.MethodName)) ∈ lw_all := lw_g (lw_at lw_m4 19 rfl) rfl
theorem q818 : (Jvm.Cond.code ({ cls := "BehindAnotherHearse", name := "isMan", desc := "(I)Z" } : Jvm.MethodName) prog_1_method_6_code (2 : Nat) (Option.some Jvm.ClassFile.FieldType.boolean)) ∈ lw_all := lw_g (lw_at lw_m4 20 rfl) rfl
theorem q819 : (Jvm.Cond.methodLink "BehindAnotherHearse" (298 : Nat) ({ cls := "BehindAnotherHearse$Street", name := "refusesTurn", desc := "(I)I" } : Jvm.MethodName)) ∈ lw_all := lw_g (lw_at lw_m4 21 rfl) rfl
theorem q824 : (Jvm.Cond.instanceMethod ({ cls := "BehindAnotherHearse", name := "pushes", desc := "(II)I" } : Jvm.MethodName)) ∈ lw_all := lw_g (lw_at lw_m4 26 rfl) rfl
theorem q825 : (Jvm.Cond.selects "BehindAnotherHearse" ({ cls := "BehindAnotherHearse", name := "pushes", desc := "(II)I" } : Jvm.MethodName) ({ cls := "BehindAnotherHearse", name := "pushes", desc := "(II)I" } : Jvm.MethodName)) ∈ lw_all := lw_g (lw_at lw_m4 27 rfl) rfl
theorem q826 : (Jvm.Cond.code ({ cls := "BehindAnotherHearse", name := "pushes", desc := "(II)I" } : Jvm.MethodName) prog_1_method_30_code (4 : Nat) (Option.some Jvm.ClassFile.FieldType.int)) ∈ lw_all := lw_g (lw_at lw_m4 28 rfl) rfl
theorem q827 : (Jvm.Cond.methodLink "BehindAnotherHearse" (305 : Nat) ({ cls := "BehindAnotherHearse", name := "refusesPush", desc := "(LBehindAnotherHearse$Street;II)I" } : Jvm.MethodName)) ∈ lw_all := lw_g (lw_at lw_m4 29 rfl) rfl
theorem q828 : (Jvm.Cond.privateMethod ({ cls := "BehindAnotherHearse", name := "refusesPush", desc := "(LBehindAnotherHearse$Street;II)I" } : Jvm.MethodName)) ∈ lw_tbl := lw_at lw_m4 30 rfl
theorem q829 : (Jvm.Cond.instanceMethod ({ cls := "BehindAnotherHearse", name := "refusesPush", desc := "(LBehindAnotherHearse$Street;II)I" } : Jvm.MethodName)) ∈ lw_all := lw_g (lw_at lw_m4 31 rfl) rfl
theorem q830 : (Jvm.Cond.code ({ cls := "BehindAnotherHearse", name := "refusesPush", desc := "(LBehindAnotherHearse$Street;II)I" } : Jvm.MethodName) prog_1_method_29_code (4 : Nat) (Option.some Jvm.ClassFile.FieldType.int)) ∈ lw_all := lw_g (lw_at lw_m4 32 rfl) rfl
theorem q831 : (Jvm.Cond.constantLong "BehindAnotherHearse" (301 : Nat) (-9 : Int64)) ∈ lw_all := lw_g (lw_at lw_m4 33 rfl) rfl
theorem q832 : (Jvm.Cond.constantLong "BehindAnotherHearse" (303 : Nat) (9 : Int64)) ∈ lw_all := lw_g (lw_at lw_m4 34 rfl) rfl
theorem q833 : (Jvm.Cond.methodLink "BehindAnotherHearse" (309 : Nat) ({ cls := "BehindAnotherHearse$Street", name := "pushed", desc := "(II)V" } : Jvm.MethodName)) ∈ lw_all := lw_g (lw_at lw_m4 35 rfl) rfl
theorem q838 : (Jvm.Cond.instanceMethod ({ cls := "BehindAnotherHearse", name := "swaps", desc := "(II)I" } : Jvm.MethodName)) ∈ lw_all := lw_g (lw_at lw_m4 40 rfl) rfl
theorem q839 : (Jvm.Cond.selects "BehindAnotherHearse" ({ cls := "BehindAnotherHearse", name := "swaps", desc := "(II)I" } : Jvm.MethodName) ({ cls := "BehindAnotherHearse", name := "swaps", desc := "(II)I" } : Jvm.MethodName)) ∈ lw_all := lw_g (lw_at lw_m4 41 rfl) rfl
theorem q840 : (Jvm.Cond.code ({ cls := "BehindAnotherHearse", name := "swaps", desc := "(II)I" } : Jvm.MethodName) prog_1_method_33_code (4 : Nat) (Option.some Jvm.ClassFile.FieldType.int)) ∈ lw_all := lw_g (lw_at lw_m4 42 rfl) rfl
theorem q841 : (Jvm.Cond.methodLink "BehindAnotherHearse" (317 : Nat) ({ cls := "BehindAnotherHearse", name := "refusesSwap", desc := "(II)I" } : Jvm.MethodName)) ∈ lw_all := lw_g (lw_at lw_m4 43 rfl) rfl
theorem q842 : (Jvm.Cond.privateMethod ({ cls := "BehindAnotherHearse", name := "refusesSwap", desc := "(II)I" } : Jvm.MethodName)) ∈ lw_tbl := lw_at lw_m4 44 rfl
theorem q843 : (Jvm.Cond.instanceMethod ({ cls := "BehindAnotherHearse", name := "refusesSwap", desc := "(II)I" } : Jvm.MethodName)) ∈ lw_all := lw_g (lw_at lw_m4 45 rfl) rfl
theorem q844 : (Jvm.Cond.code ({ cls := "BehindAnotherHearse", name := "refusesSwap", desc := "(II)I" } : Jvm.MethodName) prog_1_method_31_code (3 : Nat) (Option.some Jvm.ClassFile.FieldType.int)) ∈ lw_all := lw_g (lw_at lw_m4 46 rfl) rfl
theorem q845 : (Jvm.Cond.methodLink "BehindAnotherHearse" (313 : Nat) ({ cls := "BehindAnotherHearse", name := "areHearses", desc := "(II)Z" } : Jvm.MethodName)) ∈ lw_all := lw_g (lw_at lw_m4 47 rfl) rfl
theorem q846 : (Jvm.Cond.privateMethod ({ cls := "BehindAnotherHearse", name := "areHearses", desc := "(II)Z" } : Jvm.MethodName)) ∈ lw_tbl := lw_at lw_m4 48 rfl
theorem q847 : (Jvm.Cond.instanceMethod ({ cls := "BehindAnotherHearse", name := "areHearses", desc := "(II)Z" } : Jvm.MethodName)) ∈ lw_all := lw_g (lw_at lw_m4 49 rfl) rfl
theorem q848 : (Jvm.Cond.code ({ cls := "BehindAnotherHearse", name := "areHearses", desc := "(II)Z" } : Jvm.MethodName) prog_1_method_7_code (3 : Nat) (Option.some Jvm.ClassFile.FieldType.boolean)) ∈ lw_all := lw_g (lw_at lw_m4 50 rfl) rfl
theorem q849 : (Jvm.Cond.methodLink "BehindAnotherHearse" (108 : Nat) ({ cls := "BehindAnotherHearse", name := "isHearse", desc := "(I)Z" } : Jvm.MethodName)) ∈ lw_all := lw_g (lw_at lw_m4 51 rfl) rfl
theorem q850 : (Jvm.Cond.privateMethod ({ cls := "BehindAnotherHearse", name := "isHearse", desc := "(I)Z" } : Jvm.MethodName)) ∈ lw_tbl := lw_at lw_m4 52 rfl
theorem q851 : (Jvm.Cond.instanceMethod ({ cls := "BehindAnotherHearse", name := "isHearse", desc := "(I)Z" } : Jvm.MethodName)) ∈ lw_all := lw_g (lw_at lw_m4 53 rfl) rfl
theorem q852 : (Jvm.Cond.code ({ cls := "BehindAnotherHearse", name := "isHearse", desc := "(I)Z" } : Jvm.MethodName) prog_1_method_5_code (2 : Nat) (Option.some Jvm.ClassFile.FieldType.boolean)) ∈ lw_all := lw_g (lw_at lw_m4 54 rfl) rfl
theorem q853 : (Jvm.Cond.methodLink "BehindAnotherHearse" (236 : Nat) ({ cls := "BehindAnotherHearse$Street", name := "isOn", desc := "(I)Z" } : Jvm.MethodName)) ∈ lw_all := lw_g (lw_at lw_m4 55 rfl) rfl
theorem q854 : (Jvm.Cond.methodLink "BehindAnotherHearse" (320 : Nat) ({ cls := "BehindAnotherHearse", name := "goSwap", desc := "(II)V" } : Jvm.MethodName)) ∈ lw_all := lw_g (lw_at lw_m4 56 rfl) rfl
theorem q855 : (Jvm.Cond.privateMethod ({ cls := "BehindAnotherHearse", name := "goSwap", desc := "(II)V" } : Jvm.MethodName)) ∈ lw_tbl := lw_at lw_m4 57 rfl
theorem q856 : (Jvm.Cond.instanceMethod ({ cls := "BehindAnotherHearse", name := "goSwap", desc := "(II)V" } : Jvm.MethodName)) ∈ lw_all := lw_g (lw_at lw_m4 58 rfl) rfl
theorem q857 : (Jvm.Cond.code ({ cls := "BehindAnotherHearse", name := "goSwap", desc := "(II)V" } : Jvm.MethodName) prog_1_method_32_code (4 : Nat) (Option.none : Option Jvm.ClassFile.FieldType)) ∈ lw_all := lw_g (lw_at lw_m4 59 rfl) rfl
theorem q858 : (Jvm.Cond.methodLink "BehindAnotherHearse" (323 : Nat) ({ cls := "java/lang/Math", name := "abs", desc := "(I)I" } : Jvm.MethodName)) ∈ lw_all := lw_g (lw_at lw_m4 60 rfl) rfl
theorem q860 : (Jvm.Cond.instanceMethod ({ cls := "BehindAnotherHearse", name := "hour", desc := "()I" } : Jvm.MethodName)) ∈ lw_all := lw_g (lw_at lw_m4 62 rfl) rfl
theorem q861 : (Jvm.Cond.selects "BehindAnotherHearse" ({ cls := "BehindAnotherHearse", name := "hour", desc := "()I" } : Jvm.MethodName) ({ cls := "BehindAnotherHearse", name := "hour", desc := "()I" } : Jvm.MethodName)) ∈ lw_all := lw_g (lw_at lw_m4 63 rfl) rfl
theorem q862 : (Jvm.Cond.codeWith ({ cls := "BehindAnotherHearse", name := "hour", desc := "()I" } : Jvm.MethodName) prog_1_method_34_code (3 : Nat) (Option.some Jvm.ClassFile.FieldType.int) [((21 : Nat), (25 : Nat), (28 : Nat), (139 : Nat))]) ∈ lw_all := lw_g (lw_at lw_m4 64 rfl) rfl
theorem q863 : (Jvm.Cond.classLink "BehindAnotherHearse" (326 : Nat) "BehindAnotherHearse$Order") ∈ lw_all := lw_g (lw_at lw_m4 65 rfl) rfl
theorem q865 : (Jvm.Cond.methodLink "BehindAnotherHearse" (328 : Nat) ({ cls := "BehindAnotherHearse$Order", name := "<init>", desc := "([BI)V" } : Jvm.MethodName)) ∈ lw_all := lw_g (lw_at lw_m4 67 rfl) rfl
theorem q870 : (Jvm.Cond.fieldLink "BehindAnotherHearse" (336 : Nat) "BehindAnotherHearse$Order" "acts" "[C") ∈ lw_all := lw_g (lw_at lw_m4 72 rfl) rfl
theorem q872 : (Jvm.Cond.fieldLink "BehindAnotherHearse" (340 : Nat) "BehindAnotherHearse$Order" "first" "[I") ∈ lw_all := lw_g (lw_at lw_m4 74 rfl) rfl
theorem q874 : (Jvm.Cond.fieldLink "BehindAnotherHearse" (343 : Nat) "BehindAnotherHearse$Order" "second" "[I") ∈ lw_all := lw_g (lw_at lw_m4 76 rfl) rfl
theorem q876 : (Jvm.Cond.fieldLink "BehindAnotherHearse" (333 : Nat) "BehindAnotherHearse$Order" "many" "I") ∈ lw_all := lw_g (lw_at lw_m4 78 rfl) rfl
theorem q891 : (Jvm.Cond.methodLink "BehindAnotherHearse" (331 : Nat) ({ cls := "BehindAnotherHearse$Order", name := "read", desc := "()V" } : Jvm.MethodName)) ∈ lw_all := lw_g (lw_at lw_m4 93 rfl) rfl
theorem q914 : (Jvm.Cond.methodLink "BehindAnotherHearse" (346 : Nat) ({ cls := "BehindAnotherHearse", name := "act", desc := "(CII)Z" } : Jvm.MethodName)) ∈ lw_all := lw_g (lw_at lw_m4 116 rfl) rfl
theorem q915 : (Jvm.Cond.privateMethod ({ cls := "BehindAnotherHearse", name := "act", desc := "(CII)Z" } : Jvm.MethodName)) ∈ lw_tbl := lw_at lw_m4 117 rfl
theorem q916 : (Jvm.Cond.instanceMethod ({ cls := "BehindAnotherHearse", name := "act", desc := "(CII)Z" } : Jvm.MethodName)) ∈ lw_all := lw_g (lw_at lw_m4 118 rfl) rfl
theorem q917 : (Jvm.Cond.code ({ cls := "BehindAnotherHearse", name := "act", desc := "(CII)Z" } : Jvm.MethodName) prog_1_method_35_code (5 : Nat) (Option.some Jvm.ClassFile.FieldType.boolean)) ∈ lw_all := lw_g (lw_at lw_m4 119 rfl) rfl
theorem q919 : (Jvm.Cond.instanceMethod ({ cls := "BehindAnotherHearse", name := "undo", desc := "()I" } : Jvm.MethodName)) ∈ lw_all := lw_g (lw_at lw_m4 121 rfl) rfl
theorem q920 : (Jvm.Cond.selects "BehindAnotherHearse" ({ cls := "BehindAnotherHearse", name := "undo", desc := "()I" } : Jvm.MethodName) ({ cls := "BehindAnotherHearse", name := "undo", desc := "()I" } : Jvm.MethodName)) ∈ lw_all := lw_g (lw_at lw_m4 122 rfl) rfl
theorem q921 : (Jvm.Cond.code ({ cls := "BehindAnotherHearse", name := "undo", desc := "()I" } : Jvm.MethodName) prog_1_method_36_code (1 : Nat) (Option.some Jvm.ClassFile.FieldType.int)) ∈ lw_all := lw_g (lw_at lw_m4 123 rfl) rfl
theorem q923 : (Jvm.Cond.instanceMethod ({ cls := "BehindAnotherHearse", name := "line", desc := "()I" } : Jvm.MethodName)) ∈ lw_all := lw_g (lw_at lw_m4 125 rfl) rfl
theorem q924 : (Jvm.Cond.selects "BehindAnotherHearse" ({ cls := "BehindAnotherHearse", name := "line", desc := "()I" } : Jvm.MethodName) ({ cls := "BehindAnotherHearse", name := "line", desc := "()I" } : Jvm.MethodName)) ∈ lw_all := lw_g (lw_at lw_m4 126 rfl) rfl
theorem q925 : (Jvm.Cond.code ({ cls := "BehindAnotherHearse", name := "line", desc := "()I" } : Jvm.MethodName) prog_1_method_37_code (3 : Nat) (Option.some Jvm.ClassFile.FieldType.int)) ∈ lw_all := lw_g (lw_at lw_m4 127 rfl) rfl
theorem q926 : (Jvm.Cond.methodLink "BehindAnotherHearse" (350 : Nat) ({ cls := "BehindAnotherHearse$Street", name := "layLine", desc := "([I)I" } : Jvm.MethodName)) ∈ lw_all := lw_g (lw_at lw_m4 128 rfl) rfl
theorem q928 : (Jvm.Cond.instanceMethod ({ cls := "BehindAnotherHearse", name := "ahead", desc := "(I)I" } : Jvm.MethodName)) ∈ lw_all := lw_g (lw_at lw_m4 130 rfl) rfl
theorem q929 : (Jvm.Cond.selects "BehindAnotherHearse" ({ cls := "BehindAnotherHearse", name := "ahead", desc := "(I)I" } : Jvm.MethodName) ({ cls := "BehindAnotherHearse", name := "ahead", desc := "(I)I" } : Jvm.MethodName)) ∈ lw_all := lw_g (lw_at lw_m4 131 rfl) rfl
theorem q930 : (Jvm.Cond.code ({ cls := "BehindAnotherHearse", name := "ahead", desc := "(I)I" } : Jvm.MethodName) prog_1_method_38_code (3 : Nat) (Option.some Jvm.ClassFile.FieldType.int)) ∈ lw_all := lw_g (lw_at lw_m4 132 rfl) rfl
theorem q931 : (Jvm.Cond.constantLong "BehindAnotherHearse" (353 : Nat) (99 : Int64)) ∈ lw_all := lw_g (lw_at lw_m4 133 rfl) rfl
theorem q933 : (Jvm.Cond.instanceMethod ({ cls := "BehindAnotherHearse", name := "arrives", desc := "(I)I" } : Jvm.MethodName)) ∈ lw_all := lw_g (lw_at lw_m4 135 rfl) rfl
theorem q934 : (Jvm.Cond.selects "BehindAnotherHearse" ({ cls := "BehindAnotherHearse", name := "arrives", desc := "(I)I" } : Jvm.MethodName) ({ cls := "BehindAnotherHearse", name := "arrives", desc := "(I)I" } : Jvm.MethodName)) ∈ lw_all := lw_g (lw_at lw_m4 136 rfl) rfl
theorem q935 : (Jvm.Cond.code ({ cls := "BehindAnotherHearse", name := "arrives", desc := "(I)I" } : Jvm.MethodName) prog_1_method_39_code (3 : Nat) (Option.some Jvm.ClassFile.FieldType.int)) ∈ lw_all := lw_g (lw_at lw_m4 137 rfl) rfl
theorem q936 : (Jvm.Cond.methodLink "BehindAnotherHearse" (355 : Nat) ({ cls := "BehindAnotherHearse$Street", name := "go", desc := "()V" } : Jvm.MethodName)) ∈ lw_all := lw_g (lw_at lw_m4 138 rfl) rfl
theorem q938 : (Jvm.Cond.instanceMethod ({ cls := "BehindAnotherHearse", name := "jam", desc := "(I)I" } : Jvm.MethodName)) ∈ lw_all := lw_g (lw_at lw_m4 140 rfl) rfl
theorem q939 : (Jvm.Cond.selects "BehindAnotherHearse" ({ cls := "BehindAnotherHearse", name := "jam", desc := "(I)I" } : Jvm.MethodName) ({ cls := "BehindAnotherHearse", name := "jam", desc := "(I)I" } : Jvm.MethodName)) ∈ lw_all := lw_g (lw_at lw_m4 141 rfl) rfl
theorem q940 : (Jvm.Cond.code ({ cls := "BehindAnotherHearse", name := "jam", desc := "(I)I" } : Jvm.MethodName) prog_1_method_40_code (4 : Nat) (Option.some Jvm.ClassFile.FieldType.int)) ∈ lw_all := lw_g (lw_at lw_m4 142 rfl) rfl
theorem q942 : (Jvm.Cond.instanceMethod ({ cls := "BehindAnotherHearse", name := "passes", desc := "(II)I" } : Jvm.MethodName)) ∈ lw_all := lw_g (lw_at lw_m4 144 rfl) rfl
theorem q943 : (Jvm.Cond.selects "BehindAnotherHearse" ({ cls := "BehindAnotherHearse", name := "passes", desc := "(II)I" } : Jvm.MethodName) ({ cls := "BehindAnotherHearse", name := "passes", desc := "(II)I" } : Jvm.MethodName)) ∈ lw_all := lw_g (lw_at lw_m4 145 rfl) rfl
theorem q944 : (Jvm.Cond.code ({ cls := "BehindAnotherHearse", name := "passes", desc := "(II)I" } : Jvm.MethodName) prog_1_method_42_code (4 : Nat) (Option.some Jvm.ClassFile.FieldType.int)) ∈ lw_all := lw_g (lw_at lw_m4 146 rfl) rfl
theorem q945 : (Jvm.Cond.methodLink "BehindAnotherHearse" (357 : Nat) ({ cls := "BehindAnotherHearse", name := "isAhead", desc := "(LBehindAnotherHearse$Street;II)Z" } : Jvm.MethodName)) ∈ lw_all := lw_g (lw_at lw_m4 147 rfl) rfl
theorem q946 : (Jvm.Cond.static ({ cls := "BehindAnotherHearse", name := "isAhead", desc := "(LBehindAnotherHearse$Street;II)Z" } : Jvm.MethodName)) ∈ lw_all := lw_g (lw_at lw_m4 148 rfl) rfl
theorem q947 : (Jvm.Cond.code ({ cls := "BehindAnotherHearse", name := "isAhead", desc := "(LBehindAnotherHearse$Street;II)Z" } : Jvm.MethodName) prog_1_method_41_code (3 : Nat) (Option.some Jvm.ClassFile.FieldType.boolean)) ∈ lw_all := lw_g (lw_at lw_m4 149 rfl) rfl
theorem q949 : (Jvm.Cond.instanceMethod ({ cls := "BehindAnotherHearse", name := "ends", desc := "(I)I" } : Jvm.MethodName)) ∈ lw_all := lw_g (lw_at lw_m4 151 rfl) rfl
theorem q950 : (Jvm.Cond.selects "BehindAnotherHearse" ({ cls := "BehindAnotherHearse", name := "ends", desc := "(I)I" } : Jvm.MethodName) ({ cls := "BehindAnotherHearse", name := "ends", desc := "(I)I" } : Jvm.MethodName)) ∈ lw_all := lw_g (lw_at lw_m4 152 rfl) rfl
theorem q951 : (Jvm.Cond.code ({ cls := "BehindAnotherHearse", name := "ends", desc := "(I)I" } : Jvm.MethodName) prog_1_method_45_code (3 : Nat) (Option.some Jvm.ClassFile.FieldType.int)) ∈ lw_all := lw_g (lw_at lw_m4 153 rfl) rfl
theorem q953 : (Jvm.Cond.instanceMethod ({ cls := "BehindAnotherHearse", name := "right", desc := "()I" } : Jvm.MethodName)) ∈ lw_all := lw_g (lw_at lw_m4 155 rfl) rfl
theorem q954 : (Jvm.Cond.selects "BehindAnotherHearse" ({ cls := "BehindAnotherHearse", name := "right", desc := "()I" } : Jvm.MethodName) ({ cls := "BehindAnotherHearse", name := "right", desc := "()I" } : Jvm.MethodName)) ∈ lw_all := lw_g (lw_at lw_m4 156 rfl) rfl
theorem q955 : (Jvm.Cond.code ({ cls := "BehindAnotherHearse", name := "right", desc := "()I" } : Jvm.MethodName) prog_1_method_46_code (2 : Nat) (Option.some Jvm.ClassFile.FieldType.int)) ∈ lw_all := lw_g (lw_at lw_m4 157 rfl) rfl
theorem q956 : (Jvm.Cond.methodLink "BehindAnotherHearse" (365 : Nat) ({ cls := "BehindAnotherHearse$Trial", name := "run", desc := "()LBehindAnotherHearse$Street;" } : Jvm.MethodName)) ∈ lw_all := lw_g (lw_at lw_m4 158 rfl) rfl
theorem q981 : (Jvm.Cond.static ({ cls := "BehindAnotherHearse", name := "has", desc := "(II)Z" } : Jvm.MethodName)) ∈ lw_all := lw_g (lw_at lw_m4 183 rfl) rfl
theorem q982 : (Jvm.Cond.code ({ cls := "BehindAnotherHearse", name := "has", desc := "(II)Z" } : Jvm.MethodName) prog_1_method_2_code (2 : Nat) (Option.some Jvm.ClassFile.FieldType.boolean)) ∈ lw_all := lw_g (lw_at lw_m4 184 rfl) rfl
theorem q988 : (Jvm.Cond.privateMethod ({ cls := "BehindAnotherHearse", name := "goToEnd", desc := "(LBehindAnotherHearse$Street;)V" } : Jvm.MethodName)) ∈ lw_tbl := lw_at lw_m4 190 rfl
theorem q989 : (Jvm.Cond.instanceMethod ({ cls := "BehindAnotherHearse", name := "goToEnd", desc := "(LBehindAnotherHearse$Street;)V" } : Jvm.MethodName)) ∈ lw_all := lw_g (lw_at lw_m4 191 rfl) rfl
theorem q990 : (Jvm.Cond.code ({ cls := "BehindAnotherHearse", name := "goToEnd", desc := "(LBehindAnotherHearse$Street;)V" } : Jvm.MethodName) prog_1_method_43_code (3 : Nat) (Option.none : Option Jvm.ClassFile.FieldType)) ∈ lw_all := lw_g (lw_at lw_m4 192 rfl) rfl
theorem q991 : (Jvm.Cond.methodLink "BehindAnotherHearse" (361 : Nat) ({ cls := "BehindAnotherHearse", name := "isOver", desc := "(LBehindAnotherHearse$Street;)Z" } : Jvm.MethodName)) ∈ lw_all := lw_g (lw_at lw_m4 193 rfl) rfl
theorem q992 : (Jvm.Cond.privateMethod ({ cls := "BehindAnotherHearse", name := "isOver", desc := "(LBehindAnotherHearse$Street;)Z" } : Jvm.MethodName)) ∈ lw_tbl := lw_at lw_m4 194 rfl
theorem q993 : (Jvm.Cond.instanceMethod ({ cls := "BehindAnotherHearse", name := "isOver", desc := "(LBehindAnotherHearse$Street;)Z" } : Jvm.MethodName)) ∈ lw_all := lw_g (lw_at lw_m4 195 rfl) rfl
theorem q994 : (Jvm.Cond.code ({ cls := "BehindAnotherHearse", name := "isOver", desc := "(LBehindAnotherHearse$Street;)Z" } : Jvm.MethodName) prog_1_method_44_code (4 : Nat) (Option.some Jvm.ClassFile.FieldType.boolean)) ∈ lw_all := lw_g (lw_at lw_m4 196 rfl) rfl
theorem q995 : (Jvm.Cond.methodLink "BehindAnotherHearse" (371 : Nat) ({ cls := "BehindAnotherHearse$Street", name := "rightOnes", desc := "()I" } : Jvm.MethodName)) ∈ lw_all := lw_g (lw_at lw_m4 197 rfl) rfl
theorem q999 : (Jvm.Cond.methodLink "BehindAnotherHearse" (374 : Nat) ({ cls := "BehindAnotherHearse$Street", name := "endedOnes", desc := "()I" } : Jvm.MethodName)) ∈ lw_all := lw_g (lw_at lw_m4 201 rfl) rfl
theorem q1003 : (Jvm.Cond.methodLink "BehindAnotherHearse" (377 : Nat) ({ cls := "java/lang/Integer", name := "bitCount", desc := "(I)I" } : Jvm.MethodName)) ∈ lw_all := lw_g (lw_at lw_m4 205 rfl) rfl
theorem q1005 : (Jvm.Cond.instanceMethod ({ cls := "BehindAnotherHearse", name := "order", desc := "()I" } : Jvm.MethodName)) ∈ lw_all := lw_g (lw_at lw_m4 207 rfl) rfl
theorem q1006 : (Jvm.Cond.selects "BehindAnotherHearse" ({ cls := "BehindAnotherHearse", name := "order", desc := "()I" } : Jvm.MethodName) ({ cls := "BehindAnotherHearse", name := "order", desc := "()I" } : Jvm.MethodName)) ∈ lw_all := lw_g (lw_at lw_m4 208 rfl) rfl
theorem q1007 : (Jvm.Cond.code ({ cls := "BehindAnotherHearse", name := "order", desc := "()I" } : Jvm.MethodName) prog_1_method_48_code (2 : Nat) (Option.some Jvm.ClassFile.FieldType.int)) ∈ lw_all := lw_g (lw_at lw_m4 209 rfl) rfl
theorem q1008 : (Jvm.Cond.methodLink "BehindAnotherHearse" (388 : Nat) ({ cls := "BehindAnotherHearse", name := "goOrder", desc := "(II)V" } : Jvm.MethodName)) ∈ lw_all := lw_g (lw_at lw_m4 210 rfl) rfl
theorem q1009 : (Jvm.Cond.privateMethod ({ cls := "BehindAnotherHearse", name := "goOrder", desc := "(II)V" } : Jvm.MethodName)) ∈ lw_tbl := lw_at lw_m4 211 rfl
theorem q1010 : (Jvm.Cond.instanceMethod ({ cls := "BehindAnotherHearse", name := "goOrder", desc := "(II)V" } : Jvm.MethodName)) ∈ lw_all := lw_g (lw_at lw_m4 212 rfl) rfl
theorem q1011 : (Jvm.Cond.code ({ cls := "BehindAnotherHearse", name := "goOrder", desc := "(II)V" } : Jvm.MethodName) prog_1_method_47_code (4 : Nat) (Option.none : Option Jvm.ClassFile.FieldType)) ∈ lw_all := lw_g (lw_at lw_m4 213 rfl) rfl
theorem q1012 : (Jvm.Cond.methodLink "BehindAnotherHearse" (382 : Nat) ({ cls := "BehindAnotherHearse$Trial", name := "rightMany", desc := "()I" } : Jvm.MethodName)) ∈ lw_all := lw_g (lw_at lw_m4 214 rfl) rfl
theorem q1028 : (Jvm.Cond.privateMethod ({ cls := "BehindAnotherHearse", name := "ownOf", desc := "(I)I" } : Jvm.MethodName)) ∈ lw_tbl := lw_at lw_m4 230 rfl
theorem q1029 : (Jvm.Cond.instanceMethod ({ cls := "BehindAnotherHearse", name := "ownOf", desc := "(I)I" } : Jvm.MethodName)) ∈ lw_all := lw_g (lw_at lw_m4 231 rfl) rfl
theorem q1030 : (Jvm.Cond.code ({ cls := "BehindAnotherHearse", name := "ownOf", desc := "(I)I" } : Jvm.MethodName) prog_1_method_19_code (4 : Nat) (Option.some Jvm.ClassFile.FieldType.int)) ∈ lw_all := lw_g (lw_at lw_m4 232 rfl) rfl
theorem q1036 : (Jvm.Cond.methodLink "BehindAnotherHearse" (391 : Nat) ({ cls := "BehindAnotherHearse", name := "has", desc := "(II)Z" } : Jvm.MethodName)) ∈ lw_all := lw_g (lw_at lw_m4 238 rfl) rfl
theorem q1038 : (Jvm.Cond.instanceMethod ({ cls := "BehindAnotherHearse", name := "stands", desc := "(I)I" } : Jvm.MethodName)) ∈ lw_all := lw_g (lw_at lw_m5 0 rfl) rfl
theorem q1039 : (Jvm.Cond.selects "BehindAnotherHearse" ({ cls := "BehindAnotherHearse", name := "stands", desc := "(I)I" } : Jvm.MethodName) ({ cls := "BehindAnotherHearse", name := "stands", desc := "(I)I" } : Jvm.MethodName)) ∈ lw_all := lw_g (lw_at lw_m5 1 rfl) rfl
theorem q1040 : (Jvm.Cond.code ({ cls := "BehindAnotherHearse", name := "stands", desc := "(I)I" } : Jvm.MethodName) prog_1_method_49_code (5 : Nat) (Option.some Jvm.ClassFile.FieldType.int)) ∈ lw_all := lw_g (lw_at lw_m5 2 rfl) rfl
theorem q1041 : (Jvm.Cond.classLink "BehindAnotherHearse" (394 : Nat) "BehindAnotherHearse$Placed") ∈ lw_all := lw_g (lw_at lw_m5 3 rfl) rfl
theorem q1043 : (Jvm.Cond.methodLink "BehindAnotherHearse" (396 : Nat) ({ cls := "BehindAnotherHearse$Placed", name := "<init>", desc := "(LBehindAnotherHearse;II)V" } : Jvm.MethodName)) ∈ lw_all := lw_g (lw_at lw_m5 5 rfl) rfl
theorem q1058 : (Jvm.Cond.methodLink "BehindAnotherHearse" (399 : Nat) ({ cls := "BehindAnotherHearse$Placed", name := "run", desc := "()LBehindAnotherHearse$Street;" } : Jvm.MethodName)) ∈ lw_all := lw_g (lw_at lw_m5 20 rfl) rfl
theorem q1062 : (Jvm.Cond.instanceMethod ({ cls := "BehindAnotherHearse", name := "when", desc := "(I)I" } : Jvm.MethodName)) ∈ lw_all := lw_g (lw_at lw_m5 24 rfl) rfl
theorem q1063 : (Jvm.Cond.selects "BehindAnotherHearse" ({ cls := "BehindAnotherHearse", name := "when", desc := "(I)I" } : Jvm.MethodName) ({ cls := "BehindAnotherHearse", name := "when", desc := "(I)I" } : Jvm.MethodName)) ∈ lw_all := lw_g (lw_at lw_m5 25 rfl) rfl
theorem q1064 : (Jvm.Cond.code ({ cls := "BehindAnotherHearse", name := "when", desc := "(I)I" } : Jvm.MethodName) prog_1_method_50_code (5 : Nat) (Option.some Jvm.ClassFile.FieldType.int)) ∈ lw_all := lw_g (lw_at lw_m5 26 rfl) rfl
theorem q1065 : (Jvm.Cond.methodLink "BehindAnotherHearse" (400 : Nat) ({ cls := "BehindAnotherHearse", name := "goToEnd", desc := "(LBehindAnotherHearse$Street;)V" } : Jvm.MethodName)) ∈ lw_all := lw_g (lw_at lw_m5 27 rfl) rfl
theorem q1067 : (Jvm.Cond.instanceMethod ({ cls := "BehindAnotherHearse", name := "mends", desc := "(I)I" } : Jvm.MethodName)) ∈ lw_all := lw_g (lw_at lw_m5 29 rfl) rfl
theorem q1068 : (Jvm.Cond.selects "BehindAnotherHearse" ({ cls := "BehindAnotherHearse", name := "mends", desc := "(I)I" } : Jvm.MethodName) ({ cls := "BehindAnotherHearse", name := "mends", desc := "(I)I" } : Jvm.MethodName)) ∈ lw_all := lw_g (lw_at lw_m5 30 rfl) rfl
theorem q1069 : (Jvm.Cond.code ({ cls := "BehindAnotherHearse", name := "mends", desc := "(I)I" } : Jvm.MethodName) prog_1_method_51_code (5 : Nat) (Option.some Jvm.ClassFile.FieldType.int)) ∈ lw_all := lw_g (lw_at lw_m5 31 rfl) rfl
theorem q1070 : (Jvm.Cond.constantLong "BehindAnotherHearse" (403 : Nat) (8 : Int64)) ∈ lw_all := lw_g (lw_at lw_m5 32 rfl) rfl
theorem q1071 : (Jvm.Cond.classLink "BehindAnotherHearse" (405 : Nat) "BehindAnotherHearse$Turned") ∈ lw_all := lw_g (lw_at lw_m5 33 rfl) rfl
theorem q1073 : (Jvm.Cond.methodLink "BehindAnotherHearse" (407 : Nat) ({ cls := "BehindAnotherHearse$Turned", name := "<init>", desc := "(LBehindAnotherHearse;I)V" } : Jvm.MethodName)) ∈ lw_all := lw_g (lw_at lw_m5 35 rfl) rfl
theorem q1085 : (Jvm.Cond.methodLink "BehindAnotherHearse" (410 : Nat) ({ cls := "BehindAnotherHearse$Turned", name := "rightMany", desc := "()I" } : Jvm.MethodName)) ∈ lw_all := lw_g (lw_at lw_m5 47 rfl) rfl
theorem q1090 : (Jvm.Cond.instanceMethod ({ cls := "BehindAnotherHearse", name := "misleads", desc := "()I" } : Jvm.MethodName)) ∈ lw_all := lw_g (lw_at lw_m5 52 rfl) rfl
theorem q1091 : (Jvm.Cond.selects "BehindAnotherHearse" ({ cls := "BehindAnotherHearse", name := "misleads", desc := "()I" } : Jvm.MethodName) ({ cls := "BehindAnotherHearse", name := "misleads", desc := "()I" } : Jvm.MethodName)) ∈ lw_all := lw_g (lw_at lw_m5 53 rfl) rfl
theorem q1092 : (Jvm.Cond.code ({ cls := "BehindAnotherHearse", name := "misleads", desc := "()I" } : Jvm.MethodName) prog_1_method_52_code (6 : Nat) (Option.some Jvm.ClassFile.FieldType.int)) ∈ lw_all := lw_g (lw_at lw_m5 54 rfl) rfl
theorem q1093 : (Jvm.Cond.classLink "BehindAnotherHearse" (411 : Nat) "BehindAnotherHearse$Without") ∈ lw_all := lw_g (lw_at lw_m5 55 rfl) rfl
theorem q1095 : (Jvm.Cond.methodLink "BehindAnotherHearse" (413 : Nat) ({ cls := "BehindAnotherHearse$Without", name := "<init>", desc := "(LBehindAnotherHearse;I)V" } : Jvm.MethodName)) ∈ lw_all := lw_g (lw_at lw_m5 57 rfl) rfl
theorem q1107 : (Jvm.Cond.methodLink "BehindAnotherHearse" (414 : Nat) ({ cls := "BehindAnotherHearse$Without", name := "rightMany", desc := "()I" } : Jvm.MethodName)) ∈ lw_all := lw_g (lw_at lw_m5 69 rfl) rfl
theorem q1108 : (Jvm.Cond.methodLink "BehindAnotherHearse" (248 : Nat) ({ cls := "BehindAnotherHearse", name := "ownOf", desc := "(I)I" } : Jvm.MethodName)) ∈ lw_all := lw_g (lw_at lw_m5 70 rfl) rfl
theorem q1110 : (Jvm.Cond.instanceMethod ({ cls := "BehindAnotherHearse", name := "crowd", desc := "()I" } : Jvm.MethodName)) ∈ lw_all := lw_g (lw_at lw_m5 72 rfl) rfl
theorem q1111 : (Jvm.Cond.selects "BehindAnotherHearse" ({ cls := "BehindAnotherHearse", name := "crowd", desc := "()I" } : Jvm.MethodName) ({ cls := "BehindAnotherHearse", name := "crowd", desc := "()I" } : Jvm.MethodName)) ∈ lw_all := lw_g (lw_at lw_m5 73 rfl) rfl
theorem q1112 : (Jvm.Cond.code ({ cls := "BehindAnotherHearse", name := "crowd", desc := "()I" } : Jvm.MethodName) prog_1_method_53_code (4 : Nat) (Option.some Jvm.ClassFile.FieldType.int)) ∈ lw_all := lw_g (lw_at lw_m5 74 rfl) rfl
theorem q1113 : (Jvm.Cond.methodLink "BehindAnotherHearse" (245 : Nat) ({ cls := "BehindAnotherHearse$Street", name := "endedAt", desc := "(I)I" } : Jvm.MethodName)) ∈ lw_all := lw_g (lw_at lw_m5 75 rfl) rfl
theorem q1118 : (Jvm.Cond.instanceMethod ({ cls := "BehindAnotherHearse", name := "shares", desc := "(I)I" } : Jvm.MethodName)) ∈ lw_all := lw_g (lw_at lw_m5 80 rfl) rfl
theorem q1119 : (Jvm.Cond.selects "BehindAnotherHearse" ({ cls := "BehindAnotherHearse", name := "shares", desc := "(I)I" } : Jvm.MethodName) ({ cls := "BehindAnotherHearse", name := "shares", desc := "(I)I" } : Jvm.MethodName)) ∈ lw_all := lw_g (lw_at lw_m5 81 rfl) rfl
theorem q1120 : (Jvm.Cond.code ({ cls := "BehindAnotherHearse", name := "shares", desc := "(I)I" } : Jvm.MethodName) prog_1_method_55_code (6 : Nat) (Option.some Jvm.ClassFile.FieldType.int)) ∈ lw_all := lw_g (lw_at lw_m5 82 rfl) rfl
theorem q1121 : (Jvm.Cond.constantLong "BehindAnotherHearse" (418 : Nat) (30 : Int64)) ∈ lw_all := lw_g (lw_at lw_m5 83 rfl) rfl
theorem q1122 : (Jvm.Cond.methodLink "BehindAnotherHearse" (420 : Nat) ({ cls := "java/util/Arrays", name := "fill", desc := "([II)V" } : Jvm.MethodName)) ∈ lw_all := lw_g (lw_at lw_m5 84 rfl) rfl
theorem q1123 : (Jvm.Cond.methodLink "BehindAnotherHearse" (423 : Nat) ({ cls := "BehindAnotherHearse", name := "canShare", desc := "(IIII)Z" } : Jvm.MethodName)) ∈ lw_all := lw_g (lw_at lw_m5 85 rfl) rfl
theorem q1124 : (Jvm.Cond.privateMethod ({ cls := "BehindAnotherHearse", name := "canShare", desc := "(IIII)Z" } : Jvm.MethodName)) ∈ lw_tbl := lw_at lw_m5 86 rfl
theorem q1125 : (Jvm.Cond.instanceMethod ({ cls := "BehindAnotherHearse", name := "canShare", desc := "(IIII)Z" } : Jvm.MethodName)) ∈ lw_all := lw_g (lw_at lw_m5 87 rfl) rfl
theorem q1126 : (Jvm.Cond.code ({ cls := "BehindAnotherHearse", name := "canShare", desc := "(IIII)Z" } : Jvm.MethodName) prog_1_method_54_code (5 : Nat) (Option.some Jvm.ClassFile.FieldType.boolean)) ∈ lw_all := lw_g (lw_at lw_m5 88 rfl) rfl
theorem q1127 : (Jvm.Cond.methodLink "BehindAnotherHearse" (415 : Nat) ({ cls := "BehindAnotherHearse$Street", name := "apart", desc := "(II)I" } : Jvm.MethodName)) ∈ lw_all := lw_g (lw_at lw_m5 89 rfl) rfl
theorem q1129 : (Jvm.Cond.instanceMethod ({ cls := "BehindAnotherHearse", name := "strangers", desc := "()I" } : Jvm.MethodName)) ∈ lw_all := lw_g (lw_at lw_m5 91 rfl) rfl
theorem q1130 : (Jvm.Cond.selects "BehindAnotherHearse" ({ cls := "BehindAnotherHearse", name := "strangers", desc := "()I" } : Jvm.MethodName) ({ cls := "BehindAnotherHearse", name := "strangers", desc := "()I" } : Jvm.MethodName)) ∈ lw_all := lw_g (lw_at lw_m5 92 rfl) rfl
theorem q1131 : (Jvm.Cond.code ({ cls := "BehindAnotherHearse", name := "strangers", desc := "()I" } : Jvm.MethodName) prog_1_method_56_code (7 : Nat) (Option.some Jvm.ClassFile.FieldType.int)) ∈ lw_all := lw_g (lw_at lw_m5 93 rfl) rfl
theorem q1132 : (Jvm.Cond.constant "BehindAnotherHearse" (427 : Nat) (1000000 : Int32)) ∈ lw_all := lw_g (lw_at lw_m5 94 rfl) rfl
theorem q1134 : (Jvm.Cond.instanceMethod ({ cls := "BehindAnotherHearse", name := "doubts", desc := "()I" } : Jvm.MethodName)) ∈ lw_all := lw_g (lw_at lw_m5 96 rfl) rfl
theorem q1135 : (Jvm.Cond.selects "BehindAnotherHearse" ({ cls := "BehindAnotherHearse", name := "doubts", desc := "()I" } : Jvm.MethodName) ({ cls := "BehindAnotherHearse", name := "doubts", desc := "()I" } : Jvm.MethodName)) ∈ lw_all := lw_g (lw_at lw_m5 97 rfl) rfl
theorem q1136 : (Jvm.Cond.code ({ cls := "BehindAnotherHearse", name := "doubts", desc := "()I" } : Jvm.MethodName) prog_1_method_57_code (5 : Nat) (Option.some Jvm.ClassFile.FieldType.int)) ∈ lw_all := lw_g (lw_at lw_m5 98 rfl) rfl
theorem q1137 : (Jvm.Cond.methodLink "BehindAnotherHearse" (254 : Nat) ({ cls := "BehindAnotherHearse$Street", name := "nearest", desc := "(I)I" } : Jvm.MethodName)) ∈ lw_all := lw_g (lw_at lw_m5 99 rfl) rfl
theorem q1139 : (Jvm.Cond.instanceMethod ({ cls := "BehindAnotherHearse", name := "heard", desc := "(II)I" } : Jvm.MethodName)) ∈ lw_all := lw_g (lw_at lw_m5 101 rfl) rfl
theorem q1140 : (Jvm.Cond.selects "BehindAnotherHearse" ({ cls := "BehindAnotherHearse", name := "heard", desc := "(II)I" } : Jvm.MethodName) ({ cls := "BehindAnotherHearse", name := "heard", desc := "(II)I" } : Jvm.MethodName)) ∈ lw_all := lw_g (lw_at lw_m5 102 rfl) rfl
theorem q1141 : (Jvm.Cond.code ({ cls := "BehindAnotherHearse", name := "heard", desc := "(II)I" } : Jvm.MethodName) prog_1_method_58_code (4 : Nat) (Option.some Jvm.ClassFile.FieldType.int)) ∈ lw_all := lw_g (lw_at lw_m5 103 rfl) rfl
theorem q1143 : (Jvm.Cond.instanceMethod ({ cls := "BehindAnotherHearse", name := "forget", desc := "()I" } : Jvm.MethodName)) ∈ lw_all := lw_g (lw_at lw_m5 105 rfl) rfl
theorem q1144 : (Jvm.Cond.selects "BehindAnotherHearse" ({ cls := "BehindAnotherHearse", name := "forget", desc := "()I" } : Jvm.MethodName) ({ cls := "BehindAnotherHearse", name := "forget", desc := "()I" } : Jvm.MethodName)) ∈ lw_all := lw_g (lw_at lw_m5 106 rfl) rfl
theorem q1145 : (Jvm.Cond.code ({ cls := "BehindAnotherHearse", name := "forget", desc := "()I" } : Jvm.MethodName) prog_1_method_59_code (2 : Nat) (Option.some Jvm.ClassFile.FieldType.int)) ∈ lw_all := lw_g (lw_at lw_m5 107 rfl) rfl
theorem q1147 : (Jvm.Cond.instanceMethod ({ cls := "BehindAnotherHearse", name := "fits", desc := "()I" } : Jvm.MethodName)) ∈ lw_all := lw_g (lw_at lw_m5 109 rfl) rfl
theorem q1148 : (Jvm.Cond.selects "BehindAnotherHearse" ({ cls := "BehindAnotherHearse", name := "fits", desc := "()I" } : Jvm.MethodName) ({ cls := "BehindAnotherHearse", name := "fits", desc := "()I" } : Jvm.MethodName)) ∈ lw_all := lw_g (lw_at lw_m5 110 rfl) rfl
theorem q1149 : (Jvm.Cond.code ({ cls := "BehindAnotherHearse", name := "fits", desc := "()I" } : Jvm.MethodName) prog_1_method_61_code (6 : Nat) (Option.some Jvm.ClassFile.FieldType.int)) ∈ lw_all := lw_g (lw_at lw_m5 111 rfl) rfl
theorem q1150 : (Jvm.Cond.methodLink "BehindAnotherHearse" (431 : Nat) ({ cls := "BehindAnotherHearse", name := "fitsTo", desc := "(LBehindAnotherHearse$Street;III)Z" } : Jvm.MethodName)) ∈ lw_all := lw_g (lw_at lw_m5 112 rfl) rfl
theorem q1151 : (Jvm.Cond.privateMethod ({ cls := "BehindAnotherHearse", name := "fitsTo", desc := "(LBehindAnotherHearse$Street;III)Z" } : Jvm.MethodName)) ∈ lw_tbl := lw_at lw_m5 113 rfl
theorem q1152 : (Jvm.Cond.instanceMethod ({ cls := "BehindAnotherHearse", name := "fitsTo", desc := "(LBehindAnotherHearse$Street;III)Z" } : Jvm.MethodName)) ∈ lw_all := lw_g (lw_at lw_m5 114 rfl) rfl
theorem q1153 : (Jvm.Cond.code ({ cls := "BehindAnotherHearse", name := "fitsTo", desc := "(LBehindAnotherHearse$Street;III)Z" } : Jvm.MethodName) prog_1_method_60_code (5 : Nat) (Option.some Jvm.ClassFile.FieldType.boolean)) ∈ lw_all := lw_g (lw_at lw_m5 115 rfl) rfl
theorem q1155 : (Jvm.Cond.instanceMethod ({ cls := "BehindAnotherHearse", name := "rains", desc := "(III)I" } : Jvm.MethodName)) ∈ lw_all := lw_g (lw_at lw_m5 117 rfl) rfl
theorem q1156 : (Jvm.Cond.selects "BehindAnotherHearse" ({ cls := "BehindAnotherHearse", name := "rains", desc := "(III)I" } : Jvm.MethodName) ({ cls := "BehindAnotherHearse", name := "rains", desc := "(III)I" } : Jvm.MethodName)) ∈ lw_all := lw_g (lw_at lw_m5 118 rfl) rfl
theorem q1157 : (Jvm.Cond.code ({ cls := "BehindAnotherHearse", name := "rains", desc := "(III)I" } : Jvm.MethodName) prog_1_method_64_code (12 : Nat) (Option.some Jvm.ClassFile.FieldType.int)) ∈ lw_all := lw_g (lw_at lw_m5 119 rfl) rfl
theorem q1158 : (Jvm.Cond.constantLong "BehindAnotherHearse" (439 : Nat) (12 : Int64)) ∈ lw_all := lw_g (lw_at lw_m5 120 rfl) rfl
theorem q1159 : (Jvm.Cond.constantLong "BehindAnotherHearse" (441 : Nat) (10 : Int64)) ∈ lw_all := lw_g (lw_at lw_m5 121 rfl) rfl
theorem q1160 : (Jvm.Cond.methodLink "BehindAnotherHearse" (443 : Nat) ({ cls := "BehindAnotherHearse", name := "power", desc := "(JI)J" } : Jvm.MethodName)) ∈ lw_all := lw_g (lw_at lw_m5 122 rfl) rfl
theorem q1161 : (Jvm.Cond.static ({ cls := "BehindAnotherHearse", name := "power", desc := "(JI)J" } : Jvm.MethodName)) ∈ lw_all := lw_g (lw_at lw_m5 123 rfl) rfl
theorem q1162 : (Jvm.Cond.code ({ cls := "BehindAnotherHearse", name := "power", desc := "(JI)J" } : Jvm.MethodName) prog_1_method_63_code (6 : Nat) (Option.some Jvm.ClassFile.FieldType.long)) ∈ lw_all := lw_g (lw_at lw_m5 124 rfl) rfl
theorem q1163 : (Jvm.Cond.methodLink "BehindAnotherHearse" (435 : Nat) ({ cls := "BehindAnotherHearse", name := "common", desc := "(JJ)J" } : Jvm.MethodName)) ∈ lw_all := lw_g (lw_at lw_m5 125 rfl) rfl
theorem q1164 : (Jvm.Cond.static ({ cls := "BehindAnotherHearse", name := "common", desc := "(JJ)J" } : Jvm.MethodName)) ∈ lw_all := lw_g (lw_at lw_m5 126 rfl) rfl
theorem q1165 : (Jvm.Cond.code ({ cls := "BehindAnotherHearse", name := "common", desc := "(JJ)J" } : Jvm.MethodName) prog_1_method_62_code (4 : Nat) (Option.some Jvm.ClassFile.FieldType.long)) ∈ lw_all := lw_g (lw_at lw_m5 127 rfl) rfl
theorem q1167 : (Jvm.Cond.instanceMethod ({ cls := "BehindAnotherHearse", name := "law", desc := "()I" } : Jvm.MethodName)) ∈ lw_all := lw_g (lw_at lw_m5 129 rfl) rfl
theorem q1168 : (Jvm.Cond.selects "BehindAnotherHearse" ({ cls := "BehindAnotherHearse", name := "law", desc := "()I" } : Jvm.MethodName) ({ cls := "BehindAnotherHearse", name := "law", desc := "()I" } : Jvm.MethodName)) ∈ lw_all := lw_g (lw_at lw_m5 130 rfl) rfl
theorem q1169 : (Jvm.Cond.codeWith ({ cls := "BehindAnotherHearse", name := "law", desc := "()I" } : Jvm.MethodName) prog_1_method_65_code (9 : Nat) (Option.some Jvm.ClassFile.FieldType.int) [((35 : Nat), (69 : Nat), (77 : Nat), (139 : Nat)), ((35 : Nat), (69 : Nat), (98 : Nat), (0 : Nat)), ((77 : Nat), (90 : Nat), (98 : Nat), (0 : Nat)), ((98 : Nat), (100 : Nat), (98 : Nat), (0 : Nat))]) ∈ lw_all := lw_g (lw_at lw_m5 131 rfl) rfl
theorem q1171 : (Jvm.Cond.instanceMethod ({ cls := "BehindAnotherHearse", name := "rests", desc := "(I)I" } : Jvm.MethodName)) ∈ lw_all := lw_g (lw_at lw_m5 133 rfl) rfl
theorem q1172 : (Jvm.Cond.selects "BehindAnotherHearse" ({ cls := "BehindAnotherHearse", name := "rests", desc := "(I)I" } : Jvm.MethodName) ({ cls := "BehindAnotherHearse", name := "rests", desc := "(I)I" } : Jvm.MethodName)) ∈ lw_all := lw_g (lw_at lw_m5 134 rfl) rfl
theorem q1173 : (Jvm.Cond.code ({ cls := "BehindAnotherHearse", name := "rests", desc := "(I)I" } : Jvm.MethodName) prog_1_method_68_code (5 : Nat) (Option.some Jvm.ClassFile.FieldType.int)) ∈ lw_all := lw_g (lw_at lw_m5 135 rfl) rfl
theorem q1174 : (Jvm.Cond.constantLong "BehindAnotherHearse" (451 : Nat) (20 : Int64)) ∈ lw_all := lw_g (lw_at lw_m5 136 rfl) rfl
theorem q1175 : (Jvm.Cond.methodLink "BehindAnotherHearse" (453 : Nat) ({ cls := "BehindAnotherHearse", name := "isBest", desc := "(III)Z" } : Jvm.MethodName)) ∈ lw_all := lw_g (lw_at lw_m5 137 rfl) rfl
theorem q1176 : (Jvm.Cond.static ({ cls := "BehindAnotherHearse", name := "isBest", desc := "(III)Z" } : Jvm.MethodName)) ∈ lw_all := lw_g (lw_at lw_m5 138 rfl) rfl
theorem q1177 : (Jvm.Cond.code ({ cls := "BehindAnotherHearse", name := "isBest", desc := "(III)Z" } : Jvm.MethodName) prog_1_method_67_code (4 : Nat) (Option.some Jvm.ClassFile.FieldType.boolean)) ∈ lw_all := lw_g (lw_at lw_m5 139 rfl) rfl
theorem q1178 : (Jvm.Cond.methodLink "BehindAnotherHearse" (447 : Nat) ({ cls := "BehindAnotherHearse", name := "gets", desc := "(III)I" } : Jvm.MethodName)) ∈ lw_all := lw_g (lw_at lw_m5 140 rfl) rfl
theorem q1179 : (Jvm.Cond.static ({ cls := "BehindAnotherHearse", name := "gets", desc := "(III)I" } : Jvm.MethodName)) ∈ lw_all := lw_g (lw_at lw_m5 141 rfl) rfl
theorem q1180 : (Jvm.Cond.code ({ cls := "BehindAnotherHearse", name := "gets", desc := "(III)I" } : Jvm.MethodName) prog_1_method_66_code (4 : Nat) (Option.some Jvm.ClassFile.FieldType.int)) ∈ lw_all := lw_g (lw_at lw_m5 142 rfl) rfl
theorem q1182 : (Jvm.Cond.instanceMethod ({ cls := "BehindAnotherHearse", name := "years", desc := "(II)I" } : Jvm.MethodName)) ∈ lw_all := lw_g (lw_at lw_m5 144 rfl) rfl
theorem q1183 : (Jvm.Cond.selects "BehindAnotherHearse" ({ cls := "BehindAnotherHearse", name := "years", desc := "(II)I" } : Jvm.MethodName) ({ cls := "BehindAnotherHearse", name := "years", desc := "(II)I" } : Jvm.MethodName)) ∈ lw_all := lw_g (lw_at lw_m5 145 rfl) rfl
theorem q1184 : (Jvm.Cond.code ({ cls := "BehindAnotherHearse", name := "years", desc := "(II)I" } : Jvm.MethodName) prog_1_method_70_code (7 : Nat) (Option.some Jvm.ClassFile.FieldType.int)) ∈ lw_all := lw_g (lw_at lw_m5 146 rfl) rfl
theorem q1185 : (Jvm.Cond.methodLink "BehindAnotherHearse" (461 : Nat) ({ cls := "BehindAnotherHearse", name := "draw", desc := "(I)I" } : Jvm.MethodName)) ∈ lw_all := lw_g (lw_at lw_m5 147 rfl) rfl
theorem q1186 : (Jvm.Cond.privateMethod ({ cls := "BehindAnotherHearse", name := "draw", desc := "(I)I" } : Jvm.MethodName)) ∈ lw_tbl := lw_at lw_m5 148 rfl
theorem q1187 : (Jvm.Cond.instanceMethod ({ cls := "BehindAnotherHearse", name := "draw", desc := "(I)I" } : Jvm.MethodName)) ∈ lw_all := lw_g (lw_at lw_m5 149 rfl) rfl
theorem q1188 : (Jvm.Cond.code ({ cls := "BehindAnotherHearse", name := "draw", desc := "(I)I" } : Jvm.MethodName) prog_1_method_69_code (2 : Nat) (Option.some Jvm.ClassFile.FieldType.int)) ∈ lw_all := lw_g (lw_at lw_m5 150 rfl) rfl
theorem q1189 : (Jvm.Cond.constant "BehindAnotherHearse" (460 : Nat) (1103515245 : Int32)) ∈ lw_all := lw_g (lw_at lw_m5 151 rfl) rfl
theorem q1191 : (Jvm.Cond.instanceMethod ({ cls := "BehindAnotherHearse", name := "keep", desc := "(I)Z" } : Jvm.MethodName)) ∈ lw_all := lw_g (lw_at lw_m5 153 rfl) rfl
theorem q1192 : (Jvm.Cond.selects "BehindAnotherHearse" ({ cls := "BehindAnotherHearse", name := "keep", desc := "(I)Z" } : Jvm.MethodName) ({ cls := "BehindAnotherHearse", name := "keep", desc := "(I)Z" } : Jvm.MethodName)) ∈ lw_all := lw_g (lw_at lw_m5 154 rfl) rfl
theorem q1193 : (Jvm.Cond.code ({ cls := "BehindAnotherHearse", name := "keep", desc := "(I)Z" } : Jvm.MethodName) prog_1_method_71_code (2 : Nat) (Option.some Jvm.ClassFile.FieldType.boolean)) ∈ lw_all := lw_g (lw_at lw_m5 155 rfl) rfl
theorem q1194 : (Jvm.Cond.constantLong "BehindAnotherHearse" (464 : Nat) (2 : Int64)) ∈ lw_all := lw_g (lw_at lw_m5 156 rfl) rfl
theorem q1196 : (Jvm.Cond.methodLink "BehindAnotherHearse" (466 : Nat) ({ cls := "BehindAnotherHearse$Page", name := "<init>", desc := "(LBehindAnotherHearse;)V" } : Jvm.MethodName)) ∈ lw_all := lw_g (lw_at lw_m5 158 rfl) rfl
theorem q1204 : (Jvm.Cond.fieldLinkNest "BehindAnotherHearse" (470 : Nat) "BehindAnotherHearse$Page" "was" "LBehindAnotherHearse$Street;" "BehindAnotherHearse") ∈ lw_tbl := lw_at lw_m5 166 rfl
theorem q1206 : (Jvm.Cond.fieldLinkNest "BehindAnotherHearse" (467 : Nat) "BehindAnotherHearse$Page" "since" "I" "BehindAnotherHearse") ∈ lw_tbl := lw_at lw_m5 168 rfl
theorem q1216 : (Jvm.Cond.instanceMethod ({ cls := "BehindAnotherHearse", name := "again", desc := "(I)Z" } : Jvm.MethodName)) ∈ lw_all := lw_g (lw_at lw_m5 178 rfl) rfl
theorem q1217 : (Jvm.Cond.selects "BehindAnotherHearse" ({ cls := "BehindAnotherHearse", name := "again", desc := "(I)Z" } : Jvm.MethodName) ({ cls := "BehindAnotherHearse", name := "again", desc := "(I)Z" } : Jvm.MethodName)) ∈ lw_all := lw_g (lw_at lw_m5 179 rfl) rfl
theorem q1218 : (Jvm.Cond.code ({ cls := "BehindAnotherHearse", name := "again", desc := "(I)Z" } : Jvm.MethodName) prog_1_method_72_code (2 : Nat) (Option.some Jvm.ClassFile.FieldType.boolean)) ∈ lw_all := lw_g (lw_at lw_m5 180 rfl) rfl
theorem q1220 : (Jvm.Cond.instanceMethod ({ cls := "BehindAnotherHearse", name := "count", desc := "(I)I" } : Jvm.MethodName)) ∈ lw_all := lw_g (lw_at lw_m5 182 rfl) rfl
theorem q1221 : (Jvm.Cond.selects "BehindAnotherHearse" ({ cls := "BehindAnotherHearse", name := "count", desc := "(I)I" } : Jvm.MethodName) ({ cls := "BehindAnotherHearse", name := "count", desc := "(I)I" } : Jvm.MethodName)) ∈ lw_all := lw_g (lw_at lw_m5 183 rfl) rfl
theorem q1222 : (Jvm.Cond.code ({ cls := "BehindAnotherHearse", name := "count", desc := "(I)I" } : Jvm.MethodName) prog_1_method_74_code (2 : Nat) (Option.some Jvm.ClassFile.FieldType.int)) ∈ lw_all := lw_g (lw_at lw_m5 184 rfl) rfl
theorem q1223 : (Jvm.Cond.methodLink "BehindAnotherHearse" (473 : Nat) ({ cls := "BehindAnotherHearse", name := "corners", desc := "()I" } : Jvm.MethodName)) ∈ lw_all := lw_g (lw_at lw_m5 185 rfl) rfl
theorem q1224 : (Jvm.Cond.privateMethod ({ cls := "BehindAnotherHearse", name := "corners", desc := "()I" } : Jvm.MethodName)) ∈ lw_tbl := lw_at lw_m5 186 rfl
theorem q1225 : (Jvm.Cond.instanceMethod ({ cls := "BehindAnotherHearse", name := "corners", desc := "()I" } : Jvm.MethodName)) ∈ lw_all := lw_g (lw_at lw_m5 187 rfl) rfl
theorem q1226 : (Jvm.Cond.code ({ cls := "BehindAnotherHearse", name := "corners", desc := "()I" } : Jvm.MethodName) prog_1_method_73_code (3 : Nat) (Option.some Jvm.ClassFile.FieldType.int)) ∈ lw_all := lw_g (lw_at lw_m5 188 rfl) rfl
theorem q1227 : (Jvm.Cond.methodLink "BehindAnotherHearse" (476 : Nat) ({ cls := "BehindAnotherHearse", name := "weatherOf", desc := "(I)I" } : Jvm.MethodName)) ∈ lw_all := lw_g (lw_at lw_m5 189 rfl) rfl
theorem q1233 : (Jvm.Cond.instanceMethod ({ cls := "BehindAnotherHearse", name := "hearse", desc := "(II)I" } : Jvm.MethodName)) ∈ lw_all := lw_g (lw_at lw_m5 195 rfl) rfl
theorem q1234 : (Jvm.Cond.selects "BehindAnotherHearse" ({ cls := "BehindAnotherHearse", name := "hearse", desc := "(II)I" } : Jvm.MethodName) ({ cls := "BehindAnotherHearse", name := "hearse", desc := "(II)I" } : Jvm.MethodName)) ∈ lw_all := lw_g (lw_at lw_m5 196 rfl) rfl
theorem q1235 : (Jvm.Cond.code ({ cls := "BehindAnotherHearse", name := "hearse", desc := "(II)I" } : Jvm.MethodName) prog_1_method_20_code (3 : Nat) (Option.some Jvm.ClassFile.FieldType.int)) ∈ lw_all := lw_g (lw_at lw_m5 197 rfl) rfl
theorem q1236 : (Jvm.Cond.classLink "BehindAnotherHearse" (233 : Nat) "java/util/NoSuchElementException") ∈ lw_all := lw_g (lw_at lw_m5 198 rfl) rfl
theorem q1245 : (Jvm.Cond.methodLink "BehindAnotherHearse" (235 : Nat) ({ cls := "java/util/NoSuchElementException", name := "<init>", desc := "()V" } : Jvm.MethodName)) ∈ lw_all := lw_g (lw_at lw_m5 207 rfl) rfl
theorem q1254 : (Jvm.Cond.methodLink "BehindAnotherHearse" (239 : Nat) ({ cls := "BehindAnotherHearse$Street", name := "pace", desc := "(I)I" } : Jvm.MethodName)) ∈ lw_all := lw_g (lw_at lw_m5 216 rfl) rfl
theorem q1255 : (Jvm.Cond.methodLink "BehindAnotherHearse" (242 : Nat) ({ cls := "BehindAnotherHearse$Street", name := "followers", desc := "(I)I" } : Jvm.MethodName)) ∈ lw_all := lw_g (lw_at lw_m5 217 rfl) rfl
theorem q1260 : (Jvm.Cond.instanceMethod ({ cls := "BehindAnotherHearse", name := "mourner", desc := "(II)I" } : Jvm.MethodName)) ∈ lw_all := lw_g (lw_at lw_m5 222 rfl) rfl
theorem q1261 : (Jvm.Cond.selects "BehindAnotherHearse" ({ cls := "BehindAnotherHearse", name := "mourner", desc := "(II)I" } : Jvm.MethodName) ({ cls := "BehindAnotherHearse", name := "mourner", desc := "(II)I" } : Jvm.MethodName)) ∈ lw_all := lw_g (lw_at lw_m5 223 rfl) rfl
theorem q1262 : (Jvm.Cond.code ({ cls := "BehindAnotherHearse", name := "mourner", desc := "(II)I" } : Jvm.MethodName) prog_1_method_21_code (3 : Nat) (Option.some Jvm.ClassFile.FieldType.int)) ∈ lw_all := lw_g (lw_at lw_m5 224 rfl) rfl
theorem q1267 : (Jvm.Cond.instanceMethod ({ cls := "BehindAnotherHearse", name := "row", desc := "(I)J" } : Jvm.MethodName)) ∈ lw_all := lw_g (lw_at lw_m5 229 rfl) rfl
theorem q1268 : (Jvm.Cond.selects "BehindAnotherHearse" ({ cls := "BehindAnotherHearse", name := "row", desc := "(I)J" } : Jvm.MethodName) ({ cls := "BehindAnotherHearse", name := "row", desc := "(I)J" } : Jvm.MethodName)) ∈ lw_all := lw_g (lw_at lw_m5 230 rfl) rfl
theorem q1269 : (Jvm.Cond.code ({ cls := "BehindAnotherHearse", name := "row", desc := "(I)J" } : Jvm.MethodName) prog_1_method_75_code (2 : Nat) (Option.some Jvm.ClassFile.FieldType.long)) ∈ lw_all := lw_g (lw_at lw_m5 231 rfl) rfl
theorem q1963 : (Jvm.Cond.castable "BehindAnotherHearse" "java/lang/Object") ∈ lw_tbl := lw_at lw_m8 205 rfl
theorem in_X1 : ∀ w ∈ wsX10, w ∈ lw_all := lw_in wsX10 [256, 258, 260, 262, 264, 266, 268, 270, 272, 274, 276, 278, 280, 282, 284, 286, 288, 290, 292, 294, 296, 298, 300, 302, 304, 306, 308, 310, 312, 314] (by decide +kernel) (by decide +kernel)
