/-! BehindAnotherHearse$Street -/
set_option maxRecDepth 100000
def RX2 : String := "BehindAnotherHearse$Street"
def TX2 : u_T := fun k => match k with
  | 0 => ("BehindAnotherHearse$Street", "at", "[I", true)
  | 1 => ("BehindAnotherHearse$Street", "rank", "[I", true)
  | 2 => ("BehindAnotherHearse$Street", "cell", "[I", true)
  | 3 => ("BehindAnotherHearse$Street", "follows", "[I", true)
  | 4 => ("BehindAnotherHearse$Street", "ended", "[I", true)
  | 5 => ("BehindAnotherHearse$Street", "changes", "[I", true)
  | 6 => ("BehindAnotherHearse$Street", "waits", "[I", true)
  | 7 => ("BehindAnotherHearse$Street", "step", "I", false)
  | 8 => ("BehindAnotherHearse$Street", "arrived", "I", false)
  | _ => ("BehindAnotherHearse$Street", "this$0", "LBehindAnotherHearse;", true)
def tyX2 : Nat → FieldType := fun k => match k with
  | 0 => .array .int
  | 1 => .array .int
  | 2 => .array .int
  | 3 => .array .int
  | 4 => .array .int
  | 5 => .array .int
  | 6 => .array .int
  | 7 => .int
  | 8 => .int
  | _ => .object "BehindAnotherHearse"
abbrev wsX20 : List Cond := u_ws RX2 TX2 10
theorem nmX2 : ∀ a, a < 10 → ∀ b, b < 10 → a ≠ b → (TX2 a).2.1 ≠ (TX2 b).2.1 := by decide +kernel
theorem tyX2_ok : ∀ k, k < 10 → parseFieldDescriptor (TX2 k).2.2.1 = some (tyX2 k) := by decide +kernel
abbrev cX2_init : ByteArray := prog_9_method_1_code
def yX2_init : MethodName := ⟨RX2, "<init>", "(LBehindAnotherHearse;)V"⟩
def dkwX2_init_2 : List UInt8 := [181, 0, 28, 42, 16, 8, 188, 10, 181, 0, 31, 42, 16, 30, 188, 10, 181, 0, 34, 177]
abbrev dktX2_init_2 : List UInt8 := dkwX2_init_2 ++ []
def dkwX2_init_1 : List UInt8 := [181, 0, 19, 42, 16, 8, 188, 10, 181, 0, 22, 42, 16, 8, 188, 10, 181, 0, 25, 42, 16, 8, 188, 10]
abbrev dktX2_init_1 : List UInt8 := dkwX2_init_1 ++ dktX2_init_2
def dkwX2_init_0 : List UInt8 := [42, 43, 181, 0, 3, 42, 183, 0, 9, 42, 16, 6, 188, 10, 181, 0, 15, 42, 16, 6, 188, 10]
abbrev dktX2_init_0 : List UInt8 := dkwX2_init_0 ++ dktX2_init_1
theorem dksX2_init_0 : cX2_init.data.toList.drop 0 = dktX2_init_0 := by decide +kernel
theorem dksX2_init_1 : cX2_init.data.toList.drop 22 = dktX2_init_1 := dk_seg dksX2_init_0 22 rfl rfl
theorem dksX2_init_2 : cX2_init.data.toList.drop 46 = dktX2_init_2 := dk_seg dksX2_init_1 24 rfl rfl
theorem dX2_init_0 : decode cX2_init 0 = .ok (.aload_n 0, 1) := dk_42 (dk_at dksX2_init_0 0 rfl rfl)
theorem dX2_init_1 : decode cX2_init 1 = .ok (.aload_n 1, 1) := dk_43 (dk_at dksX2_init_0 1 rfl rfl)
theorem dX2_init_2 : decode cX2_init 2 = .ok (.putfield 3, 3) := dk_181 0 3 (dk_at dksX2_init_0 2 rfl rfl)
theorem dX2_init_5 : decode cX2_init 5 = .ok (.aload_n 0, 1) := dk_42 (dk_at dksX2_init_0 5 rfl rfl)
theorem dX2_init_6 : decode cX2_init 6 = .ok (.invokespecial 9, 3) := dk_183 0 9 (dk_at dksX2_init_0 6 rfl rfl)
theorem dX2_init_9 : decode cX2_init 9 = .ok (.aload_n 0, 1) := dk_42 (dk_at dksX2_init_0 9 rfl rfl)
theorem dX2_init_10 : decode cX2_init 10 = .ok (.bipush 6, 2) := dk_16 6 (dk_at dksX2_init_0 10 rfl rfl)
theorem dX2_init_12 : decode cX2_init 12 = .ok (.newarray .int, 2) := dk_188_10 (dk_at dksX2_init_0 12 rfl rfl)
theorem dX2_init_14 : decode cX2_init 14 = .ok (.putfield 15, 3) := dk_181 0 15 (dk_at dksX2_init_0 14 rfl rfl)
theorem dX2_init_17 : decode cX2_init 17 = .ok (.aload_n 0, 1) := dk_42 (dk_at dksX2_init_0 17 rfl rfl)
theorem dX2_init_18 : decode cX2_init 18 = .ok (.bipush 6, 2) := dk_16 6 (dk_at dksX2_init_0 18 rfl rfl)
theorem dX2_init_20 : decode cX2_init 20 = .ok (.newarray .int, 2) := dk_188_10 (dk_at dksX2_init_0 20 rfl rfl)
theorem dX2_init_22 : decode cX2_init 22 = .ok (.putfield 19, 3) := dk_181 0 19 (dk_at dksX2_init_1 0 rfl rfl)
theorem dX2_init_25 : decode cX2_init 25 = .ok (.aload_n 0, 1) := dk_42 (dk_at dksX2_init_1 3 rfl rfl)
theorem dX2_init_26 : decode cX2_init 26 = .ok (.bipush 8, 2) := dk_16 8 (dk_at dksX2_init_1 4 rfl rfl)
theorem dX2_init_28 : decode cX2_init 28 = .ok (.newarray .int, 2) := dk_188_10 (dk_at dksX2_init_1 6 rfl rfl)
theorem dX2_init_30 : decode cX2_init 30 = .ok (.putfield 22, 3) := dk_181 0 22 (dk_at dksX2_init_1 8 rfl rfl)
theorem dX2_init_33 : decode cX2_init 33 = .ok (.aload_n 0, 1) := dk_42 (dk_at dksX2_init_1 11 rfl rfl)
theorem dX2_init_34 : decode cX2_init 34 = .ok (.bipush 8, 2) := dk_16 8 (dk_at dksX2_init_1 12 rfl rfl)
theorem dX2_init_36 : decode cX2_init 36 = .ok (.newarray .int, 2) := dk_188_10 (dk_at dksX2_init_1 14 rfl rfl)
theorem dX2_init_38 : decode cX2_init 38 = .ok (.putfield 25, 3) := dk_181 0 25 (dk_at dksX2_init_1 16 rfl rfl)
theorem dX2_init_41 : decode cX2_init 41 = .ok (.aload_n 0, 1) := dk_42 (dk_at dksX2_init_1 19 rfl rfl)
theorem dX2_init_42 : decode cX2_init 42 = .ok (.bipush 8, 2) := dk_16 8 (dk_at dksX2_init_1 20 rfl rfl)
theorem dX2_init_44 : decode cX2_init 44 = .ok (.newarray .int, 2) := dk_188_10 (dk_at dksX2_init_1 22 rfl rfl)
theorem dX2_init_46 : decode cX2_init 46 = .ok (.putfield 28, 3) := dk_181 0 28 (dk_at dksX2_init_2 0 rfl rfl)
theorem dX2_init_49 : decode cX2_init 49 = .ok (.aload_n 0, 1) := dk_42 (dk_at dksX2_init_2 3 rfl rfl)
theorem dX2_init_50 : decode cX2_init 50 = .ok (.bipush 8, 2) := dk_16 8 (dk_at dksX2_init_2 4 rfl rfl)
theorem dX2_init_52 : decode cX2_init 52 = .ok (.newarray .int, 2) := dk_188_10 (dk_at dksX2_init_2 6 rfl rfl)
theorem dX2_init_54 : decode cX2_init 54 = .ok (.putfield 31, 3) := dk_181 0 31 (dk_at dksX2_init_2 8 rfl rfl)
theorem dX2_init_57 : decode cX2_init 57 = .ok (.aload_n 0, 1) := dk_42 (dk_at dksX2_init_2 11 rfl rfl)
theorem dX2_init_58 : decode cX2_init 58 = .ok (.bipush 30, 2) := dk_16 30 (dk_at dksX2_init_2 12 rfl rfl)
theorem dX2_init_60 : decode cX2_init 60 = .ok (.newarray .int, 2) := dk_188_10 (dk_at dksX2_init_2 14 rfl rfl)
theorem dX2_init_62 : decode cX2_init 62 = .ok (.putfield 34, 3) := dk_181 0 34 (dk_at dksX2_init_2 16 rfl rfl)
theorem dX2_init_65 : decode cX2_init 65 = .ok (.return_, 1) := dk_177 (dk_at dksX2_init_2 19 rfl rfl)
abbrev cX2_on : ByteArray := prog_9_method_4_code
def yX2_on : MethodName := ⟨RX2, "on", "(I)I"⟩
def dkwX2_on_1 : List UInt8 := [172, 132, 2, 1, 167, 255, 230, 2, 172]
abbrev dktX2_on_1 : List UInt8 := dkwX2_on_1 ++ []
def dkwX2_on_0 : List UInt8 := [3, 61, 28, 42, 180, 0, 3, 180, 0, 56, 162, 0, 21, 42, 180, 0, 15, 28, 46, 27, 160, 0, 5, 28]
abbrev dktX2_on_0 : List UInt8 := dkwX2_on_0 ++ dktX2_on_1
theorem dksX2_on_0 : cX2_on.data.toList.drop 0 = dktX2_on_0 := by decide +kernel
theorem dksX2_on_1 : cX2_on.data.toList.drop 24 = dktX2_on_1 := dk_seg dksX2_on_0 24 rfl rfl
theorem dX2_on_0 : decode cX2_on 0 = .ok (.iconst 0, 1) := dk_3 (dk_at dksX2_on_0 0 rfl rfl)
theorem dX2_on_1 : decode cX2_on 1 = .ok (.istore_n 2, 1) := dk_61 (dk_at dksX2_on_0 1 rfl rfl)
theorem dX2_on_2 : decode cX2_on 2 = .ok (.iload_n 2, 1) := dk_28 (dk_at dksX2_on_0 2 rfl rfl)
theorem dX2_on_3 : decode cX2_on 3 = .ok (.aload_n 0, 1) := dk_42 (dk_at dksX2_on_0 3 rfl rfl)
theorem dX2_on_4 : decode cX2_on 4 = .ok (.getfield 3, 3) := dk_180 0 3 (dk_at dksX2_on_0 4 rfl rfl)
theorem dX2_on_7 : decode cX2_on 7 = .ok (.getfield 56, 3) := dk_180 0 56 (dk_at dksX2_on_0 7 rfl rfl)
theorem dX2_on_10 : decode cX2_on 10 = .ok (.if_icmp .ge 21, 3) := dk_162 0 21 (dk_at dksX2_on_0 10 rfl rfl)
theorem dX2_on_13 : decode cX2_on 13 = .ok (.aload_n 0, 1) := dk_42 (dk_at dksX2_on_0 13 rfl rfl)
theorem dX2_on_14 : decode cX2_on 14 = .ok (.getfield 15, 3) := dk_180 0 15 (dk_at dksX2_on_0 14 rfl rfl)
theorem dX2_on_17 : decode cX2_on 17 = .ok (.iload_n 2, 1) := dk_28 (dk_at dksX2_on_0 17 rfl rfl)
theorem dX2_on_18 : decode cX2_on 18 = .ok (.iaload, 1) := dk_46 (dk_at dksX2_on_0 18 rfl rfl)
theorem dX2_on_19 : decode cX2_on 19 = .ok (.iload_n 1, 1) := dk_27 (dk_at dksX2_on_0 19 rfl rfl)
theorem dX2_on_20 : decode cX2_on 20 = .ok (.if_icmp .ne 5, 3) := dk_160 0 5 (dk_at dksX2_on_0 20 rfl rfl)
theorem dX2_on_23 : decode cX2_on 23 = .ok (.iload_n 2, 1) := dk_28 (dk_at dksX2_on_0 23 rfl rfl)
theorem dX2_on_24 : decode cX2_on 24 = .ok (.ireturn, 1) := dk_172 (dk_at dksX2_on_1 0 rfl rfl)
theorem dX2_on_25 : decode cX2_on 25 = .ok (.iinc 2 1, 3) := dk_132 2 1 (dk_at dksX2_on_1 1 rfl rfl)
theorem dX2_on_28 : decode cX2_on 28 = .ok (.goto (-26), 3) := dk_167 255 230 (dk_at dksX2_on_1 4 rfl rfl)
theorem dX2_on_31 : decode cX2_on 31 = .ok (.iconst (-1), 1) := dk_2 (dk_at dksX2_on_1 7 rfl rfl)
theorem dX2_on_32 : decode cX2_on 32 = .ok (.ireturn, 1) := dk_172 (dk_at dksX2_on_1 8 rfl rfl)
abbrev cX2_gap : ByteArray := prog_9_method_10_code
def yX2_gap : MethodName := ⟨RX2, "gap", "(I)I"⟩
def dkwX2_gap_3 : List UInt8 := [172]
abbrev dktX2_gap_3 : List UInt8 := dkwX2_gap_3 ++ []
def dkwX2_gap_2 : List UInt8 := [160, 0, 14, 28, 42, 180, 0, 15, 27, 46, 100, 167, 0, 13, 28, 42, 180, 0, 15, 27, 46, 100, 4, 100]
abbrev dktX2_gap_2 : List UInt8 := dkwX2_gap_2 ++ dktX2_gap_3
def dkwX2_gap_1 : List UInt8 := [182, 0, 62, 2, 160, 0, 9, 132, 2, 1, 167, 255, 231, 28, 42, 180, 0, 3, 180, 0, 59, 4, 100]
abbrev dktX2_gap_1 : List UInt8 := dkwX2_gap_1 ++ dktX2_gap_2
def dkwX2_gap_0 : List UInt8 := [42, 180, 0, 15, 27, 46, 4, 96, 61, 28, 42, 180, 0, 3, 180, 0, 59, 4, 100, 162, 0, 18, 42, 28]
abbrev dktX2_gap_0 : List UInt8 := dkwX2_gap_0 ++ dktX2_gap_1
theorem dksX2_gap_0 : cX2_gap.data.toList.drop 0 = dktX2_gap_0 := by decide +kernel
theorem dksX2_gap_1 : cX2_gap.data.toList.drop 24 = dktX2_gap_1 := dk_seg dksX2_gap_0 24 rfl rfl
theorem dksX2_gap_2 : cX2_gap.data.toList.drop 47 = dktX2_gap_2 := dk_seg dksX2_gap_1 23 rfl rfl
theorem dksX2_gap_3 : cX2_gap.data.toList.drop 71 = dktX2_gap_3 := dk_seg dksX2_gap_2 24 rfl rfl
theorem dX2_gap_0 : decode cX2_gap 0 = .ok (.aload_n 0, 1) := dk_42 (dk_at dksX2_gap_0 0 rfl rfl)
theorem dX2_gap_1 : decode cX2_gap 1 = .ok (.getfield 15, 3) := dk_180 0 15 (dk_at dksX2_gap_0 1 rfl rfl)
theorem dX2_gap_4 : decode cX2_gap 4 = .ok (.iload_n 1, 1) := dk_27 (dk_at dksX2_gap_0 4 rfl rfl)
theorem dX2_gap_5 : decode cX2_gap 5 = .ok (.iaload, 1) := dk_46 (dk_at dksX2_gap_0 5 rfl rfl)
theorem dX2_gap_6 : decode cX2_gap 6 = .ok (.iconst 1, 1) := dk_4 (dk_at dksX2_gap_0 6 rfl rfl)
theorem dX2_gap_7 : decode cX2_gap 7 = .ok (.iadd, 1) := dk_96 (dk_at dksX2_gap_0 7 rfl rfl)
theorem dX2_gap_8 : decode cX2_gap 8 = .ok (.istore_n 2, 1) := dk_61 (dk_at dksX2_gap_0 8 rfl rfl)
theorem dX2_gap_9 : decode cX2_gap 9 = .ok (.iload_n 2, 1) := dk_28 (dk_at dksX2_gap_0 9 rfl rfl)
theorem dX2_gap_10 : decode cX2_gap 10 = .ok (.aload_n 0, 1) := dk_42 (dk_at dksX2_gap_0 10 rfl rfl)
theorem dX2_gap_11 : decode cX2_gap 11 = .ok (.getfield 3, 3) := dk_180 0 3 (dk_at dksX2_gap_0 11 rfl rfl)
theorem dX2_gap_14 : decode cX2_gap 14 = .ok (.getfield 59, 3) := dk_180 0 59 (dk_at dksX2_gap_0 14 rfl rfl)
theorem dX2_gap_17 : decode cX2_gap 17 = .ok (.iconst 1, 1) := dk_4 (dk_at dksX2_gap_0 17 rfl rfl)
theorem dX2_gap_18 : decode cX2_gap 18 = .ok (.isub, 1) := dk_100 (dk_at dksX2_gap_0 18 rfl rfl)
theorem dX2_gap_19 : decode cX2_gap 19 = .ok (.if_icmp .ge 18, 3) := dk_162 0 18 (dk_at dksX2_gap_0 19 rfl rfl)
theorem dX2_gap_22 : decode cX2_gap 22 = .ok (.aload_n 0, 1) := dk_42 (dk_at dksX2_gap_0 22 rfl rfl)
theorem dX2_gap_23 : decode cX2_gap 23 = .ok (.iload_n 2, 1) := dk_28 (dk_at dksX2_gap_0 23 rfl rfl)
theorem dX2_gap_24 : decode cX2_gap 24 = .ok (.invokevirtual 62, 3) := dk_182 0 62 (dk_at dksX2_gap_1 0 rfl rfl)
theorem dX2_gap_27 : decode cX2_gap 27 = .ok (.iconst (-1), 1) := dk_2 (dk_at dksX2_gap_1 3 rfl rfl)
theorem dX2_gap_28 : decode cX2_gap 28 = .ok (.if_icmp .ne 9, 3) := dk_160 0 9 (dk_at dksX2_gap_1 4 rfl rfl)
theorem dX2_gap_31 : decode cX2_gap 31 = .ok (.iinc 2 1, 3) := dk_132 2 1 (dk_at dksX2_gap_1 7 rfl rfl)
theorem dX2_gap_34 : decode cX2_gap 34 = .ok (.goto (-25), 3) := dk_167 255 231 (dk_at dksX2_gap_1 10 rfl rfl)
theorem dX2_gap_37 : decode cX2_gap 37 = .ok (.iload_n 2, 1) := dk_28 (dk_at dksX2_gap_1 13 rfl rfl)
theorem dX2_gap_38 : decode cX2_gap 38 = .ok (.aload_n 0, 1) := dk_42 (dk_at dksX2_gap_1 14 rfl rfl)
theorem dX2_gap_39 : decode cX2_gap 39 = .ok (.getfield 3, 3) := dk_180 0 3 (dk_at dksX2_gap_1 15 rfl rfl)
theorem dX2_gap_42 : decode cX2_gap 42 = .ok (.getfield 59, 3) := dk_180 0 59 (dk_at dksX2_gap_1 18 rfl rfl)
theorem dX2_gap_45 : decode cX2_gap 45 = .ok (.iconst 1, 1) := dk_4 (dk_at dksX2_gap_1 21 rfl rfl)
theorem dX2_gap_46 : decode cX2_gap 46 = .ok (.isub, 1) := dk_100 (dk_at dksX2_gap_1 22 rfl rfl)
theorem dX2_gap_47 : decode cX2_gap 47 = .ok (.if_icmp .ne 14, 3) := dk_160 0 14 (dk_at dksX2_gap_2 0 rfl rfl)
theorem dX2_gap_50 : decode cX2_gap 50 = .ok (.iload_n 2, 1) := dk_28 (dk_at dksX2_gap_2 3 rfl rfl)
theorem dX2_gap_51 : decode cX2_gap 51 = .ok (.aload_n 0, 1) := dk_42 (dk_at dksX2_gap_2 4 rfl rfl)
theorem dX2_gap_52 : decode cX2_gap 52 = .ok (.getfield 15, 3) := dk_180 0 15 (dk_at dksX2_gap_2 5 rfl rfl)
theorem dX2_gap_55 : decode cX2_gap 55 = .ok (.iload_n 1, 1) := dk_27 (dk_at dksX2_gap_2 8 rfl rfl)
theorem dX2_gap_56 : decode cX2_gap 56 = .ok (.iaload, 1) := dk_46 (dk_at dksX2_gap_2 9 rfl rfl)
theorem dX2_gap_57 : decode cX2_gap 57 = .ok (.isub, 1) := dk_100 (dk_at dksX2_gap_2 10 rfl rfl)
theorem dX2_gap_58 : decode cX2_gap 58 = .ok (.goto 13, 3) := dk_167 0 13 (dk_at dksX2_gap_2 11 rfl rfl)
theorem dX2_gap_61 : decode cX2_gap 61 = .ok (.iload_n 2, 1) := dk_28 (dk_at dksX2_gap_2 14 rfl rfl)
theorem dX2_gap_62 : decode cX2_gap 62 = .ok (.aload_n 0, 1) := dk_42 (dk_at dksX2_gap_2 15 rfl rfl)
theorem dX2_gap_63 : decode cX2_gap 63 = .ok (.getfield 15, 3) := dk_180 0 15 (dk_at dksX2_gap_2 16 rfl rfl)
theorem dX2_gap_66 : decode cX2_gap 66 = .ok (.iload_n 1, 1) := dk_27 (dk_at dksX2_gap_2 19 rfl rfl)
theorem dX2_gap_67 : decode cX2_gap 67 = .ok (.iaload, 1) := dk_46 (dk_at dksX2_gap_2 20 rfl rfl)
theorem dX2_gap_68 : decode cX2_gap 68 = .ok (.isub, 1) := dk_100 (dk_at dksX2_gap_2 21 rfl rfl)
theorem dX2_gap_69 : decode cX2_gap 69 = .ok (.iconst 1, 1) := dk_4 (dk_at dksX2_gap_2 22 rfl rfl)
theorem dX2_gap_70 : decode cX2_gap 70 = .ok (.isub, 1) := dk_100 (dk_at dksX2_gap_2 23 rfl rfl)
theorem dX2_gap_71 : decode cX2_gap 71 = .ok (.ireturn, 1) := dk_172 (dk_at dksX2_gap_3 0 rfl rfl)
abbrev cX2_followers : ByteArray := prog_9_method_6_code
def yX2_followers : MethodName := ⟨RX2, "followers", "(I)I"⟩
def dkwX2_followers_1 : List UInt8 := [160, 0, 9, 4, 29, 120, 167, 0, 4, 3, 128, 61, 132, 3, 1, 167, 255, 222, 28, 172]
abbrev dktX2_followers_1 : List UInt8 := dkwX2_followers_1 ++ []
def dkwX2_followers_0 : List UInt8 := [3, 61, 3, 62, 29, 42, 180, 0, 3, 180, 0, 66, 162, 0, 29, 28, 42, 180, 0, 25, 29, 46, 27]
abbrev dktX2_followers_0 : List UInt8 := dkwX2_followers_0 ++ dktX2_followers_1
theorem dksX2_followers_0 : cX2_followers.data.toList.drop 0 = dktX2_followers_0 := by decide +kernel
theorem dksX2_followers_1 : cX2_followers.data.toList.drop 23 = dktX2_followers_1 := dk_seg dksX2_followers_0 23 rfl rfl
theorem dX2_followers_0 : decode cX2_followers 0 = .ok (.iconst 0, 1) := dk_3 (dk_at dksX2_followers_0 0 rfl rfl)
theorem dX2_followers_1 : decode cX2_followers 1 = .ok (.istore_n 2, 1) := dk_61 (dk_at dksX2_followers_0 1 rfl rfl)
theorem dX2_followers_2 : decode cX2_followers 2 = .ok (.iconst 0, 1) := dk_3 (dk_at dksX2_followers_0 2 rfl rfl)
theorem dX2_followers_3 : decode cX2_followers 3 = .ok (.istore_n 3, 1) := dk_62 (dk_at dksX2_followers_0 3 rfl rfl)
theorem dX2_followers_4 : decode cX2_followers 4 = .ok (.iload_n 3, 1) := dk_29 (dk_at dksX2_followers_0 4 rfl rfl)
theorem dX2_followers_5 : decode cX2_followers 5 = .ok (.aload_n 0, 1) := dk_42 (dk_at dksX2_followers_0 5 rfl rfl)
theorem dX2_followers_6 : decode cX2_followers 6 = .ok (.getfield 3, 3) := dk_180 0 3 (dk_at dksX2_followers_0 6 rfl rfl)
theorem dX2_followers_9 : decode cX2_followers 9 = .ok (.getfield 66, 3) := dk_180 0 66 (dk_at dksX2_followers_0 9 rfl rfl)
theorem dX2_followers_12 : decode cX2_followers 12 = .ok (.if_icmp .ge 29, 3) := dk_162 0 29 (dk_at dksX2_followers_0 12 rfl rfl)
theorem dX2_followers_15 : decode cX2_followers 15 = .ok (.iload_n 2, 1) := dk_28 (dk_at dksX2_followers_0 15 rfl rfl)
theorem dX2_followers_16 : decode cX2_followers 16 = .ok (.aload_n 0, 1) := dk_42 (dk_at dksX2_followers_0 16 rfl rfl)
theorem dX2_followers_17 : decode cX2_followers 17 = .ok (.getfield 25, 3) := dk_180 0 25 (dk_at dksX2_followers_0 17 rfl rfl)
theorem dX2_followers_20 : decode cX2_followers 20 = .ok (.iload_n 3, 1) := dk_29 (dk_at dksX2_followers_0 20 rfl rfl)
theorem dX2_followers_21 : decode cX2_followers 21 = .ok (.iaload, 1) := dk_46 (dk_at dksX2_followers_0 21 rfl rfl)
theorem dX2_followers_22 : decode cX2_followers 22 = .ok (.iload_n 1, 1) := dk_27 (dk_at dksX2_followers_0 22 rfl rfl)
theorem dX2_followers_23 : decode cX2_followers 23 = .ok (.if_icmp .ne 9, 3) := dk_160 0 9 (dk_at dksX2_followers_1 0 rfl rfl)
theorem dX2_followers_26 : decode cX2_followers 26 = .ok (.iconst 1, 1) := dk_4 (dk_at dksX2_followers_1 3 rfl rfl)
theorem dX2_followers_27 : decode cX2_followers 27 = .ok (.iload_n 3, 1) := dk_29 (dk_at dksX2_followers_1 4 rfl rfl)
theorem dX2_followers_28 : decode cX2_followers 28 = .ok (.ishl, 1) := dk_120 (dk_at dksX2_followers_1 5 rfl rfl)
theorem dX2_followers_29 : decode cX2_followers 29 = .ok (.goto 4, 3) := dk_167 0 4 (dk_at dksX2_followers_1 6 rfl rfl)
theorem dX2_followers_32 : decode cX2_followers 32 = .ok (.iconst 0, 1) := dk_3 (dk_at dksX2_followers_1 9 rfl rfl)
theorem dX2_followers_33 : decode cX2_followers 33 = .ok (.ior, 1) := dk_128 (dk_at dksX2_followers_1 10 rfl rfl)
theorem dX2_followers_34 : decode cX2_followers 34 = .ok (.istore_n 2, 1) := dk_61 (dk_at dksX2_followers_1 11 rfl rfl)
theorem dX2_followers_35 : decode cX2_followers 35 = .ok (.iinc 3 1, 3) := dk_132 3 1 (dk_at dksX2_followers_1 12 rfl rfl)
theorem dX2_followers_38 : decode cX2_followers 38 = .ok (.goto (-34), 3) := dk_167 255 222 (dk_at dksX2_followers_1 15 rfl rfl)
theorem dX2_followers_41 : decode cX2_followers 41 = .ok (.iload_n 2, 1) := dk_28 (dk_at dksX2_followers_1 18 rfl rfl)
theorem dX2_followers_42 : decode cX2_followers 42 = .ok (.ireturn, 1) := dk_172 (dk_at dksX2_followers_1 19 rfl rfl)
abbrev cX2_be : ByteArray := prog_9_method_2_code
def yX2_be : MethodName := ⟨RX2, "be", "(LBehindAnotherHearse$Street;)V"⟩
def dkwX2_be_4 : List UInt8 := [180, 0, 31, 3, 184, 0, 50, 42, 180, 0, 34, 3, 184, 0, 50, 177]
abbrev dktX2_be_4 : List UInt8 := dkwX2_be_4 ++ []
def dkwX2_be_3 : List UInt8 := [16, 8, 184, 0, 37, 42, 43, 180, 0, 43, 181, 0, 43, 42, 43, 180, 0, 47, 181, 0, 47, 42]
abbrev dktX2_be_3 : List UInt8 := dkwX2_be_3 ++ dktX2_be_4
def dkwX2_be_2 : List UInt8 := [180, 0, 25, 3, 42, 180, 0, 25, 3, 16, 8, 184, 0, 37, 43, 180, 0, 28, 3, 42, 180, 0, 28, 3]
abbrev dktX2_be_2 : List UInt8 := dkwX2_be_2 ++ dktX2_be_3
def dkwX2_be_1 : List UInt8 := [3, 16, 6, 184, 0, 37, 43, 180, 0, 22, 3, 42, 180, 0, 22, 3, 16, 8, 184, 0, 37, 43]
abbrev dktX2_be_1 : List UInt8 := dkwX2_be_1 ++ dktX2_be_2
def dkwX2_be_0 : List UInt8 := [43, 180, 0, 15, 3, 42, 180, 0, 15, 3, 16, 6, 184, 0, 37, 43, 180, 0, 19, 3, 42, 180, 0, 19]
abbrev dktX2_be_0 : List UInt8 := dkwX2_be_0 ++ dktX2_be_1
theorem dksX2_be_0 : cX2_be.data.toList.drop 0 = dktX2_be_0 := by decide +kernel
theorem dksX2_be_1 : cX2_be.data.toList.drop 24 = dktX2_be_1 := dk_seg dksX2_be_0 24 rfl rfl
theorem dksX2_be_2 : cX2_be.data.toList.drop 46 = dktX2_be_2 := dk_seg dksX2_be_1 22 rfl rfl
theorem dksX2_be_3 : cX2_be.data.toList.drop 70 = dktX2_be_3 := dk_seg dksX2_be_2 24 rfl rfl
theorem dksX2_be_4 : cX2_be.data.toList.drop 92 = dktX2_be_4 := dk_seg dksX2_be_3 22 rfl rfl
theorem dX2_be_0 : decode cX2_be 0 = .ok (.aload_n 1, 1) := dk_43 (dk_at dksX2_be_0 0 rfl rfl)
theorem dX2_be_1 : decode cX2_be 1 = .ok (.getfield 15, 3) := dk_180 0 15 (dk_at dksX2_be_0 1 rfl rfl)
theorem dX2_be_4 : decode cX2_be 4 = .ok (.iconst 0, 1) := dk_3 (dk_at dksX2_be_0 4 rfl rfl)
theorem dX2_be_5 : decode cX2_be 5 = .ok (.aload_n 0, 1) := dk_42 (dk_at dksX2_be_0 5 rfl rfl)
theorem dX2_be_6 : decode cX2_be 6 = .ok (.getfield 15, 3) := dk_180 0 15 (dk_at dksX2_be_0 6 rfl rfl)
theorem dX2_be_9 : decode cX2_be 9 = .ok (.iconst 0, 1) := dk_3 (dk_at dksX2_be_0 9 rfl rfl)
theorem dX2_be_10 : decode cX2_be 10 = .ok (.bipush 6, 2) := dk_16 6 (dk_at dksX2_be_0 10 rfl rfl)
theorem dX2_be_12 : decode cX2_be 12 = .ok (.invokestatic 37, 3) := dk_184 0 37 (dk_at dksX2_be_0 12 rfl rfl)
theorem dX2_be_15 : decode cX2_be 15 = .ok (.aload_n 1, 1) := dk_43 (dk_at dksX2_be_0 15 rfl rfl)
theorem dX2_be_16 : decode cX2_be 16 = .ok (.getfield 19, 3) := dk_180 0 19 (dk_at dksX2_be_0 16 rfl rfl)
theorem dX2_be_19 : decode cX2_be 19 = .ok (.iconst 0, 1) := dk_3 (dk_at dksX2_be_0 19 rfl rfl)
theorem dX2_be_20 : decode cX2_be 20 = .ok (.aload_n 0, 1) := dk_42 (dk_at dksX2_be_0 20 rfl rfl)
theorem dX2_be_21 : decode cX2_be 21 = .ok (.getfield 19, 3) := dk_180 0 19 (dk_at dksX2_be_0 21 rfl rfl)
theorem dX2_be_24 : decode cX2_be 24 = .ok (.iconst 0, 1) := dk_3 (dk_at dksX2_be_1 0 rfl rfl)
theorem dX2_be_25 : decode cX2_be 25 = .ok (.bipush 6, 2) := dk_16 6 (dk_at dksX2_be_1 1 rfl rfl)
theorem dX2_be_27 : decode cX2_be 27 = .ok (.invokestatic 37, 3) := dk_184 0 37 (dk_at dksX2_be_1 3 rfl rfl)
theorem dX2_be_30 : decode cX2_be 30 = .ok (.aload_n 1, 1) := dk_43 (dk_at dksX2_be_1 6 rfl rfl)
theorem dX2_be_31 : decode cX2_be 31 = .ok (.getfield 22, 3) := dk_180 0 22 (dk_at dksX2_be_1 7 rfl rfl)
theorem dX2_be_34 : decode cX2_be 34 = .ok (.iconst 0, 1) := dk_3 (dk_at dksX2_be_1 10 rfl rfl)
theorem dX2_be_35 : decode cX2_be 35 = .ok (.aload_n 0, 1) := dk_42 (dk_at dksX2_be_1 11 rfl rfl)
theorem dX2_be_36 : decode cX2_be 36 = .ok (.getfield 22, 3) := dk_180 0 22 (dk_at dksX2_be_1 12 rfl rfl)
theorem dX2_be_39 : decode cX2_be 39 = .ok (.iconst 0, 1) := dk_3 (dk_at dksX2_be_1 15 rfl rfl)
theorem dX2_be_40 : decode cX2_be 40 = .ok (.bipush 8, 2) := dk_16 8 (dk_at dksX2_be_1 16 rfl rfl)
theorem dX2_be_42 : decode cX2_be 42 = .ok (.invokestatic 37, 3) := dk_184 0 37 (dk_at dksX2_be_1 18 rfl rfl)
theorem dX2_be_45 : decode cX2_be 45 = .ok (.aload_n 1, 1) := dk_43 (dk_at dksX2_be_1 21 rfl rfl)
theorem dX2_be_46 : decode cX2_be 46 = .ok (.getfield 25, 3) := dk_180 0 25 (dk_at dksX2_be_2 0 rfl rfl)
theorem dX2_be_49 : decode cX2_be 49 = .ok (.iconst 0, 1) := dk_3 (dk_at dksX2_be_2 3 rfl rfl)
theorem dX2_be_50 : decode cX2_be 50 = .ok (.aload_n 0, 1) := dk_42 (dk_at dksX2_be_2 4 rfl rfl)
theorem dX2_be_51 : decode cX2_be 51 = .ok (.getfield 25, 3) := dk_180 0 25 (dk_at dksX2_be_2 5 rfl rfl)
theorem dX2_be_54 : decode cX2_be 54 = .ok (.iconst 0, 1) := dk_3 (dk_at dksX2_be_2 8 rfl rfl)
theorem dX2_be_55 : decode cX2_be 55 = .ok (.bipush 8, 2) := dk_16 8 (dk_at dksX2_be_2 9 rfl rfl)
theorem dX2_be_57 : decode cX2_be 57 = .ok (.invokestatic 37, 3) := dk_184 0 37 (dk_at dksX2_be_2 11 rfl rfl)
theorem dX2_be_60 : decode cX2_be 60 = .ok (.aload_n 1, 1) := dk_43 (dk_at dksX2_be_2 14 rfl rfl)
theorem dX2_be_61 : decode cX2_be 61 = .ok (.getfield 28, 3) := dk_180 0 28 (dk_at dksX2_be_2 15 rfl rfl)
theorem dX2_be_64 : decode cX2_be 64 = .ok (.iconst 0, 1) := dk_3 (dk_at dksX2_be_2 18 rfl rfl)
theorem dX2_be_65 : decode cX2_be 65 = .ok (.aload_n 0, 1) := dk_42 (dk_at dksX2_be_2 19 rfl rfl)
theorem dX2_be_66 : decode cX2_be 66 = .ok (.getfield 28, 3) := dk_180 0 28 (dk_at dksX2_be_2 20 rfl rfl)
theorem dX2_be_69 : decode cX2_be 69 = .ok (.iconst 0, 1) := dk_3 (dk_at dksX2_be_2 23 rfl rfl)
theorem dX2_be_70 : decode cX2_be 70 = .ok (.bipush 8, 2) := dk_16 8 (dk_at dksX2_be_3 0 rfl rfl)
theorem dX2_be_72 : decode cX2_be 72 = .ok (.invokestatic 37, 3) := dk_184 0 37 (dk_at dksX2_be_3 2 rfl rfl)
theorem dX2_be_75 : decode cX2_be 75 = .ok (.aload_n 0, 1) := dk_42 (dk_at dksX2_be_3 5 rfl rfl)
theorem dX2_be_76 : decode cX2_be 76 = .ok (.aload_n 1, 1) := dk_43 (dk_at dksX2_be_3 6 rfl rfl)
theorem dX2_be_77 : decode cX2_be 77 = .ok (.getfield 43, 3) := dk_180 0 43 (dk_at dksX2_be_3 7 rfl rfl)
theorem dX2_be_80 : decode cX2_be 80 = .ok (.putfield 43, 3) := dk_181 0 43 (dk_at dksX2_be_3 10 rfl rfl)
theorem dX2_be_83 : decode cX2_be 83 = .ok (.aload_n 0, 1) := dk_42 (dk_at dksX2_be_3 13 rfl rfl)
theorem dX2_be_84 : decode cX2_be 84 = .ok (.aload_n 1, 1) := dk_43 (dk_at dksX2_be_3 14 rfl rfl)
theorem dX2_be_85 : decode cX2_be 85 = .ok (.getfield 47, 3) := dk_180 0 47 (dk_at dksX2_be_3 15 rfl rfl)
theorem dX2_be_88 : decode cX2_be 88 = .ok (.putfield 47, 3) := dk_181 0 47 (dk_at dksX2_be_3 18 rfl rfl)
theorem dX2_be_91 : decode cX2_be 91 = .ok (.aload_n 0, 1) := dk_42 (dk_at dksX2_be_3 21 rfl rfl)
theorem dX2_be_92 : decode cX2_be 92 = .ok (.getfield 31, 3) := dk_180 0 31 (dk_at dksX2_be_4 0 rfl rfl)
theorem dX2_be_95 : decode cX2_be 95 = .ok (.iconst 0, 1) := dk_3 (dk_at dksX2_be_4 3 rfl rfl)
theorem dX2_be_96 : decode cX2_be 96 = .ok (.invokestatic 50, 3) := dk_184 0 50 (dk_at dksX2_be_4 4 rfl rfl)
theorem dX2_be_99 : decode cX2_be 99 = .ok (.aload_n 0, 1) := dk_42 (dk_at dksX2_be_4 7 rfl rfl)
theorem dX2_be_100 : decode cX2_be 100 = .ok (.getfield 34, 3) := dk_180 0 34 (dk_at dksX2_be_4 8 rfl rfl)
theorem dX2_be_103 : decode cX2_be 103 = .ok (.iconst 0, 1) := dk_3 (dk_at dksX2_be_4 11 rfl rfl)
theorem dX2_be_104 : decode cX2_be 104 = .ok (.invokestatic 50, 3) := dk_184 0 50 (dk_at dksX2_be_4 12 rfl rfl)
theorem dX2_be_107 : decode cX2_be 107 = .ok (.return_, 1) := dk_177 (dk_at dksX2_be_4 15 rfl rfl)
abbrev cX2_go : ByteArray := prog_9_method_18_code
def yX2_go : MethodName := ⟨RX2, "go", "(I)V"⟩
def dkwX2_go_0 : List UInt8 := [3, 61, 28, 27, 162, 0, 13, 42, 182, 0, 132, 132, 2, 1, 167, 255, 244, 177]
abbrev dktX2_go_0 : List UInt8 := dkwX2_go_0 ++ []
theorem dksX2_go_0 : cX2_go.data.toList.drop 0 = dktX2_go_0 := by decide +kernel
theorem dX2_go_0 : decode cX2_go 0 = .ok (.iconst 0, 1) := dk_3 (dk_at dksX2_go_0 0 rfl rfl)
theorem dX2_go_1 : decode cX2_go 1 = .ok (.istore_n 2, 1) := dk_61 (dk_at dksX2_go_0 1 rfl rfl)
theorem dX2_go_2 : decode cX2_go 2 = .ok (.iload_n 2, 1) := dk_28 (dk_at dksX2_go_0 2 rfl rfl)
theorem dX2_go_3 : decode cX2_go 3 = .ok (.iload_n 1, 1) := dk_27 (dk_at dksX2_go_0 3 rfl rfl)
theorem dX2_go_4 : decode cX2_go 4 = .ok (.if_icmp .ge 13, 3) := dk_162 0 13 (dk_at dksX2_go_0 4 rfl rfl)
theorem dX2_go_7 : decode cX2_go 7 = .ok (.aload_n 0, 1) := dk_42 (dk_at dksX2_go_0 7 rfl rfl)
theorem dX2_go_8 : decode cX2_go 8 = .ok (.invokevirtual 132, 3) := dk_182 0 132 (dk_at dksX2_go_0 8 rfl rfl)
theorem dX2_go_11 : decode cX2_go 11 = .ok (.iinc 2 1, 3) := dk_132 2 1 (dk_at dksX2_go_0 11 rfl rfl)
theorem dX2_go_14 : decode cX2_go 14 = .ok (.goto (-12), 3) := dk_167 255 244 (dk_at dksX2_go_0 14 rfl rfl)
theorem dX2_go_17 : decode cX2_go 17 = .ok (.return_, 1) := dk_177 (dk_at dksX2_go_0 17 rfl rfl)
abbrev cX2_go_2 : ByteArray := prog_9_method_17_code
def yX2_go_2 : MethodName := ⟨RX2, "go", "()V"⟩
def dkwX2_go_2_3 : List UInt8 := [42, 89, 180, 0, 43, 4, 96, 181, 0, 43, 177]
abbrev dktX2_go_2_3 : List UInt8 := dkwX2_go_2_3 ++ []
def dkwX2_go_2_2 : List UInt8 := [162, 0, 24, 42, 180, 0, 28, 28, 46, 2, 160, 0, 8, 42, 28, 182, 0, 129, 132, 2, 1, 167, 255, 227]
abbrev dktX2_go_2_2 : List UInt8 := dkwX2_go_2_2 ++ dktX2_go_2_3
def dkwX2_go_2_1 : List UInt8 := [180, 0, 118, 28, 46, 182, 0, 125, 132, 2, 1, 167, 255, 235, 3, 61, 28, 42, 180, 0, 3, 180, 0, 66]
abbrev dktX2_go_2_1 : List UInt8 := dkwX2_go_2_1 ++ dktX2_go_2_2
def dkwX2_go_2_0 : List UInt8 := [42, 42, 180, 0, 3, 180, 0, 118, 182, 0, 121, 60, 3, 61, 28, 27, 162, 0, 22, 42, 42, 180, 0, 3]
abbrev dktX2_go_2_0 : List UInt8 := dkwX2_go_2_0 ++ dktX2_go_2_1
theorem dksX2_go_2_0 : cX2_go_2.data.toList.drop 0 = dktX2_go_2_0 := by decide +kernel
theorem dksX2_go_2_1 : cX2_go_2.data.toList.drop 24 = dktX2_go_2_1 := dk_seg dksX2_go_2_0 24 rfl rfl
theorem dksX2_go_2_2 : cX2_go_2.data.toList.drop 48 = dktX2_go_2_2 := dk_seg dksX2_go_2_1 24 rfl rfl
theorem dksX2_go_2_3 : cX2_go_2.data.toList.drop 72 = dktX2_go_2_3 := dk_seg dksX2_go_2_2 24 rfl rfl
theorem dX2_go_2_0 : decode cX2_go_2 0 = .ok (.aload_n 0, 1) := dk_42 (dk_at dksX2_go_2_0 0 rfl rfl)
theorem dX2_go_2_1 : decode cX2_go_2 1 = .ok (.aload_n 0, 1) := dk_42 (dk_at dksX2_go_2_0 1 rfl rfl)
theorem dX2_go_2_2 : decode cX2_go_2 2 = .ok (.getfield 3, 3) := dk_180 0 3 (dk_at dksX2_go_2_0 2 rfl rfl)
theorem dX2_go_2_5 : decode cX2_go_2 5 = .ok (.getfield 118, 3) := dk_180 0 118 (dk_at dksX2_go_2_0 5 rfl rfl)
theorem dX2_go_2_8 : decode cX2_go_2 8 = .ok (.invokevirtual 121, 3) := dk_182 0 121 (dk_at dksX2_go_2_0 8 rfl rfl)
theorem dX2_go_2_11 : decode cX2_go_2 11 = .ok (.istore_n 1, 1) := dk_60 (dk_at dksX2_go_2_0 11 rfl rfl)
theorem dX2_go_2_12 : decode cX2_go_2 12 = .ok (.iconst 0, 1) := dk_3 (dk_at dksX2_go_2_0 12 rfl rfl)
theorem dX2_go_2_13 : decode cX2_go_2 13 = .ok (.istore_n 2, 1) := dk_61 (dk_at dksX2_go_2_0 13 rfl rfl)
theorem dX2_go_2_14 : decode cX2_go_2 14 = .ok (.iload_n 2, 1) := dk_28 (dk_at dksX2_go_2_0 14 rfl rfl)
theorem dX2_go_2_15 : decode cX2_go_2 15 = .ok (.iload_n 1, 1) := dk_27 (dk_at dksX2_go_2_0 15 rfl rfl)
theorem dX2_go_2_16 : decode cX2_go_2 16 = .ok (.if_icmp .ge 22, 3) := dk_162 0 22 (dk_at dksX2_go_2_0 16 rfl rfl)
theorem dX2_go_2_19 : decode cX2_go_2 19 = .ok (.aload_n 0, 1) := dk_42 (dk_at dksX2_go_2_0 19 rfl rfl)
theorem dX2_go_2_20 : decode cX2_go_2 20 = .ok (.aload_n 0, 1) := dk_42 (dk_at dksX2_go_2_0 20 rfl rfl)
theorem dX2_go_2_21 : decode cX2_go_2 21 = .ok (.getfield 3, 3) := dk_180 0 3 (dk_at dksX2_go_2_0 21 rfl rfl)
theorem dX2_go_2_24 : decode cX2_go_2 24 = .ok (.getfield 118, 3) := dk_180 0 118 (dk_at dksX2_go_2_1 0 rfl rfl)
theorem dX2_go_2_27 : decode cX2_go_2 27 = .ok (.iload_n 2, 1) := dk_28 (dk_at dksX2_go_2_1 3 rfl rfl)
theorem dX2_go_2_28 : decode cX2_go_2 28 = .ok (.iaload, 1) := dk_46 (dk_at dksX2_go_2_1 4 rfl rfl)
theorem dX2_go_2_29 : decode cX2_go_2 29 = .ok (.invokevirtual 125, 3) := dk_182 0 125 (dk_at dksX2_go_2_1 5 rfl rfl)
theorem dX2_go_2_32 : decode cX2_go_2 32 = .ok (.iinc 2 1, 3) := dk_132 2 1 (dk_at dksX2_go_2_1 8 rfl rfl)
theorem dX2_go_2_35 : decode cX2_go_2 35 = .ok (.goto (-21), 3) := dk_167 255 235 (dk_at dksX2_go_2_1 11 rfl rfl)
theorem dX2_go_2_38 : decode cX2_go_2 38 = .ok (.iconst 0, 1) := dk_3 (dk_at dksX2_go_2_1 14 rfl rfl)
theorem dX2_go_2_39 : decode cX2_go_2 39 = .ok (.istore_n 2, 1) := dk_61 (dk_at dksX2_go_2_1 15 rfl rfl)
theorem dX2_go_2_40 : decode cX2_go_2 40 = .ok (.iload_n 2, 1) := dk_28 (dk_at dksX2_go_2_1 16 rfl rfl)
theorem dX2_go_2_41 : decode cX2_go_2 41 = .ok (.aload_n 0, 1) := dk_42 (dk_at dksX2_go_2_1 17 rfl rfl)
theorem dX2_go_2_42 : decode cX2_go_2 42 = .ok (.getfield 3, 3) := dk_180 0 3 (dk_at dksX2_go_2_1 18 rfl rfl)
theorem dX2_go_2_45 : decode cX2_go_2 45 = .ok (.getfield 66, 3) := dk_180 0 66 (dk_at dksX2_go_2_1 21 rfl rfl)
theorem dX2_go_2_48 : decode cX2_go_2 48 = .ok (.if_icmp .ge 24, 3) := dk_162 0 24 (dk_at dksX2_go_2_2 0 rfl rfl)
theorem dX2_go_2_51 : decode cX2_go_2 51 = .ok (.aload_n 0, 1) := dk_42 (dk_at dksX2_go_2_2 3 rfl rfl)
theorem dX2_go_2_52 : decode cX2_go_2 52 = .ok (.getfield 28, 3) := dk_180 0 28 (dk_at dksX2_go_2_2 4 rfl rfl)
theorem dX2_go_2_55 : decode cX2_go_2 55 = .ok (.iload_n 2, 1) := dk_28 (dk_at dksX2_go_2_2 7 rfl rfl)
theorem dX2_go_2_56 : decode cX2_go_2 56 = .ok (.iaload, 1) := dk_46 (dk_at dksX2_go_2_2 8 rfl rfl)
theorem dX2_go_2_57 : decode cX2_go_2 57 = .ok (.iconst (-1), 1) := dk_2 (dk_at dksX2_go_2_2 9 rfl rfl)
theorem dX2_go_2_58 : decode cX2_go_2 58 = .ok (.if_icmp .ne 8, 3) := dk_160 0 8 (dk_at dksX2_go_2_2 10 rfl rfl)
theorem dX2_go_2_61 : decode cX2_go_2 61 = .ok (.aload_n 0, 1) := dk_42 (dk_at dksX2_go_2_2 13 rfl rfl)
theorem dX2_go_2_62 : decode cX2_go_2 62 = .ok (.iload_n 2, 1) := dk_28 (dk_at dksX2_go_2_2 14 rfl rfl)
theorem dX2_go_2_63 : decode cX2_go_2 63 = .ok (.invokevirtual 129, 3) := dk_182 0 129 (dk_at dksX2_go_2_2 15 rfl rfl)
theorem dX2_go_2_66 : decode cX2_go_2 66 = .ok (.iinc 2 1, 3) := dk_132 2 1 (dk_at dksX2_go_2_2 18 rfl rfl)
theorem dX2_go_2_69 : decode cX2_go_2 69 = .ok (.goto (-29), 3) := dk_167 255 227 (dk_at dksX2_go_2_2 21 rfl rfl)
theorem dX2_go_2_72 : decode cX2_go_2 72 = .ok (.aload_n 0, 1) := dk_42 (dk_at dksX2_go_2_3 0 rfl rfl)
theorem dX2_go_2_73 : decode cX2_go_2 73 = .ok (.dup, 1) := dk_89 (dk_at dksX2_go_2_3 1 rfl rfl)
theorem dX2_go_2_74 : decode cX2_go_2 74 = .ok (.getfield 43, 3) := dk_180 0 43 (dk_at dksX2_go_2_3 2 rfl rfl)
theorem dX2_go_2_77 : decode cX2_go_2 77 = .ok (.iconst 1, 1) := dk_4 (dk_at dksX2_go_2_3 5 rfl rfl)
theorem dX2_go_2_78 : decode cX2_go_2 78 = .ok (.iadd, 1) := dk_96 (dk_at dksX2_go_2_3 6 rfl rfl)
theorem dX2_go_2_79 : decode cX2_go_2 79 = .ok (.putfield 43, 3) := dk_181 0 43 (dk_at dksX2_go_2_3 7 rfl rfl)
theorem dX2_go_2_82 : decode cX2_go_2 82 = .ok (.return_, 1) := dk_177 (dk_at dksX2_go_2_3 10 rfl rfl)
abbrev cX2_layLine : ByteArray := prog_9_method_5_code
def yX2_layLine : MethodName := ⟨RX2, "layLine", "([I)I"⟩
def dkwX2_layLine_2 : List UInt8 := [172]
abbrev dktX2_layLine_2 : List UInt8 := dkwX2_layLine_2 ++ []
def dkwX2_layLine_1 : List UInt8 := [21, 4, 2, 160, 0, 6, 167, 0, 11, 43, 28, 21, 4, 79, 132, 2, 1, 132, 3, 255, 167, 255, 225, 28]
abbrev dktX2_layLine_1 : List UInt8 := dkwX2_layLine_1 ++ dktX2_layLine_2
def dkwX2_layLine_0 : List UInt8 := [3, 61, 42, 180, 0, 3, 180, 0, 59, 4, 100, 62, 29, 155, 0, 33, 42, 29, 182, 0, 62, 54, 4]
abbrev dktX2_layLine_0 : List UInt8 := dkwX2_layLine_0 ++ dktX2_layLine_1
theorem dksX2_layLine_0 : cX2_layLine.data.toList.drop 0 = dktX2_layLine_0 := by decide +kernel
theorem dksX2_layLine_1 : cX2_layLine.data.toList.drop 23 = dktX2_layLine_1 := dk_seg dksX2_layLine_0 23 rfl rfl
theorem dksX2_layLine_2 : cX2_layLine.data.toList.drop 47 = dktX2_layLine_2 := dk_seg dksX2_layLine_1 24 rfl rfl
theorem dX2_layLine_0 : decode cX2_layLine 0 = .ok (.iconst 0, 1) := dk_3 (dk_at dksX2_layLine_0 0 rfl rfl)
theorem dX2_layLine_1 : decode cX2_layLine 1 = .ok (.istore_n 2, 1) := dk_61 (dk_at dksX2_layLine_0 1 rfl rfl)
theorem dX2_layLine_2 : decode cX2_layLine 2 = .ok (.aload_n 0, 1) := dk_42 (dk_at dksX2_layLine_0 2 rfl rfl)
theorem dX2_layLine_3 : decode cX2_layLine 3 = .ok (.getfield 3, 3) := dk_180 0 3 (dk_at dksX2_layLine_0 3 rfl rfl)
theorem dX2_layLine_6 : decode cX2_layLine 6 = .ok (.getfield 59, 3) := dk_180 0 59 (dk_at dksX2_layLine_0 6 rfl rfl)
theorem dX2_layLine_9 : decode cX2_layLine 9 = .ok (.iconst 1, 1) := dk_4 (dk_at dksX2_layLine_0 9 rfl rfl)
theorem dX2_layLine_10 : decode cX2_layLine 10 = .ok (.isub, 1) := dk_100 (dk_at dksX2_layLine_0 10 rfl rfl)
theorem dX2_layLine_11 : decode cX2_layLine 11 = .ok (.istore_n 3, 1) := dk_62 (dk_at dksX2_layLine_0 11 rfl rfl)
theorem dX2_layLine_12 : decode cX2_layLine 12 = .ok (.iload_n 3, 1) := dk_29 (dk_at dksX2_layLine_0 12 rfl rfl)
theorem dX2_layLine_13 : decode cX2_layLine 13 = .ok (.ifCond .lt 33, 3) := dk_155 0 33 (dk_at dksX2_layLine_0 13 rfl rfl)
theorem dX2_layLine_16 : decode cX2_layLine 16 = .ok (.aload_n 0, 1) := dk_42 (dk_at dksX2_layLine_0 16 rfl rfl)
theorem dX2_layLine_17 : decode cX2_layLine 17 = .ok (.iload_n 3, 1) := dk_29 (dk_at dksX2_layLine_0 17 rfl rfl)
theorem dX2_layLine_18 : decode cX2_layLine 18 = .ok (.invokevirtual 62, 3) := dk_182 0 62 (dk_at dksX2_layLine_0 18 rfl rfl)
theorem dX2_layLine_21 : decode cX2_layLine 21 = .ok (.istore 4, 2) := dk_54 4 (dk_at dksX2_layLine_0 21 rfl rfl)
theorem dX2_layLine_23 : decode cX2_layLine 23 = .ok (.iload 4, 2) := dk_21 4 (dk_at dksX2_layLine_1 0 rfl rfl)
theorem dX2_layLine_25 : decode cX2_layLine 25 = .ok (.iconst (-1), 1) := dk_2 (dk_at dksX2_layLine_1 2 rfl rfl)
theorem dX2_layLine_26 : decode cX2_layLine 26 = .ok (.if_icmp .ne 6, 3) := dk_160 0 6 (dk_at dksX2_layLine_1 3 rfl rfl)
theorem dX2_layLine_29 : decode cX2_layLine 29 = .ok (.goto 11, 3) := dk_167 0 11 (dk_at dksX2_layLine_1 6 rfl rfl)
theorem dX2_layLine_32 : decode cX2_layLine 32 = .ok (.aload_n 1, 1) := dk_43 (dk_at dksX2_layLine_1 9 rfl rfl)
theorem dX2_layLine_33 : decode cX2_layLine 33 = .ok (.iload_n 2, 1) := dk_28 (dk_at dksX2_layLine_1 10 rfl rfl)
theorem dX2_layLine_34 : decode cX2_layLine 34 = .ok (.iload 4, 2) := dk_21 4 (dk_at dksX2_layLine_1 11 rfl rfl)
theorem dX2_layLine_36 : decode cX2_layLine 36 = .ok (.iastore, 1) := dk_79 (dk_at dksX2_layLine_1 13 rfl rfl)
theorem dX2_layLine_37 : decode cX2_layLine 37 = .ok (.iinc 2 1, 3) := dk_132 2 1 (dk_at dksX2_layLine_1 14 rfl rfl)
theorem dX2_layLine_40 : decode cX2_layLine 40 = .ok (.iinc 3 (-1), 3) := dk_132 3 255 (dk_at dksX2_layLine_1 17 rfl rfl)
theorem dX2_layLine_43 : decode cX2_layLine 43 = .ok (.goto (-31), 3) := dk_167 255 225 (dk_at dksX2_layLine_1 20 rfl rfl)
theorem dX2_layLine_46 : decode cX2_layLine 46 = .ok (.iload_n 2, 1) := dk_28 (dk_at dksX2_layLine_1 23 rfl rfl)
theorem dX2_layLine_47 : decode cX2_layLine 47 = .ok (.ireturn, 1) := dk_172 (dk_at dksX2_layLine_2 0 rfl rfl)
abbrev cX2_goHearse : ByteArray := prog_9_method_13_code
def yX2_goHearse : MethodName := ⟨RX2, "goHearse", "(I)V"⟩
def dkwX2_goHearse_4 : List UInt8 := [4, 96, 181, 0, 47, 42, 180, 0, 19, 27, 42, 180, 0, 47, 79, 177]
abbrev dktX2_goHearse_4 : List UInt8 := dkwX2_goHearse_4 ++ []
def dkwX2_goHearse_3 : List UInt8 := [180, 0, 3, 180, 0, 59, 4, 100, 162, 0, 4, 177, 42, 180, 0, 15, 27, 2, 79, 42, 89, 180, 0, 47]
abbrev dktX2_goHearse_3 : List UInt8 := dkwX2_goHearse_3 ++ dktX2_goHearse_4
def dkwX2_goHearse_2 : List UInt8 := [29, 28, 160, 0, 13, 42, 180, 0, 34, 28, 92, 46, 4, 96, 79, 42, 180, 0, 15, 27, 29, 79, 29, 42]
abbrev dktX2_goHearse_2 : List UInt8 := dkwX2_goHearse_2 ++ dktX2_goHearse_3
def dkwX2_goHearse_1 : List UInt8 := [184, 0, 85, 62, 29, 28, 164, 0, 18, 42, 28, 29, 182, 0, 101, 154, 0, 9, 132, 3, 255, 167, 255, 239]
abbrev dktX2_goHearse_1 : List UInt8 := dkwX2_goHearse_1 ++ dktX2_goHearse_2
def dkwX2_goHearse_0 : List UInt8 := [42, 180, 0, 15, 27, 46, 61, 42, 180, 0, 3, 180, 0, 59, 4, 100, 28, 42, 27, 182, 0, 98, 96]
abbrev dktX2_goHearse_0 : List UInt8 := dkwX2_goHearse_0 ++ dktX2_goHearse_1
theorem dksX2_goHearse_0 : cX2_goHearse.data.toList.drop 0 = dktX2_goHearse_0 := by decide +kernel
theorem dksX2_goHearse_1 : cX2_goHearse.data.toList.drop 23 = dktX2_goHearse_1 := dk_seg dksX2_goHearse_0 23 rfl rfl
theorem dksX2_goHearse_2 : cX2_goHearse.data.toList.drop 47 = dktX2_goHearse_2 := dk_seg dksX2_goHearse_1 24 rfl rfl
theorem dksX2_goHearse_3 : cX2_goHearse.data.toList.drop 71 = dktX2_goHearse_3 := dk_seg dksX2_goHearse_2 24 rfl rfl
theorem dksX2_goHearse_4 : cX2_goHearse.data.toList.drop 95 = dktX2_goHearse_4 := dk_seg dksX2_goHearse_3 24 rfl rfl
theorem dX2_goHearse_0 : decode cX2_goHearse 0 = .ok (.aload_n 0, 1) := dk_42 (dk_at dksX2_goHearse_0 0 rfl rfl)
theorem dX2_goHearse_1 : decode cX2_goHearse 1 = .ok (.getfield 15, 3) := dk_180 0 15 (dk_at dksX2_goHearse_0 1 rfl rfl)
theorem dX2_goHearse_4 : decode cX2_goHearse 4 = .ok (.iload_n 1, 1) := dk_27 (dk_at dksX2_goHearse_0 4 rfl rfl)
theorem dX2_goHearse_5 : decode cX2_goHearse 5 = .ok (.iaload, 1) := dk_46 (dk_at dksX2_goHearse_0 5 rfl rfl)
theorem dX2_goHearse_6 : decode cX2_goHearse 6 = .ok (.istore_n 2, 1) := dk_61 (dk_at dksX2_goHearse_0 6 rfl rfl)
theorem dX2_goHearse_7 : decode cX2_goHearse 7 = .ok (.aload_n 0, 1) := dk_42 (dk_at dksX2_goHearse_0 7 rfl rfl)
theorem dX2_goHearse_8 : decode cX2_goHearse 8 = .ok (.getfield 3, 3) := dk_180 0 3 (dk_at dksX2_goHearse_0 8 rfl rfl)
theorem dX2_goHearse_11 : decode cX2_goHearse 11 = .ok (.getfield 59, 3) := dk_180 0 59 (dk_at dksX2_goHearse_0 11 rfl rfl)
theorem dX2_goHearse_14 : decode cX2_goHearse 14 = .ok (.iconst 1, 1) := dk_4 (dk_at dksX2_goHearse_0 14 rfl rfl)
theorem dX2_goHearse_15 : decode cX2_goHearse 15 = .ok (.isub, 1) := dk_100 (dk_at dksX2_goHearse_0 15 rfl rfl)
theorem dX2_goHearse_16 : decode cX2_goHearse 16 = .ok (.iload_n 2, 1) := dk_28 (dk_at dksX2_goHearse_0 16 rfl rfl)
theorem dX2_goHearse_17 : decode cX2_goHearse 17 = .ok (.aload_n 0, 1) := dk_42 (dk_at dksX2_goHearse_0 17 rfl rfl)
theorem dX2_goHearse_18 : decode cX2_goHearse 18 = .ok (.iload_n 1, 1) := dk_27 (dk_at dksX2_goHearse_0 18 rfl rfl)
theorem dX2_goHearse_19 : decode cX2_goHearse 19 = .ok (.invokevirtual 98, 3) := dk_182 0 98 (dk_at dksX2_goHearse_0 19 rfl rfl)
theorem dX2_goHearse_22 : decode cX2_goHearse 22 = .ok (.iadd, 1) := dk_96 (dk_at dksX2_goHearse_0 22 rfl rfl)
theorem dX2_goHearse_23 : decode cX2_goHearse 23 = .ok (.invokestatic 85, 3) := dk_184 0 85 (dk_at dksX2_goHearse_1 0 rfl rfl)
theorem dX2_goHearse_26 : decode cX2_goHearse 26 = .ok (.istore_n 3, 1) := dk_62 (dk_at dksX2_goHearse_1 3 rfl rfl)
theorem dX2_goHearse_27 : decode cX2_goHearse 27 = .ok (.iload_n 3, 1) := dk_29 (dk_at dksX2_goHearse_1 4 rfl rfl)
theorem dX2_goHearse_28 : decode cX2_goHearse 28 = .ok (.iload_n 2, 1) := dk_28 (dk_at dksX2_goHearse_1 5 rfl rfl)
theorem dX2_goHearse_29 : decode cX2_goHearse 29 = .ok (.if_icmp .le 18, 3) := dk_164 0 18 (dk_at dksX2_goHearse_1 6 rfl rfl)
theorem dX2_goHearse_32 : decode cX2_goHearse 32 = .ok (.aload_n 0, 1) := dk_42 (dk_at dksX2_goHearse_1 9 rfl rfl)
theorem dX2_goHearse_33 : decode cX2_goHearse 33 = .ok (.iload_n 2, 1) := dk_28 (dk_at dksX2_goHearse_1 10 rfl rfl)
theorem dX2_goHearse_34 : decode cX2_goHearse 34 = .ok (.iload_n 3, 1) := dk_29 (dk_at dksX2_goHearse_1 11 rfl rfl)
theorem dX2_goHearse_35 : decode cX2_goHearse 35 = .ok (.invokevirtual 101, 3) := dk_182 0 101 (dk_at dksX2_goHearse_1 12 rfl rfl)
theorem dX2_goHearse_38 : decode cX2_goHearse 38 = .ok (.ifCond .ne 9, 3) := dk_154 0 9 (dk_at dksX2_goHearse_1 15 rfl rfl)
theorem dX2_goHearse_41 : decode cX2_goHearse 41 = .ok (.iinc 3 (-1), 3) := dk_132 3 255 (dk_at dksX2_goHearse_1 18 rfl rfl)
theorem dX2_goHearse_44 : decode cX2_goHearse 44 = .ok (.goto (-17), 3) := dk_167 255 239 (dk_at dksX2_goHearse_1 21 rfl rfl)
theorem dX2_goHearse_47 : decode cX2_goHearse 47 = .ok (.iload_n 3, 1) := dk_29 (dk_at dksX2_goHearse_2 0 rfl rfl)
theorem dX2_goHearse_48 : decode cX2_goHearse 48 = .ok (.iload_n 2, 1) := dk_28 (dk_at dksX2_goHearse_2 1 rfl rfl)
theorem dX2_goHearse_49 : decode cX2_goHearse 49 = .ok (.if_icmp .ne 13, 3) := dk_160 0 13 (dk_at dksX2_goHearse_2 2 rfl rfl)
theorem dX2_goHearse_52 : decode cX2_goHearse 52 = .ok (.aload_n 0, 1) := dk_42 (dk_at dksX2_goHearse_2 5 rfl rfl)
theorem dX2_goHearse_53 : decode cX2_goHearse 53 = .ok (.getfield 34, 3) := dk_180 0 34 (dk_at dksX2_goHearse_2 6 rfl rfl)
theorem dX2_goHearse_56 : decode cX2_goHearse 56 = .ok (.iload_n 2, 1) := dk_28 (dk_at dksX2_goHearse_2 9 rfl rfl)
theorem dX2_goHearse_57 : decode cX2_goHearse 57 = .ok (.dup2, 1) := dk_92 (dk_at dksX2_goHearse_2 10 rfl rfl)
theorem dX2_goHearse_58 : decode cX2_goHearse 58 = .ok (.iaload, 1) := dk_46 (dk_at dksX2_goHearse_2 11 rfl rfl)
theorem dX2_goHearse_59 : decode cX2_goHearse 59 = .ok (.iconst 1, 1) := dk_4 (dk_at dksX2_goHearse_2 12 rfl rfl)
theorem dX2_goHearse_60 : decode cX2_goHearse 60 = .ok (.iadd, 1) := dk_96 (dk_at dksX2_goHearse_2 13 rfl rfl)
theorem dX2_goHearse_61 : decode cX2_goHearse 61 = .ok (.iastore, 1) := dk_79 (dk_at dksX2_goHearse_2 14 rfl rfl)
theorem dX2_goHearse_62 : decode cX2_goHearse 62 = .ok (.aload_n 0, 1) := dk_42 (dk_at dksX2_goHearse_2 15 rfl rfl)
theorem dX2_goHearse_63 : decode cX2_goHearse 63 = .ok (.getfield 15, 3) := dk_180 0 15 (dk_at dksX2_goHearse_2 16 rfl rfl)
theorem dX2_goHearse_66 : decode cX2_goHearse 66 = .ok (.iload_n 1, 1) := dk_27 (dk_at dksX2_goHearse_2 19 rfl rfl)
theorem dX2_goHearse_67 : decode cX2_goHearse 67 = .ok (.iload_n 3, 1) := dk_29 (dk_at dksX2_goHearse_2 20 rfl rfl)
theorem dX2_goHearse_68 : decode cX2_goHearse 68 = .ok (.iastore, 1) := dk_79 (dk_at dksX2_goHearse_2 21 rfl rfl)
theorem dX2_goHearse_69 : decode cX2_goHearse 69 = .ok (.iload_n 3, 1) := dk_29 (dk_at dksX2_goHearse_2 22 rfl rfl)
theorem dX2_goHearse_70 : decode cX2_goHearse 70 = .ok (.aload_n 0, 1) := dk_42 (dk_at dksX2_goHearse_2 23 rfl rfl)
theorem dX2_goHearse_71 : decode cX2_goHearse 71 = .ok (.getfield 3, 3) := dk_180 0 3 (dk_at dksX2_goHearse_3 0 rfl rfl)
theorem dX2_goHearse_74 : decode cX2_goHearse 74 = .ok (.getfield 59, 3) := dk_180 0 59 (dk_at dksX2_goHearse_3 3 rfl rfl)
theorem dX2_goHearse_77 : decode cX2_goHearse 77 = .ok (.iconst 1, 1) := dk_4 (dk_at dksX2_goHearse_3 6 rfl rfl)
theorem dX2_goHearse_78 : decode cX2_goHearse 78 = .ok (.isub, 1) := dk_100 (dk_at dksX2_goHearse_3 7 rfl rfl)
theorem dX2_goHearse_79 : decode cX2_goHearse 79 = .ok (.if_icmp .ge 4, 3) := dk_162 0 4 (dk_at dksX2_goHearse_3 8 rfl rfl)
theorem dX2_goHearse_82 : decode cX2_goHearse 82 = .ok (.return_, 1) := dk_177 (dk_at dksX2_goHearse_3 11 rfl rfl)
theorem dX2_goHearse_83 : decode cX2_goHearse 83 = .ok (.aload_n 0, 1) := dk_42 (dk_at dksX2_goHearse_3 12 rfl rfl)
theorem dX2_goHearse_84 : decode cX2_goHearse 84 = .ok (.getfield 15, 3) := dk_180 0 15 (dk_at dksX2_goHearse_3 13 rfl rfl)
theorem dX2_goHearse_87 : decode cX2_goHearse 87 = .ok (.iload_n 1, 1) := dk_27 (dk_at dksX2_goHearse_3 16 rfl rfl)
theorem dX2_goHearse_88 : decode cX2_goHearse 88 = .ok (.iconst (-1), 1) := dk_2 (dk_at dksX2_goHearse_3 17 rfl rfl)
theorem dX2_goHearse_89 : decode cX2_goHearse 89 = .ok (.iastore, 1) := dk_79 (dk_at dksX2_goHearse_3 18 rfl rfl)
theorem dX2_goHearse_90 : decode cX2_goHearse 90 = .ok (.aload_n 0, 1) := dk_42 (dk_at dksX2_goHearse_3 19 rfl rfl)
theorem dX2_goHearse_91 : decode cX2_goHearse 91 = .ok (.dup, 1) := dk_89 (dk_at dksX2_goHearse_3 20 rfl rfl)
theorem dX2_goHearse_92 : decode cX2_goHearse 92 = .ok (.getfield 47, 3) := dk_180 0 47 (dk_at dksX2_goHearse_3 21 rfl rfl)
theorem dX2_goHearse_95 : decode cX2_goHearse 95 = .ok (.iconst 1, 1) := dk_4 (dk_at dksX2_goHearse_4 0 rfl rfl)
theorem dX2_goHearse_96 : decode cX2_goHearse 96 = .ok (.iadd, 1) := dk_96 (dk_at dksX2_goHearse_4 1 rfl rfl)
theorem dX2_goHearse_97 : decode cX2_goHearse 97 = .ok (.putfield 47, 3) := dk_181 0 47 (dk_at dksX2_goHearse_4 2 rfl rfl)
theorem dX2_goHearse_100 : decode cX2_goHearse 100 = .ok (.aload_n 0, 1) := dk_42 (dk_at dksX2_goHearse_4 5 rfl rfl)
theorem dX2_goHearse_101 : decode cX2_goHearse 101 = .ok (.getfield 19, 3) := dk_180 0 19 (dk_at dksX2_goHearse_4 6 rfl rfl)
theorem dX2_goHearse_104 : decode cX2_goHearse 104 = .ok (.iload_n 1, 1) := dk_27 (dk_at dksX2_goHearse_4 9 rfl rfl)
theorem dX2_goHearse_105 : decode cX2_goHearse 105 = .ok (.aload_n 0, 1) := dk_42 (dk_at dksX2_goHearse_4 10 rfl rfl)
theorem dX2_goHearse_106 : decode cX2_goHearse 106 = .ok (.getfield 47, 3) := dk_180 0 47 (dk_at dksX2_goHearse_4 11 rfl rfl)
theorem dX2_goHearse_109 : decode cX2_goHearse 109 = .ok (.iastore, 1) := dk_79 (dk_at dksX2_goHearse_4 14 rfl rfl)
theorem dX2_goHearse_110 : decode cX2_goHearse 110 = .ok (.return_, 1) := dk_177 (dk_at dksX2_goHearse_4 15 rfl rfl)
abbrev cX2_pace : ByteArray := prog_9_method_11_code
def yX2_pace : MethodName := ⟨RX2, "pace", "(I)I"⟩
def dkwX2_pace_2 : List UInt8 := [184, 0, 91, 172]
abbrev dktX2_pace_2 : List UInt8 := dkwX2_pace_2 ++ []
def dkwX2_pace_1 : List UInt8 := [167, 0, 15, 42, 180, 0, 3, 180, 0, 72, 42, 27, 182, 0, 79, 61, 3, 6, 28, 184, 0, 85]
abbrev dktX2_pace_1 : List UInt8 := dkwX2_pace_1 ++ dktX2_pace_2
def dkwX2_pace_0 : List UInt8 := [42, 180, 0, 3, 180, 0, 72, 199, 0, 20, 42, 27, 182, 0, 76, 5, 164, 0, 7, 5, 167, 0, 19, 4]
abbrev dktX2_pace_0 : List UInt8 := dkwX2_pace_0 ++ dktX2_pace_1
theorem dksX2_pace_0 : cX2_pace.data.toList.drop 0 = dktX2_pace_0 := by decide +kernel
theorem dksX2_pace_1 : cX2_pace.data.toList.drop 24 = dktX2_pace_1 := dk_seg dksX2_pace_0 24 rfl rfl
theorem dksX2_pace_2 : cX2_pace.data.toList.drop 46 = dktX2_pace_2 := dk_seg dksX2_pace_1 22 rfl rfl
theorem dX2_pace_0 : decode cX2_pace 0 = .ok (.aload_n 0, 1) := dk_42 (dk_at dksX2_pace_0 0 rfl rfl)
theorem dX2_pace_1 : decode cX2_pace 1 = .ok (.getfield 3, 3) := dk_180 0 3 (dk_at dksX2_pace_0 1 rfl rfl)
theorem dX2_pace_4 : decode cX2_pace 4 = .ok (.getfield 72, 3) := dk_180 0 72 (dk_at dksX2_pace_0 4 rfl rfl)
theorem dX2_pace_7 : decode cX2_pace 7 = .ok (.ifnonnull 20, 3) := dk_199 0 20 (dk_at dksX2_pace_0 7 rfl rfl)
theorem dX2_pace_10 : decode cX2_pace 10 = .ok (.aload_n 0, 1) := dk_42 (dk_at dksX2_pace_0 10 rfl rfl)
theorem dX2_pace_11 : decode cX2_pace 11 = .ok (.iload_n 1, 1) := dk_27 (dk_at dksX2_pace_0 11 rfl rfl)
theorem dX2_pace_12 : decode cX2_pace 12 = .ok (.invokevirtual 76, 3) := dk_182 0 76 (dk_at dksX2_pace_0 12 rfl rfl)
theorem dX2_pace_15 : decode cX2_pace 15 = .ok (.iconst 2, 1) := dk_5 (dk_at dksX2_pace_0 15 rfl rfl)
theorem dX2_pace_16 : decode cX2_pace 16 = .ok (.if_icmp .le 7, 3) := dk_164 0 7 (dk_at dksX2_pace_0 16 rfl rfl)
theorem dX2_pace_19 : decode cX2_pace 19 = .ok (.iconst 2, 1) := dk_5 (dk_at dksX2_pace_0 19 rfl rfl)
theorem dX2_pace_20 : decode cX2_pace 20 = .ok (.goto 19, 3) := dk_167 0 19 (dk_at dksX2_pace_0 20 rfl rfl)
theorem dX2_pace_23 : decode cX2_pace 23 = .ok (.iconst 1, 1) := dk_4 (dk_at dksX2_pace_0 23 rfl rfl)
theorem dX2_pace_24 : decode cX2_pace 24 = .ok (.goto 15, 3) := dk_167 0 15 (dk_at dksX2_pace_1 0 rfl rfl)
theorem dX2_pace_27 : decode cX2_pace 27 = .ok (.aload_n 0, 1) := dk_42 (dk_at dksX2_pace_1 3 rfl rfl)
theorem dX2_pace_28 : decode cX2_pace 28 = .ok (.getfield 3, 3) := dk_180 0 3 (dk_at dksX2_pace_1 4 rfl rfl)
theorem dX2_pace_31 : decode cX2_pace 31 = .ok (.getfield 72, 3) := dk_180 0 72 (dk_at dksX2_pace_1 7 rfl rfl)
theorem dX2_pace_34 : decode cX2_pace 34 = .ok (.aload_n 0, 1) := dk_42 (dk_at dksX2_pace_1 10 rfl rfl)
theorem dX2_pace_35 : decode cX2_pace 35 = .ok (.iload_n 1, 1) := dk_27 (dk_at dksX2_pace_1 11 rfl rfl)
theorem dX2_pace_36 : decode cX2_pace 36 = .ok (.invokevirtual 79, 3) := dk_182 0 79 (dk_at dksX2_pace_1 12 rfl rfl)
theorem dX2_pace_39 : decode cX2_pace 39 = .ok (.istore_n 2, 1) := dk_61 (dk_at dksX2_pace_1 15 rfl rfl)
theorem dX2_pace_40 : decode cX2_pace 40 = .ok (.iconst 0, 1) := dk_3 (dk_at dksX2_pace_1 16 rfl rfl)
theorem dX2_pace_41 : decode cX2_pace 41 = .ok (.iconst 3, 1) := dk_6 (dk_at dksX2_pace_1 17 rfl rfl)
theorem dX2_pace_42 : decode cX2_pace 42 = .ok (.iload_n 2, 1) := dk_28 (dk_at dksX2_pace_1 18 rfl rfl)
theorem dX2_pace_43 : decode cX2_pace 43 = .ok (.invokestatic 85, 3) := dk_184 0 85 (dk_at dksX2_pace_1 19 rfl rfl)
theorem dX2_pace_46 : decode cX2_pace 46 = .ok (.invokestatic 91, 3) := dk_184 0 91 (dk_at dksX2_pace_2 0 rfl rfl)
theorem dX2_pace_49 : decode cX2_pace 49 = .ok (.ireturn, 1) := dk_172 (dk_at dksX2_pace_2 3 rfl rfl)
abbrev cX2_canGo : ByteArray := prog_9_method_12_code
def yX2_canGo : MethodName := ⟨RX2, "canGo", "(II)Z"⟩
def dkwX2_canGo_5 : List UInt8 := [4, 167, 0, 4, 3, 172]
abbrev dktX2_canGo_5 : List UInt8 := dkwX2_canGo_5 ++ []
def dkwX2_canGo_4 : List UInt8 := [180, 0, 94, 21, 5, 51, 128, 54, 4, 132, 5, 1, 167, 255, 214, 29, 153, 0, 8, 21, 4, 154, 0, 7]
abbrev dktX2_canGo_4 : List UInt8 := dkwX2_canGo_4 ++ dktX2_canGo_5
def dkwX2_canGo_3 : List UInt8 := [21, 5, 182, 0, 62, 2, 159, 0, 7, 4, 167, 0, 4, 3, 128, 62, 21, 4, 42, 180, 0, 3]
abbrev dktX2_canGo_3 : List UInt8 := dkwX2_canGo_3 ++ dktX2_canGo_4
def dkwX2_canGo_2 : List UInt8 := [153, 0, 7, 4, 167, 0, 4, 3, 54, 4, 27, 4, 96, 54, 5, 21, 5, 28, 162, 0, 42, 29, 42]
abbrev dktX2_canGo_2 : List UInt8 := dkwX2_canGo_2 ++ dktX2_canGo_3
def dkwX2_canGo_1 : List UInt8 := [3, 62, 42, 180, 0, 3, 180, 0, 94, 27, 51, 154, 0, 15, 42, 180, 0, 3, 180, 0, 94, 28, 51]
abbrev dktX2_canGo_1 : List UInt8 := dkwX2_canGo_1 ++ dktX2_canGo_2
def dkwX2_canGo_0 : List UInt8 := [28, 42, 180, 0, 3, 180, 0, 59, 4, 100, 162, 0, 14, 42, 28, 182, 0, 62, 2, 159, 0, 5, 3, 172]
abbrev dktX2_canGo_0 : List UInt8 := dkwX2_canGo_0 ++ dktX2_canGo_1
theorem dksX2_canGo_0 : cX2_canGo.data.toList.drop 0 = dktX2_canGo_0 := by decide +kernel
theorem dksX2_canGo_1 : cX2_canGo.data.toList.drop 24 = dktX2_canGo_1 := dk_seg dksX2_canGo_0 24 rfl rfl
theorem dksX2_canGo_2 : cX2_canGo.data.toList.drop 47 = dktX2_canGo_2 := dk_seg dksX2_canGo_1 23 rfl rfl
theorem dksX2_canGo_3 : cX2_canGo.data.toList.drop 70 = dktX2_canGo_3 := dk_seg dksX2_canGo_2 23 rfl rfl
theorem dksX2_canGo_4 : cX2_canGo.data.toList.drop 92 = dktX2_canGo_4 := dk_seg dksX2_canGo_3 22 rfl rfl
theorem dksX2_canGo_5 : cX2_canGo.data.toList.drop 116 = dktX2_canGo_5 := dk_seg dksX2_canGo_4 24 rfl rfl
theorem dX2_canGo_0 : decode cX2_canGo 0 = .ok (.iload_n 2, 1) := dk_28 (dk_at dksX2_canGo_0 0 rfl rfl)
theorem dX2_canGo_1 : decode cX2_canGo 1 = .ok (.aload_n 0, 1) := dk_42 (dk_at dksX2_canGo_0 1 rfl rfl)
theorem dX2_canGo_2 : decode cX2_canGo 2 = .ok (.getfield 3, 3) := dk_180 0 3 (dk_at dksX2_canGo_0 2 rfl rfl)
theorem dX2_canGo_5 : decode cX2_canGo 5 = .ok (.getfield 59, 3) := dk_180 0 59 (dk_at dksX2_canGo_0 5 rfl rfl)
theorem dX2_canGo_8 : decode cX2_canGo 8 = .ok (.iconst 1, 1) := dk_4 (dk_at dksX2_canGo_0 8 rfl rfl)
theorem dX2_canGo_9 : decode cX2_canGo 9 = .ok (.isub, 1) := dk_100 (dk_at dksX2_canGo_0 9 rfl rfl)
theorem dX2_canGo_10 : decode cX2_canGo 10 = .ok (.if_icmp .ge 14, 3) := dk_162 0 14 (dk_at dksX2_canGo_0 10 rfl rfl)
theorem dX2_canGo_13 : decode cX2_canGo 13 = .ok (.aload_n 0, 1) := dk_42 (dk_at dksX2_canGo_0 13 rfl rfl)
theorem dX2_canGo_14 : decode cX2_canGo 14 = .ok (.iload_n 2, 1) := dk_28 (dk_at dksX2_canGo_0 14 rfl rfl)
theorem dX2_canGo_15 : decode cX2_canGo 15 = .ok (.invokevirtual 62, 3) := dk_182 0 62 (dk_at dksX2_canGo_0 15 rfl rfl)
theorem dX2_canGo_18 : decode cX2_canGo 18 = .ok (.iconst (-1), 1) := dk_2 (dk_at dksX2_canGo_0 18 rfl rfl)
theorem dX2_canGo_19 : decode cX2_canGo 19 = .ok (.if_icmp .eq 5, 3) := dk_159 0 5 (dk_at dksX2_canGo_0 19 rfl rfl)
theorem dX2_canGo_22 : decode cX2_canGo 22 = .ok (.iconst 0, 1) := dk_3 (dk_at dksX2_canGo_0 22 rfl rfl)
theorem dX2_canGo_23 : decode cX2_canGo 23 = .ok (.ireturn, 1) := dk_172 (dk_at dksX2_canGo_0 23 rfl rfl)
theorem dX2_canGo_24 : decode cX2_canGo 24 = .ok (.iconst 0, 1) := dk_3 (dk_at dksX2_canGo_1 0 rfl rfl)
theorem dX2_canGo_25 : decode cX2_canGo 25 = .ok (.istore_n 3, 1) := dk_62 (dk_at dksX2_canGo_1 1 rfl rfl)
theorem dX2_canGo_26 : decode cX2_canGo 26 = .ok (.aload_n 0, 1) := dk_42 (dk_at dksX2_canGo_1 2 rfl rfl)
theorem dX2_canGo_27 : decode cX2_canGo 27 = .ok (.getfield 3, 3) := dk_180 0 3 (dk_at dksX2_canGo_1 3 rfl rfl)
theorem dX2_canGo_30 : decode cX2_canGo 30 = .ok (.getfield 94, 3) := dk_180 0 94 (dk_at dksX2_canGo_1 6 rfl rfl)
theorem dX2_canGo_33 : decode cX2_canGo 33 = .ok (.iload_n 1, 1) := dk_27 (dk_at dksX2_canGo_1 9 rfl rfl)
theorem dX2_canGo_34 : decode cX2_canGo 34 = .ok (.baload, 1) := dk_51 (dk_at dksX2_canGo_1 10 rfl rfl)
theorem dX2_canGo_35 : decode cX2_canGo 35 = .ok (.ifCond .ne 15, 3) := dk_154 0 15 (dk_at dksX2_canGo_1 11 rfl rfl)
theorem dX2_canGo_38 : decode cX2_canGo 38 = .ok (.aload_n 0, 1) := dk_42 (dk_at dksX2_canGo_1 14 rfl rfl)
theorem dX2_canGo_39 : decode cX2_canGo 39 = .ok (.getfield 3, 3) := dk_180 0 3 (dk_at dksX2_canGo_1 15 rfl rfl)
theorem dX2_canGo_42 : decode cX2_canGo 42 = .ok (.getfield 94, 3) := dk_180 0 94 (dk_at dksX2_canGo_1 18 rfl rfl)
theorem dX2_canGo_45 : decode cX2_canGo 45 = .ok (.iload_n 2, 1) := dk_28 (dk_at dksX2_canGo_1 21 rfl rfl)
theorem dX2_canGo_46 : decode cX2_canGo 46 = .ok (.baload, 1) := dk_51 (dk_at dksX2_canGo_1 22 rfl rfl)
theorem dX2_canGo_47 : decode cX2_canGo 47 = .ok (.ifCond .eq 7, 3) := dk_153 0 7 (dk_at dksX2_canGo_2 0 rfl rfl)
theorem dX2_canGo_50 : decode cX2_canGo 50 = .ok (.iconst 1, 1) := dk_4 (dk_at dksX2_canGo_2 3 rfl rfl)
theorem dX2_canGo_51 : decode cX2_canGo 51 = .ok (.goto 4, 3) := dk_167 0 4 (dk_at dksX2_canGo_2 4 rfl rfl)
theorem dX2_canGo_54 : decode cX2_canGo 54 = .ok (.iconst 0, 1) := dk_3 (dk_at dksX2_canGo_2 7 rfl rfl)
theorem dX2_canGo_55 : decode cX2_canGo 55 = .ok (.istore 4, 2) := dk_54 4 (dk_at dksX2_canGo_2 8 rfl rfl)
theorem dX2_canGo_57 : decode cX2_canGo 57 = .ok (.iload_n 1, 1) := dk_27 (dk_at dksX2_canGo_2 10 rfl rfl)
theorem dX2_canGo_58 : decode cX2_canGo 58 = .ok (.iconst 1, 1) := dk_4 (dk_at dksX2_canGo_2 11 rfl rfl)
theorem dX2_canGo_59 : decode cX2_canGo 59 = .ok (.iadd, 1) := dk_96 (dk_at dksX2_canGo_2 12 rfl rfl)
theorem dX2_canGo_60 : decode cX2_canGo 60 = .ok (.istore 5, 2) := dk_54 5 (dk_at dksX2_canGo_2 13 rfl rfl)
theorem dX2_canGo_62 : decode cX2_canGo 62 = .ok (.iload 5, 2) := dk_21 5 (dk_at dksX2_canGo_2 15 rfl rfl)
theorem dX2_canGo_64 : decode cX2_canGo 64 = .ok (.iload_n 2, 1) := dk_28 (dk_at dksX2_canGo_2 17 rfl rfl)
theorem dX2_canGo_65 : decode cX2_canGo 65 = .ok (.if_icmp .ge 42, 3) := dk_162 0 42 (dk_at dksX2_canGo_2 18 rfl rfl)
theorem dX2_canGo_68 : decode cX2_canGo 68 = .ok (.iload_n 3, 1) := dk_29 (dk_at dksX2_canGo_2 21 rfl rfl)
theorem dX2_canGo_69 : decode cX2_canGo 69 = .ok (.aload_n 0, 1) := dk_42 (dk_at dksX2_canGo_2 22 rfl rfl)
theorem dX2_canGo_70 : decode cX2_canGo 70 = .ok (.iload 5, 2) := dk_21 5 (dk_at dksX2_canGo_3 0 rfl rfl)
theorem dX2_canGo_72 : decode cX2_canGo 72 = .ok (.invokevirtual 62, 3) := dk_182 0 62 (dk_at dksX2_canGo_3 2 rfl rfl)
theorem dX2_canGo_75 : decode cX2_canGo 75 = .ok (.iconst (-1), 1) := dk_2 (dk_at dksX2_canGo_3 5 rfl rfl)
theorem dX2_canGo_76 : decode cX2_canGo 76 = .ok (.if_icmp .eq 7, 3) := dk_159 0 7 (dk_at dksX2_canGo_3 6 rfl rfl)
theorem dX2_canGo_79 : decode cX2_canGo 79 = .ok (.iconst 1, 1) := dk_4 (dk_at dksX2_canGo_3 9 rfl rfl)
theorem dX2_canGo_80 : decode cX2_canGo 80 = .ok (.goto 4, 3) := dk_167 0 4 (dk_at dksX2_canGo_3 10 rfl rfl)
theorem dX2_canGo_83 : decode cX2_canGo 83 = .ok (.iconst 0, 1) := dk_3 (dk_at dksX2_canGo_3 13 rfl rfl)
theorem dX2_canGo_84 : decode cX2_canGo 84 = .ok (.ior, 1) := dk_128 (dk_at dksX2_canGo_3 14 rfl rfl)
theorem dX2_canGo_85 : decode cX2_canGo 85 = .ok (.istore_n 3, 1) := dk_62 (dk_at dksX2_canGo_3 15 rfl rfl)
theorem dX2_canGo_86 : decode cX2_canGo 86 = .ok (.iload 4, 2) := dk_21 4 (dk_at dksX2_canGo_3 16 rfl rfl)
theorem dX2_canGo_88 : decode cX2_canGo 88 = .ok (.aload_n 0, 1) := dk_42 (dk_at dksX2_canGo_3 18 rfl rfl)
theorem dX2_canGo_89 : decode cX2_canGo 89 = .ok (.getfield 3, 3) := dk_180 0 3 (dk_at dksX2_canGo_3 19 rfl rfl)
theorem dX2_canGo_92 : decode cX2_canGo 92 = .ok (.getfield 94, 3) := dk_180 0 94 (dk_at dksX2_canGo_4 0 rfl rfl)
theorem dX2_canGo_95 : decode cX2_canGo 95 = .ok (.iload 5, 2) := dk_21 5 (dk_at dksX2_canGo_4 3 rfl rfl)
theorem dX2_canGo_97 : decode cX2_canGo 97 = .ok (.baload, 1) := dk_51 (dk_at dksX2_canGo_4 5 rfl rfl)
theorem dX2_canGo_98 : decode cX2_canGo 98 = .ok (.ior, 1) := dk_128 (dk_at dksX2_canGo_4 6 rfl rfl)
theorem dX2_canGo_99 : decode cX2_canGo 99 = .ok (.istore 4, 2) := dk_54 4 (dk_at dksX2_canGo_4 7 rfl rfl)
theorem dX2_canGo_101 : decode cX2_canGo 101 = .ok (.iinc 5 1, 3) := dk_132 5 1 (dk_at dksX2_canGo_4 9 rfl rfl)
theorem dX2_canGo_104 : decode cX2_canGo 104 = .ok (.goto (-42), 3) := dk_167 255 214 (dk_at dksX2_canGo_4 12 rfl rfl)
theorem dX2_canGo_107 : decode cX2_canGo 107 = .ok (.iload_n 3, 1) := dk_29 (dk_at dksX2_canGo_4 15 rfl rfl)
theorem dX2_canGo_108 : decode cX2_canGo 108 = .ok (.ifCond .eq 8, 3) := dk_153 0 8 (dk_at dksX2_canGo_4 16 rfl rfl)
theorem dX2_canGo_111 : decode cX2_canGo 111 = .ok (.iload 4, 2) := dk_21 4 (dk_at dksX2_canGo_4 19 rfl rfl)
theorem dX2_canGo_113 : decode cX2_canGo 113 = .ok (.ifCond .ne 7, 3) := dk_154 0 7 (dk_at dksX2_canGo_4 21 rfl rfl)
theorem dX2_canGo_116 : decode cX2_canGo 116 = .ok (.iconst 1, 1) := dk_4 (dk_at dksX2_canGo_5 0 rfl rfl)
theorem dX2_canGo_117 : decode cX2_canGo 117 = .ok (.goto 4, 3) := dk_167 0 4 (dk_at dksX2_canGo_5 1 rfl rfl)
theorem dX2_canGo_120 : decode cX2_canGo 120 = .ok (.iconst 0, 1) := dk_3 (dk_at dksX2_canGo_5 4 rfl rfl)
theorem dX2_canGo_121 : decode cX2_canGo 121 = .ok (.ireturn, 1) := dk_172 (dk_at dksX2_canGo_5 5 rfl rfl)
abbrev cX2_goMourner : ByteArray := prog_9_method_16_code
def yX2_goMourner : MethodName := ⟨RX2, "goMourner", "(I)V"⟩
def dkwX2_goMourner_5 : List UInt8 := [177]
abbrev dktX2_goMourner_5 : List UInt8 := dkwX2_goMourner_5 ++ []
def dkwX2_goMourner_4 : List UInt8 := [16, 254, 5, 42, 180, 0, 15, 28, 46, 42, 180, 0, 22, 27, 46, 100, 184, 0, 85, 184, 0, 91, 96, 79]
abbrev dktX2_goMourner_4 : List UInt8 := dkwX2_goMourner_4 ++ dktX2_goMourner_5
def dkwX2_goMourner_3 : List UInt8 := [92, 46, 4, 96, 79, 42, 180, 0, 25, 27, 46, 61, 28, 2, 159, 0, 34, 42, 180, 0, 22, 27, 92, 46]
abbrev dktX2_goMourner_3 : List UInt8 := dkwX2_goMourner_3 ++ dktX2_goMourner_4
def dkwX2_goMourner_2 : List UInt8 := [182, 0, 112, 42, 27, 28, 182, 0, 112, 162, 0, 20, 42, 180, 0, 25, 27, 29, 79, 42, 180, 0, 31, 27]
abbrev dktX2_goMourner_2 : List UInt8 := dkwX2_goMourner_2 ++ dktX2_goMourner_3
def dkwX2_goMourner_1 : List UInt8 := [27, 28, 79, 177, 42, 27, 182, 0, 115, 62, 29, 2, 159, 0, 40, 28, 2, 159, 0, 18, 42, 27, 29]
abbrev dktX2_goMourner_1 : List UInt8 := dkwX2_goMourner_1 ++ dktX2_goMourner_2
def dkwX2_goMourner_0 : List UInt8 := [42, 180, 0, 25, 27, 46, 61, 28, 2, 159, 0, 19, 42, 28, 182, 0, 108, 154, 0, 11, 42, 180, 0, 28]
abbrev dktX2_goMourner_0 : List UInt8 := dkwX2_goMourner_0 ++ dktX2_goMourner_1
theorem dksX2_goMourner_0 : cX2_goMourner.data.toList.drop 0 = dktX2_goMourner_0 := by decide +kernel
theorem dksX2_goMourner_1 : cX2_goMourner.data.toList.drop 24 = dktX2_goMourner_1 := dk_seg dksX2_goMourner_0 24 rfl rfl
theorem dksX2_goMourner_2 : cX2_goMourner.data.toList.drop 47 = dktX2_goMourner_2 := dk_seg dksX2_goMourner_1 23 rfl rfl
theorem dksX2_goMourner_3 : cX2_goMourner.data.toList.drop 71 = dktX2_goMourner_3 := dk_seg dksX2_goMourner_2 24 rfl rfl
theorem dksX2_goMourner_4 : cX2_goMourner.data.toList.drop 95 = dktX2_goMourner_4 := dk_seg dksX2_goMourner_3 24 rfl rfl
theorem dksX2_goMourner_5 : cX2_goMourner.data.toList.drop 119 = dktX2_goMourner_5 := dk_seg dksX2_goMourner_4 24 rfl rfl
theorem dX2_goMourner_0 : decode cX2_goMourner 0 = .ok (.aload_n 0, 1) := dk_42 (dk_at dksX2_goMourner_0 0 rfl rfl)
theorem dX2_goMourner_1 : decode cX2_goMourner 1 = .ok (.getfield 25, 3) := dk_180 0 25 (dk_at dksX2_goMourner_0 1 rfl rfl)
theorem dX2_goMourner_4 : decode cX2_goMourner 4 = .ok (.iload_n 1, 1) := dk_27 (dk_at dksX2_goMourner_0 4 rfl rfl)
theorem dX2_goMourner_5 : decode cX2_goMourner 5 = .ok (.iaload, 1) := dk_46 (dk_at dksX2_goMourner_0 5 rfl rfl)
theorem dX2_goMourner_6 : decode cX2_goMourner 6 = .ok (.istore_n 2, 1) := dk_61 (dk_at dksX2_goMourner_0 6 rfl rfl)
theorem dX2_goMourner_7 : decode cX2_goMourner 7 = .ok (.iload_n 2, 1) := dk_28 (dk_at dksX2_goMourner_0 7 rfl rfl)
theorem dX2_goMourner_8 : decode cX2_goMourner 8 = .ok (.iconst (-1), 1) := dk_2 (dk_at dksX2_goMourner_0 8 rfl rfl)
theorem dX2_goMourner_9 : decode cX2_goMourner 9 = .ok (.if_icmp .eq 19, 3) := dk_159 0 19 (dk_at dksX2_goMourner_0 9 rfl rfl)
theorem dX2_goMourner_12 : decode cX2_goMourner 12 = .ok (.aload_n 0, 1) := dk_42 (dk_at dksX2_goMourner_0 12 rfl rfl)
theorem dX2_goMourner_13 : decode cX2_goMourner 13 = .ok (.iload_n 2, 1) := dk_28 (dk_at dksX2_goMourner_0 13 rfl rfl)
theorem dX2_goMourner_14 : decode cX2_goMourner 14 = .ok (.invokevirtual 108, 3) := dk_182 0 108 (dk_at dksX2_goMourner_0 14 rfl rfl)
theorem dX2_goMourner_17 : decode cX2_goMourner 17 = .ok (.ifCond .ne 11, 3) := dk_154 0 11 (dk_at dksX2_goMourner_0 17 rfl rfl)
theorem dX2_goMourner_20 : decode cX2_goMourner 20 = .ok (.aload_n 0, 1) := dk_42 (dk_at dksX2_goMourner_0 20 rfl rfl)
theorem dX2_goMourner_21 : decode cX2_goMourner 21 = .ok (.getfield 28, 3) := dk_180 0 28 (dk_at dksX2_goMourner_0 21 rfl rfl)
theorem dX2_goMourner_24 : decode cX2_goMourner 24 = .ok (.iload_n 1, 1) := dk_27 (dk_at dksX2_goMourner_1 0 rfl rfl)
theorem dX2_goMourner_25 : decode cX2_goMourner 25 = .ok (.iload_n 2, 1) := dk_28 (dk_at dksX2_goMourner_1 1 rfl rfl)
theorem dX2_goMourner_26 : decode cX2_goMourner 26 = .ok (.iastore, 1) := dk_79 (dk_at dksX2_goMourner_1 2 rfl rfl)
theorem dX2_goMourner_27 : decode cX2_goMourner 27 = .ok (.return_, 1) := dk_177 (dk_at dksX2_goMourner_1 3 rfl rfl)
theorem dX2_goMourner_28 : decode cX2_goMourner 28 = .ok (.aload_n 0, 1) := dk_42 (dk_at dksX2_goMourner_1 4 rfl rfl)
theorem dX2_goMourner_29 : decode cX2_goMourner 29 = .ok (.iload_n 1, 1) := dk_27 (dk_at dksX2_goMourner_1 5 rfl rfl)
theorem dX2_goMourner_30 : decode cX2_goMourner 30 = .ok (.invokevirtual 115, 3) := dk_182 0 115 (dk_at dksX2_goMourner_1 6 rfl rfl)
theorem dX2_goMourner_33 : decode cX2_goMourner 33 = .ok (.istore_n 3, 1) := dk_62 (dk_at dksX2_goMourner_1 9 rfl rfl)
theorem dX2_goMourner_34 : decode cX2_goMourner 34 = .ok (.iload_n 3, 1) := dk_29 (dk_at dksX2_goMourner_1 10 rfl rfl)
theorem dX2_goMourner_35 : decode cX2_goMourner 35 = .ok (.iconst (-1), 1) := dk_2 (dk_at dksX2_goMourner_1 11 rfl rfl)
theorem dX2_goMourner_36 : decode cX2_goMourner 36 = .ok (.if_icmp .eq 40, 3) := dk_159 0 40 (dk_at dksX2_goMourner_1 12 rfl rfl)
theorem dX2_goMourner_39 : decode cX2_goMourner 39 = .ok (.iload_n 2, 1) := dk_28 (dk_at dksX2_goMourner_1 15 rfl rfl)
theorem dX2_goMourner_40 : decode cX2_goMourner 40 = .ok (.iconst (-1), 1) := dk_2 (dk_at dksX2_goMourner_1 16 rfl rfl)
theorem dX2_goMourner_41 : decode cX2_goMourner 41 = .ok (.if_icmp .eq 18, 3) := dk_159 0 18 (dk_at dksX2_goMourner_1 17 rfl rfl)
theorem dX2_goMourner_44 : decode cX2_goMourner 44 = .ok (.aload_n 0, 1) := dk_42 (dk_at dksX2_goMourner_1 20 rfl rfl)
theorem dX2_goMourner_45 : decode cX2_goMourner 45 = .ok (.iload_n 1, 1) := dk_27 (dk_at dksX2_goMourner_1 21 rfl rfl)
theorem dX2_goMourner_46 : decode cX2_goMourner 46 = .ok (.iload_n 3, 1) := dk_29 (dk_at dksX2_goMourner_1 22 rfl rfl)
theorem dX2_goMourner_47 : decode cX2_goMourner 47 = .ok (.invokevirtual 112, 3) := dk_182 0 112 (dk_at dksX2_goMourner_2 0 rfl rfl)
theorem dX2_goMourner_50 : decode cX2_goMourner 50 = .ok (.aload_n 0, 1) := dk_42 (dk_at dksX2_goMourner_2 3 rfl rfl)
theorem dX2_goMourner_51 : decode cX2_goMourner 51 = .ok (.iload_n 1, 1) := dk_27 (dk_at dksX2_goMourner_2 4 rfl rfl)
theorem dX2_goMourner_52 : decode cX2_goMourner 52 = .ok (.iload_n 2, 1) := dk_28 (dk_at dksX2_goMourner_2 5 rfl rfl)
theorem dX2_goMourner_53 : decode cX2_goMourner 53 = .ok (.invokevirtual 112, 3) := dk_182 0 112 (dk_at dksX2_goMourner_2 6 rfl rfl)
theorem dX2_goMourner_56 : decode cX2_goMourner 56 = .ok (.if_icmp .ge 20, 3) := dk_162 0 20 (dk_at dksX2_goMourner_2 9 rfl rfl)
theorem dX2_goMourner_59 : decode cX2_goMourner 59 = .ok (.aload_n 0, 1) := dk_42 (dk_at dksX2_goMourner_2 12 rfl rfl)
theorem dX2_goMourner_60 : decode cX2_goMourner 60 = .ok (.getfield 25, 3) := dk_180 0 25 (dk_at dksX2_goMourner_2 13 rfl rfl)
theorem dX2_goMourner_63 : decode cX2_goMourner 63 = .ok (.iload_n 1, 1) := dk_27 (dk_at dksX2_goMourner_2 16 rfl rfl)
theorem dX2_goMourner_64 : decode cX2_goMourner 64 = .ok (.iload_n 3, 1) := dk_29 (dk_at dksX2_goMourner_2 17 rfl rfl)
theorem dX2_goMourner_65 : decode cX2_goMourner 65 = .ok (.iastore, 1) := dk_79 (dk_at dksX2_goMourner_2 18 rfl rfl)
theorem dX2_goMourner_66 : decode cX2_goMourner 66 = .ok (.aload_n 0, 1) := dk_42 (dk_at dksX2_goMourner_2 19 rfl rfl)
theorem dX2_goMourner_67 : decode cX2_goMourner 67 = .ok (.getfield 31, 3) := dk_180 0 31 (dk_at dksX2_goMourner_2 20 rfl rfl)
theorem dX2_goMourner_70 : decode cX2_goMourner 70 = .ok (.iload_n 1, 1) := dk_27 (dk_at dksX2_goMourner_2 23 rfl rfl)
theorem dX2_goMourner_71 : decode cX2_goMourner 71 = .ok (.dup2, 1) := dk_92 (dk_at dksX2_goMourner_3 0 rfl rfl)
theorem dX2_goMourner_72 : decode cX2_goMourner 72 = .ok (.iaload, 1) := dk_46 (dk_at dksX2_goMourner_3 1 rfl rfl)
theorem dX2_goMourner_73 : decode cX2_goMourner 73 = .ok (.iconst 1, 1) := dk_4 (dk_at dksX2_goMourner_3 2 rfl rfl)
theorem dX2_goMourner_74 : decode cX2_goMourner 74 = .ok (.iadd, 1) := dk_96 (dk_at dksX2_goMourner_3 3 rfl rfl)
theorem dX2_goMourner_75 : decode cX2_goMourner 75 = .ok (.iastore, 1) := dk_79 (dk_at dksX2_goMourner_3 4 rfl rfl)
theorem dX2_goMourner_76 : decode cX2_goMourner 76 = .ok (.aload_n 0, 1) := dk_42 (dk_at dksX2_goMourner_3 5 rfl rfl)
theorem dX2_goMourner_77 : decode cX2_goMourner 77 = .ok (.getfield 25, 3) := dk_180 0 25 (dk_at dksX2_goMourner_3 6 rfl rfl)
theorem dX2_goMourner_80 : decode cX2_goMourner 80 = .ok (.iload_n 1, 1) := dk_27 (dk_at dksX2_goMourner_3 9 rfl rfl)
theorem dX2_goMourner_81 : decode cX2_goMourner 81 = .ok (.iaload, 1) := dk_46 (dk_at dksX2_goMourner_3 10 rfl rfl)
theorem dX2_goMourner_82 : decode cX2_goMourner 82 = .ok (.istore_n 2, 1) := dk_61 (dk_at dksX2_goMourner_3 11 rfl rfl)
theorem dX2_goMourner_83 : decode cX2_goMourner 83 = .ok (.iload_n 2, 1) := dk_28 (dk_at dksX2_goMourner_3 12 rfl rfl)
theorem dX2_goMourner_84 : decode cX2_goMourner 84 = .ok (.iconst (-1), 1) := dk_2 (dk_at dksX2_goMourner_3 13 rfl rfl)
theorem dX2_goMourner_85 : decode cX2_goMourner 85 = .ok (.if_icmp .eq 34, 3) := dk_159 0 34 (dk_at dksX2_goMourner_3 14 rfl rfl)
theorem dX2_goMourner_88 : decode cX2_goMourner 88 = .ok (.aload_n 0, 1) := dk_42 (dk_at dksX2_goMourner_3 17 rfl rfl)
theorem dX2_goMourner_89 : decode cX2_goMourner 89 = .ok (.getfield 22, 3) := dk_180 0 22 (dk_at dksX2_goMourner_3 18 rfl rfl)
theorem dX2_goMourner_92 : decode cX2_goMourner 92 = .ok (.iload_n 1, 1) := dk_27 (dk_at dksX2_goMourner_3 21 rfl rfl)
theorem dX2_goMourner_93 : decode cX2_goMourner 93 = .ok (.dup2, 1) := dk_92 (dk_at dksX2_goMourner_3 22 rfl rfl)
theorem dX2_goMourner_94 : decode cX2_goMourner 94 = .ok (.iaload, 1) := dk_46 (dk_at dksX2_goMourner_3 23 rfl rfl)
theorem dX2_goMourner_95 : decode cX2_goMourner 95 = .ok (.bipush (-2), 2) := dk_16 254 (dk_at dksX2_goMourner_4 0 rfl rfl)
theorem dX2_goMourner_97 : decode cX2_goMourner 97 = .ok (.iconst 2, 1) := dk_5 (dk_at dksX2_goMourner_4 2 rfl rfl)
theorem dX2_goMourner_98 : decode cX2_goMourner 98 = .ok (.aload_n 0, 1) := dk_42 (dk_at dksX2_goMourner_4 3 rfl rfl)
theorem dX2_goMourner_99 : decode cX2_goMourner 99 = .ok (.getfield 15, 3) := dk_180 0 15 (dk_at dksX2_goMourner_4 4 rfl rfl)
theorem dX2_goMourner_102 : decode cX2_goMourner 102 = .ok (.iload_n 2, 1) := dk_28 (dk_at dksX2_goMourner_4 7 rfl rfl)
theorem dX2_goMourner_103 : decode cX2_goMourner 103 = .ok (.iaload, 1) := dk_46 (dk_at dksX2_goMourner_4 8 rfl rfl)
theorem dX2_goMourner_104 : decode cX2_goMourner 104 = .ok (.aload_n 0, 1) := dk_42 (dk_at dksX2_goMourner_4 9 rfl rfl)
theorem dX2_goMourner_105 : decode cX2_goMourner 105 = .ok (.getfield 22, 3) := dk_180 0 22 (dk_at dksX2_goMourner_4 10 rfl rfl)
theorem dX2_goMourner_108 : decode cX2_goMourner 108 = .ok (.iload_n 1, 1) := dk_27 (dk_at dksX2_goMourner_4 13 rfl rfl)
theorem dX2_goMourner_109 : decode cX2_goMourner 109 = .ok (.iaload, 1) := dk_46 (dk_at dksX2_goMourner_4 14 rfl rfl)
theorem dX2_goMourner_110 : decode cX2_goMourner 110 = .ok (.isub, 1) := dk_100 (dk_at dksX2_goMourner_4 15 rfl rfl)
theorem dX2_goMourner_111 : decode cX2_goMourner 111 = .ok (.invokestatic 85, 3) := dk_184 0 85 (dk_at dksX2_goMourner_4 16 rfl rfl)
theorem dX2_goMourner_114 : decode cX2_goMourner 114 = .ok (.invokestatic 91, 3) := dk_184 0 91 (dk_at dksX2_goMourner_4 19 rfl rfl)
theorem dX2_goMourner_117 : decode cX2_goMourner 117 = .ok (.iadd, 1) := dk_96 (dk_at dksX2_goMourner_4 22 rfl rfl)
theorem dX2_goMourner_118 : decode cX2_goMourner 118 = .ok (.iastore, 1) := dk_79 (dk_at dksX2_goMourner_4 23 rfl rfl)
theorem dX2_goMourner_119 : decode cX2_goMourner 119 = .ok (.return_, 1) := dk_177 (dk_at dksX2_goMourner_5 0 rfl rfl)
abbrev cX2_isOn : ByteArray := prog_9_method_3_code
def yX2_isOn : MethodName := ⟨RX2, "isOn", "(I)Z"⟩
def dkwX2_isOn_0 : List UInt8 := [42, 180, 0, 15, 27, 46, 2, 159, 0, 7, 4, 167, 0, 4, 3, 172]
abbrev dktX2_isOn_0 : List UInt8 := dkwX2_isOn_0 ++ []
theorem dksX2_isOn_0 : cX2_isOn.data.toList.drop 0 = dktX2_isOn_0 := by decide +kernel
theorem dX2_isOn_0 : decode cX2_isOn 0 = .ok (.aload_n 0, 1) := dk_42 (dk_at dksX2_isOn_0 0 rfl rfl)
theorem dX2_isOn_1 : decode cX2_isOn 1 = .ok (.getfield 15, 3) := dk_180 0 15 (dk_at dksX2_isOn_0 1 rfl rfl)
theorem dX2_isOn_4 : decode cX2_isOn 4 = .ok (.iload_n 1, 1) := dk_27 (dk_at dksX2_isOn_0 4 rfl rfl)
theorem dX2_isOn_5 : decode cX2_isOn 5 = .ok (.iaload, 1) := dk_46 (dk_at dksX2_isOn_0 5 rfl rfl)
theorem dX2_isOn_6 : decode cX2_isOn 6 = .ok (.iconst (-1), 1) := dk_2 (dk_at dksX2_isOn_0 6 rfl rfl)
theorem dX2_isOn_7 : decode cX2_isOn 7 = .ok (.if_icmp .eq 7, 3) := dk_159 0 7 (dk_at dksX2_isOn_0 7 rfl rfl)
theorem dX2_isOn_10 : decode cX2_isOn 10 = .ok (.iconst 1, 1) := dk_4 (dk_at dksX2_isOn_0 10 rfl rfl)
theorem dX2_isOn_11 : decode cX2_isOn 11 = .ok (.goto 4, 3) := dk_167 0 4 (dk_at dksX2_isOn_0 11 rfl rfl)
theorem dX2_isOn_14 : decode cX2_isOn 14 = .ok (.iconst 0, 1) := dk_3 (dk_at dksX2_isOn_0 14 rfl rfl)
theorem dX2_isOn_15 : decode cX2_isOn 15 = .ok (.ireturn, 1) := dk_172 (dk_at dksX2_isOn_0 15 rfl rfl)
abbrev cX2_nearest : ByteArray := prog_9_method_15_code
def yX2_nearest : MethodName := ⟨RX2, "nearest", "(I)I"⟩
def dkwX2_nearest_4 : List UInt8 := [167, 255, 165, 28, 172]
abbrev dktX2_nearest_4 : List UInt8 := dkwX2_nearest_4 ++ []
def dkwX2_nearest_3 : List UInt8 := [46, 164, 0, 20, 42, 180, 0, 15, 28, 46, 42, 180, 0, 22, 27, 46, 163, 0, 5, 29, 61, 132, 3, 1]
abbrev dktX2_nearest_3 : List UInt8 := dkwX2_nearest_3 ++ dktX2_nearest_4
def dkwX2_nearest_2 : List UInt8 := [100, 54, 4, 21, 4, 155, 0, 38, 21, 4, 154, 0, 35, 42, 180, 0, 15, 29, 46, 42, 180, 0, 22, 27]
abbrev dktX2_nearest_2 : List UInt8 := dkwX2_nearest_2 ++ dktX2_nearest_3
def dkwX2_nearest_1 : List UInt8 := [167, 0, 69, 28, 2, 160, 0, 7, 2, 167, 0, 16, 42, 27, 29, 182, 0, 112, 42, 27, 28, 182, 0, 112]
abbrev dktX2_nearest_1 : List UInt8 := dkwX2_nearest_1 ++ dktX2_nearest_2
def dkwX2_nearest_0 : List UInt8 := [2, 61, 3, 62, 29, 42, 180, 0, 3, 180, 0, 56, 162, 0, 86, 42, 29, 182, 0, 108, 154, 0, 6]
abbrev dktX2_nearest_0 : List UInt8 := dkwX2_nearest_0 ++ dktX2_nearest_1
theorem dksX2_nearest_0 : cX2_nearest.data.toList.drop 0 = dktX2_nearest_0 := by decide +kernel
theorem dksX2_nearest_1 : cX2_nearest.data.toList.drop 23 = dktX2_nearest_1 := dk_seg dksX2_nearest_0 23 rfl rfl
theorem dksX2_nearest_2 : cX2_nearest.data.toList.drop 47 = dktX2_nearest_2 := dk_seg dksX2_nearest_1 24 rfl rfl
theorem dksX2_nearest_3 : cX2_nearest.data.toList.drop 71 = dktX2_nearest_3 := dk_seg dksX2_nearest_2 24 rfl rfl
theorem dksX2_nearest_4 : cX2_nearest.data.toList.drop 95 = dktX2_nearest_4 := dk_seg dksX2_nearest_3 24 rfl rfl
theorem dX2_nearest_0 : decode cX2_nearest 0 = .ok (.iconst (-1), 1) := dk_2 (dk_at dksX2_nearest_0 0 rfl rfl)
theorem dX2_nearest_1 : decode cX2_nearest 1 = .ok (.istore_n 2, 1) := dk_61 (dk_at dksX2_nearest_0 1 rfl rfl)
theorem dX2_nearest_2 : decode cX2_nearest 2 = .ok (.iconst 0, 1) := dk_3 (dk_at dksX2_nearest_0 2 rfl rfl)
theorem dX2_nearest_3 : decode cX2_nearest 3 = .ok (.istore_n 3, 1) := dk_62 (dk_at dksX2_nearest_0 3 rfl rfl)
theorem dX2_nearest_4 : decode cX2_nearest 4 = .ok (.iload_n 3, 1) := dk_29 (dk_at dksX2_nearest_0 4 rfl rfl)
theorem dX2_nearest_5 : decode cX2_nearest 5 = .ok (.aload_n 0, 1) := dk_42 (dk_at dksX2_nearest_0 5 rfl rfl)
theorem dX2_nearest_6 : decode cX2_nearest 6 = .ok (.getfield 3, 3) := dk_180 0 3 (dk_at dksX2_nearest_0 6 rfl rfl)
theorem dX2_nearest_9 : decode cX2_nearest 9 = .ok (.getfield 56, 3) := dk_180 0 56 (dk_at dksX2_nearest_0 9 rfl rfl)
theorem dX2_nearest_12 : decode cX2_nearest 12 = .ok (.if_icmp .ge 86, 3) := dk_162 0 86 (dk_at dksX2_nearest_0 12 rfl rfl)
theorem dX2_nearest_15 : decode cX2_nearest 15 = .ok (.aload_n 0, 1) := dk_42 (dk_at dksX2_nearest_0 15 rfl rfl)
theorem dX2_nearest_16 : decode cX2_nearest 16 = .ok (.iload_n 3, 1) := dk_29 (dk_at dksX2_nearest_0 16 rfl rfl)
theorem dX2_nearest_17 : decode cX2_nearest 17 = .ok (.invokevirtual 108, 3) := dk_182 0 108 (dk_at dksX2_nearest_0 17 rfl rfl)
theorem dX2_nearest_20 : decode cX2_nearest 20 = .ok (.ifCond .ne 6, 3) := dk_154 0 6 (dk_at dksX2_nearest_0 20 rfl rfl)
theorem dX2_nearest_23 : decode cX2_nearest 23 = .ok (.goto 69, 3) := dk_167 0 69 (dk_at dksX2_nearest_1 0 rfl rfl)
theorem dX2_nearest_26 : decode cX2_nearest 26 = .ok (.iload_n 2, 1) := dk_28 (dk_at dksX2_nearest_1 3 rfl rfl)
theorem dX2_nearest_27 : decode cX2_nearest 27 = .ok (.iconst (-1), 1) := dk_2 (dk_at dksX2_nearest_1 4 rfl rfl)
theorem dX2_nearest_28 : decode cX2_nearest 28 = .ok (.if_icmp .ne 7, 3) := dk_160 0 7 (dk_at dksX2_nearest_1 5 rfl rfl)
theorem dX2_nearest_31 : decode cX2_nearest 31 = .ok (.iconst (-1), 1) := dk_2 (dk_at dksX2_nearest_1 8 rfl rfl)
theorem dX2_nearest_32 : decode cX2_nearest 32 = .ok (.goto 16, 3) := dk_167 0 16 (dk_at dksX2_nearest_1 9 rfl rfl)
theorem dX2_nearest_35 : decode cX2_nearest 35 = .ok (.aload_n 0, 1) := dk_42 (dk_at dksX2_nearest_1 12 rfl rfl)
theorem dX2_nearest_36 : decode cX2_nearest 36 = .ok (.iload_n 1, 1) := dk_27 (dk_at dksX2_nearest_1 13 rfl rfl)
theorem dX2_nearest_37 : decode cX2_nearest 37 = .ok (.iload_n 3, 1) := dk_29 (dk_at dksX2_nearest_1 14 rfl rfl)
theorem dX2_nearest_38 : decode cX2_nearest 38 = .ok (.invokevirtual 112, 3) := dk_182 0 112 (dk_at dksX2_nearest_1 15 rfl rfl)
theorem dX2_nearest_41 : decode cX2_nearest 41 = .ok (.aload_n 0, 1) := dk_42 (dk_at dksX2_nearest_1 18 rfl rfl)
theorem dX2_nearest_42 : decode cX2_nearest 42 = .ok (.iload_n 1, 1) := dk_27 (dk_at dksX2_nearest_1 19 rfl rfl)
theorem dX2_nearest_43 : decode cX2_nearest 43 = .ok (.iload_n 2, 1) := dk_28 (dk_at dksX2_nearest_1 20 rfl rfl)
theorem dX2_nearest_44 : decode cX2_nearest 44 = .ok (.invokevirtual 112, 3) := dk_182 0 112 (dk_at dksX2_nearest_1 21 rfl rfl)
theorem dX2_nearest_47 : decode cX2_nearest 47 = .ok (.isub, 1) := dk_100 (dk_at dksX2_nearest_2 0 rfl rfl)
theorem dX2_nearest_48 : decode cX2_nearest 48 = .ok (.istore 4, 2) := dk_54 4 (dk_at dksX2_nearest_2 1 rfl rfl)
theorem dX2_nearest_50 : decode cX2_nearest 50 = .ok (.iload 4, 2) := dk_21 4 (dk_at dksX2_nearest_2 3 rfl rfl)
theorem dX2_nearest_52 : decode cX2_nearest 52 = .ok (.ifCond .lt 38, 3) := dk_155 0 38 (dk_at dksX2_nearest_2 5 rfl rfl)
theorem dX2_nearest_55 : decode cX2_nearest 55 = .ok (.iload 4, 2) := dk_21 4 (dk_at dksX2_nearest_2 8 rfl rfl)
theorem dX2_nearest_57 : decode cX2_nearest 57 = .ok (.ifCond .ne 35, 3) := dk_154 0 35 (dk_at dksX2_nearest_2 10 rfl rfl)
theorem dX2_nearest_60 : decode cX2_nearest 60 = .ok (.aload_n 0, 1) := dk_42 (dk_at dksX2_nearest_2 13 rfl rfl)
theorem dX2_nearest_61 : decode cX2_nearest 61 = .ok (.getfield 15, 3) := dk_180 0 15 (dk_at dksX2_nearest_2 14 rfl rfl)
theorem dX2_nearest_64 : decode cX2_nearest 64 = .ok (.iload_n 3, 1) := dk_29 (dk_at dksX2_nearest_2 17 rfl rfl)
theorem dX2_nearest_65 : decode cX2_nearest 65 = .ok (.iaload, 1) := dk_46 (dk_at dksX2_nearest_2 18 rfl rfl)
theorem dX2_nearest_66 : decode cX2_nearest 66 = .ok (.aload_n 0, 1) := dk_42 (dk_at dksX2_nearest_2 19 rfl rfl)
theorem dX2_nearest_67 : decode cX2_nearest 67 = .ok (.getfield 22, 3) := dk_180 0 22 (dk_at dksX2_nearest_2 20 rfl rfl)
theorem dX2_nearest_70 : decode cX2_nearest 70 = .ok (.iload_n 1, 1) := dk_27 (dk_at dksX2_nearest_2 23 rfl rfl)
theorem dX2_nearest_71 : decode cX2_nearest 71 = .ok (.iaload, 1) := dk_46 (dk_at dksX2_nearest_3 0 rfl rfl)
theorem dX2_nearest_72 : decode cX2_nearest 72 = .ok (.if_icmp .le 20, 3) := dk_164 0 20 (dk_at dksX2_nearest_3 1 rfl rfl)
theorem dX2_nearest_75 : decode cX2_nearest 75 = .ok (.aload_n 0, 1) := dk_42 (dk_at dksX2_nearest_3 4 rfl rfl)
theorem dX2_nearest_76 : decode cX2_nearest 76 = .ok (.getfield 15, 3) := dk_180 0 15 (dk_at dksX2_nearest_3 5 rfl rfl)
theorem dX2_nearest_79 : decode cX2_nearest 79 = .ok (.iload_n 2, 1) := dk_28 (dk_at dksX2_nearest_3 8 rfl rfl)
theorem dX2_nearest_80 : decode cX2_nearest 80 = .ok (.iaload, 1) := dk_46 (dk_at dksX2_nearest_3 9 rfl rfl)
theorem dX2_nearest_81 : decode cX2_nearest 81 = .ok (.aload_n 0, 1) := dk_42 (dk_at dksX2_nearest_3 10 rfl rfl)
theorem dX2_nearest_82 : decode cX2_nearest 82 = .ok (.getfield 22, 3) := dk_180 0 22 (dk_at dksX2_nearest_3 11 rfl rfl)
theorem dX2_nearest_85 : decode cX2_nearest 85 = .ok (.iload_n 1, 1) := dk_27 (dk_at dksX2_nearest_3 14 rfl rfl)
theorem dX2_nearest_86 : decode cX2_nearest 86 = .ok (.iaload, 1) := dk_46 (dk_at dksX2_nearest_3 15 rfl rfl)
theorem dX2_nearest_87 : decode cX2_nearest 87 = .ok (.if_icmp .gt 5, 3) := dk_163 0 5 (dk_at dksX2_nearest_3 16 rfl rfl)
theorem dX2_nearest_90 : decode cX2_nearest 90 = .ok (.iload_n 3, 1) := dk_29 (dk_at dksX2_nearest_3 19 rfl rfl)
theorem dX2_nearest_91 : decode cX2_nearest 91 = .ok (.istore_n 2, 1) := dk_61 (dk_at dksX2_nearest_3 20 rfl rfl)
theorem dX2_nearest_92 : decode cX2_nearest 92 = .ok (.iinc 3 1, 3) := dk_132 3 1 (dk_at dksX2_nearest_3 21 rfl rfl)
theorem dX2_nearest_95 : decode cX2_nearest 95 = .ok (.goto (-91), 3) := dk_167 255 165 (dk_at dksX2_nearest_4 0 rfl rfl)
theorem dX2_nearest_98 : decode cX2_nearest 98 = .ok (.iload_n 2, 1) := dk_28 (dk_at dksX2_nearest_4 3 rfl rfl)
theorem dX2_nearest_99 : decode cX2_nearest 99 = .ok (.ireturn, 1) := dk_172 (dk_at dksX2_nearest_4 4 rfl rfl)
abbrev cX2_apart : ByteArray := prog_9_method_14_code
def yX2_apart : MethodName := ⟨RX2, "apart", "(II)I"⟩
def dkwX2_apart_0 : List UInt8 := [42, 180, 0, 15, 28, 46, 42, 180, 0, 22, 27, 46, 100, 184, 0, 105, 172]
abbrev dktX2_apart_0 : List UInt8 := dkwX2_apart_0 ++ []
theorem dksX2_apart_0 : cX2_apart.data.toList.drop 0 = dktX2_apart_0 := by decide +kernel
theorem dX2_apart_0 : decode cX2_apart 0 = .ok (.aload_n 0, 1) := dk_42 (dk_at dksX2_apart_0 0 rfl rfl)
theorem dX2_apart_1 : decode cX2_apart 1 = .ok (.getfield 15, 3) := dk_180 0 15 (dk_at dksX2_apart_0 1 rfl rfl)
theorem dX2_apart_4 : decode cX2_apart 4 = .ok (.iload_n 2, 1) := dk_28 (dk_at dksX2_apart_0 4 rfl rfl)
theorem dX2_apart_5 : decode cX2_apart 5 = .ok (.iaload, 1) := dk_46 (dk_at dksX2_apart_0 5 rfl rfl)
theorem dX2_apart_6 : decode cX2_apart 6 = .ok (.aload_n 0, 1) := dk_42 (dk_at dksX2_apart_0 6 rfl rfl)
theorem dX2_apart_7 : decode cX2_apart 7 = .ok (.getfield 22, 3) := dk_180 0 22 (dk_at dksX2_apart_0 7 rfl rfl)
theorem dX2_apart_10 : decode cX2_apart 10 = .ok (.iload_n 1, 1) := dk_27 (dk_at dksX2_apart_0 10 rfl rfl)
theorem dX2_apart_11 : decode cX2_apart 11 = .ok (.iaload, 1) := dk_46 (dk_at dksX2_apart_0 11 rfl rfl)
theorem dX2_apart_12 : decode cX2_apart 12 = .ok (.isub, 1) := dk_100 (dk_at dksX2_apart_0 12 rfl rfl)
theorem dX2_apart_13 : decode cX2_apart 13 = .ok (.invokestatic 105, 3) := dk_184 0 105 (dk_at dksX2_apart_0 13 rfl rfl)
theorem dX2_apart_16 : decode cX2_apart 16 = .ok (.ireturn, 1) := dk_172 (dk_at dksX2_apart_0 16 rfl rfl)
abbrev cX2_refusesTurn : ByteArray := prog_9_method_19_code
def yX2_refusesTurn : MethodName := ⟨RX2, "refusesTurn", "(I)I"⟩
def dkwX2_refusesTurn_2 : List UInt8 := [16, 253, 167, 0, 4, 3, 172]
abbrev dktX2_refusesTurn_2 : List UInt8 := dkwX2_refusesTurn_2 ++ []
def dkwX2_refusesTurn_1 : List UInt8 := [182, 0, 108, 153, 0, 21, 42, 180, 0, 25, 27, 46, 42, 180, 0, 3, 180, 0, 69, 27, 46, 160, 0, 8]
abbrev dktX2_refusesTurn_1 : List UInt8 := dkwX2_refusesTurn_1 ++ dktX2_refusesTurn_2
def dkwX2_refusesTurn_0 : List UInt8 := [42, 180, 0, 28, 27, 46, 2, 159, 0, 6, 16, 254, 172, 42, 42, 180, 0, 3, 180, 0, 69, 27, 46]
abbrev dktX2_refusesTurn_0 : List UInt8 := dkwX2_refusesTurn_0 ++ dktX2_refusesTurn_1
theorem dksX2_refusesTurn_0 : cX2_refusesTurn.data.toList.drop 0 = dktX2_refusesTurn_0 := by decide +kernel
theorem dksX2_refusesTurn_1 : cX2_refusesTurn.data.toList.drop 23 = dktX2_refusesTurn_1 := dk_seg dksX2_refusesTurn_0 23 rfl rfl
theorem dksX2_refusesTurn_2 : cX2_refusesTurn.data.toList.drop 47 = dktX2_refusesTurn_2 := dk_seg dksX2_refusesTurn_1 24 rfl rfl
theorem dX2_refusesTurn_0 : decode cX2_refusesTurn 0 = .ok (.aload_n 0, 1) := dk_42 (dk_at dksX2_refusesTurn_0 0 rfl rfl)
theorem dX2_refusesTurn_1 : decode cX2_refusesTurn 1 = .ok (.getfield 28, 3) := dk_180 0 28 (dk_at dksX2_refusesTurn_0 1 rfl rfl)
theorem dX2_refusesTurn_4 : decode cX2_refusesTurn 4 = .ok (.iload_n 1, 1) := dk_27 (dk_at dksX2_refusesTurn_0 4 rfl rfl)
theorem dX2_refusesTurn_5 : decode cX2_refusesTurn 5 = .ok (.iaload, 1) := dk_46 (dk_at dksX2_refusesTurn_0 5 rfl rfl)
theorem dX2_refusesTurn_6 : decode cX2_refusesTurn 6 = .ok (.iconst (-1), 1) := dk_2 (dk_at dksX2_refusesTurn_0 6 rfl rfl)
theorem dX2_refusesTurn_7 : decode cX2_refusesTurn 7 = .ok (.if_icmp .eq 6, 3) := dk_159 0 6 (dk_at dksX2_refusesTurn_0 7 rfl rfl)
theorem dX2_refusesTurn_10 : decode cX2_refusesTurn 10 = .ok (.bipush (-2), 2) := dk_16 254 (dk_at dksX2_refusesTurn_0 10 rfl rfl)
theorem dX2_refusesTurn_12 : decode cX2_refusesTurn 12 = .ok (.ireturn, 1) := dk_172 (dk_at dksX2_refusesTurn_0 12 rfl rfl)
theorem dX2_refusesTurn_13 : decode cX2_refusesTurn 13 = .ok (.aload_n 0, 1) := dk_42 (dk_at dksX2_refusesTurn_0 13 rfl rfl)
theorem dX2_refusesTurn_14 : decode cX2_refusesTurn 14 = .ok (.aload_n 0, 1) := dk_42 (dk_at dksX2_refusesTurn_0 14 rfl rfl)
theorem dX2_refusesTurn_15 : decode cX2_refusesTurn 15 = .ok (.getfield 3, 3) := dk_180 0 3 (dk_at dksX2_refusesTurn_0 15 rfl rfl)
theorem dX2_refusesTurn_18 : decode cX2_refusesTurn 18 = .ok (.getfield 69, 3) := dk_180 0 69 (dk_at dksX2_refusesTurn_0 18 rfl rfl)
theorem dX2_refusesTurn_21 : decode cX2_refusesTurn 21 = .ok (.iload_n 1, 1) := dk_27 (dk_at dksX2_refusesTurn_0 21 rfl rfl)
theorem dX2_refusesTurn_22 : decode cX2_refusesTurn 22 = .ok (.iaload, 1) := dk_46 (dk_at dksX2_refusesTurn_0 22 rfl rfl)
theorem dX2_refusesTurn_23 : decode cX2_refusesTurn 23 = .ok (.invokevirtual 108, 3) := dk_182 0 108 (dk_at dksX2_refusesTurn_1 0 rfl rfl)
theorem dX2_refusesTurn_26 : decode cX2_refusesTurn 26 = .ok (.ifCond .eq 21, 3) := dk_153 0 21 (dk_at dksX2_refusesTurn_1 3 rfl rfl)
theorem dX2_refusesTurn_29 : decode cX2_refusesTurn 29 = .ok (.aload_n 0, 1) := dk_42 (dk_at dksX2_refusesTurn_1 6 rfl rfl)
theorem dX2_refusesTurn_30 : decode cX2_refusesTurn 30 = .ok (.getfield 25, 3) := dk_180 0 25 (dk_at dksX2_refusesTurn_1 7 rfl rfl)
theorem dX2_refusesTurn_33 : decode cX2_refusesTurn 33 = .ok (.iload_n 1, 1) := dk_27 (dk_at dksX2_refusesTurn_1 10 rfl rfl)
theorem dX2_refusesTurn_34 : decode cX2_refusesTurn 34 = .ok (.iaload, 1) := dk_46 (dk_at dksX2_refusesTurn_1 11 rfl rfl)
theorem dX2_refusesTurn_35 : decode cX2_refusesTurn 35 = .ok (.aload_n 0, 1) := dk_42 (dk_at dksX2_refusesTurn_1 12 rfl rfl)
theorem dX2_refusesTurn_36 : decode cX2_refusesTurn 36 = .ok (.getfield 3, 3) := dk_180 0 3 (dk_at dksX2_refusesTurn_1 13 rfl rfl)
theorem dX2_refusesTurn_39 : decode cX2_refusesTurn 39 = .ok (.getfield 69, 3) := dk_180 0 69 (dk_at dksX2_refusesTurn_1 16 rfl rfl)
theorem dX2_refusesTurn_42 : decode cX2_refusesTurn 42 = .ok (.iload_n 1, 1) := dk_27 (dk_at dksX2_refusesTurn_1 19 rfl rfl)
theorem dX2_refusesTurn_43 : decode cX2_refusesTurn 43 = .ok (.iaload, 1) := dk_46 (dk_at dksX2_refusesTurn_1 20 rfl rfl)
theorem dX2_refusesTurn_44 : decode cX2_refusesTurn 44 = .ok (.if_icmp .ne 8, 3) := dk_160 0 8 (dk_at dksX2_refusesTurn_1 21 rfl rfl)
theorem dX2_refusesTurn_47 : decode cX2_refusesTurn 47 = .ok (.bipush (-3), 2) := dk_16 253 (dk_at dksX2_refusesTurn_2 0 rfl rfl)
theorem dX2_refusesTurn_49 : decode cX2_refusesTurn 49 = .ok (.goto 4, 3) := dk_167 0 4 (dk_at dksX2_refusesTurn_2 2 rfl rfl)
theorem dX2_refusesTurn_52 : decode cX2_refusesTurn 52 = .ok (.iconst 0, 1) := dk_3 (dk_at dksX2_refusesTurn_2 5 rfl rfl)
theorem dX2_refusesTurn_53 : decode cX2_refusesTurn 53 = .ok (.ireturn, 1) := dk_172 (dk_at dksX2_refusesTurn_2 6 rfl rfl)
abbrev cX2_pushed : ByteArray := prog_9_method_20_code
def yX2_pushed : MethodName := ⟨RX2, "pushed", "(II)V"⟩
def dkwX2_pushed_1 : List UInt8 := [184, 0, 85, 184, 0, 91, 79, 177]
abbrev dktX2_pushed_1 : List UInt8 := dkwX2_pushed_1 ++ []
def dkwX2_pushed_0 : List UInt8 := [42, 180, 0, 22, 27, 3, 42, 180, 0, 3, 180, 0, 59, 5, 100, 42, 180, 0, 22, 27, 46, 28, 96]
abbrev dktX2_pushed_0 : List UInt8 := dkwX2_pushed_0 ++ dktX2_pushed_1
theorem dksX2_pushed_0 : cX2_pushed.data.toList.drop 0 = dktX2_pushed_0 := by decide +kernel
theorem dksX2_pushed_1 : cX2_pushed.data.toList.drop 23 = dktX2_pushed_1 := dk_seg dksX2_pushed_0 23 rfl rfl
theorem dX2_pushed_0 : decode cX2_pushed 0 = .ok (.aload_n 0, 1) := dk_42 (dk_at dksX2_pushed_0 0 rfl rfl)
theorem dX2_pushed_1 : decode cX2_pushed 1 = .ok (.getfield 22, 3) := dk_180 0 22 (dk_at dksX2_pushed_0 1 rfl rfl)
theorem dX2_pushed_4 : decode cX2_pushed 4 = .ok (.iload_n 1, 1) := dk_27 (dk_at dksX2_pushed_0 4 rfl rfl)
theorem dX2_pushed_5 : decode cX2_pushed 5 = .ok (.iconst 0, 1) := dk_3 (dk_at dksX2_pushed_0 5 rfl rfl)
theorem dX2_pushed_6 : decode cX2_pushed 6 = .ok (.aload_n 0, 1) := dk_42 (dk_at dksX2_pushed_0 6 rfl rfl)
theorem dX2_pushed_7 : decode cX2_pushed 7 = .ok (.getfield 3, 3) := dk_180 0 3 (dk_at dksX2_pushed_0 7 rfl rfl)
theorem dX2_pushed_10 : decode cX2_pushed 10 = .ok (.getfield 59, 3) := dk_180 0 59 (dk_at dksX2_pushed_0 10 rfl rfl)
theorem dX2_pushed_13 : decode cX2_pushed 13 = .ok (.iconst 2, 1) := dk_5 (dk_at dksX2_pushed_0 13 rfl rfl)
theorem dX2_pushed_14 : decode cX2_pushed 14 = .ok (.isub, 1) := dk_100 (dk_at dksX2_pushed_0 14 rfl rfl)
theorem dX2_pushed_15 : decode cX2_pushed 15 = .ok (.aload_n 0, 1) := dk_42 (dk_at dksX2_pushed_0 15 rfl rfl)
theorem dX2_pushed_16 : decode cX2_pushed 16 = .ok (.getfield 22, 3) := dk_180 0 22 (dk_at dksX2_pushed_0 16 rfl rfl)
theorem dX2_pushed_19 : decode cX2_pushed 19 = .ok (.iload_n 1, 1) := dk_27 (dk_at dksX2_pushed_0 19 rfl rfl)
theorem dX2_pushed_20 : decode cX2_pushed 20 = .ok (.iaload, 1) := dk_46 (dk_at dksX2_pushed_0 20 rfl rfl)
theorem dX2_pushed_21 : decode cX2_pushed 21 = .ok (.iload_n 2, 1) := dk_28 (dk_at dksX2_pushed_0 21 rfl rfl)
theorem dX2_pushed_22 : decode cX2_pushed 22 = .ok (.iadd, 1) := dk_96 (dk_at dksX2_pushed_0 22 rfl rfl)
theorem dX2_pushed_23 : decode cX2_pushed 23 = .ok (.invokestatic 85, 3) := dk_184 0 85 (dk_at dksX2_pushed_1 0 rfl rfl)
theorem dX2_pushed_26 : decode cX2_pushed 26 = .ok (.invokestatic 91, 3) := dk_184 0 91 (dk_at dksX2_pushed_1 3 rfl rfl)
theorem dX2_pushed_29 : decode cX2_pushed 29 = .ok (.iastore, 1) := dk_79 (dk_at dksX2_pushed_1 6 rfl rfl)
theorem dX2_pushed_30 : decode cX2_pushed 30 = .ok (.return_, 1) := dk_177 (dk_at dksX2_pushed_1 7 rfl rfl)
abbrev cX2_rightOnes : ByteArray := prog_9_method_8_code
def yX2_rightOnes : MethodName := ⟨RX2, "rightOnes", "()I"⟩
def dkwX2_rightOnes_2 : List UInt8 := [167, 255, 214, 27, 172]
abbrev dktX2_rightOnes_2 : List UInt8 := dkwX2_rightOnes_2 ++ []
def dkwX2_rightOnes_1 : List UInt8 := [180, 0, 3, 180, 0, 69, 28, 46, 160, 0, 9, 4, 28, 120, 167, 0, 4, 3, 128, 60, 132, 2, 1]
abbrev dktX2_rightOnes_1 : List UInt8 := dkwX2_rightOnes_1 ++ dktX2_rightOnes_2
def dkwX2_rightOnes_0 : List UInt8 := [3, 60, 3, 61, 28, 42, 180, 0, 3, 180, 0, 66, 162, 0, 37, 27, 42, 180, 0, 28, 28, 46, 42]
abbrev dktX2_rightOnes_0 : List UInt8 := dkwX2_rightOnes_0 ++ dktX2_rightOnes_1
theorem dksX2_rightOnes_0 : cX2_rightOnes.data.toList.drop 0 = dktX2_rightOnes_0 := by decide +kernel
theorem dksX2_rightOnes_1 : cX2_rightOnes.data.toList.drop 23 = dktX2_rightOnes_1 := dk_seg dksX2_rightOnes_0 23 rfl rfl
theorem dksX2_rightOnes_2 : cX2_rightOnes.data.toList.drop 46 = dktX2_rightOnes_2 := dk_seg dksX2_rightOnes_1 23 rfl rfl
theorem dX2_rightOnes_0 : decode cX2_rightOnes 0 = .ok (.iconst 0, 1) := dk_3 (dk_at dksX2_rightOnes_0 0 rfl rfl)
theorem dX2_rightOnes_1 : decode cX2_rightOnes 1 = .ok (.istore_n 1, 1) := dk_60 (dk_at dksX2_rightOnes_0 1 rfl rfl)
theorem dX2_rightOnes_2 : decode cX2_rightOnes 2 = .ok (.iconst 0, 1) := dk_3 (dk_at dksX2_rightOnes_0 2 rfl rfl)
theorem dX2_rightOnes_3 : decode cX2_rightOnes 3 = .ok (.istore_n 2, 1) := dk_61 (dk_at dksX2_rightOnes_0 3 rfl rfl)
theorem dX2_rightOnes_4 : decode cX2_rightOnes 4 = .ok (.iload_n 2, 1) := dk_28 (dk_at dksX2_rightOnes_0 4 rfl rfl)
theorem dX2_rightOnes_5 : decode cX2_rightOnes 5 = .ok (.aload_n 0, 1) := dk_42 (dk_at dksX2_rightOnes_0 5 rfl rfl)
theorem dX2_rightOnes_6 : decode cX2_rightOnes 6 = .ok (.getfield 3, 3) := dk_180 0 3 (dk_at dksX2_rightOnes_0 6 rfl rfl)
theorem dX2_rightOnes_9 : decode cX2_rightOnes 9 = .ok (.getfield 66, 3) := dk_180 0 66 (dk_at dksX2_rightOnes_0 9 rfl rfl)
theorem dX2_rightOnes_12 : decode cX2_rightOnes 12 = .ok (.if_icmp .ge 37, 3) := dk_162 0 37 (dk_at dksX2_rightOnes_0 12 rfl rfl)
theorem dX2_rightOnes_15 : decode cX2_rightOnes 15 = .ok (.iload_n 1, 1) := dk_27 (dk_at dksX2_rightOnes_0 15 rfl rfl)
theorem dX2_rightOnes_16 : decode cX2_rightOnes 16 = .ok (.aload_n 0, 1) := dk_42 (dk_at dksX2_rightOnes_0 16 rfl rfl)
theorem dX2_rightOnes_17 : decode cX2_rightOnes 17 = .ok (.getfield 28, 3) := dk_180 0 28 (dk_at dksX2_rightOnes_0 17 rfl rfl)
theorem dX2_rightOnes_20 : decode cX2_rightOnes 20 = .ok (.iload_n 2, 1) := dk_28 (dk_at dksX2_rightOnes_0 20 rfl rfl)
theorem dX2_rightOnes_21 : decode cX2_rightOnes 21 = .ok (.iaload, 1) := dk_46 (dk_at dksX2_rightOnes_0 21 rfl rfl)
theorem dX2_rightOnes_22 : decode cX2_rightOnes 22 = .ok (.aload_n 0, 1) := dk_42 (dk_at dksX2_rightOnes_0 22 rfl rfl)
theorem dX2_rightOnes_23 : decode cX2_rightOnes 23 = .ok (.getfield 3, 3) := dk_180 0 3 (dk_at dksX2_rightOnes_1 0 rfl rfl)
theorem dX2_rightOnes_26 : decode cX2_rightOnes 26 = .ok (.getfield 69, 3) := dk_180 0 69 (dk_at dksX2_rightOnes_1 3 rfl rfl)
theorem dX2_rightOnes_29 : decode cX2_rightOnes 29 = .ok (.iload_n 2, 1) := dk_28 (dk_at dksX2_rightOnes_1 6 rfl rfl)
theorem dX2_rightOnes_30 : decode cX2_rightOnes 30 = .ok (.iaload, 1) := dk_46 (dk_at dksX2_rightOnes_1 7 rfl rfl)
theorem dX2_rightOnes_31 : decode cX2_rightOnes 31 = .ok (.if_icmp .ne 9, 3) := dk_160 0 9 (dk_at dksX2_rightOnes_1 8 rfl rfl)
theorem dX2_rightOnes_34 : decode cX2_rightOnes 34 = .ok (.iconst 1, 1) := dk_4 (dk_at dksX2_rightOnes_1 11 rfl rfl)
theorem dX2_rightOnes_35 : decode cX2_rightOnes 35 = .ok (.iload_n 2, 1) := dk_28 (dk_at dksX2_rightOnes_1 12 rfl rfl)
theorem dX2_rightOnes_36 : decode cX2_rightOnes 36 = .ok (.ishl, 1) := dk_120 (dk_at dksX2_rightOnes_1 13 rfl rfl)
theorem dX2_rightOnes_37 : decode cX2_rightOnes 37 = .ok (.goto 4, 3) := dk_167 0 4 (dk_at dksX2_rightOnes_1 14 rfl rfl)
theorem dX2_rightOnes_40 : decode cX2_rightOnes 40 = .ok (.iconst 0, 1) := dk_3 (dk_at dksX2_rightOnes_1 17 rfl rfl)
theorem dX2_rightOnes_41 : decode cX2_rightOnes 41 = .ok (.ior, 1) := dk_128 (dk_at dksX2_rightOnes_1 18 rfl rfl)
theorem dX2_rightOnes_42 : decode cX2_rightOnes 42 = .ok (.istore_n 1, 1) := dk_60 (dk_at dksX2_rightOnes_1 19 rfl rfl)
theorem dX2_rightOnes_43 : decode cX2_rightOnes 43 = .ok (.iinc 2 1, 3) := dk_132 2 1 (dk_at dksX2_rightOnes_1 20 rfl rfl)
theorem dX2_rightOnes_46 : decode cX2_rightOnes 46 = .ok (.goto (-42), 3) := dk_167 255 214 (dk_at dksX2_rightOnes_2 0 rfl rfl)
theorem dX2_rightOnes_49 : decode cX2_rightOnes 49 = .ok (.iload_n 1, 1) := dk_27 (dk_at dksX2_rightOnes_2 3 rfl rfl)
theorem dX2_rightOnes_50 : decode cX2_rightOnes 50 = .ok (.ireturn, 1) := dk_172 (dk_at dksX2_rightOnes_2 4 rfl rfl)
abbrev cX2_endedOnes : ByteArray := prog_9_method_9_code
def yX2_endedOnes : MethodName := ⟨RX2, "endedOnes", "()I"⟩
def dkwX2_endedOnes_1 : List UInt8 := [160, 0, 7, 3, 167, 0, 6, 4, 28, 120, 128, 60, 132, 2, 1, 167, 255, 222, 27, 172]
abbrev dktX2_endedOnes_1 : List UInt8 := dkwX2_endedOnes_1 ++ []
def dkwX2_endedOnes_0 : List UInt8 := [3, 60, 3, 61, 28, 42, 180, 0, 3, 180, 0, 66, 162, 0, 29, 27, 42, 180, 0, 28, 28, 46, 2]
abbrev dktX2_endedOnes_0 : List UInt8 := dkwX2_endedOnes_0 ++ dktX2_endedOnes_1
theorem dksX2_endedOnes_0 : cX2_endedOnes.data.toList.drop 0 = dktX2_endedOnes_0 := by decide +kernel
theorem dksX2_endedOnes_1 : cX2_endedOnes.data.toList.drop 23 = dktX2_endedOnes_1 := dk_seg dksX2_endedOnes_0 23 rfl rfl
theorem dX2_endedOnes_0 : decode cX2_endedOnes 0 = .ok (.iconst 0, 1) := dk_3 (dk_at dksX2_endedOnes_0 0 rfl rfl)
theorem dX2_endedOnes_1 : decode cX2_endedOnes 1 = .ok (.istore_n 1, 1) := dk_60 (dk_at dksX2_endedOnes_0 1 rfl rfl)
theorem dX2_endedOnes_2 : decode cX2_endedOnes 2 = .ok (.iconst 0, 1) := dk_3 (dk_at dksX2_endedOnes_0 2 rfl rfl)
theorem dX2_endedOnes_3 : decode cX2_endedOnes 3 = .ok (.istore_n 2, 1) := dk_61 (dk_at dksX2_endedOnes_0 3 rfl rfl)
theorem dX2_endedOnes_4 : decode cX2_endedOnes 4 = .ok (.iload_n 2, 1) := dk_28 (dk_at dksX2_endedOnes_0 4 rfl rfl)
theorem dX2_endedOnes_5 : decode cX2_endedOnes 5 = .ok (.aload_n 0, 1) := dk_42 (dk_at dksX2_endedOnes_0 5 rfl rfl)
theorem dX2_endedOnes_6 : decode cX2_endedOnes 6 = .ok (.getfield 3, 3) := dk_180 0 3 (dk_at dksX2_endedOnes_0 6 rfl rfl)
theorem dX2_endedOnes_9 : decode cX2_endedOnes 9 = .ok (.getfield 66, 3) := dk_180 0 66 (dk_at dksX2_endedOnes_0 9 rfl rfl)
theorem dX2_endedOnes_12 : decode cX2_endedOnes 12 = .ok (.if_icmp .ge 29, 3) := dk_162 0 29 (dk_at dksX2_endedOnes_0 12 rfl rfl)
theorem dX2_endedOnes_15 : decode cX2_endedOnes 15 = .ok (.iload_n 1, 1) := dk_27 (dk_at dksX2_endedOnes_0 15 rfl rfl)
theorem dX2_endedOnes_16 : decode cX2_endedOnes 16 = .ok (.aload_n 0, 1) := dk_42 (dk_at dksX2_endedOnes_0 16 rfl rfl)
theorem dX2_endedOnes_17 : decode cX2_endedOnes 17 = .ok (.getfield 28, 3) := dk_180 0 28 (dk_at dksX2_endedOnes_0 17 rfl rfl)
theorem dX2_endedOnes_20 : decode cX2_endedOnes 20 = .ok (.iload_n 2, 1) := dk_28 (dk_at dksX2_endedOnes_0 20 rfl rfl)
theorem dX2_endedOnes_21 : decode cX2_endedOnes 21 = .ok (.iaload, 1) := dk_46 (dk_at dksX2_endedOnes_0 21 rfl rfl)
theorem dX2_endedOnes_22 : decode cX2_endedOnes 22 = .ok (.iconst (-1), 1) := dk_2 (dk_at dksX2_endedOnes_0 22 rfl rfl)
theorem dX2_endedOnes_23 : decode cX2_endedOnes 23 = .ok (.if_icmp .ne 7, 3) := dk_160 0 7 (dk_at dksX2_endedOnes_1 0 rfl rfl)
theorem dX2_endedOnes_26 : decode cX2_endedOnes 26 = .ok (.iconst 0, 1) := dk_3 (dk_at dksX2_endedOnes_1 3 rfl rfl)
theorem dX2_endedOnes_27 : decode cX2_endedOnes 27 = .ok (.goto 6, 3) := dk_167 0 6 (dk_at dksX2_endedOnes_1 4 rfl rfl)
theorem dX2_endedOnes_30 : decode cX2_endedOnes 30 = .ok (.iconst 1, 1) := dk_4 (dk_at dksX2_endedOnes_1 7 rfl rfl)
theorem dX2_endedOnes_31 : decode cX2_endedOnes 31 = .ok (.iload_n 2, 1) := dk_28 (dk_at dksX2_endedOnes_1 8 rfl rfl)
theorem dX2_endedOnes_32 : decode cX2_endedOnes 32 = .ok (.ishl, 1) := dk_120 (dk_at dksX2_endedOnes_1 9 rfl rfl)
theorem dX2_endedOnes_33 : decode cX2_endedOnes 33 = .ok (.ior, 1) := dk_128 (dk_at dksX2_endedOnes_1 10 rfl rfl)
theorem dX2_endedOnes_34 : decode cX2_endedOnes 34 = .ok (.istore_n 1, 1) := dk_60 (dk_at dksX2_endedOnes_1 11 rfl rfl)
theorem dX2_endedOnes_35 : decode cX2_endedOnes 35 = .ok (.iinc 2 1, 3) := dk_132 2 1 (dk_at dksX2_endedOnes_1 12 rfl rfl)
theorem dX2_endedOnes_38 : decode cX2_endedOnes 38 = .ok (.goto (-34), 3) := dk_167 255 222 (dk_at dksX2_endedOnes_1 15 rfl rfl)
theorem dX2_endedOnes_41 : decode cX2_endedOnes 41 = .ok (.iload_n 1, 1) := dk_27 (dk_at dksX2_endedOnes_1 18 rfl rfl)
theorem dX2_endedOnes_42 : decode cX2_endedOnes 42 = .ok (.ireturn, 1) := dk_172 (dk_at dksX2_endedOnes_1 19 rfl rfl)
abbrev cX2_endedAt : ByteArray := prog_9_method_7_code
def yX2_endedAt : MethodName := ⟨RX2, "endedAt", "(I)I"⟩
def dkwX2_endedAt_1 : List UInt8 := [160, 0, 9, 4, 29, 120, 167, 0, 4, 3, 128, 61, 132, 3, 1, 167, 255, 222, 28, 172]
abbrev dktX2_endedAt_1 : List UInt8 := dkwX2_endedAt_1 ++ []
def dkwX2_endedAt_0 : List UInt8 := [3, 61, 3, 62, 29, 42, 180, 0, 3, 180, 0, 66, 162, 0, 29, 28, 42, 180, 0, 28, 29, 46, 27]
abbrev dktX2_endedAt_0 : List UInt8 := dkwX2_endedAt_0 ++ dktX2_endedAt_1
theorem dksX2_endedAt_0 : cX2_endedAt.data.toList.drop 0 = dktX2_endedAt_0 := by decide +kernel
theorem dksX2_endedAt_1 : cX2_endedAt.data.toList.drop 23 = dktX2_endedAt_1 := dk_seg dksX2_endedAt_0 23 rfl rfl
theorem dX2_endedAt_0 : decode cX2_endedAt 0 = .ok (.iconst 0, 1) := dk_3 (dk_at dksX2_endedAt_0 0 rfl rfl)
theorem dX2_endedAt_1 : decode cX2_endedAt 1 = .ok (.istore_n 2, 1) := dk_61 (dk_at dksX2_endedAt_0 1 rfl rfl)
theorem dX2_endedAt_2 : decode cX2_endedAt 2 = .ok (.iconst 0, 1) := dk_3 (dk_at dksX2_endedAt_0 2 rfl rfl)
theorem dX2_endedAt_3 : decode cX2_endedAt 3 = .ok (.istore_n 3, 1) := dk_62 (dk_at dksX2_endedAt_0 3 rfl rfl)
theorem dX2_endedAt_4 : decode cX2_endedAt 4 = .ok (.iload_n 3, 1) := dk_29 (dk_at dksX2_endedAt_0 4 rfl rfl)
theorem dX2_endedAt_5 : decode cX2_endedAt 5 = .ok (.aload_n 0, 1) := dk_42 (dk_at dksX2_endedAt_0 5 rfl rfl)
theorem dX2_endedAt_6 : decode cX2_endedAt 6 = .ok (.getfield 3, 3) := dk_180 0 3 (dk_at dksX2_endedAt_0 6 rfl rfl)
theorem dX2_endedAt_9 : decode cX2_endedAt 9 = .ok (.getfield 66, 3) := dk_180 0 66 (dk_at dksX2_endedAt_0 9 rfl rfl)
theorem dX2_endedAt_12 : decode cX2_endedAt 12 = .ok (.if_icmp .ge 29, 3) := dk_162 0 29 (dk_at dksX2_endedAt_0 12 rfl rfl)
theorem dX2_endedAt_15 : decode cX2_endedAt 15 = .ok (.iload_n 2, 1) := dk_28 (dk_at dksX2_endedAt_0 15 rfl rfl)
theorem dX2_endedAt_16 : decode cX2_endedAt 16 = .ok (.aload_n 0, 1) := dk_42 (dk_at dksX2_endedAt_0 16 rfl rfl)
theorem dX2_endedAt_17 : decode cX2_endedAt 17 = .ok (.getfield 28, 3) := dk_180 0 28 (dk_at dksX2_endedAt_0 17 rfl rfl)
theorem dX2_endedAt_20 : decode cX2_endedAt 20 = .ok (.iload_n 3, 1) := dk_29 (dk_at dksX2_endedAt_0 20 rfl rfl)
theorem dX2_endedAt_21 : decode cX2_endedAt 21 = .ok (.iaload, 1) := dk_46 (dk_at dksX2_endedAt_0 21 rfl rfl)
theorem dX2_endedAt_22 : decode cX2_endedAt 22 = .ok (.iload_n 1, 1) := dk_27 (dk_at dksX2_endedAt_0 22 rfl rfl)
theorem dX2_endedAt_23 : decode cX2_endedAt 23 = .ok (.if_icmp .ne 9, 3) := dk_160 0 9 (dk_at dksX2_endedAt_1 0 rfl rfl)
theorem dX2_endedAt_26 : decode cX2_endedAt 26 = .ok (.iconst 1, 1) := dk_4 (dk_at dksX2_endedAt_1 3 rfl rfl)
theorem dX2_endedAt_27 : decode cX2_endedAt 27 = .ok (.iload_n 3, 1) := dk_29 (dk_at dksX2_endedAt_1 4 rfl rfl)
theorem dX2_endedAt_28 : decode cX2_endedAt 28 = .ok (.ishl, 1) := dk_120 (dk_at dksX2_endedAt_1 5 rfl rfl)
theorem dX2_endedAt_29 : decode cX2_endedAt 29 = .ok (.goto 4, 3) := dk_167 0 4 (dk_at dksX2_endedAt_1 6 rfl rfl)
theorem dX2_endedAt_32 : decode cX2_endedAt 32 = .ok (.iconst 0, 1) := dk_3 (dk_at dksX2_endedAt_1 9 rfl rfl)
theorem dX2_endedAt_33 : decode cX2_endedAt 33 = .ok (.ior, 1) := dk_128 (dk_at dksX2_endedAt_1 10 rfl rfl)
theorem dX2_endedAt_34 : decode cX2_endedAt 34 = .ok (.istore_n 2, 1) := dk_61 (dk_at dksX2_endedAt_1 11 rfl rfl)
theorem dX2_endedAt_35 : decode cX2_endedAt 35 = .ok (.iinc 3 1, 3) := dk_132 3 1 (dk_at dksX2_endedAt_1 12 rfl rfl)
theorem dX2_endedAt_38 : decode cX2_endedAt 38 = .ok (.goto (-34), 3) := dk_167 255 222 (dk_at dksX2_endedAt_1 15 rfl rfl)
theorem dX2_endedAt_41 : decode cX2_endedAt 41 = .ok (.iload_n 2, 1) := dk_28 (dk_at dksX2_endedAt_1 18 rfl rfl)
theorem dX2_endedAt_42 : decode cX2_endedAt 42 = .ok (.ireturn, 1) := dk_172 (dk_at dksX2_endedAt_1 19 rfl rfl)
theorem q80 : (Jvm.Cond.initialized "BehindAnotherHearse$Street") ∈ lw_all := lw_g (lw_at lw_m1 2 rfl) rfl
theorem q116 : (Jvm.Cond.instantiable "BehindAnotherHearse$Street" (10 : Nat)) ∈ lw_all := lw_g (lw_at lw_m1 38 rfl) rfl
theorem q118 : (Jvm.Cond.instanceMethod ({ cls := "BehindAnotherHearse$Street", name := "<init>", desc := "(LBehindAnotherHearse;)V" } : Jvm.MethodName)) ∈ lw_all := lw_g (lw_at lw_m1 40 rfl) rfl
theorem q119 : (Jvm.Cond.code ({ cls := "BehindAnotherHearse$Street", name := "<init>", desc := "(LBehindAnotherHearse;)V" } : Jvm.MethodName) prog_9_method_1_code (2 : Nat) (Option.none : Option Jvm.ClassFile.FieldType)) ∈ lw_all := lw_g (lw_at lw_m1 41 rfl) rfl
theorem q120 : (Jvm.Cond.methodLink "BehindAnotherHearse$Street" (9 : Nat) ({ cls := "java/lang/Object", name := "<init>", desc := "()V" } : Jvm.MethodName)) ∈ lw_all := lw_g (lw_at lw_m1 42 rfl) rfl
theorem q121 : (Jvm.Cond.fieldLink "BehindAnotherHearse$Street" (15 : Nat) "BehindAnotherHearse$Street" "at" "[I") ∈ lw_all := lw_g (lw_at lw_m1 43 rfl) rfl
theorem q126 : (Jvm.Cond.fieldLink "BehindAnotherHearse$Street" (19 : Nat) "BehindAnotherHearse$Street" "rank" "[I") ∈ lw_all := lw_g (lw_at lw_m1 48 rfl) rfl
theorem q128 : (Jvm.Cond.fieldLink "BehindAnotherHearse$Street" (22 : Nat) "BehindAnotherHearse$Street" "cell" "[I") ∈ lw_all := lw_g (lw_at lw_m1 50 rfl) rfl
theorem q131 : (Jvm.Cond.fieldLink "BehindAnotherHearse$Street" (25 : Nat) "BehindAnotherHearse$Street" "follows" "[I") ∈ lw_all := lw_g (lw_at lw_m1 53 rfl) rfl
theorem q136 : (Jvm.Cond.fieldLink "BehindAnotherHearse$Street" (28 : Nat) "BehindAnotherHearse$Street" "ended" "[I") ∈ lw_all := lw_g (lw_at lw_m1 58 rfl) rfl
theorem q139 : (Jvm.Cond.fieldLink "BehindAnotherHearse$Street" (31 : Nat) "BehindAnotherHearse$Street" "changes" "[I") ∈ lw_all := lw_g (lw_at lw_m1 61 rfl) rfl
theorem q141 : (Jvm.Cond.fieldLink "BehindAnotherHearse$Street" (34 : Nat) "BehindAnotherHearse$Street" "waits" "[I") ∈ lw_all := lw_g (lw_at lw_m1 63 rfl) rfl
theorem q143 : (Jvm.Cond.fieldLink "BehindAnotherHearse$Street" (43 : Nat) "BehindAnotherHearse$Street" "step" "I") ∈ lw_all := lw_g (lw_at lw_m1 65 rfl) rfl
theorem q147 : (Jvm.Cond.fieldLink "BehindAnotherHearse$Street" (47 : Nat) "BehindAnotherHearse$Street" "arrived" "I") ∈ lw_all := lw_g (lw_at lw_m1 69 rfl) rfl
theorem q149 : (Jvm.Cond.fieldLink "BehindAnotherHearse$Street" (3 : Nat) "BehindAnotherHearse$Street" "this$0" "LBehindAnotherHearse;") ∈ lw_all := lw_g (lw_at lw_m1 71 rfl) rfl
theorem q150 : (Jvm.Cond.laysFinal "BehindAnotherHearse$Street" "BehindAnotherHearse$Street" "at" "[I") ∈ lw_all := lw_g (lw_at lw_m1 72 rfl) rfl
theorem q151 : (Jvm.Cond.soleField "BehindAnotherHearse$Street" "at") ∈ lw_all := lw_g (lw_at lw_m1 73 rfl) rfl
theorem q152 : (Jvm.Cond.laysFinal "BehindAnotherHearse$Street" "BehindAnotherHearse$Street" "rank" "[I") ∈ lw_all := lw_g (lw_at lw_m1 74 rfl) rfl
theorem q153 : (Jvm.Cond.soleField "BehindAnotherHearse$Street" "rank") ∈ lw_all := lw_g (lw_at lw_m1 75 rfl) rfl
theorem q154 : (Jvm.Cond.laysFinal "BehindAnotherHearse$Street" "BehindAnotherHearse$Street" "cell" "[I") ∈ lw_all := lw_g (lw_at lw_m1 76 rfl) rfl
theorem q155 : (Jvm.Cond.soleField "BehindAnotherHearse$Street" "cell") ∈ lw_all := lw_g (lw_at lw_m1 77 rfl) rfl
theorem q156 : (Jvm.Cond.laysFinal "BehindAnotherHearse$Street" "BehindAnotherHearse$Street" "follows" "[I") ∈ lw_all := lw_g (lw_at lw_m1 78 rfl) rfl
theorem q157 : (Jvm.Cond.soleField "BehindAnotherHearse$Street" "follows") ∈ lw_all := lw_g (lw_at lw_m1 79 rfl) rfl
theorem q158 : (Jvm.Cond.laysFinal "BehindAnotherHearse$Street" "BehindAnotherHearse$Street" "ended" "[I") ∈ lw_all := lw_g (lw_at lw_m1 80 rfl) rfl
theorem q159 : (Jvm.Cond.soleField "BehindAnotherHearse$Street" "ended") ∈ lw_all := lw_g (lw_at lw_m1 81 rfl) rfl
theorem q160 : (Jvm.Cond.laysFinal "BehindAnotherHearse$Street" "BehindAnotherHearse$Street" "changes" "[I") ∈ lw_all := lw_g (lw_at lw_m1 82 rfl) rfl
theorem q161 : (Jvm.Cond.soleField "BehindAnotherHearse$Street" "changes") ∈ lw_all := lw_g (lw_at lw_m1 83 rfl) rfl
theorem q162 : (Jvm.Cond.laysFinal "BehindAnotherHearse$Street" "BehindAnotherHearse$Street" "waits" "[I") ∈ lw_all := lw_g (lw_at lw_m1 84 rfl) rfl
theorem q163 : (Jvm.Cond.soleField "BehindAnotherHearse$Street" "waits") ∈ lw_all := lw_g (lw_at lw_m1 85 rfl) rfl
theorem q164 : (Jvm.Cond.lays "BehindAnotherHearse$Street" "BehindAnotherHearse$Street" "step" "I") ∈ lw_all := lw_g (lw_at lw_m1 86 rfl) rfl
theorem q165 : (Jvm.Cond.soleField "BehindAnotherHearse$Street" "step") ∈ lw_all := lw_g (lw_at lw_m1 87 rfl) rfl
theorem q166 : (Jvm.Cond.lays "BehindAnotherHearse$Street" "BehindAnotherHearse$Street" "arrived" "I") ∈ lw_all := lw_g (lw_at lw_m1 88 rfl) rfl
theorem q167 : (Jvm.Cond.soleField "BehindAnotherHearse$Street" "arrived") ∈ lw_all := lw_g (lw_at lw_m1 89 rfl) rfl
theorem q168 : (Jvm.Cond.laysFinal "BehindAnotherHearse$Street" "BehindAnotherHearse$Street" "this$0" "LBehindAnotherHearse;") ∈ lw_all := lw_g (lw_at lw_m1 90 rfl) rfl
theorem q169 : (Jvm.Cond.soleField "BehindAnotherHearse$Street" "this$0") ∈ lw_all := lw_g (lw_at lw_m1 91 rfl) rfl
theorem q170 : (Jvm.Cond.superclass "BehindAnotherHearse$Street" "java/lang/Object") ∈ lw_all := lw_g (lw_at lw_m1 92 rfl) rfl
theorem q211 : (Jvm.Cond.fieldLinkNest "BehindAnotherHearse$Street" (118 : Nat) "BehindAnotherHearse" "inTurn" "[I" "BehindAnotherHearse") ∈ lw_tbl := lw_at lw_m1 133 rfl
theorem q214 : (Jvm.Cond.fieldLinkNest "BehindAnotherHearse$Street" (69 : Nat) "BehindAnotherHearse" "own" "[I" "BehindAnotherHearse") ∈ lw_tbl := lw_at lw_m1 136 rfl
theorem q217 : (Jvm.Cond.fieldLinkNest "BehindAnotherHearse$Street" (94 : Nat) "BehindAnotherHearse" "corner" "[Z" "BehindAnotherHearse") ∈ lw_tbl := lw_at lw_m1 139 rfl
theorem q219 : (Jvm.Cond.fieldLinkNest "BehindAnotherHearse$Street" (59 : Nat) "BehindAnotherHearse" "cells" "I" "BehindAnotherHearse") ∈ lw_tbl := lw_at lw_m1 141 rfl
theorem q221 : (Jvm.Cond.fieldLinkNest "BehindAnotherHearse$Street" (56 : Nat) "BehindAnotherHearse" "hearses" "I" "BehindAnotherHearse") ∈ lw_tbl := lw_at lw_m1 143 rfl
theorem q226 : (Jvm.Cond.fieldLinkNest "BehindAnotherHearse$Street" (66 : Nat) "BehindAnotherHearse" "men" "I" "BehindAnotherHearse") ∈ lw_tbl := lw_at lw_m1 148 rfl
theorem q243 : (Jvm.Cond.fieldLinkNest "BehindAnotherHearse$Street" (72 : Nat) "BehindAnotherHearse" "rule" "LBehindAnotherHearse$Rule;" "BehindAnotherHearse") ∈ lw_tbl := lw_at lw_m1 165 rfl
theorem q493 : (Jvm.Cond.instanceMethod ({ cls := "BehindAnotherHearse$Street", name := "on", desc := "(I)I" } : Jvm.MethodName)) ∈ lw_all := lw_g (lw_at lw_m2 175 rfl) rfl
theorem q494 : (Jvm.Cond.selects "BehindAnotherHearse$Street" ({ cls := "BehindAnotherHearse$Street", name := "on", desc := "(I)I" } : Jvm.MethodName) ({ cls := "BehindAnotherHearse$Street", name := "on", desc := "(I)I" } : Jvm.MethodName)) ∈ lw_all := lw_g (lw_at lw_m2 176 rfl) rfl
theorem q495 : (Jvm.Cond.code ({ cls := "BehindAnotherHearse$Street", name := "on", desc := "(I)I" } : Jvm.MethodName) prog_9_method_4_code (3 : Nat) (Option.some Jvm.ClassFile.FieldType.int)) ∈ lw_all := lw_g (lw_at lw_m2 177 rfl) rfl
theorem q671 : (Jvm.Cond.instanceMethod ({ cls := "BehindAnotherHearse$Street", name := "gap", desc := "(I)I" } : Jvm.MethodName)) ∈ lw_all := lw_g (lw_at lw_m3 113 rfl) rfl
theorem q672 : (Jvm.Cond.selects "BehindAnotherHearse$Street" ({ cls := "BehindAnotherHearse$Street", name := "gap", desc := "(I)I" } : Jvm.MethodName) ({ cls := "BehindAnotherHearse$Street", name := "gap", desc := "(I)I" } : Jvm.MethodName)) ∈ lw_all := lw_g (lw_at lw_m3 114 rfl) rfl
theorem q673 : (Jvm.Cond.code ({ cls := "BehindAnotherHearse$Street", name := "gap", desc := "(I)I" } : Jvm.MethodName) prog_9_method_10_code (3 : Nat) (Option.some Jvm.ClassFile.FieldType.int)) ∈ lw_all := lw_g (lw_at lw_m3 115 rfl) rfl
theorem q674 : (Jvm.Cond.methodLink "BehindAnotherHearse$Street" (62 : Nat) ({ cls := "BehindAnotherHearse$Street", name := "on", desc := "(I)I" } : Jvm.MethodName)) ∈ lw_all := lw_g (lw_at lw_m3 116 rfl) rfl
theorem q680 : (Jvm.Cond.instanceMethod ({ cls := "BehindAnotherHearse$Street", name := "followers", desc := "(I)I" } : Jvm.MethodName)) ∈ lw_all := lw_g (lw_at lw_m3 122 rfl) rfl
theorem q681 : (Jvm.Cond.selects "BehindAnotherHearse$Street" ({ cls := "BehindAnotherHearse$Street", name := "followers", desc := "(I)I" } : Jvm.MethodName) ({ cls := "BehindAnotherHearse$Street", name := "followers", desc := "(I)I" } : Jvm.MethodName)) ∈ lw_all := lw_g (lw_at lw_m3 123 rfl) rfl
theorem q682 : (Jvm.Cond.code ({ cls := "BehindAnotherHearse$Street", name := "followers", desc := "(I)I" } : Jvm.MethodName) prog_9_method_6_code (4 : Nat) (Option.some Jvm.ClassFile.FieldType.int)) ∈ lw_all := lw_g (lw_at lw_m3 124 rfl) rfl
theorem q746 : (Jvm.Cond.instanceMethod ({ cls := "BehindAnotherHearse$Street", name := "be", desc := "(LBehindAnotherHearse$Street;)V" } : Jvm.MethodName)) ∈ lw_all := lw_g (lw_at lw_m3 188 rfl) rfl
theorem q747 : (Jvm.Cond.selects "BehindAnotherHearse$Street" ({ cls := "BehindAnotherHearse$Street", name := "be", desc := "(LBehindAnotherHearse$Street;)V" } : Jvm.MethodName) ({ cls := "BehindAnotherHearse$Street", name := "be", desc := "(LBehindAnotherHearse$Street;)V" } : Jvm.MethodName)) ∈ lw_all := lw_g (lw_at lw_m3 189 rfl) rfl
theorem q748 : (Jvm.Cond.code ({ cls := "BehindAnotherHearse$Street", name := "be", desc := "(LBehindAnotherHearse$Street;)V" } : Jvm.MethodName) prog_9_method_2_code (2 : Nat) (Option.none : Option Jvm.ClassFile.FieldType)) ∈ lw_all := lw_g (lw_at lw_m3 190 rfl) rfl
theorem q749 : (Jvm.Cond.methodLink "BehindAnotherHearse$Street" (37 : Nat) ({ cls := "java/lang/System", name := "arraycopy", desc := "(Ljava/lang/Object;ILjava/lang/Object;II)V" } : Jvm.MethodName)) ∈ lw_all := lw_g (lw_at lw_m3 191 rfl) rfl
theorem q750 : (Jvm.Cond.methodLink "BehindAnotherHearse$Street" (50 : Nat) ({ cls := "java/util/Arrays", name := "fill", desc := "([II)V" } : Jvm.MethodName)) ∈ lw_all := lw_g (lw_at lw_m3 192 rfl) rfl
theorem q754 : (Jvm.Cond.instanceMethod ({ cls := "BehindAnotherHearse$Street", name := "go", desc := "(I)V" } : Jvm.MethodName)) ∈ lw_all := lw_g (lw_at lw_m3 196 rfl) rfl
theorem q755 : (Jvm.Cond.selects "BehindAnotherHearse$Street" ({ cls := "BehindAnotherHearse$Street", name := "go", desc := "(I)V" } : Jvm.MethodName) ({ cls := "BehindAnotherHearse$Street", name := "go", desc := "(I)V" } : Jvm.MethodName)) ∈ lw_all := lw_g (lw_at lw_m3 197 rfl) rfl
theorem q756 : (Jvm.Cond.code ({ cls := "BehindAnotherHearse$Street", name := "go", desc := "(I)V" } : Jvm.MethodName) prog_9_method_18_code (3 : Nat) (Option.none : Option Jvm.ClassFile.FieldType)) ∈ lw_all := lw_g (lw_at lw_m3 198 rfl) rfl
theorem q757 : (Jvm.Cond.methodLink "BehindAnotherHearse$Street" (132 : Nat) ({ cls := "BehindAnotherHearse$Street", name := "go", desc := "()V" } : Jvm.MethodName)) ∈ lw_all := lw_g (lw_at lw_m3 199 rfl) rfl
theorem q758 : (Jvm.Cond.instanceMethod ({ cls := "BehindAnotherHearse$Street", name := "go", desc := "()V" } : Jvm.MethodName)) ∈ lw_all := lw_g (lw_at lw_m3 200 rfl) rfl
theorem q759 : (Jvm.Cond.selects "BehindAnotherHearse$Street" ({ cls := "BehindAnotherHearse$Street", name := "go", desc := "()V" } : Jvm.MethodName) ({ cls := "BehindAnotherHearse$Street", name := "go", desc := "()V" } : Jvm.MethodName)) ∈ lw_all := lw_g (lw_at lw_m3 201 rfl) rfl
theorem q760 : (Jvm.Cond.code ({ cls := "BehindAnotherHearse$Street", name := "go", desc := "()V" } : Jvm.MethodName) prog_9_method_17_code (3 : Nat) (Option.none : Option Jvm.ClassFile.FieldType)) ∈ lw_all := lw_g (lw_at lw_m3 202 rfl) rfl
theorem q761 : (Jvm.Cond.methodLink "BehindAnotherHearse$Street" (121 : Nat) ({ cls := "BehindAnotherHearse$Street", name := "layLine", desc := "([I)I" } : Jvm.MethodName)) ∈ lw_all := lw_g (lw_at lw_m3 203 rfl) rfl
theorem q762 : (Jvm.Cond.instanceMethod ({ cls := "BehindAnotherHearse$Street", name := "layLine", desc := "([I)I" } : Jvm.MethodName)) ∈ lw_all := lw_g (lw_at lw_m3 204 rfl) rfl
theorem q763 : (Jvm.Cond.selects "BehindAnotherHearse$Street" ({ cls := "BehindAnotherHearse$Street", name := "layLine", desc := "([I)I" } : Jvm.MethodName) ({ cls := "BehindAnotherHearse$Street", name := "layLine", desc := "([I)I" } : Jvm.MethodName)) ∈ lw_all := lw_g (lw_at lw_m3 205 rfl) rfl
theorem q764 : (Jvm.Cond.code ({ cls := "BehindAnotherHearse$Street", name := "layLine", desc := "([I)I" } : Jvm.MethodName) prog_9_method_5_code (5 : Nat) (Option.some Jvm.ClassFile.FieldType.int)) ∈ lw_all := lw_g (lw_at lw_m3 206 rfl) rfl
theorem q765 : (Jvm.Cond.methodLink "BehindAnotherHearse$Street" (125 : Nat) ({ cls := "BehindAnotherHearse$Street", name := "goHearse", desc := "(I)V" } : Jvm.MethodName)) ∈ lw_all := lw_g (lw_at lw_m3 207 rfl) rfl
theorem q766 : (Jvm.Cond.instanceMethod ({ cls := "BehindAnotherHearse$Street", name := "goHearse", desc := "(I)V" } : Jvm.MethodName)) ∈ lw_all := lw_g (lw_at lw_m3 208 rfl) rfl
theorem q767 : (Jvm.Cond.selects "BehindAnotherHearse$Street" ({ cls := "BehindAnotherHearse$Street", name := "goHearse", desc := "(I)V" } : Jvm.MethodName) ({ cls := "BehindAnotherHearse$Street", name := "goHearse", desc := "(I)V" } : Jvm.MethodName)) ∈ lw_all := lw_g (lw_at lw_m3 209 rfl) rfl
theorem q768 : (Jvm.Cond.code ({ cls := "BehindAnotherHearse$Street", name := "goHearse", desc := "(I)V" } : Jvm.MethodName) prog_9_method_13_code (4 : Nat) (Option.none : Option Jvm.ClassFile.FieldType)) ∈ lw_all := lw_g (lw_at lw_m3 210 rfl) rfl
theorem q769 : (Jvm.Cond.methodLink "BehindAnotherHearse$Street" (98 : Nat) ({ cls := "BehindAnotherHearse$Street", name := "pace", desc := "(I)I" } : Jvm.MethodName)) ∈ lw_all := lw_g (lw_at lw_m3 211 rfl) rfl
theorem q770 : (Jvm.Cond.instanceMethod ({ cls := "BehindAnotherHearse$Street", name := "pace", desc := "(I)I" } : Jvm.MethodName)) ∈ lw_all := lw_g (lw_at lw_m3 212 rfl) rfl
theorem q771 : (Jvm.Cond.selects "BehindAnotherHearse$Street" ({ cls := "BehindAnotherHearse$Street", name := "pace", desc := "(I)I" } : Jvm.MethodName) ({ cls := "BehindAnotherHearse$Street", name := "pace", desc := "(I)I" } : Jvm.MethodName)) ∈ lw_all := lw_g (lw_at lw_m3 213 rfl) rfl
theorem q772 : (Jvm.Cond.code ({ cls := "BehindAnotherHearse$Street", name := "pace", desc := "(I)I" } : Jvm.MethodName) prog_9_method_11_code (3 : Nat) (Option.some Jvm.ClassFile.FieldType.int)) ∈ lw_all := lw_g (lw_at lw_m3 214 rfl) rfl
theorem q773 : (Jvm.Cond.methodLink "BehindAnotherHearse$Street" (76 : Nat) ({ cls := "BehindAnotherHearse$Street", name := "gap", desc := "(I)I" } : Jvm.MethodName)) ∈ lw_all := lw_g (lw_at lw_m3 215 rfl) rfl
theorem q774 : (Jvm.Cond.methodLink "BehindAnotherHearse$Street" (79 : Nat) ({ cls := "BehindAnotherHearse$Rule", name := "of", desc := "(LBehindAnotherHearse$Street;I)I" } : Jvm.MethodName)) ∈ lw_all := lw_g (lw_at lw_m3 216 rfl) rfl
theorem q779 : (Jvm.Cond.methodLink "BehindAnotherHearse$Street" (85 : Nat) ({ cls := "java/lang/Math", name := "min", desc := "(II)I" } : Jvm.MethodName)) ∈ lw_all := lw_g (lw_at lw_m3 221 rfl) rfl
theorem q780 : (Jvm.Cond.methodLink "BehindAnotherHearse$Street" (91 : Nat) ({ cls := "java/lang/Math", name := "max", desc := "(II)I" } : Jvm.MethodName)) ∈ lw_all := lw_g (lw_at lw_m3 222 rfl) rfl
theorem q781 : (Jvm.Cond.methodLink "BehindAnotherHearse$Street" (101 : Nat) ({ cls := "BehindAnotherHearse$Street", name := "canGo", desc := "(II)Z" } : Jvm.MethodName)) ∈ lw_all := lw_g (lw_at lw_m3 223 rfl) rfl
theorem q782 : (Jvm.Cond.instanceMethod ({ cls := "BehindAnotherHearse$Street", name := "canGo", desc := "(II)Z" } : Jvm.MethodName)) ∈ lw_all := lw_g (lw_at lw_m3 224 rfl) rfl
theorem q783 : (Jvm.Cond.selects "BehindAnotherHearse$Street" ({ cls := "BehindAnotherHearse$Street", name := "canGo", desc := "(II)Z" } : Jvm.MethodName) ({ cls := "BehindAnotherHearse$Street", name := "canGo", desc := "(II)Z" } : Jvm.MethodName)) ∈ lw_all := lw_g (lw_at lw_m3 225 rfl) rfl
theorem q784 : (Jvm.Cond.code ({ cls := "BehindAnotherHearse$Street", name := "canGo", desc := "(II)Z" } : Jvm.MethodName) prog_9_method_12_code (6 : Nat) (Option.some Jvm.ClassFile.FieldType.boolean)) ∈ lw_all := lw_g (lw_at lw_m3 226 rfl) rfl
theorem q785 : (Jvm.Cond.methodLink "BehindAnotherHearse$Street" (129 : Nat) ({ cls := "BehindAnotherHearse$Street", name := "goMourner", desc := "(I)V" } : Jvm.MethodName)) ∈ lw_all := lw_g (lw_at lw_m3 227 rfl) rfl
theorem q786 : (Jvm.Cond.instanceMethod ({ cls := "BehindAnotherHearse$Street", name := "goMourner", desc := "(I)V" } : Jvm.MethodName)) ∈ lw_all := lw_g (lw_at lw_m3 228 rfl) rfl
theorem q787 : (Jvm.Cond.selects "BehindAnotherHearse$Street" ({ cls := "BehindAnotherHearse$Street", name := "goMourner", desc := "(I)V" } : Jvm.MethodName) ({ cls := "BehindAnotherHearse$Street", name := "goMourner", desc := "(I)V" } : Jvm.MethodName)) ∈ lw_all := lw_g (lw_at lw_m3 229 rfl) rfl
theorem q788 : (Jvm.Cond.code ({ cls := "BehindAnotherHearse$Street", name := "goMourner", desc := "(I)V" } : Jvm.MethodName) prog_9_method_16_code (4 : Nat) (Option.none : Option Jvm.ClassFile.FieldType)) ∈ lw_all := lw_g (lw_at lw_m3 230 rfl) rfl
theorem q789 : (Jvm.Cond.methodLink "BehindAnotherHearse$Street" (108 : Nat) ({ cls := "BehindAnotherHearse$Street", name := "isOn", desc := "(I)Z" } : Jvm.MethodName)) ∈ lw_all := lw_g (lw_at lw_m3 231 rfl) rfl
theorem q790 : (Jvm.Cond.instanceMethod ({ cls := "BehindAnotherHearse$Street", name := "isOn", desc := "(I)Z" } : Jvm.MethodName)) ∈ lw_all := lw_g (lw_at lw_m3 232 rfl) rfl
theorem q791 : (Jvm.Cond.selects "BehindAnotherHearse$Street" ({ cls := "BehindAnotherHearse$Street", name := "isOn", desc := "(I)Z" } : Jvm.MethodName) ({ cls := "BehindAnotherHearse$Street", name := "isOn", desc := "(I)Z" } : Jvm.MethodName)) ∈ lw_all := lw_g (lw_at lw_m3 233 rfl) rfl
theorem q792 : (Jvm.Cond.code ({ cls := "BehindAnotherHearse$Street", name := "isOn", desc := "(I)Z" } : Jvm.MethodName) prog_9_method_3_code (2 : Nat) (Option.some Jvm.ClassFile.FieldType.boolean)) ∈ lw_all := lw_g (lw_at lw_m3 234 rfl) rfl
theorem q793 : (Jvm.Cond.methodLink "BehindAnotherHearse$Street" (115 : Nat) ({ cls := "BehindAnotherHearse$Street", name := "nearest", desc := "(I)I" } : Jvm.MethodName)) ∈ lw_all := lw_g (lw_at lw_m3 235 rfl) rfl
theorem q794 : (Jvm.Cond.instanceMethod ({ cls := "BehindAnotherHearse$Street", name := "nearest", desc := "(I)I" } : Jvm.MethodName)) ∈ lw_all := lw_g (lw_at lw_m3 236 rfl) rfl
theorem q795 : (Jvm.Cond.selects "BehindAnotherHearse$Street" ({ cls := "BehindAnotherHearse$Street", name := "nearest", desc := "(I)I" } : Jvm.MethodName) ({ cls := "BehindAnotherHearse$Street", name := "nearest", desc := "(I)I" } : Jvm.MethodName)) ∈ lw_all := lw_g (lw_at lw_m3 237 rfl) rfl
theorem q796 : (Jvm.Cond.code ({ cls := "BehindAnotherHearse$Street", name := "nearest", desc := "(I)I" } : Jvm.MethodName) prog_9_method_15_code (5 : Nat) (Option.some Jvm.ClassFile.FieldType.int)) ∈ lw_all := lw_g (lw_at lw_m3 238 rfl) rfl
theorem q797 : (Jvm.Cond.methodLink "BehindAnotherHearse$Street" (112 : Nat) ({ cls := "BehindAnotherHearse$Street", name := "apart", desc := "(II)I" } : Jvm.MethodName)) ∈ lw_all := lw_g (lw_at lw_m3 239 rfl) rfl
theorem q798 : (Jvm.Cond.instanceMethod ({ cls := "BehindAnotherHearse$Street", name := "apart", desc := "(II)I" } : Jvm.MethodName)) ∈ lw_all := lw_g (lw_at lw_m4 0 rfl) rfl
theorem q799 : (Jvm.Cond.selects "BehindAnotherHearse$Street" ({ cls := "BehindAnotherHearse$Street", name := "apart", desc := "(II)I" } : Jvm.MethodName) ({ cls := "BehindAnotherHearse$Street", name := "apart", desc := "(II)I" } : Jvm.MethodName)) ∈ lw_all := lw_g (lw_at lw_m4 1 rfl) rfl
theorem q800 : (Jvm.Cond.code ({ cls := "BehindAnotherHearse$Street", name := "apart", desc := "(II)I" } : Jvm.MethodName) prog_9_method_14_code (3 : Nat) (Option.some Jvm.ClassFile.FieldType.int)) ∈ lw_all := lw_g (lw_at lw_m4 2 rfl) rfl
theorem q801 : (Jvm.Cond.methodLink "BehindAnotherHearse$Street" (105 : Nat) ({ cls := "java/lang/Math", name := "abs", desc := "(I)I" } : Jvm.MethodName)) ∈ lw_all := lw_g (lw_at lw_m4 3 rfl) rfl
theorem q820 : (Jvm.Cond.instanceMethod ({ cls := "BehindAnotherHearse$Street", name := "refusesTurn", desc := "(I)I" } : Jvm.MethodName)) ∈ lw_all := lw_g (lw_at lw_m4 22 rfl) rfl
theorem q821 : (Jvm.Cond.selects "BehindAnotherHearse$Street" ({ cls := "BehindAnotherHearse$Street", name := "refusesTurn", desc := "(I)I" } : Jvm.MethodName) ({ cls := "BehindAnotherHearse$Street", name := "refusesTurn", desc := "(I)I" } : Jvm.MethodName)) ∈ lw_all := lw_g (lw_at lw_m4 23 rfl) rfl
theorem q822 : (Jvm.Cond.code ({ cls := "BehindAnotherHearse$Street", name := "refusesTurn", desc := "(I)I" } : Jvm.MethodName) prog_9_method_19_code (2 : Nat) (Option.some Jvm.ClassFile.FieldType.int)) ∈ lw_all := lw_g (lw_at lw_m4 24 rfl) rfl
theorem q834 : (Jvm.Cond.instanceMethod ({ cls := "BehindAnotherHearse$Street", name := "pushed", desc := "(II)V" } : Jvm.MethodName)) ∈ lw_all := lw_g (lw_at lw_m4 36 rfl) rfl
theorem q835 : (Jvm.Cond.selects "BehindAnotherHearse$Street" ({ cls := "BehindAnotherHearse$Street", name := "pushed", desc := "(II)V" } : Jvm.MethodName) ({ cls := "BehindAnotherHearse$Street", name := "pushed", desc := "(II)V" } : Jvm.MethodName)) ∈ lw_all := lw_g (lw_at lw_m4 37 rfl) rfl
theorem q836 : (Jvm.Cond.code ({ cls := "BehindAnotherHearse$Street", name := "pushed", desc := "(II)V" } : Jvm.MethodName) prog_9_method_20_code (3 : Nat) (Option.none : Option Jvm.ClassFile.FieldType)) ∈ lw_all := lw_g (lw_at lw_m4 38 rfl) rfl
theorem q996 : (Jvm.Cond.instanceMethod ({ cls := "BehindAnotherHearse$Street", name := "rightOnes", desc := "()I" } : Jvm.MethodName)) ∈ lw_all := lw_g (lw_at lw_m4 198 rfl) rfl
theorem q997 : (Jvm.Cond.selects "BehindAnotherHearse$Street" ({ cls := "BehindAnotherHearse$Street", name := "rightOnes", desc := "()I" } : Jvm.MethodName) ({ cls := "BehindAnotherHearse$Street", name := "rightOnes", desc := "()I" } : Jvm.MethodName)) ∈ lw_all := lw_g (lw_at lw_m4 199 rfl) rfl
theorem q998 : (Jvm.Cond.code ({ cls := "BehindAnotherHearse$Street", name := "rightOnes", desc := "()I" } : Jvm.MethodName) prog_9_method_8_code (3 : Nat) (Option.some Jvm.ClassFile.FieldType.int)) ∈ lw_all := lw_g (lw_at lw_m4 200 rfl) rfl
theorem q1000 : (Jvm.Cond.instanceMethod ({ cls := "BehindAnotherHearse$Street", name := "endedOnes", desc := "()I" } : Jvm.MethodName)) ∈ lw_all := lw_g (lw_at lw_m4 202 rfl) rfl
theorem q1001 : (Jvm.Cond.selects "BehindAnotherHearse$Street" ({ cls := "BehindAnotherHearse$Street", name := "endedOnes", desc := "()I" } : Jvm.MethodName) ({ cls := "BehindAnotherHearse$Street", name := "endedOnes", desc := "()I" } : Jvm.MethodName)) ∈ lw_all := lw_g (lw_at lw_m4 203 rfl) rfl
theorem q1002 : (Jvm.Cond.code ({ cls := "BehindAnotherHearse$Street", name := "endedOnes", desc := "()I" } : Jvm.MethodName) prog_9_method_9_code (3 : Nat) (Option.some Jvm.ClassFile.FieldType.int)) ∈ lw_all := lw_g (lw_at lw_m4 204 rfl) rfl
theorem q1114 : (Jvm.Cond.instanceMethod ({ cls := "BehindAnotherHearse$Street", name := "endedAt", desc := "(I)I" } : Jvm.MethodName)) ∈ lw_all := lw_g (lw_at lw_m5 76 rfl) rfl
theorem q1115 : (Jvm.Cond.selects "BehindAnotherHearse$Street" ({ cls := "BehindAnotherHearse$Street", name := "endedAt", desc := "(I)I" } : Jvm.MethodName) ({ cls := "BehindAnotherHearse$Street", name := "endedAt", desc := "(I)I" } : Jvm.MethodName)) ∈ lw_all := lw_g (lw_at lw_m5 77 rfl) rfl
theorem q1116 : (Jvm.Cond.code ({ cls := "BehindAnotherHearse$Street", name := "endedAt", desc := "(I)I" } : Jvm.MethodName) prog_9_method_7_code (4 : Nat) (Option.some Jvm.ClassFile.FieldType.int)) ∈ lw_all := lw_g (lw_at lw_m5 78 rfl) rfl
theorem q1964 : (Jvm.Cond.castable "BehindAnotherHearse$Street" "java/lang/Object") ∈ lw_tbl := lw_at lw_m8 206 rfl
theorem in_X2 : ∀ w ∈ wsX20, w ∈ lw_all := lw_in wsX20 [150, 152, 154, 156, 158, 160, 162, 164, 166, 168] (by decide +kernel) (by decide +kernel)
/-! BehindAnotherHearse$Trial -/
set_option maxRecDepth 100000
def RX3 : String := "BehindAnotherHearse$Trial"
abbrev cX3_init : ByteArray := prog_10_method_1_code
def yX3_init : MethodName := ⟨RX3, "<init>", "(LBehindAnotherHearse;)V"⟩
def dkwX3_init_0 : List UInt8 := [42, 43, 181, 0, 1, 42, 183, 0, 7, 177]
abbrev dktX3_init_0 : List UInt8 := dkwX3_init_0 ++ []
theorem dksX3_init_0 : cX3_init.data.toList.drop 0 = dktX3_init_0 := by decide +kernel
theorem dX3_init_0 : decode cX3_init 0 = .ok (.aload_n 0, 1) := dk_42 (dk_at dksX3_init_0 0 rfl rfl)
theorem dX3_init_1 : decode cX3_init 1 = .ok (.aload_n 1, 1) := dk_43 (dk_at dksX3_init_0 1 rfl rfl)
theorem dX3_init_2 : decode cX3_init 2 = .ok (.putfield 1, 3) := dk_181 0 1 (dk_at dksX3_init_0 2 rfl rfl)
theorem dX3_init_5 : decode cX3_init 5 = .ok (.aload_n 0, 1) := dk_42 (dk_at dksX3_init_0 5 rfl rfl)
theorem dX3_init_6 : decode cX3_init 6 = .ok (.invokespecial 7, 3) := dk_183 0 7 (dk_at dksX3_init_0 6 rfl rfl)
theorem dX3_init_9 : decode cX3_init 9 = .ok (.return_, 1) := dk_177 (dk_at dksX3_init_0 9 rfl rfl)
abbrev cX3_run : ByteArray := prog_10_method_3_code
def yX3_run : MethodName := ⟨RX3, "run", "()LBehindAnotherHearse$Street;"⟩
def dkwX3_run_2 : List UInt8 := [180, 0, 13, 176]
abbrev dktX3_run_2 : List UInt8 := dkwX3_run_2 ++ []
def dkwX3_run_1 : List UInt8 := [180, 0, 13, 182, 0, 28, 42, 180, 0, 1, 42, 180, 0, 1, 180, 0, 13, 182, 0, 31, 42, 180, 0, 1]
abbrev dktX3_run_1 : List UInt8 := dkwX3_run_1 ++ dktX3_run_2
def dkwX3_run_0 : List UInt8 := [42, 180, 0, 1, 180, 0, 13, 42, 180, 0, 1, 180, 0, 19, 182, 0, 22, 42, 42, 180, 0, 1]
abbrev dktX3_run_0 : List UInt8 := dkwX3_run_0 ++ dktX3_run_1
theorem dksX3_run_0 : cX3_run.data.toList.drop 0 = dktX3_run_0 := by decide +kernel
theorem dksX3_run_1 : cX3_run.data.toList.drop 22 = dktX3_run_1 := dk_seg dksX3_run_0 22 rfl rfl
theorem dksX3_run_2 : cX3_run.data.toList.drop 46 = dktX3_run_2 := dk_seg dksX3_run_1 24 rfl rfl
theorem dX3_run_0 : decode cX3_run 0 = .ok (.aload_n 0, 1) := dk_42 (dk_at dksX3_run_0 0 rfl rfl)
theorem dX3_run_1 : decode cX3_run 1 = .ok (.getfield 1, 3) := dk_180 0 1 (dk_at dksX3_run_0 1 rfl rfl)
theorem dX3_run_4 : decode cX3_run 4 = .ok (.getfield 13, 3) := dk_180 0 13 (dk_at dksX3_run_0 4 rfl rfl)
theorem dX3_run_7 : decode cX3_run 7 = .ok (.aload_n 0, 1) := dk_42 (dk_at dksX3_run_0 7 rfl rfl)
theorem dX3_run_8 : decode cX3_run 8 = .ok (.getfield 1, 3) := dk_180 0 1 (dk_at dksX3_run_0 8 rfl rfl)
theorem dX3_run_11 : decode cX3_run 11 = .ok (.getfield 19, 3) := dk_180 0 19 (dk_at dksX3_run_0 11 rfl rfl)
theorem dX3_run_14 : decode cX3_run 14 = .ok (.invokevirtual 22, 3) := dk_182 0 22 (dk_at dksX3_run_0 14 rfl rfl)
theorem dX3_run_17 : decode cX3_run 17 = .ok (.aload_n 0, 1) := dk_42 (dk_at dksX3_run_0 17 rfl rfl)
theorem dX3_run_18 : decode cX3_run 18 = .ok (.aload_n 0, 1) := dk_42 (dk_at dksX3_run_0 18 rfl rfl)
theorem dX3_run_19 : decode cX3_run 19 = .ok (.getfield 1, 3) := dk_180 0 1 (dk_at dksX3_run_0 19 rfl rfl)
theorem dX3_run_22 : decode cX3_run 22 = .ok (.getfield 13, 3) := dk_180 0 13 (dk_at dksX3_run_1 0 rfl rfl)
theorem dX3_run_25 : decode cX3_run 25 = .ok (.invokevirtual 28, 3) := dk_182 0 28 (dk_at dksX3_run_1 3 rfl rfl)
theorem dX3_run_28 : decode cX3_run 28 = .ok (.aload_n 0, 1) := dk_42 (dk_at dksX3_run_1 6 rfl rfl)
theorem dX3_run_29 : decode cX3_run 29 = .ok (.getfield 1, 3) := dk_180 0 1 (dk_at dksX3_run_1 7 rfl rfl)
theorem dX3_run_32 : decode cX3_run 32 = .ok (.aload_n 0, 1) := dk_42 (dk_at dksX3_run_1 10 rfl rfl)
theorem dX3_run_33 : decode cX3_run 33 = .ok (.getfield 1, 3) := dk_180 0 1 (dk_at dksX3_run_1 11 rfl rfl)
theorem dX3_run_36 : decode cX3_run 36 = .ok (.getfield 13, 3) := dk_180 0 13 (dk_at dksX3_run_1 14 rfl rfl)
theorem dX3_run_39 : decode cX3_run 39 = .ok (.invokevirtual 31, 3) := dk_182 0 31 (dk_at dksX3_run_1 17 rfl rfl)
theorem dX3_run_42 : decode cX3_run 42 = .ok (.aload_n 0, 1) := dk_42 (dk_at dksX3_run_1 20 rfl rfl)
theorem dX3_run_43 : decode cX3_run 43 = .ok (.getfield 1, 3) := dk_180 0 1 (dk_at dksX3_run_1 21 rfl rfl)
theorem dX3_run_46 : decode cX3_run 46 = .ok (.getfield 13, 3) := dk_180 0 13 (dk_at dksX3_run_2 0 rfl rfl)
theorem dX3_run_49 : decode cX3_run 49 = .ok (.areturn, 1) := dk_176 (dk_at dksX3_run_2 3 rfl rfl)
abbrev cX3_lay : ByteArray := prog_10_method_2_code
def yX3_lay : MethodName := ⟨RX3, "lay", "(LBehindAnotherHearse$Street;)V"⟩
theorem dX3_lay_0 : decode cX3_lay 0 = .ok (.return_, 1) := by decide +kernel
abbrev cX3_rightMany : ByteArray := prog_10_method_4_code
def yX3_rightMany : MethodName := ⟨RX3, "rightMany", "()I"⟩
def dkwX3_rightMany_0 : List UInt8 := [42, 182, 0, 34, 182, 0, 38, 184, 0, 42, 172]
abbrev dktX3_rightMany_0 : List UInt8 := dkwX3_rightMany_0 ++ []
theorem dksX3_rightMany_0 : cX3_rightMany.data.toList.drop 0 = dktX3_rightMany_0 := by decide +kernel
theorem dX3_rightMany_0 : decode cX3_rightMany 0 = .ok (.aload_n 0, 1) := dk_42 (dk_at dksX3_rightMany_0 0 rfl rfl)
theorem dX3_rightMany_1 : decode cX3_rightMany 1 = .ok (.invokevirtual 34, 3) := dk_182 0 34 (dk_at dksX3_rightMany_0 1 rfl rfl)
theorem dX3_rightMany_4 : decode cX3_rightMany 4 = .ok (.invokevirtual 38, 3) := dk_182 0 38 (dk_at dksX3_rightMany_0 4 rfl rfl)
theorem dX3_rightMany_7 : decode cX3_rightMany 7 = .ok (.invokestatic 42, 3) := dk_184 0 42 (dk_at dksX3_rightMany_0 7 rfl rfl)
theorem dX3_rightMany_10 : decode cX3_rightMany 10 = .ok (.ireturn, 1) := dk_172 (dk_at dksX3_rightMany_0 10 rfl rfl)
theorem q81 : (Jvm.Cond.initialized "BehindAnotherHearse$Trial") ∈ lw_all := lw_g (lw_at lw_m1 3 rfl) rfl
theorem q181 : (Jvm.Cond.instanceMethod ({ cls := "BehindAnotherHearse$Trial", name := "<init>", desc := "(LBehindAnotherHearse;)V" } : Jvm.MethodName)) ∈ lw_all := lw_g (lw_at lw_m1 103 rfl) rfl
theorem q182 : (Jvm.Cond.code ({ cls := "BehindAnotherHearse$Trial", name := "<init>", desc := "(LBehindAnotherHearse;)V" } : Jvm.MethodName) prog_10_method_1_code (2 : Nat) (Option.none : Option Jvm.ClassFile.FieldType)) ∈ lw_all := lw_g (lw_at lw_m1 104 rfl) rfl
theorem q183 : (Jvm.Cond.methodLink "BehindAnotherHearse$Trial" (7 : Nat) ({ cls := "java/lang/Object", name := "<init>", desc := "()V" } : Jvm.MethodName)) ∈ lw_all := lw_g (lw_at lw_m1 105 rfl) rfl
theorem q185 : (Jvm.Cond.fieldLink "BehindAnotherHearse$Trial" (1 : Nat) "BehindAnotherHearse$Trial" "this$0" "LBehindAnotherHearse;") ∈ lw_all := lw_g (lw_at lw_m1 107 rfl) rfl
theorem q189 : (Jvm.Cond.soleField "BehindAnotherHearse$Trial" "this$0") ∈ lw_all := lw_g (lw_at lw_m1 111 rfl) rfl
theorem q232 : (Jvm.Cond.fieldLinkNest "BehindAnotherHearse$Trial" (19 : Nat) "BehindAnotherHearse" "now" "LBehindAnotherHearse$Street;" "BehindAnotherHearse") ∈ lw_tbl := lw_at lw_m1 154 rfl
theorem q235 : (Jvm.Cond.fieldLinkNest "BehindAnotherHearse$Trial" (13 : Nat) "BehindAnotherHearse" "tried" "LBehindAnotherHearse$Street;" "BehindAnotherHearse") ∈ lw_tbl := lw_at lw_m1 157 rfl
theorem q957 : (Jvm.Cond.instanceMethod ({ cls := "BehindAnotherHearse$Trial", name := "run", desc := "()LBehindAnotherHearse$Street;" } : Jvm.MethodName)) ∈ lw_all := lw_g (lw_at lw_m4 159 rfl) rfl
theorem q958 : (Jvm.Cond.sameMethod "BehindAnotherHearse$Trial" "BehindAnotherHearse$Trial" "run" "()LBehindAnotherHearse$Street;") ∈ lw_all := lw_g (lw_at lw_m4 160 rfl) rfl
theorem q964 : (Jvm.Cond.code ({ cls := "BehindAnotherHearse$Trial", name := "run", desc := "()LBehindAnotherHearse$Street;" } : Jvm.MethodName) prog_10_method_3_code (1 : Nat) (Option.some (Jvm.ClassFile.FieldType.object "BehindAnotherHearse$Street"))) ∈ lw_all := lw_g (lw_at lw_m4 166 rfl) rfl
theorem q965 : (Jvm.Cond.methodLink "BehindAnotherHearse$Trial" (22 : Nat) ({ cls := "BehindAnotherHearse$Street", name := "be", desc := "(LBehindAnotherHearse$Street;)V" } : Jvm.MethodName)) ∈ lw_all := lw_g (lw_at lw_m4 167 rfl) rfl
theorem q966 : (Jvm.Cond.methodLink "BehindAnotherHearse$Trial" (28 : Nat) ({ cls := "BehindAnotherHearse$Trial", name := "lay", desc := "(LBehindAnotherHearse$Street;)V" } : Jvm.MethodName)) ∈ lw_all := lw_g (lw_at lw_m4 168 rfl) rfl
theorem q967 : (Jvm.Cond.instanceMethod ({ cls := "BehindAnotherHearse$Trial", name := "lay", desc := "(LBehindAnotherHearse$Street;)V" } : Jvm.MethodName)) ∈ lw_all := lw_g (lw_at lw_m4 169 rfl) rfl
theorem q968 : (Jvm.Cond.sameMethod "BehindAnotherHearse$Trial" "BehindAnotherHearse$Trial" "lay" "(LBehindAnotherHearse$Street;)V") ∈ lw_all := lw_g (lw_at lw_m4 170 rfl) rfl
theorem q986 : (Jvm.Cond.code ({ cls := "BehindAnotherHearse$Trial", name := "lay", desc := "(LBehindAnotherHearse$Street;)V" } : Jvm.MethodName) prog_10_method_2_code (2 : Nat) (Option.none : Option Jvm.ClassFile.FieldType)) ∈ lw_all := lw_g (lw_at lw_m4 188 rfl) rfl
theorem q987 : (Jvm.Cond.methodLinkNest "BehindAnotherHearse$Trial" (31 : Nat) ({ cls := "BehindAnotherHearse", name := "goToEnd", desc := "(LBehindAnotherHearse$Street;)V" } : Jvm.MethodName) "BehindAnotherHearse") ∈ lw_tbl := lw_at lw_m4 189 rfl
theorem q1013 : (Jvm.Cond.instanceMethod ({ cls := "BehindAnotherHearse$Trial", name := "rightMany", desc := "()I" } : Jvm.MethodName)) ∈ lw_all := lw_g (lw_at lw_m4 215 rfl) rfl
theorem q1014 : (Jvm.Cond.sameMethod "BehindAnotherHearse$Trial" "BehindAnotherHearse$Trial" "rightMany" "()I") ∈ lw_all := lw_g (lw_at lw_m4 216 rfl) rfl
theorem q1024 : (Jvm.Cond.declares ({ cls := "BehindAnotherHearse$Trial", name := "run", desc := "()LBehindAnotherHearse$Street;" } : Jvm.MethodName)) ∈ lw_tbl := lw_at lw_m4 226 rfl
theorem q1032 : (Jvm.Cond.code ({ cls := "BehindAnotherHearse$Trial", name := "rightMany", desc := "()I" } : Jvm.MethodName) prog_10_method_4_code (1 : Nat) (Option.some Jvm.ClassFile.FieldType.int)) ∈ lw_all := lw_g (lw_at lw_m4 234 rfl) rfl
theorem q1033 : (Jvm.Cond.methodLink "BehindAnotherHearse$Trial" (34 : Nat) ({ cls := "BehindAnotherHearse$Trial", name := "run", desc := "()LBehindAnotherHearse$Street;" } : Jvm.MethodName)) ∈ lw_all := lw_g (lw_at lw_m4 235 rfl) rfl
theorem q1034 : (Jvm.Cond.methodLink "BehindAnotherHearse$Trial" (38 : Nat) ({ cls := "BehindAnotherHearse$Street", name := "rightOnes", desc := "()I" } : Jvm.MethodName)) ∈ lw_all := lw_g (lw_at lw_m4 236 rfl) rfl
theorem q1035 : (Jvm.Cond.methodLink "BehindAnotherHearse$Trial" (42 : Nat) ({ cls := "java/lang/Integer", name := "bitCount", desc := "(I)I" } : Jvm.MethodName)) ∈ lw_all := lw_g (lw_at lw_m4 237 rfl) rfl
theorem q1087 : (Jvm.Cond.declares ({ cls := "BehindAnotherHearse$Trial", name := "rightMany", desc := "()I" } : Jvm.MethodName)) ∈ lw_tbl := lw_at lw_m5 49 rfl
/-! BehindAnotherHearse$AsItIs -/
set_option maxRecDepth 100000
def RX4 : String := "BehindAnotherHearse$AsItIs"
def TX4 : u_T := fun k => match k with
  | 0 => ("BehindAnotherHearse$Trial", "this$0", "LBehindAnotherHearse;", true)
  | _ => ("BehindAnotherHearse$AsItIs", "this$0", "LBehindAnotherHearse;", true)
def tyX4 : Nat → FieldType := fun k => match k with
  | 0 => .object "BehindAnotherHearse"
  | _ => .object "BehindAnotherHearse"
abbrev wsX40 : List Cond := u_ws RX4 TX4 2
-- two fields of one name: no nmX4
theorem tyX4_ok : ∀ k, k < 2 → parseFieldDescriptor (TX4 k).2.2.1 = some (tyX4 k) := by decide +kernel
abbrev cX4_init : ByteArray := prog_2_method_1_code
def yX4_init : MethodName := ⟨RX4, "<init>", "(LBehindAnotherHearse;)V"⟩
def dkwX4_init_0 : List UInt8 := [42, 43, 181, 0, 1, 42, 43, 183, 0, 7, 177]
abbrev dktX4_init_0 : List UInt8 := dkwX4_init_0 ++ []
theorem dksX4_init_0 : cX4_init.data.toList.drop 0 = dktX4_init_0 := by decide +kernel
theorem dX4_init_0 : decode cX4_init 0 = .ok (.aload_n 0, 1) := dk_42 (dk_at dksX4_init_0 0 rfl rfl)
theorem dX4_init_1 : decode cX4_init 1 = .ok (.aload_n 1, 1) := dk_43 (dk_at dksX4_init_0 1 rfl rfl)
theorem dX4_init_2 : decode cX4_init 2 = .ok (.putfield 1, 3) := dk_181 0 1 (dk_at dksX4_init_0 2 rfl rfl)
theorem dX4_init_5 : decode cX4_init 5 = .ok (.aload_n 0, 1) := dk_42 (dk_at dksX4_init_0 5 rfl rfl)
theorem dX4_init_6 : decode cX4_init 6 = .ok (.aload_n 1, 1) := dk_43 (dk_at dksX4_init_0 6 rfl rfl)
theorem dX4_init_7 : decode cX4_init 7 = .ok (.invokespecial 7, 3) := dk_183 0 7 (dk_at dksX4_init_0 7 rfl rfl)
theorem dX4_init_10 : decode cX4_init 10 = .ok (.return_, 1) := dk_177 (dk_at dksX4_init_0 10 rfl rfl)
theorem q82 : (Jvm.Cond.initialized "BehindAnotherHearse$AsItIs") ∈ lw_all := lw_g (lw_at lw_m1 4 rfl) rfl
theorem q176 : (Jvm.Cond.instantiable "BehindAnotherHearse$AsItIs" (2 : Nat)) ∈ lw_all := lw_g (lw_at lw_m1 98 rfl) rfl
theorem q178 : (Jvm.Cond.instanceMethod ({ cls := "BehindAnotherHearse$AsItIs", name := "<init>", desc := "(LBehindAnotherHearse;)V" } : Jvm.MethodName)) ∈ lw_all := lw_g (lw_at lw_m1 100 rfl) rfl
theorem q179 : (Jvm.Cond.code ({ cls := "BehindAnotherHearse$AsItIs", name := "<init>", desc := "(LBehindAnotherHearse;)V" } : Jvm.MethodName) prog_2_method_1_code (2 : Nat) (Option.none : Option Jvm.ClassFile.FieldType)) ∈ lw_all := lw_g (lw_at lw_m1 101 rfl) rfl
theorem q180 : (Jvm.Cond.methodLinkNest "BehindAnotherHearse$AsItIs" (7 : Nat) ({ cls := "BehindAnotherHearse$Trial", name := "<init>", desc := "(LBehindAnotherHearse;)V" } : Jvm.MethodName) "BehindAnotherHearse") ∈ lw_tbl := lw_at lw_m1 102 rfl
theorem q184 : (Jvm.Cond.fieldLink "BehindAnotherHearse$AsItIs" (1 : Nat) "BehindAnotherHearse$AsItIs" "this$0" "LBehindAnotherHearse;") ∈ lw_all := lw_g (lw_at lw_m1 106 rfl) rfl
theorem q186 : (Jvm.Cond.laysFinal "BehindAnotherHearse$AsItIs" "BehindAnotherHearse$AsItIs" "this$0" "LBehindAnotherHearse;") ∈ lw_all := lw_g (lw_at lw_m1 108 rfl) rfl
theorem q187 : (Jvm.Cond.soleField "BehindAnotherHearse$AsItIs" "this$0") ∈ lw_all := lw_g (lw_at lw_m1 109 rfl) rfl
theorem q188 : (Jvm.Cond.laysFinal "BehindAnotherHearse$AsItIs" "BehindAnotherHearse$Trial" "this$0" "LBehindAnotherHearse;") ∈ lw_all := lw_g (lw_at lw_m1 110 rfl) rfl
theorem q190 : (Jvm.Cond.superclass "BehindAnotherHearse$AsItIs" "BehindAnotherHearse$Trial") ∈ lw_all := lw_g (lw_at lw_m1 112 rfl) rfl
theorem q959 : (Jvm.Cond.selects "BehindAnotherHearse$AsItIs" ({ cls := "BehindAnotherHearse$Trial", name := "run", desc := "()LBehindAnotherHearse$Street;" } : Jvm.MethodName) ({ cls := "BehindAnotherHearse$Trial", name := "run", desc := "()LBehindAnotherHearse$Street;" } : Jvm.MethodName)) ∈ lw_all := lw_g (lw_at lw_m4 161 rfl) rfl
theorem q969 : (Jvm.Cond.selects "BehindAnotherHearse$AsItIs" ({ cls := "BehindAnotherHearse$Trial", name := "lay", desc := "(LBehindAnotherHearse$Street;)V" } : Jvm.MethodName) ({ cls := "BehindAnotherHearse$Trial", name := "lay", desc := "(LBehindAnotherHearse$Street;)V" } : Jvm.MethodName)) ∈ lw_all := lw_g (lw_at lw_m4 171 rfl) rfl
theorem q1015 : (Jvm.Cond.selects "BehindAnotherHearse$AsItIs" ({ cls := "BehindAnotherHearse$Trial", name := "rightMany", desc := "()I" } : Jvm.MethodName) ({ cls := "BehindAnotherHearse$Trial", name := "rightMany", desc := "()I" } : Jvm.MethodName)) ∈ lw_all := lw_g (lw_at lw_m4 217 rfl) rfl
theorem q1965 : (Jvm.Cond.castable "BehindAnotherHearse$AsItIs" "java/lang/Object") ∈ lw_tbl := lw_at lw_m8 207 rfl
theorem in_X4 : ∀ w ∈ wsX40, w ∈ lw_all := lw_in wsX40 [188, 186] (by decide +kernel) (by decide +kernel)
/-! BehindAnotherHearse$Seated -/
set_option maxRecDepth 100000
def RX5 : String := "BehindAnotherHearse$Seated"
def TX5 : u_T := fun k => match k with
  | 0 => ("BehindAnotherHearse$Trial", "this$0", "LBehindAnotherHearse;", true)
  | 1 => ("BehindAnotherHearse$Seated", "to", "[I", true)
  | _ => ("BehindAnotherHearse$Seated", "this$0", "LBehindAnotherHearse;", true)
def tyX5 : Nat → FieldType := fun k => match k with
  | 0 => .object "BehindAnotherHearse"
  | 1 => .array .int
  | _ => .object "BehindAnotherHearse"
abbrev wsX50 : List Cond := u_ws RX5 TX5 3
-- two fields of one name: no nmX5
theorem tyX5_ok : ∀ k, k < 3 → parseFieldDescriptor (TX5 k).2.2.1 = some (tyX5 k) := by decide +kernel
abbrev cX5_init : ByteArray := prog_8_method_1_code
def yX5_init : MethodName := ⟨RX5, "<init>", "(LBehindAnotherHearse;[I)V"⟩
def dkwX5_init_0 : List UInt8 := [42, 43, 181, 0, 1, 42, 43, 183, 0, 7, 42, 44, 181, 0, 13, 177]
abbrev dktX5_init_0 : List UInt8 := dkwX5_init_0 ++ []
theorem dksX5_init_0 : cX5_init.data.toList.drop 0 = dktX5_init_0 := by decide +kernel
theorem dX5_init_0 : decode cX5_init 0 = .ok (.aload_n 0, 1) := dk_42 (dk_at dksX5_init_0 0 rfl rfl)
theorem dX5_init_1 : decode cX5_init 1 = .ok (.aload_n 1, 1) := dk_43 (dk_at dksX5_init_0 1 rfl rfl)
theorem dX5_init_2 : decode cX5_init 2 = .ok (.putfield 1, 3) := dk_181 0 1 (dk_at dksX5_init_0 2 rfl rfl)
theorem dX5_init_5 : decode cX5_init 5 = .ok (.aload_n 0, 1) := dk_42 (dk_at dksX5_init_0 5 rfl rfl)
theorem dX5_init_6 : decode cX5_init 6 = .ok (.aload_n 1, 1) := dk_43 (dk_at dksX5_init_0 6 rfl rfl)
theorem dX5_init_7 : decode cX5_init 7 = .ok (.invokespecial 7, 3) := dk_183 0 7 (dk_at dksX5_init_0 7 rfl rfl)
theorem dX5_init_10 : decode cX5_init 10 = .ok (.aload_n 0, 1) := dk_42 (dk_at dksX5_init_0 10 rfl rfl)
theorem dX5_init_11 : decode cX5_init 11 = .ok (.aload_n 2, 1) := dk_44 (dk_at dksX5_init_0 11 rfl rfl)
theorem dX5_init_12 : decode cX5_init 12 = .ok (.putfield 13, 3) := dk_181 0 13 (dk_at dksX5_init_0 12 rfl rfl)
theorem dX5_init_15 : decode cX5_init 15 = .ok (.return_, 1) := dk_177 (dk_at dksX5_init_0 15 rfl rfl)
abbrev cX5_lay : ByteArray := prog_8_method_2_code
def yX5_lay : MethodName := ⟨RX5, "lay", "(LBehindAnotherHearse$Street;)V"⟩
def dkwX5_lay_1 : List UInt8 := [180, 0, 29, 28, 42, 180, 0, 13, 28, 46, 79, 132, 2, 1, 167, 255, 222, 177]
abbrev dktX5_lay_1 : List UInt8 := dkwX5_lay_1 ++ []
def dkwX5_lay_0 : List UInt8 := [3, 61, 28, 42, 180, 0, 1, 180, 0, 17, 162, 0, 29, 43, 28, 182, 0, 23, 153, 0, 15, 43]
abbrev dktX5_lay_0 : List UInt8 := dkwX5_lay_0 ++ dktX5_lay_1
theorem dksX5_lay_0 : cX5_lay.data.toList.drop 0 = dktX5_lay_0 := by decide +kernel
theorem dksX5_lay_1 : cX5_lay.data.toList.drop 22 = dktX5_lay_1 := dk_seg dksX5_lay_0 22 rfl rfl
theorem dX5_lay_0 : decode cX5_lay 0 = .ok (.iconst 0, 1) := dk_3 (dk_at dksX5_lay_0 0 rfl rfl)
theorem dX5_lay_1 : decode cX5_lay 1 = .ok (.istore_n 2, 1) := dk_61 (dk_at dksX5_lay_0 1 rfl rfl)
theorem dX5_lay_2 : decode cX5_lay 2 = .ok (.iload_n 2, 1) := dk_28 (dk_at dksX5_lay_0 2 rfl rfl)
theorem dX5_lay_3 : decode cX5_lay 3 = .ok (.aload_n 0, 1) := dk_42 (dk_at dksX5_lay_0 3 rfl rfl)
theorem dX5_lay_4 : decode cX5_lay 4 = .ok (.getfield 1, 3) := dk_180 0 1 (dk_at dksX5_lay_0 4 rfl rfl)
theorem dX5_lay_7 : decode cX5_lay 7 = .ok (.getfield 17, 3) := dk_180 0 17 (dk_at dksX5_lay_0 7 rfl rfl)
theorem dX5_lay_10 : decode cX5_lay 10 = .ok (.if_icmp .ge 29, 3) := dk_162 0 29 (dk_at dksX5_lay_0 10 rfl rfl)
theorem dX5_lay_13 : decode cX5_lay 13 = .ok (.aload_n 1, 1) := dk_43 (dk_at dksX5_lay_0 13 rfl rfl)
theorem dX5_lay_14 : decode cX5_lay 14 = .ok (.iload_n 2, 1) := dk_28 (dk_at dksX5_lay_0 14 rfl rfl)
theorem dX5_lay_15 : decode cX5_lay 15 = .ok (.invokevirtual 23, 3) := dk_182 0 23 (dk_at dksX5_lay_0 15 rfl rfl)
theorem dX5_lay_18 : decode cX5_lay 18 = .ok (.ifCond .eq 15, 3) := dk_153 0 15 (dk_at dksX5_lay_0 18 rfl rfl)
theorem dX5_lay_21 : decode cX5_lay 21 = .ok (.aload_n 1, 1) := dk_43 (dk_at dksX5_lay_0 21 rfl rfl)
theorem dX5_lay_22 : decode cX5_lay 22 = .ok (.getfield 29, 3) := dk_180 0 29 (dk_at dksX5_lay_1 0 rfl rfl)
theorem dX5_lay_25 : decode cX5_lay 25 = .ok (.iload_n 2, 1) := dk_28 (dk_at dksX5_lay_1 3 rfl rfl)
theorem dX5_lay_26 : decode cX5_lay 26 = .ok (.aload_n 0, 1) := dk_42 (dk_at dksX5_lay_1 4 rfl rfl)
theorem dX5_lay_27 : decode cX5_lay 27 = .ok (.getfield 13, 3) := dk_180 0 13 (dk_at dksX5_lay_1 5 rfl rfl)
theorem dX5_lay_30 : decode cX5_lay 30 = .ok (.iload_n 2, 1) := dk_28 (dk_at dksX5_lay_1 8 rfl rfl)
theorem dX5_lay_31 : decode cX5_lay 31 = .ok (.iaload, 1) := dk_46 (dk_at dksX5_lay_1 9 rfl rfl)
theorem dX5_lay_32 : decode cX5_lay 32 = .ok (.iastore, 1) := dk_79 (dk_at dksX5_lay_1 10 rfl rfl)
theorem dX5_lay_33 : decode cX5_lay 33 = .ok (.iinc 2 1, 3) := dk_132 2 1 (dk_at dksX5_lay_1 11 rfl rfl)
theorem dX5_lay_36 : decode cX5_lay 36 = .ok (.goto (-34), 3) := dk_167 255 222 (dk_at dksX5_lay_1 14 rfl rfl)
theorem dX5_lay_39 : decode cX5_lay 39 = .ok (.return_, 1) := dk_177 (dk_at dksX5_lay_1 17 rfl rfl)
theorem q83 : (Jvm.Cond.initialized "BehindAnotherHearse$Seated") ∈ lw_all := lw_g (lw_at lw_m1 5 rfl) rfl
theorem q122 : (Jvm.Cond.fieldLink "BehindAnotherHearse$Seated" (29 : Nat) "BehindAnotherHearse$Street" "at" "[I") ∈ lw_all := lw_g (lw_at lw_m1 44 rfl) rfl
theorem q193 : (Jvm.Cond.instantiable "BehindAnotherHearse$Seated" (3 : Nat)) ∈ lw_all := lw_g (lw_at lw_m1 115 rfl) rfl
theorem q195 : (Jvm.Cond.instanceMethod ({ cls := "BehindAnotherHearse$Seated", name := "<init>", desc := "(LBehindAnotherHearse;[I)V" } : Jvm.MethodName)) ∈ lw_all := lw_g (lw_at lw_m1 117 rfl) rfl
theorem q196 : (Jvm.Cond.code ({ cls := "BehindAnotherHearse$Seated", name := "<init>", desc := "(LBehindAnotherHearse;[I)V" } : Jvm.MethodName) prog_8_method_1_code (3 : Nat) (Option.none : Option Jvm.ClassFile.FieldType)) ∈ lw_all := lw_g (lw_at lw_m1 118 rfl) rfl
theorem q197 : (Jvm.Cond.methodLinkNest "BehindAnotherHearse$Seated" (7 : Nat) ({ cls := "BehindAnotherHearse$Trial", name := "<init>", desc := "(LBehindAnotherHearse;)V" } : Jvm.MethodName) "BehindAnotherHearse") ∈ lw_tbl := lw_at lw_m1 119 rfl
theorem q198 : (Jvm.Cond.fieldLink "BehindAnotherHearse$Seated" (13 : Nat) "BehindAnotherHearse$Seated" "to" "[I") ∈ lw_all := lw_g (lw_at lw_m1 120 rfl) rfl
theorem q199 : (Jvm.Cond.fieldLink "BehindAnotherHearse$Seated" (1 : Nat) "BehindAnotherHearse$Seated" "this$0" "LBehindAnotherHearse;") ∈ lw_all := lw_g (lw_at lw_m1 121 rfl) rfl
theorem q200 : (Jvm.Cond.laysFinal "BehindAnotherHearse$Seated" "BehindAnotherHearse$Seated" "to" "[I") ∈ lw_all := lw_g (lw_at lw_m1 122 rfl) rfl
theorem q201 : (Jvm.Cond.soleField "BehindAnotherHearse$Seated" "to") ∈ lw_all := lw_g (lw_at lw_m1 123 rfl) rfl
theorem q202 : (Jvm.Cond.laysFinal "BehindAnotherHearse$Seated" "BehindAnotherHearse$Seated" "this$0" "LBehindAnotherHearse;") ∈ lw_all := lw_g (lw_at lw_m1 124 rfl) rfl
theorem q203 : (Jvm.Cond.soleField "BehindAnotherHearse$Seated" "this$0") ∈ lw_all := lw_g (lw_at lw_m1 125 rfl) rfl
theorem q204 : (Jvm.Cond.laysFinal "BehindAnotherHearse$Seated" "BehindAnotherHearse$Trial" "this$0" "LBehindAnotherHearse;") ∈ lw_all := lw_g (lw_at lw_m1 126 rfl) rfl
theorem q205 : (Jvm.Cond.superclass "BehindAnotherHearse$Seated" "BehindAnotherHearse$Trial") ∈ lw_all := lw_g (lw_at lw_m1 127 rfl) rfl
theorem q220 : (Jvm.Cond.fieldLinkNest "BehindAnotherHearse$Seated" (17 : Nat) "BehindAnotherHearse" "hearses" "I" "BehindAnotherHearse") ∈ lw_tbl := lw_at lw_m1 142 rfl
theorem q961 : (Jvm.Cond.selects "BehindAnotherHearse$Seated" ({ cls := "BehindAnotherHearse$Trial", name := "run", desc := "()LBehindAnotherHearse$Street;" } : Jvm.MethodName) ({ cls := "BehindAnotherHearse$Trial", name := "run", desc := "()LBehindAnotherHearse$Street;" } : Jvm.MethodName)) ∈ lw_all := lw_g (lw_at lw_m4 163 rfl) rfl
theorem q973 : (Jvm.Cond.selects "BehindAnotherHearse$Seated" ({ cls := "BehindAnotherHearse$Trial", name := "lay", desc := "(LBehindAnotherHearse$Street;)V" } : Jvm.MethodName) ({ cls := "BehindAnotherHearse$Seated", name := "lay", desc := "(LBehindAnotherHearse$Street;)V" } : Jvm.MethodName)) ∈ lw_all := lw_g (lw_at lw_m4 175 rfl) rfl
theorem q974 : (Jvm.Cond.instanceMethod ({ cls := "BehindAnotherHearse$Seated", name := "lay", desc := "(LBehindAnotherHearse$Street;)V" } : Jvm.MethodName)) ∈ lw_all := lw_g (lw_at lw_m4 176 rfl) rfl
theorem q975 : (Jvm.Cond.code ({ cls := "BehindAnotherHearse$Seated", name := "lay", desc := "(LBehindAnotherHearse$Street;)V" } : Jvm.MethodName) prog_8_method_2_code (3 : Nat) (Option.none : Option Jvm.ClassFile.FieldType)) ∈ lw_all := lw_g (lw_at lw_m4 177 rfl) rfl
theorem q976 : (Jvm.Cond.methodLink "BehindAnotherHearse$Seated" (23 : Nat) ({ cls := "BehindAnotherHearse$Street", name := "isOn", desc := "(I)Z" } : Jvm.MethodName)) ∈ lw_all := lw_g (lw_at lw_m4 178 rfl) rfl
theorem q1017 : (Jvm.Cond.selects "BehindAnotherHearse$Seated" ({ cls := "BehindAnotherHearse$Trial", name := "rightMany", desc := "()I" } : Jvm.MethodName) ({ cls := "BehindAnotherHearse$Trial", name := "rightMany", desc := "()I" } : Jvm.MethodName)) ∈ lw_all := lw_g (lw_at lw_m4 219 rfl) rfl
theorem q1966 : (Jvm.Cond.castable "BehindAnotherHearse$Seated" "java/lang/Object") ∈ lw_tbl := lw_at lw_m8 208 rfl
theorem in_X5 : ∀ w ∈ wsX50, w ∈ lw_all := lw_in wsX50 [204, 200, 202] (by decide +kernel) (by decide +kernel)
/-! BehindAnotherHearse$Words -/
set_option maxRecDepth 100000
def RX7 : String := "BehindAnotherHearse$Words"
def TX7 : u_T := fun k => match k with
  | 0 => ("BehindAnotherHearse$Words", "of", "[B", true)
  | 1 => ("BehindAnotherHearse$Words", "size", "I", true)
  | 2 => ("BehindAnotherHearse$Words", "end", "I", true)
  | _ => ("BehindAnotherHearse$Words", "at", "I", false)
def tyX7 : Nat → FieldType := fun k => match k with
  | 0 => .array .byte
  | 1 => .int
  | 2 => .int
  | _ => .int
abbrev wsX70 : List Cond := u_ws RX7 TX7 4
theorem nmX7 : ∀ a, a < 4 → ∀ b, b < 4 → a ≠ b → (TX7 a).2.1 ≠ (TX7 b).2.1 := by decide +kernel
theorem tyX7_ok : ∀ k, k < 4 → parseFieldDescriptor (TX7 k).2.2.1 = some (tyX7 k) := by decide +kernel
abbrev cX7_init : ByteArray := prog_13_method_1_code
def yX7_init : MethodName := ⟨RX7, "<init>", "([BII)V"⟩
def dkwX7_init_0 : List UInt8 := [42, 183, 0, 3, 42, 43, 181, 0, 9, 42, 28, 181, 0, 15, 42, 28, 29, 184, 0, 19, 181, 0, 25, 177]
abbrev dktX7_init_0 : List UInt8 := dkwX7_init_0 ++ []
theorem dksX7_init_0 : cX7_init.data.toList.drop 0 = dktX7_init_0 := by decide +kernel
theorem dX7_init_0 : decode cX7_init 0 = .ok (.aload_n 0, 1) := dk_42 (dk_at dksX7_init_0 0 rfl rfl)
theorem dX7_init_1 : decode cX7_init 1 = .ok (.invokespecial 3, 3) := dk_183 0 3 (dk_at dksX7_init_0 1 rfl rfl)
theorem dX7_init_4 : decode cX7_init 4 = .ok (.aload_n 0, 1) := dk_42 (dk_at dksX7_init_0 4 rfl rfl)
theorem dX7_init_5 : decode cX7_init 5 = .ok (.aload_n 1, 1) := dk_43 (dk_at dksX7_init_0 5 rfl rfl)
theorem dX7_init_6 : decode cX7_init 6 = .ok (.putfield 9, 3) := dk_181 0 9 (dk_at dksX7_init_0 6 rfl rfl)
theorem dX7_init_9 : decode cX7_init 9 = .ok (.aload_n 0, 1) := dk_42 (dk_at dksX7_init_0 9 rfl rfl)
theorem dX7_init_10 : decode cX7_init 10 = .ok (.iload_n 2, 1) := dk_28 (dk_at dksX7_init_0 10 rfl rfl)
theorem dX7_init_11 : decode cX7_init 11 = .ok (.putfield 15, 3) := dk_181 0 15 (dk_at dksX7_init_0 11 rfl rfl)
theorem dX7_init_14 : decode cX7_init 14 = .ok (.aload_n 0, 1) := dk_42 (dk_at dksX7_init_0 14 rfl rfl)
theorem dX7_init_15 : decode cX7_init 15 = .ok (.iload_n 2, 1) := dk_28 (dk_at dksX7_init_0 15 rfl rfl)
theorem dX7_init_16 : decode cX7_init 16 = .ok (.iload_n 3, 1) := dk_29 (dk_at dksX7_init_0 16 rfl rfl)
theorem dX7_init_17 : decode cX7_init 17 = .ok (.invokestatic 19, 3) := dk_184 0 19 (dk_at dksX7_init_0 17 rfl rfl)
theorem dX7_init_20 : decode cX7_init 20 = .ok (.putfield 25, 3) := dk_181 0 25 (dk_at dksX7_init_0 20 rfl rfl)
theorem dX7_init_23 : decode cX7_init 23 = .ok (.return_, 1) := dk_177 (dk_at dksX7_init_0 23 rfl rfl)
abbrev cX7_here : ByteArray := prog_13_method_2_code
def yX7_here : MethodName := ⟨RX7, "here", "()I"⟩
def dkwX7_here_1 : List UInt8 := [167, 0, 4, 2, 172]
abbrev dktX7_here_1 : List UInt8 := dkwX7_here_1 ++ []
def dkwX7_here_0 : List UInt8 := [42, 180, 0, 28, 42, 180, 0, 25, 162, 0, 19, 42, 180, 0, 9, 42, 180, 0, 28, 51, 17, 0, 255, 126]
abbrev dktX7_here_0 : List UInt8 := dkwX7_here_0 ++ dktX7_here_1
theorem dksX7_here_0 : cX7_here.data.toList.drop 0 = dktX7_here_0 := by decide +kernel
theorem dksX7_here_1 : cX7_here.data.toList.drop 24 = dktX7_here_1 := dk_seg dksX7_here_0 24 rfl rfl
theorem dX7_here_0 : decode cX7_here 0 = .ok (.aload_n 0, 1) := dk_42 (dk_at dksX7_here_0 0 rfl rfl)
theorem dX7_here_1 : decode cX7_here 1 = .ok (.getfield 28, 3) := dk_180 0 28 (dk_at dksX7_here_0 1 rfl rfl)
theorem dX7_here_4 : decode cX7_here 4 = .ok (.aload_n 0, 1) := dk_42 (dk_at dksX7_here_0 4 rfl rfl)
theorem dX7_here_5 : decode cX7_here 5 = .ok (.getfield 25, 3) := dk_180 0 25 (dk_at dksX7_here_0 5 rfl rfl)
theorem dX7_here_8 : decode cX7_here 8 = .ok (.if_icmp .ge 19, 3) := dk_162 0 19 (dk_at dksX7_here_0 8 rfl rfl)
theorem dX7_here_11 : decode cX7_here 11 = .ok (.aload_n 0, 1) := dk_42 (dk_at dksX7_here_0 11 rfl rfl)
theorem dX7_here_12 : decode cX7_here 12 = .ok (.getfield 9, 3) := dk_180 0 9 (dk_at dksX7_here_0 12 rfl rfl)
theorem dX7_here_15 : decode cX7_here 15 = .ok (.aload_n 0, 1) := dk_42 (dk_at dksX7_here_0 15 rfl rfl)
theorem dX7_here_16 : decode cX7_here 16 = .ok (.getfield 28, 3) := dk_180 0 28 (dk_at dksX7_here_0 16 rfl rfl)
theorem dX7_here_19 : decode cX7_here 19 = .ok (.baload, 1) := dk_51 (dk_at dksX7_here_0 19 rfl rfl)
theorem dX7_here_20 : decode cX7_here 20 = .ok (.sipush 255, 3) := dk_17 0 255 (dk_at dksX7_here_0 20 rfl rfl)
theorem dX7_here_23 : decode cX7_here 23 = .ok (.iand, 1) := dk_126 (dk_at dksX7_here_0 23 rfl rfl)
theorem dX7_here_24 : decode cX7_here 24 = .ok (.goto 4, 3) := dk_167 0 4 (dk_at dksX7_here_1 0 rfl rfl)
theorem dX7_here_27 : decode cX7_here 27 = .ok (.iconst (-1), 1) := dk_2 (dk_at dksX7_here_1 3 rfl rfl)
theorem dX7_here_28 : decode cX7_here 28 = .ok (.ireturn, 1) := dk_172 (dk_at dksX7_here_1 4 rfl rfl)
abbrev cX7_passes : ByteArray := prog_13_method_5_code
def yX7_passes : MethodName := ⟨RX7, "passes", "(C)Z"⟩
def dkwX7_passes_0 : List UInt8 := [42, 182, 0, 40, 27, 159, 0, 5, 3, 172, 42, 89, 180, 0, 28, 4, 96, 181, 0, 28, 4, 172]
abbrev dktX7_passes_0 : List UInt8 := dkwX7_passes_0 ++ []
theorem dksX7_passes_0 : cX7_passes.data.toList.drop 0 = dktX7_passes_0 := by decide +kernel
theorem dX7_passes_0 : decode cX7_passes 0 = .ok (.aload_n 0, 1) := dk_42 (dk_at dksX7_passes_0 0 rfl rfl)
theorem dX7_passes_1 : decode cX7_passes 1 = .ok (.invokevirtual 40, 3) := dk_182 0 40 (dk_at dksX7_passes_0 1 rfl rfl)
theorem dX7_passes_4 : decode cX7_passes 4 = .ok (.iload_n 1, 1) := dk_27 (dk_at dksX7_passes_0 4 rfl rfl)
theorem dX7_passes_5 : decode cX7_passes 5 = .ok (.if_icmp .eq 5, 3) := dk_159 0 5 (dk_at dksX7_passes_0 5 rfl rfl)
theorem dX7_passes_8 : decode cX7_passes 8 = .ok (.iconst 0, 1) := dk_3 (dk_at dksX7_passes_0 8 rfl rfl)
theorem dX7_passes_9 : decode cX7_passes 9 = .ok (.ireturn, 1) := dk_172 (dk_at dksX7_passes_0 9 rfl rfl)
theorem dX7_passes_10 : decode cX7_passes 10 = .ok (.aload_n 0, 1) := dk_42 (dk_at dksX7_passes_0 10 rfl rfl)
theorem dX7_passes_11 : decode cX7_passes 11 = .ok (.dup, 1) := dk_89 (dk_at dksX7_passes_0 11 rfl rfl)
theorem dX7_passes_12 : decode cX7_passes 12 = .ok (.getfield 28, 3) := dk_180 0 28 (dk_at dksX7_passes_0 12 rfl rfl)
theorem dX7_passes_15 : decode cX7_passes 15 = .ok (.iconst 1, 1) := dk_4 (dk_at dksX7_passes_0 15 rfl rfl)
theorem dX7_passes_16 : decode cX7_passes 16 = .ok (.iadd, 1) := dk_96 (dk_at dksX7_passes_0 16 rfl rfl)
theorem dX7_passes_17 : decode cX7_passes 17 = .ok (.putfield 28, 3) := dk_181 0 28 (dk_at dksX7_passes_0 17 rfl rfl)
theorem dX7_passes_20 : decode cX7_passes 20 = .ok (.iconst 1, 1) := dk_4 (dk_at dksX7_passes_0 20 rfl rfl)
theorem dX7_passes_21 : decode cX7_passes 21 = .ok (.ireturn, 1) := dk_172 (dk_at dksX7_passes_0 21 rfl rfl)
abbrev cX7_need : ByteArray := prog_13_method_3_code
def yX7_need : MethodName := ⟨RX7, "need", "(Z)V"⟩
def dkwX7_need_0 : List UInt8 := [27, 154, 0, 15, 187, 0, 31, 89, 42, 180, 0, 28, 183, 0, 33, 191, 177]
abbrev dktX7_need_0 : List UInt8 := dkwX7_need_0 ++ []
theorem dksX7_need_0 : cX7_need.data.toList.drop 0 = dktX7_need_0 := by decide +kernel
theorem dX7_need_0 : decode cX7_need 0 = .ok (.iload_n 1, 1) := dk_27 (dk_at dksX7_need_0 0 rfl rfl)
theorem dX7_need_1 : decode cX7_need 1 = .ok (.ifCond .ne 15, 3) := dk_154 0 15 (dk_at dksX7_need_0 1 rfl rfl)
theorem dX7_need_4 : decode cX7_need 4 = .ok (.new 31, 3) := dk_187 0 31 (dk_at dksX7_need_0 4 rfl rfl)
theorem dX7_need_7 : decode cX7_need 7 = .ok (.dup, 1) := dk_89 (dk_at dksX7_need_0 7 rfl rfl)
theorem dX7_need_8 : decode cX7_need 8 = .ok (.aload_n 0, 1) := dk_42 (dk_at dksX7_need_0 8 rfl rfl)
theorem dX7_need_9 : decode cX7_need 9 = .ok (.getfield 28, 3) := dk_180 0 28 (dk_at dksX7_need_0 9 rfl rfl)
theorem dX7_need_12 : decode cX7_need 12 = .ok (.invokespecial 33, 3) := dk_183 0 33 (dk_at dksX7_need_0 12 rfl rfl)
theorem dX7_need_15 : decode cX7_need 15 = .ok (.athrow, 1) := dk_191 (dk_at dksX7_need_0 15 rfl rfl)
theorem dX7_need_16 : decode cX7_need 16 = .ok (.return_, 1) := dk_177 (dk_at dksX7_need_0 16 rfl rfl)
abbrev cX7_needEnd : ByteArray := prog_13_method_4_code
def yX7_needEnd : MethodName := ⟨RX7, "needEnd", "()V"⟩
def dkwX7_needEnd_0 : List UInt8 := [42, 42, 180, 0, 28, 42, 180, 0, 15, 160, 0, 7, 4, 167, 0, 4, 3, 182, 0, 36, 177]
abbrev dktX7_needEnd_0 : List UInt8 := dkwX7_needEnd_0 ++ []
theorem dksX7_needEnd_0 : cX7_needEnd.data.toList.drop 0 = dktX7_needEnd_0 := by decide +kernel
theorem dX7_needEnd_0 : decode cX7_needEnd 0 = .ok (.aload_n 0, 1) := dk_42 (dk_at dksX7_needEnd_0 0 rfl rfl)
theorem dX7_needEnd_1 : decode cX7_needEnd 1 = .ok (.aload_n 0, 1) := dk_42 (dk_at dksX7_needEnd_0 1 rfl rfl)
theorem dX7_needEnd_2 : decode cX7_needEnd 2 = .ok (.getfield 28, 3) := dk_180 0 28 (dk_at dksX7_needEnd_0 2 rfl rfl)
theorem dX7_needEnd_5 : decode cX7_needEnd 5 = .ok (.aload_n 0, 1) := dk_42 (dk_at dksX7_needEnd_0 5 rfl rfl)
theorem dX7_needEnd_6 : decode cX7_needEnd 6 = .ok (.getfield 15, 3) := dk_180 0 15 (dk_at dksX7_needEnd_0 6 rfl rfl)
theorem dX7_needEnd_9 : decode cX7_needEnd 9 = .ok (.if_icmp .ne 7, 3) := dk_160 0 7 (dk_at dksX7_needEnd_0 9 rfl rfl)
theorem dX7_needEnd_12 : decode cX7_needEnd 12 = .ok (.iconst 1, 1) := dk_4 (dk_at dksX7_needEnd_0 12 rfl rfl)
theorem dX7_needEnd_13 : decode cX7_needEnd 13 = .ok (.goto 4, 3) := dk_167 0 4 (dk_at dksX7_needEnd_0 13 rfl rfl)
theorem dX7_needEnd_16 : decode cX7_needEnd 16 = .ok (.iconst 0, 1) := dk_3 (dk_at dksX7_needEnd_0 16 rfl rfl)
theorem dX7_needEnd_17 : decode cX7_needEnd 17 = .ok (.invokevirtual 36, 3) := dk_182 0 36 (dk_at dksX7_needEnd_0 17 rfl rfl)
theorem dX7_needEnd_20 : decode cX7_needEnd 20 = .ok (.return_, 1) := dk_177 (dk_at dksX7_needEnd_0 20 rfl rfl)
abbrev cX7_number : ByteArray := prog_13_method_7_code
def yX7_number : MethodName := ⟨RX7, "number", "(I)I"⟩
def dkwX7_number_2 : List UInt8 := [132, 3, 1, 167, 255, 217, 28, 172]
abbrev dktX7_number_2 : List UInt8 := dkwX7_number_2 ++ []
def dkwX7_number_1 : List UInt8 := [20, 0, 54, 184, 0, 44, 153, 0, 23, 16, 10, 28, 104, 42, 16, 48, 16, 10, 182, 0, 48, 96, 61]
abbrev dktX7_number_1 : List UInt8 := dkwX7_number_1 ++ dktX7_number_2
def dkwX7_number_0 : List UInt8 := [42, 16, 48, 16, 10, 182, 0, 48, 61, 4, 62, 29, 27, 162, 0, 40, 42, 182, 0, 40, 133, 20, 0, 52]
abbrev dktX7_number_0 : List UInt8 := dkwX7_number_0 ++ dktX7_number_1
theorem dksX7_number_0 : cX7_number.data.toList.drop 0 = dktX7_number_0 := by decide +kernel
theorem dksX7_number_1 : cX7_number.data.toList.drop 24 = dktX7_number_1 := dk_seg dksX7_number_0 24 rfl rfl
theorem dksX7_number_2 : cX7_number.data.toList.drop 47 = dktX7_number_2 := dk_seg dksX7_number_1 23 rfl rfl
theorem dX7_number_0 : decode cX7_number 0 = .ok (.aload_n 0, 1) := dk_42 (dk_at dksX7_number_0 0 rfl rfl)
theorem dX7_number_1 : decode cX7_number 1 = .ok (.bipush 48, 2) := dk_16 48 (dk_at dksX7_number_0 1 rfl rfl)
theorem dX7_number_3 : decode cX7_number 3 = .ok (.bipush 10, 2) := dk_16 10 (dk_at dksX7_number_0 3 rfl rfl)
theorem dX7_number_5 : decode cX7_number 5 = .ok (.invokevirtual 48, 3) := dk_182 0 48 (dk_at dksX7_number_0 5 rfl rfl)
theorem dX7_number_8 : decode cX7_number 8 = .ok (.istore_n 2, 1) := dk_61 (dk_at dksX7_number_0 8 rfl rfl)
theorem dX7_number_9 : decode cX7_number 9 = .ok (.iconst 1, 1) := dk_4 (dk_at dksX7_number_0 9 rfl rfl)
theorem dX7_number_10 : decode cX7_number 10 = .ok (.istore_n 3, 1) := dk_62 (dk_at dksX7_number_0 10 rfl rfl)
theorem dX7_number_11 : decode cX7_number 11 = .ok (.iload_n 3, 1) := dk_29 (dk_at dksX7_number_0 11 rfl rfl)
theorem dX7_number_12 : decode cX7_number 12 = .ok (.iload_n 1, 1) := dk_27 (dk_at dksX7_number_0 12 rfl rfl)
theorem dX7_number_13 : decode cX7_number 13 = .ok (.if_icmp .ge 40, 3) := dk_162 0 40 (dk_at dksX7_number_0 13 rfl rfl)
theorem dX7_number_16 : decode cX7_number 16 = .ok (.aload_n 0, 1) := dk_42 (dk_at dksX7_number_0 16 rfl rfl)
theorem dX7_number_17 : decode cX7_number 17 = .ok (.invokevirtual 40, 3) := dk_182 0 40 (dk_at dksX7_number_0 17 rfl rfl)
theorem dX7_number_20 : decode cX7_number 20 = .ok (.i2l, 1) := dk_133 (dk_at dksX7_number_0 20 rfl rfl)
theorem dX7_number_21 : decode cX7_number 21 = .ok (.ldc2_w 52, 3) := dk_20 0 52 (dk_at dksX7_number_0 21 rfl rfl)
theorem dX7_number_24 : decode cX7_number 24 = .ok (.ldc2_w 54, 3) := dk_20 0 54 (dk_at dksX7_number_1 0 rfl rfl)
theorem dX7_number_27 : decode cX7_number 27 = .ok (.invokestatic 44, 3) := dk_184 0 44 (dk_at dksX7_number_1 3 rfl rfl)
theorem dX7_number_30 : decode cX7_number 30 = .ok (.ifCond .eq 23, 3) := dk_153 0 23 (dk_at dksX7_number_1 6 rfl rfl)
theorem dX7_number_33 : decode cX7_number 33 = .ok (.bipush 10, 2) := dk_16 10 (dk_at dksX7_number_1 9 rfl rfl)
theorem dX7_number_35 : decode cX7_number 35 = .ok (.iload_n 2, 1) := dk_28 (dk_at dksX7_number_1 11 rfl rfl)
theorem dX7_number_36 : decode cX7_number 36 = .ok (.imul, 1) := dk_104 (dk_at dksX7_number_1 12 rfl rfl)
theorem dX7_number_37 : decode cX7_number 37 = .ok (.aload_n 0, 1) := dk_42 (dk_at dksX7_number_1 13 rfl rfl)
theorem dX7_number_38 : decode cX7_number 38 = .ok (.bipush 48, 2) := dk_16 48 (dk_at dksX7_number_1 14 rfl rfl)
theorem dX7_number_40 : decode cX7_number 40 = .ok (.bipush 10, 2) := dk_16 10 (dk_at dksX7_number_1 16 rfl rfl)
theorem dX7_number_42 : decode cX7_number 42 = .ok (.invokevirtual 48, 3) := dk_182 0 48 (dk_at dksX7_number_1 18 rfl rfl)
theorem dX7_number_45 : decode cX7_number 45 = .ok (.iadd, 1) := dk_96 (dk_at dksX7_number_1 21 rfl rfl)
theorem dX7_number_46 : decode cX7_number 46 = .ok (.istore_n 2, 1) := dk_61 (dk_at dksX7_number_1 22 rfl rfl)
theorem dX7_number_47 : decode cX7_number 47 = .ok (.iinc 3 1, 3) := dk_132 3 1 (dk_at dksX7_number_2 0 rfl rfl)
theorem dX7_number_50 : decode cX7_number 50 = .ok (.goto (-39), 3) := dk_167 255 217 (dk_at dksX7_number_2 3 rfl rfl)
theorem dX7_number_53 : decode cX7_number 53 = .ok (.iload_n 2, 1) := dk_28 (dk_at dksX7_number_2 6 rfl rfl)
theorem dX7_number_54 : decode cX7_number 54 = .ok (.ireturn, 1) := dk_172 (dk_at dksX7_number_2 7 rfl rfl)
abbrev cX7_one : ByteArray := prog_13_method_6_code
def yX7_one : MethodName := ⟨RX7, "one", "(CI)I"⟩
def dkwX7_one_1 : List UInt8 := [180, 0, 28, 4, 96, 181, 0, 28, 42, 180, 0, 9, 42, 180, 0, 28, 4, 100, 51, 27, 100, 172]
abbrev dktX7_one_1 : List UInt8 := dkwX7_one_1 ++ []
def dkwX7_one_0 : List UInt8 := [42, 42, 182, 0, 40, 133, 27, 133, 27, 28, 96, 4, 100, 133, 184, 0, 44, 182, 0, 36, 42, 89]
abbrev dktX7_one_0 : List UInt8 := dkwX7_one_0 ++ dktX7_one_1
theorem dksX7_one_0 : cX7_one.data.toList.drop 0 = dktX7_one_0 := by decide +kernel
theorem dksX7_one_1 : cX7_one.data.toList.drop 22 = dktX7_one_1 := dk_seg dksX7_one_0 22 rfl rfl
theorem dX7_one_0 : decode cX7_one 0 = .ok (.aload_n 0, 1) := dk_42 (dk_at dksX7_one_0 0 rfl rfl)
theorem dX7_one_1 : decode cX7_one 1 = .ok (.aload_n 0, 1) := dk_42 (dk_at dksX7_one_0 1 rfl rfl)
theorem dX7_one_2 : decode cX7_one 2 = .ok (.invokevirtual 40, 3) := dk_182 0 40 (dk_at dksX7_one_0 2 rfl rfl)
theorem dX7_one_5 : decode cX7_one 5 = .ok (.i2l, 1) := dk_133 (dk_at dksX7_one_0 5 rfl rfl)
theorem dX7_one_6 : decode cX7_one 6 = .ok (.iload_n 1, 1) := dk_27 (dk_at dksX7_one_0 6 rfl rfl)
theorem dX7_one_7 : decode cX7_one 7 = .ok (.i2l, 1) := dk_133 (dk_at dksX7_one_0 7 rfl rfl)
theorem dX7_one_8 : decode cX7_one 8 = .ok (.iload_n 1, 1) := dk_27 (dk_at dksX7_one_0 8 rfl rfl)
theorem dX7_one_9 : decode cX7_one 9 = .ok (.iload_n 2, 1) := dk_28 (dk_at dksX7_one_0 9 rfl rfl)
theorem dX7_one_10 : decode cX7_one 10 = .ok (.iadd, 1) := dk_96 (dk_at dksX7_one_0 10 rfl rfl)
theorem dX7_one_11 : decode cX7_one 11 = .ok (.iconst 1, 1) := dk_4 (dk_at dksX7_one_0 11 rfl rfl)
theorem dX7_one_12 : decode cX7_one 12 = .ok (.isub, 1) := dk_100 (dk_at dksX7_one_0 12 rfl rfl)
theorem dX7_one_13 : decode cX7_one 13 = .ok (.i2l, 1) := dk_133 (dk_at dksX7_one_0 13 rfl rfl)
theorem dX7_one_14 : decode cX7_one 14 = .ok (.invokestatic 44, 3) := dk_184 0 44 (dk_at dksX7_one_0 14 rfl rfl)
theorem dX7_one_17 : decode cX7_one 17 = .ok (.invokevirtual 36, 3) := dk_182 0 36 (dk_at dksX7_one_0 17 rfl rfl)
theorem dX7_one_20 : decode cX7_one 20 = .ok (.aload_n 0, 1) := dk_42 (dk_at dksX7_one_0 20 rfl rfl)
theorem dX7_one_21 : decode cX7_one 21 = .ok (.dup, 1) := dk_89 (dk_at dksX7_one_0 21 rfl rfl)
theorem dX7_one_22 : decode cX7_one 22 = .ok (.getfield 28, 3) := dk_180 0 28 (dk_at dksX7_one_1 0 rfl rfl)
theorem dX7_one_25 : decode cX7_one 25 = .ok (.iconst 1, 1) := dk_4 (dk_at dksX7_one_1 3 rfl rfl)
theorem dX7_one_26 : decode cX7_one 26 = .ok (.iadd, 1) := dk_96 (dk_at dksX7_one_1 4 rfl rfl)
theorem dX7_one_27 : decode cX7_one 27 = .ok (.putfield 28, 3) := dk_181 0 28 (dk_at dksX7_one_1 5 rfl rfl)
theorem dX7_one_30 : decode cX7_one 30 = .ok (.aload_n 0, 1) := dk_42 (dk_at dksX7_one_1 8 rfl rfl)
theorem dX7_one_31 : decode cX7_one 31 = .ok (.getfield 9, 3) := dk_180 0 9 (dk_at dksX7_one_1 9 rfl rfl)
theorem dX7_one_34 : decode cX7_one 34 = .ok (.aload_n 0, 1) := dk_42 (dk_at dksX7_one_1 12 rfl rfl)
theorem dX7_one_35 : decode cX7_one 35 = .ok (.getfield 28, 3) := dk_180 0 28 (dk_at dksX7_one_1 13 rfl rfl)
theorem dX7_one_38 : decode cX7_one 38 = .ok (.iconst 1, 1) := dk_4 (dk_at dksX7_one_1 16 rfl rfl)
theorem dX7_one_39 : decode cX7_one 39 = .ok (.isub, 1) := dk_100 (dk_at dksX7_one_1 17 rfl rfl)
theorem dX7_one_40 : decode cX7_one 40 = .ok (.baload, 1) := dk_51 (dk_at dksX7_one_1 18 rfl rfl)
theorem dX7_one_41 : decode cX7_one 41 = .ok (.iload_n 1, 1) := dk_27 (dk_at dksX7_one_1 19 rfl rfl)
theorem dX7_one_42 : decode cX7_one 42 = .ok (.isub, 1) := dk_100 (dk_at dksX7_one_1 20 rfl rfl)
theorem dX7_one_43 : decode cX7_one 43 = .ok (.ireturn, 1) := dk_172 (dk_at dksX7_one_1 21 rfl rfl)
theorem q85 : (Jvm.Cond.initialized "BehindAnotherHearse$Words") ∈ lw_all := lw_g (lw_at lw_m1 7 rfl) rfl
theorem q338 : (Jvm.Cond.instantiable "BehindAnotherHearse$Words" (4 : Nat)) ∈ lw_all := lw_g (lw_at lw_m2 20 rfl) rfl
theorem q340 : (Jvm.Cond.instanceMethod ({ cls := "BehindAnotherHearse$Words", name := "<init>", desc := "([BII)V" } : Jvm.MethodName)) ∈ lw_all := lw_g (lw_at lw_m2 22 rfl) rfl
theorem q341 : (Jvm.Cond.code ({ cls := "BehindAnotherHearse$Words", name := "<init>", desc := "([BII)V" } : Jvm.MethodName) prog_13_method_1_code (4 : Nat) (Option.none : Option Jvm.ClassFile.FieldType)) ∈ lw_all := lw_g (lw_at lw_m2 23 rfl) rfl
theorem q342 : (Jvm.Cond.methodLink "BehindAnotherHearse$Words" (3 : Nat) ({ cls := "java/lang/Object", name := "<init>", desc := "()V" } : Jvm.MethodName)) ∈ lw_all := lw_g (lw_at lw_m2 24 rfl) rfl
theorem q343 : (Jvm.Cond.methodLink "BehindAnotherHearse$Words" (19 : Nat) ({ cls := "java/lang/Math", name := "min", desc := "(II)I" } : Jvm.MethodName)) ∈ lw_all := lw_g (lw_at lw_m2 25 rfl) rfl
theorem q346 : (Jvm.Cond.fieldLink "BehindAnotherHearse$Words" (9 : Nat) "BehindAnotherHearse$Words" "of" "[B") ∈ lw_all := lw_g (lw_at lw_m2 28 rfl) rfl
theorem q347 : (Jvm.Cond.fieldLink "BehindAnotherHearse$Words" (15 : Nat) "BehindAnotherHearse$Words" "size" "I") ∈ lw_all := lw_g (lw_at lw_m2 29 rfl) rfl
theorem q349 : (Jvm.Cond.fieldLink "BehindAnotherHearse$Words" (25 : Nat) "BehindAnotherHearse$Words" "end" "I") ∈ lw_all := lw_g (lw_at lw_m2 31 rfl) rfl
theorem q352 : (Jvm.Cond.fieldLink "BehindAnotherHearse$Words" (28 : Nat) "BehindAnotherHearse$Words" "at" "I") ∈ lw_all := lw_g (lw_at lw_m2 34 rfl) rfl
theorem q358 : (Jvm.Cond.laysFinal "BehindAnotherHearse$Words" "BehindAnotherHearse$Words" "of" "[B") ∈ lw_all := lw_g (lw_at lw_m2 40 rfl) rfl
theorem q359 : (Jvm.Cond.soleField "BehindAnotherHearse$Words" "of") ∈ lw_all := lw_g (lw_at lw_m2 41 rfl) rfl
theorem q360 : (Jvm.Cond.laysFinal "BehindAnotherHearse$Words" "BehindAnotherHearse$Words" "size" "I") ∈ lw_all := lw_g (lw_at lw_m2 42 rfl) rfl
theorem q361 : (Jvm.Cond.soleField "BehindAnotherHearse$Words" "size") ∈ lw_all := lw_g (lw_at lw_m2 43 rfl) rfl
theorem q362 : (Jvm.Cond.laysFinal "BehindAnotherHearse$Words" "BehindAnotherHearse$Words" "end" "I") ∈ lw_all := lw_g (lw_at lw_m2 44 rfl) rfl
theorem q363 : (Jvm.Cond.soleField "BehindAnotherHearse$Words" "end") ∈ lw_all := lw_g (lw_at lw_m2 45 rfl) rfl
theorem q364 : (Jvm.Cond.lays "BehindAnotherHearse$Words" "BehindAnotherHearse$Words" "at" "I") ∈ lw_all := lw_g (lw_at lw_m2 46 rfl) rfl
theorem q365 : (Jvm.Cond.soleField "BehindAnotherHearse$Words" "at") ∈ lw_all := lw_g (lw_at lw_m2 47 rfl) rfl
theorem q366 : (Jvm.Cond.superclass "BehindAnotherHearse$Words" "java/lang/Object") ∈ lw_all := lw_g (lw_at lw_m2 48 rfl) rfl
theorem q368 : (Jvm.Cond.instanceMethod ({ cls := "BehindAnotherHearse$Words", name := "here", desc := "()I" } : Jvm.MethodName)) ∈ lw_all := lw_g (lw_at lw_m2 50 rfl) rfl
theorem q369 : (Jvm.Cond.selects "BehindAnotherHearse$Words" ({ cls := "BehindAnotherHearse$Words", name := "here", desc := "()I" } : Jvm.MethodName) ({ cls := "BehindAnotherHearse$Words", name := "here", desc := "()I" } : Jvm.MethodName)) ∈ lw_all := lw_g (lw_at lw_m2 51 rfl) rfl
theorem q370 : (Jvm.Cond.sameMethod "BehindAnotherHearse$Words" "BehindAnotherHearse$Words" "here" "()I") ∈ lw_all := lw_g (lw_at lw_m2 52 rfl) rfl
theorem q373 : (Jvm.Cond.code ({ cls := "BehindAnotherHearse$Words", name := "here", desc := "()I" } : Jvm.MethodName) prog_13_method_2_code (1 : Nat) (Option.some Jvm.ClassFile.FieldType.int)) ∈ lw_all := lw_g (lw_at lw_m2 55 rfl) rfl
theorem q375 : (Jvm.Cond.instanceMethod ({ cls := "BehindAnotherHearse$Words", name := "passes", desc := "(C)Z" } : Jvm.MethodName)) ∈ lw_all := lw_g (lw_at lw_m2 57 rfl) rfl
theorem q376 : (Jvm.Cond.selects "BehindAnotherHearse$Words" ({ cls := "BehindAnotherHearse$Words", name := "passes", desc := "(C)Z" } : Jvm.MethodName) ({ cls := "BehindAnotherHearse$Words", name := "passes", desc := "(C)Z" } : Jvm.MethodName)) ∈ lw_all := lw_g (lw_at lw_m2 58 rfl) rfl
theorem q377 : (Jvm.Cond.sameMethod "BehindAnotherHearse$Words" "BehindAnotherHearse$Words" "passes" "(C)Z") ∈ lw_all := lw_g (lw_at lw_m2 59 rfl) rfl
theorem q380 : (Jvm.Cond.code ({ cls := "BehindAnotherHearse$Words", name := "passes", desc := "(C)Z" } : Jvm.MethodName) prog_13_method_5_code (2 : Nat) (Option.some Jvm.ClassFile.FieldType.boolean)) ∈ lw_all := lw_g (lw_at lw_m2 62 rfl) rfl
theorem q381 : (Jvm.Cond.methodLink "BehindAnotherHearse$Words" (40 : Nat) ({ cls := "BehindAnotherHearse$Words", name := "here", desc := "()I" } : Jvm.MethodName)) ∈ lw_all := lw_g (lw_at lw_m2 63 rfl) rfl
theorem q383 : (Jvm.Cond.instanceMethod ({ cls := "BehindAnotherHearse$Words", name := "need", desc := "(Z)V" } : Jvm.MethodName)) ∈ lw_all := lw_g (lw_at lw_m2 65 rfl) rfl
theorem q384 : (Jvm.Cond.selects "BehindAnotherHearse$Words" ({ cls := "BehindAnotherHearse$Words", name := "need", desc := "(Z)V" } : Jvm.MethodName) ({ cls := "BehindAnotherHearse$Words", name := "need", desc := "(Z)V" } : Jvm.MethodName)) ∈ lw_all := lw_g (lw_at lw_m2 66 rfl) rfl
theorem q385 : (Jvm.Cond.sameMethod "BehindAnotherHearse$Words" "BehindAnotherHearse$Words" "need" "(Z)V") ∈ lw_all := lw_g (lw_at lw_m2 67 rfl) rfl
theorem q388 : (Jvm.Cond.code ({ cls := "BehindAnotherHearse$Words", name := "need", desc := "(Z)V" } : Jvm.MethodName) prog_13_method_3_code (2 : Nat) (Option.none : Option Jvm.ClassFile.FieldType)) ∈ lw_all := lw_g (lw_at lw_m2 70 rfl) rfl
theorem q389 : (Jvm.Cond.classLink "BehindAnotherHearse$Words" (31 : Nat) "BehindAnotherHearse$Fault") ∈ lw_all := lw_g (lw_at lw_m2 71 rfl) rfl
theorem q428 : (Jvm.Cond.methodLink "BehindAnotherHearse$Words" (33 : Nat) ({ cls := "BehindAnotherHearse$Fault", name := "<init>", desc := "(I)V" } : Jvm.MethodName)) ∈ lw_all := lw_g (lw_at lw_m2 110 rfl) rfl
theorem q453 : (Jvm.Cond.instanceMethod ({ cls := "BehindAnotherHearse$Words", name := "needEnd", desc := "()V" } : Jvm.MethodName)) ∈ lw_all := lw_g (lw_at lw_m2 135 rfl) rfl
theorem q454 : (Jvm.Cond.selects "BehindAnotherHearse$Words" ({ cls := "BehindAnotherHearse$Words", name := "needEnd", desc := "()V" } : Jvm.MethodName) ({ cls := "BehindAnotherHearse$Words", name := "needEnd", desc := "()V" } : Jvm.MethodName)) ∈ lw_all := lw_g (lw_at lw_m2 136 rfl) rfl
theorem q455 : (Jvm.Cond.sameMethod "BehindAnotherHearse$Words" "BehindAnotherHearse$Words" "needEnd" "()V") ∈ lw_all := lw_g (lw_at lw_m2 137 rfl) rfl
theorem q458 : (Jvm.Cond.code ({ cls := "BehindAnotherHearse$Words", name := "needEnd", desc := "()V" } : Jvm.MethodName) prog_13_method_4_code (1 : Nat) (Option.none : Option Jvm.ClassFile.FieldType)) ∈ lw_all := lw_g (lw_at lw_m2 140 rfl) rfl
theorem q459 : (Jvm.Cond.methodLink "BehindAnotherHearse$Words" (36 : Nat) ({ cls := "BehindAnotherHearse$Words", name := "need", desc := "(Z)V" } : Jvm.MethodName)) ∈ lw_all := lw_g (lw_at lw_m2 141 rfl) rfl
theorem q475 : (Jvm.Cond.instanceMethod ({ cls := "BehindAnotherHearse$Words", name := "number", desc := "(I)I" } : Jvm.MethodName)) ∈ lw_all := lw_g (lw_at lw_m2 157 rfl) rfl
theorem q476 : (Jvm.Cond.selects "BehindAnotherHearse$Words" ({ cls := "BehindAnotherHearse$Words", name := "number", desc := "(I)I" } : Jvm.MethodName) ({ cls := "BehindAnotherHearse$Words", name := "number", desc := "(I)I" } : Jvm.MethodName)) ∈ lw_all := lw_g (lw_at lw_m2 158 rfl) rfl
theorem q477 : (Jvm.Cond.sameMethod "BehindAnotherHearse$Words" "BehindAnotherHearse$Words" "number" "(I)I") ∈ lw_all := lw_g (lw_at lw_m2 159 rfl) rfl
theorem q480 : (Jvm.Cond.code ({ cls := "BehindAnotherHearse$Words", name := "number", desc := "(I)I" } : Jvm.MethodName) prog_13_method_7_code (4 : Nat) (Option.some Jvm.ClassFile.FieldType.int)) ∈ lw_all := lw_g (lw_at lw_m2 162 rfl) rfl
theorem q481 : (Jvm.Cond.methodLink "BehindAnotherHearse$Words" (48 : Nat) ({ cls := "BehindAnotherHearse$Words", name := "one", desc := "(CI)I" } : Jvm.MethodName)) ∈ lw_all := lw_g (lw_at lw_m2 163 rfl) rfl
theorem q482 : (Jvm.Cond.instanceMethod ({ cls := "BehindAnotherHearse$Words", name := "one", desc := "(CI)I" } : Jvm.MethodName)) ∈ lw_all := lw_g (lw_at lw_m2 164 rfl) rfl
theorem q483 : (Jvm.Cond.selects "BehindAnotherHearse$Words" ({ cls := "BehindAnotherHearse$Words", name := "one", desc := "(CI)I" } : Jvm.MethodName) ({ cls := "BehindAnotherHearse$Words", name := "one", desc := "(CI)I" } : Jvm.MethodName)) ∈ lw_all := lw_g (lw_at lw_m2 165 rfl) rfl
theorem q484 : (Jvm.Cond.sameMethod "BehindAnotherHearse$Words" "BehindAnotherHearse$Words" "one" "(CI)I") ∈ lw_all := lw_g (lw_at lw_m2 166 rfl) rfl
theorem q487 : (Jvm.Cond.code ({ cls := "BehindAnotherHearse$Words", name := "one", desc := "(CI)I" } : Jvm.MethodName) prog_13_method_6_code (3 : Nat) (Option.some Jvm.ClassFile.FieldType.int)) ∈ lw_all := lw_g (lw_at lw_m2 169 rfl) rfl
theorem q488 : (Jvm.Cond.methodLinkNest "BehindAnotherHearse$Words" (44 : Nat) ({ cls := "BehindAnotherHearse", name := "in", desc := "(JJJ)Z" } : Jvm.MethodName) "BehindAnotherHearse") ∈ lw_tbl := lw_at lw_m2 170 rfl
theorem q489 : (Jvm.Cond.constantLong "BehindAnotherHearse$Words" (52 : Nat) (48 : Int64)) ∈ lw_all := lw_g (lw_at lw_m2 171 rfl) rfl
theorem q490 : (Jvm.Cond.constantLong "BehindAnotherHearse$Words" (54 : Nat) (57 : Int64)) ∈ lw_all := lw_g (lw_at lw_m2 172 rfl) rfl
theorem q566 : (Jvm.Cond.declares ({ cls := "BehindAnotherHearse$Words", name := "passes", desc := "(C)Z" } : Jvm.MethodName)) ∈ lw_tbl := lw_at lw_m3 8 rfl
theorem q570 : (Jvm.Cond.declares ({ cls := "BehindAnotherHearse$Words", name := "here", desc := "()I" } : Jvm.MethodName)) ∈ lw_tbl := lw_at lw_m3 12 rfl
theorem q574 : (Jvm.Cond.declares ({ cls := "BehindAnotherHearse$Words", name := "need", desc := "(Z)V" } : Jvm.MethodName)) ∈ lw_tbl := lw_at lw_m3 16 rfl
theorem q581 : (Jvm.Cond.declares ({ cls := "BehindAnotherHearse$Words", name := "number", desc := "(I)I" } : Jvm.MethodName)) ∈ lw_tbl := lw_at lw_m3 23 rfl
theorem q691 : (Jvm.Cond.declares ({ cls := "BehindAnotherHearse$Words", name := "needEnd", desc := "()V" } : Jvm.MethodName)) ∈ lw_tbl := lw_at lw_m3 133 rfl
theorem q909 : (Jvm.Cond.declares ({ cls := "BehindAnotherHearse$Words", name := "one", desc := "(CI)I" } : Jvm.MethodName)) ∈ lw_tbl := lw_at lw_m4 111 rfl
theorem q1968 : (Jvm.Cond.castable "BehindAnotherHearse$Words" "java/lang/Object") ∈ lw_tbl := lw_at lw_m8 210 rfl
theorem in_X7 : ∀ w ∈ wsX70, w ∈ lw_all := lw_in wsX70 [358, 360, 362, 364] (by decide +kernel) (by decide +kernel)
/-! BehindAnotherHearse$Fault -/
set_option maxRecDepth 100000
def RX8 : String := "BehindAnotherHearse$Fault"
def TX8 : u_T := fun k => match k with
  | 0 => ("java/lang/Throwable", "cause", "Ljava/lang/Throwable;", false)
  | 1 => ("java/lang/Throwable", "stackTrace", "[Ljava/lang/StackTraceElement;", false)
  | 2 => ("java/lang/Throwable", "suppressedExceptions", "Ljava/util/List;", false)
  | 3 => ("java/lang/Throwable", "detailMessage", "Ljava/lang/String;", false)
  | 4 => ("java/lang/Throwable", "backtrace", "Ljava/lang/Object;", false)
  | 5 => ("java/lang/Throwable", "depth", "I", false)
  | _ => ("BehindAnotherHearse$Fault", "at", "I", true)
def tyX8 : Nat → FieldType := fun k => match k with
  | 0 => .object "java/lang/Throwable"
  | 1 => .array (.object "java/lang/StackTraceElement")
  | 2 => .object "java/util/List"
  | 3 => .object "java/lang/String"
  | 4 => .object "java/lang/Object"
  | 5 => .int
  | _ => .int
abbrev wsX80 : List Cond := u_ws RX8 TX8 7
theorem nmX8 : ∀ a, a < 7 → ∀ b, b < 7 → a ≠ b → (TX8 a).2.1 ≠ (TX8 b).2.1 := by decide +kernel
theorem tyX8_ok : ∀ k, k < 7 → parseFieldDescriptor (TX8 k).2.2.1 = some (tyX8 k) := by decide +kernel
abbrev cX8_init : ByteArray := prog_3_method_1_code
def yX8_init : MethodName := ⟨RX8, "<init>", "(I)V"⟩
def dkwX8_init_0 : List UInt8 := [42, 183, 0, 1, 42, 27, 181, 0, 7, 177]
abbrev dktX8_init_0 : List UInt8 := dkwX8_init_0 ++ []
theorem dksX8_init_0 : cX8_init.data.toList.drop 0 = dktX8_init_0 := by decide +kernel
theorem dX8_init_0 : decode cX8_init 0 = .ok (.aload_n 0, 1) := dk_42 (dk_at dksX8_init_0 0 rfl rfl)
theorem dX8_init_1 : decode cX8_init 1 = .ok (.invokespecial 1, 3) := dk_183 0 1 (dk_at dksX8_init_0 1 rfl rfl)
theorem dX8_init_4 : decode cX8_init 4 = .ok (.aload_n 0, 1) := dk_42 (dk_at dksX8_init_0 4 rfl rfl)
theorem dX8_init_5 : decode cX8_init 5 = .ok (.iload_n 1, 1) := dk_27 (dk_at dksX8_init_0 5 rfl rfl)
theorem dX8_init_6 : decode cX8_init 6 = .ok (.putfield 7, 3) := dk_181 0 7 (dk_at dksX8_init_0 6 rfl rfl)
theorem dX8_init_9 : decode cX8_init 9 = .ok (.return_, 1) := dk_177 (dk_at dksX8_init_0 9 rfl rfl)
theorem q89 : (Jvm.Cond.initialized "BehindAnotherHearse$Fault") ∈ lw_all := lw_g (lw_at lw_m1 11 rfl) rfl
theorem q390 : (Jvm.Cond.instantiable "BehindAnotherHearse$Fault" (7 : Nat)) ∈ lw_all := lw_g (lw_at lw_m2 72 rfl) rfl
theorem q391 : (Jvm.Cond.castable "BehindAnotherHearse$Fault" "BehindAnotherHearse$Fault") ∈ lw_tbl := lw_at lw_m2 73 rfl
theorem q396 : (Jvm.Cond.selects "BehindAnotherHearse$Fault" ({ cls := "java/lang/Throwable", name := "fillInStackTrace", desc := "(I)Ljava/lang/Throwable;" } : Jvm.MethodName) ({ cls := "java/lang/Throwable", name := "fillInStackTrace", desc := "(I)Ljava/lang/Throwable;" } : Jvm.MethodName)) ∈ lw_all := lw_g (lw_at lw_m2 78 rfl) rfl
theorem q397 : (Jvm.Cond.selects "BehindAnotherHearse$Fault" ({ cls := "java/lang/Throwable", name := "fillInStackTrace", desc := "()Ljava/lang/Throwable;" } : Jvm.MethodName) ({ cls := "java/lang/Throwable", name := "fillInStackTrace", desc := "()Ljava/lang/Throwable;" } : Jvm.MethodName)) ∈ lw_all := lw_g (lw_at lw_m2 79 rfl) rfl
theorem q398 : (Jvm.Cond.lays "BehindAnotherHearse$Fault" "java/lang/Throwable" "cause" "Ljava/lang/Throwable;") ∈ lw_all := lw_g (lw_at lw_m2 80 rfl) rfl
theorem q400 : (Jvm.Cond.lays "BehindAnotherHearse$Fault" "java/lang/Throwable" "stackTrace" "[Ljava/lang/StackTraceElement;") ∈ lw_all := lw_g (lw_at lw_m2 82 rfl) rfl
theorem q402 : (Jvm.Cond.lays "BehindAnotherHearse$Fault" "java/lang/Throwable" "suppressedExceptions" "Ljava/util/List;") ∈ lw_all := lw_g (lw_at lw_m2 84 rfl) rfl
theorem q404 : (Jvm.Cond.lays "BehindAnotherHearse$Fault" "java/lang/Throwable" "detailMessage" "Ljava/lang/String;") ∈ lw_all := lw_g (lw_at lw_m2 86 rfl) rfl
theorem q406 : (Jvm.Cond.lays "BehindAnotherHearse$Fault" "java/lang/Throwable" "backtrace" "Ljava/lang/Object;") ∈ lw_all := lw_g (lw_at lw_m2 88 rfl) rfl
theorem q429 : (Jvm.Cond.instanceMethod ({ cls := "BehindAnotherHearse$Fault", name := "<init>", desc := "(I)V" } : Jvm.MethodName)) ∈ lw_all := lw_g (lw_at lw_m2 111 rfl) rfl
theorem q430 : (Jvm.Cond.code ({ cls := "BehindAnotherHearse$Fault", name := "<init>", desc := "(I)V" } : Jvm.MethodName) prog_3_method_1_code (2 : Nat) (Option.none : Option Jvm.ClassFile.FieldType)) ∈ lw_all := lw_g (lw_at lw_m2 112 rfl) rfl
theorem q431 : (Jvm.Cond.methodLink "BehindAnotherHearse$Fault" (1 : Nat) ({ cls := "java/lang/Exception", name := "<init>", desc := "()V" } : Jvm.MethodName)) ∈ lw_all := lw_g (lw_at lw_m2 113 rfl) rfl
theorem q435 : (Jvm.Cond.fieldLink "BehindAnotherHearse$Fault" (7 : Nat) "BehindAnotherHearse$Fault" "at" "I") ∈ lw_all := lw_g (lw_at lw_m2 117 rfl) rfl
theorem q442 : (Jvm.Cond.laysFinal "BehindAnotherHearse$Fault" "BehindAnotherHearse$Fault" "at" "I") ∈ lw_all := lw_g (lw_at lw_m2 124 rfl) rfl
theorem q443 : (Jvm.Cond.soleField "BehindAnotherHearse$Fault" "at") ∈ lw_all := lw_g (lw_at lw_m2 125 rfl) rfl
theorem q448 : (Jvm.Cond.lays "BehindAnotherHearse$Fault" "java/lang/Throwable" "depth" "I") ∈ lw_all := lw_g (lw_at lw_m2 130 rfl) rfl
theorem q451 : (Jvm.Cond.superclass "BehindAnotherHearse$Fault" "java/lang/Exception") ∈ lw_all := lw_g (lw_at lw_m2 133 rfl) rfl
theorem q1969 : (Jvm.Cond.castable "BehindAnotherHearse$Fault" "java/lang/Object") ∈ lw_tbl := lw_at lw_m8 211 rfl
theorem in_X8 : ∀ w ∈ wsX80, w ∈ lw_all := lw_in wsX80 [398, 400, 402, 404, 406, 448, 442] (by decide +kernel) (by decide +kernel)
/-! BehindAnotherHearse$Rule -/
set_option maxRecDepth 100000
def RX9 : String := "BehindAnotherHearse$Rule"
def TX9 : u_T := fun k => match k with
  | 0 => ("BehindAnotherHearse$Words", "of", "[B", true)
  | 1 => ("BehindAnotherHearse$Words", "size", "I", true)
  | 2 => ("BehindAnotherHearse$Words", "end", "I", true)
  | 3 => ("BehindAnotherHearse$Words", "at", "I", false)
  | 4 => ("BehindAnotherHearse$Rule", "street", "LBehindAnotherHearse$Street;", false)
  | 5 => ("BehindAnotherHearse$Rule", "hearse", "I", false)
  | _ => ("BehindAnotherHearse$Rule", "this$0", "LBehindAnotherHearse;", true)
def tyX9 : Nat → FieldType := fun k => match k with
  | 0 => .array .byte
  | 1 => .int
  | 2 => .int
  | 3 => .int
  | 4 => .object "BehindAnotherHearse$Street"
  | 5 => .int
  | _ => .object "BehindAnotherHearse"
abbrev wsX90 : List Cond := u_ws RX9 TX9 7
theorem nmX9 : ∀ a, a < 7 → ∀ b, b < 7 → a ≠ b → (TX9 a).2.1 ≠ (TX9 b).2.1 := by decide +kernel
theorem tyX9_ok : ∀ k, k < 7 → parseFieldDescriptor (TX9 k).2.2.1 = some (tyX9 k) := by decide +kernel
abbrev cX9_init : ByteArray := prog_7_method_1_code
def yX9_init : MethodName := ⟨RX9, "<init>", "(LBehindAnotherHearse;[BI)V"⟩
def dkwX9_init_0 : List UInt8 := [42, 43, 181, 0, 3, 42, 44, 29, 16, 40, 183, 0, 9, 177]
abbrev dktX9_init_0 : List UInt8 := dkwX9_init_0 ++ []
theorem dksX9_init_0 : cX9_init.data.toList.drop 0 = dktX9_init_0 := by decide +kernel
theorem dX9_init_0 : decode cX9_init 0 = .ok (.aload_n 0, 1) := dk_42 (dk_at dksX9_init_0 0 rfl rfl)
theorem dX9_init_1 : decode cX9_init 1 = .ok (.aload_n 1, 1) := dk_43 (dk_at dksX9_init_0 1 rfl rfl)
theorem dX9_init_2 : decode cX9_init 2 = .ok (.putfield 3, 3) := dk_181 0 3 (dk_at dksX9_init_0 2 rfl rfl)
theorem dX9_init_5 : decode cX9_init 5 = .ok (.aload_n 0, 1) := dk_42 (dk_at dksX9_init_0 5 rfl rfl)
theorem dX9_init_6 : decode cX9_init 6 = .ok (.aload_n 2, 1) := dk_44 (dk_at dksX9_init_0 6 rfl rfl)
theorem dX9_init_7 : decode cX9_init 7 = .ok (.iload_n 3, 1) := dk_29 (dk_at dksX9_init_0 7 rfl rfl)
theorem dX9_init_8 : decode cX9_init 8 = .ok (.bipush 40, 2) := dk_16 40 (dk_at dksX9_init_0 8 rfl rfl)
theorem dX9_init_10 : decode cX9_init 10 = .ok (.invokespecial 9, 3) := dk_183 0 9 (dk_at dksX9_init_0 10 rfl rfl)
theorem dX9_init_13 : decode cX9_init 13 = .ok (.return_, 1) := dk_177 (dk_at dksX9_init_0 13 rfl rfl)
abbrev cX9_read : ByteArray := prog_7_method_2_code
def yX9_read : MethodName := ⟨RX9, "read", "()LBehindAnotherHearse$Rule;"⟩
def dkwX9_read_0 : List UInt8 := [42, 3, 182, 0, 15, 87, 42, 182, 0, 19, 42, 176]
abbrev dktX9_read_0 : List UInt8 := dkwX9_read_0 ++ []
theorem dksX9_read_0 : cX9_read.data.toList.drop 0 = dktX9_read_0 := by decide +kernel
theorem dX9_read_0 : decode cX9_read 0 = .ok (.aload_n 0, 1) := dk_42 (dk_at dksX9_read_0 0 rfl rfl)
theorem dX9_read_1 : decode cX9_read 1 = .ok (.iconst 0, 1) := dk_3 (dk_at dksX9_read_0 1 rfl rfl)
theorem dX9_read_2 : decode cX9_read 2 = .ok (.invokevirtual 15, 3) := dk_182 0 15 (dk_at dksX9_read_0 2 rfl rfl)
theorem dX9_read_5 : decode cX9_read 5 = .ok (.pop, 1) := dk_87 (dk_at dksX9_read_0 5 rfl rfl)
theorem dX9_read_6 : decode cX9_read 6 = .ok (.aload_n 0, 1) := dk_42 (dk_at dksX9_read_0 6 rfl rfl)
theorem dX9_read_7 : decode cX9_read 7 = .ok (.invokevirtual 19, 3) := dk_182 0 19 (dk_at dksX9_read_0 7 rfl rfl)
theorem dX9_read_10 : decode cX9_read 10 = .ok (.aload_n 0, 1) := dk_42 (dk_at dksX9_read_0 10 rfl rfl)
theorem dX9_read_11 : decode cX9_read 11 = .ok (.areturn, 1) := dk_176 (dk_at dksX9_read_0 11 rfl rfl)
abbrev cX9_held : ByteArray := prog_7_method_4_code
def yX9_held : MethodName := ⟨RX9, "held", "(I)I"⟩
def dkwX9_held_3 : List UInt8 := [4, 167, 0, 4, 3, 172, 28, 172]
abbrev dktX9_held_3 : List UInt8 := dkwX9_held_3 ++ []
def dkwX9_held_2 : List UInt8 := [4, 167, 0, 4, 3, 172, 42, 16, 61, 182, 0, 39, 153, 0, 18, 28, 42, 27, 182, 0, 36, 160, 0, 7]
abbrev dktX9_held_2 : List UInt8 := dkwX9_held_2 ++ dktX9_held_3
def dkwX9_held_1 : List UInt8 := [4, 167, 0, 4, 3, 172, 42, 16, 62, 182, 0, 39, 153, 0, 18, 28, 42, 27, 182, 0, 36, 164, 0, 7]
abbrev dktX9_held_1 : List UInt8 := dkwX9_held_1 ++ dktX9_held_2
def dkwX9_held_0 : List UInt8 := [42, 27, 182, 0, 36, 61, 42, 16, 60, 182, 0, 39, 153, 0, 18, 28, 42, 27, 182, 0, 36, 162, 0, 7]
abbrev dktX9_held_0 : List UInt8 := dkwX9_held_0 ++ dktX9_held_1
theorem dksX9_held_0 : cX9_held.data.toList.drop 0 = dktX9_held_0 := by decide +kernel
theorem dksX9_held_1 : cX9_held.data.toList.drop 24 = dktX9_held_1 := dk_seg dksX9_held_0 24 rfl rfl
theorem dksX9_held_2 : cX9_held.data.toList.drop 48 = dktX9_held_2 := dk_seg dksX9_held_1 24 rfl rfl
theorem dksX9_held_3 : cX9_held.data.toList.drop 72 = dktX9_held_3 := dk_seg dksX9_held_2 24 rfl rfl
theorem dX9_held_0 : decode cX9_held 0 = .ok (.aload_n 0, 1) := dk_42 (dk_at dksX9_held_0 0 rfl rfl)
theorem dX9_held_1 : decode cX9_held 1 = .ok (.iload_n 1, 1) := dk_27 (dk_at dksX9_held_0 1 rfl rfl)
theorem dX9_held_2 : decode cX9_held 2 = .ok (.invokevirtual 36, 3) := dk_182 0 36 (dk_at dksX9_held_0 2 rfl rfl)
theorem dX9_held_5 : decode cX9_held 5 = .ok (.istore_n 2, 1) := dk_61 (dk_at dksX9_held_0 5 rfl rfl)
theorem dX9_held_6 : decode cX9_held 6 = .ok (.aload_n 0, 1) := dk_42 (dk_at dksX9_held_0 6 rfl rfl)
theorem dX9_held_7 : decode cX9_held 7 = .ok (.bipush 60, 2) := dk_16 60 (dk_at dksX9_held_0 7 rfl rfl)
theorem dX9_held_9 : decode cX9_held 9 = .ok (.invokevirtual 39, 3) := dk_182 0 39 (dk_at dksX9_held_0 9 rfl rfl)
theorem dX9_held_12 : decode cX9_held 12 = .ok (.ifCond .eq 18, 3) := dk_153 0 18 (dk_at dksX9_held_0 12 rfl rfl)
theorem dX9_held_15 : decode cX9_held 15 = .ok (.iload_n 2, 1) := dk_28 (dk_at dksX9_held_0 15 rfl rfl)
theorem dX9_held_16 : decode cX9_held 16 = .ok (.aload_n 0, 1) := dk_42 (dk_at dksX9_held_0 16 rfl rfl)
theorem dX9_held_17 : decode cX9_held 17 = .ok (.iload_n 1, 1) := dk_27 (dk_at dksX9_held_0 17 rfl rfl)
theorem dX9_held_18 : decode cX9_held 18 = .ok (.invokevirtual 36, 3) := dk_182 0 36 (dk_at dksX9_held_0 18 rfl rfl)
theorem dX9_held_21 : decode cX9_held 21 = .ok (.if_icmp .ge 7, 3) := dk_162 0 7 (dk_at dksX9_held_0 21 rfl rfl)
theorem dX9_held_24 : decode cX9_held 24 = .ok (.iconst 1, 1) := dk_4 (dk_at dksX9_held_1 0 rfl rfl)
theorem dX9_held_25 : decode cX9_held 25 = .ok (.goto 4, 3) := dk_167 0 4 (dk_at dksX9_held_1 1 rfl rfl)
theorem dX9_held_28 : decode cX9_held 28 = .ok (.iconst 0, 1) := dk_3 (dk_at dksX9_held_1 4 rfl rfl)
theorem dX9_held_29 : decode cX9_held 29 = .ok (.ireturn, 1) := dk_172 (dk_at dksX9_held_1 5 rfl rfl)
theorem dX9_held_30 : decode cX9_held 30 = .ok (.aload_n 0, 1) := dk_42 (dk_at dksX9_held_1 6 rfl rfl)
theorem dX9_held_31 : decode cX9_held 31 = .ok (.bipush 62, 2) := dk_16 62 (dk_at dksX9_held_1 7 rfl rfl)
theorem dX9_held_33 : decode cX9_held 33 = .ok (.invokevirtual 39, 3) := dk_182 0 39 (dk_at dksX9_held_1 9 rfl rfl)
theorem dX9_held_36 : decode cX9_held 36 = .ok (.ifCond .eq 18, 3) := dk_153 0 18 (dk_at dksX9_held_1 12 rfl rfl)
theorem dX9_held_39 : decode cX9_held 39 = .ok (.iload_n 2, 1) := dk_28 (dk_at dksX9_held_1 15 rfl rfl)
theorem dX9_held_40 : decode cX9_held 40 = .ok (.aload_n 0, 1) := dk_42 (dk_at dksX9_held_1 16 rfl rfl)
theorem dX9_held_41 : decode cX9_held 41 = .ok (.iload_n 1, 1) := dk_27 (dk_at dksX9_held_1 17 rfl rfl)
theorem dX9_held_42 : decode cX9_held 42 = .ok (.invokevirtual 36, 3) := dk_182 0 36 (dk_at dksX9_held_1 18 rfl rfl)
theorem dX9_held_45 : decode cX9_held 45 = .ok (.if_icmp .le 7, 3) := dk_164 0 7 (dk_at dksX9_held_1 21 rfl rfl)
theorem dX9_held_48 : decode cX9_held 48 = .ok (.iconst 1, 1) := dk_4 (dk_at dksX9_held_2 0 rfl rfl)
theorem dX9_held_49 : decode cX9_held 49 = .ok (.goto 4, 3) := dk_167 0 4 (dk_at dksX9_held_2 1 rfl rfl)
theorem dX9_held_52 : decode cX9_held 52 = .ok (.iconst 0, 1) := dk_3 (dk_at dksX9_held_2 4 rfl rfl)
theorem dX9_held_53 : decode cX9_held 53 = .ok (.ireturn, 1) := dk_172 (dk_at dksX9_held_2 5 rfl rfl)
theorem dX9_held_54 : decode cX9_held 54 = .ok (.aload_n 0, 1) := dk_42 (dk_at dksX9_held_2 6 rfl rfl)
theorem dX9_held_55 : decode cX9_held 55 = .ok (.bipush 61, 2) := dk_16 61 (dk_at dksX9_held_2 7 rfl rfl)
theorem dX9_held_57 : decode cX9_held 57 = .ok (.invokevirtual 39, 3) := dk_182 0 39 (dk_at dksX9_held_2 9 rfl rfl)
theorem dX9_held_60 : decode cX9_held 60 = .ok (.ifCond .eq 18, 3) := dk_153 0 18 (dk_at dksX9_held_2 12 rfl rfl)
theorem dX9_held_63 : decode cX9_held 63 = .ok (.iload_n 2, 1) := dk_28 (dk_at dksX9_held_2 15 rfl rfl)
theorem dX9_held_64 : decode cX9_held 64 = .ok (.aload_n 0, 1) := dk_42 (dk_at dksX9_held_2 16 rfl rfl)
theorem dX9_held_65 : decode cX9_held 65 = .ok (.iload_n 1, 1) := dk_27 (dk_at dksX9_held_2 17 rfl rfl)
theorem dX9_held_66 : decode cX9_held 66 = .ok (.invokevirtual 36, 3) := dk_182 0 36 (dk_at dksX9_held_2 18 rfl rfl)
theorem dX9_held_69 : decode cX9_held 69 = .ok (.if_icmp .ne 7, 3) := dk_160 0 7 (dk_at dksX9_held_2 21 rfl rfl)
theorem dX9_held_72 : decode cX9_held 72 = .ok (.iconst 1, 1) := dk_4 (dk_at dksX9_held_3 0 rfl rfl)
theorem dX9_held_73 : decode cX9_held 73 = .ok (.goto 4, 3) := dk_167 0 4 (dk_at dksX9_held_3 1 rfl rfl)
theorem dX9_held_76 : decode cX9_held 76 = .ok (.iconst 0, 1) := dk_3 (dk_at dksX9_held_3 4 rfl rfl)
theorem dX9_held_77 : decode cX9_held 77 = .ok (.ireturn, 1) := dk_172 (dk_at dksX9_held_3 5 rfl rfl)
theorem dX9_held_78 : decode cX9_held 78 = .ok (.iload_n 2, 1) := dk_28 (dk_at dksX9_held_3 6 rfl rfl)
theorem dX9_held_79 : decode cX9_held 79 = .ok (.ireturn, 1) := dk_172 (dk_at dksX9_held_3 7 rfl rfl)
abbrev cX9_sum : ByteArray := prog_7_method_5_code
def yX9_sum : MethodName := ⟨RX9, "sum", "(I)I"⟩
def dkwX9_sum_3 : List UInt8 := [100, 61, 167, 255, 190, 28, 172]
abbrev dktX9_sum_3 : List UInt8 := dkwX9_sum_3 ++ []
def dkwX9_sum_2 : List UInt8 := [181, 0, 31, 42, 27, 182, 0, 43, 54, 4, 29, 153, 0, 10, 28, 21, 4, 96, 167, 0, 7, 28, 21, 4]
abbrev dktX9_sum_2 : List UInt8 := dkwX9_sum_2 ++ dktX9_sum_3
def dkwX9_sum_1 : List UInt8 := [42, 182, 0, 46, 16, 43, 160, 0, 7, 4, 167, 0, 4, 3, 62, 42, 89, 180, 0, 31, 4, 96]
abbrev dktX9_sum_1 : List UInt8 := dkwX9_sum_1 ++ dktX9_sum_2
def dkwX9_sum_0 : List UInt8 := [42, 27, 182, 0, 43, 61, 42, 182, 0, 46, 16, 43, 159, 0, 12, 42, 182, 0, 46, 16, 45, 160, 0, 54]
abbrev dktX9_sum_0 : List UInt8 := dkwX9_sum_0 ++ dktX9_sum_1
theorem dksX9_sum_0 : cX9_sum.data.toList.drop 0 = dktX9_sum_0 := by decide +kernel
theorem dksX9_sum_1 : cX9_sum.data.toList.drop 24 = dktX9_sum_1 := dk_seg dksX9_sum_0 24 rfl rfl
theorem dksX9_sum_2 : cX9_sum.data.toList.drop 46 = dktX9_sum_2 := dk_seg dksX9_sum_1 22 rfl rfl
theorem dksX9_sum_3 : cX9_sum.data.toList.drop 70 = dktX9_sum_3 := dk_seg dksX9_sum_2 24 rfl rfl
theorem dX9_sum_0 : decode cX9_sum 0 = .ok (.aload_n 0, 1) := dk_42 (dk_at dksX9_sum_0 0 rfl rfl)
theorem dX9_sum_1 : decode cX9_sum 1 = .ok (.iload_n 1, 1) := dk_27 (dk_at dksX9_sum_0 1 rfl rfl)
theorem dX9_sum_2 : decode cX9_sum 2 = .ok (.invokevirtual 43, 3) := dk_182 0 43 (dk_at dksX9_sum_0 2 rfl rfl)
theorem dX9_sum_5 : decode cX9_sum 5 = .ok (.istore_n 2, 1) := dk_61 (dk_at dksX9_sum_0 5 rfl rfl)
theorem dX9_sum_6 : decode cX9_sum 6 = .ok (.aload_n 0, 1) := dk_42 (dk_at dksX9_sum_0 6 rfl rfl)
theorem dX9_sum_7 : decode cX9_sum 7 = .ok (.invokevirtual 46, 3) := dk_182 0 46 (dk_at dksX9_sum_0 7 rfl rfl)
theorem dX9_sum_10 : decode cX9_sum 10 = .ok (.bipush 43, 2) := dk_16 43 (dk_at dksX9_sum_0 10 rfl rfl)
theorem dX9_sum_12 : decode cX9_sum 12 = .ok (.if_icmp .eq 12, 3) := dk_159 0 12 (dk_at dksX9_sum_0 12 rfl rfl)
theorem dX9_sum_15 : decode cX9_sum 15 = .ok (.aload_n 0, 1) := dk_42 (dk_at dksX9_sum_0 15 rfl rfl)
theorem dX9_sum_16 : decode cX9_sum 16 = .ok (.invokevirtual 46, 3) := dk_182 0 46 (dk_at dksX9_sum_0 16 rfl rfl)
theorem dX9_sum_19 : decode cX9_sum 19 = .ok (.bipush 45, 2) := dk_16 45 (dk_at dksX9_sum_0 19 rfl rfl)
theorem dX9_sum_21 : decode cX9_sum 21 = .ok (.if_icmp .ne 54, 3) := dk_160 0 54 (dk_at dksX9_sum_0 21 rfl rfl)
theorem dX9_sum_24 : decode cX9_sum 24 = .ok (.aload_n 0, 1) := dk_42 (dk_at dksX9_sum_1 0 rfl rfl)
theorem dX9_sum_25 : decode cX9_sum 25 = .ok (.invokevirtual 46, 3) := dk_182 0 46 (dk_at dksX9_sum_1 1 rfl rfl)
theorem dX9_sum_28 : decode cX9_sum 28 = .ok (.bipush 43, 2) := dk_16 43 (dk_at dksX9_sum_1 4 rfl rfl)
theorem dX9_sum_30 : decode cX9_sum 30 = .ok (.if_icmp .ne 7, 3) := dk_160 0 7 (dk_at dksX9_sum_1 6 rfl rfl)
theorem dX9_sum_33 : decode cX9_sum 33 = .ok (.iconst 1, 1) := dk_4 (dk_at dksX9_sum_1 9 rfl rfl)
theorem dX9_sum_34 : decode cX9_sum 34 = .ok (.goto 4, 3) := dk_167 0 4 (dk_at dksX9_sum_1 10 rfl rfl)
theorem dX9_sum_37 : decode cX9_sum 37 = .ok (.iconst 0, 1) := dk_3 (dk_at dksX9_sum_1 13 rfl rfl)
theorem dX9_sum_38 : decode cX9_sum 38 = .ok (.istore_n 3, 1) := dk_62 (dk_at dksX9_sum_1 14 rfl rfl)
theorem dX9_sum_39 : decode cX9_sum 39 = .ok (.aload_n 0, 1) := dk_42 (dk_at dksX9_sum_1 15 rfl rfl)
theorem dX9_sum_40 : decode cX9_sum 40 = .ok (.dup, 1) := dk_89 (dk_at dksX9_sum_1 16 rfl rfl)
theorem dX9_sum_41 : decode cX9_sum 41 = .ok (.getfield 31, 3) := dk_180 0 31 (dk_at dksX9_sum_1 17 rfl rfl)
theorem dX9_sum_44 : decode cX9_sum 44 = .ok (.iconst 1, 1) := dk_4 (dk_at dksX9_sum_1 20 rfl rfl)
theorem dX9_sum_45 : decode cX9_sum 45 = .ok (.iadd, 1) := dk_96 (dk_at dksX9_sum_1 21 rfl rfl)
theorem dX9_sum_46 : decode cX9_sum 46 = .ok (.putfield 31, 3) := dk_181 0 31 (dk_at dksX9_sum_2 0 rfl rfl)
theorem dX9_sum_49 : decode cX9_sum 49 = .ok (.aload_n 0, 1) := dk_42 (dk_at dksX9_sum_2 3 rfl rfl)
theorem dX9_sum_50 : decode cX9_sum 50 = .ok (.iload_n 1, 1) := dk_27 (dk_at dksX9_sum_2 4 rfl rfl)
theorem dX9_sum_51 : decode cX9_sum 51 = .ok (.invokevirtual 43, 3) := dk_182 0 43 (dk_at dksX9_sum_2 5 rfl rfl)
theorem dX9_sum_54 : decode cX9_sum 54 = .ok (.istore 4, 2) := dk_54 4 (dk_at dksX9_sum_2 8 rfl rfl)
theorem dX9_sum_56 : decode cX9_sum 56 = .ok (.iload_n 3, 1) := dk_29 (dk_at dksX9_sum_2 10 rfl rfl)
theorem dX9_sum_57 : decode cX9_sum 57 = .ok (.ifCond .eq 10, 3) := dk_153 0 10 (dk_at dksX9_sum_2 11 rfl rfl)
theorem dX9_sum_60 : decode cX9_sum 60 = .ok (.iload_n 2, 1) := dk_28 (dk_at dksX9_sum_2 14 rfl rfl)
theorem dX9_sum_61 : decode cX9_sum 61 = .ok (.iload 4, 2) := dk_21 4 (dk_at dksX9_sum_2 15 rfl rfl)
theorem dX9_sum_63 : decode cX9_sum 63 = .ok (.iadd, 1) := dk_96 (dk_at dksX9_sum_2 17 rfl rfl)
theorem dX9_sum_64 : decode cX9_sum 64 = .ok (.goto 7, 3) := dk_167 0 7 (dk_at dksX9_sum_2 18 rfl rfl)
theorem dX9_sum_67 : decode cX9_sum 67 = .ok (.iload_n 2, 1) := dk_28 (dk_at dksX9_sum_2 21 rfl rfl)
theorem dX9_sum_68 : decode cX9_sum 68 = .ok (.iload 4, 2) := dk_21 4 (dk_at dksX9_sum_2 22 rfl rfl)
theorem dX9_sum_70 : decode cX9_sum 70 = .ok (.isub, 1) := dk_100 (dk_at dksX9_sum_3 0 rfl rfl)
theorem dX9_sum_71 : decode cX9_sum 71 = .ok (.istore_n 2, 1) := dk_61 (dk_at dksX9_sum_3 1 rfl rfl)
theorem dX9_sum_72 : decode cX9_sum 72 = .ok (.goto (-66), 3) := dk_167 255 190 (dk_at dksX9_sum_3 2 rfl rfl)
theorem dX9_sum_75 : decode cX9_sum 75 = .ok (.iload_n 2, 1) := dk_28 (dk_at dksX9_sum_3 5 rfl rfl)
theorem dX9_sum_76 : decode cX9_sum 76 = .ok (.ireturn, 1) := dk_172 (dk_at dksX9_sum_3 6 rfl rfl)
abbrev cX9_product : ByteArray := prog_7_method_6_code
def yX9_product : MethodName := ⟨RX9, "product", "(I)I"⟩
def dkwX9_product_3 : List UInt8 := [154, 0, 7, 3, 167, 0, 7, 28, 21, 4, 108, 61, 167, 255, 181, 28, 172]
abbrev dktX9_product_3 : List UInt8 := dkwX9_product_3 ++ []
def dkwX9_product_2 : List UInt8 := [181, 0, 31, 42, 27, 182, 0, 50, 54, 4, 29, 153, 0, 10, 28, 21, 4, 104, 167, 0, 16, 21, 4]
abbrev dktX9_product_2 : List UInt8 := dkwX9_product_2 ++ dktX9_product_3
def dkwX9_product_1 : List UInt8 := [42, 182, 0, 46, 16, 42, 160, 0, 7, 4, 167, 0, 4, 3, 62, 42, 89, 180, 0, 31, 4, 96]
abbrev dktX9_product_1 : List UInt8 := dkwX9_product_1 ++ dktX9_product_2
def dkwX9_product_0 : List UInt8 := [42, 27, 182, 0, 50, 61, 42, 182, 0, 46, 16, 42, 159, 0, 12, 42, 182, 0, 46, 16, 47, 160, 0, 63]
abbrev dktX9_product_0 : List UInt8 := dkwX9_product_0 ++ dktX9_product_1
theorem dksX9_product_0 : cX9_product.data.toList.drop 0 = dktX9_product_0 := by decide +kernel
theorem dksX9_product_1 : cX9_product.data.toList.drop 24 = dktX9_product_1 := dk_seg dksX9_product_0 24 rfl rfl
theorem dksX9_product_2 : cX9_product.data.toList.drop 46 = dktX9_product_2 := dk_seg dksX9_product_1 22 rfl rfl
theorem dksX9_product_3 : cX9_product.data.toList.drop 69 = dktX9_product_3 := dk_seg dksX9_product_2 23 rfl rfl
theorem dX9_product_0 : decode cX9_product 0 = .ok (.aload_n 0, 1) := dk_42 (dk_at dksX9_product_0 0 rfl rfl)
theorem dX9_product_1 : decode cX9_product 1 = .ok (.iload_n 1, 1) := dk_27 (dk_at dksX9_product_0 1 rfl rfl)
theorem dX9_product_2 : decode cX9_product 2 = .ok (.invokevirtual 50, 3) := dk_182 0 50 (dk_at dksX9_product_0 2 rfl rfl)
theorem dX9_product_5 : decode cX9_product 5 = .ok (.istore_n 2, 1) := dk_61 (dk_at dksX9_product_0 5 rfl rfl)
theorem dX9_product_6 : decode cX9_product 6 = .ok (.aload_n 0, 1) := dk_42 (dk_at dksX9_product_0 6 rfl rfl)
theorem dX9_product_7 : decode cX9_product 7 = .ok (.invokevirtual 46, 3) := dk_182 0 46 (dk_at dksX9_product_0 7 rfl rfl)
theorem dX9_product_10 : decode cX9_product 10 = .ok (.bipush 42, 2) := dk_16 42 (dk_at dksX9_product_0 10 rfl rfl)
theorem dX9_product_12 : decode cX9_product 12 = .ok (.if_icmp .eq 12, 3) := dk_159 0 12 (dk_at dksX9_product_0 12 rfl rfl)
theorem dX9_product_15 : decode cX9_product 15 = .ok (.aload_n 0, 1) := dk_42 (dk_at dksX9_product_0 15 rfl rfl)
theorem dX9_product_16 : decode cX9_product 16 = .ok (.invokevirtual 46, 3) := dk_182 0 46 (dk_at dksX9_product_0 16 rfl rfl)
theorem dX9_product_19 : decode cX9_product 19 = .ok (.bipush 47, 2) := dk_16 47 (dk_at dksX9_product_0 19 rfl rfl)
theorem dX9_product_21 : decode cX9_product 21 = .ok (.if_icmp .ne 63, 3) := dk_160 0 63 (dk_at dksX9_product_0 21 rfl rfl)
theorem dX9_product_24 : decode cX9_product 24 = .ok (.aload_n 0, 1) := dk_42 (dk_at dksX9_product_1 0 rfl rfl)
theorem dX9_product_25 : decode cX9_product 25 = .ok (.invokevirtual 46, 3) := dk_182 0 46 (dk_at dksX9_product_1 1 rfl rfl)
theorem dX9_product_28 : decode cX9_product 28 = .ok (.bipush 42, 2) := dk_16 42 (dk_at dksX9_product_1 4 rfl rfl)
theorem dX9_product_30 : decode cX9_product 30 = .ok (.if_icmp .ne 7, 3) := dk_160 0 7 (dk_at dksX9_product_1 6 rfl rfl)
theorem dX9_product_33 : decode cX9_product 33 = .ok (.iconst 1, 1) := dk_4 (dk_at dksX9_product_1 9 rfl rfl)
theorem dX9_product_34 : decode cX9_product 34 = .ok (.goto 4, 3) := dk_167 0 4 (dk_at dksX9_product_1 10 rfl rfl)
theorem dX9_product_37 : decode cX9_product 37 = .ok (.iconst 0, 1) := dk_3 (dk_at dksX9_product_1 13 rfl rfl)
theorem dX9_product_38 : decode cX9_product 38 = .ok (.istore_n 3, 1) := dk_62 (dk_at dksX9_product_1 14 rfl rfl)
theorem dX9_product_39 : decode cX9_product 39 = .ok (.aload_n 0, 1) := dk_42 (dk_at dksX9_product_1 15 rfl rfl)
theorem dX9_product_40 : decode cX9_product 40 = .ok (.dup, 1) := dk_89 (dk_at dksX9_product_1 16 rfl rfl)
theorem dX9_product_41 : decode cX9_product 41 = .ok (.getfield 31, 3) := dk_180 0 31 (dk_at dksX9_product_1 17 rfl rfl)
theorem dX9_product_44 : decode cX9_product 44 = .ok (.iconst 1, 1) := dk_4 (dk_at dksX9_product_1 20 rfl rfl)
theorem dX9_product_45 : decode cX9_product 45 = .ok (.iadd, 1) := dk_96 (dk_at dksX9_product_1 21 rfl rfl)
theorem dX9_product_46 : decode cX9_product 46 = .ok (.putfield 31, 3) := dk_181 0 31 (dk_at dksX9_product_2 0 rfl rfl)
theorem dX9_product_49 : decode cX9_product 49 = .ok (.aload_n 0, 1) := dk_42 (dk_at dksX9_product_2 3 rfl rfl)
theorem dX9_product_50 : decode cX9_product 50 = .ok (.iload_n 1, 1) := dk_27 (dk_at dksX9_product_2 4 rfl rfl)
theorem dX9_product_51 : decode cX9_product 51 = .ok (.invokevirtual 50, 3) := dk_182 0 50 (dk_at dksX9_product_2 5 rfl rfl)
theorem dX9_product_54 : decode cX9_product 54 = .ok (.istore 4, 2) := dk_54 4 (dk_at dksX9_product_2 8 rfl rfl)
theorem dX9_product_56 : decode cX9_product 56 = .ok (.iload_n 3, 1) := dk_29 (dk_at dksX9_product_2 10 rfl rfl)
theorem dX9_product_57 : decode cX9_product 57 = .ok (.ifCond .eq 10, 3) := dk_153 0 10 (dk_at dksX9_product_2 11 rfl rfl)
theorem dX9_product_60 : decode cX9_product 60 = .ok (.iload_n 2, 1) := dk_28 (dk_at dksX9_product_2 14 rfl rfl)
theorem dX9_product_61 : decode cX9_product 61 = .ok (.iload 4, 2) := dk_21 4 (dk_at dksX9_product_2 15 rfl rfl)
theorem dX9_product_63 : decode cX9_product 63 = .ok (.imul, 1) := dk_104 (dk_at dksX9_product_2 17 rfl rfl)
theorem dX9_product_64 : decode cX9_product 64 = .ok (.goto 16, 3) := dk_167 0 16 (dk_at dksX9_product_2 18 rfl rfl)
theorem dX9_product_67 : decode cX9_product 67 = .ok (.iload 4, 2) := dk_21 4 (dk_at dksX9_product_2 21 rfl rfl)
theorem dX9_product_69 : decode cX9_product 69 = .ok (.ifCond .ne 7, 3) := dk_154 0 7 (dk_at dksX9_product_3 0 rfl rfl)
theorem dX9_product_72 : decode cX9_product 72 = .ok (.iconst 0, 1) := dk_3 (dk_at dksX9_product_3 3 rfl rfl)
theorem dX9_product_73 : decode cX9_product 73 = .ok (.goto 7, 3) := dk_167 0 7 (dk_at dksX9_product_3 4 rfl rfl)
theorem dX9_product_76 : decode cX9_product 76 = .ok (.iload_n 2, 1) := dk_28 (dk_at dksX9_product_3 7 rfl rfl)
theorem dX9_product_77 : decode cX9_product 77 = .ok (.iload 4, 2) := dk_21 4 (dk_at dksX9_product_3 8 rfl rfl)
theorem dX9_product_79 : decode cX9_product 79 = .ok (.idiv, 1) := dk_108 (dk_at dksX9_product_3 10 rfl rfl)
theorem dX9_product_80 : decode cX9_product 80 = .ok (.istore_n 2, 1) := dk_61 (dk_at dksX9_product_3 11 rfl rfl)
theorem dX9_product_81 : decode cX9_product 81 = .ok (.goto (-75), 3) := dk_167 255 181 (dk_at dksX9_product_3 12 rfl rfl)
theorem dX9_product_84 : decode cX9_product 84 = .ok (.iload_n 2, 1) := dk_28 (dk_at dksX9_product_3 15 rfl rfl)
theorem dX9_product_85 : decode cX9_product 85 = .ok (.ireturn, 1) := dk_172 (dk_at dksX9_product_3 16 rfl rfl)
abbrev cX9_thing : ByteArray := prog_7_method_7_code
def yX9_thing : MethodName := ⟨RX9, "thing", "(I)I"⟩
def dkwX9_thing_6 : List UInt8 := [42, 28, 182, 0, 75, 172]
abbrev dktX9_thing_6 : List UInt8 := dkwX9_thing_6 ++ []
def dkwX9_thing_5 : List UInt8 := [182, 0, 53, 42, 89, 180, 0, 31, 4, 96, 181, 0, 31, 42, 180, 0, 23, 199, 0, 7, 3, 167, 0, 8]
abbrev dktX9_thing_5 : List UInt8 := dkwX9_thing_5 ++ dktX9_thing_6
def dkwX9_thing_4 : List UInt8 := [182, 0, 46, 61, 42, 28, 2, 159, 0, 16, 18, 68, 28, 182, 0, 70, 155, 0, 7, 4, 167, 0, 4, 3]
abbrev dktX9_thing_4 : List UInt8 := dkwX9_thing_4 ++ dktX9_thing_5
def dkwX9_thing_3 : List UInt8 := [182, 0, 46, 133, 20, 0, 57, 20, 0, 59, 184, 0, 61, 153, 0, 9, 42, 6, 182, 0, 65, 172, 42]
abbrev dktX9_thing_3 : List UInt8 := dkwX9_thing_3 ++ dktX9_thing_4
def dkwX9_thing_2 : List UInt8 := [181, 0, 31, 42, 27, 4, 96, 182, 0, 15, 61, 42, 42, 16, 41, 182, 0, 39, 182, 0, 53, 28, 172, 42]
abbrev dktX9_thing_2 : List UInt8 := dkwX9_thing_2 ++ dktX9_thing_3
def dkwX9_thing_1 : List UInt8 := [160, 0, 47, 42, 27, 7, 162, 0, 7, 4, 167, 0, 4, 3, 182, 0, 53, 42, 89, 180, 0, 31, 4, 96]
abbrev dktX9_thing_1 : List UInt8 := dkwX9_thing_1 ++ dktX9_thing_2
def dkwX9_thing_0 : List UInt8 := [42, 16, 45, 182, 0, 39, 153, 0, 10, 42, 27, 182, 0, 50, 116, 172, 42, 182, 0, 46, 16, 40]
abbrev dktX9_thing_0 : List UInt8 := dkwX9_thing_0 ++ dktX9_thing_1
theorem dksX9_thing_0 : cX9_thing.data.toList.drop 0 = dktX9_thing_0 := by decide +kernel
theorem dksX9_thing_1 : cX9_thing.data.toList.drop 22 = dktX9_thing_1 := dk_seg dksX9_thing_0 22 rfl rfl
theorem dksX9_thing_2 : cX9_thing.data.toList.drop 46 = dktX9_thing_2 := dk_seg dksX9_thing_1 24 rfl rfl
theorem dksX9_thing_3 : cX9_thing.data.toList.drop 70 = dktX9_thing_3 := dk_seg dksX9_thing_2 24 rfl rfl
theorem dksX9_thing_4 : cX9_thing.data.toList.drop 93 = dktX9_thing_4 := dk_seg dksX9_thing_3 23 rfl rfl
theorem dksX9_thing_5 : cX9_thing.data.toList.drop 117 = dktX9_thing_5 := dk_seg dksX9_thing_4 24 rfl rfl
theorem dksX9_thing_6 : cX9_thing.data.toList.drop 141 = dktX9_thing_6 := dk_seg dksX9_thing_5 24 rfl rfl
theorem dX9_thing_0 : decode cX9_thing 0 = .ok (.aload_n 0, 1) := dk_42 (dk_at dksX9_thing_0 0 rfl rfl)
theorem dX9_thing_1 : decode cX9_thing 1 = .ok (.bipush 45, 2) := dk_16 45 (dk_at dksX9_thing_0 1 rfl rfl)
theorem dX9_thing_3 : decode cX9_thing 3 = .ok (.invokevirtual 39, 3) := dk_182 0 39 (dk_at dksX9_thing_0 3 rfl rfl)
theorem dX9_thing_6 : decode cX9_thing 6 = .ok (.ifCond .eq 10, 3) := dk_153 0 10 (dk_at dksX9_thing_0 6 rfl rfl)
theorem dX9_thing_9 : decode cX9_thing 9 = .ok (.aload_n 0, 1) := dk_42 (dk_at dksX9_thing_0 9 rfl rfl)
theorem dX9_thing_10 : decode cX9_thing 10 = .ok (.iload_n 1, 1) := dk_27 (dk_at dksX9_thing_0 10 rfl rfl)
theorem dX9_thing_11 : decode cX9_thing 11 = .ok (.invokevirtual 50, 3) := dk_182 0 50 (dk_at dksX9_thing_0 11 rfl rfl)
theorem dX9_thing_14 : decode cX9_thing 14 = .ok (.ineg, 1) := dk_116 (dk_at dksX9_thing_0 14 rfl rfl)
theorem dX9_thing_15 : decode cX9_thing 15 = .ok (.ireturn, 1) := dk_172 (dk_at dksX9_thing_0 15 rfl rfl)
theorem dX9_thing_16 : decode cX9_thing 16 = .ok (.aload_n 0, 1) := dk_42 (dk_at dksX9_thing_0 16 rfl rfl)
theorem dX9_thing_17 : decode cX9_thing 17 = .ok (.invokevirtual 46, 3) := dk_182 0 46 (dk_at dksX9_thing_0 17 rfl rfl)
theorem dX9_thing_20 : decode cX9_thing 20 = .ok (.bipush 40, 2) := dk_16 40 (dk_at dksX9_thing_0 20 rfl rfl)
theorem dX9_thing_22 : decode cX9_thing 22 = .ok (.if_icmp .ne 47, 3) := dk_160 0 47 (dk_at dksX9_thing_1 0 rfl rfl)
theorem dX9_thing_25 : decode cX9_thing 25 = .ok (.aload_n 0, 1) := dk_42 (dk_at dksX9_thing_1 3 rfl rfl)
theorem dX9_thing_26 : decode cX9_thing 26 = .ok (.iload_n 1, 1) := dk_27 (dk_at dksX9_thing_1 4 rfl rfl)
theorem dX9_thing_27 : decode cX9_thing 27 = .ok (.iconst 4, 1) := dk_7 (dk_at dksX9_thing_1 5 rfl rfl)
theorem dX9_thing_28 : decode cX9_thing 28 = .ok (.if_icmp .ge 7, 3) := dk_162 0 7 (dk_at dksX9_thing_1 6 rfl rfl)
theorem dX9_thing_31 : decode cX9_thing 31 = .ok (.iconst 1, 1) := dk_4 (dk_at dksX9_thing_1 9 rfl rfl)
theorem dX9_thing_32 : decode cX9_thing 32 = .ok (.goto 4, 3) := dk_167 0 4 (dk_at dksX9_thing_1 10 rfl rfl)
theorem dX9_thing_35 : decode cX9_thing 35 = .ok (.iconst 0, 1) := dk_3 (dk_at dksX9_thing_1 13 rfl rfl)
theorem dX9_thing_36 : decode cX9_thing 36 = .ok (.invokevirtual 53, 3) := dk_182 0 53 (dk_at dksX9_thing_1 14 rfl rfl)
theorem dX9_thing_39 : decode cX9_thing 39 = .ok (.aload_n 0, 1) := dk_42 (dk_at dksX9_thing_1 17 rfl rfl)
theorem dX9_thing_40 : decode cX9_thing 40 = .ok (.dup, 1) := dk_89 (dk_at dksX9_thing_1 18 rfl rfl)
theorem dX9_thing_41 : decode cX9_thing 41 = .ok (.getfield 31, 3) := dk_180 0 31 (dk_at dksX9_thing_1 19 rfl rfl)
theorem dX9_thing_44 : decode cX9_thing 44 = .ok (.iconst 1, 1) := dk_4 (dk_at dksX9_thing_1 22 rfl rfl)
theorem dX9_thing_45 : decode cX9_thing 45 = .ok (.iadd, 1) := dk_96 (dk_at dksX9_thing_1 23 rfl rfl)
theorem dX9_thing_46 : decode cX9_thing 46 = .ok (.putfield 31, 3) := dk_181 0 31 (dk_at dksX9_thing_2 0 rfl rfl)
theorem dX9_thing_49 : decode cX9_thing 49 = .ok (.aload_n 0, 1) := dk_42 (dk_at dksX9_thing_2 3 rfl rfl)
theorem dX9_thing_50 : decode cX9_thing 50 = .ok (.iload_n 1, 1) := dk_27 (dk_at dksX9_thing_2 4 rfl rfl)
theorem dX9_thing_51 : decode cX9_thing 51 = .ok (.iconst 1, 1) := dk_4 (dk_at dksX9_thing_2 5 rfl rfl)
theorem dX9_thing_52 : decode cX9_thing 52 = .ok (.iadd, 1) := dk_96 (dk_at dksX9_thing_2 6 rfl rfl)
theorem dX9_thing_53 : decode cX9_thing 53 = .ok (.invokevirtual 15, 3) := dk_182 0 15 (dk_at dksX9_thing_2 7 rfl rfl)
theorem dX9_thing_56 : decode cX9_thing 56 = .ok (.istore_n 2, 1) := dk_61 (dk_at dksX9_thing_2 10 rfl rfl)
theorem dX9_thing_57 : decode cX9_thing 57 = .ok (.aload_n 0, 1) := dk_42 (dk_at dksX9_thing_2 11 rfl rfl)
theorem dX9_thing_58 : decode cX9_thing 58 = .ok (.aload_n 0, 1) := dk_42 (dk_at dksX9_thing_2 12 rfl rfl)
theorem dX9_thing_59 : decode cX9_thing 59 = .ok (.bipush 41, 2) := dk_16 41 (dk_at dksX9_thing_2 13 rfl rfl)
theorem dX9_thing_61 : decode cX9_thing 61 = .ok (.invokevirtual 39, 3) := dk_182 0 39 (dk_at dksX9_thing_2 15 rfl rfl)
theorem dX9_thing_64 : decode cX9_thing 64 = .ok (.invokevirtual 53, 3) := dk_182 0 53 (dk_at dksX9_thing_2 18 rfl rfl)
theorem dX9_thing_67 : decode cX9_thing 67 = .ok (.iload_n 2, 1) := dk_28 (dk_at dksX9_thing_2 21 rfl rfl)
theorem dX9_thing_68 : decode cX9_thing 68 = .ok (.ireturn, 1) := dk_172 (dk_at dksX9_thing_2 22 rfl rfl)
theorem dX9_thing_69 : decode cX9_thing 69 = .ok (.aload_n 0, 1) := dk_42 (dk_at dksX9_thing_2 23 rfl rfl)
theorem dX9_thing_70 : decode cX9_thing 70 = .ok (.invokevirtual 46, 3) := dk_182 0 46 (dk_at dksX9_thing_3 0 rfl rfl)
theorem dX9_thing_73 : decode cX9_thing 73 = .ok (.i2l, 1) := dk_133 (dk_at dksX9_thing_3 3 rfl rfl)
theorem dX9_thing_74 : decode cX9_thing 74 = .ok (.ldc2_w 57, 3) := dk_20 0 57 (dk_at dksX9_thing_3 4 rfl rfl)
theorem dX9_thing_77 : decode cX9_thing 77 = .ok (.ldc2_w 59, 3) := dk_20 0 59 (dk_at dksX9_thing_3 7 rfl rfl)
theorem dX9_thing_80 : decode cX9_thing 80 = .ok (.invokestatic 61, 3) := dk_184 0 61 (dk_at dksX9_thing_3 10 rfl rfl)
theorem dX9_thing_83 : decode cX9_thing 83 = .ok (.ifCond .eq 9, 3) := dk_153 0 9 (dk_at dksX9_thing_3 13 rfl rfl)
theorem dX9_thing_86 : decode cX9_thing 86 = .ok (.aload_n 0, 1) := dk_42 (dk_at dksX9_thing_3 16 rfl rfl)
theorem dX9_thing_87 : decode cX9_thing 87 = .ok (.iconst 3, 1) := dk_6 (dk_at dksX9_thing_3 17 rfl rfl)
theorem dX9_thing_88 : decode cX9_thing 88 = .ok (.invokevirtual 65, 3) := dk_182 0 65 (dk_at dksX9_thing_3 18 rfl rfl)
theorem dX9_thing_91 : decode cX9_thing 91 = .ok (.ireturn, 1) := dk_172 (dk_at dksX9_thing_3 21 rfl rfl)
theorem dX9_thing_92 : decode cX9_thing 92 = .ok (.aload_n 0, 1) := dk_42 (dk_at dksX9_thing_3 22 rfl rfl)
theorem dX9_thing_93 : decode cX9_thing 93 = .ok (.invokevirtual 46, 3) := dk_182 0 46 (dk_at dksX9_thing_4 0 rfl rfl)
theorem dX9_thing_96 : decode cX9_thing 96 = .ok (.istore_n 2, 1) := dk_61 (dk_at dksX9_thing_4 3 rfl rfl)
theorem dX9_thing_97 : decode cX9_thing 97 = .ok (.aload_n 0, 1) := dk_42 (dk_at dksX9_thing_4 4 rfl rfl)
theorem dX9_thing_98 : decode cX9_thing 98 = .ok (.iload_n 2, 1) := dk_28 (dk_at dksX9_thing_4 5 rfl rfl)
theorem dX9_thing_99 : decode cX9_thing 99 = .ok (.iconst (-1), 1) := dk_2 (dk_at dksX9_thing_4 6 rfl rfl)
theorem dX9_thing_100 : decode cX9_thing 100 = .ok (.if_icmp .eq 16, 3) := dk_159 0 16 (dk_at dksX9_thing_4 7 rfl rfl)
theorem dX9_thing_103 : decode cX9_thing 103 = .ok (.ldc 68, 2) := dk_18 68 (dk_at dksX9_thing_4 10 rfl rfl)
theorem dX9_thing_105 : decode cX9_thing 105 = .ok (.iload_n 2, 1) := dk_28 (dk_at dksX9_thing_4 12 rfl rfl)
theorem dX9_thing_106 : decode cX9_thing 106 = .ok (.invokevirtual 70, 3) := dk_182 0 70 (dk_at dksX9_thing_4 13 rfl rfl)
theorem dX9_thing_109 : decode cX9_thing 109 = .ok (.ifCond .lt 7, 3) := dk_155 0 7 (dk_at dksX9_thing_4 16 rfl rfl)
theorem dX9_thing_112 : decode cX9_thing 112 = .ok (.iconst 1, 1) := dk_4 (dk_at dksX9_thing_4 19 rfl rfl)
theorem dX9_thing_113 : decode cX9_thing 113 = .ok (.goto 4, 3) := dk_167 0 4 (dk_at dksX9_thing_4 20 rfl rfl)
theorem dX9_thing_116 : decode cX9_thing 116 = .ok (.iconst 0, 1) := dk_3 (dk_at dksX9_thing_4 23 rfl rfl)
theorem dX9_thing_117 : decode cX9_thing 117 = .ok (.invokevirtual 53, 3) := dk_182 0 53 (dk_at dksX9_thing_5 0 rfl rfl)
theorem dX9_thing_120 : decode cX9_thing 120 = .ok (.aload_n 0, 1) := dk_42 (dk_at dksX9_thing_5 3 rfl rfl)
theorem dX9_thing_121 : decode cX9_thing 121 = .ok (.dup, 1) := dk_89 (dk_at dksX9_thing_5 4 rfl rfl)
theorem dX9_thing_122 : decode cX9_thing 122 = .ok (.getfield 31, 3) := dk_180 0 31 (dk_at dksX9_thing_5 5 rfl rfl)
theorem dX9_thing_125 : decode cX9_thing 125 = .ok (.iconst 1, 1) := dk_4 (dk_at dksX9_thing_5 8 rfl rfl)
theorem dX9_thing_126 : decode cX9_thing 126 = .ok (.iadd, 1) := dk_96 (dk_at dksX9_thing_5 9 rfl rfl)
theorem dX9_thing_127 : decode cX9_thing 127 = .ok (.putfield 31, 3) := dk_181 0 31 (dk_at dksX9_thing_5 10 rfl rfl)
theorem dX9_thing_130 : decode cX9_thing 130 = .ok (.aload_n 0, 1) := dk_42 (dk_at dksX9_thing_5 13 rfl rfl)
theorem dX9_thing_131 : decode cX9_thing 131 = .ok (.getfield 23, 3) := dk_180 0 23 (dk_at dksX9_thing_5 14 rfl rfl)
theorem dX9_thing_134 : decode cX9_thing 134 = .ok (.ifnonnull 7, 3) := dk_199 0 7 (dk_at dksX9_thing_5 17 rfl rfl)
theorem dX9_thing_137 : decode cX9_thing 137 = .ok (.iconst 0, 1) := dk_3 (dk_at dksX9_thing_5 20 rfl rfl)
theorem dX9_thing_138 : decode cX9_thing 138 = .ok (.goto 8, 3) := dk_167 0 8 (dk_at dksX9_thing_5 21 rfl rfl)
theorem dX9_thing_141 : decode cX9_thing 141 = .ok (.aload_n 0, 1) := dk_42 (dk_at dksX9_thing_6 0 rfl rfl)
theorem dX9_thing_142 : decode cX9_thing 142 = .ok (.iload_n 2, 1) := dk_28 (dk_at dksX9_thing_6 1 rfl rfl)
theorem dX9_thing_143 : decode cX9_thing 143 = .ok (.invokevirtual 75, 3) := dk_182 0 75 (dk_at dksX9_thing_6 2 rfl rfl)
theorem dX9_thing_146 : decode cX9_thing 146 = .ok (.ireturn, 1) := dk_172 (dk_at dksX9_thing_6 5 rfl rfl)
abbrev cX9_value : ByteArray := prog_7_method_8_code
def yX9_value : MethodName := ⟨RX9, "value", "(I)I"⟩
def dkwX9_value_6 : List UInt8 := [182, 0, 96, 184, 0, 99, 172]
abbrev dktX9_value_6 : List UInt8 := dkwX9_value_6 ++ []
def dkwX9_value_5 : List UInt8 := [180, 0, 23, 180, 0, 90, 16, 10, 112, 172, 42, 180, 0, 27, 172, 42, 180, 0, 23, 42, 180, 0, 27]
abbrev dktX9_value_5 : List UInt8 := dkwX9_value_5 ++ dktX9_value_6
def dkwX9_value_4 : List UInt8 := [4, 167, 0, 4, 3, 172, 42, 180, 0, 3, 42, 180, 0, 23, 180, 0, 90, 182, 0, 93, 172, 42]
abbrev dktX9_value_4 : List UInt8 := dkwX9_value_4 ++ dktX9_value_5
def dkwX9_value_3 : List UInt8 := [172, 42, 180, 0, 3, 180, 0, 86, 42, 180, 0, 23, 180, 0, 78, 42, 180, 0, 27, 46, 51, 153, 0, 7]
abbrev dktX9_value_3 : List UInt8 := dkwX9_value_3 ++ dktX9_value_4
def dkwX9_value_2 : List UInt8 := [42, 180, 0, 23, 180, 0, 78, 42, 180, 0, 27, 46, 172, 42, 180, 0, 23, 42, 180, 0, 27, 182, 0, 83]
abbrev dktX9_value_2 : List UInt8 := dkwX9_value_2 ++ dktX9_value_3
def dkwX9_value_1 : List UInt8 := [171, 0, 0, 0, 0, 0, 144, 0, 0, 0, 6, 0, 0, 0, 99, 0, 0, 0, 84, 0, 0, 0, 103, 0, 0, 0, 72, 0, 0, 0, 105, 0, 0, 0, 139, 0, 0, 0, 112, 0, 0, 0, 59, 0, 0, 0, 116, 0, 0, 0, 128, 0, 0, 0, 119, 0, 0, 0, 113]
abbrev dktX9_value_1 : List UInt8 := dkwX9_value_1 ++ dktX9_value_2
def dkwX9_value_0 : List UInt8 := [27]
abbrev dktX9_value_0 : List UInt8 := dkwX9_value_0 ++ dktX9_value_1
theorem dksX9_value_0 : cX9_value.data.toList.drop 0 = dktX9_value_0 := by decide +kernel
theorem dksX9_value_1 : cX9_value.data.toList.drop 1 = dktX9_value_1 := dk_seg dksX9_value_0 1 rfl rfl
theorem dksX9_value_2 : cX9_value.data.toList.drop 60 = dktX9_value_2 := dk_seg dksX9_value_1 59 rfl rfl
theorem dksX9_value_3 : cX9_value.data.toList.drop 84 = dktX9_value_3 := dk_seg dksX9_value_2 24 rfl rfl
theorem dksX9_value_4 : cX9_value.data.toList.drop 108 = dktX9_value_4 := dk_seg dksX9_value_3 24 rfl rfl
theorem dksX9_value_5 : cX9_value.data.toList.drop 130 = dktX9_value_5 := dk_seg dksX9_value_4 22 rfl rfl
theorem dksX9_value_6 : cX9_value.data.toList.drop 153 = dktX9_value_6 := dk_seg dksX9_value_5 23 rfl rfl
theorem dX9_value_0 : decode cX9_value 0 = .ok (.iload_n 1, 1) := dk_27 (dk_at dksX9_value_0 0 rfl rfl)
theorem dX9_value_1 : decode cX9_value 1 = .ok (.lookupswitch 144 #[(99, 84), (103, 72), (105, 139), (112, 59), (116, 128), (119, 113)], 59) := by decide +kernel
theorem dX9_value_60 : decode cX9_value 60 = .ok (.aload_n 0, 1) := dk_42 (dk_at dksX9_value_2 0 rfl rfl)
theorem dX9_value_61 : decode cX9_value 61 = .ok (.getfield 23, 3) := dk_180 0 23 (dk_at dksX9_value_2 1 rfl rfl)
theorem dX9_value_64 : decode cX9_value 64 = .ok (.getfield 78, 3) := dk_180 0 78 (dk_at dksX9_value_2 4 rfl rfl)
theorem dX9_value_67 : decode cX9_value 67 = .ok (.aload_n 0, 1) := dk_42 (dk_at dksX9_value_2 7 rfl rfl)
theorem dX9_value_68 : decode cX9_value 68 = .ok (.getfield 27, 3) := dk_180 0 27 (dk_at dksX9_value_2 8 rfl rfl)
theorem dX9_value_71 : decode cX9_value 71 = .ok (.iaload, 1) := dk_46 (dk_at dksX9_value_2 11 rfl rfl)
theorem dX9_value_72 : decode cX9_value 72 = .ok (.ireturn, 1) := dk_172 (dk_at dksX9_value_2 12 rfl rfl)
theorem dX9_value_73 : decode cX9_value 73 = .ok (.aload_n 0, 1) := dk_42 (dk_at dksX9_value_2 13 rfl rfl)
theorem dX9_value_74 : decode cX9_value 74 = .ok (.getfield 23, 3) := dk_180 0 23 (dk_at dksX9_value_2 14 rfl rfl)
theorem dX9_value_77 : decode cX9_value 77 = .ok (.aload_n 0, 1) := dk_42 (dk_at dksX9_value_2 17 rfl rfl)
theorem dX9_value_78 : decode cX9_value 78 = .ok (.getfield 27, 3) := dk_180 0 27 (dk_at dksX9_value_2 18 rfl rfl)
theorem dX9_value_81 : decode cX9_value 81 = .ok (.invokevirtual 83, 3) := dk_182 0 83 (dk_at dksX9_value_2 21 rfl rfl)
theorem dX9_value_84 : decode cX9_value 84 = .ok (.ireturn, 1) := dk_172 (dk_at dksX9_value_3 0 rfl rfl)
theorem dX9_value_85 : decode cX9_value 85 = .ok (.aload_n 0, 1) := dk_42 (dk_at dksX9_value_3 1 rfl rfl)
theorem dX9_value_86 : decode cX9_value 86 = .ok (.getfield 3, 3) := dk_180 0 3 (dk_at dksX9_value_3 2 rfl rfl)
theorem dX9_value_89 : decode cX9_value 89 = .ok (.getfield 86, 3) := dk_180 0 86 (dk_at dksX9_value_3 5 rfl rfl)
theorem dX9_value_92 : decode cX9_value 92 = .ok (.aload_n 0, 1) := dk_42 (dk_at dksX9_value_3 8 rfl rfl)
theorem dX9_value_93 : decode cX9_value 93 = .ok (.getfield 23, 3) := dk_180 0 23 (dk_at dksX9_value_3 9 rfl rfl)
theorem dX9_value_96 : decode cX9_value 96 = .ok (.getfield 78, 3) := dk_180 0 78 (dk_at dksX9_value_3 12 rfl rfl)
theorem dX9_value_99 : decode cX9_value 99 = .ok (.aload_n 0, 1) := dk_42 (dk_at dksX9_value_3 15 rfl rfl)
theorem dX9_value_100 : decode cX9_value 100 = .ok (.getfield 27, 3) := dk_180 0 27 (dk_at dksX9_value_3 16 rfl rfl)
theorem dX9_value_103 : decode cX9_value 103 = .ok (.iaload, 1) := dk_46 (dk_at dksX9_value_3 19 rfl rfl)
theorem dX9_value_104 : decode cX9_value 104 = .ok (.baload, 1) := dk_51 (dk_at dksX9_value_3 20 rfl rfl)
theorem dX9_value_105 : decode cX9_value 105 = .ok (.ifCond .eq 7, 3) := dk_153 0 7 (dk_at dksX9_value_3 21 rfl rfl)
theorem dX9_value_108 : decode cX9_value 108 = .ok (.iconst 1, 1) := dk_4 (dk_at dksX9_value_4 0 rfl rfl)
theorem dX9_value_109 : decode cX9_value 109 = .ok (.goto 4, 3) := dk_167 0 4 (dk_at dksX9_value_4 1 rfl rfl)
theorem dX9_value_112 : decode cX9_value 112 = .ok (.iconst 0, 1) := dk_3 (dk_at dksX9_value_4 4 rfl rfl)
theorem dX9_value_113 : decode cX9_value 113 = .ok (.ireturn, 1) := dk_172 (dk_at dksX9_value_4 5 rfl rfl)
theorem dX9_value_114 : decode cX9_value 114 = .ok (.aload_n 0, 1) := dk_42 (dk_at dksX9_value_4 6 rfl rfl)
theorem dX9_value_115 : decode cX9_value 115 = .ok (.getfield 3, 3) := dk_180 0 3 (dk_at dksX9_value_4 7 rfl rfl)
theorem dX9_value_118 : decode cX9_value 118 = .ok (.aload_n 0, 1) := dk_42 (dk_at dksX9_value_4 10 rfl rfl)
theorem dX9_value_119 : decode cX9_value 119 = .ok (.getfield 23, 3) := dk_180 0 23 (dk_at dksX9_value_4 11 rfl rfl)
theorem dX9_value_122 : decode cX9_value 122 = .ok (.getfield 90, 3) := dk_180 0 90 (dk_at dksX9_value_4 14 rfl rfl)
theorem dX9_value_125 : decode cX9_value 125 = .ok (.invokevirtual 93, 3) := dk_182 0 93 (dk_at dksX9_value_4 17 rfl rfl)
theorem dX9_value_128 : decode cX9_value 128 = .ok (.ireturn, 1) := dk_172 (dk_at dksX9_value_4 20 rfl rfl)
theorem dX9_value_129 : decode cX9_value 129 = .ok (.aload_n 0, 1) := dk_42 (dk_at dksX9_value_4 21 rfl rfl)
theorem dX9_value_130 : decode cX9_value 130 = .ok (.getfield 23, 3) := dk_180 0 23 (dk_at dksX9_value_5 0 rfl rfl)
theorem dX9_value_133 : decode cX9_value 133 = .ok (.getfield 90, 3) := dk_180 0 90 (dk_at dksX9_value_5 3 rfl rfl)
theorem dX9_value_136 : decode cX9_value 136 = .ok (.bipush 10, 2) := dk_16 10 (dk_at dksX9_value_5 6 rfl rfl)
theorem dX9_value_138 : decode cX9_value 138 = .ok (.irem, 1) := dk_112 (dk_at dksX9_value_5 8 rfl rfl)
theorem dX9_value_139 : decode cX9_value 139 = .ok (.ireturn, 1) := dk_172 (dk_at dksX9_value_5 9 rfl rfl)
theorem dX9_value_140 : decode cX9_value 140 = .ok (.aload_n 0, 1) := dk_42 (dk_at dksX9_value_5 10 rfl rfl)
theorem dX9_value_141 : decode cX9_value 141 = .ok (.getfield 27, 3) := dk_180 0 27 (dk_at dksX9_value_5 11 rfl rfl)
theorem dX9_value_144 : decode cX9_value 144 = .ok (.ireturn, 1) := dk_172 (dk_at dksX9_value_5 14 rfl rfl)
theorem dX9_value_145 : decode cX9_value 145 = .ok (.aload_n 0, 1) := dk_42 (dk_at dksX9_value_5 15 rfl rfl)
theorem dX9_value_146 : decode cX9_value 146 = .ok (.getfield 23, 3) := dk_180 0 23 (dk_at dksX9_value_5 16 rfl rfl)
theorem dX9_value_149 : decode cX9_value 149 = .ok (.aload_n 0, 1) := dk_42 (dk_at dksX9_value_5 19 rfl rfl)
theorem dX9_value_150 : decode cX9_value 150 = .ok (.getfield 27, 3) := dk_180 0 27 (dk_at dksX9_value_5 20 rfl rfl)
theorem dX9_value_153 : decode cX9_value 153 = .ok (.invokevirtual 96, 3) := dk_182 0 96 (dk_at dksX9_value_6 0 rfl rfl)
theorem dX9_value_156 : decode cX9_value 156 = .ok (.invokestatic 99, 3) := dk_184 0 99 (dk_at dksX9_value_6 3 rfl rfl)
theorem dX9_value_159 : decode cX9_value 159 = .ok (.ireturn, 1) := dk_172 (dk_at dksX9_value_6 6 rfl rfl)
abbrev cX9_of : ByteArray := prog_7_method_3_code
def yX9_of : MethodName := ⟨RX9, "of", "(LBehindAnotherHearse$Street;I)I"⟩
def dkwX9_of_2 : List UInt8 := [25, 5, 191]
abbrev dktX9_of_2 : List UInt8 := dkwX9_of_2 ++ []
def dkwX9_of_1 : List UInt8 := [181, 0, 23, 29, 172, 78, 3, 54, 4, 42, 1, 181, 0, 23, 21, 4, 172, 58, 5, 42, 1, 181, 0, 23]
abbrev dktX9_of_1 : List UInt8 := dkwX9_of_1 ++ dktX9_of_2
def dkwX9_of_0 : List UInt8 := [42, 43, 181, 0, 23, 42, 28, 181, 0, 27, 42, 3, 181, 0, 31, 42, 3, 182, 0, 15, 62, 42, 1]
abbrev dktX9_of_0 : List UInt8 := dkwX9_of_0 ++ dktX9_of_1
theorem dksX9_of_0 : cX9_of.data.toList.drop 0 = dktX9_of_0 := by decide +kernel
theorem dksX9_of_1 : cX9_of.data.toList.drop 23 = dktX9_of_1 := dk_seg dksX9_of_0 23 rfl rfl
theorem dksX9_of_2 : cX9_of.data.toList.drop 47 = dktX9_of_2 := dk_seg dksX9_of_1 24 rfl rfl
theorem dX9_of_0 : decode cX9_of 0 = .ok (.aload_n 0, 1) := dk_42 (dk_at dksX9_of_0 0 rfl rfl)
theorem dX9_of_1 : decode cX9_of 1 = .ok (.aload_n 1, 1) := dk_43 (dk_at dksX9_of_0 1 rfl rfl)
theorem dX9_of_2 : decode cX9_of 2 = .ok (.putfield 23, 3) := dk_181 0 23 (dk_at dksX9_of_0 2 rfl rfl)
theorem dX9_of_5 : decode cX9_of 5 = .ok (.aload_n 0, 1) := dk_42 (dk_at dksX9_of_0 5 rfl rfl)
theorem dX9_of_6 : decode cX9_of 6 = .ok (.iload_n 2, 1) := dk_28 (dk_at dksX9_of_0 6 rfl rfl)
theorem dX9_of_7 : decode cX9_of 7 = .ok (.putfield 27, 3) := dk_181 0 27 (dk_at dksX9_of_0 7 rfl rfl)
theorem dX9_of_10 : decode cX9_of 10 = .ok (.aload_n 0, 1) := dk_42 (dk_at dksX9_of_0 10 rfl rfl)
theorem dX9_of_11 : decode cX9_of 11 = .ok (.iconst 0, 1) := dk_3 (dk_at dksX9_of_0 11 rfl rfl)
theorem dX9_of_12 : decode cX9_of 12 = .ok (.putfield 31, 3) := dk_181 0 31 (dk_at dksX9_of_0 12 rfl rfl)
theorem dX9_of_15 : decode cX9_of 15 = .ok (.aload_n 0, 1) := dk_42 (dk_at dksX9_of_0 15 rfl rfl)
theorem dX9_of_16 : decode cX9_of 16 = .ok (.iconst 0, 1) := dk_3 (dk_at dksX9_of_0 16 rfl rfl)
theorem dX9_of_17 : decode cX9_of 17 = .ok (.invokevirtual 15, 3) := dk_182 0 15 (dk_at dksX9_of_0 17 rfl rfl)
theorem dX9_of_20 : decode cX9_of 20 = .ok (.istore_n 3, 1) := dk_62 (dk_at dksX9_of_0 20 rfl rfl)
theorem dX9_of_21 : decode cX9_of 21 = .ok (.aload_n 0, 1) := dk_42 (dk_at dksX9_of_0 21 rfl rfl)
theorem dX9_of_22 : decode cX9_of 22 = .ok (.aconst_null, 1) := dk_1 (dk_at dksX9_of_0 22 rfl rfl)
theorem dX9_of_23 : decode cX9_of 23 = .ok (.putfield 23, 3) := dk_181 0 23 (dk_at dksX9_of_1 0 rfl rfl)
theorem dX9_of_26 : decode cX9_of 26 = .ok (.iload_n 3, 1) := dk_29 (dk_at dksX9_of_1 3 rfl rfl)
theorem dX9_of_27 : decode cX9_of 27 = .ok (.ireturn, 1) := dk_172 (dk_at dksX9_of_1 4 rfl rfl)
theorem dX9_of_28 : decode cX9_of 28 = .ok (.astore_n 3, 1) := dk_78 (dk_at dksX9_of_1 5 rfl rfl)
theorem dX9_of_29 : decode cX9_of 29 = .ok (.iconst 0, 1) := dk_3 (dk_at dksX9_of_1 6 rfl rfl)
theorem dX9_of_30 : decode cX9_of 30 = .ok (.istore 4, 2) := dk_54 4 (dk_at dksX9_of_1 7 rfl rfl)
theorem dX9_of_32 : decode cX9_of 32 = .ok (.aload_n 0, 1) := dk_42 (dk_at dksX9_of_1 9 rfl rfl)
theorem dX9_of_33 : decode cX9_of 33 = .ok (.aconst_null, 1) := dk_1 (dk_at dksX9_of_1 10 rfl rfl)
theorem dX9_of_34 : decode cX9_of 34 = .ok (.putfield 23, 3) := dk_181 0 23 (dk_at dksX9_of_1 11 rfl rfl)
theorem dX9_of_37 : decode cX9_of 37 = .ok (.iload 4, 2) := dk_21 4 (dk_at dksX9_of_1 14 rfl rfl)
theorem dX9_of_39 : decode cX9_of 39 = .ok (.ireturn, 1) := dk_172 (dk_at dksX9_of_1 16 rfl rfl)
theorem dX9_of_40 : decode cX9_of 40 = .ok (.astore 5, 2) := dk_58 5 (dk_at dksX9_of_1 17 rfl rfl)
theorem dX9_of_42 : decode cX9_of 42 = .ok (.aload_n 0, 1) := dk_42 (dk_at dksX9_of_1 19 rfl rfl)
theorem dX9_of_43 : decode cX9_of 43 = .ok (.aconst_null, 1) := dk_1 (dk_at dksX9_of_1 20 rfl rfl)
theorem dX9_of_44 : decode cX9_of 44 = .ok (.putfield 23, 3) := dk_181 0 23 (dk_at dksX9_of_1 21 rfl rfl)
theorem dX9_of_47 : decode cX9_of 47 = .ok (.aload 5, 2) := dk_25 5 (dk_at dksX9_of_2 0 rfl rfl)
theorem dX9_of_49 : decode cX9_of 49 = .ok (.athrow, 1) := dk_191 (dk_at dksX9_of_2 2 rfl rfl)
theorem q98 : (Jvm.Cond.initialized "BehindAnotherHearse$Rule") ∈ lw_all := lw_g (lw_at lw_m1 20 rfl) rfl
theorem q124 : (Jvm.Cond.fieldLink "BehindAnotherHearse$Rule" (78 : Nat) "BehindAnotherHearse$Street" "at" "[I") ∈ lw_all := lw_g (lw_at lw_m1 46 rfl) rfl
theorem q144 : (Jvm.Cond.fieldLink "BehindAnotherHearse$Rule" (90 : Nat) "BehindAnotherHearse$Street" "step" "I") ∈ lw_all := lw_g (lw_at lw_m1 66 rfl) rfl
theorem q216 : (Jvm.Cond.fieldLinkNest "BehindAnotherHearse$Rule" (86 : Nat) "BehindAnotherHearse" "corner" "[Z" "BehindAnotherHearse") ∈ lw_tbl := lw_at lw_m1 138 rfl
theorem q355 : (Jvm.Cond.fieldLink "BehindAnotherHearse$Rule" (31 : Nat) "BehindAnotherHearse$Rule" "at" "I") ∈ lw_all := lw_g (lw_at lw_m2 37 rfl) rfl
theorem q356 : (Jvm.Cond.sameField "BehindAnotherHearse$Rule" "BehindAnotherHearse$Words" "at" "I") ∈ lw_all := lw_g (lw_at lw_m2 38 rfl) rfl
theorem q372 : (Jvm.Cond.selects "BehindAnotherHearse$Rule" ({ cls := "BehindAnotherHearse$Words", name := "here", desc := "()I" } : Jvm.MethodName) ({ cls := "BehindAnotherHearse$Words", name := "here", desc := "()I" } : Jvm.MethodName)) ∈ lw_all := lw_g (lw_at lw_m2 54 rfl) rfl
theorem q379 : (Jvm.Cond.selects "BehindAnotherHearse$Rule" ({ cls := "BehindAnotherHearse$Words", name := "passes", desc := "(C)Z" } : Jvm.MethodName) ({ cls := "BehindAnotherHearse$Words", name := "passes", desc := "(C)Z" } : Jvm.MethodName)) ∈ lw_all := lw_g (lw_at lw_m2 61 rfl) rfl
theorem q387 : (Jvm.Cond.selects "BehindAnotherHearse$Rule" ({ cls := "BehindAnotherHearse$Words", name := "need", desc := "(Z)V" } : Jvm.MethodName) ({ cls := "BehindAnotherHearse$Words", name := "need", desc := "(Z)V" } : Jvm.MethodName)) ∈ lw_all := lw_g (lw_at lw_m2 69 rfl) rfl
theorem q457 : (Jvm.Cond.selects "BehindAnotherHearse$Rule" ({ cls := "BehindAnotherHearse$Words", name := "needEnd", desc := "()V" } : Jvm.MethodName) ({ cls := "BehindAnotherHearse$Words", name := "needEnd", desc := "()V" } : Jvm.MethodName)) ∈ lw_all := lw_g (lw_at lw_m2 139 rfl) rfl
theorem q479 : (Jvm.Cond.selects "BehindAnotherHearse$Rule" ({ cls := "BehindAnotherHearse$Words", name := "number", desc := "(I)I" } : Jvm.MethodName) ({ cls := "BehindAnotherHearse$Words", name := "number", desc := "(I)I" } : Jvm.MethodName)) ∈ lw_all := lw_g (lw_at lw_m2 161 rfl) rfl
theorem q486 : (Jvm.Cond.selects "BehindAnotherHearse$Rule" ({ cls := "BehindAnotherHearse$Words", name := "one", desc := "(CI)I" } : Jvm.MethodName) ({ cls := "BehindAnotherHearse$Words", name := "one", desc := "(CI)I" } : Jvm.MethodName)) ∈ lw_all := lw_g (lw_at lw_m2 168 rfl) rfl
theorem q525 : (Jvm.Cond.instantiable "BehindAnotherHearse$Rule" (7 : Nat)) ∈ lw_all := lw_g (lw_at lw_m2 207 rfl) rfl
theorem q527 : (Jvm.Cond.instanceMethod ({ cls := "BehindAnotherHearse$Rule", name := "<init>", desc := "(LBehindAnotherHearse;[BI)V" } : Jvm.MethodName)) ∈ lw_all := lw_g (lw_at lw_m2 209 rfl) rfl
theorem q528 : (Jvm.Cond.code ({ cls := "BehindAnotherHearse$Rule", name := "<init>", desc := "(LBehindAnotherHearse;[BI)V" } : Jvm.MethodName) prog_7_method_1_code (4 : Nat) (Option.none : Option Jvm.ClassFile.FieldType)) ∈ lw_all := lw_g (lw_at lw_m2 210 rfl) rfl
theorem q529 : (Jvm.Cond.methodLink "BehindAnotherHearse$Rule" (9 : Nat) ({ cls := "BehindAnotherHearse$Words", name := "<init>", desc := "([BII)V" } : Jvm.MethodName)) ∈ lw_all := lw_g (lw_at lw_m2 211 rfl) rfl
theorem q530 : (Jvm.Cond.fieldLink "BehindAnotherHearse$Rule" (23 : Nat) "BehindAnotherHearse$Rule" "street" "LBehindAnotherHearse$Street;") ∈ lw_all := lw_g (lw_at lw_m2 212 rfl) rfl
theorem q531 : (Jvm.Cond.fieldLink "BehindAnotherHearse$Rule" (27 : Nat) "BehindAnotherHearse$Rule" "hearse" "I") ∈ lw_all := lw_g (lw_at lw_m2 213 rfl) rfl
theorem q532 : (Jvm.Cond.fieldLink "BehindAnotherHearse$Rule" (3 : Nat) "BehindAnotherHearse$Rule" "this$0" "LBehindAnotherHearse;") ∈ lw_all := lw_g (lw_at lw_m2 214 rfl) rfl
theorem q533 : (Jvm.Cond.lays "BehindAnotherHearse$Rule" "BehindAnotherHearse$Rule" "street" "LBehindAnotherHearse$Street;") ∈ lw_all := lw_g (lw_at lw_m2 215 rfl) rfl
theorem q534 : (Jvm.Cond.soleField "BehindAnotherHearse$Rule" "street") ∈ lw_all := lw_g (lw_at lw_m2 216 rfl) rfl
theorem q535 : (Jvm.Cond.lays "BehindAnotherHearse$Rule" "BehindAnotherHearse$Rule" "hearse" "I") ∈ lw_all := lw_g (lw_at lw_m2 217 rfl) rfl
theorem q536 : (Jvm.Cond.soleField "BehindAnotherHearse$Rule" "hearse") ∈ lw_all := lw_g (lw_at lw_m2 218 rfl) rfl
theorem q537 : (Jvm.Cond.laysFinal "BehindAnotherHearse$Rule" "BehindAnotherHearse$Rule" "this$0" "LBehindAnotherHearse;") ∈ lw_all := lw_g (lw_at lw_m2 219 rfl) rfl
theorem q538 : (Jvm.Cond.soleField "BehindAnotherHearse$Rule" "this$0") ∈ lw_all := lw_g (lw_at lw_m2 220 rfl) rfl
theorem q539 : (Jvm.Cond.laysFinal "BehindAnotherHearse$Rule" "BehindAnotherHearse$Words" "of" "[B") ∈ lw_all := lw_g (lw_at lw_m2 221 rfl) rfl
theorem q540 : (Jvm.Cond.laysFinal "BehindAnotherHearse$Rule" "BehindAnotherHearse$Words" "size" "I") ∈ lw_all := lw_g (lw_at lw_m2 222 rfl) rfl
theorem q541 : (Jvm.Cond.laysFinal "BehindAnotherHearse$Rule" "BehindAnotherHearse$Words" "end" "I") ∈ lw_all := lw_g (lw_at lw_m2 223 rfl) rfl
theorem q542 : (Jvm.Cond.lays "BehindAnotherHearse$Rule" "BehindAnotherHearse$Words" "at" "I") ∈ lw_all := lw_g (lw_at lw_m2 224 rfl) rfl
theorem q543 : (Jvm.Cond.superclass "BehindAnotherHearse$Rule" "BehindAnotherHearse$Words") ∈ lw_all := lw_g (lw_at lw_m2 225 rfl) rfl
theorem q545 : (Jvm.Cond.instanceMethod ({ cls := "BehindAnotherHearse$Rule", name := "read", desc := "()LBehindAnotherHearse$Rule;" } : Jvm.MethodName)) ∈ lw_all := lw_g (lw_at lw_m2 227 rfl) rfl
theorem q546 : (Jvm.Cond.selects "BehindAnotherHearse$Rule" ({ cls := "BehindAnotherHearse$Rule", name := "read", desc := "()LBehindAnotherHearse$Rule;" } : Jvm.MethodName) ({ cls := "BehindAnotherHearse$Rule", name := "read", desc := "()LBehindAnotherHearse$Rule;" } : Jvm.MethodName)) ∈ lw_all := lw_g (lw_at lw_m2 228 rfl) rfl
theorem q547 : (Jvm.Cond.code ({ cls := "BehindAnotherHearse$Rule", name := "read", desc := "()LBehindAnotherHearse$Rule;" } : Jvm.MethodName) prog_7_method_2_code (1 : Nat) (Option.some (Jvm.ClassFile.FieldType.object "BehindAnotherHearse$Rule"))) ∈ lw_all := lw_g (lw_at lw_m2 229 rfl) rfl
theorem q548 : (Jvm.Cond.methodLink "BehindAnotherHearse$Rule" (15 : Nat) ({ cls := "BehindAnotherHearse$Rule", name := "held", desc := "(I)I" } : Jvm.MethodName)) ∈ lw_all := lw_g (lw_at lw_m2 230 rfl) rfl
theorem q549 : (Jvm.Cond.privateMethod ({ cls := "BehindAnotherHearse$Rule", name := "held", desc := "(I)I" } : Jvm.MethodName)) ∈ lw_tbl := lw_at lw_m2 231 rfl
theorem q550 : (Jvm.Cond.instanceMethod ({ cls := "BehindAnotherHearse$Rule", name := "held", desc := "(I)I" } : Jvm.MethodName)) ∈ lw_all := lw_g (lw_at lw_m2 232 rfl) rfl
theorem q551 : (Jvm.Cond.code ({ cls := "BehindAnotherHearse$Rule", name := "held", desc := "(I)I" } : Jvm.MethodName) prog_7_method_4_code (3 : Nat) (Option.some Jvm.ClassFile.FieldType.int)) ∈ lw_all := lw_g (lw_at lw_m2 233 rfl) rfl
theorem q552 : (Jvm.Cond.methodLink "BehindAnotherHearse$Rule" (36 : Nat) ({ cls := "BehindAnotherHearse$Rule", name := "sum", desc := "(I)I" } : Jvm.MethodName)) ∈ lw_all := lw_g (lw_at lw_m2 234 rfl) rfl
theorem q553 : (Jvm.Cond.privateMethod ({ cls := "BehindAnotherHearse$Rule", name := "sum", desc := "(I)I" } : Jvm.MethodName)) ∈ lw_tbl := lw_at lw_m2 235 rfl
theorem q554 : (Jvm.Cond.instanceMethod ({ cls := "BehindAnotherHearse$Rule", name := "sum", desc := "(I)I" } : Jvm.MethodName)) ∈ lw_all := lw_g (lw_at lw_m2 236 rfl) rfl
theorem q555 : (Jvm.Cond.code ({ cls := "BehindAnotherHearse$Rule", name := "sum", desc := "(I)I" } : Jvm.MethodName) prog_7_method_5_code (5 : Nat) (Option.some Jvm.ClassFile.FieldType.int)) ∈ lw_all := lw_g (lw_at lw_m2 237 rfl) rfl
theorem q556 : (Jvm.Cond.methodLink "BehindAnotherHearse$Rule" (43 : Nat) ({ cls := "BehindAnotherHearse$Rule", name := "product", desc := "(I)I" } : Jvm.MethodName)) ∈ lw_all := lw_g (lw_at lw_m2 238 rfl) rfl
theorem q557 : (Jvm.Cond.privateMethod ({ cls := "BehindAnotherHearse$Rule", name := "product", desc := "(I)I" } : Jvm.MethodName)) ∈ lw_tbl := lw_at lw_m2 239 rfl
theorem q558 : (Jvm.Cond.instanceMethod ({ cls := "BehindAnotherHearse$Rule", name := "product", desc := "(I)I" } : Jvm.MethodName)) ∈ lw_all := lw_g (lw_at lw_m3 0 rfl) rfl
theorem q559 : (Jvm.Cond.code ({ cls := "BehindAnotherHearse$Rule", name := "product", desc := "(I)I" } : Jvm.MethodName) prog_7_method_6_code (5 : Nat) (Option.some Jvm.ClassFile.FieldType.int)) ∈ lw_all := lw_g (lw_at lw_m3 1 rfl) rfl
theorem q560 : (Jvm.Cond.methodLink "BehindAnotherHearse$Rule" (50 : Nat) ({ cls := "BehindAnotherHearse$Rule", name := "thing", desc := "(I)I" } : Jvm.MethodName)) ∈ lw_all := lw_g (lw_at lw_m3 2 rfl) rfl
theorem q561 : (Jvm.Cond.privateMethod ({ cls := "BehindAnotherHearse$Rule", name := "thing", desc := "(I)I" } : Jvm.MethodName)) ∈ lw_tbl := lw_at lw_m3 3 rfl
theorem q562 : (Jvm.Cond.instanceMethod ({ cls := "BehindAnotherHearse$Rule", name := "thing", desc := "(I)I" } : Jvm.MethodName)) ∈ lw_all := lw_g (lw_at lw_m3 4 rfl) rfl
theorem q563 : (Jvm.Cond.code ({ cls := "BehindAnotherHearse$Rule", name := "thing", desc := "(I)I" } : Jvm.MethodName) prog_7_method_7_code (3 : Nat) (Option.some Jvm.ClassFile.FieldType.int)) ∈ lw_all := lw_g (lw_at lw_m3 5 rfl) rfl
theorem q564 : (Jvm.Cond.methodLink "BehindAnotherHearse$Rule" (39 : Nat) ({ cls := "BehindAnotherHearse$Rule", name := "passes", desc := "(C)Z" } : Jvm.MethodName)) ∈ lw_all := lw_g (lw_at lw_m3 6 rfl) rfl
theorem q565 : (Jvm.Cond.sameMethod "BehindAnotherHearse$Rule" "BehindAnotherHearse$Words" "passes" "(C)Z") ∈ lw_all := lw_g (lw_at lw_m3 7 rfl) rfl
theorem q567 : (Jvm.Cond.selects "BehindAnotherHearse$Rule" ({ cls := "BehindAnotherHearse$Rule", name := "passes", desc := "(C)Z" } : Jvm.MethodName) ({ cls := "BehindAnotherHearse$Words", name := "passes", desc := "(C)Z" } : Jvm.MethodName)) ∈ lw_all := lw_g (lw_at lw_m3 9 rfl) rfl
theorem q568 : (Jvm.Cond.methodLink "BehindAnotherHearse$Rule" (46 : Nat) ({ cls := "BehindAnotherHearse$Rule", name := "here", desc := "()I" } : Jvm.MethodName)) ∈ lw_all := lw_g (lw_at lw_m3 10 rfl) rfl
theorem q569 : (Jvm.Cond.sameMethod "BehindAnotherHearse$Rule" "BehindAnotherHearse$Words" "here" "()I") ∈ lw_all := lw_g (lw_at lw_m3 11 rfl) rfl
theorem q571 : (Jvm.Cond.selects "BehindAnotherHearse$Rule" ({ cls := "BehindAnotherHearse$Rule", name := "here", desc := "()I" } : Jvm.MethodName) ({ cls := "BehindAnotherHearse$Words", name := "here", desc := "()I" } : Jvm.MethodName)) ∈ lw_all := lw_g (lw_at lw_m3 13 rfl) rfl
theorem q572 : (Jvm.Cond.methodLink "BehindAnotherHearse$Rule" (53 : Nat) ({ cls := "BehindAnotherHearse$Rule", name := "need", desc := "(Z)V" } : Jvm.MethodName)) ∈ lw_all := lw_g (lw_at lw_m3 14 rfl) rfl
theorem q573 : (Jvm.Cond.sameMethod "BehindAnotherHearse$Rule" "BehindAnotherHearse$Words" "need" "(Z)V") ∈ lw_all := lw_g (lw_at lw_m3 15 rfl) rfl
theorem q575 : (Jvm.Cond.selects "BehindAnotherHearse$Rule" ({ cls := "BehindAnotherHearse$Rule", name := "need", desc := "(Z)V" } : Jvm.MethodName) ({ cls := "BehindAnotherHearse$Words", name := "need", desc := "(Z)V" } : Jvm.MethodName)) ∈ lw_all := lw_g (lw_at lw_m3 17 rfl) rfl
theorem q576 : (Jvm.Cond.constantLong "BehindAnotherHearse$Rule" (57 : Nat) (48 : Int64)) ∈ lw_all := lw_g (lw_at lw_m3 18 rfl) rfl
theorem q577 : (Jvm.Cond.constantLong "BehindAnotherHearse$Rule" (59 : Nat) (57 : Int64)) ∈ lw_all := lw_g (lw_at lw_m3 19 rfl) rfl
theorem q578 : (Jvm.Cond.methodLinkNest "BehindAnotherHearse$Rule" (61 : Nat) ({ cls := "BehindAnotherHearse", name := "in", desc := "(JJJ)Z" } : Jvm.MethodName) "BehindAnotherHearse") ∈ lw_tbl := lw_at lw_m3 20 rfl
theorem q579 : (Jvm.Cond.methodLink "BehindAnotherHearse$Rule" (65 : Nat) ({ cls := "BehindAnotherHearse$Rule", name := "number", desc := "(I)I" } : Jvm.MethodName)) ∈ lw_all := lw_g (lw_at lw_m3 21 rfl) rfl
theorem q580 : (Jvm.Cond.sameMethod "BehindAnotherHearse$Rule" "BehindAnotherHearse$Words" "number" "(I)I") ∈ lw_all := lw_g (lw_at lw_m3 22 rfl) rfl
theorem q582 : (Jvm.Cond.selects "BehindAnotherHearse$Rule" ({ cls := "BehindAnotherHearse$Rule", name := "number", desc := "(I)I" } : Jvm.MethodName) ({ cls := "BehindAnotherHearse$Words", name := "number", desc := "(I)I" } : Jvm.MethodName)) ∈ lw_all := lw_g (lw_at lw_m3 24 rfl) rfl
theorem q583 : (Jvm.Cond.stringRef "BehindAnotherHearse$Rule" (68 : Nat) "pgcwtim") ∈ lw_tbl := lw_at lw_m3 25 rfl
theorem q584 : (Jvm.Cond.methodLink "BehindAnotherHearse$Rule" (70 : Nat) ({ cls := "java/lang/String", name := "indexOf", desc := "(I)I" } : Jvm.MethodName)) ∈ lw_all := lw_g (lw_at lw_m3 26 rfl) rfl
theorem q666 : (Jvm.Cond.methodLink "BehindAnotherHearse$Rule" (75 : Nat) ({ cls := "BehindAnotherHearse$Rule", name := "value", desc := "(I)I" } : Jvm.MethodName)) ∈ lw_all := lw_g (lw_at lw_m3 108 rfl) rfl
theorem q667 : (Jvm.Cond.privateMethod ({ cls := "BehindAnotherHearse$Rule", name := "value", desc := "(I)I" } : Jvm.MethodName)) ∈ lw_tbl := lw_at lw_m3 109 rfl
theorem q668 : (Jvm.Cond.instanceMethod ({ cls := "BehindAnotherHearse$Rule", name := "value", desc := "(I)I" } : Jvm.MethodName)) ∈ lw_all := lw_g (lw_at lw_m3 110 rfl) rfl
theorem q669 : (Jvm.Cond.code ({ cls := "BehindAnotherHearse$Rule", name := "value", desc := "(I)I" } : Jvm.MethodName) prog_7_method_8_code (2 : Nat) (Option.some Jvm.ClassFile.FieldType.int)) ∈ lw_all := lw_g (lw_at lw_m3 111 rfl) rfl
theorem q670 : (Jvm.Cond.methodLink "BehindAnotherHearse$Rule" (83 : Nat) ({ cls := "BehindAnotherHearse$Street", name := "gap", desc := "(I)I" } : Jvm.MethodName)) ∈ lw_all := lw_g (lw_at lw_m3 112 rfl) rfl
theorem q675 : (Jvm.Cond.methodLinkNest "BehindAnotherHearse$Rule" (93 : Nat) ({ cls := "BehindAnotherHearse", name := "weatherOf", desc := "(I)I" } : Jvm.MethodName) "BehindAnotherHearse") ∈ lw_tbl := lw_at lw_m3 117 rfl
theorem q679 : (Jvm.Cond.methodLink "BehindAnotherHearse$Rule" (96 : Nat) ({ cls := "BehindAnotherHearse$Street", name := "followers", desc := "(I)I" } : Jvm.MethodName)) ∈ lw_all := lw_g (lw_at lw_m3 121 rfl) rfl
theorem q683 : (Jvm.Cond.methodLink "BehindAnotherHearse$Rule" (99 : Nat) ({ cls := "java/lang/Integer", name := "bitCount", desc := "(I)I" } : Jvm.MethodName)) ∈ lw_all := lw_g (lw_at lw_m3 125 rfl) rfl
theorem q689 : (Jvm.Cond.methodLink "BehindAnotherHearse$Rule" (19 : Nat) ({ cls := "BehindAnotherHearse$Rule", name := "needEnd", desc := "()V" } : Jvm.MethodName)) ∈ lw_all := lw_g (lw_at lw_m3 131 rfl) rfl
theorem q690 : (Jvm.Cond.sameMethod "BehindAnotherHearse$Rule" "BehindAnotherHearse$Words" "needEnd" "()V") ∈ lw_all := lw_g (lw_at lw_m3 132 rfl) rfl
theorem q692 : (Jvm.Cond.selects "BehindAnotherHearse$Rule" ({ cls := "BehindAnotherHearse$Rule", name := "needEnd", desc := "()V" } : Jvm.MethodName) ({ cls := "BehindAnotherHearse$Words", name := "needEnd", desc := "()V" } : Jvm.MethodName)) ∈ lw_all := lw_g (lw_at lw_m3 134 rfl) rfl
theorem q775 : (Jvm.Cond.instanceMethod ({ cls := "BehindAnotherHearse$Rule", name := "of", desc := "(LBehindAnotherHearse$Street;I)I" } : Jvm.MethodName)) ∈ lw_all := lw_g (lw_at lw_m3 217 rfl) rfl
theorem q776 : (Jvm.Cond.selects "BehindAnotherHearse$Rule" ({ cls := "BehindAnotherHearse$Rule", name := "of", desc := "(LBehindAnotherHearse$Street;I)I" } : Jvm.MethodName) ({ cls := "BehindAnotherHearse$Rule", name := "of", desc := "(LBehindAnotherHearse$Street;I)I" } : Jvm.MethodName)) ∈ lw_all := lw_g (lw_at lw_m3 218 rfl) rfl
theorem q777 : (Jvm.Cond.codeWith ({ cls := "BehindAnotherHearse$Rule", name := "of", desc := "(LBehindAnotherHearse$Street;I)I" } : Jvm.MethodName) prog_7_method_3_code (6 : Nat) (Option.some Jvm.ClassFile.FieldType.int) [((15 : Nat), (21 : Nat), (28 : Nat), (34 : Nat)), ((15 : Nat), (21 : Nat), (40 : Nat), (0 : Nat)), ((28 : Nat), (32 : Nat), (40 : Nat), (0 : Nat)), ((40 : Nat), (42 : Nat), (40 : Nat), (0 : Nat))]) ∈ lw_all := lw_g (lw_at lw_m3 219 rfl) rfl
theorem q778 : (Jvm.Cond.classLink "BehindAnotherHearse$Rule" (34 : Nat) "BehindAnotherHearse$Fault") ∈ lw_all := lw_g (lw_at lw_m3 220 rfl) rfl
theorem q1972 : (Jvm.Cond.castable "BehindAnotherHearse$Rule" "java/lang/Object") ∈ lw_tbl := lw_at lw_m8 214 rfl
theorem in_X9 : ∀ w ∈ wsX90, w ∈ lw_all := lw_in wsX90 [539, 540, 541, 542, 533, 535, 537] (by decide +kernel) (by decide +kernel)
/-! BehindAnotherHearse$Order -/
set_option maxRecDepth 100000
def RX10 : String := "BehindAnotherHearse$Order"
def TX10 : u_T := fun k => match k with
  | 0 => ("BehindAnotherHearse$Words", "of", "[B", true)
  | 1 => ("BehindAnotherHearse$Words", "size", "I", true)
  | 2 => ("BehindAnotherHearse$Words", "end", "I", true)
  | 3 => ("BehindAnotherHearse$Words", "at", "I", false)
  | 4 => ("BehindAnotherHearse$Order", "acts", "[C", true)
  | 5 => ("BehindAnotherHearse$Order", "first", "[I", true)
  | 6 => ("BehindAnotherHearse$Order", "second", "[I", true)
  | _ => ("BehindAnotherHearse$Order", "many", "I", false)
def tyX10 : Nat → FieldType := fun k => match k with
  | 0 => .array .byte
  | 1 => .int
  | 2 => .int
  | 3 => .int
  | 4 => .array .char
  | 5 => .array .int
  | 6 => .array .int
  | _ => .int
abbrev wsX100 : List Cond := u_ws RX10 TX10 8
theorem nmX10 : ∀ a, a < 8 → ∀ b, b < 8 → a ≠ b → (TX10 a).2.1 ≠ (TX10 b).2.1 := by decide +kernel
theorem tyX10_ok : ∀ k, k < 8 → parseFieldDescriptor (TX10 k).2.2.1 = some (tyX10 k) := by decide +kernel
abbrev cX10_init : ByteArray := prog_4_method_1_code
def yX10_init : MethodName := ⟨RX10, "<init>", "([BI)V"⟩
def dkwX10_init_1 : List UInt8 := [42, 16, 60, 188, 10, 181, 0, 19, 177]
abbrev dktX10_init_1 : List UInt8 := dkwX10_init_1 ++ []
def dkwX10_init_0 : List UInt8 := [42, 43, 28, 16, 60, 183, 0, 3, 42, 16, 60, 188, 5, 181, 0, 9, 42, 16, 60, 188, 10, 181, 0, 15]
abbrev dktX10_init_0 : List UInt8 := dkwX10_init_0 ++ dktX10_init_1
theorem dksX10_init_0 : cX10_init.data.toList.drop 0 = dktX10_init_0 := by decide +kernel
theorem dksX10_init_1 : cX10_init.data.toList.drop 24 = dktX10_init_1 := dk_seg dksX10_init_0 24 rfl rfl
theorem dX10_init_0 : decode cX10_init 0 = .ok (.aload_n 0, 1) := dk_42 (dk_at dksX10_init_0 0 rfl rfl)
theorem dX10_init_1 : decode cX10_init 1 = .ok (.aload_n 1, 1) := dk_43 (dk_at dksX10_init_0 1 rfl rfl)
theorem dX10_init_2 : decode cX10_init 2 = .ok (.iload_n 2, 1) := dk_28 (dk_at dksX10_init_0 2 rfl rfl)
theorem dX10_init_3 : decode cX10_init 3 = .ok (.bipush 60, 2) := dk_16 60 (dk_at dksX10_init_0 3 rfl rfl)
theorem dX10_init_5 : decode cX10_init 5 = .ok (.invokespecial 3, 3) := dk_183 0 3 (dk_at dksX10_init_0 5 rfl rfl)
theorem dX10_init_8 : decode cX10_init 8 = .ok (.aload_n 0, 1) := dk_42 (dk_at dksX10_init_0 8 rfl rfl)
theorem dX10_init_9 : decode cX10_init 9 = .ok (.bipush 60, 2) := dk_16 60 (dk_at dksX10_init_0 9 rfl rfl)
theorem dX10_init_11 : decode cX10_init 11 = .ok (.newarray .char, 2) := dk_188_5 (dk_at dksX10_init_0 11 rfl rfl)
theorem dX10_init_13 : decode cX10_init 13 = .ok (.putfield 9, 3) := dk_181 0 9 (dk_at dksX10_init_0 13 rfl rfl)
theorem dX10_init_16 : decode cX10_init 16 = .ok (.aload_n 0, 1) := dk_42 (dk_at dksX10_init_0 16 rfl rfl)
theorem dX10_init_17 : decode cX10_init 17 = .ok (.bipush 60, 2) := dk_16 60 (dk_at dksX10_init_0 17 rfl rfl)
theorem dX10_init_19 : decode cX10_init 19 = .ok (.newarray .int, 2) := dk_188_10 (dk_at dksX10_init_0 19 rfl rfl)
theorem dX10_init_21 : decode cX10_init 21 = .ok (.putfield 15, 3) := dk_181 0 15 (dk_at dksX10_init_0 21 rfl rfl)
theorem dX10_init_24 : decode cX10_init 24 = .ok (.aload_n 0, 1) := dk_42 (dk_at dksX10_init_1 0 rfl rfl)
theorem dX10_init_25 : decode cX10_init 25 = .ok (.bipush 60, 2) := dk_16 60 (dk_at dksX10_init_1 1 rfl rfl)
theorem dX10_init_27 : decode cX10_init 27 = .ok (.newarray .int, 2) := dk_188_10 (dk_at dksX10_init_1 3 rfl rfl)
theorem dX10_init_29 : decode cX10_init 29 = .ok (.putfield 19, 3) := dk_181 0 19 (dk_at dksX10_init_1 5 rfl rfl)
theorem dX10_init_32 : decode cX10_init 32 = .ok (.return_, 1) := dk_177 (dk_at dksX10_init_1 8 rfl rfl)
abbrev cX10_read : ByteArray := prog_4_method_2_code
def yX10_read : MethodName := ⟨RX10, "read", "()V"⟩
def dkwX10_read_1 : List UInt8 := [181, 0, 33, 167, 255, 231, 42, 182, 0, 36, 177]
abbrev dktX10_read_1 : List UInt8 := dkwX10_read_1 ++ []
def dkwX10_read_0 : List UInt8 := [42, 180, 0, 22, 42, 180, 0, 26, 162, 0, 20, 42, 182, 0, 29, 42, 89, 180, 0, 33, 4, 96]
abbrev dktX10_read_0 : List UInt8 := dkwX10_read_0 ++ dktX10_read_1
theorem dksX10_read_0 : cX10_read.data.toList.drop 0 = dktX10_read_0 := by decide +kernel
theorem dksX10_read_1 : cX10_read.data.toList.drop 22 = dktX10_read_1 := dk_seg dksX10_read_0 22 rfl rfl
theorem dX10_read_0 : decode cX10_read 0 = .ok (.aload_n 0, 1) := dk_42 (dk_at dksX10_read_0 0 rfl rfl)
theorem dX10_read_1 : decode cX10_read 1 = .ok (.getfield 22, 3) := dk_180 0 22 (dk_at dksX10_read_0 1 rfl rfl)
theorem dX10_read_4 : decode cX10_read 4 = .ok (.aload_n 0, 1) := dk_42 (dk_at dksX10_read_0 4 rfl rfl)
theorem dX10_read_5 : decode cX10_read 5 = .ok (.getfield 26, 3) := dk_180 0 26 (dk_at dksX10_read_0 5 rfl rfl)
theorem dX10_read_8 : decode cX10_read 8 = .ok (.if_icmp .ge 20, 3) := dk_162 0 20 (dk_at dksX10_read_0 8 rfl rfl)
theorem dX10_read_11 : decode cX10_read 11 = .ok (.aload_n 0, 1) := dk_42 (dk_at dksX10_read_0 11 rfl rfl)
theorem dX10_read_12 : decode cX10_read 12 = .ok (.invokevirtual 29, 3) := dk_182 0 29 (dk_at dksX10_read_0 12 rfl rfl)
theorem dX10_read_15 : decode cX10_read 15 = .ok (.aload_n 0, 1) := dk_42 (dk_at dksX10_read_0 15 rfl rfl)
theorem dX10_read_16 : decode cX10_read 16 = .ok (.dup, 1) := dk_89 (dk_at dksX10_read_0 16 rfl rfl)
theorem dX10_read_17 : decode cX10_read 17 = .ok (.getfield 33, 3) := dk_180 0 33 (dk_at dksX10_read_0 17 rfl rfl)
theorem dX10_read_20 : decode cX10_read 20 = .ok (.iconst 1, 1) := dk_4 (dk_at dksX10_read_0 20 rfl rfl)
theorem dX10_read_21 : decode cX10_read 21 = .ok (.iadd, 1) := dk_96 (dk_at dksX10_read_0 21 rfl rfl)
theorem dX10_read_22 : decode cX10_read 22 = .ok (.putfield 33, 3) := dk_181 0 33 (dk_at dksX10_read_1 0 rfl rfl)
theorem dX10_read_25 : decode cX10_read 25 = .ok (.goto (-25), 3) := dk_167 255 231 (dk_at dksX10_read_1 3 rfl rfl)
theorem dX10_read_28 : decode cX10_read 28 = .ok (.aload_n 0, 1) := dk_42 (dk_at dksX10_read_1 6 rfl rfl)
theorem dX10_read_29 : decode cX10_read 29 = .ok (.invokevirtual 36, 3) := dk_182 0 36 (dk_at dksX10_read_1 7 rfl rfl)
theorem dX10_read_32 : decode cX10_read 32 = .ok (.return_, 1) := dk_177 (dk_at dksX10_read_1 10 rfl rfl)
abbrev cX10_act : ByteArray := prog_4_method_3_code
def yX10_act : MethodName := ⟨RX10, "act", "()V"⟩
def dkwX10_act_5 : List UInt8 := [177]
abbrev dktX10_act_5 : List UInt8 := dkwX10_act_5 ++ []
def dkwX10_act_4 : List UInt8 := [16, 98, 160, 0, 22, 42, 180, 0, 19, 42, 180, 0, 33, 42, 16, 49, 16, 9, 182, 0, 55, 4, 96, 79]
abbrev dktX10_act_4 : List UInt8 := dkwX10_act_4 ++ dktX10_act_5
def dkwX10_act_3 : List UInt8 := [42, 180, 0, 19, 42, 180, 0, 33, 42, 16, 48, 16, 10, 182, 0, 55, 79, 27, 16, 112, 159, 0, 9, 27]
abbrev dktX10_act_3 : List UInt8 := dkwX10_act_3 ++ dktX10_act_4
def dkwX10_act_2 : List UInt8 := [85, 42, 180, 0, 15, 42, 180, 0, 33, 42, 16, 48, 16, 10, 182, 0, 55, 79, 27, 16, 120, 160, 0, 20]
abbrev dktX10_act_2 : List UInt8 := dkwX10_act_2 ++ dktX10_act_3
def dkwX10_act_1 : List UInt8 := [3, 182, 0, 51, 42, 89, 180, 0, 22, 4, 96, 181, 0, 22, 42, 180, 0, 9, 42, 180, 0, 33, 27, 146]
abbrev dktX10_act_1 : List UInt8 := dkwX10_act_1 ++ dktX10_act_2
def dkwX10_act_0 : List UInt8 := [42, 182, 0, 39, 60, 42, 27, 2, 159, 0, 16, 18, 43, 27, 182, 0, 45, 155, 0, 7, 4, 167, 0, 4]
abbrev dktX10_act_0 : List UInt8 := dkwX10_act_0 ++ dktX10_act_1
theorem dksX10_act_0 : cX10_act.data.toList.drop 0 = dktX10_act_0 := by decide +kernel
theorem dksX10_act_1 : cX10_act.data.toList.drop 24 = dktX10_act_1 := dk_seg dksX10_act_0 24 rfl rfl
theorem dksX10_act_2 : cX10_act.data.toList.drop 48 = dktX10_act_2 := dk_seg dksX10_act_1 24 rfl rfl
theorem dksX10_act_3 : cX10_act.data.toList.drop 72 = dktX10_act_3 := dk_seg dksX10_act_2 24 rfl rfl
theorem dksX10_act_4 : cX10_act.data.toList.drop 96 = dktX10_act_4 := dk_seg dksX10_act_3 24 rfl rfl
theorem dksX10_act_5 : cX10_act.data.toList.drop 120 = dktX10_act_5 := dk_seg dksX10_act_4 24 rfl rfl
theorem dX10_act_0 : decode cX10_act 0 = .ok (.aload_n 0, 1) := dk_42 (dk_at dksX10_act_0 0 rfl rfl)
theorem dX10_act_1 : decode cX10_act 1 = .ok (.invokevirtual 39, 3) := dk_182 0 39 (dk_at dksX10_act_0 1 rfl rfl)
theorem dX10_act_4 : decode cX10_act 4 = .ok (.istore_n 1, 1) := dk_60 (dk_at dksX10_act_0 4 rfl rfl)
theorem dX10_act_5 : decode cX10_act 5 = .ok (.aload_n 0, 1) := dk_42 (dk_at dksX10_act_0 5 rfl rfl)
theorem dX10_act_6 : decode cX10_act 6 = .ok (.iload_n 1, 1) := dk_27 (dk_at dksX10_act_0 6 rfl rfl)
theorem dX10_act_7 : decode cX10_act 7 = .ok (.iconst (-1), 1) := dk_2 (dk_at dksX10_act_0 7 rfl rfl)
theorem dX10_act_8 : decode cX10_act 8 = .ok (.if_icmp .eq 16, 3) := dk_159 0 16 (dk_at dksX10_act_0 8 rfl rfl)
theorem dX10_act_11 : decode cX10_act 11 = .ok (.ldc 43, 2) := dk_18 43 (dk_at dksX10_act_0 11 rfl rfl)
theorem dX10_act_13 : decode cX10_act 13 = .ok (.iload_n 1, 1) := dk_27 (dk_at dksX10_act_0 13 rfl rfl)
theorem dX10_act_14 : decode cX10_act 14 = .ok (.invokevirtual 45, 3) := dk_182 0 45 (dk_at dksX10_act_0 14 rfl rfl)
theorem dX10_act_17 : decode cX10_act 17 = .ok (.ifCond .lt 7, 3) := dk_155 0 7 (dk_at dksX10_act_0 17 rfl rfl)
theorem dX10_act_20 : decode cX10_act 20 = .ok (.iconst 1, 1) := dk_4 (dk_at dksX10_act_0 20 rfl rfl)
theorem dX10_act_21 : decode cX10_act 21 = .ok (.goto 4, 3) := dk_167 0 4 (dk_at dksX10_act_0 21 rfl rfl)
theorem dX10_act_24 : decode cX10_act 24 = .ok (.iconst 0, 1) := dk_3 (dk_at dksX10_act_1 0 rfl rfl)
theorem dX10_act_25 : decode cX10_act 25 = .ok (.invokevirtual 51, 3) := dk_182 0 51 (dk_at dksX10_act_1 1 rfl rfl)
theorem dX10_act_28 : decode cX10_act 28 = .ok (.aload_n 0, 1) := dk_42 (dk_at dksX10_act_1 4 rfl rfl)
theorem dX10_act_29 : decode cX10_act 29 = .ok (.dup, 1) := dk_89 (dk_at dksX10_act_1 5 rfl rfl)
theorem dX10_act_30 : decode cX10_act 30 = .ok (.getfield 22, 3) := dk_180 0 22 (dk_at dksX10_act_1 6 rfl rfl)
theorem dX10_act_33 : decode cX10_act 33 = .ok (.iconst 1, 1) := dk_4 (dk_at dksX10_act_1 9 rfl rfl)
theorem dX10_act_34 : decode cX10_act 34 = .ok (.iadd, 1) := dk_96 (dk_at dksX10_act_1 10 rfl rfl)
theorem dX10_act_35 : decode cX10_act 35 = .ok (.putfield 22, 3) := dk_181 0 22 (dk_at dksX10_act_1 11 rfl rfl)
theorem dX10_act_38 : decode cX10_act 38 = .ok (.aload_n 0, 1) := dk_42 (dk_at dksX10_act_1 14 rfl rfl)
theorem dX10_act_39 : decode cX10_act 39 = .ok (.getfield 9, 3) := dk_180 0 9 (dk_at dksX10_act_1 15 rfl rfl)
theorem dX10_act_42 : decode cX10_act 42 = .ok (.aload_n 0, 1) := dk_42 (dk_at dksX10_act_1 18 rfl rfl)
theorem dX10_act_43 : decode cX10_act 43 = .ok (.getfield 33, 3) := dk_180 0 33 (dk_at dksX10_act_1 19 rfl rfl)
theorem dX10_act_46 : decode cX10_act 46 = .ok (.iload_n 1, 1) := dk_27 (dk_at dksX10_act_1 22 rfl rfl)
theorem dX10_act_47 : decode cX10_act 47 = .ok (.i2c, 1) := dk_146 (dk_at dksX10_act_1 23 rfl rfl)
theorem dX10_act_48 : decode cX10_act 48 = .ok (.castore, 1) := dk_85 (dk_at dksX10_act_2 0 rfl rfl)
theorem dX10_act_49 : decode cX10_act 49 = .ok (.aload_n 0, 1) := dk_42 (dk_at dksX10_act_2 1 rfl rfl)
theorem dX10_act_50 : decode cX10_act 50 = .ok (.getfield 15, 3) := dk_180 0 15 (dk_at dksX10_act_2 2 rfl rfl)
theorem dX10_act_53 : decode cX10_act 53 = .ok (.aload_n 0, 1) := dk_42 (dk_at dksX10_act_2 5 rfl rfl)
theorem dX10_act_54 : decode cX10_act 54 = .ok (.getfield 33, 3) := dk_180 0 33 (dk_at dksX10_act_2 6 rfl rfl)
theorem dX10_act_57 : decode cX10_act 57 = .ok (.aload_n 0, 1) := dk_42 (dk_at dksX10_act_2 9 rfl rfl)
theorem dX10_act_58 : decode cX10_act 58 = .ok (.bipush 48, 2) := dk_16 48 (dk_at dksX10_act_2 10 rfl rfl)
theorem dX10_act_60 : decode cX10_act 60 = .ok (.bipush 10, 2) := dk_16 10 (dk_at dksX10_act_2 12 rfl rfl)
theorem dX10_act_62 : decode cX10_act 62 = .ok (.invokevirtual 55, 3) := dk_182 0 55 (dk_at dksX10_act_2 14 rfl rfl)
theorem dX10_act_65 : decode cX10_act 65 = .ok (.iastore, 1) := dk_79 (dk_at dksX10_act_2 17 rfl rfl)
theorem dX10_act_66 : decode cX10_act 66 = .ok (.iload_n 1, 1) := dk_27 (dk_at dksX10_act_2 18 rfl rfl)
theorem dX10_act_67 : decode cX10_act 67 = .ok (.bipush 120, 2) := dk_16 120 (dk_at dksX10_act_2 19 rfl rfl)
theorem dX10_act_69 : decode cX10_act 69 = .ok (.if_icmp .ne 20, 3) := dk_160 0 20 (dk_at dksX10_act_2 21 rfl rfl)
theorem dX10_act_72 : decode cX10_act 72 = .ok (.aload_n 0, 1) := dk_42 (dk_at dksX10_act_3 0 rfl rfl)
theorem dX10_act_73 : decode cX10_act 73 = .ok (.getfield 19, 3) := dk_180 0 19 (dk_at dksX10_act_3 1 rfl rfl)
theorem dX10_act_76 : decode cX10_act 76 = .ok (.aload_n 0, 1) := dk_42 (dk_at dksX10_act_3 4 rfl rfl)
theorem dX10_act_77 : decode cX10_act 77 = .ok (.getfield 33, 3) := dk_180 0 33 (dk_at dksX10_act_3 5 rfl rfl)
theorem dX10_act_80 : decode cX10_act 80 = .ok (.aload_n 0, 1) := dk_42 (dk_at dksX10_act_3 8 rfl rfl)
theorem dX10_act_81 : decode cX10_act 81 = .ok (.bipush 48, 2) := dk_16 48 (dk_at dksX10_act_3 9 rfl rfl)
theorem dX10_act_83 : decode cX10_act 83 = .ok (.bipush 10, 2) := dk_16 10 (dk_at dksX10_act_3 11 rfl rfl)
theorem dX10_act_85 : decode cX10_act 85 = .ok (.invokevirtual 55, 3) := dk_182 0 55 (dk_at dksX10_act_3 13 rfl rfl)
theorem dX10_act_88 : decode cX10_act 88 = .ok (.iastore, 1) := dk_79 (dk_at dksX10_act_3 16 rfl rfl)
theorem dX10_act_89 : decode cX10_act 89 = .ok (.iload_n 1, 1) := dk_27 (dk_at dksX10_act_3 17 rfl rfl)
theorem dX10_act_90 : decode cX10_act 90 = .ok (.bipush 112, 2) := dk_16 112 (dk_at dksX10_act_3 18 rfl rfl)
theorem dX10_act_92 : decode cX10_act 92 = .ok (.if_icmp .eq 9, 3) := dk_159 0 9 (dk_at dksX10_act_3 20 rfl rfl)
theorem dX10_act_95 : decode cX10_act 95 = .ok (.iload_n 1, 1) := dk_27 (dk_at dksX10_act_3 23 rfl rfl)
theorem dX10_act_96 : decode cX10_act 96 = .ok (.bipush 98, 2) := dk_16 98 (dk_at dksX10_act_4 0 rfl rfl)
theorem dX10_act_98 : decode cX10_act 98 = .ok (.if_icmp .ne 22, 3) := dk_160 0 22 (dk_at dksX10_act_4 2 rfl rfl)
theorem dX10_act_101 : decode cX10_act 101 = .ok (.aload_n 0, 1) := dk_42 (dk_at dksX10_act_4 5 rfl rfl)
theorem dX10_act_102 : decode cX10_act 102 = .ok (.getfield 19, 3) := dk_180 0 19 (dk_at dksX10_act_4 6 rfl rfl)
theorem dX10_act_105 : decode cX10_act 105 = .ok (.aload_n 0, 1) := dk_42 (dk_at dksX10_act_4 9 rfl rfl)
theorem dX10_act_106 : decode cX10_act 106 = .ok (.getfield 33, 3) := dk_180 0 33 (dk_at dksX10_act_4 10 rfl rfl)
theorem dX10_act_109 : decode cX10_act 109 = .ok (.aload_n 0, 1) := dk_42 (dk_at dksX10_act_4 13 rfl rfl)
theorem dX10_act_110 : decode cX10_act 110 = .ok (.bipush 49, 2) := dk_16 49 (dk_at dksX10_act_4 14 rfl rfl)
theorem dX10_act_112 : decode cX10_act 112 = .ok (.bipush 9, 2) := dk_16 9 (dk_at dksX10_act_4 16 rfl rfl)
theorem dX10_act_114 : decode cX10_act 114 = .ok (.invokevirtual 55, 3) := dk_182 0 55 (dk_at dksX10_act_4 18 rfl rfl)
theorem dX10_act_117 : decode cX10_act 117 = .ok (.iconst 1, 1) := dk_4 (dk_at dksX10_act_4 21 rfl rfl)
theorem dX10_act_118 : decode cX10_act 118 = .ok (.iadd, 1) := dk_96 (dk_at dksX10_act_4 22 rfl rfl)
theorem dX10_act_119 : decode cX10_act 119 = .ok (.iastore, 1) := dk_79 (dk_at dksX10_act_4 23 rfl rfl)
theorem dX10_act_120 : decode cX10_act 120 = .ok (.return_, 1) := dk_177 (dk_at dksX10_act_5 0 rfl rfl)
theorem q102 : (Jvm.Cond.initialized "BehindAnotherHearse$Order") ∈ lw_all := lw_g (lw_at lw_m1 24 rfl) rfl
theorem q350 : (Jvm.Cond.fieldLink "BehindAnotherHearse$Order" (26 : Nat) "BehindAnotherHearse$Order" "end" "I") ∈ lw_all := lw_g (lw_at lw_m2 32 rfl) rfl
theorem q351 : (Jvm.Cond.sameField "BehindAnotherHearse$Order" "BehindAnotherHearse$Words" "end" "I") ∈ lw_all := lw_g (lw_at lw_m2 33 rfl) rfl
theorem q353 : (Jvm.Cond.fieldLink "BehindAnotherHearse$Order" (22 : Nat) "BehindAnotherHearse$Order" "at" "I") ∈ lw_all := lw_g (lw_at lw_m2 35 rfl) rfl
theorem q354 : (Jvm.Cond.sameField "BehindAnotherHearse$Order" "BehindAnotherHearse$Words" "at" "I") ∈ lw_all := lw_g (lw_at lw_m2 36 rfl) rfl
theorem q371 : (Jvm.Cond.selects "BehindAnotherHearse$Order" ({ cls := "BehindAnotherHearse$Words", name := "here", desc := "()I" } : Jvm.MethodName) ({ cls := "BehindAnotherHearse$Words", name := "here", desc := "()I" } : Jvm.MethodName)) ∈ lw_all := lw_g (lw_at lw_m2 53 rfl) rfl
theorem q378 : (Jvm.Cond.selects "BehindAnotherHearse$Order" ({ cls := "BehindAnotherHearse$Words", name := "passes", desc := "(C)Z" } : Jvm.MethodName) ({ cls := "BehindAnotherHearse$Words", name := "passes", desc := "(C)Z" } : Jvm.MethodName)) ∈ lw_all := lw_g (lw_at lw_m2 60 rfl) rfl
theorem q386 : (Jvm.Cond.selects "BehindAnotherHearse$Order" ({ cls := "BehindAnotherHearse$Words", name := "need", desc := "(Z)V" } : Jvm.MethodName) ({ cls := "BehindAnotherHearse$Words", name := "need", desc := "(Z)V" } : Jvm.MethodName)) ∈ lw_all := lw_g (lw_at lw_m2 68 rfl) rfl
theorem q456 : (Jvm.Cond.selects "BehindAnotherHearse$Order" ({ cls := "BehindAnotherHearse$Words", name := "needEnd", desc := "()V" } : Jvm.MethodName) ({ cls := "BehindAnotherHearse$Words", name := "needEnd", desc := "()V" } : Jvm.MethodName)) ∈ lw_all := lw_g (lw_at lw_m2 138 rfl) rfl
theorem q478 : (Jvm.Cond.selects "BehindAnotherHearse$Order" ({ cls := "BehindAnotherHearse$Words", name := "number", desc := "(I)I" } : Jvm.MethodName) ({ cls := "BehindAnotherHearse$Words", name := "number", desc := "(I)I" } : Jvm.MethodName)) ∈ lw_all := lw_g (lw_at lw_m2 160 rfl) rfl
theorem q485 : (Jvm.Cond.selects "BehindAnotherHearse$Order" ({ cls := "BehindAnotherHearse$Words", name := "one", desc := "(CI)I" } : Jvm.MethodName) ({ cls := "BehindAnotherHearse$Words", name := "one", desc := "(CI)I" } : Jvm.MethodName)) ∈ lw_all := lw_g (lw_at lw_m2 167 rfl) rfl
theorem q864 : (Jvm.Cond.instantiable "BehindAnotherHearse$Order" (8 : Nat)) ∈ lw_all := lw_g (lw_at lw_m4 66 rfl) rfl
theorem q866 : (Jvm.Cond.instanceMethod ({ cls := "BehindAnotherHearse$Order", name := "<init>", desc := "([BI)V" } : Jvm.MethodName)) ∈ lw_all := lw_g (lw_at lw_m4 68 rfl) rfl
theorem q867 : (Jvm.Cond.code ({ cls := "BehindAnotherHearse$Order", name := "<init>", desc := "([BI)V" } : Jvm.MethodName) prog_4_method_1_code (3 : Nat) (Option.none : Option Jvm.ClassFile.FieldType)) ∈ lw_all := lw_g (lw_at lw_m4 69 rfl) rfl
theorem q868 : (Jvm.Cond.methodLink "BehindAnotherHearse$Order" (3 : Nat) ({ cls := "BehindAnotherHearse$Words", name := "<init>", desc := "([BII)V" } : Jvm.MethodName)) ∈ lw_all := lw_g (lw_at lw_m4 70 rfl) rfl
theorem q869 : (Jvm.Cond.fieldLink "BehindAnotherHearse$Order" (9 : Nat) "BehindAnotherHearse$Order" "acts" "[C") ∈ lw_all := lw_g (lw_at lw_m4 71 rfl) rfl
theorem q871 : (Jvm.Cond.fieldLink "BehindAnotherHearse$Order" (15 : Nat) "BehindAnotherHearse$Order" "first" "[I") ∈ lw_all := lw_g (lw_at lw_m4 73 rfl) rfl
theorem q873 : (Jvm.Cond.fieldLink "BehindAnotherHearse$Order" (19 : Nat) "BehindAnotherHearse$Order" "second" "[I") ∈ lw_all := lw_g (lw_at lw_m4 75 rfl) rfl
theorem q875 : (Jvm.Cond.fieldLink "BehindAnotherHearse$Order" (33 : Nat) "BehindAnotherHearse$Order" "many" "I") ∈ lw_all := lw_g (lw_at lw_m4 77 rfl) rfl
theorem q877 : (Jvm.Cond.laysFinal "BehindAnotherHearse$Order" "BehindAnotherHearse$Order" "acts" "[C") ∈ lw_all := lw_g (lw_at lw_m4 79 rfl) rfl
theorem q878 : (Jvm.Cond.soleField "BehindAnotherHearse$Order" "acts") ∈ lw_all := lw_g (lw_at lw_m4 80 rfl) rfl
theorem q879 : (Jvm.Cond.laysFinal "BehindAnotherHearse$Order" "BehindAnotherHearse$Order" "first" "[I") ∈ lw_all := lw_g (lw_at lw_m4 81 rfl) rfl
theorem q880 : (Jvm.Cond.soleField "BehindAnotherHearse$Order" "first") ∈ lw_all := lw_g (lw_at lw_m4 82 rfl) rfl
theorem q881 : (Jvm.Cond.laysFinal "BehindAnotherHearse$Order" "BehindAnotherHearse$Order" "second" "[I") ∈ lw_all := lw_g (lw_at lw_m4 83 rfl) rfl
theorem q882 : (Jvm.Cond.soleField "BehindAnotherHearse$Order" "second") ∈ lw_all := lw_g (lw_at lw_m4 84 rfl) rfl
theorem q883 : (Jvm.Cond.lays "BehindAnotherHearse$Order" "BehindAnotherHearse$Order" "many" "I") ∈ lw_all := lw_g (lw_at lw_m4 85 rfl) rfl
theorem q884 : (Jvm.Cond.soleField "BehindAnotherHearse$Order" "many") ∈ lw_all := lw_g (lw_at lw_m4 86 rfl) rfl
theorem q885 : (Jvm.Cond.laysFinal "BehindAnotherHearse$Order" "BehindAnotherHearse$Words" "of" "[B") ∈ lw_all := lw_g (lw_at lw_m4 87 rfl) rfl
theorem q886 : (Jvm.Cond.laysFinal "BehindAnotherHearse$Order" "BehindAnotherHearse$Words" "size" "I") ∈ lw_all := lw_g (lw_at lw_m4 88 rfl) rfl
theorem q887 : (Jvm.Cond.laysFinal "BehindAnotherHearse$Order" "BehindAnotherHearse$Words" "end" "I") ∈ lw_all := lw_g (lw_at lw_m4 89 rfl) rfl
theorem q888 : (Jvm.Cond.lays "BehindAnotherHearse$Order" "BehindAnotherHearse$Words" "at" "I") ∈ lw_all := lw_g (lw_at lw_m4 90 rfl) rfl
theorem q889 : (Jvm.Cond.superclass "BehindAnotherHearse$Order" "BehindAnotherHearse$Words") ∈ lw_all := lw_g (lw_at lw_m4 91 rfl) rfl
theorem q892 : (Jvm.Cond.instanceMethod ({ cls := "BehindAnotherHearse$Order", name := "read", desc := "()V" } : Jvm.MethodName)) ∈ lw_all := lw_g (lw_at lw_m4 94 rfl) rfl
theorem q893 : (Jvm.Cond.selects "BehindAnotherHearse$Order" ({ cls := "BehindAnotherHearse$Order", name := "read", desc := "()V" } : Jvm.MethodName) ({ cls := "BehindAnotherHearse$Order", name := "read", desc := "()V" } : Jvm.MethodName)) ∈ lw_all := lw_g (lw_at lw_m4 95 rfl) rfl
theorem q894 : (Jvm.Cond.code ({ cls := "BehindAnotherHearse$Order", name := "read", desc := "()V" } : Jvm.MethodName) prog_4_method_2_code (1 : Nat) (Option.none : Option Jvm.ClassFile.FieldType)) ∈ lw_all := lw_g (lw_at lw_m4 96 rfl) rfl
theorem q895 : (Jvm.Cond.methodLink "BehindAnotherHearse$Order" (29 : Nat) ({ cls := "BehindAnotherHearse$Order", name := "act", desc := "()V" } : Jvm.MethodName)) ∈ lw_all := lw_g (lw_at lw_m4 97 rfl) rfl
theorem q896 : (Jvm.Cond.privateMethod ({ cls := "BehindAnotherHearse$Order", name := "act", desc := "()V" } : Jvm.MethodName)) ∈ lw_tbl := lw_at lw_m4 98 rfl
theorem q897 : (Jvm.Cond.instanceMethod ({ cls := "BehindAnotherHearse$Order", name := "act", desc := "()V" } : Jvm.MethodName)) ∈ lw_all := lw_g (lw_at lw_m4 99 rfl) rfl
theorem q898 : (Jvm.Cond.code ({ cls := "BehindAnotherHearse$Order", name := "act", desc := "()V" } : Jvm.MethodName) prog_4_method_3_code (2 : Nat) (Option.none : Option Jvm.ClassFile.FieldType)) ∈ lw_all := lw_g (lw_at lw_m4 100 rfl) rfl
theorem q899 : (Jvm.Cond.methodLink "BehindAnotherHearse$Order" (39 : Nat) ({ cls := "BehindAnotherHearse$Order", name := "here", desc := "()I" } : Jvm.MethodName)) ∈ lw_all := lw_g (lw_at lw_m4 101 rfl) rfl
theorem q900 : (Jvm.Cond.sameMethod "BehindAnotherHearse$Order" "BehindAnotherHearse$Words" "here" "()I") ∈ lw_all := lw_g (lw_at lw_m4 102 rfl) rfl
theorem q901 : (Jvm.Cond.selects "BehindAnotherHearse$Order" ({ cls := "BehindAnotherHearse$Order", name := "here", desc := "()I" } : Jvm.MethodName) ({ cls := "BehindAnotherHearse$Words", name := "here", desc := "()I" } : Jvm.MethodName)) ∈ lw_all := lw_g (lw_at lw_m4 103 rfl) rfl
theorem q902 : (Jvm.Cond.stringRef "BehindAnotherHearse$Order" (43 : Nat) "ntpbx") ∈ lw_tbl := lw_at lw_m4 104 rfl
theorem q903 : (Jvm.Cond.methodLink "BehindAnotherHearse$Order" (45 : Nat) ({ cls := "java/lang/String", name := "indexOf", desc := "(I)I" } : Jvm.MethodName)) ∈ lw_all := lw_g (lw_at lw_m4 105 rfl) rfl
theorem q904 : (Jvm.Cond.methodLink "BehindAnotherHearse$Order" (51 : Nat) ({ cls := "BehindAnotherHearse$Order", name := "need", desc := "(Z)V" } : Jvm.MethodName)) ∈ lw_all := lw_g (lw_at lw_m4 106 rfl) rfl
theorem q905 : (Jvm.Cond.sameMethod "BehindAnotherHearse$Order" "BehindAnotherHearse$Words" "need" "(Z)V") ∈ lw_all := lw_g (lw_at lw_m4 107 rfl) rfl
theorem q906 : (Jvm.Cond.selects "BehindAnotherHearse$Order" ({ cls := "BehindAnotherHearse$Order", name := "need", desc := "(Z)V" } : Jvm.MethodName) ({ cls := "BehindAnotherHearse$Words", name := "need", desc := "(Z)V" } : Jvm.MethodName)) ∈ lw_all := lw_g (lw_at lw_m4 108 rfl) rfl
theorem q907 : (Jvm.Cond.methodLink "BehindAnotherHearse$Order" (55 : Nat) ({ cls := "BehindAnotherHearse$Order", name := "one", desc := "(CI)I" } : Jvm.MethodName)) ∈ lw_all := lw_g (lw_at lw_m4 109 rfl) rfl
theorem q908 : (Jvm.Cond.sameMethod "BehindAnotherHearse$Order" "BehindAnotherHearse$Words" "one" "(CI)I") ∈ lw_all := lw_g (lw_at lw_m4 110 rfl) rfl
theorem q910 : (Jvm.Cond.selects "BehindAnotherHearse$Order" ({ cls := "BehindAnotherHearse$Order", name := "one", desc := "(CI)I" } : Jvm.MethodName) ({ cls := "BehindAnotherHearse$Words", name := "one", desc := "(CI)I" } : Jvm.MethodName)) ∈ lw_all := lw_g (lw_at lw_m4 112 rfl) rfl
theorem q911 : (Jvm.Cond.methodLink "BehindAnotherHearse$Order" (36 : Nat) ({ cls := "BehindAnotherHearse$Order", name := "needEnd", desc := "()V" } : Jvm.MethodName)) ∈ lw_all := lw_g (lw_at lw_m4 113 rfl) rfl
theorem q912 : (Jvm.Cond.sameMethod "BehindAnotherHearse$Order" "BehindAnotherHearse$Words" "needEnd" "()V") ∈ lw_all := lw_g (lw_at lw_m4 114 rfl) rfl
theorem q913 : (Jvm.Cond.selects "BehindAnotherHearse$Order" ({ cls := "BehindAnotherHearse$Order", name := "needEnd", desc := "()V" } : Jvm.MethodName) ({ cls := "BehindAnotherHearse$Words", name := "needEnd", desc := "()V" } : Jvm.MethodName)) ∈ lw_all := lw_g (lw_at lw_m4 115 rfl) rfl
theorem q1974 : (Jvm.Cond.castable "BehindAnotherHearse$Order" "java/lang/Object") ∈ lw_tbl := lw_at lw_m8 216 rfl
theorem in_X10 : ∀ w ∈ wsX100, w ∈ lw_all := lw_in wsX100 [885, 886, 887, 888, 877, 879, 881, 883] (by decide +kernel) (by decide +kernel)
/-! BehindAnotherHearse$Placed -/
set_option maxRecDepth 100000
def RX11 : String := "BehindAnotherHearse$Placed"
def TX11 : u_T := fun k => match k with
  | 0 => ("BehindAnotherHearse$Trial", "this$0", "LBehindAnotherHearse;", true)
  | 1 => ("BehindAnotherHearse$Placed", "man", "I", true)
  | 2 => ("BehindAnotherHearse$Placed", "cell", "I", true)
  | _ => ("BehindAnotherHearse$Placed", "this$0", "LBehindAnotherHearse;", true)
def tyX11 : Nat → FieldType := fun k => match k with
  | 0 => .object "BehindAnotherHearse"
  | 1 => .int
  | 2 => .int
  | _ => .object "BehindAnotherHearse"
abbrev wsX110 : List Cond := u_ws RX11 TX11 4
-- two fields of one name: no nmX11
theorem tyX11_ok : ∀ k, k < 4 → parseFieldDescriptor (TX11 k).2.2.1 = some (tyX11 k) := by decide +kernel
abbrev cX11_lay : ByteArray := prog_6_method_2_code
def yX11_lay : MethodName := ⟨RX11, "lay", "(LBehindAnotherHearse$Street;)V"⟩
def dkwX11_lay_0 : List UInt8 := [43, 180, 0, 22, 42, 180, 0, 15, 42, 180, 0, 19, 79, 43, 180, 0, 27, 42, 180, 0, 15, 2, 79, 177]
abbrev dktX11_lay_0 : List UInt8 := dkwX11_lay_0 ++ []
theorem dksX11_lay_0 : cX11_lay.data.toList.drop 0 = dktX11_lay_0 := by decide +kernel
theorem dX11_lay_0 : decode cX11_lay 0 = .ok (.aload_n 1, 1) := dk_43 (dk_at dksX11_lay_0 0 rfl rfl)
theorem dX11_lay_1 : decode cX11_lay 1 = .ok (.getfield 22, 3) := dk_180 0 22 (dk_at dksX11_lay_0 1 rfl rfl)
theorem dX11_lay_4 : decode cX11_lay 4 = .ok (.aload_n 0, 1) := dk_42 (dk_at dksX11_lay_0 4 rfl rfl)
theorem dX11_lay_5 : decode cX11_lay 5 = .ok (.getfield 15, 3) := dk_180 0 15 (dk_at dksX11_lay_0 5 rfl rfl)
theorem dX11_lay_8 : decode cX11_lay 8 = .ok (.aload_n 0, 1) := dk_42 (dk_at dksX11_lay_0 8 rfl rfl)
theorem dX11_lay_9 : decode cX11_lay 9 = .ok (.getfield 19, 3) := dk_180 0 19 (dk_at dksX11_lay_0 9 rfl rfl)
theorem dX11_lay_12 : decode cX11_lay 12 = .ok (.iastore, 1) := dk_79 (dk_at dksX11_lay_0 12 rfl rfl)
theorem dX11_lay_13 : decode cX11_lay 13 = .ok (.aload_n 1, 1) := dk_43 (dk_at dksX11_lay_0 13 rfl rfl)
theorem dX11_lay_14 : decode cX11_lay 14 = .ok (.getfield 27, 3) := dk_180 0 27 (dk_at dksX11_lay_0 14 rfl rfl)
theorem dX11_lay_17 : decode cX11_lay 17 = .ok (.aload_n 0, 1) := dk_42 (dk_at dksX11_lay_0 17 rfl rfl)
theorem dX11_lay_18 : decode cX11_lay 18 = .ok (.getfield 15, 3) := dk_180 0 15 (dk_at dksX11_lay_0 18 rfl rfl)
theorem dX11_lay_21 : decode cX11_lay 21 = .ok (.iconst (-1), 1) := dk_2 (dk_at dksX11_lay_0 21 rfl rfl)
theorem dX11_lay_22 : decode cX11_lay 22 = .ok (.iastore, 1) := dk_79 (dk_at dksX11_lay_0 22 rfl rfl)
theorem dX11_lay_23 : decode cX11_lay 23 = .ok (.return_, 1) := dk_177 (dk_at dksX11_lay_0 23 rfl rfl)
abbrev cX11_init : ByteArray := prog_6_method_1_code
def yX11_init : MethodName := ⟨RX11, "<init>", "(LBehindAnotherHearse;II)V"⟩
def dkwX11_init_0 : List UInt8 := [42, 43, 181, 0, 3, 42, 43, 183, 0, 9, 42, 28, 181, 0, 15, 42, 29, 181, 0, 19, 177]
abbrev dktX11_init_0 : List UInt8 := dkwX11_init_0 ++ []
theorem dksX11_init_0 : cX11_init.data.toList.drop 0 = dktX11_init_0 := by decide +kernel
theorem dX11_init_0 : decode cX11_init 0 = .ok (.aload_n 0, 1) := dk_42 (dk_at dksX11_init_0 0 rfl rfl)
theorem dX11_init_1 : decode cX11_init 1 = .ok (.aload_n 1, 1) := dk_43 (dk_at dksX11_init_0 1 rfl rfl)
theorem dX11_init_2 : decode cX11_init 2 = .ok (.putfield 3, 3) := dk_181 0 3 (dk_at dksX11_init_0 2 rfl rfl)
theorem dX11_init_5 : decode cX11_init 5 = .ok (.aload_n 0, 1) := dk_42 (dk_at dksX11_init_0 5 rfl rfl)
theorem dX11_init_6 : decode cX11_init 6 = .ok (.aload_n 1, 1) := dk_43 (dk_at dksX11_init_0 6 rfl rfl)
theorem dX11_init_7 : decode cX11_init 7 = .ok (.invokespecial 9, 3) := dk_183 0 9 (dk_at dksX11_init_0 7 rfl rfl)
theorem dX11_init_10 : decode cX11_init 10 = .ok (.aload_n 0, 1) := dk_42 (dk_at dksX11_init_0 10 rfl rfl)
theorem dX11_init_11 : decode cX11_init 11 = .ok (.iload_n 2, 1) := dk_28 (dk_at dksX11_init_0 11 rfl rfl)
theorem dX11_init_12 : decode cX11_init 12 = .ok (.putfield 15, 3) := dk_181 0 15 (dk_at dksX11_init_0 12 rfl rfl)
theorem dX11_init_15 : decode cX11_init 15 = .ok (.aload_n 0, 1) := dk_42 (dk_at dksX11_init_0 15 rfl rfl)
theorem dX11_init_16 : decode cX11_init 16 = .ok (.iload_n 3, 1) := dk_29 (dk_at dksX11_init_0 16 rfl rfl)
theorem dX11_init_17 : decode cX11_init 17 = .ok (.putfield 19, 3) := dk_181 0 19 (dk_at dksX11_init_0 17 rfl rfl)
theorem dX11_init_20 : decode cX11_init 20 = .ok (.return_, 1) := dk_177 (dk_at dksX11_init_0 20 rfl rfl)
theorem q103 : (Jvm.Cond.initialized "BehindAnotherHearse$Placed") ∈ lw_all := lw_g (lw_at lw_m1 25 rfl) rfl
theorem q129 : (Jvm.Cond.fieldLink "BehindAnotherHearse$Placed" (22 : Nat) "BehindAnotherHearse$Street" "cell" "[I") ∈ lw_all := lw_g (lw_at lw_m1 51 rfl) rfl
theorem q132 : (Jvm.Cond.fieldLink "BehindAnotherHearse$Placed" (27 : Nat) "BehindAnotherHearse$Street" "follows" "[I") ∈ lw_all := lw_g (lw_at lw_m1 54 rfl) rfl
theorem q960 : (Jvm.Cond.selects "BehindAnotherHearse$Placed" ({ cls := "BehindAnotherHearse$Trial", name := "run", desc := "()LBehindAnotherHearse$Street;" } : Jvm.MethodName) ({ cls := "BehindAnotherHearse$Trial", name := "run", desc := "()LBehindAnotherHearse$Street;" } : Jvm.MethodName)) ∈ lw_all := lw_g (lw_at lw_m4 162 rfl) rfl
theorem q970 : (Jvm.Cond.selects "BehindAnotherHearse$Placed" ({ cls := "BehindAnotherHearse$Trial", name := "lay", desc := "(LBehindAnotherHearse$Street;)V" } : Jvm.MethodName) ({ cls := "BehindAnotherHearse$Placed", name := "lay", desc := "(LBehindAnotherHearse$Street;)V" } : Jvm.MethodName)) ∈ lw_all := lw_g (lw_at lw_m4 172 rfl) rfl
theorem q971 : (Jvm.Cond.instanceMethod ({ cls := "BehindAnotherHearse$Placed", name := "lay", desc := "(LBehindAnotherHearse$Street;)V" } : Jvm.MethodName)) ∈ lw_all := lw_g (lw_at lw_m4 173 rfl) rfl
theorem q972 : (Jvm.Cond.code ({ cls := "BehindAnotherHearse$Placed", name := "lay", desc := "(LBehindAnotherHearse$Street;)V" } : Jvm.MethodName) prog_6_method_2_code (2 : Nat) (Option.none : Option Jvm.ClassFile.FieldType)) ∈ lw_all := lw_g (lw_at lw_m4 174 rfl) rfl
theorem q1016 : (Jvm.Cond.selects "BehindAnotherHearse$Placed" ({ cls := "BehindAnotherHearse$Trial", name := "rightMany", desc := "()I" } : Jvm.MethodName) ({ cls := "BehindAnotherHearse$Trial", name := "rightMany", desc := "()I" } : Jvm.MethodName)) ∈ lw_all := lw_g (lw_at lw_m4 218 rfl) rfl
theorem q1042 : (Jvm.Cond.instantiable "BehindAnotherHearse$Placed" (4 : Nat)) ∈ lw_all := lw_g (lw_at lw_m5 4 rfl) rfl
theorem q1044 : (Jvm.Cond.instanceMethod ({ cls := "BehindAnotherHearse$Placed", name := "<init>", desc := "(LBehindAnotherHearse;II)V" } : Jvm.MethodName)) ∈ lw_all := lw_g (lw_at lw_m5 6 rfl) rfl
theorem q1045 : (Jvm.Cond.code ({ cls := "BehindAnotherHearse$Placed", name := "<init>", desc := "(LBehindAnotherHearse;II)V" } : Jvm.MethodName) prog_6_method_1_code (4 : Nat) (Option.none : Option Jvm.ClassFile.FieldType)) ∈ lw_all := lw_g (lw_at lw_m5 7 rfl) rfl
theorem q1046 : (Jvm.Cond.methodLinkNest "BehindAnotherHearse$Placed" (9 : Nat) ({ cls := "BehindAnotherHearse$Trial", name := "<init>", desc := "(LBehindAnotherHearse;)V" } : Jvm.MethodName) "BehindAnotherHearse") ∈ lw_tbl := lw_at lw_m5 8 rfl
theorem q1047 : (Jvm.Cond.fieldLink "BehindAnotherHearse$Placed" (15 : Nat) "BehindAnotherHearse$Placed" "man" "I") ∈ lw_all := lw_g (lw_at lw_m5 9 rfl) rfl
theorem q1048 : (Jvm.Cond.fieldLink "BehindAnotherHearse$Placed" (19 : Nat) "BehindAnotherHearse$Placed" "cell" "I") ∈ lw_all := lw_g (lw_at lw_m5 10 rfl) rfl
theorem q1049 : (Jvm.Cond.fieldLink "BehindAnotherHearse$Placed" (3 : Nat) "BehindAnotherHearse$Placed" "this$0" "LBehindAnotherHearse;") ∈ lw_all := lw_g (lw_at lw_m5 11 rfl) rfl
theorem q1050 : (Jvm.Cond.laysFinal "BehindAnotherHearse$Placed" "BehindAnotherHearse$Placed" "man" "I") ∈ lw_all := lw_g (lw_at lw_m5 12 rfl) rfl
theorem q1051 : (Jvm.Cond.soleField "BehindAnotherHearse$Placed" "man") ∈ lw_all := lw_g (lw_at lw_m5 13 rfl) rfl
theorem q1052 : (Jvm.Cond.laysFinal "BehindAnotherHearse$Placed" "BehindAnotherHearse$Placed" "cell" "I") ∈ lw_all := lw_g (lw_at lw_m5 14 rfl) rfl
theorem q1053 : (Jvm.Cond.soleField "BehindAnotherHearse$Placed" "cell") ∈ lw_all := lw_g (lw_at lw_m5 15 rfl) rfl
theorem q1054 : (Jvm.Cond.laysFinal "BehindAnotherHearse$Placed" "BehindAnotherHearse$Placed" "this$0" "LBehindAnotherHearse;") ∈ lw_all := lw_g (lw_at lw_m5 16 rfl) rfl
theorem q1055 : (Jvm.Cond.soleField "BehindAnotherHearse$Placed" "this$0") ∈ lw_all := lw_g (lw_at lw_m5 17 rfl) rfl
theorem q1056 : (Jvm.Cond.laysFinal "BehindAnotherHearse$Placed" "BehindAnotherHearse$Trial" "this$0" "LBehindAnotherHearse;") ∈ lw_all := lw_g (lw_at lw_m5 18 rfl) rfl
theorem q1057 : (Jvm.Cond.superclass "BehindAnotherHearse$Placed" "BehindAnotherHearse$Trial") ∈ lw_all := lw_g (lw_at lw_m5 19 rfl) rfl
theorem q1059 : (Jvm.Cond.sameMethod "BehindAnotherHearse$Placed" "BehindAnotherHearse$Trial" "run" "()LBehindAnotherHearse$Street;") ∈ lw_all := lw_g (lw_at lw_m5 21 rfl) rfl
theorem q1060 : (Jvm.Cond.selects "BehindAnotherHearse$Placed" ({ cls := "BehindAnotherHearse$Placed", name := "run", desc := "()LBehindAnotherHearse$Street;" } : Jvm.MethodName) ({ cls := "BehindAnotherHearse$Trial", name := "run", desc := "()LBehindAnotherHearse$Street;" } : Jvm.MethodName)) ∈ lw_all := lw_g (lw_at lw_m5 22 rfl) rfl
theorem q1975 : (Jvm.Cond.castable "BehindAnotherHearse$Placed" "java/lang/Object") ∈ lw_tbl := lw_at lw_m8 217 rfl
theorem in_X11 : ∀ w ∈ wsX110, w ∈ lw_all := lw_in wsX110 [1056, 1050, 1052, 1054] (by decide +kernel) (by decide +kernel)
/-! BehindAnotherHearse$Turned -/
set_option maxRecDepth 100000
def RX12 : String := "BehindAnotherHearse$Turned"
def TX12 : u_T := fun k => match k with
  | 0 => ("BehindAnotherHearse$Trial", "this$0", "LBehindAnotherHearse;", true)
  | 1 => ("BehindAnotherHearse$Turned", "those", "I", true)
  | _ => ("BehindAnotherHearse$Turned", "this$0", "LBehindAnotherHearse;", true)
def tyX12 : Nat → FieldType := fun k => match k with
  | 0 => .object "BehindAnotherHearse"
  | 1 => .int
  | _ => .object "BehindAnotherHearse"
abbrev wsX120 : List Cond := u_ws RX12 TX12 3
-- two fields of one name: no nmX12
theorem tyX12_ok : ∀ k, k < 3 → parseFieldDescriptor (TX12 k).2.2.1 = some (tyX12 k) := by decide +kernel
abbrev cX12_lay : ByteArray := prog_11_method_2_code
def yX12_lay : MethodName := ⟨RX12, "lay", "(LBehindAnotherHearse$Street;)V"⟩
def dkwX12_lay_1 : List UInt8 := [43, 180, 0, 26, 28, 42, 180, 0, 1, 180, 0, 32, 28, 46, 79, 132, 2, 1, 167, 255, 216, 177]
abbrev dktX12_lay_1 : List UInt8 := dkwX12_lay_1 ++ []
def dkwX12_lay_0 : List UInt8 := [3, 61, 28, 42, 180, 0, 1, 180, 0, 17, 162, 0, 35, 42, 180, 0, 13, 28, 184, 0, 22, 153, 0, 18]
abbrev dktX12_lay_0 : List UInt8 := dkwX12_lay_0 ++ dktX12_lay_1
theorem dksX12_lay_0 : cX12_lay.data.toList.drop 0 = dktX12_lay_0 := by decide +kernel
theorem dksX12_lay_1 : cX12_lay.data.toList.drop 24 = dktX12_lay_1 := dk_seg dksX12_lay_0 24 rfl rfl
theorem dX12_lay_0 : decode cX12_lay 0 = .ok (.iconst 0, 1) := dk_3 (dk_at dksX12_lay_0 0 rfl rfl)
theorem dX12_lay_1 : decode cX12_lay 1 = .ok (.istore_n 2, 1) := dk_61 (dk_at dksX12_lay_0 1 rfl rfl)
theorem dX12_lay_2 : decode cX12_lay 2 = .ok (.iload_n 2, 1) := dk_28 (dk_at dksX12_lay_0 2 rfl rfl)
theorem dX12_lay_3 : decode cX12_lay 3 = .ok (.aload_n 0, 1) := dk_42 (dk_at dksX12_lay_0 3 rfl rfl)
theorem dX12_lay_4 : decode cX12_lay 4 = .ok (.getfield 1, 3) := dk_180 0 1 (dk_at dksX12_lay_0 4 rfl rfl)
theorem dX12_lay_7 : decode cX12_lay 7 = .ok (.getfield 17, 3) := dk_180 0 17 (dk_at dksX12_lay_0 7 rfl rfl)
theorem dX12_lay_10 : decode cX12_lay 10 = .ok (.if_icmp .ge 35, 3) := dk_162 0 35 (dk_at dksX12_lay_0 10 rfl rfl)
theorem dX12_lay_13 : decode cX12_lay 13 = .ok (.aload_n 0, 1) := dk_42 (dk_at dksX12_lay_0 13 rfl rfl)
theorem dX12_lay_14 : decode cX12_lay 14 = .ok (.getfield 13, 3) := dk_180 0 13 (dk_at dksX12_lay_0 14 rfl rfl)
theorem dX12_lay_17 : decode cX12_lay 17 = .ok (.iload_n 2, 1) := dk_28 (dk_at dksX12_lay_0 17 rfl rfl)
theorem dX12_lay_18 : decode cX12_lay 18 = .ok (.invokestatic 22, 3) := dk_184 0 22 (dk_at dksX12_lay_0 18 rfl rfl)
theorem dX12_lay_21 : decode cX12_lay 21 = .ok (.ifCond .eq 18, 3) := dk_153 0 18 (dk_at dksX12_lay_0 21 rfl rfl)
theorem dX12_lay_24 : decode cX12_lay 24 = .ok (.aload_n 1, 1) := dk_43 (dk_at dksX12_lay_1 0 rfl rfl)
theorem dX12_lay_25 : decode cX12_lay 25 = .ok (.getfield 26, 3) := dk_180 0 26 (dk_at dksX12_lay_1 1 rfl rfl)
theorem dX12_lay_28 : decode cX12_lay 28 = .ok (.iload_n 2, 1) := dk_28 (dk_at dksX12_lay_1 4 rfl rfl)
theorem dX12_lay_29 : decode cX12_lay 29 = .ok (.aload_n 0, 1) := dk_42 (dk_at dksX12_lay_1 5 rfl rfl)
theorem dX12_lay_30 : decode cX12_lay 30 = .ok (.getfield 1, 3) := dk_180 0 1 (dk_at dksX12_lay_1 6 rfl rfl)
theorem dX12_lay_33 : decode cX12_lay 33 = .ok (.getfield 32, 3) := dk_180 0 32 (dk_at dksX12_lay_1 9 rfl rfl)
theorem dX12_lay_36 : decode cX12_lay 36 = .ok (.iload_n 2, 1) := dk_28 (dk_at dksX12_lay_1 12 rfl rfl)
theorem dX12_lay_37 : decode cX12_lay 37 = .ok (.iaload, 1) := dk_46 (dk_at dksX12_lay_1 13 rfl rfl)
theorem dX12_lay_38 : decode cX12_lay 38 = .ok (.iastore, 1) := dk_79 (dk_at dksX12_lay_1 14 rfl rfl)
theorem dX12_lay_39 : decode cX12_lay 39 = .ok (.iinc 2 1, 3) := dk_132 2 1 (dk_at dksX12_lay_1 15 rfl rfl)
theorem dX12_lay_42 : decode cX12_lay 42 = .ok (.goto (-40), 3) := dk_167 255 216 (dk_at dksX12_lay_1 18 rfl rfl)
theorem dX12_lay_45 : decode cX12_lay 45 = .ok (.return_, 1) := dk_177 (dk_at dksX12_lay_1 21 rfl rfl)
abbrev cX12_init : ByteArray := prog_11_method_1_code
def yX12_init : MethodName := ⟨RX12, "<init>", "(LBehindAnotherHearse;I)V"⟩
def dkwX12_init_0 : List UInt8 := [42, 43, 181, 0, 1, 42, 43, 183, 0, 7, 42, 28, 181, 0, 13, 177]
abbrev dktX12_init_0 : List UInt8 := dkwX12_init_0 ++ []
theorem dksX12_init_0 : cX12_init.data.toList.drop 0 = dktX12_init_0 := by decide +kernel
theorem dX12_init_0 : decode cX12_init 0 = .ok (.aload_n 0, 1) := dk_42 (dk_at dksX12_init_0 0 rfl rfl)
theorem dX12_init_1 : decode cX12_init 1 = .ok (.aload_n 1, 1) := dk_43 (dk_at dksX12_init_0 1 rfl rfl)
theorem dX12_init_2 : decode cX12_init 2 = .ok (.putfield 1, 3) := dk_181 0 1 (dk_at dksX12_init_0 2 rfl rfl)
theorem dX12_init_5 : decode cX12_init 5 = .ok (.aload_n 0, 1) := dk_42 (dk_at dksX12_init_0 5 rfl rfl)
theorem dX12_init_6 : decode cX12_init 6 = .ok (.aload_n 1, 1) := dk_43 (dk_at dksX12_init_0 6 rfl rfl)
theorem dX12_init_7 : decode cX12_init 7 = .ok (.invokespecial 7, 3) := dk_183 0 7 (dk_at dksX12_init_0 7 rfl rfl)
theorem dX12_init_10 : decode cX12_init 10 = .ok (.aload_n 0, 1) := dk_42 (dk_at dksX12_init_0 10 rfl rfl)
theorem dX12_init_11 : decode cX12_init 11 = .ok (.iload_n 2, 1) := dk_28 (dk_at dksX12_init_0 11 rfl rfl)
theorem dX12_init_12 : decode cX12_init 12 = .ok (.putfield 13, 3) := dk_181 0 13 (dk_at dksX12_init_0 12 rfl rfl)
theorem dX12_init_15 : decode cX12_init 15 = .ok (.return_, 1) := dk_177 (dk_at dksX12_init_0 15 rfl rfl)
theorem q104 : (Jvm.Cond.initialized "BehindAnotherHearse$Turned") ∈ lw_all := lw_g (lw_at lw_m1 26 rfl) rfl
theorem q134 : (Jvm.Cond.fieldLink "BehindAnotherHearse$Turned" (26 : Nat) "BehindAnotherHearse$Street" "follows" "[I") ∈ lw_all := lw_g (lw_at lw_m1 56 rfl) rfl
theorem q212 : (Jvm.Cond.fieldLinkNest "BehindAnotherHearse$Turned" (32 : Nat) "BehindAnotherHearse" "own" "[I" "BehindAnotherHearse") ∈ lw_tbl := lw_at lw_m1 134 rfl
theorem q223 : (Jvm.Cond.fieldLinkNest "BehindAnotherHearse$Turned" (17 : Nat) "BehindAnotherHearse" "men" "I" "BehindAnotherHearse") ∈ lw_tbl := lw_at lw_m1 145 rfl
theorem q962 : (Jvm.Cond.selects "BehindAnotherHearse$Turned" ({ cls := "BehindAnotherHearse$Trial", name := "run", desc := "()LBehindAnotherHearse$Street;" } : Jvm.MethodName) ({ cls := "BehindAnotherHearse$Trial", name := "run", desc := "()LBehindAnotherHearse$Street;" } : Jvm.MethodName)) ∈ lw_all := lw_g (lw_at lw_m4 164 rfl) rfl
theorem q977 : (Jvm.Cond.selects "BehindAnotherHearse$Turned" ({ cls := "BehindAnotherHearse$Trial", name := "lay", desc := "(LBehindAnotherHearse$Street;)V" } : Jvm.MethodName) ({ cls := "BehindAnotherHearse$Turned", name := "lay", desc := "(LBehindAnotherHearse$Street;)V" } : Jvm.MethodName)) ∈ lw_all := lw_g (lw_at lw_m4 179 rfl) rfl
theorem q978 : (Jvm.Cond.instanceMethod ({ cls := "BehindAnotherHearse$Turned", name := "lay", desc := "(LBehindAnotherHearse$Street;)V" } : Jvm.MethodName)) ∈ lw_all := lw_g (lw_at lw_m4 180 rfl) rfl
theorem q979 : (Jvm.Cond.code ({ cls := "BehindAnotherHearse$Turned", name := "lay", desc := "(LBehindAnotherHearse$Street;)V" } : Jvm.MethodName) prog_11_method_2_code (3 : Nat) (Option.none : Option Jvm.ClassFile.FieldType)) ∈ lw_all := lw_g (lw_at lw_m4 181 rfl) rfl
theorem q980 : (Jvm.Cond.methodLinkNest "BehindAnotherHearse$Turned" (22 : Nat) ({ cls := "BehindAnotherHearse", name := "has", desc := "(II)Z" } : Jvm.MethodName) "BehindAnotherHearse") ∈ lw_tbl := lw_at lw_m4 182 rfl
theorem q1018 : (Jvm.Cond.selects "BehindAnotherHearse$Turned" ({ cls := "BehindAnotherHearse$Trial", name := "rightMany", desc := "()I" } : Jvm.MethodName) ({ cls := "BehindAnotherHearse$Trial", name := "rightMany", desc := "()I" } : Jvm.MethodName)) ∈ lw_all := lw_g (lw_at lw_m4 220 rfl) rfl
theorem q1072 : (Jvm.Cond.instantiable "BehindAnotherHearse$Turned" (3 : Nat)) ∈ lw_all := lw_g (lw_at lw_m5 34 rfl) rfl
theorem q1074 : (Jvm.Cond.instanceMethod ({ cls := "BehindAnotherHearse$Turned", name := "<init>", desc := "(LBehindAnotherHearse;I)V" } : Jvm.MethodName)) ∈ lw_all := lw_g (lw_at lw_m5 36 rfl) rfl
theorem q1075 : (Jvm.Cond.code ({ cls := "BehindAnotherHearse$Turned", name := "<init>", desc := "(LBehindAnotherHearse;I)V" } : Jvm.MethodName) prog_11_method_1_code (3 : Nat) (Option.none : Option Jvm.ClassFile.FieldType)) ∈ lw_all := lw_g (lw_at lw_m5 37 rfl) rfl
theorem q1076 : (Jvm.Cond.methodLinkNest "BehindAnotherHearse$Turned" (7 : Nat) ({ cls := "BehindAnotherHearse$Trial", name := "<init>", desc := "(LBehindAnotherHearse;)V" } : Jvm.MethodName) "BehindAnotherHearse") ∈ lw_tbl := lw_at lw_m5 38 rfl
theorem q1077 : (Jvm.Cond.fieldLink "BehindAnotherHearse$Turned" (13 : Nat) "BehindAnotherHearse$Turned" "those" "I") ∈ lw_all := lw_g (lw_at lw_m5 39 rfl) rfl
theorem q1078 : (Jvm.Cond.fieldLink "BehindAnotherHearse$Turned" (1 : Nat) "BehindAnotherHearse$Turned" "this$0" "LBehindAnotherHearse;") ∈ lw_all := lw_g (lw_at lw_m5 40 rfl) rfl
theorem q1079 : (Jvm.Cond.laysFinal "BehindAnotherHearse$Turned" "BehindAnotherHearse$Turned" "those" "I") ∈ lw_all := lw_g (lw_at lw_m5 41 rfl) rfl
theorem q1080 : (Jvm.Cond.soleField "BehindAnotherHearse$Turned" "those") ∈ lw_all := lw_g (lw_at lw_m5 42 rfl) rfl
theorem q1081 : (Jvm.Cond.laysFinal "BehindAnotherHearse$Turned" "BehindAnotherHearse$Turned" "this$0" "LBehindAnotherHearse;") ∈ lw_all := lw_g (lw_at lw_m5 43 rfl) rfl
theorem q1082 : (Jvm.Cond.soleField "BehindAnotherHearse$Turned" "this$0") ∈ lw_all := lw_g (lw_at lw_m5 44 rfl) rfl
theorem q1083 : (Jvm.Cond.laysFinal "BehindAnotherHearse$Turned" "BehindAnotherHearse$Trial" "this$0" "LBehindAnotherHearse;") ∈ lw_all := lw_g (lw_at lw_m5 45 rfl) rfl
theorem q1084 : (Jvm.Cond.superclass "BehindAnotherHearse$Turned" "BehindAnotherHearse$Trial") ∈ lw_all := lw_g (lw_at lw_m5 46 rfl) rfl
theorem q1086 : (Jvm.Cond.sameMethod "BehindAnotherHearse$Turned" "BehindAnotherHearse$Trial" "rightMany" "()I") ∈ lw_all := lw_g (lw_at lw_m5 48 rfl) rfl
theorem q1088 : (Jvm.Cond.selects "BehindAnotherHearse$Turned" ({ cls := "BehindAnotherHearse$Turned", name := "rightMany", desc := "()I" } : Jvm.MethodName) ({ cls := "BehindAnotherHearse$Trial", name := "rightMany", desc := "()I" } : Jvm.MethodName)) ∈ lw_all := lw_g (lw_at lw_m5 50 rfl) rfl
theorem q1976 : (Jvm.Cond.castable "BehindAnotherHearse$Turned" "java/lang/Object") ∈ lw_tbl := lw_at lw_m8 218 rfl
theorem in_X12 : ∀ w ∈ wsX120, w ∈ lw_all := lw_in wsX120 [1083, 1079, 1081] (by decide +kernel) (by decide +kernel)
/-! BehindAnotherHearse$Without -/
set_option maxRecDepth 100000
def RX13 : String := "BehindAnotherHearse$Without"
def TX13 : u_T := fun k => match k with
  | 0 => ("BehindAnotherHearse$Trial", "this$0", "LBehindAnotherHearse;", true)
  | 1 => ("BehindAnotherHearse$Without", "hearse", "I", true)
  | _ => ("BehindAnotherHearse$Without", "this$0", "LBehindAnotherHearse;", true)
def tyX13 : Nat → FieldType := fun k => match k with
  | 0 => .object "BehindAnotherHearse"
  | 1 => .int
  | _ => .object "BehindAnotherHearse"
abbrev wsX130 : List Cond := u_ws RX13 TX13 3
-- two fields of one name: no nmX13
theorem tyX13_ok : ∀ k, k < 3 → parseFieldDescriptor (TX13 k).2.2.1 = some (tyX13 k) := by decide +kernel
abbrev cX13_lay : ByteArray := prog_12_method_2_code
def yX13_lay : MethodName := ⟨RX13, "lay", "(LBehindAnotherHearse$Street;)V"⟩
def dkwX13_lay_2 : List UInt8 := [167, 255, 212, 43, 180, 0, 31, 42, 180, 0, 15, 2, 79, 43, 89, 180, 0, 34, 4, 96, 181, 0, 34, 177]
abbrev dktX13_lay_2 : List UInt8 := dkwX13_lay_2 ++ []
def dkwX13_lay_1 : List UInt8 := [160, 0, 20, 43, 180, 0, 28, 28, 46, 2, 160, 0, 10, 43, 180, 0, 22, 28, 2, 79, 132, 2, 1]
abbrev dktX13_lay_1 : List UInt8 := dkwX13_lay_1 ++ dktX13_lay_2
def dkwX13_lay_0 : List UInt8 := [3, 61, 28, 42, 180, 0, 3, 180, 0, 19, 162, 0, 39, 43, 180, 0, 22, 28, 46, 42, 180, 0, 15]
abbrev dktX13_lay_0 : List UInt8 := dkwX13_lay_0 ++ dktX13_lay_1
theorem dksX13_lay_0 : cX13_lay.data.toList.drop 0 = dktX13_lay_0 := by decide +kernel
theorem dksX13_lay_1 : cX13_lay.data.toList.drop 23 = dktX13_lay_1 := dk_seg dksX13_lay_0 23 rfl rfl
theorem dksX13_lay_2 : cX13_lay.data.toList.drop 46 = dktX13_lay_2 := dk_seg dksX13_lay_1 23 rfl rfl
theorem dX13_lay_0 : decode cX13_lay 0 = .ok (.iconst 0, 1) := dk_3 (dk_at dksX13_lay_0 0 rfl rfl)
theorem dX13_lay_1 : decode cX13_lay 1 = .ok (.istore_n 2, 1) := dk_61 (dk_at dksX13_lay_0 1 rfl rfl)
theorem dX13_lay_2 : decode cX13_lay 2 = .ok (.iload_n 2, 1) := dk_28 (dk_at dksX13_lay_0 2 rfl rfl)
theorem dX13_lay_3 : decode cX13_lay 3 = .ok (.aload_n 0, 1) := dk_42 (dk_at dksX13_lay_0 3 rfl rfl)
theorem dX13_lay_4 : decode cX13_lay 4 = .ok (.getfield 3, 3) := dk_180 0 3 (dk_at dksX13_lay_0 4 rfl rfl)
theorem dX13_lay_7 : decode cX13_lay 7 = .ok (.getfield 19, 3) := dk_180 0 19 (dk_at dksX13_lay_0 7 rfl rfl)
theorem dX13_lay_10 : decode cX13_lay 10 = .ok (.if_icmp .ge 39, 3) := dk_162 0 39 (dk_at dksX13_lay_0 10 rfl rfl)
theorem dX13_lay_13 : decode cX13_lay 13 = .ok (.aload_n 1, 1) := dk_43 (dk_at dksX13_lay_0 13 rfl rfl)
theorem dX13_lay_14 : decode cX13_lay 14 = .ok (.getfield 22, 3) := dk_180 0 22 (dk_at dksX13_lay_0 14 rfl rfl)
theorem dX13_lay_17 : decode cX13_lay 17 = .ok (.iload_n 2, 1) := dk_28 (dk_at dksX13_lay_0 17 rfl rfl)
theorem dX13_lay_18 : decode cX13_lay 18 = .ok (.iaload, 1) := dk_46 (dk_at dksX13_lay_0 18 rfl rfl)
theorem dX13_lay_19 : decode cX13_lay 19 = .ok (.aload_n 0, 1) := dk_42 (dk_at dksX13_lay_0 19 rfl rfl)
theorem dX13_lay_20 : decode cX13_lay 20 = .ok (.getfield 15, 3) := dk_180 0 15 (dk_at dksX13_lay_0 20 rfl rfl)
theorem dX13_lay_23 : decode cX13_lay 23 = .ok (.if_icmp .ne 20, 3) := dk_160 0 20 (dk_at dksX13_lay_1 0 rfl rfl)
theorem dX13_lay_26 : decode cX13_lay 26 = .ok (.aload_n 1, 1) := dk_43 (dk_at dksX13_lay_1 3 rfl rfl)
theorem dX13_lay_27 : decode cX13_lay 27 = .ok (.getfield 28, 3) := dk_180 0 28 (dk_at dksX13_lay_1 4 rfl rfl)
theorem dX13_lay_30 : decode cX13_lay 30 = .ok (.iload_n 2, 1) := dk_28 (dk_at dksX13_lay_1 7 rfl rfl)
theorem dX13_lay_31 : decode cX13_lay 31 = .ok (.iaload, 1) := dk_46 (dk_at dksX13_lay_1 8 rfl rfl)
theorem dX13_lay_32 : decode cX13_lay 32 = .ok (.iconst (-1), 1) := dk_2 (dk_at dksX13_lay_1 9 rfl rfl)
theorem dX13_lay_33 : decode cX13_lay 33 = .ok (.if_icmp .ne 10, 3) := dk_160 0 10 (dk_at dksX13_lay_1 10 rfl rfl)
theorem dX13_lay_36 : decode cX13_lay 36 = .ok (.aload_n 1, 1) := dk_43 (dk_at dksX13_lay_1 13 rfl rfl)
theorem dX13_lay_37 : decode cX13_lay 37 = .ok (.getfield 22, 3) := dk_180 0 22 (dk_at dksX13_lay_1 14 rfl rfl)
theorem dX13_lay_40 : decode cX13_lay 40 = .ok (.iload_n 2, 1) := dk_28 (dk_at dksX13_lay_1 17 rfl rfl)
theorem dX13_lay_41 : decode cX13_lay 41 = .ok (.iconst (-1), 1) := dk_2 (dk_at dksX13_lay_1 18 rfl rfl)
theorem dX13_lay_42 : decode cX13_lay 42 = .ok (.iastore, 1) := dk_79 (dk_at dksX13_lay_1 19 rfl rfl)
theorem dX13_lay_43 : decode cX13_lay 43 = .ok (.iinc 2 1, 3) := dk_132 2 1 (dk_at dksX13_lay_1 20 rfl rfl)
theorem dX13_lay_46 : decode cX13_lay 46 = .ok (.goto (-44), 3) := dk_167 255 212 (dk_at dksX13_lay_2 0 rfl rfl)
theorem dX13_lay_49 : decode cX13_lay 49 = .ok (.aload_n 1, 1) := dk_43 (dk_at dksX13_lay_2 3 rfl rfl)
theorem dX13_lay_50 : decode cX13_lay 50 = .ok (.getfield 31, 3) := dk_180 0 31 (dk_at dksX13_lay_2 4 rfl rfl)
theorem dX13_lay_53 : decode cX13_lay 53 = .ok (.aload_n 0, 1) := dk_42 (dk_at dksX13_lay_2 7 rfl rfl)
theorem dX13_lay_54 : decode cX13_lay 54 = .ok (.getfield 15, 3) := dk_180 0 15 (dk_at dksX13_lay_2 8 rfl rfl)
theorem dX13_lay_57 : decode cX13_lay 57 = .ok (.iconst (-1), 1) := dk_2 (dk_at dksX13_lay_2 11 rfl rfl)
theorem dX13_lay_58 : decode cX13_lay 58 = .ok (.iastore, 1) := dk_79 (dk_at dksX13_lay_2 12 rfl rfl)
theorem dX13_lay_59 : decode cX13_lay 59 = .ok (.aload_n 1, 1) := dk_43 (dk_at dksX13_lay_2 13 rfl rfl)
theorem dX13_lay_60 : decode cX13_lay 60 = .ok (.dup, 1) := dk_89 (dk_at dksX13_lay_2 14 rfl rfl)
theorem dX13_lay_61 : decode cX13_lay 61 = .ok (.getfield 34, 3) := dk_180 0 34 (dk_at dksX13_lay_2 15 rfl rfl)
theorem dX13_lay_64 : decode cX13_lay 64 = .ok (.iconst 1, 1) := dk_4 (dk_at dksX13_lay_2 18 rfl rfl)
theorem dX13_lay_65 : decode cX13_lay 65 = .ok (.iadd, 1) := dk_96 (dk_at dksX13_lay_2 19 rfl rfl)
theorem dX13_lay_66 : decode cX13_lay 66 = .ok (.putfield 34, 3) := dk_181 0 34 (dk_at dksX13_lay_2 20 rfl rfl)
theorem dX13_lay_69 : decode cX13_lay 69 = .ok (.return_, 1) := dk_177 (dk_at dksX13_lay_2 23 rfl rfl)
abbrev cX13_rightMany : ByteArray := prog_12_method_3_code
def yX13_rightMany : MethodName := ⟨RX13, "rightMany", "()I"⟩
def dkwX13_rightMany_1 : List UInt8 := [172]
abbrev dktX13_rightMany_1 : List UInt8 := dkwX13_rightMany_1 ++ []
def dkwX13_rightMany_0 : List UInt8 := [42, 182, 0, 37, 182, 0, 41, 42, 180, 0, 3, 42, 180, 0, 15, 182, 0, 45, 2, 130, 126, 184, 0, 49]
abbrev dktX13_rightMany_0 : List UInt8 := dkwX13_rightMany_0 ++ dktX13_rightMany_1
theorem dksX13_rightMany_0 : cX13_rightMany.data.toList.drop 0 = dktX13_rightMany_0 := by decide +kernel
theorem dksX13_rightMany_1 : cX13_rightMany.data.toList.drop 24 = dktX13_rightMany_1 := dk_seg dksX13_rightMany_0 24 rfl rfl
theorem dX13_rightMany_0 : decode cX13_rightMany 0 = .ok (.aload_n 0, 1) := dk_42 (dk_at dksX13_rightMany_0 0 rfl rfl)
theorem dX13_rightMany_1 : decode cX13_rightMany 1 = .ok (.invokevirtual 37, 3) := dk_182 0 37 (dk_at dksX13_rightMany_0 1 rfl rfl)
theorem dX13_rightMany_4 : decode cX13_rightMany 4 = .ok (.invokevirtual 41, 3) := dk_182 0 41 (dk_at dksX13_rightMany_0 4 rfl rfl)
theorem dX13_rightMany_7 : decode cX13_rightMany 7 = .ok (.aload_n 0, 1) := dk_42 (dk_at dksX13_rightMany_0 7 rfl rfl)
theorem dX13_rightMany_8 : decode cX13_rightMany 8 = .ok (.getfield 3, 3) := dk_180 0 3 (dk_at dksX13_rightMany_0 8 rfl rfl)
theorem dX13_rightMany_11 : decode cX13_rightMany 11 = .ok (.aload_n 0, 1) := dk_42 (dk_at dksX13_rightMany_0 11 rfl rfl)
theorem dX13_rightMany_12 : decode cX13_rightMany 12 = .ok (.getfield 15, 3) := dk_180 0 15 (dk_at dksX13_rightMany_0 12 rfl rfl)
theorem dX13_rightMany_15 : decode cX13_rightMany 15 = .ok (.invokevirtual 45, 3) := dk_182 0 45 (dk_at dksX13_rightMany_0 15 rfl rfl)
theorem dX13_rightMany_18 : decode cX13_rightMany 18 = .ok (.iconst (-1), 1) := dk_2 (dk_at dksX13_rightMany_0 18 rfl rfl)
theorem dX13_rightMany_19 : decode cX13_rightMany 19 = .ok (.ixor, 1) := dk_130 (dk_at dksX13_rightMany_0 19 rfl rfl)
theorem dX13_rightMany_20 : decode cX13_rightMany 20 = .ok (.iand, 1) := dk_126 (dk_at dksX13_rightMany_0 20 rfl rfl)
theorem dX13_rightMany_21 : decode cX13_rightMany 21 = .ok (.invokestatic 49, 3) := dk_184 0 49 (dk_at dksX13_rightMany_0 21 rfl rfl)
theorem dX13_rightMany_24 : decode cX13_rightMany 24 = .ok (.ireturn, 1) := dk_172 (dk_at dksX13_rightMany_1 0 rfl rfl)
abbrev cX13_init : ByteArray := prog_12_method_1_code
def yX13_init : MethodName := ⟨RX13, "<init>", "(LBehindAnotherHearse;I)V"⟩
def dkwX13_init_0 : List UInt8 := [42, 43, 181, 0, 3, 42, 43, 183, 0, 9, 42, 28, 181, 0, 15, 177]
abbrev dktX13_init_0 : List UInt8 := dkwX13_init_0 ++ []
theorem dksX13_init_0 : cX13_init.data.toList.drop 0 = dktX13_init_0 := by decide +kernel
theorem dX13_init_0 : decode cX13_init 0 = .ok (.aload_n 0, 1) := dk_42 (dk_at dksX13_init_0 0 rfl rfl)
theorem dX13_init_1 : decode cX13_init 1 = .ok (.aload_n 1, 1) := dk_43 (dk_at dksX13_init_0 1 rfl rfl)
theorem dX13_init_2 : decode cX13_init 2 = .ok (.putfield 3, 3) := dk_181 0 3 (dk_at dksX13_init_0 2 rfl rfl)
theorem dX13_init_5 : decode cX13_init 5 = .ok (.aload_n 0, 1) := dk_42 (dk_at dksX13_init_0 5 rfl rfl)
theorem dX13_init_6 : decode cX13_init 6 = .ok (.aload_n 1, 1) := dk_43 (dk_at dksX13_init_0 6 rfl rfl)
theorem dX13_init_7 : decode cX13_init 7 = .ok (.invokespecial 9, 3) := dk_183 0 9 (dk_at dksX13_init_0 7 rfl rfl)
theorem dX13_init_10 : decode cX13_init 10 = .ok (.aload_n 0, 1) := dk_42 (dk_at dksX13_init_0 10 rfl rfl)
theorem dX13_init_11 : decode cX13_init 11 = .ok (.iload_n 2, 1) := dk_28 (dk_at dksX13_init_0 11 rfl rfl)
theorem dX13_init_12 : decode cX13_init 12 = .ok (.putfield 15, 3) := dk_181 0 15 (dk_at dksX13_init_0 12 rfl rfl)
theorem dX13_init_15 : decode cX13_init 15 = .ok (.return_, 1) := dk_177 (dk_at dksX13_init_0 15 rfl rfl)
theorem q105 : (Jvm.Cond.initialized "BehindAnotherHearse$Without") ∈ lw_all := lw_g (lw_at lw_m1 27 rfl) rfl
theorem q123 : (Jvm.Cond.fieldLink "BehindAnotherHearse$Without" (31 : Nat) "BehindAnotherHearse$Street" "at" "[I") ∈ lw_all := lw_g (lw_at lw_m1 45 rfl) rfl
theorem q133 : (Jvm.Cond.fieldLink "BehindAnotherHearse$Without" (22 : Nat) "BehindAnotherHearse$Street" "follows" "[I") ∈ lw_all := lw_g (lw_at lw_m1 55 rfl) rfl
theorem q137 : (Jvm.Cond.fieldLink "BehindAnotherHearse$Without" (28 : Nat) "BehindAnotherHearse$Street" "ended" "[I") ∈ lw_all := lw_g (lw_at lw_m1 59 rfl) rfl
theorem q146 : (Jvm.Cond.fieldLink "BehindAnotherHearse$Without" (34 : Nat) "BehindAnotherHearse$Street" "arrived" "I") ∈ lw_all := lw_g (lw_at lw_m1 68 rfl) rfl
theorem q224 : (Jvm.Cond.fieldLinkNest "BehindAnotherHearse$Without" (19 : Nat) "BehindAnotherHearse" "men" "I" "BehindAnotherHearse") ∈ lw_tbl := lw_at lw_m1 146 rfl
theorem q963 : (Jvm.Cond.selects "BehindAnotherHearse$Without" ({ cls := "BehindAnotherHearse$Trial", name := "run", desc := "()LBehindAnotherHearse$Street;" } : Jvm.MethodName) ({ cls := "BehindAnotherHearse$Trial", name := "run", desc := "()LBehindAnotherHearse$Street;" } : Jvm.MethodName)) ∈ lw_all := lw_g (lw_at lw_m4 165 rfl) rfl
theorem q983 : (Jvm.Cond.selects "BehindAnotherHearse$Without" ({ cls := "BehindAnotherHearse$Trial", name := "lay", desc := "(LBehindAnotherHearse$Street;)V" } : Jvm.MethodName) ({ cls := "BehindAnotherHearse$Without", name := "lay", desc := "(LBehindAnotherHearse$Street;)V" } : Jvm.MethodName)) ∈ lw_all := lw_g (lw_at lw_m4 185 rfl) rfl
theorem q984 : (Jvm.Cond.instanceMethod ({ cls := "BehindAnotherHearse$Without", name := "lay", desc := "(LBehindAnotherHearse$Street;)V" } : Jvm.MethodName)) ∈ lw_all := lw_g (lw_at lw_m4 186 rfl) rfl
theorem q985 : (Jvm.Cond.code ({ cls := "BehindAnotherHearse$Without", name := "lay", desc := "(LBehindAnotherHearse$Street;)V" } : Jvm.MethodName) prog_12_method_2_code (3 : Nat) (Option.none : Option Jvm.ClassFile.FieldType)) ∈ lw_all := lw_g (lw_at lw_m4 187 rfl) rfl
theorem q1019 : (Jvm.Cond.selects "BehindAnotherHearse$Without" ({ cls := "BehindAnotherHearse$Trial", name := "rightMany", desc := "()I" } : Jvm.MethodName) ({ cls := "BehindAnotherHearse$Without", name := "rightMany", desc := "()I" } : Jvm.MethodName)) ∈ lw_all := lw_g (lw_at lw_m4 221 rfl) rfl
theorem q1020 : (Jvm.Cond.instanceMethod ({ cls := "BehindAnotherHearse$Without", name := "rightMany", desc := "()I" } : Jvm.MethodName)) ∈ lw_all := lw_g (lw_at lw_m4 222 rfl) rfl
theorem q1021 : (Jvm.Cond.code ({ cls := "BehindAnotherHearse$Without", name := "rightMany", desc := "()I" } : Jvm.MethodName) prog_12_method_3_code (1 : Nat) (Option.some Jvm.ClassFile.FieldType.int)) ∈ lw_all := lw_g (lw_at lw_m4 223 rfl) rfl
theorem q1022 : (Jvm.Cond.methodLink "BehindAnotherHearse$Without" (37 : Nat) ({ cls := "BehindAnotherHearse$Without", name := "run", desc := "()LBehindAnotherHearse$Street;" } : Jvm.MethodName)) ∈ lw_all := lw_g (lw_at lw_m4 224 rfl) rfl
theorem q1023 : (Jvm.Cond.sameMethod "BehindAnotherHearse$Without" "BehindAnotherHearse$Trial" "run" "()LBehindAnotherHearse$Street;") ∈ lw_all := lw_g (lw_at lw_m4 225 rfl) rfl
theorem q1025 : (Jvm.Cond.selects "BehindAnotherHearse$Without" ({ cls := "BehindAnotherHearse$Without", name := "run", desc := "()LBehindAnotherHearse$Street;" } : Jvm.MethodName) ({ cls := "BehindAnotherHearse$Trial", name := "run", desc := "()LBehindAnotherHearse$Street;" } : Jvm.MethodName)) ∈ lw_all := lw_g (lw_at lw_m4 227 rfl) rfl
theorem q1026 : (Jvm.Cond.methodLink "BehindAnotherHearse$Without" (41 : Nat) ({ cls := "BehindAnotherHearse$Street", name := "rightOnes", desc := "()I" } : Jvm.MethodName)) ∈ lw_all := lw_g (lw_at lw_m4 228 rfl) rfl
theorem q1027 : (Jvm.Cond.methodLinkNest "BehindAnotherHearse$Without" (45 : Nat) ({ cls := "BehindAnotherHearse", name := "ownOf", desc := "(I)I" } : Jvm.MethodName) "BehindAnotherHearse") ∈ lw_tbl := lw_at lw_m4 229 rfl
theorem q1031 : (Jvm.Cond.methodLink "BehindAnotherHearse$Without" (49 : Nat) ({ cls := "java/lang/Integer", name := "bitCount", desc := "(I)I" } : Jvm.MethodName)) ∈ lw_all := lw_g (lw_at lw_m4 233 rfl) rfl
theorem q1094 : (Jvm.Cond.instantiable "BehindAnotherHearse$Without" (3 : Nat)) ∈ lw_all := lw_g (lw_at lw_m5 56 rfl) rfl
theorem q1096 : (Jvm.Cond.instanceMethod ({ cls := "BehindAnotherHearse$Without", name := "<init>", desc := "(LBehindAnotherHearse;I)V" } : Jvm.MethodName)) ∈ lw_all := lw_g (lw_at lw_m5 58 rfl) rfl
theorem q1097 : (Jvm.Cond.code ({ cls := "BehindAnotherHearse$Without", name := "<init>", desc := "(LBehindAnotherHearse;I)V" } : Jvm.MethodName) prog_12_method_1_code (3 : Nat) (Option.none : Option Jvm.ClassFile.FieldType)) ∈ lw_all := lw_g (lw_at lw_m5 59 rfl) rfl
theorem q1098 : (Jvm.Cond.methodLinkNest "BehindAnotherHearse$Without" (9 : Nat) ({ cls := "BehindAnotherHearse$Trial", name := "<init>", desc := "(LBehindAnotherHearse;)V" } : Jvm.MethodName) "BehindAnotherHearse") ∈ lw_tbl := lw_at lw_m5 60 rfl
theorem q1099 : (Jvm.Cond.fieldLink "BehindAnotherHearse$Without" (15 : Nat) "BehindAnotherHearse$Without" "hearse" "I") ∈ lw_all := lw_g (lw_at lw_m5 61 rfl) rfl
theorem q1100 : (Jvm.Cond.fieldLink "BehindAnotherHearse$Without" (3 : Nat) "BehindAnotherHearse$Without" "this$0" "LBehindAnotherHearse;") ∈ lw_all := lw_g (lw_at lw_m5 62 rfl) rfl
theorem q1101 : (Jvm.Cond.laysFinal "BehindAnotherHearse$Without" "BehindAnotherHearse$Without" "hearse" "I") ∈ lw_all := lw_g (lw_at lw_m5 63 rfl) rfl
theorem q1102 : (Jvm.Cond.soleField "BehindAnotherHearse$Without" "hearse") ∈ lw_all := lw_g (lw_at lw_m5 64 rfl) rfl
theorem q1103 : (Jvm.Cond.laysFinal "BehindAnotherHearse$Without" "BehindAnotherHearse$Without" "this$0" "LBehindAnotherHearse;") ∈ lw_all := lw_g (lw_at lw_m5 65 rfl) rfl
theorem q1104 : (Jvm.Cond.soleField "BehindAnotherHearse$Without" "this$0") ∈ lw_all := lw_g (lw_at lw_m5 66 rfl) rfl
theorem q1105 : (Jvm.Cond.laysFinal "BehindAnotherHearse$Without" "BehindAnotherHearse$Trial" "this$0" "LBehindAnotherHearse;") ∈ lw_all := lw_g (lw_at lw_m5 67 rfl) rfl
theorem q1106 : (Jvm.Cond.superclass "BehindAnotherHearse$Without" "BehindAnotherHearse$Trial") ∈ lw_all := lw_g (lw_at lw_m5 68 rfl) rfl
theorem q1961 : (Jvm.Cond.selects "BehindAnotherHearse$Without" ({ cls := "BehindAnotherHearse$Without", name := "rightMany", desc := "()I" } : Jvm.MethodName) ({ cls := "BehindAnotherHearse$Without", name := "rightMany", desc := "()I" } : Jvm.MethodName)) ∈ lw_all := lw_g (lw_at lw_m8 203 rfl) rfl
theorem q1977 : (Jvm.Cond.castable "BehindAnotherHearse$Without" "java/lang/Object") ∈ lw_tbl := lw_at lw_m8 219 rfl
theorem in_X13 : ∀ w ∈ wsX130, w ∈ lw_all := lw_in wsX130 [1105, 1101, 1103] (by decide +kernel) (by decide +kernel)
/-! BehindAnotherHearse$Page -/
set_option maxRecDepth 100000
def RX14 : String := "BehindAnotherHearse$Page"
def TX14 : u_T := fun k => match k with
  | 0 => ("BehindAnotherHearse$Page", "was", "LBehindAnotherHearse$Street;", true)
  | 1 => ("BehindAnotherHearse$Page", "since", "I", true)
  | _ => ("BehindAnotherHearse$Page", "this$0", "LBehindAnotherHearse;", true)
def tyX14 : Nat → FieldType := fun k => match k with
  | 0 => .object "BehindAnotherHearse$Street"
  | 1 => .int
  | _ => .object "BehindAnotherHearse"
abbrev wsX140 : List Cond := u_ws RX14 TX14 3
theorem nmX14 : ∀ a, a < 3 → ∀ b, b < 3 → a ≠ b → (TX14 a).2.1 ≠ (TX14 b).2.1 := by decide +kernel
theorem tyX14_ok : ∀ k, k < 3 → parseFieldDescriptor (TX14 k).2.2.1 = some (tyX14 k) := by decide +kernel
abbrev cX14_init : ByteArray := prog_5_method_1_code
def yX14_init : MethodName := ⟨RX14, "<init>", "(LBehindAnotherHearse;)V"⟩
def dkwX14_init_1 : List UInt8 := [42, 42, 180, 0, 1, 180, 0, 22, 181, 0, 28, 42, 180, 0, 18, 43, 180, 0, 31, 182, 0, 34, 177]
abbrev dktX14_init_1 : List UInt8 := dkwX14_init_1 ++ []
def dkwX14_init_0 : List UInt8 := [42, 43, 181, 0, 1, 42, 183, 0, 7, 42, 187, 0, 13, 89, 42, 180, 0, 1, 183, 0, 15, 181, 0, 18]
abbrev dktX14_init_0 : List UInt8 := dkwX14_init_0 ++ dktX14_init_1
theorem dksX14_init_0 : cX14_init.data.toList.drop 0 = dktX14_init_0 := by decide +kernel
theorem dksX14_init_1 : cX14_init.data.toList.drop 24 = dktX14_init_1 := dk_seg dksX14_init_0 24 rfl rfl
theorem dX14_init_0 : decode cX14_init 0 = .ok (.aload_n 0, 1) := dk_42 (dk_at dksX14_init_0 0 rfl rfl)
theorem dX14_init_1 : decode cX14_init 1 = .ok (.aload_n 1, 1) := dk_43 (dk_at dksX14_init_0 1 rfl rfl)
theorem dX14_init_2 : decode cX14_init 2 = .ok (.putfield 1, 3) := dk_181 0 1 (dk_at dksX14_init_0 2 rfl rfl)
theorem dX14_init_5 : decode cX14_init 5 = .ok (.aload_n 0, 1) := dk_42 (dk_at dksX14_init_0 5 rfl rfl)
theorem dX14_init_6 : decode cX14_init 6 = .ok (.invokespecial 7, 3) := dk_183 0 7 (dk_at dksX14_init_0 6 rfl rfl)
theorem dX14_init_9 : decode cX14_init 9 = .ok (.aload_n 0, 1) := dk_42 (dk_at dksX14_init_0 9 rfl rfl)
theorem dX14_init_10 : decode cX14_init 10 = .ok (.new 13, 3) := dk_187 0 13 (dk_at dksX14_init_0 10 rfl rfl)
theorem dX14_init_13 : decode cX14_init 13 = .ok (.dup, 1) := dk_89 (dk_at dksX14_init_0 13 rfl rfl)
theorem dX14_init_14 : decode cX14_init 14 = .ok (.aload_n 0, 1) := dk_42 (dk_at dksX14_init_0 14 rfl rfl)
theorem dX14_init_15 : decode cX14_init 15 = .ok (.getfield 1, 3) := dk_180 0 1 (dk_at dksX14_init_0 15 rfl rfl)
theorem dX14_init_18 : decode cX14_init 18 = .ok (.invokespecial 15, 3) := dk_183 0 15 (dk_at dksX14_init_0 18 rfl rfl)
theorem dX14_init_21 : decode cX14_init 21 = .ok (.putfield 18, 3) := dk_181 0 18 (dk_at dksX14_init_0 21 rfl rfl)
theorem dX14_init_24 : decode cX14_init 24 = .ok (.aload_n 0, 1) := dk_42 (dk_at dksX14_init_1 0 rfl rfl)
theorem dX14_init_25 : decode cX14_init 25 = .ok (.aload_n 0, 1) := dk_42 (dk_at dksX14_init_1 1 rfl rfl)
theorem dX14_init_26 : decode cX14_init 26 = .ok (.getfield 1, 3) := dk_180 0 1 (dk_at dksX14_init_1 2 rfl rfl)
theorem dX14_init_29 : decode cX14_init 29 = .ok (.getfield 22, 3) := dk_180 0 22 (dk_at dksX14_init_1 5 rfl rfl)
theorem dX14_init_32 : decode cX14_init 32 = .ok (.putfield 28, 3) := dk_181 0 28 (dk_at dksX14_init_1 8 rfl rfl)
theorem dX14_init_35 : decode cX14_init 35 = .ok (.aload_n 0, 1) := dk_42 (dk_at dksX14_init_1 11 rfl rfl)
theorem dX14_init_36 : decode cX14_init 36 = .ok (.getfield 18, 3) := dk_180 0 18 (dk_at dksX14_init_1 12 rfl rfl)
theorem dX14_init_39 : decode cX14_init 39 = .ok (.aload_n 1, 1) := dk_43 (dk_at dksX14_init_1 15 rfl rfl)
theorem dX14_init_40 : decode cX14_init 40 = .ok (.getfield 31, 3) := dk_180 0 31 (dk_at dksX14_init_1 16 rfl rfl)
theorem dX14_init_43 : decode cX14_init 43 = .ok (.invokevirtual 34, 3) := dk_182 0 34 (dk_at dksX14_init_1 19 rfl rfl)
theorem dX14_init_46 : decode cX14_init 46 = .ok (.return_, 1) := dk_177 (dk_at dksX14_init_1 22 rfl rfl)
theorem q106 : (Jvm.Cond.initialized "BehindAnotherHearse$Page") ∈ lw_all := lw_g (lw_at lw_m1 28 rfl) rfl
theorem q227 : (Jvm.Cond.fieldLinkNest "BehindAnotherHearse$Page" (22 : Nat) "BehindAnotherHearse" "came" "I" "BehindAnotherHearse") ∈ lw_tbl := lw_at lw_m1 149 rfl
theorem q231 : (Jvm.Cond.fieldLinkNest "BehindAnotherHearse$Page" (31 : Nat) "BehindAnotherHearse" "now" "LBehindAnotherHearse$Street;" "BehindAnotherHearse") ∈ lw_tbl := lw_at lw_m1 153 rfl
theorem q1195 : (Jvm.Cond.instantiable "BehindAnotherHearse$Page" (3 : Nat)) ∈ lw_all := lw_g (lw_at lw_m5 157 rfl) rfl
theorem q1197 : (Jvm.Cond.instanceMethod ({ cls := "BehindAnotherHearse$Page", name := "<init>", desc := "(LBehindAnotherHearse;)V" } : Jvm.MethodName)) ∈ lw_all := lw_g (lw_at lw_m5 159 rfl) rfl
theorem q1198 : (Jvm.Cond.code ({ cls := "BehindAnotherHearse$Page", name := "<init>", desc := "(LBehindAnotherHearse;)V" } : Jvm.MethodName) prog_5_method_1_code (2 : Nat) (Option.none : Option Jvm.ClassFile.FieldType)) ∈ lw_all := lw_g (lw_at lw_m5 160 rfl) rfl
theorem q1199 : (Jvm.Cond.methodLink "BehindAnotherHearse$Page" (7 : Nat) ({ cls := "java/lang/Object", name := "<init>", desc := "()V" } : Jvm.MethodName)) ∈ lw_all := lw_g (lw_at lw_m5 161 rfl) rfl
theorem q1200 : (Jvm.Cond.classLink "BehindAnotherHearse$Page" (13 : Nat) "BehindAnotherHearse$Street") ∈ lw_all := lw_g (lw_at lw_m5 162 rfl) rfl
theorem q1201 : (Jvm.Cond.methodLinkNest "BehindAnotherHearse$Page" (15 : Nat) ({ cls := "BehindAnotherHearse$Street", name := "<init>", desc := "(LBehindAnotherHearse;)V" } : Jvm.MethodName) "BehindAnotherHearse") ∈ lw_tbl := lw_at lw_m5 163 rfl
theorem q1202 : (Jvm.Cond.methodLink "BehindAnotherHearse$Page" (34 : Nat) ({ cls := "BehindAnotherHearse$Street", name := "be", desc := "(LBehindAnotherHearse$Street;)V" } : Jvm.MethodName)) ∈ lw_all := lw_g (lw_at lw_m5 164 rfl) rfl
theorem q1203 : (Jvm.Cond.fieldLink "BehindAnotherHearse$Page" (18 : Nat) "BehindAnotherHearse$Page" "was" "LBehindAnotherHearse$Street;") ∈ lw_all := lw_g (lw_at lw_m5 165 rfl) rfl
theorem q1205 : (Jvm.Cond.fieldLink "BehindAnotherHearse$Page" (28 : Nat) "BehindAnotherHearse$Page" "since" "I") ∈ lw_all := lw_g (lw_at lw_m5 167 rfl) rfl
theorem q1207 : (Jvm.Cond.fieldLink "BehindAnotherHearse$Page" (1 : Nat) "BehindAnotherHearse$Page" "this$0" "LBehindAnotherHearse;") ∈ lw_all := lw_g (lw_at lw_m5 169 rfl) rfl
theorem q1208 : (Jvm.Cond.laysFinal "BehindAnotherHearse$Page" "BehindAnotherHearse$Page" "was" "LBehindAnotherHearse$Street;") ∈ lw_all := lw_g (lw_at lw_m5 170 rfl) rfl
theorem q1209 : (Jvm.Cond.soleField "BehindAnotherHearse$Page" "was") ∈ lw_all := lw_g (lw_at lw_m5 171 rfl) rfl
theorem q1210 : (Jvm.Cond.laysFinal "BehindAnotherHearse$Page" "BehindAnotherHearse$Page" "since" "I") ∈ lw_all := lw_g (lw_at lw_m5 172 rfl) rfl
theorem q1211 : (Jvm.Cond.soleField "BehindAnotherHearse$Page" "since") ∈ lw_all := lw_g (lw_at lw_m5 173 rfl) rfl
theorem q1212 : (Jvm.Cond.laysFinal "BehindAnotherHearse$Page" "BehindAnotherHearse$Page" "this$0" "LBehindAnotherHearse;") ∈ lw_all := lw_g (lw_at lw_m5 174 rfl) rfl
theorem q1213 : (Jvm.Cond.soleField "BehindAnotherHearse$Page" "this$0") ∈ lw_all := lw_g (lw_at lw_m5 175 rfl) rfl
theorem q1214 : (Jvm.Cond.superclass "BehindAnotherHearse$Page" "java/lang/Object") ∈ lw_all := lw_g (lw_at lw_m5 176 rfl) rfl
theorem q1978 : (Jvm.Cond.castable "BehindAnotherHearse$Page" "java/lang/Object") ∈ lw_tbl := lw_at lw_m8 220 rfl
theorem in_X14 : ∀ w ∈ wsX140, w ∈ lw_all := lw_in wsX140 [1208, 1210, 1212] (by decide +kernel) (by decide +kernel)
/-! BehindAnotherHearseLaw -/
set_option maxRecDepth 100000
def RX0 : String := "BehindAnotherHearseLaw"
abbrev cX0_hearse : ByteArray := method_3_code
def yX0_hearse : MethodName := ⟨RX0, "hearse", "(LBehindAnotherHearse;II[J)I"⟩
def dkwX0_hearse_0 : List UInt8 := [45, 3, 42, 27, 28, 182, 0, 7, 133, 80, 167, 0, 7, 58, 4, 4, 172, 3, 172]
abbrev dktX0_hearse_0 : List UInt8 := dkwX0_hearse_0 ++ []
theorem dksX0_hearse_0 : cX0_hearse.data.toList.drop 0 = dktX0_hearse_0 := by decide +kernel
theorem dX0_hearse_0 : decode cX0_hearse 0 = .ok (.aload_n 3, 1) := dk_45 (dk_at dksX0_hearse_0 0 rfl rfl)
theorem dX0_hearse_1 : decode cX0_hearse 1 = .ok (.iconst 0, 1) := dk_3 (dk_at dksX0_hearse_0 1 rfl rfl)
theorem dX0_hearse_2 : decode cX0_hearse 2 = .ok (.aload_n 0, 1) := dk_42 (dk_at dksX0_hearse_0 2 rfl rfl)
theorem dX0_hearse_3 : decode cX0_hearse 3 = .ok (.iload_n 1, 1) := dk_27 (dk_at dksX0_hearse_0 3 rfl rfl)
theorem dX0_hearse_4 : decode cX0_hearse 4 = .ok (.iload_n 2, 1) := dk_28 (dk_at dksX0_hearse_0 4 rfl rfl)
theorem dX0_hearse_5 : decode cX0_hearse 5 = .ok (.invokevirtual 7, 3) := dk_182 0 7 (dk_at dksX0_hearse_0 5 rfl rfl)
theorem dX0_hearse_8 : decode cX0_hearse 8 = .ok (.i2l, 1) := dk_133 (dk_at dksX0_hearse_0 8 rfl rfl)
theorem dX0_hearse_9 : decode cX0_hearse 9 = .ok (.lastore, 1) := dk_80 (dk_at dksX0_hearse_0 9 rfl rfl)
theorem dX0_hearse_10 : decode cX0_hearse 10 = .ok (.goto 7, 3) := dk_167 0 7 (dk_at dksX0_hearse_0 10 rfl rfl)
theorem dX0_hearse_13 : decode cX0_hearse 13 = .ok (.astore 4, 2) := dk_58 4 (dk_at dksX0_hearse_0 13 rfl rfl)
theorem dX0_hearse_15 : decode cX0_hearse 15 = .ok (.iconst 1, 1) := dk_4 (dk_at dksX0_hearse_0 15 rfl rfl)
theorem dX0_hearse_16 : decode cX0_hearse 16 = .ok (.ireturn, 1) := dk_172 (dk_at dksX0_hearse_0 16 rfl rfl)
theorem dX0_hearse_17 : decode cX0_hearse 17 = .ok (.iconst 0, 1) := dk_3 (dk_at dksX0_hearse_0 17 rfl rfl)
theorem dX0_hearse_18 : decode cX0_hearse 18 = .ok (.ireturn, 1) := dk_172 (dk_at dksX0_hearse_0 18 rfl rfl)
abbrev cX0_mourner : ByteArray := method_4_code
def yX0_mourner : MethodName := ⟨RX0, "mourner", "(LBehindAnotherHearse;II[J)I"⟩
def dkwX0_mourner_0 : List UInt8 := [45, 3, 42, 27, 28, 182, 0, 15, 133, 80, 167, 0, 7, 58, 4, 4, 172, 3, 172]
abbrev dktX0_mourner_0 : List UInt8 := dkwX0_mourner_0 ++ []
theorem dksX0_mourner_0 : cX0_mourner.data.toList.drop 0 = dktX0_mourner_0 := by decide +kernel
theorem dX0_mourner_0 : decode cX0_mourner 0 = .ok (.aload_n 3, 1) := dk_45 (dk_at dksX0_mourner_0 0 rfl rfl)
theorem dX0_mourner_1 : decode cX0_mourner 1 = .ok (.iconst 0, 1) := dk_3 (dk_at dksX0_mourner_0 1 rfl rfl)
theorem dX0_mourner_2 : decode cX0_mourner 2 = .ok (.aload_n 0, 1) := dk_42 (dk_at dksX0_mourner_0 2 rfl rfl)
theorem dX0_mourner_3 : decode cX0_mourner 3 = .ok (.iload_n 1, 1) := dk_27 (dk_at dksX0_mourner_0 3 rfl rfl)
theorem dX0_mourner_4 : decode cX0_mourner 4 = .ok (.iload_n 2, 1) := dk_28 (dk_at dksX0_mourner_0 4 rfl rfl)
theorem dX0_mourner_5 : decode cX0_mourner 5 = .ok (.invokevirtual 15, 3) := dk_182 0 15 (dk_at dksX0_mourner_0 5 rfl rfl)
theorem dX0_mourner_8 : decode cX0_mourner 8 = .ok (.i2l, 1) := dk_133 (dk_at dksX0_mourner_0 8 rfl rfl)
theorem dX0_mourner_9 : decode cX0_mourner 9 = .ok (.lastore, 1) := dk_80 (dk_at dksX0_mourner_0 9 rfl rfl)
theorem dX0_mourner_10 : decode cX0_mourner 10 = .ok (.goto 7, 3) := dk_167 0 7 (dk_at dksX0_mourner_0 10 rfl rfl)
theorem dX0_mourner_13 : decode cX0_mourner 13 = .ok (.astore 4, 2) := dk_58 4 (dk_at dksX0_mourner_0 13 rfl rfl)
theorem dX0_mourner_15 : decode cX0_mourner 15 = .ok (.iconst 1, 1) := dk_4 (dk_at dksX0_mourner_0 15 rfl rfl)
theorem dX0_mourner_16 : decode cX0_mourner 16 = .ok (.ireturn, 1) := dk_172 (dk_at dksX0_mourner_0 16 rfl rfl)
theorem dX0_mourner_17 : decode cX0_mourner 17 = .ok (.iconst 0, 1) := dk_3 (dk_at dksX0_mourner_0 17 rfl rfl)
theorem dX0_mourner_18 : decode cX0_mourner 18 = .ok (.ireturn, 1) := dk_172 (dk_at dksX0_mourner_0 18 rfl rfl)
abbrev cX0_row : ByteArray := method_5_code
def yX0_row : MethodName := ⟨RX0, "row", "(LBehindAnotherHearse;I[J)I"⟩
def dkwX0_row_0 : List UInt8 := [44, 3, 42, 27, 182, 0, 18, 80, 167, 0, 6, 78, 4, 172, 3, 172]
abbrev dktX0_row_0 : List UInt8 := dkwX0_row_0 ++ []
theorem dksX0_row_0 : cX0_row.data.toList.drop 0 = dktX0_row_0 := by decide +kernel
theorem dX0_row_0 : decode cX0_row 0 = .ok (.aload_n 2, 1) := dk_44 (dk_at dksX0_row_0 0 rfl rfl)
theorem dX0_row_1 : decode cX0_row 1 = .ok (.iconst 0, 1) := dk_3 (dk_at dksX0_row_0 1 rfl rfl)
theorem dX0_row_2 : decode cX0_row 2 = .ok (.aload_n 0, 1) := dk_42 (dk_at dksX0_row_0 2 rfl rfl)
theorem dX0_row_3 : decode cX0_row 3 = .ok (.iload_n 1, 1) := dk_27 (dk_at dksX0_row_0 3 rfl rfl)
theorem dX0_row_4 : decode cX0_row 4 = .ok (.invokevirtual 18, 3) := dk_182 0 18 (dk_at dksX0_row_0 4 rfl rfl)
theorem dX0_row_7 : decode cX0_row 7 = .ok (.lastore, 1) := dk_80 (dk_at dksX0_row_0 7 rfl rfl)
theorem dX0_row_8 : decode cX0_row 8 = .ok (.goto 6, 3) := dk_167 0 6 (dk_at dksX0_row_0 8 rfl rfl)
theorem dX0_row_11 : decode cX0_row 11 = .ok (.astore_n 3, 1) := dk_78 (dk_at dksX0_row_0 11 rfl rfl)
theorem dX0_row_12 : decode cX0_row 12 = .ok (.iconst 1, 1) := dk_4 (dk_at dksX0_row_0 12 rfl rfl)
theorem dX0_row_13 : decode cX0_row 13 = .ok (.ireturn, 1) := dk_172 (dk_at dksX0_row_0 13 rfl rfl)
theorem dX0_row_14 : decode cX0_row 14 = .ok (.iconst 0, 1) := dk_3 (dk_at dksX0_row_0 14 rfl rfl)
theorem dX0_row_15 : decode cX0_row 15 = .ok (.ireturn, 1) := dk_172 (dk_at dksX0_row_0 15 rfl rfl)
theorem q78 : (Jvm.Cond.initialized "BehindAnotherHearseLaw") ∈ lw_all := lw_g (lw_at lw_m1 0 rfl) rfl
theorem q107 : (Jvm.Cond.classLink "BehindAnotherHearseLaw" (8 : Nat) "BehindAnotherHearse") ∈ lw_all := lw_g (lw_at lw_m1 29 rfl) rfl
theorem q109 : (Jvm.Cond.methodLink "BehindAnotherHearseLaw" (22 : Nat) ({ cls := "BehindAnotherHearse", name := "<init>", desc := "()V" } : Jvm.MethodName)) ∈ lw_all := lw_g (lw_at lw_m1 31 rfl) rfl
theorem q317 : (Jvm.Cond.methodLink "BehindAnotherHearseLaw" (26 : Nat) ({ cls := "BehindAnotherHearse", name := "sign", desc := "(I)I" } : Jvm.MethodName)) ∈ lw_all := lw_g (lw_at lw_m1 239 rfl) rfl
theorem q321 : (Jvm.Cond.methodLink "BehindAnotherHearseLaw" (31 : Nat) ({ cls := "BehindAnotherHearse", name := "end", desc := "(I)Z" } : Jvm.MethodName)) ∈ lw_all := lw_g (lw_at lw_m2 3 rfl) rfl
theorem q328 : (Jvm.Cond.methodLink "BehindAnotherHearseLaw" (36 : Nat) ({ cls := "BehindAnotherHearse", name := "avenue", desc := "()I" } : Jvm.MethodName)) ∈ lw_all := lw_g (lw_at lw_m2 10 rfl) rfl
theorem q466 : (Jvm.Cond.methodLink "BehindAnotherHearseLaw" (41 : Nat) ({ cls := "BehindAnotherHearse", name := "hearses", desc := "()I" } : Jvm.MethodName)) ∈ lw_all := lw_g (lw_at lw_m2 148 rfl) rfl
theorem q500 : (Jvm.Cond.methodLink "BehindAnotherHearseLaw" (45 : Nat) ({ cls := "BehindAnotherHearse", name := "mourners", desc := "()I" } : Jvm.MethodName)) ∈ lw_all := lw_g (lw_at lw_m2 182 rfl) rfl
theorem q505 : (Jvm.Cond.methodLink "BehindAnotherHearseLaw" (49 : Nat) ({ cls := "BehindAnotherHearse", name := "weather", desc := "()I" } : Jvm.MethodName)) ∈ lw_all := lw_g (lw_at lw_m2 187 rfl) rfl
theorem q513 : (Jvm.Cond.methodLink "BehindAnotherHearseLaw" (53 : Nat) ({ cls := "BehindAnotherHearse", name := "rule", desc := "()I" } : Jvm.MethodName)) ∈ lw_all := lw_g (lw_at lw_m2 195 rfl) rfl
theorem q693 : (Jvm.Cond.methodLink "BehindAnotherHearseLaw" (69 : Nat) ({ cls := "BehindAnotherHearse", name := "sheet", desc := "(IIII)I" } : Jvm.MethodName)) ∈ lw_all := lw_g (lw_at lw_m3 135 rfl) rfl
theorem q736 : (Jvm.Cond.methodLink "BehindAnotherHearseLaw" (74 : Nat) ({ cls := "BehindAnotherHearse", name := "steps", desc := "(I)I" } : Jvm.MethodName)) ∈ lw_all := lw_g (lw_at lw_m3 178 rfl) rfl
theorem q811 : (Jvm.Cond.methodLink "BehindAnotherHearseLaw" (78 : Nat) ({ cls := "BehindAnotherHearse", name := "turnsTo", desc := "(I)I" } : Jvm.MethodName)) ∈ lw_all := lw_g (lw_at lw_m4 13 rfl) rfl
theorem q823 : (Jvm.Cond.methodLink "BehindAnotherHearseLaw" (82 : Nat) ({ cls := "BehindAnotherHearse", name := "pushes", desc := "(II)I" } : Jvm.MethodName)) ∈ lw_all := lw_g (lw_at lw_m4 25 rfl) rfl
theorem q837 : (Jvm.Cond.methodLink "BehindAnotherHearseLaw" (86 : Nat) ({ cls := "BehindAnotherHearse", name := "swaps", desc := "(II)I" } : Jvm.MethodName)) ∈ lw_all := lw_g (lw_at lw_m4 39 rfl) rfl
theorem q859 : (Jvm.Cond.methodLink "BehindAnotherHearseLaw" (90 : Nat) ({ cls := "BehindAnotherHearse", name := "hour", desc := "()I" } : Jvm.MethodName)) ∈ lw_all := lw_g (lw_at lw_m4 61 rfl) rfl
theorem q918 : (Jvm.Cond.methodLink "BehindAnotherHearseLaw" (94 : Nat) ({ cls := "BehindAnotherHearse", name := "undo", desc := "()I" } : Jvm.MethodName)) ∈ lw_all := lw_g (lw_at lw_m4 120 rfl) rfl
theorem q922 : (Jvm.Cond.methodLink "BehindAnotherHearseLaw" (98 : Nat) ({ cls := "BehindAnotherHearse", name := "line", desc := "()I" } : Jvm.MethodName)) ∈ lw_all := lw_g (lw_at lw_m4 124 rfl) rfl
theorem q927 : (Jvm.Cond.methodLink "BehindAnotherHearseLaw" (102 : Nat) ({ cls := "BehindAnotherHearse", name := "ahead", desc := "(I)I" } : Jvm.MethodName)) ∈ lw_all := lw_g (lw_at lw_m4 129 rfl) rfl
theorem q932 : (Jvm.Cond.methodLink "BehindAnotherHearseLaw" (106 : Nat) ({ cls := "BehindAnotherHearse", name := "arrives", desc := "(I)I" } : Jvm.MethodName)) ∈ lw_all := lw_g (lw_at lw_m4 134 rfl) rfl
theorem q937 : (Jvm.Cond.methodLink "BehindAnotherHearseLaw" (110 : Nat) ({ cls := "BehindAnotherHearse", name := "jam", desc := "(I)I" } : Jvm.MethodName)) ∈ lw_all := lw_g (lw_at lw_m4 139 rfl) rfl
theorem q941 : (Jvm.Cond.methodLink "BehindAnotherHearseLaw" (114 : Nat) ({ cls := "BehindAnotherHearse", name := "passes", desc := "(II)I" } : Jvm.MethodName)) ∈ lw_all := lw_g (lw_at lw_m4 143 rfl) rfl
theorem q948 : (Jvm.Cond.methodLink "BehindAnotherHearseLaw" (118 : Nat) ({ cls := "BehindAnotherHearse", name := "ends", desc := "(I)I" } : Jvm.MethodName)) ∈ lw_all := lw_g (lw_at lw_m4 150 rfl) rfl
theorem q952 : (Jvm.Cond.methodLink "BehindAnotherHearseLaw" (122 : Nat) ({ cls := "BehindAnotherHearse", name := "right", desc := "()I" } : Jvm.MethodName)) ∈ lw_all := lw_g (lw_at lw_m4 154 rfl) rfl
theorem q1004 : (Jvm.Cond.methodLink "BehindAnotherHearseLaw" (126 : Nat) ({ cls := "BehindAnotherHearse", name := "order", desc := "()I" } : Jvm.MethodName)) ∈ lw_all := lw_g (lw_at lw_m4 206 rfl) rfl
theorem q1037 : (Jvm.Cond.methodLink "BehindAnotherHearseLaw" (130 : Nat) ({ cls := "BehindAnotherHearse", name := "stands", desc := "(I)I" } : Jvm.MethodName)) ∈ lw_all := lw_g (lw_at lw_m4 239 rfl) rfl
theorem q1061 : (Jvm.Cond.methodLink "BehindAnotherHearseLaw" (134 : Nat) ({ cls := "BehindAnotherHearse", name := "when", desc := "(I)I" } : Jvm.MethodName)) ∈ lw_all := lw_g (lw_at lw_m5 23 rfl) rfl
theorem q1066 : (Jvm.Cond.methodLink "BehindAnotherHearseLaw" (138 : Nat) ({ cls := "BehindAnotherHearse", name := "mends", desc := "(I)I" } : Jvm.MethodName)) ∈ lw_all := lw_g (lw_at lw_m5 28 rfl) rfl
theorem q1089 : (Jvm.Cond.methodLink "BehindAnotherHearseLaw" (142 : Nat) ({ cls := "BehindAnotherHearse", name := "misleads", desc := "()I" } : Jvm.MethodName)) ∈ lw_all := lw_g (lw_at lw_m5 51 rfl) rfl
theorem q1109 : (Jvm.Cond.methodLink "BehindAnotherHearseLaw" (146 : Nat) ({ cls := "BehindAnotherHearse", name := "crowd", desc := "()I" } : Jvm.MethodName)) ∈ lw_all := lw_g (lw_at lw_m5 71 rfl) rfl
theorem q1117 : (Jvm.Cond.methodLink "BehindAnotherHearseLaw" (150 : Nat) ({ cls := "BehindAnotherHearse", name := "shares", desc := "(I)I" } : Jvm.MethodName)) ∈ lw_all := lw_g (lw_at lw_m5 79 rfl) rfl
theorem q1128 : (Jvm.Cond.methodLink "BehindAnotherHearseLaw" (154 : Nat) ({ cls := "BehindAnotherHearse", name := "strangers", desc := "()I" } : Jvm.MethodName)) ∈ lw_all := lw_g (lw_at lw_m5 90 rfl) rfl
theorem q1133 : (Jvm.Cond.methodLink "BehindAnotherHearseLaw" (158 : Nat) ({ cls := "BehindAnotherHearse", name := "doubts", desc := "()I" } : Jvm.MethodName)) ∈ lw_all := lw_g (lw_at lw_m5 95 rfl) rfl
theorem q1138 : (Jvm.Cond.methodLink "BehindAnotherHearseLaw" (162 : Nat) ({ cls := "BehindAnotherHearse", name := "heard", desc := "(II)I" } : Jvm.MethodName)) ∈ lw_all := lw_g (lw_at lw_m5 100 rfl) rfl
theorem q1142 : (Jvm.Cond.methodLink "BehindAnotherHearseLaw" (166 : Nat) ({ cls := "BehindAnotherHearse", name := "forget", desc := "()I" } : Jvm.MethodName)) ∈ lw_all := lw_g (lw_at lw_m5 104 rfl) rfl
theorem q1146 : (Jvm.Cond.methodLink "BehindAnotherHearseLaw" (170 : Nat) ({ cls := "BehindAnotherHearse", name := "fits", desc := "()I" } : Jvm.MethodName)) ∈ lw_all := lw_g (lw_at lw_m5 108 rfl) rfl
theorem q1154 : (Jvm.Cond.methodLink "BehindAnotherHearseLaw" (174 : Nat) ({ cls := "BehindAnotherHearse", name := "rains", desc := "(III)I" } : Jvm.MethodName)) ∈ lw_all := lw_g (lw_at lw_m5 116 rfl) rfl
theorem q1166 : (Jvm.Cond.methodLink "BehindAnotherHearseLaw" (179 : Nat) ({ cls := "BehindAnotherHearse", name := "law", desc := "()I" } : Jvm.MethodName)) ∈ lw_all := lw_g (lw_at lw_m5 128 rfl) rfl
theorem q1170 : (Jvm.Cond.methodLink "BehindAnotherHearseLaw" (183 : Nat) ({ cls := "BehindAnotherHearse", name := "rests", desc := "(I)I" } : Jvm.MethodName)) ∈ lw_all := lw_g (lw_at lw_m5 132 rfl) rfl
theorem q1181 : (Jvm.Cond.methodLink "BehindAnotherHearseLaw" (187 : Nat) ({ cls := "BehindAnotherHearse", name := "years", desc := "(II)I" } : Jvm.MethodName)) ∈ lw_all := lw_g (lw_at lw_m5 143 rfl) rfl
theorem q1190 : (Jvm.Cond.methodLink "BehindAnotherHearseLaw" (191 : Nat) ({ cls := "BehindAnotherHearse", name := "keep", desc := "(I)Z" } : Jvm.MethodName)) ∈ lw_all := lw_g (lw_at lw_m5 152 rfl) rfl
theorem q1215 : (Jvm.Cond.methodLink "BehindAnotherHearseLaw" (195 : Nat) ({ cls := "BehindAnotherHearse", name := "again", desc := "(I)Z" } : Jvm.MethodName)) ∈ lw_all := lw_g (lw_at lw_m5 177 rfl) rfl
theorem q1219 : (Jvm.Cond.methodLink "BehindAnotherHearseLaw" (199 : Nat) ({ cls := "BehindAnotherHearse", name := "count", desc := "(I)I" } : Jvm.MethodName)) ∈ lw_all := lw_g (lw_at lw_m5 181 rfl) rfl
theorem q1228 : (Jvm.Cond.methodLink "BehindAnotherHearseLaw" (57 : Nat) ({ cls := "BehindAnotherHearseLaw", name := "hearse", desc := "(LBehindAnotherHearse;II[J)I" } : Jvm.MethodName)) ∈ lw_all := lw_g (lw_at lw_m5 190 rfl) rfl
theorem q1229 : (Jvm.Cond.static ({ cls := "BehindAnotherHearseLaw", name := "hearse", desc := "(LBehindAnotherHearse;II[J)I" } : Jvm.MethodName)) ∈ lw_all := lw_g (lw_at lw_m5 191 rfl) rfl
theorem q1230 : (Jvm.Cond.codeWith ({ cls := "BehindAnotherHearseLaw", name := "hearse", desc := "(LBehindAnotherHearse;II[J)I" } : Jvm.MethodName) method_3_code (5 : Nat) (Option.some Jvm.ClassFile.FieldType.int) [((0 : Nat), (10 : Nat), (13 : Nat), (13 : Nat))]) ∈ lw_all := lw_g (lw_at lw_m5 192 rfl) rfl
theorem q1231 : (Jvm.Cond.classLink "BehindAnotherHearseLaw" (13 : Nat) "java/util/NoSuchElementException") ∈ lw_all := lw_g (lw_at lw_m5 193 rfl) rfl
theorem q1232 : (Jvm.Cond.methodLink "BehindAnotherHearseLaw" (7 : Nat) ({ cls := "BehindAnotherHearse", name := "hearse", desc := "(II)I" } : Jvm.MethodName)) ∈ lw_all := lw_g (lw_at lw_m5 194 rfl) rfl
theorem q1256 : (Jvm.Cond.methodLink "BehindAnotherHearseLaw" (66 : Nat) ({ cls := "BehindAnotherHearseLaw", name := "mourner", desc := "(LBehindAnotherHearse;II[J)I" } : Jvm.MethodName)) ∈ lw_all := lw_g (lw_at lw_m5 218 rfl) rfl
theorem q1257 : (Jvm.Cond.static ({ cls := "BehindAnotherHearseLaw", name := "mourner", desc := "(LBehindAnotherHearse;II[J)I" } : Jvm.MethodName)) ∈ lw_all := lw_g (lw_at lw_m5 219 rfl) rfl
theorem q1258 : (Jvm.Cond.codeWith ({ cls := "BehindAnotherHearseLaw", name := "mourner", desc := "(LBehindAnotherHearse;II[J)I" } : Jvm.MethodName) method_4_code (5 : Nat) (Option.some Jvm.ClassFile.FieldType.int) [((0 : Nat), (10 : Nat), (13 : Nat), (13 : Nat))]) ∈ lw_all := lw_g (lw_at lw_m5 220 rfl) rfl
theorem q1259 : (Jvm.Cond.methodLink "BehindAnotherHearseLaw" (15 : Nat) ({ cls := "BehindAnotherHearse", name := "mourner", desc := "(II)I" } : Jvm.MethodName)) ∈ lw_all := lw_g (lw_at lw_m5 221 rfl) rfl
theorem q1263 : (Jvm.Cond.methodLink "BehindAnotherHearseLaw" (203 : Nat) ({ cls := "BehindAnotherHearseLaw", name := "row", desc := "(LBehindAnotherHearse;I[J)I" } : Jvm.MethodName)) ∈ lw_all := lw_g (lw_at lw_m5 225 rfl) rfl
theorem q1264 : (Jvm.Cond.static ({ cls := "BehindAnotherHearseLaw", name := "row", desc := "(LBehindAnotherHearse;I[J)I" } : Jvm.MethodName)) ∈ lw_all := lw_g (lw_at lw_m5 226 rfl) rfl
theorem q1265 : (Jvm.Cond.codeWith ({ cls := "BehindAnotherHearseLaw", name := "row", desc := "(LBehindAnotherHearse;I[J)I" } : Jvm.MethodName) method_5_code (4 : Nat) (Option.some Jvm.ClassFile.FieldType.int) [((0 : Nat), (8 : Nat), (11 : Nat), (13 : Nat))]) ∈ lw_all := lw_g (lw_at lw_m5 227 rfl) rfl
theorem q1266 : (Jvm.Cond.methodLink "BehindAnotherHearseLaw" (18 : Nat) ({ cls := "BehindAnotherHearse", name := "row", desc := "(I)J" } : Jvm.MethodName)) ∈ lw_all := lw_g (lw_at lw_m5 228 rfl) rfl
theorem q1270 : (Jvm.Cond.classLink "BehindAnotherHearseLaw" (23 : Nat) "BehindAnotherHearseModel") ∈ lw_all := lw_g (lw_at lw_m5 232 rfl) rfl
theorem q1272 : (Jvm.Cond.methodLink "BehindAnotherHearseLaw" (25 : Nat) ({ cls := "BehindAnotherHearseModel", name := "<init>", desc := "()V" } : Jvm.MethodName)) ∈ lw_all := lw_g (lw_at lw_m5 234 rfl) rfl
theorem q1436 : (Jvm.Cond.methodLink "BehindAnotherHearseLaw" (63 : Nat) ({ cls := "BehindAnotherHearseModel", name := "thrown", desc := "()I" } : Jvm.MethodName)) ∈ lw_all := lw_g (lw_at lw_m6 158 rfl) rfl
theorem q1440 : (Jvm.Cond.methodLink "BehindAnotherHearseLaw" (30 : Nat) ({ cls := "BehindAnotherHearseModel", name := "sign", desc := "(I)I" } : Jvm.MethodName)) ∈ lw_all := lw_g (lw_at lw_m6 162 rfl) rfl
theorem q1444 : (Jvm.Cond.methodLink "BehindAnotherHearseLaw" (35 : Nat) ({ cls := "BehindAnotherHearseModel", name := "end", desc := "(I)Z" } : Jvm.MethodName)) ∈ lw_all := lw_g (lw_at lw_m6 166 rfl) rfl
theorem q1451 : (Jvm.Cond.methodLink "BehindAnotherHearseLaw" (40 : Nat) ({ cls := "BehindAnotherHearseModel", name := "avenue", desc := "()I" } : Jvm.MethodName)) ∈ lw_all := lw_g (lw_at lw_m6 173 rfl) rfl
theorem q1489 : (Jvm.Cond.methodLink "BehindAnotherHearseLaw" (44 : Nat) ({ cls := "BehindAnotherHearseModel", name := "hearses", desc := "()I" } : Jvm.MethodName)) ∈ lw_all := lw_g (lw_at lw_m6 211 rfl) rfl
theorem q1531 : (Jvm.Cond.methodLink "BehindAnotherHearseLaw" (48 : Nat) ({ cls := "BehindAnotherHearseModel", name := "mourners", desc := "()I" } : Jvm.MethodName)) ∈ lw_all := lw_g (lw_at lw_m7 13 rfl) rfl
theorem q1609 : (Jvm.Cond.methodLink "BehindAnotherHearseLaw" (52 : Nat) ({ cls := "BehindAnotherHearseModel", name := "weather", desc := "()I" } : Jvm.MethodName)) ∈ lw_all := lw_g (lw_at lw_m7 91 rfl) rfl
theorem q1613 : (Jvm.Cond.methodLink "BehindAnotherHearseLaw" (56 : Nat) ({ cls := "BehindAnotherHearseModel", name := "rule", desc := "()I" } : Jvm.MethodName)) ∈ lw_all := lw_g (lw_at lw_m7 95 rfl) rfl
theorem q1641 : (Jvm.Cond.methodLink "BehindAnotherHearseLaw" (62 : Nat) ({ cls := "BehindAnotherHearseModel", name := "hearse", desc := "(II)I" } : Jvm.MethodName)) ∈ lw_all := lw_g (lw_at lw_m7 123 rfl) rfl
theorem q1686 : (Jvm.Cond.methodLink "BehindAnotherHearseLaw" (68 : Nat) ({ cls := "BehindAnotherHearseModel", name := "mourner", desc := "(II)I" } : Jvm.MethodName)) ∈ lw_all := lw_g (lw_at lw_m7 168 rfl) rfl
theorem q1701 : (Jvm.Cond.methodLink "BehindAnotherHearseLaw" (73 : Nat) ({ cls := "BehindAnotherHearseModel", name := "sheet", desc := "(IIII)I" } : Jvm.MethodName)) ∈ lw_all := lw_g (lw_at lw_m7 183 rfl) rfl
theorem q1709 : (Jvm.Cond.methodLink "BehindAnotherHearseLaw" (97 : Nat) ({ cls := "BehindAnotherHearseModel", name := "undo", desc := "()I" } : Jvm.MethodName)) ∈ lw_all := lw_g (lw_at lw_m7 191 rfl) rfl
theorem q1713 : (Jvm.Cond.methodLink "BehindAnotherHearseLaw" (77 : Nat) ({ cls := "BehindAnotherHearseModel", name := "steps", desc := "(I)I" } : Jvm.MethodName)) ∈ lw_all := lw_g (lw_at lw_m7 195 rfl) rfl
theorem q1754 : (Jvm.Cond.methodLink "BehindAnotherHearseLaw" (81 : Nat) ({ cls := "BehindAnotherHearseModel", name := "turnsTo", desc := "(I)I" } : Jvm.MethodName)) ∈ lw_all := lw_g (lw_at lw_m7 236 rfl) rfl
theorem q1766 : (Jvm.Cond.methodLink "BehindAnotherHearseLaw" (85 : Nat) ({ cls := "BehindAnotherHearseModel", name := "pushes", desc := "(II)I" } : Jvm.MethodName)) ∈ lw_all := lw_g (lw_at lw_m8 8 rfl) rfl
theorem q1776 : (Jvm.Cond.methodLink "BehindAnotherHearseLaw" (89 : Nat) ({ cls := "BehindAnotherHearseModel", name := "swaps", desc := "(II)I" } : Jvm.MethodName)) ∈ lw_all := lw_g (lw_at lw_m8 18 rfl) rfl
theorem q1784 : (Jvm.Cond.methodLink "BehindAnotherHearseLaw" (93 : Nat) ({ cls := "BehindAnotherHearseModel", name := "hour", desc := "()I" } : Jvm.MethodName)) ∈ lw_all := lw_g (lw_at lw_m8 26 rfl) rfl
theorem q1801 : (Jvm.Cond.methodLink "BehindAnotherHearseLaw" (101 : Nat) ({ cls := "BehindAnotherHearseModel", name := "line", desc := "()I" } : Jvm.MethodName)) ∈ lw_all := lw_g (lw_at lw_m8 43 rfl) rfl
theorem q1805 : (Jvm.Cond.methodLink "BehindAnotherHearseLaw" (105 : Nat) ({ cls := "BehindAnotherHearseModel", name := "ahead", desc := "(I)I" } : Jvm.MethodName)) ∈ lw_all := lw_g (lw_at lw_m8 47 rfl) rfl
theorem q1814 : (Jvm.Cond.methodLink "BehindAnotherHearseLaw" (109 : Nat) ({ cls := "BehindAnotherHearseModel", name := "arrives", desc := "(I)I" } : Jvm.MethodName)) ∈ lw_all := lw_g (lw_at lw_m8 56 rfl) rfl
theorem q1818 : (Jvm.Cond.methodLink "BehindAnotherHearseLaw" (113 : Nat) ({ cls := "BehindAnotherHearseModel", name := "jam", desc := "(I)I" } : Jvm.MethodName)) ∈ lw_all := lw_g (lw_at lw_m8 60 rfl) rfl
theorem q1822 : (Jvm.Cond.methodLink "BehindAnotherHearseLaw" (117 : Nat) ({ cls := "BehindAnotherHearseModel", name := "passes", desc := "(II)I" } : Jvm.MethodName)) ∈ lw_all := lw_g (lw_at lw_m8 64 rfl) rfl
theorem q1829 : (Jvm.Cond.methodLink "BehindAnotherHearseLaw" (121 : Nat) ({ cls := "BehindAnotherHearseModel", name := "ends", desc := "(I)I" } : Jvm.MethodName)) ∈ lw_all := lw_g (lw_at lw_m8 71 rfl) rfl
theorem q1833 : (Jvm.Cond.methodLink "BehindAnotherHearseLaw" (125 : Nat) ({ cls := "BehindAnotherHearseModel", name := "right", desc := "()I" } : Jvm.MethodName)) ∈ lw_all := lw_g (lw_at lw_m8 75 rfl) rfl
theorem q1845 : (Jvm.Cond.methodLink "BehindAnotherHearseLaw" (129 : Nat) ({ cls := "BehindAnotherHearseModel", name := "order", desc := "()I" } : Jvm.MethodName)) ∈ lw_all := lw_g (lw_at lw_m8 87 rfl) rfl
theorem q1856 : (Jvm.Cond.methodLink "BehindAnotherHearseLaw" (133 : Nat) ({ cls := "BehindAnotherHearseModel", name := "stands", desc := "(I)I" } : Jvm.MethodName)) ∈ lw_all := lw_g (lw_at lw_m8 98 rfl) rfl
theorem q1860 : (Jvm.Cond.methodLink "BehindAnotherHearseLaw" (137 : Nat) ({ cls := "BehindAnotherHearseModel", name := "when", desc := "(I)I" } : Jvm.MethodName)) ∈ lw_all := lw_g (lw_at lw_m8 102 rfl) rfl
theorem q1864 : (Jvm.Cond.methodLink "BehindAnotherHearseLaw" (141 : Nat) ({ cls := "BehindAnotherHearseModel", name := "mends", desc := "(I)I" } : Jvm.MethodName)) ∈ lw_all := lw_g (lw_at lw_m8 106 rfl) rfl
theorem q1869 : (Jvm.Cond.methodLink "BehindAnotherHearseLaw" (145 : Nat) ({ cls := "BehindAnotherHearseModel", name := "misleads", desc := "()I" } : Jvm.MethodName)) ∈ lw_all := lw_g (lw_at lw_m8 111 rfl) rfl
theorem q1873 : (Jvm.Cond.methodLink "BehindAnotherHearseLaw" (149 : Nat) ({ cls := "BehindAnotherHearseModel", name := "crowd", desc := "()I" } : Jvm.MethodName)) ∈ lw_all := lw_g (lw_at lw_m8 115 rfl) rfl
theorem q1877 : (Jvm.Cond.methodLink "BehindAnotherHearseLaw" (153 : Nat) ({ cls := "BehindAnotherHearseModel", name := "shares", desc := "(I)I" } : Jvm.MethodName)) ∈ lw_all := lw_g (lw_at lw_m8 119 rfl) rfl
theorem q1886 : (Jvm.Cond.methodLink "BehindAnotherHearseLaw" (157 : Nat) ({ cls := "BehindAnotherHearseModel", name := "strangers", desc := "()I" } : Jvm.MethodName)) ∈ lw_all := lw_g (lw_at lw_m8 128 rfl) rfl
theorem q1890 : (Jvm.Cond.methodLink "BehindAnotherHearseLaw" (161 : Nat) ({ cls := "BehindAnotherHearseModel", name := "doubts", desc := "()I" } : Jvm.MethodName)) ∈ lw_all := lw_g (lw_at lw_m8 132 rfl) rfl
theorem q1894 : (Jvm.Cond.methodLink "BehindAnotherHearseLaw" (165 : Nat) ({ cls := "BehindAnotherHearseModel", name := "heard", desc := "(II)I" } : Jvm.MethodName)) ∈ lw_all := lw_g (lw_at lw_m8 136 rfl) rfl
theorem q1898 : (Jvm.Cond.methodLink "BehindAnotherHearseLaw" (169 : Nat) ({ cls := "BehindAnotherHearseModel", name := "forget", desc := "()I" } : Jvm.MethodName)) ∈ lw_all := lw_g (lw_at lw_m8 140 rfl) rfl
theorem q1902 : (Jvm.Cond.methodLink "BehindAnotherHearseLaw" (173 : Nat) ({ cls := "BehindAnotherHearseModel", name := "fits", desc := "()I" } : Jvm.MethodName)) ∈ lw_all := lw_g (lw_at lw_m8 144 rfl) rfl
theorem q1910 : (Jvm.Cond.methodLink "BehindAnotherHearseLaw" (178 : Nat) ({ cls := "BehindAnotherHearseModel", name := "rains", desc := "(III)I" } : Jvm.MethodName)) ∈ lw_all := lw_g (lw_at lw_m8 152 rfl) rfl
theorem q1919 : (Jvm.Cond.methodLink "BehindAnotherHearseLaw" (182 : Nat) ({ cls := "BehindAnotherHearseModel", name := "law", desc := "()I" } : Jvm.MethodName)) ∈ lw_all := lw_g (lw_at lw_m8 161 rfl) rfl
theorem q1923 : (Jvm.Cond.methodLink "BehindAnotherHearseLaw" (186 : Nat) ({ cls := "BehindAnotherHearseModel", name := "rests", desc := "(I)I" } : Jvm.MethodName)) ∈ lw_all := lw_g (lw_at lw_m8 165 rfl) rfl
theorem q1934 : (Jvm.Cond.methodLink "BehindAnotherHearseLaw" (190 : Nat) ({ cls := "BehindAnotherHearseModel", name := "years", desc := "(II)I" } : Jvm.MethodName)) ∈ lw_all := lw_g (lw_at lw_m8 176 rfl) rfl
theorem q1943 : (Jvm.Cond.methodLink "BehindAnotherHearseLaw" (194 : Nat) ({ cls := "BehindAnotherHearseModel", name := "keep", desc := "(I)Z" } : Jvm.MethodName)) ∈ lw_all := lw_g (lw_at lw_m8 185 rfl) rfl
theorem q1948 : (Jvm.Cond.methodLink "BehindAnotherHearseLaw" (198 : Nat) ({ cls := "BehindAnotherHearseModel", name := "again", desc := "(I)Z" } : Jvm.MethodName)) ∈ lw_all := lw_g (lw_at lw_m8 190 rfl) rfl
theorem q1952 : (Jvm.Cond.methodLink "BehindAnotherHearseLaw" (202 : Nat) ({ cls := "BehindAnotherHearseModel", name := "count", desc := "(I)I" } : Jvm.MethodName)) ∈ lw_all := lw_g (lw_at lw_m8 194 rfl) rfl
theorem q1956 : (Jvm.Cond.methodLink "BehindAnotherHearseLaw" (206 : Nat) ({ cls := "BehindAnotherHearseModel", name := "row", desc := "(I)J" } : Jvm.MethodName)) ∈ lw_all := lw_g (lw_at lw_m8 198 rfl) rfl
