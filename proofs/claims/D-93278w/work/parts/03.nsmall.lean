/-! NeverSaid$State -/
set_option maxRecDepth 100000
def RX1 : String := "NeverSaid$State"
def TX1 : u_T := fun k => match k with
  | 0 => ("NeverSaid$State", "z", "I", false)
  | 1 => ("NeverSaid$State", "stop", "I", false)
  | 2 => ("NeverSaid$State", "people", "I", false)
  | 3 => ("NeverSaid$State", "speaker", "[LNeverSaid$Speaker;", true)
  | 4 => ("NeverSaid$State", "away", "[I", true)
  | 5 => ("NeverSaid$State", "friends", "[I", true)
  | 6 => ("NeverSaid$State", "follows", "[I", true)
  | 7 => ("NeverSaid$State", "deeds", "I", false)
  | 8 => ("NeverSaid$State", "deed", "[LNeverSaid$Deed;", true)
  | 9 => ("NeverSaid$State", "texts", "I", false)
  | _ => ("NeverSaid$State", "text", "[LNeverSaid$Text;", true)
def tyX1 : Nat → FieldType := fun k => match k with
  | 0 => .int
  | 1 => .int
  | 2 => .int
  | 3 => .array (.object "NeverSaid$Speaker")
  | 4 => .array .int
  | 5 => .array .int
  | 6 => .array .int
  | 7 => .int
  | 8 => .array (.object "NeverSaid$Deed")
  | 9 => .int
  | _ => .array (.object "NeverSaid$Text")
abbrev wsX10 : List Cond := u_ws RX1 TX1 11
theorem nmX1 : ∀ a, a < 11 → ∀ b, b < 11 → a ≠ b → (TX1 a).2.1 ≠ (TX1 b).2.1 := by decide +kernel
theorem tyX1_ok : ∀ k, k < 11 → parseFieldDescriptor (TX1 k).2.2.1 = some (tyX1 k) := by decide +kernel
abbrev cX1_init : ByteArray := prog_14_method_1_code
def yX1_init : MethodName := ⟨RX1, "<init>", "()V"⟩
def dkwX1_init_3 : List UInt8 := [162, 0, 22, 42, 180, 0, 36, 27, 187, 0, 34, 89, 183, 0, 46, 83, 132, 1, 1, 167, 255, 234, 177]
abbrev dktX1_init_3 : List UInt8 := dkwX1_init_3 ++ []
def dkwX1_init_2 : List UInt8 := [16, 8, 189, 0, 34, 181, 0, 36, 42, 16, 14, 189, 0, 40, 181, 0, 42, 3, 60, 27, 16, 8]
abbrev dktX1_init_2 : List UInt8 := dkwX1_init_2 ++ dktX1_init_3
def dkwX1_init_1 : List UInt8 := [16, 12, 188, 10, 181, 0, 24, 42, 16, 12, 188, 10, 181, 0, 28, 42, 16, 12, 188, 10, 181, 0, 31, 42]
abbrev dktX1_init_1 : List UInt8 := dkwX1_init_1 ++ dktX1_init_2
def dkwX1_init_0 : List UInt8 := [42, 183, 0, 3, 42, 4, 181, 0, 9, 42, 5, 181, 0, 15, 42, 16, 12, 189, 0, 18, 181, 0, 20, 42]
abbrev dktX1_init_0 : List UInt8 := dkwX1_init_0 ++ dktX1_init_1
theorem dksX1_init_0 : cX1_init.data.toList.drop 0 = dktX1_init_0 := by decide +kernel
theorem dksX1_init_1 : cX1_init.data.toList.drop 24 = dktX1_init_1 := dk_seg dksX1_init_0 24 rfl rfl
theorem dksX1_init_2 : cX1_init.data.toList.drop 48 = dktX1_init_2 := dk_seg dksX1_init_1 24 rfl rfl
theorem dksX1_init_3 : cX1_init.data.toList.drop 70 = dktX1_init_3 := dk_seg dksX1_init_2 22 rfl rfl
theorem dX1_init_0 : decode cX1_init 0 = .ok (.aload_n 0, 1) := dk_42 (dk_at dksX1_init_0 0 rfl rfl)
theorem dX1_init_1 : decode cX1_init 1 = .ok (.invokespecial 3, 3) := dk_183 0 3 (dk_at dksX1_init_0 1 rfl rfl)
theorem dX1_init_4 : decode cX1_init 4 = .ok (.aload_n 0, 1) := dk_42 (dk_at dksX1_init_0 4 rfl rfl)
theorem dX1_init_5 : decode cX1_init 5 = .ok (.iconst 1, 1) := dk_4 (dk_at dksX1_init_0 5 rfl rfl)
theorem dX1_init_6 : decode cX1_init 6 = .ok (.putfield 9, 3) := dk_181 0 9 (dk_at dksX1_init_0 6 rfl rfl)
theorem dX1_init_9 : decode cX1_init 9 = .ok (.aload_n 0, 1) := dk_42 (dk_at dksX1_init_0 9 rfl rfl)
theorem dX1_init_10 : decode cX1_init 10 = .ok (.iconst 2, 1) := dk_5 (dk_at dksX1_init_0 10 rfl rfl)
theorem dX1_init_11 : decode cX1_init 11 = .ok (.putfield 15, 3) := dk_181 0 15 (dk_at dksX1_init_0 11 rfl rfl)
theorem dX1_init_14 : decode cX1_init 14 = .ok (.aload_n 0, 1) := dk_42 (dk_at dksX1_init_0 14 rfl rfl)
theorem dX1_init_15 : decode cX1_init 15 = .ok (.bipush 12, 2) := dk_16 12 (dk_at dksX1_init_0 15 rfl rfl)
theorem dX1_init_17 : decode cX1_init 17 = .ok (.anewarray 18, 3) := dk_189 0 18 (dk_at dksX1_init_0 17 rfl rfl)
theorem dX1_init_20 : decode cX1_init 20 = .ok (.putfield 20, 3) := dk_181 0 20 (dk_at dksX1_init_0 20 rfl rfl)
theorem dX1_init_23 : decode cX1_init 23 = .ok (.aload_n 0, 1) := dk_42 (dk_at dksX1_init_0 23 rfl rfl)
theorem dX1_init_24 : decode cX1_init 24 = .ok (.bipush 12, 2) := dk_16 12 (dk_at dksX1_init_1 0 rfl rfl)
theorem dX1_init_26 : decode cX1_init 26 = .ok (.newarray .int, 2) := dk_188_10 (dk_at dksX1_init_1 2 rfl rfl)
theorem dX1_init_28 : decode cX1_init 28 = .ok (.putfield 24, 3) := dk_181 0 24 (dk_at dksX1_init_1 4 rfl rfl)
theorem dX1_init_31 : decode cX1_init 31 = .ok (.aload_n 0, 1) := dk_42 (dk_at dksX1_init_1 7 rfl rfl)
theorem dX1_init_32 : decode cX1_init 32 = .ok (.bipush 12, 2) := dk_16 12 (dk_at dksX1_init_1 8 rfl rfl)
theorem dX1_init_34 : decode cX1_init 34 = .ok (.newarray .int, 2) := dk_188_10 (dk_at dksX1_init_1 10 rfl rfl)
theorem dX1_init_36 : decode cX1_init 36 = .ok (.putfield 28, 3) := dk_181 0 28 (dk_at dksX1_init_1 12 rfl rfl)
theorem dX1_init_39 : decode cX1_init 39 = .ok (.aload_n 0, 1) := dk_42 (dk_at dksX1_init_1 15 rfl rfl)
theorem dX1_init_40 : decode cX1_init 40 = .ok (.bipush 12, 2) := dk_16 12 (dk_at dksX1_init_1 16 rfl rfl)
theorem dX1_init_42 : decode cX1_init 42 = .ok (.newarray .int, 2) := dk_188_10 (dk_at dksX1_init_1 18 rfl rfl)
theorem dX1_init_44 : decode cX1_init 44 = .ok (.putfield 31, 3) := dk_181 0 31 (dk_at dksX1_init_1 20 rfl rfl)
theorem dX1_init_47 : decode cX1_init 47 = .ok (.aload_n 0, 1) := dk_42 (dk_at dksX1_init_1 23 rfl rfl)
theorem dX1_init_48 : decode cX1_init 48 = .ok (.bipush 8, 2) := dk_16 8 (dk_at dksX1_init_2 0 rfl rfl)
theorem dX1_init_50 : decode cX1_init 50 = .ok (.anewarray 34, 3) := dk_189 0 34 (dk_at dksX1_init_2 2 rfl rfl)
theorem dX1_init_53 : decode cX1_init 53 = .ok (.putfield 36, 3) := dk_181 0 36 (dk_at dksX1_init_2 5 rfl rfl)
theorem dX1_init_56 : decode cX1_init 56 = .ok (.aload_n 0, 1) := dk_42 (dk_at dksX1_init_2 8 rfl rfl)
theorem dX1_init_57 : decode cX1_init 57 = .ok (.bipush 14, 2) := dk_16 14 (dk_at dksX1_init_2 9 rfl rfl)
theorem dX1_init_59 : decode cX1_init 59 = .ok (.anewarray 40, 3) := dk_189 0 40 (dk_at dksX1_init_2 11 rfl rfl)
theorem dX1_init_62 : decode cX1_init 62 = .ok (.putfield 42, 3) := dk_181 0 42 (dk_at dksX1_init_2 14 rfl rfl)
theorem dX1_init_65 : decode cX1_init 65 = .ok (.iconst 0, 1) := dk_3 (dk_at dksX1_init_2 17 rfl rfl)
theorem dX1_init_66 : decode cX1_init 66 = .ok (.istore_n 1, 1) := dk_60 (dk_at dksX1_init_2 18 rfl rfl)
theorem dX1_init_67 : decode cX1_init 67 = .ok (.iload_n 1, 1) := dk_27 (dk_at dksX1_init_2 19 rfl rfl)
theorem dX1_init_68 : decode cX1_init 68 = .ok (.bipush 8, 2) := dk_16 8 (dk_at dksX1_init_2 20 rfl rfl)
theorem dX1_init_70 : decode cX1_init 70 = .ok (.if_icmp .ge 22, 3) := dk_162 0 22 (dk_at dksX1_init_3 0 rfl rfl)
theorem dX1_init_73 : decode cX1_init 73 = .ok (.aload_n 0, 1) := dk_42 (dk_at dksX1_init_3 3 rfl rfl)
theorem dX1_init_74 : decode cX1_init 74 = .ok (.getfield 36, 3) := dk_180 0 36 (dk_at dksX1_init_3 4 rfl rfl)
theorem dX1_init_77 : decode cX1_init 77 = .ok (.iload_n 1, 1) := dk_27 (dk_at dksX1_init_3 7 rfl rfl)
theorem dX1_init_78 : decode cX1_init 78 = .ok (.new 34, 3) := dk_187 0 34 (dk_at dksX1_init_3 8 rfl rfl)
theorem dX1_init_81 : decode cX1_init 81 = .ok (.dup, 1) := dk_89 (dk_at dksX1_init_3 11 rfl rfl)
theorem dX1_init_82 : decode cX1_init 82 = .ok (.invokespecial 46, 3) := dk_183 0 46 (dk_at dksX1_init_3 12 rfl rfl)
theorem dX1_init_85 : decode cX1_init 85 = .ok (.aastore, 1) := dk_83 (dk_at dksX1_init_3 15 rfl rfl)
theorem dX1_init_86 : decode cX1_init 86 = .ok (.iinc 1 1, 3) := dk_132 1 1 (dk_at dksX1_init_3 16 rfl rfl)
theorem dX1_init_89 : decode cX1_init 89 = .ok (.goto (-22), 3) := dk_167 255 234 (dk_at dksX1_init_3 19 rfl rfl)
theorem dX1_init_92 : decode cX1_init 92 = .ok (.return_, 1) := dk_177 (dk_at dksX1_init_3 22 rfl rfl)
abbrev cX1_draw : ByteArray := prog_14_method_4_code
def yX1_draw : MethodName := ⟨RX1, "draw", "()I"⟩
def dkwX1_draw_0 : List UInt8 := [42, 42, 180, 0, 9, 18, 85, 104, 17, 48, 57, 96, 181, 0, 9, 42, 180, 0, 9, 16, 8, 124, 172]
abbrev dktX1_draw_0 : List UInt8 := dkwX1_draw_0 ++ []
theorem dksX1_draw_0 : cX1_draw.data.toList.drop 0 = dktX1_draw_0 := by decide +kernel
theorem dX1_draw_0 : decode cX1_draw 0 = .ok (.aload_n 0, 1) := dk_42 (dk_at dksX1_draw_0 0 rfl rfl)
theorem dX1_draw_1 : decode cX1_draw 1 = .ok (.aload_n 0, 1) := dk_42 (dk_at dksX1_draw_0 1 rfl rfl)
theorem dX1_draw_2 : decode cX1_draw 2 = .ok (.getfield 9, 3) := dk_180 0 9 (dk_at dksX1_draw_0 2 rfl rfl)
theorem dX1_draw_5 : decode cX1_draw 5 = .ok (.ldc 85, 2) := dk_18 85 (dk_at dksX1_draw_0 5 rfl rfl)
theorem dX1_draw_7 : decode cX1_draw 7 = .ok (.imul, 1) := dk_104 (dk_at dksX1_draw_0 7 rfl rfl)
theorem dX1_draw_8 : decode cX1_draw 8 = .ok (.sipush 12345, 3) := dk_17 48 57 (dk_at dksX1_draw_0 8 rfl rfl)
theorem dX1_draw_11 : decode cX1_draw 11 = .ok (.iadd, 1) := dk_96 (dk_at dksX1_draw_0 11 rfl rfl)
theorem dX1_draw_12 : decode cX1_draw 12 = .ok (.putfield 9, 3) := dk_181 0 9 (dk_at dksX1_draw_0 12 rfl rfl)
theorem dX1_draw_15 : decode cX1_draw 15 = .ok (.aload_n 0, 1) := dk_42 (dk_at dksX1_draw_0 15 rfl rfl)
theorem dX1_draw_16 : decode cX1_draw 16 = .ok (.getfield 9, 3) := dk_180 0 9 (dk_at dksX1_draw_0 16 rfl rfl)
theorem dX1_draw_19 : decode cX1_draw 19 = .ok (.bipush 8, 2) := dk_16 8 (dk_at dksX1_draw_0 19 rfl rfl)
theorem dX1_draw_21 : decode cX1_draw 21 = .ok (.iushr, 1) := dk_124 (dk_at dksX1_draw_0 21 rfl rfl)
theorem dX1_draw_22 : decode cX1_draw 22 = .ok (.ireturn, 1) := dk_172 (dk_at dksX1_draw_0 22 rfl rfl)
abbrev cX1_all : ByteArray := prog_14_method_5_code
def yX1_all : MethodName := ⟨RX1, "all", "()I"⟩
def dkwX1_all_0 : List UInt8 := [4, 42, 180, 0, 47, 120, 4, 100, 172]
abbrev dktX1_all_0 : List UInt8 := dkwX1_all_0 ++ []
theorem dksX1_all_0 : cX1_all.data.toList.drop 0 = dktX1_all_0 := by decide +kernel
theorem dX1_all_0 : decode cX1_all 0 = .ok (.iconst 1, 1) := dk_4 (dk_at dksX1_all_0 0 rfl rfl)
theorem dX1_all_1 : decode cX1_all 1 = .ok (.aload_n 0, 1) := dk_42 (dk_at dksX1_all_0 1 rfl rfl)
theorem dX1_all_2 : decode cX1_all 2 = .ok (.getfield 47, 3) := dk_180 0 47 (dk_at dksX1_all_0 2 rfl rfl)
theorem dX1_all_5 : decode cX1_all 5 = .ok (.ishl, 1) := dk_120 (dk_at dksX1_all_0 5 rfl rfl)
theorem dX1_all_6 : decode cX1_all 6 = .ok (.iconst 1, 1) := dk_4 (dk_at dksX1_all_0 6 rfl rfl)
theorem dX1_all_7 : decode cX1_all 7 = .ok (.isub, 1) := dk_100 (dk_at dksX1_all_0 7 rfl rfl)
theorem dX1_all_8 : decode cX1_all 8 = .ok (.ireturn, 1) := dk_172 (dk_at dksX1_all_0 8 rfl rfl)
abbrev cX1_copyOf : ByteArray := prog_14_method_2_code
def yX1_copyOf : MethodName := ⟨RX1, "copyOf", "(LNeverSaid$State;)V"⟩
def dkwX1_copyOf_6 : List UInt8 := [16, 14, 184, 0, 68, 177]
abbrev dktX1_copyOf_6 : List UInt8 := dkwX1_copyOf_6 ++ []
def dkwX1_copyOf_5 : List UInt8 := [132, 2, 1, 167, 255, 230, 42, 43, 180, 0, 65, 181, 0, 65, 43, 180, 0, 42, 3, 42, 180, 0, 42, 3]
abbrev dktX1_copyOf_5 : List UInt8 := dkwX1_copyOf_5 ++ dktX1_copyOf_6
def dkwX1_copyOf_4 : List UInt8 := [28, 42, 180, 0, 58, 162, 0, 24, 42, 180, 0, 36, 28, 50, 43, 180, 0, 36, 28, 50, 182, 0, 61]
abbrev dktX1_copyOf_4 : List UInt8 := dkwX1_copyOf_4 ++ dktX1_copyOf_5
def dkwX1_copyOf_3 : List UInt8 := [184, 0, 54, 43, 180, 0, 31, 42, 180, 0, 31, 184, 0, 54, 42, 43, 180, 0, 58, 181, 0, 58, 3, 61]
abbrev dktX1_copyOf_3 : List UInt8 := dkwX1_copyOf_3 ++ dktX1_copyOf_4
def dkwX1_copyOf_2 : List UInt8 := [167, 255, 234, 43, 180, 0, 24, 42, 180, 0, 24, 184, 0, 54, 43, 180, 0, 28, 42, 180, 0, 28]
abbrev dktX1_copyOf_2 : List UInt8 := dkwX1_copyOf_2 ++ dktX1_copyOf_3
def dkwX1_copyOf_1 : List UInt8 := [3, 61, 28, 42, 180, 0, 47, 162, 0, 20, 42, 28, 43, 180, 0, 20, 28, 50, 182, 0, 50, 132, 2, 1]
abbrev dktX1_copyOf_1 : List UInt8 := dkwX1_copyOf_1 ++ dktX1_copyOf_2
def dkwX1_copyOf_0 : List UInt8 := [42, 43, 180, 0, 9, 181, 0, 9, 42, 43, 180, 0, 15, 181, 0, 15, 42, 43, 180, 0, 47, 181, 0, 47]
abbrev dktX1_copyOf_0 : List UInt8 := dkwX1_copyOf_0 ++ dktX1_copyOf_1
theorem dksX1_copyOf_0 : cX1_copyOf.data.toList.drop 0 = dktX1_copyOf_0 := by decide +kernel
theorem dksX1_copyOf_1 : cX1_copyOf.data.toList.drop 24 = dktX1_copyOf_1 := dk_seg dksX1_copyOf_0 24 rfl rfl
theorem dksX1_copyOf_2 : cX1_copyOf.data.toList.drop 48 = dktX1_copyOf_2 := dk_seg dksX1_copyOf_1 24 rfl rfl
theorem dksX1_copyOf_3 : cX1_copyOf.data.toList.drop 70 = dktX1_copyOf_3 := dk_seg dksX1_copyOf_2 22 rfl rfl
theorem dksX1_copyOf_4 : cX1_copyOf.data.toList.drop 94 = dktX1_copyOf_4 := dk_seg dksX1_copyOf_3 24 rfl rfl
theorem dksX1_copyOf_5 : cX1_copyOf.data.toList.drop 117 = dktX1_copyOf_5 := dk_seg dksX1_copyOf_4 23 rfl rfl
theorem dksX1_copyOf_6 : cX1_copyOf.data.toList.drop 141 = dktX1_copyOf_6 := dk_seg dksX1_copyOf_5 24 rfl rfl
theorem dX1_copyOf_0 : decode cX1_copyOf 0 = .ok (.aload_n 0, 1) := dk_42 (dk_at dksX1_copyOf_0 0 rfl rfl)
theorem dX1_copyOf_1 : decode cX1_copyOf 1 = .ok (.aload_n 1, 1) := dk_43 (dk_at dksX1_copyOf_0 1 rfl rfl)
theorem dX1_copyOf_2 : decode cX1_copyOf 2 = .ok (.getfield 9, 3) := dk_180 0 9 (dk_at dksX1_copyOf_0 2 rfl rfl)
theorem dX1_copyOf_5 : decode cX1_copyOf 5 = .ok (.putfield 9, 3) := dk_181 0 9 (dk_at dksX1_copyOf_0 5 rfl rfl)
theorem dX1_copyOf_8 : decode cX1_copyOf 8 = .ok (.aload_n 0, 1) := dk_42 (dk_at dksX1_copyOf_0 8 rfl rfl)
theorem dX1_copyOf_9 : decode cX1_copyOf 9 = .ok (.aload_n 1, 1) := dk_43 (dk_at dksX1_copyOf_0 9 rfl rfl)
theorem dX1_copyOf_10 : decode cX1_copyOf 10 = .ok (.getfield 15, 3) := dk_180 0 15 (dk_at dksX1_copyOf_0 10 rfl rfl)
theorem dX1_copyOf_13 : decode cX1_copyOf 13 = .ok (.putfield 15, 3) := dk_181 0 15 (dk_at dksX1_copyOf_0 13 rfl rfl)
theorem dX1_copyOf_16 : decode cX1_copyOf 16 = .ok (.aload_n 0, 1) := dk_42 (dk_at dksX1_copyOf_0 16 rfl rfl)
theorem dX1_copyOf_17 : decode cX1_copyOf 17 = .ok (.aload_n 1, 1) := dk_43 (dk_at dksX1_copyOf_0 17 rfl rfl)
theorem dX1_copyOf_18 : decode cX1_copyOf 18 = .ok (.getfield 47, 3) := dk_180 0 47 (dk_at dksX1_copyOf_0 18 rfl rfl)
theorem dX1_copyOf_21 : decode cX1_copyOf 21 = .ok (.putfield 47, 3) := dk_181 0 47 (dk_at dksX1_copyOf_0 21 rfl rfl)
theorem dX1_copyOf_24 : decode cX1_copyOf 24 = .ok (.iconst 0, 1) := dk_3 (dk_at dksX1_copyOf_1 0 rfl rfl)
theorem dX1_copyOf_25 : decode cX1_copyOf 25 = .ok (.istore_n 2, 1) := dk_61 (dk_at dksX1_copyOf_1 1 rfl rfl)
theorem dX1_copyOf_26 : decode cX1_copyOf 26 = .ok (.iload_n 2, 1) := dk_28 (dk_at dksX1_copyOf_1 2 rfl rfl)
theorem dX1_copyOf_27 : decode cX1_copyOf 27 = .ok (.aload_n 0, 1) := dk_42 (dk_at dksX1_copyOf_1 3 rfl rfl)
theorem dX1_copyOf_28 : decode cX1_copyOf 28 = .ok (.getfield 47, 3) := dk_180 0 47 (dk_at dksX1_copyOf_1 4 rfl rfl)
theorem dX1_copyOf_31 : decode cX1_copyOf 31 = .ok (.if_icmp .ge 20, 3) := dk_162 0 20 (dk_at dksX1_copyOf_1 7 rfl rfl)
theorem dX1_copyOf_34 : decode cX1_copyOf 34 = .ok (.aload_n 0, 1) := dk_42 (dk_at dksX1_copyOf_1 10 rfl rfl)
theorem dX1_copyOf_35 : decode cX1_copyOf 35 = .ok (.iload_n 2, 1) := dk_28 (dk_at dksX1_copyOf_1 11 rfl rfl)
theorem dX1_copyOf_36 : decode cX1_copyOf 36 = .ok (.aload_n 1, 1) := dk_43 (dk_at dksX1_copyOf_1 12 rfl rfl)
theorem dX1_copyOf_37 : decode cX1_copyOf 37 = .ok (.getfield 20, 3) := dk_180 0 20 (dk_at dksX1_copyOf_1 13 rfl rfl)
theorem dX1_copyOf_40 : decode cX1_copyOf 40 = .ok (.iload_n 2, 1) := dk_28 (dk_at dksX1_copyOf_1 16 rfl rfl)
theorem dX1_copyOf_41 : decode cX1_copyOf 41 = .ok (.aaload, 1) := dk_50 (dk_at dksX1_copyOf_1 17 rfl rfl)
theorem dX1_copyOf_42 : decode cX1_copyOf 42 = .ok (.invokevirtual 50, 3) := dk_182 0 50 (dk_at dksX1_copyOf_1 18 rfl rfl)
theorem dX1_copyOf_45 : decode cX1_copyOf 45 = .ok (.iinc 2 1, 3) := dk_132 2 1 (dk_at dksX1_copyOf_1 21 rfl rfl)
theorem dX1_copyOf_48 : decode cX1_copyOf 48 = .ok (.goto (-22), 3) := dk_167 255 234 (dk_at dksX1_copyOf_2 0 rfl rfl)
theorem dX1_copyOf_51 : decode cX1_copyOf 51 = .ok (.aload_n 1, 1) := dk_43 (dk_at dksX1_copyOf_2 3 rfl rfl)
theorem dX1_copyOf_52 : decode cX1_copyOf 52 = .ok (.getfield 24, 3) := dk_180 0 24 (dk_at dksX1_copyOf_2 4 rfl rfl)
theorem dX1_copyOf_55 : decode cX1_copyOf 55 = .ok (.aload_n 0, 1) := dk_42 (dk_at dksX1_copyOf_2 7 rfl rfl)
theorem dX1_copyOf_56 : decode cX1_copyOf 56 = .ok (.getfield 24, 3) := dk_180 0 24 (dk_at dksX1_copyOf_2 8 rfl rfl)
theorem dX1_copyOf_59 : decode cX1_copyOf 59 = .ok (.invokestatic 54, 3) := dk_184 0 54 (dk_at dksX1_copyOf_2 11 rfl rfl)
theorem dX1_copyOf_62 : decode cX1_copyOf 62 = .ok (.aload_n 1, 1) := dk_43 (dk_at dksX1_copyOf_2 14 rfl rfl)
theorem dX1_copyOf_63 : decode cX1_copyOf 63 = .ok (.getfield 28, 3) := dk_180 0 28 (dk_at dksX1_copyOf_2 15 rfl rfl)
theorem dX1_copyOf_66 : decode cX1_copyOf 66 = .ok (.aload_n 0, 1) := dk_42 (dk_at dksX1_copyOf_2 18 rfl rfl)
theorem dX1_copyOf_67 : decode cX1_copyOf 67 = .ok (.getfield 28, 3) := dk_180 0 28 (dk_at dksX1_copyOf_2 19 rfl rfl)
theorem dX1_copyOf_70 : decode cX1_copyOf 70 = .ok (.invokestatic 54, 3) := dk_184 0 54 (dk_at dksX1_copyOf_3 0 rfl rfl)
theorem dX1_copyOf_73 : decode cX1_copyOf 73 = .ok (.aload_n 1, 1) := dk_43 (dk_at dksX1_copyOf_3 3 rfl rfl)
theorem dX1_copyOf_74 : decode cX1_copyOf 74 = .ok (.getfield 31, 3) := dk_180 0 31 (dk_at dksX1_copyOf_3 4 rfl rfl)
theorem dX1_copyOf_77 : decode cX1_copyOf 77 = .ok (.aload_n 0, 1) := dk_42 (dk_at dksX1_copyOf_3 7 rfl rfl)
theorem dX1_copyOf_78 : decode cX1_copyOf 78 = .ok (.getfield 31, 3) := dk_180 0 31 (dk_at dksX1_copyOf_3 8 rfl rfl)
theorem dX1_copyOf_81 : decode cX1_copyOf 81 = .ok (.invokestatic 54, 3) := dk_184 0 54 (dk_at dksX1_copyOf_3 11 rfl rfl)
theorem dX1_copyOf_84 : decode cX1_copyOf 84 = .ok (.aload_n 0, 1) := dk_42 (dk_at dksX1_copyOf_3 14 rfl rfl)
theorem dX1_copyOf_85 : decode cX1_copyOf 85 = .ok (.aload_n 1, 1) := dk_43 (dk_at dksX1_copyOf_3 15 rfl rfl)
theorem dX1_copyOf_86 : decode cX1_copyOf 86 = .ok (.getfield 58, 3) := dk_180 0 58 (dk_at dksX1_copyOf_3 16 rfl rfl)
theorem dX1_copyOf_89 : decode cX1_copyOf 89 = .ok (.putfield 58, 3) := dk_181 0 58 (dk_at dksX1_copyOf_3 19 rfl rfl)
theorem dX1_copyOf_92 : decode cX1_copyOf 92 = .ok (.iconst 0, 1) := dk_3 (dk_at dksX1_copyOf_3 22 rfl rfl)
theorem dX1_copyOf_93 : decode cX1_copyOf 93 = .ok (.istore_n 2, 1) := dk_61 (dk_at dksX1_copyOf_3 23 rfl rfl)
theorem dX1_copyOf_94 : decode cX1_copyOf 94 = .ok (.iload_n 2, 1) := dk_28 (dk_at dksX1_copyOf_4 0 rfl rfl)
theorem dX1_copyOf_95 : decode cX1_copyOf 95 = .ok (.aload_n 0, 1) := dk_42 (dk_at dksX1_copyOf_4 1 rfl rfl)
theorem dX1_copyOf_96 : decode cX1_copyOf 96 = .ok (.getfield 58, 3) := dk_180 0 58 (dk_at dksX1_copyOf_4 2 rfl rfl)
theorem dX1_copyOf_99 : decode cX1_copyOf 99 = .ok (.if_icmp .ge 24, 3) := dk_162 0 24 (dk_at dksX1_copyOf_4 5 rfl rfl)
theorem dX1_copyOf_102 : decode cX1_copyOf 102 = .ok (.aload_n 0, 1) := dk_42 (dk_at dksX1_copyOf_4 8 rfl rfl)
theorem dX1_copyOf_103 : decode cX1_copyOf 103 = .ok (.getfield 36, 3) := dk_180 0 36 (dk_at dksX1_copyOf_4 9 rfl rfl)
theorem dX1_copyOf_106 : decode cX1_copyOf 106 = .ok (.iload_n 2, 1) := dk_28 (dk_at dksX1_copyOf_4 12 rfl rfl)
theorem dX1_copyOf_107 : decode cX1_copyOf 107 = .ok (.aaload, 1) := dk_50 (dk_at dksX1_copyOf_4 13 rfl rfl)
theorem dX1_copyOf_108 : decode cX1_copyOf 108 = .ok (.aload_n 1, 1) := dk_43 (dk_at dksX1_copyOf_4 14 rfl rfl)
theorem dX1_copyOf_109 : decode cX1_copyOf 109 = .ok (.getfield 36, 3) := dk_180 0 36 (dk_at dksX1_copyOf_4 15 rfl rfl)
theorem dX1_copyOf_112 : decode cX1_copyOf 112 = .ok (.iload_n 2, 1) := dk_28 (dk_at dksX1_copyOf_4 18 rfl rfl)
theorem dX1_copyOf_113 : decode cX1_copyOf 113 = .ok (.aaload, 1) := dk_50 (dk_at dksX1_copyOf_4 19 rfl rfl)
theorem dX1_copyOf_114 : decode cX1_copyOf 114 = .ok (.invokevirtual 61, 3) := dk_182 0 61 (dk_at dksX1_copyOf_4 20 rfl rfl)
theorem dX1_copyOf_117 : decode cX1_copyOf 117 = .ok (.iinc 2 1, 3) := dk_132 2 1 (dk_at dksX1_copyOf_5 0 rfl rfl)
theorem dX1_copyOf_120 : decode cX1_copyOf 120 = .ok (.goto (-26), 3) := dk_167 255 230 (dk_at dksX1_copyOf_5 3 rfl rfl)
theorem dX1_copyOf_123 : decode cX1_copyOf 123 = .ok (.aload_n 0, 1) := dk_42 (dk_at dksX1_copyOf_5 6 rfl rfl)
theorem dX1_copyOf_124 : decode cX1_copyOf 124 = .ok (.aload_n 1, 1) := dk_43 (dk_at dksX1_copyOf_5 7 rfl rfl)
theorem dX1_copyOf_125 : decode cX1_copyOf 125 = .ok (.getfield 65, 3) := dk_180 0 65 (dk_at dksX1_copyOf_5 8 rfl rfl)
theorem dX1_copyOf_128 : decode cX1_copyOf 128 = .ok (.putfield 65, 3) := dk_181 0 65 (dk_at dksX1_copyOf_5 11 rfl rfl)
theorem dX1_copyOf_131 : decode cX1_copyOf 131 = .ok (.aload_n 1, 1) := dk_43 (dk_at dksX1_copyOf_5 14 rfl rfl)
theorem dX1_copyOf_132 : decode cX1_copyOf 132 = .ok (.getfield 42, 3) := dk_180 0 42 (dk_at dksX1_copyOf_5 15 rfl rfl)
theorem dX1_copyOf_135 : decode cX1_copyOf 135 = .ok (.iconst 0, 1) := dk_3 (dk_at dksX1_copyOf_5 18 rfl rfl)
theorem dX1_copyOf_136 : decode cX1_copyOf 136 = .ok (.aload_n 0, 1) := dk_42 (dk_at dksX1_copyOf_5 19 rfl rfl)
theorem dX1_copyOf_137 : decode cX1_copyOf 137 = .ok (.getfield 42, 3) := dk_180 0 42 (dk_at dksX1_copyOf_5 20 rfl rfl)
theorem dX1_copyOf_140 : decode cX1_copyOf 140 = .ok (.iconst 0, 1) := dk_3 (dk_at dksX1_copyOf_5 23 rfl rfl)
theorem dX1_copyOf_141 : decode cX1_copyOf 141 = .ok (.bipush 14, 2) := dk_16 14 (dk_at dksX1_copyOf_6 0 rfl rfl)
theorem dX1_copyOf_143 : decode cX1_copyOf 143 = .ok (.invokestatic 68, 3) := dk_184 0 68 (dk_at dksX1_copyOf_6 2 rfl rfl)
theorem dX1_copyOf_146 : decode cX1_copyOf 146 = .ok (.return_, 1) := dk_177 (dk_at dksX1_copyOf_6 5 rfl rfl)
abbrev cX1_takesSpeaker : ByteArray := prog_14_method_3_code
def yX1_takesSpeaker : MethodName := ⟨RX1, "takesSpeaker", "(ILNeverSaid$Speaker;)V"⟩
def dkwX1_takesSpeaker_2 : List UInt8 := [181, 0, 82, 177]
abbrev dktX1_takesSpeaker_2 : List UInt8 := dkwX1_takesSpeaker_2 ++ []
def dkwX1_takesSpeaker_1 : List UInt8 := [159, 0, 13, 42, 180, 0, 20, 27, 44, 182, 0, 78, 83, 42, 180, 0, 20, 27, 50, 44, 180, 0, 82]
abbrev dktX1_takesSpeaker_1 : List UInt8 := dkwX1_takesSpeaker_1 ++ dktX1_takesSpeaker_2
def dkwX1_takesSpeaker_0 : List UInt8 := [42, 180, 0, 20, 27, 50, 198, 0, 19, 42, 180, 0, 20, 27, 50, 182, 0, 74, 44, 182, 0, 74]
abbrev dktX1_takesSpeaker_0 : List UInt8 := dkwX1_takesSpeaker_0 ++ dktX1_takesSpeaker_1
theorem dksX1_takesSpeaker_0 : cX1_takesSpeaker.data.toList.drop 0 = dktX1_takesSpeaker_0 := by decide +kernel
theorem dksX1_takesSpeaker_1 : cX1_takesSpeaker.data.toList.drop 22 = dktX1_takesSpeaker_1 := dk_seg dksX1_takesSpeaker_0 22 rfl rfl
theorem dksX1_takesSpeaker_2 : cX1_takesSpeaker.data.toList.drop 45 = dktX1_takesSpeaker_2 := dk_seg dksX1_takesSpeaker_1 23 rfl rfl
theorem dX1_takesSpeaker_0 : decode cX1_takesSpeaker 0 = .ok (.aload_n 0, 1) := dk_42 (dk_at dksX1_takesSpeaker_0 0 rfl rfl)
theorem dX1_takesSpeaker_1 : decode cX1_takesSpeaker 1 = .ok (.getfield 20, 3) := dk_180 0 20 (dk_at dksX1_takesSpeaker_0 1 rfl rfl)
theorem dX1_takesSpeaker_4 : decode cX1_takesSpeaker 4 = .ok (.iload_n 1, 1) := dk_27 (dk_at dksX1_takesSpeaker_0 4 rfl rfl)
theorem dX1_takesSpeaker_5 : decode cX1_takesSpeaker 5 = .ok (.aaload, 1) := dk_50 (dk_at dksX1_takesSpeaker_0 5 rfl rfl)
theorem dX1_takesSpeaker_6 : decode cX1_takesSpeaker 6 = .ok (.ifnull 19, 3) := dk_198 0 19 (dk_at dksX1_takesSpeaker_0 6 rfl rfl)
theorem dX1_takesSpeaker_9 : decode cX1_takesSpeaker 9 = .ok (.aload_n 0, 1) := dk_42 (dk_at dksX1_takesSpeaker_0 9 rfl rfl)
theorem dX1_takesSpeaker_10 : decode cX1_takesSpeaker 10 = .ok (.getfield 20, 3) := dk_180 0 20 (dk_at dksX1_takesSpeaker_0 10 rfl rfl)
theorem dX1_takesSpeaker_13 : decode cX1_takesSpeaker 13 = .ok (.iload_n 1, 1) := dk_27 (dk_at dksX1_takesSpeaker_0 13 rfl rfl)
theorem dX1_takesSpeaker_14 : decode cX1_takesSpeaker 14 = .ok (.aaload, 1) := dk_50 (dk_at dksX1_takesSpeaker_0 14 rfl rfl)
theorem dX1_takesSpeaker_15 : decode cX1_takesSpeaker 15 = .ok (.invokevirtual 74, 3) := dk_182 0 74 (dk_at dksX1_takesSpeaker_0 15 rfl rfl)
theorem dX1_takesSpeaker_18 : decode cX1_takesSpeaker 18 = .ok (.aload_n 2, 1) := dk_44 (dk_at dksX1_takesSpeaker_0 18 rfl rfl)
theorem dX1_takesSpeaker_19 : decode cX1_takesSpeaker 19 = .ok (.invokevirtual 74, 3) := dk_182 0 74 (dk_at dksX1_takesSpeaker_0 19 rfl rfl)
theorem dX1_takesSpeaker_22 : decode cX1_takesSpeaker 22 = .ok (.if_icmp .eq 13, 3) := dk_159 0 13 (dk_at dksX1_takesSpeaker_1 0 rfl rfl)
theorem dX1_takesSpeaker_25 : decode cX1_takesSpeaker 25 = .ok (.aload_n 0, 1) := dk_42 (dk_at dksX1_takesSpeaker_1 3 rfl rfl)
theorem dX1_takesSpeaker_26 : decode cX1_takesSpeaker 26 = .ok (.getfield 20, 3) := dk_180 0 20 (dk_at dksX1_takesSpeaker_1 4 rfl rfl)
theorem dX1_takesSpeaker_29 : decode cX1_takesSpeaker 29 = .ok (.iload_n 1, 1) := dk_27 (dk_at dksX1_takesSpeaker_1 7 rfl rfl)
theorem dX1_takesSpeaker_30 : decode cX1_takesSpeaker 30 = .ok (.aload_n 2, 1) := dk_44 (dk_at dksX1_takesSpeaker_1 8 rfl rfl)
theorem dX1_takesSpeaker_31 : decode cX1_takesSpeaker 31 = .ok (.invokevirtual 78, 3) := dk_182 0 78 (dk_at dksX1_takesSpeaker_1 9 rfl rfl)
theorem dX1_takesSpeaker_34 : decode cX1_takesSpeaker 34 = .ok (.aastore, 1) := dk_83 (dk_at dksX1_takesSpeaker_1 12 rfl rfl)
theorem dX1_takesSpeaker_35 : decode cX1_takesSpeaker 35 = .ok (.aload_n 0, 1) := dk_42 (dk_at dksX1_takesSpeaker_1 13 rfl rfl)
theorem dX1_takesSpeaker_36 : decode cX1_takesSpeaker 36 = .ok (.getfield 20, 3) := dk_180 0 20 (dk_at dksX1_takesSpeaker_1 14 rfl rfl)
theorem dX1_takesSpeaker_39 : decode cX1_takesSpeaker 39 = .ok (.iload_n 1, 1) := dk_27 (dk_at dksX1_takesSpeaker_1 17 rfl rfl)
theorem dX1_takesSpeaker_40 : decode cX1_takesSpeaker 40 = .ok (.aaload, 1) := dk_50 (dk_at dksX1_takesSpeaker_1 18 rfl rfl)
theorem dX1_takesSpeaker_41 : decode cX1_takesSpeaker 41 = .ok (.aload_n 2, 1) := dk_44 (dk_at dksX1_takesSpeaker_1 19 rfl rfl)
theorem dX1_takesSpeaker_42 : decode cX1_takesSpeaker 42 = .ok (.getfield 82, 3) := dk_180 0 82 (dk_at dksX1_takesSpeaker_1 20 rfl rfl)
theorem dX1_takesSpeaker_45 : decode cX1_takesSpeaker 45 = .ok (.putfield 82, 3) := dk_181 0 82 (dk_at dksX1_takesSpeaker_2 0 rfl rfl)
theorem dX1_takesSpeaker_48 : decode cX1_takesSpeaker 48 = .ok (.return_, 1) := dk_177 (dk_at dksX1_takesSpeaker_2 3 rfl rfl)
theorem q84 : (Jvm.Cond.initialized "NeverSaid$State") ∈ lw_all := lw_g (lw_at lw_m1 2 rfl) rfl
theorem q120 : (Jvm.Cond.instantiable "NeverSaid$State" (11 : Nat)) ∈ lw_all := lw_g (lw_at lw_m1 38 rfl) rfl
theorem q122 : (Jvm.Cond.instanceMethod ({ cls := "NeverSaid$State", name := "<init>", desc := "()V" } : Jvm.MethodName)) ∈ lw_all := lw_g (lw_at lw_m1 40 rfl) rfl
theorem q123 : (Jvm.Cond.code ({ cls := "NeverSaid$State", name := "<init>", desc := "()V" } : Jvm.MethodName) prog_14_method_1_code (2 : Nat) (Option.none : Option Jvm.ClassFile.FieldType)) ∈ lw_all := lw_g (lw_at lw_m1 41 rfl) rfl
theorem q124 : (Jvm.Cond.methodLink "NeverSaid$State" (3 : Nat) ({ cls := "java/lang/Object", name := "<init>", desc := "()V" } : Jvm.MethodName)) ∈ lw_all := lw_g (lw_at lw_m1 42 rfl) rfl
theorem q125 : (Jvm.Cond.classLink "NeverSaid$State" (18 : Nat) "NeverSaid$Speaker") ∈ lw_all := lw_g (lw_at lw_m1 43 rfl) rfl
theorem q127 : (Jvm.Cond.classLink "NeverSaid$State" (34 : Nat) "NeverSaid$Deed") ∈ lw_all := lw_g (lw_at lw_m1 45 rfl) rfl
theorem q129 : (Jvm.Cond.classLink "NeverSaid$State" (40 : Nat) "NeverSaid$Text") ∈ lw_all := lw_g (lw_at lw_m1 47 rfl) rfl
theorem q132 : (Jvm.Cond.methodLinkNest "NeverSaid$State" (46 : Nat) ({ cls := "NeverSaid$Deed", name := "<init>", desc := "()V" } : Jvm.MethodName) "NeverSaid") ∈ lw_tbl := lw_at lw_m1 50 rfl
theorem q162 : (Jvm.Cond.fieldLink "NeverSaid$State" (9 : Nat) "NeverSaid$State" "z" "I") ∈ lw_all := lw_g (lw_at lw_m1 80 rfl) rfl
theorem q164 : (Jvm.Cond.fieldLink "NeverSaid$State" (15 : Nat) "NeverSaid$State" "stop" "I") ∈ lw_all := lw_g (lw_at lw_m1 82 rfl) rfl
theorem q166 : (Jvm.Cond.fieldLink "NeverSaid$State" (47 : Nat) "NeverSaid$State" "people" "I") ∈ lw_all := lw_g (lw_at lw_m1 84 rfl) rfl
theorem q168 : (Jvm.Cond.fieldLink "NeverSaid$State" (20 : Nat) "NeverSaid$State" "speaker" "[LNeverSaid$Speaker;") ∈ lw_all := lw_g (lw_at lw_m1 86 rfl) rfl
theorem q170 : (Jvm.Cond.fieldLink "NeverSaid$State" (24 : Nat) "NeverSaid$State" "away" "[I") ∈ lw_all := lw_g (lw_at lw_m1 88 rfl) rfl
theorem q172 : (Jvm.Cond.fieldLink "NeverSaid$State" (28 : Nat) "NeverSaid$State" "friends" "[I") ∈ lw_all := lw_g (lw_at lw_m1 90 rfl) rfl
theorem q174 : (Jvm.Cond.fieldLink "NeverSaid$State" (31 : Nat) "NeverSaid$State" "follows" "[I") ∈ lw_all := lw_g (lw_at lw_m1 92 rfl) rfl
theorem q176 : (Jvm.Cond.fieldLink "NeverSaid$State" (58 : Nat) "NeverSaid$State" "deeds" "I") ∈ lw_all := lw_g (lw_at lw_m1 94 rfl) rfl
theorem q178 : (Jvm.Cond.fieldLink "NeverSaid$State" (36 : Nat) "NeverSaid$State" "deed" "[LNeverSaid$Deed;") ∈ lw_all := lw_g (lw_at lw_m1 96 rfl) rfl
theorem q180 : (Jvm.Cond.fieldLink "NeverSaid$State" (65 : Nat) "NeverSaid$State" "texts" "I") ∈ lw_all := lw_g (lw_at lw_m1 98 rfl) rfl
theorem q182 : (Jvm.Cond.fieldLink "NeverSaid$State" (42 : Nat) "NeverSaid$State" "text" "[LNeverSaid$Text;") ∈ lw_all := lw_g (lw_at lw_m1 100 rfl) rfl
theorem q184 : (Jvm.Cond.lays "NeverSaid$State" "NeverSaid$State" "z" "I") ∈ lw_all := lw_g (lw_at lw_m1 102 rfl) rfl
theorem q185 : (Jvm.Cond.soleField "NeverSaid$State" "z") ∈ lw_all := lw_g (lw_at lw_m1 103 rfl) rfl
theorem q186 : (Jvm.Cond.lays "NeverSaid$State" "NeverSaid$State" "stop" "I") ∈ lw_all := lw_g (lw_at lw_m1 104 rfl) rfl
theorem q187 : (Jvm.Cond.soleField "NeverSaid$State" "stop") ∈ lw_all := lw_g (lw_at lw_m1 105 rfl) rfl
theorem q188 : (Jvm.Cond.lays "NeverSaid$State" "NeverSaid$State" "people" "I") ∈ lw_all := lw_g (lw_at lw_m1 106 rfl) rfl
theorem q189 : (Jvm.Cond.soleField "NeverSaid$State" "people") ∈ lw_all := lw_g (lw_at lw_m1 107 rfl) rfl
theorem q190 : (Jvm.Cond.laysFinal "NeverSaid$State" "NeverSaid$State" "speaker" "[LNeverSaid$Speaker;") ∈ lw_all := lw_g (lw_at lw_m1 108 rfl) rfl
theorem q191 : (Jvm.Cond.soleField "NeverSaid$State" "speaker") ∈ lw_all := lw_g (lw_at lw_m1 109 rfl) rfl
theorem q192 : (Jvm.Cond.laysFinal "NeverSaid$State" "NeverSaid$State" "away" "[I") ∈ lw_all := lw_g (lw_at lw_m1 110 rfl) rfl
theorem q193 : (Jvm.Cond.soleField "NeverSaid$State" "away") ∈ lw_all := lw_g (lw_at lw_m1 111 rfl) rfl
theorem q194 : (Jvm.Cond.laysFinal "NeverSaid$State" "NeverSaid$State" "friends" "[I") ∈ lw_all := lw_g (lw_at lw_m1 112 rfl) rfl
theorem q195 : (Jvm.Cond.soleField "NeverSaid$State" "friends") ∈ lw_all := lw_g (lw_at lw_m1 113 rfl) rfl
theorem q196 : (Jvm.Cond.laysFinal "NeverSaid$State" "NeverSaid$State" "follows" "[I") ∈ lw_all := lw_g (lw_at lw_m1 114 rfl) rfl
theorem q197 : (Jvm.Cond.soleField "NeverSaid$State" "follows") ∈ lw_all := lw_g (lw_at lw_m1 115 rfl) rfl
theorem q198 : (Jvm.Cond.lays "NeverSaid$State" "NeverSaid$State" "deeds" "I") ∈ lw_all := lw_g (lw_at lw_m1 116 rfl) rfl
theorem q199 : (Jvm.Cond.soleField "NeverSaid$State" "deeds") ∈ lw_all := lw_g (lw_at lw_m1 117 rfl) rfl
theorem q200 : (Jvm.Cond.laysFinal "NeverSaid$State" "NeverSaid$State" "deed" "[LNeverSaid$Deed;") ∈ lw_all := lw_g (lw_at lw_m1 118 rfl) rfl
theorem q201 : (Jvm.Cond.soleField "NeverSaid$State" "deed") ∈ lw_all := lw_g (lw_at lw_m1 119 rfl) rfl
theorem q202 : (Jvm.Cond.lays "NeverSaid$State" "NeverSaid$State" "texts" "I") ∈ lw_all := lw_g (lw_at lw_m1 120 rfl) rfl
theorem q203 : (Jvm.Cond.soleField "NeverSaid$State" "texts") ∈ lw_all := lw_g (lw_at lw_m1 121 rfl) rfl
theorem q204 : (Jvm.Cond.laysFinal "NeverSaid$State" "NeverSaid$State" "text" "[LNeverSaid$Text;") ∈ lw_all := lw_g (lw_at lw_m1 122 rfl) rfl
theorem q205 : (Jvm.Cond.soleField "NeverSaid$State" "text") ∈ lw_all := lw_g (lw_at lw_m1 123 rfl) rfl
theorem q206 : (Jvm.Cond.superclass "NeverSaid$State" "java/lang/Object") ∈ lw_all := lw_g (lw_at lw_m1 124 rfl) rfl
theorem q598 : (Jvm.Cond.fieldLink "NeverSaid$State" (82 : Nat) "NeverSaid$Speaker" "bold" "I") ∈ lw_all := lw_g (lw_at lw_m3 36 rfl) rfl
theorem q776 : (Jvm.Cond.instanceMethod ({ cls := "NeverSaid$State", name := "draw", desc := "()I" } : Jvm.MethodName)) ∈ lw_all := lw_g (lw_at lw_m3 214 rfl) rfl
theorem q777 : (Jvm.Cond.selects "NeverSaid$State" ({ cls := "NeverSaid$State", name := "draw", desc := "()I" } : Jvm.MethodName) ({ cls := "NeverSaid$State", name := "draw", desc := "()I" } : Jvm.MethodName)) ∈ lw_all := lw_g (lw_at lw_m3 215 rfl) rfl
theorem q778 : (Jvm.Cond.code ({ cls := "NeverSaid$State", name := "draw", desc := "()I" } : Jvm.MethodName) prog_14_method_4_code (1 : Nat) (Option.some Jvm.ClassFile.FieldType.int)) ∈ lw_all := lw_g (lw_at lw_m3 216 rfl) rfl
theorem q779 : (Jvm.Cond.constant "NeverSaid$State" (85 : Nat) (1103515245 : Int32)) ∈ lw_all := lw_g (lw_at lw_m3 217 rfl) rfl
theorem q803 : (Jvm.Cond.instanceMethod ({ cls := "NeverSaid$State", name := "all", desc := "()I" } : Jvm.MethodName)) ∈ lw_all := lw_g (lw_at lw_m4 1 rfl) rfl
theorem q804 : (Jvm.Cond.selects "NeverSaid$State" ({ cls := "NeverSaid$State", name := "all", desc := "()I" } : Jvm.MethodName) ({ cls := "NeverSaid$State", name := "all", desc := "()I" } : Jvm.MethodName)) ∈ lw_all := lw_g (lw_at lw_m4 2 rfl) rfl
theorem q805 : (Jvm.Cond.code ({ cls := "NeverSaid$State", name := "all", desc := "()I" } : Jvm.MethodName) prog_14_method_5_code (1 : Nat) (Option.some Jvm.ClassFile.FieldType.int)) ∈ lw_all := lw_g (lw_at lw_m4 3 rfl) rfl
theorem q1184 : (Jvm.Cond.instanceMethod ({ cls := "NeverSaid$State", name := "copyOf", desc := "(LNeverSaid$State;)V" } : Jvm.MethodName)) ∈ lw_all := lw_g (lw_at lw_m5 142 rfl) rfl
theorem q1185 : (Jvm.Cond.selects "NeverSaid$State" ({ cls := "NeverSaid$State", name := "copyOf", desc := "(LNeverSaid$State;)V" } : Jvm.MethodName) ({ cls := "NeverSaid$State", name := "copyOf", desc := "(LNeverSaid$State;)V" } : Jvm.MethodName)) ∈ lw_all := lw_g (lw_at lw_m5 143 rfl) rfl
theorem q1186 : (Jvm.Cond.code ({ cls := "NeverSaid$State", name := "copyOf", desc := "(LNeverSaid$State;)V" } : Jvm.MethodName) prog_14_method_2_code (3 : Nat) (Option.none : Option Jvm.ClassFile.FieldType)) ∈ lw_all := lw_g (lw_at lw_m5 144 rfl) rfl
theorem q1187 : (Jvm.Cond.methodLink "NeverSaid$State" (50 : Nat) ({ cls := "NeverSaid$State", name := "takesSpeaker", desc := "(ILNeverSaid$Speaker;)V" } : Jvm.MethodName)) ∈ lw_all := lw_g (lw_at lw_m5 145 rfl) rfl
theorem q1188 : (Jvm.Cond.privateMethod ({ cls := "NeverSaid$State", name := "takesSpeaker", desc := "(ILNeverSaid$Speaker;)V" } : Jvm.MethodName)) ∈ lw_tbl := lw_at lw_m5 146 rfl
theorem q1189 : (Jvm.Cond.instanceMethod ({ cls := "NeverSaid$State", name := "takesSpeaker", desc := "(ILNeverSaid$Speaker;)V" } : Jvm.MethodName)) ∈ lw_all := lw_g (lw_at lw_m5 147 rfl) rfl
theorem q1190 : (Jvm.Cond.code ({ cls := "NeverSaid$State", name := "takesSpeaker", desc := "(ILNeverSaid$Speaker;)V" } : Jvm.MethodName) prog_14_method_3_code (3 : Nat) (Option.none : Option Jvm.ClassFile.FieldType)) ∈ lw_all := lw_g (lw_at lw_m5 148 rfl) rfl
theorem q1191 : (Jvm.Cond.methodLink "NeverSaid$State" (74 : Nat) ({ cls := "NeverSaid$Speaker", name := "kind", desc := "()I" } : Jvm.MethodName)) ∈ lw_all := lw_g (lw_at lw_m5 149 rfl) rfl
theorem q1192 : (Jvm.Cond.methodLink "NeverSaid$State" (78 : Nat) ({ cls := "NeverSaid$Speaker", name := "another", desc := "()LNeverSaid$Speaker;" } : Jvm.MethodName)) ∈ lw_all := lw_g (lw_at lw_m5 150 rfl) rfl
theorem q1193 : (Jvm.Cond.methodLinkNest "NeverSaid$State" (54 : Nat) ({ cls := "NeverSaid", name := "copyRow", desc := "([I[I)V" } : Jvm.MethodName) "NeverSaid") ∈ lw_tbl := lw_at lw_m5 151 rfl
theorem q1196 : (Jvm.Cond.methodLink "NeverSaid$State" (61 : Nat) ({ cls := "NeverSaid$Deed", name := "copyOf", desc := "(LNeverSaid$Deed;)V" } : Jvm.MethodName)) ∈ lw_all := lw_g (lw_at lw_m5 154 rfl) rfl
theorem q1200 : (Jvm.Cond.methodLink "NeverSaid$State" (68 : Nat) ({ cls := "java/lang/System", name := "arraycopy", desc := "(Ljava/lang/Object;ILjava/lang/Object;II)V" } : Jvm.MethodName)) ∈ lw_all := lw_g (lw_at lw_m5 158 rfl) rfl
theorem in_X1 : ∀ w ∈ wsX10, w ∈ lw_all := lw_in wsX10 [184, 186, 188, 190, 192, 194, 196, 198, 200, 202, 204] (by decide +kernel) (by decide +kernel)

/-! NeverSaid$OrderedSpeaker -/
set_option maxRecDepth 100000
def RX10 : String := "NeverSaid$OrderedSpeaker"
def TX10 : u_T := fun k => match k with
  | _ => ("NeverSaid$Speaker", "bold", "I", false)
def tyX10 : Nat → FieldType := fun k => match k with
  | _ => .int
abbrev wsX100 : List Cond := u_ws RX10 TX10 1
theorem nmX10 : ∀ a, a < 1 → ∀ b, b < 1 → a ≠ b → (TX10 a).2.1 ≠ (TX10 b).2.1 := by decide +kernel
theorem tyX10_ok : ∀ k, k < 1 → parseFieldDescriptor (TX10 k).2.2.1 = some (tyX10 k) := by decide +kernel
abbrev cX10_init : ByteArray := prog_9_method_1_code
def yX10_init : MethodName := ⟨RX10, "<init>", "()V"⟩
theorem dX10_init_0 : decode cX10_init 0 = .ok (.aload_n 0, 1) := by decide +kernel
theorem dX10_init_1 : decode cX10_init 1 = .ok (.invokespecial 1, 3) := by decide +kernel
theorem dX10_init_4 : decode cX10_init 4 = .ok (.return_, 1) := by decide +kernel
abbrev cX10_kind : ByteArray := prog_9_method_2_code
def yX10_kind : MethodName := ⟨RX10, "kind", "()I"⟩
def dkwX10_kind_0 : List UInt8 := [42, 183, 0, 7, 5, 96, 172]
abbrev dktX10_kind_0 : List UInt8 := dkwX10_kind_0 ++ []
theorem dksX10_kind_0 : cX10_kind.data.toList.drop 0 = dktX10_kind_0 := by decide +kernel
theorem dX10_kind_0 : decode cX10_kind 0 = .ok (.aload_n 0, 1) := dk_42 (dk_at dksX10_kind_0 0 rfl rfl)
theorem dX10_kind_1 : decode cX10_kind 1 = .ok (.invokespecial 7, 3) := dk_183 0 7 (dk_at dksX10_kind_0 1 rfl rfl)
theorem dX10_kind_4 : decode cX10_kind 4 = .ok (.iconst 2, 1) := dk_5 (dk_at dksX10_kind_0 4 rfl rfl)
theorem dX10_kind_5 : decode cX10_kind 5 = .ok (.iadd, 1) := dk_96 (dk_at dksX10_kind_0 5 rfl rfl)
theorem dX10_kind_6 : decode cX10_kind 6 = .ok (.ireturn, 1) := dk_172 (dk_at dksX10_kind_0 6 rfl rfl)
abbrev cX10_worth : ByteArray := prog_9_method_4_code
def yX10_worth : MethodName := ⟨RX10, "worth", "()I"⟩
def dkwX10_worth_0 : List UInt8 := [5, 42, 183, 0, 20, 104, 172]
abbrev dktX10_worth_0 : List UInt8 := dkwX10_worth_0 ++ []
theorem dksX10_worth_0 : cX10_worth.data.toList.drop 0 = dktX10_worth_0 := by decide +kernel
theorem dX10_worth_0 : decode cX10_worth 0 = .ok (.iconst 2, 1) := dk_5 (dk_at dksX10_worth_0 0 rfl rfl)
theorem dX10_worth_1 : decode cX10_worth 1 = .ok (.aload_n 0, 1) := dk_42 (dk_at dksX10_worth_0 1 rfl rfl)
theorem dX10_worth_2 : decode cX10_worth 2 = .ok (.invokespecial 20, 3) := dk_183 0 20 (dk_at dksX10_worth_0 2 rfl rfl)
theorem dX10_worth_5 : decode cX10_worth 5 = .ok (.imul, 1) := dk_104 (dk_at dksX10_worth_0 5 rfl rfl)
theorem dX10_worth_6 : decode cX10_worth 6 = .ok (.ireturn, 1) := dk_172 (dk_at dksX10_worth_0 6 rfl rfl)
abbrev cX10_pick : ByteArray := prog_9_method_3_code
def yX10_pick : MethodName := ⟨RX10, "pick", "(I)I"⟩
def dkwX10_pick_0 : List UInt8 := [42, 27, 184, 0, 11, 183, 0, 17, 172]
abbrev dktX10_pick_0 : List UInt8 := dkwX10_pick_0 ++ []
theorem dksX10_pick_0 : cX10_pick.data.toList.drop 0 = dktX10_pick_0 := by decide +kernel
theorem dX10_pick_0 : decode cX10_pick 0 = .ok (.aload_n 0, 1) := dk_42 (dk_at dksX10_pick_0 0 rfl rfl)
theorem dX10_pick_1 : decode cX10_pick 1 = .ok (.iload_n 1, 1) := dk_27 (dk_at dksX10_pick_0 1 rfl rfl)
theorem dX10_pick_2 : decode cX10_pick 2 = .ok (.invokestatic 11, 3) := dk_184 0 11 (dk_at dksX10_pick_0 2 rfl rfl)
theorem dX10_pick_5 : decode cX10_pick 5 = .ok (.invokespecial 17, 3) := dk_183 0 17 (dk_at dksX10_pick_0 5 rfl rfl)
theorem dX10_pick_8 : decode cX10_pick 8 = .ok (.ireturn, 1) := dk_172 (dk_at dksX10_pick_0 8 rfl rfl)
abbrev cX10_another : ByteArray := prog_9_method_5_code
def yX10_another : MethodName := ⟨RX10, "another", "()LNeverSaid$Speaker;"⟩
def dkwX10_another_0 : List UInt8 := [187, 0, 23, 89, 183, 0, 25, 176]
abbrev dktX10_another_0 : List UInt8 := dkwX10_another_0 ++ []
theorem dksX10_another_0 : cX10_another.data.toList.drop 0 = dktX10_another_0 := by decide +kernel
theorem dX10_another_0 : decode cX10_another 0 = .ok (.new 23, 3) := dk_187 0 23 (dk_at dksX10_another_0 0 rfl rfl)
theorem dX10_another_3 : decode cX10_another 3 = .ok (.dup, 1) := dk_89 (dk_at dksX10_another_0 3 rfl rfl)
theorem dX10_another_4 : decode cX10_another 4 = .ok (.invokespecial 25, 3) := dk_183 0 25 (dk_at dksX10_another_0 4 rfl rfl)
theorem dX10_another_7 : decode cX10_another 7 = .ok (.areturn, 1) := dk_176 (dk_at dksX10_another_0 7 rfl rfl)
theorem q96 : (Jvm.Cond.initialized "NeverSaid$OrderedSpeaker") ∈ lw_all := lw_g (lw_at lw_m1 14 rfl) rfl
theorem q612 : (Jvm.Cond.instantiable "NeverSaid$OrderedSpeaker" (1 : Nat)) ∈ lw_all := lw_g (lw_at lw_m3 50 rfl) rfl
theorem q614 : (Jvm.Cond.instanceMethod ({ cls := "NeverSaid$OrderedSpeaker", name := "<init>", desc := "()V" } : Jvm.MethodName)) ∈ lw_all := lw_g (lw_at lw_m3 52 rfl) rfl
theorem q615 : (Jvm.Cond.code ({ cls := "NeverSaid$OrderedSpeaker", name := "<init>", desc := "()V" } : Jvm.MethodName) prog_9_method_1_code (1 : Nat) (Option.none : Option Jvm.ClassFile.FieldType)) ∈ lw_all := lw_g (lw_at lw_m3 53 rfl) rfl
theorem q616 : (Jvm.Cond.methodLinkNest "NeverSaid$OrderedSpeaker" (1 : Nat) ({ cls := "NeverSaid$SureSpeaker", name := "<init>", desc := "()V" } : Jvm.MethodName) "NeverSaid") ∈ lw_tbl := lw_at lw_m3 54 rfl
theorem q617 : (Jvm.Cond.lays "NeverSaid$OrderedSpeaker" "NeverSaid$Speaker" "bold" "I") ∈ lw_all := lw_g (lw_at lw_m3 55 rfl) rfl
theorem q618 : (Jvm.Cond.superclass "NeverSaid$OrderedSpeaker" "NeverSaid$SureSpeaker") ∈ lw_all := lw_g (lw_at lw_m3 56 rfl) rfl
theorem q662 : (Jvm.Cond.selects "NeverSaid$OrderedSpeaker" ({ cls := "NeverSaid$Speaker", name := "kind", desc := "()I" } : Jvm.MethodName) ({ cls := "NeverSaid$OrderedSpeaker", name := "kind", desc := "()I" } : Jvm.MethodName)) ∈ lw_all := lw_g (lw_at lw_m3 100 rfl) rfl
theorem q663 : (Jvm.Cond.instanceMethod ({ cls := "NeverSaid$OrderedSpeaker", name := "kind", desc := "()I" } : Jvm.MethodName)) ∈ lw_all := lw_g (lw_at lw_m3 101 rfl) rfl
theorem q664 : (Jvm.Cond.code ({ cls := "NeverSaid$OrderedSpeaker", name := "kind", desc := "()I" } : Jvm.MethodName) prog_9_method_2_code (1 : Nat) (Option.some Jvm.ClassFile.FieldType.int)) ∈ lw_all := lw_g (lw_at lw_m3 102 rfl) rfl
theorem q665 : (Jvm.Cond.methodLink "NeverSaid$OrderedSpeaker" (7 : Nat) ({ cls := "NeverSaid$SureSpeaker", name := "kind", desc := "()I" } : Jvm.MethodName)) ∈ lw_all := lw_g (lw_at lw_m3 103 rfl) rfl
theorem q696 : (Jvm.Cond.selects "NeverSaid$OrderedSpeaker" ({ cls := "NeverSaid$Speaker", name := "worth", desc := "()I" } : Jvm.MethodName) ({ cls := "NeverSaid$OrderedSpeaker", name := "worth", desc := "()I" } : Jvm.MethodName)) ∈ lw_all := lw_g (lw_at lw_m3 134 rfl) rfl
theorem q697 : (Jvm.Cond.instanceMethod ({ cls := "NeverSaid$OrderedSpeaker", name := "worth", desc := "()I" } : Jvm.MethodName)) ∈ lw_all := lw_g (lw_at lw_m3 135 rfl) rfl
theorem q698 : (Jvm.Cond.code ({ cls := "NeverSaid$OrderedSpeaker", name := "worth", desc := "()I" } : Jvm.MethodName) prog_9_method_4_code (1 : Nat) (Option.some Jvm.ClassFile.FieldType.int)) ∈ lw_all := lw_g (lw_at lw_m3 136 rfl) rfl
theorem q699 : (Jvm.Cond.methodLink "NeverSaid$OrderedSpeaker" (20 : Nat) ({ cls := "NeverSaid$SureSpeaker", name := "worth", desc := "()I" } : Jvm.MethodName)) ∈ lw_all := lw_g (lw_at lw_m3 137 rfl) rfl
theorem q902 : (Jvm.Cond.castable "NeverSaid$OrderedSpeaker" "NeverSaid$Chooses") ∈ lw_tbl := lw_at lw_m4 100 rfl
theorem q903 : (Jvm.Cond.selects "NeverSaid$OrderedSpeaker" ({ cls := "NeverSaid$Picks", name := "pick", desc := "(I)I" } : Jvm.MethodName) ({ cls := "NeverSaid$OrderedSpeaker", name := "pick", desc := "(I)I" } : Jvm.MethodName)) ∈ lw_all := lw_g (lw_at lw_m4 101 rfl) rfl
theorem q904 : (Jvm.Cond.unhidden "NeverSaid$OrderedSpeaker" "pick" "(I)I") ∈ lw_tbl := lw_at lw_m4 102 rfl
theorem q905 : (Jvm.Cond.instanceMethod ({ cls := "NeverSaid$OrderedSpeaker", name := "pick", desc := "(I)I" } : Jvm.MethodName)) ∈ lw_all := lw_g (lw_at lw_m4 103 rfl) rfl
theorem q906 : (Jvm.Cond.publicMethod ({ cls := "NeverSaid$OrderedSpeaker", name := "pick", desc := "(I)I" } : Jvm.MethodName)) ∈ lw_tbl := lw_at lw_m4 104 rfl
theorem q907 : (Jvm.Cond.code ({ cls := "NeverSaid$OrderedSpeaker", name := "pick", desc := "(I)I" } : Jvm.MethodName) prog_9_method_3_code (2 : Nat) (Option.some Jvm.ClassFile.FieldType.int)) ∈ lw_all := lw_g (lw_at lw_m4 105 rfl) rfl
theorem q908 : (Jvm.Cond.methodLink "NeverSaid$OrderedSpeaker" (11 : Nat) ({ cls := "java/lang/Integer", name := "highestOneBit", desc := "(I)I" } : Jvm.MethodName)) ∈ lw_all := lw_g (lw_at lw_m4 106 rfl) rfl
theorem q927 : (Jvm.Cond.selects "NeverSaid$OrderedSpeaker" ({ cls := "NeverSaid$Chooses", name := "choice", desc := "(IIII)I" } : Jvm.MethodName) ({ cls := "NeverSaid$SureSpeaker", name := "choice", desc := "(IIII)I" } : Jvm.MethodName)) ∈ lw_all := lw_g (lw_at lw_m4 125 rfl) rfl
theorem q928 : (Jvm.Cond.unhidden "NeverSaid$OrderedSpeaker" "choice" "(IIII)I") ∈ lw_tbl := lw_at lw_m4 126 rfl
theorem q1087 : (Jvm.Cond.selects "NeverSaid$OrderedSpeaker" ({ cls := "NeverSaid$Speaker", name := "copy", desc := "()LNeverSaid$Speaker;" } : Jvm.MethodName) ({ cls := "NeverSaid$Speaker", name := "copy", desc := "()LNeverSaid$Speaker;" } : Jvm.MethodName)) ∈ lw_all := lw_g (lw_at lw_m5 45 rfl) rfl
theorem q1109 : (Jvm.Cond.selects "NeverSaid$OrderedSpeaker" ({ cls := "NeverSaid$Speaker", name := "another", desc := "()LNeverSaid$Speaker;" } : Jvm.MethodName) ({ cls := "NeverSaid$OrderedSpeaker", name := "another", desc := "()LNeverSaid$Speaker;" } : Jvm.MethodName)) ∈ lw_all := lw_g (lw_at lw_m5 67 rfl) rfl
theorem q1110 : (Jvm.Cond.instanceMethod ({ cls := "NeverSaid$OrderedSpeaker", name := "another", desc := "()LNeverSaid$Speaker;" } : Jvm.MethodName)) ∈ lw_all := lw_g (lw_at lw_m5 68 rfl) rfl
theorem q1111 : (Jvm.Cond.code ({ cls := "NeverSaid$OrderedSpeaker", name := "another", desc := "()LNeverSaid$Speaker;" } : Jvm.MethodName) prog_9_method_5_code (1 : Nat) (Option.some (Jvm.ClassFile.FieldType.object "NeverSaid$Speaker"))) ∈ lw_all := lw_g (lw_at lw_m5 69 rfl) rfl
theorem q1112 : (Jvm.Cond.classLink "NeverSaid$OrderedSpeaker" (23 : Nat) "NeverSaid$OrderedSpeaker") ∈ lw_all := lw_g (lw_at lw_m5 70 rfl) rfl
theorem q1113 : (Jvm.Cond.methodLink "NeverSaid$OrderedSpeaker" (25 : Nat) ({ cls := "NeverSaid$OrderedSpeaker", name := "<init>", desc := "()V" } : Jvm.MethodName)) ∈ lw_all := lw_g (lw_at lw_m5 71 rfl) rfl
theorem q1154 : (Jvm.Cond.selects "NeverSaid$OrderedSpeaker" ({ cls := "NeverSaid$Chooses", name := "worth", desc := "()I" } : Jvm.MethodName) ({ cls := "NeverSaid$OrderedSpeaker", name := "worth", desc := "()I" } : Jvm.MethodName)) ∈ lw_all := lw_g (lw_at lw_m5 112 rfl) rfl
theorem q1155 : (Jvm.Cond.unhidden "NeverSaid$OrderedSpeaker" "worth" "()I") ∈ lw_tbl := lw_at lw_m5 113 rfl
theorem q1156 : (Jvm.Cond.publicMethod ({ cls := "NeverSaid$OrderedSpeaker", name := "worth", desc := "()I" } : Jvm.MethodName)) ∈ lw_tbl := lw_at lw_m5 114 rfl
theorem q1719 : (Jvm.Cond.castable "NeverSaid$OrderedSpeaker" "NeverSaid$SureSpeaker") ∈ lw_tbl := lw_at lw_m7 197 rfl
theorem q1724 : (Jvm.Cond.castable "NeverSaid$OrderedSpeaker" "NeverSaid$Speaker") ∈ lw_tbl := lw_at lw_m7 202 rfl
theorem in_X10 : ∀ w ∈ wsX100, w ∈ lw_all := lw_in wsX100 [617] (by decide +kernel) (by decide +kernel)

/-! NeverSaid$BoughtSpeaker -/
set_option maxRecDepth 100000
def RX11 : String := "NeverSaid$BoughtSpeaker"
def TX11 : u_T := fun k => match k with
  | _ => ("NeverSaid$Speaker", "bold", "I", false)
def tyX11 : Nat → FieldType := fun k => match k with
  | _ => .int
abbrev wsX110 : List Cond := u_ws RX11 TX11 1
theorem nmX11 : ∀ a, a < 1 → ∀ b, b < 1 → a ≠ b → (TX11 a).2.1 ≠ (TX11 b).2.1 := by decide +kernel
theorem tyX11_ok : ∀ k, k < 1 → parseFieldDescriptor (TX11 k).2.2.1 = some (tyX11 k) := by decide +kernel
abbrev cX11_init : ByteArray := prog_2_method_1_code
def yX11_init : MethodName := ⟨RX11, "<init>", "()V"⟩
theorem dX11_init_0 : decode cX11_init 0 = .ok (.aload_n 0, 1) := by decide +kernel
theorem dX11_init_1 : decode cX11_init 1 = .ok (.invokespecial 3, 3) := by decide +kernel
theorem dX11_init_4 : decode cX11_init 4 = .ok (.return_, 1) := by decide +kernel
abbrev cX11_kind : ByteArray := prog_2_method_2_code
def yX11_kind : MethodName := ⟨RX11, "kind", "()I"⟩
def dkwX11_kind_0 : List UInt8 := [42, 183, 0, 9, 5, 96, 172]
abbrev dktX11_kind_0 : List UInt8 := dkwX11_kind_0 ++ []
theorem dksX11_kind_0 : cX11_kind.data.toList.drop 0 = dktX11_kind_0 := by decide +kernel
theorem dX11_kind_0 : decode cX11_kind 0 = .ok (.aload_n 0, 1) := dk_42 (dk_at dksX11_kind_0 0 rfl rfl)
theorem dX11_kind_1 : decode cX11_kind 1 = .ok (.invokespecial 9, 3) := dk_183 0 9 (dk_at dksX11_kind_0 1 rfl rfl)
theorem dX11_kind_4 : decode cX11_kind 4 = .ok (.iconst 2, 1) := dk_5 (dk_at dksX11_kind_0 4 rfl rfl)
theorem dX11_kind_5 : decode cX11_kind 5 = .ok (.iadd, 1) := dk_96 (dk_at dksX11_kind_0 5 rfl rfl)
theorem dX11_kind_6 : decode cX11_kind 6 = .ok (.ireturn, 1) := dk_172 (dk_at dksX11_kind_0 6 rfl rfl)
abbrev cX11_worth : ByteArray := prog_2_method_4_code
def yX11_worth : MethodName := ⟨RX11, "worth", "()I"⟩
def dkwX11_worth_0 : List UInt8 := [42, 183, 0, 23, 16, 7, 100, 172]
abbrev dktX11_worth_0 : List UInt8 := dkwX11_worth_0 ++ []
theorem dksX11_worth_0 : cX11_worth.data.toList.drop 0 = dktX11_worth_0 := by decide +kernel
theorem dX11_worth_0 : decode cX11_worth 0 = .ok (.aload_n 0, 1) := dk_42 (dk_at dksX11_worth_0 0 rfl rfl)
theorem dX11_worth_1 : decode cX11_worth 1 = .ok (.invokespecial 23, 3) := dk_183 0 23 (dk_at dksX11_worth_0 1 rfl rfl)
theorem dX11_worth_4 : decode cX11_worth 4 = .ok (.bipush 7, 2) := dk_16 7 (dk_at dksX11_worth_0 4 rfl rfl)
theorem dX11_worth_6 : decode cX11_worth 6 = .ok (.isub, 1) := dk_100 (dk_at dksX11_worth_0 6 rfl rfl)
theorem dX11_worth_7 : decode cX11_worth 7 = .ok (.ireturn, 1) := dk_172 (dk_at dksX11_worth_0 7 rfl rfl)
abbrev cX11_choice : ByteArray := prog_2_method_3_code
def yX11_choice : MethodName := ⟨RX11, "choice", "(IIII)I"⟩
def dkwX11_choice_0 : List UInt8 := [21, 4, 42, 180, 0, 13, 164, 0, 7, 2, 167, 0, 12, 42, 27, 28, 29, 21, 4, 183, 0, 19, 172]
abbrev dktX11_choice_0 : List UInt8 := dkwX11_choice_0 ++ []
theorem dksX11_choice_0 : cX11_choice.data.toList.drop 0 = dktX11_choice_0 := by decide +kernel
theorem dX11_choice_0 : decode cX11_choice 0 = .ok (.iload 4, 2) := dk_21 4 (dk_at dksX11_choice_0 0 rfl rfl)
theorem dX11_choice_2 : decode cX11_choice 2 = .ok (.aload_n 0, 1) := dk_42 (dk_at dksX11_choice_0 2 rfl rfl)
theorem dX11_choice_3 : decode cX11_choice 3 = .ok (.getfield 13, 3) := dk_180 0 13 (dk_at dksX11_choice_0 3 rfl rfl)
theorem dX11_choice_6 : decode cX11_choice 6 = .ok (.if_icmp .le 7, 3) := dk_164 0 7 (dk_at dksX11_choice_0 6 rfl rfl)
theorem dX11_choice_9 : decode cX11_choice 9 = .ok (.iconst (-1), 1) := dk_2 (dk_at dksX11_choice_0 9 rfl rfl)
theorem dX11_choice_10 : decode cX11_choice 10 = .ok (.goto 12, 3) := dk_167 0 12 (dk_at dksX11_choice_0 10 rfl rfl)
theorem dX11_choice_13 : decode cX11_choice 13 = .ok (.aload_n 0, 1) := dk_42 (dk_at dksX11_choice_0 13 rfl rfl)
theorem dX11_choice_14 : decode cX11_choice 14 = .ok (.iload_n 1, 1) := dk_27 (dk_at dksX11_choice_0 14 rfl rfl)
theorem dX11_choice_15 : decode cX11_choice 15 = .ok (.iload_n 2, 1) := dk_28 (dk_at dksX11_choice_0 15 rfl rfl)
theorem dX11_choice_16 : decode cX11_choice 16 = .ok (.iload_n 3, 1) := dk_29 (dk_at dksX11_choice_0 16 rfl rfl)
theorem dX11_choice_17 : decode cX11_choice 17 = .ok (.iload 4, 2) := dk_21 4 (dk_at dksX11_choice_0 17 rfl rfl)
theorem dX11_choice_19 : decode cX11_choice 19 = .ok (.invokespecial 19, 3) := dk_183 0 19 (dk_at dksX11_choice_0 19 rfl rfl)
theorem dX11_choice_22 : decode cX11_choice 22 = .ok (.ireturn, 1) := dk_172 (dk_at dksX11_choice_0 22 rfl rfl)
abbrev cX11_another : ByteArray := prog_2_method_5_code
def yX11_another : MethodName := ⟨RX11, "another", "()LNeverSaid$Speaker;"⟩
def dkwX11_another_0 : List UInt8 := [187, 0, 14, 89, 183, 0, 26, 176]
abbrev dktX11_another_0 : List UInt8 := dkwX11_another_0 ++ []
theorem dksX11_another_0 : cX11_another.data.toList.drop 0 = dktX11_another_0 := by decide +kernel
theorem dX11_another_0 : decode cX11_another 0 = .ok (.new 14, 3) := dk_187 0 14 (dk_at dksX11_another_0 0 rfl rfl)
theorem dX11_another_3 : decode cX11_another 3 = .ok (.dup, 1) := dk_89 (dk_at dksX11_another_0 3 rfl rfl)
theorem dX11_another_4 : decode cX11_another 4 = .ok (.invokespecial 26, 3) := dk_183 0 26 (dk_at dksX11_another_0 4 rfl rfl)
theorem dX11_another_7 : decode cX11_another 7 = .ok (.areturn, 1) := dk_176 (dk_at dksX11_another_0 7 rfl rfl)
theorem q97 : (Jvm.Cond.initialized "NeverSaid$BoughtSpeaker") ∈ lw_all := lw_g (lw_at lw_m1 15 rfl) rfl
theorem q596 : (Jvm.Cond.fieldLink "NeverSaid$BoughtSpeaker" (13 : Nat) "NeverSaid$BoughtSpeaker" "bold" "I") ∈ lw_all := lw_g (lw_at lw_m3 34 rfl) rfl
theorem q597 : (Jvm.Cond.sameField "NeverSaid$BoughtSpeaker" "NeverSaid$Speaker" "bold" "I") ∈ lw_all := lw_g (lw_at lw_m3 35 rfl) rfl
theorem q620 : (Jvm.Cond.instantiable "NeverSaid$BoughtSpeaker" (1 : Nat)) ∈ lw_all := lw_g (lw_at lw_m3 58 rfl) rfl
theorem q622 : (Jvm.Cond.instanceMethod ({ cls := "NeverSaid$BoughtSpeaker", name := "<init>", desc := "()V" } : Jvm.MethodName)) ∈ lw_all := lw_g (lw_at lw_m3 60 rfl) rfl
theorem q623 : (Jvm.Cond.code ({ cls := "NeverSaid$BoughtSpeaker", name := "<init>", desc := "()V" } : Jvm.MethodName) prog_2_method_1_code (1 : Nat) (Option.none : Option Jvm.ClassFile.FieldType)) ∈ lw_all := lw_g (lw_at lw_m3 61 rfl) rfl
theorem q624 : (Jvm.Cond.methodLinkNest "NeverSaid$BoughtSpeaker" (3 : Nat) ({ cls := "NeverSaid$LoyalSpeaker", name := "<init>", desc := "()V" } : Jvm.MethodName) "NeverSaid") ∈ lw_tbl := lw_at lw_m3 62 rfl
theorem q625 : (Jvm.Cond.lays "NeverSaid$BoughtSpeaker" "NeverSaid$Speaker" "bold" "I") ∈ lw_all := lw_g (lw_at lw_m3 63 rfl) rfl
theorem q626 : (Jvm.Cond.superclass "NeverSaid$BoughtSpeaker" "NeverSaid$LoyalSpeaker") ∈ lw_all := lw_g (lw_at lw_m3 64 rfl) rfl
theorem q652 : (Jvm.Cond.selects "NeverSaid$BoughtSpeaker" ({ cls := "NeverSaid$Speaker", name := "kind", desc := "()I" } : Jvm.MethodName) ({ cls := "NeverSaid$BoughtSpeaker", name := "kind", desc := "()I" } : Jvm.MethodName)) ∈ lw_all := lw_g (lw_at lw_m3 90 rfl) rfl
theorem q653 : (Jvm.Cond.instanceMethod ({ cls := "NeverSaid$BoughtSpeaker", name := "kind", desc := "()I" } : Jvm.MethodName)) ∈ lw_all := lw_g (lw_at lw_m3 91 rfl) rfl
theorem q654 : (Jvm.Cond.code ({ cls := "NeverSaid$BoughtSpeaker", name := "kind", desc := "()I" } : Jvm.MethodName) prog_2_method_2_code (1 : Nat) (Option.some Jvm.ClassFile.FieldType.int)) ∈ lw_all := lw_g (lw_at lw_m3 92 rfl) rfl
theorem q655 : (Jvm.Cond.methodLink "NeverSaid$BoughtSpeaker" (9 : Nat) ({ cls := "NeverSaid$LoyalSpeaker", name := "kind", desc := "()I" } : Jvm.MethodName)) ∈ lw_all := lw_g (lw_at lw_m3 93 rfl) rfl
theorem q684 : (Jvm.Cond.selects "NeverSaid$BoughtSpeaker" ({ cls := "NeverSaid$Speaker", name := "worth", desc := "()I" } : Jvm.MethodName) ({ cls := "NeverSaid$BoughtSpeaker", name := "worth", desc := "()I" } : Jvm.MethodName)) ∈ lw_all := lw_g (lw_at lw_m3 122 rfl) rfl
theorem q685 : (Jvm.Cond.instanceMethod ({ cls := "NeverSaid$BoughtSpeaker", name := "worth", desc := "()I" } : Jvm.MethodName)) ∈ lw_all := lw_g (lw_at lw_m3 123 rfl) rfl
theorem q686 : (Jvm.Cond.code ({ cls := "NeverSaid$BoughtSpeaker", name := "worth", desc := "()I" } : Jvm.MethodName) prog_2_method_4_code (1 : Nat) (Option.some Jvm.ClassFile.FieldType.int)) ∈ lw_all := lw_g (lw_at lw_m3 124 rfl) rfl
theorem q687 : (Jvm.Cond.methodLink "NeverSaid$BoughtSpeaker" (23 : Nat) ({ cls := "NeverSaid$LoyalSpeaker", name := "worth", desc := "()I" } : Jvm.MethodName)) ∈ lw_all := lw_g (lw_at lw_m3 125 rfl) rfl
theorem q877 : (Jvm.Cond.castable "NeverSaid$BoughtSpeaker" "NeverSaid$Chooses") ∈ lw_tbl := lw_at lw_m4 75 rfl
theorem q878 : (Jvm.Cond.selects "NeverSaid$BoughtSpeaker" ({ cls := "NeverSaid$Chooses", name := "choice", desc := "(IIII)I" } : Jvm.MethodName) ({ cls := "NeverSaid$BoughtSpeaker", name := "choice", desc := "(IIII)I" } : Jvm.MethodName)) ∈ lw_all := lw_g (lw_at lw_m4 76 rfl) rfl
theorem q879 : (Jvm.Cond.unhidden "NeverSaid$BoughtSpeaker" "choice" "(IIII)I") ∈ lw_tbl := lw_at lw_m4 77 rfl
theorem q880 : (Jvm.Cond.instanceMethod ({ cls := "NeverSaid$BoughtSpeaker", name := "choice", desc := "(IIII)I" } : Jvm.MethodName)) ∈ lw_all := lw_g (lw_at lw_m4 78 rfl) rfl
theorem q881 : (Jvm.Cond.publicMethod ({ cls := "NeverSaid$BoughtSpeaker", name := "choice", desc := "(IIII)I" } : Jvm.MethodName)) ∈ lw_tbl := lw_at lw_m4 79 rfl
theorem q882 : (Jvm.Cond.code ({ cls := "NeverSaid$BoughtSpeaker", name := "choice", desc := "(IIII)I" } : Jvm.MethodName) prog_2_method_3_code (5 : Nat) (Option.some Jvm.ClassFile.FieldType.int)) ∈ lw_all := lw_g (lw_at lw_m4 80 rfl) rfl
theorem q883 : (Jvm.Cond.methodLink "NeverSaid$BoughtSpeaker" (19 : Nat) ({ cls := "NeverSaid$LoyalSpeaker", name := "choice", desc := "(IIII)I" } : Jvm.MethodName)) ∈ lw_all := lw_g (lw_at lw_m4 81 rfl) rfl
theorem q887 : (Jvm.Cond.unhidden "NeverSaid$BoughtSpeaker" "pick" "(I)I") ∈ lw_tbl := lw_at lw_m4 85 rfl
theorem q1084 : (Jvm.Cond.selects "NeverSaid$BoughtSpeaker" ({ cls := "NeverSaid$Speaker", name := "copy", desc := "()LNeverSaid$Speaker;" } : Jvm.MethodName) ({ cls := "NeverSaid$Speaker", name := "copy", desc := "()LNeverSaid$Speaker;" } : Jvm.MethodName)) ∈ lw_all := lw_g (lw_at lw_m5 42 rfl) rfl
theorem q1094 : (Jvm.Cond.selects "NeverSaid$BoughtSpeaker" ({ cls := "NeverSaid$Speaker", name := "another", desc := "()LNeverSaid$Speaker;" } : Jvm.MethodName) ({ cls := "NeverSaid$BoughtSpeaker", name := "another", desc := "()LNeverSaid$Speaker;" } : Jvm.MethodName)) ∈ lw_all := lw_g (lw_at lw_m5 52 rfl) rfl
theorem q1095 : (Jvm.Cond.instanceMethod ({ cls := "NeverSaid$BoughtSpeaker", name := "another", desc := "()LNeverSaid$Speaker;" } : Jvm.MethodName)) ∈ lw_all := lw_g (lw_at lw_m5 53 rfl) rfl
theorem q1096 : (Jvm.Cond.code ({ cls := "NeverSaid$BoughtSpeaker", name := "another", desc := "()LNeverSaid$Speaker;" } : Jvm.MethodName) prog_2_method_5_code (1 : Nat) (Option.some (Jvm.ClassFile.FieldType.object "NeverSaid$Speaker"))) ∈ lw_all := lw_g (lw_at lw_m5 54 rfl) rfl
theorem q1097 : (Jvm.Cond.classLink "NeverSaid$BoughtSpeaker" (14 : Nat) "NeverSaid$BoughtSpeaker") ∈ lw_all := lw_g (lw_at lw_m5 55 rfl) rfl
theorem q1098 : (Jvm.Cond.methodLink "NeverSaid$BoughtSpeaker" (26 : Nat) ({ cls := "NeverSaid$BoughtSpeaker", name := "<init>", desc := "()V" } : Jvm.MethodName)) ∈ lw_all := lw_g (lw_at lw_m5 56 rfl) rfl
theorem q1145 : (Jvm.Cond.selects "NeverSaid$BoughtSpeaker" ({ cls := "NeverSaid$Chooses", name := "worth", desc := "()I" } : Jvm.MethodName) ({ cls := "NeverSaid$BoughtSpeaker", name := "worth", desc := "()I" } : Jvm.MethodName)) ∈ lw_all := lw_g (lw_at lw_m5 103 rfl) rfl
theorem q1146 : (Jvm.Cond.unhidden "NeverSaid$BoughtSpeaker" "worth" "()I") ∈ lw_tbl := lw_at lw_m5 104 rfl
theorem q1147 : (Jvm.Cond.publicMethod ({ cls := "NeverSaid$BoughtSpeaker", name := "worth", desc := "()I" } : Jvm.MethodName)) ∈ lw_tbl := lw_at lw_m5 105 rfl
theorem q1720 : (Jvm.Cond.castable "NeverSaid$BoughtSpeaker" "NeverSaid$LoyalSpeaker") ∈ lw_tbl := lw_at lw_m7 198 rfl
theorem q1721 : (Jvm.Cond.castable "NeverSaid$BoughtSpeaker" "NeverSaid$Speaker") ∈ lw_tbl := lw_at lw_m7 199 rfl
theorem in_X11 : ∀ w ∈ wsX110, w ∈ lw_all := lw_in wsX110 [625] (by decide +kernel) (by decide +kernel)

/-! NeverSaid$LyingSpeaker -/
set_option maxRecDepth 100000
def RX12 : String := "NeverSaid$LyingSpeaker"
def TX12 : u_T := fun k => match k with
  | _ => ("NeverSaid$Speaker", "bold", "I", false)
def tyX12 : Nat → FieldType := fun k => match k with
  | _ => .int
abbrev wsX120 : List Cond := u_ws RX12 TX12 1
theorem nmX12 : ∀ a, a < 1 → ∀ b, b < 1 → a ≠ b → (TX12 a).2.1 ≠ (TX12 b).2.1 := by decide +kernel
theorem tyX12_ok : ∀ k, k < 1 → parseFieldDescriptor (TX12 k).2.2.1 = some (tyX12 k) := by decide +kernel
abbrev cX12_init : ByteArray := prog_8_method_1_code
def yX12_init : MethodName := ⟨RX12, "<init>", "()V"⟩
theorem dX12_init_0 : decode cX12_init 0 = .ok (.aload_n 0, 1) := by decide +kernel
theorem dX12_init_1 : decode cX12_init 1 = .ok (.invokespecial 3, 3) := by decide +kernel
theorem dX12_init_4 : decode cX12_init 4 = .ok (.return_, 1) := by decide +kernel
abbrev cX12_kind : ByteArray := prog_8_method_2_code
def yX12_kind : MethodName := ⟨RX12, "kind", "()I"⟩
theorem dX12_kind_0 : decode cX12_kind 0 = .ok (.iconst 5, 1) := by decide +kernel
theorem dX12_kind_1 : decode cX12_kind 1 = .ok (.ireturn, 1) := by decide +kernel
abbrev cX12_worth : ByteArray := prog_8_method_4_code
def yX12_worth : MethodName := ⟨RX12, "worth", "()I"⟩
def dkwX12_worth_0 : List UInt8 := [16, 10, 42, 183, 0, 19, 104, 172]
abbrev dktX12_worth_0 : List UInt8 := dkwX12_worth_0 ++ []
theorem dksX12_worth_0 : cX12_worth.data.toList.drop 0 = dktX12_worth_0 := by decide +kernel
theorem dX12_worth_0 : decode cX12_worth 0 = .ok (.bipush 10, 2) := dk_16 10 (dk_at dksX12_worth_0 0 rfl rfl)
theorem dX12_worth_2 : decode cX12_worth 2 = .ok (.aload_n 0, 1) := dk_42 (dk_at dksX12_worth_0 2 rfl rfl)
theorem dX12_worth_3 : decode cX12_worth 3 = .ok (.invokespecial 19, 3) := dk_183 0 19 (dk_at dksX12_worth_0 3 rfl rfl)
theorem dX12_worth_6 : decode cX12_worth 6 = .ok (.imul, 1) := dk_104 (dk_at dksX12_worth_0 6 rfl rfl)
theorem dX12_worth_7 : decode cX12_worth 7 = .ok (.ireturn, 1) := dk_172 (dk_at dksX12_worth_0 7 rfl rfl)
abbrev cX12_choice : ByteArray := prog_8_method_3_code
def yX12_choice : MethodName := ⟨RX12, "choice", "(IIII)I"⟩
def dkwX12_choice_1 : List UInt8 := [183, 0, 15, 172]
abbrev dktX12_choice_1 : List UInt8 := dkwX12_choice_1 ++ []
def dkwX12_choice_0 : List UInt8 := [27, 28, 126, 153, 0, 13, 42, 27, 28, 126, 182, 0, 9, 167, 0, 12, 42, 27, 28, 29, 21, 4]
abbrev dktX12_choice_0 : List UInt8 := dkwX12_choice_0 ++ dktX12_choice_1
theorem dksX12_choice_0 : cX12_choice.data.toList.drop 0 = dktX12_choice_0 := by decide +kernel
theorem dksX12_choice_1 : cX12_choice.data.toList.drop 22 = dktX12_choice_1 := dk_seg dksX12_choice_0 22 rfl rfl
theorem dX12_choice_0 : decode cX12_choice 0 = .ok (.iload_n 1, 1) := dk_27 (dk_at dksX12_choice_0 0 rfl rfl)
theorem dX12_choice_1 : decode cX12_choice 1 = .ok (.iload_n 2, 1) := dk_28 (dk_at dksX12_choice_0 1 rfl rfl)
theorem dX12_choice_2 : decode cX12_choice 2 = .ok (.iand, 1) := dk_126 (dk_at dksX12_choice_0 2 rfl rfl)
theorem dX12_choice_3 : decode cX12_choice 3 = .ok (.ifCond .eq 13, 3) := dk_153 0 13 (dk_at dksX12_choice_0 3 rfl rfl)
theorem dX12_choice_6 : decode cX12_choice 6 = .ok (.aload_n 0, 1) := dk_42 (dk_at dksX12_choice_0 6 rfl rfl)
theorem dX12_choice_7 : decode cX12_choice 7 = .ok (.iload_n 1, 1) := dk_27 (dk_at dksX12_choice_0 7 rfl rfl)
theorem dX12_choice_8 : decode cX12_choice 8 = .ok (.iload_n 2, 1) := dk_28 (dk_at dksX12_choice_0 8 rfl rfl)
theorem dX12_choice_9 : decode cX12_choice 9 = .ok (.iand, 1) := dk_126 (dk_at dksX12_choice_0 9 rfl rfl)
theorem dX12_choice_10 : decode cX12_choice 10 = .ok (.invokevirtual 9, 3) := dk_182 0 9 (dk_at dksX12_choice_0 10 rfl rfl)
theorem dX12_choice_13 : decode cX12_choice 13 = .ok (.goto 12, 3) := dk_167 0 12 (dk_at dksX12_choice_0 13 rfl rfl)
theorem dX12_choice_16 : decode cX12_choice 16 = .ok (.aload_n 0, 1) := dk_42 (dk_at dksX12_choice_0 16 rfl rfl)
theorem dX12_choice_17 : decode cX12_choice 17 = .ok (.iload_n 1, 1) := dk_27 (dk_at dksX12_choice_0 17 rfl rfl)
theorem dX12_choice_18 : decode cX12_choice 18 = .ok (.iload_n 2, 1) := dk_28 (dk_at dksX12_choice_0 18 rfl rfl)
theorem dX12_choice_19 : decode cX12_choice 19 = .ok (.iload_n 3, 1) := dk_29 (dk_at dksX12_choice_0 19 rfl rfl)
theorem dX12_choice_20 : decode cX12_choice 20 = .ok (.iload 4, 2) := dk_21 4 (dk_at dksX12_choice_0 20 rfl rfl)
theorem dX12_choice_22 : decode cX12_choice 22 = .ok (.invokespecial 15, 3) := dk_183 0 15 (dk_at dksX12_choice_1 0 rfl rfl)
theorem dX12_choice_25 : decode cX12_choice 25 = .ok (.ireturn, 1) := dk_172 (dk_at dksX12_choice_1 3 rfl rfl)
abbrev cX12_another : ByteArray := prog_8_method_5_code
def yX12_another : MethodName := ⟨RX12, "another", "()LNeverSaid$Speaker;"⟩
def dkwX12_another_0 : List UInt8 := [187, 0, 10, 89, 183, 0, 23, 176]
abbrev dktX12_another_0 : List UInt8 := dkwX12_another_0 ++ []
theorem dksX12_another_0 : cX12_another.data.toList.drop 0 = dktX12_another_0 := by decide +kernel
theorem dX12_another_0 : decode cX12_another 0 = .ok (.new 10, 3) := dk_187 0 10 (dk_at dksX12_another_0 0 rfl rfl)
theorem dX12_another_3 : decode cX12_another 3 = .ok (.dup, 1) := dk_89 (dk_at dksX12_another_0 3 rfl rfl)
theorem dX12_another_4 : decode cX12_another 4 = .ok (.invokespecial 23, 3) := dk_183 0 23 (dk_at dksX12_another_0 4 rfl rfl)
theorem dX12_another_7 : decode cX12_another 7 = .ok (.areturn, 1) := dk_176 (dk_at dksX12_another_0 7 rfl rfl)
theorem q98 : (Jvm.Cond.initialized "NeverSaid$LyingSpeaker") ∈ lw_all := lw_g (lw_at lw_m1 16 rfl) rfl
theorem q628 : (Jvm.Cond.instantiable "NeverSaid$LyingSpeaker" (1 : Nat)) ∈ lw_all := lw_g (lw_at lw_m3 66 rfl) rfl
theorem q630 : (Jvm.Cond.instanceMethod ({ cls := "NeverSaid$LyingSpeaker", name := "<init>", desc := "()V" } : Jvm.MethodName)) ∈ lw_all := lw_g (lw_at lw_m3 68 rfl) rfl
theorem q631 : (Jvm.Cond.code ({ cls := "NeverSaid$LyingSpeaker", name := "<init>", desc := "()V" } : Jvm.MethodName) prog_8_method_1_code (1 : Nat) (Option.none : Option Jvm.ClassFile.FieldType)) ∈ lw_all := lw_g (lw_at lw_m3 69 rfl) rfl
theorem q632 : (Jvm.Cond.methodLinkNest "NeverSaid$LyingSpeaker" (3 : Nat) ({ cls := "NeverSaid$Speaker", name := "<init>", desc := "()V" } : Jvm.MethodName) "NeverSaid") ∈ lw_tbl := lw_at lw_m3 70 rfl
theorem q633 : (Jvm.Cond.lays "NeverSaid$LyingSpeaker" "NeverSaid$Speaker" "bold" "I") ∈ lw_all := lw_g (lw_at lw_m3 71 rfl) rfl
theorem q634 : (Jvm.Cond.superclass "NeverSaid$LyingSpeaker" "NeverSaid$Speaker") ∈ lw_all := lw_g (lw_at lw_m3 72 rfl) rfl
theorem q659 : (Jvm.Cond.selects "NeverSaid$LyingSpeaker" ({ cls := "NeverSaid$Speaker", name := "kind", desc := "()I" } : Jvm.MethodName) ({ cls := "NeverSaid$LyingSpeaker", name := "kind", desc := "()I" } : Jvm.MethodName)) ∈ lw_all := lw_g (lw_at lw_m3 97 rfl) rfl
theorem q660 : (Jvm.Cond.instanceMethod ({ cls := "NeverSaid$LyingSpeaker", name := "kind", desc := "()I" } : Jvm.MethodName)) ∈ lw_all := lw_g (lw_at lw_m3 98 rfl) rfl
theorem q661 : (Jvm.Cond.code ({ cls := "NeverSaid$LyingSpeaker", name := "kind", desc := "()I" } : Jvm.MethodName) prog_8_method_2_code (1 : Nat) (Option.some Jvm.ClassFile.FieldType.int)) ∈ lw_all := lw_g (lw_at lw_m3 99 rfl) rfl
theorem q692 : (Jvm.Cond.selects "NeverSaid$LyingSpeaker" ({ cls := "NeverSaid$Speaker", name := "worth", desc := "()I" } : Jvm.MethodName) ({ cls := "NeverSaid$LyingSpeaker", name := "worth", desc := "()I" } : Jvm.MethodName)) ∈ lw_all := lw_g (lw_at lw_m3 130 rfl) rfl
theorem q693 : (Jvm.Cond.instanceMethod ({ cls := "NeverSaid$LyingSpeaker", name := "worth", desc := "()I" } : Jvm.MethodName)) ∈ lw_all := lw_g (lw_at lw_m3 131 rfl) rfl
theorem q694 : (Jvm.Cond.code ({ cls := "NeverSaid$LyingSpeaker", name := "worth", desc := "()I" } : Jvm.MethodName) prog_8_method_4_code (1 : Nat) (Option.some Jvm.ClassFile.FieldType.int)) ∈ lw_all := lw_g (lw_at lw_m3 132 rfl) rfl
theorem q695 : (Jvm.Cond.methodLink "NeverSaid$LyingSpeaker" (19 : Nat) ({ cls := "NeverSaid$Speaker", name := "worth", desc := "()I" } : Jvm.MethodName)) ∈ lw_all := lw_g (lw_at lw_m3 133 rfl) rfl
theorem q900 : (Jvm.Cond.castable "NeverSaid$LyingSpeaker" "NeverSaid$Chooses") ∈ lw_tbl := lw_at lw_m4 98 rfl
theorem q901 : (Jvm.Cond.unhidden "NeverSaid$LyingSpeaker" "pick" "(I)I") ∈ lw_tbl := lw_at lw_m4 99 rfl
theorem q922 : (Jvm.Cond.selects "NeverSaid$LyingSpeaker" ({ cls := "NeverSaid$Chooses", name := "choice", desc := "(IIII)I" } : Jvm.MethodName) ({ cls := "NeverSaid$LyingSpeaker", name := "choice", desc := "(IIII)I" } : Jvm.MethodName)) ∈ lw_all := lw_g (lw_at lw_m4 120 rfl) rfl
theorem q923 : (Jvm.Cond.unhidden "NeverSaid$LyingSpeaker" "choice" "(IIII)I") ∈ lw_tbl := lw_at lw_m4 121 rfl
theorem q924 : (Jvm.Cond.instanceMethod ({ cls := "NeverSaid$LyingSpeaker", name := "choice", desc := "(IIII)I" } : Jvm.MethodName)) ∈ lw_all := lw_g (lw_at lw_m4 122 rfl) rfl
theorem q925 : (Jvm.Cond.publicMethod ({ cls := "NeverSaid$LyingSpeaker", name := "choice", desc := "(IIII)I" } : Jvm.MethodName)) ∈ lw_tbl := lw_at lw_m4 123 rfl
theorem q926 : (Jvm.Cond.code ({ cls := "NeverSaid$LyingSpeaker", name := "choice", desc := "(IIII)I" } : Jvm.MethodName) prog_8_method_3_code (5 : Nat) (Option.some Jvm.ClassFile.FieldType.int)) ∈ lw_all := lw_g (lw_at lw_m4 124 rfl) rfl
theorem q1086 : (Jvm.Cond.selects "NeverSaid$LyingSpeaker" ({ cls := "NeverSaid$Speaker", name := "copy", desc := "()LNeverSaid$Speaker;" } : Jvm.MethodName) ({ cls := "NeverSaid$Speaker", name := "copy", desc := "()LNeverSaid$Speaker;" } : Jvm.MethodName)) ∈ lw_all := lw_g (lw_at lw_m5 44 rfl) rfl
theorem q1104 : (Jvm.Cond.selects "NeverSaid$LyingSpeaker" ({ cls := "NeverSaid$Speaker", name := "another", desc := "()LNeverSaid$Speaker;" } : Jvm.MethodName) ({ cls := "NeverSaid$LyingSpeaker", name := "another", desc := "()LNeverSaid$Speaker;" } : Jvm.MethodName)) ∈ lw_all := lw_g (lw_at lw_m5 62 rfl) rfl
theorem q1105 : (Jvm.Cond.instanceMethod ({ cls := "NeverSaid$LyingSpeaker", name := "another", desc := "()LNeverSaid$Speaker;" } : Jvm.MethodName)) ∈ lw_all := lw_g (lw_at lw_m5 63 rfl) rfl
theorem q1106 : (Jvm.Cond.code ({ cls := "NeverSaid$LyingSpeaker", name := "another", desc := "()LNeverSaid$Speaker;" } : Jvm.MethodName) prog_8_method_5_code (1 : Nat) (Option.some (Jvm.ClassFile.FieldType.object "NeverSaid$Speaker"))) ∈ lw_all := lw_g (lw_at lw_m5 64 rfl) rfl
theorem q1107 : (Jvm.Cond.classLink "NeverSaid$LyingSpeaker" (10 : Nat) "NeverSaid$LyingSpeaker") ∈ lw_all := lw_g (lw_at lw_m5 65 rfl) rfl
theorem q1108 : (Jvm.Cond.methodLink "NeverSaid$LyingSpeaker" (23 : Nat) ({ cls := "NeverSaid$LyingSpeaker", name := "<init>", desc := "()V" } : Jvm.MethodName)) ∈ lw_all := lw_g (lw_at lw_m5 66 rfl) rfl
theorem q1151 : (Jvm.Cond.selects "NeverSaid$LyingSpeaker" ({ cls := "NeverSaid$Chooses", name := "worth", desc := "()I" } : Jvm.MethodName) ({ cls := "NeverSaid$LyingSpeaker", name := "worth", desc := "()I" } : Jvm.MethodName)) ∈ lw_all := lw_g (lw_at lw_m5 109 rfl) rfl
theorem q1152 : (Jvm.Cond.unhidden "NeverSaid$LyingSpeaker" "worth" "()I") ∈ lw_tbl := lw_at lw_m5 110 rfl
theorem q1153 : (Jvm.Cond.publicMethod ({ cls := "NeverSaid$LyingSpeaker", name := "worth", desc := "()I" } : Jvm.MethodName)) ∈ lw_tbl := lw_at lw_m5 111 rfl
theorem q1723 : (Jvm.Cond.castable "NeverSaid$LyingSpeaker" "NeverSaid$Speaker") ∈ lw_tbl := lw_at lw_m7 201 rfl
theorem in_X12 : ∀ w ∈ wsX120, w ∈ lw_all := lw_in wsX120 [633] (by decide +kernel) (by decide +kernel)

/-! NeverSaid$Words -/
set_option maxRecDepth 100000
def RX13 : String := "NeverSaid$Words"
def TX13 : u_T := fun k => match k with
  | 0 => ("NeverSaid$Words", "word", "[I", true)
  | 1 => ("NeverSaid$Words", "value", "[I", true)
  | _ => ("NeverSaid$Words", "many", "I", false)
def tyX13 : Nat → FieldType := fun k => match k with
  | 0 => .array .int
  | 1 => .array .int
  | _ => .int
abbrev wsX130 : List Cond := u_ws RX13 TX13 3
theorem nmX13 : ∀ a, a < 3 → ∀ b, b < 3 → a ≠ b → (TX13 a).2.1 ≠ (TX13 b).2.1 := by decide +kernel
theorem tyX13_ok : ∀ k, k < 3 → parseFieldDescriptor (TX13 k).2.2.1 = some (tyX13 k) := by decide +kernel
abbrev cX13_init : ByteArray := prog_17_method_1_code
def yX13_init : MethodName := ⟨RX13, "<init>", "()V"⟩
def dkwX13_init_0 : List UInt8 := [42, 183, 0, 3, 42, 16, 96, 188, 10, 181, 0, 9, 42, 16, 96, 188, 10, 181, 0, 15, 177]
abbrev dktX13_init_0 : List UInt8 := dkwX13_init_0 ++ []
theorem dksX13_init_0 : cX13_init.data.toList.drop 0 = dktX13_init_0 := by decide +kernel
theorem dX13_init_0 : decode cX13_init 0 = .ok (.aload_n 0, 1) := dk_42 (dk_at dksX13_init_0 0 rfl rfl)
theorem dX13_init_1 : decode cX13_init 1 = .ok (.invokespecial 3, 3) := dk_183 0 3 (dk_at dksX13_init_0 1 rfl rfl)
theorem dX13_init_4 : decode cX13_init 4 = .ok (.aload_n 0, 1) := dk_42 (dk_at dksX13_init_0 4 rfl rfl)
theorem dX13_init_5 : decode cX13_init 5 = .ok (.bipush 96, 2) := dk_16 96 (dk_at dksX13_init_0 5 rfl rfl)
theorem dX13_init_7 : decode cX13_init 7 = .ok (.newarray .int, 2) := dk_188_10 (dk_at dksX13_init_0 7 rfl rfl)
theorem dX13_init_9 : decode cX13_init 9 = .ok (.putfield 9, 3) := dk_181 0 9 (dk_at dksX13_init_0 9 rfl rfl)
theorem dX13_init_12 : decode cX13_init 12 = .ok (.aload_n 0, 1) := dk_42 (dk_at dksX13_init_0 12 rfl rfl)
theorem dX13_init_13 : decode cX13_init 13 = .ok (.bipush 96, 2) := dk_16 96 (dk_at dksX13_init_0 13 rfl rfl)
theorem dX13_init_15 : decode cX13_init 15 = .ok (.newarray .int, 2) := dk_188_10 (dk_at dksX13_init_0 15 rfl rfl)
theorem dX13_init_17 : decode cX13_init 17 = .ok (.putfield 15, 3) := dk_181 0 15 (dk_at dksX13_init_0 17 rfl rfl)
theorem dX13_init_20 : decode cX13_init 20 = .ok (.return_, 1) := dk_177 (dk_at dksX13_init_0 20 rfl rfl)
abbrev cX13_add : ByteArray := prog_17_method_2_code
def yX13_add : MethodName := ⟨RX13, "add", "(II)V"⟩
def dkwX13_add_1 : List UInt8 := [180, 0, 18, 4, 96, 181, 0, 18, 177]
abbrev dktX13_add_1 : List UInt8 := dkwX13_add_1 ++ []
def dkwX13_add_0 : List UInt8 := [42, 180, 0, 9, 42, 180, 0, 18, 27, 79, 42, 180, 0, 15, 42, 180, 0, 18, 28, 79, 42, 89]
abbrev dktX13_add_0 : List UInt8 := dkwX13_add_0 ++ dktX13_add_1
theorem dksX13_add_0 : cX13_add.data.toList.drop 0 = dktX13_add_0 := by decide +kernel
theorem dksX13_add_1 : cX13_add.data.toList.drop 22 = dktX13_add_1 := dk_seg dksX13_add_0 22 rfl rfl
theorem dX13_add_0 : decode cX13_add 0 = .ok (.aload_n 0, 1) := dk_42 (dk_at dksX13_add_0 0 rfl rfl)
theorem dX13_add_1 : decode cX13_add 1 = .ok (.getfield 9, 3) := dk_180 0 9 (dk_at dksX13_add_0 1 rfl rfl)
theorem dX13_add_4 : decode cX13_add 4 = .ok (.aload_n 0, 1) := dk_42 (dk_at dksX13_add_0 4 rfl rfl)
theorem dX13_add_5 : decode cX13_add 5 = .ok (.getfield 18, 3) := dk_180 0 18 (dk_at dksX13_add_0 5 rfl rfl)
theorem dX13_add_8 : decode cX13_add 8 = .ok (.iload_n 1, 1) := dk_27 (dk_at dksX13_add_0 8 rfl rfl)
theorem dX13_add_9 : decode cX13_add 9 = .ok (.iastore, 1) := dk_79 (dk_at dksX13_add_0 9 rfl rfl)
theorem dX13_add_10 : decode cX13_add 10 = .ok (.aload_n 0, 1) := dk_42 (dk_at dksX13_add_0 10 rfl rfl)
theorem dX13_add_11 : decode cX13_add 11 = .ok (.getfield 15, 3) := dk_180 0 15 (dk_at dksX13_add_0 11 rfl rfl)
theorem dX13_add_14 : decode cX13_add 14 = .ok (.aload_n 0, 1) := dk_42 (dk_at dksX13_add_0 14 rfl rfl)
theorem dX13_add_15 : decode cX13_add 15 = .ok (.getfield 18, 3) := dk_180 0 18 (dk_at dksX13_add_0 15 rfl rfl)
theorem dX13_add_18 : decode cX13_add 18 = .ok (.iload_n 2, 1) := dk_28 (dk_at dksX13_add_0 18 rfl rfl)
theorem dX13_add_19 : decode cX13_add 19 = .ok (.iastore, 1) := dk_79 (dk_at dksX13_add_0 19 rfl rfl)
theorem dX13_add_20 : decode cX13_add 20 = .ok (.aload_n 0, 1) := dk_42 (dk_at dksX13_add_0 20 rfl rfl)
theorem dX13_add_21 : decode cX13_add 21 = .ok (.dup, 1) := dk_89 (dk_at dksX13_add_0 21 rfl rfl)
theorem dX13_add_22 : decode cX13_add 22 = .ok (.getfield 18, 3) := dk_180 0 18 (dk_at dksX13_add_1 0 rfl rfl)
theorem dX13_add_25 : decode cX13_add 25 = .ok (.iconst 1, 1) := dk_4 (dk_at dksX13_add_1 3 rfl rfl)
theorem dX13_add_26 : decode cX13_add 26 = .ok (.iadd, 1) := dk_96 (dk_at dksX13_add_1 4 rfl rfl)
theorem dX13_add_27 : decode cX13_add 27 = .ok (.putfield 18, 3) := dk_181 0 18 (dk_at dksX13_add_1 5 rfl rfl)
theorem dX13_add_30 : decode cX13_add 30 = .ok (.return_, 1) := dk_177 (dk_at dksX13_add_1 8 rfl rfl)
theorem q107 : (Jvm.Cond.initialized "NeverSaid$Words") ∈ lw_all := lw_g (lw_at lw_m1 25 rfl) rfl
theorem q479 : (Jvm.Cond.instantiable "NeverSaid$Words" (3 : Nat)) ∈ lw_all := lw_g (lw_at lw_m2 157 rfl) rfl
theorem q481 : (Jvm.Cond.instanceMethod ({ cls := "NeverSaid$Words", name := "<init>", desc := "()V" } : Jvm.MethodName)) ∈ lw_all := lw_g (lw_at lw_m2 159 rfl) rfl
theorem q482 : (Jvm.Cond.code ({ cls := "NeverSaid$Words", name := "<init>", desc := "()V" } : Jvm.MethodName) prog_17_method_1_code (1 : Nat) (Option.none : Option Jvm.ClassFile.FieldType)) ∈ lw_all := lw_g (lw_at lw_m2 160 rfl) rfl
theorem q483 : (Jvm.Cond.methodLink "NeverSaid$Words" (3 : Nat) ({ cls := "java/lang/Object", name := "<init>", desc := "()V" } : Jvm.MethodName)) ∈ lw_all := lw_g (lw_at lw_m2 161 rfl) rfl
theorem q484 : (Jvm.Cond.fieldLink "NeverSaid$Words" (9 : Nat) "NeverSaid$Words" "word" "[I") ∈ lw_all := lw_g (lw_at lw_m2 162 rfl) rfl
theorem q486 : (Jvm.Cond.fieldLink "NeverSaid$Words" (15 : Nat) "NeverSaid$Words" "value" "[I") ∈ lw_all := lw_g (lw_at lw_m2 164 rfl) rfl
theorem q488 : (Jvm.Cond.fieldLink "NeverSaid$Words" (18 : Nat) "NeverSaid$Words" "many" "I") ∈ lw_all := lw_g (lw_at lw_m2 166 rfl) rfl
theorem q490 : (Jvm.Cond.laysFinal "NeverSaid$Words" "NeverSaid$Words" "word" "[I") ∈ lw_all := lw_g (lw_at lw_m2 168 rfl) rfl
theorem q491 : (Jvm.Cond.soleField "NeverSaid$Words" "word") ∈ lw_all := lw_g (lw_at lw_m2 169 rfl) rfl
theorem q492 : (Jvm.Cond.laysFinal "NeverSaid$Words" "NeverSaid$Words" "value" "[I") ∈ lw_all := lw_g (lw_at lw_m2 170 rfl) rfl
theorem q493 : (Jvm.Cond.soleField "NeverSaid$Words" "value") ∈ lw_all := lw_g (lw_at lw_m2 171 rfl) rfl
theorem q494 : (Jvm.Cond.lays "NeverSaid$Words" "NeverSaid$Words" "many" "I") ∈ lw_all := lw_g (lw_at lw_m2 172 rfl) rfl
theorem q495 : (Jvm.Cond.soleField "NeverSaid$Words" "many") ∈ lw_all := lw_g (lw_at lw_m2 173 rfl) rfl
theorem q496 : (Jvm.Cond.superclass "NeverSaid$Words" "java/lang/Object") ∈ lw_all := lw_g (lw_at lw_m2 174 rfl) rfl
theorem q526 : (Jvm.Cond.instanceMethod ({ cls := "NeverSaid$Words", name := "add", desc := "(II)V" } : Jvm.MethodName)) ∈ lw_all := lw_g (lw_at lw_m2 204 rfl) rfl
theorem q527 : (Jvm.Cond.selects "NeverSaid$Words" ({ cls := "NeverSaid$Words", name := "add", desc := "(II)V" } : Jvm.MethodName) ({ cls := "NeverSaid$Words", name := "add", desc := "(II)V" } : Jvm.MethodName)) ∈ lw_all := lw_g (lw_at lw_m2 205 rfl) rfl
theorem q528 : (Jvm.Cond.code ({ cls := "NeverSaid$Words", name := "add", desc := "(II)V" } : Jvm.MethodName) prog_17_method_2_code (3 : Nat) (Option.none : Option Jvm.ClassFile.FieldType)) ∈ lw_all := lw_g (lw_at lw_m2 206 rfl) rfl
theorem in_X13 : ∀ w ∈ wsX130, w ∈ lw_all := lw_in wsX130 [490, 492, 494] (by decide +kernel) (by decide +kernel)

/-! NeverSaid$Text -/
set_option maxRecDepth 100000
def RX14 : String := "NeverSaid$Text"
def TX14 : u_T := fun k => match k with
  | 0 => ("NeverSaid$Text", "key", "I", true)
  | 1 => ("NeverSaid$Text", "words", "LNeverSaid$Words;", true)
  | _ => ("NeverSaid$Text", "many", "I", true)
def tyX14 : Nat → FieldType := fun k => match k with
  | 0 => .int
  | 1 => .object "NeverSaid$Words"
  | _ => .int
abbrev wsX140 : List Cond := u_ws RX14 TX14 3
theorem nmX14 : ∀ a, a < 3 → ∀ b, b < 3 → a ≠ b → (TX14 a).2.1 ≠ (TX14 b).2.1 := by decide +kernel
theorem tyX14_ok : ∀ k, k < 3 → parseFieldDescriptor (TX14 k).2.2.1 = some (tyX14 k) := by decide +kernel
abbrev cX14_init : ByteArray := prog_16_method_1_code
def yX14_init : MethodName := ⟨RX14, "<init>", "(ILNeverSaid$Words;I)V"⟩
def dkwX14_init_0 : List UInt8 := [42, 183, 0, 1, 42, 27, 181, 0, 7, 42, 44, 181, 0, 13, 42, 29, 181, 0, 17, 177]
abbrev dktX14_init_0 : List UInt8 := dkwX14_init_0 ++ []
theorem dksX14_init_0 : cX14_init.data.toList.drop 0 = dktX14_init_0 := by decide +kernel
theorem dX14_init_0 : decode cX14_init 0 = .ok (.aload_n 0, 1) := dk_42 (dk_at dksX14_init_0 0 rfl rfl)
theorem dX14_init_1 : decode cX14_init 1 = .ok (.invokespecial 1, 3) := dk_183 0 1 (dk_at dksX14_init_0 1 rfl rfl)
theorem dX14_init_4 : decode cX14_init 4 = .ok (.aload_n 0, 1) := dk_42 (dk_at dksX14_init_0 4 rfl rfl)
theorem dX14_init_5 : decode cX14_init 5 = .ok (.iload_n 1, 1) := dk_27 (dk_at dksX14_init_0 5 rfl rfl)
theorem dX14_init_6 : decode cX14_init 6 = .ok (.putfield 7, 3) := dk_181 0 7 (dk_at dksX14_init_0 6 rfl rfl)
theorem dX14_init_9 : decode cX14_init 9 = .ok (.aload_n 0, 1) := dk_42 (dk_at dksX14_init_0 9 rfl rfl)
theorem dX14_init_10 : decode cX14_init 10 = .ok (.aload_n 2, 1) := dk_44 (dk_at dksX14_init_0 10 rfl rfl)
theorem dX14_init_11 : decode cX14_init 11 = .ok (.putfield 13, 3) := dk_181 0 13 (dk_at dksX14_init_0 11 rfl rfl)
theorem dX14_init_14 : decode cX14_init 14 = .ok (.aload_n 0, 1) := dk_42 (dk_at dksX14_init_0 14 rfl rfl)
theorem dX14_init_15 : decode cX14_init 15 = .ok (.iload_n 3, 1) := dk_29 (dk_at dksX14_init_0 15 rfl rfl)
theorem dX14_init_16 : decode cX14_init 16 = .ok (.putfield 17, 3) := dk_181 0 17 (dk_at dksX14_init_0 16 rfl rfl)
theorem dX14_init_19 : decode cX14_init 19 = .ok (.return_, 1) := dk_177 (dk_at dksX14_init_0 19 rfl rfl)
theorem q108 : (Jvm.Cond.initialized "NeverSaid$Text") ∈ lw_all := lw_g (lw_at lw_m1 26 rfl) rfl
theorem q538 : (Jvm.Cond.instantiable "NeverSaid$Text" (3 : Nat)) ∈ lw_all := lw_g (lw_at lw_m2 216 rfl) rfl
theorem q540 : (Jvm.Cond.instanceMethod ({ cls := "NeverSaid$Text", name := "<init>", desc := "(ILNeverSaid$Words;I)V" } : Jvm.MethodName)) ∈ lw_all := lw_g (lw_at lw_m2 218 rfl) rfl
theorem q541 : (Jvm.Cond.code ({ cls := "NeverSaid$Text", name := "<init>", desc := "(ILNeverSaid$Words;I)V" } : Jvm.MethodName) prog_16_method_1_code (4 : Nat) (Option.none : Option Jvm.ClassFile.FieldType)) ∈ lw_all := lw_g (lw_at lw_m2 219 rfl) rfl
theorem q542 : (Jvm.Cond.methodLink "NeverSaid$Text" (1 : Nat) ({ cls := "java/lang/Object", name := "<init>", desc := "()V" } : Jvm.MethodName)) ∈ lw_all := lw_g (lw_at lw_m2 220 rfl) rfl
theorem q543 : (Jvm.Cond.fieldLink "NeverSaid$Text" (7 : Nat) "NeverSaid$Text" "key" "I") ∈ lw_all := lw_g (lw_at lw_m2 221 rfl) rfl
theorem q545 : (Jvm.Cond.fieldLink "NeverSaid$Text" (13 : Nat) "NeverSaid$Text" "words" "LNeverSaid$Words;") ∈ lw_all := lw_g (lw_at lw_m2 223 rfl) rfl
theorem q547 : (Jvm.Cond.fieldLink "NeverSaid$Text" (17 : Nat) "NeverSaid$Text" "many" "I") ∈ lw_all := lw_g (lw_at lw_m2 225 rfl) rfl
theorem q549 : (Jvm.Cond.laysFinal "NeverSaid$Text" "NeverSaid$Text" "key" "I") ∈ lw_all := lw_g (lw_at lw_m2 227 rfl) rfl
theorem q550 : (Jvm.Cond.soleField "NeverSaid$Text" "key") ∈ lw_all := lw_g (lw_at lw_m2 228 rfl) rfl
theorem q551 : (Jvm.Cond.laysFinal "NeverSaid$Text" "NeverSaid$Text" "words" "LNeverSaid$Words;") ∈ lw_all := lw_g (lw_at lw_m2 229 rfl) rfl
theorem q552 : (Jvm.Cond.soleField "NeverSaid$Text" "words") ∈ lw_all := lw_g (lw_at lw_m2 230 rfl) rfl
theorem q553 : (Jvm.Cond.laysFinal "NeverSaid$Text" "NeverSaid$Text" "many" "I") ∈ lw_all := lw_g (lw_at lw_m2 231 rfl) rfl
theorem q554 : (Jvm.Cond.soleField "NeverSaid$Text" "many") ∈ lw_all := lw_g (lw_at lw_m2 232 rfl) rfl
theorem q555 : (Jvm.Cond.superclass "NeverSaid$Text" "java/lang/Object") ∈ lw_all := lw_g (lw_at lw_m2 233 rfl) rfl
theorem in_X14 : ∀ w ∈ wsX140, w ∈ lw_all := lw_in wsX140 [549, 551, 553] (by decide +kernel) (by decide +kernel)

/-! NeverSaid$Figure -/
set_option maxRecDepth 100000
def RX15 : String := "NeverSaid$Figure"
def TX15 : u_T := fun k => match k with
  | _ => ("NeverSaid$Figure", "v", "I", true)
def tyX15 : Nat → FieldType := fun k => match k with
  | _ => .int
abbrev wsX150 : List Cond := u_ws RX15 TX15 1
theorem nmX15 : ∀ a, a < 1 → ∀ b, b < 1 → a ≠ b → (TX15 a).2.1 ≠ (TX15 b).2.1 := by decide +kernel
theorem tyX15_ok : ∀ k, k < 1 → parseFieldDescriptor (TX15 k).2.2.1 = some (tyX15 k) := by decide +kernel
abbrev cX15_init : ByteArray := prog_6_method_1_code
def yX15_init : MethodName := ⟨RX15, "<init>", "(I)V"⟩
def dkwX15_init_0 : List UInt8 := [42, 183, 0, 1, 42, 27, 181, 0, 7, 177]
abbrev dktX15_init_0 : List UInt8 := dkwX15_init_0 ++ []
theorem dksX15_init_0 : cX15_init.data.toList.drop 0 = dktX15_init_0 := by decide +kernel
theorem dX15_init_0 : decode cX15_init 0 = .ok (.aload_n 0, 1) := dk_42 (dk_at dksX15_init_0 0 rfl rfl)
theorem dX15_init_1 : decode cX15_init 1 = .ok (.invokespecial 1, 3) := dk_183 0 1 (dk_at dksX15_init_0 1 rfl rfl)
theorem dX15_init_4 : decode cX15_init 4 = .ok (.aload_n 0, 1) := dk_42 (dk_at dksX15_init_0 4 rfl rfl)
theorem dX15_init_5 : decode cX15_init 5 = .ok (.iload_n 1, 1) := dk_27 (dk_at dksX15_init_0 5 rfl rfl)
theorem dX15_init_6 : decode cX15_init 6 = .ok (.putfield 7, 3) := dk_181 0 7 (dk_at dksX15_init_0 6 rfl rfl)
theorem dX15_init_9 : decode cX15_init 9 = .ok (.return_, 1) := dk_177 (dk_at dksX15_init_0 9 rfl rfl)
theorem q110 : (Jvm.Cond.initialized "NeverSaid$Figure") ∈ lw_all := lw_g (lw_at lw_m1 28 rfl) rfl
theorem q1127 : (Jvm.Cond.instantiable "NeverSaid$Figure" (1 : Nat)) ∈ lw_all := lw_g (lw_at lw_m5 85 rfl) rfl
theorem q1129 : (Jvm.Cond.instanceMethod ({ cls := "NeverSaid$Figure", name := "<init>", desc := "(I)V" } : Jvm.MethodName)) ∈ lw_all := lw_g (lw_at lw_m5 87 rfl) rfl
theorem q1130 : (Jvm.Cond.code ({ cls := "NeverSaid$Figure", name := "<init>", desc := "(I)V" } : Jvm.MethodName) prog_6_method_1_code (2 : Nat) (Option.none : Option Jvm.ClassFile.FieldType)) ∈ lw_all := lw_g (lw_at lw_m5 88 rfl) rfl
theorem q1131 : (Jvm.Cond.methodLink "NeverSaid$Figure" (1 : Nat) ({ cls := "java/lang/Object", name := "<init>", desc := "()V" } : Jvm.MethodName)) ∈ lw_all := lw_g (lw_at lw_m5 89 rfl) rfl
theorem q1132 : (Jvm.Cond.fieldLink "NeverSaid$Figure" (7 : Nat) "NeverSaid$Figure" "v" "I") ∈ lw_all := lw_g (lw_at lw_m5 90 rfl) rfl
theorem q1134 : (Jvm.Cond.laysFinal "NeverSaid$Figure" "NeverSaid$Figure" "v" "I") ∈ lw_all := lw_g (lw_at lw_m5 92 rfl) rfl
theorem q1135 : (Jvm.Cond.soleField "NeverSaid$Figure" "v") ∈ lw_all := lw_g (lw_at lw_m5 93 rfl) rfl
theorem q1136 : (Jvm.Cond.superclass "NeverSaid$Figure" "java/lang/Object") ∈ lw_all := lw_g (lw_at lw_m5 94 rfl) rfl
theorem in_X15 : ∀ w ∈ wsX150, w ∈ lw_all := lw_in wsX150 [1134] (by decide +kernel) (by decide +kernel)

/-! NeverSaid$Chooses -/
set_option maxRecDepth 100000
def RX16 : String := "NeverSaid$Chooses"
abbrev cX16_choice : ByteArray := prog_3_method_1_code
def yX16_choice : MethodName := ⟨RX16, "choice", "(IIII)I"⟩
def dkwX16_choice_0 : List UInt8 := [42, 27, 185, 0, 1, 2, 0, 172]
abbrev dktX16_choice_0 : List UInt8 := dkwX16_choice_0 ++ []
theorem dksX16_choice_0 : cX16_choice.data.toList.drop 0 = dktX16_choice_0 := by decide +kernel
theorem dX16_choice_0 : decode cX16_choice 0 = .ok (.aload_n 0, 1) := dk_42 (dk_at dksX16_choice_0 0 rfl rfl)
theorem dX16_choice_1 : decode cX16_choice 1 = .ok (.iload_n 1, 1) := dk_27 (dk_at dksX16_choice_0 1 rfl rfl)
theorem dX16_choice_2 : decode cX16_choice 2 = .ok (.invokeinterface 1 2, 5) := by decide +kernel
theorem dX16_choice_7 : decode cX16_choice 7 = .ok (.ireturn, 1) := dk_172 (dk_at dksX16_choice_0 7 rfl rfl)
theorem q875 : (Jvm.Cond.interfaceMethod "NeverSaid$Chooses" "NeverSaid$Chooses" "choice" "(IIII)I") ∈ lw_tbl := lw_at lw_m4 73 rfl
theorem q876 : (Jvm.Cond.declares ({ cls := "NeverSaid$Chooses", name := "choice", desc := "(IIII)I" } : Jvm.MethodName)) ∈ lw_tbl := lw_at lw_m4 74 rfl
theorem q896 : (Jvm.Cond.instanceMethod ({ cls := "NeverSaid$Chooses", name := "choice", desc := "(IIII)I" } : Jvm.MethodName)) ∈ lw_all := lw_g (lw_at lw_m4 94 rfl) rfl
theorem q897 : (Jvm.Cond.code ({ cls := "NeverSaid$Chooses", name := "choice", desc := "(IIII)I" } : Jvm.MethodName) prog_3_method_1_code (5 : Nat) (Option.some Jvm.ClassFile.FieldType.int)) ∈ lw_all := lw_g (lw_at lw_m4 95 rfl) rfl
theorem q898 : (Jvm.Cond.interfaceEntry "NeverSaid$Chooses" (1 : Nat)) ∈ lw_tbl := lw_at lw_m4 96 rfl
theorem q933 : (Jvm.Cond.publicMethod ({ cls := "NeverSaid$Chooses", name := "choice", desc := "(IIII)I" } : Jvm.MethodName)) ∈ lw_tbl := lw_at lw_m4 131 rfl
theorem q1143 : (Jvm.Cond.interfaceMethod "NeverSaid$Chooses" "NeverSaid$Chooses" "worth" "()I") ∈ lw_tbl := lw_at lw_m5 101 rfl
theorem q1144 : (Jvm.Cond.declares ({ cls := "NeverSaid$Chooses", name := "worth", desc := "()I" } : Jvm.MethodName)) ∈ lw_tbl := lw_at lw_m5 102 rfl

/-! NeverSaid$Picks -/
set_option maxRecDepth 100000
def RX17 : String := "NeverSaid$Picks"
abbrev cX17_pick : ByteArray := prog_10_method_1_code
def yX17_pick : MethodName := ⟨RX17, "pick", "(I)I"⟩
def dkwX17_pick_0 : List UInt8 := [27, 154, 0, 7, 2, 167, 0, 7, 27, 184, 0, 3, 172]
abbrev dktX17_pick_0 : List UInt8 := dkwX17_pick_0 ++ []
theorem dksX17_pick_0 : cX17_pick.data.toList.drop 0 = dktX17_pick_0 := by decide +kernel
theorem dX17_pick_0 : decode cX17_pick 0 = .ok (.iload_n 1, 1) := dk_27 (dk_at dksX17_pick_0 0 rfl rfl)
theorem dX17_pick_1 : decode cX17_pick 1 = .ok (.ifCond .ne 7, 3) := dk_154 0 7 (dk_at dksX17_pick_0 1 rfl rfl)
theorem dX17_pick_4 : decode cX17_pick 4 = .ok (.iconst (-1), 1) := dk_2 (dk_at dksX17_pick_0 4 rfl rfl)
theorem dX17_pick_5 : decode cX17_pick 5 = .ok (.goto 7, 3) := dk_167 0 7 (dk_at dksX17_pick_0 5 rfl rfl)
theorem dX17_pick_8 : decode cX17_pick 8 = .ok (.iload_n 1, 1) := dk_27 (dk_at dksX17_pick_0 8 rfl rfl)
theorem dX17_pick_9 : decode cX17_pick 9 = .ok (.invokestatic 3, 3) := dk_184 0 3 (dk_at dksX17_pick_0 9 rfl rfl)
theorem dX17_pick_12 : decode cX17_pick 12 = .ok (.ireturn, 1) := dk_172 (dk_at dksX17_pick_0 12 rfl rfl)
theorem q886 : (Jvm.Cond.declares ({ cls := "NeverSaid$Picks", name := "pick", desc := "(I)I" } : Jvm.MethodName)) ∈ lw_tbl := lw_at lw_m4 84 rfl
theorem q889 : (Jvm.Cond.instanceMethod ({ cls := "NeverSaid$Picks", name := "pick", desc := "(I)I" } : Jvm.MethodName)) ∈ lw_all := lw_g (lw_at lw_m4 87 rfl) rfl
theorem q890 : (Jvm.Cond.publicMethod ({ cls := "NeverSaid$Picks", name := "pick", desc := "(I)I" } : Jvm.MethodName)) ∈ lw_tbl := lw_at lw_m4 88 rfl
theorem q891 : (Jvm.Cond.code ({ cls := "NeverSaid$Picks", name := "pick", desc := "(I)I" } : Jvm.MethodName) prog_10_method_1_code (2 : Nat) (Option.some Jvm.ClassFile.FieldType.int)) ∈ lw_all := lw_g (lw_at lw_m4 89 rfl) rfl
theorem q892 : (Jvm.Cond.methodLink "NeverSaid$Picks" (3 : Nat) ({ cls := "java/lang/Integer", name := "numberOfTrailingZeros", desc := "(I)I" } : Jvm.MethodName)) ∈ lw_all := lw_g (lw_at lw_m4 90 rfl) rfl

/-! NeverSaid$Deed -/
set_option maxRecDepth 100000
def RX2 : String := "NeverSaid$Deed"
def TX2 : u_T := fun k => match k with
  | 0 => ("NeverSaid$Deed", "doers", "I", false)
  | 1 => ("NeverSaid$Deed", "hour", "I", false)
  | 2 => ("NeverSaid$Deed", "weight", "I", false)
  | 3 => ("NeverSaid$Deed", "left", "I", false)
  | 4 => ("NeverSaid$Deed", "sayings", "I", false)
  | _ => ("NeverSaid$Deed", "lies", "I", false)
def tyX2 : Nat → FieldType := fun k => match k with
  | 0 => .int
  | 1 => .int
  | 2 => .int
  | 3 => .int
  | 4 => .int
  | _ => .int
abbrev wsX20 : List Cond := u_ws RX2 TX2 6
theorem nmX2 : ∀ a, a < 6 → ∀ b, b < 6 → a ≠ b → (TX2 a).2.1 ≠ (TX2 b).2.1 := by decide +kernel
theorem tyX2_ok : ∀ k, k < 6 → parseFieldDescriptor (TX2 k).2.2.1 = some (tyX2 k) := by decide +kernel
abbrev cX2_init : ByteArray := prog_4_method_1_code
def yX2_init : MethodName := ⟨RX2, "<init>", "()V"⟩
theorem dX2_init_0 : decode cX2_init 0 = .ok (.aload_n 0, 1) := by decide +kernel
theorem dX2_init_1 : decode cX2_init 1 = .ok (.invokespecial 1, 3) := by decide +kernel
theorem dX2_init_4 : decode cX2_init 4 = .ok (.return_, 1) := by decide +kernel
abbrev cX2_leftMany : ByteArray := prog_4_method_3_code
def yX2_leftMany : MethodName := ⟨RX2, "leftMany", "()I"⟩
def dkwX2_leftMany_0 : List UInt8 := [42, 180, 0, 19, 184, 0, 28, 172]
abbrev dktX2_leftMany_0 : List UInt8 := dkwX2_leftMany_0 ++ []
theorem dksX2_leftMany_0 : cX2_leftMany.data.toList.drop 0 = dktX2_leftMany_0 := by decide +kernel
theorem dX2_leftMany_0 : decode cX2_leftMany 0 = .ok (.aload_n 0, 1) := dk_42 (dk_at dksX2_leftMany_0 0 rfl rfl)
theorem dX2_leftMany_1 : decode cX2_leftMany 1 = .ok (.getfield 19, 3) := dk_180 0 19 (dk_at dksX2_leftMany_0 1 rfl rfl)
theorem dX2_leftMany_4 : decode cX2_leftMany 4 = .ok (.invokestatic 28, 3) := dk_184 0 28 (dk_at dksX2_leftMany_0 4 rfl rfl)
theorem dX2_leftMany_7 : decode cX2_leftMany 7 = .ok (.ireturn, 1) := dk_172 (dk_at dksX2_leftMany_0 7 rfl rfl)
abbrev cX2_copyOf : ByteArray := prog_4_method_2_code
def yX2_copyOf : MethodName := ⟨RX2, "copyOf", "(LNeverSaid$Deed;)V"⟩
def dkwX2_copyOf_2 : List UInt8 := [177]
abbrev dktX2_copyOf_2 : List UInt8 := dkwX2_copyOf_2 ++ []
def dkwX2_copyOf_1 : List UInt8 := [42, 43, 180, 0, 19, 181, 0, 19, 42, 43, 180, 0, 22, 181, 0, 22, 42, 43, 180, 0, 25, 181, 0, 25]
abbrev dktX2_copyOf_1 : List UInt8 := dkwX2_copyOf_1 ++ dktX2_copyOf_2
def dkwX2_copyOf_0 : List UInt8 := [42, 43, 180, 0, 7, 181, 0, 7, 42, 43, 180, 0, 13, 181, 0, 13, 42, 43, 180, 0, 16, 181, 0, 16]
abbrev dktX2_copyOf_0 : List UInt8 := dkwX2_copyOf_0 ++ dktX2_copyOf_1
theorem dksX2_copyOf_0 : cX2_copyOf.data.toList.drop 0 = dktX2_copyOf_0 := by decide +kernel
theorem dksX2_copyOf_1 : cX2_copyOf.data.toList.drop 24 = dktX2_copyOf_1 := dk_seg dksX2_copyOf_0 24 rfl rfl
theorem dksX2_copyOf_2 : cX2_copyOf.data.toList.drop 48 = dktX2_copyOf_2 := dk_seg dksX2_copyOf_1 24 rfl rfl
theorem dX2_copyOf_0 : decode cX2_copyOf 0 = .ok (.aload_n 0, 1) := dk_42 (dk_at dksX2_copyOf_0 0 rfl rfl)
theorem dX2_copyOf_1 : decode cX2_copyOf 1 = .ok (.aload_n 1, 1) := dk_43 (dk_at dksX2_copyOf_0 1 rfl rfl)
theorem dX2_copyOf_2 : decode cX2_copyOf 2 = .ok (.getfield 7, 3) := dk_180 0 7 (dk_at dksX2_copyOf_0 2 rfl rfl)
theorem dX2_copyOf_5 : decode cX2_copyOf 5 = .ok (.putfield 7, 3) := dk_181 0 7 (dk_at dksX2_copyOf_0 5 rfl rfl)
theorem dX2_copyOf_8 : decode cX2_copyOf 8 = .ok (.aload_n 0, 1) := dk_42 (dk_at dksX2_copyOf_0 8 rfl rfl)
theorem dX2_copyOf_9 : decode cX2_copyOf 9 = .ok (.aload_n 1, 1) := dk_43 (dk_at dksX2_copyOf_0 9 rfl rfl)
theorem dX2_copyOf_10 : decode cX2_copyOf 10 = .ok (.getfield 13, 3) := dk_180 0 13 (dk_at dksX2_copyOf_0 10 rfl rfl)
theorem dX2_copyOf_13 : decode cX2_copyOf 13 = .ok (.putfield 13, 3) := dk_181 0 13 (dk_at dksX2_copyOf_0 13 rfl rfl)
theorem dX2_copyOf_16 : decode cX2_copyOf 16 = .ok (.aload_n 0, 1) := dk_42 (dk_at dksX2_copyOf_0 16 rfl rfl)
theorem dX2_copyOf_17 : decode cX2_copyOf 17 = .ok (.aload_n 1, 1) := dk_43 (dk_at dksX2_copyOf_0 17 rfl rfl)
theorem dX2_copyOf_18 : decode cX2_copyOf 18 = .ok (.getfield 16, 3) := dk_180 0 16 (dk_at dksX2_copyOf_0 18 rfl rfl)
theorem dX2_copyOf_21 : decode cX2_copyOf 21 = .ok (.putfield 16, 3) := dk_181 0 16 (dk_at dksX2_copyOf_0 21 rfl rfl)
theorem dX2_copyOf_24 : decode cX2_copyOf 24 = .ok (.aload_n 0, 1) := dk_42 (dk_at dksX2_copyOf_1 0 rfl rfl)
theorem dX2_copyOf_25 : decode cX2_copyOf 25 = .ok (.aload_n 1, 1) := dk_43 (dk_at dksX2_copyOf_1 1 rfl rfl)
theorem dX2_copyOf_26 : decode cX2_copyOf 26 = .ok (.getfield 19, 3) := dk_180 0 19 (dk_at dksX2_copyOf_1 2 rfl rfl)
theorem dX2_copyOf_29 : decode cX2_copyOf 29 = .ok (.putfield 19, 3) := dk_181 0 19 (dk_at dksX2_copyOf_1 5 rfl rfl)
theorem dX2_copyOf_32 : decode cX2_copyOf 32 = .ok (.aload_n 0, 1) := dk_42 (dk_at dksX2_copyOf_1 8 rfl rfl)
theorem dX2_copyOf_33 : decode cX2_copyOf 33 = .ok (.aload_n 1, 1) := dk_43 (dk_at dksX2_copyOf_1 9 rfl rfl)
theorem dX2_copyOf_34 : decode cX2_copyOf 34 = .ok (.getfield 22, 3) := dk_180 0 22 (dk_at dksX2_copyOf_1 10 rfl rfl)
theorem dX2_copyOf_37 : decode cX2_copyOf 37 = .ok (.putfield 22, 3) := dk_181 0 22 (dk_at dksX2_copyOf_1 13 rfl rfl)
theorem dX2_copyOf_40 : decode cX2_copyOf 40 = .ok (.aload_n 0, 1) := dk_42 (dk_at dksX2_copyOf_1 16 rfl rfl)
theorem dX2_copyOf_41 : decode cX2_copyOf 41 = .ok (.aload_n 1, 1) := dk_43 (dk_at dksX2_copyOf_1 17 rfl rfl)
theorem dX2_copyOf_42 : decode cX2_copyOf 42 = .ok (.getfield 25, 3) := dk_180 0 25 (dk_at dksX2_copyOf_1 18 rfl rfl)
theorem dX2_copyOf_45 : decode cX2_copyOf 45 = .ok (.putfield 25, 3) := dk_181 0 25 (dk_at dksX2_copyOf_1 21 rfl rfl)
theorem dX2_copyOf_48 : decode cX2_copyOf 48 = .ok (.return_, 1) := dk_177 (dk_at dksX2_copyOf_2 0 rfl rfl)
theorem q85 : (Jvm.Cond.initialized "NeverSaid$Deed") ∈ lw_all := lw_g (lw_at lw_m1 3 rfl) rfl
theorem q131 : (Jvm.Cond.instantiable "NeverSaid$Deed" (6 : Nat)) ∈ lw_all := lw_g (lw_at lw_m1 49 rfl) rfl
theorem q133 : (Jvm.Cond.instanceMethod ({ cls := "NeverSaid$Deed", name := "<init>", desc := "()V" } : Jvm.MethodName)) ∈ lw_all := lw_g (lw_at lw_m1 51 rfl) rfl
theorem q134 : (Jvm.Cond.code ({ cls := "NeverSaid$Deed", name := "<init>", desc := "()V" } : Jvm.MethodName) prog_4_method_1_code (1 : Nat) (Option.none : Option Jvm.ClassFile.FieldType)) ∈ lw_all := lw_g (lw_at lw_m1 52 rfl) rfl
theorem q135 : (Jvm.Cond.methodLink "NeverSaid$Deed" (1 : Nat) ({ cls := "java/lang/Object", name := "<init>", desc := "()V" } : Jvm.MethodName)) ∈ lw_all := lw_g (lw_at lw_m1 53 rfl) rfl
theorem q136 : (Jvm.Cond.fieldLink "NeverSaid$Deed" (7 : Nat) "NeverSaid$Deed" "doers" "I") ∈ lw_all := lw_g (lw_at lw_m1 54 rfl) rfl
theorem q138 : (Jvm.Cond.fieldLink "NeverSaid$Deed" (13 : Nat) "NeverSaid$Deed" "hour" "I") ∈ lw_all := lw_g (lw_at lw_m1 56 rfl) rfl
theorem q140 : (Jvm.Cond.fieldLink "NeverSaid$Deed" (16 : Nat) "NeverSaid$Deed" "weight" "I") ∈ lw_all := lw_g (lw_at lw_m1 58 rfl) rfl
theorem q142 : (Jvm.Cond.fieldLink "NeverSaid$Deed" (19 : Nat) "NeverSaid$Deed" "left" "I") ∈ lw_all := lw_g (lw_at lw_m1 60 rfl) rfl
theorem q144 : (Jvm.Cond.fieldLink "NeverSaid$Deed" (22 : Nat) "NeverSaid$Deed" "sayings" "I") ∈ lw_all := lw_g (lw_at lw_m1 62 rfl) rfl
theorem q146 : (Jvm.Cond.fieldLink "NeverSaid$Deed" (25 : Nat) "NeverSaid$Deed" "lies" "I") ∈ lw_all := lw_g (lw_at lw_m1 64 rfl) rfl
theorem q148 : (Jvm.Cond.lays "NeverSaid$Deed" "NeverSaid$Deed" "doers" "I") ∈ lw_all := lw_g (lw_at lw_m1 66 rfl) rfl
theorem q149 : (Jvm.Cond.soleField "NeverSaid$Deed" "doers") ∈ lw_all := lw_g (lw_at lw_m1 67 rfl) rfl
theorem q150 : (Jvm.Cond.lays "NeverSaid$Deed" "NeverSaid$Deed" "hour" "I") ∈ lw_all := lw_g (lw_at lw_m1 68 rfl) rfl
theorem q151 : (Jvm.Cond.soleField "NeverSaid$Deed" "hour") ∈ lw_all := lw_g (lw_at lw_m1 69 rfl) rfl
theorem q152 : (Jvm.Cond.lays "NeverSaid$Deed" "NeverSaid$Deed" "weight" "I") ∈ lw_all := lw_g (lw_at lw_m1 70 rfl) rfl
theorem q153 : (Jvm.Cond.soleField "NeverSaid$Deed" "weight") ∈ lw_all := lw_g (lw_at lw_m1 71 rfl) rfl
theorem q154 : (Jvm.Cond.lays "NeverSaid$Deed" "NeverSaid$Deed" "left" "I") ∈ lw_all := lw_g (lw_at lw_m1 72 rfl) rfl
theorem q155 : (Jvm.Cond.soleField "NeverSaid$Deed" "left") ∈ lw_all := lw_g (lw_at lw_m1 73 rfl) rfl
theorem q156 : (Jvm.Cond.lays "NeverSaid$Deed" "NeverSaid$Deed" "sayings" "I") ∈ lw_all := lw_g (lw_at lw_m1 74 rfl) rfl
theorem q157 : (Jvm.Cond.soleField "NeverSaid$Deed" "sayings") ∈ lw_all := lw_g (lw_at lw_m1 75 rfl) rfl
theorem q158 : (Jvm.Cond.lays "NeverSaid$Deed" "NeverSaid$Deed" "lies" "I") ∈ lw_all := lw_g (lw_at lw_m1 76 rfl) rfl
theorem q159 : (Jvm.Cond.soleField "NeverSaid$Deed" "lies") ∈ lw_all := lw_g (lw_at lw_m1 77 rfl) rfl
theorem q160 : (Jvm.Cond.superclass "NeverSaid$Deed" "java/lang/Object") ∈ lw_all := lw_g (lw_at lw_m1 78 rfl) rfl
theorem q819 : (Jvm.Cond.instanceMethod ({ cls := "NeverSaid$Deed", name := "leftMany", desc := "()I" } : Jvm.MethodName)) ∈ lw_all := lw_g (lw_at lw_m4 17 rfl) rfl
theorem q820 : (Jvm.Cond.selects "NeverSaid$Deed" ({ cls := "NeverSaid$Deed", name := "leftMany", desc := "()I" } : Jvm.MethodName) ({ cls := "NeverSaid$Deed", name := "leftMany", desc := "()I" } : Jvm.MethodName)) ∈ lw_all := lw_g (lw_at lw_m4 18 rfl) rfl
theorem q821 : (Jvm.Cond.code ({ cls := "NeverSaid$Deed", name := "leftMany", desc := "()I" } : Jvm.MethodName) prog_4_method_3_code (1 : Nat) (Option.some Jvm.ClassFile.FieldType.int)) ∈ lw_all := lw_g (lw_at lw_m4 19 rfl) rfl
theorem q822 : (Jvm.Cond.methodLink "NeverSaid$Deed" (28 : Nat) ({ cls := "java/lang/Integer", name := "bitCount", desc := "(I)I" } : Jvm.MethodName)) ∈ lw_all := lw_g (lw_at lw_m4 20 rfl) rfl
theorem q1197 : (Jvm.Cond.instanceMethod ({ cls := "NeverSaid$Deed", name := "copyOf", desc := "(LNeverSaid$Deed;)V" } : Jvm.MethodName)) ∈ lw_all := lw_g (lw_at lw_m5 155 rfl) rfl
theorem q1198 : (Jvm.Cond.selects "NeverSaid$Deed" ({ cls := "NeverSaid$Deed", name := "copyOf", desc := "(LNeverSaid$Deed;)V" } : Jvm.MethodName) ({ cls := "NeverSaid$Deed", name := "copyOf", desc := "(LNeverSaid$Deed;)V" } : Jvm.MethodName)) ∈ lw_all := lw_g (lw_at lw_m5 156 rfl) rfl
theorem q1199 : (Jvm.Cond.code ({ cls := "NeverSaid$Deed", name := "copyOf", desc := "(LNeverSaid$Deed;)V" } : Jvm.MethodName) prog_4_method_2_code (2 : Nat) (Option.none : Option Jvm.ClassFile.FieldType)) ∈ lw_all := lw_g (lw_at lw_m5 157 rfl) rfl
theorem in_X2 : ∀ w ∈ wsX20, w ∈ lw_all := lw_in wsX20 [148, 150, 152, 154, 156, 158] (by decide +kernel) (by decide +kernel)

/-! NeverSaid$Fault -/
set_option maxRecDepth 100000
def RX3 : String := "NeverSaid$Fault"
def TX3 : u_T := fun k => match k with
  | 0 => ("java/lang/Throwable", "cause", "Ljava/lang/Throwable;", false)
  | 1 => ("java/lang/Throwable", "stackTrace", "[Ljava/lang/StackTraceElement;", false)
  | 2 => ("java/lang/Throwable", "suppressedExceptions", "Ljava/util/List;", false)
  | 3 => ("java/lang/Throwable", "detailMessage", "Ljava/lang/String;", false)
  | 4 => ("java/lang/Throwable", "backtrace", "Ljava/lang/Object;", false)
  | 5 => ("java/lang/Throwable", "depth", "I", false)
  | _ => ("NeverSaid$Fault", "place", "I", false)
def tyX3 : Nat → FieldType := fun k => match k with
  | 0 => .object "java/lang/Throwable"
  | 1 => .array (.object "java/lang/StackTraceElement")
  | 2 => .object "java/util/List"
  | 3 => .object "java/lang/String"
  | 4 => .object "java/lang/Object"
  | 5 => .int
  | _ => .int
abbrev wsX30 : List Cond := u_ws RX3 TX3 7
theorem nmX3 : ∀ a, a < 7 → ∀ b, b < 7 → a ≠ b → (TX3 a).2.1 ≠ (TX3 b).2.1 := by decide +kernel
theorem tyX3_ok : ∀ k, k < 7 → parseFieldDescriptor (TX3 k).2.2.1 = some (tyX3 k) := by decide +kernel
abbrev cX3_init : ByteArray := prog_5_method_1_code
def yX3_init : MethodName := ⟨RX3, "<init>", "()V"⟩
theorem dX3_init_0 : decode cX3_init 0 = .ok (.aload_n 0, 1) := by decide +kernel
theorem dX3_init_1 : decode cX3_init 1 = .ok (.invokespecial 1, 3) := by decide +kernel
theorem dX3_init_4 : decode cX3_init 4 = .ok (.return_, 1) := by decide +kernel
theorem q89 : (Jvm.Cond.initialized "NeverSaid$Fault") ∈ lw_all := lw_g (lw_at lw_m1 7 rfl) rfl
theorem q208 : (Jvm.Cond.instantiable "NeverSaid$Fault" (7 : Nat)) ∈ lw_all := lw_g (lw_at lw_m1 126 rfl) rfl
theorem q209 : (Jvm.Cond.castable "NeverSaid$Fault" "NeverSaid$Fault") ∈ lw_tbl := lw_at lw_m1 127 rfl
theorem q216 : (Jvm.Cond.selects "NeverSaid$Fault" ({ cls := "java/lang/Throwable", name := "fillInStackTrace", desc := "(I)Ljava/lang/Throwable;" } : Jvm.MethodName) ({ cls := "java/lang/Throwable", name := "fillInStackTrace", desc := "(I)Ljava/lang/Throwable;" } : Jvm.MethodName)) ∈ lw_all := lw_g (lw_at lw_m1 134 rfl) rfl
theorem q217 : (Jvm.Cond.selects "NeverSaid$Fault" ({ cls := "java/lang/Throwable", name := "fillInStackTrace", desc := "()Ljava/lang/Throwable;" } : Jvm.MethodName) ({ cls := "java/lang/Throwable", name := "fillInStackTrace", desc := "()Ljava/lang/Throwable;" } : Jvm.MethodName)) ∈ lw_all := lw_g (lw_at lw_m1 135 rfl) rfl
theorem q218 : (Jvm.Cond.lays "NeverSaid$Fault" "java/lang/Throwable" "cause" "Ljava/lang/Throwable;") ∈ lw_all := lw_g (lw_at lw_m1 136 rfl) rfl
theorem q220 : (Jvm.Cond.lays "NeverSaid$Fault" "java/lang/Throwable" "stackTrace" "[Ljava/lang/StackTraceElement;") ∈ lw_all := lw_g (lw_at lw_m1 138 rfl) rfl
theorem q222 : (Jvm.Cond.lays "NeverSaid$Fault" "java/lang/Throwable" "suppressedExceptions" "Ljava/util/List;") ∈ lw_all := lw_g (lw_at lw_m1 140 rfl) rfl
theorem q224 : (Jvm.Cond.lays "NeverSaid$Fault" "java/lang/Throwable" "detailMessage" "Ljava/lang/String;") ∈ lw_all := lw_g (lw_at lw_m1 142 rfl) rfl
theorem q226 : (Jvm.Cond.lays "NeverSaid$Fault" "java/lang/Throwable" "backtrace" "Ljava/lang/Object;") ∈ lw_all := lw_g (lw_at lw_m1 144 rfl) rfl
theorem q249 : (Jvm.Cond.instanceMethod ({ cls := "NeverSaid$Fault", name := "<init>", desc := "()V" } : Jvm.MethodName)) ∈ lw_all := lw_g (lw_at lw_m1 167 rfl) rfl
theorem q250 : (Jvm.Cond.code ({ cls := "NeverSaid$Fault", name := "<init>", desc := "()V" } : Jvm.MethodName) prog_5_method_1_code (1 : Nat) (Option.none : Option Jvm.ClassFile.FieldType)) ∈ lw_all := lw_g (lw_at lw_m1 168 rfl) rfl
theorem q251 : (Jvm.Cond.methodLink "NeverSaid$Fault" (1 : Nat) ({ cls := "java/lang/RuntimeException", name := "<init>", desc := "()V" } : Jvm.MethodName)) ∈ lw_all := lw_g (lw_at lw_m1 169 rfl) rfl
theorem q264 : (Jvm.Cond.lays "NeverSaid$Fault" "NeverSaid$Fault" "place" "I") ∈ lw_all := lw_g (lw_at lw_m1 182 rfl) rfl
theorem q265 : (Jvm.Cond.soleField "NeverSaid$Fault" "place") ∈ lw_all := lw_g (lw_at lw_m1 183 rfl) rfl
theorem q270 : (Jvm.Cond.lays "NeverSaid$Fault" "java/lang/Throwable" "depth" "I") ∈ lw_all := lw_g (lw_at lw_m1 188 rfl) rfl
theorem q273 : (Jvm.Cond.superclass "NeverSaid$Fault" "java/lang/RuntimeException") ∈ lw_all := lw_g (lw_at lw_m1 191 rfl) rfl
theorem in_X3 : ∀ w ∈ wsX30, w ∈ lw_all := lw_in wsX30 [218, 220, 222, 224, 226, 270, 264] (by decide +kernel) (by decide +kernel)

/-! NeverSaid$Sheet -/
set_option maxRecDepth 100000
def RX4 : String := "NeverSaid$Sheet"
def TX4 : u_T := fun k => match k with
  | _ => ("NeverSaid$Sheet", "row", "Ljava/lang/Object;", false)
def tyX4 : Nat → FieldType := fun k => match k with
  | _ => .object "java/lang/Object"
abbrev wsX40 : List Cond := u_ws RX4 TX4 1
theorem nmX4 : ∀ a, a < 1 → ∀ b, b < 1 → a ≠ b → (TX4 a).2.1 ≠ (TX4 b).2.1 := by decide +kernel
theorem tyX4_ok : ∀ k, k < 1 → parseFieldDescriptor (TX4 k).2.2.1 = some (tyX4 k) := by decide +kernel
abbrev cX4_init : ByteArray := prog_11_method_1_code
def yX4_init : MethodName := ⟨RX4, "<init>", "()V"⟩
theorem dX4_init_0 : decode cX4_init 0 = .ok (.aload_n 0, 1) := by decide +kernel
theorem dX4_init_1 : decode cX4_init 1 = .ok (.invokespecial 1, 3) := by decide +kernel
theorem dX4_init_4 : decode cX4_init 4 = .ok (.return_, 1) := by decide +kernel
abbrev cX4_isThere : ByteArray := prog_11_method_2_code
def yX4_isThere : MethodName := ⟨RX4, "isThere", "()Z"⟩
def dkwX4_isThere_0 : List UInt8 := [42, 180, 0, 7, 198, 0, 7, 4, 167, 0, 4, 3, 172]
abbrev dktX4_isThere_0 : List UInt8 := dkwX4_isThere_0 ++ []
theorem dksX4_isThere_0 : cX4_isThere.data.toList.drop 0 = dktX4_isThere_0 := by decide +kernel
theorem dX4_isThere_0 : decode cX4_isThere 0 = .ok (.aload_n 0, 1) := dk_42 (dk_at dksX4_isThere_0 0 rfl rfl)
theorem dX4_isThere_1 : decode cX4_isThere 1 = .ok (.getfield 7, 3) := dk_180 0 7 (dk_at dksX4_isThere_0 1 rfl rfl)
theorem dX4_isThere_4 : decode cX4_isThere 4 = .ok (.ifnull 7, 3) := dk_198 0 7 (dk_at dksX4_isThere_0 4 rfl rfl)
theorem dX4_isThere_7 : decode cX4_isThere 7 = .ok (.iconst 1, 1) := dk_4 (dk_at dksX4_isThere_0 7 rfl rfl)
theorem dX4_isThere_8 : decode cX4_isThere 8 = .ok (.goto 4, 3) := dk_167 0 4 (dk_at dksX4_isThere_0 8 rfl rfl)
theorem dX4_isThere_11 : decode cX4_isThere 11 = .ok (.iconst 0, 1) := dk_3 (dk_at dksX4_isThere_0 11 rfl rfl)
theorem dX4_isThere_12 : decode cX4_isThere 12 = .ok (.ireturn, 1) := dk_172 (dk_at dksX4_isThere_0 12 rfl rfl)
abbrev cX4_size : ByteArray := prog_11_method_4_code
def yX4_size : MethodName := ⟨RX4, "size", "()I"⟩
def dkwX4_size_1 : List UInt8 := [192, 0, 19, 190, 172]
abbrev dktX4_size_1 : List UInt8 := dkwX4_size_1 ++ []
def dkwX4_size_0 : List UInt8 := [42, 182, 0, 15, 153, 0, 14, 42, 180, 0, 7, 192, 0, 13, 190, 167, 0, 11, 42, 180, 0, 7]
abbrev dktX4_size_0 : List UInt8 := dkwX4_size_0 ++ dktX4_size_1
theorem dksX4_size_0 : cX4_size.data.toList.drop 0 = dktX4_size_0 := by decide +kernel
theorem dksX4_size_1 : cX4_size.data.toList.drop 22 = dktX4_size_1 := dk_seg dksX4_size_0 22 rfl rfl
theorem dX4_size_0 : decode cX4_size 0 = .ok (.aload_n 0, 1) := dk_42 (dk_at dksX4_size_0 0 rfl rfl)
theorem dX4_size_1 : decode cX4_size 1 = .ok (.invokevirtual 15, 3) := dk_182 0 15 (dk_at dksX4_size_0 1 rfl rfl)
theorem dX4_size_4 : decode cX4_size 4 = .ok (.ifCond .eq 14, 3) := dk_153 0 14 (dk_at dksX4_size_0 4 rfl rfl)
theorem dX4_size_7 : decode cX4_size 7 = .ok (.aload_n 0, 1) := dk_42 (dk_at dksX4_size_0 7 rfl rfl)
theorem dX4_size_8 : decode cX4_size 8 = .ok (.getfield 7, 3) := dk_180 0 7 (dk_at dksX4_size_0 8 rfl rfl)
theorem dX4_size_11 : decode cX4_size 11 = .ok (.checkcast 13, 3) := dk_192 0 13 (dk_at dksX4_size_0 11 rfl rfl)
theorem dX4_size_14 : decode cX4_size 14 = .ok (.arraylength, 1) := dk_190 (dk_at dksX4_size_0 14 rfl rfl)
theorem dX4_size_15 : decode cX4_size 15 = .ok (.goto 11, 3) := dk_167 0 11 (dk_at dksX4_size_0 15 rfl rfl)
theorem dX4_size_18 : decode cX4_size 18 = .ok (.aload_n 0, 1) := dk_42 (dk_at dksX4_size_0 18 rfl rfl)
theorem dX4_size_19 : decode cX4_size 19 = .ok (.getfield 7, 3) := dk_180 0 7 (dk_at dksX4_size_0 19 rfl rfl)
theorem dX4_size_22 : decode cX4_size 22 = .ok (.checkcast 19, 3) := dk_192 0 19 (dk_at dksX4_size_1 0 rfl rfl)
theorem dX4_size_25 : decode cX4_size 25 = .ok (.arraylength, 1) := dk_190 (dk_at dksX4_size_1 3 rfl rfl)
theorem dX4_size_26 : decode cX4_size 26 = .ok (.ireturn, 1) := dk_172 (dk_at dksX4_size_1 4 rfl rfl)
abbrev cX4_isFloats : ByteArray := prog_11_method_3_code
def yX4_isFloats : MethodName := ⟨RX4, "isFloats", "()Z"⟩
def dkwX4_isFloats_0 : List UInt8 := [42, 180, 0, 7, 193, 0, 13, 172]
abbrev dktX4_isFloats_0 : List UInt8 := dkwX4_isFloats_0 ++ []
theorem dksX4_isFloats_0 : cX4_isFloats.data.toList.drop 0 = dktX4_isFloats_0 := by decide +kernel
theorem dX4_isFloats_0 : decode cX4_isFloats 0 = .ok (.aload_n 0, 1) := dk_42 (dk_at dksX4_isFloats_0 0 rfl rfl)
theorem dX4_isFloats_1 : decode cX4_isFloats 1 = .ok (.getfield 7, 3) := dk_180 0 7 (dk_at dksX4_isFloats_0 1 rfl rfl)
theorem dX4_isFloats_4 : decode cX4_isFloats 4 = .ok (.instanceof 13, 3) := dk_193 0 13 (dk_at dksX4_isFloats_0 4 rfl rfl)
theorem dX4_isFloats_7 : decode cX4_isFloats 7 = .ok (.ireturn, 1) := dk_172 (dk_at dksX4_isFloats_0 7 rfl rfl)
abbrev cX4_put : ByteArray := prog_11_method_7_code
def yX4_put : MethodName := ⟨RX4, "put", "(II)V"⟩
def dkwX4_put_1 : List UInt8 := [180, 0, 7, 192, 0, 19, 27, 28, 147, 86, 177]
abbrev dktX4_put_1 : List UInt8 := dkwX4_put_1 ++ []
def dkwX4_put_0 : List UInt8 := [42, 182, 0, 15, 153, 0, 17, 42, 180, 0, 7, 192, 0, 13, 27, 28, 134, 81, 167, 0, 14, 42]
abbrev dktX4_put_0 : List UInt8 := dkwX4_put_0 ++ dktX4_put_1
theorem dksX4_put_0 : cX4_put.data.toList.drop 0 = dktX4_put_0 := by decide +kernel
theorem dksX4_put_1 : cX4_put.data.toList.drop 22 = dktX4_put_1 := dk_seg dksX4_put_0 22 rfl rfl
theorem dX4_put_0 : decode cX4_put 0 = .ok (.aload_n 0, 1) := dk_42 (dk_at dksX4_put_0 0 rfl rfl)
theorem dX4_put_1 : decode cX4_put 1 = .ok (.invokevirtual 15, 3) := dk_182 0 15 (dk_at dksX4_put_0 1 rfl rfl)
theorem dX4_put_4 : decode cX4_put 4 = .ok (.ifCond .eq 17, 3) := dk_153 0 17 (dk_at dksX4_put_0 4 rfl rfl)
theorem dX4_put_7 : decode cX4_put 7 = .ok (.aload_n 0, 1) := dk_42 (dk_at dksX4_put_0 7 rfl rfl)
theorem dX4_put_8 : decode cX4_put 8 = .ok (.getfield 7, 3) := dk_180 0 7 (dk_at dksX4_put_0 8 rfl rfl)
theorem dX4_put_11 : decode cX4_put 11 = .ok (.checkcast 13, 3) := dk_192 0 13 (dk_at dksX4_put_0 11 rfl rfl)
theorem dX4_put_14 : decode cX4_put 14 = .ok (.iload_n 1, 1) := dk_27 (dk_at dksX4_put_0 14 rfl rfl)
theorem dX4_put_15 : decode cX4_put 15 = .ok (.iload_n 2, 1) := dk_28 (dk_at dksX4_put_0 15 rfl rfl)
theorem dX4_put_16 : decode cX4_put 16 = .ok (.i2f, 1) := dk_134 (dk_at dksX4_put_0 16 rfl rfl)
theorem dX4_put_17 : decode cX4_put 17 = .ok (.fastore, 1) := dk_81 (dk_at dksX4_put_0 17 rfl rfl)
theorem dX4_put_18 : decode cX4_put 18 = .ok (.goto 14, 3) := dk_167 0 14 (dk_at dksX4_put_0 18 rfl rfl)
theorem dX4_put_21 : decode cX4_put 21 = .ok (.aload_n 0, 1) := dk_42 (dk_at dksX4_put_0 21 rfl rfl)
theorem dX4_put_22 : decode cX4_put 22 = .ok (.getfield 7, 3) := dk_180 0 7 (dk_at dksX4_put_1 0 rfl rfl)
theorem dX4_put_25 : decode cX4_put 25 = .ok (.checkcast 19, 3) := dk_192 0 19 (dk_at dksX4_put_1 3 rfl rfl)
theorem dX4_put_28 : decode cX4_put 28 = .ok (.iload_n 1, 1) := dk_27 (dk_at dksX4_put_1 6 rfl rfl)
theorem dX4_put_29 : decode cX4_put 29 = .ok (.iload_n 2, 1) := dk_28 (dk_at dksX4_put_1 7 rfl rfl)
theorem dX4_put_30 : decode cX4_put 30 = .ok (.i2s, 1) := dk_147 (dk_at dksX4_put_1 8 rfl rfl)
theorem dX4_put_31 : decode cX4_put 31 = .ok (.sastore, 1) := dk_86 (dk_at dksX4_put_1 9 rfl rfl)
theorem dX4_put_32 : decode cX4_put 32 = .ok (.return_, 1) := dk_177 (dk_at dksX4_put_1 10 rfl rfl)
abbrev cX4_isNumber : ByteArray := prog_11_method_5_code
def yX4_isNumber : MethodName := ⟨RX4, "isNumber", "(I)Z"⟩
def dkwX4_isNumber_1 : List UInt8 := [48, 149, 154, 0, 7, 4, 167, 0, 4, 3, 172]
abbrev dktX4_isNumber_1 : List UInt8 := dkwX4_isNumber_1 ++ []
def dkwX4_isNumber_0 : List UInt8 := [42, 182, 0, 15, 153, 0, 25, 42, 180, 0, 7, 192, 0, 13, 27, 48, 42, 180, 0, 7, 192, 0, 13, 27]
abbrev dktX4_isNumber_0 : List UInt8 := dkwX4_isNumber_0 ++ dktX4_isNumber_1
theorem dksX4_isNumber_0 : cX4_isNumber.data.toList.drop 0 = dktX4_isNumber_0 := by decide +kernel
theorem dksX4_isNumber_1 : cX4_isNumber.data.toList.drop 24 = dktX4_isNumber_1 := dk_seg dksX4_isNumber_0 24 rfl rfl
theorem dX4_isNumber_0 : decode cX4_isNumber 0 = .ok (.aload_n 0, 1) := dk_42 (dk_at dksX4_isNumber_0 0 rfl rfl)
theorem dX4_isNumber_1 : decode cX4_isNumber 1 = .ok (.invokevirtual 15, 3) := dk_182 0 15 (dk_at dksX4_isNumber_0 1 rfl rfl)
theorem dX4_isNumber_4 : decode cX4_isNumber 4 = .ok (.ifCond .eq 25, 3) := dk_153 0 25 (dk_at dksX4_isNumber_0 4 rfl rfl)
theorem dX4_isNumber_7 : decode cX4_isNumber 7 = .ok (.aload_n 0, 1) := dk_42 (dk_at dksX4_isNumber_0 7 rfl rfl)
theorem dX4_isNumber_8 : decode cX4_isNumber 8 = .ok (.getfield 7, 3) := dk_180 0 7 (dk_at dksX4_isNumber_0 8 rfl rfl)
theorem dX4_isNumber_11 : decode cX4_isNumber 11 = .ok (.checkcast 13, 3) := dk_192 0 13 (dk_at dksX4_isNumber_0 11 rfl rfl)
theorem dX4_isNumber_14 : decode cX4_isNumber 14 = .ok (.iload_n 1, 1) := dk_27 (dk_at dksX4_isNumber_0 14 rfl rfl)
theorem dX4_isNumber_15 : decode cX4_isNumber 15 = .ok (.faload, 1) := dk_48 (dk_at dksX4_isNumber_0 15 rfl rfl)
theorem dX4_isNumber_16 : decode cX4_isNumber 16 = .ok (.aload_n 0, 1) := dk_42 (dk_at dksX4_isNumber_0 16 rfl rfl)
theorem dX4_isNumber_17 : decode cX4_isNumber 17 = .ok (.getfield 7, 3) := dk_180 0 7 (dk_at dksX4_isNumber_0 17 rfl rfl)
theorem dX4_isNumber_20 : decode cX4_isNumber 20 = .ok (.checkcast 13, 3) := dk_192 0 13 (dk_at dksX4_isNumber_0 20 rfl rfl)
theorem dX4_isNumber_23 : decode cX4_isNumber 23 = .ok (.iload_n 1, 1) := dk_27 (dk_at dksX4_isNumber_0 23 rfl rfl)
theorem dX4_isNumber_24 : decode cX4_isNumber 24 = .ok (.faload, 1) := dk_48 (dk_at dksX4_isNumber_1 0 rfl rfl)
theorem dX4_isNumber_25 : decode cX4_isNumber 25 = .ok (.fcmp .l, 1) := dk_149 (dk_at dksX4_isNumber_1 1 rfl rfl)
theorem dX4_isNumber_26 : decode cX4_isNumber 26 = .ok (.ifCond .ne 7, 3) := dk_154 0 7 (dk_at dksX4_isNumber_1 2 rfl rfl)
theorem dX4_isNumber_29 : decode cX4_isNumber 29 = .ok (.iconst 1, 1) := dk_4 (dk_at dksX4_isNumber_1 5 rfl rfl)
theorem dX4_isNumber_30 : decode cX4_isNumber 30 = .ok (.goto 4, 3) := dk_167 0 4 (dk_at dksX4_isNumber_1 6 rfl rfl)
theorem dX4_isNumber_33 : decode cX4_isNumber 33 = .ok (.iconst 0, 1) := dk_3 (dk_at dksX4_isNumber_1 9 rfl rfl)
theorem dX4_isNumber_34 : decode cX4_isNumber 34 = .ok (.ireturn, 1) := dk_172 (dk_at dksX4_isNumber_1 10 rfl rfl)
abbrev cX4_at : ByteArray := prog_11_method_6_code
def yX4_at : MethodName := ⟨RX4, "at", "(I)I"⟩
def dkwX4_at_1 : List UInt8 := [192, 0, 19, 27, 53, 172]
abbrev dktX4_at_1 : List UInt8 := dkwX4_at_1 ++ []
def dkwX4_at_0 : List UInt8 := [42, 182, 0, 15, 153, 0, 16, 42, 180, 0, 7, 192, 0, 13, 27, 48, 139, 167, 0, 12, 42, 180, 0, 7]
abbrev dktX4_at_0 : List UInt8 := dkwX4_at_0 ++ dktX4_at_1
theorem dksX4_at_0 : cX4_at.data.toList.drop 0 = dktX4_at_0 := by decide +kernel
theorem dksX4_at_1 : cX4_at.data.toList.drop 24 = dktX4_at_1 := dk_seg dksX4_at_0 24 rfl rfl
theorem dX4_at_0 : decode cX4_at 0 = .ok (.aload_n 0, 1) := dk_42 (dk_at dksX4_at_0 0 rfl rfl)
theorem dX4_at_1 : decode cX4_at 1 = .ok (.invokevirtual 15, 3) := dk_182 0 15 (dk_at dksX4_at_0 1 rfl rfl)
theorem dX4_at_4 : decode cX4_at 4 = .ok (.ifCond .eq 16, 3) := dk_153 0 16 (dk_at dksX4_at_0 4 rfl rfl)
theorem dX4_at_7 : decode cX4_at 7 = .ok (.aload_n 0, 1) := dk_42 (dk_at dksX4_at_0 7 rfl rfl)
theorem dX4_at_8 : decode cX4_at 8 = .ok (.getfield 7, 3) := dk_180 0 7 (dk_at dksX4_at_0 8 rfl rfl)
theorem dX4_at_11 : decode cX4_at 11 = .ok (.checkcast 13, 3) := dk_192 0 13 (dk_at dksX4_at_0 11 rfl rfl)
theorem dX4_at_14 : decode cX4_at 14 = .ok (.iload_n 1, 1) := dk_27 (dk_at dksX4_at_0 14 rfl rfl)
theorem dX4_at_15 : decode cX4_at 15 = .ok (.faload, 1) := dk_48 (dk_at dksX4_at_0 15 rfl rfl)
theorem dX4_at_16 : decode cX4_at 16 = .ok (.f2i, 1) := dk_139 (dk_at dksX4_at_0 16 rfl rfl)
theorem dX4_at_17 : decode cX4_at 17 = .ok (.goto 12, 3) := dk_167 0 12 (dk_at dksX4_at_0 17 rfl rfl)
theorem dX4_at_20 : decode cX4_at 20 = .ok (.aload_n 0, 1) := dk_42 (dk_at dksX4_at_0 20 rfl rfl)
theorem dX4_at_21 : decode cX4_at 21 = .ok (.getfield 7, 3) := dk_180 0 7 (dk_at dksX4_at_0 21 rfl rfl)
theorem dX4_at_24 : decode cX4_at 24 = .ok (.checkcast 19, 3) := dk_192 0 19 (dk_at dksX4_at_1 0 rfl rfl)
theorem dX4_at_27 : decode cX4_at 27 = .ok (.iload_n 1, 1) := dk_27 (dk_at dksX4_at_1 3 rfl rfl)
theorem dX4_at_28 : decode cX4_at 28 = .ok (.saload, 1) := dk_53 (dk_at dksX4_at_1 4 rfl rfl)
theorem dX4_at_29 : decode cX4_at 29 = .ok (.ireturn, 1) := dk_172 (dk_at dksX4_at_1 5 rfl rfl)
theorem q90 : (Jvm.Cond.initialized "NeverSaid$Sheet") ∈ lw_all := lw_g (lw_at lw_m1 8 rfl) rfl
theorem q277 : (Jvm.Cond.instantiable "NeverSaid$Sheet" (1 : Nat)) ∈ lw_all := lw_g (lw_at lw_m1 195 rfl) rfl
theorem q279 : (Jvm.Cond.instanceMethod ({ cls := "NeverSaid$Sheet", name := "<init>", desc := "()V" } : Jvm.MethodName)) ∈ lw_all := lw_g (lw_at lw_m1 197 rfl) rfl
theorem q280 : (Jvm.Cond.code ({ cls := "NeverSaid$Sheet", name := "<init>", desc := "()V" } : Jvm.MethodName) prog_11_method_1_code (1 : Nat) (Option.none : Option Jvm.ClassFile.FieldType)) ∈ lw_all := lw_g (lw_at lw_m1 198 rfl) rfl
theorem q281 : (Jvm.Cond.methodLink "NeverSaid$Sheet" (1 : Nat) ({ cls := "java/lang/Object", name := "<init>", desc := "()V" } : Jvm.MethodName)) ∈ lw_all := lw_g (lw_at lw_m1 199 rfl) rfl
theorem q282 : (Jvm.Cond.fieldLink "NeverSaid$Sheet" (7 : Nat) "NeverSaid$Sheet" "row" "Ljava/lang/Object;") ∈ lw_all := lw_g (lw_at lw_m1 200 rfl) rfl
theorem q284 : (Jvm.Cond.lays "NeverSaid$Sheet" "NeverSaid$Sheet" "row" "Ljava/lang/Object;") ∈ lw_all := lw_g (lw_at lw_m1 202 rfl) rfl
theorem q285 : (Jvm.Cond.soleField "NeverSaid$Sheet" "row") ∈ lw_all := lw_g (lw_at lw_m1 203 rfl) rfl
theorem q286 : (Jvm.Cond.superclass "NeverSaid$Sheet" "java/lang/Object") ∈ lw_all := lw_g (lw_at lw_m1 204 rfl) rfl
theorem q1016 : (Jvm.Cond.instanceMethod ({ cls := "NeverSaid$Sheet", name := "isThere", desc := "()Z" } : Jvm.MethodName)) ∈ lw_all := lw_g (lw_at lw_m4 214 rfl) rfl
theorem q1017 : (Jvm.Cond.selects "NeverSaid$Sheet" ({ cls := "NeverSaid$Sheet", name := "isThere", desc := "()Z" } : Jvm.MethodName) ({ cls := "NeverSaid$Sheet", name := "isThere", desc := "()Z" } : Jvm.MethodName)) ∈ lw_all := lw_g (lw_at lw_m4 215 rfl) rfl
theorem q1018 : (Jvm.Cond.code ({ cls := "NeverSaid$Sheet", name := "isThere", desc := "()Z" } : Jvm.MethodName) prog_11_method_2_code (1 : Nat) (Option.some Jvm.ClassFile.FieldType.boolean)) ∈ lw_all := lw_g (lw_at lw_m4 216 rfl) rfl
theorem q1021 : (Jvm.Cond.instanceMethod ({ cls := "NeverSaid$Sheet", name := "size", desc := "()I" } : Jvm.MethodName)) ∈ lw_all := lw_g (lw_at lw_m4 219 rfl) rfl
theorem q1022 : (Jvm.Cond.selects "NeverSaid$Sheet" ({ cls := "NeverSaid$Sheet", name := "size", desc := "()I" } : Jvm.MethodName) ({ cls := "NeverSaid$Sheet", name := "size", desc := "()I" } : Jvm.MethodName)) ∈ lw_all := lw_g (lw_at lw_m4 220 rfl) rfl
theorem q1023 : (Jvm.Cond.code ({ cls := "NeverSaid$Sheet", name := "size", desc := "()I" } : Jvm.MethodName) prog_11_method_4_code (1 : Nat) (Option.some Jvm.ClassFile.FieldType.int)) ∈ lw_all := lw_g (lw_at lw_m4 221 rfl) rfl
theorem q1024 : (Jvm.Cond.methodLink "NeverSaid$Sheet" (15 : Nat) ({ cls := "NeverSaid$Sheet", name := "isFloats", desc := "()Z" } : Jvm.MethodName)) ∈ lw_all := lw_g (lw_at lw_m4 222 rfl) rfl
theorem q1025 : (Jvm.Cond.instanceMethod ({ cls := "NeverSaid$Sheet", name := "isFloats", desc := "()Z" } : Jvm.MethodName)) ∈ lw_all := lw_g (lw_at lw_m4 223 rfl) rfl
theorem q1026 : (Jvm.Cond.selects "NeverSaid$Sheet" ({ cls := "NeverSaid$Sheet", name := "isFloats", desc := "()Z" } : Jvm.MethodName) ({ cls := "NeverSaid$Sheet", name := "isFloats", desc := "()Z" } : Jvm.MethodName)) ∈ lw_all := lw_g (lw_at lw_m4 224 rfl) rfl
theorem q1027 : (Jvm.Cond.code ({ cls := "NeverSaid$Sheet", name := "isFloats", desc := "()Z" } : Jvm.MethodName) prog_11_method_3_code (1 : Nat) (Option.some Jvm.ClassFile.FieldType.boolean)) ∈ lw_all := lw_g (lw_at lw_m4 225 rfl) rfl
theorem q1028 : (Jvm.Cond.classLink "NeverSaid$Sheet" (13 : Nat) "[F") ∈ lw_all := lw_g (lw_at lw_m4 226 rfl) rfl
theorem q1029 : (Jvm.Cond.classLink "NeverSaid$Sheet" (19 : Nat) "[S") ∈ lw_all := lw_g (lw_at lw_m4 227 rfl) rfl
theorem q1038 : (Jvm.Cond.instanceMethod ({ cls := "NeverSaid$Sheet", name := "put", desc := "(II)V" } : Jvm.MethodName)) ∈ lw_all := lw_g (lw_at lw_m4 236 rfl) rfl
theorem q1039 : (Jvm.Cond.selects "NeverSaid$Sheet" ({ cls := "NeverSaid$Sheet", name := "put", desc := "(II)V" } : Jvm.MethodName) ({ cls := "NeverSaid$Sheet", name := "put", desc := "(II)V" } : Jvm.MethodName)) ∈ lw_all := lw_g (lw_at lw_m4 237 rfl) rfl
theorem q1040 : (Jvm.Cond.code ({ cls := "NeverSaid$Sheet", name := "put", desc := "(II)V" } : Jvm.MethodName) prog_11_method_7_code (3 : Nat) (Option.none : Option Jvm.ClassFile.FieldType)) ∈ lw_all := lw_g (lw_at lw_m4 238 rfl) rfl
theorem q1047 : (Jvm.Cond.instanceMethod ({ cls := "NeverSaid$Sheet", name := "isNumber", desc := "(I)Z" } : Jvm.MethodName)) ∈ lw_all := lw_g (lw_at lw_m5 5 rfl) rfl
theorem q1048 : (Jvm.Cond.selects "NeverSaid$Sheet" ({ cls := "NeverSaid$Sheet", name := "isNumber", desc := "(I)Z" } : Jvm.MethodName) ({ cls := "NeverSaid$Sheet", name := "isNumber", desc := "(I)Z" } : Jvm.MethodName)) ∈ lw_all := lw_g (lw_at lw_m5 6 rfl) rfl
theorem q1049 : (Jvm.Cond.code ({ cls := "NeverSaid$Sheet", name := "isNumber", desc := "(I)Z" } : Jvm.MethodName) prog_11_method_5_code (2 : Nat) (Option.some Jvm.ClassFile.FieldType.boolean)) ∈ lw_all := lw_g (lw_at lw_m5 7 rfl) rfl
theorem q1051 : (Jvm.Cond.instanceMethod ({ cls := "NeverSaid$Sheet", name := "at", desc := "(I)I" } : Jvm.MethodName)) ∈ lw_all := lw_g (lw_at lw_m5 9 rfl) rfl
theorem q1052 : (Jvm.Cond.selects "NeverSaid$Sheet" ({ cls := "NeverSaid$Sheet", name := "at", desc := "(I)I" } : Jvm.MethodName) ({ cls := "NeverSaid$Sheet", name := "at", desc := "(I)I" } : Jvm.MethodName)) ∈ lw_all := lw_g (lw_at lw_m5 10 rfl) rfl
theorem q1053 : (Jvm.Cond.code ({ cls := "NeverSaid$Sheet", name := "at", desc := "(I)I" } : Jvm.MethodName) prog_11_method_6_code (2 : Nat) (Option.some Jvm.ClassFile.FieldType.int)) ∈ lw_all := lw_g (lw_at lw_m5 11 rfl) rfl
theorem in_X4 : ∀ w ∈ wsX40, w ∈ lw_all := lw_in wsX40 [284] (by decide +kernel) (by decide +kernel)

/-! NeverSaid$Slot -/
set_option maxRecDepth 100000
def RX5 : String := "NeverSaid$Slot"
def TX5 : u_T := fun k => match k with
  | _ => ("NeverSaid$Slot", "held", "Ljava/lang/Object;", false)
def tyX5 : Nat → FieldType := fun k => match k with
  | _ => .object "java/lang/Object"
abbrev wsX50 : List Cond := u_ws RX5 TX5 1
theorem nmX5 : ∀ a, a < 1 → ∀ b, b < 1 → a ≠ b → (TX5 a).2.1 ≠ (TX5 b).2.1 := by decide +kernel
theorem tyX5_ok : ∀ k, k < 1 → parseFieldDescriptor (TX5 k).2.2.1 = some (tyX5 k) := by decide +kernel
abbrev cX5_init : ByteArray := prog_12_method_1_code
def yX5_init : MethodName := ⟨RX5, "<init>", "()V"⟩
theorem dX5_init_0 : decode cX5_init 0 = .ok (.aload_n 0, 1) := by decide +kernel
theorem dX5_init_1 : decode cX5_init 1 = .ok (.invokespecial 1, 3) := by decide +kernel
theorem dX5_init_4 : decode cX5_init 4 = .ok (.return_, 1) := by decide +kernel
abbrev cX5_thing : ByteArray := prog_12_method_2_code
def yX5_thing : MethodName := ⟨RX5, "thing", "()I"⟩
def dkwX5_thing_1 : List UInt8 := [167, 0, 18, 42, 180, 0, 7, 193, 0, 15, 153, 0, 7, 5, 167, 0, 4, 6, 172]
abbrev dktX5_thing_1 : List UInt8 := dkwX5_thing_1 ++ []
def dkwX5_thing_0 : List UInt8 := [42, 180, 0, 7, 199, 0, 7, 3, 167, 0, 32, 42, 180, 0, 7, 193, 0, 13, 153, 0, 7, 4]
abbrev dktX5_thing_0 : List UInt8 := dkwX5_thing_0 ++ dktX5_thing_1
theorem dksX5_thing_0 : cX5_thing.data.toList.drop 0 = dktX5_thing_0 := by decide +kernel
theorem dksX5_thing_1 : cX5_thing.data.toList.drop 22 = dktX5_thing_1 := dk_seg dksX5_thing_0 22 rfl rfl
theorem dX5_thing_0 : decode cX5_thing 0 = .ok (.aload_n 0, 1) := dk_42 (dk_at dksX5_thing_0 0 rfl rfl)
theorem dX5_thing_1 : decode cX5_thing 1 = .ok (.getfield 7, 3) := dk_180 0 7 (dk_at dksX5_thing_0 1 rfl rfl)
theorem dX5_thing_4 : decode cX5_thing 4 = .ok (.ifnonnull 7, 3) := dk_199 0 7 (dk_at dksX5_thing_0 4 rfl rfl)
theorem dX5_thing_7 : decode cX5_thing 7 = .ok (.iconst 0, 1) := dk_3 (dk_at dksX5_thing_0 7 rfl rfl)
theorem dX5_thing_8 : decode cX5_thing 8 = .ok (.goto 32, 3) := dk_167 0 32 (dk_at dksX5_thing_0 8 rfl rfl)
theorem dX5_thing_11 : decode cX5_thing 11 = .ok (.aload_n 0, 1) := dk_42 (dk_at dksX5_thing_0 11 rfl rfl)
theorem dX5_thing_12 : decode cX5_thing 12 = .ok (.getfield 7, 3) := dk_180 0 7 (dk_at dksX5_thing_0 12 rfl rfl)
theorem dX5_thing_15 : decode cX5_thing 15 = .ok (.instanceof 13, 3) := dk_193 0 13 (dk_at dksX5_thing_0 15 rfl rfl)
theorem dX5_thing_18 : decode cX5_thing 18 = .ok (.ifCond .eq 7, 3) := dk_153 0 7 (dk_at dksX5_thing_0 18 rfl rfl)
theorem dX5_thing_21 : decode cX5_thing 21 = .ok (.iconst 1, 1) := dk_4 (dk_at dksX5_thing_0 21 rfl rfl)
theorem dX5_thing_22 : decode cX5_thing 22 = .ok (.goto 18, 3) := dk_167 0 18 (dk_at dksX5_thing_1 0 rfl rfl)
theorem dX5_thing_25 : decode cX5_thing 25 = .ok (.aload_n 0, 1) := dk_42 (dk_at dksX5_thing_1 3 rfl rfl)
theorem dX5_thing_26 : decode cX5_thing 26 = .ok (.getfield 7, 3) := dk_180 0 7 (dk_at dksX5_thing_1 4 rfl rfl)
theorem dX5_thing_29 : decode cX5_thing 29 = .ok (.instanceof 15, 3) := dk_193 0 15 (dk_at dksX5_thing_1 7 rfl rfl)
theorem dX5_thing_32 : decode cX5_thing 32 = .ok (.ifCond .eq 7, 3) := dk_153 0 7 (dk_at dksX5_thing_1 10 rfl rfl)
theorem dX5_thing_35 : decode cX5_thing 35 = .ok (.iconst 2, 1) := dk_5 (dk_at dksX5_thing_1 13 rfl rfl)
theorem dX5_thing_36 : decode cX5_thing 36 = .ok (.goto 4, 3) := dk_167 0 4 (dk_at dksX5_thing_1 14 rfl rfl)
theorem dX5_thing_39 : decode cX5_thing 39 = .ok (.iconst 3, 1) := dk_6 (dk_at dksX5_thing_1 17 rfl rfl)
theorem dX5_thing_40 : decode cX5_thing 40 = .ok (.ireturn, 1) := dk_172 (dk_at dksX5_thing_1 18 rfl rfl)
theorem q91 : (Jvm.Cond.initialized "NeverSaid$Slot") ∈ lw_all := lw_g (lw_at lw_m1 9 rfl) rfl
theorem q289 : (Jvm.Cond.instantiable "NeverSaid$Slot" (1 : Nat)) ∈ lw_all := lw_g (lw_at lw_m1 207 rfl) rfl
theorem q291 : (Jvm.Cond.instanceMethod ({ cls := "NeverSaid$Slot", name := "<init>", desc := "()V" } : Jvm.MethodName)) ∈ lw_all := lw_g (lw_at lw_m1 209 rfl) rfl
theorem q292 : (Jvm.Cond.code ({ cls := "NeverSaid$Slot", name := "<init>", desc := "()V" } : Jvm.MethodName) prog_12_method_1_code (1 : Nat) (Option.none : Option Jvm.ClassFile.FieldType)) ∈ lw_all := lw_g (lw_at lw_m1 210 rfl) rfl
theorem q293 : (Jvm.Cond.methodLink "NeverSaid$Slot" (1 : Nat) ({ cls := "java/lang/Object", name := "<init>", desc := "()V" } : Jvm.MethodName)) ∈ lw_all := lw_g (lw_at lw_m1 211 rfl) rfl
theorem q294 : (Jvm.Cond.fieldLink "NeverSaid$Slot" (7 : Nat) "NeverSaid$Slot" "held" "Ljava/lang/Object;") ∈ lw_all := lw_g (lw_at lw_m1 212 rfl) rfl
theorem q296 : (Jvm.Cond.lays "NeverSaid$Slot" "NeverSaid$Slot" "held" "Ljava/lang/Object;") ∈ lw_all := lw_g (lw_at lw_m1 214 rfl) rfl
theorem q297 : (Jvm.Cond.soleField "NeverSaid$Slot" "held") ∈ lw_all := lw_g (lw_at lw_m1 215 rfl) rfl
theorem q298 : (Jvm.Cond.superclass "NeverSaid$Slot" "java/lang/Object") ∈ lw_all := lw_g (lw_at lw_m1 216 rfl) rfl
theorem q1075 : (Jvm.Cond.instanceMethod ({ cls := "NeverSaid$Slot", name := "thing", desc := "()I" } : Jvm.MethodName)) ∈ lw_all := lw_g (lw_at lw_m5 33 rfl) rfl
theorem q1076 : (Jvm.Cond.selects "NeverSaid$Slot" ({ cls := "NeverSaid$Slot", name := "thing", desc := "()I" } : Jvm.MethodName) ({ cls := "NeverSaid$Slot", name := "thing", desc := "()I" } : Jvm.MethodName)) ∈ lw_all := lw_g (lw_at lw_m5 34 rfl) rfl
theorem q1077 : (Jvm.Cond.code ({ cls := "NeverSaid$Slot", name := "thing", desc := "()I" } : Jvm.MethodName) prog_12_method_2_code (1 : Nat) (Option.some Jvm.ClassFile.FieldType.int)) ∈ lw_all := lw_g (lw_at lw_m5 35 rfl) rfl
theorem q1078 : (Jvm.Cond.classLink "NeverSaid$Slot" (13 : Nat) "NeverSaid$Speaker") ∈ lw_all := lw_g (lw_at lw_m5 36 rfl) rfl
theorem q1079 : (Jvm.Cond.classLink "NeverSaid$Slot" (15 : Nat) "NeverSaid$Sheet") ∈ lw_all := lw_g (lw_at lw_m5 37 rfl) rfl
theorem in_X5 : ∀ w ∈ wsX50, w ∈ lw_all := lw_in wsX50 [296] (by decide +kernel) (by decide +kernel)

/-! NeverSaid$Speaker -/
set_option maxRecDepth 100000
def RX7 : String := "NeverSaid$Speaker"
def TX7 : u_T := fun k => match k with
  | _ => ("NeverSaid$Speaker", "bold", "I", false)
def tyX7 : Nat → FieldType := fun k => match k with
  | _ => .int
abbrev wsX70 : List Cond := u_ws RX7 TX7 1
theorem nmX7 : ∀ a, a < 1 → ∀ b, b < 1 → a ≠ b → (TX7 a).2.1 ≠ (TX7 b).2.1 := by decide +kernel
theorem tyX7_ok : ∀ k, k < 1 → parseFieldDescriptor (TX7 k).2.2.1 = some (tyX7 k) := by decide +kernel
abbrev cX7_init : ByteArray := prog_13_method_1_code
def yX7_init : MethodName := ⟨RX7, "<init>", "()V"⟩
theorem dX7_init_0 : decode cX7_init 0 = .ok (.aload_n 0, 1) := by decide +kernel
theorem dX7_init_1 : decode cX7_init 1 = .ok (.invokespecial 1, 3) := by decide +kernel
theorem dX7_init_4 : decode cX7_init 4 = .ok (.return_, 1) := by decide +kernel
abbrev cX7_kind : ByteArray := prog_13_method_2_code
def yX7_kind : MethodName := ⟨RX7, "kind", "()I"⟩
theorem dX7_kind_0 : decode cX7_kind 0 = .ok (.iconst 0, 1) := by decide +kernel
theorem dX7_kind_1 : decode cX7_kind 1 = .ok (.ireturn, 1) := by decide +kernel
abbrev cX7_worth : ByteArray := prog_13_method_3_code
def yX7_worth : MethodName := ⟨RX7, "worth", "()I"⟩
theorem dX7_worth_0 : decode cX7_worth 0 = .ok (.aload_n 0, 1) := by decide +kernel
theorem dX7_worth_1 : decode cX7_worth 1 = .ok (.getfield 7, 3) := by decide +kernel
theorem dX7_worth_4 : decode cX7_worth 4 = .ok (.ireturn, 1) := by decide +kernel
abbrev cX7_copy : ByteArray := prog_13_method_5_code
def yX7_copy : MethodName := ⟨RX7, "copy", "()LNeverSaid$Speaker;"⟩
def dkwX7_copy_0 : List UInt8 := [42, 182, 0, 14, 76, 43, 42, 180, 0, 7, 181, 0, 7, 43, 176]
abbrev dktX7_copy_0 : List UInt8 := dkwX7_copy_0 ++ []
theorem dksX7_copy_0 : cX7_copy.data.toList.drop 0 = dktX7_copy_0 := by decide +kernel
theorem dX7_copy_0 : decode cX7_copy 0 = .ok (.aload_n 0, 1) := dk_42 (dk_at dksX7_copy_0 0 rfl rfl)
theorem dX7_copy_1 : decode cX7_copy 1 = .ok (.invokevirtual 14, 3) := dk_182 0 14 (dk_at dksX7_copy_0 1 rfl rfl)
theorem dX7_copy_4 : decode cX7_copy 4 = .ok (.astore_n 1, 1) := dk_76 (dk_at dksX7_copy_0 4 rfl rfl)
theorem dX7_copy_5 : decode cX7_copy 5 = .ok (.aload_n 1, 1) := dk_43 (dk_at dksX7_copy_0 5 rfl rfl)
theorem dX7_copy_6 : decode cX7_copy 6 = .ok (.aload_n 0, 1) := dk_42 (dk_at dksX7_copy_0 6 rfl rfl)
theorem dX7_copy_7 : decode cX7_copy 7 = .ok (.getfield 7, 3) := dk_180 0 7 (dk_at dksX7_copy_0 7 rfl rfl)
theorem dX7_copy_10 : decode cX7_copy 10 = .ok (.putfield 7, 3) := dk_181 0 7 (dk_at dksX7_copy_0 10 rfl rfl)
theorem dX7_copy_13 : decode cX7_copy 13 = .ok (.aload_n 1, 1) := dk_43 (dk_at dksX7_copy_0 13 rfl rfl)
theorem dX7_copy_14 : decode cX7_copy 14 = .ok (.areturn, 1) := dk_176 (dk_at dksX7_copy_0 14 rfl rfl)
abbrev cX7_another : ByteArray := prog_13_method_4_code
def yX7_another : MethodName := ⟨RX7, "another", "()LNeverSaid$Speaker;"⟩
def dkwX7_another_0 : List UInt8 := [187, 0, 8, 89, 183, 0, 13, 176]
abbrev dktX7_another_0 : List UInt8 := dkwX7_another_0 ++ []
theorem dksX7_another_0 : cX7_another.data.toList.drop 0 = dktX7_another_0 := by decide +kernel
theorem dX7_another_0 : decode cX7_another 0 = .ok (.new 8, 3) := dk_187 0 8 (dk_at dksX7_another_0 0 rfl rfl)
theorem dX7_another_3 : decode cX7_another 3 = .ok (.dup, 1) := dk_89 (dk_at dksX7_another_0 3 rfl rfl)
theorem dX7_another_4 : decode cX7_another 4 = .ok (.invokespecial 13, 3) := dk_183 0 13 (dk_at dksX7_another_0 4 rfl rfl)
theorem dX7_another_7 : decode cX7_another 7 = .ok (.areturn, 1) := dk_176 (dk_at dksX7_another_0 7 rfl rfl)
theorem q93 : (Jvm.Cond.initialized "NeverSaid$Speaker") ∈ lw_all := lw_g (lw_at lw_m1 11 rfl) rfl
theorem q592 : (Jvm.Cond.instanceMethod ({ cls := "NeverSaid$Speaker", name := "<init>", desc := "()V" } : Jvm.MethodName)) ∈ lw_all := lw_g (lw_at lw_m3 30 rfl) rfl
theorem q593 : (Jvm.Cond.code ({ cls := "NeverSaid$Speaker", name := "<init>", desc := "()V" } : Jvm.MethodName) prog_13_method_1_code (1 : Nat) (Option.none : Option Jvm.ClassFile.FieldType)) ∈ lw_all := lw_g (lw_at lw_m3 31 rfl) rfl
theorem q594 : (Jvm.Cond.methodLink "NeverSaid$Speaker" (1 : Nat) ({ cls := "java/lang/Object", name := "<init>", desc := "()V" } : Jvm.MethodName)) ∈ lw_all := lw_g (lw_at lw_m3 32 rfl) rfl
theorem q595 : (Jvm.Cond.fieldLink "NeverSaid$Speaker" (7 : Nat) "NeverSaid$Speaker" "bold" "I") ∈ lw_all := lw_g (lw_at lw_m3 33 rfl) rfl
theorem q601 : (Jvm.Cond.soleField "NeverSaid$Speaker" "bold") ∈ lw_all := lw_g (lw_at lw_m3 39 rfl) rfl
theorem q636 : (Jvm.Cond.instantiable "NeverSaid$Speaker" (1 : Nat)) ∈ lw_all := lw_g (lw_at lw_m3 74 rfl) rfl
theorem q638 : (Jvm.Cond.lays "NeverSaid$Speaker" "NeverSaid$Speaker" "bold" "I") ∈ lw_all := lw_g (lw_at lw_m3 76 rfl) rfl
theorem q639 : (Jvm.Cond.superclass "NeverSaid$Speaker" "java/lang/Object") ∈ lw_all := lw_g (lw_at lw_m3 77 rfl) rfl
theorem q649 : (Jvm.Cond.instanceMethod ({ cls := "NeverSaid$Speaker", name := "kind", desc := "()I" } : Jvm.MethodName)) ∈ lw_all := lw_g (lw_at lw_m3 87 rfl) rfl
theorem q650 : (Jvm.Cond.selects "NeverSaid$Speaker" ({ cls := "NeverSaid$Speaker", name := "kind", desc := "()I" } : Jvm.MethodName) ({ cls := "NeverSaid$Speaker", name := "kind", desc := "()I" } : Jvm.MethodName)) ∈ lw_all := lw_g (lw_at lw_m3 88 rfl) rfl
theorem q651 : (Jvm.Cond.sameMethod "NeverSaid$Speaker" "NeverSaid$Speaker" "kind" "()I") ∈ lw_all := lw_g (lw_at lw_m3 89 rfl) rfl
theorem q669 : (Jvm.Cond.code ({ cls := "NeverSaid$Speaker", name := "kind", desc := "()I" } : Jvm.MethodName) prog_13_method_2_code (1 : Nat) (Option.some Jvm.ClassFile.FieldType.int)) ∈ lw_all := lw_g (lw_at lw_m3 107 rfl) rfl
theorem q681 : (Jvm.Cond.instanceMethod ({ cls := "NeverSaid$Speaker", name := "worth", desc := "()I" } : Jvm.MethodName)) ∈ lw_all := lw_g (lw_at lw_m3 119 rfl) rfl
theorem q682 : (Jvm.Cond.selects "NeverSaid$Speaker" ({ cls := "NeverSaid$Speaker", name := "worth", desc := "()I" } : Jvm.MethodName) ({ cls := "NeverSaid$Speaker", name := "worth", desc := "()I" } : Jvm.MethodName)) ∈ lw_all := lw_g (lw_at lw_m3 120 rfl) rfl
theorem q683 : (Jvm.Cond.sameMethod "NeverSaid$Speaker" "NeverSaid$Speaker" "worth" "()I") ∈ lw_all := lw_g (lw_at lw_m3 121 rfl) rfl
theorem q704 : (Jvm.Cond.code ({ cls := "NeverSaid$Speaker", name := "worth", desc := "()I" } : Jvm.MethodName) prog_13_method_3_code (1 : Nat) (Option.some Jvm.ClassFile.FieldType.int)) ∈ lw_all := lw_g (lw_at lw_m3 142 rfl) rfl
theorem q915 : (Jvm.Cond.castable "NeverSaid$Speaker" "NeverSaid$Chooses") ∈ lw_tbl := lw_at lw_m4 113 rfl
theorem q916 : (Jvm.Cond.unhidden "NeverSaid$Speaker" "pick" "(I)I") ∈ lw_tbl := lw_at lw_m4 114 rfl
theorem q932 : (Jvm.Cond.unhidden "NeverSaid$Speaker" "choice" "(IIII)I") ∈ lw_tbl := lw_at lw_m4 130 rfl
theorem q1081 : (Jvm.Cond.instanceMethod ({ cls := "NeverSaid$Speaker", name := "copy", desc := "()LNeverSaid$Speaker;" } : Jvm.MethodName)) ∈ lw_all := lw_g (lw_at lw_m5 39 rfl) rfl
theorem q1082 : (Jvm.Cond.selects "NeverSaid$Speaker" ({ cls := "NeverSaid$Speaker", name := "copy", desc := "()LNeverSaid$Speaker;" } : Jvm.MethodName) ({ cls := "NeverSaid$Speaker", name := "copy", desc := "()LNeverSaid$Speaker;" } : Jvm.MethodName)) ∈ lw_all := lw_g (lw_at lw_m5 40 rfl) rfl
theorem q1083 : (Jvm.Cond.sameMethod "NeverSaid$Speaker" "NeverSaid$Speaker" "copy" "()LNeverSaid$Speaker;") ∈ lw_all := lw_g (lw_at lw_m5 41 rfl) rfl
theorem q1089 : (Jvm.Cond.code ({ cls := "NeverSaid$Speaker", name := "copy", desc := "()LNeverSaid$Speaker;" } : Jvm.MethodName) prog_13_method_5_code (2 : Nat) (Option.some (Jvm.ClassFile.FieldType.object "NeverSaid$Speaker"))) ∈ lw_all := lw_g (lw_at lw_m5 47 rfl) rfl
theorem q1090 : (Jvm.Cond.methodLink "NeverSaid$Speaker" (14 : Nat) ({ cls := "NeverSaid$Speaker", name := "another", desc := "()LNeverSaid$Speaker;" } : Jvm.MethodName)) ∈ lw_all := lw_g (lw_at lw_m5 48 rfl) rfl
theorem q1091 : (Jvm.Cond.instanceMethod ({ cls := "NeverSaid$Speaker", name := "another", desc := "()LNeverSaid$Speaker;" } : Jvm.MethodName)) ∈ lw_all := lw_g (lw_at lw_m5 49 rfl) rfl
theorem q1092 : (Jvm.Cond.selects "NeverSaid$Speaker" ({ cls := "NeverSaid$Speaker", name := "another", desc := "()LNeverSaid$Speaker;" } : Jvm.MethodName) ({ cls := "NeverSaid$Speaker", name := "another", desc := "()LNeverSaid$Speaker;" } : Jvm.MethodName)) ∈ lw_all := lw_g (lw_at lw_m5 50 rfl) rfl
theorem q1093 : (Jvm.Cond.sameMethod "NeverSaid$Speaker" "NeverSaid$Speaker" "another" "()LNeverSaid$Speaker;") ∈ lw_all := lw_g (lw_at lw_m5 51 rfl) rfl
theorem q1119 : (Jvm.Cond.code ({ cls := "NeverSaid$Speaker", name := "another", desc := "()LNeverSaid$Speaker;" } : Jvm.MethodName) prog_13_method_4_code (1 : Nat) (Option.some (Jvm.ClassFile.FieldType.object "NeverSaid$Speaker"))) ∈ lw_all := lw_g (lw_at lw_m5 77 rfl) rfl
theorem q1120 : (Jvm.Cond.classLink "NeverSaid$Speaker" (8 : Nat) "NeverSaid$Speaker") ∈ lw_all := lw_g (lw_at lw_m5 78 rfl) rfl
theorem q1121 : (Jvm.Cond.methodLink "NeverSaid$Speaker" (13 : Nat) ({ cls := "NeverSaid$Speaker", name := "<init>", desc := "()V" } : Jvm.MethodName)) ∈ lw_all := lw_g (lw_at lw_m5 79 rfl) rfl
theorem q1157 : (Jvm.Cond.selects "NeverSaid$Speaker" ({ cls := "NeverSaid$Chooses", name := "worth", desc := "()I" } : Jvm.MethodName) ({ cls := "NeverSaid$Speaker", name := "worth", desc := "()I" } : Jvm.MethodName)) ∈ lw_all := lw_g (lw_at lw_m5 115 rfl) rfl
theorem q1158 : (Jvm.Cond.unhidden "NeverSaid$Speaker" "worth" "()I") ∈ lw_tbl := lw_at lw_m5 116 rfl
theorem q1159 : (Jvm.Cond.publicMethod ({ cls := "NeverSaid$Speaker", name := "worth", desc := "()I" } : Jvm.MethodName)) ∈ lw_tbl := lw_at lw_m5 117 rfl
theorem in_X7 : ∀ w ∈ wsX70, w ∈ lw_all := lw_in wsX70 [638] (by decide +kernel) (by decide +kernel)

/-! NeverSaid$SureSpeaker -/
set_option maxRecDepth 100000
def RX8 : String := "NeverSaid$SureSpeaker"
def TX8 : u_T := fun k => match k with
  | _ => ("NeverSaid$Speaker", "bold", "I", false)
def tyX8 : Nat → FieldType := fun k => match k with
  | _ => .int
abbrev wsX80 : List Cond := u_ws RX8 TX8 1
theorem nmX8 : ∀ a, a < 1 → ∀ b, b < 1 → a ≠ b → (TX8 a).2.1 ≠ (TX8 b).2.1 := by decide +kernel
theorem tyX8_ok : ∀ k, k < 1 → parseFieldDescriptor (TX8 k).2.2.1 = some (tyX8 k) := by decide +kernel
abbrev cX8_init : ByteArray := prog_15_method_1_code
def yX8_init : MethodName := ⟨RX8, "<init>", "()V"⟩
theorem dX8_init_0 : decode cX8_init 0 = .ok (.aload_n 0, 1) := by decide +kernel
theorem dX8_init_1 : decode cX8_init 1 = .ok (.invokespecial 3, 3) := by decide +kernel
theorem dX8_init_4 : decode cX8_init 4 = .ok (.return_, 1) := by decide +kernel
abbrev cX8_kind : ByteArray := prog_15_method_2_code
def yX8_kind : MethodName := ⟨RX8, "kind", "()I"⟩
theorem dX8_kind_0 : decode cX8_kind 0 = .ok (.iconst 1, 1) := by decide +kernel
theorem dX8_kind_1 : decode cX8_kind 1 = .ok (.ireturn, 1) := by decide +kernel
abbrev cX8_worth : ByteArray := prog_15_method_4_code
def yX8_worth : MethodName := ⟨RX8, "worth", "()I"⟩
def dkwX8_worth_0 : List UInt8 := [42, 183, 0, 13, 8, 96, 172]
abbrev dktX8_worth_0 : List UInt8 := dkwX8_worth_0 ++ []
theorem dksX8_worth_0 : cX8_worth.data.toList.drop 0 = dktX8_worth_0 := by decide +kernel
theorem dX8_worth_0 : decode cX8_worth 0 = .ok (.aload_n 0, 1) := dk_42 (dk_at dksX8_worth_0 0 rfl rfl)
theorem dX8_worth_1 : decode cX8_worth 1 = .ok (.invokespecial 13, 3) := dk_183 0 13 (dk_at dksX8_worth_0 1 rfl rfl)
theorem dX8_worth_4 : decode cX8_worth 4 = .ok (.iconst 5, 1) := dk_8 (dk_at dksX8_worth_0 4 rfl rfl)
theorem dX8_worth_5 : decode cX8_worth 5 = .ok (.iadd, 1) := dk_96 (dk_at dksX8_worth_0 5 rfl rfl)
theorem dX8_worth_6 : decode cX8_worth 6 = .ok (.ireturn, 1) := dk_172 (dk_at dksX8_worth_0 6 rfl rfl)
abbrev cX8_choice : ByteArray := prog_15_method_3_code
def yX8_choice : MethodName := ⟨RX8, "choice", "(IIII)I"⟩
def dkwX8_choice_0 : List UInt8 := [42, 27, 28, 2, 130, 126, 3, 29, 21, 4, 183, 0, 9, 172]
abbrev dktX8_choice_0 : List UInt8 := dkwX8_choice_0 ++ []
theorem dksX8_choice_0 : cX8_choice.data.toList.drop 0 = dktX8_choice_0 := by decide +kernel
theorem dX8_choice_0 : decode cX8_choice 0 = .ok (.aload_n 0, 1) := dk_42 (dk_at dksX8_choice_0 0 rfl rfl)
theorem dX8_choice_1 : decode cX8_choice 1 = .ok (.iload_n 1, 1) := dk_27 (dk_at dksX8_choice_0 1 rfl rfl)
theorem dX8_choice_2 : decode cX8_choice 2 = .ok (.iload_n 2, 1) := dk_28 (dk_at dksX8_choice_0 2 rfl rfl)
theorem dX8_choice_3 : decode cX8_choice 3 = .ok (.iconst (-1), 1) := dk_2 (dk_at dksX8_choice_0 3 rfl rfl)
theorem dX8_choice_4 : decode cX8_choice 4 = .ok (.ixor, 1) := dk_130 (dk_at dksX8_choice_0 4 rfl rfl)
theorem dX8_choice_5 : decode cX8_choice 5 = .ok (.iand, 1) := dk_126 (dk_at dksX8_choice_0 5 rfl rfl)
theorem dX8_choice_6 : decode cX8_choice 6 = .ok (.iconst 0, 1) := dk_3 (dk_at dksX8_choice_0 6 rfl rfl)
theorem dX8_choice_7 : decode cX8_choice 7 = .ok (.iload_n 3, 1) := dk_29 (dk_at dksX8_choice_0 7 rfl rfl)
theorem dX8_choice_8 : decode cX8_choice 8 = .ok (.iload 4, 2) := dk_21 4 (dk_at dksX8_choice_0 8 rfl rfl)
theorem dX8_choice_10 : decode cX8_choice 10 = .ok (.invokespecial 9, 3) := dk_183 0 9 (dk_at dksX8_choice_0 10 rfl rfl)
theorem dX8_choice_13 : decode cX8_choice 13 = .ok (.ireturn, 1) := dk_172 (dk_at dksX8_choice_0 13 rfl rfl)
abbrev cX8_another : ByteArray := prog_15_method_5_code
def yX8_another : MethodName := ⟨RX8, "another", "()LNeverSaid$Speaker;"⟩
def dkwX8_another_0 : List UInt8 := [187, 0, 17, 89, 183, 0, 19, 176]
abbrev dktX8_another_0 : List UInt8 := dkwX8_another_0 ++ []
theorem dksX8_another_0 : cX8_another.data.toList.drop 0 = dktX8_another_0 := by decide +kernel
theorem dX8_another_0 : decode cX8_another 0 = .ok (.new 17, 3) := dk_187 0 17 (dk_at dksX8_another_0 0 rfl rfl)
theorem dX8_another_3 : decode cX8_another 3 = .ok (.dup, 1) := dk_89 (dk_at dksX8_another_0 3 rfl rfl)
theorem dX8_another_4 : decode cX8_another 4 = .ok (.invokespecial 19, 3) := dk_183 0 19 (dk_at dksX8_another_0 4 rfl rfl)
theorem dX8_another_7 : decode cX8_another 7 = .ok (.areturn, 1) := dk_176 (dk_at dksX8_another_0 7 rfl rfl)
theorem q94 : (Jvm.Cond.initialized "NeverSaid$SureSpeaker") ∈ lw_all := lw_g (lw_at lw_m1 12 rfl) rfl
theorem q587 : (Jvm.Cond.instantiable "NeverSaid$SureSpeaker" (1 : Nat)) ∈ lw_all := lw_g (lw_at lw_m3 25 rfl) rfl
theorem q589 : (Jvm.Cond.instanceMethod ({ cls := "NeverSaid$SureSpeaker", name := "<init>", desc := "()V" } : Jvm.MethodName)) ∈ lw_all := lw_g (lw_at lw_m3 27 rfl) rfl
theorem q590 : (Jvm.Cond.code ({ cls := "NeverSaid$SureSpeaker", name := "<init>", desc := "()V" } : Jvm.MethodName) prog_15_method_1_code (1 : Nat) (Option.none : Option Jvm.ClassFile.FieldType)) ∈ lw_all := lw_g (lw_at lw_m3 28 rfl) rfl
theorem q591 : (Jvm.Cond.methodLinkNest "NeverSaid$SureSpeaker" (3 : Nat) ({ cls := "NeverSaid$Speaker", name := "<init>", desc := "()V" } : Jvm.MethodName) "NeverSaid") ∈ lw_tbl := lw_at lw_m3 29 rfl
theorem q600 : (Jvm.Cond.lays "NeverSaid$SureSpeaker" "NeverSaid$Speaker" "bold" "I") ∈ lw_all := lw_g (lw_at lw_m3 38 rfl) rfl
theorem q602 : (Jvm.Cond.superclass "NeverSaid$SureSpeaker" "NeverSaid$Speaker") ∈ lw_all := lw_g (lw_at lw_m3 40 rfl) rfl
theorem q666 : (Jvm.Cond.instanceMethod ({ cls := "NeverSaid$SureSpeaker", name := "kind", desc := "()I" } : Jvm.MethodName)) ∈ lw_all := lw_g (lw_at lw_m3 104 rfl) rfl
theorem q667 : (Jvm.Cond.code ({ cls := "NeverSaid$SureSpeaker", name := "kind", desc := "()I" } : Jvm.MethodName) prog_15_method_2_code (1 : Nat) (Option.some Jvm.ClassFile.FieldType.int)) ∈ lw_all := lw_g (lw_at lw_m3 105 rfl) rfl
theorem q668 : (Jvm.Cond.selects "NeverSaid$SureSpeaker" ({ cls := "NeverSaid$Speaker", name := "kind", desc := "()I" } : Jvm.MethodName) ({ cls := "NeverSaid$SureSpeaker", name := "kind", desc := "()I" } : Jvm.MethodName)) ∈ lw_all := lw_g (lw_at lw_m3 106 rfl) rfl
theorem q700 : (Jvm.Cond.instanceMethod ({ cls := "NeverSaid$SureSpeaker", name := "worth", desc := "()I" } : Jvm.MethodName)) ∈ lw_all := lw_g (lw_at lw_m3 138 rfl) rfl
theorem q701 : (Jvm.Cond.code ({ cls := "NeverSaid$SureSpeaker", name := "worth", desc := "()I" } : Jvm.MethodName) prog_15_method_4_code (1 : Nat) (Option.some Jvm.ClassFile.FieldType.int)) ∈ lw_all := lw_g (lw_at lw_m3 139 rfl) rfl
theorem q702 : (Jvm.Cond.methodLink "NeverSaid$SureSpeaker" (13 : Nat) ({ cls := "NeverSaid$Speaker", name := "worth", desc := "()I" } : Jvm.MethodName)) ∈ lw_all := lw_g (lw_at lw_m3 140 rfl) rfl
theorem q703 : (Jvm.Cond.selects "NeverSaid$SureSpeaker" ({ cls := "NeverSaid$Speaker", name := "worth", desc := "()I" } : Jvm.MethodName) ({ cls := "NeverSaid$SureSpeaker", name := "worth", desc := "()I" } : Jvm.MethodName)) ∈ lw_all := lw_g (lw_at lw_m3 141 rfl) rfl
theorem q917 : (Jvm.Cond.castable "NeverSaid$SureSpeaker" "NeverSaid$Chooses") ∈ lw_tbl := lw_at lw_m4 115 rfl
theorem q918 : (Jvm.Cond.unhidden "NeverSaid$SureSpeaker" "pick" "(I)I") ∈ lw_tbl := lw_at lw_m4 116 rfl
theorem q929 : (Jvm.Cond.instanceMethod ({ cls := "NeverSaid$SureSpeaker", name := "choice", desc := "(IIII)I" } : Jvm.MethodName)) ∈ lw_all := lw_g (lw_at lw_m4 127 rfl) rfl
theorem q930 : (Jvm.Cond.publicMethod ({ cls := "NeverSaid$SureSpeaker", name := "choice", desc := "(IIII)I" } : Jvm.MethodName)) ∈ lw_tbl := lw_at lw_m4 128 rfl
theorem q931 : (Jvm.Cond.code ({ cls := "NeverSaid$SureSpeaker", name := "choice", desc := "(IIII)I" } : Jvm.MethodName) prog_15_method_3_code (5 : Nat) (Option.some Jvm.ClassFile.FieldType.int)) ∈ lw_all := lw_g (lw_at lw_m4 129 rfl) rfl
theorem q934 : (Jvm.Cond.selects "NeverSaid$SureSpeaker" ({ cls := "NeverSaid$Chooses", name := "choice", desc := "(IIII)I" } : Jvm.MethodName) ({ cls := "NeverSaid$SureSpeaker", name := "choice", desc := "(IIII)I" } : Jvm.MethodName)) ∈ lw_all := lw_g (lw_at lw_m4 132 rfl) rfl
theorem q935 : (Jvm.Cond.unhidden "NeverSaid$SureSpeaker" "choice" "(IIII)I") ∈ lw_tbl := lw_at lw_m4 133 rfl
theorem q1088 : (Jvm.Cond.selects "NeverSaid$SureSpeaker" ({ cls := "NeverSaid$Speaker", name := "copy", desc := "()LNeverSaid$Speaker;" } : Jvm.MethodName) ({ cls := "NeverSaid$Speaker", name := "copy", desc := "()LNeverSaid$Speaker;" } : Jvm.MethodName)) ∈ lw_all := lw_g (lw_at lw_m5 46 rfl) rfl
theorem q1114 : (Jvm.Cond.selects "NeverSaid$SureSpeaker" ({ cls := "NeverSaid$Speaker", name := "another", desc := "()LNeverSaid$Speaker;" } : Jvm.MethodName) ({ cls := "NeverSaid$SureSpeaker", name := "another", desc := "()LNeverSaid$Speaker;" } : Jvm.MethodName)) ∈ lw_all := lw_g (lw_at lw_m5 72 rfl) rfl
theorem q1115 : (Jvm.Cond.instanceMethod ({ cls := "NeverSaid$SureSpeaker", name := "another", desc := "()LNeverSaid$Speaker;" } : Jvm.MethodName)) ∈ lw_all := lw_g (lw_at lw_m5 73 rfl) rfl
theorem q1116 : (Jvm.Cond.code ({ cls := "NeverSaid$SureSpeaker", name := "another", desc := "()LNeverSaid$Speaker;" } : Jvm.MethodName) prog_15_method_5_code (1 : Nat) (Option.some (Jvm.ClassFile.FieldType.object "NeverSaid$Speaker"))) ∈ lw_all := lw_g (lw_at lw_m5 74 rfl) rfl
theorem q1117 : (Jvm.Cond.classLink "NeverSaid$SureSpeaker" (17 : Nat) "NeverSaid$SureSpeaker") ∈ lw_all := lw_g (lw_at lw_m5 75 rfl) rfl
theorem q1118 : (Jvm.Cond.methodLink "NeverSaid$SureSpeaker" (19 : Nat) ({ cls := "NeverSaid$SureSpeaker", name := "<init>", desc := "()V" } : Jvm.MethodName)) ∈ lw_all := lw_g (lw_at lw_m5 76 rfl) rfl
theorem q1160 : (Jvm.Cond.selects "NeverSaid$SureSpeaker" ({ cls := "NeverSaid$Chooses", name := "worth", desc := "()I" } : Jvm.MethodName) ({ cls := "NeverSaid$SureSpeaker", name := "worth", desc := "()I" } : Jvm.MethodName)) ∈ lw_all := lw_g (lw_at lw_m5 118 rfl) rfl
theorem q1161 : (Jvm.Cond.unhidden "NeverSaid$SureSpeaker" "worth" "()I") ∈ lw_tbl := lw_at lw_m5 119 rfl
theorem q1162 : (Jvm.Cond.publicMethod ({ cls := "NeverSaid$SureSpeaker", name := "worth", desc := "()I" } : Jvm.MethodName)) ∈ lw_tbl := lw_at lw_m5 120 rfl
theorem q1715 : (Jvm.Cond.sameMethod "NeverSaid$SureSpeaker" "NeverSaid$SureSpeaker" "kind" "()I") ∈ lw_all := lw_g (lw_at lw_m7 193 rfl) rfl
theorem q1717 : (Jvm.Cond.sameMethod "NeverSaid$SureSpeaker" "NeverSaid$SureSpeaker" "worth" "()I") ∈ lw_all := lw_g (lw_at lw_m7 195 rfl) rfl
theorem q1725 : (Jvm.Cond.castable "NeverSaid$SureSpeaker" "NeverSaid$Speaker") ∈ lw_tbl := lw_at lw_m7 203 rfl
theorem in_X8 : ∀ w ∈ wsX80, w ∈ lw_all := lw_in wsX80 [600] (by decide +kernel) (by decide +kernel)

/-! NeverSaid$LoyalSpeaker -/
set_option maxRecDepth 100000
def RX9 : String := "NeverSaid$LoyalSpeaker"
def TX9 : u_T := fun k => match k with
  | _ => ("NeverSaid$Speaker", "bold", "I", false)
def tyX9 : Nat → FieldType := fun k => match k with
  | _ => .int
abbrev wsX90 : List Cond := u_ws RX9 TX9 1
theorem nmX9 : ∀ a, a < 1 → ∀ b, b < 1 → a ≠ b → (TX9 a).2.1 ≠ (TX9 b).2.1 := by decide +kernel
theorem tyX9_ok : ∀ k, k < 1 → parseFieldDescriptor (TX9 k).2.2.1 = some (tyX9 k) := by decide +kernel
abbrev cX9_init : ByteArray := prog_7_method_1_code
def yX9_init : MethodName := ⟨RX9, "<init>", "()V"⟩
theorem dX9_init_0 : decode cX9_init 0 = .ok (.aload_n 0, 1) := by decide +kernel
theorem dX9_init_1 : decode cX9_init 1 = .ok (.invokespecial 3, 3) := by decide +kernel
theorem dX9_init_4 : decode cX9_init 4 = .ok (.return_, 1) := by decide +kernel
abbrev cX9_kind : ByteArray := prog_7_method_2_code
def yX9_kind : MethodName := ⟨RX9, "kind", "()I"⟩
theorem dX9_kind_0 : decode cX9_kind 0 = .ok (.iconst 2, 1) := by decide +kernel
theorem dX9_kind_1 : decode cX9_kind 1 = .ok (.ireturn, 1) := by decide +kernel
abbrev cX9_worth : ByteArray := prog_7_method_4_code
def yX9_worth : MethodName := ⟨RX9, "worth", "()I"⟩
def dkwX9_worth_0 : List UInt8 := [16, 100, 42, 183, 0, 19, 100, 172]
abbrev dktX9_worth_0 : List UInt8 := dkwX9_worth_0 ++ []
theorem dksX9_worth_0 : cX9_worth.data.toList.drop 0 = dktX9_worth_0 := by decide +kernel
theorem dX9_worth_0 : decode cX9_worth 0 = .ok (.bipush 100, 2) := dk_16 100 (dk_at dksX9_worth_0 0 rfl rfl)
theorem dX9_worth_2 : decode cX9_worth 2 = .ok (.aload_n 0, 1) := dk_42 (dk_at dksX9_worth_0 2 rfl rfl)
theorem dX9_worth_3 : decode cX9_worth 3 = .ok (.invokespecial 19, 3) := dk_183 0 19 (dk_at dksX9_worth_0 3 rfl rfl)
theorem dX9_worth_6 : decode cX9_worth 6 = .ok (.isub, 1) := dk_100 (dk_at dksX9_worth_0 6 rfl rfl)
theorem dX9_worth_7 : decode cX9_worth 7 = .ok (.ireturn, 1) := dk_172 (dk_at dksX9_worth_0 7 rfl rfl)
abbrev cX9_choice : ByteArray := prog_7_method_3_code
def yX9_choice : MethodName := ⟨RX9, "choice", "(IIII)I"⟩
def dkwX9_choice_1 : List UInt8 := [183, 0, 15, 172]
abbrev dktX9_choice_1 : List UInt8 := dkwX9_choice_1 ++ []
def dkwX9_choice_0 : List UInt8 := [27, 29, 126, 153, 0, 13, 42, 27, 29, 126, 182, 0, 9, 167, 0, 12, 42, 27, 28, 29, 21, 4]
abbrev dktX9_choice_0 : List UInt8 := dkwX9_choice_0 ++ dktX9_choice_1
theorem dksX9_choice_0 : cX9_choice.data.toList.drop 0 = dktX9_choice_0 := by decide +kernel
theorem dksX9_choice_1 : cX9_choice.data.toList.drop 22 = dktX9_choice_1 := dk_seg dksX9_choice_0 22 rfl rfl
theorem dX9_choice_0 : decode cX9_choice 0 = .ok (.iload_n 1, 1) := dk_27 (dk_at dksX9_choice_0 0 rfl rfl)
theorem dX9_choice_1 : decode cX9_choice 1 = .ok (.iload_n 3, 1) := dk_29 (dk_at dksX9_choice_0 1 rfl rfl)
theorem dX9_choice_2 : decode cX9_choice 2 = .ok (.iand, 1) := dk_126 (dk_at dksX9_choice_0 2 rfl rfl)
theorem dX9_choice_3 : decode cX9_choice 3 = .ok (.ifCond .eq 13, 3) := dk_153 0 13 (dk_at dksX9_choice_0 3 rfl rfl)
theorem dX9_choice_6 : decode cX9_choice 6 = .ok (.aload_n 0, 1) := dk_42 (dk_at dksX9_choice_0 6 rfl rfl)
theorem dX9_choice_7 : decode cX9_choice 7 = .ok (.iload_n 1, 1) := dk_27 (dk_at dksX9_choice_0 7 rfl rfl)
theorem dX9_choice_8 : decode cX9_choice 8 = .ok (.iload_n 3, 1) := dk_29 (dk_at dksX9_choice_0 8 rfl rfl)
theorem dX9_choice_9 : decode cX9_choice 9 = .ok (.iand, 1) := dk_126 (dk_at dksX9_choice_0 9 rfl rfl)
theorem dX9_choice_10 : decode cX9_choice 10 = .ok (.invokevirtual 9, 3) := dk_182 0 9 (dk_at dksX9_choice_0 10 rfl rfl)
theorem dX9_choice_13 : decode cX9_choice 13 = .ok (.goto 12, 3) := dk_167 0 12 (dk_at dksX9_choice_0 13 rfl rfl)
theorem dX9_choice_16 : decode cX9_choice 16 = .ok (.aload_n 0, 1) := dk_42 (dk_at dksX9_choice_0 16 rfl rfl)
theorem dX9_choice_17 : decode cX9_choice 17 = .ok (.iload_n 1, 1) := dk_27 (dk_at dksX9_choice_0 17 rfl rfl)
theorem dX9_choice_18 : decode cX9_choice 18 = .ok (.iload_n 2, 1) := dk_28 (dk_at dksX9_choice_0 18 rfl rfl)
theorem dX9_choice_19 : decode cX9_choice 19 = .ok (.iload_n 3, 1) := dk_29 (dk_at dksX9_choice_0 19 rfl rfl)
theorem dX9_choice_20 : decode cX9_choice 20 = .ok (.iload 4, 2) := dk_21 4 (dk_at dksX9_choice_0 20 rfl rfl)
theorem dX9_choice_22 : decode cX9_choice 22 = .ok (.invokespecial 15, 3) := dk_183 0 15 (dk_at dksX9_choice_1 0 rfl rfl)
theorem dX9_choice_25 : decode cX9_choice 25 = .ok (.ireturn, 1) := dk_172 (dk_at dksX9_choice_1 3 rfl rfl)
abbrev cX9_another : ByteArray := prog_7_method_5_code
def yX9_another : MethodName := ⟨RX9, "another", "()LNeverSaid$Speaker;"⟩
def dkwX9_another_0 : List UInt8 := [187, 0, 10, 89, 183, 0, 23, 176]
abbrev dktX9_another_0 : List UInt8 := dkwX9_another_0 ++ []
theorem dksX9_another_0 : cX9_another.data.toList.drop 0 = dktX9_another_0 := by decide +kernel
theorem dX9_another_0 : decode cX9_another 0 = .ok (.new 10, 3) := dk_187 0 10 (dk_at dksX9_another_0 0 rfl rfl)
theorem dX9_another_3 : decode cX9_another 3 = .ok (.dup, 1) := dk_89 (dk_at dksX9_another_0 3 rfl rfl)
theorem dX9_another_4 : decode cX9_another 4 = .ok (.invokespecial 23, 3) := dk_183 0 23 (dk_at dksX9_another_0 4 rfl rfl)
theorem dX9_another_7 : decode cX9_another 7 = .ok (.areturn, 1) := dk_176 (dk_at dksX9_another_0 7 rfl rfl)
theorem q95 : (Jvm.Cond.initialized "NeverSaid$LoyalSpeaker") ∈ lw_all := lw_g (lw_at lw_m1 13 rfl) rfl
theorem q604 : (Jvm.Cond.instantiable "NeverSaid$LoyalSpeaker" (1 : Nat)) ∈ lw_all := lw_g (lw_at lw_m3 42 rfl) rfl
theorem q606 : (Jvm.Cond.instanceMethod ({ cls := "NeverSaid$LoyalSpeaker", name := "<init>", desc := "()V" } : Jvm.MethodName)) ∈ lw_all := lw_g (lw_at lw_m3 44 rfl) rfl
theorem q607 : (Jvm.Cond.code ({ cls := "NeverSaid$LoyalSpeaker", name := "<init>", desc := "()V" } : Jvm.MethodName) prog_7_method_1_code (1 : Nat) (Option.none : Option Jvm.ClassFile.FieldType)) ∈ lw_all := lw_g (lw_at lw_m3 45 rfl) rfl
theorem q608 : (Jvm.Cond.methodLinkNest "NeverSaid$LoyalSpeaker" (3 : Nat) ({ cls := "NeverSaid$Speaker", name := "<init>", desc := "()V" } : Jvm.MethodName) "NeverSaid") ∈ lw_tbl := lw_at lw_m3 46 rfl
theorem q609 : (Jvm.Cond.lays "NeverSaid$LoyalSpeaker" "NeverSaid$Speaker" "bold" "I") ∈ lw_all := lw_g (lw_at lw_m3 47 rfl) rfl
theorem q610 : (Jvm.Cond.superclass "NeverSaid$LoyalSpeaker" "NeverSaid$Speaker") ∈ lw_all := lw_g (lw_at lw_m3 48 rfl) rfl
theorem q656 : (Jvm.Cond.instanceMethod ({ cls := "NeverSaid$LoyalSpeaker", name := "kind", desc := "()I" } : Jvm.MethodName)) ∈ lw_all := lw_g (lw_at lw_m3 94 rfl) rfl
theorem q657 : (Jvm.Cond.code ({ cls := "NeverSaid$LoyalSpeaker", name := "kind", desc := "()I" } : Jvm.MethodName) prog_7_method_2_code (1 : Nat) (Option.some Jvm.ClassFile.FieldType.int)) ∈ lw_all := lw_g (lw_at lw_m3 95 rfl) rfl
theorem q658 : (Jvm.Cond.selects "NeverSaid$LoyalSpeaker" ({ cls := "NeverSaid$Speaker", name := "kind", desc := "()I" } : Jvm.MethodName) ({ cls := "NeverSaid$LoyalSpeaker", name := "kind", desc := "()I" } : Jvm.MethodName)) ∈ lw_all := lw_g (lw_at lw_m3 96 rfl) rfl
theorem q688 : (Jvm.Cond.instanceMethod ({ cls := "NeverSaid$LoyalSpeaker", name := "worth", desc := "()I" } : Jvm.MethodName)) ∈ lw_all := lw_g (lw_at lw_m3 126 rfl) rfl
theorem q689 : (Jvm.Cond.code ({ cls := "NeverSaid$LoyalSpeaker", name := "worth", desc := "()I" } : Jvm.MethodName) prog_7_method_4_code (1 : Nat) (Option.some Jvm.ClassFile.FieldType.int)) ∈ lw_all := lw_g (lw_at lw_m3 127 rfl) rfl
theorem q690 : (Jvm.Cond.methodLink "NeverSaid$LoyalSpeaker" (19 : Nat) ({ cls := "NeverSaid$Speaker", name := "worth", desc := "()I" } : Jvm.MethodName)) ∈ lw_all := lw_g (lw_at lw_m3 128 rfl) rfl
theorem q691 : (Jvm.Cond.selects "NeverSaid$LoyalSpeaker" ({ cls := "NeverSaid$Speaker", name := "worth", desc := "()I" } : Jvm.MethodName) ({ cls := "NeverSaid$LoyalSpeaker", name := "worth", desc := "()I" } : Jvm.MethodName)) ∈ lw_all := lw_g (lw_at lw_m3 129 rfl) rfl
theorem q884 : (Jvm.Cond.instanceMethod ({ cls := "NeverSaid$LoyalSpeaker", name := "choice", desc := "(IIII)I" } : Jvm.MethodName)) ∈ lw_all := lw_g (lw_at lw_m4 82 rfl) rfl
theorem q885 : (Jvm.Cond.code ({ cls := "NeverSaid$LoyalSpeaker", name := "choice", desc := "(IIII)I" } : Jvm.MethodName) prog_7_method_3_code (5 : Nat) (Option.some Jvm.ClassFile.FieldType.int)) ∈ lw_all := lw_g (lw_at lw_m4 83 rfl) rfl
theorem q888 : (Jvm.Cond.unhidden "NeverSaid$LoyalSpeaker" "pick" "(I)I") ∈ lw_tbl := lw_at lw_m4 86 rfl
theorem q899 : (Jvm.Cond.castable "NeverSaid$LoyalSpeaker" "NeverSaid$Chooses") ∈ lw_tbl := lw_at lw_m4 97 rfl
theorem q919 : (Jvm.Cond.selects "NeverSaid$LoyalSpeaker" ({ cls := "NeverSaid$Chooses", name := "choice", desc := "(IIII)I" } : Jvm.MethodName) ({ cls := "NeverSaid$LoyalSpeaker", name := "choice", desc := "(IIII)I" } : Jvm.MethodName)) ∈ lw_all := lw_g (lw_at lw_m4 117 rfl) rfl
theorem q920 : (Jvm.Cond.unhidden "NeverSaid$LoyalSpeaker" "choice" "(IIII)I") ∈ lw_tbl := lw_at lw_m4 118 rfl
theorem q921 : (Jvm.Cond.publicMethod ({ cls := "NeverSaid$LoyalSpeaker", name := "choice", desc := "(IIII)I" } : Jvm.MethodName)) ∈ lw_tbl := lw_at lw_m4 119 rfl
theorem q1085 : (Jvm.Cond.selects "NeverSaid$LoyalSpeaker" ({ cls := "NeverSaid$Speaker", name := "copy", desc := "()LNeverSaid$Speaker;" } : Jvm.MethodName) ({ cls := "NeverSaid$Speaker", name := "copy", desc := "()LNeverSaid$Speaker;" } : Jvm.MethodName)) ∈ lw_all := lw_g (lw_at lw_m5 43 rfl) rfl
theorem q1099 : (Jvm.Cond.selects "NeverSaid$LoyalSpeaker" ({ cls := "NeverSaid$Speaker", name := "another", desc := "()LNeverSaid$Speaker;" } : Jvm.MethodName) ({ cls := "NeverSaid$LoyalSpeaker", name := "another", desc := "()LNeverSaid$Speaker;" } : Jvm.MethodName)) ∈ lw_all := lw_g (lw_at lw_m5 57 rfl) rfl
theorem q1100 : (Jvm.Cond.instanceMethod ({ cls := "NeverSaid$LoyalSpeaker", name := "another", desc := "()LNeverSaid$Speaker;" } : Jvm.MethodName)) ∈ lw_all := lw_g (lw_at lw_m5 58 rfl) rfl
theorem q1101 : (Jvm.Cond.code ({ cls := "NeverSaid$LoyalSpeaker", name := "another", desc := "()LNeverSaid$Speaker;" } : Jvm.MethodName) prog_7_method_5_code (1 : Nat) (Option.some (Jvm.ClassFile.FieldType.object "NeverSaid$Speaker"))) ∈ lw_all := lw_g (lw_at lw_m5 59 rfl) rfl
theorem q1102 : (Jvm.Cond.classLink "NeverSaid$LoyalSpeaker" (10 : Nat) "NeverSaid$LoyalSpeaker") ∈ lw_all := lw_g (lw_at lw_m5 60 rfl) rfl
theorem q1103 : (Jvm.Cond.methodLink "NeverSaid$LoyalSpeaker" (23 : Nat) ({ cls := "NeverSaid$LoyalSpeaker", name := "<init>", desc := "()V" } : Jvm.MethodName)) ∈ lw_all := lw_g (lw_at lw_m5 61 rfl) rfl
theorem q1148 : (Jvm.Cond.selects "NeverSaid$LoyalSpeaker" ({ cls := "NeverSaid$Chooses", name := "worth", desc := "()I" } : Jvm.MethodName) ({ cls := "NeverSaid$LoyalSpeaker", name := "worth", desc := "()I" } : Jvm.MethodName)) ∈ lw_all := lw_g (lw_at lw_m5 106 rfl) rfl
theorem q1149 : (Jvm.Cond.unhidden "NeverSaid$LoyalSpeaker" "worth" "()I") ∈ lw_tbl := lw_at lw_m5 107 rfl
theorem q1150 : (Jvm.Cond.publicMethod ({ cls := "NeverSaid$LoyalSpeaker", name := "worth", desc := "()I" } : Jvm.MethodName)) ∈ lw_tbl := lw_at lw_m5 108 rfl
theorem q1714 : (Jvm.Cond.sameMethod "NeverSaid$LoyalSpeaker" "NeverSaid$LoyalSpeaker" "kind" "()I") ∈ lw_all := lw_g (lw_at lw_m7 192 rfl) rfl
theorem q1716 : (Jvm.Cond.sameMethod "NeverSaid$LoyalSpeaker" "NeverSaid$LoyalSpeaker" "worth" "()I") ∈ lw_all := lw_g (lw_at lw_m7 194 rfl) rfl
theorem q1718 : (Jvm.Cond.sameMethod "NeverSaid$LoyalSpeaker" "NeverSaid$LoyalSpeaker" "choice" "(IIII)I") ∈ lw_all := lw_g (lw_at lw_m7 196 rfl) rfl
theorem q1722 : (Jvm.Cond.castable "NeverSaid$LoyalSpeaker" "NeverSaid$Speaker") ∈ lw_tbl := lw_at lw_m7 200 rfl
theorem in_X9 : ∀ w ∈ wsX90, w ∈ lw_all := lw_in wsX90 [609] (by decide +kernel) (by decide +kernel)

theorem q82 : (Jvm.Cond.initialized "NeverSaidLaw") ∈ lw_all := lw_g (lw_at lw_m1 0 rfl) rfl
set_option maxRecDepth 100000
theorem q111 : (Jvm.Cond.classLink "NeverSaidLaw" (7 : Nat) "NeverSaid") ∈ lw_all := lw_g (lw_at lw_m1 29 rfl) rfl
theorem q113 : (Jvm.Cond.methodLink "NeverSaidLaw" (9 : Nat) ({ cls := "NeverSaid", name := "<init>", desc := "()V" } : Jvm.MethodName)) ∈ lw_all := lw_g (lw_at lw_m1 31 rfl) rfl
theorem q376 : (Jvm.Cond.methodLink "NeverSaidLaw" (110 : Nat) ({ cls := "NeverSaid", name := "feed", desc := "(III)I" } : Jvm.MethodName)) ∈ lw_all := lw_g (lw_at lw_m2 54 rfl) rfl
theorem q385 : (Jvm.Cond.methodLink "NeverSaidLaw" (114 : Nat) ({ cls := "NeverSaid", name := "trim", desc := "(I)I" } : Jvm.MethodName)) ∈ lw_all := lw_g (lw_at lw_m2 63 rfl) rfl
theorem q393 : (Jvm.Cond.methodLink "NeverSaidLaw" (118 : Nat) ({ cls := "NeverSaid", name := "text", desc := "()I" } : Jvm.MethodName)) ∈ lw_all := lw_g (lw_at lw_m2 71 rfl) rfl
theorem q556 : (Jvm.Cond.methodLink "NeverSaidLaw" (122 : Nat) ({ cls := "NeverSaid", name := "textTold", desc := "(II)I" } : Jvm.MethodName)) ∈ lw_all := lw_g (lw_at lw_m2 234 rfl) rfl
theorem q560 : (Jvm.Cond.methodLink "NeverSaidLaw" (126 : Nat) ({ cls := "NeverSaid", name := "why", desc := "(I)I" } : Jvm.MethodName)) ∈ lw_all := lw_g (lw_at lw_m2 238 rfl) rfl
theorem q572 : (Jvm.Cond.methodLink "NeverSaidLaw" (13 : Nat) ({ cls := "NeverSaid", name := "person", desc := "(II)I" } : Jvm.MethodName)) ∈ lw_all := lw_g (lw_at lw_m3 10 rfl) rfl
theorem q640 : (Jvm.Cond.methodLink "NeverSaidLaw" (18 : Nat) ({ cls := "NeverSaid", name := "told", desc := "(II)I" } : Jvm.MethodName)) ∈ lw_all := lw_g (lw_at lw_m3 78 rfl) rfl
theorem q709 : (Jvm.Cond.methodLink "NeverSaidLaw" (22 : Nat) ({ cls := "NeverSaid", name := "as", desc := "(II)I" } : Jvm.MethodName)) ∈ lw_all := lw_g (lw_at lw_m3 147 rfl) rfl
theorem q744 : (Jvm.Cond.methodLink "NeverSaidLaw" (26 : Nat) ({ cls := "NeverSaid", name := "turns", desc := "(II)I" } : Jvm.MethodName)) ∈ lw_all := lw_g (lw_at lw_m3 182 rfl) rfl
theorem q748 : (Jvm.Cond.methodLink "NeverSaidLaw" (30 : Nat) ({ cls := "NeverSaid", name := "bolder", desc := "(II)I" } : Jvm.MethodName)) ∈ lw_all := lw_g (lw_at lw_m3 186 rfl) rfl
theorem q752 : (Jvm.Cond.methodLink "NeverSaidLaw" (34 : Nat) ({ cls := "NeverSaid", name := "away", desc := "(III)I" } : Jvm.MethodName)) ∈ lw_all := lw_g (lw_at lw_m3 190 rfl) rfl
theorem q759 : (Jvm.Cond.methodLink "NeverSaidLaw" (39 : Nat) ({ cls := "NeverSaid", name := "friend", desc := "(III)I" } : Jvm.MethodName)) ∈ lw_all := lw_g (lw_at lw_m3 197 rfl) rfl
theorem q767 : (Jvm.Cond.methodLink "NeverSaidLaw" (43 : Nat) ({ cls := "NeverSaid", name := "follow", desc := "(III)I" } : Jvm.MethodName)) ∈ lw_all := lw_g (lw_at lw_m3 205 rfl) rfl
theorem q771 : (Jvm.Cond.methodLink "NeverSaidLaw" (47 : Nat) ({ cls := "NeverSaid", name := "deal", desc := "(I)I" } : Jvm.MethodName)) ∈ lw_all := lw_g (lw_at lw_m3 209 rfl) rfl
theorem q780 : (Jvm.Cond.methodLink "NeverSaidLaw" (52 : Nat) ({ cls := "NeverSaid", name := "seed", desc := "(I)I" } : Jvm.MethodName)) ∈ lw_all := lw_g (lw_at lw_m3 218 rfl) rfl
theorem q784 : (Jvm.Cond.methodLink "NeverSaidLaw" (56 : Nat) ({ cls := "NeverSaid", name := "deed", desc := "(III)I" } : Jvm.MethodName)) ∈ lw_all := lw_g (lw_at lw_m3 222 rfl) rfl
theorem q806 : (Jvm.Cond.methodLink "NeverSaidLaw" (60 : Nat) ({ cls := "NeverSaid", name := "deedTold", desc := "(II)I" } : Jvm.MethodName)) ∈ lw_all := lw_g (lw_at lw_m4 4 rfl) rfl
theorem q840 : (Jvm.Cond.methodLink "NeverSaidLaw" (64 : Nat) ({ cls := "NeverSaid", name := "again", desc := "(I)I" } : Jvm.MethodName)) ∈ lw_all := lw_g (lw_at lw_m4 38 rfl) rfl
theorem q844 : (Jvm.Cond.methodLink "NeverSaidLaw" (68 : Nat) ({ cls := "NeverSaid", name := "stop", desc := "(I)I" } : Jvm.MethodName)) ∈ lw_all := lw_g (lw_at lw_m4 42 rfl) rfl
theorem q848 : (Jvm.Cond.methodLink "NeverSaidLaw" (72 : Nat) ({ cls := "NeverSaid", name := "say", desc := "(III)I" } : Jvm.MethodName)) ∈ lw_all := lw_g (lw_at lw_m4 46 rfl) rfl
theorem q865 : (Jvm.Cond.methodLink "NeverSaidLaw" (76 : Nat) ({ cls := "NeverSaid", name := "choice", desc := "(II)I" } : Jvm.MethodName)) ∈ lw_all := lw_g (lw_at lw_m4 63 rfl) rfl
theorem q936 : (Jvm.Cond.methodLink "NeverSaidLaw" (80 : Nat) ({ cls := "NeverSaid", name := "rounds", desc := "(II)I" } : Jvm.MethodName)) ∈ lw_all := lw_g (lw_at lw_m4 134 rfl) rfl
theorem q948 : (Jvm.Cond.methodLink "NeverSaidLaw" (84 : Nat) ({ cls := "NeverSaid", name := "fewest", desc := "(II)I" } : Jvm.MethodName)) ∈ lw_all := lw_g (lw_at lw_m4 146 rfl) rfl
theorem q956 : (Jvm.Cond.methodLink "NeverSaidLaw" (88 : Nat) ({ cls := "NeverSaid", name := "silent", desc := "()I" } : Jvm.MethodName)) ∈ lw_all := lw_g (lw_at lw_m4 154 rfl) rfl
theorem q960 : (Jvm.Cond.methodLink "NeverSaidLaw" (93 : Nat) ({ cls := "NeverSaid", name := "meant", desc := "(I)I" } : Jvm.MethodName)) ∈ lw_all := lw_g (lw_at lw_m4 158 rfl) rfl
theorem q965 : (Jvm.Cond.methodLink "NeverSaidLaw" (97 : Nat) ({ cls := "NeverSaid", name := "proved", desc := "(I)I" } : Jvm.MethodName)) ∈ lw_all := lw_g (lw_at lw_m4 163 rfl) rfl
theorem q969 : (Jvm.Cond.methodLink "NeverSaidLaw" (101 : Nat) ({ cls := "NeverSaid", name := "falls", desc := "(II)J" } : Jvm.MethodName)) ∈ lw_all := lw_g (lw_at lw_m4 167 rfl) rfl
theorem q981 : (Jvm.Cond.methodLink "NeverSaidLaw" (106 : Nat) ({ cls := "NeverSaid", name := "most", desc := "()I" } : Jvm.MethodName)) ∈ lw_all := lw_g (lw_at lw_m4 179 rfl) rfl
theorem q985 : (Jvm.Cond.methodLink "NeverSaidLaw" (130 : Nat) ({ cls := "NeverSaid", name := "sheet", desc := "(III)I" } : Jvm.MethodName)) ∈ lw_all := lw_g (lw_at lw_m4 183 rfl) rfl
theorem q1011 : (Jvm.Cond.methodLink "NeverSaidLaw" (134 : Nat) ({ cls := "NeverSaid", name := "mark", desc := "(III)I" } : Jvm.MethodName)) ∈ lw_all := lw_g (lw_at lw_m4 209 rfl) rfl
theorem q1042 : (Jvm.Cond.methodLink "NeverSaidLaw" (138 : Nat) ({ cls := "NeverSaid", name := "pour", desc := "(I)I" } : Jvm.MethodName)) ∈ lw_all := lw_g (lw_at lw_m5 0 rfl) rfl
theorem q1054 : (Jvm.Cond.methodLink "NeverSaidLaw" (142 : Nat) ({ cls := "NeverSaid", name := "reads", desc := "(I)I" } : Jvm.MethodName)) ∈ lw_all := lw_g (lw_at lw_m5 12 rfl) rfl
theorem q1058 : (Jvm.Cond.methodLink "NeverSaidLaw" (146 : Nat) ({ cls := "NeverSaid", name := "copy", desc := "(IIIII)I" } : Jvm.MethodName)) ∈ lw_all := lw_g (lw_at lw_m5 16 rfl) rfl
theorem q1067 : (Jvm.Cond.methodLink "NeverSaidLaw" (151 : Nat) ({ cls := "NeverSaid", name := "lay", desc := "(III)I" } : Jvm.MethodName)) ∈ lw_all := lw_g (lw_at lw_m5 25 rfl) rfl
theorem q1137 : (Jvm.Cond.methodLink "NeverSaidLaw" (155 : Nat) ({ cls := "NeverSaid", name := "ask", desc := "(II)I" } : Jvm.MethodName)) ∈ lw_all := lw_g (lw_at lw_m5 95 rfl) rfl
theorem q1163 : (Jvm.Cond.methodLink "NeverSaidLaw" (159 : Nat) ({ cls := "NeverSaid", name := "item", desc := "(II)I" } : Jvm.MethodName)) ∈ lw_all := lw_g (lw_at lw_m5 121 rfl) rfl
theorem q1167 : (Jvm.Cond.methodLink "NeverSaidLaw" (163 : Nat) ({ cls := "NeverSaid", name := "rest", desc := "(II)I" } : Jvm.MethodName)) ∈ lw_all := lw_g (lw_at lw_m5 125 rfl) rfl
theorem q1171 : (Jvm.Cond.methodLink "NeverSaidLaw" (167 : Nat) ({ cls := "NeverSaid", name := "tell", desc := "(I)I" } : Jvm.MethodName)) ∈ lw_all := lw_g (lw_at lw_m5 129 rfl) rfl
theorem q1175 : (Jvm.Cond.methodLink "NeverSaidLaw" (171 : Nat) ({ cls := "NeverSaid", name := "check", desc := "(II)I" } : Jvm.MethodName)) ∈ lw_all := lw_g (lw_at lw_m5 133 rfl) rfl
theorem q1201 : (Jvm.Cond.methodLink "NeverSaidLaw" (175 : Nat) ({ cls := "NeverSaid", name := "keep", desc := "()I" } : Jvm.MethodName)) ∈ lw_all := lw_g (lw_at lw_m5 159 rfl) rfl
theorem q1205 : (Jvm.Cond.methodLink "NeverSaidLaw" (179 : Nat) ({ cls := "NeverSaid", name := "back", desc := "()I" } : Jvm.MethodName)) ∈ lw_all := lw_g (lw_at lw_m5 163 rfl) rfl
theorem q1209 : (Jvm.Cond.methodLink "NeverSaidLaw" (183 : Nat) ({ cls := "NeverSaid", name := "count", desc := "(I)I" } : Jvm.MethodName)) ∈ lw_all := lw_g (lw_at lw_m5 167 rfl) rfl
theorem q1217 : (Jvm.Cond.classLink "NeverSaidLaw" (10 : Nat) "NeverSaidModel") ∈ lw_all := lw_g (lw_at lw_m5 175 rfl) rfl
theorem q1219 : (Jvm.Cond.methodLink "NeverSaidLaw" (12 : Nat) ({ cls := "NeverSaidModel", name := "<init>", desc := "()V" } : Jvm.MethodName)) ∈ lw_all := lw_g (lw_at lw_m5 177 rfl) rfl
theorem q1317 : (Jvm.Cond.methodLink "NeverSaidLaw" (17 : Nat) ({ cls := "NeverSaidModel", name := "person", desc := "(II)I" } : Jvm.MethodName)) ∈ lw_all := lw_g (lw_at lw_m6 35 rfl) rfl
theorem q1332 : (Jvm.Cond.methodLink "NeverSaidLaw" (21 : Nat) ({ cls := "NeverSaidModel", name := "told", desc := "(II)I" } : Jvm.MethodName)) ∈ lw_all := lw_g (lw_at lw_m6 50 rfl) rfl
theorem q1359 : (Jvm.Cond.methodLink "NeverSaidLaw" (25 : Nat) ({ cls := "NeverSaidModel", name := "as", desc := "(II)I" } : Jvm.MethodName)) ∈ lw_all := lw_g (lw_at lw_m6 77 rfl) rfl
theorem q1367 : (Jvm.Cond.methodLink "NeverSaidLaw" (29 : Nat) ({ cls := "NeverSaidModel", name := "turns", desc := "(II)I" } : Jvm.MethodName)) ∈ lw_all := lw_g (lw_at lw_m6 85 rfl) rfl
theorem q1375 : (Jvm.Cond.methodLink "NeverSaidLaw" (33 : Nat) ({ cls := "NeverSaidModel", name := "bolder", desc := "(II)I" } : Jvm.MethodName)) ∈ lw_all := lw_g (lw_at lw_m6 93 rfl) rfl
theorem q1379 : (Jvm.Cond.methodLink "NeverSaidLaw" (38 : Nat) ({ cls := "NeverSaidModel", name := "away", desc := "(III)I" } : Jvm.MethodName)) ∈ lw_all := lw_g (lw_at lw_m6 97 rfl) rfl
theorem q1388 : (Jvm.Cond.methodLink "NeverSaidLaw" (42 : Nat) ({ cls := "NeverSaidModel", name := "friend", desc := "(III)I" } : Jvm.MethodName)) ∈ lw_all := lw_g (lw_at lw_m6 106 rfl) rfl
theorem q1396 : (Jvm.Cond.methodLink "NeverSaidLaw" (46 : Nat) ({ cls := "NeverSaidModel", name := "follow", desc := "(III)I" } : Jvm.MethodName)) ∈ lw_all := lw_g (lw_at lw_m6 114 rfl) rfl
theorem q1400 : (Jvm.Cond.methodLink "NeverSaidLaw" (51 : Nat) ({ cls := "NeverSaidModel", name := "deal", desc := "(I)I" } : Jvm.MethodName)) ∈ lw_all := lw_g (lw_at lw_m6 118 rfl) rfl
theorem q1410 : (Jvm.Cond.methodLink "NeverSaidLaw" (55 : Nat) ({ cls := "NeverSaidModel", name := "seed", desc := "(I)I" } : Jvm.MethodName)) ∈ lw_all := lw_g (lw_at lw_m6 128 rfl) rfl
theorem q1414 : (Jvm.Cond.methodLink "NeverSaidLaw" (59 : Nat) ({ cls := "NeverSaidModel", name := "deed", desc := "(III)I" } : Jvm.MethodName)) ∈ lw_all := lw_g (lw_at lw_m6 132 rfl) rfl
theorem q1426 : (Jvm.Cond.methodLink "NeverSaidLaw" (63 : Nat) ({ cls := "NeverSaidModel", name := "deedTold", desc := "(II)I" } : Jvm.MethodName)) ∈ lw_all := lw_g (lw_at lw_m6 144 rfl) rfl
theorem q1461 : (Jvm.Cond.methodLink "NeverSaidLaw" (67 : Nat) ({ cls := "NeverSaidModel", name := "again", desc := "(I)I" } : Jvm.MethodName)) ∈ lw_all := lw_g (lw_at lw_m6 179 rfl) rfl
theorem q1465 : (Jvm.Cond.methodLink "NeverSaidLaw" (71 : Nat) ({ cls := "NeverSaidModel", name := "stop", desc := "(I)I" } : Jvm.MethodName)) ∈ lw_all := lw_g (lw_at lw_m6 183 rfl) rfl
theorem q1470 : (Jvm.Cond.methodLink "NeverSaidLaw" (75 : Nat) ({ cls := "NeverSaidModel", name := "say", desc := "(III)I" } : Jvm.MethodName)) ∈ lw_all := lw_g (lw_at lw_m6 188 rfl) rfl
theorem q1487 : (Jvm.Cond.methodLink "NeverSaidLaw" (79 : Nat) ({ cls := "NeverSaidModel", name := "choice", desc := "(II)I" } : Jvm.MethodName)) ∈ lw_all := lw_g (lw_at lw_m6 205 rfl) rfl
theorem q1505 : (Jvm.Cond.methodLink "NeverSaidLaw" (83 : Nat) ({ cls := "NeverSaidModel", name := "rounds", desc := "(II)I" } : Jvm.MethodName)) ∈ lw_all := lw_g (lw_at lw_m6 223 rfl) rfl
theorem q1518 : (Jvm.Cond.methodLink "NeverSaidLaw" (87 : Nat) ({ cls := "NeverSaidModel", name := "fewest", desc := "(II)I" } : Jvm.MethodName)) ∈ lw_all := lw_g (lw_at lw_m6 236 rfl) rfl
theorem q1522 : (Jvm.Cond.methodLink "NeverSaidLaw" (92 : Nat) ({ cls := "NeverSaidModel", name := "silent", desc := "()I" } : Jvm.MethodName)) ∈ lw_all := lw_g (lw_at lw_m7 0 rfl) rfl
theorem q1526 : (Jvm.Cond.methodLink "NeverSaidLaw" (96 : Nat) ({ cls := "NeverSaidModel", name := "meant", desc := "(I)I" } : Jvm.MethodName)) ∈ lw_all := lw_g (lw_at lw_m7 4 rfl) rfl
theorem q1530 : (Jvm.Cond.methodLink "NeverSaidLaw" (100 : Nat) ({ cls := "NeverSaidModel", name := "proved", desc := "(I)I" } : Jvm.MethodName)) ∈ lw_all := lw_g (lw_at lw_m7 8 rfl) rfl
theorem q1534 : (Jvm.Cond.methodLink "NeverSaidLaw" (105 : Nat) ({ cls := "NeverSaidModel", name := "falls", desc := "(II)J" } : Jvm.MethodName)) ∈ lw_all := lw_g (lw_at lw_m7 12 rfl) rfl
theorem q1543 : (Jvm.Cond.methodLink "NeverSaidLaw" (109 : Nat) ({ cls := "NeverSaidModel", name := "most", desc := "()I" } : Jvm.MethodName)) ∈ lw_all := lw_g (lw_at lw_m7 21 rfl) rfl
theorem q1547 : (Jvm.Cond.methodLink "NeverSaidLaw" (113 : Nat) ({ cls := "NeverSaidModel", name := "feed", desc := "(III)I" } : Jvm.MethodName)) ∈ lw_all := lw_g (lw_at lw_m7 25 rfl) rfl
theorem q1551 : (Jvm.Cond.methodLink "NeverSaidLaw" (117 : Nat) ({ cls := "NeverSaidModel", name := "trim", desc := "(I)I" } : Jvm.MethodName)) ∈ lw_all := lw_g (lw_at lw_m7 29 rfl) rfl
theorem q1555 : (Jvm.Cond.methodLink "NeverSaidLaw" (121 : Nat) ({ cls := "NeverSaidModel", name := "text", desc := "()I" } : Jvm.MethodName)) ∈ lw_all := lw_g (lw_at lw_m7 33 rfl) rfl
theorem q1622 : (Jvm.Cond.methodLink "NeverSaidLaw" (125 : Nat) ({ cls := "NeverSaidModel", name := "textTold", desc := "(II)I" } : Jvm.MethodName)) ∈ lw_all := lw_g (lw_at lw_m7 100 rfl) rfl
theorem q1630 : (Jvm.Cond.methodLink "NeverSaidLaw" (129 : Nat) ({ cls := "NeverSaidModel", name := "why", desc := "(I)I" } : Jvm.MethodName)) ∈ lw_all := lw_g (lw_at lw_m7 108 rfl) rfl
theorem q1635 : (Jvm.Cond.methodLink "NeverSaidLaw" (133 : Nat) ({ cls := "NeverSaidModel", name := "sheet", desc := "(III)I" } : Jvm.MethodName)) ∈ lw_all := lw_g (lw_at lw_m7 113 rfl) rfl
theorem q1645 : (Jvm.Cond.methodLink "NeverSaidLaw" (137 : Nat) ({ cls := "NeverSaidModel", name := "mark", desc := "(III)I" } : Jvm.MethodName)) ∈ lw_all := lw_g (lw_at lw_m7 123 rfl) rfl
theorem q1653 : (Jvm.Cond.methodLink "NeverSaidLaw" (141 : Nat) ({ cls := "NeverSaidModel", name := "pour", desc := "(I)I" } : Jvm.MethodName)) ∈ lw_all := lw_g (lw_at lw_m7 131 rfl) rfl
theorem q1657 : (Jvm.Cond.methodLink "NeverSaidLaw" (145 : Nat) ({ cls := "NeverSaidModel", name := "reads", desc := "(I)I" } : Jvm.MethodName)) ∈ lw_all := lw_g (lw_at lw_m7 135 rfl) rfl
theorem q1661 : (Jvm.Cond.methodLink "NeverSaidLaw" (150 : Nat) ({ cls := "NeverSaidModel", name := "copy", desc := "(IIIII)I" } : Jvm.MethodName)) ∈ lw_all := lw_g (lw_at lw_m7 139 rfl) rfl
theorem q1665 : (Jvm.Cond.methodLink "NeverSaidLaw" (154 : Nat) ({ cls := "NeverSaidModel", name := "lay", desc := "(III)I" } : Jvm.MethodName)) ∈ lw_all := lw_g (lw_at lw_m7 143 rfl) rfl
theorem q1672 : (Jvm.Cond.methodLink "NeverSaidLaw" (158 : Nat) ({ cls := "NeverSaidModel", name := "ask", desc := "(II)I" } : Jvm.MethodName)) ∈ lw_all := lw_g (lw_at lw_m7 150 rfl) rfl
theorem q1676 : (Jvm.Cond.methodLink "NeverSaidLaw" (162 : Nat) ({ cls := "NeverSaidModel", name := "item", desc := "(II)I" } : Jvm.MethodName)) ∈ lw_all := lw_g (lw_at lw_m7 154 rfl) rfl
theorem q1680 : (Jvm.Cond.methodLink "NeverSaidLaw" (166 : Nat) ({ cls := "NeverSaidModel", name := "rest", desc := "(II)I" } : Jvm.MethodName)) ∈ lw_all := lw_g (lw_at lw_m7 158 rfl) rfl
theorem q1684 : (Jvm.Cond.methodLink "NeverSaidLaw" (170 : Nat) ({ cls := "NeverSaidModel", name := "tell", desc := "(I)I" } : Jvm.MethodName)) ∈ lw_all := lw_g (lw_at lw_m7 162 rfl) rfl
theorem q1688 : (Jvm.Cond.methodLink "NeverSaidLaw" (174 : Nat) ({ cls := "NeverSaidModel", name := "check", desc := "(II)I" } : Jvm.MethodName)) ∈ lw_all := lw_g (lw_at lw_m7 166 rfl) rfl
theorem q1697 : (Jvm.Cond.methodLink "NeverSaidLaw" (178 : Nat) ({ cls := "NeverSaidModel", name := "keep", desc := "()I" } : Jvm.MethodName)) ∈ lw_all := lw_g (lw_at lw_m7 175 rfl) rfl
theorem q1701 : (Jvm.Cond.methodLink "NeverSaidLaw" (182 : Nat) ({ cls := "NeverSaidModel", name := "back", desc := "()I" } : Jvm.MethodName)) ∈ lw_all := lw_g (lw_at lw_m7 179 rfl) rfl
theorem q1705 : (Jvm.Cond.methodLink "NeverSaidLaw" (186 : Nat) ({ cls := "NeverSaidModel", name := "count", desc := "(I)I" } : Jvm.MethodName)) ∈ lw_all := lw_g (lw_at lw_m7 183 rfl) rfl

theorem q99 : (Jvm.Cond.initialized "java/lang/System") ∈ lw_all := lw_g (lw_at lw_m1 17 rfl) rfl
set_option maxRecDepth 100000
theorem q675 : (Jvm.Cond.static ({ cls := "java/lang/System", name := "arraycopy", desc := "(Ljava/lang/Object;ILjava/lang/Object;II)V" } : Jvm.MethodName)) ∈ lw_all := lw_g (lw_at lw_m3 113 rfl) rfl
theorem q676 : (Jvm.Cond.native ({ cls := "java/lang/System", name := "arraycopy", desc := "(Ljava/lang/Object;ILjava/lang/Object;II)V" } : Jvm.MethodName)) ∈ lw_all := lw_g (lw_at lw_m3 114 rfl) rfl

theorem q126 : (Jvm.Cond.arrayOver (Jvm.ClassFile.FieldType.object "NeverSaid$Speaker")) ∈ lw_tbl := lw_at lw_m1 44 rfl
set_option maxRecDepth 100000
theorem q128 : (Jvm.Cond.arrayOver (Jvm.ClassFile.FieldType.object "NeverSaid$Deed")) ∈ lw_tbl := lw_at lw_m1 46 rfl
theorem q130 : (Jvm.Cond.arrayOver (Jvm.ClassFile.FieldType.object "NeverSaid$Text")) ∈ lw_tbl := lw_at lw_m1 48 rfl
theorem q161 : (Jvm.Cond.arrayClass Jvm.ClassFile.FieldType.int) ∈ lw_all := lw_g (lw_at lw_m1 79 rfl) rfl
theorem q274 : (Jvm.Cond.arrayClass Jvm.ClassFile.FieldType.byte) ∈ lw_all := lw_g (lw_at lw_m1 192 rfl) rfl
theorem q276 : (Jvm.Cond.arrayOver (Jvm.ClassFile.FieldType.object "NeverSaid$Sheet")) ∈ lw_tbl := lw_at lw_m1 194 rfl
theorem q288 : (Jvm.Cond.arrayOver (Jvm.ClassFile.FieldType.object "NeverSaid$Slot")) ∈ lw_tbl := lw_at lw_m1 206 rfl
theorem q375 : (Jvm.Cond.arrayClass Jvm.ClassFile.FieldType.float) ∈ lw_all := lw_g (lw_at lw_m2 53 rfl) rfl
theorem q1010 : (Jvm.Cond.arrayClass Jvm.ClassFile.FieldType.short) ∈ lw_all := lw_g (lw_at lw_m4 208 rfl) rfl

/-! java/lang/Throwable -/
set_option maxRecDepth 100000
def RJ0 : String := "java/lang/Throwable"
def TJ0 : u_T := fun k => match k with
  | 0 => ("java/lang/Throwable", "cause", "Ljava/lang/Throwable;", false)
  | 1 => ("java/lang/Throwable", "stackTrace", "[Ljava/lang/StackTraceElement;", false)
  | 2 => ("java/lang/Throwable", "suppressedExceptions", "Ljava/util/List;", false)
  | 3 => ("java/lang/Throwable", "detailMessage", "Ljava/lang/String;", false)
  | _ => ("java/lang/Throwable", "backtrace", "Ljava/lang/Object;", false)
def tyJ0 : Nat → FieldType := fun k => match k with
  | 0 => .object "java/lang/Throwable"
  | 1 => .array (.object "java/lang/StackTraceElement")
  | 2 => .object "java/util/List"
  | 3 => .object "java/lang/String"
  | _ => .object "java/lang/Object"
abbrev wsJ00 : List Cond := u_ws RJ0 TJ0 5
theorem nmJ0 : ∀ a, a < 5 → ∀ b, b < 5 → a ≠ b → (TJ0 a).2.1 ≠ (TJ0 b).2.1 := by decide +kernel
theorem tyJ0_ok : ∀ k, k < 5 → parseFieldDescriptor (TJ0 k).2.2.1 = some (tyJ0 k) := by decide +kernel
abbrev cJ0_init : ByteArray := prog_30_method_1_code
def yJ0_init : MethodName := ⟨RJ0, "<init>", "()V"⟩
def dkwJ0_init_1 : List UInt8 := [182, 0, 27, 87, 177]
abbrev dktJ0_init_1 : List UInt8 := dkwJ0_init_1 ++ []
def dkwJ0_init_0 : List UInt8 := [42, 183, 0, 1, 42, 42, 181, 0, 7, 42, 178, 0, 13, 181, 0, 17, 42, 178, 0, 20, 181, 0, 24, 42]
abbrev dktJ0_init_0 : List UInt8 := dkwJ0_init_0 ++ dktJ0_init_1
theorem dksJ0_init_0 : cJ0_init.data.toList.drop 0 = dktJ0_init_0 := by decide +kernel
theorem dksJ0_init_1 : cJ0_init.data.toList.drop 24 = dktJ0_init_1 := dk_seg dksJ0_init_0 24 rfl rfl
theorem dJ0_init_0 : decode cJ0_init 0 = .ok (.aload_n 0, 1) := dk_42 (dk_at dksJ0_init_0 0 rfl rfl)
theorem dJ0_init_1 : decode cJ0_init 1 = .ok (.invokespecial 1, 3) := dk_183 0 1 (dk_at dksJ0_init_0 1 rfl rfl)
theorem dJ0_init_4 : decode cJ0_init 4 = .ok (.aload_n 0, 1) := dk_42 (dk_at dksJ0_init_0 4 rfl rfl)
theorem dJ0_init_5 : decode cJ0_init 5 = .ok (.aload_n 0, 1) := dk_42 (dk_at dksJ0_init_0 5 rfl rfl)
theorem dJ0_init_6 : decode cJ0_init 6 = .ok (.putfield 7, 3) := dk_181 0 7 (dk_at dksJ0_init_0 6 rfl rfl)
theorem dJ0_init_9 : decode cJ0_init 9 = .ok (.aload_n 0, 1) := dk_42 (dk_at dksJ0_init_0 9 rfl rfl)
theorem dJ0_init_10 : decode cJ0_init 10 = .ok (.getstatic 13, 3) := dk_178 0 13 (dk_at dksJ0_init_0 10 rfl rfl)
theorem dJ0_init_13 : decode cJ0_init 13 = .ok (.putfield 17, 3) := dk_181 0 17 (dk_at dksJ0_init_0 13 rfl rfl)
theorem dJ0_init_16 : decode cJ0_init 16 = .ok (.aload_n 0, 1) := dk_42 (dk_at dksJ0_init_0 16 rfl rfl)
theorem dJ0_init_17 : decode cJ0_init 17 = .ok (.getstatic 20, 3) := dk_178 0 20 (dk_at dksJ0_init_0 17 rfl rfl)
theorem dJ0_init_20 : decode cJ0_init 20 = .ok (.putfield 24, 3) := dk_181 0 24 (dk_at dksJ0_init_0 20 rfl rfl)
theorem dJ0_init_23 : decode cJ0_init 23 = .ok (.aload_n 0, 1) := dk_42 (dk_at dksJ0_init_0 23 rfl rfl)
theorem dJ0_init_24 : decode cJ0_init 24 = .ok (.invokevirtual 27, 3) := dk_182 0 27 (dk_at dksJ0_init_1 0 rfl rfl)
theorem dJ0_init_27 : decode cJ0_init 27 = .ok (.pop, 1) := dk_87 (dk_at dksJ0_init_1 3 rfl rfl)
theorem dJ0_init_28 : decode cJ0_init 28 = .ok (.return_, 1) := dk_177 (dk_at dksJ0_init_1 4 rfl rfl)
abbrev cJ0_init_2 : ByteArray := prog_30_method_2_code
def yJ0_init_2 : MethodName := ⟨RJ0, "<init>", "(Ljava/lang/String;)V"⟩
def dkwJ0_init_2_1 : List UInt8 := [182, 0, 27, 87, 42, 43, 181, 0, 31, 177]
abbrev dktJ0_init_2_1 : List UInt8 := dkwJ0_init_2_1 ++ []
def dkwJ0_init_2_0 : List UInt8 := [42, 183, 0, 1, 42, 42, 181, 0, 7, 42, 178, 0, 13, 181, 0, 17, 42, 178, 0, 20, 181, 0, 24, 42]
abbrev dktJ0_init_2_0 : List UInt8 := dkwJ0_init_2_0 ++ dktJ0_init_2_1
theorem dksJ0_init_2_0 : cJ0_init_2.data.toList.drop 0 = dktJ0_init_2_0 := by decide +kernel
theorem dksJ0_init_2_1 : cJ0_init_2.data.toList.drop 24 = dktJ0_init_2_1 := dk_seg dksJ0_init_2_0 24 rfl rfl
theorem dJ0_init_2_0 : decode cJ0_init_2 0 = .ok (.aload_n 0, 1) := dk_42 (dk_at dksJ0_init_2_0 0 rfl rfl)
theorem dJ0_init_2_1 : decode cJ0_init_2 1 = .ok (.invokespecial 1, 3) := dk_183 0 1 (dk_at dksJ0_init_2_0 1 rfl rfl)
theorem dJ0_init_2_4 : decode cJ0_init_2 4 = .ok (.aload_n 0, 1) := dk_42 (dk_at dksJ0_init_2_0 4 rfl rfl)
theorem dJ0_init_2_5 : decode cJ0_init_2 5 = .ok (.aload_n 0, 1) := dk_42 (dk_at dksJ0_init_2_0 5 rfl rfl)
theorem dJ0_init_2_6 : decode cJ0_init_2 6 = .ok (.putfield 7, 3) := dk_181 0 7 (dk_at dksJ0_init_2_0 6 rfl rfl)
theorem dJ0_init_2_9 : decode cJ0_init_2 9 = .ok (.aload_n 0, 1) := dk_42 (dk_at dksJ0_init_2_0 9 rfl rfl)
theorem dJ0_init_2_10 : decode cJ0_init_2 10 = .ok (.getstatic 13, 3) := dk_178 0 13 (dk_at dksJ0_init_2_0 10 rfl rfl)
theorem dJ0_init_2_13 : decode cJ0_init_2 13 = .ok (.putfield 17, 3) := dk_181 0 17 (dk_at dksJ0_init_2_0 13 rfl rfl)
theorem dJ0_init_2_16 : decode cJ0_init_2 16 = .ok (.aload_n 0, 1) := dk_42 (dk_at dksJ0_init_2_0 16 rfl rfl)
theorem dJ0_init_2_17 : decode cJ0_init_2 17 = .ok (.getstatic 20, 3) := dk_178 0 20 (dk_at dksJ0_init_2_0 17 rfl rfl)
theorem dJ0_init_2_20 : decode cJ0_init_2 20 = .ok (.putfield 24, 3) := dk_181 0 24 (dk_at dksJ0_init_2_0 20 rfl rfl)
theorem dJ0_init_2_23 : decode cJ0_init_2 23 = .ok (.aload_n 0, 1) := dk_42 (dk_at dksJ0_init_2_0 23 rfl rfl)
theorem dJ0_init_2_24 : decode cJ0_init_2 24 = .ok (.invokevirtual 27, 3) := dk_182 0 27 (dk_at dksJ0_init_2_1 0 rfl rfl)
theorem dJ0_init_2_27 : decode cJ0_init_2 27 = .ok (.pop, 1) := dk_87 (dk_at dksJ0_init_2_1 3 rfl rfl)
theorem dJ0_init_2_28 : decode cJ0_init_2 28 = .ok (.aload_n 0, 1) := dk_42 (dk_at dksJ0_init_2_1 4 rfl rfl)
theorem dJ0_init_2_29 : decode cJ0_init_2 29 = .ok (.aload_n 1, 1) := dk_43 (dk_at dksJ0_init_2_1 5 rfl rfl)
theorem dJ0_init_2_30 : decode cJ0_init_2 30 = .ok (.putfield 31, 3) := dk_181 0 31 (dk_at dksJ0_init_2_1 6 rfl rfl)
theorem dJ0_init_2_33 : decode cJ0_init_2 33 = .ok (.return_, 1) := dk_177 (dk_at dksJ0_init_2_1 9 rfl rfl)
theorem q86 : (Jvm.Cond.initialized "java/lang/Throwable") ∈ lw_all := lw_g (lw_at lw_m1 4 rfl) rfl
theorem q214 : (Jvm.Cond.declares ({ cls := "java/lang/Throwable", name := "<init>", desc := "()V" } : Jvm.MethodName)) ∈ lw_tbl := lw_at lw_m1 132 rfl
theorem q215 : (Jvm.Cond.declares ({ cls := "java/lang/Throwable", name := "<init>", desc := "(Ljava/lang/String;)V" } : Jvm.MethodName)) ∈ lw_tbl := lw_at lw_m1 133 rfl
theorem q219 : (Jvm.Cond.lays "java/lang/Throwable" "java/lang/Throwable" "cause" "Ljava/lang/Throwable;") ∈ lw_all := lw_g (lw_at lw_m1 137 rfl) rfl
theorem q221 : (Jvm.Cond.lays "java/lang/Throwable" "java/lang/Throwable" "stackTrace" "[Ljava/lang/StackTraceElement;") ∈ lw_all := lw_g (lw_at lw_m1 139 rfl) rfl
theorem q223 : (Jvm.Cond.lays "java/lang/Throwable" "java/lang/Throwable" "suppressedExceptions" "Ljava/util/List;") ∈ lw_all := lw_g (lw_at lw_m1 141 rfl) rfl
theorem q225 : (Jvm.Cond.lays "java/lang/Throwable" "java/lang/Throwable" "detailMessage" "Ljava/lang/String;") ∈ lw_all := lw_g (lw_at lw_m1 143 rfl) rfl
theorem q227 : (Jvm.Cond.lays "java/lang/Throwable" "java/lang/Throwable" "backtrace" "Ljava/lang/Object;") ∈ lw_all := lw_g (lw_at lw_m1 145 rfl) rfl
theorem q228 : (Jvm.Cond.fieldLink "java/lang/Throwable" (198 : Nat) "java/lang/Throwable" "backtrace" "Ljava/lang/Object;") ∈ lw_all := lw_g (lw_at lw_m1 146 rfl) rfl
theorem q229 : (Jvm.Cond.superclass "java/lang/Throwable" "java/lang/Object") ∈ lw_all := lw_g (lw_at lw_m1 147 rfl) rfl
theorem q230 : (Jvm.Cond.instanceMethod ({ cls := "java/lang/Throwable", name := "<init>", desc := "()V" } : Jvm.MethodName)) ∈ lw_all := lw_g (lw_at lw_m1 148 rfl) rfl
theorem q231 : (Jvm.Cond.code ({ cls := "java/lang/Throwable", name := "<init>", desc := "()V" } : Jvm.MethodName) prog_30_method_1_code (1 : Nat) (Option.none : Option Jvm.ClassFile.FieldType)) ∈ lw_all := lw_g (lw_at lw_m1 149 rfl) rfl
theorem q232 : (Jvm.Cond.methodLink "java/lang/Throwable" (1 : Nat) ({ cls := "java/lang/Object", name := "<init>", desc := "()V" } : Jvm.MethodName)) ∈ lw_all := lw_g (lw_at lw_m1 150 rfl) rfl
theorem q233 : (Jvm.Cond.fieldLink "java/lang/Throwable" (13 : Nat) "java/lang/Throwable" "UNASSIGNED_STACK" "[Ljava/lang/StackTraceElement;") ∈ lw_all := lw_g (lw_at lw_m1 151 rfl) rfl
theorem q234 : (Jvm.Cond.laysStatic "java/lang/Throwable" "UNASSIGNED_STACK" "[Ljava/lang/StackTraceElement;") ∈ lw_tbl := lw_at lw_m1 152 rfl
theorem q235 : (Jvm.Cond.fieldLink "java/lang/Throwable" (20 : Nat) "java/lang/Throwable" "SUPPRESSED_SENTINEL" "Ljava/util/List;") ∈ lw_all := lw_g (lw_at lw_m1 153 rfl) rfl
theorem q236 : (Jvm.Cond.laysStatic "java/lang/Throwable" "SUPPRESSED_SENTINEL" "Ljava/util/List;") ∈ lw_tbl := lw_at lw_m1 154 rfl
theorem q237 : (Jvm.Cond.methodLink "java/lang/Throwable" (27 : Nat) ({ cls := "java/lang/Throwable", name := "fillInStackTrace", desc := "()Ljava/lang/Throwable;" } : Jvm.MethodName)) ∈ lw_all := lw_g (lw_at lw_m1 155 rfl) rfl
theorem q238 : (Jvm.Cond.instanceMethod ({ cls := "java/lang/Throwable", name := "fillInStackTrace", desc := "()Ljava/lang/Throwable;" } : Jvm.MethodName)) ∈ lw_all := lw_g (lw_at lw_m1 156 rfl) rfl
theorem q239 : (Jvm.Cond.sameMethod "java/lang/Throwable" "java/lang/Throwable" "fillInStackTrace" "()Ljava/lang/Throwable;") ∈ lw_all := lw_g (lw_at lw_m1 157 rfl) rfl
theorem q242 : (Jvm.Cond.codeSync ({ cls := "java/lang/Throwable", name := "fillInStackTrace", desc := "()Ljava/lang/Throwable;" } : Jvm.MethodName) prog_30_method_18_code (1 : Nat) (Option.some (Jvm.ClassFile.FieldType.object "java/lang/Throwable"))) ∈ lw_all := lw_g (lw_at lw_m1 160 rfl) rfl
theorem q243 : (Jvm.Cond.methodLink "java/lang/Throwable" (202 : Nat) ({ cls := "java/lang/Throwable", name := "fillInStackTrace", desc := "(I)Ljava/lang/Throwable;" } : Jvm.MethodName)) ∈ lw_all := lw_g (lw_at lw_m1 161 rfl) rfl
theorem q244 : (Jvm.Cond.privateMethod ({ cls := "java/lang/Throwable", name := "fillInStackTrace", desc := "(I)Ljava/lang/Throwable;" } : Jvm.MethodName)) ∈ lw_tbl := lw_at lw_m1 162 rfl
theorem q245 : (Jvm.Cond.instanceMethod ({ cls := "java/lang/Throwable", name := "fillInStackTrace", desc := "(I)Ljava/lang/Throwable;" } : Jvm.MethodName)) ∈ lw_all := lw_g (lw_at lw_m1 163 rfl) rfl
theorem q246 : (Jvm.Cond.instantiable "java/lang/Throwable" (6 : Nat)) ∈ lw_all := lw_g (lw_at lw_m1 164 rfl) rfl
theorem q247 : (Jvm.Cond.native ({ cls := "java/lang/Throwable", name := "fillInStackTrace", desc := "(I)Ljava/lang/Throwable;" } : Jvm.MethodName)) ∈ lw_all := lw_g (lw_at lw_m1 165 rfl) rfl
theorem q259 : (Jvm.Cond.fieldLink "java/lang/Throwable" (198 : Nat) "java/lang/Throwable" "backtrace" "Ljava/lang/Object;") ∈ lw_all := lw_g (lw_at lw_m1 177 rfl) rfl
theorem q260 : (Jvm.Cond.fieldLink "java/lang/Throwable" (31 : Nat) "java/lang/Throwable" "detailMessage" "Ljava/lang/String;") ∈ lw_all := lw_g (lw_at lw_m1 178 rfl) rfl
theorem q261 : (Jvm.Cond.fieldLink "java/lang/Throwable" (7 : Nat) "java/lang/Throwable" "cause" "Ljava/lang/Throwable;") ∈ lw_all := lw_g (lw_at lw_m1 179 rfl) rfl
theorem q262 : (Jvm.Cond.fieldLink "java/lang/Throwable" (17 : Nat) "java/lang/Throwable" "stackTrace" "[Ljava/lang/StackTraceElement;") ∈ lw_all := lw_g (lw_at lw_m1 180 rfl) rfl
theorem q263 : (Jvm.Cond.fieldLink "java/lang/Throwable" (24 : Nat) "java/lang/Throwable" "suppressedExceptions" "Ljava/util/List;") ∈ lw_all := lw_g (lw_at lw_m1 181 rfl) rfl
theorem q266 : (Jvm.Cond.soleField "java/lang/Throwable" "backtrace") ∈ lw_all := lw_g (lw_at lw_m1 184 rfl) rfl
theorem q267 : (Jvm.Cond.soleField "java/lang/Throwable" "detailMessage") ∈ lw_all := lw_g (lw_at lw_m1 185 rfl) rfl
theorem q268 : (Jvm.Cond.soleField "java/lang/Throwable" "cause") ∈ lw_all := lw_g (lw_at lw_m1 186 rfl) rfl
theorem q269 : (Jvm.Cond.soleField "java/lang/Throwable" "stackTrace") ∈ lw_all := lw_g (lw_at lw_m1 187 rfl) rfl
theorem q271 : (Jvm.Cond.soleField "java/lang/Throwable" "depth") ∈ lw_all := lw_g (lw_at lw_m1 189 rfl) rfl
theorem q272 : (Jvm.Cond.soleField "java/lang/Throwable" "suppressedExceptions") ∈ lw_all := lw_g (lw_at lw_m1 190 rfl) rfl
theorem q724 : (Jvm.Cond.instanceMethod ({ cls := "java/lang/Throwable", name := "<init>", desc := "(Ljava/lang/String;)V" } : Jvm.MethodName)) ∈ lw_all := lw_g (lw_at lw_m3 162 rfl) rfl
theorem q725 : (Jvm.Cond.code ({ cls := "java/lang/Throwable", name := "<init>", desc := "(Ljava/lang/String;)V" } : Jvm.MethodName) prog_30_method_2_code (2 : Nat) (Option.none : Option Jvm.ClassFile.FieldType)) ∈ lw_all := lw_g (lw_at lw_m3 163 rfl) rfl
theorem q1713 : (Jvm.Cond.sameMethod "java/lang/Throwable" "java/lang/Throwable" "fillInStackTrace" "(I)Ljava/lang/Throwable;") ∈ lw_all := lw_g (lw_at lw_m7 191 rfl) rfl
theorem in_J0 : ∀ w ∈ wsJ00, w ∈ lw_all := lw_in wsJ00 [219, 221, 223, 225, 227] (by decide +kernel) (by decide +kernel)

/-! java/lang/Exception -/
set_option maxRecDepth 100000
def RJ1 : String := "java/lang/Exception"
abbrev cJ1_init : ByteArray := prog_21_method_1_code
def yJ1_init : MethodName := ⟨RJ1, "<init>", "()V"⟩
theorem dJ1_init_0 : decode cJ1_init 0 = .ok (.aload_n 0, 1) := by decide +kernel
theorem dJ1_init_1 : decode cJ1_init 1 = .ok (.invokespecial 1, 3) := by decide +kernel
theorem dJ1_init_4 : decode cJ1_init 4 = .ok (.return_, 1) := by decide +kernel
abbrev cJ1_init_2 : ByteArray := prog_21_method_2_code
def yJ1_init_2 : MethodName := ⟨RJ1, "<init>", "(Ljava/lang/String;)V"⟩
def dkwJ1_init_2_0 : List UInt8 := [42, 43, 183, 0, 7, 177]
abbrev dktJ1_init_2_0 : List UInt8 := dkwJ1_init_2_0 ++ []
theorem dksJ1_init_2_0 : cJ1_init_2.data.toList.drop 0 = dktJ1_init_2_0 := by decide +kernel
theorem dJ1_init_2_0 : decode cJ1_init_2 0 = .ok (.aload_n 0, 1) := dk_42 (dk_at dksJ1_init_2_0 0 rfl rfl)
theorem dJ1_init_2_1 : decode cJ1_init_2 1 = .ok (.aload_n 1, 1) := dk_43 (dk_at dksJ1_init_2_0 1 rfl rfl)
theorem dJ1_init_2_2 : decode cJ1_init_2 2 = .ok (.invokespecial 7, 3) := dk_183 0 7 (dk_at dksJ1_init_2_0 2 rfl rfl)
theorem dJ1_init_2_5 : decode cJ1_init_2 5 = .ok (.return_, 1) := dk_177 (dk_at dksJ1_init_2_0 5 rfl rfl)
theorem q87 : (Jvm.Cond.initialized "java/lang/Exception") ∈ lw_all := lw_g (lw_at lw_m1 5 rfl) rfl
theorem q212 : (Jvm.Cond.declares ({ cls := "java/lang/Exception", name := "<init>", desc := "()V" } : Jvm.MethodName)) ∈ lw_tbl := lw_at lw_m1 130 rfl
theorem q213 : (Jvm.Cond.declares ({ cls := "java/lang/Exception", name := "<init>", desc := "(Ljava/lang/String;)V" } : Jvm.MethodName)) ∈ lw_tbl := lw_at lw_m1 131 rfl
theorem q255 : (Jvm.Cond.instanceMethod ({ cls := "java/lang/Exception", name := "<init>", desc := "()V" } : Jvm.MethodName)) ∈ lw_all := lw_g (lw_at lw_m1 173 rfl) rfl
theorem q256 : (Jvm.Cond.code ({ cls := "java/lang/Exception", name := "<init>", desc := "()V" } : Jvm.MethodName) prog_21_method_1_code (1 : Nat) (Option.none : Option Jvm.ClassFile.FieldType)) ∈ lw_all := lw_g (lw_at lw_m1 174 rfl) rfl
theorem q257 : (Jvm.Cond.methodLink "java/lang/Exception" (1 : Nat) ({ cls := "java/lang/Throwable", name := "<init>", desc := "()V" } : Jvm.MethodName)) ∈ lw_all := lw_g (lw_at lw_m1 175 rfl) rfl
theorem q721 : (Jvm.Cond.instanceMethod ({ cls := "java/lang/Exception", name := "<init>", desc := "(Ljava/lang/String;)V" } : Jvm.MethodName)) ∈ lw_all := lw_g (lw_at lw_m3 159 rfl) rfl
theorem q722 : (Jvm.Cond.code ({ cls := "java/lang/Exception", name := "<init>", desc := "(Ljava/lang/String;)V" } : Jvm.MethodName) prog_21_method_2_code (2 : Nat) (Option.none : Option Jvm.ClassFile.FieldType)) ∈ lw_all := lw_g (lw_at lw_m3 160 rfl) rfl
theorem q723 : (Jvm.Cond.methodLink "java/lang/Exception" (7 : Nat) ({ cls := "java/lang/Throwable", name := "<init>", desc := "(Ljava/lang/String;)V" } : Jvm.MethodName)) ∈ lw_all := lw_g (lw_at lw_m3 161 rfl) rfl

/-! java/lang/NegativeArraySizeException -/
set_option maxRecDepth 100000
def RJ10 : String := "java/lang/NegativeArraySizeException"
def TJ10 : u_T := fun k => match k with
  | 0 => ("java/lang/Throwable", "backtrace", "Ljava/lang/Object;", false)
  | 1 => ("java/lang/Throwable", "detailMessage", "Ljava/lang/String;", false)
  | 2 => ("java/lang/Throwable", "cause", "Ljava/lang/Throwable;", false)
  | 3 => ("java/lang/Throwable", "stackTrace", "[Ljava/lang/StackTraceElement;", false)
  | 4 => ("java/lang/Throwable", "depth", "I", false)
  | _ => ("java/lang/Throwable", "suppressedExceptions", "Ljava/util/List;", false)
def tyJ10 : Nat → FieldType := fun k => match k with
  | 0 => .object "java/lang/Object"
  | 1 => .object "java/lang/String"
  | 2 => .object "java/lang/Throwable"
  | 3 => .array (.object "java/lang/StackTraceElement")
  | 4 => .int
  | _ => .object "java/util/List"
abbrev wsJ100 : List Cond := u_ws RJ10 TJ10 6
theorem nmJ10 : ∀ a, a < 6 → ∀ b, b < 6 → a ≠ b → (TJ10 a).2.1 ≠ (TJ10 b).2.1 := by decide +kernel
theorem tyJ10_ok : ∀ k, k < 6 → parseFieldDescriptor (TJ10 k).2.2.1 = some (tyJ10 k) := by decide +kernel
abbrev cJ10_init : ByteArray := prog_24_method_2_code
def yJ10_init : MethodName := ⟨RJ10, "<init>", "(Ljava/lang/String;)V"⟩
def dkwJ10_init_0 : List UInt8 := [42, 43, 183, 0, 7, 177]
abbrev dktJ10_init_0 : List UInt8 := dkwJ10_init_0 ++ []
theorem dksJ10_init_0 : cJ10_init.data.toList.drop 0 = dktJ10_init_0 := by decide +kernel
theorem dJ10_init_0 : decode cJ10_init 0 = .ok (.aload_n 0, 1) := dk_42 (dk_at dksJ10_init_0 0 rfl rfl)
theorem dJ10_init_1 : decode cJ10_init 1 = .ok (.aload_n 1, 1) := dk_43 (dk_at dksJ10_init_0 1 rfl rfl)
theorem dJ10_init_2 : decode cJ10_init 2 = .ok (.invokespecial 7, 3) := dk_183 0 7 (dk_at dksJ10_init_0 2 rfl rfl)
theorem dJ10_init_5 : decode cJ10_init 5 = .ok (.return_, 1) := dk_177 (dk_at dksJ10_init_0 5 rfl rfl)
theorem q109 : (Jvm.Cond.initialized "java/lang/NegativeArraySizeException") ∈ lw_all := lw_g (lw_at lw_m1 27 rfl) rfl
theorem q241 : (Jvm.Cond.selects "java/lang/NegativeArraySizeException" ({ cls := "java/lang/Throwable", name := "fillInStackTrace", desc := "()Ljava/lang/Throwable;" } : Jvm.MethodName) ({ cls := "java/lang/Throwable", name := "fillInStackTrace", desc := "()Ljava/lang/Throwable;" } : Jvm.MethodName)) ∈ lw_all := lw_g (lw_at lw_m1 159 rfl) rfl
theorem q990 : (Jvm.Cond.instantiable "java/lang/NegativeArraySizeException" (6 : Nat)) ∈ lw_all := lw_g (lw_at lw_m4 188 rfl) rfl
theorem q991 : (Jvm.Cond.instanceMethod ({ cls := "java/lang/NegativeArraySizeException", name := "<init>", desc := "(Ljava/lang/String;)V" } : Jvm.MethodName)) ∈ lw_all := lw_g (lw_at lw_m4 189 rfl) rfl
theorem q992 : (Jvm.Cond.code ({ cls := "java/lang/NegativeArraySizeException", name := "<init>", desc := "(Ljava/lang/String;)V" } : Jvm.MethodName) prog_24_method_2_code (2 : Nat) (Option.none : Option Jvm.ClassFile.FieldType)) ∈ lw_all := lw_g (lw_at lw_m4 190 rfl) rfl
theorem q993 : (Jvm.Cond.methodLink "java/lang/NegativeArraySizeException" (7 : Nat) ({ cls := "java/lang/RuntimeException", name := "<init>", desc := "(Ljava/lang/String;)V" } : Jvm.MethodName)) ∈ lw_all := lw_g (lw_at lw_m4 191 rfl) rfl
theorem q994 : (Jvm.Cond.lays "java/lang/NegativeArraySizeException" "java/lang/Throwable" "backtrace" "Ljava/lang/Object;") ∈ lw_all := lw_g (lw_at lw_m4 192 rfl) rfl
theorem q995 : (Jvm.Cond.lays "java/lang/NegativeArraySizeException" "java/lang/Throwable" "detailMessage" "Ljava/lang/String;") ∈ lw_all := lw_g (lw_at lw_m4 193 rfl) rfl
theorem q996 : (Jvm.Cond.lays "java/lang/NegativeArraySizeException" "java/lang/Throwable" "cause" "Ljava/lang/Throwable;") ∈ lw_all := lw_g (lw_at lw_m4 194 rfl) rfl
theorem q997 : (Jvm.Cond.lays "java/lang/NegativeArraySizeException" "java/lang/Throwable" "stackTrace" "[Ljava/lang/StackTraceElement;") ∈ lw_all := lw_g (lw_at lw_m4 195 rfl) rfl
theorem q998 : (Jvm.Cond.lays "java/lang/NegativeArraySizeException" "java/lang/Throwable" "depth" "I") ∈ lw_all := lw_g (lw_at lw_m4 196 rfl) rfl
theorem q999 : (Jvm.Cond.lays "java/lang/NegativeArraySizeException" "java/lang/Throwable" "suppressedExceptions" "Ljava/util/List;") ∈ lw_all := lw_g (lw_at lw_m4 197 rfl) rfl
theorem q1000 : (Jvm.Cond.superclass "java/lang/NegativeArraySizeException" "java/lang/RuntimeException") ∈ lw_all := lw_g (lw_at lw_m4 198 rfl) rfl
theorem q1001 : (Jvm.Cond.castable "java/lang/NegativeArraySizeException" "java/lang/NegativeArraySizeException") ∈ lw_tbl := lw_at lw_m4 199 rfl
theorem q1002 : (Jvm.Cond.selects "java/lang/NegativeArraySizeException" ({ cls := "java/lang/Throwable", name := "fillInStackTrace", desc := "(I)Ljava/lang/Throwable;" } : Jvm.MethodName) ({ cls := "java/lang/Throwable", name := "fillInStackTrace", desc := "(I)Ljava/lang/Throwable;" } : Jvm.MethodName)) ∈ lw_all := lw_g (lw_at lw_m4 200 rfl) rfl
theorem in_J10 : ∀ w ∈ wsJ100, w ∈ lw_all := lw_in wsJ100 [994, 995, 996, 997, 998, 999] (by decide +kernel) (by decide +kernel)

/-! java/lang/Object -/
set_option maxRecDepth 100000
def RJ11 : String := "java/lang/Object"
abbrev cJ11_init : ByteArray := object_method_1_code
def yJ11_init : MethodName := ⟨RJ11, "<init>", "()V"⟩
theorem dJ11_init_0 : decode cJ11_init 0 = .ok (.return_, 1) := by decide +kernel
theorem q117 : (Jvm.Cond.instanceMethod ({ cls := "java/lang/Object", name := "<init>", desc := "()V" } : Jvm.MethodName)) ∈ lw_all := lw_g (lw_at lw_m1 35 rfl) rfl
theorem q118 : (Jvm.Cond.code ({ cls := "java/lang/Object", name := "<init>", desc := "()V" } : Jvm.MethodName) object_method_1_code (1 : Nat) (Option.none : Option Jvm.ClassFile.FieldType)) ∈ lw_all := lw_g (lw_at lw_m1 36 rfl) rfl

/-! java/lang/RuntimeException -/
set_option maxRecDepth 100000
def RJ2 : String := "java/lang/RuntimeException"
abbrev cJ2_init : ByteArray := prog_25_method_1_code
def yJ2_init : MethodName := ⟨RJ2, "<init>", "()V"⟩
theorem dJ2_init_0 : decode cJ2_init 0 = .ok (.aload_n 0, 1) := by decide +kernel
theorem dJ2_init_1 : decode cJ2_init 1 = .ok (.invokespecial 1, 3) := by decide +kernel
theorem dJ2_init_4 : decode cJ2_init 4 = .ok (.return_, 1) := by decide +kernel
abbrev cJ2_init_2 : ByteArray := prog_25_method_2_code
def yJ2_init_2 : MethodName := ⟨RJ2, "<init>", "(Ljava/lang/String;)V"⟩
def dkwJ2_init_2_0 : List UInt8 := [42, 43, 183, 0, 7, 177]
abbrev dktJ2_init_2_0 : List UInt8 := dkwJ2_init_2_0 ++ []
theorem dksJ2_init_2_0 : cJ2_init_2.data.toList.drop 0 = dktJ2_init_2_0 := by decide +kernel
theorem dJ2_init_2_0 : decode cJ2_init_2 0 = .ok (.aload_n 0, 1) := dk_42 (dk_at dksJ2_init_2_0 0 rfl rfl)
theorem dJ2_init_2_1 : decode cJ2_init_2 1 = .ok (.aload_n 1, 1) := dk_43 (dk_at dksJ2_init_2_0 1 rfl rfl)
theorem dJ2_init_2_2 : decode cJ2_init_2 2 = .ok (.invokespecial 7, 3) := dk_183 0 7 (dk_at dksJ2_init_2_0 2 rfl rfl)
theorem dJ2_init_2_5 : decode cJ2_init_2 5 = .ok (.return_, 1) := dk_177 (dk_at dksJ2_init_2_0 5 rfl rfl)
theorem q88 : (Jvm.Cond.initialized "java/lang/RuntimeException") ∈ lw_all := lw_g (lw_at lw_m1 6 rfl) rfl
theorem q210 : (Jvm.Cond.declares ({ cls := "java/lang/RuntimeException", name := "<init>", desc := "()V" } : Jvm.MethodName)) ∈ lw_tbl := lw_at lw_m1 128 rfl
theorem q211 : (Jvm.Cond.declares ({ cls := "java/lang/RuntimeException", name := "<init>", desc := "(Ljava/lang/String;)V" } : Jvm.MethodName)) ∈ lw_tbl := lw_at lw_m1 129 rfl
theorem q252 : (Jvm.Cond.instanceMethod ({ cls := "java/lang/RuntimeException", name := "<init>", desc := "()V" } : Jvm.MethodName)) ∈ lw_all := lw_g (lw_at lw_m1 170 rfl) rfl
theorem q253 : (Jvm.Cond.code ({ cls := "java/lang/RuntimeException", name := "<init>", desc := "()V" } : Jvm.MethodName) prog_25_method_1_code (1 : Nat) (Option.none : Option Jvm.ClassFile.FieldType)) ∈ lw_all := lw_g (lw_at lw_m1 171 rfl) rfl
theorem q254 : (Jvm.Cond.methodLink "java/lang/RuntimeException" (1 : Nat) ({ cls := "java/lang/Exception", name := "<init>", desc := "()V" } : Jvm.MethodName)) ∈ lw_all := lw_g (lw_at lw_m1 172 rfl) rfl
theorem q718 : (Jvm.Cond.instanceMethod ({ cls := "java/lang/RuntimeException", name := "<init>", desc := "(Ljava/lang/String;)V" } : Jvm.MethodName)) ∈ lw_all := lw_g (lw_at lw_m3 156 rfl) rfl
theorem q719 : (Jvm.Cond.code ({ cls := "java/lang/RuntimeException", name := "<init>", desc := "(Ljava/lang/String;)V" } : Jvm.MethodName) prog_25_method_2_code (2 : Nat) (Option.none : Option Jvm.ClassFile.FieldType)) ∈ lw_all := lw_g (lw_at lw_m3 157 rfl) rfl
theorem q720 : (Jvm.Cond.methodLink "java/lang/RuntimeException" (7 : Nat) ({ cls := "java/lang/Exception", name := "<init>", desc := "(Ljava/lang/String;)V" } : Jvm.MethodName)) ∈ lw_all := lw_g (lw_at lw_m3 158 rfl) rfl

/-! java/lang/ClassCastException -/
set_option maxRecDepth 100000
def RJ3 : String := "java/lang/ClassCastException"
def TJ3 : u_T := fun k => match k with
  | 0 => ("java/lang/Throwable", "backtrace", "Ljava/lang/Object;", false)
  | 1 => ("java/lang/Throwable", "detailMessage", "Ljava/lang/String;", false)
  | 2 => ("java/lang/Throwable", "cause", "Ljava/lang/Throwable;", false)
  | 3 => ("java/lang/Throwable", "stackTrace", "[Ljava/lang/StackTraceElement;", false)
  | 4 => ("java/lang/Throwable", "depth", "I", false)
  | _ => ("java/lang/Throwable", "suppressedExceptions", "Ljava/util/List;", false)
def tyJ3 : Nat → FieldType := fun k => match k with
  | 0 => .object "java/lang/Object"
  | 1 => .object "java/lang/String"
  | 2 => .object "java/lang/Throwable"
  | 3 => .array (.object "java/lang/StackTraceElement")
  | 4 => .int
  | _ => .object "java/util/List"
abbrev wsJ30 : List Cond := u_ws RJ3 TJ3 6
theorem nmJ3 : ∀ a, a < 6 → ∀ b, b < 6 → a ≠ b → (TJ3 a).2.1 ≠ (TJ3 b).2.1 := by decide +kernel
theorem tyJ3_ok : ∀ k, k < 6 → parseFieldDescriptor (TJ3 k).2.2.1 = some (tyJ3 k) := by decide +kernel
abbrev cJ3_init : ByteArray := prog_20_method_2_code
def yJ3_init : MethodName := ⟨RJ3, "<init>", "(Ljava/lang/String;)V"⟩
def dkwJ3_init_0 : List UInt8 := [42, 43, 183, 0, 7, 177]
abbrev dktJ3_init_0 : List UInt8 := dkwJ3_init_0 ++ []
theorem dksJ3_init_0 : cJ3_init.data.toList.drop 0 = dktJ3_init_0 := by decide +kernel
theorem dJ3_init_0 : decode cJ3_init 0 = .ok (.aload_n 0, 1) := dk_42 (dk_at dksJ3_init_0 0 rfl rfl)
theorem dJ3_init_1 : decode cJ3_init 1 = .ok (.aload_n 1, 1) := dk_43 (dk_at dksJ3_init_0 1 rfl rfl)
theorem dJ3_init_2 : decode cJ3_init 2 = .ok (.invokespecial 7, 3) := dk_183 0 7 (dk_at dksJ3_init_0 2 rfl rfl)
theorem dJ3_init_5 : decode cJ3_init 5 = .ok (.return_, 1) := dk_177 (dk_at dksJ3_init_0 5 rfl rfl)
theorem q100 : (Jvm.Cond.initialized "java/lang/ClassCastException") ∈ lw_all := lw_g (lw_at lw_m1 18 rfl) rfl
theorem q240 : (Jvm.Cond.selects "java/lang/ClassCastException" ({ cls := "java/lang/Throwable", name := "fillInStackTrace", desc := "()Ljava/lang/Throwable;" } : Jvm.MethodName) ({ cls := "java/lang/Throwable", name := "fillInStackTrace", desc := "()Ljava/lang/Throwable;" } : Jvm.MethodName)) ∈ lw_all := lw_g (lw_at lw_m1 158 rfl) rfl
theorem q714 : (Jvm.Cond.instantiable "java/lang/ClassCastException" (6 : Nat)) ∈ lw_all := lw_g (lw_at lw_m3 152 rfl) rfl
theorem q715 : (Jvm.Cond.instanceMethod ({ cls := "java/lang/ClassCastException", name := "<init>", desc := "(Ljava/lang/String;)V" } : Jvm.MethodName)) ∈ lw_all := lw_g (lw_at lw_m3 153 rfl) rfl
theorem q716 : (Jvm.Cond.code ({ cls := "java/lang/ClassCastException", name := "<init>", desc := "(Ljava/lang/String;)V" } : Jvm.MethodName) prog_20_method_2_code (2 : Nat) (Option.none : Option Jvm.ClassFile.FieldType)) ∈ lw_all := lw_g (lw_at lw_m3 154 rfl) rfl
theorem q717 : (Jvm.Cond.methodLink "java/lang/ClassCastException" (7 : Nat) ({ cls := "java/lang/RuntimeException", name := "<init>", desc := "(Ljava/lang/String;)V" } : Jvm.MethodName)) ∈ lw_all := lw_g (lw_at lw_m3 155 rfl) rfl
theorem q726 : (Jvm.Cond.lays "java/lang/ClassCastException" "java/lang/Throwable" "backtrace" "Ljava/lang/Object;") ∈ lw_all := lw_g (lw_at lw_m3 164 rfl) rfl
theorem q727 : (Jvm.Cond.lays "java/lang/ClassCastException" "java/lang/Throwable" "detailMessage" "Ljava/lang/String;") ∈ lw_all := lw_g (lw_at lw_m3 165 rfl) rfl
theorem q728 : (Jvm.Cond.lays "java/lang/ClassCastException" "java/lang/Throwable" "cause" "Ljava/lang/Throwable;") ∈ lw_all := lw_g (lw_at lw_m3 166 rfl) rfl
theorem q729 : (Jvm.Cond.lays "java/lang/ClassCastException" "java/lang/Throwable" "stackTrace" "[Ljava/lang/StackTraceElement;") ∈ lw_all := lw_g (lw_at lw_m3 167 rfl) rfl
theorem q730 : (Jvm.Cond.lays "java/lang/ClassCastException" "java/lang/Throwable" "depth" "I") ∈ lw_all := lw_g (lw_at lw_m3 168 rfl) rfl
theorem q731 : (Jvm.Cond.lays "java/lang/ClassCastException" "java/lang/Throwable" "suppressedExceptions" "Ljava/util/List;") ∈ lw_all := lw_g (lw_at lw_m3 169 rfl) rfl
theorem q732 : (Jvm.Cond.superclass "java/lang/ClassCastException" "java/lang/RuntimeException") ∈ lw_all := lw_g (lw_at lw_m3 170 rfl) rfl
theorem q733 : (Jvm.Cond.castable "java/lang/ClassCastException" "java/lang/ClassCastException") ∈ lw_tbl := lw_at lw_m3 171 rfl
theorem q734 : (Jvm.Cond.selects "java/lang/ClassCastException" ({ cls := "java/lang/Throwable", name := "fillInStackTrace", desc := "(I)Ljava/lang/Throwable;" } : Jvm.MethodName) ({ cls := "java/lang/Throwable", name := "fillInStackTrace", desc := "(I)Ljava/lang/Throwable;" } : Jvm.MethodName)) ∈ lw_all := lw_g (lw_at lw_m3 172 rfl) rfl
theorem in_J3 : ∀ w ∈ wsJ30, w ∈ lw_all := lw_in wsJ30 [726, 727, 728, 729, 730, 731] (by decide +kernel) (by decide +kernel)

/-! java/lang/String -/
set_option maxRecDepth 100000
def RJ4 : String := "java/lang/String"
def TJ4 : u_T := fun k => match k with
  | 0 => ("java/lang/String", "value", "[B", true)
  | _ => ("java/lang/String", "coder", "B", true)
def tyJ4 : Nat → FieldType := fun k => match k with
  | 0 => .array .byte
  | _ => .byte
abbrev wsJ40 : List Cond := u_ws RJ4 TJ4 2
theorem nmJ4 : ∀ a, a < 2 → ∀ b, b < 2 → a ≠ b → (TJ4 a).2.1 ≠ (TJ4 b).2.1 := by decide +kernel
theorem tyJ4_ok : ∀ k, k < 2 → parseFieldDescriptor (TJ4 k).2.2.1 = some (tyJ4 k) := by decide +kernel
abbrev cJ4_length : ByteArray := prog_26_method_54_code
def yJ4_length : MethodName := ⟨RJ4, "length", "()I"⟩
def dkwJ4_length_0 : List UInt8 := [42, 180, 0, 9, 190, 42, 182, 1, 79, 122, 172]
abbrev dktJ4_length_0 : List UInt8 := dkwJ4_length_0 ++ []
theorem dksJ4_length_0 : cJ4_length.data.toList.drop 0 = dktJ4_length_0 := by decide +kernel
theorem dJ4_length_0 : decode cJ4_length 0 = .ok (.aload_n 0, 1) := dk_42 (dk_at dksJ4_length_0 0 rfl rfl)
theorem dJ4_length_1 : decode cJ4_length 1 = .ok (.getfield 9, 3) := dk_180 0 9 (dk_at dksJ4_length_0 1 rfl rfl)
theorem dJ4_length_4 : decode cJ4_length 4 = .ok (.arraylength, 1) := dk_190 (dk_at dksJ4_length_0 4 rfl rfl)
theorem dJ4_length_5 : decode cJ4_length 5 = .ok (.aload_n 0, 1) := dk_42 (dk_at dksJ4_length_0 5 rfl rfl)
theorem dJ4_length_6 : decode cJ4_length 6 = .ok (.invokevirtual 335, 3) := dk_182 1 79 (dk_at dksJ4_length_0 6 rfl rfl)
theorem dJ4_length_9 : decode cJ4_length 9 = .ok (.ishr, 1) := dk_122 (dk_at dksJ4_length_0 9 rfl rfl)
theorem dJ4_length_10 : decode cJ4_length 10 = .ok (.ireturn, 1) := dk_172 (dk_at dksJ4_length_0 10 rfl rfl)
abbrev cJ4_coder : ByteArray := prog_26_method_152_code
def yJ4_coder : MethodName := ⟨RJ4, "coder", "()B"⟩
def dkwJ4_coder_0 : List UInt8 := [178, 0, 38, 153, 0, 10, 42, 180, 0, 15, 167, 0, 4, 4, 172]
abbrev dktJ4_coder_0 : List UInt8 := dkwJ4_coder_0 ++ []
theorem dksJ4_coder_0 : cJ4_coder.data.toList.drop 0 = dktJ4_coder_0 := by decide +kernel
theorem dJ4_coder_0 : decode cJ4_coder 0 = .ok (.getstatic 38, 3) := dk_178 0 38 (dk_at dksJ4_coder_0 0 rfl rfl)
theorem dJ4_coder_3 : decode cJ4_coder 3 = .ok (.ifCond .eq 10, 3) := dk_153 0 10 (dk_at dksJ4_coder_0 3 rfl rfl)
theorem dJ4_coder_6 : decode cJ4_coder 6 = .ok (.aload_n 0, 1) := dk_42 (dk_at dksJ4_coder_0 6 rfl rfl)
theorem dJ4_coder_7 : decode cJ4_coder 7 = .ok (.getfield 15, 3) := dk_180 0 15 (dk_at dksJ4_coder_0 7 rfl rfl)
theorem dJ4_coder_10 : decode cJ4_coder 10 = .ok (.goto 4, 3) := dk_167 0 4 (dk_at dksJ4_coder_0 10 rfl rfl)
theorem dJ4_coder_13 : decode cJ4_coder 13 = .ok (.iconst 1, 1) := dk_4 (dk_at dksJ4_coder_0 13 rfl rfl)
theorem dJ4_coder_14 : decode cJ4_coder 14 = .ok (.ireturn, 1) := dk_172 (dk_at dksJ4_coder_0 14 rfl rfl)
abbrev cJ4_charAt : ByteArray := prog_26_method_56_code
def yJ4_charAt : MethodName := ⟨RJ4, "charAt", "(I)C"⟩
def dkwJ4_charAt_1 : List UInt8 := [172]
abbrev dktJ4_charAt_1 : List UInt8 := dkwJ4_charAt_1 ++ []
def dkwJ4_charAt_0 : List UInt8 := [42, 182, 1, 236, 153, 0, 12, 42, 180, 0, 9, 27, 184, 1, 239, 172, 42, 180, 0, 9, 27, 184, 1, 242]
abbrev dktJ4_charAt_0 : List UInt8 := dkwJ4_charAt_0 ++ dktJ4_charAt_1
theorem dksJ4_charAt_0 : cJ4_charAt.data.toList.drop 0 = dktJ4_charAt_0 := by decide +kernel
theorem dksJ4_charAt_1 : cJ4_charAt.data.toList.drop 24 = dktJ4_charAt_1 := dk_seg dksJ4_charAt_0 24 rfl rfl
theorem dJ4_charAt_0 : decode cJ4_charAt 0 = .ok (.aload_n 0, 1) := dk_42 (dk_at dksJ4_charAt_0 0 rfl rfl)
theorem dJ4_charAt_1 : decode cJ4_charAt 1 = .ok (.invokevirtual 492, 3) := dk_182 1 236 (dk_at dksJ4_charAt_0 1 rfl rfl)
theorem dJ4_charAt_4 : decode cJ4_charAt 4 = .ok (.ifCond .eq 12, 3) := dk_153 0 12 (dk_at dksJ4_charAt_0 4 rfl rfl)
theorem dJ4_charAt_7 : decode cJ4_charAt 7 = .ok (.aload_n 0, 1) := dk_42 (dk_at dksJ4_charAt_0 7 rfl rfl)
theorem dJ4_charAt_8 : decode cJ4_charAt 8 = .ok (.getfield 9, 3) := dk_180 0 9 (dk_at dksJ4_charAt_0 8 rfl rfl)
theorem dJ4_charAt_11 : decode cJ4_charAt 11 = .ok (.iload_n 1, 1) := dk_27 (dk_at dksJ4_charAt_0 11 rfl rfl)
theorem dJ4_charAt_12 : decode cJ4_charAt 12 = .ok (.invokestatic 495, 3) := dk_184 1 239 (dk_at dksJ4_charAt_0 12 rfl rfl)
theorem dJ4_charAt_15 : decode cJ4_charAt 15 = .ok (.ireturn, 1) := dk_172 (dk_at dksJ4_charAt_0 15 rfl rfl)
theorem dJ4_charAt_16 : decode cJ4_charAt 16 = .ok (.aload_n 0, 1) := dk_42 (dk_at dksJ4_charAt_0 16 rfl rfl)
theorem dJ4_charAt_17 : decode cJ4_charAt 17 = .ok (.getfield 9, 3) := dk_180 0 9 (dk_at dksJ4_charAt_0 17 rfl rfl)
theorem dJ4_charAt_20 : decode cJ4_charAt 20 = .ok (.iload_n 1, 1) := dk_27 (dk_at dksJ4_charAt_0 20 rfl rfl)
theorem dJ4_charAt_21 : decode cJ4_charAt 21 = .ok (.invokestatic 498, 3) := dk_184 1 242 (dk_at dksJ4_charAt_0 21 rfl rfl)
theorem dJ4_charAt_24 : decode cJ4_charAt 24 = .ok (.ireturn, 1) := dk_172 (dk_at dksJ4_charAt_1 0 rfl rfl)
abbrev cJ4_isLatin1 : ByteArray := prog_26_method_154_code
def yJ4_isLatin1 : MethodName := ⟨RJ4, "isLatin1", "()Z"⟩
def dkwJ4_isLatin1_0 : List UInt8 := [178, 0, 38, 153, 0, 14, 42, 180, 0, 15, 154, 0, 7, 4, 167, 0, 4, 3, 172]
abbrev dktJ4_isLatin1_0 : List UInt8 := dkwJ4_isLatin1_0 ++ []
theorem dksJ4_isLatin1_0 : cJ4_isLatin1.data.toList.drop 0 = dktJ4_isLatin1_0 := by decide +kernel
theorem dJ4_isLatin1_0 : decode cJ4_isLatin1 0 = .ok (.getstatic 38, 3) := dk_178 0 38 (dk_at dksJ4_isLatin1_0 0 rfl rfl)
theorem dJ4_isLatin1_3 : decode cJ4_isLatin1 3 = .ok (.ifCond .eq 14, 3) := dk_153 0 14 (dk_at dksJ4_isLatin1_0 3 rfl rfl)
theorem dJ4_isLatin1_6 : decode cJ4_isLatin1 6 = .ok (.aload_n 0, 1) := dk_42 (dk_at dksJ4_isLatin1_0 6 rfl rfl)
theorem dJ4_isLatin1_7 : decode cJ4_isLatin1 7 = .ok (.getfield 15, 3) := dk_180 0 15 (dk_at dksJ4_isLatin1_0 7 rfl rfl)
theorem dJ4_isLatin1_10 : decode cJ4_isLatin1 10 = .ok (.ifCond .ne 7, 3) := dk_154 0 7 (dk_at dksJ4_isLatin1_0 10 rfl rfl)
theorem dJ4_isLatin1_13 : decode cJ4_isLatin1 13 = .ok (.iconst 1, 1) := dk_4 (dk_at dksJ4_isLatin1_0 13 rfl rfl)
theorem dJ4_isLatin1_14 : decode cJ4_isLatin1 14 = .ok (.goto 4, 3) := dk_167 0 4 (dk_at dksJ4_isLatin1_0 14 rfl rfl)
theorem dJ4_isLatin1_17 : decode cJ4_isLatin1 17 = .ok (.iconst 0, 1) := dk_3 (dk_at dksJ4_isLatin1_0 17 rfl rfl)
theorem dJ4_isLatin1_18 : decode cJ4_isLatin1 18 = .ok (.ireturn, 1) := dk_172 (dk_at dksJ4_isLatin1_0 18 rfl rfl)
abbrev cJ4_checkIndex : ByteArray := prog_26_method_155_code
def yJ4_checkIndex : MethodName := ⟨RJ4, "checkIndex", "(II)V"⟩
def dkwJ4_checkIndex_0 : List UInt8 := [26, 27, 178, 4, 29, 184, 4, 35, 87, 177]
abbrev dktJ4_checkIndex_0 : List UInt8 := dkwJ4_checkIndex_0 ++ []
theorem dksJ4_checkIndex_0 : cJ4_checkIndex.data.toList.drop 0 = dktJ4_checkIndex_0 := by decide +kernel
theorem dJ4_checkIndex_0 : decode cJ4_checkIndex 0 = .ok (.iload_n 0, 1) := dk_26 (dk_at dksJ4_checkIndex_0 0 rfl rfl)
theorem dJ4_checkIndex_1 : decode cJ4_checkIndex 1 = .ok (.iload_n 1, 1) := dk_27 (dk_at dksJ4_checkIndex_0 1 rfl rfl)
theorem dJ4_checkIndex_2 : decode cJ4_checkIndex 2 = .ok (.getstatic 1053, 3) := dk_178 4 29 (dk_at dksJ4_checkIndex_0 2 rfl rfl)
theorem dJ4_checkIndex_5 : decode cJ4_checkIndex 5 = .ok (.invokestatic 1059, 3) := dk_184 4 35 (dk_at dksJ4_checkIndex_0 5 rfl rfl)
theorem dJ4_checkIndex_8 : decode cJ4_checkIndex 8 = .ok (.pop, 1) := dk_87 (dk_at dksJ4_checkIndex_0 8 rfl rfl)
theorem dJ4_checkIndex_9 : decode cJ4_checkIndex 9 = .ok (.return_, 1) := dk_177 (dk_at dksJ4_checkIndex_0 9 rfl rfl)
theorem q101 : (Jvm.Cond.initialized "java/lang/String") ∈ lw_all := lw_g (lw_at lw_m1 19 rfl) rfl
theorem q425 : (Jvm.Cond.instanceMethod ({ cls := "java/lang/String", name := "length", desc := "()I" } : Jvm.MethodName)) ∈ lw_all := lw_g (lw_at lw_m2 103 rfl) rfl
theorem q426 : (Jvm.Cond.selects "java/lang/String" ({ cls := "java/lang/String", name := "length", desc := "()I" } : Jvm.MethodName) ({ cls := "java/lang/String", name := "length", desc := "()I" } : Jvm.MethodName)) ∈ lw_all := lw_g (lw_at lw_m2 104 rfl) rfl
theorem q427 : (Jvm.Cond.code ({ cls := "java/lang/String", name := "length", desc := "()I" } : Jvm.MethodName) prog_26_method_54_code (1 : Nat) (Option.some Jvm.ClassFile.FieldType.int)) ∈ lw_all := lw_g (lw_at lw_m2 105 rfl) rfl
theorem q428 : (Jvm.Cond.methodLink "java/lang/String" (335 : Nat) ({ cls := "java/lang/String", name := "coder", desc := "()B" } : Jvm.MethodName)) ∈ lw_all := lw_g (lw_at lw_m2 106 rfl) rfl
theorem q429 : (Jvm.Cond.instanceMethod ({ cls := "java/lang/String", name := "coder", desc := "()B" } : Jvm.MethodName)) ∈ lw_all := lw_g (lw_at lw_m2 107 rfl) rfl
theorem q430 : (Jvm.Cond.selects "java/lang/String" ({ cls := "java/lang/String", name := "coder", desc := "()B" } : Jvm.MethodName) ({ cls := "java/lang/String", name := "coder", desc := "()B" } : Jvm.MethodName)) ∈ lw_all := lw_g (lw_at lw_m2 108 rfl) rfl
theorem q431 : (Jvm.Cond.code ({ cls := "java/lang/String", name := "coder", desc := "()B" } : Jvm.MethodName) prog_26_method_152_code (1 : Nat) (Option.some Jvm.ClassFile.FieldType.byte)) ∈ lw_all := lw_g (lw_at lw_m2 109 rfl) rfl
theorem q432 : (Jvm.Cond.fieldLink "java/lang/String" (38 : Nat) "java/lang/String" "COMPACT_STRINGS" "Z") ∈ lw_all := lw_g (lw_at lw_m2 110 rfl) rfl
theorem q433 : (Jvm.Cond.laysStatic "java/lang/String" "COMPACT_STRINGS" "Z") ∈ lw_tbl := lw_at lw_m2 111 rfl
theorem q435 : (Jvm.Cond.instanceMethod ({ cls := "java/lang/String", name := "charAt", desc := "(I)C" } : Jvm.MethodName)) ∈ lw_all := lw_g (lw_at lw_m2 113 rfl) rfl
theorem q436 : (Jvm.Cond.selects "java/lang/String" ({ cls := "java/lang/String", name := "charAt", desc := "(I)C" } : Jvm.MethodName) ({ cls := "java/lang/String", name := "charAt", desc := "(I)C" } : Jvm.MethodName)) ∈ lw_all := lw_g (lw_at lw_m2 114 rfl) rfl
theorem q437 : (Jvm.Cond.code ({ cls := "java/lang/String", name := "charAt", desc := "(I)C" } : Jvm.MethodName) prog_26_method_56_code (2 : Nat) (Option.some Jvm.ClassFile.FieldType.char)) ∈ lw_all := lw_g (lw_at lw_m2 115 rfl) rfl
theorem q438 : (Jvm.Cond.methodLink "java/lang/String" (492 : Nat) ({ cls := "java/lang/String", name := "isLatin1", desc := "()Z" } : Jvm.MethodName)) ∈ lw_all := lw_g (lw_at lw_m2 116 rfl) rfl
theorem q439 : (Jvm.Cond.instanceMethod ({ cls := "java/lang/String", name := "isLatin1", desc := "()Z" } : Jvm.MethodName)) ∈ lw_all := lw_g (lw_at lw_m2 117 rfl) rfl
theorem q440 : (Jvm.Cond.selects "java/lang/String" ({ cls := "java/lang/String", name := "isLatin1", desc := "()Z" } : Jvm.MethodName) ({ cls := "java/lang/String", name := "isLatin1", desc := "()Z" } : Jvm.MethodName)) ∈ lw_all := lw_g (lw_at lw_m2 118 rfl) rfl
theorem q441 : (Jvm.Cond.code ({ cls := "java/lang/String", name := "isLatin1", desc := "()Z" } : Jvm.MethodName) prog_26_method_154_code (1 : Nat) (Option.some Jvm.ClassFile.FieldType.boolean)) ∈ lw_all := lw_g (lw_at lw_m2 119 rfl) rfl
theorem q442 : (Jvm.Cond.methodLink "java/lang/String" (495 : Nat) ({ cls := "java/lang/StringLatin1", name := "charAt", desc := "([BI)C" } : Jvm.MethodName)) ∈ lw_all := lw_g (lw_at lw_m2 120 rfl) rfl
theorem q446 : (Jvm.Cond.static ({ cls := "java/lang/String", name := "checkIndex", desc := "(II)V" } : Jvm.MethodName)) ∈ lw_all := lw_g (lw_at lw_m2 124 rfl) rfl
theorem q447 : (Jvm.Cond.code ({ cls := "java/lang/String", name := "checkIndex", desc := "(II)V" } : Jvm.MethodName) prog_26_method_155_code (2 : Nat) (Option.none : Option Jvm.ClassFile.FieldType)) ∈ lw_all := lw_g (lw_at lw_m2 125 rfl) rfl
theorem q448 : (Jvm.Cond.fieldLink "java/lang/String" (1053 : Nat) "jdk/internal/util/Preconditions" "SIOOBE_FORMATTER" "Ljava/util/function/BiFunction;") ∈ lw_all := lw_g (lw_at lw_m2 126 rfl) rfl
theorem q450 : (Jvm.Cond.methodLink "java/lang/String" (1059 : Nat) ({ cls := "jdk/internal/util/Preconditions", name := "checkIndex", desc := "(IILjava/util/function/BiFunction;)I" } : Jvm.MethodName)) ∈ lw_all := lw_g (lw_at lw_m2 128 rfl) rfl
theorem q453 : (Jvm.Cond.methodLink "java/lang/String" (498 : Nat) ({ cls := "java/lang/StringUTF16", name := "charAt", desc := "([BI)C" } : Jvm.MethodName)) ∈ lw_all := lw_g (lw_at lw_m2 131 rfl) rfl
theorem q735 : (Jvm.Cond.instantiable "java/lang/String" (4 : Nat)) ∈ lw_all := lw_g (lw_at lw_m3 173 rfl) rfl
theorem q736 : (Jvm.Cond.laysFinal "java/lang/String" "java/lang/String" "value" "[B") ∈ lw_all := lw_g (lw_at lw_m3 174 rfl) rfl
theorem q737 : (Jvm.Cond.soleField "java/lang/String" "value") ∈ lw_all := lw_g (lw_at lw_m3 175 rfl) rfl
theorem q738 : (Jvm.Cond.laysFinal "java/lang/String" "java/lang/String" "coder" "B") ∈ lw_all := lw_g (lw_at lw_m3 176 rfl) rfl
theorem q739 : (Jvm.Cond.soleField "java/lang/String" "coder") ∈ lw_all := lw_g (lw_at lw_m3 177 rfl) rfl
theorem q1726 : (Jvm.Cond.fieldLink "java/lang/String" (9 : Nat) "java/lang/String" "value" "[B") ∈ lw_all := lw_g (lw_at lw_m7 204 rfl) rfl
theorem q1727 : (Jvm.Cond.fieldLink "java/lang/String" (15 : Nat) "java/lang/String" "coder" "B") ∈ lw_all := lw_g (lw_at lw_m7 205 rfl) rfl
theorem in_J4 : ∀ w ∈ wsJ40, w ∈ lw_all := lw_in wsJ40 [736, 738] (by decide +kernel) (by decide +kernel)

/-! java/lang/Integer -/
set_option maxRecDepth 100000
def RJ5 : String := "java/lang/Integer"
abbrev cJ5_bitCount : ByteArray := prog_22_method_49_code
def yJ5_bitCount : MethodName := ⟨RJ5, "bitCount", "(I)I"⟩
def dkwJ5_bitCount_2 : List UInt8 := [26, 16, 63, 126, 172]
abbrev dktJ5_bitCount_2 : List UInt8 := dkwJ5_bitCount_2 ++ []
def dkwJ5_bitCount_1 : List UInt8 := [26, 26, 7, 124, 96, 19, 1, 11, 126, 59, 26, 26, 16, 8, 124, 96, 59, 26, 26, 16, 16, 124, 96, 59]
abbrev dktJ5_bitCount_1 : List UInt8 := dkwJ5_bitCount_1 ++ dktJ5_bitCount_2
def dkwJ5_bitCount_0 : List UInt8 := [26, 26, 4, 124, 19, 1, 9, 126, 100, 59, 26, 19, 1, 10, 126, 26, 5, 124, 19, 1, 10, 126, 96, 59]
abbrev dktJ5_bitCount_0 : List UInt8 := dkwJ5_bitCount_0 ++ dktJ5_bitCount_1
theorem dksJ5_bitCount_0 : cJ5_bitCount.data.toList.drop 0 = dktJ5_bitCount_0 := by decide +kernel
theorem dksJ5_bitCount_1 : cJ5_bitCount.data.toList.drop 24 = dktJ5_bitCount_1 := dk_seg dksJ5_bitCount_0 24 rfl rfl
theorem dksJ5_bitCount_2 : cJ5_bitCount.data.toList.drop 48 = dktJ5_bitCount_2 := dk_seg dksJ5_bitCount_1 24 rfl rfl
theorem dJ5_bitCount_0 : decode cJ5_bitCount 0 = .ok (.iload_n 0, 1) := dk_26 (dk_at dksJ5_bitCount_0 0 rfl rfl)
theorem dJ5_bitCount_1 : decode cJ5_bitCount 1 = .ok (.iload_n 0, 1) := dk_26 (dk_at dksJ5_bitCount_0 1 rfl rfl)
theorem dJ5_bitCount_2 : decode cJ5_bitCount 2 = .ok (.iconst 1, 1) := dk_4 (dk_at dksJ5_bitCount_0 2 rfl rfl)
theorem dJ5_bitCount_3 : decode cJ5_bitCount 3 = .ok (.iushr, 1) := dk_124 (dk_at dksJ5_bitCount_0 3 rfl rfl)
theorem dJ5_bitCount_4 : decode cJ5_bitCount 4 = .ok (.ldc_w 265, 3) := dk_19 1 9 (dk_at dksJ5_bitCount_0 4 rfl rfl)
theorem dJ5_bitCount_7 : decode cJ5_bitCount 7 = .ok (.iand, 1) := dk_126 (dk_at dksJ5_bitCount_0 7 rfl rfl)
theorem dJ5_bitCount_8 : decode cJ5_bitCount 8 = .ok (.isub, 1) := dk_100 (dk_at dksJ5_bitCount_0 8 rfl rfl)
theorem dJ5_bitCount_9 : decode cJ5_bitCount 9 = .ok (.istore_n 0, 1) := dk_59 (dk_at dksJ5_bitCount_0 9 rfl rfl)
theorem dJ5_bitCount_10 : decode cJ5_bitCount 10 = .ok (.iload_n 0, 1) := dk_26 (dk_at dksJ5_bitCount_0 10 rfl rfl)
theorem dJ5_bitCount_11 : decode cJ5_bitCount 11 = .ok (.ldc_w 266, 3) := dk_19 1 10 (dk_at dksJ5_bitCount_0 11 rfl rfl)
theorem dJ5_bitCount_14 : decode cJ5_bitCount 14 = .ok (.iand, 1) := dk_126 (dk_at dksJ5_bitCount_0 14 rfl rfl)
theorem dJ5_bitCount_15 : decode cJ5_bitCount 15 = .ok (.iload_n 0, 1) := dk_26 (dk_at dksJ5_bitCount_0 15 rfl rfl)
theorem dJ5_bitCount_16 : decode cJ5_bitCount 16 = .ok (.iconst 2, 1) := dk_5 (dk_at dksJ5_bitCount_0 16 rfl rfl)
theorem dJ5_bitCount_17 : decode cJ5_bitCount 17 = .ok (.iushr, 1) := dk_124 (dk_at dksJ5_bitCount_0 17 rfl rfl)
theorem dJ5_bitCount_18 : decode cJ5_bitCount 18 = .ok (.ldc_w 266, 3) := dk_19 1 10 (dk_at dksJ5_bitCount_0 18 rfl rfl)
theorem dJ5_bitCount_21 : decode cJ5_bitCount 21 = .ok (.iand, 1) := dk_126 (dk_at dksJ5_bitCount_0 21 rfl rfl)
theorem dJ5_bitCount_22 : decode cJ5_bitCount 22 = .ok (.iadd, 1) := dk_96 (dk_at dksJ5_bitCount_0 22 rfl rfl)
theorem dJ5_bitCount_23 : decode cJ5_bitCount 23 = .ok (.istore_n 0, 1) := dk_59 (dk_at dksJ5_bitCount_0 23 rfl rfl)
theorem dJ5_bitCount_24 : decode cJ5_bitCount 24 = .ok (.iload_n 0, 1) := dk_26 (dk_at dksJ5_bitCount_1 0 rfl rfl)
theorem dJ5_bitCount_25 : decode cJ5_bitCount 25 = .ok (.iload_n 0, 1) := dk_26 (dk_at dksJ5_bitCount_1 1 rfl rfl)
theorem dJ5_bitCount_26 : decode cJ5_bitCount 26 = .ok (.iconst 4, 1) := dk_7 (dk_at dksJ5_bitCount_1 2 rfl rfl)
theorem dJ5_bitCount_27 : decode cJ5_bitCount 27 = .ok (.iushr, 1) := dk_124 (dk_at dksJ5_bitCount_1 3 rfl rfl)
theorem dJ5_bitCount_28 : decode cJ5_bitCount 28 = .ok (.iadd, 1) := dk_96 (dk_at dksJ5_bitCount_1 4 rfl rfl)
theorem dJ5_bitCount_29 : decode cJ5_bitCount 29 = .ok (.ldc_w 267, 3) := dk_19 1 11 (dk_at dksJ5_bitCount_1 5 rfl rfl)
theorem dJ5_bitCount_32 : decode cJ5_bitCount 32 = .ok (.iand, 1) := dk_126 (dk_at dksJ5_bitCount_1 8 rfl rfl)
theorem dJ5_bitCount_33 : decode cJ5_bitCount 33 = .ok (.istore_n 0, 1) := dk_59 (dk_at dksJ5_bitCount_1 9 rfl rfl)
theorem dJ5_bitCount_34 : decode cJ5_bitCount 34 = .ok (.iload_n 0, 1) := dk_26 (dk_at dksJ5_bitCount_1 10 rfl rfl)
theorem dJ5_bitCount_35 : decode cJ5_bitCount 35 = .ok (.iload_n 0, 1) := dk_26 (dk_at dksJ5_bitCount_1 11 rfl rfl)
theorem dJ5_bitCount_36 : decode cJ5_bitCount 36 = .ok (.bipush 8, 2) := dk_16 8 (dk_at dksJ5_bitCount_1 12 rfl rfl)
theorem dJ5_bitCount_38 : decode cJ5_bitCount 38 = .ok (.iushr, 1) := dk_124 (dk_at dksJ5_bitCount_1 14 rfl rfl)
theorem dJ5_bitCount_39 : decode cJ5_bitCount 39 = .ok (.iadd, 1) := dk_96 (dk_at dksJ5_bitCount_1 15 rfl rfl)
theorem dJ5_bitCount_40 : decode cJ5_bitCount 40 = .ok (.istore_n 0, 1) := dk_59 (dk_at dksJ5_bitCount_1 16 rfl rfl)
theorem dJ5_bitCount_41 : decode cJ5_bitCount 41 = .ok (.iload_n 0, 1) := dk_26 (dk_at dksJ5_bitCount_1 17 rfl rfl)
theorem dJ5_bitCount_42 : decode cJ5_bitCount 42 = .ok (.iload_n 0, 1) := dk_26 (dk_at dksJ5_bitCount_1 18 rfl rfl)
theorem dJ5_bitCount_43 : decode cJ5_bitCount 43 = .ok (.bipush 16, 2) := dk_16 16 (dk_at dksJ5_bitCount_1 19 rfl rfl)
theorem dJ5_bitCount_45 : decode cJ5_bitCount 45 = .ok (.iushr, 1) := dk_124 (dk_at dksJ5_bitCount_1 21 rfl rfl)
theorem dJ5_bitCount_46 : decode cJ5_bitCount 46 = .ok (.iadd, 1) := dk_96 (dk_at dksJ5_bitCount_1 22 rfl rfl)
theorem dJ5_bitCount_47 : decode cJ5_bitCount 47 = .ok (.istore_n 0, 1) := dk_59 (dk_at dksJ5_bitCount_1 23 rfl rfl)
theorem dJ5_bitCount_48 : decode cJ5_bitCount 48 = .ok (.iload_n 0, 1) := dk_26 (dk_at dksJ5_bitCount_2 0 rfl rfl)
theorem dJ5_bitCount_49 : decode cJ5_bitCount 49 = .ok (.bipush 63, 2) := dk_16 63 (dk_at dksJ5_bitCount_2 1 rfl rfl)
theorem dJ5_bitCount_51 : decode cJ5_bitCount 51 = .ok (.iand, 1) := dk_126 (dk_at dksJ5_bitCount_2 3 rfl rfl)
theorem dJ5_bitCount_52 : decode cJ5_bitCount 52 = .ok (.ireturn, 1) := dk_172 (dk_at dksJ5_bitCount_2 4 rfl rfl)
abbrev cJ5_numberOfTrailingZeros : ByteArray := prog_22_method_48_code
def yJ5_numberOfTrailingZeros : MethodName := ⟨RJ5, "numberOfTrailingZeros", "(I)I"⟩
def dkwJ5_numberOfTrailingZeros_3 : List UInt8 := [5, 124, 59, 27, 26, 4, 124, 96, 172]
abbrev dktJ5_numberOfTrailingZeros_3 : List UInt8 := dkwJ5_numberOfTrailingZeros_3 ++ []
def dkwJ5_numberOfTrailingZeros_2 : List UInt8 := [124, 59, 26, 16, 16, 164, 0, 10, 132, 1, 4, 26, 7, 124, 59, 26, 7, 164, 0, 10, 132, 1, 2, 26]
abbrev dktJ5_numberOfTrailingZeros_2 : List UInt8 := dkwJ5_numberOfTrailingZeros_2 ++ dktJ5_numberOfTrailingZeros_3
def dkwJ5_numberOfTrailingZeros_1 : List UInt8 := [164, 0, 11, 132, 1, 16, 26, 16, 16, 124, 59, 26, 17, 1, 0, 164, 0, 11, 132, 1, 8, 26, 16, 8]
abbrev dktJ5_numberOfTrailingZeros_1 : List UInt8 := dkwJ5_numberOfTrailingZeros_1 ++ dktJ5_numberOfTrailingZeros_2
def dkwJ5_numberOfTrailingZeros_0 : List UInt8 := [26, 2, 130, 26, 4, 100, 126, 59, 26, 157, 0, 8, 26, 16, 32, 126, 172, 4, 60, 26, 19, 1, 8]
abbrev dktJ5_numberOfTrailingZeros_0 : List UInt8 := dkwJ5_numberOfTrailingZeros_0 ++ dktJ5_numberOfTrailingZeros_1
theorem dksJ5_numberOfTrailingZeros_0 : cJ5_numberOfTrailingZeros.data.toList.drop 0 = dktJ5_numberOfTrailingZeros_0 := by decide +kernel
theorem dksJ5_numberOfTrailingZeros_1 : cJ5_numberOfTrailingZeros.data.toList.drop 23 = dktJ5_numberOfTrailingZeros_1 := dk_seg dksJ5_numberOfTrailingZeros_0 23 rfl rfl
theorem dksJ5_numberOfTrailingZeros_2 : cJ5_numberOfTrailingZeros.data.toList.drop 47 = dktJ5_numberOfTrailingZeros_2 := dk_seg dksJ5_numberOfTrailingZeros_1 24 rfl rfl
theorem dksJ5_numberOfTrailingZeros_3 : cJ5_numberOfTrailingZeros.data.toList.drop 71 = dktJ5_numberOfTrailingZeros_3 := dk_seg dksJ5_numberOfTrailingZeros_2 24 rfl rfl
theorem dJ5_numberOfTrailingZeros_0 : decode cJ5_numberOfTrailingZeros 0 = .ok (.iload_n 0, 1) := dk_26 (dk_at dksJ5_numberOfTrailingZeros_0 0 rfl rfl)
theorem dJ5_numberOfTrailingZeros_1 : decode cJ5_numberOfTrailingZeros 1 = .ok (.iconst (-1), 1) := dk_2 (dk_at dksJ5_numberOfTrailingZeros_0 1 rfl rfl)
theorem dJ5_numberOfTrailingZeros_2 : decode cJ5_numberOfTrailingZeros 2 = .ok (.ixor, 1) := dk_130 (dk_at dksJ5_numberOfTrailingZeros_0 2 rfl rfl)
theorem dJ5_numberOfTrailingZeros_3 : decode cJ5_numberOfTrailingZeros 3 = .ok (.iload_n 0, 1) := dk_26 (dk_at dksJ5_numberOfTrailingZeros_0 3 rfl rfl)
theorem dJ5_numberOfTrailingZeros_4 : decode cJ5_numberOfTrailingZeros 4 = .ok (.iconst 1, 1) := dk_4 (dk_at dksJ5_numberOfTrailingZeros_0 4 rfl rfl)
theorem dJ5_numberOfTrailingZeros_5 : decode cJ5_numberOfTrailingZeros 5 = .ok (.isub, 1) := dk_100 (dk_at dksJ5_numberOfTrailingZeros_0 5 rfl rfl)
theorem dJ5_numberOfTrailingZeros_6 : decode cJ5_numberOfTrailingZeros 6 = .ok (.iand, 1) := dk_126 (dk_at dksJ5_numberOfTrailingZeros_0 6 rfl rfl)
theorem dJ5_numberOfTrailingZeros_7 : decode cJ5_numberOfTrailingZeros 7 = .ok (.istore_n 0, 1) := dk_59 (dk_at dksJ5_numberOfTrailingZeros_0 7 rfl rfl)
theorem dJ5_numberOfTrailingZeros_8 : decode cJ5_numberOfTrailingZeros 8 = .ok (.iload_n 0, 1) := dk_26 (dk_at dksJ5_numberOfTrailingZeros_0 8 rfl rfl)
theorem dJ5_numberOfTrailingZeros_9 : decode cJ5_numberOfTrailingZeros 9 = .ok (.ifCond .gt 8, 3) := dk_157 0 8 (dk_at dksJ5_numberOfTrailingZeros_0 9 rfl rfl)
theorem dJ5_numberOfTrailingZeros_12 : decode cJ5_numberOfTrailingZeros 12 = .ok (.iload_n 0, 1) := dk_26 (dk_at dksJ5_numberOfTrailingZeros_0 12 rfl rfl)
theorem dJ5_numberOfTrailingZeros_13 : decode cJ5_numberOfTrailingZeros 13 = .ok (.bipush 32, 2) := dk_16 32 (dk_at dksJ5_numberOfTrailingZeros_0 13 rfl rfl)
theorem dJ5_numberOfTrailingZeros_15 : decode cJ5_numberOfTrailingZeros 15 = .ok (.iand, 1) := dk_126 (dk_at dksJ5_numberOfTrailingZeros_0 15 rfl rfl)
theorem dJ5_numberOfTrailingZeros_16 : decode cJ5_numberOfTrailingZeros 16 = .ok (.ireturn, 1) := dk_172 (dk_at dksJ5_numberOfTrailingZeros_0 16 rfl rfl)
theorem dJ5_numberOfTrailingZeros_17 : decode cJ5_numberOfTrailingZeros 17 = .ok (.iconst 1, 1) := dk_4 (dk_at dksJ5_numberOfTrailingZeros_0 17 rfl rfl)
theorem dJ5_numberOfTrailingZeros_18 : decode cJ5_numberOfTrailingZeros 18 = .ok (.istore_n 1, 1) := dk_60 (dk_at dksJ5_numberOfTrailingZeros_0 18 rfl rfl)
theorem dJ5_numberOfTrailingZeros_19 : decode cJ5_numberOfTrailingZeros 19 = .ok (.iload_n 0, 1) := dk_26 (dk_at dksJ5_numberOfTrailingZeros_0 19 rfl rfl)
theorem dJ5_numberOfTrailingZeros_20 : decode cJ5_numberOfTrailingZeros 20 = .ok (.ldc_w 264, 3) := dk_19 1 8 (dk_at dksJ5_numberOfTrailingZeros_0 20 rfl rfl)
theorem dJ5_numberOfTrailingZeros_23 : decode cJ5_numberOfTrailingZeros 23 = .ok (.if_icmp .le 11, 3) := dk_164 0 11 (dk_at dksJ5_numberOfTrailingZeros_1 0 rfl rfl)
theorem dJ5_numberOfTrailingZeros_26 : decode cJ5_numberOfTrailingZeros 26 = .ok (.iinc 1 16, 3) := dk_132 1 16 (dk_at dksJ5_numberOfTrailingZeros_1 3 rfl rfl)
theorem dJ5_numberOfTrailingZeros_29 : decode cJ5_numberOfTrailingZeros 29 = .ok (.iload_n 0, 1) := dk_26 (dk_at dksJ5_numberOfTrailingZeros_1 6 rfl rfl)
theorem dJ5_numberOfTrailingZeros_30 : decode cJ5_numberOfTrailingZeros 30 = .ok (.bipush 16, 2) := dk_16 16 (dk_at dksJ5_numberOfTrailingZeros_1 7 rfl rfl)
theorem dJ5_numberOfTrailingZeros_32 : decode cJ5_numberOfTrailingZeros 32 = .ok (.iushr, 1) := dk_124 (dk_at dksJ5_numberOfTrailingZeros_1 9 rfl rfl)
theorem dJ5_numberOfTrailingZeros_33 : decode cJ5_numberOfTrailingZeros 33 = .ok (.istore_n 0, 1) := dk_59 (dk_at dksJ5_numberOfTrailingZeros_1 10 rfl rfl)
theorem dJ5_numberOfTrailingZeros_34 : decode cJ5_numberOfTrailingZeros 34 = .ok (.iload_n 0, 1) := dk_26 (dk_at dksJ5_numberOfTrailingZeros_1 11 rfl rfl)
theorem dJ5_numberOfTrailingZeros_35 : decode cJ5_numberOfTrailingZeros 35 = .ok (.sipush 256, 3) := dk_17 1 0 (dk_at dksJ5_numberOfTrailingZeros_1 12 rfl rfl)
theorem dJ5_numberOfTrailingZeros_38 : decode cJ5_numberOfTrailingZeros 38 = .ok (.if_icmp .le 11, 3) := dk_164 0 11 (dk_at dksJ5_numberOfTrailingZeros_1 15 rfl rfl)
theorem dJ5_numberOfTrailingZeros_41 : decode cJ5_numberOfTrailingZeros 41 = .ok (.iinc 1 8, 3) := dk_132 1 8 (dk_at dksJ5_numberOfTrailingZeros_1 18 rfl rfl)
theorem dJ5_numberOfTrailingZeros_44 : decode cJ5_numberOfTrailingZeros 44 = .ok (.iload_n 0, 1) := dk_26 (dk_at dksJ5_numberOfTrailingZeros_1 21 rfl rfl)
theorem dJ5_numberOfTrailingZeros_45 : decode cJ5_numberOfTrailingZeros 45 = .ok (.bipush 8, 2) := dk_16 8 (dk_at dksJ5_numberOfTrailingZeros_1 22 rfl rfl)
theorem dJ5_numberOfTrailingZeros_47 : decode cJ5_numberOfTrailingZeros 47 = .ok (.iushr, 1) := dk_124 (dk_at dksJ5_numberOfTrailingZeros_2 0 rfl rfl)
theorem dJ5_numberOfTrailingZeros_48 : decode cJ5_numberOfTrailingZeros 48 = .ok (.istore_n 0, 1) := dk_59 (dk_at dksJ5_numberOfTrailingZeros_2 1 rfl rfl)
theorem dJ5_numberOfTrailingZeros_49 : decode cJ5_numberOfTrailingZeros 49 = .ok (.iload_n 0, 1) := dk_26 (dk_at dksJ5_numberOfTrailingZeros_2 2 rfl rfl)
theorem dJ5_numberOfTrailingZeros_50 : decode cJ5_numberOfTrailingZeros 50 = .ok (.bipush 16, 2) := dk_16 16 (dk_at dksJ5_numberOfTrailingZeros_2 3 rfl rfl)
theorem dJ5_numberOfTrailingZeros_52 : decode cJ5_numberOfTrailingZeros 52 = .ok (.if_icmp .le 10, 3) := dk_164 0 10 (dk_at dksJ5_numberOfTrailingZeros_2 5 rfl rfl)
theorem dJ5_numberOfTrailingZeros_55 : decode cJ5_numberOfTrailingZeros 55 = .ok (.iinc 1 4, 3) := dk_132 1 4 (dk_at dksJ5_numberOfTrailingZeros_2 8 rfl rfl)
theorem dJ5_numberOfTrailingZeros_58 : decode cJ5_numberOfTrailingZeros 58 = .ok (.iload_n 0, 1) := dk_26 (dk_at dksJ5_numberOfTrailingZeros_2 11 rfl rfl)
theorem dJ5_numberOfTrailingZeros_59 : decode cJ5_numberOfTrailingZeros 59 = .ok (.iconst 4, 1) := dk_7 (dk_at dksJ5_numberOfTrailingZeros_2 12 rfl rfl)
theorem dJ5_numberOfTrailingZeros_60 : decode cJ5_numberOfTrailingZeros 60 = .ok (.iushr, 1) := dk_124 (dk_at dksJ5_numberOfTrailingZeros_2 13 rfl rfl)
theorem dJ5_numberOfTrailingZeros_61 : decode cJ5_numberOfTrailingZeros 61 = .ok (.istore_n 0, 1) := dk_59 (dk_at dksJ5_numberOfTrailingZeros_2 14 rfl rfl)
theorem dJ5_numberOfTrailingZeros_62 : decode cJ5_numberOfTrailingZeros 62 = .ok (.iload_n 0, 1) := dk_26 (dk_at dksJ5_numberOfTrailingZeros_2 15 rfl rfl)
theorem dJ5_numberOfTrailingZeros_63 : decode cJ5_numberOfTrailingZeros 63 = .ok (.iconst 4, 1) := dk_7 (dk_at dksJ5_numberOfTrailingZeros_2 16 rfl rfl)
theorem dJ5_numberOfTrailingZeros_64 : decode cJ5_numberOfTrailingZeros 64 = .ok (.if_icmp .le 10, 3) := dk_164 0 10 (dk_at dksJ5_numberOfTrailingZeros_2 17 rfl rfl)
theorem dJ5_numberOfTrailingZeros_67 : decode cJ5_numberOfTrailingZeros 67 = .ok (.iinc 1 2, 3) := dk_132 1 2 (dk_at dksJ5_numberOfTrailingZeros_2 20 rfl rfl)
theorem dJ5_numberOfTrailingZeros_70 : decode cJ5_numberOfTrailingZeros 70 = .ok (.iload_n 0, 1) := dk_26 (dk_at dksJ5_numberOfTrailingZeros_2 23 rfl rfl)
theorem dJ5_numberOfTrailingZeros_71 : decode cJ5_numberOfTrailingZeros 71 = .ok (.iconst 2, 1) := dk_5 (dk_at dksJ5_numberOfTrailingZeros_3 0 rfl rfl)
theorem dJ5_numberOfTrailingZeros_72 : decode cJ5_numberOfTrailingZeros 72 = .ok (.iushr, 1) := dk_124 (dk_at dksJ5_numberOfTrailingZeros_3 1 rfl rfl)
theorem dJ5_numberOfTrailingZeros_73 : decode cJ5_numberOfTrailingZeros 73 = .ok (.istore_n 0, 1) := dk_59 (dk_at dksJ5_numberOfTrailingZeros_3 2 rfl rfl)
theorem dJ5_numberOfTrailingZeros_74 : decode cJ5_numberOfTrailingZeros 74 = .ok (.iload_n 1, 1) := dk_27 (dk_at dksJ5_numberOfTrailingZeros_3 3 rfl rfl)
theorem dJ5_numberOfTrailingZeros_75 : decode cJ5_numberOfTrailingZeros 75 = .ok (.iload_n 0, 1) := dk_26 (dk_at dksJ5_numberOfTrailingZeros_3 4 rfl rfl)
theorem dJ5_numberOfTrailingZeros_76 : decode cJ5_numberOfTrailingZeros 76 = .ok (.iconst 1, 1) := dk_4 (dk_at dksJ5_numberOfTrailingZeros_3 5 rfl rfl)
theorem dJ5_numberOfTrailingZeros_77 : decode cJ5_numberOfTrailingZeros 77 = .ok (.iushr, 1) := dk_124 (dk_at dksJ5_numberOfTrailingZeros_3 6 rfl rfl)
theorem dJ5_numberOfTrailingZeros_78 : decode cJ5_numberOfTrailingZeros 78 = .ok (.iadd, 1) := dk_96 (dk_at dksJ5_numberOfTrailingZeros_3 7 rfl rfl)
theorem dJ5_numberOfTrailingZeros_79 : decode cJ5_numberOfTrailingZeros 79 = .ok (.ireturn, 1) := dk_172 (dk_at dksJ5_numberOfTrailingZeros_3 8 rfl rfl)
abbrev cJ5_highestOneBit : ByteArray := prog_22_method_45_code
def yJ5_highestOneBit : MethodName := ⟨RJ5, "highestOneBit", "(I)I"⟩
def dkwJ5_highestOneBit_0 : List UInt8 := [26, 18, 127, 26, 184, 0, 51, 124, 126, 172]
abbrev dktJ5_highestOneBit_0 : List UInt8 := dkwJ5_highestOneBit_0 ++ []
theorem dksJ5_highestOneBit_0 : cJ5_highestOneBit.data.toList.drop 0 = dktJ5_highestOneBit_0 := by decide +kernel
theorem dJ5_highestOneBit_0 : decode cJ5_highestOneBit 0 = .ok (.iload_n 0, 1) := dk_26 (dk_at dksJ5_highestOneBit_0 0 rfl rfl)
theorem dJ5_highestOneBit_1 : decode cJ5_highestOneBit 1 = .ok (.ldc 127, 2) := dk_18 127 (dk_at dksJ5_highestOneBit_0 1 rfl rfl)
theorem dJ5_highestOneBit_3 : decode cJ5_highestOneBit 3 = .ok (.iload_n 0, 1) := dk_26 (dk_at dksJ5_highestOneBit_0 3 rfl rfl)
theorem dJ5_highestOneBit_4 : decode cJ5_highestOneBit 4 = .ok (.invokestatic 51, 3) := dk_184 0 51 (dk_at dksJ5_highestOneBit_0 4 rfl rfl)
theorem dJ5_highestOneBit_7 : decode cJ5_highestOneBit 7 = .ok (.iushr, 1) := dk_124 (dk_at dksJ5_highestOneBit_0 7 rfl rfl)
theorem dJ5_highestOneBit_8 : decode cJ5_highestOneBit 8 = .ok (.iand, 1) := dk_126 (dk_at dksJ5_highestOneBit_0 8 rfl rfl)
theorem dJ5_highestOneBit_9 : decode cJ5_highestOneBit 9 = .ok (.ireturn, 1) := dk_172 (dk_at dksJ5_highestOneBit_0 9 rfl rfl)
abbrev cJ5_numberOfLeadingZeros : ByteArray := prog_22_method_47_code
def yJ5_numberOfLeadingZeros : MethodName := ⟨RJ5, "numberOfLeadingZeros", "(I)I"⟩
def dkwJ5_numberOfLeadingZeros_3 : List UInt8 := [5, 124, 59, 27, 26, 4, 124, 100, 172]
abbrev dktJ5_numberOfLeadingZeros_3 : List UInt8 := dkwJ5_numberOfLeadingZeros_3 ++ []
def dkwJ5_numberOfLeadingZeros_2 : List UInt8 := [124, 59, 26, 16, 16, 161, 0, 10, 132, 1, 252, 26, 7, 124, 59, 26, 7, 161, 0, 10, 132, 1, 254, 26]
abbrev dktJ5_numberOfLeadingZeros_2 : List UInt8 := dkwJ5_numberOfLeadingZeros_2 ++ dktJ5_numberOfLeadingZeros_3
def dkwJ5_numberOfLeadingZeros_1 : List UInt8 := [161, 0, 11, 132, 1, 240, 26, 16, 16, 124, 59, 26, 17, 1, 0, 161, 0, 11, 132, 1, 248, 26, 16, 8]
abbrev dktJ5_numberOfLeadingZeros_1 : List UInt8 := dkwJ5_numberOfLeadingZeros_1 ++ dktJ5_numberOfLeadingZeros_2
def dkwJ5_numberOfLeadingZeros_0 : List UInt8 := [26, 157, 0, 14, 26, 154, 0, 8, 16, 32, 167, 0, 4, 3, 172, 16, 31, 60, 26, 19, 1, 8]
abbrev dktJ5_numberOfLeadingZeros_0 : List UInt8 := dkwJ5_numberOfLeadingZeros_0 ++ dktJ5_numberOfLeadingZeros_1
theorem dksJ5_numberOfLeadingZeros_0 : cJ5_numberOfLeadingZeros.data.toList.drop 0 = dktJ5_numberOfLeadingZeros_0 := by decide +kernel
theorem dksJ5_numberOfLeadingZeros_1 : cJ5_numberOfLeadingZeros.data.toList.drop 22 = dktJ5_numberOfLeadingZeros_1 := dk_seg dksJ5_numberOfLeadingZeros_0 22 rfl rfl
theorem dksJ5_numberOfLeadingZeros_2 : cJ5_numberOfLeadingZeros.data.toList.drop 46 = dktJ5_numberOfLeadingZeros_2 := dk_seg dksJ5_numberOfLeadingZeros_1 24 rfl rfl
theorem dksJ5_numberOfLeadingZeros_3 : cJ5_numberOfLeadingZeros.data.toList.drop 70 = dktJ5_numberOfLeadingZeros_3 := dk_seg dksJ5_numberOfLeadingZeros_2 24 rfl rfl
theorem dJ5_numberOfLeadingZeros_0 : decode cJ5_numberOfLeadingZeros 0 = .ok (.iload_n 0, 1) := dk_26 (dk_at dksJ5_numberOfLeadingZeros_0 0 rfl rfl)
theorem dJ5_numberOfLeadingZeros_1 : decode cJ5_numberOfLeadingZeros 1 = .ok (.ifCond .gt 14, 3) := dk_157 0 14 (dk_at dksJ5_numberOfLeadingZeros_0 1 rfl rfl)
theorem dJ5_numberOfLeadingZeros_4 : decode cJ5_numberOfLeadingZeros 4 = .ok (.iload_n 0, 1) := dk_26 (dk_at dksJ5_numberOfLeadingZeros_0 4 rfl rfl)
theorem dJ5_numberOfLeadingZeros_5 : decode cJ5_numberOfLeadingZeros 5 = .ok (.ifCond .ne 8, 3) := dk_154 0 8 (dk_at dksJ5_numberOfLeadingZeros_0 5 rfl rfl)
theorem dJ5_numberOfLeadingZeros_8 : decode cJ5_numberOfLeadingZeros 8 = .ok (.bipush 32, 2) := dk_16 32 (dk_at dksJ5_numberOfLeadingZeros_0 8 rfl rfl)
theorem dJ5_numberOfLeadingZeros_10 : decode cJ5_numberOfLeadingZeros 10 = .ok (.goto 4, 3) := dk_167 0 4 (dk_at dksJ5_numberOfLeadingZeros_0 10 rfl rfl)
theorem dJ5_numberOfLeadingZeros_13 : decode cJ5_numberOfLeadingZeros 13 = .ok (.iconst 0, 1) := dk_3 (dk_at dksJ5_numberOfLeadingZeros_0 13 rfl rfl)
theorem dJ5_numberOfLeadingZeros_14 : decode cJ5_numberOfLeadingZeros 14 = .ok (.ireturn, 1) := dk_172 (dk_at dksJ5_numberOfLeadingZeros_0 14 rfl rfl)
theorem dJ5_numberOfLeadingZeros_15 : decode cJ5_numberOfLeadingZeros 15 = .ok (.bipush 31, 2) := dk_16 31 (dk_at dksJ5_numberOfLeadingZeros_0 15 rfl rfl)
theorem dJ5_numberOfLeadingZeros_17 : decode cJ5_numberOfLeadingZeros 17 = .ok (.istore_n 1, 1) := dk_60 (dk_at dksJ5_numberOfLeadingZeros_0 17 rfl rfl)
theorem dJ5_numberOfLeadingZeros_18 : decode cJ5_numberOfLeadingZeros 18 = .ok (.iload_n 0, 1) := dk_26 (dk_at dksJ5_numberOfLeadingZeros_0 18 rfl rfl)
theorem dJ5_numberOfLeadingZeros_19 : decode cJ5_numberOfLeadingZeros 19 = .ok (.ldc_w 264, 3) := dk_19 1 8 (dk_at dksJ5_numberOfLeadingZeros_0 19 rfl rfl)
theorem dJ5_numberOfLeadingZeros_22 : decode cJ5_numberOfLeadingZeros 22 = .ok (.if_icmp .lt 11, 3) := dk_161 0 11 (dk_at dksJ5_numberOfLeadingZeros_1 0 rfl rfl)
theorem dJ5_numberOfLeadingZeros_25 : decode cJ5_numberOfLeadingZeros 25 = .ok (.iinc 1 (-16), 3) := dk_132 1 240 (dk_at dksJ5_numberOfLeadingZeros_1 3 rfl rfl)
theorem dJ5_numberOfLeadingZeros_28 : decode cJ5_numberOfLeadingZeros 28 = .ok (.iload_n 0, 1) := dk_26 (dk_at dksJ5_numberOfLeadingZeros_1 6 rfl rfl)
theorem dJ5_numberOfLeadingZeros_29 : decode cJ5_numberOfLeadingZeros 29 = .ok (.bipush 16, 2) := dk_16 16 (dk_at dksJ5_numberOfLeadingZeros_1 7 rfl rfl)
theorem dJ5_numberOfLeadingZeros_31 : decode cJ5_numberOfLeadingZeros 31 = .ok (.iushr, 1) := dk_124 (dk_at dksJ5_numberOfLeadingZeros_1 9 rfl rfl)
theorem dJ5_numberOfLeadingZeros_32 : decode cJ5_numberOfLeadingZeros 32 = .ok (.istore_n 0, 1) := dk_59 (dk_at dksJ5_numberOfLeadingZeros_1 10 rfl rfl)
theorem dJ5_numberOfLeadingZeros_33 : decode cJ5_numberOfLeadingZeros 33 = .ok (.iload_n 0, 1) := dk_26 (dk_at dksJ5_numberOfLeadingZeros_1 11 rfl rfl)
theorem dJ5_numberOfLeadingZeros_34 : decode cJ5_numberOfLeadingZeros 34 = .ok (.sipush 256, 3) := dk_17 1 0 (dk_at dksJ5_numberOfLeadingZeros_1 12 rfl rfl)
theorem dJ5_numberOfLeadingZeros_37 : decode cJ5_numberOfLeadingZeros 37 = .ok (.if_icmp .lt 11, 3) := dk_161 0 11 (dk_at dksJ5_numberOfLeadingZeros_1 15 rfl rfl)
theorem dJ5_numberOfLeadingZeros_40 : decode cJ5_numberOfLeadingZeros 40 = .ok (.iinc 1 (-8), 3) := dk_132 1 248 (dk_at dksJ5_numberOfLeadingZeros_1 18 rfl rfl)
theorem dJ5_numberOfLeadingZeros_43 : decode cJ5_numberOfLeadingZeros 43 = .ok (.iload_n 0, 1) := dk_26 (dk_at dksJ5_numberOfLeadingZeros_1 21 rfl rfl)
theorem dJ5_numberOfLeadingZeros_44 : decode cJ5_numberOfLeadingZeros 44 = .ok (.bipush 8, 2) := dk_16 8 (dk_at dksJ5_numberOfLeadingZeros_1 22 rfl rfl)
theorem dJ5_numberOfLeadingZeros_46 : decode cJ5_numberOfLeadingZeros 46 = .ok (.iushr, 1) := dk_124 (dk_at dksJ5_numberOfLeadingZeros_2 0 rfl rfl)
theorem dJ5_numberOfLeadingZeros_47 : decode cJ5_numberOfLeadingZeros 47 = .ok (.istore_n 0, 1) := dk_59 (dk_at dksJ5_numberOfLeadingZeros_2 1 rfl rfl)
theorem dJ5_numberOfLeadingZeros_48 : decode cJ5_numberOfLeadingZeros 48 = .ok (.iload_n 0, 1) := dk_26 (dk_at dksJ5_numberOfLeadingZeros_2 2 rfl rfl)
theorem dJ5_numberOfLeadingZeros_49 : decode cJ5_numberOfLeadingZeros 49 = .ok (.bipush 16, 2) := dk_16 16 (dk_at dksJ5_numberOfLeadingZeros_2 3 rfl rfl)
theorem dJ5_numberOfLeadingZeros_51 : decode cJ5_numberOfLeadingZeros 51 = .ok (.if_icmp .lt 10, 3) := dk_161 0 10 (dk_at dksJ5_numberOfLeadingZeros_2 5 rfl rfl)
theorem dJ5_numberOfLeadingZeros_54 : decode cJ5_numberOfLeadingZeros 54 = .ok (.iinc 1 (-4), 3) := dk_132 1 252 (dk_at dksJ5_numberOfLeadingZeros_2 8 rfl rfl)
theorem dJ5_numberOfLeadingZeros_57 : decode cJ5_numberOfLeadingZeros 57 = .ok (.iload_n 0, 1) := dk_26 (dk_at dksJ5_numberOfLeadingZeros_2 11 rfl rfl)
theorem dJ5_numberOfLeadingZeros_58 : decode cJ5_numberOfLeadingZeros 58 = .ok (.iconst 4, 1) := dk_7 (dk_at dksJ5_numberOfLeadingZeros_2 12 rfl rfl)
theorem dJ5_numberOfLeadingZeros_59 : decode cJ5_numberOfLeadingZeros 59 = .ok (.iushr, 1) := dk_124 (dk_at dksJ5_numberOfLeadingZeros_2 13 rfl rfl)
theorem dJ5_numberOfLeadingZeros_60 : decode cJ5_numberOfLeadingZeros 60 = .ok (.istore_n 0, 1) := dk_59 (dk_at dksJ5_numberOfLeadingZeros_2 14 rfl rfl)
theorem dJ5_numberOfLeadingZeros_61 : decode cJ5_numberOfLeadingZeros 61 = .ok (.iload_n 0, 1) := dk_26 (dk_at dksJ5_numberOfLeadingZeros_2 15 rfl rfl)
theorem dJ5_numberOfLeadingZeros_62 : decode cJ5_numberOfLeadingZeros 62 = .ok (.iconst 4, 1) := dk_7 (dk_at dksJ5_numberOfLeadingZeros_2 16 rfl rfl)
theorem dJ5_numberOfLeadingZeros_63 : decode cJ5_numberOfLeadingZeros 63 = .ok (.if_icmp .lt 10, 3) := dk_161 0 10 (dk_at dksJ5_numberOfLeadingZeros_2 17 rfl rfl)
theorem dJ5_numberOfLeadingZeros_66 : decode cJ5_numberOfLeadingZeros 66 = .ok (.iinc 1 (-2), 3) := dk_132 1 254 (dk_at dksJ5_numberOfLeadingZeros_2 20 rfl rfl)
theorem dJ5_numberOfLeadingZeros_69 : decode cJ5_numberOfLeadingZeros 69 = .ok (.iload_n 0, 1) := dk_26 (dk_at dksJ5_numberOfLeadingZeros_2 23 rfl rfl)
theorem dJ5_numberOfLeadingZeros_70 : decode cJ5_numberOfLeadingZeros 70 = .ok (.iconst 2, 1) := dk_5 (dk_at dksJ5_numberOfLeadingZeros_3 0 rfl rfl)
theorem dJ5_numberOfLeadingZeros_71 : decode cJ5_numberOfLeadingZeros 71 = .ok (.iushr, 1) := dk_124 (dk_at dksJ5_numberOfLeadingZeros_3 1 rfl rfl)
theorem dJ5_numberOfLeadingZeros_72 : decode cJ5_numberOfLeadingZeros 72 = .ok (.istore_n 0, 1) := dk_59 (dk_at dksJ5_numberOfLeadingZeros_3 2 rfl rfl)
theorem dJ5_numberOfLeadingZeros_73 : decode cJ5_numberOfLeadingZeros 73 = .ok (.iload_n 1, 1) := dk_27 (dk_at dksJ5_numberOfLeadingZeros_3 3 rfl rfl)
theorem dJ5_numberOfLeadingZeros_74 : decode cJ5_numberOfLeadingZeros 74 = .ok (.iload_n 0, 1) := dk_26 (dk_at dksJ5_numberOfLeadingZeros_3 4 rfl rfl)
theorem dJ5_numberOfLeadingZeros_75 : decode cJ5_numberOfLeadingZeros 75 = .ok (.iconst 1, 1) := dk_4 (dk_at dksJ5_numberOfLeadingZeros_3 5 rfl rfl)
theorem dJ5_numberOfLeadingZeros_76 : decode cJ5_numberOfLeadingZeros 76 = .ok (.iushr, 1) := dk_124 (dk_at dksJ5_numberOfLeadingZeros_3 6 rfl rfl)
theorem dJ5_numberOfLeadingZeros_77 : decode cJ5_numberOfLeadingZeros 77 = .ok (.isub, 1) := dk_100 (dk_at dksJ5_numberOfLeadingZeros_3 7 rfl rfl)
theorem dJ5_numberOfLeadingZeros_78 : decode cJ5_numberOfLeadingZeros 78 = .ok (.ireturn, 1) := dk_172 (dk_at dksJ5_numberOfLeadingZeros_3 8 rfl rfl)
theorem q102 : (Jvm.Cond.initialized "java/lang/Integer") ∈ lw_all := lw_g (lw_at lw_m1 20 rfl) rfl
theorem q793 : (Jvm.Cond.static ({ cls := "java/lang/Integer", name := "bitCount", desc := "(I)I" } : Jvm.MethodName)) ∈ lw_all := lw_g (lw_at lw_m3 231 rfl) rfl
theorem q794 : (Jvm.Cond.code ({ cls := "java/lang/Integer", name := "bitCount", desc := "(I)I" } : Jvm.MethodName) prog_22_method_49_code (1 : Nat) (Option.some Jvm.ClassFile.FieldType.int)) ∈ lw_all := lw_g (lw_at lw_m3 232 rfl) rfl
theorem q795 : (Jvm.Cond.constant "java/lang/Integer" (265 : Nat) (1431655765 : Int32)) ∈ lw_all := lw_g (lw_at lw_m3 233 rfl) rfl
theorem q796 : (Jvm.Cond.constant "java/lang/Integer" (266 : Nat) (858993459 : Int32)) ∈ lw_all := lw_g (lw_at lw_m3 234 rfl) rfl
theorem q797 : (Jvm.Cond.constant "java/lang/Integer" (267 : Nat) (252645135 : Int32)) ∈ lw_all := lw_g (lw_at lw_m3 235 rfl) rfl
theorem q893 : (Jvm.Cond.static ({ cls := "java/lang/Integer", name := "numberOfTrailingZeros", desc := "(I)I" } : Jvm.MethodName)) ∈ lw_all := lw_g (lw_at lw_m4 91 rfl) rfl
theorem q894 : (Jvm.Cond.code ({ cls := "java/lang/Integer", name := "numberOfTrailingZeros", desc := "(I)I" } : Jvm.MethodName) prog_22_method_48_code (2 : Nat) (Option.some Jvm.ClassFile.FieldType.int)) ∈ lw_all := lw_g (lw_at lw_m4 92 rfl) rfl
theorem q895 : (Jvm.Cond.constant "java/lang/Integer" (264 : Nat) (65536 : Int32)) ∈ lw_all := lw_g (lw_at lw_m4 93 rfl) rfl
theorem q909 : (Jvm.Cond.static ({ cls := "java/lang/Integer", name := "highestOneBit", desc := "(I)I" } : Jvm.MethodName)) ∈ lw_all := lw_g (lw_at lw_m4 107 rfl) rfl
theorem q910 : (Jvm.Cond.code ({ cls := "java/lang/Integer", name := "highestOneBit", desc := "(I)I" } : Jvm.MethodName) prog_22_method_45_code (1 : Nat) (Option.some Jvm.ClassFile.FieldType.int)) ∈ lw_all := lw_g (lw_at lw_m4 108 rfl) rfl
theorem q911 : (Jvm.Cond.constant "java/lang/Integer" (127 : Nat) (-2147483648 : Int32)) ∈ lw_all := lw_g (lw_at lw_m4 109 rfl) rfl
theorem q912 : (Jvm.Cond.methodLink "java/lang/Integer" (51 : Nat) ({ cls := "java/lang/Integer", name := "numberOfLeadingZeros", desc := "(I)I" } : Jvm.MethodName)) ∈ lw_all := lw_g (lw_at lw_m4 110 rfl) rfl
theorem q913 : (Jvm.Cond.static ({ cls := "java/lang/Integer", name := "numberOfLeadingZeros", desc := "(I)I" } : Jvm.MethodName)) ∈ lw_all := lw_g (lw_at lw_m4 111 rfl) rfl
theorem q914 : (Jvm.Cond.code ({ cls := "java/lang/Integer", name := "numberOfLeadingZeros", desc := "(I)I" } : Jvm.MethodName) prog_22_method_47_code (2 : Nat) (Option.some Jvm.ClassFile.FieldType.int)) ∈ lw_all := lw_g (lw_at lw_m4 112 rfl) rfl

/-! java/lang/Math -/
set_option maxRecDepth 100000
def RJ6 : String := "java/lang/Math"
abbrev cJ6_min : ByteArray := prog_23_method_69_code
def yJ6_min : MethodName := ⟨RJ6, "min", "(II)I"⟩
def dkwJ6_min_0 : List UInt8 := [26, 27, 163, 0, 7, 26, 167, 0, 4, 27, 172]
abbrev dktJ6_min_0 : List UInt8 := dkwJ6_min_0 ++ []
theorem dksJ6_min_0 : cJ6_min.data.toList.drop 0 = dktJ6_min_0 := by decide +kernel
theorem dJ6_min_0 : decode cJ6_min 0 = .ok (.iload_n 0, 1) := dk_26 (dk_at dksJ6_min_0 0 rfl rfl)
theorem dJ6_min_1 : decode cJ6_min 1 = .ok (.iload_n 1, 1) := dk_27 (dk_at dksJ6_min_0 1 rfl rfl)
theorem dJ6_min_2 : decode cJ6_min 2 = .ok (.if_icmp .gt 7, 3) := dk_163 0 7 (dk_at dksJ6_min_0 2 rfl rfl)
theorem dJ6_min_5 : decode cJ6_min 5 = .ok (.iload_n 0, 1) := dk_26 (dk_at dksJ6_min_0 5 rfl rfl)
theorem dJ6_min_6 : decode cJ6_min 6 = .ok (.goto 4, 3) := dk_167 0 4 (dk_at dksJ6_min_0 6 rfl rfl)
theorem dJ6_min_9 : decode cJ6_min 9 = .ok (.iload_n 1, 1) := dk_27 (dk_at dksJ6_min_0 9 rfl rfl)
theorem dJ6_min_10 : decode cJ6_min 10 = .ok (.ireturn, 1) := dk_172 (dk_at dksJ6_min_0 10 rfl rfl)
abbrev cJ6_max : ByteArray := prog_23_method_65_code
def yJ6_max : MethodName := ⟨RJ6, "max", "(II)I"⟩
def dkwJ6_max_0 : List UInt8 := [26, 27, 161, 0, 7, 26, 167, 0, 4, 27, 172]
abbrev dktJ6_max_0 : List UInt8 := dkwJ6_max_0 ++ []
theorem dksJ6_max_0 : cJ6_max.data.toList.drop 0 = dktJ6_max_0 := by decide +kernel
theorem dJ6_max_0 : decode cJ6_max 0 = .ok (.iload_n 0, 1) := dk_26 (dk_at dksJ6_max_0 0 rfl rfl)
theorem dJ6_max_1 : decode cJ6_max 1 = .ok (.iload_n 1, 1) := dk_27 (dk_at dksJ6_max_0 1 rfl rfl)
theorem dJ6_max_2 : decode cJ6_max 2 = .ok (.if_icmp .lt 7, 3) := dk_161 0 7 (dk_at dksJ6_max_0 2 rfl rfl)
theorem dJ6_max_5 : decode cJ6_max 5 = .ok (.iload_n 0, 1) := dk_26 (dk_at dksJ6_max_0 5 rfl rfl)
theorem dJ6_max_6 : decode cJ6_max 6 = .ok (.goto 4, 3) := dk_167 0 4 (dk_at dksJ6_max_0 6 rfl rfl)
theorem dJ6_max_9 : decode cJ6_max 9 = .ok (.iload_n 1, 1) := dk_27 (dk_at dksJ6_max_0 9 rfl rfl)
theorem dJ6_max_10 : decode cJ6_max 10 = .ok (.ireturn, 1) := dk_172 (dk_at dksJ6_max_0 10 rfl rfl)
theorem q103 : (Jvm.Cond.initialized "java/lang/Math") ∈ lw_all := lw_g (lw_at lw_m1 21 rfl) rfl
theorem q835 : (Jvm.Cond.static ({ cls := "java/lang/Math", name := "min", desc := "(II)I" } : Jvm.MethodName)) ∈ lw_all := lw_g (lw_at lw_m4 33 rfl) rfl
theorem q836 : (Jvm.Cond.code ({ cls := "java/lang/Math", name := "min", desc := "(II)I" } : Jvm.MethodName) prog_23_method_69_code (2 : Nat) (Option.some Jvm.ClassFile.FieldType.int)) ∈ lw_all := lw_g (lw_at lw_m4 34 rfl) rfl
theorem q838 : (Jvm.Cond.static ({ cls := "java/lang/Math", name := "max", desc := "(II)I" } : Jvm.MethodName)) ∈ lw_all := lw_g (lw_at lw_m4 36 rfl) rfl
theorem q839 : (Jvm.Cond.code ({ cls := "java/lang/Math", name := "max", desc := "(II)I" } : Jvm.MethodName) prog_23_method_65_code (2 : Nat) (Option.some Jvm.ClassFile.FieldType.int)) ∈ lw_all := lw_g (lw_at lw_m4 37 rfl) rfl

/-! java/lang/StringLatin1 -/
set_option maxRecDepth 100000
def RJ7 : String := "java/lang/StringLatin1"
abbrev cJ7_charAt : ByteArray := prog_27_method_2_code
def yJ7_charAt : MethodName := ⟨RJ7, "charAt", "([BI)C"⟩
def dkwJ7_charAt_0 : List UInt8 := [27, 42, 190, 184, 0, 9, 42, 27, 51, 17, 0, 255, 126, 146, 172]
abbrev dktJ7_charAt_0 : List UInt8 := dkwJ7_charAt_0 ++ []
theorem dksJ7_charAt_0 : cJ7_charAt.data.toList.drop 0 = dktJ7_charAt_0 := by decide +kernel
theorem dJ7_charAt_0 : decode cJ7_charAt 0 = .ok (.iload_n 1, 1) := dk_27 (dk_at dksJ7_charAt_0 0 rfl rfl)
theorem dJ7_charAt_1 : decode cJ7_charAt 1 = .ok (.aload_n 0, 1) := dk_42 (dk_at dksJ7_charAt_0 1 rfl rfl)
theorem dJ7_charAt_2 : decode cJ7_charAt 2 = .ok (.arraylength, 1) := dk_190 (dk_at dksJ7_charAt_0 2 rfl rfl)
theorem dJ7_charAt_3 : decode cJ7_charAt 3 = .ok (.invokestatic 9, 3) := dk_184 0 9 (dk_at dksJ7_charAt_0 3 rfl rfl)
theorem dJ7_charAt_6 : decode cJ7_charAt 6 = .ok (.aload_n 0, 1) := dk_42 (dk_at dksJ7_charAt_0 6 rfl rfl)
theorem dJ7_charAt_7 : decode cJ7_charAt 7 = .ok (.iload_n 1, 1) := dk_27 (dk_at dksJ7_charAt_0 7 rfl rfl)
theorem dJ7_charAt_8 : decode cJ7_charAt 8 = .ok (.baload, 1) := dk_51 (dk_at dksJ7_charAt_0 8 rfl rfl)
theorem dJ7_charAt_9 : decode cJ7_charAt 9 = .ok (.sipush 255, 3) := dk_17 0 255 (dk_at dksJ7_charAt_0 9 rfl rfl)
theorem dJ7_charAt_12 : decode cJ7_charAt 12 = .ok (.iand, 1) := dk_126 (dk_at dksJ7_charAt_0 12 rfl rfl)
theorem dJ7_charAt_13 : decode cJ7_charAt 13 = .ok (.i2c, 1) := dk_146 (dk_at dksJ7_charAt_0 13 rfl rfl)
theorem dJ7_charAt_14 : decode cJ7_charAt 14 = .ok (.ireturn, 1) := dk_172 (dk_at dksJ7_charAt_0 14 rfl rfl)
theorem q104 : (Jvm.Cond.initialized "java/lang/StringLatin1") ∈ lw_all := lw_g (lw_at lw_m1 22 rfl) rfl
theorem q443 : (Jvm.Cond.static ({ cls := "java/lang/StringLatin1", name := "charAt", desc := "([BI)C" } : Jvm.MethodName)) ∈ lw_all := lw_g (lw_at lw_m2 121 rfl) rfl
theorem q444 : (Jvm.Cond.code ({ cls := "java/lang/StringLatin1", name := "charAt", desc := "([BI)C" } : Jvm.MethodName) prog_27_method_2_code (2 : Nat) (Option.some Jvm.ClassFile.FieldType.char)) ∈ lw_all := lw_g (lw_at lw_m2 122 rfl) rfl
theorem q445 : (Jvm.Cond.methodLink "java/lang/StringLatin1" (9 : Nat) ({ cls := "java/lang/String", name := "checkIndex", desc := "(II)V" } : Jvm.MethodName)) ∈ lw_all := lw_g (lw_at lw_m2 123 rfl) rfl

/-! jdk/internal/util/Preconditions -/
set_option maxRecDepth 100000
def RJ8 : String := "jdk/internal/util/Preconditions"
abbrev cJ8_checkIndex : ByteArray := prog_31_method_11_code
def yJ8_checkIndex : MethodName := ⟨RJ8, "checkIndex", "(IILjava/util/function/BiFunction;)I"⟩
def dkwJ8_checkIndex_0 : List UInt8 := [26, 155, 0, 8, 26, 27, 161, 0, 10, 44, 26, 27, 184, 0, 95, 191, 26, 172]
abbrev dktJ8_checkIndex_0 : List UInt8 := dkwJ8_checkIndex_0 ++ []
theorem dksJ8_checkIndex_0 : cJ8_checkIndex.data.toList.drop 0 = dktJ8_checkIndex_0 := by decide +kernel
theorem dJ8_checkIndex_0 : decode cJ8_checkIndex 0 = .ok (.iload_n 0, 1) := dk_26 (dk_at dksJ8_checkIndex_0 0 rfl rfl)
theorem dJ8_checkIndex_1 : decode cJ8_checkIndex 1 = .ok (.ifCond .lt 8, 3) := dk_155 0 8 (dk_at dksJ8_checkIndex_0 1 rfl rfl)
theorem dJ8_checkIndex_4 : decode cJ8_checkIndex 4 = .ok (.iload_n 0, 1) := dk_26 (dk_at dksJ8_checkIndex_0 4 rfl rfl)
theorem dJ8_checkIndex_5 : decode cJ8_checkIndex 5 = .ok (.iload_n 1, 1) := dk_27 (dk_at dksJ8_checkIndex_0 5 rfl rfl)
theorem dJ8_checkIndex_6 : decode cJ8_checkIndex 6 = .ok (.if_icmp .lt 10, 3) := dk_161 0 10 (dk_at dksJ8_checkIndex_0 6 rfl rfl)
theorem dJ8_checkIndex_9 : decode cJ8_checkIndex 9 = .ok (.aload_n 2, 1) := dk_44 (dk_at dksJ8_checkIndex_0 9 rfl rfl)
theorem dJ8_checkIndex_10 : decode cJ8_checkIndex 10 = .ok (.iload_n 0, 1) := dk_26 (dk_at dksJ8_checkIndex_0 10 rfl rfl)
theorem dJ8_checkIndex_11 : decode cJ8_checkIndex 11 = .ok (.iload_n 1, 1) := dk_27 (dk_at dksJ8_checkIndex_0 11 rfl rfl)
theorem dJ8_checkIndex_12 : decode cJ8_checkIndex 12 = .ok (.invokestatic 95, 3) := dk_184 0 95 (dk_at dksJ8_checkIndex_0 12 rfl rfl)
theorem dJ8_checkIndex_15 : decode cJ8_checkIndex 15 = .ok (.athrow, 1) := dk_191 (dk_at dksJ8_checkIndex_0 15 rfl rfl)
theorem dJ8_checkIndex_16 : decode cJ8_checkIndex 16 = .ok (.iload_n 0, 1) := dk_26 (dk_at dksJ8_checkIndex_0 16 rfl rfl)
theorem dJ8_checkIndex_17 : decode cJ8_checkIndex 17 = .ok (.ireturn, 1) := dk_172 (dk_at dksJ8_checkIndex_0 17 rfl rfl)
theorem q105 : (Jvm.Cond.initialized "jdk/internal/util/Preconditions") ∈ lw_all := lw_g (lw_at lw_m1 23 rfl) rfl
theorem q449 : (Jvm.Cond.laysStatic "jdk/internal/util/Preconditions" "SIOOBE_FORMATTER" "Ljava/util/function/BiFunction;") ∈ lw_tbl := lw_at lw_m2 127 rfl
theorem q451 : (Jvm.Cond.static ({ cls := "jdk/internal/util/Preconditions", name := "checkIndex", desc := "(IILjava/util/function/BiFunction;)I" } : Jvm.MethodName)) ∈ lw_all := lw_g (lw_at lw_m2 129 rfl) rfl
theorem q452 : (Jvm.Cond.code ({ cls := "jdk/internal/util/Preconditions", name := "checkIndex", desc := "(IILjava/util/function/BiFunction;)I" } : Jvm.MethodName) prog_31_method_11_code (3 : Nat) (Option.some Jvm.ClassFile.FieldType.int)) ∈ lw_all := lw_g (lw_at lw_m2 130 rfl) rfl

/-! java/lang/StringUTF16 -/
set_option maxRecDepth 100000
def RJ9 : String := "java/lang/StringUTF16"
abbrev cJ9_charAt : ByteArray := prog_28_method_83_code
def yJ9_charAt : MethodName := ⟨RJ9, "charAt", "([BI)C"⟩
def dkwJ9_charAt_0 : List UInt8 := [27, 42, 184, 0, 67, 42, 27, 184, 0, 71, 172]
abbrev dktJ9_charAt_0 : List UInt8 := dkwJ9_charAt_0 ++ []
theorem dksJ9_charAt_0 : cJ9_charAt.data.toList.drop 0 = dktJ9_charAt_0 := by decide +kernel
theorem dJ9_charAt_0 : decode cJ9_charAt 0 = .ok (.iload_n 1, 1) := dk_27 (dk_at dksJ9_charAt_0 0 rfl rfl)
theorem dJ9_charAt_1 : decode cJ9_charAt 1 = .ok (.aload_n 0, 1) := dk_42 (dk_at dksJ9_charAt_0 1 rfl rfl)
theorem dJ9_charAt_2 : decode cJ9_charAt 2 = .ok (.invokestatic 67, 3) := dk_184 0 67 (dk_at dksJ9_charAt_0 2 rfl rfl)
theorem dJ9_charAt_5 : decode cJ9_charAt 5 = .ok (.aload_n 0, 1) := dk_42 (dk_at dksJ9_charAt_0 5 rfl rfl)
theorem dJ9_charAt_6 : decode cJ9_charAt 6 = .ok (.iload_n 1, 1) := dk_27 (dk_at dksJ9_charAt_0 6 rfl rfl)
theorem dJ9_charAt_7 : decode cJ9_charAt 7 = .ok (.invokestatic 71, 3) := dk_184 0 71 (dk_at dksJ9_charAt_0 7 rfl rfl)
theorem dJ9_charAt_10 : decode cJ9_charAt 10 = .ok (.ireturn, 1) := dk_172 (dk_at dksJ9_charAt_0 10 rfl rfl)
abbrev cJ9_checkIndex : ByteArray := prog_28_method_91_code
def yJ9_checkIndex : MethodName := ⟨RJ9, "checkIndex", "(I[B)V"⟩
def dkwJ9_checkIndex_0 : List UInt8 := [26, 43, 184, 0, 48, 184, 1, 158, 177]
abbrev dktJ9_checkIndex_0 : List UInt8 := dkwJ9_checkIndex_0 ++ []
theorem dksJ9_checkIndex_0 : cJ9_checkIndex.data.toList.drop 0 = dktJ9_checkIndex_0 := by decide +kernel
theorem dJ9_checkIndex_0 : decode cJ9_checkIndex 0 = .ok (.iload_n 0, 1) := dk_26 (dk_at dksJ9_checkIndex_0 0 rfl rfl)
theorem dJ9_checkIndex_1 : decode cJ9_checkIndex 1 = .ok (.aload_n 1, 1) := dk_43 (dk_at dksJ9_checkIndex_0 1 rfl rfl)
theorem dJ9_checkIndex_2 : decode cJ9_checkIndex 2 = .ok (.invokestatic 48, 3) := dk_184 0 48 (dk_at dksJ9_checkIndex_0 2 rfl rfl)
theorem dJ9_checkIndex_5 : decode cJ9_checkIndex 5 = .ok (.invokestatic 414, 3) := dk_184 1 158 (dk_at dksJ9_checkIndex_0 5 rfl rfl)
theorem dJ9_checkIndex_8 : decode cJ9_checkIndex 8 = .ok (.return_, 1) := dk_177 (dk_at dksJ9_checkIndex_0 8 rfl rfl)
abbrev cJ9_length : ByteArray := prog_28_method_6_code
def yJ9_length : MethodName := ⟨RJ9, "length", "([B)I"⟩
def dkwJ9_length_0 : List UInt8 := [42, 190, 4, 122, 172]
abbrev dktJ9_length_0 : List UInt8 := dkwJ9_length_0 ++ []
theorem dksJ9_length_0 : cJ9_length.data.toList.drop 0 = dktJ9_length_0 := by decide +kernel
theorem dJ9_length_0 : decode cJ9_length 0 = .ok (.aload_n 0, 1) := dk_42 (dk_at dksJ9_length_0 0 rfl rfl)
theorem dJ9_length_1 : decode cJ9_length 1 = .ok (.arraylength, 1) := dk_190 (dk_at dksJ9_length_0 1 rfl rfl)
theorem dJ9_length_2 : decode cJ9_length 2 = .ok (.iconst 1, 1) := dk_4 (dk_at dksJ9_length_0 2 rfl rfl)
theorem dJ9_length_3 : decode cJ9_length 3 = .ok (.ishr, 1) := dk_122 (dk_at dksJ9_length_0 3 rfl rfl)
theorem dJ9_length_4 : decode cJ9_length 4 = .ok (.ireturn, 1) := dk_172 (dk_at dksJ9_length_0 4 rfl rfl)
abbrev cJ9_getChar : ByteArray := prog_28_method_5_code
def yJ9_getChar : MethodName := ⟨RJ9, "getChar", "([BI)C"⟩
def dkwJ9_getChar_2 : List UInt8 := [51, 17, 0, 255, 126, 178, 0, 63, 120, 128, 146, 172]
abbrev dktJ9_getChar_2 : List UInt8 := dkwJ9_getChar_2 ++ []
def dkwJ9_getChar_1 : List UInt8 := [183, 0, 56, 191, 27, 4, 120, 60, 42, 27, 132, 1, 1, 51, 17, 0, 255, 126, 178, 0, 59, 120, 42, 27]
abbrev dktJ9_getChar_1 : List UInt8 := dkwJ9_getChar_1 ++ dktJ9_getChar_2
def dkwJ9_getChar_0 : List UInt8 := [178, 0, 44, 154, 0, 25, 27, 155, 0, 11, 27, 42, 184, 0, 48, 161, 0, 13, 187, 0, 52, 89, 18, 54]
abbrev dktJ9_getChar_0 : List UInt8 := dkwJ9_getChar_0 ++ dktJ9_getChar_1
theorem dksJ9_getChar_0 : cJ9_getChar.data.toList.drop 0 = dktJ9_getChar_0 := by decide +kernel
theorem dksJ9_getChar_1 : cJ9_getChar.data.toList.drop 24 = dktJ9_getChar_1 := dk_seg dksJ9_getChar_0 24 rfl rfl
theorem dksJ9_getChar_2 : cJ9_getChar.data.toList.drop 48 = dktJ9_getChar_2 := dk_seg dksJ9_getChar_1 24 rfl rfl
theorem dJ9_getChar_0 : decode cJ9_getChar 0 = .ok (.getstatic 44, 3) := dk_178 0 44 (dk_at dksJ9_getChar_0 0 rfl rfl)
theorem dJ9_getChar_3 : decode cJ9_getChar 3 = .ok (.ifCond .ne 25, 3) := dk_154 0 25 (dk_at dksJ9_getChar_0 3 rfl rfl)
theorem dJ9_getChar_6 : decode cJ9_getChar 6 = .ok (.iload_n 1, 1) := dk_27 (dk_at dksJ9_getChar_0 6 rfl rfl)
theorem dJ9_getChar_7 : decode cJ9_getChar 7 = .ok (.ifCond .lt 11, 3) := dk_155 0 11 (dk_at dksJ9_getChar_0 7 rfl rfl)
theorem dJ9_getChar_10 : decode cJ9_getChar 10 = .ok (.iload_n 1, 1) := dk_27 (dk_at dksJ9_getChar_0 10 rfl rfl)
theorem dJ9_getChar_11 : decode cJ9_getChar 11 = .ok (.aload_n 0, 1) := dk_42 (dk_at dksJ9_getChar_0 11 rfl rfl)
theorem dJ9_getChar_12 : decode cJ9_getChar 12 = .ok (.invokestatic 48, 3) := dk_184 0 48 (dk_at dksJ9_getChar_0 12 rfl rfl)
theorem dJ9_getChar_15 : decode cJ9_getChar 15 = .ok (.if_icmp .lt 13, 3) := dk_161 0 13 (dk_at dksJ9_getChar_0 15 rfl rfl)
theorem dJ9_getChar_18 : decode cJ9_getChar 18 = .ok (.new 52, 3) := dk_187 0 52 (dk_at dksJ9_getChar_0 18 rfl rfl)
theorem dJ9_getChar_21 : decode cJ9_getChar 21 = .ok (.dup, 1) := dk_89 (dk_at dksJ9_getChar_0 21 rfl rfl)
theorem dJ9_getChar_22 : decode cJ9_getChar 22 = .ok (.ldc 54, 2) := dk_18 54 (dk_at dksJ9_getChar_0 22 rfl rfl)
theorem dJ9_getChar_24 : decode cJ9_getChar 24 = .ok (.invokespecial 56, 3) := dk_183 0 56 (dk_at dksJ9_getChar_1 0 rfl rfl)
theorem dJ9_getChar_27 : decode cJ9_getChar 27 = .ok (.athrow, 1) := dk_191 (dk_at dksJ9_getChar_1 3 rfl rfl)
theorem dJ9_getChar_28 : decode cJ9_getChar 28 = .ok (.iload_n 1, 1) := dk_27 (dk_at dksJ9_getChar_1 4 rfl rfl)
theorem dJ9_getChar_29 : decode cJ9_getChar 29 = .ok (.iconst 1, 1) := dk_4 (dk_at dksJ9_getChar_1 5 rfl rfl)
theorem dJ9_getChar_30 : decode cJ9_getChar 30 = .ok (.ishl, 1) := dk_120 (dk_at dksJ9_getChar_1 6 rfl rfl)
theorem dJ9_getChar_31 : decode cJ9_getChar 31 = .ok (.istore_n 1, 1) := dk_60 (dk_at dksJ9_getChar_1 7 rfl rfl)
theorem dJ9_getChar_32 : decode cJ9_getChar 32 = .ok (.aload_n 0, 1) := dk_42 (dk_at dksJ9_getChar_1 8 rfl rfl)
theorem dJ9_getChar_33 : decode cJ9_getChar 33 = .ok (.iload_n 1, 1) := dk_27 (dk_at dksJ9_getChar_1 9 rfl rfl)
theorem dJ9_getChar_34 : decode cJ9_getChar 34 = .ok (.iinc 1 1, 3) := dk_132 1 1 (dk_at dksJ9_getChar_1 10 rfl rfl)
theorem dJ9_getChar_37 : decode cJ9_getChar 37 = .ok (.baload, 1) := dk_51 (dk_at dksJ9_getChar_1 13 rfl rfl)
theorem dJ9_getChar_38 : decode cJ9_getChar 38 = .ok (.sipush 255, 3) := dk_17 0 255 (dk_at dksJ9_getChar_1 14 rfl rfl)
theorem dJ9_getChar_41 : decode cJ9_getChar 41 = .ok (.iand, 1) := dk_126 (dk_at dksJ9_getChar_1 17 rfl rfl)
theorem dJ9_getChar_42 : decode cJ9_getChar 42 = .ok (.getstatic 59, 3) := dk_178 0 59 (dk_at dksJ9_getChar_1 18 rfl rfl)
theorem dJ9_getChar_45 : decode cJ9_getChar 45 = .ok (.ishl, 1) := dk_120 (dk_at dksJ9_getChar_1 21 rfl rfl)
theorem dJ9_getChar_46 : decode cJ9_getChar 46 = .ok (.aload_n 0, 1) := dk_42 (dk_at dksJ9_getChar_1 22 rfl rfl)
theorem dJ9_getChar_47 : decode cJ9_getChar 47 = .ok (.iload_n 1, 1) := dk_27 (dk_at dksJ9_getChar_1 23 rfl rfl)
theorem dJ9_getChar_48 : decode cJ9_getChar 48 = .ok (.baload, 1) := dk_51 (dk_at dksJ9_getChar_2 0 rfl rfl)
theorem dJ9_getChar_49 : decode cJ9_getChar 49 = .ok (.sipush 255, 3) := dk_17 0 255 (dk_at dksJ9_getChar_2 1 rfl rfl)
theorem dJ9_getChar_52 : decode cJ9_getChar 52 = .ok (.iand, 1) := dk_126 (dk_at dksJ9_getChar_2 4 rfl rfl)
theorem dJ9_getChar_53 : decode cJ9_getChar 53 = .ok (.getstatic 63, 3) := dk_178 0 63 (dk_at dksJ9_getChar_2 5 rfl rfl)
theorem dJ9_getChar_56 : decode cJ9_getChar 56 = .ok (.ishl, 1) := dk_120 (dk_at dksJ9_getChar_2 8 rfl rfl)
theorem dJ9_getChar_57 : decode cJ9_getChar 57 = .ok (.ior, 1) := dk_128 (dk_at dksJ9_getChar_2 9 rfl rfl)
theorem dJ9_getChar_58 : decode cJ9_getChar 58 = .ok (.i2c, 1) := dk_146 (dk_at dksJ9_getChar_2 10 rfl rfl)
theorem dJ9_getChar_59 : decode cJ9_getChar 59 = .ok (.ireturn, 1) := dk_172 (dk_at dksJ9_getChar_2 11 rfl rfl)
theorem q106 : (Jvm.Cond.initialized "java/lang/StringUTF16") ∈ lw_all := lw_g (lw_at lw_m1 24 rfl) rfl
theorem q454 : (Jvm.Cond.static ({ cls := "java/lang/StringUTF16", name := "charAt", desc := "([BI)C" } : Jvm.MethodName)) ∈ lw_all := lw_g (lw_at lw_m2 132 rfl) rfl
theorem q455 : (Jvm.Cond.code ({ cls := "java/lang/StringUTF16", name := "charAt", desc := "([BI)C" } : Jvm.MethodName) prog_28_method_83_code (2 : Nat) (Option.some Jvm.ClassFile.FieldType.char)) ∈ lw_all := lw_g (lw_at lw_m2 133 rfl) rfl
theorem q456 : (Jvm.Cond.methodLink "java/lang/StringUTF16" (67 : Nat) ({ cls := "java/lang/StringUTF16", name := "checkIndex", desc := "(I[B)V" } : Jvm.MethodName)) ∈ lw_all := lw_g (lw_at lw_m2 134 rfl) rfl
theorem q457 : (Jvm.Cond.static ({ cls := "java/lang/StringUTF16", name := "checkIndex", desc := "(I[B)V" } : Jvm.MethodName)) ∈ lw_all := lw_g (lw_at lw_m2 135 rfl) rfl
theorem q458 : (Jvm.Cond.code ({ cls := "java/lang/StringUTF16", name := "checkIndex", desc := "(I[B)V" } : Jvm.MethodName) prog_28_method_91_code (2 : Nat) (Option.none : Option Jvm.ClassFile.FieldType)) ∈ lw_all := lw_g (lw_at lw_m2 136 rfl) rfl
theorem q459 : (Jvm.Cond.methodLink "java/lang/StringUTF16" (48 : Nat) ({ cls := "java/lang/StringUTF16", name := "length", desc := "([B)I" } : Jvm.MethodName)) ∈ lw_all := lw_g (lw_at lw_m2 137 rfl) rfl
theorem q460 : (Jvm.Cond.static ({ cls := "java/lang/StringUTF16", name := "length", desc := "([B)I" } : Jvm.MethodName)) ∈ lw_all := lw_g (lw_at lw_m2 138 rfl) rfl
theorem q461 : (Jvm.Cond.code ({ cls := "java/lang/StringUTF16", name := "length", desc := "([B)I" } : Jvm.MethodName) prog_28_method_6_code (1 : Nat) (Option.some Jvm.ClassFile.FieldType.int)) ∈ lw_all := lw_g (lw_at lw_m2 139 rfl) rfl
theorem q462 : (Jvm.Cond.methodLink "java/lang/StringUTF16" (414 : Nat) ({ cls := "java/lang/String", name := "checkIndex", desc := "(II)V" } : Jvm.MethodName)) ∈ lw_all := lw_g (lw_at lw_m2 140 rfl) rfl
theorem q463 : (Jvm.Cond.methodLink "java/lang/StringUTF16" (71 : Nat) ({ cls := "java/lang/StringUTF16", name := "getChar", desc := "([BI)C" } : Jvm.MethodName)) ∈ lw_all := lw_g (lw_at lw_m2 141 rfl) rfl
theorem q464 : (Jvm.Cond.static ({ cls := "java/lang/StringUTF16", name := "getChar", desc := "([BI)C" } : Jvm.MethodName)) ∈ lw_all := lw_g (lw_at lw_m2 142 rfl) rfl
theorem q465 : (Jvm.Cond.code ({ cls := "java/lang/StringUTF16", name := "getChar", desc := "([BI)C" } : Jvm.MethodName) prog_28_method_5_code (2 : Nat) (Option.some Jvm.ClassFile.FieldType.char)) ∈ lw_all := lw_g (lw_at lw_m2 143 rfl) rfl
theorem q466 : (Jvm.Cond.fieldLink "java/lang/StringUTF16" (44 : Nat) "java/lang/StringUTF16" "$assertionsDisabled" "Z") ∈ lw_all := lw_g (lw_at lw_m2 144 rfl) rfl
theorem q467 : (Jvm.Cond.laysStatic "java/lang/StringUTF16" "$assertionsDisabled" "Z") ∈ lw_tbl := lw_at lw_m2 145 rfl
theorem q468 : (Jvm.Cond.fieldLink "java/lang/StringUTF16" (59 : Nat) "java/lang/StringUTF16" "HI_BYTE_SHIFT" "I") ∈ lw_all := lw_g (lw_at lw_m2 146 rfl) rfl
theorem q469 : (Jvm.Cond.laysStatic "java/lang/StringUTF16" "HI_BYTE_SHIFT" "I") ∈ lw_tbl := lw_at lw_m2 147 rfl
theorem q470 : (Jvm.Cond.fieldLink "java/lang/StringUTF16" (63 : Nat) "java/lang/StringUTF16" "LO_BYTE_SHIFT" "I") ∈ lw_all := lw_g (lw_at lw_m2 148 rfl) rfl
theorem q471 : (Jvm.Cond.laysStatic "java/lang/StringUTF16" "LO_BYTE_SHIFT" "I") ∈ lw_tbl := lw_at lw_m2 149 rfl
