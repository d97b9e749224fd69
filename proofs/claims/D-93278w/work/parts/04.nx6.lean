/-! NeverSaidModel -/
set_option maxRecDepth 100000
def RX6 : String := "NeverSaidModel"
def TX6 : u_T := fun k => match k with
  | 0 => ("NeverSaidModel", "s", "[I", true)
  | 1 => ("NeverSaidModel", "image", "[I", true)
  | 2 => ("NeverSaidModel", "aside", "[I", true)
  | 3 => ("NeverSaidModel", "hasImage", "Z", false)
  | 4 => ("NeverSaidModel", "tSort", "[I", true)
  | 5 => ("NeverSaidModel", "tSize", "[I", true)
  | 6 => ("NeverSaidModel", "tNumber", "[I", true)
  | 7 => ("NeverSaidModel", "held", "[I", true)
  | 8 => ("NeverSaidModel", "heldNumber", "[I", true)
  | 9 => ("NeverSaidModel", "heldWorth", "[I", true)
  | 10 => ("NeverSaidModel", "heldSize", "[I", true)
  | 11 => ("NeverSaidModel", "heldRow", "[I", true)
  | 12 => ("NeverSaidModel", "goes", "[I", true)
  | 13 => ("NeverSaidModel", "tape", "[I", true)
  | 14 => ("NeverSaidModel", "taped", "I", false)
  | 15 => ("NeverSaidModel", "begin", "I", false)
  | 16 => ("NeverSaidModel", "behind", "I", false)
  | 17 => ("NeverSaidModel", "token", "I", false)
  | 18 => ("NeverSaidModel", "number", "I", false)
  | 19 => ("NeverSaidModel", "letter", "I", false)
  | 20 => ("NeverSaidModel", "deep", "I", false)
  | 21 => ("NeverSaidModel", "turned", "I", false)
  | 22 => ("NeverSaidModel", "laid", "I", false)
  | 23 => ("NeverSaidModel", "laidAt", "I", false)
  | 24 => ("NeverSaidModel", "said", "I", false)
  | 25 => ("NeverSaidModel", "named", "[I", true)
  | 26 => ("NeverSaidModel", "pile", "[I", true)
  | 27 => ("NeverSaidModel", "carried", "[I", true)
  | 28 => ("NeverSaidModel", "waits", "[I", true)
  | 29 => ("NeverSaidModel", "waiting", "I", false)
  | _ => ("NeverSaidModel", "rowDue", "[I", true)
def tyX6 : Nat → FieldType := fun k => match k with
  | 0 => .array .int
  | 1 => .array .int
  | 2 => .array .int
  | 3 => .boolean
  | 4 => .array .int
  | 5 => .array .int
  | 6 => .array .int
  | 7 => .array .int
  | 8 => .array .int
  | 9 => .array .int
  | 10 => .array .int
  | 11 => .array .int
  | 12 => .array .int
  | 13 => .array .int
  | 14 => .int
  | 15 => .int
  | 16 => .int
  | 17 => .int
  | 18 => .int
  | 19 => .int
  | 20 => .int
  | 21 => .int
  | 22 => .int
  | 23 => .int
  | 24 => .int
  | 25 => .array .int
  | 26 => .array .int
  | 27 => .array .int
  | 28 => .array .int
  | 29 => .int
  | _ => .array .int
abbrev wsX60 : List Cond := u_ws RX6 TX6 31
set_option maxRecDepth 100000 in
theorem nmX6 : ∀ a, a < 31 → ∀ b, b < 31 → a ≠ b → (TX6 a).2.1 ≠ (TX6 b).2.1 := by decide +kernel
set_option maxRecDepth 100000 in
theorem tyX6_ok : ∀ k, k < 31 → parseFieldDescriptor (TX6 k).2.2.1 = some (tyX6 k) := by decide +kernel
abbrev cX6_init : ByteArray := prog_19_method_1_code
def yX6_init : MethodName := ⟨RX6, "<init>", "()V"⟩
def dkwX6_init_7 : List UInt8 := [7, 162, 0, 16, 42, 180, 0, 19, 27, 2, 79, 132, 1, 1, 167, 255, 241, 177]
abbrev dktX6_init_7 : List UInt8 := dkwX6_init_7 ++ []
def dkwX6_init_6 : List UInt8 := [16, 60, 188, 10, 181, 0, 61, 42, 180, 0, 7, 6, 5, 79, 42, 180, 0, 7, 7, 4, 79, 3, 60, 27]
abbrev dktX6_init_6 : List UInt8 := dkwX6_init_6 ++ dktX6_init_7
def dkwX6_init_5 : List UInt8 := [16, 100, 188, 10, 181, 0, 52, 42, 16, 24, 188, 10, 181, 0, 55, 42, 16, 60, 188, 10, 181, 0, 58, 42]
abbrev dktX6_init_5 : List UInt8 := dkwX6_init_5 ++ dktX6_init_6
def dkwX6_init_4 : List UInt8 := [188, 10, 181, 0, 43, 42, 16, 96, 188, 10, 181, 0, 46, 42, 17, 0, 128, 188, 10, 181, 0, 49, 42]
abbrev dktX6_init_4 : List UInt8 := dkwX6_init_4 ++ dktX6_init_5
def dkwX6_init_3 : List UInt8 := [188, 10, 181, 0, 34, 42, 8, 188, 10, 181, 0, 37, 42, 16, 120, 188, 10, 181, 0, 40, 42, 16, 12]
abbrev dktX6_init_3 : List UInt8 := dkwX6_init_3 ++ dktX6_init_4
def dkwX6_init_2 : List UInt8 := [16, 96, 188, 10, 181, 0, 25, 42, 8, 188, 10, 181, 0, 28, 42, 8, 188, 10, 181, 0, 31, 42, 8]
abbrev dktX6_init_2 : List UInt8 := dkwX6_init_2 ++ dktX6_init_3
def dkwX6_init_1 : List UInt8 := [17, 12, 42, 188, 10, 181, 0, 16, 42, 7, 188, 10, 181, 0, 19, 42, 7, 188, 10, 181, 0, 22, 42]
abbrev dktX6_init_1 : List UInt8 := dkwX6_init_1 ++ dktX6_init_2
def dkwX6_init_0 : List UInt8 := [42, 183, 0, 1, 42, 17, 12, 42, 188, 10, 181, 0, 7, 42, 17, 12, 42, 188, 10, 181, 0, 13, 42]
abbrev dktX6_init_0 : List UInt8 := dkwX6_init_0 ++ dktX6_init_1
theorem dksX6_init_0 : cX6_init.data.toList.drop 0 = dktX6_init_0 := by decide +kernel
theorem dksX6_init_1 : cX6_init.data.toList.drop 23 = dktX6_init_1 := dk_seg dksX6_init_0 23 rfl rfl
theorem dksX6_init_2 : cX6_init.data.toList.drop 46 = dktX6_init_2 := dk_seg dksX6_init_1 23 rfl rfl
theorem dksX6_init_3 : cX6_init.data.toList.drop 69 = dktX6_init_3 := dk_seg dksX6_init_2 23 rfl rfl
theorem dksX6_init_4 : cX6_init.data.toList.drop 92 = dktX6_init_4 := dk_seg dksX6_init_3 23 rfl rfl
theorem dksX6_init_5 : cX6_init.data.toList.drop 115 = dktX6_init_5 := dk_seg dksX6_init_4 23 rfl rfl
theorem dksX6_init_6 : cX6_init.data.toList.drop 139 = dktX6_init_6 := dk_seg dksX6_init_5 24 rfl rfl
theorem dksX6_init_7 : cX6_init.data.toList.drop 163 = dktX6_init_7 := dk_seg dksX6_init_6 24 rfl rfl
theorem dX6_init_0 : decode cX6_init 0 = .ok (.aload_n 0, 1) := dk_42 (dk_at dksX6_init_0 0 rfl rfl)
theorem dX6_init_1 : decode cX6_init 1 = .ok (.invokespecial 1, 3) := dk_183 0 1 (dk_at dksX6_init_0 1 rfl rfl)
theorem dX6_init_4 : decode cX6_init 4 = .ok (.aload_n 0, 1) := dk_42 (dk_at dksX6_init_0 4 rfl rfl)
theorem dX6_init_5 : decode cX6_init 5 = .ok (.sipush 3114, 3) := dk_17 12 42 (dk_at dksX6_init_0 5 rfl rfl)
theorem dX6_init_8 : decode cX6_init 8 = .ok (.newarray .int, 2) := dk_188_10 (dk_at dksX6_init_0 8 rfl rfl)
theorem dX6_init_10 : decode cX6_init 10 = .ok (.putfield 7, 3) := dk_181 0 7 (dk_at dksX6_init_0 10 rfl rfl)
theorem dX6_init_13 : decode cX6_init 13 = .ok (.aload_n 0, 1) := dk_42 (dk_at dksX6_init_0 13 rfl rfl)
theorem dX6_init_14 : decode cX6_init 14 = .ok (.sipush 3114, 3) := dk_17 12 42 (dk_at dksX6_init_0 14 rfl rfl)
theorem dX6_init_17 : decode cX6_init 17 = .ok (.newarray .int, 2) := dk_188_10 (dk_at dksX6_init_0 17 rfl rfl)
theorem dX6_init_19 : decode cX6_init 19 = .ok (.putfield 13, 3) := dk_181 0 13 (dk_at dksX6_init_0 19 rfl rfl)
theorem dX6_init_22 : decode cX6_init 22 = .ok (.aload_n 0, 1) := dk_42 (dk_at dksX6_init_0 22 rfl rfl)
theorem dX6_init_23 : decode cX6_init 23 = .ok (.sipush 3114, 3) := dk_17 12 42 (dk_at dksX6_init_1 0 rfl rfl)
theorem dX6_init_26 : decode cX6_init 26 = .ok (.newarray .int, 2) := dk_188_10 (dk_at dksX6_init_1 3 rfl rfl)
theorem dX6_init_28 : decode cX6_init 28 = .ok (.putfield 16, 3) := dk_181 0 16 (dk_at dksX6_init_1 5 rfl rfl)
theorem dX6_init_31 : decode cX6_init 31 = .ok (.aload_n 0, 1) := dk_42 (dk_at dksX6_init_1 8 rfl rfl)
theorem dX6_init_32 : decode cX6_init 32 = .ok (.iconst 4, 1) := dk_7 (dk_at dksX6_init_1 9 rfl rfl)
theorem dX6_init_33 : decode cX6_init 33 = .ok (.newarray .int, 2) := dk_188_10 (dk_at dksX6_init_1 10 rfl rfl)
theorem dX6_init_35 : decode cX6_init 35 = .ok (.putfield 19, 3) := dk_181 0 19 (dk_at dksX6_init_1 12 rfl rfl)
theorem dX6_init_38 : decode cX6_init 38 = .ok (.aload_n 0, 1) := dk_42 (dk_at dksX6_init_1 15 rfl rfl)
theorem dX6_init_39 : decode cX6_init 39 = .ok (.iconst 4, 1) := dk_7 (dk_at dksX6_init_1 16 rfl rfl)
theorem dX6_init_40 : decode cX6_init 40 = .ok (.newarray .int, 2) := dk_188_10 (dk_at dksX6_init_1 17 rfl rfl)
theorem dX6_init_42 : decode cX6_init 42 = .ok (.putfield 22, 3) := dk_181 0 22 (dk_at dksX6_init_1 19 rfl rfl)
theorem dX6_init_45 : decode cX6_init 45 = .ok (.aload_n 0, 1) := dk_42 (dk_at dksX6_init_1 22 rfl rfl)
theorem dX6_init_46 : decode cX6_init 46 = .ok (.bipush 96, 2) := dk_16 96 (dk_at dksX6_init_2 0 rfl rfl)
theorem dX6_init_48 : decode cX6_init 48 = .ok (.newarray .int, 2) := dk_188_10 (dk_at dksX6_init_2 2 rfl rfl)
theorem dX6_init_50 : decode cX6_init 50 = .ok (.putfield 25, 3) := dk_181 0 25 (dk_at dksX6_init_2 4 rfl rfl)
theorem dX6_init_53 : decode cX6_init 53 = .ok (.aload_n 0, 1) := dk_42 (dk_at dksX6_init_2 7 rfl rfl)
theorem dX6_init_54 : decode cX6_init 54 = .ok (.iconst 5, 1) := dk_8 (dk_at dksX6_init_2 8 rfl rfl)
theorem dX6_init_55 : decode cX6_init 55 = .ok (.newarray .int, 2) := dk_188_10 (dk_at dksX6_init_2 9 rfl rfl)
theorem dX6_init_57 : decode cX6_init 57 = .ok (.putfield 28, 3) := dk_181 0 28 (dk_at dksX6_init_2 11 rfl rfl)
theorem dX6_init_60 : decode cX6_init 60 = .ok (.aload_n 0, 1) := dk_42 (dk_at dksX6_init_2 14 rfl rfl)
theorem dX6_init_61 : decode cX6_init 61 = .ok (.iconst 5, 1) := dk_8 (dk_at dksX6_init_2 15 rfl rfl)
theorem dX6_init_62 : decode cX6_init 62 = .ok (.newarray .int, 2) := dk_188_10 (dk_at dksX6_init_2 16 rfl rfl)
theorem dX6_init_64 : decode cX6_init 64 = .ok (.putfield 31, 3) := dk_181 0 31 (dk_at dksX6_init_2 18 rfl rfl)
theorem dX6_init_67 : decode cX6_init 67 = .ok (.aload_n 0, 1) := dk_42 (dk_at dksX6_init_2 21 rfl rfl)
theorem dX6_init_68 : decode cX6_init 68 = .ok (.iconst 5, 1) := dk_8 (dk_at dksX6_init_2 22 rfl rfl)
theorem dX6_init_69 : decode cX6_init 69 = .ok (.newarray .int, 2) := dk_188_10 (dk_at dksX6_init_3 0 rfl rfl)
theorem dX6_init_71 : decode cX6_init 71 = .ok (.putfield 34, 3) := dk_181 0 34 (dk_at dksX6_init_3 2 rfl rfl)
theorem dX6_init_74 : decode cX6_init 74 = .ok (.aload_n 0, 1) := dk_42 (dk_at dksX6_init_3 5 rfl rfl)
theorem dX6_init_75 : decode cX6_init 75 = .ok (.iconst 5, 1) := dk_8 (dk_at dksX6_init_3 6 rfl rfl)
theorem dX6_init_76 : decode cX6_init 76 = .ok (.newarray .int, 2) := dk_188_10 (dk_at dksX6_init_3 7 rfl rfl)
theorem dX6_init_78 : decode cX6_init 78 = .ok (.putfield 37, 3) := dk_181 0 37 (dk_at dksX6_init_3 9 rfl rfl)
theorem dX6_init_81 : decode cX6_init 81 = .ok (.aload_n 0, 1) := dk_42 (dk_at dksX6_init_3 12 rfl rfl)
theorem dX6_init_82 : decode cX6_init 82 = .ok (.bipush 120, 2) := dk_16 120 (dk_at dksX6_init_3 13 rfl rfl)
theorem dX6_init_84 : decode cX6_init 84 = .ok (.newarray .int, 2) := dk_188_10 (dk_at dksX6_init_3 15 rfl rfl)
theorem dX6_init_86 : decode cX6_init 86 = .ok (.putfield 40, 3) := dk_181 0 40 (dk_at dksX6_init_3 17 rfl rfl)
theorem dX6_init_89 : decode cX6_init 89 = .ok (.aload_n 0, 1) := dk_42 (dk_at dksX6_init_3 20 rfl rfl)
theorem dX6_init_90 : decode cX6_init 90 = .ok (.bipush 12, 2) := dk_16 12 (dk_at dksX6_init_3 21 rfl rfl)
theorem dX6_init_92 : decode cX6_init 92 = .ok (.newarray .int, 2) := dk_188_10 (dk_at dksX6_init_4 0 rfl rfl)
theorem dX6_init_94 : decode cX6_init 94 = .ok (.putfield 43, 3) := dk_181 0 43 (dk_at dksX6_init_4 2 rfl rfl)
theorem dX6_init_97 : decode cX6_init 97 = .ok (.aload_n 0, 1) := dk_42 (dk_at dksX6_init_4 5 rfl rfl)
theorem dX6_init_98 : decode cX6_init 98 = .ok (.bipush 96, 2) := dk_16 96 (dk_at dksX6_init_4 6 rfl rfl)
theorem dX6_init_100 : decode cX6_init 100 = .ok (.newarray .int, 2) := dk_188_10 (dk_at dksX6_init_4 8 rfl rfl)
theorem dX6_init_102 : decode cX6_init 102 = .ok (.putfield 46, 3) := dk_181 0 46 (dk_at dksX6_init_4 10 rfl rfl)
theorem dX6_init_105 : decode cX6_init 105 = .ok (.aload_n 0, 1) := dk_42 (dk_at dksX6_init_4 13 rfl rfl)
theorem dX6_init_106 : decode cX6_init 106 = .ok (.sipush 128, 3) := dk_17 0 128 (dk_at dksX6_init_4 14 rfl rfl)
theorem dX6_init_109 : decode cX6_init 109 = .ok (.newarray .int, 2) := dk_188_10 (dk_at dksX6_init_4 17 rfl rfl)
theorem dX6_init_111 : decode cX6_init 111 = .ok (.putfield 49, 3) := dk_181 0 49 (dk_at dksX6_init_4 19 rfl rfl)
theorem dX6_init_114 : decode cX6_init 114 = .ok (.aload_n 0, 1) := dk_42 (dk_at dksX6_init_4 22 rfl rfl)
theorem dX6_init_115 : decode cX6_init 115 = .ok (.bipush 100, 2) := dk_16 100 (dk_at dksX6_init_5 0 rfl rfl)
theorem dX6_init_117 : decode cX6_init 117 = .ok (.newarray .int, 2) := dk_188_10 (dk_at dksX6_init_5 2 rfl rfl)
theorem dX6_init_119 : decode cX6_init 119 = .ok (.putfield 52, 3) := dk_181 0 52 (dk_at dksX6_init_5 4 rfl rfl)
theorem dX6_init_122 : decode cX6_init 122 = .ok (.aload_n 0, 1) := dk_42 (dk_at dksX6_init_5 7 rfl rfl)
theorem dX6_init_123 : decode cX6_init 123 = .ok (.bipush 24, 2) := dk_16 24 (dk_at dksX6_init_5 8 rfl rfl)
theorem dX6_init_125 : decode cX6_init 125 = .ok (.newarray .int, 2) := dk_188_10 (dk_at dksX6_init_5 10 rfl rfl)
theorem dX6_init_127 : decode cX6_init 127 = .ok (.putfield 55, 3) := dk_181 0 55 (dk_at dksX6_init_5 12 rfl rfl)
theorem dX6_init_130 : decode cX6_init 130 = .ok (.aload_n 0, 1) := dk_42 (dk_at dksX6_init_5 15 rfl rfl)
theorem dX6_init_131 : decode cX6_init 131 = .ok (.bipush 60, 2) := dk_16 60 (dk_at dksX6_init_5 16 rfl rfl)
theorem dX6_init_133 : decode cX6_init 133 = .ok (.newarray .int, 2) := dk_188_10 (dk_at dksX6_init_5 18 rfl rfl)
theorem dX6_init_135 : decode cX6_init 135 = .ok (.putfield 58, 3) := dk_181 0 58 (dk_at dksX6_init_5 20 rfl rfl)
theorem dX6_init_138 : decode cX6_init 138 = .ok (.aload_n 0, 1) := dk_42 (dk_at dksX6_init_5 23 rfl rfl)
theorem dX6_init_139 : decode cX6_init 139 = .ok (.bipush 60, 2) := dk_16 60 (dk_at dksX6_init_6 0 rfl rfl)
theorem dX6_init_141 : decode cX6_init 141 = .ok (.newarray .int, 2) := dk_188_10 (dk_at dksX6_init_6 2 rfl rfl)
theorem dX6_init_143 : decode cX6_init 143 = .ok (.putfield 61, 3) := dk_181 0 61 (dk_at dksX6_init_6 4 rfl rfl)
theorem dX6_init_146 : decode cX6_init 146 = .ok (.aload_n 0, 1) := dk_42 (dk_at dksX6_init_6 7 rfl rfl)
theorem dX6_init_147 : decode cX6_init 147 = .ok (.getfield 7, 3) := dk_180 0 7 (dk_at dksX6_init_6 8 rfl rfl)
theorem dX6_init_150 : decode cX6_init 150 = .ok (.iconst 3, 1) := dk_6 (dk_at dksX6_init_6 11 rfl rfl)
theorem dX6_init_151 : decode cX6_init 151 = .ok (.iconst 2, 1) := dk_5 (dk_at dksX6_init_6 12 rfl rfl)
theorem dX6_init_152 : decode cX6_init 152 = .ok (.iastore, 1) := dk_79 (dk_at dksX6_init_6 13 rfl rfl)
theorem dX6_init_153 : decode cX6_init 153 = .ok (.aload_n 0, 1) := dk_42 (dk_at dksX6_init_6 14 rfl rfl)
theorem dX6_init_154 : decode cX6_init 154 = .ok (.getfield 7, 3) := dk_180 0 7 (dk_at dksX6_init_6 15 rfl rfl)
theorem dX6_init_157 : decode cX6_init 157 = .ok (.iconst 4, 1) := dk_7 (dk_at dksX6_init_6 18 rfl rfl)
theorem dX6_init_158 : decode cX6_init 158 = .ok (.iconst 1, 1) := dk_4 (dk_at dksX6_init_6 19 rfl rfl)
theorem dX6_init_159 : decode cX6_init 159 = .ok (.iastore, 1) := dk_79 (dk_at dksX6_init_6 20 rfl rfl)
theorem dX6_init_160 : decode cX6_init 160 = .ok (.iconst 0, 1) := dk_3 (dk_at dksX6_init_6 21 rfl rfl)
theorem dX6_init_161 : decode cX6_init 161 = .ok (.istore_n 1, 1) := dk_60 (dk_at dksX6_init_6 22 rfl rfl)
theorem dX6_init_162 : decode cX6_init 162 = .ok (.iload_n 1, 1) := dk_27 (dk_at dksX6_init_6 23 rfl rfl)
theorem dX6_init_163 : decode cX6_init 163 = .ok (.iconst 4, 1) := dk_7 (dk_at dksX6_init_7 0 rfl rfl)
theorem dX6_init_164 : decode cX6_init 164 = .ok (.if_icmp .ge 16, 3) := dk_162 0 16 (dk_at dksX6_init_7 1 rfl rfl)
theorem dX6_init_167 : decode cX6_init 167 = .ok (.aload_n 0, 1) := dk_42 (dk_at dksX6_init_7 4 rfl rfl)
theorem dX6_init_168 : decode cX6_init 168 = .ok (.getfield 19, 3) := dk_180 0 19 (dk_at dksX6_init_7 5 rfl rfl)
theorem dX6_init_171 : decode cX6_init 171 = .ok (.iload_n 1, 1) := dk_27 (dk_at dksX6_init_7 8 rfl rfl)
theorem dX6_init_172 : decode cX6_init 172 = .ok (.iconst (-1), 1) := dk_2 (dk_at dksX6_init_7 9 rfl rfl)
theorem dX6_init_173 : decode cX6_init 173 = .ok (.iastore, 1) := dk_79 (dk_at dksX6_init_7 10 rfl rfl)
theorem dX6_init_174 : decode cX6_init 174 = .ok (.iinc 1 1, 3) := dk_132 1 1 (dk_at dksX6_init_7 11 rfl rfl)
theorem dX6_init_177 : decode cX6_init 177 = .ok (.goto (-15), 3) := dk_167 255 241 (dk_at dksX6_init_7 14 rfl rfl)
theorem dX6_init_180 : decode cX6_init 180 = .ok (.return_, 1) := dk_177 (dk_at dksX6_init_7 17 rfl rfl)
abbrev cX6_person : ByteArray := prog_19_method_17_code
def yX6_person : MethodName := ⟨RX6, "person", "(II)I"⟩
def dkwX6_person_2 : List UInt8 := [42, 180, 0, 7, 3, 46, 4, 100, 172]
abbrev dktX6_person_2 : List UInt8 := dkwX6_person_2 ++ []
def dkwX6_person_1 : List UInt8 := [18, 82, 172, 42, 180, 0, 7, 3, 46, 16, 12, 160, 0, 6, 18, 83, 172, 42, 27, 28, 3, 182, 0, 84]
abbrev dktX6_person_1 : List UInt8 := dkwX6_person_1 ++ dktX6_person_2
def dkwX6_person_0 : List UInt8 := [27, 133, 9, 20, 0, 78, 184, 0, 65, 153, 0, 15, 28, 133, 9, 20, 0, 80, 184, 0, 65, 154, 0, 6]
abbrev dktX6_person_0 : List UInt8 := dkwX6_person_0 ++ dktX6_person_1
theorem dksX6_person_0 : cX6_person.data.toList.drop 0 = dktX6_person_0 := by decide +kernel
theorem dksX6_person_1 : cX6_person.data.toList.drop 24 = dktX6_person_1 := dk_seg dksX6_person_0 24 rfl rfl
theorem dksX6_person_2 : cX6_person.data.toList.drop 48 = dktX6_person_2 := dk_seg dksX6_person_1 24 rfl rfl
theorem dX6_person_0 : decode cX6_person 0 = .ok (.iload_n 1, 1) := dk_27 (dk_at dksX6_person_0 0 rfl rfl)
theorem dX6_person_1 : decode cX6_person 1 = .ok (.i2l, 1) := dk_133 (dk_at dksX6_person_0 1 rfl rfl)
theorem dX6_person_2 : decode cX6_person 2 = .ok (.lconst 0, 1) := dk_9 (dk_at dksX6_person_0 2 rfl rfl)
theorem dX6_person_3 : decode cX6_person 3 = .ok (.ldc2_w 78, 3) := dk_20 0 78 (dk_at dksX6_person_0 3 rfl rfl)
theorem dX6_person_6 : decode cX6_person 6 = .ok (.invokestatic 65, 3) := dk_184 0 65 (dk_at dksX6_person_0 6 rfl rfl)
theorem dX6_person_9 : decode cX6_person 9 = .ok (.ifCond .eq 15, 3) := dk_153 0 15 (dk_at dksX6_person_0 9 rfl rfl)
theorem dX6_person_12 : decode cX6_person 12 = .ok (.iload_n 2, 1) := dk_28 (dk_at dksX6_person_0 12 rfl rfl)
theorem dX6_person_13 : decode cX6_person 13 = .ok (.i2l, 1) := dk_133 (dk_at dksX6_person_0 13 rfl rfl)
theorem dX6_person_14 : decode cX6_person 14 = .ok (.lconst 0, 1) := dk_9 (dk_at dksX6_person_0 14 rfl rfl)
theorem dX6_person_15 : decode cX6_person 15 = .ok (.ldc2_w 80, 3) := dk_20 0 80 (dk_at dksX6_person_0 15 rfl rfl)
theorem dX6_person_18 : decode cX6_person 18 = .ok (.invokestatic 65, 3) := dk_184 0 65 (dk_at dksX6_person_0 18 rfl rfl)
theorem dX6_person_21 : decode cX6_person 21 = .ok (.ifCond .ne 6, 3) := dk_154 0 6 (dk_at dksX6_person_0 21 rfl rfl)
theorem dX6_person_24 : decode cX6_person 24 = .ok (.ldc 82, 2) := dk_18 82 (dk_at dksX6_person_1 0 rfl rfl)
theorem dX6_person_26 : decode cX6_person 26 = .ok (.ireturn, 1) := dk_172 (dk_at dksX6_person_1 2 rfl rfl)
theorem dX6_person_27 : decode cX6_person 27 = .ok (.aload_n 0, 1) := dk_42 (dk_at dksX6_person_1 3 rfl rfl)
theorem dX6_person_28 : decode cX6_person 28 = .ok (.getfield 7, 3) := dk_180 0 7 (dk_at dksX6_person_1 4 rfl rfl)
theorem dX6_person_31 : decode cX6_person 31 = .ok (.iconst 0, 1) := dk_3 (dk_at dksX6_person_1 7 rfl rfl)
theorem dX6_person_32 : decode cX6_person 32 = .ok (.iaload, 1) := dk_46 (dk_at dksX6_person_1 8 rfl rfl)
theorem dX6_person_33 : decode cX6_person 33 = .ok (.bipush 12, 2) := dk_16 12 (dk_at dksX6_person_1 9 rfl rfl)
theorem dX6_person_35 : decode cX6_person 35 = .ok (.if_icmp .ne 6, 3) := dk_160 0 6 (dk_at dksX6_person_1 11 rfl rfl)
theorem dX6_person_38 : decode cX6_person 38 = .ok (.ldc 83, 2) := dk_18 83 (dk_at dksX6_person_1 14 rfl rfl)
theorem dX6_person_40 : decode cX6_person 40 = .ok (.ireturn, 1) := dk_172 (dk_at dksX6_person_1 16 rfl rfl)
theorem dX6_person_41 : decode cX6_person 41 = .ok (.aload_n 0, 1) := dk_42 (dk_at dksX6_person_1 17 rfl rfl)
theorem dX6_person_42 : decode cX6_person 42 = .ok (.iload_n 1, 1) := dk_27 (dk_at dksX6_person_1 18 rfl rfl)
theorem dX6_person_43 : decode cX6_person 43 = .ok (.iload_n 2, 1) := dk_28 (dk_at dksX6_person_1 19 rfl rfl)
theorem dX6_person_44 : decode cX6_person 44 = .ok (.iconst 0, 1) := dk_3 (dk_at dksX6_person_1 20 rfl rfl)
theorem dX6_person_45 : decode cX6_person 45 = .ok (.invokevirtual 84, 3) := dk_182 0 84 (dk_at dksX6_person_1 21 rfl rfl)
theorem dX6_person_48 : decode cX6_person 48 = .ok (.aload_n 0, 1) := dk_42 (dk_at dksX6_person_2 0 rfl rfl)
theorem dX6_person_49 : decode cX6_person 49 = .ok (.getfield 7, 3) := dk_180 0 7 (dk_at dksX6_person_2 1 rfl rfl)
theorem dX6_person_52 : decode cX6_person 52 = .ok (.iconst 0, 1) := dk_3 (dk_at dksX6_person_2 4 rfl rfl)
theorem dX6_person_53 : decode cX6_person 53 = .ok (.iaload, 1) := dk_46 (dk_at dksX6_person_2 5 rfl rfl)
theorem dX6_person_54 : decode cX6_person 54 = .ok (.iconst 1, 1) := dk_4 (dk_at dksX6_person_2 6 rfl rfl)
theorem dX6_person_55 : decode cX6_person 55 = .ok (.isub, 1) := dk_100 (dk_at dksX6_person_2 7 rfl rfl)
theorem dX6_person_56 : decode cX6_person 56 = .ok (.ireturn, 1) := dk_172 (dk_at dksX6_person_2 8 rfl rfl)
abbrev cX6_isIn : ByteArray := prog_19_method_2_code
def yX6_isIn : MethodName := ⟨RX6, "isIn", "(JJJ)Z"⟩
def dkwX6_isIn_0 : List UInt8 := [30, 32, 148, 155, 0, 14, 30, 22, 4, 148, 157, 0, 7, 4, 167, 0, 4, 3, 172]
abbrev dktX6_isIn_0 : List UInt8 := dkwX6_isIn_0 ++ []
theorem dksX6_isIn_0 : cX6_isIn.data.toList.drop 0 = dktX6_isIn_0 := by decide +kernel
theorem dX6_isIn_0 : decode cX6_isIn 0 = .ok (.lload_n 0, 1) := dk_30 (dk_at dksX6_isIn_0 0 rfl rfl)
theorem dX6_isIn_1 : decode cX6_isIn 1 = .ok (.lload_n 2, 1) := dk_32 (dk_at dksX6_isIn_0 1 rfl rfl)
theorem dX6_isIn_2 : decode cX6_isIn 2 = .ok (.lcmp, 1) := dk_148 (dk_at dksX6_isIn_0 2 rfl rfl)
theorem dX6_isIn_3 : decode cX6_isIn 3 = .ok (.ifCond .lt 14, 3) := dk_155 0 14 (dk_at dksX6_isIn_0 3 rfl rfl)
theorem dX6_isIn_6 : decode cX6_isIn 6 = .ok (.lload_n 0, 1) := dk_30 (dk_at dksX6_isIn_0 6 rfl rfl)
theorem dX6_isIn_7 : decode cX6_isIn 7 = .ok (.lload 4, 2) := dk_22 4 (dk_at dksX6_isIn_0 7 rfl rfl)
theorem dX6_isIn_9 : decode cX6_isIn 9 = .ok (.lcmp, 1) := dk_148 (dk_at dksX6_isIn_0 9 rfl rfl)
theorem dX6_isIn_10 : decode cX6_isIn 10 = .ok (.ifCond .gt 7, 3) := dk_157 0 7 (dk_at dksX6_isIn_0 10 rfl rfl)
theorem dX6_isIn_13 : decode cX6_isIn 13 = .ok (.iconst 1, 1) := dk_4 (dk_at dksX6_isIn_0 13 rfl rfl)
theorem dX6_isIn_14 : decode cX6_isIn 14 = .ok (.goto 4, 3) := dk_167 0 4 (dk_at dksX6_isIn_0 14 rfl rfl)
theorem dX6_isIn_17 : decode cX6_isIn 17 = .ok (.iconst 0, 1) := dk_3 (dk_at dksX6_isIn_0 17 rfl rfl)
theorem dX6_isIn_18 : decode cX6_isIn 18 = .ok (.ireturn, 1) := dk_172 (dk_at dksX6_isIn_0 18 rfl rfl)
abbrev cX6_comes : ByteArray := prog_19_method_16_code
def yX6_comes : MethodName := ⟨RX6, "comes", "(III)V"⟩
def dkwX6_comes_3 : List UInt8 := [96, 79, 177]
abbrev dktX6_comes_3 : List UInt8 := dkwX6_comes_3 ++ []
def dkwX6_comes_2 : List UInt8 := [21, 4, 6, 96, 3, 79, 42, 180, 0, 7, 21, 4, 7, 96, 3, 79, 42, 180, 0, 7, 3, 92, 46, 4]
abbrev dktX6_comes_2 : List UInt8 := dkwX6_comes_2 ++ dktX6_comes_3
def dkwX6_comes_1 : List UInt8 := [180, 0, 7, 21, 4, 4, 96, 28, 79, 42, 180, 0, 7, 21, 4, 5, 96, 29, 79, 42, 180, 0, 7]
abbrev dktX6_comes_1 : List UInt8 := dkwX6_comes_1 ++ dktX6_comes_2
def dkwX6_comes_0 : List UInt8 := [16, 6, 8, 42, 180, 0, 7, 3, 46, 104, 96, 54, 4, 42, 180, 0, 7, 21, 4, 27, 79, 42]
abbrev dktX6_comes_0 : List UInt8 := dkwX6_comes_0 ++ dktX6_comes_1
theorem dksX6_comes_0 : cX6_comes.data.toList.drop 0 = dktX6_comes_0 := by decide +kernel
theorem dksX6_comes_1 : cX6_comes.data.toList.drop 22 = dktX6_comes_1 := dk_seg dksX6_comes_0 22 rfl rfl
theorem dksX6_comes_2 : cX6_comes.data.toList.drop 45 = dktX6_comes_2 := dk_seg dksX6_comes_1 23 rfl rfl
theorem dksX6_comes_3 : cX6_comes.data.toList.drop 69 = dktX6_comes_3 := dk_seg dksX6_comes_2 24 rfl rfl
theorem dX6_comes_0 : decode cX6_comes 0 = .ok (.bipush 6, 2) := dk_16 6 (dk_at dksX6_comes_0 0 rfl rfl)
theorem dX6_comes_2 : decode cX6_comes 2 = .ok (.iconst 5, 1) := dk_8 (dk_at dksX6_comes_0 2 rfl rfl)
theorem dX6_comes_3 : decode cX6_comes 3 = .ok (.aload_n 0, 1) := dk_42 (dk_at dksX6_comes_0 3 rfl rfl)
theorem dX6_comes_4 : decode cX6_comes 4 = .ok (.getfield 7, 3) := dk_180 0 7 (dk_at dksX6_comes_0 4 rfl rfl)
theorem dX6_comes_7 : decode cX6_comes 7 = .ok (.iconst 0, 1) := dk_3 (dk_at dksX6_comes_0 7 rfl rfl)
theorem dX6_comes_8 : decode cX6_comes 8 = .ok (.iaload, 1) := dk_46 (dk_at dksX6_comes_0 8 rfl rfl)
theorem dX6_comes_9 : decode cX6_comes 9 = .ok (.imul, 1) := dk_104 (dk_at dksX6_comes_0 9 rfl rfl)
theorem dX6_comes_10 : decode cX6_comes 10 = .ok (.iadd, 1) := dk_96 (dk_at dksX6_comes_0 10 rfl rfl)
theorem dX6_comes_11 : decode cX6_comes 11 = .ok (.istore 4, 2) := dk_54 4 (dk_at dksX6_comes_0 11 rfl rfl)
theorem dX6_comes_13 : decode cX6_comes 13 = .ok (.aload_n 0, 1) := dk_42 (dk_at dksX6_comes_0 13 rfl rfl)
theorem dX6_comes_14 : decode cX6_comes 14 = .ok (.getfield 7, 3) := dk_180 0 7 (dk_at dksX6_comes_0 14 rfl rfl)
theorem dX6_comes_17 : decode cX6_comes 17 = .ok (.iload 4, 2) := dk_21 4 (dk_at dksX6_comes_0 17 rfl rfl)
theorem dX6_comes_19 : decode cX6_comes 19 = .ok (.iload_n 1, 1) := dk_27 (dk_at dksX6_comes_0 19 rfl rfl)
theorem dX6_comes_20 : decode cX6_comes 20 = .ok (.iastore, 1) := dk_79 (dk_at dksX6_comes_0 20 rfl rfl)
theorem dX6_comes_21 : decode cX6_comes 21 = .ok (.aload_n 0, 1) := dk_42 (dk_at dksX6_comes_0 21 rfl rfl)
theorem dX6_comes_22 : decode cX6_comes 22 = .ok (.getfield 7, 3) := dk_180 0 7 (dk_at dksX6_comes_1 0 rfl rfl)
theorem dX6_comes_25 : decode cX6_comes 25 = .ok (.iload 4, 2) := dk_21 4 (dk_at dksX6_comes_1 3 rfl rfl)
theorem dX6_comes_27 : decode cX6_comes 27 = .ok (.iconst 1, 1) := dk_4 (dk_at dksX6_comes_1 5 rfl rfl)
theorem dX6_comes_28 : decode cX6_comes 28 = .ok (.iadd, 1) := dk_96 (dk_at dksX6_comes_1 6 rfl rfl)
theorem dX6_comes_29 : decode cX6_comes 29 = .ok (.iload_n 2, 1) := dk_28 (dk_at dksX6_comes_1 7 rfl rfl)
theorem dX6_comes_30 : decode cX6_comes 30 = .ok (.iastore, 1) := dk_79 (dk_at dksX6_comes_1 8 rfl rfl)
theorem dX6_comes_31 : decode cX6_comes 31 = .ok (.aload_n 0, 1) := dk_42 (dk_at dksX6_comes_1 9 rfl rfl)
theorem dX6_comes_32 : decode cX6_comes 32 = .ok (.getfield 7, 3) := dk_180 0 7 (dk_at dksX6_comes_1 10 rfl rfl)
theorem dX6_comes_35 : decode cX6_comes 35 = .ok (.iload 4, 2) := dk_21 4 (dk_at dksX6_comes_1 13 rfl rfl)
theorem dX6_comes_37 : decode cX6_comes 37 = .ok (.iconst 2, 1) := dk_5 (dk_at dksX6_comes_1 15 rfl rfl)
theorem dX6_comes_38 : decode cX6_comes 38 = .ok (.iadd, 1) := dk_96 (dk_at dksX6_comes_1 16 rfl rfl)
theorem dX6_comes_39 : decode cX6_comes 39 = .ok (.iload_n 3, 1) := dk_29 (dk_at dksX6_comes_1 17 rfl rfl)
theorem dX6_comes_40 : decode cX6_comes 40 = .ok (.iastore, 1) := dk_79 (dk_at dksX6_comes_1 18 rfl rfl)
theorem dX6_comes_41 : decode cX6_comes 41 = .ok (.aload_n 0, 1) := dk_42 (dk_at dksX6_comes_1 19 rfl rfl)
theorem dX6_comes_42 : decode cX6_comes 42 = .ok (.getfield 7, 3) := dk_180 0 7 (dk_at dksX6_comes_1 20 rfl rfl)
theorem dX6_comes_45 : decode cX6_comes 45 = .ok (.iload 4, 2) := dk_21 4 (dk_at dksX6_comes_2 0 rfl rfl)
theorem dX6_comes_47 : decode cX6_comes 47 = .ok (.iconst 3, 1) := dk_6 (dk_at dksX6_comes_2 2 rfl rfl)
theorem dX6_comes_48 : decode cX6_comes 48 = .ok (.iadd, 1) := dk_96 (dk_at dksX6_comes_2 3 rfl rfl)
theorem dX6_comes_49 : decode cX6_comes 49 = .ok (.iconst 0, 1) := dk_3 (dk_at dksX6_comes_2 4 rfl rfl)
theorem dX6_comes_50 : decode cX6_comes 50 = .ok (.iastore, 1) := dk_79 (dk_at dksX6_comes_2 5 rfl rfl)
theorem dX6_comes_51 : decode cX6_comes 51 = .ok (.aload_n 0, 1) := dk_42 (dk_at dksX6_comes_2 6 rfl rfl)
theorem dX6_comes_52 : decode cX6_comes 52 = .ok (.getfield 7, 3) := dk_180 0 7 (dk_at dksX6_comes_2 7 rfl rfl)
theorem dX6_comes_55 : decode cX6_comes 55 = .ok (.iload 4, 2) := dk_21 4 (dk_at dksX6_comes_2 10 rfl rfl)
theorem dX6_comes_57 : decode cX6_comes 57 = .ok (.iconst 4, 1) := dk_7 (dk_at dksX6_comes_2 12 rfl rfl)
theorem dX6_comes_58 : decode cX6_comes 58 = .ok (.iadd, 1) := dk_96 (dk_at dksX6_comes_2 13 rfl rfl)
theorem dX6_comes_59 : decode cX6_comes 59 = .ok (.iconst 0, 1) := dk_3 (dk_at dksX6_comes_2 14 rfl rfl)
theorem dX6_comes_60 : decode cX6_comes 60 = .ok (.iastore, 1) := dk_79 (dk_at dksX6_comes_2 15 rfl rfl)
theorem dX6_comes_61 : decode cX6_comes 61 = .ok (.aload_n 0, 1) := dk_42 (dk_at dksX6_comes_2 16 rfl rfl)
theorem dX6_comes_62 : decode cX6_comes 62 = .ok (.getfield 7, 3) := dk_180 0 7 (dk_at dksX6_comes_2 17 rfl rfl)
theorem dX6_comes_65 : decode cX6_comes 65 = .ok (.iconst 0, 1) := dk_3 (dk_at dksX6_comes_2 20 rfl rfl)
theorem dX6_comes_66 : decode cX6_comes 66 = .ok (.dup2, 1) := dk_92 (dk_at dksX6_comes_2 21 rfl rfl)
theorem dX6_comes_67 : decode cX6_comes 67 = .ok (.iaload, 1) := dk_46 (dk_at dksX6_comes_2 22 rfl rfl)
theorem dX6_comes_68 : decode cX6_comes 68 = .ok (.iconst 1, 1) := dk_4 (dk_at dksX6_comes_2 23 rfl rfl)
theorem dX6_comes_69 : decode cX6_comes 69 = .ok (.iadd, 1) := dk_96 (dk_at dksX6_comes_3 0 rfl rfl)
theorem dX6_comes_70 : decode cX6_comes 70 = .ok (.iastore, 1) := dk_79 (dk_at dksX6_comes_3 1 rfl rfl)
theorem dX6_comes_71 : decode cX6_comes 71 = .ok (.return_, 1) := dk_177 (dk_at dksX6_comes_3 2 rfl rfl)
abbrev cX6_told : ByteArray := prog_19_method_22_code
def yX6_told : MethodName := ⟨RX6, "told", "(II)I"⟩
def dkwX6_told_3 : List UInt8 := [182, 0, 88, 184, 0, 99, 172, 42, 27, 182, 0, 102, 172, 18, 82, 172]
abbrev dktX6_told_3 : List UInt8 := dkwX6_told_3 ++ []
def dkwX6_told_2 : List UInt8 := [42, 27, 28, 182, 0, 88, 172, 42, 27, 182, 0, 91, 172, 42, 27, 3, 182, 0, 88, 42, 27, 4]
abbrev dktX6_told_2 : List UInt8 := dkwX6_told_2 ++ dktX6_told_3
def dkwX6_told_1 : List UInt8 := [170, 0, 0, 0, 0, 0, 0, 79, 0, 0, 0, 0, 0, 0, 0, 6, 0, 0, 0, 44, 0, 0, 0, 44, 0, 0, 0, 44, 0, 0, 0, 44, 0, 0, 0, 51, 0, 0, 0, 57, 0, 0, 0, 73]
abbrev dktX6_told_1 : List UInt8 := dkwX6_told_1 ++ dktX6_told_2
def dkwX6_told_0 : List UInt8 := [42, 27, 182, 0, 95, 154, 0, 6, 18, 82, 172, 28]
abbrev dktX6_told_0 : List UInt8 := dkwX6_told_0 ++ dktX6_told_1
theorem dksX6_told_0 : cX6_told.data.toList.drop 0 = dktX6_told_0 := by decide +kernel
theorem dksX6_told_1 : cX6_told.data.toList.drop 12 = dktX6_told_1 := dk_seg dksX6_told_0 12 rfl rfl
theorem dksX6_told_2 : cX6_told.data.toList.drop 56 = dktX6_told_2 := dk_seg dksX6_told_1 44 rfl rfl
theorem dksX6_told_3 : cX6_told.data.toList.drop 78 = dktX6_told_3 := dk_seg dksX6_told_2 22 rfl rfl
theorem dX6_told_0 : decode cX6_told 0 = .ok (.aload_n 0, 1) := dk_42 (dk_at dksX6_told_0 0 rfl rfl)
theorem dX6_told_1 : decode cX6_told 1 = .ok (.iload_n 1, 1) := dk_27 (dk_at dksX6_told_0 1 rfl rfl)
theorem dX6_told_2 : decode cX6_told 2 = .ok (.invokevirtual 95, 3) := dk_182 0 95 (dk_at dksX6_told_0 2 rfl rfl)
theorem dX6_told_5 : decode cX6_told 5 = .ok (.ifCond .ne 6, 3) := dk_154 0 6 (dk_at dksX6_told_0 5 rfl rfl)
theorem dX6_told_8 : decode cX6_told 8 = .ok (.ldc 82, 2) := dk_18 82 (dk_at dksX6_told_0 8 rfl rfl)
theorem dX6_told_10 : decode cX6_told 10 = .ok (.ireturn, 1) := dk_172 (dk_at dksX6_told_0 10 rfl rfl)
theorem dX6_told_11 : decode cX6_told 11 = .ok (.iload_n 2, 1) := dk_28 (dk_at dksX6_told_0 11 rfl rfl)
theorem dX6_told_12 : decode cX6_told 12 = .ok (.tableswitch 79 0 6 #[44, 44, 44, 44, 51, 57, 73], 44) := by decide +kernel
theorem dX6_told_56 : decode cX6_told 56 = .ok (.aload_n 0, 1) := dk_42 (dk_at dksX6_told_2 0 rfl rfl)
theorem dX6_told_57 : decode cX6_told 57 = .ok (.iload_n 1, 1) := dk_27 (dk_at dksX6_told_2 1 rfl rfl)
theorem dX6_told_58 : decode cX6_told 58 = .ok (.iload_n 2, 1) := dk_28 (dk_at dksX6_told_2 2 rfl rfl)
theorem dX6_told_59 : decode cX6_told 59 = .ok (.invokevirtual 88, 3) := dk_182 0 88 (dk_at dksX6_told_2 3 rfl rfl)
theorem dX6_told_62 : decode cX6_told 62 = .ok (.ireturn, 1) := dk_172 (dk_at dksX6_told_2 6 rfl rfl)
theorem dX6_told_63 : decode cX6_told 63 = .ok (.aload_n 0, 1) := dk_42 (dk_at dksX6_told_2 7 rfl rfl)
theorem dX6_told_64 : decode cX6_told 64 = .ok (.iload_n 1, 1) := dk_27 (dk_at dksX6_told_2 8 rfl rfl)
theorem dX6_told_65 : decode cX6_told 65 = .ok (.invokevirtual 91, 3) := dk_182 0 91 (dk_at dksX6_told_2 9 rfl rfl)
theorem dX6_told_68 : decode cX6_told 68 = .ok (.ireturn, 1) := dk_172 (dk_at dksX6_told_2 12 rfl rfl)
theorem dX6_told_69 : decode cX6_told 69 = .ok (.aload_n 0, 1) := dk_42 (dk_at dksX6_told_2 13 rfl rfl)
theorem dX6_told_70 : decode cX6_told 70 = .ok (.iload_n 1, 1) := dk_27 (dk_at dksX6_told_2 14 rfl rfl)
theorem dX6_told_71 : decode cX6_told 71 = .ok (.iconst 0, 1) := dk_3 (dk_at dksX6_told_2 15 rfl rfl)
theorem dX6_told_72 : decode cX6_told 72 = .ok (.invokevirtual 88, 3) := dk_182 0 88 (dk_at dksX6_told_2 16 rfl rfl)
theorem dX6_told_75 : decode cX6_told 75 = .ok (.aload_n 0, 1) := dk_42 (dk_at dksX6_told_2 19 rfl rfl)
theorem dX6_told_76 : decode cX6_told 76 = .ok (.iload_n 1, 1) := dk_27 (dk_at dksX6_told_2 20 rfl rfl)
theorem dX6_told_77 : decode cX6_told 77 = .ok (.iconst 1, 1) := dk_4 (dk_at dksX6_told_2 21 rfl rfl)
theorem dX6_told_78 : decode cX6_told 78 = .ok (.invokevirtual 88, 3) := dk_182 0 88 (dk_at dksX6_told_3 0 rfl rfl)
theorem dX6_told_81 : decode cX6_told 81 = .ok (.invokestatic 99, 3) := dk_184 0 99 (dk_at dksX6_told_3 3 rfl rfl)
theorem dX6_told_84 : decode cX6_told 84 = .ok (.ireturn, 1) := dk_172 (dk_at dksX6_told_3 6 rfl rfl)
theorem dX6_told_85 : decode cX6_told 85 = .ok (.aload_n 0, 1) := dk_42 (dk_at dksX6_told_3 7 rfl rfl)
theorem dX6_told_86 : decode cX6_told 86 = .ok (.iload_n 1, 1) := dk_27 (dk_at dksX6_told_3 8 rfl rfl)
theorem dX6_told_87 : decode cX6_told 87 = .ok (.invokevirtual 102, 3) := dk_182 0 102 (dk_at dksX6_told_3 9 rfl rfl)
theorem dX6_told_90 : decode cX6_told 90 = .ok (.ireturn, 1) := dk_172 (dk_at dksX6_told_3 12 rfl rfl)
theorem dX6_told_91 : decode cX6_told 91 = .ok (.ldc 82, 2) := dk_18 82 (dk_at dksX6_told_3 13 rfl rfl)
theorem dX6_told_93 : decode cX6_told 93 = .ok (.ireturn, 1) := dk_172 (dk_at dksX6_told_3 15 rfl rfl)
abbrev cX6_isPerson : ByteArray := prog_19_method_9_code
def yX6_isPerson : MethodName := ⟨RX6, "isPerson", "(I)Z"⟩
def dkwX6_isPerson_0 : List UInt8 := [27, 133, 9, 42, 180, 0, 7, 3, 46, 4, 100, 133, 184, 0, 65, 172]
abbrev dktX6_isPerson_0 : List UInt8 := dkwX6_isPerson_0 ++ []
theorem dksX6_isPerson_0 : cX6_isPerson.data.toList.drop 0 = dktX6_isPerson_0 := by decide +kernel
theorem dX6_isPerson_0 : decode cX6_isPerson 0 = .ok (.iload_n 1, 1) := dk_27 (dk_at dksX6_isPerson_0 0 rfl rfl)
theorem dX6_isPerson_1 : decode cX6_isPerson 1 = .ok (.i2l, 1) := dk_133 (dk_at dksX6_isPerson_0 1 rfl rfl)
theorem dX6_isPerson_2 : decode cX6_isPerson 2 = .ok (.lconst 0, 1) := dk_9 (dk_at dksX6_isPerson_0 2 rfl rfl)
theorem dX6_isPerson_3 : decode cX6_isPerson 3 = .ok (.aload_n 0, 1) := dk_42 (dk_at dksX6_isPerson_0 3 rfl rfl)
theorem dX6_isPerson_4 : decode cX6_isPerson 4 = .ok (.getfield 7, 3) := dk_180 0 7 (dk_at dksX6_isPerson_0 4 rfl rfl)
theorem dX6_isPerson_7 : decode cX6_isPerson 7 = .ok (.iconst 0, 1) := dk_3 (dk_at dksX6_isPerson_0 7 rfl rfl)
theorem dX6_isPerson_8 : decode cX6_isPerson 8 = .ok (.iaload, 1) := dk_46 (dk_at dksX6_isPerson_0 8 rfl rfl)
theorem dX6_isPerson_9 : decode cX6_isPerson 9 = .ok (.iconst 1, 1) := dk_4 (dk_at dksX6_isPerson_0 9 rfl rfl)
theorem dX6_isPerson_10 : decode cX6_isPerson 10 = .ok (.isub, 1) := dk_100 (dk_at dksX6_isPerson_0 10 rfl rfl)
theorem dX6_isPerson_11 : decode cX6_isPerson 11 = .ok (.i2l, 1) := dk_133 (dk_at dksX6_isPerson_0 11 rfl rfl)
theorem dX6_isPerson_12 : decode cX6_isPerson 12 = .ok (.invokestatic 65, 3) := dk_184 0 65 (dk_at dksX6_isPerson_0 12 rfl rfl)
theorem dX6_isPerson_15 : decode cX6_isPerson 15 = .ok (.ireturn, 1) := dk_172 (dk_at dksX6_isPerson_0 15 rfl rfl)
abbrev cX6_of : ByteArray := prog_19_method_7_code
def yX6_of : MethodName := ⟨RX6, "of", "(II)I"⟩
def dkwX6_of_0 : List UInt8 := [42, 180, 0, 7, 16, 6, 8, 27, 104, 96, 28, 96, 46, 172]
abbrev dktX6_of_0 : List UInt8 := dkwX6_of_0 ++ []
theorem dksX6_of_0 : cX6_of.data.toList.drop 0 = dktX6_of_0 := by decide +kernel
theorem dX6_of_0 : decode cX6_of 0 = .ok (.aload_n 0, 1) := dk_42 (dk_at dksX6_of_0 0 rfl rfl)
theorem dX6_of_1 : decode cX6_of 1 = .ok (.getfield 7, 3) := dk_180 0 7 (dk_at dksX6_of_0 1 rfl rfl)
theorem dX6_of_4 : decode cX6_of 4 = .ok (.bipush 6, 2) := dk_16 6 (dk_at dksX6_of_0 4 rfl rfl)
theorem dX6_of_6 : decode cX6_of 6 = .ok (.iconst 5, 1) := dk_8 (dk_at dksX6_of_0 6 rfl rfl)
theorem dX6_of_7 : decode cX6_of 7 = .ok (.iload_n 1, 1) := dk_27 (dk_at dksX6_of_0 7 rfl rfl)
theorem dX6_of_8 : decode cX6_of 8 = .ok (.imul, 1) := dk_104 (dk_at dksX6_of_0 8 rfl rfl)
theorem dX6_of_9 : decode cX6_of 9 = .ok (.iadd, 1) := dk_96 (dk_at dksX6_of_0 9 rfl rfl)
theorem dX6_of_10 : decode cX6_of 10 = .ok (.iload_n 2, 1) := dk_28 (dk_at dksX6_of_0 10 rfl rfl)
theorem dX6_of_11 : decode cX6_of 11 = .ok (.iadd, 1) := dk_96 (dk_at dksX6_of_0 11 rfl rfl)
theorem dX6_of_12 : decode cX6_of 12 = .ok (.iaload, 1) := dk_46 (dk_at dksX6_of_0 12 rfl rfl)
theorem dX6_of_13 : decode cX6_of 13 = .ok (.ireturn, 1) := dk_172 (dk_at dksX6_of_0 13 rfl rfl)
abbrev cX6_followers : ByteArray := prog_19_method_18_code
def yX6_followers : MethodName := ⟨RX6, "followers", "(I)I"⟩
def dkwX6_followers_2 : List UInt8 := [182, 0, 88, 167, 0, 4, 3, 128, 61, 132, 4, 1, 167, 255, 218, 167, 255, 205, 28, 172]
abbrev dktX6_followers_2 : List UInt8 := dkwX6_followers_2 ++ []
def dkwX6_followers_1 : List UInt8 := [180, 0, 7, 3, 46, 162, 0, 33, 28, 29, 21, 4, 122, 4, 126, 4, 160, 0, 13, 42, 21, 4, 7]
abbrev dktX6_followers_1 : List UInt8 := dkwX6_followers_1 ++ dktX6_followers_2
def dkwX6_followers_0 : List UInt8 := [42, 27, 7, 182, 0, 88, 61, 2, 62, 28, 29, 159, 0, 52, 28, 62, 3, 54, 4, 21, 4, 42]
abbrev dktX6_followers_0 : List UInt8 := dkwX6_followers_0 ++ dktX6_followers_1
theorem dksX6_followers_0 : cX6_followers.data.toList.drop 0 = dktX6_followers_0 := by decide +kernel
theorem dksX6_followers_1 : cX6_followers.data.toList.drop 22 = dktX6_followers_1 := dk_seg dksX6_followers_0 22 rfl rfl
theorem dksX6_followers_2 : cX6_followers.data.toList.drop 45 = dktX6_followers_2 := dk_seg dksX6_followers_1 23 rfl rfl
theorem dX6_followers_0 : decode cX6_followers 0 = .ok (.aload_n 0, 1) := dk_42 (dk_at dksX6_followers_0 0 rfl rfl)
theorem dX6_followers_1 : decode cX6_followers 1 = .ok (.iload_n 1, 1) := dk_27 (dk_at dksX6_followers_0 1 rfl rfl)
theorem dX6_followers_2 : decode cX6_followers 2 = .ok (.iconst 4, 1) := dk_7 (dk_at dksX6_followers_0 2 rfl rfl)
theorem dX6_followers_3 : decode cX6_followers 3 = .ok (.invokevirtual 88, 3) := dk_182 0 88 (dk_at dksX6_followers_0 3 rfl rfl)
theorem dX6_followers_6 : decode cX6_followers 6 = .ok (.istore_n 2, 1) := dk_61 (dk_at dksX6_followers_0 6 rfl rfl)
theorem dX6_followers_7 : decode cX6_followers 7 = .ok (.iconst (-1), 1) := dk_2 (dk_at dksX6_followers_0 7 rfl rfl)
theorem dX6_followers_8 : decode cX6_followers 8 = .ok (.istore_n 3, 1) := dk_62 (dk_at dksX6_followers_0 8 rfl rfl)
theorem dX6_followers_9 : decode cX6_followers 9 = .ok (.iload_n 2, 1) := dk_28 (dk_at dksX6_followers_0 9 rfl rfl)
theorem dX6_followers_10 : decode cX6_followers 10 = .ok (.iload_n 3, 1) := dk_29 (dk_at dksX6_followers_0 10 rfl rfl)
theorem dX6_followers_11 : decode cX6_followers 11 = .ok (.if_icmp .eq 52, 3) := dk_159 0 52 (dk_at dksX6_followers_0 11 rfl rfl)
theorem dX6_followers_14 : decode cX6_followers 14 = .ok (.iload_n 2, 1) := dk_28 (dk_at dksX6_followers_0 14 rfl rfl)
theorem dX6_followers_15 : decode cX6_followers 15 = .ok (.istore_n 3, 1) := dk_62 (dk_at dksX6_followers_0 15 rfl rfl)
theorem dX6_followers_16 : decode cX6_followers 16 = .ok (.iconst 0, 1) := dk_3 (dk_at dksX6_followers_0 16 rfl rfl)
theorem dX6_followers_17 : decode cX6_followers 17 = .ok (.istore 4, 2) := dk_54 4 (dk_at dksX6_followers_0 17 rfl rfl)
theorem dX6_followers_19 : decode cX6_followers 19 = .ok (.iload 4, 2) := dk_21 4 (dk_at dksX6_followers_0 19 rfl rfl)
theorem dX6_followers_21 : decode cX6_followers 21 = .ok (.aload_n 0, 1) := dk_42 (dk_at dksX6_followers_0 21 rfl rfl)
theorem dX6_followers_22 : decode cX6_followers 22 = .ok (.getfield 7, 3) := dk_180 0 7 (dk_at dksX6_followers_1 0 rfl rfl)
theorem dX6_followers_25 : decode cX6_followers 25 = .ok (.iconst 0, 1) := dk_3 (dk_at dksX6_followers_1 3 rfl rfl)
theorem dX6_followers_26 : decode cX6_followers 26 = .ok (.iaload, 1) := dk_46 (dk_at dksX6_followers_1 4 rfl rfl)
theorem dX6_followers_27 : decode cX6_followers 27 = .ok (.if_icmp .ge 33, 3) := dk_162 0 33 (dk_at dksX6_followers_1 5 rfl rfl)
theorem dX6_followers_30 : decode cX6_followers 30 = .ok (.iload_n 2, 1) := dk_28 (dk_at dksX6_followers_1 8 rfl rfl)
theorem dX6_followers_31 : decode cX6_followers 31 = .ok (.iload_n 3, 1) := dk_29 (dk_at dksX6_followers_1 9 rfl rfl)
theorem dX6_followers_32 : decode cX6_followers 32 = .ok (.iload 4, 2) := dk_21 4 (dk_at dksX6_followers_1 10 rfl rfl)
theorem dX6_followers_34 : decode cX6_followers 34 = .ok (.ishr, 1) := dk_122 (dk_at dksX6_followers_1 12 rfl rfl)
theorem dX6_followers_35 : decode cX6_followers 35 = .ok (.iconst 1, 1) := dk_4 (dk_at dksX6_followers_1 13 rfl rfl)
theorem dX6_followers_36 : decode cX6_followers 36 = .ok (.iand, 1) := dk_126 (dk_at dksX6_followers_1 14 rfl rfl)
theorem dX6_followers_37 : decode cX6_followers 37 = .ok (.iconst 1, 1) := dk_4 (dk_at dksX6_followers_1 15 rfl rfl)
theorem dX6_followers_38 : decode cX6_followers 38 = .ok (.if_icmp .ne 13, 3) := dk_160 0 13 (dk_at dksX6_followers_1 16 rfl rfl)
theorem dX6_followers_41 : decode cX6_followers 41 = .ok (.aload_n 0, 1) := dk_42 (dk_at dksX6_followers_1 19 rfl rfl)
theorem dX6_followers_42 : decode cX6_followers 42 = .ok (.iload 4, 2) := dk_21 4 (dk_at dksX6_followers_1 20 rfl rfl)
theorem dX6_followers_44 : decode cX6_followers 44 = .ok (.iconst 4, 1) := dk_7 (dk_at dksX6_followers_1 22 rfl rfl)
theorem dX6_followers_45 : decode cX6_followers 45 = .ok (.invokevirtual 88, 3) := dk_182 0 88 (dk_at dksX6_followers_2 0 rfl rfl)
theorem dX6_followers_48 : decode cX6_followers 48 = .ok (.goto 4, 3) := dk_167 0 4 (dk_at dksX6_followers_2 3 rfl rfl)
theorem dX6_followers_51 : decode cX6_followers 51 = .ok (.iconst 0, 1) := dk_3 (dk_at dksX6_followers_2 6 rfl rfl)
theorem dX6_followers_52 : decode cX6_followers 52 = .ok (.ior, 1) := dk_128 (dk_at dksX6_followers_2 7 rfl rfl)
theorem dX6_followers_53 : decode cX6_followers 53 = .ok (.istore_n 2, 1) := dk_61 (dk_at dksX6_followers_2 8 rfl rfl)
theorem dX6_followers_54 : decode cX6_followers 54 = .ok (.iinc 4 1, 3) := dk_132 4 1 (dk_at dksX6_followers_2 9 rfl rfl)
theorem dX6_followers_57 : decode cX6_followers 57 = .ok (.goto (-38), 3) := dk_167 255 218 (dk_at dksX6_followers_2 12 rfl rfl)
theorem dX6_followers_60 : decode cX6_followers 60 = .ok (.goto (-51), 3) := dk_167 255 205 (dk_at dksX6_followers_2 15 rfl rfl)
theorem dX6_followers_63 : decode cX6_followers 63 = .ok (.iload_n 2, 1) := dk_28 (dk_at dksX6_followers_2 18 rfl rfl)
theorem dX6_followers_64 : decode cX6_followers 64 = .ok (.ireturn, 1) := dk_172 (dk_at dksX6_followers_2 19 rfl rfl)
abbrev cX6_worthOf : ByteArray := prog_19_method_20_code
def yX6_worthOf : MethodName := ⟨RX6, "worthOf", "(II)I"⟩
def dkwX6_worthOf_3 : List UInt8 := [172, 27, 172]
abbrev dktX6_worthOf_3 : List UInt8 := dkwX6_worthOf_3 ++ []
def dkwX6_worthOf_2 : List UInt8 := [27, 8, 96, 172, 16, 100, 27, 100, 172, 5, 27, 8, 96, 104, 172, 16, 93, 27, 100, 172, 16, 10, 27, 104]
abbrev dktX6_worthOf_2 : List UInt8 := dkwX6_worthOf_2 ++ dktX6_worthOf_3
def dkwX6_worthOf_1 : List UInt8 := [170, 0, 0, 0, 0, 0, 60, 0, 0, 0, 1, 0, 0, 0, 5, 0, 0, 0, 35, 0, 0, 0, 39, 0, 0, 0, 44, 0, 0, 0, 50, 0, 0, 0, 55]
abbrev dktX6_worthOf_1 : List UInt8 := dkwX6_worthOf_1 ++ dktX6_worthOf_2
def dkwX6_worthOf_0 : List UInt8 := [26]
abbrev dktX6_worthOf_0 : List UInt8 := dkwX6_worthOf_0 ++ dktX6_worthOf_1
theorem dksX6_worthOf_0 : cX6_worthOf.data.toList.drop 0 = dktX6_worthOf_0 := by decide +kernel
theorem dksX6_worthOf_1 : cX6_worthOf.data.toList.drop 1 = dktX6_worthOf_1 := dk_seg dksX6_worthOf_0 1 rfl rfl
theorem dksX6_worthOf_2 : cX6_worthOf.data.toList.drop 36 = dktX6_worthOf_2 := dk_seg dksX6_worthOf_1 35 rfl rfl
theorem dksX6_worthOf_3 : cX6_worthOf.data.toList.drop 60 = dktX6_worthOf_3 := dk_seg dksX6_worthOf_2 24 rfl rfl
theorem dX6_worthOf_0 : decode cX6_worthOf 0 = .ok (.iload_n 0, 1) := dk_26 (dk_at dksX6_worthOf_0 0 rfl rfl)
theorem dX6_worthOf_1 : decode cX6_worthOf 1 = .ok (.tableswitch 60 1 5 #[35, 39, 44, 50, 55], 35) := by decide +kernel
theorem dX6_worthOf_36 : decode cX6_worthOf 36 = .ok (.iload_n 1, 1) := dk_27 (dk_at dksX6_worthOf_2 0 rfl rfl)
theorem dX6_worthOf_37 : decode cX6_worthOf 37 = .ok (.iconst 5, 1) := dk_8 (dk_at dksX6_worthOf_2 1 rfl rfl)
theorem dX6_worthOf_38 : decode cX6_worthOf 38 = .ok (.iadd, 1) := dk_96 (dk_at dksX6_worthOf_2 2 rfl rfl)
theorem dX6_worthOf_39 : decode cX6_worthOf 39 = .ok (.ireturn, 1) := dk_172 (dk_at dksX6_worthOf_2 3 rfl rfl)
theorem dX6_worthOf_40 : decode cX6_worthOf 40 = .ok (.bipush 100, 2) := dk_16 100 (dk_at dksX6_worthOf_2 4 rfl rfl)
theorem dX6_worthOf_42 : decode cX6_worthOf 42 = .ok (.iload_n 1, 1) := dk_27 (dk_at dksX6_worthOf_2 6 rfl rfl)
theorem dX6_worthOf_43 : decode cX6_worthOf 43 = .ok (.isub, 1) := dk_100 (dk_at dksX6_worthOf_2 7 rfl rfl)
theorem dX6_worthOf_44 : decode cX6_worthOf 44 = .ok (.ireturn, 1) := dk_172 (dk_at dksX6_worthOf_2 8 rfl rfl)
theorem dX6_worthOf_45 : decode cX6_worthOf 45 = .ok (.iconst 2, 1) := dk_5 (dk_at dksX6_worthOf_2 9 rfl rfl)
theorem dX6_worthOf_46 : decode cX6_worthOf 46 = .ok (.iload_n 1, 1) := dk_27 (dk_at dksX6_worthOf_2 10 rfl rfl)
theorem dX6_worthOf_47 : decode cX6_worthOf 47 = .ok (.iconst 5, 1) := dk_8 (dk_at dksX6_worthOf_2 11 rfl rfl)
theorem dX6_worthOf_48 : decode cX6_worthOf 48 = .ok (.iadd, 1) := dk_96 (dk_at dksX6_worthOf_2 12 rfl rfl)
theorem dX6_worthOf_49 : decode cX6_worthOf 49 = .ok (.imul, 1) := dk_104 (dk_at dksX6_worthOf_2 13 rfl rfl)
theorem dX6_worthOf_50 : decode cX6_worthOf 50 = .ok (.ireturn, 1) := dk_172 (dk_at dksX6_worthOf_2 14 rfl rfl)
theorem dX6_worthOf_51 : decode cX6_worthOf 51 = .ok (.bipush 93, 2) := dk_16 93 (dk_at dksX6_worthOf_2 15 rfl rfl)
theorem dX6_worthOf_53 : decode cX6_worthOf 53 = .ok (.iload_n 1, 1) := dk_27 (dk_at dksX6_worthOf_2 17 rfl rfl)
theorem dX6_worthOf_54 : decode cX6_worthOf 54 = .ok (.isub, 1) := dk_100 (dk_at dksX6_worthOf_2 18 rfl rfl)
theorem dX6_worthOf_55 : decode cX6_worthOf 55 = .ok (.ireturn, 1) := dk_172 (dk_at dksX6_worthOf_2 19 rfl rfl)
theorem dX6_worthOf_56 : decode cX6_worthOf 56 = .ok (.bipush 10, 2) := dk_16 10 (dk_at dksX6_worthOf_2 20 rfl rfl)
theorem dX6_worthOf_58 : decode cX6_worthOf 58 = .ok (.iload_n 1, 1) := dk_27 (dk_at dksX6_worthOf_2 22 rfl rfl)
theorem dX6_worthOf_59 : decode cX6_worthOf 59 = .ok (.imul, 1) := dk_104 (dk_at dksX6_worthOf_2 23 rfl rfl)
theorem dX6_worthOf_60 : decode cX6_worthOf 60 = .ok (.ireturn, 1) := dk_172 (dk_at dksX6_worthOf_3 0 rfl rfl)
theorem dX6_worthOf_61 : decode cX6_worthOf 61 = .ok (.iload_n 1, 1) := dk_27 (dk_at dksX6_worthOf_3 1 rfl rfl)
theorem dX6_worthOf_62 : decode cX6_worthOf 62 = .ok (.ireturn, 1) := dk_172 (dk_at dksX6_worthOf_3 2 rfl rfl)
abbrev cX6_goneOn : ByteArray := prog_19_method_21_code
def yX6_goneOn : MethodName := ⟨RX6, "goneOn", "(I)I"⟩
def dkwX6_goneOn_1 : List UInt8 := [126, 96, 61, 132, 3, 1, 167, 255, 230, 28, 172]
abbrev dktX6_goneOn_1 : List UInt8 := dkwX6_goneOn_1 ++ []
def dkwX6_goneOn_0 : List UInt8 := [3, 61, 3, 62, 29, 42, 180, 0, 7, 4, 46, 162, 0, 22, 28, 42, 29, 6, 182, 0, 73, 27, 122, 4]
abbrev dktX6_goneOn_0 : List UInt8 := dkwX6_goneOn_0 ++ dktX6_goneOn_1
theorem dksX6_goneOn_0 : cX6_goneOn.data.toList.drop 0 = dktX6_goneOn_0 := by decide +kernel
theorem dksX6_goneOn_1 : cX6_goneOn.data.toList.drop 24 = dktX6_goneOn_1 := dk_seg dksX6_goneOn_0 24 rfl rfl
theorem dX6_goneOn_0 : decode cX6_goneOn 0 = .ok (.iconst 0, 1) := dk_3 (dk_at dksX6_goneOn_0 0 rfl rfl)
theorem dX6_goneOn_1 : decode cX6_goneOn 1 = .ok (.istore_n 2, 1) := dk_61 (dk_at dksX6_goneOn_0 1 rfl rfl)
theorem dX6_goneOn_2 : decode cX6_goneOn 2 = .ok (.iconst 0, 1) := dk_3 (dk_at dksX6_goneOn_0 2 rfl rfl)
theorem dX6_goneOn_3 : decode cX6_goneOn 3 = .ok (.istore_n 3, 1) := dk_62 (dk_at dksX6_goneOn_0 3 rfl rfl)
theorem dX6_goneOn_4 : decode cX6_goneOn 4 = .ok (.iload_n 3, 1) := dk_29 (dk_at dksX6_goneOn_0 4 rfl rfl)
theorem dX6_goneOn_5 : decode cX6_goneOn 5 = .ok (.aload_n 0, 1) := dk_42 (dk_at dksX6_goneOn_0 5 rfl rfl)
theorem dX6_goneOn_6 : decode cX6_goneOn 6 = .ok (.getfield 7, 3) := dk_180 0 7 (dk_at dksX6_goneOn_0 6 rfl rfl)
theorem dX6_goneOn_9 : decode cX6_goneOn 9 = .ok (.iconst 1, 1) := dk_4 (dk_at dksX6_goneOn_0 9 rfl rfl)
theorem dX6_goneOn_10 : decode cX6_goneOn 10 = .ok (.iaload, 1) := dk_46 (dk_at dksX6_goneOn_0 10 rfl rfl)
theorem dX6_goneOn_11 : decode cX6_goneOn 11 = .ok (.if_icmp .ge 22, 3) := dk_162 0 22 (dk_at dksX6_goneOn_0 11 rfl rfl)
theorem dX6_goneOn_14 : decode cX6_goneOn 14 = .ok (.iload_n 2, 1) := dk_28 (dk_at dksX6_goneOn_0 14 rfl rfl)
theorem dX6_goneOn_15 : decode cX6_goneOn 15 = .ok (.aload_n 0, 1) := dk_42 (dk_at dksX6_goneOn_0 15 rfl rfl)
theorem dX6_goneOn_16 : decode cX6_goneOn 16 = .ok (.iload_n 3, 1) := dk_29 (dk_at dksX6_goneOn_0 16 rfl rfl)
theorem dX6_goneOn_17 : decode cX6_goneOn 17 = .ok (.iconst 3, 1) := dk_6 (dk_at dksX6_goneOn_0 17 rfl rfl)
theorem dX6_goneOn_18 : decode cX6_goneOn 18 = .ok (.invokevirtual 73, 3) := dk_182 0 73 (dk_at dksX6_goneOn_0 18 rfl rfl)
theorem dX6_goneOn_21 : decode cX6_goneOn 21 = .ok (.iload_n 1, 1) := dk_27 (dk_at dksX6_goneOn_0 21 rfl rfl)
theorem dX6_goneOn_22 : decode cX6_goneOn 22 = .ok (.ishr, 1) := dk_122 (dk_at dksX6_goneOn_0 22 rfl rfl)
theorem dX6_goneOn_23 : decode cX6_goneOn 23 = .ok (.iconst 1, 1) := dk_4 (dk_at dksX6_goneOn_0 23 rfl rfl)
theorem dX6_goneOn_24 : decode cX6_goneOn 24 = .ok (.iand, 1) := dk_126 (dk_at dksX6_goneOn_1 0 rfl rfl)
theorem dX6_goneOn_25 : decode cX6_goneOn 25 = .ok (.iadd, 1) := dk_96 (dk_at dksX6_goneOn_1 1 rfl rfl)
theorem dX6_goneOn_26 : decode cX6_goneOn 26 = .ok (.istore_n 2, 1) := dk_61 (dk_at dksX6_goneOn_1 2 rfl rfl)
theorem dX6_goneOn_27 : decode cX6_goneOn 27 = .ok (.iinc 3 1, 3) := dk_132 3 1 (dk_at dksX6_goneOn_1 3 rfl rfl)
theorem dX6_goneOn_30 : decode cX6_goneOn 30 = .ok (.goto (-26), 3) := dk_167 255 230 (dk_at dksX6_goneOn_1 6 rfl rfl)
theorem dX6_goneOn_33 : decode cX6_goneOn 33 = .ok (.iload_n 2, 1) := dk_28 (dk_at dksX6_goneOn_1 9 rfl rfl)
theorem dX6_goneOn_34 : decode cX6_goneOn 34 = .ok (.ireturn, 1) := dk_172 (dk_at dksX6_goneOn_1 10 rfl rfl)
abbrev cX6_dee : ByteArray := prog_19_method_8_code
def yX6_dee : MethodName := ⟨RX6, "dee", "(II)I"⟩
def dkwX6_dee_0 : List UInt8 := [42, 180, 0, 7, 16, 66, 16, 6, 27, 104, 96, 28, 96, 46, 172]
abbrev dktX6_dee_0 : List UInt8 := dkwX6_dee_0 ++ []
theorem dksX6_dee_0 : cX6_dee.data.toList.drop 0 = dktX6_dee_0 := by decide +kernel
theorem dX6_dee_0 : decode cX6_dee 0 = .ok (.aload_n 0, 1) := dk_42 (dk_at dksX6_dee_0 0 rfl rfl)
theorem dX6_dee_1 : decode cX6_dee 1 = .ok (.getfield 7, 3) := dk_180 0 7 (dk_at dksX6_dee_0 1 rfl rfl)
theorem dX6_dee_4 : decode cX6_dee 4 = .ok (.bipush 66, 2) := dk_16 66 (dk_at dksX6_dee_0 4 rfl rfl)
theorem dX6_dee_6 : decode cX6_dee 6 = .ok (.bipush 6, 2) := dk_16 6 (dk_at dksX6_dee_0 6 rfl rfl)
theorem dX6_dee_8 : decode cX6_dee 8 = .ok (.iload_n 1, 1) := dk_27 (dk_at dksX6_dee_0 8 rfl rfl)
theorem dX6_dee_9 : decode cX6_dee 9 = .ok (.imul, 1) := dk_104 (dk_at dksX6_dee_0 9 rfl rfl)
theorem dX6_dee_10 : decode cX6_dee 10 = .ok (.iadd, 1) := dk_96 (dk_at dksX6_dee_0 10 rfl rfl)
theorem dX6_dee_11 : decode cX6_dee 11 = .ok (.iload_n 2, 1) := dk_28 (dk_at dksX6_dee_0 11 rfl rfl)
theorem dX6_dee_12 : decode cX6_dee 12 = .ok (.iadd, 1) := dk_96 (dk_at dksX6_dee_0 12 rfl rfl)
theorem dX6_dee_13 : decode cX6_dee 13 = .ok (.iaload, 1) := dk_46 (dk_at dksX6_dee_0 13 rfl rfl)
theorem dX6_dee_14 : decode cX6_dee 14 = .ok (.ireturn, 1) := dk_172 (dk_at dksX6_dee_0 14 rfl rfl)
abbrev cX6_as : ByteArray := prog_19_method_24_code
def yX6_as : MethodName := ⟨RX6, "as", "(II)I"⟩
def dkwX6_as_1 : List UInt8 := [27, 3, 182, 0, 88, 28, 184, 0, 105, 153, 0, 12, 42, 27, 4, 182, 0, 88, 167, 0, 5, 18, 109, 172]
abbrev dktX6_as_1 : List UInt8 := dkwX6_as_1 ++ []
def dkwX6_as_0 : List UInt8 := [42, 27, 182, 0, 95, 153, 0, 15, 28, 133, 9, 20, 0, 78, 184, 0, 65, 154, 0, 6, 18, 82, 172, 42]
abbrev dktX6_as_0 : List UInt8 := dkwX6_as_0 ++ dktX6_as_1
theorem dksX6_as_0 : cX6_as.data.toList.drop 0 = dktX6_as_0 := by decide +kernel
theorem dksX6_as_1 : cX6_as.data.toList.drop 24 = dktX6_as_1 := dk_seg dksX6_as_0 24 rfl rfl
theorem dX6_as_0 : decode cX6_as 0 = .ok (.aload_n 0, 1) := dk_42 (dk_at dksX6_as_0 0 rfl rfl)
theorem dX6_as_1 : decode cX6_as 1 = .ok (.iload_n 1, 1) := dk_27 (dk_at dksX6_as_0 1 rfl rfl)
theorem dX6_as_2 : decode cX6_as 2 = .ok (.invokevirtual 95, 3) := dk_182 0 95 (dk_at dksX6_as_0 2 rfl rfl)
theorem dX6_as_5 : decode cX6_as 5 = .ok (.ifCond .eq 15, 3) := dk_153 0 15 (dk_at dksX6_as_0 5 rfl rfl)
theorem dX6_as_8 : decode cX6_as 8 = .ok (.iload_n 2, 1) := dk_28 (dk_at dksX6_as_0 8 rfl rfl)
theorem dX6_as_9 : decode cX6_as 9 = .ok (.i2l, 1) := dk_133 (dk_at dksX6_as_0 9 rfl rfl)
theorem dX6_as_10 : decode cX6_as 10 = .ok (.lconst 0, 1) := dk_9 (dk_at dksX6_as_0 10 rfl rfl)
theorem dX6_as_11 : decode cX6_as 11 = .ok (.ldc2_w 78, 3) := dk_20 0 78 (dk_at dksX6_as_0 11 rfl rfl)
theorem dX6_as_14 : decode cX6_as 14 = .ok (.invokestatic 65, 3) := dk_184 0 65 (dk_at dksX6_as_0 14 rfl rfl)
theorem dX6_as_17 : decode cX6_as 17 = .ok (.ifCond .ne 6, 3) := dk_154 0 6 (dk_at dksX6_as_0 17 rfl rfl)
theorem dX6_as_20 : decode cX6_as 20 = .ok (.ldc 82, 2) := dk_18 82 (dk_at dksX6_as_0 20 rfl rfl)
theorem dX6_as_22 : decode cX6_as 22 = .ok (.ireturn, 1) := dk_172 (dk_at dksX6_as_0 22 rfl rfl)
theorem dX6_as_23 : decode cX6_as 23 = .ok (.aload_n 0, 1) := dk_42 (dk_at dksX6_as_0 23 rfl rfl)
theorem dX6_as_24 : decode cX6_as 24 = .ok (.iload_n 1, 1) := dk_27 (dk_at dksX6_as_1 0 rfl rfl)
theorem dX6_as_25 : decode cX6_as 25 = .ok (.iconst 0, 1) := dk_3 (dk_at dksX6_as_1 1 rfl rfl)
theorem dX6_as_26 : decode cX6_as 26 = .ok (.invokevirtual 88, 3) := dk_182 0 88 (dk_at dksX6_as_1 2 rfl rfl)
theorem dX6_as_29 : decode cX6_as 29 = .ok (.iload_n 2, 1) := dk_28 (dk_at dksX6_as_1 5 rfl rfl)
theorem dX6_as_30 : decode cX6_as 30 = .ok (.invokestatic 105, 3) := dk_184 0 105 (dk_at dksX6_as_1 6 rfl rfl)
theorem dX6_as_33 : decode cX6_as 33 = .ok (.ifCond .eq 12, 3) := dk_153 0 12 (dk_at dksX6_as_1 9 rfl rfl)
theorem dX6_as_36 : decode cX6_as 36 = .ok (.aload_n 0, 1) := dk_42 (dk_at dksX6_as_1 12 rfl rfl)
theorem dX6_as_37 : decode cX6_as 37 = .ok (.iload_n 1, 1) := dk_27 (dk_at dksX6_as_1 13 rfl rfl)
theorem dX6_as_38 : decode cX6_as 38 = .ok (.iconst 1, 1) := dk_4 (dk_at dksX6_as_1 14 rfl rfl)
theorem dX6_as_39 : decode cX6_as 39 = .ok (.invokevirtual 88, 3) := dk_182 0 88 (dk_at dksX6_as_1 15 rfl rfl)
theorem dX6_as_42 : decode cX6_as 42 = .ok (.goto 5, 3) := dk_167 0 5 (dk_at dksX6_as_1 18 rfl rfl)
theorem dX6_as_45 : decode cX6_as 45 = .ok (.ldc 109, 2) := dk_18 109 (dk_at dksX6_as_1 21 rfl rfl)
theorem dX6_as_47 : decode cX6_as 47 = .ok (.ireturn, 1) := dk_172 (dk_at dksX6_as_1 23 rfl rfl)
abbrev cX6_isOf : ByteArray := prog_19_method_23_code
def yX6_isOf : MethodName := ⟨RX6, "isOf", "(II)Z"⟩
def dkwX6_isOf_1 : List UInt8 := [26, 7, 160, 0, 7, 4, 167, 0, 4, 3, 172]
abbrev dktX6_isOf_1 : List UInt8 := dkwX6_isOf_1 ++ []
def dkwX6_isOf_0 : List UInt8 := [26, 27, 159, 0, 27, 27, 153, 0, 23, 27, 4, 160, 0, 8, 26, 6, 159, 0, 13, 27, 5, 160, 0, 12]
abbrev dktX6_isOf_0 : List UInt8 := dkwX6_isOf_0 ++ dktX6_isOf_1
theorem dksX6_isOf_0 : cX6_isOf.data.toList.drop 0 = dktX6_isOf_0 := by decide +kernel
theorem dksX6_isOf_1 : cX6_isOf.data.toList.drop 24 = dktX6_isOf_1 := dk_seg dksX6_isOf_0 24 rfl rfl
theorem dX6_isOf_0 : decode cX6_isOf 0 = .ok (.iload_n 0, 1) := dk_26 (dk_at dksX6_isOf_0 0 rfl rfl)
theorem dX6_isOf_1 : decode cX6_isOf 1 = .ok (.iload_n 1, 1) := dk_27 (dk_at dksX6_isOf_0 1 rfl rfl)
theorem dX6_isOf_2 : decode cX6_isOf 2 = .ok (.if_icmp .eq 27, 3) := dk_159 0 27 (dk_at dksX6_isOf_0 2 rfl rfl)
theorem dX6_isOf_5 : decode cX6_isOf 5 = .ok (.iload_n 1, 1) := dk_27 (dk_at dksX6_isOf_0 5 rfl rfl)
theorem dX6_isOf_6 : decode cX6_isOf 6 = .ok (.ifCond .eq 23, 3) := dk_153 0 23 (dk_at dksX6_isOf_0 6 rfl rfl)
theorem dX6_isOf_9 : decode cX6_isOf 9 = .ok (.iload_n 1, 1) := dk_27 (dk_at dksX6_isOf_0 9 rfl rfl)
theorem dX6_isOf_10 : decode cX6_isOf 10 = .ok (.iconst 1, 1) := dk_4 (dk_at dksX6_isOf_0 10 rfl rfl)
theorem dX6_isOf_11 : decode cX6_isOf 11 = .ok (.if_icmp .ne 8, 3) := dk_160 0 8 (dk_at dksX6_isOf_0 11 rfl rfl)
theorem dX6_isOf_14 : decode cX6_isOf 14 = .ok (.iload_n 0, 1) := dk_26 (dk_at dksX6_isOf_0 14 rfl rfl)
theorem dX6_isOf_15 : decode cX6_isOf 15 = .ok (.iconst 3, 1) := dk_6 (dk_at dksX6_isOf_0 15 rfl rfl)
theorem dX6_isOf_16 : decode cX6_isOf 16 = .ok (.if_icmp .eq 13, 3) := dk_159 0 13 (dk_at dksX6_isOf_0 16 rfl rfl)
theorem dX6_isOf_19 : decode cX6_isOf 19 = .ok (.iload_n 1, 1) := dk_27 (dk_at dksX6_isOf_0 19 rfl rfl)
theorem dX6_isOf_20 : decode cX6_isOf 20 = .ok (.iconst 2, 1) := dk_5 (dk_at dksX6_isOf_0 20 rfl rfl)
theorem dX6_isOf_21 : decode cX6_isOf 21 = .ok (.if_icmp .ne 12, 3) := dk_160 0 12 (dk_at dksX6_isOf_0 21 rfl rfl)
theorem dX6_isOf_24 : decode cX6_isOf 24 = .ok (.iload_n 0, 1) := dk_26 (dk_at dksX6_isOf_1 0 rfl rfl)
theorem dX6_isOf_25 : decode cX6_isOf 25 = .ok (.iconst 4, 1) := dk_7 (dk_at dksX6_isOf_1 1 rfl rfl)
theorem dX6_isOf_26 : decode cX6_isOf 26 = .ok (.if_icmp .ne 7, 3) := dk_160 0 7 (dk_at dksX6_isOf_1 2 rfl rfl)
theorem dX6_isOf_29 : decode cX6_isOf 29 = .ok (.iconst 1, 1) := dk_4 (dk_at dksX6_isOf_1 5 rfl rfl)
theorem dX6_isOf_30 : decode cX6_isOf 30 = .ok (.goto 4, 3) := dk_167 0 4 (dk_at dksX6_isOf_1 6 rfl rfl)
theorem dX6_isOf_33 : decode cX6_isOf 33 = .ok (.iconst 0, 1) := dk_3 (dk_at dksX6_isOf_1 9 rfl rfl)
theorem dX6_isOf_34 : decode cX6_isOf 34 = .ok (.ireturn, 1) := dk_172 (dk_at dksX6_isOf_1 10 rfl rfl)
abbrev cX6_turns : ByteArray := prog_19_method_25_code
def yX6_turns : MethodName := ⟨RX6, "turns", "(II)I"⟩
def dkwX6_turns_1 : List UInt8 := [27, 104, 96, 28, 182, 0, 110, 167, 0, 5, 18, 82, 172]
abbrev dktX6_turns_1 : List UInt8 := dkwX6_turns_1 ++ []
def dkwX6_turns_0 : List UInt8 := [42, 27, 182, 0, 95, 153, 0, 29, 28, 133, 9, 20, 0, 78, 184, 0, 65, 153, 0, 17, 42, 16, 6, 8]
abbrev dktX6_turns_0 : List UInt8 := dkwX6_turns_0 ++ dktX6_turns_1
theorem dksX6_turns_0 : cX6_turns.data.toList.drop 0 = dktX6_turns_0 := by decide +kernel
theorem dksX6_turns_1 : cX6_turns.data.toList.drop 24 = dktX6_turns_1 := dk_seg dksX6_turns_0 24 rfl rfl
theorem dX6_turns_0 : decode cX6_turns 0 = .ok (.aload_n 0, 1) := dk_42 (dk_at dksX6_turns_0 0 rfl rfl)
theorem dX6_turns_1 : decode cX6_turns 1 = .ok (.iload_n 1, 1) := dk_27 (dk_at dksX6_turns_0 1 rfl rfl)
theorem dX6_turns_2 : decode cX6_turns 2 = .ok (.invokevirtual 95, 3) := dk_182 0 95 (dk_at dksX6_turns_0 2 rfl rfl)
theorem dX6_turns_5 : decode cX6_turns 5 = .ok (.ifCond .eq 29, 3) := dk_153 0 29 (dk_at dksX6_turns_0 5 rfl rfl)
theorem dX6_turns_8 : decode cX6_turns 8 = .ok (.iload_n 2, 1) := dk_28 (dk_at dksX6_turns_0 8 rfl rfl)
theorem dX6_turns_9 : decode cX6_turns 9 = .ok (.i2l, 1) := dk_133 (dk_at dksX6_turns_0 9 rfl rfl)
theorem dX6_turns_10 : decode cX6_turns 10 = .ok (.lconst 0, 1) := dk_9 (dk_at dksX6_turns_0 10 rfl rfl)
theorem dX6_turns_11 : decode cX6_turns 11 = .ok (.ldc2_w 78, 3) := dk_20 0 78 (dk_at dksX6_turns_0 11 rfl rfl)
theorem dX6_turns_14 : decode cX6_turns 14 = .ok (.invokestatic 65, 3) := dk_184 0 65 (dk_at dksX6_turns_0 14 rfl rfl)
theorem dX6_turns_17 : decode cX6_turns 17 = .ok (.ifCond .eq 17, 3) := dk_153 0 17 (dk_at dksX6_turns_0 17 rfl rfl)
theorem dX6_turns_20 : decode cX6_turns 20 = .ok (.aload_n 0, 1) := dk_42 (dk_at dksX6_turns_0 20 rfl rfl)
theorem dX6_turns_21 : decode cX6_turns 21 = .ok (.bipush 6, 2) := dk_16 6 (dk_at dksX6_turns_0 21 rfl rfl)
theorem dX6_turns_23 : decode cX6_turns 23 = .ok (.iconst 5, 1) := dk_8 (dk_at dksX6_turns_0 23 rfl rfl)
theorem dX6_turns_24 : decode cX6_turns 24 = .ok (.iload_n 1, 1) := dk_27 (dk_at dksX6_turns_1 0 rfl rfl)
theorem dX6_turns_25 : decode cX6_turns 25 = .ok (.imul, 1) := dk_104 (dk_at dksX6_turns_1 1 rfl rfl)
theorem dX6_turns_26 : decode cX6_turns 26 = .ok (.iadd, 1) := dk_96 (dk_at dksX6_turns_1 2 rfl rfl)
theorem dX6_turns_27 : decode cX6_turns 27 = .ok (.iload_n 2, 1) := dk_28 (dk_at dksX6_turns_1 3 rfl rfl)
theorem dX6_turns_28 : decode cX6_turns 28 = .ok (.invokevirtual 110, 3) := dk_182 0 110 (dk_at dksX6_turns_1 4 rfl rfl)
theorem dX6_turns_31 : decode cX6_turns 31 = .ok (.goto 5, 3) := dk_167 0 5 (dk_at dksX6_turns_1 7 rfl rfl)
theorem dX6_turns_34 : decode cX6_turns 34 = .ok (.ldc 82, 2) := dk_18 82 (dk_at dksX6_turns_1 10 rfl rfl)
theorem dX6_turns_36 : decode cX6_turns 36 = .ok (.ireturn, 1) := dk_172 (dk_at dksX6_turns_1 12 rfl rfl)
abbrev cX6_becomes : ByteArray := prog_19_method_5_code
def yX6_becomes : MethodName := ⟨RX6, "becomes", "(II)I"⟩
def dkwX6_becomes_0 : List UInt8 := [42, 180, 0, 7, 27, 46, 62, 42, 180, 0, 7, 27, 28, 79, 29, 172]
abbrev dktX6_becomes_0 : List UInt8 := dkwX6_becomes_0 ++ []
theorem dksX6_becomes_0 : cX6_becomes.data.toList.drop 0 = dktX6_becomes_0 := by decide +kernel
theorem dX6_becomes_0 : decode cX6_becomes 0 = .ok (.aload_n 0, 1) := dk_42 (dk_at dksX6_becomes_0 0 rfl rfl)
theorem dX6_becomes_1 : decode cX6_becomes 1 = .ok (.getfield 7, 3) := dk_180 0 7 (dk_at dksX6_becomes_0 1 rfl rfl)
theorem dX6_becomes_4 : decode cX6_becomes 4 = .ok (.iload_n 1, 1) := dk_27 (dk_at dksX6_becomes_0 4 rfl rfl)
theorem dX6_becomes_5 : decode cX6_becomes 5 = .ok (.iaload, 1) := dk_46 (dk_at dksX6_becomes_0 5 rfl rfl)
theorem dX6_becomes_6 : decode cX6_becomes 6 = .ok (.istore_n 3, 1) := dk_62 (dk_at dksX6_becomes_0 6 rfl rfl)
theorem dX6_becomes_7 : decode cX6_becomes 7 = .ok (.aload_n 0, 1) := dk_42 (dk_at dksX6_becomes_0 7 rfl rfl)
theorem dX6_becomes_8 : decode cX6_becomes 8 = .ok (.getfield 7, 3) := dk_180 0 7 (dk_at dksX6_becomes_0 8 rfl rfl)
theorem dX6_becomes_11 : decode cX6_becomes 11 = .ok (.iload_n 1, 1) := dk_27 (dk_at dksX6_becomes_0 11 rfl rfl)
theorem dX6_becomes_12 : decode cX6_becomes 12 = .ok (.iload_n 2, 1) := dk_28 (dk_at dksX6_becomes_0 12 rfl rfl)
theorem dX6_becomes_13 : decode cX6_becomes 13 = .ok (.iastore, 1) := dk_79 (dk_at dksX6_becomes_0 13 rfl rfl)
theorem dX6_becomes_14 : decode cX6_becomes 14 = .ok (.iload_n 3, 1) := dk_29 (dk_at dksX6_becomes_0 14 rfl rfl)
theorem dX6_becomes_15 : decode cX6_becomes 15 = .ok (.ireturn, 1) := dk_172 (dk_at dksX6_becomes_0 15 rfl rfl)
abbrev cX6_bolder : ByteArray := prog_19_method_26_code
def yX6_bolder : MethodName := ⟨RX6, "bolder", "(II)I"⟩
def dkwX6_bolder_1 : List UInt8 := [27, 104, 96, 4, 96, 28, 182, 0, 110, 167, 0, 5, 18, 82, 172]
abbrev dktX6_bolder_1 : List UInt8 := dkwX6_bolder_1 ++ []
def dkwX6_bolder_0 : List UInt8 := [42, 27, 182, 0, 95, 153, 0, 31, 28, 133, 9, 20, 0, 80, 184, 0, 65, 153, 0, 19, 42, 16, 6, 8]
abbrev dktX6_bolder_0 : List UInt8 := dkwX6_bolder_0 ++ dktX6_bolder_1
theorem dksX6_bolder_0 : cX6_bolder.data.toList.drop 0 = dktX6_bolder_0 := by decide +kernel
theorem dksX6_bolder_1 : cX6_bolder.data.toList.drop 24 = dktX6_bolder_1 := dk_seg dksX6_bolder_0 24 rfl rfl
theorem dX6_bolder_0 : decode cX6_bolder 0 = .ok (.aload_n 0, 1) := dk_42 (dk_at dksX6_bolder_0 0 rfl rfl)
theorem dX6_bolder_1 : decode cX6_bolder 1 = .ok (.iload_n 1, 1) := dk_27 (dk_at dksX6_bolder_0 1 rfl rfl)
theorem dX6_bolder_2 : decode cX6_bolder 2 = .ok (.invokevirtual 95, 3) := dk_182 0 95 (dk_at dksX6_bolder_0 2 rfl rfl)
theorem dX6_bolder_5 : decode cX6_bolder 5 = .ok (.ifCond .eq 31, 3) := dk_153 0 31 (dk_at dksX6_bolder_0 5 rfl rfl)
theorem dX6_bolder_8 : decode cX6_bolder 8 = .ok (.iload_n 2, 1) := dk_28 (dk_at dksX6_bolder_0 8 rfl rfl)
theorem dX6_bolder_9 : decode cX6_bolder 9 = .ok (.i2l, 1) := dk_133 (dk_at dksX6_bolder_0 9 rfl rfl)
theorem dX6_bolder_10 : decode cX6_bolder 10 = .ok (.lconst 0, 1) := dk_9 (dk_at dksX6_bolder_0 10 rfl rfl)
theorem dX6_bolder_11 : decode cX6_bolder 11 = .ok (.ldc2_w 80, 3) := dk_20 0 80 (dk_at dksX6_bolder_0 11 rfl rfl)
theorem dX6_bolder_14 : decode cX6_bolder 14 = .ok (.invokestatic 65, 3) := dk_184 0 65 (dk_at dksX6_bolder_0 14 rfl rfl)
theorem dX6_bolder_17 : decode cX6_bolder 17 = .ok (.ifCond .eq 19, 3) := dk_153 0 19 (dk_at dksX6_bolder_0 17 rfl rfl)
theorem dX6_bolder_20 : decode cX6_bolder 20 = .ok (.aload_n 0, 1) := dk_42 (dk_at dksX6_bolder_0 20 rfl rfl)
theorem dX6_bolder_21 : decode cX6_bolder 21 = .ok (.bipush 6, 2) := dk_16 6 (dk_at dksX6_bolder_0 21 rfl rfl)
theorem dX6_bolder_23 : decode cX6_bolder 23 = .ok (.iconst 5, 1) := dk_8 (dk_at dksX6_bolder_0 23 rfl rfl)
theorem dX6_bolder_24 : decode cX6_bolder 24 = .ok (.iload_n 1, 1) := dk_27 (dk_at dksX6_bolder_1 0 rfl rfl)
theorem dX6_bolder_25 : decode cX6_bolder 25 = .ok (.imul, 1) := dk_104 (dk_at dksX6_bolder_1 1 rfl rfl)
theorem dX6_bolder_26 : decode cX6_bolder 26 = .ok (.iadd, 1) := dk_96 (dk_at dksX6_bolder_1 2 rfl rfl)
theorem dX6_bolder_27 : decode cX6_bolder 27 = .ok (.iconst 1, 1) := dk_4 (dk_at dksX6_bolder_1 3 rfl rfl)
theorem dX6_bolder_28 : decode cX6_bolder 28 = .ok (.iadd, 1) := dk_96 (dk_at dksX6_bolder_1 4 rfl rfl)
theorem dX6_bolder_29 : decode cX6_bolder 29 = .ok (.iload_n 2, 1) := dk_28 (dk_at dksX6_bolder_1 5 rfl rfl)
theorem dX6_bolder_30 : decode cX6_bolder 30 = .ok (.invokevirtual 110, 3) := dk_182 0 110 (dk_at dksX6_bolder_1 6 rfl rfl)
theorem dX6_bolder_33 : decode cX6_bolder 33 = .ok (.goto 5, 3) := dk_167 0 5 (dk_at dksX6_bolder_1 9 rfl rfl)
theorem dX6_bolder_36 : decode cX6_bolder 36 = .ok (.ldc 82, 2) := dk_18 82 (dk_at dksX6_bolder_1 12 rfl rfl)
theorem dX6_bolder_38 : decode cX6_bolder 38 = .ok (.ireturn, 1) := dk_172 (dk_at dksX6_bolder_1 14 rfl rfl)
abbrev cX6_away : ByteArray := prog_19_method_28_code
def yX6_away : MethodName := ⟨RX6, "away", "(III)I"⟩
def dkwX6_away_1 : List UInt8 := [184, 0, 65, 154, 0, 6, 18, 82, 172, 42, 16, 6, 8, 27, 104, 96, 5, 96, 28, 29, 182, 0, 115, 172]
abbrev dktX6_away_1 : List UInt8 := dkwX6_away_1 ++ []
def dkwX6_away_0 : List UInt8 := [42, 27, 182, 0, 95, 153, 0, 25, 28, 133, 9, 20, 0, 113, 184, 0, 65, 153, 0, 13, 29, 133, 9, 10]
abbrev dktX6_away_0 : List UInt8 := dkwX6_away_0 ++ dktX6_away_1
theorem dksX6_away_0 : cX6_away.data.toList.drop 0 = dktX6_away_0 := by decide +kernel
theorem dksX6_away_1 : cX6_away.data.toList.drop 24 = dktX6_away_1 := dk_seg dksX6_away_0 24 rfl rfl
theorem dX6_away_0 : decode cX6_away 0 = .ok (.aload_n 0, 1) := dk_42 (dk_at dksX6_away_0 0 rfl rfl)
theorem dX6_away_1 : decode cX6_away 1 = .ok (.iload_n 1, 1) := dk_27 (dk_at dksX6_away_0 1 rfl rfl)
theorem dX6_away_2 : decode cX6_away 2 = .ok (.invokevirtual 95, 3) := dk_182 0 95 (dk_at dksX6_away_0 2 rfl rfl)
theorem dX6_away_5 : decode cX6_away 5 = .ok (.ifCond .eq 25, 3) := dk_153 0 25 (dk_at dksX6_away_0 5 rfl rfl)
theorem dX6_away_8 : decode cX6_away 8 = .ok (.iload_n 2, 1) := dk_28 (dk_at dksX6_away_0 8 rfl rfl)
theorem dX6_away_9 : decode cX6_away 9 = .ok (.i2l, 1) := dk_133 (dk_at dksX6_away_0 9 rfl rfl)
theorem dX6_away_10 : decode cX6_away 10 = .ok (.lconst 0, 1) := dk_9 (dk_at dksX6_away_0 10 rfl rfl)
theorem dX6_away_11 : decode cX6_away 11 = .ok (.ldc2_w 113, 3) := dk_20 0 113 (dk_at dksX6_away_0 11 rfl rfl)
theorem dX6_away_14 : decode cX6_away 14 = .ok (.invokestatic 65, 3) := dk_184 0 65 (dk_at dksX6_away_0 14 rfl rfl)
theorem dX6_away_17 : decode cX6_away 17 = .ok (.ifCond .eq 13, 3) := dk_153 0 13 (dk_at dksX6_away_0 17 rfl rfl)
theorem dX6_away_20 : decode cX6_away 20 = .ok (.iload_n 3, 1) := dk_29 (dk_at dksX6_away_0 20 rfl rfl)
theorem dX6_away_21 : decode cX6_away 21 = .ok (.i2l, 1) := dk_133 (dk_at dksX6_away_0 21 rfl rfl)
theorem dX6_away_22 : decode cX6_away 22 = .ok (.lconst 0, 1) := dk_9 (dk_at dksX6_away_0 22 rfl rfl)
theorem dX6_away_23 : decode cX6_away 23 = .ok (.lconst 1, 1) := dk_10 (dk_at dksX6_away_0 23 rfl rfl)
theorem dX6_away_24 : decode cX6_away 24 = .ok (.invokestatic 65, 3) := dk_184 0 65 (dk_at dksX6_away_1 0 rfl rfl)
theorem dX6_away_27 : decode cX6_away 27 = .ok (.ifCond .ne 6, 3) := dk_154 0 6 (dk_at dksX6_away_1 3 rfl rfl)
theorem dX6_away_30 : decode cX6_away 30 = .ok (.ldc 82, 2) := dk_18 82 (dk_at dksX6_away_1 6 rfl rfl)
theorem dX6_away_32 : decode cX6_away 32 = .ok (.ireturn, 1) := dk_172 (dk_at dksX6_away_1 8 rfl rfl)
theorem dX6_away_33 : decode cX6_away 33 = .ok (.aload_n 0, 1) := dk_42 (dk_at dksX6_away_1 9 rfl rfl)
theorem dX6_away_34 : decode cX6_away 34 = .ok (.bipush 6, 2) := dk_16 6 (dk_at dksX6_away_1 10 rfl rfl)
theorem dX6_away_36 : decode cX6_away 36 = .ok (.iconst 5, 1) := dk_8 (dk_at dksX6_away_1 12 rfl rfl)
theorem dX6_away_37 : decode cX6_away 37 = .ok (.iload_n 1, 1) := dk_27 (dk_at dksX6_away_1 13 rfl rfl)
theorem dX6_away_38 : decode cX6_away 38 = .ok (.imul, 1) := dk_104 (dk_at dksX6_away_1 14 rfl rfl)
theorem dX6_away_39 : decode cX6_away 39 = .ok (.iadd, 1) := dk_96 (dk_at dksX6_away_1 15 rfl rfl)
theorem dX6_away_40 : decode cX6_away 40 = .ok (.iconst 2, 1) := dk_5 (dk_at dksX6_away_1 16 rfl rfl)
theorem dX6_away_41 : decode cX6_away 41 = .ok (.iadd, 1) := dk_96 (dk_at dksX6_away_1 17 rfl rfl)
theorem dX6_away_42 : decode cX6_away 42 = .ok (.iload_n 2, 1) := dk_28 (dk_at dksX6_away_1 18 rfl rfl)
theorem dX6_away_43 : decode cX6_away 43 = .ok (.iload_n 3, 1) := dk_29 (dk_at dksX6_away_1 19 rfl rfl)
theorem dX6_away_44 : decode cX6_away 44 = .ok (.invokevirtual 115, 3) := dk_182 0 115 (dk_at dksX6_away_1 20 rfl rfl)
theorem dX6_away_47 : decode cX6_away 47 = .ok (.ireturn, 1) := dk_172 (dk_at dksX6_away_1 23 rfl rfl)
abbrev cX6_bitBecomes : ByteArray := prog_19_method_27_code
def yX6_bitBecomes : MethodName := ⟨RX6, "bitBecomes", "(III)I"⟩
def dkwX6_bitBecomes_1 : List UInt8 := [120, 130, 79, 21, 4, 172]
abbrev dktX6_bitBecomes_1 : List UInt8 := dkwX6_bitBecomes_1 ++ []
def dkwX6_bitBecomes_0 : List UInt8 := [42, 180, 0, 7, 27, 46, 28, 122, 4, 126, 54, 4, 42, 180, 0, 7, 27, 92, 46, 21, 4, 29, 130, 28]
abbrev dktX6_bitBecomes_0 : List UInt8 := dkwX6_bitBecomes_0 ++ dktX6_bitBecomes_1
theorem dksX6_bitBecomes_0 : cX6_bitBecomes.data.toList.drop 0 = dktX6_bitBecomes_0 := by decide +kernel
theorem dksX6_bitBecomes_1 : cX6_bitBecomes.data.toList.drop 24 = dktX6_bitBecomes_1 := dk_seg dksX6_bitBecomes_0 24 rfl rfl
theorem dX6_bitBecomes_0 : decode cX6_bitBecomes 0 = .ok (.aload_n 0, 1) := dk_42 (dk_at dksX6_bitBecomes_0 0 rfl rfl)
theorem dX6_bitBecomes_1 : decode cX6_bitBecomes 1 = .ok (.getfield 7, 3) := dk_180 0 7 (dk_at dksX6_bitBecomes_0 1 rfl rfl)
theorem dX6_bitBecomes_4 : decode cX6_bitBecomes 4 = .ok (.iload_n 1, 1) := dk_27 (dk_at dksX6_bitBecomes_0 4 rfl rfl)
theorem dX6_bitBecomes_5 : decode cX6_bitBecomes 5 = .ok (.iaload, 1) := dk_46 (dk_at dksX6_bitBecomes_0 5 rfl rfl)
theorem dX6_bitBecomes_6 : decode cX6_bitBecomes 6 = .ok (.iload_n 2, 1) := dk_28 (dk_at dksX6_bitBecomes_0 6 rfl rfl)
theorem dX6_bitBecomes_7 : decode cX6_bitBecomes 7 = .ok (.ishr, 1) := dk_122 (dk_at dksX6_bitBecomes_0 7 rfl rfl)
theorem dX6_bitBecomes_8 : decode cX6_bitBecomes 8 = .ok (.iconst 1, 1) := dk_4 (dk_at dksX6_bitBecomes_0 8 rfl rfl)
theorem dX6_bitBecomes_9 : decode cX6_bitBecomes 9 = .ok (.iand, 1) := dk_126 (dk_at dksX6_bitBecomes_0 9 rfl rfl)
theorem dX6_bitBecomes_10 : decode cX6_bitBecomes 10 = .ok (.istore 4, 2) := dk_54 4 (dk_at dksX6_bitBecomes_0 10 rfl rfl)
theorem dX6_bitBecomes_12 : decode cX6_bitBecomes 12 = .ok (.aload_n 0, 1) := dk_42 (dk_at dksX6_bitBecomes_0 12 rfl rfl)
theorem dX6_bitBecomes_13 : decode cX6_bitBecomes 13 = .ok (.getfield 7, 3) := dk_180 0 7 (dk_at dksX6_bitBecomes_0 13 rfl rfl)
theorem dX6_bitBecomes_16 : decode cX6_bitBecomes 16 = .ok (.iload_n 1, 1) := dk_27 (dk_at dksX6_bitBecomes_0 16 rfl rfl)
theorem dX6_bitBecomes_17 : decode cX6_bitBecomes 17 = .ok (.dup2, 1) := dk_92 (dk_at dksX6_bitBecomes_0 17 rfl rfl)
theorem dX6_bitBecomes_18 : decode cX6_bitBecomes 18 = .ok (.iaload, 1) := dk_46 (dk_at dksX6_bitBecomes_0 18 rfl rfl)
theorem dX6_bitBecomes_19 : decode cX6_bitBecomes 19 = .ok (.iload 4, 2) := dk_21 4 (dk_at dksX6_bitBecomes_0 19 rfl rfl)
theorem dX6_bitBecomes_21 : decode cX6_bitBecomes 21 = .ok (.iload_n 3, 1) := dk_29 (dk_at dksX6_bitBecomes_0 21 rfl rfl)
theorem dX6_bitBecomes_22 : decode cX6_bitBecomes 22 = .ok (.ixor, 1) := dk_130 (dk_at dksX6_bitBecomes_0 22 rfl rfl)
theorem dX6_bitBecomes_23 : decode cX6_bitBecomes 23 = .ok (.iload_n 2, 1) := dk_28 (dk_at dksX6_bitBecomes_0 23 rfl rfl)
theorem dX6_bitBecomes_24 : decode cX6_bitBecomes 24 = .ok (.ishl, 1) := dk_120 (dk_at dksX6_bitBecomes_1 0 rfl rfl)
theorem dX6_bitBecomes_25 : decode cX6_bitBecomes 25 = .ok (.ixor, 1) := dk_130 (dk_at dksX6_bitBecomes_1 1 rfl rfl)
theorem dX6_bitBecomes_26 : decode cX6_bitBecomes 26 = .ok (.iastore, 1) := dk_79 (dk_at dksX6_bitBecomes_1 2 rfl rfl)
theorem dX6_bitBecomes_27 : decode cX6_bitBecomes 27 = .ok (.iload 4, 2) := dk_21 4 (dk_at dksX6_bitBecomes_1 3 rfl rfl)
theorem dX6_bitBecomes_29 : decode cX6_bitBecomes 29 = .ok (.ireturn, 1) := dk_172 (dk_at dksX6_bitBecomes_1 5 rfl rfl)
abbrev cX6_friend : ByteArray := prog_19_method_30_code
def yX6_friend : MethodName := ⟨RX6, "friend", "(III)I"⟩
def dkwX6_friend_1 : List UInt8 := [182, 0, 115, 54, 4, 42, 16, 6, 8, 28, 104, 96, 6, 96, 27, 29, 182, 0, 115, 172]
abbrev dktX6_friend_1 : List UInt8 := dkwX6_friend_1 ++ []
def dkwX6_friend_0 : List UInt8 := [42, 27, 28, 29, 182, 0, 119, 154, 0, 6, 18, 82, 172, 42, 16, 6, 8, 27, 104, 96, 6, 96, 28, 29]
abbrev dktX6_friend_0 : List UInt8 := dkwX6_friend_0 ++ dktX6_friend_1
theorem dksX6_friend_0 : cX6_friend.data.toList.drop 0 = dktX6_friend_0 := by decide +kernel
theorem dksX6_friend_1 : cX6_friend.data.toList.drop 24 = dktX6_friend_1 := dk_seg dksX6_friend_0 24 rfl rfl
theorem dX6_friend_0 : decode cX6_friend 0 = .ok (.aload_n 0, 1) := dk_42 (dk_at dksX6_friend_0 0 rfl rfl)
theorem dX6_friend_1 : decode cX6_friend 1 = .ok (.iload_n 1, 1) := dk_27 (dk_at dksX6_friend_0 1 rfl rfl)
theorem dX6_friend_2 : decode cX6_friend 2 = .ok (.iload_n 2, 1) := dk_28 (dk_at dksX6_friend_0 2 rfl rfl)
theorem dX6_friend_3 : decode cX6_friend 3 = .ok (.iload_n 3, 1) := dk_29 (dk_at dksX6_friend_0 3 rfl rfl)
theorem dX6_friend_4 : decode cX6_friend 4 = .ok (.invokevirtual 119, 3) := dk_182 0 119 (dk_at dksX6_friend_0 4 rfl rfl)
theorem dX6_friend_7 : decode cX6_friend 7 = .ok (.ifCond .ne 6, 3) := dk_154 0 6 (dk_at dksX6_friend_0 7 rfl rfl)
theorem dX6_friend_10 : decode cX6_friend 10 = .ok (.ldc 82, 2) := dk_18 82 (dk_at dksX6_friend_0 10 rfl rfl)
theorem dX6_friend_12 : decode cX6_friend 12 = .ok (.ireturn, 1) := dk_172 (dk_at dksX6_friend_0 12 rfl rfl)
theorem dX6_friend_13 : decode cX6_friend 13 = .ok (.aload_n 0, 1) := dk_42 (dk_at dksX6_friend_0 13 rfl rfl)
theorem dX6_friend_14 : decode cX6_friend 14 = .ok (.bipush 6, 2) := dk_16 6 (dk_at dksX6_friend_0 14 rfl rfl)
theorem dX6_friend_16 : decode cX6_friend 16 = .ok (.iconst 5, 1) := dk_8 (dk_at dksX6_friend_0 16 rfl rfl)
theorem dX6_friend_17 : decode cX6_friend 17 = .ok (.iload_n 1, 1) := dk_27 (dk_at dksX6_friend_0 17 rfl rfl)
theorem dX6_friend_18 : decode cX6_friend 18 = .ok (.imul, 1) := dk_104 (dk_at dksX6_friend_0 18 rfl rfl)
theorem dX6_friend_19 : decode cX6_friend 19 = .ok (.iadd, 1) := dk_96 (dk_at dksX6_friend_0 19 rfl rfl)
theorem dX6_friend_20 : decode cX6_friend 20 = .ok (.iconst 3, 1) := dk_6 (dk_at dksX6_friend_0 20 rfl rfl)
theorem dX6_friend_21 : decode cX6_friend 21 = .ok (.iadd, 1) := dk_96 (dk_at dksX6_friend_0 21 rfl rfl)
theorem dX6_friend_22 : decode cX6_friend 22 = .ok (.iload_n 2, 1) := dk_28 (dk_at dksX6_friend_0 22 rfl rfl)
theorem dX6_friend_23 : decode cX6_friend 23 = .ok (.iload_n 3, 1) := dk_29 (dk_at dksX6_friend_0 23 rfl rfl)
theorem dX6_friend_24 : decode cX6_friend 24 = .ok (.invokevirtual 115, 3) := dk_182 0 115 (dk_at dksX6_friend_1 0 rfl rfl)
theorem dX6_friend_27 : decode cX6_friend 27 = .ok (.istore 4, 2) := dk_54 4 (dk_at dksX6_friend_1 3 rfl rfl)
theorem dX6_friend_29 : decode cX6_friend 29 = .ok (.aload_n 0, 1) := dk_42 (dk_at dksX6_friend_1 5 rfl rfl)
theorem dX6_friend_30 : decode cX6_friend 30 = .ok (.bipush 6, 2) := dk_16 6 (dk_at dksX6_friend_1 6 rfl rfl)
theorem dX6_friend_32 : decode cX6_friend 32 = .ok (.iconst 5, 1) := dk_8 (dk_at dksX6_friend_1 8 rfl rfl)
theorem dX6_friend_33 : decode cX6_friend 33 = .ok (.iload_n 2, 1) := dk_28 (dk_at dksX6_friend_1 9 rfl rfl)
theorem dX6_friend_34 : decode cX6_friend 34 = .ok (.imul, 1) := dk_104 (dk_at dksX6_friend_1 10 rfl rfl)
theorem dX6_friend_35 : decode cX6_friend 35 = .ok (.iadd, 1) := dk_96 (dk_at dksX6_friend_1 11 rfl rfl)
theorem dX6_friend_36 : decode cX6_friend 36 = .ok (.iconst 3, 1) := dk_6 (dk_at dksX6_friend_1 12 rfl rfl)
theorem dX6_friend_37 : decode cX6_friend 37 = .ok (.iadd, 1) := dk_96 (dk_at dksX6_friend_1 13 rfl rfl)
theorem dX6_friend_38 : decode cX6_friend 38 = .ok (.iload_n 1, 1) := dk_27 (dk_at dksX6_friend_1 14 rfl rfl)
theorem dX6_friend_39 : decode cX6_friend 39 = .ok (.iload_n 3, 1) := dk_29 (dk_at dksX6_friend_1 15 rfl rfl)
theorem dX6_friend_40 : decode cX6_friend 40 = .ok (.invokevirtual 115, 3) := dk_182 0 115 (dk_at dksX6_friend_1 16 rfl rfl)
theorem dX6_friend_43 : decode cX6_friend 43 = .ok (.ireturn, 1) := dk_172 (dk_at dksX6_friend_1 19 rfl rfl)
abbrev cX6_areTwo : ByteArray := prog_19_method_29_code
def yX6_areTwo : MethodName := ⟨RX6, "areTwo", "(III)Z"⟩
def dkwX6_areTwo_1 : List UInt8 := [10, 184, 0, 65, 153, 0, 7, 4, 167, 0, 4, 3, 172]
abbrev dktX6_areTwo_1 : List UInt8 := dkwX6_areTwo_1 ++ []
def dkwX6_areTwo_0 : List UInt8 := [42, 27, 182, 0, 95, 153, 0, 30, 42, 28, 182, 0, 95, 153, 0, 22, 27, 28, 159, 0, 17, 29, 133, 9]
abbrev dktX6_areTwo_0 : List UInt8 := dkwX6_areTwo_0 ++ dktX6_areTwo_1
theorem dksX6_areTwo_0 : cX6_areTwo.data.toList.drop 0 = dktX6_areTwo_0 := by decide +kernel
theorem dksX6_areTwo_1 : cX6_areTwo.data.toList.drop 24 = dktX6_areTwo_1 := dk_seg dksX6_areTwo_0 24 rfl rfl
theorem dX6_areTwo_0 : decode cX6_areTwo 0 = .ok (.aload_n 0, 1) := dk_42 (dk_at dksX6_areTwo_0 0 rfl rfl)
theorem dX6_areTwo_1 : decode cX6_areTwo 1 = .ok (.iload_n 1, 1) := dk_27 (dk_at dksX6_areTwo_0 1 rfl rfl)
theorem dX6_areTwo_2 : decode cX6_areTwo 2 = .ok (.invokevirtual 95, 3) := dk_182 0 95 (dk_at dksX6_areTwo_0 2 rfl rfl)
theorem dX6_areTwo_5 : decode cX6_areTwo 5 = .ok (.ifCond .eq 30, 3) := dk_153 0 30 (dk_at dksX6_areTwo_0 5 rfl rfl)
theorem dX6_areTwo_8 : decode cX6_areTwo 8 = .ok (.aload_n 0, 1) := dk_42 (dk_at dksX6_areTwo_0 8 rfl rfl)
theorem dX6_areTwo_9 : decode cX6_areTwo 9 = .ok (.iload_n 2, 1) := dk_28 (dk_at dksX6_areTwo_0 9 rfl rfl)
theorem dX6_areTwo_10 : decode cX6_areTwo 10 = .ok (.invokevirtual 95, 3) := dk_182 0 95 (dk_at dksX6_areTwo_0 10 rfl rfl)
theorem dX6_areTwo_13 : decode cX6_areTwo 13 = .ok (.ifCond .eq 22, 3) := dk_153 0 22 (dk_at dksX6_areTwo_0 13 rfl rfl)
theorem dX6_areTwo_16 : decode cX6_areTwo 16 = .ok (.iload_n 1, 1) := dk_27 (dk_at dksX6_areTwo_0 16 rfl rfl)
theorem dX6_areTwo_17 : decode cX6_areTwo 17 = .ok (.iload_n 2, 1) := dk_28 (dk_at dksX6_areTwo_0 17 rfl rfl)
theorem dX6_areTwo_18 : decode cX6_areTwo 18 = .ok (.if_icmp .eq 17, 3) := dk_159 0 17 (dk_at dksX6_areTwo_0 18 rfl rfl)
theorem dX6_areTwo_21 : decode cX6_areTwo 21 = .ok (.iload_n 3, 1) := dk_29 (dk_at dksX6_areTwo_0 21 rfl rfl)
theorem dX6_areTwo_22 : decode cX6_areTwo 22 = .ok (.i2l, 1) := dk_133 (dk_at dksX6_areTwo_0 22 rfl rfl)
theorem dX6_areTwo_23 : decode cX6_areTwo 23 = .ok (.lconst 0, 1) := dk_9 (dk_at dksX6_areTwo_0 23 rfl rfl)
theorem dX6_areTwo_24 : decode cX6_areTwo 24 = .ok (.lconst 1, 1) := dk_10 (dk_at dksX6_areTwo_1 0 rfl rfl)
theorem dX6_areTwo_25 : decode cX6_areTwo 25 = .ok (.invokestatic 65, 3) := dk_184 0 65 (dk_at dksX6_areTwo_1 1 rfl rfl)
theorem dX6_areTwo_28 : decode cX6_areTwo 28 = .ok (.ifCond .eq 7, 3) := dk_153 0 7 (dk_at dksX6_areTwo_1 4 rfl rfl)
theorem dX6_areTwo_31 : decode cX6_areTwo 31 = .ok (.iconst 1, 1) := dk_4 (dk_at dksX6_areTwo_1 7 rfl rfl)
theorem dX6_areTwo_32 : decode cX6_areTwo 32 = .ok (.goto 4, 3) := dk_167 0 4 (dk_at dksX6_areTwo_1 8 rfl rfl)
theorem dX6_areTwo_35 : decode cX6_areTwo 35 = .ok (.iconst 0, 1) := dk_3 (dk_at dksX6_areTwo_1 11 rfl rfl)
theorem dX6_areTwo_36 : decode cX6_areTwo 36 = .ok (.ireturn, 1) := dk_172 (dk_at dksX6_areTwo_1 12 rfl rfl)
abbrev cX6_follow : ByteArray := prog_19_method_31_code
def yX6_follow : MethodName := ⟨RX6, "follow", "(III)I"⟩
def dkwX6_follow_1 : List UInt8 := [167, 0, 5, 18, 82, 172]
abbrev dktX6_follow_1 : List UInt8 := dkwX6_follow_1 ++ []
def dkwX6_follow_0 : List UInt8 := [42, 27, 28, 29, 182, 0, 119, 153, 0, 20, 42, 16, 6, 8, 27, 104, 96, 7, 96, 28, 29, 182, 0, 115]
abbrev dktX6_follow_0 : List UInt8 := dkwX6_follow_0 ++ dktX6_follow_1
theorem dksX6_follow_0 : cX6_follow.data.toList.drop 0 = dktX6_follow_0 := by decide +kernel
theorem dksX6_follow_1 : cX6_follow.data.toList.drop 24 = dktX6_follow_1 := dk_seg dksX6_follow_0 24 rfl rfl
theorem dX6_follow_0 : decode cX6_follow 0 = .ok (.aload_n 0, 1) := dk_42 (dk_at dksX6_follow_0 0 rfl rfl)
theorem dX6_follow_1 : decode cX6_follow 1 = .ok (.iload_n 1, 1) := dk_27 (dk_at dksX6_follow_0 1 rfl rfl)
theorem dX6_follow_2 : decode cX6_follow 2 = .ok (.iload_n 2, 1) := dk_28 (dk_at dksX6_follow_0 2 rfl rfl)
theorem dX6_follow_3 : decode cX6_follow 3 = .ok (.iload_n 3, 1) := dk_29 (dk_at dksX6_follow_0 3 rfl rfl)
theorem dX6_follow_4 : decode cX6_follow 4 = .ok (.invokevirtual 119, 3) := dk_182 0 119 (dk_at dksX6_follow_0 4 rfl rfl)
theorem dX6_follow_7 : decode cX6_follow 7 = .ok (.ifCond .eq 20, 3) := dk_153 0 20 (dk_at dksX6_follow_0 7 rfl rfl)
theorem dX6_follow_10 : decode cX6_follow 10 = .ok (.aload_n 0, 1) := dk_42 (dk_at dksX6_follow_0 10 rfl rfl)
theorem dX6_follow_11 : decode cX6_follow 11 = .ok (.bipush 6, 2) := dk_16 6 (dk_at dksX6_follow_0 11 rfl rfl)
theorem dX6_follow_13 : decode cX6_follow 13 = .ok (.iconst 5, 1) := dk_8 (dk_at dksX6_follow_0 13 rfl rfl)
theorem dX6_follow_14 : decode cX6_follow 14 = .ok (.iload_n 1, 1) := dk_27 (dk_at dksX6_follow_0 14 rfl rfl)
theorem dX6_follow_15 : decode cX6_follow 15 = .ok (.imul, 1) := dk_104 (dk_at dksX6_follow_0 15 rfl rfl)
theorem dX6_follow_16 : decode cX6_follow 16 = .ok (.iadd, 1) := dk_96 (dk_at dksX6_follow_0 16 rfl rfl)
theorem dX6_follow_17 : decode cX6_follow 17 = .ok (.iconst 4, 1) := dk_7 (dk_at dksX6_follow_0 17 rfl rfl)
theorem dX6_follow_18 : decode cX6_follow 18 = .ok (.iadd, 1) := dk_96 (dk_at dksX6_follow_0 18 rfl rfl)
theorem dX6_follow_19 : decode cX6_follow 19 = .ok (.iload_n 2, 1) := dk_28 (dk_at dksX6_follow_0 19 rfl rfl)
theorem dX6_follow_20 : decode cX6_follow 20 = .ok (.iload_n 3, 1) := dk_29 (dk_at dksX6_follow_0 20 rfl rfl)
theorem dX6_follow_21 : decode cX6_follow 21 = .ok (.invokevirtual 115, 3) := dk_182 0 115 (dk_at dksX6_follow_0 21 rfl rfl)
theorem dX6_follow_24 : decode cX6_follow 24 = .ok (.goto 5, 3) := dk_167 0 5 (dk_at dksX6_follow_1 0 rfl rfl)
theorem dX6_follow_27 : decode cX6_follow 27 = .ok (.ldc 82, 2) := dk_18 82 (dk_at dksX6_follow_1 3 rfl rfl)
theorem dX6_follow_29 : decode cX6_follow 29 = .ok (.ireturn, 1) := dk_172 (dk_at dksX6_follow_1 5 rfl rfl)
abbrev cX6_deal : ByteArray := prog_19_method_32_code
def yX6_deal : MethodName := ⟨RX6, "deal", "(I)I"⟩
def dkwX6_deal_3 : List UInt8 := [132, 2, 1, 167, 255, 200, 28, 172]
abbrev dktX6_deal_3 : List UInt8 := dkwX6_deal_3 ++ []
def dkwX6_deal_2 : List UInt8 := [112, 54, 4, 42, 182, 0, 125, 54, 5, 42, 29, 21, 4, 21, 5, 42, 182, 0, 125, 126, 182, 0, 84]
abbrev dktX6_deal_2 : List UInt8 := dkwX6_deal_2 ++ dktX6_deal_3
def dkwX6_deal_1 : List UInt8 := [180, 0, 7, 3, 46, 16, 12, 162, 0, 46, 42, 182, 0, 125, 16, 6, 112, 62, 42, 182, 0, 125, 16, 101]
abbrev dktX6_deal_1 : List UInt8 := dkwX6_deal_1 ++ dktX6_deal_2
def dkwX6_deal_0 : List UInt8 := [27, 133, 10, 20, 0, 123, 184, 0, 65, 154, 0, 6, 18, 82, 172, 3, 61, 28, 27, 162, 0, 57, 42]
abbrev dktX6_deal_0 : List UInt8 := dkwX6_deal_0 ++ dktX6_deal_1
theorem dksX6_deal_0 : cX6_deal.data.toList.drop 0 = dktX6_deal_0 := by decide +kernel
theorem dksX6_deal_1 : cX6_deal.data.toList.drop 23 = dktX6_deal_1 := dk_seg dksX6_deal_0 23 rfl rfl
theorem dksX6_deal_2 : cX6_deal.data.toList.drop 47 = dktX6_deal_2 := dk_seg dksX6_deal_1 24 rfl rfl
theorem dksX6_deal_3 : cX6_deal.data.toList.drop 70 = dktX6_deal_3 := dk_seg dksX6_deal_2 23 rfl rfl
theorem dX6_deal_0 : decode cX6_deal 0 = .ok (.iload_n 1, 1) := dk_27 (dk_at dksX6_deal_0 0 rfl rfl)
theorem dX6_deal_1 : decode cX6_deal 1 = .ok (.i2l, 1) := dk_133 (dk_at dksX6_deal_0 1 rfl rfl)
theorem dX6_deal_2 : decode cX6_deal 2 = .ok (.lconst 1, 1) := dk_10 (dk_at dksX6_deal_0 2 rfl rfl)
theorem dX6_deal_3 : decode cX6_deal 3 = .ok (.ldc2_w 123, 3) := dk_20 0 123 (dk_at dksX6_deal_0 3 rfl rfl)
theorem dX6_deal_6 : decode cX6_deal 6 = .ok (.invokestatic 65, 3) := dk_184 0 65 (dk_at dksX6_deal_0 6 rfl rfl)
theorem dX6_deal_9 : decode cX6_deal 9 = .ok (.ifCond .ne 6, 3) := dk_154 0 6 (dk_at dksX6_deal_0 9 rfl rfl)
theorem dX6_deal_12 : decode cX6_deal 12 = .ok (.ldc 82, 2) := dk_18 82 (dk_at dksX6_deal_0 12 rfl rfl)
theorem dX6_deal_14 : decode cX6_deal 14 = .ok (.ireturn, 1) := dk_172 (dk_at dksX6_deal_0 14 rfl rfl)
theorem dX6_deal_15 : decode cX6_deal 15 = .ok (.iconst 0, 1) := dk_3 (dk_at dksX6_deal_0 15 rfl rfl)
theorem dX6_deal_16 : decode cX6_deal 16 = .ok (.istore_n 2, 1) := dk_61 (dk_at dksX6_deal_0 16 rfl rfl)
theorem dX6_deal_17 : decode cX6_deal 17 = .ok (.iload_n 2, 1) := dk_28 (dk_at dksX6_deal_0 17 rfl rfl)
theorem dX6_deal_18 : decode cX6_deal 18 = .ok (.iload_n 1, 1) := dk_27 (dk_at dksX6_deal_0 18 rfl rfl)
theorem dX6_deal_19 : decode cX6_deal 19 = .ok (.if_icmp .ge 57, 3) := dk_162 0 57 (dk_at dksX6_deal_0 19 rfl rfl)
theorem dX6_deal_22 : decode cX6_deal 22 = .ok (.aload_n 0, 1) := dk_42 (dk_at dksX6_deal_0 22 rfl rfl)
theorem dX6_deal_23 : decode cX6_deal 23 = .ok (.getfield 7, 3) := dk_180 0 7 (dk_at dksX6_deal_1 0 rfl rfl)
theorem dX6_deal_26 : decode cX6_deal 26 = .ok (.iconst 0, 1) := dk_3 (dk_at dksX6_deal_1 3 rfl rfl)
theorem dX6_deal_27 : decode cX6_deal 27 = .ok (.iaload, 1) := dk_46 (dk_at dksX6_deal_1 4 rfl rfl)
theorem dX6_deal_28 : decode cX6_deal 28 = .ok (.bipush 12, 2) := dk_16 12 (dk_at dksX6_deal_1 5 rfl rfl)
theorem dX6_deal_30 : decode cX6_deal 30 = .ok (.if_icmp .ge 46, 3) := dk_162 0 46 (dk_at dksX6_deal_1 7 rfl rfl)
theorem dX6_deal_33 : decode cX6_deal 33 = .ok (.aload_n 0, 1) := dk_42 (dk_at dksX6_deal_1 10 rfl rfl)
theorem dX6_deal_34 : decode cX6_deal 34 = .ok (.invokevirtual 125, 3) := dk_182 0 125 (dk_at dksX6_deal_1 11 rfl rfl)
theorem dX6_deal_37 : decode cX6_deal 37 = .ok (.bipush 6, 2) := dk_16 6 (dk_at dksX6_deal_1 14 rfl rfl)
theorem dX6_deal_39 : decode cX6_deal 39 = .ok (.irem, 1) := dk_112 (dk_at dksX6_deal_1 16 rfl rfl)
theorem dX6_deal_40 : decode cX6_deal 40 = .ok (.istore_n 3, 1) := dk_62 (dk_at dksX6_deal_1 17 rfl rfl)
theorem dX6_deal_41 : decode cX6_deal 41 = .ok (.aload_n 0, 1) := dk_42 (dk_at dksX6_deal_1 18 rfl rfl)
theorem dX6_deal_42 : decode cX6_deal 42 = .ok (.invokevirtual 125, 3) := dk_182 0 125 (dk_at dksX6_deal_1 19 rfl rfl)
theorem dX6_deal_45 : decode cX6_deal 45 = .ok (.bipush 101, 2) := dk_16 101 (dk_at dksX6_deal_1 22 rfl rfl)
theorem dX6_deal_47 : decode cX6_deal 47 = .ok (.irem, 1) := dk_112 (dk_at dksX6_deal_2 0 rfl rfl)
theorem dX6_deal_48 : decode cX6_deal 48 = .ok (.istore 4, 2) := dk_54 4 (dk_at dksX6_deal_2 1 rfl rfl)
theorem dX6_deal_50 : decode cX6_deal 50 = .ok (.aload_n 0, 1) := dk_42 (dk_at dksX6_deal_2 3 rfl rfl)
theorem dX6_deal_51 : decode cX6_deal 51 = .ok (.invokevirtual 125, 3) := dk_182 0 125 (dk_at dksX6_deal_2 4 rfl rfl)
theorem dX6_deal_54 : decode cX6_deal 54 = .ok (.istore 5, 2) := dk_54 5 (dk_at dksX6_deal_2 7 rfl rfl)
theorem dX6_deal_56 : decode cX6_deal 56 = .ok (.aload_n 0, 1) := dk_42 (dk_at dksX6_deal_2 9 rfl rfl)
theorem dX6_deal_57 : decode cX6_deal 57 = .ok (.iload_n 3, 1) := dk_29 (dk_at dksX6_deal_2 10 rfl rfl)
theorem dX6_deal_58 : decode cX6_deal 58 = .ok (.iload 4, 2) := dk_21 4 (dk_at dksX6_deal_2 11 rfl rfl)
theorem dX6_deal_60 : decode cX6_deal 60 = .ok (.iload 5, 2) := dk_21 5 (dk_at dksX6_deal_2 13 rfl rfl)
theorem dX6_deal_62 : decode cX6_deal 62 = .ok (.aload_n 0, 1) := dk_42 (dk_at dksX6_deal_2 15 rfl rfl)
theorem dX6_deal_63 : decode cX6_deal 63 = .ok (.invokevirtual 125, 3) := dk_182 0 125 (dk_at dksX6_deal_2 16 rfl rfl)
theorem dX6_deal_66 : decode cX6_deal 66 = .ok (.iand, 1) := dk_126 (dk_at dksX6_deal_2 19 rfl rfl)
theorem dX6_deal_67 : decode cX6_deal 67 = .ok (.invokevirtual 84, 3) := dk_182 0 84 (dk_at dksX6_deal_2 20 rfl rfl)
theorem dX6_deal_70 : decode cX6_deal 70 = .ok (.iinc 2 1, 3) := dk_132 2 1 (dk_at dksX6_deal_3 0 rfl rfl)
theorem dX6_deal_73 : decode cX6_deal 73 = .ok (.goto (-56), 3) := dk_167 255 200 (dk_at dksX6_deal_3 3 rfl rfl)
theorem dX6_deal_76 : decode cX6_deal 76 = .ok (.iload_n 2, 1) := dk_28 (dk_at dksX6_deal_3 6 rfl rfl)
theorem dX6_deal_77 : decode cX6_deal 77 = .ok (.ireturn, 1) := dk_172 (dk_at dksX6_deal_3 7 rfl rfl)
abbrev cX6_drawn : ByteArray := prog_19_method_15_code
def yX6_drawn : MethodName := ⟨RX6, "drawn", "()I"⟩
def dkwX6_drawn_1 : List UInt8 := [46, 16, 8, 124, 172]
abbrev dktX6_drawn_1 : List UInt8 := dkwX6_drawn_1 ++ []
def dkwX6_drawn_0 : List UInt8 := [42, 180, 0, 7, 7, 42, 180, 0, 7, 7, 46, 18, 77, 104, 17, 48, 57, 96, 79, 42, 180, 0, 7, 7]
abbrev dktX6_drawn_0 : List UInt8 := dkwX6_drawn_0 ++ dktX6_drawn_1
theorem dksX6_drawn_0 : cX6_drawn.data.toList.drop 0 = dktX6_drawn_0 := by decide +kernel
theorem dksX6_drawn_1 : cX6_drawn.data.toList.drop 24 = dktX6_drawn_1 := dk_seg dksX6_drawn_0 24 rfl rfl
theorem dX6_drawn_0 : decode cX6_drawn 0 = .ok (.aload_n 0, 1) := dk_42 (dk_at dksX6_drawn_0 0 rfl rfl)
theorem dX6_drawn_1 : decode cX6_drawn 1 = .ok (.getfield 7, 3) := dk_180 0 7 (dk_at dksX6_drawn_0 1 rfl rfl)
theorem dX6_drawn_4 : decode cX6_drawn 4 = .ok (.iconst 4, 1) := dk_7 (dk_at dksX6_drawn_0 4 rfl rfl)
theorem dX6_drawn_5 : decode cX6_drawn 5 = .ok (.aload_n 0, 1) := dk_42 (dk_at dksX6_drawn_0 5 rfl rfl)
theorem dX6_drawn_6 : decode cX6_drawn 6 = .ok (.getfield 7, 3) := dk_180 0 7 (dk_at dksX6_drawn_0 6 rfl rfl)
theorem dX6_drawn_9 : decode cX6_drawn 9 = .ok (.iconst 4, 1) := dk_7 (dk_at dksX6_drawn_0 9 rfl rfl)
theorem dX6_drawn_10 : decode cX6_drawn 10 = .ok (.iaload, 1) := dk_46 (dk_at dksX6_drawn_0 10 rfl rfl)
theorem dX6_drawn_11 : decode cX6_drawn 11 = .ok (.ldc 77, 2) := dk_18 77 (dk_at dksX6_drawn_0 11 rfl rfl)
theorem dX6_drawn_13 : decode cX6_drawn 13 = .ok (.imul, 1) := dk_104 (dk_at dksX6_drawn_0 13 rfl rfl)
theorem dX6_drawn_14 : decode cX6_drawn 14 = .ok (.sipush 12345, 3) := dk_17 48 57 (dk_at dksX6_drawn_0 14 rfl rfl)
theorem dX6_drawn_17 : decode cX6_drawn 17 = .ok (.iadd, 1) := dk_96 (dk_at dksX6_drawn_0 17 rfl rfl)
theorem dX6_drawn_18 : decode cX6_drawn 18 = .ok (.iastore, 1) := dk_79 (dk_at dksX6_drawn_0 18 rfl rfl)
theorem dX6_drawn_19 : decode cX6_drawn 19 = .ok (.aload_n 0, 1) := dk_42 (dk_at dksX6_drawn_0 19 rfl rfl)
theorem dX6_drawn_20 : decode cX6_drawn 20 = .ok (.getfield 7, 3) := dk_180 0 7 (dk_at dksX6_drawn_0 20 rfl rfl)
theorem dX6_drawn_23 : decode cX6_drawn 23 = .ok (.iconst 4, 1) := dk_7 (dk_at dksX6_drawn_0 23 rfl rfl)
theorem dX6_drawn_24 : decode cX6_drawn 24 = .ok (.iaload, 1) := dk_46 (dk_at dksX6_drawn_1 0 rfl rfl)
theorem dX6_drawn_25 : decode cX6_drawn 25 = .ok (.bipush 8, 2) := dk_16 8 (dk_at dksX6_drawn_1 1 rfl rfl)
theorem dX6_drawn_27 : decode cX6_drawn 27 = .ok (.iushr, 1) := dk_124 (dk_at dksX6_drawn_1 3 rfl rfl)
theorem dX6_drawn_28 : decode cX6_drawn 28 = .ok (.ireturn, 1) := dk_172 (dk_at dksX6_drawn_1 4 rfl rfl)
abbrev cX6_seed : ByteArray := prog_19_method_33_code
def yX6_seed : MethodName := ⟨RX6, "seed", "(I)I"⟩
def dkwX6_seed_0 : List UInt8 := [42, 7, 27, 182, 0, 110, 172]
abbrev dktX6_seed_0 : List UInt8 := dkwX6_seed_0 ++ []
theorem dksX6_seed_0 : cX6_seed.data.toList.drop 0 = dktX6_seed_0 := by decide +kernel
theorem dX6_seed_0 : decode cX6_seed 0 = .ok (.aload_n 0, 1) := dk_42 (dk_at dksX6_seed_0 0 rfl rfl)
theorem dX6_seed_1 : decode cX6_seed 1 = .ok (.iconst 4, 1) := dk_7 (dk_at dksX6_seed_0 1 rfl rfl)
theorem dX6_seed_2 : decode cX6_seed 2 = .ok (.iload_n 1, 1) := dk_27 (dk_at dksX6_seed_0 2 rfl rfl)
theorem dX6_seed_3 : decode cX6_seed 3 = .ok (.invokevirtual 110, 3) := dk_182 0 110 (dk_at dksX6_seed_0 3 rfl rfl)
theorem dX6_seed_6 : decode cX6_seed 6 = .ok (.ireturn, 1) := dk_172 (dk_at dksX6_seed_0 6 rfl rfl)
abbrev cX6_deed : ByteArray := prog_19_method_34_code
def yX6_deed : MethodName := ⟨RX6, "deed", "(III)I"⟩
def dkwX6_deed_7 : List UInt8 := [46, 4, 100, 172]
abbrev dktX6_deed_7 : List UInt8 := dkwX6_deed_7 ++ []
def dkwX6_deed_6 : List UInt8 := [180, 0, 7, 21, 5, 8, 96, 3, 79, 42, 180, 0, 7, 4, 92, 46, 4, 96, 79, 42, 180, 0, 7, 4]
abbrev dktX6_deed_6 : List UInt8 := dkwX6_deed_6 ++ dktX6_deed_7
def dkwX6_deed_5 : List UInt8 := [29, 79, 42, 180, 0, 7, 21, 5, 6, 96, 3, 79, 42, 180, 0, 7, 21, 5, 7, 96, 3, 79, 42]
abbrev dktX6_deed_5 : List UInt8 := dkwX6_deed_5 ++ dktX6_deed_6
def dkwX6_deed_4 : List UInt8 := [21, 5, 3, 96, 27, 79, 42, 180, 0, 7, 21, 5, 4, 96, 28, 79, 42, 180, 0, 7, 21, 5, 5, 96]
abbrev dktX6_deed_4 : List UInt8 := dkwX6_deed_4 ++ dktX6_deed_5
def dkwX6_deed_3 : List UInt8 := [160, 0, 6, 18, 83, 172, 16, 66, 16, 6, 42, 180, 0, 7, 4, 46, 104, 96, 54, 5, 42, 180, 0, 7]
abbrev dktX6_deed_3 : List UInt8 := dkwX6_deed_3 ++ dktX6_deed_4
def dkwX6_deed_2 : List UInt8 := [133, 9, 20, 0, 131, 184, 0, 65, 154, 0, 6, 18, 82, 172, 42, 180, 0, 7, 4, 46, 16, 8]
abbrev dktX6_deed_2 : List UInt8 := dkwX6_deed_2 ++ dktX6_deed_3
def dkwX6_deed_1 : List UInt8 := [167, 0, 4, 3, 54, 4, 21, 4, 153, 0, 27, 28, 133, 9, 20, 0, 113, 184, 0, 65, 153, 0, 15, 29]
abbrev dktX6_deed_1 : List UInt8 := dkwX6_deed_1 ++ dktX6_deed_2
def dkwX6_deed_0 : List UInt8 := [27, 158, 0, 26, 27, 42, 182, 0, 69, 2, 130, 126, 154, 0, 15, 27, 184, 0, 128, 5, 163, 0, 7, 4]
abbrev dktX6_deed_0 : List UInt8 := dkwX6_deed_0 ++ dktX6_deed_1
theorem dksX6_deed_0 : cX6_deed.data.toList.drop 0 = dktX6_deed_0 := by decide +kernel
theorem dksX6_deed_1 : cX6_deed.data.toList.drop 24 = dktX6_deed_1 := dk_seg dksX6_deed_0 24 rfl rfl
theorem dksX6_deed_2 : cX6_deed.data.toList.drop 48 = dktX6_deed_2 := dk_seg dksX6_deed_1 24 rfl rfl
theorem dksX6_deed_3 : cX6_deed.data.toList.drop 70 = dktX6_deed_3 := dk_seg dksX6_deed_2 22 rfl rfl
theorem dksX6_deed_4 : cX6_deed.data.toList.drop 94 = dktX6_deed_4 := dk_seg dksX6_deed_3 24 rfl rfl
theorem dksX6_deed_5 : cX6_deed.data.toList.drop 118 = dktX6_deed_5 := dk_seg dksX6_deed_4 24 rfl rfl
theorem dksX6_deed_6 : cX6_deed.data.toList.drop 141 = dktX6_deed_6 := dk_seg dksX6_deed_5 23 rfl rfl
theorem dksX6_deed_7 : cX6_deed.data.toList.drop 165 = dktX6_deed_7 := dk_seg dksX6_deed_6 24 rfl rfl
theorem dX6_deed_0 : decode cX6_deed 0 = .ok (.iload_n 1, 1) := dk_27 (dk_at dksX6_deed_0 0 rfl rfl)
theorem dX6_deed_1 : decode cX6_deed 1 = .ok (.ifCond .le 26, 3) := dk_158 0 26 (dk_at dksX6_deed_0 1 rfl rfl)
theorem dX6_deed_4 : decode cX6_deed 4 = .ok (.iload_n 1, 1) := dk_27 (dk_at dksX6_deed_0 4 rfl rfl)
theorem dX6_deed_5 : decode cX6_deed 5 = .ok (.aload_n 0, 1) := dk_42 (dk_at dksX6_deed_0 5 rfl rfl)
theorem dX6_deed_6 : decode cX6_deed 6 = .ok (.invokevirtual 69, 3) := dk_182 0 69 (dk_at dksX6_deed_0 6 rfl rfl)
theorem dX6_deed_9 : decode cX6_deed 9 = .ok (.iconst (-1), 1) := dk_2 (dk_at dksX6_deed_0 9 rfl rfl)
theorem dX6_deed_10 : decode cX6_deed 10 = .ok (.ixor, 1) := dk_130 (dk_at dksX6_deed_0 10 rfl rfl)
theorem dX6_deed_11 : decode cX6_deed 11 = .ok (.iand, 1) := dk_126 (dk_at dksX6_deed_0 11 rfl rfl)
theorem dX6_deed_12 : decode cX6_deed 12 = .ok (.ifCond .ne 15, 3) := dk_154 0 15 (dk_at dksX6_deed_0 12 rfl rfl)
theorem dX6_deed_15 : decode cX6_deed 15 = .ok (.iload_n 1, 1) := dk_27 (dk_at dksX6_deed_0 15 rfl rfl)
theorem dX6_deed_16 : decode cX6_deed 16 = .ok (.invokestatic 128, 3) := dk_184 0 128 (dk_at dksX6_deed_0 16 rfl rfl)
theorem dX6_deed_19 : decode cX6_deed 19 = .ok (.iconst 2, 1) := dk_5 (dk_at dksX6_deed_0 19 rfl rfl)
theorem dX6_deed_20 : decode cX6_deed 20 = .ok (.if_icmp .gt 7, 3) := dk_163 0 7 (dk_at dksX6_deed_0 20 rfl rfl)
theorem dX6_deed_23 : decode cX6_deed 23 = .ok (.iconst 1, 1) := dk_4 (dk_at dksX6_deed_0 23 rfl rfl)
theorem dX6_deed_24 : decode cX6_deed 24 = .ok (.goto 4, 3) := dk_167 0 4 (dk_at dksX6_deed_1 0 rfl rfl)
theorem dX6_deed_27 : decode cX6_deed 27 = .ok (.iconst 0, 1) := dk_3 (dk_at dksX6_deed_1 3 rfl rfl)
theorem dX6_deed_28 : decode cX6_deed 28 = .ok (.istore 4, 2) := dk_54 4 (dk_at dksX6_deed_1 4 rfl rfl)
theorem dX6_deed_30 : decode cX6_deed 30 = .ok (.iload 4, 2) := dk_21 4 (dk_at dksX6_deed_1 6 rfl rfl)
theorem dX6_deed_32 : decode cX6_deed 32 = .ok (.ifCond .eq 27, 3) := dk_153 0 27 (dk_at dksX6_deed_1 8 rfl rfl)
theorem dX6_deed_35 : decode cX6_deed 35 = .ok (.iload_n 2, 1) := dk_28 (dk_at dksX6_deed_1 11 rfl rfl)
theorem dX6_deed_36 : decode cX6_deed 36 = .ok (.i2l, 1) := dk_133 (dk_at dksX6_deed_1 12 rfl rfl)
theorem dX6_deed_37 : decode cX6_deed 37 = .ok (.lconst 0, 1) := dk_9 (dk_at dksX6_deed_1 13 rfl rfl)
theorem dX6_deed_38 : decode cX6_deed 38 = .ok (.ldc2_w 113, 3) := dk_20 0 113 (dk_at dksX6_deed_1 14 rfl rfl)
theorem dX6_deed_41 : decode cX6_deed 41 = .ok (.invokestatic 65, 3) := dk_184 0 65 (dk_at dksX6_deed_1 17 rfl rfl)
theorem dX6_deed_44 : decode cX6_deed 44 = .ok (.ifCond .eq 15, 3) := dk_153 0 15 (dk_at dksX6_deed_1 20 rfl rfl)
theorem dX6_deed_47 : decode cX6_deed 47 = .ok (.iload_n 3, 1) := dk_29 (dk_at dksX6_deed_1 23 rfl rfl)
theorem dX6_deed_48 : decode cX6_deed 48 = .ok (.i2l, 1) := dk_133 (dk_at dksX6_deed_2 0 rfl rfl)
theorem dX6_deed_49 : decode cX6_deed 49 = .ok (.lconst 0, 1) := dk_9 (dk_at dksX6_deed_2 1 rfl rfl)
theorem dX6_deed_50 : decode cX6_deed 50 = .ok (.ldc2_w 131, 3) := dk_20 0 131 (dk_at dksX6_deed_2 2 rfl rfl)
theorem dX6_deed_53 : decode cX6_deed 53 = .ok (.invokestatic 65, 3) := dk_184 0 65 (dk_at dksX6_deed_2 5 rfl rfl)
theorem dX6_deed_56 : decode cX6_deed 56 = .ok (.ifCond .ne 6, 3) := dk_154 0 6 (dk_at dksX6_deed_2 8 rfl rfl)
theorem dX6_deed_59 : decode cX6_deed 59 = .ok (.ldc 82, 2) := dk_18 82 (dk_at dksX6_deed_2 11 rfl rfl)
theorem dX6_deed_61 : decode cX6_deed 61 = .ok (.ireturn, 1) := dk_172 (dk_at dksX6_deed_2 13 rfl rfl)
theorem dX6_deed_62 : decode cX6_deed 62 = .ok (.aload_n 0, 1) := dk_42 (dk_at dksX6_deed_2 14 rfl rfl)
theorem dX6_deed_63 : decode cX6_deed 63 = .ok (.getfield 7, 3) := dk_180 0 7 (dk_at dksX6_deed_2 15 rfl rfl)
theorem dX6_deed_66 : decode cX6_deed 66 = .ok (.iconst 1, 1) := dk_4 (dk_at dksX6_deed_2 18 rfl rfl)
theorem dX6_deed_67 : decode cX6_deed 67 = .ok (.iaload, 1) := dk_46 (dk_at dksX6_deed_2 19 rfl rfl)
theorem dX6_deed_68 : decode cX6_deed 68 = .ok (.bipush 8, 2) := dk_16 8 (dk_at dksX6_deed_2 20 rfl rfl)
theorem dX6_deed_70 : decode cX6_deed 70 = .ok (.if_icmp .ne 6, 3) := dk_160 0 6 (dk_at dksX6_deed_3 0 rfl rfl)
theorem dX6_deed_73 : decode cX6_deed 73 = .ok (.ldc 83, 2) := dk_18 83 (dk_at dksX6_deed_3 3 rfl rfl)
theorem dX6_deed_75 : decode cX6_deed 75 = .ok (.ireturn, 1) := dk_172 (dk_at dksX6_deed_3 5 rfl rfl)
theorem dX6_deed_76 : decode cX6_deed 76 = .ok (.bipush 66, 2) := dk_16 66 (dk_at dksX6_deed_3 6 rfl rfl)
theorem dX6_deed_78 : decode cX6_deed 78 = .ok (.bipush 6, 2) := dk_16 6 (dk_at dksX6_deed_3 8 rfl rfl)
theorem dX6_deed_80 : decode cX6_deed 80 = .ok (.aload_n 0, 1) := dk_42 (dk_at dksX6_deed_3 10 rfl rfl)
theorem dX6_deed_81 : decode cX6_deed 81 = .ok (.getfield 7, 3) := dk_180 0 7 (dk_at dksX6_deed_3 11 rfl rfl)
theorem dX6_deed_84 : decode cX6_deed 84 = .ok (.iconst 1, 1) := dk_4 (dk_at dksX6_deed_3 14 rfl rfl)
theorem dX6_deed_85 : decode cX6_deed 85 = .ok (.iaload, 1) := dk_46 (dk_at dksX6_deed_3 15 rfl rfl)
theorem dX6_deed_86 : decode cX6_deed 86 = .ok (.imul, 1) := dk_104 (dk_at dksX6_deed_3 16 rfl rfl)
theorem dX6_deed_87 : decode cX6_deed 87 = .ok (.iadd, 1) := dk_96 (dk_at dksX6_deed_3 17 rfl rfl)
theorem dX6_deed_88 : decode cX6_deed 88 = .ok (.istore 5, 2) := dk_54 5 (dk_at dksX6_deed_3 18 rfl rfl)
theorem dX6_deed_90 : decode cX6_deed 90 = .ok (.aload_n 0, 1) := dk_42 (dk_at dksX6_deed_3 20 rfl rfl)
theorem dX6_deed_91 : decode cX6_deed 91 = .ok (.getfield 7, 3) := dk_180 0 7 (dk_at dksX6_deed_3 21 rfl rfl)
theorem dX6_deed_94 : decode cX6_deed 94 = .ok (.iload 5, 2) := dk_21 5 (dk_at dksX6_deed_4 0 rfl rfl)
theorem dX6_deed_96 : decode cX6_deed 96 = .ok (.iconst 0, 1) := dk_3 (dk_at dksX6_deed_4 2 rfl rfl)
theorem dX6_deed_97 : decode cX6_deed 97 = .ok (.iadd, 1) := dk_96 (dk_at dksX6_deed_4 3 rfl rfl)
theorem dX6_deed_98 : decode cX6_deed 98 = .ok (.iload_n 1, 1) := dk_27 (dk_at dksX6_deed_4 4 rfl rfl)
theorem dX6_deed_99 : decode cX6_deed 99 = .ok (.iastore, 1) := dk_79 (dk_at dksX6_deed_4 5 rfl rfl)
theorem dX6_deed_100 : decode cX6_deed 100 = .ok (.aload_n 0, 1) := dk_42 (dk_at dksX6_deed_4 6 rfl rfl)
theorem dX6_deed_101 : decode cX6_deed 101 = .ok (.getfield 7, 3) := dk_180 0 7 (dk_at dksX6_deed_4 7 rfl rfl)
theorem dX6_deed_104 : decode cX6_deed 104 = .ok (.iload 5, 2) := dk_21 5 (dk_at dksX6_deed_4 10 rfl rfl)
theorem dX6_deed_106 : decode cX6_deed 106 = .ok (.iconst 1, 1) := dk_4 (dk_at dksX6_deed_4 12 rfl rfl)
theorem dX6_deed_107 : decode cX6_deed 107 = .ok (.iadd, 1) := dk_96 (dk_at dksX6_deed_4 13 rfl rfl)
theorem dX6_deed_108 : decode cX6_deed 108 = .ok (.iload_n 2, 1) := dk_28 (dk_at dksX6_deed_4 14 rfl rfl)
theorem dX6_deed_109 : decode cX6_deed 109 = .ok (.iastore, 1) := dk_79 (dk_at dksX6_deed_4 15 rfl rfl)
theorem dX6_deed_110 : decode cX6_deed 110 = .ok (.aload_n 0, 1) := dk_42 (dk_at dksX6_deed_4 16 rfl rfl)
theorem dX6_deed_111 : decode cX6_deed 111 = .ok (.getfield 7, 3) := dk_180 0 7 (dk_at dksX6_deed_4 17 rfl rfl)
theorem dX6_deed_114 : decode cX6_deed 114 = .ok (.iload 5, 2) := dk_21 5 (dk_at dksX6_deed_4 20 rfl rfl)
theorem dX6_deed_116 : decode cX6_deed 116 = .ok (.iconst 2, 1) := dk_5 (dk_at dksX6_deed_4 22 rfl rfl)
theorem dX6_deed_117 : decode cX6_deed 117 = .ok (.iadd, 1) := dk_96 (dk_at dksX6_deed_4 23 rfl rfl)
theorem dX6_deed_118 : decode cX6_deed 118 = .ok (.iload_n 3, 1) := dk_29 (dk_at dksX6_deed_5 0 rfl rfl)
theorem dX6_deed_119 : decode cX6_deed 119 = .ok (.iastore, 1) := dk_79 (dk_at dksX6_deed_5 1 rfl rfl)
theorem dX6_deed_120 : decode cX6_deed 120 = .ok (.aload_n 0, 1) := dk_42 (dk_at dksX6_deed_5 2 rfl rfl)
theorem dX6_deed_121 : decode cX6_deed 121 = .ok (.getfield 7, 3) := dk_180 0 7 (dk_at dksX6_deed_5 3 rfl rfl)
theorem dX6_deed_124 : decode cX6_deed 124 = .ok (.iload 5, 2) := dk_21 5 (dk_at dksX6_deed_5 6 rfl rfl)
theorem dX6_deed_126 : decode cX6_deed 126 = .ok (.iconst 3, 1) := dk_6 (dk_at dksX6_deed_5 8 rfl rfl)
theorem dX6_deed_127 : decode cX6_deed 127 = .ok (.iadd, 1) := dk_96 (dk_at dksX6_deed_5 9 rfl rfl)
theorem dX6_deed_128 : decode cX6_deed 128 = .ok (.iconst 0, 1) := dk_3 (dk_at dksX6_deed_5 10 rfl rfl)
theorem dX6_deed_129 : decode cX6_deed 129 = .ok (.iastore, 1) := dk_79 (dk_at dksX6_deed_5 11 rfl rfl)
theorem dX6_deed_130 : decode cX6_deed 130 = .ok (.aload_n 0, 1) := dk_42 (dk_at dksX6_deed_5 12 rfl rfl)
theorem dX6_deed_131 : decode cX6_deed 131 = .ok (.getfield 7, 3) := dk_180 0 7 (dk_at dksX6_deed_5 13 rfl rfl)
theorem dX6_deed_134 : decode cX6_deed 134 = .ok (.iload 5, 2) := dk_21 5 (dk_at dksX6_deed_5 16 rfl rfl)
theorem dX6_deed_136 : decode cX6_deed 136 = .ok (.iconst 4, 1) := dk_7 (dk_at dksX6_deed_5 18 rfl rfl)
theorem dX6_deed_137 : decode cX6_deed 137 = .ok (.iadd, 1) := dk_96 (dk_at dksX6_deed_5 19 rfl rfl)
theorem dX6_deed_138 : decode cX6_deed 138 = .ok (.iconst 0, 1) := dk_3 (dk_at dksX6_deed_5 20 rfl rfl)
theorem dX6_deed_139 : decode cX6_deed 139 = .ok (.iastore, 1) := dk_79 (dk_at dksX6_deed_5 21 rfl rfl)
theorem dX6_deed_140 : decode cX6_deed 140 = .ok (.aload_n 0, 1) := dk_42 (dk_at dksX6_deed_5 22 rfl rfl)
theorem dX6_deed_141 : decode cX6_deed 141 = .ok (.getfield 7, 3) := dk_180 0 7 (dk_at dksX6_deed_6 0 rfl rfl)
theorem dX6_deed_144 : decode cX6_deed 144 = .ok (.iload 5, 2) := dk_21 5 (dk_at dksX6_deed_6 3 rfl rfl)
theorem dX6_deed_146 : decode cX6_deed 146 = .ok (.iconst 5, 1) := dk_8 (dk_at dksX6_deed_6 5 rfl rfl)
theorem dX6_deed_147 : decode cX6_deed 147 = .ok (.iadd, 1) := dk_96 (dk_at dksX6_deed_6 6 rfl rfl)
theorem dX6_deed_148 : decode cX6_deed 148 = .ok (.iconst 0, 1) := dk_3 (dk_at dksX6_deed_6 7 rfl rfl)
theorem dX6_deed_149 : decode cX6_deed 149 = .ok (.iastore, 1) := dk_79 (dk_at dksX6_deed_6 8 rfl rfl)
theorem dX6_deed_150 : decode cX6_deed 150 = .ok (.aload_n 0, 1) := dk_42 (dk_at dksX6_deed_6 9 rfl rfl)
theorem dX6_deed_151 : decode cX6_deed 151 = .ok (.getfield 7, 3) := dk_180 0 7 (dk_at dksX6_deed_6 10 rfl rfl)
theorem dX6_deed_154 : decode cX6_deed 154 = .ok (.iconst 1, 1) := dk_4 (dk_at dksX6_deed_6 13 rfl rfl)
theorem dX6_deed_155 : decode cX6_deed 155 = .ok (.dup2, 1) := dk_92 (dk_at dksX6_deed_6 14 rfl rfl)
theorem dX6_deed_156 : decode cX6_deed 156 = .ok (.iaload, 1) := dk_46 (dk_at dksX6_deed_6 15 rfl rfl)
theorem dX6_deed_157 : decode cX6_deed 157 = .ok (.iconst 1, 1) := dk_4 (dk_at dksX6_deed_6 16 rfl rfl)
theorem dX6_deed_158 : decode cX6_deed 158 = .ok (.iadd, 1) := dk_96 (dk_at dksX6_deed_6 17 rfl rfl)
theorem dX6_deed_159 : decode cX6_deed 159 = .ok (.iastore, 1) := dk_79 (dk_at dksX6_deed_6 18 rfl rfl)
theorem dX6_deed_160 : decode cX6_deed 160 = .ok (.aload_n 0, 1) := dk_42 (dk_at dksX6_deed_6 19 rfl rfl)
theorem dX6_deed_161 : decode cX6_deed 161 = .ok (.getfield 7, 3) := dk_180 0 7 (dk_at dksX6_deed_6 20 rfl rfl)
theorem dX6_deed_164 : decode cX6_deed 164 = .ok (.iconst 1, 1) := dk_4 (dk_at dksX6_deed_6 23 rfl rfl)
theorem dX6_deed_165 : decode cX6_deed 165 = .ok (.iaload, 1) := dk_46 (dk_at dksX6_deed_7 0 rfl rfl)
theorem dX6_deed_166 : decode cX6_deed 166 = .ok (.iconst 1, 1) := dk_4 (dk_at dksX6_deed_7 1 rfl rfl)
theorem dX6_deed_167 : decode cX6_deed 167 = .ok (.isub, 1) := dk_100 (dk_at dksX6_deed_7 2 rfl rfl)
theorem dX6_deed_168 : decode cX6_deed 168 = .ok (.ireturn, 1) := dk_172 (dk_at dksX6_deed_7 3 rfl rfl)
abbrev cX6_everybody : ByteArray := prog_19_method_12_code
def yX6_everybody : MethodName := ⟨RX6, "everybody", "()I"⟩
def dkwX6_everybody_0 : List UInt8 := [4, 42, 180, 0, 7, 3, 46, 120, 4, 100, 172]
abbrev dktX6_everybody_0 : List UInt8 := dkwX6_everybody_0 ++ []
theorem dksX6_everybody_0 : cX6_everybody.data.toList.drop 0 = dktX6_everybody_0 := by decide +kernel
theorem dX6_everybody_0 : decode cX6_everybody 0 = .ok (.iconst 1, 1) := dk_4 (dk_at dksX6_everybody_0 0 rfl rfl)
theorem dX6_everybody_1 : decode cX6_everybody 1 = .ok (.aload_n 0, 1) := dk_42 (dk_at dksX6_everybody_0 1 rfl rfl)
theorem dX6_everybody_2 : decode cX6_everybody 2 = .ok (.getfield 7, 3) := dk_180 0 7 (dk_at dksX6_everybody_0 2 rfl rfl)
theorem dX6_everybody_5 : decode cX6_everybody 5 = .ok (.iconst 0, 1) := dk_3 (dk_at dksX6_everybody_0 5 rfl rfl)
theorem dX6_everybody_6 : decode cX6_everybody 6 = .ok (.iaload, 1) := dk_46 (dk_at dksX6_everybody_0 6 rfl rfl)
theorem dX6_everybody_7 : decode cX6_everybody 7 = .ok (.ishl, 1) := dk_120 (dk_at dksX6_everybody_0 7 rfl rfl)
theorem dX6_everybody_8 : decode cX6_everybody 8 = .ok (.iconst 1, 1) := dk_4 (dk_at dksX6_everybody_0 8 rfl rfl)
theorem dX6_everybody_9 : decode cX6_everybody 9 = .ok (.isub, 1) := dk_100 (dk_at dksX6_everybody_0 9 rfl rfl)
theorem dX6_everybody_10 : decode cX6_everybody 10 = .ok (.ireturn, 1) := dk_172 (dk_at dksX6_everybody_0 10 rfl rfl)
abbrev cX6_ones : ByteArray := prog_19_method_14_code
def yX6_ones : MethodName := ⟨RX6, "ones", "(I)I"⟩
def dkwX6_ones_1 : List UInt8 := [27, 172]
abbrev dktX6_ones_1 : List UInt8 := dkwX6_ones_1 ++ []
def dkwX6_ones_0 : List UInt8 := [3, 60, 3, 61, 28, 16, 12, 162, 0, 17, 27, 26, 28, 122, 4, 126, 96, 60, 132, 2, 1, 167, 255, 239]
abbrev dktX6_ones_0 : List UInt8 := dkwX6_ones_0 ++ dktX6_ones_1
theorem dksX6_ones_0 : cX6_ones.data.toList.drop 0 = dktX6_ones_0 := by decide +kernel
theorem dksX6_ones_1 : cX6_ones.data.toList.drop 24 = dktX6_ones_1 := dk_seg dksX6_ones_0 24 rfl rfl
theorem dX6_ones_0 : decode cX6_ones 0 = .ok (.iconst 0, 1) := dk_3 (dk_at dksX6_ones_0 0 rfl rfl)
theorem dX6_ones_1 : decode cX6_ones 1 = .ok (.istore_n 1, 1) := dk_60 (dk_at dksX6_ones_0 1 rfl rfl)
theorem dX6_ones_2 : decode cX6_ones 2 = .ok (.iconst 0, 1) := dk_3 (dk_at dksX6_ones_0 2 rfl rfl)
theorem dX6_ones_3 : decode cX6_ones 3 = .ok (.istore_n 2, 1) := dk_61 (dk_at dksX6_ones_0 3 rfl rfl)
theorem dX6_ones_4 : decode cX6_ones 4 = .ok (.iload_n 2, 1) := dk_28 (dk_at dksX6_ones_0 4 rfl rfl)
theorem dX6_ones_5 : decode cX6_ones 5 = .ok (.bipush 12, 2) := dk_16 12 (dk_at dksX6_ones_0 5 rfl rfl)
theorem dX6_ones_7 : decode cX6_ones 7 = .ok (.if_icmp .ge 17, 3) := dk_162 0 17 (dk_at dksX6_ones_0 7 rfl rfl)
theorem dX6_ones_10 : decode cX6_ones 10 = .ok (.iload_n 1, 1) := dk_27 (dk_at dksX6_ones_0 10 rfl rfl)
theorem dX6_ones_11 : decode cX6_ones 11 = .ok (.iload_n 0, 1) := dk_26 (dk_at dksX6_ones_0 11 rfl rfl)
theorem dX6_ones_12 : decode cX6_ones 12 = .ok (.iload_n 2, 1) := dk_28 (dk_at dksX6_ones_0 12 rfl rfl)
theorem dX6_ones_13 : decode cX6_ones 13 = .ok (.ishr, 1) := dk_122 (dk_at dksX6_ones_0 13 rfl rfl)
theorem dX6_ones_14 : decode cX6_ones 14 = .ok (.iconst 1, 1) := dk_4 (dk_at dksX6_ones_0 14 rfl rfl)
theorem dX6_ones_15 : decode cX6_ones 15 = .ok (.iand, 1) := dk_126 (dk_at dksX6_ones_0 15 rfl rfl)
theorem dX6_ones_16 : decode cX6_ones 16 = .ok (.iadd, 1) := dk_96 (dk_at dksX6_ones_0 16 rfl rfl)
theorem dX6_ones_17 : decode cX6_ones 17 = .ok (.istore_n 1, 1) := dk_60 (dk_at dksX6_ones_0 17 rfl rfl)
theorem dX6_ones_18 : decode cX6_ones 18 = .ok (.iinc 2 1, 3) := dk_132 2 1 (dk_at dksX6_ones_0 18 rfl rfl)
theorem dX6_ones_21 : decode cX6_ones 21 = .ok (.goto (-17), 3) := dk_167 255 239 (dk_at dksX6_ones_0 21 rfl rfl)
theorem dX6_ones_24 : decode cX6_ones 24 = .ok (.iload_n 1, 1) := dk_27 (dk_at dksX6_ones_1 0 rfl rfl)
theorem dX6_ones_25 : decode cX6_ones 25 = .ok (.ireturn, 1) := dk_172 (dk_at dksX6_ones_1 1 rfl rfl)
abbrev cX6_deedTold : ByteArray := prog_19_method_36_code
def yX6_deedTold : MethodName := ⟨RX6, "deedTold", "(II)I"⟩
def dkwX6_deedTold_3 : List UInt8 := [42, 27, 3, 182, 0, 73, 160, 0, 7, 4, 167, 0, 4, 3, 172, 18, 82, 172]
abbrev dktX6_deedTold_3 : List UInt8 := dkwX6_deedTold_3 ++ []
def dkwX6_deedTold_2 : List UInt8 := [42, 27, 182, 0, 136, 172, 42, 27, 28, 182, 0, 73, 172, 42, 27, 182, 0, 149, 172, 42, 27, 182, 0, 136]
abbrev dktX6_deedTold_2 : List UInt8 := dkwX6_deedTold_2 ++ dktX6_deedTold_3
def dkwX6_deedTold_1 : List UInt8 := [170, 0, 0, 0, 0, 0, 0, 87, 0, 0, 0, 0, 0, 0, 0, 7, 0, 0, 0, 54, 0, 0, 0, 54, 0, 0, 0, 54, 0, 0, 0, 48, 0, 0, 0, 54, 0, 0, 0, 54, 0, 0, 0, 61, 0, 0, 0, 67]
abbrev dktX6_deedTold_1 : List UInt8 := dkwX6_deedTold_1 ++ dktX6_deedTold_2
def dkwX6_deedTold_0 : List UInt8 := [42, 27, 182, 0, 146, 154, 0, 6, 18, 82, 172, 28]
abbrev dktX6_deedTold_0 : List UInt8 := dkwX6_deedTold_0 ++ dktX6_deedTold_1
theorem dksX6_deedTold_0 : cX6_deedTold.data.toList.drop 0 = dktX6_deedTold_0 := by decide +kernel
theorem dksX6_deedTold_1 : cX6_deedTold.data.toList.drop 12 = dktX6_deedTold_1 := dk_seg dksX6_deedTold_0 12 rfl rfl
theorem dksX6_deedTold_2 : cX6_deedTold.data.toList.drop 60 = dktX6_deedTold_2 := dk_seg dksX6_deedTold_1 48 rfl rfl
theorem dksX6_deedTold_3 : cX6_deedTold.data.toList.drop 84 = dktX6_deedTold_3 := dk_seg dksX6_deedTold_2 24 rfl rfl
theorem dX6_deedTold_0 : decode cX6_deedTold 0 = .ok (.aload_n 0, 1) := dk_42 (dk_at dksX6_deedTold_0 0 rfl rfl)
theorem dX6_deedTold_1 : decode cX6_deedTold 1 = .ok (.iload_n 1, 1) := dk_27 (dk_at dksX6_deedTold_0 1 rfl rfl)
theorem dX6_deedTold_2 : decode cX6_deedTold 2 = .ok (.invokevirtual 146, 3) := dk_182 0 146 (dk_at dksX6_deedTold_0 2 rfl rfl)
theorem dX6_deedTold_5 : decode cX6_deedTold 5 = .ok (.ifCond .ne 6, 3) := dk_154 0 6 (dk_at dksX6_deedTold_0 5 rfl rfl)
theorem dX6_deedTold_8 : decode cX6_deedTold 8 = .ok (.ldc 82, 2) := dk_18 82 (dk_at dksX6_deedTold_0 8 rfl rfl)
theorem dX6_deedTold_10 : decode cX6_deedTold 10 = .ok (.ireturn, 1) := dk_172 (dk_at dksX6_deedTold_0 10 rfl rfl)
theorem dX6_deedTold_11 : decode cX6_deedTold 11 = .ok (.iload_n 2, 1) := dk_28 (dk_at dksX6_deedTold_0 11 rfl rfl)
theorem dX6_deedTold_12 : decode cX6_deedTold 12 = .ok (.tableswitch 87 0 7 #[54, 54, 54, 48, 54, 54, 61, 67], 48) := by decide +kernel
theorem dX6_deedTold_60 : decode cX6_deedTold 60 = .ok (.aload_n 0, 1) := dk_42 (dk_at dksX6_deedTold_2 0 rfl rfl)
theorem dX6_deedTold_61 : decode cX6_deedTold 61 = .ok (.iload_n 1, 1) := dk_27 (dk_at dksX6_deedTold_2 1 rfl rfl)
theorem dX6_deedTold_62 : decode cX6_deedTold 62 = .ok (.invokevirtual 136, 3) := dk_182 0 136 (dk_at dksX6_deedTold_2 2 rfl rfl)
theorem dX6_deedTold_65 : decode cX6_deedTold 65 = .ok (.ireturn, 1) := dk_172 (dk_at dksX6_deedTold_2 5 rfl rfl)
theorem dX6_deedTold_66 : decode cX6_deedTold 66 = .ok (.aload_n 0, 1) := dk_42 (dk_at dksX6_deedTold_2 6 rfl rfl)
theorem dX6_deedTold_67 : decode cX6_deedTold 67 = .ok (.iload_n 1, 1) := dk_27 (dk_at dksX6_deedTold_2 7 rfl rfl)
theorem dX6_deedTold_68 : decode cX6_deedTold 68 = .ok (.iload_n 2, 1) := dk_28 (dk_at dksX6_deedTold_2 8 rfl rfl)
theorem dX6_deedTold_69 : decode cX6_deedTold 69 = .ok (.invokevirtual 73, 3) := dk_182 0 73 (dk_at dksX6_deedTold_2 9 rfl rfl)
theorem dX6_deedTold_72 : decode cX6_deedTold 72 = .ok (.ireturn, 1) := dk_172 (dk_at dksX6_deedTold_2 12 rfl rfl)
theorem dX6_deedTold_73 : decode cX6_deedTold 73 = .ok (.aload_n 0, 1) := dk_42 (dk_at dksX6_deedTold_2 13 rfl rfl)
theorem dX6_deedTold_74 : decode cX6_deedTold 74 = .ok (.iload_n 1, 1) := dk_27 (dk_at dksX6_deedTold_2 14 rfl rfl)
theorem dX6_deedTold_75 : decode cX6_deedTold 75 = .ok (.invokevirtual 149, 3) := dk_182 0 149 (dk_at dksX6_deedTold_2 15 rfl rfl)
theorem dX6_deedTold_78 : decode cX6_deedTold 78 = .ok (.ireturn, 1) := dk_172 (dk_at dksX6_deedTold_2 18 rfl rfl)
theorem dX6_deedTold_79 : decode cX6_deedTold 79 = .ok (.aload_n 0, 1) := dk_42 (dk_at dksX6_deedTold_2 19 rfl rfl)
theorem dX6_deedTold_80 : decode cX6_deedTold 80 = .ok (.iload_n 1, 1) := dk_27 (dk_at dksX6_deedTold_2 20 rfl rfl)
theorem dX6_deedTold_81 : decode cX6_deedTold 81 = .ok (.invokevirtual 136, 3) := dk_182 0 136 (dk_at dksX6_deedTold_2 21 rfl rfl)
theorem dX6_deedTold_84 : decode cX6_deedTold 84 = .ok (.aload_n 0, 1) := dk_42 (dk_at dksX6_deedTold_3 0 rfl rfl)
theorem dX6_deedTold_85 : decode cX6_deedTold 85 = .ok (.iload_n 1, 1) := dk_27 (dk_at dksX6_deedTold_3 1 rfl rfl)
theorem dX6_deedTold_86 : decode cX6_deedTold 86 = .ok (.iconst 0, 1) := dk_3 (dk_at dksX6_deedTold_3 2 rfl rfl)
theorem dX6_deedTold_87 : decode cX6_deedTold 87 = .ok (.invokevirtual 73, 3) := dk_182 0 73 (dk_at dksX6_deedTold_3 3 rfl rfl)
theorem dX6_deedTold_90 : decode cX6_deedTold 90 = .ok (.if_icmp .ne 7, 3) := dk_160 0 7 (dk_at dksX6_deedTold_3 6 rfl rfl)
theorem dX6_deedTold_93 : decode cX6_deedTold 93 = .ok (.iconst 1, 1) := dk_4 (dk_at dksX6_deedTold_3 9 rfl rfl)
theorem dX6_deedTold_94 : decode cX6_deedTold 94 = .ok (.goto 4, 3) := dk_167 0 4 (dk_at dksX6_deedTold_3 10 rfl rfl)
theorem dX6_deedTold_97 : decode cX6_deedTold 97 = .ok (.iconst 0, 1) := dk_3 (dk_at dksX6_deedTold_3 13 rfl rfl)
theorem dX6_deedTold_98 : decode cX6_deedTold 98 = .ok (.ireturn, 1) := dk_172 (dk_at dksX6_deedTold_3 14 rfl rfl)
theorem dX6_deedTold_99 : decode cX6_deedTold 99 = .ok (.ldc 82, 2) := dk_18 82 (dk_at dksX6_deedTold_3 15 rfl rfl)
theorem dX6_deedTold_101 : decode cX6_deedTold 101 = .ok (.ireturn, 1) := dk_172 (dk_at dksX6_deedTold_3 17 rfl rfl)
abbrev cX6_isDeed : ByteArray := prog_19_method_10_code
def yX6_isDeed : MethodName := ⟨RX6, "isDeed", "(I)Z"⟩
def dkwX6_isDeed_0 : List UInt8 := [27, 133, 9, 42, 180, 0, 7, 4, 46, 4, 100, 133, 184, 0, 65, 172]
abbrev dktX6_isDeed_0 : List UInt8 := dkwX6_isDeed_0 ++ []
theorem dksX6_isDeed_0 : cX6_isDeed.data.toList.drop 0 = dktX6_isDeed_0 := by decide +kernel
theorem dX6_isDeed_0 : decode cX6_isDeed 0 = .ok (.iload_n 1, 1) := dk_27 (dk_at dksX6_isDeed_0 0 rfl rfl)
theorem dX6_isDeed_1 : decode cX6_isDeed 1 = .ok (.i2l, 1) := dk_133 (dk_at dksX6_isDeed_0 1 rfl rfl)
theorem dX6_isDeed_2 : decode cX6_isDeed 2 = .ok (.lconst 0, 1) := dk_9 (dk_at dksX6_isDeed_0 2 rfl rfl)
theorem dX6_isDeed_3 : decode cX6_isDeed 3 = .ok (.aload_n 0, 1) := dk_42 (dk_at dksX6_isDeed_0 3 rfl rfl)
theorem dX6_isDeed_4 : decode cX6_isDeed 4 = .ok (.getfield 7, 3) := dk_180 0 7 (dk_at dksX6_isDeed_0 4 rfl rfl)
theorem dX6_isDeed_7 : decode cX6_isDeed 7 = .ok (.iconst 1, 1) := dk_4 (dk_at dksX6_isDeed_0 7 rfl rfl)
theorem dX6_isDeed_8 : decode cX6_isDeed 8 = .ok (.iaload, 1) := dk_46 (dk_at dksX6_isDeed_0 8 rfl rfl)
theorem dX6_isDeed_9 : decode cX6_isDeed 9 = .ok (.iconst 1, 1) := dk_4 (dk_at dksX6_isDeed_0 9 rfl rfl)
theorem dX6_isDeed_10 : decode cX6_isDeed 10 = .ok (.isub, 1) := dk_100 (dk_at dksX6_isDeed_0 10 rfl rfl)
theorem dX6_isDeed_11 : decode cX6_isDeed 11 = .ok (.i2l, 1) := dk_133 (dk_at dksX6_isDeed_0 11 rfl rfl)
theorem dX6_isDeed_12 : decode cX6_isDeed 12 = .ok (.invokestatic 65, 3) := dk_184 0 65 (dk_at dksX6_isDeed_0 12 rfl rfl)
theorem dX6_isDeed_15 : decode cX6_isDeed 15 = .ok (.ireturn, 1) := dk_172 (dk_at dksX6_isDeed_0 15 rfl rfl)
abbrev cX6_left : ByteArray := prog_19_method_13_code
def yX6_left : MethodName := ⟨RX6, "left", "(I)I"⟩
def dkwX6_left_0 : List UInt8 := [42, 182, 0, 69, 42, 27, 6, 182, 0, 73, 2, 130, 126, 172]
abbrev dktX6_left_0 : List UInt8 := dkwX6_left_0 ++ []
theorem dksX6_left_0 : cX6_left.data.toList.drop 0 = dktX6_left_0 := by decide +kernel
theorem dX6_left_0 : decode cX6_left 0 = .ok (.aload_n 0, 1) := dk_42 (dk_at dksX6_left_0 0 rfl rfl)
theorem dX6_left_1 : decode cX6_left 1 = .ok (.invokevirtual 69, 3) := dk_182 0 69 (dk_at dksX6_left_0 1 rfl rfl)
theorem dX6_left_4 : decode cX6_left 4 = .ok (.aload_n 0, 1) := dk_42 (dk_at dksX6_left_0 4 rfl rfl)
theorem dX6_left_5 : decode cX6_left 5 = .ok (.iload_n 1, 1) := dk_27 (dk_at dksX6_left_0 5 rfl rfl)
theorem dX6_left_6 : decode cX6_left 6 = .ok (.iconst 3, 1) := dk_6 (dk_at dksX6_left_0 6 rfl rfl)
theorem dX6_left_7 : decode cX6_left 7 = .ok (.invokevirtual 73, 3) := dk_182 0 73 (dk_at dksX6_left_0 7 rfl rfl)
theorem dX6_left_10 : decode cX6_left 10 = .ok (.iconst (-1), 1) := dk_2 (dk_at dksX6_left_0 10 rfl rfl)
theorem dX6_left_11 : decode cX6_left 11 = .ok (.ixor, 1) := dk_130 (dk_at dksX6_left_0 11 rfl rfl)
theorem dX6_left_12 : decode cX6_left 12 = .ok (.iand, 1) := dk_126 (dk_at dksX6_left_0 12 rfl rfl)
theorem dX6_left_13 : decode cX6_left 13 = .ok (.ireturn, 1) := dk_172 (dk_at dksX6_left_0 13 rfl rfl)
abbrev cX6_cost : ByteArray := prog_19_method_35_code
def yX6_cost : MethodName := ⟨RX6, "cost", "(I)I"⟩
def dkwX6_cost_3 : List UInt8 := [18, 142, 184, 0, 143, 172]
abbrev dktX6_cost_3 : List UInt8 := dkwX6_cost_3 ++ []
def dkwX6_cost_2 : List UInt8 := [182, 0, 73, 79, 42, 180, 0, 49, 16, 110, 42, 27, 182, 0, 136, 184, 0, 128, 79, 42, 28, 182, 0, 139]
abbrev dktX6_cost_2 : List UInt8 := dkwX6_cost_2 ++ dktX6_cost_3
def dkwX6_cost_1 : List UInt8 := [42, 180, 0, 49, 16, 108, 42, 27, 8, 182, 0, 73, 79, 42, 180, 0, 49, 16, 119, 42, 27, 5]
abbrev dktX6_cost_1 : List UInt8 := dkwX6_cost_1 ++ dktX6_cost_2
def dkwX6_cost_0 : List UInt8 := [42, 4, 182, 0, 133, 61, 28, 156, 0, 17, 42, 27, 8, 182, 0, 73, 42, 27, 5, 182, 0, 73, 104, 172]
abbrev dktX6_cost_0 : List UInt8 := dkwX6_cost_0 ++ dktX6_cost_1
theorem dksX6_cost_0 : cX6_cost.data.toList.drop 0 = dktX6_cost_0 := by decide +kernel
theorem dksX6_cost_1 : cX6_cost.data.toList.drop 24 = dktX6_cost_1 := dk_seg dksX6_cost_0 24 rfl rfl
theorem dksX6_cost_2 : cX6_cost.data.toList.drop 46 = dktX6_cost_2 := dk_seg dksX6_cost_1 22 rfl rfl
theorem dksX6_cost_3 : cX6_cost.data.toList.drop 70 = dktX6_cost_3 := dk_seg dksX6_cost_2 24 rfl rfl
theorem dX6_cost_0 : decode cX6_cost 0 = .ok (.aload_n 0, 1) := dk_42 (dk_at dksX6_cost_0 0 rfl rfl)
theorem dX6_cost_1 : decode cX6_cost 1 = .ok (.iconst 1, 1) := dk_4 (dk_at dksX6_cost_0 1 rfl rfl)
theorem dX6_cost_2 : decode cX6_cost 2 = .ok (.invokevirtual 133, 3) := dk_182 0 133 (dk_at dksX6_cost_0 2 rfl rfl)
theorem dX6_cost_5 : decode cX6_cost 5 = .ok (.istore_n 2, 1) := dk_61 (dk_at dksX6_cost_0 5 rfl rfl)
theorem dX6_cost_6 : decode cX6_cost 6 = .ok (.iload_n 2, 1) := dk_28 (dk_at dksX6_cost_0 6 rfl rfl)
theorem dX6_cost_7 : decode cX6_cost 7 = .ok (.ifCond .ge 17, 3) := dk_156 0 17 (dk_at dksX6_cost_0 7 rfl rfl)
theorem dX6_cost_10 : decode cX6_cost 10 = .ok (.aload_n 0, 1) := dk_42 (dk_at dksX6_cost_0 10 rfl rfl)
theorem dX6_cost_11 : decode cX6_cost 11 = .ok (.iload_n 1, 1) := dk_27 (dk_at dksX6_cost_0 11 rfl rfl)
theorem dX6_cost_12 : decode cX6_cost 12 = .ok (.iconst 5, 1) := dk_8 (dk_at dksX6_cost_0 12 rfl rfl)
theorem dX6_cost_13 : decode cX6_cost 13 = .ok (.invokevirtual 73, 3) := dk_182 0 73 (dk_at dksX6_cost_0 13 rfl rfl)
theorem dX6_cost_16 : decode cX6_cost 16 = .ok (.aload_n 0, 1) := dk_42 (dk_at dksX6_cost_0 16 rfl rfl)
theorem dX6_cost_17 : decode cX6_cost 17 = .ok (.iload_n 1, 1) := dk_27 (dk_at dksX6_cost_0 17 rfl rfl)
theorem dX6_cost_18 : decode cX6_cost 18 = .ok (.iconst 2, 1) := dk_5 (dk_at dksX6_cost_0 18 rfl rfl)
theorem dX6_cost_19 : decode cX6_cost 19 = .ok (.invokevirtual 73, 3) := dk_182 0 73 (dk_at dksX6_cost_0 19 rfl rfl)
theorem dX6_cost_22 : decode cX6_cost 22 = .ok (.imul, 1) := dk_104 (dk_at dksX6_cost_0 22 rfl rfl)
theorem dX6_cost_23 : decode cX6_cost 23 = .ok (.ireturn, 1) := dk_172 (dk_at dksX6_cost_0 23 rfl rfl)
theorem dX6_cost_24 : decode cX6_cost 24 = .ok (.aload_n 0, 1) := dk_42 (dk_at dksX6_cost_1 0 rfl rfl)
theorem dX6_cost_25 : decode cX6_cost 25 = .ok (.getfield 49, 3) := dk_180 0 49 (dk_at dksX6_cost_1 1 rfl rfl)
theorem dX6_cost_28 : decode cX6_cost 28 = .ok (.bipush 108, 2) := dk_16 108 (dk_at dksX6_cost_1 4 rfl rfl)
theorem dX6_cost_30 : decode cX6_cost 30 = .ok (.aload_n 0, 1) := dk_42 (dk_at dksX6_cost_1 6 rfl rfl)
theorem dX6_cost_31 : decode cX6_cost 31 = .ok (.iload_n 1, 1) := dk_27 (dk_at dksX6_cost_1 7 rfl rfl)
theorem dX6_cost_32 : decode cX6_cost 32 = .ok (.iconst 5, 1) := dk_8 (dk_at dksX6_cost_1 8 rfl rfl)
theorem dX6_cost_33 : decode cX6_cost 33 = .ok (.invokevirtual 73, 3) := dk_182 0 73 (dk_at dksX6_cost_1 9 rfl rfl)
theorem dX6_cost_36 : decode cX6_cost 36 = .ok (.iastore, 1) := dk_79 (dk_at dksX6_cost_1 12 rfl rfl)
theorem dX6_cost_37 : decode cX6_cost 37 = .ok (.aload_n 0, 1) := dk_42 (dk_at dksX6_cost_1 13 rfl rfl)
theorem dX6_cost_38 : decode cX6_cost 38 = .ok (.getfield 49, 3) := dk_180 0 49 (dk_at dksX6_cost_1 14 rfl rfl)
theorem dX6_cost_41 : decode cX6_cost 41 = .ok (.bipush 119, 2) := dk_16 119 (dk_at dksX6_cost_1 17 rfl rfl)
theorem dX6_cost_43 : decode cX6_cost 43 = .ok (.aload_n 0, 1) := dk_42 (dk_at dksX6_cost_1 19 rfl rfl)
theorem dX6_cost_44 : decode cX6_cost 44 = .ok (.iload_n 1, 1) := dk_27 (dk_at dksX6_cost_1 20 rfl rfl)
theorem dX6_cost_45 : decode cX6_cost 45 = .ok (.iconst 2, 1) := dk_5 (dk_at dksX6_cost_1 21 rfl rfl)
theorem dX6_cost_46 : decode cX6_cost 46 = .ok (.invokevirtual 73, 3) := dk_182 0 73 (dk_at dksX6_cost_2 0 rfl rfl)
theorem dX6_cost_49 : decode cX6_cost 49 = .ok (.iastore, 1) := dk_79 (dk_at dksX6_cost_2 3 rfl rfl)
theorem dX6_cost_50 : decode cX6_cost 50 = .ok (.aload_n 0, 1) := dk_42 (dk_at dksX6_cost_2 4 rfl rfl)
theorem dX6_cost_51 : decode cX6_cost 51 = .ok (.getfield 49, 3) := dk_180 0 49 (dk_at dksX6_cost_2 5 rfl rfl)
theorem dX6_cost_54 : decode cX6_cost 54 = .ok (.bipush 110, 2) := dk_16 110 (dk_at dksX6_cost_2 8 rfl rfl)
theorem dX6_cost_56 : decode cX6_cost 56 = .ok (.aload_n 0, 1) := dk_42 (dk_at dksX6_cost_2 10 rfl rfl)
theorem dX6_cost_57 : decode cX6_cost 57 = .ok (.iload_n 1, 1) := dk_27 (dk_at dksX6_cost_2 11 rfl rfl)
theorem dX6_cost_58 : decode cX6_cost 58 = .ok (.invokevirtual 136, 3) := dk_182 0 136 (dk_at dksX6_cost_2 12 rfl rfl)
theorem dX6_cost_61 : decode cX6_cost 61 = .ok (.invokestatic 128, 3) := dk_184 0 128 (dk_at dksX6_cost_2 15 rfl rfl)
theorem dX6_cost_64 : decode cX6_cost 64 = .ok (.iastore, 1) := dk_79 (dk_at dksX6_cost_2 18 rfl rfl)
theorem dX6_cost_65 : decode cX6_cost 65 = .ok (.aload_n 0, 1) := dk_42 (dk_at dksX6_cost_2 19 rfl rfl)
theorem dX6_cost_66 : decode cX6_cost 66 = .ok (.iload_n 2, 1) := dk_28 (dk_at dksX6_cost_2 20 rfl rfl)
theorem dX6_cost_67 : decode cX6_cost 67 = .ok (.invokevirtual 139, 3) := dk_182 0 139 (dk_at dksX6_cost_2 21 rfl rfl)
theorem dX6_cost_70 : decode cX6_cost 70 = .ok (.ldc 142, 2) := dk_18 142 (dk_at dksX6_cost_3 0 rfl rfl)
theorem dX6_cost_72 : decode cX6_cost 72 = .ok (.invokestatic 143, 3) := dk_184 0 143 (dk_at dksX6_cost_3 2 rfl rfl)
theorem dX6_cost_75 : decode cX6_cost 75 = .ok (.ireturn, 1) := dk_172 (dk_at dksX6_cost_3 5 rfl rfl)
abbrev cX6_counts : ByteArray := prog_19_method_75_code
def yX6_counts : MethodName := ⟨RX6, "counts", "(I)I"⟩
def dkwX6_counts_1 : List UInt8 := [27, 160, 0, 7, 29, 167, 0, 4, 28, 61, 132, 3, 1, 167, 255, 223, 28, 172]
abbrev dktX6_counts_1 : List UInt8 := dkwX6_counts_1 ++ []
def dkwX6_counts_0 : List UInt8 := [2, 61, 3, 62, 29, 42, 180, 0, 7, 5, 46, 162, 0, 29, 42, 180, 0, 7, 42, 29, 182, 1, 16, 46]
abbrev dktX6_counts_0 : List UInt8 := dkwX6_counts_0 ++ dktX6_counts_1
theorem dksX6_counts_0 : cX6_counts.data.toList.drop 0 = dktX6_counts_0 := by decide +kernel
theorem dksX6_counts_1 : cX6_counts.data.toList.drop 24 = dktX6_counts_1 := dk_seg dksX6_counts_0 24 rfl rfl
theorem dX6_counts_0 : decode cX6_counts 0 = .ok (.iconst (-1), 1) := dk_2 (dk_at dksX6_counts_0 0 rfl rfl)
theorem dX6_counts_1 : decode cX6_counts 1 = .ok (.istore_n 2, 1) := dk_61 (dk_at dksX6_counts_0 1 rfl rfl)
theorem dX6_counts_2 : decode cX6_counts 2 = .ok (.iconst 0, 1) := dk_3 (dk_at dksX6_counts_0 2 rfl rfl)
theorem dX6_counts_3 : decode cX6_counts 3 = .ok (.istore_n 3, 1) := dk_62 (dk_at dksX6_counts_0 3 rfl rfl)
theorem dX6_counts_4 : decode cX6_counts 4 = .ok (.iload_n 3, 1) := dk_29 (dk_at dksX6_counts_0 4 rfl rfl)
theorem dX6_counts_5 : decode cX6_counts 5 = .ok (.aload_n 0, 1) := dk_42 (dk_at dksX6_counts_0 5 rfl rfl)
theorem dX6_counts_6 : decode cX6_counts 6 = .ok (.getfield 7, 3) := dk_180 0 7 (dk_at dksX6_counts_0 6 rfl rfl)
theorem dX6_counts_9 : decode cX6_counts 9 = .ok (.iconst 2, 1) := dk_5 (dk_at dksX6_counts_0 9 rfl rfl)
theorem dX6_counts_10 : decode cX6_counts 10 = .ok (.iaload, 1) := dk_46 (dk_at dksX6_counts_0 10 rfl rfl)
theorem dX6_counts_11 : decode cX6_counts 11 = .ok (.if_icmp .ge 29, 3) := dk_162 0 29 (dk_at dksX6_counts_0 11 rfl rfl)
theorem dX6_counts_14 : decode cX6_counts 14 = .ok (.aload_n 0, 1) := dk_42 (dk_at dksX6_counts_0 14 rfl rfl)
theorem dX6_counts_15 : decode cX6_counts 15 = .ok (.getfield 7, 3) := dk_180 0 7 (dk_at dksX6_counts_0 15 rfl rfl)
theorem dX6_counts_18 : decode cX6_counts 18 = .ok (.aload_n 0, 1) := dk_42 (dk_at dksX6_counts_0 18 rfl rfl)
theorem dX6_counts_19 : decode cX6_counts 19 = .ok (.iload_n 3, 1) := dk_29 (dk_at dksX6_counts_0 19 rfl rfl)
theorem dX6_counts_20 : decode cX6_counts 20 = .ok (.invokevirtual 272, 3) := dk_182 1 16 (dk_at dksX6_counts_0 20 rfl rfl)
theorem dX6_counts_23 : decode cX6_counts 23 = .ok (.iaload, 1) := dk_46 (dk_at dksX6_counts_0 23 rfl rfl)
theorem dX6_counts_24 : decode cX6_counts 24 = .ok (.iload_n 1, 1) := dk_27 (dk_at dksX6_counts_1 0 rfl rfl)
theorem dX6_counts_25 : decode cX6_counts 25 = .ok (.if_icmp .ne 7, 3) := dk_160 0 7 (dk_at dksX6_counts_1 1 rfl rfl)
theorem dX6_counts_28 : decode cX6_counts 28 = .ok (.iload_n 3, 1) := dk_29 (dk_at dksX6_counts_1 4 rfl rfl)
theorem dX6_counts_29 : decode cX6_counts 29 = .ok (.goto 4, 3) := dk_167 0 4 (dk_at dksX6_counts_1 5 rfl rfl)
theorem dX6_counts_32 : decode cX6_counts 32 = .ok (.iload_n 2, 1) := dk_28 (dk_at dksX6_counts_1 8 rfl rfl)
theorem dX6_counts_33 : decode cX6_counts 33 = .ok (.istore_n 2, 1) := dk_61 (dk_at dksX6_counts_1 9 rfl rfl)
theorem dX6_counts_34 : decode cX6_counts 34 = .ok (.iinc 3 1, 3) := dk_132 3 1 (dk_at dksX6_counts_1 10 rfl rfl)
theorem dX6_counts_37 : decode cX6_counts 37 = .ok (.goto (-33), 3) := dk_167 255 223 (dk_at dksX6_counts_1 13 rfl rfl)
theorem dX6_counts_40 : decode cX6_counts 40 = .ok (.iload_n 2, 1) := dk_28 (dk_at dksX6_counts_1 16 rfl rfl)
theorem dX6_counts_41 : decode cX6_counts 41 = .ok (.ireturn, 1) := dk_172 (dk_at dksX6_counts_1 17 rfl rfl)
abbrev cX6_textAt : ByteArray := prog_19_method_6_code
def yX6_textAt : MethodName := ⟨RX6, "textAt", "(I)I"⟩
def dkwX6_textAt_0 : List UInt8 := [16, 114, 17, 0, 200, 27, 104, 96, 172]
abbrev dktX6_textAt_0 : List UInt8 := dkwX6_textAt_0 ++ []
theorem dksX6_textAt_0 : cX6_textAt.data.toList.drop 0 = dktX6_textAt_0 := by decide +kernel
theorem dX6_textAt_0 : decode cX6_textAt 0 = .ok (.bipush 114, 2) := dk_16 114 (dk_at dksX6_textAt_0 0 rfl rfl)
theorem dX6_textAt_2 : decode cX6_textAt 2 = .ok (.sipush 200, 3) := dk_17 0 200 (dk_at dksX6_textAt_0 2 rfl rfl)
theorem dX6_textAt_5 : decode cX6_textAt 5 = .ok (.iload_n 1, 1) := dk_27 (dk_at dksX6_textAt_0 5 rfl rfl)
theorem dX6_textAt_6 : decode cX6_textAt 6 = .ok (.imul, 1) := dk_104 (dk_at dksX6_textAt_0 6 rfl rfl)
theorem dX6_textAt_7 : decode cX6_textAt 7 = .ok (.iadd, 1) := dk_96 (dk_at dksX6_textAt_0 7 rfl rfl)
theorem dX6_textAt_8 : decode cX6_textAt 8 = .ok (.ireturn, 1) := dk_172 (dk_at dksX6_textAt_0 8 rfl rfl)
abbrev cX6_worked : ByteArray := prog_19_method_78_code
def yX6_worked : MethodName := ⟨RX6, "worked", "(I)I"⟩
def dkwX6_worked_7 : List UInt8 := [3, 46, 172]
abbrev dktX6_worked_7 : List UInt8 := dkwX6_worked_7 ++ []
def dkwX6_worked_6 : List UInt8 := [28, 4, 100, 46, 42, 180, 0, 52, 28, 46, 184, 1, 30, 79, 132, 3, 1, 167, 255, 100, 42, 180, 0, 52]
abbrev dktX6_worked_6 : List UInt8 := dkwX6_worked_6 ++ dktX6_worked_7
def dkwX6_worked_5 : List UInt8 := [167, 0, 4, 3, 79, 167, 0, 33, 132, 2, 255, 42, 180, 0, 52, 28, 4, 100, 21, 5, 42, 180, 0, 52]
abbrev dktX6_worked_5 : List UInt8 := dkwX6_worked_5 ++ dktX6_worked_6
def dkwX6_worked_4 : List UInt8 := [16, 33, 160, 0, 30, 42, 180, 0, 52, 28, 4, 100, 42, 180, 0, 52, 28, 4, 100, 46, 154, 0, 7, 4]
abbrev dktX6_worked_4 : List UInt8 := dkwX6_worked_4 ++ dktX6_worked_5
def dkwX6_worked_3 : List UInt8 := [154, 0, 8, 21, 5, 167, 0, 10, 42, 180, 0, 49, 21, 5, 46, 79, 132, 2, 1, 167, 0, 67, 21, 5]
abbrev dktX6_worked_3 : List UInt8 := dkwX6_worked_3 ++ dktX6_worked_4
def dkwX6_worked_2 : List UInt8 := [96, 5, 29, 104, 96, 4, 96, 46, 54, 5, 21, 4, 5, 159, 0, 32, 42, 180, 0, 52, 28, 21, 4]
abbrev dktX6_worked_2 : List UInt8 := dkwX6_worked_2 ++ dktX6_worked_3
def dkwX6_worked_1 : List UInt8 := [42, 27, 182, 1, 16, 7, 96, 5, 29, 104, 96, 46, 54, 4, 42, 180, 0, 7, 42, 27, 182, 1, 16, 7]
abbrev dktX6_worked_1 : List UInt8 := dkwX6_worked_1 ++ dktX6_worked_2
def dkwX6_worked_0 : List UInt8 := [3, 61, 3, 62, 29, 42, 180, 0, 7, 42, 27, 182, 1, 16, 5, 96, 46, 162, 0, 146, 42, 180, 0, 7]
abbrev dktX6_worked_0 : List UInt8 := dkwX6_worked_0 ++ dktX6_worked_1
theorem dksX6_worked_0 : cX6_worked.data.toList.drop 0 = dktX6_worked_0 := by decide +kernel
theorem dksX6_worked_1 : cX6_worked.data.toList.drop 24 = dktX6_worked_1 := dk_seg dksX6_worked_0 24 rfl rfl
theorem dksX6_worked_2 : cX6_worked.data.toList.drop 48 = dktX6_worked_2 := dk_seg dksX6_worked_1 24 rfl rfl
theorem dksX6_worked_3 : cX6_worked.data.toList.drop 71 = dktX6_worked_3 := dk_seg dksX6_worked_2 23 rfl rfl
theorem dksX6_worked_4 : cX6_worked.data.toList.drop 95 = dktX6_worked_4 := dk_seg dksX6_worked_3 24 rfl rfl
theorem dksX6_worked_5 : cX6_worked.data.toList.drop 119 = dktX6_worked_5 := dk_seg dksX6_worked_4 24 rfl rfl
theorem dksX6_worked_6 : cX6_worked.data.toList.drop 143 = dktX6_worked_6 := dk_seg dksX6_worked_5 24 rfl rfl
theorem dksX6_worked_7 : cX6_worked.data.toList.drop 167 = dktX6_worked_7 := dk_seg dksX6_worked_6 24 rfl rfl
theorem dX6_worked_0 : decode cX6_worked 0 = .ok (.iconst 0, 1) := dk_3 (dk_at dksX6_worked_0 0 rfl rfl)
theorem dX6_worked_1 : decode cX6_worked 1 = .ok (.istore_n 2, 1) := dk_61 (dk_at dksX6_worked_0 1 rfl rfl)
theorem dX6_worked_2 : decode cX6_worked 2 = .ok (.iconst 0, 1) := dk_3 (dk_at dksX6_worked_0 2 rfl rfl)
theorem dX6_worked_3 : decode cX6_worked 3 = .ok (.istore_n 3, 1) := dk_62 (dk_at dksX6_worked_0 3 rfl rfl)
theorem dX6_worked_4 : decode cX6_worked 4 = .ok (.iload_n 3, 1) := dk_29 (dk_at dksX6_worked_0 4 rfl rfl)
theorem dX6_worked_5 : decode cX6_worked 5 = .ok (.aload_n 0, 1) := dk_42 (dk_at dksX6_worked_0 5 rfl rfl)
theorem dX6_worked_6 : decode cX6_worked 6 = .ok (.getfield 7, 3) := dk_180 0 7 (dk_at dksX6_worked_0 6 rfl rfl)
theorem dX6_worked_9 : decode cX6_worked 9 = .ok (.aload_n 0, 1) := dk_42 (dk_at dksX6_worked_0 9 rfl rfl)
theorem dX6_worked_10 : decode cX6_worked 10 = .ok (.iload_n 1, 1) := dk_27 (dk_at dksX6_worked_0 10 rfl rfl)
theorem dX6_worked_11 : decode cX6_worked 11 = .ok (.invokevirtual 272, 3) := dk_182 1 16 (dk_at dksX6_worked_0 11 rfl rfl)
theorem dX6_worked_14 : decode cX6_worked 14 = .ok (.iconst 2, 1) := dk_5 (dk_at dksX6_worked_0 14 rfl rfl)
theorem dX6_worked_15 : decode cX6_worked 15 = .ok (.iadd, 1) := dk_96 (dk_at dksX6_worked_0 15 rfl rfl)
theorem dX6_worked_16 : decode cX6_worked 16 = .ok (.iaload, 1) := dk_46 (dk_at dksX6_worked_0 16 rfl rfl)
theorem dX6_worked_17 : decode cX6_worked 17 = .ok (.if_icmp .ge 146, 3) := dk_162 0 146 (dk_at dksX6_worked_0 17 rfl rfl)
theorem dX6_worked_20 : decode cX6_worked 20 = .ok (.aload_n 0, 1) := dk_42 (dk_at dksX6_worked_0 20 rfl rfl)
theorem dX6_worked_21 : decode cX6_worked 21 = .ok (.getfield 7, 3) := dk_180 0 7 (dk_at dksX6_worked_0 21 rfl rfl)
theorem dX6_worked_24 : decode cX6_worked 24 = .ok (.aload_n 0, 1) := dk_42 (dk_at dksX6_worked_1 0 rfl rfl)
theorem dX6_worked_25 : decode cX6_worked 25 = .ok (.iload_n 1, 1) := dk_27 (dk_at dksX6_worked_1 1 rfl rfl)
theorem dX6_worked_26 : decode cX6_worked 26 = .ok (.invokevirtual 272, 3) := dk_182 1 16 (dk_at dksX6_worked_1 2 rfl rfl)
theorem dX6_worked_29 : decode cX6_worked 29 = .ok (.iconst 4, 1) := dk_7 (dk_at dksX6_worked_1 5 rfl rfl)
theorem dX6_worked_30 : decode cX6_worked 30 = .ok (.iadd, 1) := dk_96 (dk_at dksX6_worked_1 6 rfl rfl)
theorem dX6_worked_31 : decode cX6_worked 31 = .ok (.iconst 2, 1) := dk_5 (dk_at dksX6_worked_1 7 rfl rfl)
theorem dX6_worked_32 : decode cX6_worked 32 = .ok (.iload_n 3, 1) := dk_29 (dk_at dksX6_worked_1 8 rfl rfl)
theorem dX6_worked_33 : decode cX6_worked 33 = .ok (.imul, 1) := dk_104 (dk_at dksX6_worked_1 9 rfl rfl)
theorem dX6_worked_34 : decode cX6_worked 34 = .ok (.iadd, 1) := dk_96 (dk_at dksX6_worked_1 10 rfl rfl)
theorem dX6_worked_35 : decode cX6_worked 35 = .ok (.iaload, 1) := dk_46 (dk_at dksX6_worked_1 11 rfl rfl)
theorem dX6_worked_36 : decode cX6_worked 36 = .ok (.istore 4, 2) := dk_54 4 (dk_at dksX6_worked_1 12 rfl rfl)
theorem dX6_worked_38 : decode cX6_worked 38 = .ok (.aload_n 0, 1) := dk_42 (dk_at dksX6_worked_1 14 rfl rfl)
theorem dX6_worked_39 : decode cX6_worked 39 = .ok (.getfield 7, 3) := dk_180 0 7 (dk_at dksX6_worked_1 15 rfl rfl)
theorem dX6_worked_42 : decode cX6_worked 42 = .ok (.aload_n 0, 1) := dk_42 (dk_at dksX6_worked_1 18 rfl rfl)
theorem dX6_worked_43 : decode cX6_worked 43 = .ok (.iload_n 1, 1) := dk_27 (dk_at dksX6_worked_1 19 rfl rfl)
theorem dX6_worked_44 : decode cX6_worked 44 = .ok (.invokevirtual 272, 3) := dk_182 1 16 (dk_at dksX6_worked_1 20 rfl rfl)
theorem dX6_worked_47 : decode cX6_worked 47 = .ok (.iconst 4, 1) := dk_7 (dk_at dksX6_worked_1 23 rfl rfl)
theorem dX6_worked_48 : decode cX6_worked 48 = .ok (.iadd, 1) := dk_96 (dk_at dksX6_worked_2 0 rfl rfl)
theorem dX6_worked_49 : decode cX6_worked 49 = .ok (.iconst 2, 1) := dk_5 (dk_at dksX6_worked_2 1 rfl rfl)
theorem dX6_worked_50 : decode cX6_worked 50 = .ok (.iload_n 3, 1) := dk_29 (dk_at dksX6_worked_2 2 rfl rfl)
theorem dX6_worked_51 : decode cX6_worked 51 = .ok (.imul, 1) := dk_104 (dk_at dksX6_worked_2 3 rfl rfl)
theorem dX6_worked_52 : decode cX6_worked 52 = .ok (.iadd, 1) := dk_96 (dk_at dksX6_worked_2 4 rfl rfl)
theorem dX6_worked_53 : decode cX6_worked 53 = .ok (.iconst 1, 1) := dk_4 (dk_at dksX6_worked_2 5 rfl rfl)
theorem dX6_worked_54 : decode cX6_worked 54 = .ok (.iadd, 1) := dk_96 (dk_at dksX6_worked_2 6 rfl rfl)
theorem dX6_worked_55 : decode cX6_worked 55 = .ok (.iaload, 1) := dk_46 (dk_at dksX6_worked_2 7 rfl rfl)
theorem dX6_worked_56 : decode cX6_worked 56 = .ok (.istore 5, 2) := dk_54 5 (dk_at dksX6_worked_2 8 rfl rfl)
theorem dX6_worked_58 : decode cX6_worked 58 = .ok (.iload 4, 2) := dk_21 4 (dk_at dksX6_worked_2 10 rfl rfl)
theorem dX6_worked_60 : decode cX6_worked 60 = .ok (.iconst 2, 1) := dk_5 (dk_at dksX6_worked_2 12 rfl rfl)
theorem dX6_worked_61 : decode cX6_worked 61 = .ok (.if_icmp .eq 32, 3) := dk_159 0 32 (dk_at dksX6_worked_2 13 rfl rfl)
theorem dX6_worked_64 : decode cX6_worked 64 = .ok (.aload_n 0, 1) := dk_42 (dk_at dksX6_worked_2 16 rfl rfl)
theorem dX6_worked_65 : decode cX6_worked 65 = .ok (.getfield 52, 3) := dk_180 0 52 (dk_at dksX6_worked_2 17 rfl rfl)
theorem dX6_worked_68 : decode cX6_worked 68 = .ok (.iload_n 2, 1) := dk_28 (dk_at dksX6_worked_2 20 rfl rfl)
theorem dX6_worked_69 : decode cX6_worked 69 = .ok (.iload 4, 2) := dk_21 4 (dk_at dksX6_worked_2 21 rfl rfl)
theorem dX6_worked_71 : decode cX6_worked 71 = .ok (.ifCond .ne 8, 3) := dk_154 0 8 (dk_at dksX6_worked_3 0 rfl rfl)
theorem dX6_worked_74 : decode cX6_worked 74 = .ok (.iload 5, 2) := dk_21 5 (dk_at dksX6_worked_3 3 rfl rfl)
theorem dX6_worked_76 : decode cX6_worked 76 = .ok (.goto 10, 3) := dk_167 0 10 (dk_at dksX6_worked_3 5 rfl rfl)
theorem dX6_worked_79 : decode cX6_worked 79 = .ok (.aload_n 0, 1) := dk_42 (dk_at dksX6_worked_3 8 rfl rfl)
theorem dX6_worked_80 : decode cX6_worked 80 = .ok (.getfield 49, 3) := dk_180 0 49 (dk_at dksX6_worked_3 9 rfl rfl)
theorem dX6_worked_83 : decode cX6_worked 83 = .ok (.iload 5, 2) := dk_21 5 (dk_at dksX6_worked_3 12 rfl rfl)
theorem dX6_worked_85 : decode cX6_worked 85 = .ok (.iaload, 1) := dk_46 (dk_at dksX6_worked_3 14 rfl rfl)
theorem dX6_worked_86 : decode cX6_worked 86 = .ok (.iastore, 1) := dk_79 (dk_at dksX6_worked_3 15 rfl rfl)
theorem dX6_worked_87 : decode cX6_worked 87 = .ok (.iinc 2 1, 3) := dk_132 2 1 (dk_at dksX6_worked_3 16 rfl rfl)
theorem dX6_worked_90 : decode cX6_worked 90 = .ok (.goto 67, 3) := dk_167 0 67 (dk_at dksX6_worked_3 19 rfl rfl)
theorem dX6_worked_93 : decode cX6_worked 93 = .ok (.iload 5, 2) := dk_21 5 (dk_at dksX6_worked_3 22 rfl rfl)
theorem dX6_worked_95 : decode cX6_worked 95 = .ok (.bipush 33, 2) := dk_16 33 (dk_at dksX6_worked_4 0 rfl rfl)
theorem dX6_worked_97 : decode cX6_worked 97 = .ok (.if_icmp .ne 30, 3) := dk_160 0 30 (dk_at dksX6_worked_4 2 rfl rfl)
theorem dX6_worked_100 : decode cX6_worked 100 = .ok (.aload_n 0, 1) := dk_42 (dk_at dksX6_worked_4 5 rfl rfl)
theorem dX6_worked_101 : decode cX6_worked 101 = .ok (.getfield 52, 3) := dk_180 0 52 (dk_at dksX6_worked_4 6 rfl rfl)
theorem dX6_worked_104 : decode cX6_worked 104 = .ok (.iload_n 2, 1) := dk_28 (dk_at dksX6_worked_4 9 rfl rfl)
theorem dX6_worked_105 : decode cX6_worked 105 = .ok (.iconst 1, 1) := dk_4 (dk_at dksX6_worked_4 10 rfl rfl)
theorem dX6_worked_106 : decode cX6_worked 106 = .ok (.isub, 1) := dk_100 (dk_at dksX6_worked_4 11 rfl rfl)
theorem dX6_worked_107 : decode cX6_worked 107 = .ok (.aload_n 0, 1) := dk_42 (dk_at dksX6_worked_4 12 rfl rfl)
theorem dX6_worked_108 : decode cX6_worked 108 = .ok (.getfield 52, 3) := dk_180 0 52 (dk_at dksX6_worked_4 13 rfl rfl)
theorem dX6_worked_111 : decode cX6_worked 111 = .ok (.iload_n 2, 1) := dk_28 (dk_at dksX6_worked_4 16 rfl rfl)
theorem dX6_worked_112 : decode cX6_worked 112 = .ok (.iconst 1, 1) := dk_4 (dk_at dksX6_worked_4 17 rfl rfl)
theorem dX6_worked_113 : decode cX6_worked 113 = .ok (.isub, 1) := dk_100 (dk_at dksX6_worked_4 18 rfl rfl)
theorem dX6_worked_114 : decode cX6_worked 114 = .ok (.iaload, 1) := dk_46 (dk_at dksX6_worked_4 19 rfl rfl)
theorem dX6_worked_115 : decode cX6_worked 115 = .ok (.ifCond .ne 7, 3) := dk_154 0 7 (dk_at dksX6_worked_4 20 rfl rfl)
theorem dX6_worked_118 : decode cX6_worked 118 = .ok (.iconst 1, 1) := dk_4 (dk_at dksX6_worked_4 23 rfl rfl)
theorem dX6_worked_119 : decode cX6_worked 119 = .ok (.goto 4, 3) := dk_167 0 4 (dk_at dksX6_worked_5 0 rfl rfl)
theorem dX6_worked_122 : decode cX6_worked 122 = .ok (.iconst 0, 1) := dk_3 (dk_at dksX6_worked_5 3 rfl rfl)
theorem dX6_worked_123 : decode cX6_worked 123 = .ok (.iastore, 1) := dk_79 (dk_at dksX6_worked_5 4 rfl rfl)
theorem dX6_worked_124 : decode cX6_worked 124 = .ok (.goto 33, 3) := dk_167 0 33 (dk_at dksX6_worked_5 5 rfl rfl)
theorem dX6_worked_127 : decode cX6_worked 127 = .ok (.iinc 2 (-1), 3) := dk_132 2 255 (dk_at dksX6_worked_5 8 rfl rfl)
theorem dX6_worked_130 : decode cX6_worked 130 = .ok (.aload_n 0, 1) := dk_42 (dk_at dksX6_worked_5 11 rfl rfl)
theorem dX6_worked_131 : decode cX6_worked 131 = .ok (.getfield 52, 3) := dk_180 0 52 (dk_at dksX6_worked_5 12 rfl rfl)
theorem dX6_worked_134 : decode cX6_worked 134 = .ok (.iload_n 2, 1) := dk_28 (dk_at dksX6_worked_5 15 rfl rfl)
theorem dX6_worked_135 : decode cX6_worked 135 = .ok (.iconst 1, 1) := dk_4 (dk_at dksX6_worked_5 16 rfl rfl)
theorem dX6_worked_136 : decode cX6_worked 136 = .ok (.isub, 1) := dk_100 (dk_at dksX6_worked_5 17 rfl rfl)
theorem dX6_worked_137 : decode cX6_worked 137 = .ok (.iload 5, 2) := dk_21 5 (dk_at dksX6_worked_5 18 rfl rfl)
theorem dX6_worked_139 : decode cX6_worked 139 = .ok (.aload_n 0, 1) := dk_42 (dk_at dksX6_worked_5 20 rfl rfl)
theorem dX6_worked_140 : decode cX6_worked 140 = .ok (.getfield 52, 3) := dk_180 0 52 (dk_at dksX6_worked_5 21 rfl rfl)
theorem dX6_worked_143 : decode cX6_worked 143 = .ok (.iload_n 2, 1) := dk_28 (dk_at dksX6_worked_6 0 rfl rfl)
theorem dX6_worked_144 : decode cX6_worked 144 = .ok (.iconst 1, 1) := dk_4 (dk_at dksX6_worked_6 1 rfl rfl)
theorem dX6_worked_145 : decode cX6_worked 145 = .ok (.isub, 1) := dk_100 (dk_at dksX6_worked_6 2 rfl rfl)
theorem dX6_worked_146 : decode cX6_worked 146 = .ok (.iaload, 1) := dk_46 (dk_at dksX6_worked_6 3 rfl rfl)
theorem dX6_worked_147 : decode cX6_worked 147 = .ok (.aload_n 0, 1) := dk_42 (dk_at dksX6_worked_6 4 rfl rfl)
theorem dX6_worked_148 : decode cX6_worked 148 = .ok (.getfield 52, 3) := dk_180 0 52 (dk_at dksX6_worked_6 5 rfl rfl)
theorem dX6_worked_151 : decode cX6_worked 151 = .ok (.iload_n 2, 1) := dk_28 (dk_at dksX6_worked_6 8 rfl rfl)
theorem dX6_worked_152 : decode cX6_worked 152 = .ok (.iaload, 1) := dk_46 (dk_at dksX6_worked_6 9 rfl rfl)
theorem dX6_worked_153 : decode cX6_worked 153 = .ok (.invokestatic 286, 3) := dk_184 1 30 (dk_at dksX6_worked_6 10 rfl rfl)
theorem dX6_worked_156 : decode cX6_worked 156 = .ok (.iastore, 1) := dk_79 (dk_at dksX6_worked_6 13 rfl rfl)
theorem dX6_worked_157 : decode cX6_worked 157 = .ok (.iinc 3 1, 3) := dk_132 3 1 (dk_at dksX6_worked_6 14 rfl rfl)
theorem dX6_worked_160 : decode cX6_worked 160 = .ok (.goto (-156), 3) := dk_167 255 100 (dk_at dksX6_worked_6 17 rfl rfl)
theorem dX6_worked_163 : decode cX6_worked 163 = .ok (.aload_n 0, 1) := dk_42 (dk_at dksX6_worked_6 20 rfl rfl)
theorem dX6_worked_164 : decode cX6_worked 164 = .ok (.getfield 52, 3) := dk_180 0 52 (dk_at dksX6_worked_6 21 rfl rfl)
theorem dX6_worked_167 : decode cX6_worked 167 = .ok (.iconst 0, 1) := dk_3 (dk_at dksX6_worked_7 0 rfl rfl)
theorem dX6_worked_168 : decode cX6_worked 168 = .ok (.iaload, 1) := dk_46 (dk_at dksX6_worked_7 1 rfl rfl)
theorem dX6_worked_169 : decode cX6_worked 169 = .ok (.ireturn, 1) := dk_172 (dk_at dksX6_worked_7 2 rfl rfl)
abbrev cX6_joined : ByteArray := prog_19_method_77_code
def yX6_joined : MethodName := ⟨RX6, "joined", "(III)I"⟩
def dkwX6_joined_6 : List UInt8 := [167, 0, 4, 3, 172]
abbrev dktX6_joined_6 : List UInt8 := dkwX6_joined_6 ++ []
def dkwX6_joined_5 : List UInt8 := [153, 0, 11, 28, 153, 0, 7, 4, 167, 0, 4, 3, 172, 27, 154, 0, 7, 28, 153, 0, 7, 4]
abbrev dktX6_joined_5 : List UInt8 := dkwX6_joined_5 ++ dktX6_joined_6
def dkwX6_joined_4 : List UInt8 := [28, 164, 0, 7, 4, 167, 0, 4, 3, 172, 27, 28, 160, 0, 7, 4, 167, 0, 4, 3, 172, 27]
abbrev dktX6_joined_4 : List UInt8 := dkwX6_joined_4 ++ dktX6_joined_5
def dkwX6_joined_3 : List UInt8 := [160, 0, 8, 27, 116, 167, 0, 6, 27, 28, 108, 172, 27, 28, 162, 0, 7, 4, 167, 0, 4, 3, 172, 27]
abbrev dktX6_joined_3 : List UInt8 := dkwX6_joined_3 ++ dktX6_joined_4
def dkwX6_joined_2 : List UInt8 := [27, 28, 96, 172, 27, 28, 100, 172, 27, 28, 104, 172, 28, 154, 0, 7, 3, 167, 0, 16, 28, 2]
abbrev dktX6_joined_2 : List UInt8 := dkwX6_joined_2 ++ dktX6_joined_3
def dkwX6_joined_1 : List UInt8 := [170, 0, 0, 0, 0, 0, 196, 0, 0, 0, 38, 0, 0, 0, 62, 0, 0, 0, 182, 0, 0, 0, 196, 0, 0, 0, 196, 0, 0, 0, 196, 0, 0, 0, 123, 0, 0, 0, 115, 0, 0, 0, 196, 0, 0, 0, 119, 0, 0, 0, 196, 0, 0, 0, 127, 0, 0, 0, 196, 0, 0, 0, 196, 0, 0, 0, 196, 0, 0, 0, 196, 0, 0, 0, 196, 0, 0, 0, 196, 0, 0, 0, 196, 0, 0, 0, 196, 0, 0, 0, 196, 0, 0, 0, 196, 0, 0, 0, 196, 0, 0, 0, 196, 0, 0, 0, 149, 0, 0, 0, 171, 0, 0, 0, 160]
abbrev dktX6_joined_1 : List UInt8 := dkwX6_joined_1 ++ dktX6_joined_2
def dkwX6_joined_0 : List UInt8 := [26]
abbrev dktX6_joined_0 : List UInt8 := dkwX6_joined_0 ++ dktX6_joined_1
theorem dksX6_joined_0 : cX6_joined.data.toList.drop 0 = dktX6_joined_0 := by decide +kernel
theorem dksX6_joined_1 : cX6_joined.data.toList.drop 1 = dktX6_joined_1 := dk_seg dksX6_joined_0 1 rfl rfl
theorem dksX6_joined_2 : cX6_joined.data.toList.drop 116 = dktX6_joined_2 := dk_seg dksX6_joined_1 115 rfl rfl
theorem dksX6_joined_3 : cX6_joined.data.toList.drop 138 = dktX6_joined_3 := dk_seg dksX6_joined_2 22 rfl rfl
theorem dksX6_joined_4 : cX6_joined.data.toList.drop 162 = dktX6_joined_4 := dk_seg dksX6_joined_3 24 rfl rfl
theorem dksX6_joined_5 : cX6_joined.data.toList.drop 184 = dktX6_joined_5 := dk_seg dksX6_joined_4 22 rfl rfl
theorem dksX6_joined_6 : cX6_joined.data.toList.drop 206 = dktX6_joined_6 := dk_seg dksX6_joined_5 22 rfl rfl
theorem dX6_joined_0 : decode cX6_joined 0 = .ok (.iload_n 0, 1) := dk_26 (dk_at dksX6_joined_0 0 rfl rfl)
theorem dX6_joined_1 : decode cX6_joined 1 = .ok (.tableswitch 196 38 62 #[182, 196, 196, 196, 123, 115, 196, 119, 196, 127, 196, 196, 196, 196, 196, 196, 196, 196, 196, 196, 196, 196, 149, 171, 160], 115) := by decide +kernel
theorem dX6_joined_116 : decode cX6_joined 116 = .ok (.iload_n 1, 1) := dk_27 (dk_at dksX6_joined_2 0 rfl rfl)
theorem dX6_joined_117 : decode cX6_joined 117 = .ok (.iload_n 2, 1) := dk_28 (dk_at dksX6_joined_2 1 rfl rfl)
theorem dX6_joined_118 : decode cX6_joined 118 = .ok (.iadd, 1) := dk_96 (dk_at dksX6_joined_2 2 rfl rfl)
theorem dX6_joined_119 : decode cX6_joined 119 = .ok (.ireturn, 1) := dk_172 (dk_at dksX6_joined_2 3 rfl rfl)
theorem dX6_joined_120 : decode cX6_joined 120 = .ok (.iload_n 1, 1) := dk_27 (dk_at dksX6_joined_2 4 rfl rfl)
theorem dX6_joined_121 : decode cX6_joined 121 = .ok (.iload_n 2, 1) := dk_28 (dk_at dksX6_joined_2 5 rfl rfl)
theorem dX6_joined_122 : decode cX6_joined 122 = .ok (.isub, 1) := dk_100 (dk_at dksX6_joined_2 6 rfl rfl)
theorem dX6_joined_123 : decode cX6_joined 123 = .ok (.ireturn, 1) := dk_172 (dk_at dksX6_joined_2 7 rfl rfl)
theorem dX6_joined_124 : decode cX6_joined 124 = .ok (.iload_n 1, 1) := dk_27 (dk_at dksX6_joined_2 8 rfl rfl)
theorem dX6_joined_125 : decode cX6_joined 125 = .ok (.iload_n 2, 1) := dk_28 (dk_at dksX6_joined_2 9 rfl rfl)
theorem dX6_joined_126 : decode cX6_joined 126 = .ok (.imul, 1) := dk_104 (dk_at dksX6_joined_2 10 rfl rfl)
theorem dX6_joined_127 : decode cX6_joined 127 = .ok (.ireturn, 1) := dk_172 (dk_at dksX6_joined_2 11 rfl rfl)
theorem dX6_joined_128 : decode cX6_joined 128 = .ok (.iload_n 2, 1) := dk_28 (dk_at dksX6_joined_2 12 rfl rfl)
theorem dX6_joined_129 : decode cX6_joined 129 = .ok (.ifCond .ne 7, 3) := dk_154 0 7 (dk_at dksX6_joined_2 13 rfl rfl)
theorem dX6_joined_132 : decode cX6_joined 132 = .ok (.iconst 0, 1) := dk_3 (dk_at dksX6_joined_2 16 rfl rfl)
theorem dX6_joined_133 : decode cX6_joined 133 = .ok (.goto 16, 3) := dk_167 0 16 (dk_at dksX6_joined_2 17 rfl rfl)
theorem dX6_joined_136 : decode cX6_joined 136 = .ok (.iload_n 2, 1) := dk_28 (dk_at dksX6_joined_2 20 rfl rfl)
theorem dX6_joined_137 : decode cX6_joined 137 = .ok (.iconst (-1), 1) := dk_2 (dk_at dksX6_joined_2 21 rfl rfl)
theorem dX6_joined_138 : decode cX6_joined 138 = .ok (.if_icmp .ne 8, 3) := dk_160 0 8 (dk_at dksX6_joined_3 0 rfl rfl)
theorem dX6_joined_141 : decode cX6_joined 141 = .ok (.iload_n 1, 1) := dk_27 (dk_at dksX6_joined_3 3 rfl rfl)
theorem dX6_joined_142 : decode cX6_joined 142 = .ok (.ineg, 1) := dk_116 (dk_at dksX6_joined_3 4 rfl rfl)
theorem dX6_joined_143 : decode cX6_joined 143 = .ok (.goto 6, 3) := dk_167 0 6 (dk_at dksX6_joined_3 5 rfl rfl)
theorem dX6_joined_146 : decode cX6_joined 146 = .ok (.iload_n 1, 1) := dk_27 (dk_at dksX6_joined_3 8 rfl rfl)
theorem dX6_joined_147 : decode cX6_joined 147 = .ok (.iload_n 2, 1) := dk_28 (dk_at dksX6_joined_3 9 rfl rfl)
theorem dX6_joined_148 : decode cX6_joined 148 = .ok (.idiv, 1) := dk_108 (dk_at dksX6_joined_3 10 rfl rfl)
theorem dX6_joined_149 : decode cX6_joined 149 = .ok (.ireturn, 1) := dk_172 (dk_at dksX6_joined_3 11 rfl rfl)
theorem dX6_joined_150 : decode cX6_joined 150 = .ok (.iload_n 1, 1) := dk_27 (dk_at dksX6_joined_3 12 rfl rfl)
theorem dX6_joined_151 : decode cX6_joined 151 = .ok (.iload_n 2, 1) := dk_28 (dk_at dksX6_joined_3 13 rfl rfl)
theorem dX6_joined_152 : decode cX6_joined 152 = .ok (.if_icmp .ge 7, 3) := dk_162 0 7 (dk_at dksX6_joined_3 14 rfl rfl)
theorem dX6_joined_155 : decode cX6_joined 155 = .ok (.iconst 1, 1) := dk_4 (dk_at dksX6_joined_3 17 rfl rfl)
theorem dX6_joined_156 : decode cX6_joined 156 = .ok (.goto 4, 3) := dk_167 0 4 (dk_at dksX6_joined_3 18 rfl rfl)
theorem dX6_joined_159 : decode cX6_joined 159 = .ok (.iconst 0, 1) := dk_3 (dk_at dksX6_joined_3 21 rfl rfl)
theorem dX6_joined_160 : decode cX6_joined 160 = .ok (.ireturn, 1) := dk_172 (dk_at dksX6_joined_3 22 rfl rfl)
theorem dX6_joined_161 : decode cX6_joined 161 = .ok (.iload_n 1, 1) := dk_27 (dk_at dksX6_joined_3 23 rfl rfl)
theorem dX6_joined_162 : decode cX6_joined 162 = .ok (.iload_n 2, 1) := dk_28 (dk_at dksX6_joined_4 0 rfl rfl)
theorem dX6_joined_163 : decode cX6_joined 163 = .ok (.if_icmp .le 7, 3) := dk_164 0 7 (dk_at dksX6_joined_4 1 rfl rfl)
theorem dX6_joined_166 : decode cX6_joined 166 = .ok (.iconst 1, 1) := dk_4 (dk_at dksX6_joined_4 4 rfl rfl)
theorem dX6_joined_167 : decode cX6_joined 167 = .ok (.goto 4, 3) := dk_167 0 4 (dk_at dksX6_joined_4 5 rfl rfl)
theorem dX6_joined_170 : decode cX6_joined 170 = .ok (.iconst 0, 1) := dk_3 (dk_at dksX6_joined_4 8 rfl rfl)
theorem dX6_joined_171 : decode cX6_joined 171 = .ok (.ireturn, 1) := dk_172 (dk_at dksX6_joined_4 9 rfl rfl)
theorem dX6_joined_172 : decode cX6_joined 172 = .ok (.iload_n 1, 1) := dk_27 (dk_at dksX6_joined_4 10 rfl rfl)
theorem dX6_joined_173 : decode cX6_joined 173 = .ok (.iload_n 2, 1) := dk_28 (dk_at dksX6_joined_4 11 rfl rfl)
theorem dX6_joined_174 : decode cX6_joined 174 = .ok (.if_icmp .ne 7, 3) := dk_160 0 7 (dk_at dksX6_joined_4 12 rfl rfl)
theorem dX6_joined_177 : decode cX6_joined 177 = .ok (.iconst 1, 1) := dk_4 (dk_at dksX6_joined_4 15 rfl rfl)
theorem dX6_joined_178 : decode cX6_joined 178 = .ok (.goto 4, 3) := dk_167 0 4 (dk_at dksX6_joined_4 16 rfl rfl)
theorem dX6_joined_181 : decode cX6_joined 181 = .ok (.iconst 0, 1) := dk_3 (dk_at dksX6_joined_4 19 rfl rfl)
theorem dX6_joined_182 : decode cX6_joined 182 = .ok (.ireturn, 1) := dk_172 (dk_at dksX6_joined_4 20 rfl rfl)
theorem dX6_joined_183 : decode cX6_joined 183 = .ok (.iload_n 1, 1) := dk_27 (dk_at dksX6_joined_4 21 rfl rfl)
theorem dX6_joined_184 : decode cX6_joined 184 = .ok (.ifCond .eq 11, 3) := dk_153 0 11 (dk_at dksX6_joined_5 0 rfl rfl)
theorem dX6_joined_187 : decode cX6_joined 187 = .ok (.iload_n 2, 1) := dk_28 (dk_at dksX6_joined_5 3 rfl rfl)
theorem dX6_joined_188 : decode cX6_joined 188 = .ok (.ifCond .eq 7, 3) := dk_153 0 7 (dk_at dksX6_joined_5 4 rfl rfl)
theorem dX6_joined_191 : decode cX6_joined 191 = .ok (.iconst 1, 1) := dk_4 (dk_at dksX6_joined_5 7 rfl rfl)
theorem dX6_joined_192 : decode cX6_joined 192 = .ok (.goto 4, 3) := dk_167 0 4 (dk_at dksX6_joined_5 8 rfl rfl)
theorem dX6_joined_195 : decode cX6_joined 195 = .ok (.iconst 0, 1) := dk_3 (dk_at dksX6_joined_5 11 rfl rfl)
theorem dX6_joined_196 : decode cX6_joined 196 = .ok (.ireturn, 1) := dk_172 (dk_at dksX6_joined_5 12 rfl rfl)
theorem dX6_joined_197 : decode cX6_joined 197 = .ok (.iload_n 1, 1) := dk_27 (dk_at dksX6_joined_5 13 rfl rfl)
theorem dX6_joined_198 : decode cX6_joined 198 = .ok (.ifCond .ne 7, 3) := dk_154 0 7 (dk_at dksX6_joined_5 14 rfl rfl)
theorem dX6_joined_201 : decode cX6_joined 201 = .ok (.iload_n 2, 1) := dk_28 (dk_at dksX6_joined_5 17 rfl rfl)
theorem dX6_joined_202 : decode cX6_joined 202 = .ok (.ifCond .eq 7, 3) := dk_153 0 7 (dk_at dksX6_joined_5 18 rfl rfl)
theorem dX6_joined_205 : decode cX6_joined 205 = .ok (.iconst 1, 1) := dk_4 (dk_at dksX6_joined_5 21 rfl rfl)
theorem dX6_joined_206 : decode cX6_joined 206 = .ok (.goto 4, 3) := dk_167 0 4 (dk_at dksX6_joined_6 0 rfl rfl)
theorem dX6_joined_209 : decode cX6_joined 209 = .ok (.iconst 0, 1) := dk_3 (dk_at dksX6_joined_6 3 rfl rfl)
theorem dX6_joined_210 : decode cX6_joined 210 = .ok (.ireturn, 1) := dk_172 (dk_at dksX6_joined_6 4 rfl rfl)
abbrev cX6_within : ByteArray := prog_19_method_4_code
def yX6_within : MethodName := ⟨RX6, "within", "(II)I"⟩
def dkwX6_within_0 : List UInt8 := [26, 156, 0, 7, 3, 167, 0, 13, 26, 27, 164, 0, 7, 27, 167, 0, 4, 26, 172]
abbrev dktX6_within_0 : List UInt8 := dkwX6_within_0 ++ []
theorem dksX6_within_0 : cX6_within.data.toList.drop 0 = dktX6_within_0 := by decide +kernel
theorem dX6_within_0 : decode cX6_within 0 = .ok (.iload_n 0, 1) := dk_26 (dk_at dksX6_within_0 0 rfl rfl)
theorem dX6_within_1 : decode cX6_within 1 = .ok (.ifCond .ge 7, 3) := dk_156 0 7 (dk_at dksX6_within_0 1 rfl rfl)
theorem dX6_within_4 : decode cX6_within 4 = .ok (.iconst 0, 1) := dk_3 (dk_at dksX6_within_0 4 rfl rfl)
theorem dX6_within_5 : decode cX6_within 5 = .ok (.goto 13, 3) := dk_167 0 13 (dk_at dksX6_within_0 5 rfl rfl)
theorem dX6_within_8 : decode cX6_within 8 = .ok (.iload_n 0, 1) := dk_26 (dk_at dksX6_within_0 8 rfl rfl)
theorem dX6_within_9 : decode cX6_within 9 = .ok (.iload_n 1, 1) := dk_27 (dk_at dksX6_within_0 9 rfl rfl)
theorem dX6_within_10 : decode cX6_within 10 = .ok (.if_icmp .le 7, 3) := dk_164 0 7 (dk_at dksX6_within_0 10 rfl rfl)
theorem dX6_within_13 : decode cX6_within 13 = .ok (.iload_n 1, 1) := dk_27 (dk_at dksX6_within_0 13 rfl rfl)
theorem dX6_within_14 : decode cX6_within 14 = .ok (.goto 4, 3) := dk_167 0 4 (dk_at dksX6_within_0 14 rfl rfl)
theorem dX6_within_17 : decode cX6_within 17 = .ok (.iload_n 0, 1) := dk_26 (dk_at dksX6_within_0 17 rfl rfl)
theorem dX6_within_18 : decode cX6_within 18 = .ok (.ireturn, 1) := dk_172 (dk_at dksX6_within_0 18 rfl rfl)
abbrev cX6_again : ByteArray := prog_19_method_37_code
def yX6_again : MethodName := ⟨RX6, "again", "(I)I"⟩
def dkwX6_again_2 : List UInt8 := [172]
abbrev dktX6_again_2 : List UInt8 := dkwX6_again_2 ++ []
def dkwX6_again_1 : List UInt8 := [7, 96, 3, 79, 42, 180, 0, 7, 28, 8, 96, 3, 79, 42, 28, 6, 96, 3, 182, 0, 110, 184, 0, 128]
abbrev dktX6_again_1 : List UInt8 := dkwX6_again_1 ++ dktX6_again_2
def dkwX6_again_0 : List UInt8 := [42, 27, 182, 0, 146, 154, 0, 6, 18, 82, 172, 16, 66, 16, 6, 27, 104, 96, 61, 42, 180, 0, 7, 28]
abbrev dktX6_again_0 : List UInt8 := dkwX6_again_0 ++ dktX6_again_1
theorem dksX6_again_0 : cX6_again.data.toList.drop 0 = dktX6_again_0 := by decide +kernel
theorem dksX6_again_1 : cX6_again.data.toList.drop 24 = dktX6_again_1 := dk_seg dksX6_again_0 24 rfl rfl
theorem dksX6_again_2 : cX6_again.data.toList.drop 48 = dktX6_again_2 := dk_seg dksX6_again_1 24 rfl rfl
theorem dX6_again_0 : decode cX6_again 0 = .ok (.aload_n 0, 1) := dk_42 (dk_at dksX6_again_0 0 rfl rfl)
theorem dX6_again_1 : decode cX6_again 1 = .ok (.iload_n 1, 1) := dk_27 (dk_at dksX6_again_0 1 rfl rfl)
theorem dX6_again_2 : decode cX6_again 2 = .ok (.invokevirtual 146, 3) := dk_182 0 146 (dk_at dksX6_again_0 2 rfl rfl)
theorem dX6_again_5 : decode cX6_again 5 = .ok (.ifCond .ne 6, 3) := dk_154 0 6 (dk_at dksX6_again_0 5 rfl rfl)
theorem dX6_again_8 : decode cX6_again 8 = .ok (.ldc 82, 2) := dk_18 82 (dk_at dksX6_again_0 8 rfl rfl)
theorem dX6_again_10 : decode cX6_again 10 = .ok (.ireturn, 1) := dk_172 (dk_at dksX6_again_0 10 rfl rfl)
theorem dX6_again_11 : decode cX6_again 11 = .ok (.bipush 66, 2) := dk_16 66 (dk_at dksX6_again_0 11 rfl rfl)
theorem dX6_again_13 : decode cX6_again 13 = .ok (.bipush 6, 2) := dk_16 6 (dk_at dksX6_again_0 13 rfl rfl)
theorem dX6_again_15 : decode cX6_again 15 = .ok (.iload_n 1, 1) := dk_27 (dk_at dksX6_again_0 15 rfl rfl)
theorem dX6_again_16 : decode cX6_again 16 = .ok (.imul, 1) := dk_104 (dk_at dksX6_again_0 16 rfl rfl)
theorem dX6_again_17 : decode cX6_again 17 = .ok (.iadd, 1) := dk_96 (dk_at dksX6_again_0 17 rfl rfl)
theorem dX6_again_18 : decode cX6_again 18 = .ok (.istore_n 2, 1) := dk_61 (dk_at dksX6_again_0 18 rfl rfl)
theorem dX6_again_19 : decode cX6_again 19 = .ok (.aload_n 0, 1) := dk_42 (dk_at dksX6_again_0 19 rfl rfl)
theorem dX6_again_20 : decode cX6_again 20 = .ok (.getfield 7, 3) := dk_180 0 7 (dk_at dksX6_again_0 20 rfl rfl)
theorem dX6_again_23 : decode cX6_again 23 = .ok (.iload_n 2, 1) := dk_28 (dk_at dksX6_again_0 23 rfl rfl)
theorem dX6_again_24 : decode cX6_again 24 = .ok (.iconst 4, 1) := dk_7 (dk_at dksX6_again_1 0 rfl rfl)
theorem dX6_again_25 : decode cX6_again 25 = .ok (.iadd, 1) := dk_96 (dk_at dksX6_again_1 1 rfl rfl)
theorem dX6_again_26 : decode cX6_again 26 = .ok (.iconst 0, 1) := dk_3 (dk_at dksX6_again_1 2 rfl rfl)
theorem dX6_again_27 : decode cX6_again 27 = .ok (.iastore, 1) := dk_79 (dk_at dksX6_again_1 3 rfl rfl)
theorem dX6_again_28 : decode cX6_again 28 = .ok (.aload_n 0, 1) := dk_42 (dk_at dksX6_again_1 4 rfl rfl)
theorem dX6_again_29 : decode cX6_again 29 = .ok (.getfield 7, 3) := dk_180 0 7 (dk_at dksX6_again_1 5 rfl rfl)
theorem dX6_again_32 : decode cX6_again 32 = .ok (.iload_n 2, 1) := dk_28 (dk_at dksX6_again_1 8 rfl rfl)
theorem dX6_again_33 : decode cX6_again 33 = .ok (.iconst 5, 1) := dk_8 (dk_at dksX6_again_1 9 rfl rfl)
theorem dX6_again_34 : decode cX6_again 34 = .ok (.iadd, 1) := dk_96 (dk_at dksX6_again_1 10 rfl rfl)
theorem dX6_again_35 : decode cX6_again 35 = .ok (.iconst 0, 1) := dk_3 (dk_at dksX6_again_1 11 rfl rfl)
theorem dX6_again_36 : decode cX6_again 36 = .ok (.iastore, 1) := dk_79 (dk_at dksX6_again_1 12 rfl rfl)
theorem dX6_again_37 : decode cX6_again 37 = .ok (.aload_n 0, 1) := dk_42 (dk_at dksX6_again_1 13 rfl rfl)
theorem dX6_again_38 : decode cX6_again 38 = .ok (.iload_n 2, 1) := dk_28 (dk_at dksX6_again_1 14 rfl rfl)
theorem dX6_again_39 : decode cX6_again 39 = .ok (.iconst 3, 1) := dk_6 (dk_at dksX6_again_1 15 rfl rfl)
theorem dX6_again_40 : decode cX6_again 40 = .ok (.iadd, 1) := dk_96 (dk_at dksX6_again_1 16 rfl rfl)
theorem dX6_again_41 : decode cX6_again 41 = .ok (.iconst 0, 1) := dk_3 (dk_at dksX6_again_1 17 rfl rfl)
theorem dX6_again_42 : decode cX6_again 42 = .ok (.invokevirtual 110, 3) := dk_182 0 110 (dk_at dksX6_again_1 18 rfl rfl)
theorem dX6_again_45 : decode cX6_again 45 = .ok (.invokestatic 128, 3) := dk_184 0 128 (dk_at dksX6_again_1 21 rfl rfl)
theorem dX6_again_48 : decode cX6_again 48 = .ok (.ireturn, 1) := dk_172 (dk_at dksX6_again_2 0 rfl rfl)
abbrev cX6_stop : ByteArray := prog_19_method_38_code
def yX6_stop : MethodName := ⟨RX6, "stop", "(I)I"⟩
def dkwX6_stop_0 : List UInt8 := [27, 133, 9, 20, 0, 152, 184, 0, 65, 153, 0, 12, 42, 6, 27, 182, 0, 110, 167, 0, 5, 18, 82, 172]
abbrev dktX6_stop_0 : List UInt8 := dkwX6_stop_0 ++ []
theorem dksX6_stop_0 : cX6_stop.data.toList.drop 0 = dktX6_stop_0 := by decide +kernel
theorem dX6_stop_0 : decode cX6_stop 0 = .ok (.iload_n 1, 1) := dk_27 (dk_at dksX6_stop_0 0 rfl rfl)
theorem dX6_stop_1 : decode cX6_stop 1 = .ok (.i2l, 1) := dk_133 (dk_at dksX6_stop_0 1 rfl rfl)
theorem dX6_stop_2 : decode cX6_stop 2 = .ok (.lconst 0, 1) := dk_9 (dk_at dksX6_stop_0 2 rfl rfl)
theorem dX6_stop_3 : decode cX6_stop 3 = .ok (.ldc2_w 152, 3) := dk_20 0 152 (dk_at dksX6_stop_0 3 rfl rfl)
theorem dX6_stop_6 : decode cX6_stop 6 = .ok (.invokestatic 65, 3) := dk_184 0 65 (dk_at dksX6_stop_0 6 rfl rfl)
theorem dX6_stop_9 : decode cX6_stop 9 = .ok (.ifCond .eq 12, 3) := dk_153 0 12 (dk_at dksX6_stop_0 9 rfl rfl)
theorem dX6_stop_12 : decode cX6_stop 12 = .ok (.aload_n 0, 1) := dk_42 (dk_at dksX6_stop_0 12 rfl rfl)
theorem dX6_stop_13 : decode cX6_stop 13 = .ok (.iconst 3, 1) := dk_6 (dk_at dksX6_stop_0 13 rfl rfl)
theorem dX6_stop_14 : decode cX6_stop 14 = .ok (.iload_n 1, 1) := dk_27 (dk_at dksX6_stop_0 14 rfl rfl)
theorem dX6_stop_15 : decode cX6_stop 15 = .ok (.invokevirtual 110, 3) := dk_182 0 110 (dk_at dksX6_stop_0 15 rfl rfl)
theorem dX6_stop_18 : decode cX6_stop 18 = .ok (.goto 5, 3) := dk_167 0 5 (dk_at dksX6_stop_0 18 rfl rfl)
theorem dX6_stop_21 : decode cX6_stop 21 = .ok (.ldc 82, 2) := dk_18 82 (dk_at dksX6_stop_0 21 rfl rfl)
theorem dX6_stop_23 : decode cX6_stop 23 = .ok (.ireturn, 1) := dk_172 (dk_at dksX6_stop_0 23 rfl rfl)
abbrev cX6_say : ByteArray := prog_19_method_41_code
def yX6_say : MethodName := ⟨RX6, "say", "(III)I"⟩
def dkwX6_say_2 : List UInt8 := [182, 0, 136, 184, 0, 128, 172]
abbrev dktX6_say_2 : List UInt8 := dkwX6_say_2 ++ []
def dkwX6_say_1 : List UInt8 := [18, 82, 172, 42, 27, 28, 29, 182, 0, 157, 154, 0, 6, 18, 160, 172, 42, 28, 29, 182, 0, 161, 42, 28]
abbrev dktX6_say_1 : List UInt8 := dkwX6_say_1 ++ dktX6_say_2
def dkwX6_say_0 : List UInt8 := [42, 27, 182, 0, 95, 153, 0, 19, 42, 28, 182, 0, 146, 153, 0, 11, 42, 29, 182, 0, 95, 154, 0, 6]
abbrev dktX6_say_0 : List UInt8 := dkwX6_say_0 ++ dktX6_say_1
theorem dksX6_say_0 : cX6_say.data.toList.drop 0 = dktX6_say_0 := by decide +kernel
theorem dksX6_say_1 : cX6_say.data.toList.drop 24 = dktX6_say_1 := dk_seg dksX6_say_0 24 rfl rfl
theorem dksX6_say_2 : cX6_say.data.toList.drop 48 = dktX6_say_2 := dk_seg dksX6_say_1 24 rfl rfl
theorem dX6_say_0 : decode cX6_say 0 = .ok (.aload_n 0, 1) := dk_42 (dk_at dksX6_say_0 0 rfl rfl)
theorem dX6_say_1 : decode cX6_say 1 = .ok (.iload_n 1, 1) := dk_27 (dk_at dksX6_say_0 1 rfl rfl)
theorem dX6_say_2 : decode cX6_say 2 = .ok (.invokevirtual 95, 3) := dk_182 0 95 (dk_at dksX6_say_0 2 rfl rfl)
theorem dX6_say_5 : decode cX6_say 5 = .ok (.ifCond .eq 19, 3) := dk_153 0 19 (dk_at dksX6_say_0 5 rfl rfl)
theorem dX6_say_8 : decode cX6_say 8 = .ok (.aload_n 0, 1) := dk_42 (dk_at dksX6_say_0 8 rfl rfl)
theorem dX6_say_9 : decode cX6_say 9 = .ok (.iload_n 2, 1) := dk_28 (dk_at dksX6_say_0 9 rfl rfl)
theorem dX6_say_10 : decode cX6_say 10 = .ok (.invokevirtual 146, 3) := dk_182 0 146 (dk_at dksX6_say_0 10 rfl rfl)
theorem dX6_say_13 : decode cX6_say 13 = .ok (.ifCond .eq 11, 3) := dk_153 0 11 (dk_at dksX6_say_0 13 rfl rfl)
theorem dX6_say_16 : decode cX6_say 16 = .ok (.aload_n 0, 1) := dk_42 (dk_at dksX6_say_0 16 rfl rfl)
theorem dX6_say_17 : decode cX6_say 17 = .ok (.iload_n 3, 1) := dk_29 (dk_at dksX6_say_0 17 rfl rfl)
theorem dX6_say_18 : decode cX6_say 18 = .ok (.invokevirtual 95, 3) := dk_182 0 95 (dk_at dksX6_say_0 18 rfl rfl)
theorem dX6_say_21 : decode cX6_say 21 = .ok (.ifCond .ne 6, 3) := dk_154 0 6 (dk_at dksX6_say_0 21 rfl rfl)
theorem dX6_say_24 : decode cX6_say 24 = .ok (.ldc 82, 2) := dk_18 82 (dk_at dksX6_say_1 0 rfl rfl)
theorem dX6_say_26 : decode cX6_say 26 = .ok (.ireturn, 1) := dk_172 (dk_at dksX6_say_1 2 rfl rfl)
theorem dX6_say_27 : decode cX6_say 27 = .ok (.aload_n 0, 1) := dk_42 (dk_at dksX6_say_1 3 rfl rfl)
theorem dX6_say_28 : decode cX6_say 28 = .ok (.iload_n 1, 1) := dk_27 (dk_at dksX6_say_1 4 rfl rfl)
theorem dX6_say_29 : decode cX6_say 29 = .ok (.iload_n 2, 1) := dk_28 (dk_at dksX6_say_1 5 rfl rfl)
theorem dX6_say_30 : decode cX6_say 30 = .ok (.iload_n 3, 1) := dk_29 (dk_at dksX6_say_1 6 rfl rfl)
theorem dX6_say_31 : decode cX6_say 31 = .ok (.invokevirtual 157, 3) := dk_182 0 157 (dk_at dksX6_say_1 7 rfl rfl)
theorem dX6_say_34 : decode cX6_say 34 = .ok (.ifCond .ne 6, 3) := dk_154 0 6 (dk_at dksX6_say_1 10 rfl rfl)
theorem dX6_say_37 : decode cX6_say 37 = .ok (.ldc 160, 2) := dk_18 160 (dk_at dksX6_say_1 13 rfl rfl)
theorem dX6_say_39 : decode cX6_say 39 = .ok (.ireturn, 1) := dk_172 (dk_at dksX6_say_1 15 rfl rfl)
theorem dX6_say_40 : decode cX6_say 40 = .ok (.aload_n 0, 1) := dk_42 (dk_at dksX6_say_1 16 rfl rfl)
theorem dX6_say_41 : decode cX6_say 41 = .ok (.iload_n 2, 1) := dk_28 (dk_at dksX6_say_1 17 rfl rfl)
theorem dX6_say_42 : decode cX6_say 42 = .ok (.iload_n 3, 1) := dk_29 (dk_at dksX6_say_1 18 rfl rfl)
theorem dX6_say_43 : decode cX6_say 43 = .ok (.invokevirtual 161, 3) := dk_182 0 161 (dk_at dksX6_say_1 19 rfl rfl)
theorem dX6_say_46 : decode cX6_say 46 = .ok (.aload_n 0, 1) := dk_42 (dk_at dksX6_say_1 22 rfl rfl)
theorem dX6_say_47 : decode cX6_say 47 = .ok (.iload_n 2, 1) := dk_28 (dk_at dksX6_say_1 23 rfl rfl)
theorem dX6_say_48 : decode cX6_say 48 = .ok (.invokevirtual 136, 3) := dk_182 0 136 (dk_at dksX6_say_2 0 rfl rfl)
theorem dX6_say_51 : decode cX6_say 51 = .ok (.invokestatic 128, 3) := dk_184 0 128 (dk_at dksX6_say_2 3 rfl rfl)
theorem dX6_say_54 : decode cX6_say 54 = .ok (.ireturn, 1) := dk_172 (dk_at dksX6_say_2 6 rfl rfl)
abbrev cX6_mayBe : ByteArray := prog_19_method_39_code
def yX6_mayBe : MethodName := ⟨RX6, "mayBe", "(III)Z"⟩
def dkwX6_mayBe_4 : List UInt8 := [167, 0, 4, 3, 172]
abbrev dktX6_mayBe_4 : List UInt8 := dkwX6_mayBe_4 ++ []
def dkwX6_mayBe_3 : List UInt8 := [180, 0, 49, 16, 119, 42, 28, 5, 182, 0, 73, 79, 42, 21, 4, 182, 0, 139, 153, 0, 7, 4]
abbrev dktX6_mayBe_3 : List UInt8 := dkwX6_mayBe_3 ++ dktX6_mayBe_4
def dkwX6_mayBe_2 : List UInt8 := [156, 0, 5, 4, 172, 42, 180, 0, 49, 16, 115, 27, 79, 42, 180, 0, 49, 16, 112, 29, 79, 42]
abbrev dktX6_mayBe_2 : List UInt8 := dkwX6_mayBe_2 ++ dktX6_mayBe_3
def dkwX6_mayBe_1 : List UInt8 := [126, 184, 0, 128, 42, 180, 0, 7, 6, 46, 162, 0, 5, 3, 172, 42, 3, 182, 0, 133, 54, 4, 21, 4]
abbrev dktX6_mayBe_1 : List UInt8 := dkwX6_mayBe_1 ++ dktX6_mayBe_2
def dkwX6_mayBe_0 : List UInt8 := [42, 28, 182, 0, 136, 29, 122, 4, 126, 153, 0, 28, 42, 28, 182, 0, 136, 42, 29, 182, 0, 154, 2, 130]
abbrev dktX6_mayBe_0 : List UInt8 := dkwX6_mayBe_0 ++ dktX6_mayBe_1
theorem dksX6_mayBe_0 : cX6_mayBe.data.toList.drop 0 = dktX6_mayBe_0 := by decide +kernel
theorem dksX6_mayBe_1 : cX6_mayBe.data.toList.drop 24 = dktX6_mayBe_1 := dk_seg dksX6_mayBe_0 24 rfl rfl
theorem dksX6_mayBe_2 : cX6_mayBe.data.toList.drop 48 = dktX6_mayBe_2 := dk_seg dksX6_mayBe_1 24 rfl rfl
theorem dksX6_mayBe_3 : cX6_mayBe.data.toList.drop 70 = dktX6_mayBe_3 := dk_seg dksX6_mayBe_2 22 rfl rfl
theorem dksX6_mayBe_4 : cX6_mayBe.data.toList.drop 92 = dktX6_mayBe_4 := dk_seg dksX6_mayBe_3 22 rfl rfl
theorem dX6_mayBe_0 : decode cX6_mayBe 0 = .ok (.aload_n 0, 1) := dk_42 (dk_at dksX6_mayBe_0 0 rfl rfl)
theorem dX6_mayBe_1 : decode cX6_mayBe 1 = .ok (.iload_n 2, 1) := dk_28 (dk_at dksX6_mayBe_0 1 rfl rfl)
theorem dX6_mayBe_2 : decode cX6_mayBe 2 = .ok (.invokevirtual 136, 3) := dk_182 0 136 (dk_at dksX6_mayBe_0 2 rfl rfl)
theorem dX6_mayBe_5 : decode cX6_mayBe 5 = .ok (.iload_n 3, 1) := dk_29 (dk_at dksX6_mayBe_0 5 rfl rfl)
theorem dX6_mayBe_6 : decode cX6_mayBe 6 = .ok (.ishr, 1) := dk_122 (dk_at dksX6_mayBe_0 6 rfl rfl)
theorem dX6_mayBe_7 : decode cX6_mayBe 7 = .ok (.iconst 1, 1) := dk_4 (dk_at dksX6_mayBe_0 7 rfl rfl)
theorem dX6_mayBe_8 : decode cX6_mayBe 8 = .ok (.iand, 1) := dk_126 (dk_at dksX6_mayBe_0 8 rfl rfl)
theorem dX6_mayBe_9 : decode cX6_mayBe 9 = .ok (.ifCond .eq 28, 3) := dk_153 0 28 (dk_at dksX6_mayBe_0 9 rfl rfl)
theorem dX6_mayBe_12 : decode cX6_mayBe 12 = .ok (.aload_n 0, 1) := dk_42 (dk_at dksX6_mayBe_0 12 rfl rfl)
theorem dX6_mayBe_13 : decode cX6_mayBe 13 = .ok (.iload_n 2, 1) := dk_28 (dk_at dksX6_mayBe_0 13 rfl rfl)
theorem dX6_mayBe_14 : decode cX6_mayBe 14 = .ok (.invokevirtual 136, 3) := dk_182 0 136 (dk_at dksX6_mayBe_0 14 rfl rfl)
theorem dX6_mayBe_17 : decode cX6_mayBe 17 = .ok (.aload_n 0, 1) := dk_42 (dk_at dksX6_mayBe_0 17 rfl rfl)
theorem dX6_mayBe_18 : decode cX6_mayBe 18 = .ok (.iload_n 3, 1) := dk_29 (dk_at dksX6_mayBe_0 18 rfl rfl)
theorem dX6_mayBe_19 : decode cX6_mayBe 19 = .ok (.invokevirtual 154, 3) := dk_182 0 154 (dk_at dksX6_mayBe_0 19 rfl rfl)
theorem dX6_mayBe_22 : decode cX6_mayBe 22 = .ok (.iconst (-1), 1) := dk_2 (dk_at dksX6_mayBe_0 22 rfl rfl)
theorem dX6_mayBe_23 : decode cX6_mayBe 23 = .ok (.ixor, 1) := dk_130 (dk_at dksX6_mayBe_0 23 rfl rfl)
theorem dX6_mayBe_24 : decode cX6_mayBe 24 = .ok (.iand, 1) := dk_126 (dk_at dksX6_mayBe_1 0 rfl rfl)
theorem dX6_mayBe_25 : decode cX6_mayBe 25 = .ok (.invokestatic 128, 3) := dk_184 0 128 (dk_at dksX6_mayBe_1 1 rfl rfl)
theorem dX6_mayBe_28 : decode cX6_mayBe 28 = .ok (.aload_n 0, 1) := dk_42 (dk_at dksX6_mayBe_1 4 rfl rfl)
theorem dX6_mayBe_29 : decode cX6_mayBe 29 = .ok (.getfield 7, 3) := dk_180 0 7 (dk_at dksX6_mayBe_1 5 rfl rfl)
theorem dX6_mayBe_32 : decode cX6_mayBe 32 = .ok (.iconst 3, 1) := dk_6 (dk_at dksX6_mayBe_1 8 rfl rfl)
theorem dX6_mayBe_33 : decode cX6_mayBe 33 = .ok (.iaload, 1) := dk_46 (dk_at dksX6_mayBe_1 9 rfl rfl)
theorem dX6_mayBe_34 : decode cX6_mayBe 34 = .ok (.if_icmp .ge 5, 3) := dk_162 0 5 (dk_at dksX6_mayBe_1 10 rfl rfl)
theorem dX6_mayBe_37 : decode cX6_mayBe 37 = .ok (.iconst 0, 1) := dk_3 (dk_at dksX6_mayBe_1 13 rfl rfl)
theorem dX6_mayBe_38 : decode cX6_mayBe 38 = .ok (.ireturn, 1) := dk_172 (dk_at dksX6_mayBe_1 14 rfl rfl)
theorem dX6_mayBe_39 : decode cX6_mayBe 39 = .ok (.aload_n 0, 1) := dk_42 (dk_at dksX6_mayBe_1 15 rfl rfl)
theorem dX6_mayBe_40 : decode cX6_mayBe 40 = .ok (.iconst 0, 1) := dk_3 (dk_at dksX6_mayBe_1 16 rfl rfl)
theorem dX6_mayBe_41 : decode cX6_mayBe 41 = .ok (.invokevirtual 133, 3) := dk_182 0 133 (dk_at dksX6_mayBe_1 17 rfl rfl)
theorem dX6_mayBe_44 : decode cX6_mayBe 44 = .ok (.istore 4, 2) := dk_54 4 (dk_at dksX6_mayBe_1 20 rfl rfl)
theorem dX6_mayBe_46 : decode cX6_mayBe 46 = .ok (.iload 4, 2) := dk_21 4 (dk_at dksX6_mayBe_1 22 rfl rfl)
theorem dX6_mayBe_48 : decode cX6_mayBe 48 = .ok (.ifCond .ge 5, 3) := dk_156 0 5 (dk_at dksX6_mayBe_2 0 rfl rfl)
theorem dX6_mayBe_51 : decode cX6_mayBe 51 = .ok (.iconst 1, 1) := dk_4 (dk_at dksX6_mayBe_2 3 rfl rfl)
theorem dX6_mayBe_52 : decode cX6_mayBe 52 = .ok (.ireturn, 1) := dk_172 (dk_at dksX6_mayBe_2 4 rfl rfl)
theorem dX6_mayBe_53 : decode cX6_mayBe 53 = .ok (.aload_n 0, 1) := dk_42 (dk_at dksX6_mayBe_2 5 rfl rfl)
theorem dX6_mayBe_54 : decode cX6_mayBe 54 = .ok (.getfield 49, 3) := dk_180 0 49 (dk_at dksX6_mayBe_2 6 rfl rfl)
theorem dX6_mayBe_57 : decode cX6_mayBe 57 = .ok (.bipush 115, 2) := dk_16 115 (dk_at dksX6_mayBe_2 9 rfl rfl)
theorem dX6_mayBe_59 : decode cX6_mayBe 59 = .ok (.iload_n 1, 1) := dk_27 (dk_at dksX6_mayBe_2 11 rfl rfl)
theorem dX6_mayBe_60 : decode cX6_mayBe 60 = .ok (.iastore, 1) := dk_79 (dk_at dksX6_mayBe_2 12 rfl rfl)
theorem dX6_mayBe_61 : decode cX6_mayBe 61 = .ok (.aload_n 0, 1) := dk_42 (dk_at dksX6_mayBe_2 13 rfl rfl)
theorem dX6_mayBe_62 : decode cX6_mayBe 62 = .ok (.getfield 49, 3) := dk_180 0 49 (dk_at dksX6_mayBe_2 14 rfl rfl)
theorem dX6_mayBe_65 : decode cX6_mayBe 65 = .ok (.bipush 112, 2) := dk_16 112 (dk_at dksX6_mayBe_2 17 rfl rfl)
theorem dX6_mayBe_67 : decode cX6_mayBe 67 = .ok (.iload_n 3, 1) := dk_29 (dk_at dksX6_mayBe_2 19 rfl rfl)
theorem dX6_mayBe_68 : decode cX6_mayBe 68 = .ok (.iastore, 1) := dk_79 (dk_at dksX6_mayBe_2 20 rfl rfl)
theorem dX6_mayBe_69 : decode cX6_mayBe 69 = .ok (.aload_n 0, 1) := dk_42 (dk_at dksX6_mayBe_2 21 rfl rfl)
theorem dX6_mayBe_70 : decode cX6_mayBe 70 = .ok (.getfield 49, 3) := dk_180 0 49 (dk_at dksX6_mayBe_3 0 rfl rfl)
theorem dX6_mayBe_73 : decode cX6_mayBe 73 = .ok (.bipush 119, 2) := dk_16 119 (dk_at dksX6_mayBe_3 3 rfl rfl)
theorem dX6_mayBe_75 : decode cX6_mayBe 75 = .ok (.aload_n 0, 1) := dk_42 (dk_at dksX6_mayBe_3 5 rfl rfl)
theorem dX6_mayBe_76 : decode cX6_mayBe 76 = .ok (.iload_n 2, 1) := dk_28 (dk_at dksX6_mayBe_3 6 rfl rfl)
theorem dX6_mayBe_77 : decode cX6_mayBe 77 = .ok (.iconst 2, 1) := dk_5 (dk_at dksX6_mayBe_3 7 rfl rfl)
theorem dX6_mayBe_78 : decode cX6_mayBe 78 = .ok (.invokevirtual 73, 3) := dk_182 0 73 (dk_at dksX6_mayBe_3 8 rfl rfl)
theorem dX6_mayBe_81 : decode cX6_mayBe 81 = .ok (.iastore, 1) := dk_79 (dk_at dksX6_mayBe_3 11 rfl rfl)
theorem dX6_mayBe_82 : decode cX6_mayBe 82 = .ok (.aload_n 0, 1) := dk_42 (dk_at dksX6_mayBe_3 12 rfl rfl)
theorem dX6_mayBe_83 : decode cX6_mayBe 83 = .ok (.iload 4, 2) := dk_21 4 (dk_at dksX6_mayBe_3 13 rfl rfl)
theorem dX6_mayBe_85 : decode cX6_mayBe 85 = .ok (.invokevirtual 139, 3) := dk_182 0 139 (dk_at dksX6_mayBe_3 15 rfl rfl)
theorem dX6_mayBe_88 : decode cX6_mayBe 88 = .ok (.ifCond .eq 7, 3) := dk_153 0 7 (dk_at dksX6_mayBe_3 18 rfl rfl)
theorem dX6_mayBe_91 : decode cX6_mayBe 91 = .ok (.iconst 1, 1) := dk_4 (dk_at dksX6_mayBe_3 21 rfl rfl)
theorem dX6_mayBe_92 : decode cX6_mayBe 92 = .ok (.goto 4, 3) := dk_167 0 4 (dk_at dksX6_mayBe_4 0 rfl rfl)
theorem dX6_mayBe_95 : decode cX6_mayBe 95 = .ok (.iconst 0, 1) := dk_3 (dk_at dksX6_mayBe_4 3 rfl rfl)
theorem dX6_mayBe_96 : decode cX6_mayBe 96 = .ok (.ireturn, 1) := dk_172 (dk_at dksX6_mayBe_4 4 rfl rfl)
abbrev cX6_goBy : ByteArray := prog_19_method_19_code
def yX6_goBy : MethodName := ⟨RX6, "goBy", "(I)I"⟩
def dkwX6_goBy_0 : List UInt8 := [42, 27, 182, 0, 91, 4, 27, 120, 128, 172]
abbrev dktX6_goBy_0 : List UInt8 := dkwX6_goBy_0 ++ []
theorem dksX6_goBy_0 : cX6_goBy.data.toList.drop 0 = dktX6_goBy_0 := by decide +kernel
theorem dX6_goBy_0 : decode cX6_goBy 0 = .ok (.aload_n 0, 1) := dk_42 (dk_at dksX6_goBy_0 0 rfl rfl)
theorem dX6_goBy_1 : decode cX6_goBy 1 = .ok (.iload_n 1, 1) := dk_27 (dk_at dksX6_goBy_0 1 rfl rfl)
theorem dX6_goBy_2 : decode cX6_goBy 2 = .ok (.invokevirtual 91, 3) := dk_182 0 91 (dk_at dksX6_goBy_0 2 rfl rfl)
theorem dX6_goBy_5 : decode cX6_goBy 5 = .ok (.iconst 1, 1) := dk_4 (dk_at dksX6_goBy_0 5 rfl rfl)
theorem dX6_goBy_6 : decode cX6_goBy 6 = .ok (.iload_n 1, 1) := dk_27 (dk_at dksX6_goBy_0 6 rfl rfl)
theorem dX6_goBy_7 : decode cX6_goBy 7 = .ok (.ishl, 1) := dk_120 (dk_at dksX6_goBy_0 7 rfl rfl)
theorem dX6_goBy_8 : decode cX6_goBy 8 = .ok (.ior, 1) := dk_128 (dk_at dksX6_goBy_0 8 rfl rfl)
theorem dX6_goBy_9 : decode cX6_goBy 9 = .ok (.ireturn, 1) := dk_172 (dk_at dksX6_goBy_0 9 rfl rfl)
abbrev cX6_says : ByteArray := prog_19_method_40_code
def yX6_says : MethodName := ⟨RX6, "says", "(II)V"⟩
def dkwX6_says_2 : List UInt8 := [46, 21, 4, 42, 180, 0, 7, 29, 3, 96, 46, 126, 153, 0, 7, 4, 167, 0, 4, 3, 96, 79, 177]
abbrev dktX6_says_2 : List UInt8 := dkwX6_says_2 ++ []
def dkwX6_says_1 : List UInt8 := [21, 4, 128, 79, 42, 180, 0, 7, 29, 7, 96, 92, 46, 4, 96, 79, 42, 180, 0, 7, 29, 8, 96, 92]
abbrev dktX6_says_1 : List UInt8 := dkwX6_says_1 ++ dktX6_says_2
def dkwX6_says_0 : List UInt8 := [16, 66, 16, 6, 27, 104, 96, 62, 42, 28, 182, 0, 154, 54, 4, 42, 180, 0, 7, 29, 6, 96, 92, 46]
abbrev dktX6_says_0 : List UInt8 := dkwX6_says_0 ++ dktX6_says_1
theorem dksX6_says_0 : cX6_says.data.toList.drop 0 = dktX6_says_0 := by decide +kernel
theorem dksX6_says_1 : cX6_says.data.toList.drop 24 = dktX6_says_1 := dk_seg dksX6_says_0 24 rfl rfl
theorem dksX6_says_2 : cX6_says.data.toList.drop 48 = dktX6_says_2 := dk_seg dksX6_says_1 24 rfl rfl
theorem dX6_says_0 : decode cX6_says 0 = .ok (.bipush 66, 2) := dk_16 66 (dk_at dksX6_says_0 0 rfl rfl)
theorem dX6_says_2 : decode cX6_says 2 = .ok (.bipush 6, 2) := dk_16 6 (dk_at dksX6_says_0 2 rfl rfl)
theorem dX6_says_4 : decode cX6_says 4 = .ok (.iload_n 1, 1) := dk_27 (dk_at dksX6_says_0 4 rfl rfl)
theorem dX6_says_5 : decode cX6_says 5 = .ok (.imul, 1) := dk_104 (dk_at dksX6_says_0 5 rfl rfl)
theorem dX6_says_6 : decode cX6_says 6 = .ok (.iadd, 1) := dk_96 (dk_at dksX6_says_0 6 rfl rfl)
theorem dX6_says_7 : decode cX6_says 7 = .ok (.istore_n 3, 1) := dk_62 (dk_at dksX6_says_0 7 rfl rfl)
theorem dX6_says_8 : decode cX6_says 8 = .ok (.aload_n 0, 1) := dk_42 (dk_at dksX6_says_0 8 rfl rfl)
theorem dX6_says_9 : decode cX6_says 9 = .ok (.iload_n 2, 1) := dk_28 (dk_at dksX6_says_0 9 rfl rfl)
theorem dX6_says_10 : decode cX6_says 10 = .ok (.invokevirtual 154, 3) := dk_182 0 154 (dk_at dksX6_says_0 10 rfl rfl)
theorem dX6_says_13 : decode cX6_says 13 = .ok (.istore 4, 2) := dk_54 4 (dk_at dksX6_says_0 13 rfl rfl)
theorem dX6_says_15 : decode cX6_says 15 = .ok (.aload_n 0, 1) := dk_42 (dk_at dksX6_says_0 15 rfl rfl)
theorem dX6_says_16 : decode cX6_says 16 = .ok (.getfield 7, 3) := dk_180 0 7 (dk_at dksX6_says_0 16 rfl rfl)
theorem dX6_says_19 : decode cX6_says 19 = .ok (.iload_n 3, 1) := dk_29 (dk_at dksX6_says_0 19 rfl rfl)
theorem dX6_says_20 : decode cX6_says 20 = .ok (.iconst 3, 1) := dk_6 (dk_at dksX6_says_0 20 rfl rfl)
theorem dX6_says_21 : decode cX6_says 21 = .ok (.iadd, 1) := dk_96 (dk_at dksX6_says_0 21 rfl rfl)
theorem dX6_says_22 : decode cX6_says 22 = .ok (.dup2, 1) := dk_92 (dk_at dksX6_says_0 22 rfl rfl)
theorem dX6_says_23 : decode cX6_says 23 = .ok (.iaload, 1) := dk_46 (dk_at dksX6_says_0 23 rfl rfl)
theorem dX6_says_24 : decode cX6_says 24 = .ok (.iload 4, 2) := dk_21 4 (dk_at dksX6_says_1 0 rfl rfl)
theorem dX6_says_26 : decode cX6_says 26 = .ok (.ior, 1) := dk_128 (dk_at dksX6_says_1 2 rfl rfl)
theorem dX6_says_27 : decode cX6_says 27 = .ok (.iastore, 1) := dk_79 (dk_at dksX6_says_1 3 rfl rfl)
theorem dX6_says_28 : decode cX6_says 28 = .ok (.aload_n 0, 1) := dk_42 (dk_at dksX6_says_1 4 rfl rfl)
theorem dX6_says_29 : decode cX6_says 29 = .ok (.getfield 7, 3) := dk_180 0 7 (dk_at dksX6_says_1 5 rfl rfl)
theorem dX6_says_32 : decode cX6_says 32 = .ok (.iload_n 3, 1) := dk_29 (dk_at dksX6_says_1 8 rfl rfl)
theorem dX6_says_33 : decode cX6_says 33 = .ok (.iconst 4, 1) := dk_7 (dk_at dksX6_says_1 9 rfl rfl)
theorem dX6_says_34 : decode cX6_says 34 = .ok (.iadd, 1) := dk_96 (dk_at dksX6_says_1 10 rfl rfl)
theorem dX6_says_35 : decode cX6_says 35 = .ok (.dup2, 1) := dk_92 (dk_at dksX6_says_1 11 rfl rfl)
theorem dX6_says_36 : decode cX6_says 36 = .ok (.iaload, 1) := dk_46 (dk_at dksX6_says_1 12 rfl rfl)
theorem dX6_says_37 : decode cX6_says 37 = .ok (.iconst 1, 1) := dk_4 (dk_at dksX6_says_1 13 rfl rfl)
theorem dX6_says_38 : decode cX6_says 38 = .ok (.iadd, 1) := dk_96 (dk_at dksX6_says_1 14 rfl rfl)
theorem dX6_says_39 : decode cX6_says 39 = .ok (.iastore, 1) := dk_79 (dk_at dksX6_says_1 15 rfl rfl)
theorem dX6_says_40 : decode cX6_says 40 = .ok (.aload_n 0, 1) := dk_42 (dk_at dksX6_says_1 16 rfl rfl)
theorem dX6_says_41 : decode cX6_says 41 = .ok (.getfield 7, 3) := dk_180 0 7 (dk_at dksX6_says_1 17 rfl rfl)
theorem dX6_says_44 : decode cX6_says 44 = .ok (.iload_n 3, 1) := dk_29 (dk_at dksX6_says_1 20 rfl rfl)
theorem dX6_says_45 : decode cX6_says 45 = .ok (.iconst 5, 1) := dk_8 (dk_at dksX6_says_1 21 rfl rfl)
theorem dX6_says_46 : decode cX6_says 46 = .ok (.iadd, 1) := dk_96 (dk_at dksX6_says_1 22 rfl rfl)
theorem dX6_says_47 : decode cX6_says 47 = .ok (.dup2, 1) := dk_92 (dk_at dksX6_says_1 23 rfl rfl)
theorem dX6_says_48 : decode cX6_says 48 = .ok (.iaload, 1) := dk_46 (dk_at dksX6_says_2 0 rfl rfl)
theorem dX6_says_49 : decode cX6_says 49 = .ok (.iload 4, 2) := dk_21 4 (dk_at dksX6_says_2 1 rfl rfl)
theorem dX6_says_51 : decode cX6_says 51 = .ok (.aload_n 0, 1) := dk_42 (dk_at dksX6_says_2 3 rfl rfl)
theorem dX6_says_52 : decode cX6_says 52 = .ok (.getfield 7, 3) := dk_180 0 7 (dk_at dksX6_says_2 4 rfl rfl)
theorem dX6_says_55 : decode cX6_says 55 = .ok (.iload_n 3, 1) := dk_29 (dk_at dksX6_says_2 7 rfl rfl)
theorem dX6_says_56 : decode cX6_says 56 = .ok (.iconst 0, 1) := dk_3 (dk_at dksX6_says_2 8 rfl rfl)
theorem dX6_says_57 : decode cX6_says 57 = .ok (.iadd, 1) := dk_96 (dk_at dksX6_says_2 9 rfl rfl)
theorem dX6_says_58 : decode cX6_says 58 = .ok (.iaload, 1) := dk_46 (dk_at dksX6_says_2 10 rfl rfl)
theorem dX6_says_59 : decode cX6_says 59 = .ok (.iand, 1) := dk_126 (dk_at dksX6_says_2 11 rfl rfl)
theorem dX6_says_60 : decode cX6_says 60 = .ok (.ifCond .eq 7, 3) := dk_153 0 7 (dk_at dksX6_says_2 12 rfl rfl)
theorem dX6_says_63 : decode cX6_says 63 = .ok (.iconst 1, 1) := dk_4 (dk_at dksX6_says_2 15 rfl rfl)
theorem dX6_says_64 : decode cX6_says 64 = .ok (.goto 4, 3) := dk_167 0 4 (dk_at dksX6_says_2 16 rfl rfl)
theorem dX6_says_67 : decode cX6_says 67 = .ok (.iconst 0, 1) := dk_3 (dk_at dksX6_says_2 19 rfl rfl)
theorem dX6_says_68 : decode cX6_says 68 = .ok (.iadd, 1) := dk_96 (dk_at dksX6_says_2 20 rfl rfl)
theorem dX6_says_69 : decode cX6_says 69 = .ok (.iastore, 1) := dk_79 (dk_at dksX6_says_2 21 rfl rfl)
theorem dX6_says_70 : decode cX6_says 70 = .ok (.return_, 1) := dk_177 (dk_at dksX6_says_2 22 rfl rfl)
abbrev cX6_choice : ByteArray := prog_19_method_45_code
def yX6_choice : MethodName := ⟨RX6, "choice", "(II)I"⟩
def dkwX6_choice_1 : List UInt8 := [184, 0, 174, 167, 0, 5, 18, 82, 172]
abbrev dktX6_choice_1 : List UInt8 := dkwX6_choice_1 ++ []
def dkwX6_choice_0 : List UInt8 := [42, 27, 182, 0, 95, 153, 0, 23, 42, 28, 182, 0, 146, 153, 0, 15, 42, 27, 28, 182, 0, 171]
abbrev dktX6_choice_0 : List UInt8 := dkwX6_choice_0 ++ dktX6_choice_1
theorem dksX6_choice_0 : cX6_choice.data.toList.drop 0 = dktX6_choice_0 := by decide +kernel
theorem dksX6_choice_1 : cX6_choice.data.toList.drop 22 = dktX6_choice_1 := dk_seg dksX6_choice_0 22 rfl rfl
theorem dX6_choice_0 : decode cX6_choice 0 = .ok (.aload_n 0, 1) := dk_42 (dk_at dksX6_choice_0 0 rfl rfl)
theorem dX6_choice_1 : decode cX6_choice 1 = .ok (.iload_n 1, 1) := dk_27 (dk_at dksX6_choice_0 1 rfl rfl)
theorem dX6_choice_2 : decode cX6_choice 2 = .ok (.invokevirtual 95, 3) := dk_182 0 95 (dk_at dksX6_choice_0 2 rfl rfl)
theorem dX6_choice_5 : decode cX6_choice 5 = .ok (.ifCond .eq 23, 3) := dk_153 0 23 (dk_at dksX6_choice_0 5 rfl rfl)
theorem dX6_choice_8 : decode cX6_choice 8 = .ok (.aload_n 0, 1) := dk_42 (dk_at dksX6_choice_0 8 rfl rfl)
theorem dX6_choice_9 : decode cX6_choice 9 = .ok (.iload_n 2, 1) := dk_28 (dk_at dksX6_choice_0 9 rfl rfl)
theorem dX6_choice_10 : decode cX6_choice 10 = .ok (.invokevirtual 146, 3) := dk_182 0 146 (dk_at dksX6_choice_0 10 rfl rfl)
theorem dX6_choice_13 : decode cX6_choice 13 = .ok (.ifCond .eq 15, 3) := dk_153 0 15 (dk_at dksX6_choice_0 13 rfl rfl)
theorem dX6_choice_16 : decode cX6_choice 16 = .ok (.aload_n 0, 1) := dk_42 (dk_at dksX6_choice_0 16 rfl rfl)
theorem dX6_choice_17 : decode cX6_choice 17 = .ok (.iload_n 1, 1) := dk_27 (dk_at dksX6_choice_0 17 rfl rfl)
theorem dX6_choice_18 : decode cX6_choice 18 = .ok (.iload_n 2, 1) := dk_28 (dk_at dksX6_choice_0 18 rfl rfl)
theorem dX6_choice_19 : decode cX6_choice 19 = .ok (.invokevirtual 171, 3) := dk_182 0 171 (dk_at dksX6_choice_0 19 rfl rfl)
theorem dX6_choice_22 : decode cX6_choice 22 = .ok (.invokestatic 174, 3) := dk_184 0 174 (dk_at dksX6_choice_1 0 rfl rfl)
theorem dX6_choice_25 : decode cX6_choice 25 = .ok (.goto 5, 3) := dk_167 0 5 (dk_at dksX6_choice_1 3 rfl rfl)
theorem dX6_choice_28 : decode cX6_choice 28 = .ok (.ldc 82, 2) := dk_18 82 (dk_at dksX6_choice_1 6 rfl rfl)
theorem dX6_choice_30 : decode cX6_choice 30 = .ok (.ireturn, 1) := dk_172 (dk_at dksX6_choice_1 8 rfl rfl)
abbrev cX6_choiceOf : ByteArray := prog_19_method_44_code
def yX6_choiceOf : MethodName := ⟨RX6, "choiceOf", "(II)I"⟩
def dkwX6_choiceOf_8 : List UInt8 := [153, 0, 8, 21, 4, 167, 0, 4, 29, 184, 0, 165, 172, 29, 184, 0, 165, 172]
abbrev dktX6_choiceOf_8 : List UInt8 := dkwX6_choiceOf_8 ++ []
def dkwX6_choiceOf_7 : List UInt8 := [28, 5, 182, 0, 73, 42, 27, 4, 182, 0, 88, 164, 0, 7, 2, 167, 0, 5, 21, 6, 172, 21, 4]
abbrev dktX6_choiceOf_7 : List UInt8 := dkwX6_choiceOf_7 ++ dktX6_choiceOf_8
def dkwX6_choiceOf_6 : List UInt8 := [29, 21, 4, 2, 130, 126, 184, 0, 165, 172, 21, 6, 172, 29, 21, 4, 2, 130, 126, 184, 0, 168, 172, 42]
abbrev dktX6_choiceOf_6 : List UInt8 := dkwX6_choiceOf_6 ++ dktX6_choiceOf_7
def dkwX6_choiceOf_5 : List UInt8 := [170, 0, 0, 0, 0, 0, 0, 96, 0, 0, 0, 1, 0, 0, 0, 5, 0, 0, 0, 36, 0, 0, 0, 46, 0, 0, 0, 49, 0, 0, 0, 59, 0, 0, 0, 81]
abbrev dktX6_choiceOf_5 : List UInt8 := dkwX6_choiceOf_5 ++ dktX6_choiceOf_6
def dkwX6_choiceOf_4 : List UInt8 := [54, 6, 42, 27, 3, 182, 0, 88]
abbrev dktX6_choiceOf_4 : List UInt8 := dkwX6_choiceOf_4 ++ dktX6_choiceOf_5
def dkwX6_choiceOf_3 : List UInt8 := [29, 42, 27, 6, 182, 0, 88, 126, 54, 5, 21, 5, 153, 0, 8, 21, 5, 167, 0, 4, 29, 184, 0, 165]
abbrev dktX6_choiceOf_3 : List UInt8 := dkwX6_choiceOf_3 ++ dktX6_choiceOf_4
def dkwX6_choiceOf_2 : List UInt8 := [182, 0, 73, 126, 153, 0, 10, 4, 21, 5, 120, 167, 0, 4, 3, 128, 54, 4, 132, 5, 1, 167, 255, 195]
abbrev dktX6_choiceOf_2 : List UInt8 := dkwX6_choiceOf_2 ++ dktX6_choiceOf_3
def dkwX6_choiceOf_1 : List UInt8 := [182, 0, 157, 153, 0, 39, 29, 4, 21, 5, 120, 128, 62, 21, 4, 42, 21, 5, 182, 0, 154, 42, 28, 3]
abbrev dktX6_choiceOf_1 : List UInt8 := dkwX6_choiceOf_1 ++ dktX6_choiceOf_2
def dkwX6_choiceOf_0 : List UInt8 := [3, 62, 3, 54, 4, 3, 54, 5, 21, 5, 42, 180, 0, 7, 3, 46, 162, 0, 56, 42, 27, 28, 21, 5]
abbrev dktX6_choiceOf_0 : List UInt8 := dkwX6_choiceOf_0 ++ dktX6_choiceOf_1
theorem dksX6_choiceOf_0 : cX6_choiceOf.data.toList.drop 0 = dktX6_choiceOf_0 := by decide +kernel
theorem dksX6_choiceOf_1 : cX6_choiceOf.data.toList.drop 24 = dktX6_choiceOf_1 := dk_seg dksX6_choiceOf_0 24 rfl rfl
theorem dksX6_choiceOf_2 : cX6_choiceOf.data.toList.drop 48 = dktX6_choiceOf_2 := dk_seg dksX6_choiceOf_1 24 rfl rfl
theorem dksX6_choiceOf_3 : cX6_choiceOf.data.toList.drop 72 = dktX6_choiceOf_3 := dk_seg dksX6_choiceOf_2 24 rfl rfl
theorem dksX6_choiceOf_4 : cX6_choiceOf.data.toList.drop 96 = dktX6_choiceOf_4 := dk_seg dksX6_choiceOf_3 24 rfl rfl
theorem dksX6_choiceOf_5 : cX6_choiceOf.data.toList.drop 104 = dktX6_choiceOf_5 := dk_seg dksX6_choiceOf_4 8 rfl rfl
theorem dksX6_choiceOf_6 : cX6_choiceOf.data.toList.drop 140 = dktX6_choiceOf_6 := dk_seg dksX6_choiceOf_5 36 rfl rfl
theorem dksX6_choiceOf_7 : cX6_choiceOf.data.toList.drop 164 = dktX6_choiceOf_7 := dk_seg dksX6_choiceOf_6 24 rfl rfl
theorem dksX6_choiceOf_8 : cX6_choiceOf.data.toList.drop 187 = dktX6_choiceOf_8 := dk_seg dksX6_choiceOf_7 23 rfl rfl
theorem dX6_choiceOf_0 : decode cX6_choiceOf 0 = .ok (.iconst 0, 1) := dk_3 (dk_at dksX6_choiceOf_0 0 rfl rfl)
theorem dX6_choiceOf_1 : decode cX6_choiceOf 1 = .ok (.istore_n 3, 1) := dk_62 (dk_at dksX6_choiceOf_0 1 rfl rfl)
theorem dX6_choiceOf_2 : decode cX6_choiceOf 2 = .ok (.iconst 0, 1) := dk_3 (dk_at dksX6_choiceOf_0 2 rfl rfl)
theorem dX6_choiceOf_3 : decode cX6_choiceOf 3 = .ok (.istore 4, 2) := dk_54 4 (dk_at dksX6_choiceOf_0 3 rfl rfl)
theorem dX6_choiceOf_5 : decode cX6_choiceOf 5 = .ok (.iconst 0, 1) := dk_3 (dk_at dksX6_choiceOf_0 5 rfl rfl)
theorem dX6_choiceOf_6 : decode cX6_choiceOf 6 = .ok (.istore 5, 2) := dk_54 5 (dk_at dksX6_choiceOf_0 6 rfl rfl)
theorem dX6_choiceOf_8 : decode cX6_choiceOf 8 = .ok (.iload 5, 2) := dk_21 5 (dk_at dksX6_choiceOf_0 8 rfl rfl)
theorem dX6_choiceOf_10 : decode cX6_choiceOf 10 = .ok (.aload_n 0, 1) := dk_42 (dk_at dksX6_choiceOf_0 10 rfl rfl)
theorem dX6_choiceOf_11 : decode cX6_choiceOf 11 = .ok (.getfield 7, 3) := dk_180 0 7 (dk_at dksX6_choiceOf_0 11 rfl rfl)
theorem dX6_choiceOf_14 : decode cX6_choiceOf 14 = .ok (.iconst 0, 1) := dk_3 (dk_at dksX6_choiceOf_0 14 rfl rfl)
theorem dX6_choiceOf_15 : decode cX6_choiceOf 15 = .ok (.iaload, 1) := dk_46 (dk_at dksX6_choiceOf_0 15 rfl rfl)
theorem dX6_choiceOf_16 : decode cX6_choiceOf 16 = .ok (.if_icmp .ge 56, 3) := dk_162 0 56 (dk_at dksX6_choiceOf_0 16 rfl rfl)
theorem dX6_choiceOf_19 : decode cX6_choiceOf 19 = .ok (.aload_n 0, 1) := dk_42 (dk_at dksX6_choiceOf_0 19 rfl rfl)
theorem dX6_choiceOf_20 : decode cX6_choiceOf 20 = .ok (.iload_n 1, 1) := dk_27 (dk_at dksX6_choiceOf_0 20 rfl rfl)
theorem dX6_choiceOf_21 : decode cX6_choiceOf 21 = .ok (.iload_n 2, 1) := dk_28 (dk_at dksX6_choiceOf_0 21 rfl rfl)
theorem dX6_choiceOf_22 : decode cX6_choiceOf 22 = .ok (.iload 5, 2) := dk_21 5 (dk_at dksX6_choiceOf_0 22 rfl rfl)
theorem dX6_choiceOf_24 : decode cX6_choiceOf 24 = .ok (.invokevirtual 157, 3) := dk_182 0 157 (dk_at dksX6_choiceOf_1 0 rfl rfl)
theorem dX6_choiceOf_27 : decode cX6_choiceOf 27 = .ok (.ifCond .eq 39, 3) := dk_153 0 39 (dk_at dksX6_choiceOf_1 3 rfl rfl)
theorem dX6_choiceOf_30 : decode cX6_choiceOf 30 = .ok (.iload_n 3, 1) := dk_29 (dk_at dksX6_choiceOf_1 6 rfl rfl)
theorem dX6_choiceOf_31 : decode cX6_choiceOf 31 = .ok (.iconst 1, 1) := dk_4 (dk_at dksX6_choiceOf_1 7 rfl rfl)
theorem dX6_choiceOf_32 : decode cX6_choiceOf 32 = .ok (.iload 5, 2) := dk_21 5 (dk_at dksX6_choiceOf_1 8 rfl rfl)
theorem dX6_choiceOf_34 : decode cX6_choiceOf 34 = .ok (.ishl, 1) := dk_120 (dk_at dksX6_choiceOf_1 10 rfl rfl)
theorem dX6_choiceOf_35 : decode cX6_choiceOf 35 = .ok (.ior, 1) := dk_128 (dk_at dksX6_choiceOf_1 11 rfl rfl)
theorem dX6_choiceOf_36 : decode cX6_choiceOf 36 = .ok (.istore_n 3, 1) := dk_62 (dk_at dksX6_choiceOf_1 12 rfl rfl)
theorem dX6_choiceOf_37 : decode cX6_choiceOf 37 = .ok (.iload 4, 2) := dk_21 4 (dk_at dksX6_choiceOf_1 13 rfl rfl)
theorem dX6_choiceOf_39 : decode cX6_choiceOf 39 = .ok (.aload_n 0, 1) := dk_42 (dk_at dksX6_choiceOf_1 15 rfl rfl)
theorem dX6_choiceOf_40 : decode cX6_choiceOf 40 = .ok (.iload 5, 2) := dk_21 5 (dk_at dksX6_choiceOf_1 16 rfl rfl)
theorem dX6_choiceOf_42 : decode cX6_choiceOf 42 = .ok (.invokevirtual 154, 3) := dk_182 0 154 (dk_at dksX6_choiceOf_1 18 rfl rfl)
theorem dX6_choiceOf_45 : decode cX6_choiceOf 45 = .ok (.aload_n 0, 1) := dk_42 (dk_at dksX6_choiceOf_1 21 rfl rfl)
theorem dX6_choiceOf_46 : decode cX6_choiceOf 46 = .ok (.iload_n 2, 1) := dk_28 (dk_at dksX6_choiceOf_1 22 rfl rfl)
theorem dX6_choiceOf_47 : decode cX6_choiceOf 47 = .ok (.iconst 0, 1) := dk_3 (dk_at dksX6_choiceOf_1 23 rfl rfl)
theorem dX6_choiceOf_48 : decode cX6_choiceOf 48 = .ok (.invokevirtual 73, 3) := dk_182 0 73 (dk_at dksX6_choiceOf_2 0 rfl rfl)
theorem dX6_choiceOf_51 : decode cX6_choiceOf 51 = .ok (.iand, 1) := dk_126 (dk_at dksX6_choiceOf_2 3 rfl rfl)
theorem dX6_choiceOf_52 : decode cX6_choiceOf 52 = .ok (.ifCond .eq 10, 3) := dk_153 0 10 (dk_at dksX6_choiceOf_2 4 rfl rfl)
theorem dX6_choiceOf_55 : decode cX6_choiceOf 55 = .ok (.iconst 1, 1) := dk_4 (dk_at dksX6_choiceOf_2 7 rfl rfl)
theorem dX6_choiceOf_56 : decode cX6_choiceOf 56 = .ok (.iload 5, 2) := dk_21 5 (dk_at dksX6_choiceOf_2 8 rfl rfl)
theorem dX6_choiceOf_58 : decode cX6_choiceOf 58 = .ok (.ishl, 1) := dk_120 (dk_at dksX6_choiceOf_2 10 rfl rfl)
theorem dX6_choiceOf_59 : decode cX6_choiceOf 59 = .ok (.goto 4, 3) := dk_167 0 4 (dk_at dksX6_choiceOf_2 11 rfl rfl)
theorem dX6_choiceOf_62 : decode cX6_choiceOf 62 = .ok (.iconst 0, 1) := dk_3 (dk_at dksX6_choiceOf_2 14 rfl rfl)
theorem dX6_choiceOf_63 : decode cX6_choiceOf 63 = .ok (.ior, 1) := dk_128 (dk_at dksX6_choiceOf_2 15 rfl rfl)
theorem dX6_choiceOf_64 : decode cX6_choiceOf 64 = .ok (.istore 4, 2) := dk_54 4 (dk_at dksX6_choiceOf_2 16 rfl rfl)
theorem dX6_choiceOf_66 : decode cX6_choiceOf 66 = .ok (.iinc 5 1, 3) := dk_132 5 1 (dk_at dksX6_choiceOf_2 18 rfl rfl)
theorem dX6_choiceOf_69 : decode cX6_choiceOf 69 = .ok (.goto (-61), 3) := dk_167 255 195 (dk_at dksX6_choiceOf_2 21 rfl rfl)
theorem dX6_choiceOf_72 : decode cX6_choiceOf 72 = .ok (.iload_n 3, 1) := dk_29 (dk_at dksX6_choiceOf_3 0 rfl rfl)
theorem dX6_choiceOf_73 : decode cX6_choiceOf 73 = .ok (.aload_n 0, 1) := dk_42 (dk_at dksX6_choiceOf_3 1 rfl rfl)
theorem dX6_choiceOf_74 : decode cX6_choiceOf 74 = .ok (.iload_n 1, 1) := dk_27 (dk_at dksX6_choiceOf_3 2 rfl rfl)
theorem dX6_choiceOf_75 : decode cX6_choiceOf 75 = .ok (.iconst 3, 1) := dk_6 (dk_at dksX6_choiceOf_3 3 rfl rfl)
theorem dX6_choiceOf_76 : decode cX6_choiceOf 76 = .ok (.invokevirtual 88, 3) := dk_182 0 88 (dk_at dksX6_choiceOf_3 4 rfl rfl)
theorem dX6_choiceOf_79 : decode cX6_choiceOf 79 = .ok (.iand, 1) := dk_126 (dk_at dksX6_choiceOf_3 7 rfl rfl)
theorem dX6_choiceOf_80 : decode cX6_choiceOf 80 = .ok (.istore 5, 2) := dk_54 5 (dk_at dksX6_choiceOf_3 8 rfl rfl)
theorem dX6_choiceOf_82 : decode cX6_choiceOf 82 = .ok (.iload 5, 2) := dk_21 5 (dk_at dksX6_choiceOf_3 10 rfl rfl)
theorem dX6_choiceOf_84 : decode cX6_choiceOf 84 = .ok (.ifCond .eq 8, 3) := dk_153 0 8 (dk_at dksX6_choiceOf_3 12 rfl rfl)
theorem dX6_choiceOf_87 : decode cX6_choiceOf 87 = .ok (.iload 5, 2) := dk_21 5 (dk_at dksX6_choiceOf_3 15 rfl rfl)
theorem dX6_choiceOf_89 : decode cX6_choiceOf 89 = .ok (.goto 4, 3) := dk_167 0 4 (dk_at dksX6_choiceOf_3 17 rfl rfl)
theorem dX6_choiceOf_92 : decode cX6_choiceOf 92 = .ok (.iload_n 3, 1) := dk_29 (dk_at dksX6_choiceOf_3 20 rfl rfl)
theorem dX6_choiceOf_93 : decode cX6_choiceOf 93 = .ok (.invokestatic 165, 3) := dk_184 0 165 (dk_at dksX6_choiceOf_3 21 rfl rfl)
theorem dX6_choiceOf_96 : decode cX6_choiceOf 96 = .ok (.istore 6, 2) := dk_54 6 (dk_at dksX6_choiceOf_4 0 rfl rfl)
theorem dX6_choiceOf_98 : decode cX6_choiceOf 98 = .ok (.aload_n 0, 1) := dk_42 (dk_at dksX6_choiceOf_4 2 rfl rfl)
theorem dX6_choiceOf_99 : decode cX6_choiceOf 99 = .ok (.iload_n 1, 1) := dk_27 (dk_at dksX6_choiceOf_4 3 rfl rfl)
theorem dX6_choiceOf_100 : decode cX6_choiceOf 100 = .ok (.iconst 0, 1) := dk_3 (dk_at dksX6_choiceOf_4 4 rfl rfl)
theorem dX6_choiceOf_101 : decode cX6_choiceOf 101 = .ok (.invokevirtual 88, 3) := dk_182 0 88 (dk_at dksX6_choiceOf_4 5 rfl rfl)
theorem dX6_choiceOf_104 : decode cX6_choiceOf 104 = .ok (.tableswitch 96 1 5 #[36, 46, 49, 59, 81], 36) := by decide +kernel
theorem dX6_choiceOf_140 : decode cX6_choiceOf 140 = .ok (.iload_n 3, 1) := dk_29 (dk_at dksX6_choiceOf_6 0 rfl rfl)
theorem dX6_choiceOf_141 : decode cX6_choiceOf 141 = .ok (.iload 4, 2) := dk_21 4 (dk_at dksX6_choiceOf_6 1 rfl rfl)
theorem dX6_choiceOf_143 : decode cX6_choiceOf 143 = .ok (.iconst (-1), 1) := dk_2 (dk_at dksX6_choiceOf_6 3 rfl rfl)
theorem dX6_choiceOf_144 : decode cX6_choiceOf 144 = .ok (.ixor, 1) := dk_130 (dk_at dksX6_choiceOf_6 4 rfl rfl)
theorem dX6_choiceOf_145 : decode cX6_choiceOf 145 = .ok (.iand, 1) := dk_126 (dk_at dksX6_choiceOf_6 5 rfl rfl)
theorem dX6_choiceOf_146 : decode cX6_choiceOf 146 = .ok (.invokestatic 165, 3) := dk_184 0 165 (dk_at dksX6_choiceOf_6 6 rfl rfl)
theorem dX6_choiceOf_149 : decode cX6_choiceOf 149 = .ok (.ireturn, 1) := dk_172 (dk_at dksX6_choiceOf_6 9 rfl rfl)
theorem dX6_choiceOf_150 : decode cX6_choiceOf 150 = .ok (.iload 6, 2) := dk_21 6 (dk_at dksX6_choiceOf_6 10 rfl rfl)
theorem dX6_choiceOf_152 : decode cX6_choiceOf 152 = .ok (.ireturn, 1) := dk_172 (dk_at dksX6_choiceOf_6 12 rfl rfl)
theorem dX6_choiceOf_153 : decode cX6_choiceOf 153 = .ok (.iload_n 3, 1) := dk_29 (dk_at dksX6_choiceOf_6 13 rfl rfl)
theorem dX6_choiceOf_154 : decode cX6_choiceOf 154 = .ok (.iload 4, 2) := dk_21 4 (dk_at dksX6_choiceOf_6 14 rfl rfl)
theorem dX6_choiceOf_156 : decode cX6_choiceOf 156 = .ok (.iconst (-1), 1) := dk_2 (dk_at dksX6_choiceOf_6 16 rfl rfl)
theorem dX6_choiceOf_157 : decode cX6_choiceOf 157 = .ok (.ixor, 1) := dk_130 (dk_at dksX6_choiceOf_6 17 rfl rfl)
theorem dX6_choiceOf_158 : decode cX6_choiceOf 158 = .ok (.iand, 1) := dk_126 (dk_at dksX6_choiceOf_6 18 rfl rfl)
theorem dX6_choiceOf_159 : decode cX6_choiceOf 159 = .ok (.invokestatic 168, 3) := dk_184 0 168 (dk_at dksX6_choiceOf_6 19 rfl rfl)
theorem dX6_choiceOf_162 : decode cX6_choiceOf 162 = .ok (.ireturn, 1) := dk_172 (dk_at dksX6_choiceOf_6 22 rfl rfl)
theorem dX6_choiceOf_163 : decode cX6_choiceOf 163 = .ok (.aload_n 0, 1) := dk_42 (dk_at dksX6_choiceOf_6 23 rfl rfl)
theorem dX6_choiceOf_164 : decode cX6_choiceOf 164 = .ok (.iload_n 2, 1) := dk_28 (dk_at dksX6_choiceOf_7 0 rfl rfl)
theorem dX6_choiceOf_165 : decode cX6_choiceOf 165 = .ok (.iconst 2, 1) := dk_5 (dk_at dksX6_choiceOf_7 1 rfl rfl)
theorem dX6_choiceOf_166 : decode cX6_choiceOf 166 = .ok (.invokevirtual 73, 3) := dk_182 0 73 (dk_at dksX6_choiceOf_7 2 rfl rfl)
theorem dX6_choiceOf_169 : decode cX6_choiceOf 169 = .ok (.aload_n 0, 1) := dk_42 (dk_at dksX6_choiceOf_7 5 rfl rfl)
theorem dX6_choiceOf_170 : decode cX6_choiceOf 170 = .ok (.iload_n 1, 1) := dk_27 (dk_at dksX6_choiceOf_7 6 rfl rfl)
theorem dX6_choiceOf_171 : decode cX6_choiceOf 171 = .ok (.iconst 1, 1) := dk_4 (dk_at dksX6_choiceOf_7 7 rfl rfl)
theorem dX6_choiceOf_172 : decode cX6_choiceOf 172 = .ok (.invokevirtual 88, 3) := dk_182 0 88 (dk_at dksX6_choiceOf_7 8 rfl rfl)
theorem dX6_choiceOf_175 : decode cX6_choiceOf 175 = .ok (.if_icmp .le 7, 3) := dk_164 0 7 (dk_at dksX6_choiceOf_7 11 rfl rfl)
theorem dX6_choiceOf_178 : decode cX6_choiceOf 178 = .ok (.iconst (-1), 1) := dk_2 (dk_at dksX6_choiceOf_7 14 rfl rfl)
theorem dX6_choiceOf_179 : decode cX6_choiceOf 179 = .ok (.goto 5, 3) := dk_167 0 5 (dk_at dksX6_choiceOf_7 15 rfl rfl)
theorem dX6_choiceOf_182 : decode cX6_choiceOf 182 = .ok (.iload 6, 2) := dk_21 6 (dk_at dksX6_choiceOf_7 18 rfl rfl)
theorem dX6_choiceOf_184 : decode cX6_choiceOf 184 = .ok (.ireturn, 1) := dk_172 (dk_at dksX6_choiceOf_7 20 rfl rfl)
theorem dX6_choiceOf_185 : decode cX6_choiceOf 185 = .ok (.iload 4, 2) := dk_21 4 (dk_at dksX6_choiceOf_7 21 rfl rfl)
theorem dX6_choiceOf_187 : decode cX6_choiceOf 187 = .ok (.ifCond .eq 8, 3) := dk_153 0 8 (dk_at dksX6_choiceOf_8 0 rfl rfl)
theorem dX6_choiceOf_190 : decode cX6_choiceOf 190 = .ok (.iload 4, 2) := dk_21 4 (dk_at dksX6_choiceOf_8 3 rfl rfl)
theorem dX6_choiceOf_192 : decode cX6_choiceOf 192 = .ok (.goto 4, 3) := dk_167 0 4 (dk_at dksX6_choiceOf_8 5 rfl rfl)
theorem dX6_choiceOf_195 : decode cX6_choiceOf 195 = .ok (.iload_n 3, 1) := dk_29 (dk_at dksX6_choiceOf_8 8 rfl rfl)
theorem dX6_choiceOf_196 : decode cX6_choiceOf 196 = .ok (.invokestatic 165, 3) := dk_184 0 165 (dk_at dksX6_choiceOf_8 9 rfl rfl)
theorem dX6_choiceOf_199 : decode cX6_choiceOf 199 = .ok (.ireturn, 1) := dk_172 (dk_at dksX6_choiceOf_8 12 rfl rfl)
theorem dX6_choiceOf_200 : decode cX6_choiceOf 200 = .ok (.iload_n 3, 1) := dk_29 (dk_at dksX6_choiceOf_8 13 rfl rfl)
theorem dX6_choiceOf_201 : decode cX6_choiceOf 201 = .ok (.invokestatic 165, 3) := dk_184 0 165 (dk_at dksX6_choiceOf_8 14 rfl rfl)
theorem dX6_choiceOf_204 : decode cX6_choiceOf 204 = .ok (.ireturn, 1) := dk_172 (dk_at dksX6_choiceOf_8 17 rfl rfl)
abbrev cX6_least : ByteArray := prog_19_method_42_code
def yX6_least : MethodName := ⟨RX6, "least", "(I)I"⟩
def dkwX6_least_1 : List UInt8 := [16, 12, 162, 0, 7, 27, 167, 0, 4, 2, 172]
abbrev dktX6_least_1 : List UInt8 := dkwX6_least_1 ++ []
def dkwX6_least_0 : List UInt8 := [3, 60, 27, 16, 12, 162, 0, 17, 26, 27, 122, 4, 126, 154, 0, 9, 132, 1, 1, 167, 255, 239, 27]
abbrev dktX6_least_0 : List UInt8 := dkwX6_least_0 ++ dktX6_least_1
theorem dksX6_least_0 : cX6_least.data.toList.drop 0 = dktX6_least_0 := by decide +kernel
theorem dksX6_least_1 : cX6_least.data.toList.drop 23 = dktX6_least_1 := dk_seg dksX6_least_0 23 rfl rfl
theorem dX6_least_0 : decode cX6_least 0 = .ok (.iconst 0, 1) := dk_3 (dk_at dksX6_least_0 0 rfl rfl)
theorem dX6_least_1 : decode cX6_least 1 = .ok (.istore_n 1, 1) := dk_60 (dk_at dksX6_least_0 1 rfl rfl)
theorem dX6_least_2 : decode cX6_least 2 = .ok (.iload_n 1, 1) := dk_27 (dk_at dksX6_least_0 2 rfl rfl)
theorem dX6_least_3 : decode cX6_least 3 = .ok (.bipush 12, 2) := dk_16 12 (dk_at dksX6_least_0 3 rfl rfl)
theorem dX6_least_5 : decode cX6_least 5 = .ok (.if_icmp .ge 17, 3) := dk_162 0 17 (dk_at dksX6_least_0 5 rfl rfl)
theorem dX6_least_8 : decode cX6_least 8 = .ok (.iload_n 0, 1) := dk_26 (dk_at dksX6_least_0 8 rfl rfl)
theorem dX6_least_9 : decode cX6_least 9 = .ok (.iload_n 1, 1) := dk_27 (dk_at dksX6_least_0 9 rfl rfl)
theorem dX6_least_10 : decode cX6_least 10 = .ok (.ishr, 1) := dk_122 (dk_at dksX6_least_0 10 rfl rfl)
theorem dX6_least_11 : decode cX6_least 11 = .ok (.iconst 1, 1) := dk_4 (dk_at dksX6_least_0 11 rfl rfl)
theorem dX6_least_12 : decode cX6_least 12 = .ok (.iand, 1) := dk_126 (dk_at dksX6_least_0 12 rfl rfl)
theorem dX6_least_13 : decode cX6_least 13 = .ok (.ifCond .ne 9, 3) := dk_154 0 9 (dk_at dksX6_least_0 13 rfl rfl)
theorem dX6_least_16 : decode cX6_least 16 = .ok (.iinc 1 1, 3) := dk_132 1 1 (dk_at dksX6_least_0 16 rfl rfl)
theorem dX6_least_19 : decode cX6_least 19 = .ok (.goto (-17), 3) := dk_167 255 239 (dk_at dksX6_least_0 19 rfl rfl)
theorem dX6_least_22 : decode cX6_least 22 = .ok (.iload_n 1, 1) := dk_27 (dk_at dksX6_least_0 22 rfl rfl)
theorem dX6_least_23 : decode cX6_least 23 = .ok (.bipush 12, 2) := dk_16 12 (dk_at dksX6_least_1 0 rfl rfl)
theorem dX6_least_25 : decode cX6_least 25 = .ok (.if_icmp .ge 7, 3) := dk_162 0 7 (dk_at dksX6_least_1 2 rfl rfl)
theorem dX6_least_28 : decode cX6_least 28 = .ok (.iload_n 1, 1) := dk_27 (dk_at dksX6_least_1 5 rfl rfl)
theorem dX6_least_29 : decode cX6_least 29 = .ok (.goto 4, 3) := dk_167 0 4 (dk_at dksX6_least_1 6 rfl rfl)
theorem dX6_least_32 : decode cX6_least 32 = .ok (.iconst (-1), 1) := dk_2 (dk_at dksX6_least_1 9 rfl rfl)
theorem dX6_least_33 : decode cX6_least 33 = .ok (.ireturn, 1) := dk_172 (dk_at dksX6_least_1 10 rfl rfl)
abbrev cX6_greatest : ByteArray := prog_19_method_43_code
def yX6_greatest : MethodName := ⟨RX6, "greatest", "(I)I"⟩
def dkwX6_greatest_0 : List UInt8 := [16, 11, 60, 27, 155, 0, 17, 26, 27, 122, 4, 126, 154, 0, 9, 132, 1, 255, 167, 255, 241, 27, 172]
abbrev dktX6_greatest_0 : List UInt8 := dkwX6_greatest_0 ++ []
theorem dksX6_greatest_0 : cX6_greatest.data.toList.drop 0 = dktX6_greatest_0 := by decide +kernel
theorem dX6_greatest_0 : decode cX6_greatest 0 = .ok (.bipush 11, 2) := dk_16 11 (dk_at dksX6_greatest_0 0 rfl rfl)
theorem dX6_greatest_2 : decode cX6_greatest 2 = .ok (.istore_n 1, 1) := dk_60 (dk_at dksX6_greatest_0 2 rfl rfl)
theorem dX6_greatest_3 : decode cX6_greatest 3 = .ok (.iload_n 1, 1) := dk_27 (dk_at dksX6_greatest_0 3 rfl rfl)
theorem dX6_greatest_4 : decode cX6_greatest 4 = .ok (.ifCond .lt 17, 3) := dk_155 0 17 (dk_at dksX6_greatest_0 4 rfl rfl)
theorem dX6_greatest_7 : decode cX6_greatest 7 = .ok (.iload_n 0, 1) := dk_26 (dk_at dksX6_greatest_0 7 rfl rfl)
theorem dX6_greatest_8 : decode cX6_greatest 8 = .ok (.iload_n 1, 1) := dk_27 (dk_at dksX6_greatest_0 8 rfl rfl)
theorem dX6_greatest_9 : decode cX6_greatest 9 = .ok (.ishr, 1) := dk_122 (dk_at dksX6_greatest_0 9 rfl rfl)
theorem dX6_greatest_10 : decode cX6_greatest 10 = .ok (.iconst 1, 1) := dk_4 (dk_at dksX6_greatest_0 10 rfl rfl)
theorem dX6_greatest_11 : decode cX6_greatest 11 = .ok (.iand, 1) := dk_126 (dk_at dksX6_greatest_0 11 rfl rfl)
theorem dX6_greatest_12 : decode cX6_greatest 12 = .ok (.ifCond .ne 9, 3) := dk_154 0 9 (dk_at dksX6_greatest_0 12 rfl rfl)
theorem dX6_greatest_15 : decode cX6_greatest 15 = .ok (.iinc 1 (-1), 3) := dk_132 1 255 (dk_at dksX6_greatest_0 15 rfl rfl)
theorem dX6_greatest_18 : decode cX6_greatest 18 = .ok (.goto (-15), 3) := dk_167 255 241 (dk_at dksX6_greatest_0 18 rfl rfl)
theorem dX6_greatest_21 : decode cX6_greatest 21 = .ok (.iload_n 1, 1) := dk_27 (dk_at dksX6_greatest_0 21 rfl rfl)
theorem dX6_greatest_22 : decode cX6_greatest 22 = .ok (.ireturn, 1) := dk_172 (dk_at dksX6_greatest_0 22 rfl rfl)
abbrev cX6_orNone : ByteArray := prog_19_method_3_code
def yX6_orNone : MethodName := ⟨RX6, "orNone", "(I)I"⟩
def dkwX6_orNone_0 : List UInt8 := [26, 156, 0, 8, 18, 64, 167, 0, 4, 26, 172]
abbrev dktX6_orNone_0 : List UInt8 := dkwX6_orNone_0 ++ []
theorem dksX6_orNone_0 : cX6_orNone.data.toList.drop 0 = dktX6_orNone_0 := by decide +kernel
theorem dX6_orNone_0 : decode cX6_orNone 0 = .ok (.iload_n 0, 1) := dk_26 (dk_at dksX6_orNone_0 0 rfl rfl)
theorem dX6_orNone_1 : decode cX6_orNone 1 = .ok (.ifCond .ge 8, 3) := dk_156 0 8 (dk_at dksX6_orNone_0 1 rfl rfl)
theorem dX6_orNone_4 : decode cX6_orNone 4 = .ok (.ldc 64, 2) := dk_18 64 (dk_at dksX6_orNone_0 4 rfl rfl)
theorem dX6_orNone_6 : decode cX6_orNone 6 = .ok (.goto 4, 3) := dk_167 0 4 (dk_at dksX6_orNone_0 6 rfl rfl)
theorem dX6_orNone_9 : decode cX6_orNone 9 = .ok (.iload_n 0, 1) := dk_26 (dk_at dksX6_orNone_0 9 rfl rfl)
theorem dX6_orNone_10 : decode cX6_orNone 10 = .ok (.ireturn, 1) := dk_172 (dk_at dksX6_orNone_0 10 rfl rfl)
abbrev cX6_rounds : ByteArray := prog_19_method_48_code
def yX6_rounds : MethodName := ⟨RX6, "rounds", "(II)I"⟩
def dkwX6_rounds_2 : List UInt8 := [29, 172]
abbrev dktX6_rounds_2 : List UInt8 := dkwX6_rounds_2 ++ []
def dkwX6_rounds_1 : List UInt8 := [62, 3, 54, 4, 21, 4, 28, 162, 0, 17, 29, 42, 27, 182, 0, 182, 96, 62, 132, 4, 1, 167, 255, 239]
abbrev dktX6_rounds_1 : List UInt8 := dkwX6_rounds_1 ++ dktX6_rounds_2
def dkwX6_rounds_0 : List UInt8 := [42, 27, 182, 0, 146, 153, 0, 15, 28, 133, 10, 20, 0, 180, 184, 0, 65, 154, 0, 6, 18, 82, 172, 3]
abbrev dktX6_rounds_0 : List UInt8 := dkwX6_rounds_0 ++ dktX6_rounds_1
theorem dksX6_rounds_0 : cX6_rounds.data.toList.drop 0 = dktX6_rounds_0 := by decide +kernel
theorem dksX6_rounds_1 : cX6_rounds.data.toList.drop 24 = dktX6_rounds_1 := dk_seg dksX6_rounds_0 24 rfl rfl
theorem dksX6_rounds_2 : cX6_rounds.data.toList.drop 48 = dktX6_rounds_2 := dk_seg dksX6_rounds_1 24 rfl rfl
theorem dX6_rounds_0 : decode cX6_rounds 0 = .ok (.aload_n 0, 1) := dk_42 (dk_at dksX6_rounds_0 0 rfl rfl)
theorem dX6_rounds_1 : decode cX6_rounds 1 = .ok (.iload_n 1, 1) := dk_27 (dk_at dksX6_rounds_0 1 rfl rfl)
theorem dX6_rounds_2 : decode cX6_rounds 2 = .ok (.invokevirtual 146, 3) := dk_182 0 146 (dk_at dksX6_rounds_0 2 rfl rfl)
theorem dX6_rounds_5 : decode cX6_rounds 5 = .ok (.ifCond .eq 15, 3) := dk_153 0 15 (dk_at dksX6_rounds_0 5 rfl rfl)
theorem dX6_rounds_8 : decode cX6_rounds 8 = .ok (.iload_n 2, 1) := dk_28 (dk_at dksX6_rounds_0 8 rfl rfl)
theorem dX6_rounds_9 : decode cX6_rounds 9 = .ok (.i2l, 1) := dk_133 (dk_at dksX6_rounds_0 9 rfl rfl)
theorem dX6_rounds_10 : decode cX6_rounds 10 = .ok (.lconst 1, 1) := dk_10 (dk_at dksX6_rounds_0 10 rfl rfl)
theorem dX6_rounds_11 : decode cX6_rounds 11 = .ok (.ldc2_w 180, 3) := dk_20 0 180 (dk_at dksX6_rounds_0 11 rfl rfl)
theorem dX6_rounds_14 : decode cX6_rounds 14 = .ok (.invokestatic 65, 3) := dk_184 0 65 (dk_at dksX6_rounds_0 14 rfl rfl)
theorem dX6_rounds_17 : decode cX6_rounds 17 = .ok (.ifCond .ne 6, 3) := dk_154 0 6 (dk_at dksX6_rounds_0 17 rfl rfl)
theorem dX6_rounds_20 : decode cX6_rounds 20 = .ok (.ldc 82, 2) := dk_18 82 (dk_at dksX6_rounds_0 20 rfl rfl)
theorem dX6_rounds_22 : decode cX6_rounds 22 = .ok (.ireturn, 1) := dk_172 (dk_at dksX6_rounds_0 22 rfl rfl)
theorem dX6_rounds_23 : decode cX6_rounds 23 = .ok (.iconst 0, 1) := dk_3 (dk_at dksX6_rounds_0 23 rfl rfl)
theorem dX6_rounds_24 : decode cX6_rounds 24 = .ok (.istore_n 3, 1) := dk_62 (dk_at dksX6_rounds_1 0 rfl rfl)
theorem dX6_rounds_25 : decode cX6_rounds 25 = .ok (.iconst 0, 1) := dk_3 (dk_at dksX6_rounds_1 1 rfl rfl)
theorem dX6_rounds_26 : decode cX6_rounds 26 = .ok (.istore 4, 2) := dk_54 4 (dk_at dksX6_rounds_1 2 rfl rfl)
theorem dX6_rounds_28 : decode cX6_rounds 28 = .ok (.iload 4, 2) := dk_21 4 (dk_at dksX6_rounds_1 4 rfl rfl)
theorem dX6_rounds_30 : decode cX6_rounds 30 = .ok (.iload_n 2, 1) := dk_28 (dk_at dksX6_rounds_1 6 rfl rfl)
theorem dX6_rounds_31 : decode cX6_rounds 31 = .ok (.if_icmp .ge 17, 3) := dk_162 0 17 (dk_at dksX6_rounds_1 7 rfl rfl)
theorem dX6_rounds_34 : decode cX6_rounds 34 = .ok (.iload_n 3, 1) := dk_29 (dk_at dksX6_rounds_1 10 rfl rfl)
theorem dX6_rounds_35 : decode cX6_rounds 35 = .ok (.aload_n 0, 1) := dk_42 (dk_at dksX6_rounds_1 11 rfl rfl)
theorem dX6_rounds_36 : decode cX6_rounds 36 = .ok (.iload_n 1, 1) := dk_27 (dk_at dksX6_rounds_1 12 rfl rfl)
theorem dX6_rounds_37 : decode cX6_rounds 37 = .ok (.invokevirtual 182, 3) := dk_182 0 182 (dk_at dksX6_rounds_1 13 rfl rfl)
theorem dX6_rounds_40 : decode cX6_rounds 40 = .ok (.iadd, 1) := dk_96 (dk_at dksX6_rounds_1 16 rfl rfl)
theorem dX6_rounds_41 : decode cX6_rounds 41 = .ok (.istore_n 3, 1) := dk_62 (dk_at dksX6_rounds_1 17 rfl rfl)
theorem dX6_rounds_42 : decode cX6_rounds 42 = .ok (.iinc 4 1, 3) := dk_132 4 1 (dk_at dksX6_rounds_1 18 rfl rfl)
theorem dX6_rounds_45 : decode cX6_rounds 45 = .ok (.goto (-17), 3) := dk_167 255 239 (dk_at dksX6_rounds_1 21 rfl rfl)
theorem dX6_rounds_48 : decode cX6_rounds 48 = .ok (.iload_n 3, 1) := dk_29 (dk_at dksX6_rounds_2 0 rfl rfl)
theorem dX6_rounds_49 : decode cX6_rounds 49 = .ok (.ireturn, 1) := dk_172 (dk_at dksX6_rounds_2 1 rfl rfl)
abbrev cX6_rounded : ByteArray := prog_19_method_47_code
def yX6_rounded : MethodName := ⟨RX6, "rounded", "(I)I"⟩
def dkwX6_rounded_2 : List UInt8 := [21, 5, 155, 0, 13, 42, 27, 21, 5, 182, 0, 161, 132, 2, 1, 132, 3, 1, 167, 255, 196, 28, 172]
abbrev dktX6_rounded_2 : List UInt8 := dkwX6_rounded_2 ++ []
def dkwX6_rounded_1 : List UInt8 := [21, 4, 42, 29, 27, 182, 0, 177, 162, 0, 12, 42, 29, 27, 182, 0, 171, 167, 0, 4, 2, 54, 5]
abbrev dktX6_rounded_1 : List UInt8 := dkwX6_rounded_1 ++ dktX6_rounded_2
def dkwX6_rounded_0 : List UInt8 := [3, 61, 3, 62, 29, 42, 180, 0, 7, 3, 46, 162, 0, 56, 42, 182, 0, 125, 16, 100, 112, 54, 4]
abbrev dktX6_rounded_0 : List UInt8 := dkwX6_rounded_0 ++ dktX6_rounded_1
theorem dksX6_rounded_0 : cX6_rounded.data.toList.drop 0 = dktX6_rounded_0 := by decide +kernel
theorem dksX6_rounded_1 : cX6_rounded.data.toList.drop 23 = dktX6_rounded_1 := dk_seg dksX6_rounded_0 23 rfl rfl
theorem dksX6_rounded_2 : cX6_rounded.data.toList.drop 46 = dktX6_rounded_2 := dk_seg dksX6_rounded_1 23 rfl rfl
theorem dX6_rounded_0 : decode cX6_rounded 0 = .ok (.iconst 0, 1) := dk_3 (dk_at dksX6_rounded_0 0 rfl rfl)
theorem dX6_rounded_1 : decode cX6_rounded 1 = .ok (.istore_n 2, 1) := dk_61 (dk_at dksX6_rounded_0 1 rfl rfl)
theorem dX6_rounded_2 : decode cX6_rounded 2 = .ok (.iconst 0, 1) := dk_3 (dk_at dksX6_rounded_0 2 rfl rfl)
theorem dX6_rounded_3 : decode cX6_rounded 3 = .ok (.istore_n 3, 1) := dk_62 (dk_at dksX6_rounded_0 3 rfl rfl)
theorem dX6_rounded_4 : decode cX6_rounded 4 = .ok (.iload_n 3, 1) := dk_29 (dk_at dksX6_rounded_0 4 rfl rfl)
theorem dX6_rounded_5 : decode cX6_rounded 5 = .ok (.aload_n 0, 1) := dk_42 (dk_at dksX6_rounded_0 5 rfl rfl)
theorem dX6_rounded_6 : decode cX6_rounded 6 = .ok (.getfield 7, 3) := dk_180 0 7 (dk_at dksX6_rounded_0 6 rfl rfl)
theorem dX6_rounded_9 : decode cX6_rounded 9 = .ok (.iconst 0, 1) := dk_3 (dk_at dksX6_rounded_0 9 rfl rfl)
theorem dX6_rounded_10 : decode cX6_rounded 10 = .ok (.iaload, 1) := dk_46 (dk_at dksX6_rounded_0 10 rfl rfl)
theorem dX6_rounded_11 : decode cX6_rounded 11 = .ok (.if_icmp .ge 56, 3) := dk_162 0 56 (dk_at dksX6_rounded_0 11 rfl rfl)
theorem dX6_rounded_14 : decode cX6_rounded 14 = .ok (.aload_n 0, 1) := dk_42 (dk_at dksX6_rounded_0 14 rfl rfl)
theorem dX6_rounded_15 : decode cX6_rounded 15 = .ok (.invokevirtual 125, 3) := dk_182 0 125 (dk_at dksX6_rounded_0 15 rfl rfl)
theorem dX6_rounded_18 : decode cX6_rounded 18 = .ok (.bipush 100, 2) := dk_16 100 (dk_at dksX6_rounded_0 18 rfl rfl)
theorem dX6_rounded_20 : decode cX6_rounded 20 = .ok (.irem, 1) := dk_112 (dk_at dksX6_rounded_0 20 rfl rfl)
theorem dX6_rounded_21 : decode cX6_rounded 21 = .ok (.istore 4, 2) := dk_54 4 (dk_at dksX6_rounded_0 21 rfl rfl)
theorem dX6_rounded_23 : decode cX6_rounded 23 = .ok (.iload 4, 2) := dk_21 4 (dk_at dksX6_rounded_1 0 rfl rfl)
theorem dX6_rounded_25 : decode cX6_rounded 25 = .ok (.aload_n 0, 1) := dk_42 (dk_at dksX6_rounded_1 2 rfl rfl)
theorem dX6_rounded_26 : decode cX6_rounded 26 = .ok (.iload_n 3, 1) := dk_29 (dk_at dksX6_rounded_1 3 rfl rfl)
theorem dX6_rounded_27 : decode cX6_rounded 27 = .ok (.iload_n 1, 1) := dk_27 (dk_at dksX6_rounded_1 4 rfl rfl)
theorem dX6_rounded_28 : decode cX6_rounded 28 = .ok (.invokevirtual 177, 3) := dk_182 0 177 (dk_at dksX6_rounded_1 5 rfl rfl)
theorem dX6_rounded_31 : decode cX6_rounded 31 = .ok (.if_icmp .ge 12, 3) := dk_162 0 12 (dk_at dksX6_rounded_1 8 rfl rfl)
theorem dX6_rounded_34 : decode cX6_rounded 34 = .ok (.aload_n 0, 1) := dk_42 (dk_at dksX6_rounded_1 11 rfl rfl)
theorem dX6_rounded_35 : decode cX6_rounded 35 = .ok (.iload_n 3, 1) := dk_29 (dk_at dksX6_rounded_1 12 rfl rfl)
theorem dX6_rounded_36 : decode cX6_rounded 36 = .ok (.iload_n 1, 1) := dk_27 (dk_at dksX6_rounded_1 13 rfl rfl)
theorem dX6_rounded_37 : decode cX6_rounded 37 = .ok (.invokevirtual 171, 3) := dk_182 0 171 (dk_at dksX6_rounded_1 14 rfl rfl)
theorem dX6_rounded_40 : decode cX6_rounded 40 = .ok (.goto 4, 3) := dk_167 0 4 (dk_at dksX6_rounded_1 17 rfl rfl)
theorem dX6_rounded_43 : decode cX6_rounded 43 = .ok (.iconst (-1), 1) := dk_2 (dk_at dksX6_rounded_1 20 rfl rfl)
theorem dX6_rounded_44 : decode cX6_rounded 44 = .ok (.istore 5, 2) := dk_54 5 (dk_at dksX6_rounded_1 21 rfl rfl)
theorem dX6_rounded_46 : decode cX6_rounded 46 = .ok (.iload 5, 2) := dk_21 5 (dk_at dksX6_rounded_2 0 rfl rfl)
theorem dX6_rounded_48 : decode cX6_rounded 48 = .ok (.ifCond .lt 13, 3) := dk_155 0 13 (dk_at dksX6_rounded_2 2 rfl rfl)
theorem dX6_rounded_51 : decode cX6_rounded 51 = .ok (.aload_n 0, 1) := dk_42 (dk_at dksX6_rounded_2 5 rfl rfl)
theorem dX6_rounded_52 : decode cX6_rounded 52 = .ok (.iload_n 1, 1) := dk_27 (dk_at dksX6_rounded_2 6 rfl rfl)
theorem dX6_rounded_53 : decode cX6_rounded 53 = .ok (.iload 5, 2) := dk_21 5 (dk_at dksX6_rounded_2 7 rfl rfl)
theorem dX6_rounded_55 : decode cX6_rounded 55 = .ok (.invokevirtual 161, 3) := dk_182 0 161 (dk_at dksX6_rounded_2 9 rfl rfl)
theorem dX6_rounded_58 : decode cX6_rounded 58 = .ok (.iinc 2 1, 3) := dk_132 2 1 (dk_at dksX6_rounded_2 12 rfl rfl)
theorem dX6_rounded_61 : decode cX6_rounded 61 = .ok (.iinc 3 1, 3) := dk_132 3 1 (dk_at dksX6_rounded_2 15 rfl rfl)
theorem dX6_rounded_64 : decode cX6_rounded 64 = .ok (.goto (-60), 3) := dk_167 255 196 (dk_at dksX6_rounded_2 18 rfl rfl)
theorem dX6_rounded_67 : decode cX6_rounded 67 = .ok (.iload_n 2, 1) := dk_28 (dk_at dksX6_rounded_2 21 rfl rfl)
theorem dX6_rounded_68 : decode cX6_rounded 68 = .ok (.ireturn, 1) := dk_172 (dk_at dksX6_rounded_2 22 rfl rfl)
abbrev cX6_boldness : ByteArray := prog_19_method_46_code
def yX6_boldness : MethodName := ⟨RX6, "boldness", "(II)I"⟩
def dkwX6_boldness_2 : List UInt8 := [182, 0, 136, 184, 0, 128, 79, 42, 29, 182, 0, 139, 16, 100, 184, 0, 143, 172]
abbrev dktX6_boldness_2 : List UInt8 := dkwX6_boldness_2 ++ []
def dkwX6_boldness_1 : List UInt8 := [27, 4, 182, 0, 88, 79, 42, 180, 0, 49, 16, 115, 27, 79, 42, 180, 0, 49, 16, 110, 42, 28]
abbrev dktX6_boldness_1 : List UInt8 := dkwX6_boldness_1 ++ dktX6_boldness_2
def dkwX6_boldness_0 : List UInt8 := [42, 5, 182, 0, 133, 62, 29, 156, 0, 10, 42, 27, 4, 182, 0, 88, 172, 42, 180, 0, 49, 16, 98, 42]
abbrev dktX6_boldness_0 : List UInt8 := dkwX6_boldness_0 ++ dktX6_boldness_1
theorem dksX6_boldness_0 : cX6_boldness.data.toList.drop 0 = dktX6_boldness_0 := by decide +kernel
theorem dksX6_boldness_1 : cX6_boldness.data.toList.drop 24 = dktX6_boldness_1 := dk_seg dksX6_boldness_0 24 rfl rfl
theorem dksX6_boldness_2 : cX6_boldness.data.toList.drop 46 = dktX6_boldness_2 := dk_seg dksX6_boldness_1 22 rfl rfl
theorem dX6_boldness_0 : decode cX6_boldness 0 = .ok (.aload_n 0, 1) := dk_42 (dk_at dksX6_boldness_0 0 rfl rfl)
theorem dX6_boldness_1 : decode cX6_boldness 1 = .ok (.iconst 2, 1) := dk_5 (dk_at dksX6_boldness_0 1 rfl rfl)
theorem dX6_boldness_2 : decode cX6_boldness 2 = .ok (.invokevirtual 133, 3) := dk_182 0 133 (dk_at dksX6_boldness_0 2 rfl rfl)
theorem dX6_boldness_5 : decode cX6_boldness 5 = .ok (.istore_n 3, 1) := dk_62 (dk_at dksX6_boldness_0 5 rfl rfl)
theorem dX6_boldness_6 : decode cX6_boldness 6 = .ok (.iload_n 3, 1) := dk_29 (dk_at dksX6_boldness_0 6 rfl rfl)
theorem dX6_boldness_7 : decode cX6_boldness 7 = .ok (.ifCond .ge 10, 3) := dk_156 0 10 (dk_at dksX6_boldness_0 7 rfl rfl)
theorem dX6_boldness_10 : decode cX6_boldness 10 = .ok (.aload_n 0, 1) := dk_42 (dk_at dksX6_boldness_0 10 rfl rfl)
theorem dX6_boldness_11 : decode cX6_boldness 11 = .ok (.iload_n 1, 1) := dk_27 (dk_at dksX6_boldness_0 11 rfl rfl)
theorem dX6_boldness_12 : decode cX6_boldness 12 = .ok (.iconst 1, 1) := dk_4 (dk_at dksX6_boldness_0 12 rfl rfl)
theorem dX6_boldness_13 : decode cX6_boldness 13 = .ok (.invokevirtual 88, 3) := dk_182 0 88 (dk_at dksX6_boldness_0 13 rfl rfl)
theorem dX6_boldness_16 : decode cX6_boldness 16 = .ok (.ireturn, 1) := dk_172 (dk_at dksX6_boldness_0 16 rfl rfl)
theorem dX6_boldness_17 : decode cX6_boldness 17 = .ok (.aload_n 0, 1) := dk_42 (dk_at dksX6_boldness_0 17 rfl rfl)
theorem dX6_boldness_18 : decode cX6_boldness 18 = .ok (.getfield 49, 3) := dk_180 0 49 (dk_at dksX6_boldness_0 18 rfl rfl)
theorem dX6_boldness_21 : decode cX6_boldness 21 = .ok (.bipush 98, 2) := dk_16 98 (dk_at dksX6_boldness_0 21 rfl rfl)
theorem dX6_boldness_23 : decode cX6_boldness 23 = .ok (.aload_n 0, 1) := dk_42 (dk_at dksX6_boldness_0 23 rfl rfl)
theorem dX6_boldness_24 : decode cX6_boldness 24 = .ok (.iload_n 1, 1) := dk_27 (dk_at dksX6_boldness_1 0 rfl rfl)
theorem dX6_boldness_25 : decode cX6_boldness 25 = .ok (.iconst 1, 1) := dk_4 (dk_at dksX6_boldness_1 1 rfl rfl)
theorem dX6_boldness_26 : decode cX6_boldness 26 = .ok (.invokevirtual 88, 3) := dk_182 0 88 (dk_at dksX6_boldness_1 2 rfl rfl)
theorem dX6_boldness_29 : decode cX6_boldness 29 = .ok (.iastore, 1) := dk_79 (dk_at dksX6_boldness_1 5 rfl rfl)
theorem dX6_boldness_30 : decode cX6_boldness 30 = .ok (.aload_n 0, 1) := dk_42 (dk_at dksX6_boldness_1 6 rfl rfl)
theorem dX6_boldness_31 : decode cX6_boldness 31 = .ok (.getfield 49, 3) := dk_180 0 49 (dk_at dksX6_boldness_1 7 rfl rfl)
theorem dX6_boldness_34 : decode cX6_boldness 34 = .ok (.bipush 115, 2) := dk_16 115 (dk_at dksX6_boldness_1 10 rfl rfl)
theorem dX6_boldness_36 : decode cX6_boldness 36 = .ok (.iload_n 1, 1) := dk_27 (dk_at dksX6_boldness_1 12 rfl rfl)
theorem dX6_boldness_37 : decode cX6_boldness 37 = .ok (.iastore, 1) := dk_79 (dk_at dksX6_boldness_1 13 rfl rfl)
theorem dX6_boldness_38 : decode cX6_boldness 38 = .ok (.aload_n 0, 1) := dk_42 (dk_at dksX6_boldness_1 14 rfl rfl)
theorem dX6_boldness_39 : decode cX6_boldness 39 = .ok (.getfield 49, 3) := dk_180 0 49 (dk_at dksX6_boldness_1 15 rfl rfl)
theorem dX6_boldness_42 : decode cX6_boldness 42 = .ok (.bipush 110, 2) := dk_16 110 (dk_at dksX6_boldness_1 18 rfl rfl)
theorem dX6_boldness_44 : decode cX6_boldness 44 = .ok (.aload_n 0, 1) := dk_42 (dk_at dksX6_boldness_1 20 rfl rfl)
theorem dX6_boldness_45 : decode cX6_boldness 45 = .ok (.iload_n 2, 1) := dk_28 (dk_at dksX6_boldness_1 21 rfl rfl)
theorem dX6_boldness_46 : decode cX6_boldness 46 = .ok (.invokevirtual 136, 3) := dk_182 0 136 (dk_at dksX6_boldness_2 0 rfl rfl)
theorem dX6_boldness_49 : decode cX6_boldness 49 = .ok (.invokestatic 128, 3) := dk_184 0 128 (dk_at dksX6_boldness_2 3 rfl rfl)
theorem dX6_boldness_52 : decode cX6_boldness 52 = .ok (.iastore, 1) := dk_79 (dk_at dksX6_boldness_2 6 rfl rfl)
theorem dX6_boldness_53 : decode cX6_boldness 53 = .ok (.aload_n 0, 1) := dk_42 (dk_at dksX6_boldness_2 7 rfl rfl)
theorem dX6_boldness_54 : decode cX6_boldness 54 = .ok (.iload_n 3, 1) := dk_29 (dk_at dksX6_boldness_2 8 rfl rfl)
theorem dX6_boldness_55 : decode cX6_boldness 55 = .ok (.invokevirtual 139, 3) := dk_182 0 139 (dk_at dksX6_boldness_2 9 rfl rfl)
theorem dX6_boldness_58 : decode cX6_boldness 58 = .ok (.bipush 100, 2) := dk_16 100 (dk_at dksX6_boldness_2 12 rfl rfl)
theorem dX6_boldness_60 : decode cX6_boldness 60 = .ok (.invokestatic 143, 3) := dk_184 0 143 (dk_at dksX6_boldness_2 14 rfl rfl)
theorem dX6_boldness_63 : decode cX6_boldness 63 = .ok (.ireturn, 1) := dk_172 (dk_at dksX6_boldness_2 17 rfl rfl)
abbrev cX6_fewest : ByteArray := prog_19_method_49_code
def yX6_fewest : MethodName := ⟨RX6, "fewest", "(II)I"⟩
def dkwX6_fewest_9 : List UInt8 := [172]
abbrev dktX6_fewest_9 : List UInt8 := dkwX6_fewest_9 ++ []
def dkwX6_fewest_8 : List UInt8 := [167, 255, 150, 21, 4, 156, 0, 8, 18, 64, 167, 0, 14, 28, 154, 0, 8, 21, 5, 167, 0, 5, 21, 4]
abbrev dktX6_fewest_8 : List UInt8 := dkwX6_fewest_8 ++ dktX6_fewest_9
def dkwX6_fewest_7 : List UInt8 := [21, 4, 54, 4, 21, 8, 29, 160, 0, 8, 21, 7, 167, 0, 5, 21, 5, 54, 5, 132, 6, 1]
abbrev dktX6_fewest_7 : List UInt8 := dkwX6_fewest_7 ++ dktX6_fewest_8
def dkwX6_fewest_6 : List UInt8 := [167, 0, 4, 3, 128, 54, 8, 132, 9, 1, 167, 255, 215, 21, 8, 29, 160, 0, 8, 21, 6, 167, 0, 5]
abbrev dktX6_fewest_6 : List UInt8 := dkwX6_fewest_6 ++ dktX6_fewest_7
def dkwX6_fewest_5 : List UInt8 := [162, 0, 36, 21, 8, 21, 6, 21, 9, 122, 4, 126, 4, 160, 0, 13, 42, 180, 0, 43, 21, 9, 46]
abbrev dktX6_fewest_5 : List UInt8 := dkwX6_fewest_5 ++ dktX6_fewest_6
def dkwX6_fewest_4 : List UInt8 := [54, 7, 21, 7, 21, 5, 162, 0, 83, 3, 54, 8, 3, 54, 9, 21, 9, 42, 180, 0, 7, 3, 46]
abbrev dktX6_fewest_4 : List UInt8 := dkwX6_fewest_4 ++ dktX6_fewest_5
def dkwX6_fewest_3 : List UInt8 := [54, 4, 16, 13, 54, 5, 3, 54, 6, 21, 6, 42, 182, 0, 69, 163, 0, 103, 21, 6, 184, 0, 128]
abbrev dktX6_fewest_3 : List UInt8 := dkwX6_fewest_3 ++ dktX6_fewest_4
def dkwX6_fewest_2 : List UInt8 := [162, 0, 22, 42, 180, 0, 43, 21, 4, 42, 21, 4, 182, 0, 154, 79, 132, 4, 1, 167, 255, 229, 2]
abbrev dktX6_fewest_2 : List UInt8 := dkwX6_fewest_2 ++ dktX6_fewest_3
def dkwX6_fewest_1 : List UInt8 := [182, 0, 69, 42, 27, 3, 182, 0, 73, 2, 130, 126, 62, 3, 54, 4, 21, 4, 42, 180, 0, 7, 3, 46]
abbrev dktX6_fewest_1 : List UInt8 := dkwX6_fewest_1 ++ dktX6_fewest_2
def dkwX6_fewest_0 : List UInt8 := [42, 27, 182, 0, 146, 153, 0, 13, 28, 133, 9, 10, 184, 0, 65, 154, 0, 6, 18, 82, 172, 42]
abbrev dktX6_fewest_0 : List UInt8 := dkwX6_fewest_0 ++ dktX6_fewest_1
theorem dksX6_fewest_0 : cX6_fewest.data.toList.drop 0 = dktX6_fewest_0 := by decide +kernel
theorem dksX6_fewest_1 : cX6_fewest.data.toList.drop 22 = dktX6_fewest_1 := dk_seg dksX6_fewest_0 22 rfl rfl
theorem dksX6_fewest_2 : cX6_fewest.data.toList.drop 46 = dktX6_fewest_2 := dk_seg dksX6_fewest_1 24 rfl rfl
theorem dksX6_fewest_3 : cX6_fewest.data.toList.drop 69 = dktX6_fewest_3 := dk_seg dksX6_fewest_2 23 rfl rfl
theorem dksX6_fewest_4 : cX6_fewest.data.toList.drop 92 = dktX6_fewest_4 := dk_seg dksX6_fewest_3 23 rfl rfl
theorem dksX6_fewest_5 : cX6_fewest.data.toList.drop 115 = dktX6_fewest_5 := dk_seg dksX6_fewest_4 23 rfl rfl
theorem dksX6_fewest_6 : cX6_fewest.data.toList.drop 138 = dktX6_fewest_6 := dk_seg dksX6_fewest_5 23 rfl rfl
theorem dksX6_fewest_7 : cX6_fewest.data.toList.drop 162 = dktX6_fewest_7 := dk_seg dksX6_fewest_6 24 rfl rfl
theorem dksX6_fewest_8 : cX6_fewest.data.toList.drop 184 = dktX6_fewest_8 := dk_seg dksX6_fewest_7 22 rfl rfl
theorem dksX6_fewest_9 : cX6_fewest.data.toList.drop 208 = dktX6_fewest_9 := dk_seg dksX6_fewest_8 24 rfl rfl
theorem dX6_fewest_0 : decode cX6_fewest 0 = .ok (.aload_n 0, 1) := dk_42 (dk_at dksX6_fewest_0 0 rfl rfl)
theorem dX6_fewest_1 : decode cX6_fewest 1 = .ok (.iload_n 1, 1) := dk_27 (dk_at dksX6_fewest_0 1 rfl rfl)
theorem dX6_fewest_2 : decode cX6_fewest 2 = .ok (.invokevirtual 146, 3) := dk_182 0 146 (dk_at dksX6_fewest_0 2 rfl rfl)
theorem dX6_fewest_5 : decode cX6_fewest 5 = .ok (.ifCond .eq 13, 3) := dk_153 0 13 (dk_at dksX6_fewest_0 5 rfl rfl)
theorem dX6_fewest_8 : decode cX6_fewest 8 = .ok (.iload_n 2, 1) := dk_28 (dk_at dksX6_fewest_0 8 rfl rfl)
theorem dX6_fewest_9 : decode cX6_fewest 9 = .ok (.i2l, 1) := dk_133 (dk_at dksX6_fewest_0 9 rfl rfl)
theorem dX6_fewest_10 : decode cX6_fewest 10 = .ok (.lconst 0, 1) := dk_9 (dk_at dksX6_fewest_0 10 rfl rfl)
theorem dX6_fewest_11 : decode cX6_fewest 11 = .ok (.lconst 1, 1) := dk_10 (dk_at dksX6_fewest_0 11 rfl rfl)
theorem dX6_fewest_12 : decode cX6_fewest 12 = .ok (.invokestatic 65, 3) := dk_184 0 65 (dk_at dksX6_fewest_0 12 rfl rfl)
theorem dX6_fewest_15 : decode cX6_fewest 15 = .ok (.ifCond .ne 6, 3) := dk_154 0 6 (dk_at dksX6_fewest_0 15 rfl rfl)
theorem dX6_fewest_18 : decode cX6_fewest 18 = .ok (.ldc 82, 2) := dk_18 82 (dk_at dksX6_fewest_0 18 rfl rfl)
theorem dX6_fewest_20 : decode cX6_fewest 20 = .ok (.ireturn, 1) := dk_172 (dk_at dksX6_fewest_0 20 rfl rfl)
theorem dX6_fewest_21 : decode cX6_fewest 21 = .ok (.aload_n 0, 1) := dk_42 (dk_at dksX6_fewest_0 21 rfl rfl)
theorem dX6_fewest_22 : decode cX6_fewest 22 = .ok (.invokevirtual 69, 3) := dk_182 0 69 (dk_at dksX6_fewest_1 0 rfl rfl)
theorem dX6_fewest_25 : decode cX6_fewest 25 = .ok (.aload_n 0, 1) := dk_42 (dk_at dksX6_fewest_1 3 rfl rfl)
theorem dX6_fewest_26 : decode cX6_fewest 26 = .ok (.iload_n 1, 1) := dk_27 (dk_at dksX6_fewest_1 4 rfl rfl)
theorem dX6_fewest_27 : decode cX6_fewest 27 = .ok (.iconst 0, 1) := dk_3 (dk_at dksX6_fewest_1 5 rfl rfl)
theorem dX6_fewest_28 : decode cX6_fewest 28 = .ok (.invokevirtual 73, 3) := dk_182 0 73 (dk_at dksX6_fewest_1 6 rfl rfl)
theorem dX6_fewest_31 : decode cX6_fewest 31 = .ok (.iconst (-1), 1) := dk_2 (dk_at dksX6_fewest_1 9 rfl rfl)
theorem dX6_fewest_32 : decode cX6_fewest 32 = .ok (.ixor, 1) := dk_130 (dk_at dksX6_fewest_1 10 rfl rfl)
theorem dX6_fewest_33 : decode cX6_fewest 33 = .ok (.iand, 1) := dk_126 (dk_at dksX6_fewest_1 11 rfl rfl)
theorem dX6_fewest_34 : decode cX6_fewest 34 = .ok (.istore_n 3, 1) := dk_62 (dk_at dksX6_fewest_1 12 rfl rfl)
theorem dX6_fewest_35 : decode cX6_fewest 35 = .ok (.iconst 0, 1) := dk_3 (dk_at dksX6_fewest_1 13 rfl rfl)
theorem dX6_fewest_36 : decode cX6_fewest 36 = .ok (.istore 4, 2) := dk_54 4 (dk_at dksX6_fewest_1 14 rfl rfl)
theorem dX6_fewest_38 : decode cX6_fewest 38 = .ok (.iload 4, 2) := dk_21 4 (dk_at dksX6_fewest_1 16 rfl rfl)
theorem dX6_fewest_40 : decode cX6_fewest 40 = .ok (.aload_n 0, 1) := dk_42 (dk_at dksX6_fewest_1 18 rfl rfl)
theorem dX6_fewest_41 : decode cX6_fewest 41 = .ok (.getfield 7, 3) := dk_180 0 7 (dk_at dksX6_fewest_1 19 rfl rfl)
theorem dX6_fewest_44 : decode cX6_fewest 44 = .ok (.iconst 0, 1) := dk_3 (dk_at dksX6_fewest_1 22 rfl rfl)
theorem dX6_fewest_45 : decode cX6_fewest 45 = .ok (.iaload, 1) := dk_46 (dk_at dksX6_fewest_1 23 rfl rfl)
theorem dX6_fewest_46 : decode cX6_fewest 46 = .ok (.if_icmp .ge 22, 3) := dk_162 0 22 (dk_at dksX6_fewest_2 0 rfl rfl)
theorem dX6_fewest_49 : decode cX6_fewest 49 = .ok (.aload_n 0, 1) := dk_42 (dk_at dksX6_fewest_2 3 rfl rfl)
theorem dX6_fewest_50 : decode cX6_fewest 50 = .ok (.getfield 43, 3) := dk_180 0 43 (dk_at dksX6_fewest_2 4 rfl rfl)
theorem dX6_fewest_53 : decode cX6_fewest 53 = .ok (.iload 4, 2) := dk_21 4 (dk_at dksX6_fewest_2 7 rfl rfl)
theorem dX6_fewest_55 : decode cX6_fewest 55 = .ok (.aload_n 0, 1) := dk_42 (dk_at dksX6_fewest_2 9 rfl rfl)
theorem dX6_fewest_56 : decode cX6_fewest 56 = .ok (.iload 4, 2) := dk_21 4 (dk_at dksX6_fewest_2 10 rfl rfl)
theorem dX6_fewest_58 : decode cX6_fewest 58 = .ok (.invokevirtual 154, 3) := dk_182 0 154 (dk_at dksX6_fewest_2 12 rfl rfl)
theorem dX6_fewest_61 : decode cX6_fewest 61 = .ok (.iastore, 1) := dk_79 (dk_at dksX6_fewest_2 15 rfl rfl)
theorem dX6_fewest_62 : decode cX6_fewest 62 = .ok (.iinc 4 1, 3) := dk_132 4 1 (dk_at dksX6_fewest_2 16 rfl rfl)
theorem dX6_fewest_65 : decode cX6_fewest 65 = .ok (.goto (-27), 3) := dk_167 255 229 (dk_at dksX6_fewest_2 19 rfl rfl)
theorem dX6_fewest_68 : decode cX6_fewest 68 = .ok (.iconst (-1), 1) := dk_2 (dk_at dksX6_fewest_2 22 rfl rfl)
theorem dX6_fewest_69 : decode cX6_fewest 69 = .ok (.istore 4, 2) := dk_54 4 (dk_at dksX6_fewest_3 0 rfl rfl)
theorem dX6_fewest_71 : decode cX6_fewest 71 = .ok (.bipush 13, 2) := dk_16 13 (dk_at dksX6_fewest_3 2 rfl rfl)
theorem dX6_fewest_73 : decode cX6_fewest 73 = .ok (.istore 5, 2) := dk_54 5 (dk_at dksX6_fewest_3 4 rfl rfl)
theorem dX6_fewest_75 : decode cX6_fewest 75 = .ok (.iconst 0, 1) := dk_3 (dk_at dksX6_fewest_3 6 rfl rfl)
theorem dX6_fewest_76 : decode cX6_fewest 76 = .ok (.istore 6, 2) := dk_54 6 (dk_at dksX6_fewest_3 7 rfl rfl)
theorem dX6_fewest_78 : decode cX6_fewest 78 = .ok (.iload 6, 2) := dk_21 6 (dk_at dksX6_fewest_3 9 rfl rfl)
theorem dX6_fewest_80 : decode cX6_fewest 80 = .ok (.aload_n 0, 1) := dk_42 (dk_at dksX6_fewest_3 11 rfl rfl)
theorem dX6_fewest_81 : decode cX6_fewest 81 = .ok (.invokevirtual 69, 3) := dk_182 0 69 (dk_at dksX6_fewest_3 12 rfl rfl)
theorem dX6_fewest_84 : decode cX6_fewest 84 = .ok (.if_icmp .gt 103, 3) := dk_163 0 103 (dk_at dksX6_fewest_3 15 rfl rfl)
theorem dX6_fewest_87 : decode cX6_fewest 87 = .ok (.iload 6, 2) := dk_21 6 (dk_at dksX6_fewest_3 18 rfl rfl)
theorem dX6_fewest_89 : decode cX6_fewest 89 = .ok (.invokestatic 128, 3) := dk_184 0 128 (dk_at dksX6_fewest_3 20 rfl rfl)
theorem dX6_fewest_92 : decode cX6_fewest 92 = .ok (.istore 7, 2) := dk_54 7 (dk_at dksX6_fewest_4 0 rfl rfl)
theorem dX6_fewest_94 : decode cX6_fewest 94 = .ok (.iload 7, 2) := dk_21 7 (dk_at dksX6_fewest_4 2 rfl rfl)
theorem dX6_fewest_96 : decode cX6_fewest 96 = .ok (.iload 5, 2) := dk_21 5 (dk_at dksX6_fewest_4 4 rfl rfl)
theorem dX6_fewest_98 : decode cX6_fewest 98 = .ok (.if_icmp .ge 83, 3) := dk_162 0 83 (dk_at dksX6_fewest_4 6 rfl rfl)
theorem dX6_fewest_101 : decode cX6_fewest 101 = .ok (.iconst 0, 1) := dk_3 (dk_at dksX6_fewest_4 9 rfl rfl)
theorem dX6_fewest_102 : decode cX6_fewest 102 = .ok (.istore 8, 2) := dk_54 8 (dk_at dksX6_fewest_4 10 rfl rfl)
theorem dX6_fewest_104 : decode cX6_fewest 104 = .ok (.iconst 0, 1) := dk_3 (dk_at dksX6_fewest_4 12 rfl rfl)
theorem dX6_fewest_105 : decode cX6_fewest 105 = .ok (.istore 9, 2) := dk_54 9 (dk_at dksX6_fewest_4 13 rfl rfl)
theorem dX6_fewest_107 : decode cX6_fewest 107 = .ok (.iload 9, 2) := dk_21 9 (dk_at dksX6_fewest_4 15 rfl rfl)
theorem dX6_fewest_109 : decode cX6_fewest 109 = .ok (.aload_n 0, 1) := dk_42 (dk_at dksX6_fewest_4 17 rfl rfl)
theorem dX6_fewest_110 : decode cX6_fewest 110 = .ok (.getfield 7, 3) := dk_180 0 7 (dk_at dksX6_fewest_4 18 rfl rfl)
theorem dX6_fewest_113 : decode cX6_fewest 113 = .ok (.iconst 0, 1) := dk_3 (dk_at dksX6_fewest_4 21 rfl rfl)
theorem dX6_fewest_114 : decode cX6_fewest 114 = .ok (.iaload, 1) := dk_46 (dk_at dksX6_fewest_4 22 rfl rfl)
theorem dX6_fewest_115 : decode cX6_fewest 115 = .ok (.if_icmp .ge 36, 3) := dk_162 0 36 (dk_at dksX6_fewest_5 0 rfl rfl)
theorem dX6_fewest_118 : decode cX6_fewest 118 = .ok (.iload 8, 2) := dk_21 8 (dk_at dksX6_fewest_5 3 rfl rfl)
theorem dX6_fewest_120 : decode cX6_fewest 120 = .ok (.iload 6, 2) := dk_21 6 (dk_at dksX6_fewest_5 5 rfl rfl)
theorem dX6_fewest_122 : decode cX6_fewest 122 = .ok (.iload 9, 2) := dk_21 9 (dk_at dksX6_fewest_5 7 rfl rfl)
theorem dX6_fewest_124 : decode cX6_fewest 124 = .ok (.ishr, 1) := dk_122 (dk_at dksX6_fewest_5 9 rfl rfl)
theorem dX6_fewest_125 : decode cX6_fewest 125 = .ok (.iconst 1, 1) := dk_4 (dk_at dksX6_fewest_5 10 rfl rfl)
theorem dX6_fewest_126 : decode cX6_fewest 126 = .ok (.iand, 1) := dk_126 (dk_at dksX6_fewest_5 11 rfl rfl)
theorem dX6_fewest_127 : decode cX6_fewest 127 = .ok (.iconst 1, 1) := dk_4 (dk_at dksX6_fewest_5 12 rfl rfl)
theorem dX6_fewest_128 : decode cX6_fewest 128 = .ok (.if_icmp .ne 13, 3) := dk_160 0 13 (dk_at dksX6_fewest_5 13 rfl rfl)
theorem dX6_fewest_131 : decode cX6_fewest 131 = .ok (.aload_n 0, 1) := dk_42 (dk_at dksX6_fewest_5 16 rfl rfl)
theorem dX6_fewest_132 : decode cX6_fewest 132 = .ok (.getfield 43, 3) := dk_180 0 43 (dk_at dksX6_fewest_5 17 rfl rfl)
theorem dX6_fewest_135 : decode cX6_fewest 135 = .ok (.iload 9, 2) := dk_21 9 (dk_at dksX6_fewest_5 20 rfl rfl)
theorem dX6_fewest_137 : decode cX6_fewest 137 = .ok (.iaload, 1) := dk_46 (dk_at dksX6_fewest_5 22 rfl rfl)
theorem dX6_fewest_138 : decode cX6_fewest 138 = .ok (.goto 4, 3) := dk_167 0 4 (dk_at dksX6_fewest_6 0 rfl rfl)
theorem dX6_fewest_141 : decode cX6_fewest 141 = .ok (.iconst 0, 1) := dk_3 (dk_at dksX6_fewest_6 3 rfl rfl)
theorem dX6_fewest_142 : decode cX6_fewest 142 = .ok (.ior, 1) := dk_128 (dk_at dksX6_fewest_6 4 rfl rfl)
theorem dX6_fewest_143 : decode cX6_fewest 143 = .ok (.istore 8, 2) := dk_54 8 (dk_at dksX6_fewest_6 5 rfl rfl)
theorem dX6_fewest_145 : decode cX6_fewest 145 = .ok (.iinc 9 1, 3) := dk_132 9 1 (dk_at dksX6_fewest_6 7 rfl rfl)
theorem dX6_fewest_148 : decode cX6_fewest 148 = .ok (.goto (-41), 3) := dk_167 255 215 (dk_at dksX6_fewest_6 10 rfl rfl)
theorem dX6_fewest_151 : decode cX6_fewest 151 = .ok (.iload 8, 2) := dk_21 8 (dk_at dksX6_fewest_6 13 rfl rfl)
theorem dX6_fewest_153 : decode cX6_fewest 153 = .ok (.iload_n 3, 1) := dk_29 (dk_at dksX6_fewest_6 15 rfl rfl)
theorem dX6_fewest_154 : decode cX6_fewest 154 = .ok (.if_icmp .ne 8, 3) := dk_160 0 8 (dk_at dksX6_fewest_6 16 rfl rfl)
theorem dX6_fewest_157 : decode cX6_fewest 157 = .ok (.iload 6, 2) := dk_21 6 (dk_at dksX6_fewest_6 19 rfl rfl)
theorem dX6_fewest_159 : decode cX6_fewest 159 = .ok (.goto 5, 3) := dk_167 0 5 (dk_at dksX6_fewest_6 21 rfl rfl)
theorem dX6_fewest_162 : decode cX6_fewest 162 = .ok (.iload 4, 2) := dk_21 4 (dk_at dksX6_fewest_7 0 rfl rfl)
theorem dX6_fewest_164 : decode cX6_fewest 164 = .ok (.istore 4, 2) := dk_54 4 (dk_at dksX6_fewest_7 2 rfl rfl)
theorem dX6_fewest_166 : decode cX6_fewest 166 = .ok (.iload 8, 2) := dk_21 8 (dk_at dksX6_fewest_7 4 rfl rfl)
theorem dX6_fewest_168 : decode cX6_fewest 168 = .ok (.iload_n 3, 1) := dk_29 (dk_at dksX6_fewest_7 6 rfl rfl)
theorem dX6_fewest_169 : decode cX6_fewest 169 = .ok (.if_icmp .ne 8, 3) := dk_160 0 8 (dk_at dksX6_fewest_7 7 rfl rfl)
theorem dX6_fewest_172 : decode cX6_fewest 172 = .ok (.iload 7, 2) := dk_21 7 (dk_at dksX6_fewest_7 10 rfl rfl)
theorem dX6_fewest_174 : decode cX6_fewest 174 = .ok (.goto 5, 3) := dk_167 0 5 (dk_at dksX6_fewest_7 12 rfl rfl)
theorem dX6_fewest_177 : decode cX6_fewest 177 = .ok (.iload 5, 2) := dk_21 5 (dk_at dksX6_fewest_7 15 rfl rfl)
theorem dX6_fewest_179 : decode cX6_fewest 179 = .ok (.istore 5, 2) := dk_54 5 (dk_at dksX6_fewest_7 17 rfl rfl)
theorem dX6_fewest_181 : decode cX6_fewest 181 = .ok (.iinc 6 1, 3) := dk_132 6 1 (dk_at dksX6_fewest_7 19 rfl rfl)
theorem dX6_fewest_184 : decode cX6_fewest 184 = .ok (.goto (-106), 3) := dk_167 255 150 (dk_at dksX6_fewest_8 0 rfl rfl)
theorem dX6_fewest_187 : decode cX6_fewest 187 = .ok (.iload 4, 2) := dk_21 4 (dk_at dksX6_fewest_8 3 rfl rfl)
theorem dX6_fewest_189 : decode cX6_fewest 189 = .ok (.ifCond .ge 8, 3) := dk_156 0 8 (dk_at dksX6_fewest_8 5 rfl rfl)
theorem dX6_fewest_192 : decode cX6_fewest 192 = .ok (.ldc 64, 2) := dk_18 64 (dk_at dksX6_fewest_8 8 rfl rfl)
theorem dX6_fewest_194 : decode cX6_fewest 194 = .ok (.goto 14, 3) := dk_167 0 14 (dk_at dksX6_fewest_8 10 rfl rfl)
theorem dX6_fewest_197 : decode cX6_fewest 197 = .ok (.iload_n 2, 1) := dk_28 (dk_at dksX6_fewest_8 13 rfl rfl)
theorem dX6_fewest_198 : decode cX6_fewest 198 = .ok (.ifCond .ne 8, 3) := dk_154 0 8 (dk_at dksX6_fewest_8 14 rfl rfl)
theorem dX6_fewest_201 : decode cX6_fewest 201 = .ok (.iload 5, 2) := dk_21 5 (dk_at dksX6_fewest_8 17 rfl rfl)
theorem dX6_fewest_203 : decode cX6_fewest 203 = .ok (.goto 5, 3) := dk_167 0 5 (dk_at dksX6_fewest_8 19 rfl rfl)
theorem dX6_fewest_206 : decode cX6_fewest 206 = .ok (.iload 4, 2) := dk_21 4 (dk_at dksX6_fewest_8 22 rfl rfl)
theorem dX6_fewest_208 : decode cX6_fewest 208 = .ok (.ireturn, 1) := dk_172 (dk_at dksX6_fewest_9 0 rfl rfl)
abbrev cX6_silent : ByteArray := prog_19_method_50_code
def yX6_silent : MethodName := ⟨RX6, "silent", "()I"⟩
def dkwX6_silent_1 : List UInt8 := [60, 132, 2, 1, 167, 255, 235, 27, 172]
abbrev dktX6_silent_1 : List UInt8 := dkwX6_silent_1 ++ []
def dkwX6_silent_0 : List UInt8 := [42, 182, 0, 69, 60, 3, 61, 28, 42, 180, 0, 7, 4, 46, 162, 0, 17, 27, 42, 28, 182, 0, 136, 126]
abbrev dktX6_silent_0 : List UInt8 := dkwX6_silent_0 ++ dktX6_silent_1
theorem dksX6_silent_0 : cX6_silent.data.toList.drop 0 = dktX6_silent_0 := by decide +kernel
theorem dksX6_silent_1 : cX6_silent.data.toList.drop 24 = dktX6_silent_1 := dk_seg dksX6_silent_0 24 rfl rfl
theorem dX6_silent_0 : decode cX6_silent 0 = .ok (.aload_n 0, 1) := dk_42 (dk_at dksX6_silent_0 0 rfl rfl)
theorem dX6_silent_1 : decode cX6_silent 1 = .ok (.invokevirtual 69, 3) := dk_182 0 69 (dk_at dksX6_silent_0 1 rfl rfl)
theorem dX6_silent_4 : decode cX6_silent 4 = .ok (.istore_n 1, 1) := dk_60 (dk_at dksX6_silent_0 4 rfl rfl)
theorem dX6_silent_5 : decode cX6_silent 5 = .ok (.iconst 0, 1) := dk_3 (dk_at dksX6_silent_0 5 rfl rfl)
theorem dX6_silent_6 : decode cX6_silent 6 = .ok (.istore_n 2, 1) := dk_61 (dk_at dksX6_silent_0 6 rfl rfl)
theorem dX6_silent_7 : decode cX6_silent 7 = .ok (.iload_n 2, 1) := dk_28 (dk_at dksX6_silent_0 7 rfl rfl)
theorem dX6_silent_8 : decode cX6_silent 8 = .ok (.aload_n 0, 1) := dk_42 (dk_at dksX6_silent_0 8 rfl rfl)
theorem dX6_silent_9 : decode cX6_silent 9 = .ok (.getfield 7, 3) := dk_180 0 7 (dk_at dksX6_silent_0 9 rfl rfl)
theorem dX6_silent_12 : decode cX6_silent 12 = .ok (.iconst 1, 1) := dk_4 (dk_at dksX6_silent_0 12 rfl rfl)
theorem dX6_silent_13 : decode cX6_silent 13 = .ok (.iaload, 1) := dk_46 (dk_at dksX6_silent_0 13 rfl rfl)
theorem dX6_silent_14 : decode cX6_silent 14 = .ok (.if_icmp .ge 17, 3) := dk_162 0 17 (dk_at dksX6_silent_0 14 rfl rfl)
theorem dX6_silent_17 : decode cX6_silent 17 = .ok (.iload_n 1, 1) := dk_27 (dk_at dksX6_silent_0 17 rfl rfl)
theorem dX6_silent_18 : decode cX6_silent 18 = .ok (.aload_n 0, 1) := dk_42 (dk_at dksX6_silent_0 18 rfl rfl)
theorem dX6_silent_19 : decode cX6_silent 19 = .ok (.iload_n 2, 1) := dk_28 (dk_at dksX6_silent_0 19 rfl rfl)
theorem dX6_silent_20 : decode cX6_silent 20 = .ok (.invokevirtual 136, 3) := dk_182 0 136 (dk_at dksX6_silent_0 20 rfl rfl)
theorem dX6_silent_23 : decode cX6_silent 23 = .ok (.iand, 1) := dk_126 (dk_at dksX6_silent_0 23 rfl rfl)
theorem dX6_silent_24 : decode cX6_silent 24 = .ok (.istore_n 1, 1) := dk_60 (dk_at dksX6_silent_1 0 rfl rfl)
theorem dX6_silent_25 : decode cX6_silent 25 = .ok (.iinc 2 1, 3) := dk_132 2 1 (dk_at dksX6_silent_1 1 rfl rfl)
theorem dX6_silent_28 : decode cX6_silent 28 = .ok (.goto (-21), 3) := dk_167 255 235 (dk_at dksX6_silent_1 4 rfl rfl)
theorem dX6_silent_31 : decode cX6_silent 31 = .ok (.iload_n 1, 1) := dk_27 (dk_at dksX6_silent_1 7 rfl rfl)
theorem dX6_silent_32 : decode cX6_silent 32 = .ok (.ireturn, 1) := dk_172 (dk_at dksX6_silent_1 8 rfl rfl)
abbrev cX6_meant : ByteArray := prog_19_method_51_code
def yX6_meant : MethodName := ⟨RX6, "meant", "(I)I"⟩
def dkwX6_meant_1 : List UInt8 := [156, 0, 7, 3, 167, 0, 14, 42, 27, 182, 0, 136, 4, 28, 120, 4, 100, 126, 172]
abbrev dktX6_meant_1 : List UInt8 := dkwX6_meant_1 ++ []
def dkwX6_meant_0 : List UInt8 := [42, 27, 182, 0, 146, 154, 0, 6, 18, 82, 172, 42, 27, 6, 182, 0, 73, 184, 0, 168, 61, 28]
abbrev dktX6_meant_0 : List UInt8 := dkwX6_meant_0 ++ dktX6_meant_1
theorem dksX6_meant_0 : cX6_meant.data.toList.drop 0 = dktX6_meant_0 := by decide +kernel
theorem dksX6_meant_1 : cX6_meant.data.toList.drop 22 = dktX6_meant_1 := dk_seg dksX6_meant_0 22 rfl rfl
theorem dX6_meant_0 : decode cX6_meant 0 = .ok (.aload_n 0, 1) := dk_42 (dk_at dksX6_meant_0 0 rfl rfl)
theorem dX6_meant_1 : decode cX6_meant 1 = .ok (.iload_n 1, 1) := dk_27 (dk_at dksX6_meant_0 1 rfl rfl)
theorem dX6_meant_2 : decode cX6_meant 2 = .ok (.invokevirtual 146, 3) := dk_182 0 146 (dk_at dksX6_meant_0 2 rfl rfl)
theorem dX6_meant_5 : decode cX6_meant 5 = .ok (.ifCond .ne 6, 3) := dk_154 0 6 (dk_at dksX6_meant_0 5 rfl rfl)
theorem dX6_meant_8 : decode cX6_meant 8 = .ok (.ldc 82, 2) := dk_18 82 (dk_at dksX6_meant_0 8 rfl rfl)
theorem dX6_meant_10 : decode cX6_meant 10 = .ok (.ireturn, 1) := dk_172 (dk_at dksX6_meant_0 10 rfl rfl)
theorem dX6_meant_11 : decode cX6_meant 11 = .ok (.aload_n 0, 1) := dk_42 (dk_at dksX6_meant_0 11 rfl rfl)
theorem dX6_meant_12 : decode cX6_meant 12 = .ok (.iload_n 1, 1) := dk_27 (dk_at dksX6_meant_0 12 rfl rfl)
theorem dX6_meant_13 : decode cX6_meant 13 = .ok (.iconst 3, 1) := dk_6 (dk_at dksX6_meant_0 13 rfl rfl)
theorem dX6_meant_14 : decode cX6_meant 14 = .ok (.invokevirtual 73, 3) := dk_182 0 73 (dk_at dksX6_meant_0 14 rfl rfl)
theorem dX6_meant_17 : decode cX6_meant 17 = .ok (.invokestatic 168, 3) := dk_184 0 168 (dk_at dksX6_meant_0 17 rfl rfl)
theorem dX6_meant_20 : decode cX6_meant 20 = .ok (.istore_n 2, 1) := dk_61 (dk_at dksX6_meant_0 20 rfl rfl)
theorem dX6_meant_21 : decode cX6_meant 21 = .ok (.iload_n 2, 1) := dk_28 (dk_at dksX6_meant_0 21 rfl rfl)
theorem dX6_meant_22 : decode cX6_meant 22 = .ok (.ifCond .ge 7, 3) := dk_156 0 7 (dk_at dksX6_meant_1 0 rfl rfl)
theorem dX6_meant_25 : decode cX6_meant 25 = .ok (.iconst 0, 1) := dk_3 (dk_at dksX6_meant_1 3 rfl rfl)
theorem dX6_meant_26 : decode cX6_meant 26 = .ok (.goto 14, 3) := dk_167 0 14 (dk_at dksX6_meant_1 4 rfl rfl)
theorem dX6_meant_29 : decode cX6_meant 29 = .ok (.aload_n 0, 1) := dk_42 (dk_at dksX6_meant_1 7 rfl rfl)
theorem dX6_meant_30 : decode cX6_meant 30 = .ok (.iload_n 1, 1) := dk_27 (dk_at dksX6_meant_1 8 rfl rfl)
theorem dX6_meant_31 : decode cX6_meant 31 = .ok (.invokevirtual 136, 3) := dk_182 0 136 (dk_at dksX6_meant_1 9 rfl rfl)
theorem dX6_meant_34 : decode cX6_meant 34 = .ok (.iconst 1, 1) := dk_4 (dk_at dksX6_meant_1 12 rfl rfl)
theorem dX6_meant_35 : decode cX6_meant 35 = .ok (.iload_n 2, 1) := dk_28 (dk_at dksX6_meant_1 13 rfl rfl)
theorem dX6_meant_36 : decode cX6_meant 36 = .ok (.ishl, 1) := dk_120 (dk_at dksX6_meant_1 14 rfl rfl)
theorem dX6_meant_37 : decode cX6_meant 37 = .ok (.iconst 1, 1) := dk_4 (dk_at dksX6_meant_1 15 rfl rfl)
theorem dX6_meant_38 : decode cX6_meant 38 = .ok (.isub, 1) := dk_100 (dk_at dksX6_meant_1 16 rfl rfl)
theorem dX6_meant_39 : decode cX6_meant 39 = .ok (.iand, 1) := dk_126 (dk_at dksX6_meant_1 17 rfl rfl)
theorem dX6_meant_40 : decode cX6_meant 40 = .ok (.ireturn, 1) := dk_172 (dk_at dksX6_meant_1 18 rfl rfl)
abbrev cX6_proved : ByteArray := prog_19_method_52_code
def yX6_proved : MethodName := ⟨RX6, "proved", "(I)I"⟩
def dkwX6_proved_2 : List UInt8 := [160, 0, 13, 42, 29, 182, 0, 154, 2, 130, 167, 0, 4, 2, 126, 61, 132, 3, 1, 167, 255, 210, 28, 172]
abbrev dktX6_proved_2 : List UInt8 := dkwX6_proved_2 ++ []
def dkwX6_proved_1 : List UInt8 := [3, 46, 162, 0, 42, 28, 42, 29, 5, 182, 0, 88, 42, 27, 4, 182, 0, 73, 122, 4, 126, 4]
abbrev dktX6_proved_1 : List UInt8 := dkwX6_proved_1 ++ dktX6_proved_2
def dkwX6_proved_0 : List UInt8 := [42, 27, 182, 0, 146, 154, 0, 6, 18, 82, 172, 42, 27, 182, 0, 136, 61, 3, 62, 29, 42, 180, 0, 7]
abbrev dktX6_proved_0 : List UInt8 := dkwX6_proved_0 ++ dktX6_proved_1
theorem dksX6_proved_0 : cX6_proved.data.toList.drop 0 = dktX6_proved_0 := by decide +kernel
theorem dksX6_proved_1 : cX6_proved.data.toList.drop 24 = dktX6_proved_1 := dk_seg dksX6_proved_0 24 rfl rfl
theorem dksX6_proved_2 : cX6_proved.data.toList.drop 46 = dktX6_proved_2 := dk_seg dksX6_proved_1 22 rfl rfl
theorem dX6_proved_0 : decode cX6_proved 0 = .ok (.aload_n 0, 1) := dk_42 (dk_at dksX6_proved_0 0 rfl rfl)
theorem dX6_proved_1 : decode cX6_proved 1 = .ok (.iload_n 1, 1) := dk_27 (dk_at dksX6_proved_0 1 rfl rfl)
theorem dX6_proved_2 : decode cX6_proved 2 = .ok (.invokevirtual 146, 3) := dk_182 0 146 (dk_at dksX6_proved_0 2 rfl rfl)
theorem dX6_proved_5 : decode cX6_proved 5 = .ok (.ifCond .ne 6, 3) := dk_154 0 6 (dk_at dksX6_proved_0 5 rfl rfl)
theorem dX6_proved_8 : decode cX6_proved 8 = .ok (.ldc 82, 2) := dk_18 82 (dk_at dksX6_proved_0 8 rfl rfl)
theorem dX6_proved_10 : decode cX6_proved 10 = .ok (.ireturn, 1) := dk_172 (dk_at dksX6_proved_0 10 rfl rfl)
theorem dX6_proved_11 : decode cX6_proved 11 = .ok (.aload_n 0, 1) := dk_42 (dk_at dksX6_proved_0 11 rfl rfl)
theorem dX6_proved_12 : decode cX6_proved 12 = .ok (.iload_n 1, 1) := dk_27 (dk_at dksX6_proved_0 12 rfl rfl)
theorem dX6_proved_13 : decode cX6_proved 13 = .ok (.invokevirtual 136, 3) := dk_182 0 136 (dk_at dksX6_proved_0 13 rfl rfl)
theorem dX6_proved_16 : decode cX6_proved 16 = .ok (.istore_n 2, 1) := dk_61 (dk_at dksX6_proved_0 16 rfl rfl)
theorem dX6_proved_17 : decode cX6_proved 17 = .ok (.iconst 0, 1) := dk_3 (dk_at dksX6_proved_0 17 rfl rfl)
theorem dX6_proved_18 : decode cX6_proved 18 = .ok (.istore_n 3, 1) := dk_62 (dk_at dksX6_proved_0 18 rfl rfl)
theorem dX6_proved_19 : decode cX6_proved 19 = .ok (.iload_n 3, 1) := dk_29 (dk_at dksX6_proved_0 19 rfl rfl)
theorem dX6_proved_20 : decode cX6_proved 20 = .ok (.aload_n 0, 1) := dk_42 (dk_at dksX6_proved_0 20 rfl rfl)
theorem dX6_proved_21 : decode cX6_proved 21 = .ok (.getfield 7, 3) := dk_180 0 7 (dk_at dksX6_proved_0 21 rfl rfl)
theorem dX6_proved_24 : decode cX6_proved 24 = .ok (.iconst 0, 1) := dk_3 (dk_at dksX6_proved_1 0 rfl rfl)
theorem dX6_proved_25 : decode cX6_proved 25 = .ok (.iaload, 1) := dk_46 (dk_at dksX6_proved_1 1 rfl rfl)
theorem dX6_proved_26 : decode cX6_proved 26 = .ok (.if_icmp .ge 42, 3) := dk_162 0 42 (dk_at dksX6_proved_1 2 rfl rfl)
theorem dX6_proved_29 : decode cX6_proved 29 = .ok (.iload_n 2, 1) := dk_28 (dk_at dksX6_proved_1 5 rfl rfl)
theorem dX6_proved_30 : decode cX6_proved 30 = .ok (.aload_n 0, 1) := dk_42 (dk_at dksX6_proved_1 6 rfl rfl)
theorem dX6_proved_31 : decode cX6_proved 31 = .ok (.iload_n 3, 1) := dk_29 (dk_at dksX6_proved_1 7 rfl rfl)
theorem dX6_proved_32 : decode cX6_proved 32 = .ok (.iconst 2, 1) := dk_5 (dk_at dksX6_proved_1 8 rfl rfl)
theorem dX6_proved_33 : decode cX6_proved 33 = .ok (.invokevirtual 88, 3) := dk_182 0 88 (dk_at dksX6_proved_1 9 rfl rfl)
theorem dX6_proved_36 : decode cX6_proved 36 = .ok (.aload_n 0, 1) := dk_42 (dk_at dksX6_proved_1 12 rfl rfl)
theorem dX6_proved_37 : decode cX6_proved 37 = .ok (.iload_n 1, 1) := dk_27 (dk_at dksX6_proved_1 13 rfl rfl)
theorem dX6_proved_38 : decode cX6_proved 38 = .ok (.iconst 1, 1) := dk_4 (dk_at dksX6_proved_1 14 rfl rfl)
theorem dX6_proved_39 : decode cX6_proved 39 = .ok (.invokevirtual 73, 3) := dk_182 0 73 (dk_at dksX6_proved_1 15 rfl rfl)
theorem dX6_proved_42 : decode cX6_proved 42 = .ok (.ishr, 1) := dk_122 (dk_at dksX6_proved_1 18 rfl rfl)
theorem dX6_proved_43 : decode cX6_proved 43 = .ok (.iconst 1, 1) := dk_4 (dk_at dksX6_proved_1 19 rfl rfl)
theorem dX6_proved_44 : decode cX6_proved 44 = .ok (.iand, 1) := dk_126 (dk_at dksX6_proved_1 20 rfl rfl)
theorem dX6_proved_45 : decode cX6_proved 45 = .ok (.iconst 1, 1) := dk_4 (dk_at dksX6_proved_1 21 rfl rfl)
theorem dX6_proved_46 : decode cX6_proved 46 = .ok (.if_icmp .ne 13, 3) := dk_160 0 13 (dk_at dksX6_proved_2 0 rfl rfl)
theorem dX6_proved_49 : decode cX6_proved 49 = .ok (.aload_n 0, 1) := dk_42 (dk_at dksX6_proved_2 3 rfl rfl)
theorem dX6_proved_50 : decode cX6_proved 50 = .ok (.iload_n 3, 1) := dk_29 (dk_at dksX6_proved_2 4 rfl rfl)
theorem dX6_proved_51 : decode cX6_proved 51 = .ok (.invokevirtual 154, 3) := dk_182 0 154 (dk_at dksX6_proved_2 5 rfl rfl)
theorem dX6_proved_54 : decode cX6_proved 54 = .ok (.iconst (-1), 1) := dk_2 (dk_at dksX6_proved_2 8 rfl rfl)
theorem dX6_proved_55 : decode cX6_proved 55 = .ok (.ixor, 1) := dk_130 (dk_at dksX6_proved_2 9 rfl rfl)
theorem dX6_proved_56 : decode cX6_proved 56 = .ok (.goto 4, 3) := dk_167 0 4 (dk_at dksX6_proved_2 10 rfl rfl)
theorem dX6_proved_59 : decode cX6_proved 59 = .ok (.iconst (-1), 1) := dk_2 (dk_at dksX6_proved_2 13 rfl rfl)
theorem dX6_proved_60 : decode cX6_proved 60 = .ok (.iand, 1) := dk_126 (dk_at dksX6_proved_2 14 rfl rfl)
theorem dX6_proved_61 : decode cX6_proved 61 = .ok (.istore_n 2, 1) := dk_61 (dk_at dksX6_proved_2 15 rfl rfl)
theorem dX6_proved_62 : decode cX6_proved 62 = .ok (.iinc 3 1, 3) := dk_132 3 1 (dk_at dksX6_proved_2 16 rfl rfl)
theorem dX6_proved_65 : decode cX6_proved 65 = .ok (.goto (-46), 3) := dk_167 255 210 (dk_at dksX6_proved_2 19 rfl rfl)
theorem dX6_proved_68 : decode cX6_proved 68 = .ok (.iload_n 2, 1) := dk_28 (dk_at dksX6_proved_2 22 rfl rfl)
theorem dX6_proved_69 : decode cX6_proved 69 = .ok (.ireturn, 1) := dk_172 (dk_at dksX6_proved_2 23 rfl rfl)
abbrev cX6_falls : ByteArray := prog_19_method_54_code
def yX6_falls : MethodName := ⟨RX6, "falls", "(II)J"⟩
def dkwX6_falls_3 : List UInt8 := [108, 133, 173]
abbrev dktX6_falls_3 : List UInt8 := dkwX6_falls_3 ++ []
def dkwX6_falls_2 : List UInt8 := [21, 5, 54, 4, 21, 6, 54, 5, 167, 255, 236, 28, 154, 0, 7, 29, 167, 0, 6, 17, 108, 72, 21, 4]
abbrev dktX6_falls_2 : List UInt8 := dkwX6_falls_2 ++ dktX6_falls_3
def dkwX6_falls_1 : List UInt8 := [182, 0, 187, 62, 29, 54, 4, 17, 108, 72, 54, 5, 21, 5, 158, 0, 21, 21, 4, 21, 5, 112, 54, 6]
abbrev dktX6_falls_1 : List UInt8 := dkwX6_falls_1 ++ dktX6_falls_2
def dkwX6_falls_0 : List UInt8 := [42, 27, 182, 0, 95, 153, 0, 13, 28, 133, 9, 10, 184, 0, 65, 154, 0, 7, 20, 0, 185, 173, 42, 27]
abbrev dktX6_falls_0 : List UInt8 := dkwX6_falls_0 ++ dktX6_falls_1
theorem dksX6_falls_0 : cX6_falls.data.toList.drop 0 = dktX6_falls_0 := by decide +kernel
theorem dksX6_falls_1 : cX6_falls.data.toList.drop 24 = dktX6_falls_1 := dk_seg dksX6_falls_0 24 rfl rfl
theorem dksX6_falls_2 : cX6_falls.data.toList.drop 48 = dktX6_falls_2 := dk_seg dksX6_falls_1 24 rfl rfl
theorem dksX6_falls_3 : cX6_falls.data.toList.drop 72 = dktX6_falls_3 := dk_seg dksX6_falls_2 24 rfl rfl
theorem dX6_falls_0 : decode cX6_falls 0 = .ok (.aload_n 0, 1) := dk_42 (dk_at dksX6_falls_0 0 rfl rfl)
theorem dX6_falls_1 : decode cX6_falls 1 = .ok (.iload_n 1, 1) := dk_27 (dk_at dksX6_falls_0 1 rfl rfl)
theorem dX6_falls_2 : decode cX6_falls 2 = .ok (.invokevirtual 95, 3) := dk_182 0 95 (dk_at dksX6_falls_0 2 rfl rfl)
theorem dX6_falls_5 : decode cX6_falls 5 = .ok (.ifCond .eq 13, 3) := dk_153 0 13 (dk_at dksX6_falls_0 5 rfl rfl)
theorem dX6_falls_8 : decode cX6_falls 8 = .ok (.iload_n 2, 1) := dk_28 (dk_at dksX6_falls_0 8 rfl rfl)
theorem dX6_falls_9 : decode cX6_falls 9 = .ok (.i2l, 1) := dk_133 (dk_at dksX6_falls_0 9 rfl rfl)
theorem dX6_falls_10 : decode cX6_falls 10 = .ok (.lconst 0, 1) := dk_9 (dk_at dksX6_falls_0 10 rfl rfl)
theorem dX6_falls_11 : decode cX6_falls 11 = .ok (.lconst 1, 1) := dk_10 (dk_at dksX6_falls_0 11 rfl rfl)
theorem dX6_falls_12 : decode cX6_falls 12 = .ok (.invokestatic 65, 3) := dk_184 0 65 (dk_at dksX6_falls_0 12 rfl rfl)
theorem dX6_falls_15 : decode cX6_falls 15 = .ok (.ifCond .ne 7, 3) := dk_154 0 7 (dk_at dksX6_falls_0 15 rfl rfl)
theorem dX6_falls_18 : decode cX6_falls 18 = .ok (.ldc2_w 185, 3) := dk_20 0 185 (dk_at dksX6_falls_0 18 rfl rfl)
theorem dX6_falls_21 : decode cX6_falls 21 = .ok (.lreturn, 1) := dk_173 (dk_at dksX6_falls_0 21 rfl rfl)
theorem dX6_falls_22 : decode cX6_falls 22 = .ok (.aload_n 0, 1) := dk_42 (dk_at dksX6_falls_0 22 rfl rfl)
theorem dX6_falls_23 : decode cX6_falls 23 = .ok (.iload_n 1, 1) := dk_27 (dk_at dksX6_falls_0 23 rfl rfl)
theorem dX6_falls_24 : decode cX6_falls 24 = .ok (.invokevirtual 187, 3) := dk_182 0 187 (dk_at dksX6_falls_1 0 rfl rfl)
theorem dX6_falls_27 : decode cX6_falls 27 = .ok (.istore_n 3, 1) := dk_62 (dk_at dksX6_falls_1 3 rfl rfl)
theorem dX6_falls_28 : decode cX6_falls 28 = .ok (.iload_n 3, 1) := dk_29 (dk_at dksX6_falls_1 4 rfl rfl)
theorem dX6_falls_29 : decode cX6_falls 29 = .ok (.istore 4, 2) := dk_54 4 (dk_at dksX6_falls_1 5 rfl rfl)
theorem dX6_falls_31 : decode cX6_falls 31 = .ok (.sipush 27720, 3) := dk_17 108 72 (dk_at dksX6_falls_1 7 rfl rfl)
theorem dX6_falls_34 : decode cX6_falls 34 = .ok (.istore 5, 2) := dk_54 5 (dk_at dksX6_falls_1 10 rfl rfl)
theorem dX6_falls_36 : decode cX6_falls 36 = .ok (.iload 5, 2) := dk_21 5 (dk_at dksX6_falls_1 12 rfl rfl)
theorem dX6_falls_38 : decode cX6_falls 38 = .ok (.ifCond .le 21, 3) := dk_158 0 21 (dk_at dksX6_falls_1 14 rfl rfl)
theorem dX6_falls_41 : decode cX6_falls 41 = .ok (.iload 4, 2) := dk_21 4 (dk_at dksX6_falls_1 17 rfl rfl)
theorem dX6_falls_43 : decode cX6_falls 43 = .ok (.iload 5, 2) := dk_21 5 (dk_at dksX6_falls_1 19 rfl rfl)
theorem dX6_falls_45 : decode cX6_falls 45 = .ok (.irem, 1) := dk_112 (dk_at dksX6_falls_1 21 rfl rfl)
theorem dX6_falls_46 : decode cX6_falls 46 = .ok (.istore 6, 2) := dk_54 6 (dk_at dksX6_falls_1 22 rfl rfl)
theorem dX6_falls_48 : decode cX6_falls 48 = .ok (.iload 5, 2) := dk_21 5 (dk_at dksX6_falls_2 0 rfl rfl)
theorem dX6_falls_50 : decode cX6_falls 50 = .ok (.istore 4, 2) := dk_54 4 (dk_at dksX6_falls_2 2 rfl rfl)
theorem dX6_falls_52 : decode cX6_falls 52 = .ok (.iload 6, 2) := dk_21 6 (dk_at dksX6_falls_2 4 rfl rfl)
theorem dX6_falls_54 : decode cX6_falls 54 = .ok (.istore 5, 2) := dk_54 5 (dk_at dksX6_falls_2 6 rfl rfl)
theorem dX6_falls_56 : decode cX6_falls 56 = .ok (.goto (-20), 3) := dk_167 255 236 (dk_at dksX6_falls_2 8 rfl rfl)
theorem dX6_falls_59 : decode cX6_falls 59 = .ok (.iload_n 2, 1) := dk_28 (dk_at dksX6_falls_2 11 rfl rfl)
theorem dX6_falls_60 : decode cX6_falls 60 = .ok (.ifCond .ne 7, 3) := dk_154 0 7 (dk_at dksX6_falls_2 12 rfl rfl)
theorem dX6_falls_63 : decode cX6_falls 63 = .ok (.iload_n 3, 1) := dk_29 (dk_at dksX6_falls_2 15 rfl rfl)
theorem dX6_falls_64 : decode cX6_falls 64 = .ok (.goto 6, 3) := dk_167 0 6 (dk_at dksX6_falls_2 16 rfl rfl)
theorem dX6_falls_67 : decode cX6_falls 67 = .ok (.sipush 27720, 3) := dk_17 108 72 (dk_at dksX6_falls_2 19 rfl rfl)
theorem dX6_falls_70 : decode cX6_falls 70 = .ok (.iload 4, 2) := dk_21 4 (dk_at dksX6_falls_2 22 rfl rfl)
theorem dX6_falls_72 : decode cX6_falls 72 = .ok (.idiv, 1) := dk_108 (dk_at dksX6_falls_3 0 rfl rfl)
theorem dX6_falls_73 : decode cX6_falls 73 = .ok (.i2l, 1) := dk_133 (dk_at dksX6_falls_3 1 rfl rfl)
theorem dX6_falls_74 : decode cX6_falls 74 = .ok (.lreturn, 1) := dk_173 (dk_at dksX6_falls_3 2 rfl rfl)
abbrev cX6_fallsOn : ByteArray := prog_19_method_53_code
def yX6_fallsOn : MethodName := ⟨RX6, "fallsOn", "(I)I"⟩
def dkwX6_fallsOn_2 : List UInt8 := [132, 3, 1, 167, 255, 211, 28, 172]
abbrev dktX6_fallsOn_2 : List UInt8 := dkwX6_fallsOn_2 ++ []
def dkwX6_fallsOn_1 : List UInt8 := [4, 160, 0, 18, 17, 108, 72, 42, 29, 182, 0, 136, 184, 0, 128, 108, 167, 0, 4, 3, 96, 61]
abbrev dktX6_fallsOn_1 : List UInt8 := dkwX6_fallsOn_1 ++ dktX6_fallsOn_2
def dkwX6_fallsOn_0 : List UInt8 := [3, 61, 3, 62, 29, 42, 180, 0, 7, 4, 46, 162, 0, 41, 28, 42, 29, 182, 0, 136, 27, 122, 4, 126]
abbrev dktX6_fallsOn_0 : List UInt8 := dkwX6_fallsOn_0 ++ dktX6_fallsOn_1
theorem dksX6_fallsOn_0 : cX6_fallsOn.data.toList.drop 0 = dktX6_fallsOn_0 := by decide +kernel
theorem dksX6_fallsOn_1 : cX6_fallsOn.data.toList.drop 24 = dktX6_fallsOn_1 := dk_seg dksX6_fallsOn_0 24 rfl rfl
theorem dksX6_fallsOn_2 : cX6_fallsOn.data.toList.drop 46 = dktX6_fallsOn_2 := dk_seg dksX6_fallsOn_1 22 rfl rfl
theorem dX6_fallsOn_0 : decode cX6_fallsOn 0 = .ok (.iconst 0, 1) := dk_3 (dk_at dksX6_fallsOn_0 0 rfl rfl)
theorem dX6_fallsOn_1 : decode cX6_fallsOn 1 = .ok (.istore_n 2, 1) := dk_61 (dk_at dksX6_fallsOn_0 1 rfl rfl)
theorem dX6_fallsOn_2 : decode cX6_fallsOn 2 = .ok (.iconst 0, 1) := dk_3 (dk_at dksX6_fallsOn_0 2 rfl rfl)
theorem dX6_fallsOn_3 : decode cX6_fallsOn 3 = .ok (.istore_n 3, 1) := dk_62 (dk_at dksX6_fallsOn_0 3 rfl rfl)
theorem dX6_fallsOn_4 : decode cX6_fallsOn 4 = .ok (.iload_n 3, 1) := dk_29 (dk_at dksX6_fallsOn_0 4 rfl rfl)
theorem dX6_fallsOn_5 : decode cX6_fallsOn 5 = .ok (.aload_n 0, 1) := dk_42 (dk_at dksX6_fallsOn_0 5 rfl rfl)
theorem dX6_fallsOn_6 : decode cX6_fallsOn 6 = .ok (.getfield 7, 3) := dk_180 0 7 (dk_at dksX6_fallsOn_0 6 rfl rfl)
theorem dX6_fallsOn_9 : decode cX6_fallsOn 9 = .ok (.iconst 1, 1) := dk_4 (dk_at dksX6_fallsOn_0 9 rfl rfl)
theorem dX6_fallsOn_10 : decode cX6_fallsOn 10 = .ok (.iaload, 1) := dk_46 (dk_at dksX6_fallsOn_0 10 rfl rfl)
theorem dX6_fallsOn_11 : decode cX6_fallsOn 11 = .ok (.if_icmp .ge 41, 3) := dk_162 0 41 (dk_at dksX6_fallsOn_0 11 rfl rfl)
theorem dX6_fallsOn_14 : decode cX6_fallsOn 14 = .ok (.iload_n 2, 1) := dk_28 (dk_at dksX6_fallsOn_0 14 rfl rfl)
theorem dX6_fallsOn_15 : decode cX6_fallsOn 15 = .ok (.aload_n 0, 1) := dk_42 (dk_at dksX6_fallsOn_0 15 rfl rfl)
theorem dX6_fallsOn_16 : decode cX6_fallsOn 16 = .ok (.iload_n 3, 1) := dk_29 (dk_at dksX6_fallsOn_0 16 rfl rfl)
theorem dX6_fallsOn_17 : decode cX6_fallsOn 17 = .ok (.invokevirtual 136, 3) := dk_182 0 136 (dk_at dksX6_fallsOn_0 17 rfl rfl)
theorem dX6_fallsOn_20 : decode cX6_fallsOn 20 = .ok (.iload_n 1, 1) := dk_27 (dk_at dksX6_fallsOn_0 20 rfl rfl)
theorem dX6_fallsOn_21 : decode cX6_fallsOn 21 = .ok (.ishr, 1) := dk_122 (dk_at dksX6_fallsOn_0 21 rfl rfl)
theorem dX6_fallsOn_22 : decode cX6_fallsOn 22 = .ok (.iconst 1, 1) := dk_4 (dk_at dksX6_fallsOn_0 22 rfl rfl)
theorem dX6_fallsOn_23 : decode cX6_fallsOn 23 = .ok (.iand, 1) := dk_126 (dk_at dksX6_fallsOn_0 23 rfl rfl)
theorem dX6_fallsOn_24 : decode cX6_fallsOn 24 = .ok (.iconst 1, 1) := dk_4 (dk_at dksX6_fallsOn_1 0 rfl rfl)
theorem dX6_fallsOn_25 : decode cX6_fallsOn 25 = .ok (.if_icmp .ne 18, 3) := dk_160 0 18 (dk_at dksX6_fallsOn_1 1 rfl rfl)
theorem dX6_fallsOn_28 : decode cX6_fallsOn 28 = .ok (.sipush 27720, 3) := dk_17 108 72 (dk_at dksX6_fallsOn_1 4 rfl rfl)
theorem dX6_fallsOn_31 : decode cX6_fallsOn 31 = .ok (.aload_n 0, 1) := dk_42 (dk_at dksX6_fallsOn_1 7 rfl rfl)
theorem dX6_fallsOn_32 : decode cX6_fallsOn 32 = .ok (.iload_n 3, 1) := dk_29 (dk_at dksX6_fallsOn_1 8 rfl rfl)
theorem dX6_fallsOn_33 : decode cX6_fallsOn 33 = .ok (.invokevirtual 136, 3) := dk_182 0 136 (dk_at dksX6_fallsOn_1 9 rfl rfl)
theorem dX6_fallsOn_36 : decode cX6_fallsOn 36 = .ok (.invokestatic 128, 3) := dk_184 0 128 (dk_at dksX6_fallsOn_1 12 rfl rfl)
theorem dX6_fallsOn_39 : decode cX6_fallsOn 39 = .ok (.idiv, 1) := dk_108 (dk_at dksX6_fallsOn_1 15 rfl rfl)
theorem dX6_fallsOn_40 : decode cX6_fallsOn 40 = .ok (.goto 4, 3) := dk_167 0 4 (dk_at dksX6_fallsOn_1 16 rfl rfl)
theorem dX6_fallsOn_43 : decode cX6_fallsOn 43 = .ok (.iconst 0, 1) := dk_3 (dk_at dksX6_fallsOn_1 19 rfl rfl)
theorem dX6_fallsOn_44 : decode cX6_fallsOn 44 = .ok (.iadd, 1) := dk_96 (dk_at dksX6_fallsOn_1 20 rfl rfl)
theorem dX6_fallsOn_45 : decode cX6_fallsOn 45 = .ok (.istore_n 2, 1) := dk_61 (dk_at dksX6_fallsOn_1 21 rfl rfl)
theorem dX6_fallsOn_46 : decode cX6_fallsOn 46 = .ok (.iinc 3 1, 3) := dk_132 3 1 (dk_at dksX6_fallsOn_2 0 rfl rfl)
theorem dX6_fallsOn_49 : decode cX6_fallsOn 49 = .ok (.goto (-45), 3) := dk_167 255 211 (dk_at dksX6_fallsOn_2 3 rfl rfl)
theorem dX6_fallsOn_52 : decode cX6_fallsOn 52 = .ok (.iload_n 2, 1) := dk_28 (dk_at dksX6_fallsOn_2 6 rfl rfl)
theorem dX6_fallsOn_53 : decode cX6_fallsOn 53 = .ok (.ireturn, 1) := dk_172 (dk_at dksX6_fallsOn_2 7 rfl rfl)
abbrev cX6_most : ByteArray := prog_19_method_55_code
def yX6_most : MethodName := ⟨RX6, "most", "()I"⟩
def dkwX6_most_1 : List UInt8 := [27, 182, 0, 187, 164, 0, 7, 28, 167, 0, 4, 27, 60, 132, 2, 1, 167, 255, 220, 27, 184, 0, 174, 172]
abbrev dktX6_most_1 : List UInt8 := dkwX6_most_1 ++ []
def dkwX6_most_0 : List UInt8 := [2, 60, 3, 61, 28, 42, 180, 0, 7, 3, 46, 162, 0, 32, 27, 155, 0, 16, 42, 28, 182, 0, 187, 42]
abbrev dktX6_most_0 : List UInt8 := dkwX6_most_0 ++ dktX6_most_1
theorem dksX6_most_0 : cX6_most.data.toList.drop 0 = dktX6_most_0 := by decide +kernel
theorem dksX6_most_1 : cX6_most.data.toList.drop 24 = dktX6_most_1 := dk_seg dksX6_most_0 24 rfl rfl
theorem dX6_most_0 : decode cX6_most 0 = .ok (.iconst (-1), 1) := dk_2 (dk_at dksX6_most_0 0 rfl rfl)
theorem dX6_most_1 : decode cX6_most 1 = .ok (.istore_n 1, 1) := dk_60 (dk_at dksX6_most_0 1 rfl rfl)
theorem dX6_most_2 : decode cX6_most 2 = .ok (.iconst 0, 1) := dk_3 (dk_at dksX6_most_0 2 rfl rfl)
theorem dX6_most_3 : decode cX6_most 3 = .ok (.istore_n 2, 1) := dk_61 (dk_at dksX6_most_0 3 rfl rfl)
theorem dX6_most_4 : decode cX6_most 4 = .ok (.iload_n 2, 1) := dk_28 (dk_at dksX6_most_0 4 rfl rfl)
theorem dX6_most_5 : decode cX6_most 5 = .ok (.aload_n 0, 1) := dk_42 (dk_at dksX6_most_0 5 rfl rfl)
theorem dX6_most_6 : decode cX6_most 6 = .ok (.getfield 7, 3) := dk_180 0 7 (dk_at dksX6_most_0 6 rfl rfl)
theorem dX6_most_9 : decode cX6_most 9 = .ok (.iconst 0, 1) := dk_3 (dk_at dksX6_most_0 9 rfl rfl)
theorem dX6_most_10 : decode cX6_most 10 = .ok (.iaload, 1) := dk_46 (dk_at dksX6_most_0 10 rfl rfl)
theorem dX6_most_11 : decode cX6_most 11 = .ok (.if_icmp .ge 32, 3) := dk_162 0 32 (dk_at dksX6_most_0 11 rfl rfl)
theorem dX6_most_14 : decode cX6_most 14 = .ok (.iload_n 1, 1) := dk_27 (dk_at dksX6_most_0 14 rfl rfl)
theorem dX6_most_15 : decode cX6_most 15 = .ok (.ifCond .lt 16, 3) := dk_155 0 16 (dk_at dksX6_most_0 15 rfl rfl)
theorem dX6_most_18 : decode cX6_most 18 = .ok (.aload_n 0, 1) := dk_42 (dk_at dksX6_most_0 18 rfl rfl)
theorem dX6_most_19 : decode cX6_most 19 = .ok (.iload_n 2, 1) := dk_28 (dk_at dksX6_most_0 19 rfl rfl)
theorem dX6_most_20 : decode cX6_most 20 = .ok (.invokevirtual 187, 3) := dk_182 0 187 (dk_at dksX6_most_0 20 rfl rfl)
theorem dX6_most_23 : decode cX6_most 23 = .ok (.aload_n 0, 1) := dk_42 (dk_at dksX6_most_0 23 rfl rfl)
theorem dX6_most_24 : decode cX6_most 24 = .ok (.iload_n 1, 1) := dk_27 (dk_at dksX6_most_1 0 rfl rfl)
theorem dX6_most_25 : decode cX6_most 25 = .ok (.invokevirtual 187, 3) := dk_182 0 187 (dk_at dksX6_most_1 1 rfl rfl)
theorem dX6_most_28 : decode cX6_most 28 = .ok (.if_icmp .le 7, 3) := dk_164 0 7 (dk_at dksX6_most_1 4 rfl rfl)
theorem dX6_most_31 : decode cX6_most 31 = .ok (.iload_n 2, 1) := dk_28 (dk_at dksX6_most_1 7 rfl rfl)
theorem dX6_most_32 : decode cX6_most 32 = .ok (.goto 4, 3) := dk_167 0 4 (dk_at dksX6_most_1 8 rfl rfl)
theorem dX6_most_35 : decode cX6_most 35 = .ok (.iload_n 1, 1) := dk_27 (dk_at dksX6_most_1 11 rfl rfl)
theorem dX6_most_36 : decode cX6_most 36 = .ok (.istore_n 1, 1) := dk_60 (dk_at dksX6_most_1 12 rfl rfl)
theorem dX6_most_37 : decode cX6_most 37 = .ok (.iinc 2 1, 3) := dk_132 2 1 (dk_at dksX6_most_1 13 rfl rfl)
theorem dX6_most_40 : decode cX6_most 40 = .ok (.goto (-36), 3) := dk_167 255 220 (dk_at dksX6_most_1 16 rfl rfl)
theorem dX6_most_43 : decode cX6_most 43 = .ok (.iload_n 1, 1) := dk_27 (dk_at dksX6_most_1 19 rfl rfl)
theorem dX6_most_44 : decode cX6_most 44 = .ok (.invokestatic 174, 3) := dk_184 0 174 (dk_at dksX6_most_1 20 rfl rfl)
theorem dX6_most_47 : decode cX6_most 47 = .ok (.ireturn, 1) := dk_172 (dk_at dksX6_most_1 23 rfl rfl)
abbrev cX6_feed : ByteArray := prog_19_method_56_code
def yX6_feed : MethodName := ⟨RX6, "feed", "(III)I"⟩
def dkwX6_feed_4 : List UInt8 := [180, 0, 190, 172]
abbrev dktX6_feed_4 : List UInt8 := dkwX6_feed_4 ++ []
def dkwX6_feed_3 : List UInt8 := [17, 0, 255, 126, 79, 42, 89, 180, 0, 190, 4, 96, 181, 0, 190, 132, 4, 1, 167, 255, 186, 42]
abbrev dktX6_feed_3 : List UInt8 := dkwX6_feed_3 ++ dktX6_feed_4
def dkwX6_feed_2 : List UInt8 := [29, 54, 5, 42, 180, 0, 46, 42, 180, 0, 190, 21, 5, 16, 24, 16, 8, 21, 4, 7, 112, 104, 100, 122]
abbrev dktX6_feed_2 : List UInt8 := dkwX6_feed_2 ++ dktX6_feed_3
def dkwX6_feed_1 : List UInt8 := [162, 0, 69, 21, 4, 7, 162, 0, 7, 27, 167, 0, 15, 21, 4, 16, 8, 162, 0, 7, 28, 167, 0, 4]
abbrev dktX6_feed_1 : List UInt8 := dkwX6_feed_1 ++ dktX6_feed_2
def dkwX6_feed_0 : List UInt8 := [42, 180, 0, 190, 16, 12, 96, 16, 96, 164, 0, 6, 18, 83, 172, 3, 54, 4, 21, 4, 16, 12]
abbrev dktX6_feed_0 : List UInt8 := dkwX6_feed_0 ++ dktX6_feed_1
theorem dksX6_feed_0 : cX6_feed.data.toList.drop 0 = dktX6_feed_0 := by decide +kernel
theorem dksX6_feed_1 : cX6_feed.data.toList.drop 22 = dktX6_feed_1 := dk_seg dksX6_feed_0 22 rfl rfl
theorem dksX6_feed_2 : cX6_feed.data.toList.drop 46 = dktX6_feed_2 := dk_seg dksX6_feed_1 24 rfl rfl
theorem dksX6_feed_3 : cX6_feed.data.toList.drop 70 = dktX6_feed_3 := dk_seg dksX6_feed_2 24 rfl rfl
theorem dksX6_feed_4 : cX6_feed.data.toList.drop 92 = dktX6_feed_4 := dk_seg dksX6_feed_3 22 rfl rfl
theorem dX6_feed_0 : decode cX6_feed 0 = .ok (.aload_n 0, 1) := dk_42 (dk_at dksX6_feed_0 0 rfl rfl)
theorem dX6_feed_1 : decode cX6_feed 1 = .ok (.getfield 190, 3) := dk_180 0 190 (dk_at dksX6_feed_0 1 rfl rfl)
theorem dX6_feed_4 : decode cX6_feed 4 = .ok (.bipush 12, 2) := dk_16 12 (dk_at dksX6_feed_0 4 rfl rfl)
theorem dX6_feed_6 : decode cX6_feed 6 = .ok (.iadd, 1) := dk_96 (dk_at dksX6_feed_0 6 rfl rfl)
theorem dX6_feed_7 : decode cX6_feed 7 = .ok (.bipush 96, 2) := dk_16 96 (dk_at dksX6_feed_0 7 rfl rfl)
theorem dX6_feed_9 : decode cX6_feed 9 = .ok (.if_icmp .le 6, 3) := dk_164 0 6 (dk_at dksX6_feed_0 9 rfl rfl)
theorem dX6_feed_12 : decode cX6_feed 12 = .ok (.ldc 83, 2) := dk_18 83 (dk_at dksX6_feed_0 12 rfl rfl)
theorem dX6_feed_14 : decode cX6_feed 14 = .ok (.ireturn, 1) := dk_172 (dk_at dksX6_feed_0 14 rfl rfl)
theorem dX6_feed_15 : decode cX6_feed 15 = .ok (.iconst 0, 1) := dk_3 (dk_at dksX6_feed_0 15 rfl rfl)
theorem dX6_feed_16 : decode cX6_feed 16 = .ok (.istore 4, 2) := dk_54 4 (dk_at dksX6_feed_0 16 rfl rfl)
theorem dX6_feed_18 : decode cX6_feed 18 = .ok (.iload 4, 2) := dk_21 4 (dk_at dksX6_feed_0 18 rfl rfl)
theorem dX6_feed_20 : decode cX6_feed 20 = .ok (.bipush 12, 2) := dk_16 12 (dk_at dksX6_feed_0 20 rfl rfl)
theorem dX6_feed_22 : decode cX6_feed 22 = .ok (.if_icmp .ge 69, 3) := dk_162 0 69 (dk_at dksX6_feed_1 0 rfl rfl)
theorem dX6_feed_25 : decode cX6_feed 25 = .ok (.iload 4, 2) := dk_21 4 (dk_at dksX6_feed_1 3 rfl rfl)
theorem dX6_feed_27 : decode cX6_feed 27 = .ok (.iconst 4, 1) := dk_7 (dk_at dksX6_feed_1 5 rfl rfl)
theorem dX6_feed_28 : decode cX6_feed 28 = .ok (.if_icmp .ge 7, 3) := dk_162 0 7 (dk_at dksX6_feed_1 6 rfl rfl)
theorem dX6_feed_31 : decode cX6_feed 31 = .ok (.iload_n 1, 1) := dk_27 (dk_at dksX6_feed_1 9 rfl rfl)
theorem dX6_feed_32 : decode cX6_feed 32 = .ok (.goto 15, 3) := dk_167 0 15 (dk_at dksX6_feed_1 10 rfl rfl)
theorem dX6_feed_35 : decode cX6_feed 35 = .ok (.iload 4, 2) := dk_21 4 (dk_at dksX6_feed_1 13 rfl rfl)
theorem dX6_feed_37 : decode cX6_feed 37 = .ok (.bipush 8, 2) := dk_16 8 (dk_at dksX6_feed_1 15 rfl rfl)
theorem dX6_feed_39 : decode cX6_feed 39 = .ok (.if_icmp .ge 7, 3) := dk_162 0 7 (dk_at dksX6_feed_1 17 rfl rfl)
theorem dX6_feed_42 : decode cX6_feed 42 = .ok (.iload_n 2, 1) := dk_28 (dk_at dksX6_feed_1 20 rfl rfl)
theorem dX6_feed_43 : decode cX6_feed 43 = .ok (.goto 4, 3) := dk_167 0 4 (dk_at dksX6_feed_1 21 rfl rfl)
theorem dX6_feed_46 : decode cX6_feed 46 = .ok (.iload_n 3, 1) := dk_29 (dk_at dksX6_feed_2 0 rfl rfl)
theorem dX6_feed_47 : decode cX6_feed 47 = .ok (.istore 5, 2) := dk_54 5 (dk_at dksX6_feed_2 1 rfl rfl)
theorem dX6_feed_49 : decode cX6_feed 49 = .ok (.aload_n 0, 1) := dk_42 (dk_at dksX6_feed_2 3 rfl rfl)
theorem dX6_feed_50 : decode cX6_feed 50 = .ok (.getfield 46, 3) := dk_180 0 46 (dk_at dksX6_feed_2 4 rfl rfl)
theorem dX6_feed_53 : decode cX6_feed 53 = .ok (.aload_n 0, 1) := dk_42 (dk_at dksX6_feed_2 7 rfl rfl)
theorem dX6_feed_54 : decode cX6_feed 54 = .ok (.getfield 190, 3) := dk_180 0 190 (dk_at dksX6_feed_2 8 rfl rfl)
theorem dX6_feed_57 : decode cX6_feed 57 = .ok (.iload 5, 2) := dk_21 5 (dk_at dksX6_feed_2 11 rfl rfl)
theorem dX6_feed_59 : decode cX6_feed 59 = .ok (.bipush 24, 2) := dk_16 24 (dk_at dksX6_feed_2 13 rfl rfl)
theorem dX6_feed_61 : decode cX6_feed 61 = .ok (.bipush 8, 2) := dk_16 8 (dk_at dksX6_feed_2 15 rfl rfl)
theorem dX6_feed_63 : decode cX6_feed 63 = .ok (.iload 4, 2) := dk_21 4 (dk_at dksX6_feed_2 17 rfl rfl)
theorem dX6_feed_65 : decode cX6_feed 65 = .ok (.iconst 4, 1) := dk_7 (dk_at dksX6_feed_2 19 rfl rfl)
theorem dX6_feed_66 : decode cX6_feed 66 = .ok (.irem, 1) := dk_112 (dk_at dksX6_feed_2 20 rfl rfl)
theorem dX6_feed_67 : decode cX6_feed 67 = .ok (.imul, 1) := dk_104 (dk_at dksX6_feed_2 21 rfl rfl)
theorem dX6_feed_68 : decode cX6_feed 68 = .ok (.isub, 1) := dk_100 (dk_at dksX6_feed_2 22 rfl rfl)
theorem dX6_feed_69 : decode cX6_feed 69 = .ok (.ishr, 1) := dk_122 (dk_at dksX6_feed_2 23 rfl rfl)
theorem dX6_feed_70 : decode cX6_feed 70 = .ok (.sipush 255, 3) := dk_17 0 255 (dk_at dksX6_feed_3 0 rfl rfl)
theorem dX6_feed_73 : decode cX6_feed 73 = .ok (.iand, 1) := dk_126 (dk_at dksX6_feed_3 3 rfl rfl)
theorem dX6_feed_74 : decode cX6_feed 74 = .ok (.iastore, 1) := dk_79 (dk_at dksX6_feed_3 4 rfl rfl)
theorem dX6_feed_75 : decode cX6_feed 75 = .ok (.aload_n 0, 1) := dk_42 (dk_at dksX6_feed_3 5 rfl rfl)
theorem dX6_feed_76 : decode cX6_feed 76 = .ok (.dup, 1) := dk_89 (dk_at dksX6_feed_3 6 rfl rfl)
theorem dX6_feed_77 : decode cX6_feed 77 = .ok (.getfield 190, 3) := dk_180 0 190 (dk_at dksX6_feed_3 7 rfl rfl)
theorem dX6_feed_80 : decode cX6_feed 80 = .ok (.iconst 1, 1) := dk_4 (dk_at dksX6_feed_3 10 rfl rfl)
theorem dX6_feed_81 : decode cX6_feed 81 = .ok (.iadd, 1) := dk_96 (dk_at dksX6_feed_3 11 rfl rfl)
theorem dX6_feed_82 : decode cX6_feed 82 = .ok (.putfield 190, 3) := dk_181 0 190 (dk_at dksX6_feed_3 12 rfl rfl)
theorem dX6_feed_85 : decode cX6_feed 85 = .ok (.iinc 4 1, 3) := dk_132 4 1 (dk_at dksX6_feed_3 15 rfl rfl)
theorem dX6_feed_88 : decode cX6_feed 88 = .ok (.goto (-70), 3) := dk_167 255 186 (dk_at dksX6_feed_3 18 rfl rfl)
theorem dX6_feed_91 : decode cX6_feed 91 = .ok (.aload_n 0, 1) := dk_42 (dk_at dksX6_feed_3 21 rfl rfl)
theorem dX6_feed_92 : decode cX6_feed 92 = .ok (.getfield 190, 3) := dk_180 0 190 (dk_at dksX6_feed_4 0 rfl rfl)
theorem dX6_feed_95 : decode cX6_feed 95 = .ok (.ireturn, 1) := dk_172 (dk_at dksX6_feed_4 3 rfl rfl)
abbrev cX6_trim : ByteArray := prog_19_method_57_code
def yX6_trim : MethodName := ⟨RX6, "trim", "(I)I"⟩
def dkwX6_trim_0 : List UInt8 := [27, 133, 9, 42, 180, 0, 190, 133, 184, 0, 65, 154, 0, 6, 18, 82, 172, 42, 27, 181, 0, 190, 27, 172]
abbrev dktX6_trim_0 : List UInt8 := dkwX6_trim_0 ++ []
theorem dksX6_trim_0 : cX6_trim.data.toList.drop 0 = dktX6_trim_0 := by decide +kernel
theorem dX6_trim_0 : decode cX6_trim 0 = .ok (.iload_n 1, 1) := dk_27 (dk_at dksX6_trim_0 0 rfl rfl)
theorem dX6_trim_1 : decode cX6_trim 1 = .ok (.i2l, 1) := dk_133 (dk_at dksX6_trim_0 1 rfl rfl)
theorem dX6_trim_2 : decode cX6_trim 2 = .ok (.lconst 0, 1) := dk_9 (dk_at dksX6_trim_0 2 rfl rfl)
theorem dX6_trim_3 : decode cX6_trim 3 = .ok (.aload_n 0, 1) := dk_42 (dk_at dksX6_trim_0 3 rfl rfl)
theorem dX6_trim_4 : decode cX6_trim 4 = .ok (.getfield 190, 3) := dk_180 0 190 (dk_at dksX6_trim_0 4 rfl rfl)
theorem dX6_trim_7 : decode cX6_trim 7 = .ok (.i2l, 1) := dk_133 (dk_at dksX6_trim_0 7 rfl rfl)
theorem dX6_trim_8 : decode cX6_trim 8 = .ok (.invokestatic 65, 3) := dk_184 0 65 (dk_at dksX6_trim_0 8 rfl rfl)
theorem dX6_trim_11 : decode cX6_trim 11 = .ok (.ifCond .ne 6, 3) := dk_154 0 6 (dk_at dksX6_trim_0 11 rfl rfl)
theorem dX6_trim_14 : decode cX6_trim 14 = .ok (.ldc 82, 2) := dk_18 82 (dk_at dksX6_trim_0 14 rfl rfl)
theorem dX6_trim_16 : decode cX6_trim 16 = .ok (.ireturn, 1) := dk_172 (dk_at dksX6_trim_0 16 rfl rfl)
theorem dX6_trim_17 : decode cX6_trim 17 = .ok (.aload_n 0, 1) := dk_42 (dk_at dksX6_trim_0 17 rfl rfl)
theorem dX6_trim_18 : decode cX6_trim 18 = .ok (.iload_n 1, 1) := dk_27 (dk_at dksX6_trim_0 18 rfl rfl)
theorem dX6_trim_19 : decode cX6_trim 19 = .ok (.putfield 190, 3) := dk_181 0 190 (dk_at dksX6_trim_0 19 rfl rfl)
theorem dX6_trim_22 : decode cX6_trim 22 = .ok (.iload_n 1, 1) := dk_27 (dk_at dksX6_trim_0 22 rfl rfl)
theorem dX6_trim_23 : decode cX6_trim 23 = .ok (.ireturn, 1) := dk_172 (dk_at dksX6_trim_0 23 rfl rfl)
abbrev cX6_text : ByteArray := prog_19_method_73_code
def yX6_text : MethodName := ⟨RX6, "text", "()I"⟩
def dkwX6_text_3 : List UInt8 := [180, 0, 230, 79, 42, 180, 0, 7, 5, 92, 46, 4, 96, 79, 42, 180, 0, 7, 5, 46, 4, 100, 172]
abbrev dktX6_text_3 : List UInt8 := dkwX6_text_3 ++ []
def dkwX6_text_2 : List UInt8 := [3, 96, 27, 79, 42, 180, 0, 7, 28, 4, 96, 42, 180, 1, 1, 79, 42, 180, 0, 7, 28, 5, 96, 42]
abbrev dktX6_text_2 : List UInt8 := dkwX6_text_2 ++ dktX6_text_3
def dkwX6_text_1 : List UInt8 := [16, 14, 160, 0, 6, 18, 83, 172, 42, 42, 180, 0, 7, 5, 46, 182, 1, 16, 61, 42, 180, 0, 7, 28]
abbrev dktX6_text_1 : List UInt8 := dkwX6_text_1 ++ dktX6_text_2
def dkwX6_text_0 : List UInt8 := [42, 182, 1, 22, 60, 27, 156, 0, 11, 16, 156, 42, 180, 0, 208, 100, 172, 42, 180, 0, 7, 5, 46]
abbrev dktX6_text_0 : List UInt8 := dkwX6_text_0 ++ dktX6_text_1
theorem dksX6_text_0 : cX6_text.data.toList.drop 0 = dktX6_text_0 := by decide +kernel
theorem dksX6_text_1 : cX6_text.data.toList.drop 23 = dktX6_text_1 := dk_seg dksX6_text_0 23 rfl rfl
theorem dksX6_text_2 : cX6_text.data.toList.drop 47 = dktX6_text_2 := dk_seg dksX6_text_1 24 rfl rfl
theorem dksX6_text_3 : cX6_text.data.toList.drop 71 = dktX6_text_3 := dk_seg dksX6_text_2 24 rfl rfl
theorem dX6_text_0 : decode cX6_text 0 = .ok (.aload_n 0, 1) := dk_42 (dk_at dksX6_text_0 0 rfl rfl)
theorem dX6_text_1 : decode cX6_text 1 = .ok (.invokevirtual 278, 3) := dk_182 1 22 (dk_at dksX6_text_0 1 rfl rfl)
theorem dX6_text_4 : decode cX6_text 4 = .ok (.istore_n 1, 1) := dk_60 (dk_at dksX6_text_0 4 rfl rfl)
theorem dX6_text_5 : decode cX6_text 5 = .ok (.iload_n 1, 1) := dk_27 (dk_at dksX6_text_0 5 rfl rfl)
theorem dX6_text_6 : decode cX6_text 6 = .ok (.ifCond .ge 11, 3) := dk_156 0 11 (dk_at dksX6_text_0 6 rfl rfl)
theorem dX6_text_9 : decode cX6_text 9 = .ok (.bipush (-100), 2) := dk_16 156 (dk_at dksX6_text_0 9 rfl rfl)
theorem dX6_text_11 : decode cX6_text 11 = .ok (.aload_n 0, 1) := dk_42 (dk_at dksX6_text_0 11 rfl rfl)
theorem dX6_text_12 : decode cX6_text 12 = .ok (.getfield 208, 3) := dk_180 0 208 (dk_at dksX6_text_0 12 rfl rfl)
theorem dX6_text_15 : decode cX6_text 15 = .ok (.isub, 1) := dk_100 (dk_at dksX6_text_0 15 rfl rfl)
theorem dX6_text_16 : decode cX6_text 16 = .ok (.ireturn, 1) := dk_172 (dk_at dksX6_text_0 16 rfl rfl)
theorem dX6_text_17 : decode cX6_text 17 = .ok (.aload_n 0, 1) := dk_42 (dk_at dksX6_text_0 17 rfl rfl)
theorem dX6_text_18 : decode cX6_text 18 = .ok (.getfield 7, 3) := dk_180 0 7 (dk_at dksX6_text_0 18 rfl rfl)
theorem dX6_text_21 : decode cX6_text 21 = .ok (.iconst 2, 1) := dk_5 (dk_at dksX6_text_0 21 rfl rfl)
theorem dX6_text_22 : decode cX6_text 22 = .ok (.iaload, 1) := dk_46 (dk_at dksX6_text_0 22 rfl rfl)
theorem dX6_text_23 : decode cX6_text 23 = .ok (.bipush 14, 2) := dk_16 14 (dk_at dksX6_text_1 0 rfl rfl)
theorem dX6_text_25 : decode cX6_text 25 = .ok (.if_icmp .ne 6, 3) := dk_160 0 6 (dk_at dksX6_text_1 2 rfl rfl)
theorem dX6_text_28 : decode cX6_text 28 = .ok (.ldc 83, 2) := dk_18 83 (dk_at dksX6_text_1 5 rfl rfl)
theorem dX6_text_30 : decode cX6_text 30 = .ok (.ireturn, 1) := dk_172 (dk_at dksX6_text_1 7 rfl rfl)
theorem dX6_text_31 : decode cX6_text 31 = .ok (.aload_n 0, 1) := dk_42 (dk_at dksX6_text_1 8 rfl rfl)
theorem dX6_text_32 : decode cX6_text 32 = .ok (.aload_n 0, 1) := dk_42 (dk_at dksX6_text_1 9 rfl rfl)
theorem dX6_text_33 : decode cX6_text 33 = .ok (.getfield 7, 3) := dk_180 0 7 (dk_at dksX6_text_1 10 rfl rfl)
theorem dX6_text_36 : decode cX6_text 36 = .ok (.iconst 2, 1) := dk_5 (dk_at dksX6_text_1 13 rfl rfl)
theorem dX6_text_37 : decode cX6_text 37 = .ok (.iaload, 1) := dk_46 (dk_at dksX6_text_1 14 rfl rfl)
theorem dX6_text_38 : decode cX6_text 38 = .ok (.invokevirtual 272, 3) := dk_182 1 16 (dk_at dksX6_text_1 15 rfl rfl)
theorem dX6_text_41 : decode cX6_text 41 = .ok (.istore_n 2, 1) := dk_61 (dk_at dksX6_text_1 18 rfl rfl)
theorem dX6_text_42 : decode cX6_text 42 = .ok (.aload_n 0, 1) := dk_42 (dk_at dksX6_text_1 19 rfl rfl)
theorem dX6_text_43 : decode cX6_text 43 = .ok (.getfield 7, 3) := dk_180 0 7 (dk_at dksX6_text_1 20 rfl rfl)
theorem dX6_text_46 : decode cX6_text 46 = .ok (.iload_n 2, 1) := dk_28 (dk_at dksX6_text_1 23 rfl rfl)
theorem dX6_text_47 : decode cX6_text 47 = .ok (.iconst 0, 1) := dk_3 (dk_at dksX6_text_2 0 rfl rfl)
theorem dX6_text_48 : decode cX6_text 48 = .ok (.iadd, 1) := dk_96 (dk_at dksX6_text_2 1 rfl rfl)
theorem dX6_text_49 : decode cX6_text 49 = .ok (.iload_n 1, 1) := dk_27 (dk_at dksX6_text_2 2 rfl rfl)
theorem dX6_text_50 : decode cX6_text 50 = .ok (.iastore, 1) := dk_79 (dk_at dksX6_text_2 3 rfl rfl)
theorem dX6_text_51 : decode cX6_text 51 = .ok (.aload_n 0, 1) := dk_42 (dk_at dksX6_text_2 4 rfl rfl)
theorem dX6_text_52 : decode cX6_text 52 = .ok (.getfield 7, 3) := dk_180 0 7 (dk_at dksX6_text_2 5 rfl rfl)
theorem dX6_text_55 : decode cX6_text 55 = .ok (.iload_n 2, 1) := dk_28 (dk_at dksX6_text_2 8 rfl rfl)
theorem dX6_text_56 : decode cX6_text 56 = .ok (.iconst 1, 1) := dk_4 (dk_at dksX6_text_2 9 rfl rfl)
theorem dX6_text_57 : decode cX6_text 57 = .ok (.iadd, 1) := dk_96 (dk_at dksX6_text_2 10 rfl rfl)
theorem dX6_text_58 : decode cX6_text 58 = .ok (.aload_n 0, 1) := dk_42 (dk_at dksX6_text_2 11 rfl rfl)
theorem dX6_text_59 : decode cX6_text 59 = .ok (.getfield 257, 3) := dk_180 1 1 (dk_at dksX6_text_2 12 rfl rfl)
theorem dX6_text_62 : decode cX6_text 62 = .ok (.iastore, 1) := dk_79 (dk_at dksX6_text_2 15 rfl rfl)
theorem dX6_text_63 : decode cX6_text 63 = .ok (.aload_n 0, 1) := dk_42 (dk_at dksX6_text_2 16 rfl rfl)
theorem dX6_text_64 : decode cX6_text 64 = .ok (.getfield 7, 3) := dk_180 0 7 (dk_at dksX6_text_2 17 rfl rfl)
theorem dX6_text_67 : decode cX6_text 67 = .ok (.iload_n 2, 1) := dk_28 (dk_at dksX6_text_2 20 rfl rfl)
theorem dX6_text_68 : decode cX6_text 68 = .ok (.iconst 2, 1) := dk_5 (dk_at dksX6_text_2 21 rfl rfl)
theorem dX6_text_69 : decode cX6_text 69 = .ok (.iadd, 1) := dk_96 (dk_at dksX6_text_2 22 rfl rfl)
theorem dX6_text_70 : decode cX6_text 70 = .ok (.aload_n 0, 1) := dk_42 (dk_at dksX6_text_2 23 rfl rfl)
theorem dX6_text_71 : decode cX6_text 71 = .ok (.getfield 230, 3) := dk_180 0 230 (dk_at dksX6_text_3 0 rfl rfl)
theorem dX6_text_74 : decode cX6_text 74 = .ok (.iastore, 1) := dk_79 (dk_at dksX6_text_3 3 rfl rfl)
theorem dX6_text_75 : decode cX6_text 75 = .ok (.aload_n 0, 1) := dk_42 (dk_at dksX6_text_3 4 rfl rfl)
theorem dX6_text_76 : decode cX6_text 76 = .ok (.getfield 7, 3) := dk_180 0 7 (dk_at dksX6_text_3 5 rfl rfl)
theorem dX6_text_79 : decode cX6_text 79 = .ok (.iconst 2, 1) := dk_5 (dk_at dksX6_text_3 8 rfl rfl)
theorem dX6_text_80 : decode cX6_text 80 = .ok (.dup2, 1) := dk_92 (dk_at dksX6_text_3 9 rfl rfl)
theorem dX6_text_81 : decode cX6_text 81 = .ok (.iaload, 1) := dk_46 (dk_at dksX6_text_3 10 rfl rfl)
theorem dX6_text_82 : decode cX6_text 82 = .ok (.iconst 1, 1) := dk_4 (dk_at dksX6_text_3 11 rfl rfl)
theorem dX6_text_83 : decode cX6_text 83 = .ok (.iadd, 1) := dk_96 (dk_at dksX6_text_3 12 rfl rfl)
theorem dX6_text_84 : decode cX6_text 84 = .ok (.iastore, 1) := dk_79 (dk_at dksX6_text_3 13 rfl rfl)
theorem dX6_text_85 : decode cX6_text 85 = .ok (.aload_n 0, 1) := dk_42 (dk_at dksX6_text_3 14 rfl rfl)
theorem dX6_text_86 : decode cX6_text 86 = .ok (.getfield 7, 3) := dk_180 0 7 (dk_at dksX6_text_3 15 rfl rfl)
theorem dX6_text_89 : decode cX6_text 89 = .ok (.iconst 2, 1) := dk_5 (dk_at dksX6_text_3 18 rfl rfl)
theorem dX6_text_90 : decode cX6_text 90 = .ok (.iaload, 1) := dk_46 (dk_at dksX6_text_3 19 rfl rfl)
theorem dX6_text_91 : decode cX6_text 91 = .ok (.iconst 1, 1) := dk_4 (dk_at dksX6_text_3 20 rfl rfl)
theorem dX6_text_92 : decode cX6_text 92 = .ok (.isub, 1) := dk_100 (dk_at dksX6_text_3 21 rfl rfl)
theorem dX6_text_93 : decode cX6_text 93 = .ok (.ireturn, 1) := dk_172 (dk_at dksX6_text_3 22 rfl rfl)
abbrev cX6_parse : ByteArray := prog_19_method_72_code
def yX6_parse : MethodName := ⟨RX6, "parse", "()I"⟩
def dkwX6_parse_5 : List UInt8 := [28, 153, 0, 7, 27, 167, 0, 4, 2, 172]
abbrev dktX6_parse_5 : List UInt8 := dkwX6_parse_5 ++ []
def dkwX6_parse_4 : List UInt8 := [182, 1, 13, 153, 0, 14, 42, 180, 0, 205, 154, 0, 7, 4, 167, 0, 4, 3, 61, 42, 3, 181, 0, 190]
abbrev dktX6_parse_4 : List UInt8 := dkwX6_parse_4 ++ dktX6_parse_5
def dkwX6_parse_3 : List UInt8 := [182, 1, 19, 60, 27, 155, 0, 7, 4, 167, 0, 4, 3, 61, 28, 153, 0, 28, 42, 182, 0, 239, 42, 27]
abbrev dktX6_parse_3 : List UInt8 := dkwX6_parse_3 ++ dktX6_parse_4
def dkwX6_parse_2 : List UInt8 := [180, 0, 7, 5, 46, 182, 1, 16, 7, 96, 167, 0, 6, 17, 11, 98, 181, 0, 227, 42, 182, 0, 239, 42]
abbrev dktX6_parse_2 : List UInt8 := dkwX6_parse_2 ++ dktX6_parse_3
def dkwX6_parse_1 : List UInt8 := [181, 0, 230, 42, 3, 181, 1, 1, 42, 42, 180, 0, 7, 5, 46, 16, 14, 162, 0, 18, 42, 42]
abbrev dktX6_parse_1 : List UInt8 := dkwX6_parse_1 ++ dktX6_parse_2
def dkwX6_parse_0 : List UInt8 := [42, 3, 181, 0, 202, 42, 6, 181, 0, 205, 42, 3, 181, 1, 10, 42, 3, 181, 1, 7, 42, 3]
abbrev dktX6_parse_0 : List UInt8 := dkwX6_parse_0 ++ dktX6_parse_1
theorem dksX6_parse_0 : cX6_parse.data.toList.drop 0 = dktX6_parse_0 := by decide +kernel
theorem dksX6_parse_1 : cX6_parse.data.toList.drop 22 = dktX6_parse_1 := dk_seg dksX6_parse_0 22 rfl rfl
theorem dksX6_parse_2 : cX6_parse.data.toList.drop 44 = dktX6_parse_2 := dk_seg dksX6_parse_1 22 rfl rfl
theorem dksX6_parse_3 : cX6_parse.data.toList.drop 68 = dktX6_parse_3 := dk_seg dksX6_parse_2 24 rfl rfl
theorem dksX6_parse_4 : cX6_parse.data.toList.drop 92 = dktX6_parse_4 := dk_seg dksX6_parse_3 24 rfl rfl
theorem dksX6_parse_5 : cX6_parse.data.toList.drop 116 = dktX6_parse_5 := dk_seg dksX6_parse_4 24 rfl rfl
theorem dX6_parse_0 : decode cX6_parse 0 = .ok (.aload_n 0, 1) := dk_42 (dk_at dksX6_parse_0 0 rfl rfl)
theorem dX6_parse_1 : decode cX6_parse 1 = .ok (.iconst 0, 1) := dk_3 (dk_at dksX6_parse_0 1 rfl rfl)
theorem dX6_parse_2 : decode cX6_parse 2 = .ok (.putfield 202, 3) := dk_181 0 202 (dk_at dksX6_parse_0 2 rfl rfl)
theorem dX6_parse_5 : decode cX6_parse 5 = .ok (.aload_n 0, 1) := dk_42 (dk_at dksX6_parse_0 5 rfl rfl)
theorem dX6_parse_6 : decode cX6_parse 6 = .ok (.iconst 3, 1) := dk_6 (dk_at dksX6_parse_0 6 rfl rfl)
theorem dX6_parse_7 : decode cX6_parse 7 = .ok (.putfield 205, 3) := dk_181 0 205 (dk_at dksX6_parse_0 7 rfl rfl)
theorem dX6_parse_10 : decode cX6_parse 10 = .ok (.aload_n 0, 1) := dk_42 (dk_at dksX6_parse_0 10 rfl rfl)
theorem dX6_parse_11 : decode cX6_parse 11 = .ok (.iconst 0, 1) := dk_3 (dk_at dksX6_parse_0 11 rfl rfl)
theorem dX6_parse_12 : decode cX6_parse 12 = .ok (.putfield 266, 3) := dk_181 1 10 (dk_at dksX6_parse_0 12 rfl rfl)
theorem dX6_parse_15 : decode cX6_parse 15 = .ok (.aload_n 0, 1) := dk_42 (dk_at dksX6_parse_0 15 rfl rfl)
theorem dX6_parse_16 : decode cX6_parse 16 = .ok (.iconst 0, 1) := dk_3 (dk_at dksX6_parse_0 16 rfl rfl)
theorem dX6_parse_17 : decode cX6_parse 17 = .ok (.putfield 263, 3) := dk_181 1 7 (dk_at dksX6_parse_0 17 rfl rfl)
theorem dX6_parse_20 : decode cX6_parse 20 = .ok (.aload_n 0, 1) := dk_42 (dk_at dksX6_parse_0 20 rfl rfl)
theorem dX6_parse_21 : decode cX6_parse 21 = .ok (.iconst 0, 1) := dk_3 (dk_at dksX6_parse_0 21 rfl rfl)
theorem dX6_parse_22 : decode cX6_parse 22 = .ok (.putfield 230, 3) := dk_181 0 230 (dk_at dksX6_parse_1 0 rfl rfl)
theorem dX6_parse_25 : decode cX6_parse 25 = .ok (.aload_n 0, 1) := dk_42 (dk_at dksX6_parse_1 3 rfl rfl)
theorem dX6_parse_26 : decode cX6_parse 26 = .ok (.iconst 0, 1) := dk_3 (dk_at dksX6_parse_1 4 rfl rfl)
theorem dX6_parse_27 : decode cX6_parse 27 = .ok (.putfield 257, 3) := dk_181 1 1 (dk_at dksX6_parse_1 5 rfl rfl)
theorem dX6_parse_30 : decode cX6_parse 30 = .ok (.aload_n 0, 1) := dk_42 (dk_at dksX6_parse_1 8 rfl rfl)
theorem dX6_parse_31 : decode cX6_parse 31 = .ok (.aload_n 0, 1) := dk_42 (dk_at dksX6_parse_1 9 rfl rfl)
theorem dX6_parse_32 : decode cX6_parse 32 = .ok (.getfield 7, 3) := dk_180 0 7 (dk_at dksX6_parse_1 10 rfl rfl)
theorem dX6_parse_35 : decode cX6_parse 35 = .ok (.iconst 2, 1) := dk_5 (dk_at dksX6_parse_1 13 rfl rfl)
theorem dX6_parse_36 : decode cX6_parse 36 = .ok (.iaload, 1) := dk_46 (dk_at dksX6_parse_1 14 rfl rfl)
theorem dX6_parse_37 : decode cX6_parse 37 = .ok (.bipush 14, 2) := dk_16 14 (dk_at dksX6_parse_1 15 rfl rfl)
theorem dX6_parse_39 : decode cX6_parse 39 = .ok (.if_icmp .ge 18, 3) := dk_162 0 18 (dk_at dksX6_parse_1 17 rfl rfl)
theorem dX6_parse_42 : decode cX6_parse 42 = .ok (.aload_n 0, 1) := dk_42 (dk_at dksX6_parse_1 20 rfl rfl)
theorem dX6_parse_43 : decode cX6_parse 43 = .ok (.aload_n 0, 1) := dk_42 (dk_at dksX6_parse_1 21 rfl rfl)
theorem dX6_parse_44 : decode cX6_parse 44 = .ok (.getfield 7, 3) := dk_180 0 7 (dk_at dksX6_parse_2 0 rfl rfl)
theorem dX6_parse_47 : decode cX6_parse 47 = .ok (.iconst 2, 1) := dk_5 (dk_at dksX6_parse_2 3 rfl rfl)
theorem dX6_parse_48 : decode cX6_parse 48 = .ok (.iaload, 1) := dk_46 (dk_at dksX6_parse_2 4 rfl rfl)
theorem dX6_parse_49 : decode cX6_parse 49 = .ok (.invokevirtual 272, 3) := dk_182 1 16 (dk_at dksX6_parse_2 5 rfl rfl)
theorem dX6_parse_52 : decode cX6_parse 52 = .ok (.iconst 4, 1) := dk_7 (dk_at dksX6_parse_2 8 rfl rfl)
theorem dX6_parse_53 : decode cX6_parse 53 = .ok (.iadd, 1) := dk_96 (dk_at dksX6_parse_2 9 rfl rfl)
theorem dX6_parse_54 : decode cX6_parse 54 = .ok (.goto 6, 3) := dk_167 0 6 (dk_at dksX6_parse_2 10 rfl rfl)
theorem dX6_parse_57 : decode cX6_parse 57 = .ok (.sipush 2914, 3) := dk_17 11 98 (dk_at dksX6_parse_2 13 rfl rfl)
theorem dX6_parse_60 : decode cX6_parse 60 = .ok (.putfield 227, 3) := dk_181 0 227 (dk_at dksX6_parse_2 16 rfl rfl)
theorem dX6_parse_63 : decode cX6_parse 63 = .ok (.aload_n 0, 1) := dk_42 (dk_at dksX6_parse_2 19 rfl rfl)
theorem dX6_parse_64 : decode cX6_parse 64 = .ok (.invokevirtual 239, 3) := dk_182 0 239 (dk_at dksX6_parse_2 20 rfl rfl)
theorem dX6_parse_67 : decode cX6_parse 67 = .ok (.aload_n 0, 1) := dk_42 (dk_at dksX6_parse_2 23 rfl rfl)
theorem dX6_parse_68 : decode cX6_parse 68 = .ok (.invokevirtual 275, 3) := dk_182 1 19 (dk_at dksX6_parse_3 0 rfl rfl)
theorem dX6_parse_71 : decode cX6_parse 71 = .ok (.istore_n 1, 1) := dk_60 (dk_at dksX6_parse_3 3 rfl rfl)
theorem dX6_parse_72 : decode cX6_parse 72 = .ok (.iload_n 1, 1) := dk_27 (dk_at dksX6_parse_3 4 rfl rfl)
theorem dX6_parse_73 : decode cX6_parse 73 = .ok (.ifCond .lt 7, 3) := dk_155 0 7 (dk_at dksX6_parse_3 5 rfl rfl)
theorem dX6_parse_76 : decode cX6_parse 76 = .ok (.iconst 1, 1) := dk_4 (dk_at dksX6_parse_3 8 rfl rfl)
theorem dX6_parse_77 : decode cX6_parse 77 = .ok (.goto 4, 3) := dk_167 0 4 (dk_at dksX6_parse_3 9 rfl rfl)
theorem dX6_parse_80 : decode cX6_parse 80 = .ok (.iconst 0, 1) := dk_3 (dk_at dksX6_parse_3 12 rfl rfl)
theorem dX6_parse_81 : decode cX6_parse 81 = .ok (.istore_n 2, 1) := dk_61 (dk_at dksX6_parse_3 13 rfl rfl)
theorem dX6_parse_82 : decode cX6_parse 82 = .ok (.iload_n 2, 1) := dk_28 (dk_at dksX6_parse_3 14 rfl rfl)
theorem dX6_parse_83 : decode cX6_parse 83 = .ok (.ifCond .eq 28, 3) := dk_153 0 28 (dk_at dksX6_parse_3 15 rfl rfl)
theorem dX6_parse_86 : decode cX6_parse 86 = .ok (.aload_n 0, 1) := dk_42 (dk_at dksX6_parse_3 18 rfl rfl)
theorem dX6_parse_87 : decode cX6_parse 87 = .ok (.invokevirtual 239, 3) := dk_182 0 239 (dk_at dksX6_parse_3 19 rfl rfl)
theorem dX6_parse_90 : decode cX6_parse 90 = .ok (.aload_n 0, 1) := dk_42 (dk_at dksX6_parse_3 22 rfl rfl)
theorem dX6_parse_91 : decode cX6_parse 91 = .ok (.iload_n 1, 1) := dk_27 (dk_at dksX6_parse_3 23 rfl rfl)
theorem dX6_parse_92 : decode cX6_parse 92 = .ok (.invokevirtual 269, 3) := dk_182 1 13 (dk_at dksX6_parse_4 0 rfl rfl)
theorem dX6_parse_95 : decode cX6_parse 95 = .ok (.ifCond .eq 14, 3) := dk_153 0 14 (dk_at dksX6_parse_4 3 rfl rfl)
theorem dX6_parse_98 : decode cX6_parse 98 = .ok (.aload_n 0, 1) := dk_42 (dk_at dksX6_parse_4 6 rfl rfl)
theorem dX6_parse_99 : decode cX6_parse 99 = .ok (.getfield 205, 3) := dk_180 0 205 (dk_at dksX6_parse_4 7 rfl rfl)
theorem dX6_parse_102 : decode cX6_parse 102 = .ok (.ifCond .ne 7, 3) := dk_154 0 7 (dk_at dksX6_parse_4 10 rfl rfl)
theorem dX6_parse_105 : decode cX6_parse 105 = .ok (.iconst 1, 1) := dk_4 (dk_at dksX6_parse_4 13 rfl rfl)
theorem dX6_parse_106 : decode cX6_parse 106 = .ok (.goto 4, 3) := dk_167 0 4 (dk_at dksX6_parse_4 14 rfl rfl)
theorem dX6_parse_109 : decode cX6_parse 109 = .ok (.iconst 0, 1) := dk_3 (dk_at dksX6_parse_4 17 rfl rfl)
theorem dX6_parse_110 : decode cX6_parse 110 = .ok (.istore_n 2, 1) := dk_61 (dk_at dksX6_parse_4 18 rfl rfl)
theorem dX6_parse_111 : decode cX6_parse 111 = .ok (.aload_n 0, 1) := dk_42 (dk_at dksX6_parse_4 19 rfl rfl)
theorem dX6_parse_112 : decode cX6_parse 112 = .ok (.iconst 0, 1) := dk_3 (dk_at dksX6_parse_4 20 rfl rfl)
theorem dX6_parse_113 : decode cX6_parse 113 = .ok (.putfield 190, 3) := dk_181 0 190 (dk_at dksX6_parse_4 21 rfl rfl)
theorem dX6_parse_116 : decode cX6_parse 116 = .ok (.iload_n 2, 1) := dk_28 (dk_at dksX6_parse_5 0 rfl rfl)
theorem dX6_parse_117 : decode cX6_parse 117 = .ok (.ifCond .eq 7, 3) := dk_153 0 7 (dk_at dksX6_parse_5 1 rfl rfl)
theorem dX6_parse_120 : decode cX6_parse 120 = .ok (.iload_n 1, 1) := dk_27 (dk_at dksX6_parse_5 4 rfl rfl)
theorem dX6_parse_121 : decode cX6_parse 121 = .ok (.goto 4, 3) := dk_167 0 4 (dk_at dksX6_parse_5 5 rfl rfl)
theorem dX6_parse_124 : decode cX6_parse 124 = .ok (.iconst (-1), 1) := dk_2 (dk_at dksX6_parse_5 8 rfl rfl)
theorem dX6_parse_125 : decode cX6_parse 125 = .ok (.ireturn, 1) := dk_172 (dk_at dksX6_parse_5 9 rfl rfl)
abbrev cX6_nextToken : ByteArray := prog_19_method_60_code
def yX6_nextToken : MethodName := ⟨RX6, "nextToken", "()V"⟩
def dkwX6_nextToken_14 : List UInt8 := [42, 180, 0, 208, 46, 181, 0, 214, 42, 89, 180, 0, 202, 4, 96, 181, 0, 202, 177]
abbrev dktX6_nextToken_14 : List UInt8 := dkwX6_nextToken_14 ++ []
def dkwX6_nextToken_13 : List UInt8 := [164, 0, 7, 7, 167, 0, 4, 5, 181, 0, 205, 167, 0, 31, 42, 6, 181, 0, 205, 42, 42, 180, 0, 46]
abbrev dktX6_nextToken_13 : List UInt8 := dkwX6_nextToken_13 ++ dktX6_nextToken_14
def dkwX6_nextToken_12 : List UInt8 := [96, 181, 0, 202, 167, 255, 191, 42, 27, 154, 0, 16, 42, 180, 0, 202, 42, 180, 0, 208, 100, 7]
abbrev dktX6_nextToken_12 : List UInt8 := dkwX6_nextToken_12 ++ dktX6_nextToken_13
def dkwX6_nextToken_11 : List UInt8 := [180, 0, 202, 46, 96, 16, 48, 100, 167, 0, 7, 42, 180, 0, 220, 181, 0, 220, 42, 89, 180, 0, 202, 4]
abbrev dktX6_nextToken_11 : List UInt8 := dkwX6_nextToken_11 ++ dktX6_nextToken_12
def dkwX6_nextToken_10 : List UInt8 := [180, 0, 202, 42, 180, 0, 208, 100, 7, 162, 0, 26, 16, 10, 42, 180, 0, 220, 104, 42, 180, 0, 46, 42]
abbrev dktX6_nextToken_10 : List UInt8 := dkwX6_nextToken_10 ++ dktX6_nextToken_11
def dkwX6_nextToken_9 : List UInt8 := [182, 0, 217, 153, 0, 105, 42, 3, 181, 0, 220, 42, 42, 180, 0, 202, 182, 0, 217, 153, 0, 60, 42, 42]
abbrev dktX6_nextToken_9 : List UInt8 := dkwX6_nextToken_9 ++ dktX6_nextToken_10
def dkwX6_nextToken_8 : List UInt8 := [180, 0, 46, 42, 180, 0, 208, 46, 167, 0, 4, 3, 181, 0, 214, 167, 0, 144, 42, 42, 180, 0, 208]
abbrev dktX6_nextToken_8 : List UInt8 := dkwX6_nextToken_8 ++ dktX6_nextToken_9
def dkwX6_nextToken_7 : List UInt8 := [167, 0, 4, 4, 181, 0, 205, 42, 42, 180, 0, 202, 42, 180, 0, 208, 100, 4, 160, 0, 15, 42]
abbrev dktX6_nextToken_7 : List UInt8 := dkwX6_nextToken_7 ++ dktX6_nextToken_8
def dkwX6_nextToken_6 : List UInt8 := [153, 0, 16, 42, 89, 180, 0, 202, 4, 96, 181, 0, 202, 167, 255, 235, 42, 27, 153, 0, 7, 7]
abbrev dktX6_nextToken_6 : List UInt8 := dkwX6_nextToken_6 ++ dktX6_nextToken_7
def dkwX6_nextToken_5 : List UInt8 := [167, 0, 225, 42, 42, 180, 0, 208, 182, 0, 211, 153, 0, 73, 42, 42, 180, 0, 202, 182, 0, 211]
abbrev dktX6_nextToken_5 : List UInt8 := dkwX6_nextToken_5 ++ dktX6_nextToken_6
def dkwX6_nextToken_4 : List UInt8 := [180, 0, 202, 181, 0, 208, 42, 180, 0, 208, 42, 180, 0, 190, 160, 0, 11, 42, 3, 181, 0, 205]
abbrev dktX6_nextToken_4 : List UInt8 := dkwX6_nextToken_4 ++ dktX6_nextToken_5
def dkwX6_nextToken_3 : List UInt8 := [167, 255, 221, 27, 153, 0, 15, 28, 42, 180, 0, 202, 160, 0, 7, 4, 167, 0, 4, 3, 60, 42, 42]
abbrev dktX6_nextToken_3 : List UInt8 := dkwX6_nextToken_3 ++ dktX6_nextToken_4
def dkwX6_nextToken_2 : List UInt8 := [180, 0, 46, 42, 180, 0, 202, 46, 16, 32, 160, 0, 16, 42, 89, 180, 0, 202, 4, 96, 181, 0, 202]
abbrev dktX6_nextToken_2 : List UInt8 := dkwX6_nextToken_2 ++ dktX6_nextToken_3
def dkwX6_nextToken_1 : List UInt8 := [167, 0, 4, 3, 60, 42, 180, 0, 202, 61, 42, 180, 0, 202, 42, 180, 0, 190, 162, 0, 30, 42]
abbrev dktX6_nextToken_1 : List UInt8 := dkwX6_nextToken_1 ++ dktX6_nextToken_2
def dkwX6_nextToken_0 : List UInt8 := [42, 180, 0, 202, 158, 0, 23, 42, 180, 0, 205, 4, 159, 0, 11, 42, 180, 0, 205, 5, 160, 0, 7, 4]
abbrev dktX6_nextToken_0 : List UInt8 := dkwX6_nextToken_0 ++ dktX6_nextToken_1
theorem dksX6_nextToken_0 : cX6_nextToken.data.toList.drop 0 = dktX6_nextToken_0 := by decide +kernel
theorem dksX6_nextToken_1 : cX6_nextToken.data.toList.drop 24 = dktX6_nextToken_1 := dk_seg dksX6_nextToken_0 24 rfl rfl
theorem dksX6_nextToken_2 : cX6_nextToken.data.toList.drop 46 = dktX6_nextToken_2 := dk_seg dksX6_nextToken_1 22 rfl rfl
theorem dksX6_nextToken_3 : cX6_nextToken.data.toList.drop 69 = dktX6_nextToken_3 := dk_seg dksX6_nextToken_2 23 rfl rfl
theorem dksX6_nextToken_4 : cX6_nextToken.data.toList.drop 92 = dktX6_nextToken_4 := dk_seg dksX6_nextToken_3 23 rfl rfl
theorem dksX6_nextToken_5 : cX6_nextToken.data.toList.drop 114 = dktX6_nextToken_5 := dk_seg dksX6_nextToken_4 22 rfl rfl
theorem dksX6_nextToken_6 : cX6_nextToken.data.toList.drop 136 = dktX6_nextToken_6 := dk_seg dksX6_nextToken_5 22 rfl rfl
theorem dksX6_nextToken_7 : cX6_nextToken.data.toList.drop 158 = dktX6_nextToken_7 := dk_seg dksX6_nextToken_6 22 rfl rfl
theorem dksX6_nextToken_8 : cX6_nextToken.data.toList.drop 180 = dktX6_nextToken_8 := dk_seg dksX6_nextToken_7 22 rfl rfl
theorem dksX6_nextToken_9 : cX6_nextToken.data.toList.drop 203 = dktX6_nextToken_9 := dk_seg dksX6_nextToken_8 23 rfl rfl
theorem dksX6_nextToken_10 : cX6_nextToken.data.toList.drop 227 = dktX6_nextToken_10 := dk_seg dksX6_nextToken_9 24 rfl rfl
theorem dksX6_nextToken_11 : cX6_nextToken.data.toList.drop 251 = dktX6_nextToken_11 := dk_seg dksX6_nextToken_10 24 rfl rfl
theorem dksX6_nextToken_12 : cX6_nextToken.data.toList.drop 275 = dktX6_nextToken_12 := dk_seg dksX6_nextToken_11 24 rfl rfl
theorem dksX6_nextToken_13 : cX6_nextToken.data.toList.drop 297 = dktX6_nextToken_13 := dk_seg dksX6_nextToken_12 22 rfl rfl
theorem dksX6_nextToken_14 : cX6_nextToken.data.toList.drop 321 = dktX6_nextToken_14 := dk_seg dksX6_nextToken_13 24 rfl rfl
theorem dX6_nextToken_0 : decode cX6_nextToken 0 = .ok (.aload_n 0, 1) := dk_42 (dk_at dksX6_nextToken_0 0 rfl rfl)
theorem dX6_nextToken_1 : decode cX6_nextToken 1 = .ok (.getfield 202, 3) := dk_180 0 202 (dk_at dksX6_nextToken_0 1 rfl rfl)
theorem dX6_nextToken_4 : decode cX6_nextToken 4 = .ok (.ifCond .le 23, 3) := dk_158 0 23 (dk_at dksX6_nextToken_0 4 rfl rfl)
theorem dX6_nextToken_7 : decode cX6_nextToken 7 = .ok (.aload_n 0, 1) := dk_42 (dk_at dksX6_nextToken_0 7 rfl rfl)
theorem dX6_nextToken_8 : decode cX6_nextToken 8 = .ok (.getfield 205, 3) := dk_180 0 205 (dk_at dksX6_nextToken_0 8 rfl rfl)
theorem dX6_nextToken_11 : decode cX6_nextToken 11 = .ok (.iconst 1, 1) := dk_4 (dk_at dksX6_nextToken_0 11 rfl rfl)
theorem dX6_nextToken_12 : decode cX6_nextToken 12 = .ok (.if_icmp .eq 11, 3) := dk_159 0 11 (dk_at dksX6_nextToken_0 12 rfl rfl)
theorem dX6_nextToken_15 : decode cX6_nextToken 15 = .ok (.aload_n 0, 1) := dk_42 (dk_at dksX6_nextToken_0 15 rfl rfl)
theorem dX6_nextToken_16 : decode cX6_nextToken 16 = .ok (.getfield 205, 3) := dk_180 0 205 (dk_at dksX6_nextToken_0 16 rfl rfl)
theorem dX6_nextToken_19 : decode cX6_nextToken 19 = .ok (.iconst 2, 1) := dk_5 (dk_at dksX6_nextToken_0 19 rfl rfl)
theorem dX6_nextToken_20 : decode cX6_nextToken 20 = .ok (.if_icmp .ne 7, 3) := dk_160 0 7 (dk_at dksX6_nextToken_0 20 rfl rfl)
theorem dX6_nextToken_23 : decode cX6_nextToken 23 = .ok (.iconst 1, 1) := dk_4 (dk_at dksX6_nextToken_0 23 rfl rfl)
theorem dX6_nextToken_24 : decode cX6_nextToken 24 = .ok (.goto 4, 3) := dk_167 0 4 (dk_at dksX6_nextToken_1 0 rfl rfl)
theorem dX6_nextToken_27 : decode cX6_nextToken 27 = .ok (.iconst 0, 1) := dk_3 (dk_at dksX6_nextToken_1 3 rfl rfl)
theorem dX6_nextToken_28 : decode cX6_nextToken 28 = .ok (.istore_n 1, 1) := dk_60 (dk_at dksX6_nextToken_1 4 rfl rfl)
theorem dX6_nextToken_29 : decode cX6_nextToken 29 = .ok (.aload_n 0, 1) := dk_42 (dk_at dksX6_nextToken_1 5 rfl rfl)
theorem dX6_nextToken_30 : decode cX6_nextToken 30 = .ok (.getfield 202, 3) := dk_180 0 202 (dk_at dksX6_nextToken_1 6 rfl rfl)
theorem dX6_nextToken_33 : decode cX6_nextToken 33 = .ok (.istore_n 2, 1) := dk_61 (dk_at dksX6_nextToken_1 9 rfl rfl)
theorem dX6_nextToken_34 : decode cX6_nextToken 34 = .ok (.aload_n 0, 1) := dk_42 (dk_at dksX6_nextToken_1 10 rfl rfl)
theorem dX6_nextToken_35 : decode cX6_nextToken 35 = .ok (.getfield 202, 3) := dk_180 0 202 (dk_at dksX6_nextToken_1 11 rfl rfl)
theorem dX6_nextToken_38 : decode cX6_nextToken 38 = .ok (.aload_n 0, 1) := dk_42 (dk_at dksX6_nextToken_1 14 rfl rfl)
theorem dX6_nextToken_39 : decode cX6_nextToken 39 = .ok (.getfield 190, 3) := dk_180 0 190 (dk_at dksX6_nextToken_1 15 rfl rfl)
theorem dX6_nextToken_42 : decode cX6_nextToken 42 = .ok (.if_icmp .ge 30, 3) := dk_162 0 30 (dk_at dksX6_nextToken_1 18 rfl rfl)
theorem dX6_nextToken_45 : decode cX6_nextToken 45 = .ok (.aload_n 0, 1) := dk_42 (dk_at dksX6_nextToken_1 21 rfl rfl)
theorem dX6_nextToken_46 : decode cX6_nextToken 46 = .ok (.getfield 46, 3) := dk_180 0 46 (dk_at dksX6_nextToken_2 0 rfl rfl)
theorem dX6_nextToken_49 : decode cX6_nextToken 49 = .ok (.aload_n 0, 1) := dk_42 (dk_at dksX6_nextToken_2 3 rfl rfl)
theorem dX6_nextToken_50 : decode cX6_nextToken 50 = .ok (.getfield 202, 3) := dk_180 0 202 (dk_at dksX6_nextToken_2 4 rfl rfl)
theorem dX6_nextToken_53 : decode cX6_nextToken 53 = .ok (.iaload, 1) := dk_46 (dk_at dksX6_nextToken_2 7 rfl rfl)
theorem dX6_nextToken_54 : decode cX6_nextToken 54 = .ok (.bipush 32, 2) := dk_16 32 (dk_at dksX6_nextToken_2 8 rfl rfl)
theorem dX6_nextToken_56 : decode cX6_nextToken 56 = .ok (.if_icmp .ne 16, 3) := dk_160 0 16 (dk_at dksX6_nextToken_2 10 rfl rfl)
theorem dX6_nextToken_59 : decode cX6_nextToken 59 = .ok (.aload_n 0, 1) := dk_42 (dk_at dksX6_nextToken_2 13 rfl rfl)
theorem dX6_nextToken_60 : decode cX6_nextToken 60 = .ok (.dup, 1) := dk_89 (dk_at dksX6_nextToken_2 14 rfl rfl)
theorem dX6_nextToken_61 : decode cX6_nextToken 61 = .ok (.getfield 202, 3) := dk_180 0 202 (dk_at dksX6_nextToken_2 15 rfl rfl)
theorem dX6_nextToken_64 : decode cX6_nextToken 64 = .ok (.iconst 1, 1) := dk_4 (dk_at dksX6_nextToken_2 18 rfl rfl)
theorem dX6_nextToken_65 : decode cX6_nextToken 65 = .ok (.iadd, 1) := dk_96 (dk_at dksX6_nextToken_2 19 rfl rfl)
theorem dX6_nextToken_66 : decode cX6_nextToken 66 = .ok (.putfield 202, 3) := dk_181 0 202 (dk_at dksX6_nextToken_2 20 rfl rfl)
theorem dX6_nextToken_69 : decode cX6_nextToken 69 = .ok (.goto (-35), 3) := dk_167 255 221 (dk_at dksX6_nextToken_3 0 rfl rfl)
theorem dX6_nextToken_72 : decode cX6_nextToken 72 = .ok (.iload_n 1, 1) := dk_27 (dk_at dksX6_nextToken_3 3 rfl rfl)
theorem dX6_nextToken_73 : decode cX6_nextToken 73 = .ok (.ifCond .eq 15, 3) := dk_153 0 15 (dk_at dksX6_nextToken_3 4 rfl rfl)
theorem dX6_nextToken_76 : decode cX6_nextToken 76 = .ok (.iload_n 2, 1) := dk_28 (dk_at dksX6_nextToken_3 7 rfl rfl)
theorem dX6_nextToken_77 : decode cX6_nextToken 77 = .ok (.aload_n 0, 1) := dk_42 (dk_at dksX6_nextToken_3 8 rfl rfl)
theorem dX6_nextToken_78 : decode cX6_nextToken 78 = .ok (.getfield 202, 3) := dk_180 0 202 (dk_at dksX6_nextToken_3 9 rfl rfl)
theorem dX6_nextToken_81 : decode cX6_nextToken 81 = .ok (.if_icmp .ne 7, 3) := dk_160 0 7 (dk_at dksX6_nextToken_3 12 rfl rfl)
theorem dX6_nextToken_84 : decode cX6_nextToken 84 = .ok (.iconst 1, 1) := dk_4 (dk_at dksX6_nextToken_3 15 rfl rfl)
theorem dX6_nextToken_85 : decode cX6_nextToken 85 = .ok (.goto 4, 3) := dk_167 0 4 (dk_at dksX6_nextToken_3 16 rfl rfl)
theorem dX6_nextToken_88 : decode cX6_nextToken 88 = .ok (.iconst 0, 1) := dk_3 (dk_at dksX6_nextToken_3 19 rfl rfl)
theorem dX6_nextToken_89 : decode cX6_nextToken 89 = .ok (.istore_n 1, 1) := dk_60 (dk_at dksX6_nextToken_3 20 rfl rfl)
theorem dX6_nextToken_90 : decode cX6_nextToken 90 = .ok (.aload_n 0, 1) := dk_42 (dk_at dksX6_nextToken_3 21 rfl rfl)
theorem dX6_nextToken_91 : decode cX6_nextToken 91 = .ok (.aload_n 0, 1) := dk_42 (dk_at dksX6_nextToken_3 22 rfl rfl)
theorem dX6_nextToken_92 : decode cX6_nextToken 92 = .ok (.getfield 202, 3) := dk_180 0 202 (dk_at dksX6_nextToken_4 0 rfl rfl)
theorem dX6_nextToken_95 : decode cX6_nextToken 95 = .ok (.putfield 208, 3) := dk_181 0 208 (dk_at dksX6_nextToken_4 3 rfl rfl)
theorem dX6_nextToken_98 : decode cX6_nextToken 98 = .ok (.aload_n 0, 1) := dk_42 (dk_at dksX6_nextToken_4 6 rfl rfl)
theorem dX6_nextToken_99 : decode cX6_nextToken 99 = .ok (.getfield 208, 3) := dk_180 0 208 (dk_at dksX6_nextToken_4 7 rfl rfl)
theorem dX6_nextToken_102 : decode cX6_nextToken 102 = .ok (.aload_n 0, 1) := dk_42 (dk_at dksX6_nextToken_4 10 rfl rfl)
theorem dX6_nextToken_103 : decode cX6_nextToken 103 = .ok (.getfield 190, 3) := dk_180 0 190 (dk_at dksX6_nextToken_4 11 rfl rfl)
theorem dX6_nextToken_106 : decode cX6_nextToken 106 = .ok (.if_icmp .ne 11, 3) := dk_160 0 11 (dk_at dksX6_nextToken_4 14 rfl rfl)
theorem dX6_nextToken_109 : decode cX6_nextToken 109 = .ok (.aload_n 0, 1) := dk_42 (dk_at dksX6_nextToken_4 17 rfl rfl)
theorem dX6_nextToken_110 : decode cX6_nextToken 110 = .ok (.iconst 0, 1) := dk_3 (dk_at dksX6_nextToken_4 18 rfl rfl)
theorem dX6_nextToken_111 : decode cX6_nextToken 111 = .ok (.putfield 205, 3) := dk_181 0 205 (dk_at dksX6_nextToken_4 19 rfl rfl)
theorem dX6_nextToken_114 : decode cX6_nextToken 114 = .ok (.goto 225, 3) := dk_167 0 225 (dk_at dksX6_nextToken_5 0 rfl rfl)
theorem dX6_nextToken_117 : decode cX6_nextToken 117 = .ok (.aload_n 0, 1) := dk_42 (dk_at dksX6_nextToken_5 3 rfl rfl)
theorem dX6_nextToken_118 : decode cX6_nextToken 118 = .ok (.aload_n 0, 1) := dk_42 (dk_at dksX6_nextToken_5 4 rfl rfl)
theorem dX6_nextToken_119 : decode cX6_nextToken 119 = .ok (.getfield 208, 3) := dk_180 0 208 (dk_at dksX6_nextToken_5 5 rfl rfl)
theorem dX6_nextToken_122 : decode cX6_nextToken 122 = .ok (.invokevirtual 211, 3) := dk_182 0 211 (dk_at dksX6_nextToken_5 8 rfl rfl)
theorem dX6_nextToken_125 : decode cX6_nextToken 125 = .ok (.ifCond .eq 73, 3) := dk_153 0 73 (dk_at dksX6_nextToken_5 11 rfl rfl)
theorem dX6_nextToken_128 : decode cX6_nextToken 128 = .ok (.aload_n 0, 1) := dk_42 (dk_at dksX6_nextToken_5 14 rfl rfl)
theorem dX6_nextToken_129 : decode cX6_nextToken 129 = .ok (.aload_n 0, 1) := dk_42 (dk_at dksX6_nextToken_5 15 rfl rfl)
theorem dX6_nextToken_130 : decode cX6_nextToken 130 = .ok (.getfield 202, 3) := dk_180 0 202 (dk_at dksX6_nextToken_5 16 rfl rfl)
theorem dX6_nextToken_133 : decode cX6_nextToken 133 = .ok (.invokevirtual 211, 3) := dk_182 0 211 (dk_at dksX6_nextToken_5 19 rfl rfl)
theorem dX6_nextToken_136 : decode cX6_nextToken 136 = .ok (.ifCond .eq 16, 3) := dk_153 0 16 (dk_at dksX6_nextToken_6 0 rfl rfl)
theorem dX6_nextToken_139 : decode cX6_nextToken 139 = .ok (.aload_n 0, 1) := dk_42 (dk_at dksX6_nextToken_6 3 rfl rfl)
theorem dX6_nextToken_140 : decode cX6_nextToken 140 = .ok (.dup, 1) := dk_89 (dk_at dksX6_nextToken_6 4 rfl rfl)
theorem dX6_nextToken_141 : decode cX6_nextToken 141 = .ok (.getfield 202, 3) := dk_180 0 202 (dk_at dksX6_nextToken_6 5 rfl rfl)
theorem dX6_nextToken_144 : decode cX6_nextToken 144 = .ok (.iconst 1, 1) := dk_4 (dk_at dksX6_nextToken_6 8 rfl rfl)
theorem dX6_nextToken_145 : decode cX6_nextToken 145 = .ok (.iadd, 1) := dk_96 (dk_at dksX6_nextToken_6 9 rfl rfl)
theorem dX6_nextToken_146 : decode cX6_nextToken 146 = .ok (.putfield 202, 3) := dk_181 0 202 (dk_at dksX6_nextToken_6 10 rfl rfl)
theorem dX6_nextToken_149 : decode cX6_nextToken 149 = .ok (.goto (-21), 3) := dk_167 255 235 (dk_at dksX6_nextToken_6 13 rfl rfl)
theorem dX6_nextToken_152 : decode cX6_nextToken 152 = .ok (.aload_n 0, 1) := dk_42 (dk_at dksX6_nextToken_6 16 rfl rfl)
theorem dX6_nextToken_153 : decode cX6_nextToken 153 = .ok (.iload_n 1, 1) := dk_27 (dk_at dksX6_nextToken_6 17 rfl rfl)
theorem dX6_nextToken_154 : decode cX6_nextToken 154 = .ok (.ifCond .eq 7, 3) := dk_153 0 7 (dk_at dksX6_nextToken_6 18 rfl rfl)
theorem dX6_nextToken_157 : decode cX6_nextToken 157 = .ok (.iconst 4, 1) := dk_7 (dk_at dksX6_nextToken_6 21 rfl rfl)
theorem dX6_nextToken_158 : decode cX6_nextToken 158 = .ok (.goto 4, 3) := dk_167 0 4 (dk_at dksX6_nextToken_7 0 rfl rfl)
theorem dX6_nextToken_161 : decode cX6_nextToken 161 = .ok (.iconst 1, 1) := dk_4 (dk_at dksX6_nextToken_7 3 rfl rfl)
theorem dX6_nextToken_162 : decode cX6_nextToken 162 = .ok (.putfield 205, 3) := dk_181 0 205 (dk_at dksX6_nextToken_7 4 rfl rfl)
theorem dX6_nextToken_165 : decode cX6_nextToken 165 = .ok (.aload_n 0, 1) := dk_42 (dk_at dksX6_nextToken_7 7 rfl rfl)
theorem dX6_nextToken_166 : decode cX6_nextToken 166 = .ok (.aload_n 0, 1) := dk_42 (dk_at dksX6_nextToken_7 8 rfl rfl)
theorem dX6_nextToken_167 : decode cX6_nextToken 167 = .ok (.getfield 202, 3) := dk_180 0 202 (dk_at dksX6_nextToken_7 9 rfl rfl)
theorem dX6_nextToken_170 : decode cX6_nextToken 170 = .ok (.aload_n 0, 1) := dk_42 (dk_at dksX6_nextToken_7 12 rfl rfl)
theorem dX6_nextToken_171 : decode cX6_nextToken 171 = .ok (.getfield 208, 3) := dk_180 0 208 (dk_at dksX6_nextToken_7 13 rfl rfl)
theorem dX6_nextToken_174 : decode cX6_nextToken 174 = .ok (.isub, 1) := dk_100 (dk_at dksX6_nextToken_7 16 rfl rfl)
theorem dX6_nextToken_175 : decode cX6_nextToken 175 = .ok (.iconst 1, 1) := dk_4 (dk_at dksX6_nextToken_7 17 rfl rfl)
theorem dX6_nextToken_176 : decode cX6_nextToken 176 = .ok (.if_icmp .ne 15, 3) := dk_160 0 15 (dk_at dksX6_nextToken_7 18 rfl rfl)
theorem dX6_nextToken_179 : decode cX6_nextToken 179 = .ok (.aload_n 0, 1) := dk_42 (dk_at dksX6_nextToken_7 21 rfl rfl)
theorem dX6_nextToken_180 : decode cX6_nextToken 180 = .ok (.getfield 46, 3) := dk_180 0 46 (dk_at dksX6_nextToken_8 0 rfl rfl)
theorem dX6_nextToken_183 : decode cX6_nextToken 183 = .ok (.aload_n 0, 1) := dk_42 (dk_at dksX6_nextToken_8 3 rfl rfl)
theorem dX6_nextToken_184 : decode cX6_nextToken 184 = .ok (.getfield 208, 3) := dk_180 0 208 (dk_at dksX6_nextToken_8 4 rfl rfl)
theorem dX6_nextToken_187 : decode cX6_nextToken 187 = .ok (.iaload, 1) := dk_46 (dk_at dksX6_nextToken_8 7 rfl rfl)
theorem dX6_nextToken_188 : decode cX6_nextToken 188 = .ok (.goto 4, 3) := dk_167 0 4 (dk_at dksX6_nextToken_8 8 rfl rfl)
theorem dX6_nextToken_191 : decode cX6_nextToken 191 = .ok (.iconst 0, 1) := dk_3 (dk_at dksX6_nextToken_8 11 rfl rfl)
theorem dX6_nextToken_192 : decode cX6_nextToken 192 = .ok (.putfield 214, 3) := dk_181 0 214 (dk_at dksX6_nextToken_8 12 rfl rfl)
theorem dX6_nextToken_195 : decode cX6_nextToken 195 = .ok (.goto 144, 3) := dk_167 0 144 (dk_at dksX6_nextToken_8 15 rfl rfl)
theorem dX6_nextToken_198 : decode cX6_nextToken 198 = .ok (.aload_n 0, 1) := dk_42 (dk_at dksX6_nextToken_8 18 rfl rfl)
theorem dX6_nextToken_199 : decode cX6_nextToken 199 = .ok (.aload_n 0, 1) := dk_42 (dk_at dksX6_nextToken_8 19 rfl rfl)
theorem dX6_nextToken_200 : decode cX6_nextToken 200 = .ok (.getfield 208, 3) := dk_180 0 208 (dk_at dksX6_nextToken_8 20 rfl rfl)
theorem dX6_nextToken_203 : decode cX6_nextToken 203 = .ok (.invokevirtual 217, 3) := dk_182 0 217 (dk_at dksX6_nextToken_9 0 rfl rfl)
theorem dX6_nextToken_206 : decode cX6_nextToken 206 = .ok (.ifCond .eq 105, 3) := dk_153 0 105 (dk_at dksX6_nextToken_9 3 rfl rfl)
theorem dX6_nextToken_209 : decode cX6_nextToken 209 = .ok (.aload_n 0, 1) := dk_42 (dk_at dksX6_nextToken_9 6 rfl rfl)
theorem dX6_nextToken_210 : decode cX6_nextToken 210 = .ok (.iconst 0, 1) := dk_3 (dk_at dksX6_nextToken_9 7 rfl rfl)
theorem dX6_nextToken_211 : decode cX6_nextToken 211 = .ok (.putfield 220, 3) := dk_181 0 220 (dk_at dksX6_nextToken_9 8 rfl rfl)
theorem dX6_nextToken_214 : decode cX6_nextToken 214 = .ok (.aload_n 0, 1) := dk_42 (dk_at dksX6_nextToken_9 11 rfl rfl)
theorem dX6_nextToken_215 : decode cX6_nextToken 215 = .ok (.aload_n 0, 1) := dk_42 (dk_at dksX6_nextToken_9 12 rfl rfl)
theorem dX6_nextToken_216 : decode cX6_nextToken 216 = .ok (.getfield 202, 3) := dk_180 0 202 (dk_at dksX6_nextToken_9 13 rfl rfl)
theorem dX6_nextToken_219 : decode cX6_nextToken 219 = .ok (.invokevirtual 217, 3) := dk_182 0 217 (dk_at dksX6_nextToken_9 16 rfl rfl)
theorem dX6_nextToken_222 : decode cX6_nextToken 222 = .ok (.ifCond .eq 60, 3) := dk_153 0 60 (dk_at dksX6_nextToken_9 19 rfl rfl)
theorem dX6_nextToken_225 : decode cX6_nextToken 225 = .ok (.aload_n 0, 1) := dk_42 (dk_at dksX6_nextToken_9 22 rfl rfl)
theorem dX6_nextToken_226 : decode cX6_nextToken 226 = .ok (.aload_n 0, 1) := dk_42 (dk_at dksX6_nextToken_9 23 rfl rfl)
theorem dX6_nextToken_227 : decode cX6_nextToken 227 = .ok (.getfield 202, 3) := dk_180 0 202 (dk_at dksX6_nextToken_10 0 rfl rfl)
theorem dX6_nextToken_230 : decode cX6_nextToken 230 = .ok (.aload_n 0, 1) := dk_42 (dk_at dksX6_nextToken_10 3 rfl rfl)
theorem dX6_nextToken_231 : decode cX6_nextToken 231 = .ok (.getfield 208, 3) := dk_180 0 208 (dk_at dksX6_nextToken_10 4 rfl rfl)
theorem dX6_nextToken_234 : decode cX6_nextToken 234 = .ok (.isub, 1) := dk_100 (dk_at dksX6_nextToken_10 7 rfl rfl)
theorem dX6_nextToken_235 : decode cX6_nextToken 235 = .ok (.iconst 4, 1) := dk_7 (dk_at dksX6_nextToken_10 8 rfl rfl)
theorem dX6_nextToken_236 : decode cX6_nextToken 236 = .ok (.if_icmp .ge 26, 3) := dk_162 0 26 (dk_at dksX6_nextToken_10 9 rfl rfl)
theorem dX6_nextToken_239 : decode cX6_nextToken 239 = .ok (.bipush 10, 2) := dk_16 10 (dk_at dksX6_nextToken_10 12 rfl rfl)
theorem dX6_nextToken_241 : decode cX6_nextToken 241 = .ok (.aload_n 0, 1) := dk_42 (dk_at dksX6_nextToken_10 14 rfl rfl)
theorem dX6_nextToken_242 : decode cX6_nextToken 242 = .ok (.getfield 220, 3) := dk_180 0 220 (dk_at dksX6_nextToken_10 15 rfl rfl)
theorem dX6_nextToken_245 : decode cX6_nextToken 245 = .ok (.imul, 1) := dk_104 (dk_at dksX6_nextToken_10 18 rfl rfl)
theorem dX6_nextToken_246 : decode cX6_nextToken 246 = .ok (.aload_n 0, 1) := dk_42 (dk_at dksX6_nextToken_10 19 rfl rfl)
theorem dX6_nextToken_247 : decode cX6_nextToken 247 = .ok (.getfield 46, 3) := dk_180 0 46 (dk_at dksX6_nextToken_10 20 rfl rfl)
theorem dX6_nextToken_250 : decode cX6_nextToken 250 = .ok (.aload_n 0, 1) := dk_42 (dk_at dksX6_nextToken_10 23 rfl rfl)
theorem dX6_nextToken_251 : decode cX6_nextToken 251 = .ok (.getfield 202, 3) := dk_180 0 202 (dk_at dksX6_nextToken_11 0 rfl rfl)
theorem dX6_nextToken_254 : decode cX6_nextToken 254 = .ok (.iaload, 1) := dk_46 (dk_at dksX6_nextToken_11 3 rfl rfl)
theorem dX6_nextToken_255 : decode cX6_nextToken 255 = .ok (.iadd, 1) := dk_96 (dk_at dksX6_nextToken_11 4 rfl rfl)
theorem dX6_nextToken_256 : decode cX6_nextToken 256 = .ok (.bipush 48, 2) := dk_16 48 (dk_at dksX6_nextToken_11 5 rfl rfl)
theorem dX6_nextToken_258 : decode cX6_nextToken 258 = .ok (.isub, 1) := dk_100 (dk_at dksX6_nextToken_11 7 rfl rfl)
theorem dX6_nextToken_259 : decode cX6_nextToken 259 = .ok (.goto 7, 3) := dk_167 0 7 (dk_at dksX6_nextToken_11 8 rfl rfl)
theorem dX6_nextToken_262 : decode cX6_nextToken 262 = .ok (.aload_n 0, 1) := dk_42 (dk_at dksX6_nextToken_11 11 rfl rfl)
theorem dX6_nextToken_263 : decode cX6_nextToken 263 = .ok (.getfield 220, 3) := dk_180 0 220 (dk_at dksX6_nextToken_11 12 rfl rfl)
theorem dX6_nextToken_266 : decode cX6_nextToken 266 = .ok (.putfield 220, 3) := dk_181 0 220 (dk_at dksX6_nextToken_11 15 rfl rfl)
theorem dX6_nextToken_269 : decode cX6_nextToken 269 = .ok (.aload_n 0, 1) := dk_42 (dk_at dksX6_nextToken_11 18 rfl rfl)
theorem dX6_nextToken_270 : decode cX6_nextToken 270 = .ok (.dup, 1) := dk_89 (dk_at dksX6_nextToken_11 19 rfl rfl)
theorem dX6_nextToken_271 : decode cX6_nextToken 271 = .ok (.getfield 202, 3) := dk_180 0 202 (dk_at dksX6_nextToken_11 20 rfl rfl)
theorem dX6_nextToken_274 : decode cX6_nextToken 274 = .ok (.iconst 1, 1) := dk_4 (dk_at dksX6_nextToken_11 23 rfl rfl)
theorem dX6_nextToken_275 : decode cX6_nextToken 275 = .ok (.iadd, 1) := dk_96 (dk_at dksX6_nextToken_12 0 rfl rfl)
theorem dX6_nextToken_276 : decode cX6_nextToken 276 = .ok (.putfield 202, 3) := dk_181 0 202 (dk_at dksX6_nextToken_12 1 rfl rfl)
theorem dX6_nextToken_279 : decode cX6_nextToken 279 = .ok (.goto (-65), 3) := dk_167 255 191 (dk_at dksX6_nextToken_12 4 rfl rfl)
theorem dX6_nextToken_282 : decode cX6_nextToken 282 = .ok (.aload_n 0, 1) := dk_42 (dk_at dksX6_nextToken_12 7 rfl rfl)
theorem dX6_nextToken_283 : decode cX6_nextToken 283 = .ok (.iload_n 1, 1) := dk_27 (dk_at dksX6_nextToken_12 8 rfl rfl)
theorem dX6_nextToken_284 : decode cX6_nextToken 284 = .ok (.ifCond .ne 16, 3) := dk_154 0 16 (dk_at dksX6_nextToken_12 9 rfl rfl)
theorem dX6_nextToken_287 : decode cX6_nextToken 287 = .ok (.aload_n 0, 1) := dk_42 (dk_at dksX6_nextToken_12 12 rfl rfl)
theorem dX6_nextToken_288 : decode cX6_nextToken 288 = .ok (.getfield 202, 3) := dk_180 0 202 (dk_at dksX6_nextToken_12 13 rfl rfl)
theorem dX6_nextToken_291 : decode cX6_nextToken 291 = .ok (.aload_n 0, 1) := dk_42 (dk_at dksX6_nextToken_12 16 rfl rfl)
theorem dX6_nextToken_292 : decode cX6_nextToken 292 = .ok (.getfield 208, 3) := dk_180 0 208 (dk_at dksX6_nextToken_12 17 rfl rfl)
theorem dX6_nextToken_295 : decode cX6_nextToken 295 = .ok (.isub, 1) := dk_100 (dk_at dksX6_nextToken_12 20 rfl rfl)
theorem dX6_nextToken_296 : decode cX6_nextToken 296 = .ok (.iconst 4, 1) := dk_7 (dk_at dksX6_nextToken_12 21 rfl rfl)
theorem dX6_nextToken_297 : decode cX6_nextToken 297 = .ok (.if_icmp .le 7, 3) := dk_164 0 7 (dk_at dksX6_nextToken_13 0 rfl rfl)
theorem dX6_nextToken_300 : decode cX6_nextToken 300 = .ok (.iconst 4, 1) := dk_7 (dk_at dksX6_nextToken_13 3 rfl rfl)
theorem dX6_nextToken_301 : decode cX6_nextToken 301 = .ok (.goto 4, 3) := dk_167 0 4 (dk_at dksX6_nextToken_13 4 rfl rfl)
theorem dX6_nextToken_304 : decode cX6_nextToken 304 = .ok (.iconst 2, 1) := dk_5 (dk_at dksX6_nextToken_13 7 rfl rfl)
theorem dX6_nextToken_305 : decode cX6_nextToken 305 = .ok (.putfield 205, 3) := dk_181 0 205 (dk_at dksX6_nextToken_13 8 rfl rfl)
theorem dX6_nextToken_308 : decode cX6_nextToken 308 = .ok (.goto 31, 3) := dk_167 0 31 (dk_at dksX6_nextToken_13 11 rfl rfl)
theorem dX6_nextToken_311 : decode cX6_nextToken 311 = .ok (.aload_n 0, 1) := dk_42 (dk_at dksX6_nextToken_13 14 rfl rfl)
theorem dX6_nextToken_312 : decode cX6_nextToken 312 = .ok (.iconst 3, 1) := dk_6 (dk_at dksX6_nextToken_13 15 rfl rfl)
theorem dX6_nextToken_313 : decode cX6_nextToken 313 = .ok (.putfield 205, 3) := dk_181 0 205 (dk_at dksX6_nextToken_13 16 rfl rfl)
theorem dX6_nextToken_316 : decode cX6_nextToken 316 = .ok (.aload_n 0, 1) := dk_42 (dk_at dksX6_nextToken_13 19 rfl rfl)
theorem dX6_nextToken_317 : decode cX6_nextToken 317 = .ok (.aload_n 0, 1) := dk_42 (dk_at dksX6_nextToken_13 20 rfl rfl)
theorem dX6_nextToken_318 : decode cX6_nextToken 318 = .ok (.getfield 46, 3) := dk_180 0 46 (dk_at dksX6_nextToken_13 21 rfl rfl)
theorem dX6_nextToken_321 : decode cX6_nextToken 321 = .ok (.aload_n 0, 1) := dk_42 (dk_at dksX6_nextToken_14 0 rfl rfl)
theorem dX6_nextToken_322 : decode cX6_nextToken 322 = .ok (.getfield 208, 3) := dk_180 0 208 (dk_at dksX6_nextToken_14 1 rfl rfl)
theorem dX6_nextToken_325 : decode cX6_nextToken 325 = .ok (.iaload, 1) := dk_46 (dk_at dksX6_nextToken_14 4 rfl rfl)
theorem dX6_nextToken_326 : decode cX6_nextToken 326 = .ok (.putfield 214, 3) := dk_181 0 214 (dk_at dksX6_nextToken_14 5 rfl rfl)
theorem dX6_nextToken_329 : decode cX6_nextToken 329 = .ok (.aload_n 0, 1) := dk_42 (dk_at dksX6_nextToken_14 8 rfl rfl)
theorem dX6_nextToken_330 : decode cX6_nextToken 330 = .ok (.dup, 1) := dk_89 (dk_at dksX6_nextToken_14 9 rfl rfl)
theorem dX6_nextToken_331 : decode cX6_nextToken 331 = .ok (.getfield 202, 3) := dk_180 0 202 (dk_at dksX6_nextToken_14 10 rfl rfl)
theorem dX6_nextToken_334 : decode cX6_nextToken 334 = .ok (.iconst 1, 1) := dk_4 (dk_at dksX6_nextToken_14 13 rfl rfl)
theorem dX6_nextToken_335 : decode cX6_nextToken 335 = .ok (.iadd, 1) := dk_96 (dk_at dksX6_nextToken_14 14 rfl rfl)
theorem dX6_nextToken_336 : decode cX6_nextToken 336 = .ok (.putfield 202, 3) := dk_181 0 202 (dk_at dksX6_nextToken_14 15 rfl rfl)
theorem dX6_nextToken_339 : decode cX6_nextToken 339 = .ok (.return_, 1) := dk_177 (dk_at dksX6_nextToken_14 18 rfl rfl)
abbrev cX6_isLetter : ByteArray := prog_19_method_58_code
def yX6_isLetter : MethodName := ⟨RX6, "isLetter", "(I)Z"⟩
def dkwX6_isLetter_1 : List UInt8 := [153, 0, 7, 4, 167, 0, 4, 3, 172]
abbrev dktX6_isLetter_1 : List UInt8 := dkwX6_isLetter_1 ++ []
def dkwX6_isLetter_0 : List UInt8 := [27, 42, 180, 0, 190, 162, 0, 26, 42, 180, 0, 46, 27, 46, 133, 20, 0, 194, 20, 0, 196, 184, 0, 65]
abbrev dktX6_isLetter_0 : List UInt8 := dkwX6_isLetter_0 ++ dktX6_isLetter_1
theorem dksX6_isLetter_0 : cX6_isLetter.data.toList.drop 0 = dktX6_isLetter_0 := by decide +kernel
theorem dksX6_isLetter_1 : cX6_isLetter.data.toList.drop 24 = dktX6_isLetter_1 := dk_seg dksX6_isLetter_0 24 rfl rfl
theorem dX6_isLetter_0 : decode cX6_isLetter 0 = .ok (.iload_n 1, 1) := dk_27 (dk_at dksX6_isLetter_0 0 rfl rfl)
theorem dX6_isLetter_1 : decode cX6_isLetter 1 = .ok (.aload_n 0, 1) := dk_42 (dk_at dksX6_isLetter_0 1 rfl rfl)
theorem dX6_isLetter_2 : decode cX6_isLetter 2 = .ok (.getfield 190, 3) := dk_180 0 190 (dk_at dksX6_isLetter_0 2 rfl rfl)
theorem dX6_isLetter_5 : decode cX6_isLetter 5 = .ok (.if_icmp .ge 26, 3) := dk_162 0 26 (dk_at dksX6_isLetter_0 5 rfl rfl)
theorem dX6_isLetter_8 : decode cX6_isLetter 8 = .ok (.aload_n 0, 1) := dk_42 (dk_at dksX6_isLetter_0 8 rfl rfl)
theorem dX6_isLetter_9 : decode cX6_isLetter 9 = .ok (.getfield 46, 3) := dk_180 0 46 (dk_at dksX6_isLetter_0 9 rfl rfl)
theorem dX6_isLetter_12 : decode cX6_isLetter 12 = .ok (.iload_n 1, 1) := dk_27 (dk_at dksX6_isLetter_0 12 rfl rfl)
theorem dX6_isLetter_13 : decode cX6_isLetter 13 = .ok (.iaload, 1) := dk_46 (dk_at dksX6_isLetter_0 13 rfl rfl)
theorem dX6_isLetter_14 : decode cX6_isLetter 14 = .ok (.i2l, 1) := dk_133 (dk_at dksX6_isLetter_0 14 rfl rfl)
theorem dX6_isLetter_15 : decode cX6_isLetter 15 = .ok (.ldc2_w 194, 3) := dk_20 0 194 (dk_at dksX6_isLetter_0 15 rfl rfl)
theorem dX6_isLetter_18 : decode cX6_isLetter 18 = .ok (.ldc2_w 196, 3) := dk_20 0 196 (dk_at dksX6_isLetter_0 18 rfl rfl)
theorem dX6_isLetter_21 : decode cX6_isLetter 21 = .ok (.invokestatic 65, 3) := dk_184 0 65 (dk_at dksX6_isLetter_0 21 rfl rfl)
theorem dX6_isLetter_24 : decode cX6_isLetter 24 = .ok (.ifCond .eq 7, 3) := dk_153 0 7 (dk_at dksX6_isLetter_1 0 rfl rfl)
theorem dX6_isLetter_27 : decode cX6_isLetter 27 = .ok (.iconst 1, 1) := dk_4 (dk_at dksX6_isLetter_1 3 rfl rfl)
theorem dX6_isLetter_28 : decode cX6_isLetter 28 = .ok (.goto 4, 3) := dk_167 0 4 (dk_at dksX6_isLetter_1 4 rfl rfl)
theorem dX6_isLetter_31 : decode cX6_isLetter 31 = .ok (.iconst 0, 1) := dk_3 (dk_at dksX6_isLetter_1 7 rfl rfl)
theorem dX6_isLetter_32 : decode cX6_isLetter 32 = .ok (.ireturn, 1) := dk_172 (dk_at dksX6_isLetter_1 8 rfl rfl)
abbrev cX6_isDigit : ByteArray := prog_19_method_59_code
def yX6_isDigit : MethodName := ⟨RX6, "isDigit", "(I)Z"⟩
def dkwX6_isDigit_1 : List UInt8 := [153, 0, 7, 4, 167, 0, 4, 3, 172]
abbrev dktX6_isDigit_1 : List UInt8 := dkwX6_isDigit_1 ++ []
def dkwX6_isDigit_0 : List UInt8 := [27, 42, 180, 0, 190, 162, 0, 26, 42, 180, 0, 46, 27, 46, 133, 20, 0, 198, 20, 0, 200, 184, 0, 65]
abbrev dktX6_isDigit_0 : List UInt8 := dkwX6_isDigit_0 ++ dktX6_isDigit_1
theorem dksX6_isDigit_0 : cX6_isDigit.data.toList.drop 0 = dktX6_isDigit_0 := by decide +kernel
theorem dksX6_isDigit_1 : cX6_isDigit.data.toList.drop 24 = dktX6_isDigit_1 := dk_seg dksX6_isDigit_0 24 rfl rfl
theorem dX6_isDigit_0 : decode cX6_isDigit 0 = .ok (.iload_n 1, 1) := dk_27 (dk_at dksX6_isDigit_0 0 rfl rfl)
theorem dX6_isDigit_1 : decode cX6_isDigit 1 = .ok (.aload_n 0, 1) := dk_42 (dk_at dksX6_isDigit_0 1 rfl rfl)
theorem dX6_isDigit_2 : decode cX6_isDigit 2 = .ok (.getfield 190, 3) := dk_180 0 190 (dk_at dksX6_isDigit_0 2 rfl rfl)
theorem dX6_isDigit_5 : decode cX6_isDigit 5 = .ok (.if_icmp .ge 26, 3) := dk_162 0 26 (dk_at dksX6_isDigit_0 5 rfl rfl)
theorem dX6_isDigit_8 : decode cX6_isDigit 8 = .ok (.aload_n 0, 1) := dk_42 (dk_at dksX6_isDigit_0 8 rfl rfl)
theorem dX6_isDigit_9 : decode cX6_isDigit 9 = .ok (.getfield 46, 3) := dk_180 0 46 (dk_at dksX6_isDigit_0 9 rfl rfl)
theorem dX6_isDigit_12 : decode cX6_isDigit 12 = .ok (.iload_n 1, 1) := dk_27 (dk_at dksX6_isDigit_0 12 rfl rfl)
theorem dX6_isDigit_13 : decode cX6_isDigit 13 = .ok (.iaload, 1) := dk_46 (dk_at dksX6_isDigit_0 13 rfl rfl)
theorem dX6_isDigit_14 : decode cX6_isDigit 14 = .ok (.i2l, 1) := dk_133 (dk_at dksX6_isDigit_0 14 rfl rfl)
theorem dX6_isDigit_15 : decode cX6_isDigit 15 = .ok (.ldc2_w 198, 3) := dk_20 0 198 (dk_at dksX6_isDigit_0 15 rfl rfl)
theorem dX6_isDigit_18 : decode cX6_isDigit 18 = .ok (.ldc2_w 200, 3) := dk_20 0 200 (dk_at dksX6_isDigit_0 18 rfl rfl)
theorem dX6_isDigit_21 : decode cX6_isDigit 21 = .ok (.invokestatic 65, 3) := dk_184 0 65 (dk_at dksX6_isDigit_0 21 rfl rfl)
theorem dX6_isDigit_24 : decode cX6_isDigit 24 = .ok (.ifCond .eq 7, 3) := dk_153 0 7 (dk_at dksX6_isDigit_1 0 rfl rfl)
theorem dX6_isDigit_27 : decode cX6_isDigit 27 = .ok (.iconst 1, 1) := dk_4 (dk_at dksX6_isDigit_1 3 rfl rfl)
theorem dX6_isDigit_28 : decode cX6_isDigit 28 = .ok (.goto 4, 3) := dk_167 0 4 (dk_at dksX6_isDigit_1 4 rfl rfl)
theorem dX6_isDigit_31 : decode cX6_isDigit 31 = .ok (.iconst 0, 1) := dk_3 (dk_at dksX6_isDigit_1 7 rfl rfl)
theorem dX6_isDigit_32 : decode cX6_isDigit 32 = .ok (.ireturn, 1) := dk_172 (dk_at dksX6_isDigit_1 8 rfl rfl)
abbrev cX6_key : ByteArray := prog_19_method_63_code
def yX6_key : MethodName := ⟨RX6, "key", "()I"⟩
def dkwX6_key_2 : List UInt8 := [153, 0, 7, 5, 167, 0, 4, 2, 172]
abbrev dktX6_key_2 : List UInt8 := dkwX6_key_2 ++ []
def dkwX6_key_1 : List UInt8 := [16, 116, 182, 0, 223, 153, 0, 5, 4, 172, 42, 16, 98, 16, 111, 16, 108, 16, 100, 182, 0, 223]
abbrev dktX6_key_1 : List UInt8 := dkwX6_key_1 ++ dktX6_key_2
def dkwX6_key_0 : List UInt8 := [42, 16, 109, 16, 97, 16, 121, 3, 182, 0, 223, 153, 0, 5, 3, 172, 42, 16, 99, 16, 111, 16, 115]
abbrev dktX6_key_0 : List UInt8 := dkwX6_key_0 ++ dktX6_key_1
theorem dksX6_key_0 : cX6_key.data.toList.drop 0 = dktX6_key_0 := by decide +kernel
theorem dksX6_key_1 : cX6_key.data.toList.drop 23 = dktX6_key_1 := dk_seg dksX6_key_0 23 rfl rfl
theorem dksX6_key_2 : cX6_key.data.toList.drop 45 = dktX6_key_2 := dk_seg dksX6_key_1 22 rfl rfl
theorem dX6_key_0 : decode cX6_key 0 = .ok (.aload_n 0, 1) := dk_42 (dk_at dksX6_key_0 0 rfl rfl)
theorem dX6_key_1 : decode cX6_key 1 = .ok (.bipush 109, 2) := dk_16 109 (dk_at dksX6_key_0 1 rfl rfl)
theorem dX6_key_3 : decode cX6_key 3 = .ok (.bipush 97, 2) := dk_16 97 (dk_at dksX6_key_0 3 rfl rfl)
theorem dX6_key_5 : decode cX6_key 5 = .ok (.bipush 121, 2) := dk_16 121 (dk_at dksX6_key_0 5 rfl rfl)
theorem dX6_key_7 : decode cX6_key 7 = .ok (.iconst 0, 1) := dk_3 (dk_at dksX6_key_0 7 rfl rfl)
theorem dX6_key_8 : decode cX6_key 8 = .ok (.invokevirtual 223, 3) := dk_182 0 223 (dk_at dksX6_key_0 8 rfl rfl)
theorem dX6_key_11 : decode cX6_key 11 = .ok (.ifCond .eq 5, 3) := dk_153 0 5 (dk_at dksX6_key_0 11 rfl rfl)
theorem dX6_key_14 : decode cX6_key 14 = .ok (.iconst 0, 1) := dk_3 (dk_at dksX6_key_0 14 rfl rfl)
theorem dX6_key_15 : decode cX6_key 15 = .ok (.ireturn, 1) := dk_172 (dk_at dksX6_key_0 15 rfl rfl)
theorem dX6_key_16 : decode cX6_key 16 = .ok (.aload_n 0, 1) := dk_42 (dk_at dksX6_key_0 16 rfl rfl)
theorem dX6_key_17 : decode cX6_key 17 = .ok (.bipush 99, 2) := dk_16 99 (dk_at dksX6_key_0 17 rfl rfl)
theorem dX6_key_19 : decode cX6_key 19 = .ok (.bipush 111, 2) := dk_16 111 (dk_at dksX6_key_0 19 rfl rfl)
theorem dX6_key_21 : decode cX6_key 21 = .ok (.bipush 115, 2) := dk_16 115 (dk_at dksX6_key_0 21 rfl rfl)
theorem dX6_key_23 : decode cX6_key 23 = .ok (.bipush 116, 2) := dk_16 116 (dk_at dksX6_key_1 0 rfl rfl)
theorem dX6_key_25 : decode cX6_key 25 = .ok (.invokevirtual 223, 3) := dk_182 0 223 (dk_at dksX6_key_1 2 rfl rfl)
theorem dX6_key_28 : decode cX6_key 28 = .ok (.ifCond .eq 5, 3) := dk_153 0 5 (dk_at dksX6_key_1 5 rfl rfl)
theorem dX6_key_31 : decode cX6_key 31 = .ok (.iconst 1, 1) := dk_4 (dk_at dksX6_key_1 8 rfl rfl)
theorem dX6_key_32 : decode cX6_key 32 = .ok (.ireturn, 1) := dk_172 (dk_at dksX6_key_1 9 rfl rfl)
theorem dX6_key_33 : decode cX6_key 33 = .ok (.aload_n 0, 1) := dk_42 (dk_at dksX6_key_1 10 rfl rfl)
theorem dX6_key_34 : decode cX6_key 34 = .ok (.bipush 98, 2) := dk_16 98 (dk_at dksX6_key_1 11 rfl rfl)
theorem dX6_key_36 : decode cX6_key 36 = .ok (.bipush 111, 2) := dk_16 111 (dk_at dksX6_key_1 13 rfl rfl)
theorem dX6_key_38 : decode cX6_key 38 = .ok (.bipush 108, 2) := dk_16 108 (dk_at dksX6_key_1 15 rfl rfl)
theorem dX6_key_40 : decode cX6_key 40 = .ok (.bipush 100, 2) := dk_16 100 (dk_at dksX6_key_1 17 rfl rfl)
theorem dX6_key_42 : decode cX6_key 42 = .ok (.invokevirtual 223, 3) := dk_182 0 223 (dk_at dksX6_key_1 19 rfl rfl)
theorem dX6_key_45 : decode cX6_key 45 = .ok (.ifCond .eq 7, 3) := dk_153 0 7 (dk_at dksX6_key_2 0 rfl rfl)
theorem dX6_key_48 : decode cX6_key 48 = .ok (.iconst 2, 1) := dk_5 (dk_at dksX6_key_2 3 rfl rfl)
theorem dX6_key_49 : decode cX6_key 49 = .ok (.goto 4, 3) := dk_167 0 4 (dk_at dksX6_key_2 4 rfl rfl)
theorem dX6_key_52 : decode cX6_key 52 = .ok (.iconst (-1), 1) := dk_2 (dk_at dksX6_key_2 7 rfl rfl)
theorem dX6_key_53 : decode cX6_key 53 = .ok (.ireturn, 1) := dk_172 (dk_at dksX6_key_2 8 rfl rfl)
abbrev cX6_isWordAt : ByteArray := prog_19_method_62_code
def yX6_isWordAt : MethodName := ⟨RX6, "isWordAt", "(IIII)Z"⟩
def dkwX6_isWordAt_4 : List UInt8 := [160, 0, 7, 4, 167, 0, 4, 3, 172]
abbrev dktX6_isWordAt_4 : List UInt8 := dkwX6_isWordAt_4 ++ []
def dkwX6_isWordAt_3 : List UInt8 := [46, 29, 160, 0, 28, 21, 4, 153, 0, 19, 42, 180, 0, 46, 42, 180, 0, 208, 6, 96, 46, 21, 4]
abbrev dktX6_isWordAt_3 : List UInt8 := dkwX6_isWordAt_3 ++ dktX6_isWordAt_4
def dkwX6_isWordAt_2 : List UInt8 := [180, 0, 46, 42, 180, 0, 208, 4, 96, 46, 28, 160, 0, 43, 42, 180, 0, 46, 42, 180, 0, 208, 5, 96]
abbrev dktX6_isWordAt_2 : List UInt8 := dkwX6_isWordAt_2 ++ dktX6_isWordAt_3
def dkwX6_isWordAt_1 : List UInt8 := [42, 180, 0, 208, 100, 21, 5, 160, 0, 71, 42, 180, 0, 46, 42, 180, 0, 208, 46, 27, 160, 0, 58, 42]
abbrev dktX6_isWordAt_1 : List UInt8 := dkwX6_isWordAt_1 ++ dktX6_isWordAt_2
def dkwX6_isWordAt_0 : List UInt8 := [21, 4, 154, 0, 7, 6, 167, 0, 4, 7, 54, 5, 42, 180, 0, 205, 4, 160, 0, 85, 42, 180, 0, 202]
abbrev dktX6_isWordAt_0 : List UInt8 := dkwX6_isWordAt_0 ++ dktX6_isWordAt_1
theorem dksX6_isWordAt_0 : cX6_isWordAt.data.toList.drop 0 = dktX6_isWordAt_0 := by decide +kernel
theorem dksX6_isWordAt_1 : cX6_isWordAt.data.toList.drop 24 = dktX6_isWordAt_1 := dk_seg dksX6_isWordAt_0 24 rfl rfl
theorem dksX6_isWordAt_2 : cX6_isWordAt.data.toList.drop 48 = dktX6_isWordAt_2 := dk_seg dksX6_isWordAt_1 24 rfl rfl
theorem dksX6_isWordAt_3 : cX6_isWordAt.data.toList.drop 72 = dktX6_isWordAt_3 := dk_seg dksX6_isWordAt_2 24 rfl rfl
theorem dksX6_isWordAt_4 : cX6_isWordAt.data.toList.drop 95 = dktX6_isWordAt_4 := dk_seg dksX6_isWordAt_3 23 rfl rfl
theorem dX6_isWordAt_0 : decode cX6_isWordAt 0 = .ok (.iload 4, 2) := dk_21 4 (dk_at dksX6_isWordAt_0 0 rfl rfl)
theorem dX6_isWordAt_2 : decode cX6_isWordAt 2 = .ok (.ifCond .ne 7, 3) := dk_154 0 7 (dk_at dksX6_isWordAt_0 2 rfl rfl)
theorem dX6_isWordAt_5 : decode cX6_isWordAt 5 = .ok (.iconst 3, 1) := dk_6 (dk_at dksX6_isWordAt_0 5 rfl rfl)
theorem dX6_isWordAt_6 : decode cX6_isWordAt 6 = .ok (.goto 4, 3) := dk_167 0 4 (dk_at dksX6_isWordAt_0 6 rfl rfl)
theorem dX6_isWordAt_9 : decode cX6_isWordAt 9 = .ok (.iconst 4, 1) := dk_7 (dk_at dksX6_isWordAt_0 9 rfl rfl)
theorem dX6_isWordAt_10 : decode cX6_isWordAt 10 = .ok (.istore 5, 2) := dk_54 5 (dk_at dksX6_isWordAt_0 10 rfl rfl)
theorem dX6_isWordAt_12 : decode cX6_isWordAt 12 = .ok (.aload_n 0, 1) := dk_42 (dk_at dksX6_isWordAt_0 12 rfl rfl)
theorem dX6_isWordAt_13 : decode cX6_isWordAt 13 = .ok (.getfield 205, 3) := dk_180 0 205 (dk_at dksX6_isWordAt_0 13 rfl rfl)
theorem dX6_isWordAt_16 : decode cX6_isWordAt 16 = .ok (.iconst 1, 1) := dk_4 (dk_at dksX6_isWordAt_0 16 rfl rfl)
theorem dX6_isWordAt_17 : decode cX6_isWordAt 17 = .ok (.if_icmp .ne 85, 3) := dk_160 0 85 (dk_at dksX6_isWordAt_0 17 rfl rfl)
theorem dX6_isWordAt_20 : decode cX6_isWordAt 20 = .ok (.aload_n 0, 1) := dk_42 (dk_at dksX6_isWordAt_0 20 rfl rfl)
theorem dX6_isWordAt_21 : decode cX6_isWordAt 21 = .ok (.getfield 202, 3) := dk_180 0 202 (dk_at dksX6_isWordAt_0 21 rfl rfl)
theorem dX6_isWordAt_24 : decode cX6_isWordAt 24 = .ok (.aload_n 0, 1) := dk_42 (dk_at dksX6_isWordAt_1 0 rfl rfl)
theorem dX6_isWordAt_25 : decode cX6_isWordAt 25 = .ok (.getfield 208, 3) := dk_180 0 208 (dk_at dksX6_isWordAt_1 1 rfl rfl)
theorem dX6_isWordAt_28 : decode cX6_isWordAt 28 = .ok (.isub, 1) := dk_100 (dk_at dksX6_isWordAt_1 4 rfl rfl)
theorem dX6_isWordAt_29 : decode cX6_isWordAt 29 = .ok (.iload 5, 2) := dk_21 5 (dk_at dksX6_isWordAt_1 5 rfl rfl)
theorem dX6_isWordAt_31 : decode cX6_isWordAt 31 = .ok (.if_icmp .ne 71, 3) := dk_160 0 71 (dk_at dksX6_isWordAt_1 7 rfl rfl)
theorem dX6_isWordAt_34 : decode cX6_isWordAt 34 = .ok (.aload_n 0, 1) := dk_42 (dk_at dksX6_isWordAt_1 10 rfl rfl)
theorem dX6_isWordAt_35 : decode cX6_isWordAt 35 = .ok (.getfield 46, 3) := dk_180 0 46 (dk_at dksX6_isWordAt_1 11 rfl rfl)
theorem dX6_isWordAt_38 : decode cX6_isWordAt 38 = .ok (.aload_n 0, 1) := dk_42 (dk_at dksX6_isWordAt_1 14 rfl rfl)
theorem dX6_isWordAt_39 : decode cX6_isWordAt 39 = .ok (.getfield 208, 3) := dk_180 0 208 (dk_at dksX6_isWordAt_1 15 rfl rfl)
theorem dX6_isWordAt_42 : decode cX6_isWordAt 42 = .ok (.iaload, 1) := dk_46 (dk_at dksX6_isWordAt_1 18 rfl rfl)
theorem dX6_isWordAt_43 : decode cX6_isWordAt 43 = .ok (.iload_n 1, 1) := dk_27 (dk_at dksX6_isWordAt_1 19 rfl rfl)
theorem dX6_isWordAt_44 : decode cX6_isWordAt 44 = .ok (.if_icmp .ne 58, 3) := dk_160 0 58 (dk_at dksX6_isWordAt_1 20 rfl rfl)
theorem dX6_isWordAt_47 : decode cX6_isWordAt 47 = .ok (.aload_n 0, 1) := dk_42 (dk_at dksX6_isWordAt_1 23 rfl rfl)
theorem dX6_isWordAt_48 : decode cX6_isWordAt 48 = .ok (.getfield 46, 3) := dk_180 0 46 (dk_at dksX6_isWordAt_2 0 rfl rfl)
theorem dX6_isWordAt_51 : decode cX6_isWordAt 51 = .ok (.aload_n 0, 1) := dk_42 (dk_at dksX6_isWordAt_2 3 rfl rfl)
theorem dX6_isWordAt_52 : decode cX6_isWordAt 52 = .ok (.getfield 208, 3) := dk_180 0 208 (dk_at dksX6_isWordAt_2 4 rfl rfl)
theorem dX6_isWordAt_55 : decode cX6_isWordAt 55 = .ok (.iconst 1, 1) := dk_4 (dk_at dksX6_isWordAt_2 7 rfl rfl)
theorem dX6_isWordAt_56 : decode cX6_isWordAt 56 = .ok (.iadd, 1) := dk_96 (dk_at dksX6_isWordAt_2 8 rfl rfl)
theorem dX6_isWordAt_57 : decode cX6_isWordAt 57 = .ok (.iaload, 1) := dk_46 (dk_at dksX6_isWordAt_2 9 rfl rfl)
theorem dX6_isWordAt_58 : decode cX6_isWordAt 58 = .ok (.iload_n 2, 1) := dk_28 (dk_at dksX6_isWordAt_2 10 rfl rfl)
theorem dX6_isWordAt_59 : decode cX6_isWordAt 59 = .ok (.if_icmp .ne 43, 3) := dk_160 0 43 (dk_at dksX6_isWordAt_2 11 rfl rfl)
theorem dX6_isWordAt_62 : decode cX6_isWordAt 62 = .ok (.aload_n 0, 1) := dk_42 (dk_at dksX6_isWordAt_2 14 rfl rfl)
theorem dX6_isWordAt_63 : decode cX6_isWordAt 63 = .ok (.getfield 46, 3) := dk_180 0 46 (dk_at dksX6_isWordAt_2 15 rfl rfl)
theorem dX6_isWordAt_66 : decode cX6_isWordAt 66 = .ok (.aload_n 0, 1) := dk_42 (dk_at dksX6_isWordAt_2 18 rfl rfl)
theorem dX6_isWordAt_67 : decode cX6_isWordAt 67 = .ok (.getfield 208, 3) := dk_180 0 208 (dk_at dksX6_isWordAt_2 19 rfl rfl)
theorem dX6_isWordAt_70 : decode cX6_isWordAt 70 = .ok (.iconst 2, 1) := dk_5 (dk_at dksX6_isWordAt_2 22 rfl rfl)
theorem dX6_isWordAt_71 : decode cX6_isWordAt 71 = .ok (.iadd, 1) := dk_96 (dk_at dksX6_isWordAt_2 23 rfl rfl)
theorem dX6_isWordAt_72 : decode cX6_isWordAt 72 = .ok (.iaload, 1) := dk_46 (dk_at dksX6_isWordAt_3 0 rfl rfl)
theorem dX6_isWordAt_73 : decode cX6_isWordAt 73 = .ok (.iload_n 3, 1) := dk_29 (dk_at dksX6_isWordAt_3 1 rfl rfl)
theorem dX6_isWordAt_74 : decode cX6_isWordAt 74 = .ok (.if_icmp .ne 28, 3) := dk_160 0 28 (dk_at dksX6_isWordAt_3 2 rfl rfl)
theorem dX6_isWordAt_77 : decode cX6_isWordAt 77 = .ok (.iload 4, 2) := dk_21 4 (dk_at dksX6_isWordAt_3 5 rfl rfl)
theorem dX6_isWordAt_79 : decode cX6_isWordAt 79 = .ok (.ifCond .eq 19, 3) := dk_153 0 19 (dk_at dksX6_isWordAt_3 7 rfl rfl)
theorem dX6_isWordAt_82 : decode cX6_isWordAt 82 = .ok (.aload_n 0, 1) := dk_42 (dk_at dksX6_isWordAt_3 10 rfl rfl)
theorem dX6_isWordAt_83 : decode cX6_isWordAt 83 = .ok (.getfield 46, 3) := dk_180 0 46 (dk_at dksX6_isWordAt_3 11 rfl rfl)
theorem dX6_isWordAt_86 : decode cX6_isWordAt 86 = .ok (.aload_n 0, 1) := dk_42 (dk_at dksX6_isWordAt_3 14 rfl rfl)
theorem dX6_isWordAt_87 : decode cX6_isWordAt 87 = .ok (.getfield 208, 3) := dk_180 0 208 (dk_at dksX6_isWordAt_3 15 rfl rfl)
theorem dX6_isWordAt_90 : decode cX6_isWordAt 90 = .ok (.iconst 3, 1) := dk_6 (dk_at dksX6_isWordAt_3 18 rfl rfl)
theorem dX6_isWordAt_91 : decode cX6_isWordAt 91 = .ok (.iadd, 1) := dk_96 (dk_at dksX6_isWordAt_3 19 rfl rfl)
theorem dX6_isWordAt_92 : decode cX6_isWordAt 92 = .ok (.iaload, 1) := dk_46 (dk_at dksX6_isWordAt_3 20 rfl rfl)
theorem dX6_isWordAt_93 : decode cX6_isWordAt 93 = .ok (.iload 4, 2) := dk_21 4 (dk_at dksX6_isWordAt_3 21 rfl rfl)
theorem dX6_isWordAt_95 : decode cX6_isWordAt 95 = .ok (.if_icmp .ne 7, 3) := dk_160 0 7 (dk_at dksX6_isWordAt_4 0 rfl rfl)
theorem dX6_isWordAt_98 : decode cX6_isWordAt 98 = .ok (.iconst 1, 1) := dk_4 (dk_at dksX6_isWordAt_4 3 rfl rfl)
theorem dX6_isWordAt_99 : decode cX6_isWordAt 99 = .ok (.goto 4, 3) := dk_167 0 4 (dk_at dksX6_isWordAt_4 4 rfl rfl)
theorem dX6_isWordAt_102 : decode cX6_isWordAt 102 = .ok (.iconst 0, 1) := dk_3 (dk_at dksX6_isWordAt_4 7 rfl rfl)
theorem dX6_isWordAt_103 : decode cX6_isWordAt 103 = .ok (.ireturn, 1) := dk_172 (dk_at dksX6_isWordAt_4 8 rfl rfl)
abbrev cX6_either : ByteArray := prog_19_method_66_code
def yX6_either : MethodName := ⟨RX6, "either", "(I)Z"⟩
def dkwX6_either_1 : List UInt8 := [27, 182, 0, 233, 154, 0, 5, 3, 172, 42, 5, 16, 124, 182, 0, 242, 167, 255, 226, 4, 172]
abbrev dktX6_either_1 : List UInt8 := dkwX6_either_1 ++ []
def dkwX6_either_0 : List UInt8 := [42, 27, 182, 0, 233, 154, 0, 5, 3, 172, 42, 16, 124, 182, 0, 236, 153, 0, 27, 42, 182, 0, 239, 42]
abbrev dktX6_either_0 : List UInt8 := dkwX6_either_0 ++ dktX6_either_1
theorem dksX6_either_0 : cX6_either.data.toList.drop 0 = dktX6_either_0 := by decide +kernel
theorem dksX6_either_1 : cX6_either.data.toList.drop 24 = dktX6_either_1 := dk_seg dksX6_either_0 24 rfl rfl
theorem dX6_either_0 : decode cX6_either 0 = .ok (.aload_n 0, 1) := dk_42 (dk_at dksX6_either_0 0 rfl rfl)
theorem dX6_either_1 : decode cX6_either 1 = .ok (.iload_n 1, 1) := dk_27 (dk_at dksX6_either_0 1 rfl rfl)
theorem dX6_either_2 : decode cX6_either 2 = .ok (.invokevirtual 233, 3) := dk_182 0 233 (dk_at dksX6_either_0 2 rfl rfl)
theorem dX6_either_5 : decode cX6_either 5 = .ok (.ifCond .ne 5, 3) := dk_154 0 5 (dk_at dksX6_either_0 5 rfl rfl)
theorem dX6_either_8 : decode cX6_either 8 = .ok (.iconst 0, 1) := dk_3 (dk_at dksX6_either_0 8 rfl rfl)
theorem dX6_either_9 : decode cX6_either 9 = .ok (.ireturn, 1) := dk_172 (dk_at dksX6_either_0 9 rfl rfl)
theorem dX6_either_10 : decode cX6_either 10 = .ok (.aload_n 0, 1) := dk_42 (dk_at dksX6_either_0 10 rfl rfl)
theorem dX6_either_11 : decode cX6_either 11 = .ok (.bipush 124, 2) := dk_16 124 (dk_at dksX6_either_0 11 rfl rfl)
theorem dX6_either_13 : decode cX6_either 13 = .ok (.invokevirtual 236, 3) := dk_182 0 236 (dk_at dksX6_either_0 13 rfl rfl)
theorem dX6_either_16 : decode cX6_either 16 = .ok (.ifCond .eq 27, 3) := dk_153 0 27 (dk_at dksX6_either_0 16 rfl rfl)
theorem dX6_either_19 : decode cX6_either 19 = .ok (.aload_n 0, 1) := dk_42 (dk_at dksX6_either_0 19 rfl rfl)
theorem dX6_either_20 : decode cX6_either 20 = .ok (.invokevirtual 239, 3) := dk_182 0 239 (dk_at dksX6_either_0 20 rfl rfl)
theorem dX6_either_23 : decode cX6_either 23 = .ok (.aload_n 0, 1) := dk_42 (dk_at dksX6_either_0 23 rfl rfl)
theorem dX6_either_24 : decode cX6_either 24 = .ok (.iload_n 1, 1) := dk_27 (dk_at dksX6_either_1 0 rfl rfl)
theorem dX6_either_25 : decode cX6_either 25 = .ok (.invokevirtual 233, 3) := dk_182 0 233 (dk_at dksX6_either_1 1 rfl rfl)
theorem dX6_either_28 : decode cX6_either 28 = .ok (.ifCond .ne 5, 3) := dk_154 0 5 (dk_at dksX6_either_1 4 rfl rfl)
theorem dX6_either_31 : decode cX6_either 31 = .ok (.iconst 0, 1) := dk_3 (dk_at dksX6_either_1 7 rfl rfl)
theorem dX6_either_32 : decode cX6_either 32 = .ok (.ireturn, 1) := dk_172 (dk_at dksX6_either_1 8 rfl rfl)
theorem dX6_either_33 : decode cX6_either 33 = .ok (.aload_n 0, 1) := dk_42 (dk_at dksX6_either_1 9 rfl rfl)
theorem dX6_either_34 : decode cX6_either 34 = .ok (.iconst 2, 1) := dk_5 (dk_at dksX6_either_1 10 rfl rfl)
theorem dX6_either_35 : decode cX6_either 35 = .ok (.bipush 124, 2) := dk_16 124 (dk_at dksX6_either_1 11 rfl rfl)
theorem dX6_either_37 : decode cX6_either 37 = .ok (.invokevirtual 242, 3) := dk_182 0 242 (dk_at dksX6_either_1 13 rfl rfl)
theorem dX6_either_40 : decode cX6_either 40 = .ok (.goto (-30), 3) := dk_167 255 226 (dk_at dksX6_either_1 16 rfl rfl)
theorem dX6_either_43 : decode cX6_either 43 = .ok (.iconst 1, 1) := dk_4 (dk_at dksX6_either_1 19 rfl rfl)
theorem dX6_either_44 : decode cX6_either 44 = .ok (.ireturn, 1) := dk_172 (dk_at dksX6_either_1 20 rfl rfl)
abbrev cX6_both : ByteArray := prog_19_method_67_code
def yX6_both : MethodName := ⟨RX6, "both", "(I)Z"⟩
def dkwX6_both_1 : List UInt8 := [27, 182, 0, 245, 154, 0, 5, 3, 172, 42, 5, 16, 38, 182, 0, 242, 167, 255, 226, 4, 172]
abbrev dktX6_both_1 : List UInt8 := dkwX6_both_1 ++ []
def dkwX6_both_0 : List UInt8 := [42, 27, 182, 0, 245, 154, 0, 5, 3, 172, 42, 16, 38, 182, 0, 236, 153, 0, 27, 42, 182, 0, 239, 42]
abbrev dktX6_both_0 : List UInt8 := dkwX6_both_0 ++ dktX6_both_1
theorem dksX6_both_0 : cX6_both.data.toList.drop 0 = dktX6_both_0 := by decide +kernel
theorem dksX6_both_1 : cX6_both.data.toList.drop 24 = dktX6_both_1 := dk_seg dksX6_both_0 24 rfl rfl
theorem dX6_both_0 : decode cX6_both 0 = .ok (.aload_n 0, 1) := dk_42 (dk_at dksX6_both_0 0 rfl rfl)
theorem dX6_both_1 : decode cX6_both 1 = .ok (.iload_n 1, 1) := dk_27 (dk_at dksX6_both_0 1 rfl rfl)
theorem dX6_both_2 : decode cX6_both 2 = .ok (.invokevirtual 245, 3) := dk_182 0 245 (dk_at dksX6_both_0 2 rfl rfl)
theorem dX6_both_5 : decode cX6_both 5 = .ok (.ifCond .ne 5, 3) := dk_154 0 5 (dk_at dksX6_both_0 5 rfl rfl)
theorem dX6_both_8 : decode cX6_both 8 = .ok (.iconst 0, 1) := dk_3 (dk_at dksX6_both_0 8 rfl rfl)
theorem dX6_both_9 : decode cX6_both 9 = .ok (.ireturn, 1) := dk_172 (dk_at dksX6_both_0 9 rfl rfl)
theorem dX6_both_10 : decode cX6_both 10 = .ok (.aload_n 0, 1) := dk_42 (dk_at dksX6_both_0 10 rfl rfl)
theorem dX6_both_11 : decode cX6_both 11 = .ok (.bipush 38, 2) := dk_16 38 (dk_at dksX6_both_0 11 rfl rfl)
theorem dX6_both_13 : decode cX6_both 13 = .ok (.invokevirtual 236, 3) := dk_182 0 236 (dk_at dksX6_both_0 13 rfl rfl)
theorem dX6_both_16 : decode cX6_both 16 = .ok (.ifCond .eq 27, 3) := dk_153 0 27 (dk_at dksX6_both_0 16 rfl rfl)
theorem dX6_both_19 : decode cX6_both 19 = .ok (.aload_n 0, 1) := dk_42 (dk_at dksX6_both_0 19 rfl rfl)
theorem dX6_both_20 : decode cX6_both 20 = .ok (.invokevirtual 239, 3) := dk_182 0 239 (dk_at dksX6_both_0 20 rfl rfl)
theorem dX6_both_23 : decode cX6_both 23 = .ok (.aload_n 0, 1) := dk_42 (dk_at dksX6_both_0 23 rfl rfl)
theorem dX6_both_24 : decode cX6_both 24 = .ok (.iload_n 1, 1) := dk_27 (dk_at dksX6_both_1 0 rfl rfl)
theorem dX6_both_25 : decode cX6_both 25 = .ok (.invokevirtual 245, 3) := dk_182 0 245 (dk_at dksX6_both_1 1 rfl rfl)
theorem dX6_both_28 : decode cX6_both 28 = .ok (.ifCond .ne 5, 3) := dk_154 0 5 (dk_at dksX6_both_1 4 rfl rfl)
theorem dX6_both_31 : decode cX6_both 31 = .ok (.iconst 0, 1) := dk_3 (dk_at dksX6_both_1 7 rfl rfl)
theorem dX6_both_32 : decode cX6_both 32 = .ok (.ireturn, 1) := dk_172 (dk_at dksX6_both_1 8 rfl rfl)
theorem dX6_both_33 : decode cX6_both 33 = .ok (.aload_n 0, 1) := dk_42 (dk_at dksX6_both_1 9 rfl rfl)
theorem dX6_both_34 : decode cX6_both 34 = .ok (.iconst 2, 1) := dk_5 (dk_at dksX6_both_1 10 rfl rfl)
theorem dX6_both_35 : decode cX6_both 35 = .ok (.bipush 38, 2) := dk_16 38 (dk_at dksX6_both_1 11 rfl rfl)
theorem dX6_both_37 : decode cX6_both 37 = .ok (.invokevirtual 242, 3) := dk_182 0 242 (dk_at dksX6_both_1 13 rfl rfl)
theorem dX6_both_40 : decode cX6_both 40 = .ok (.goto (-30), 3) := dk_167 255 226 (dk_at dksX6_both_1 16 rfl rfl)
theorem dX6_both_43 : decode cX6_both 43 = .ok (.iconst 1, 1) := dk_4 (dk_at dksX6_both_1 19 rfl rfl)
theorem dX6_both_44 : decode cX6_both 44 = .ok (.ireturn, 1) := dk_172 (dk_at dksX6_both_1 20 rfl rfl)
abbrev cX6_test : ByteArray := prog_19_method_68_code
def yX6_test : MethodName := ⟨RX6, "test", "(I)Z"⟩
def dkwX6_test_2 : List UInt8 := [42, 27, 182, 0, 248, 154, 0, 5, 3, 172, 42, 5, 28, 182, 0, 242, 4, 172]
abbrev dktX6_test_2 : List UInt8 := dkwX6_test_2 ++ []
def dkwX6_test_1 : List UInt8 := [182, 0, 236, 154, 0, 12, 42, 16, 62, 182, 0, 236, 153, 0, 28, 42, 180, 0, 214, 61, 42, 182, 0, 239]
abbrev dktX6_test_1 : List UInt8 := dkwX6_test_1 ++ dktX6_test_2
def dkwX6_test_0 : List UInt8 := [42, 27, 182, 0, 248, 154, 0, 5, 3, 172, 42, 16, 60, 182, 0, 236, 154, 0, 21, 42, 16, 61]
abbrev dktX6_test_0 : List UInt8 := dkwX6_test_0 ++ dktX6_test_1
theorem dksX6_test_0 : cX6_test.data.toList.drop 0 = dktX6_test_0 := by decide +kernel
theorem dksX6_test_1 : cX6_test.data.toList.drop 22 = dktX6_test_1 := dk_seg dksX6_test_0 22 rfl rfl
theorem dksX6_test_2 : cX6_test.data.toList.drop 46 = dktX6_test_2 := dk_seg dksX6_test_1 24 rfl rfl
theorem dX6_test_0 : decode cX6_test 0 = .ok (.aload_n 0, 1) := dk_42 (dk_at dksX6_test_0 0 rfl rfl)
theorem dX6_test_1 : decode cX6_test 1 = .ok (.iload_n 1, 1) := dk_27 (dk_at dksX6_test_0 1 rfl rfl)
theorem dX6_test_2 : decode cX6_test 2 = .ok (.invokevirtual 248, 3) := dk_182 0 248 (dk_at dksX6_test_0 2 rfl rfl)
theorem dX6_test_5 : decode cX6_test 5 = .ok (.ifCond .ne 5, 3) := dk_154 0 5 (dk_at dksX6_test_0 5 rfl rfl)
theorem dX6_test_8 : decode cX6_test 8 = .ok (.iconst 0, 1) := dk_3 (dk_at dksX6_test_0 8 rfl rfl)
theorem dX6_test_9 : decode cX6_test 9 = .ok (.ireturn, 1) := dk_172 (dk_at dksX6_test_0 9 rfl rfl)
theorem dX6_test_10 : decode cX6_test 10 = .ok (.aload_n 0, 1) := dk_42 (dk_at dksX6_test_0 10 rfl rfl)
theorem dX6_test_11 : decode cX6_test 11 = .ok (.bipush 60, 2) := dk_16 60 (dk_at dksX6_test_0 11 rfl rfl)
theorem dX6_test_13 : decode cX6_test 13 = .ok (.invokevirtual 236, 3) := dk_182 0 236 (dk_at dksX6_test_0 13 rfl rfl)
theorem dX6_test_16 : decode cX6_test 16 = .ok (.ifCond .ne 21, 3) := dk_154 0 21 (dk_at dksX6_test_0 16 rfl rfl)
theorem dX6_test_19 : decode cX6_test 19 = .ok (.aload_n 0, 1) := dk_42 (dk_at dksX6_test_0 19 rfl rfl)
theorem dX6_test_20 : decode cX6_test 20 = .ok (.bipush 61, 2) := dk_16 61 (dk_at dksX6_test_0 20 rfl rfl)
theorem dX6_test_22 : decode cX6_test 22 = .ok (.invokevirtual 236, 3) := dk_182 0 236 (dk_at dksX6_test_1 0 rfl rfl)
theorem dX6_test_25 : decode cX6_test 25 = .ok (.ifCond .ne 12, 3) := dk_154 0 12 (dk_at dksX6_test_1 3 rfl rfl)
theorem dX6_test_28 : decode cX6_test 28 = .ok (.aload_n 0, 1) := dk_42 (dk_at dksX6_test_1 6 rfl rfl)
theorem dX6_test_29 : decode cX6_test 29 = .ok (.bipush 62, 2) := dk_16 62 (dk_at dksX6_test_1 7 rfl rfl)
theorem dX6_test_31 : decode cX6_test 31 = .ok (.invokevirtual 236, 3) := dk_182 0 236 (dk_at dksX6_test_1 9 rfl rfl)
theorem dX6_test_34 : decode cX6_test 34 = .ok (.ifCond .eq 28, 3) := dk_153 0 28 (dk_at dksX6_test_1 12 rfl rfl)
theorem dX6_test_37 : decode cX6_test 37 = .ok (.aload_n 0, 1) := dk_42 (dk_at dksX6_test_1 15 rfl rfl)
theorem dX6_test_38 : decode cX6_test 38 = .ok (.getfield 214, 3) := dk_180 0 214 (dk_at dksX6_test_1 16 rfl rfl)
theorem dX6_test_41 : decode cX6_test 41 = .ok (.istore_n 2, 1) := dk_61 (dk_at dksX6_test_1 19 rfl rfl)
theorem dX6_test_42 : decode cX6_test 42 = .ok (.aload_n 0, 1) := dk_42 (dk_at dksX6_test_1 20 rfl rfl)
theorem dX6_test_43 : decode cX6_test 43 = .ok (.invokevirtual 239, 3) := dk_182 0 239 (dk_at dksX6_test_1 21 rfl rfl)
theorem dX6_test_46 : decode cX6_test 46 = .ok (.aload_n 0, 1) := dk_42 (dk_at dksX6_test_2 0 rfl rfl)
theorem dX6_test_47 : decode cX6_test 47 = .ok (.iload_n 1, 1) := dk_27 (dk_at dksX6_test_2 1 rfl rfl)
theorem dX6_test_48 : decode cX6_test 48 = .ok (.invokevirtual 248, 3) := dk_182 0 248 (dk_at dksX6_test_2 2 rfl rfl)
theorem dX6_test_51 : decode cX6_test 51 = .ok (.ifCond .ne 5, 3) := dk_154 0 5 (dk_at dksX6_test_2 5 rfl rfl)
theorem dX6_test_54 : decode cX6_test 54 = .ok (.iconst 0, 1) := dk_3 (dk_at dksX6_test_2 8 rfl rfl)
theorem dX6_test_55 : decode cX6_test 55 = .ok (.ireturn, 1) := dk_172 (dk_at dksX6_test_2 9 rfl rfl)
theorem dX6_test_56 : decode cX6_test 56 = .ok (.aload_n 0, 1) := dk_42 (dk_at dksX6_test_2 10 rfl rfl)
theorem dX6_test_57 : decode cX6_test 57 = .ok (.iconst 2, 1) := dk_5 (dk_at dksX6_test_2 11 rfl rfl)
theorem dX6_test_58 : decode cX6_test 58 = .ok (.iload_n 2, 1) := dk_28 (dk_at dksX6_test_2 12 rfl rfl)
theorem dX6_test_59 : decode cX6_test 59 = .ok (.invokevirtual 242, 3) := dk_182 0 242 (dk_at dksX6_test_2 13 rfl rfl)
theorem dX6_test_62 : decode cX6_test 62 = .ok (.iconst 1, 1) := dk_4 (dk_at dksX6_test_2 16 rfl rfl)
theorem dX6_test_63 : decode cX6_test 63 = .ok (.ireturn, 1) := dk_172 (dk_at dksX6_test_2 17 rfl rfl)
abbrev cX6_sum : ByteArray := prog_19_method_69_code
def yX6_sum : MethodName := ⟨RX6, "sum", "(I)Z"⟩
def dkwX6_sum_2 : List UInt8 := [172, 42, 5, 28, 182, 0, 242, 167, 255, 213, 4, 172]
abbrev dktX6_sum_2 : List UInt8 := dkwX6_sum_2 ++ []
def dkwX6_sum_1 : List UInt8 := [182, 0, 236, 153, 0, 31, 42, 180, 0, 214, 61, 42, 182, 0, 239, 42, 27, 182, 0, 251, 154, 0, 5, 3]
abbrev dktX6_sum_1 : List UInt8 := dkwX6_sum_1 ++ dktX6_sum_2
def dkwX6_sum_0 : List UInt8 := [42, 27, 182, 0, 251, 154, 0, 5, 3, 172, 42, 16, 43, 182, 0, 236, 154, 0, 12, 42, 16, 45]
abbrev dktX6_sum_0 : List UInt8 := dkwX6_sum_0 ++ dktX6_sum_1
theorem dksX6_sum_0 : cX6_sum.data.toList.drop 0 = dktX6_sum_0 := by decide +kernel
theorem dksX6_sum_1 : cX6_sum.data.toList.drop 22 = dktX6_sum_1 := dk_seg dksX6_sum_0 22 rfl rfl
theorem dksX6_sum_2 : cX6_sum.data.toList.drop 46 = dktX6_sum_2 := dk_seg dksX6_sum_1 24 rfl rfl
theorem dX6_sum_0 : decode cX6_sum 0 = .ok (.aload_n 0, 1) := dk_42 (dk_at dksX6_sum_0 0 rfl rfl)
theorem dX6_sum_1 : decode cX6_sum 1 = .ok (.iload_n 1, 1) := dk_27 (dk_at dksX6_sum_0 1 rfl rfl)
theorem dX6_sum_2 : decode cX6_sum 2 = .ok (.invokevirtual 251, 3) := dk_182 0 251 (dk_at dksX6_sum_0 2 rfl rfl)
theorem dX6_sum_5 : decode cX6_sum 5 = .ok (.ifCond .ne 5, 3) := dk_154 0 5 (dk_at dksX6_sum_0 5 rfl rfl)
theorem dX6_sum_8 : decode cX6_sum 8 = .ok (.iconst 0, 1) := dk_3 (dk_at dksX6_sum_0 8 rfl rfl)
theorem dX6_sum_9 : decode cX6_sum 9 = .ok (.ireturn, 1) := dk_172 (dk_at dksX6_sum_0 9 rfl rfl)
theorem dX6_sum_10 : decode cX6_sum 10 = .ok (.aload_n 0, 1) := dk_42 (dk_at dksX6_sum_0 10 rfl rfl)
theorem dX6_sum_11 : decode cX6_sum 11 = .ok (.bipush 43, 2) := dk_16 43 (dk_at dksX6_sum_0 11 rfl rfl)
theorem dX6_sum_13 : decode cX6_sum 13 = .ok (.invokevirtual 236, 3) := dk_182 0 236 (dk_at dksX6_sum_0 13 rfl rfl)
theorem dX6_sum_16 : decode cX6_sum 16 = .ok (.ifCond .ne 12, 3) := dk_154 0 12 (dk_at dksX6_sum_0 16 rfl rfl)
theorem dX6_sum_19 : decode cX6_sum 19 = .ok (.aload_n 0, 1) := dk_42 (dk_at dksX6_sum_0 19 rfl rfl)
theorem dX6_sum_20 : decode cX6_sum 20 = .ok (.bipush 45, 2) := dk_16 45 (dk_at dksX6_sum_0 20 rfl rfl)
theorem dX6_sum_22 : decode cX6_sum 22 = .ok (.invokevirtual 236, 3) := dk_182 0 236 (dk_at dksX6_sum_1 0 rfl rfl)
theorem dX6_sum_25 : decode cX6_sum 25 = .ok (.ifCond .eq 31, 3) := dk_153 0 31 (dk_at dksX6_sum_1 3 rfl rfl)
theorem dX6_sum_28 : decode cX6_sum 28 = .ok (.aload_n 0, 1) := dk_42 (dk_at dksX6_sum_1 6 rfl rfl)
theorem dX6_sum_29 : decode cX6_sum 29 = .ok (.getfield 214, 3) := dk_180 0 214 (dk_at dksX6_sum_1 7 rfl rfl)
theorem dX6_sum_32 : decode cX6_sum 32 = .ok (.istore_n 2, 1) := dk_61 (dk_at dksX6_sum_1 10 rfl rfl)
theorem dX6_sum_33 : decode cX6_sum 33 = .ok (.aload_n 0, 1) := dk_42 (dk_at dksX6_sum_1 11 rfl rfl)
theorem dX6_sum_34 : decode cX6_sum 34 = .ok (.invokevirtual 239, 3) := dk_182 0 239 (dk_at dksX6_sum_1 12 rfl rfl)
theorem dX6_sum_37 : decode cX6_sum 37 = .ok (.aload_n 0, 1) := dk_42 (dk_at dksX6_sum_1 15 rfl rfl)
theorem dX6_sum_38 : decode cX6_sum 38 = .ok (.iload_n 1, 1) := dk_27 (dk_at dksX6_sum_1 16 rfl rfl)
theorem dX6_sum_39 : decode cX6_sum 39 = .ok (.invokevirtual 251, 3) := dk_182 0 251 (dk_at dksX6_sum_1 17 rfl rfl)
theorem dX6_sum_42 : decode cX6_sum 42 = .ok (.ifCond .ne 5, 3) := dk_154 0 5 (dk_at dksX6_sum_1 20 rfl rfl)
theorem dX6_sum_45 : decode cX6_sum 45 = .ok (.iconst 0, 1) := dk_3 (dk_at dksX6_sum_1 23 rfl rfl)
theorem dX6_sum_46 : decode cX6_sum 46 = .ok (.ireturn, 1) := dk_172 (dk_at dksX6_sum_2 0 rfl rfl)
theorem dX6_sum_47 : decode cX6_sum 47 = .ok (.aload_n 0, 1) := dk_42 (dk_at dksX6_sum_2 1 rfl rfl)
theorem dX6_sum_48 : decode cX6_sum 48 = .ok (.iconst 2, 1) := dk_5 (dk_at dksX6_sum_2 2 rfl rfl)
theorem dX6_sum_49 : decode cX6_sum 49 = .ok (.iload_n 2, 1) := dk_28 (dk_at dksX6_sum_2 3 rfl rfl)
theorem dX6_sum_50 : decode cX6_sum 50 = .ok (.invokevirtual 242, 3) := dk_182 0 242 (dk_at dksX6_sum_2 4 rfl rfl)
theorem dX6_sum_53 : decode cX6_sum 53 = .ok (.goto (-43), 3) := dk_167 255 213 (dk_at dksX6_sum_2 7 rfl rfl)
theorem dX6_sum_56 : decode cX6_sum 56 = .ok (.iconst 1, 1) := dk_4 (dk_at dksX6_sum_2 10 rfl rfl)
theorem dX6_sum_57 : decode cX6_sum 57 = .ok (.ireturn, 1) := dk_172 (dk_at dksX6_sum_2 11 rfl rfl)
abbrev cX6_term : ByteArray := prog_19_method_70_code
def yX6_term : MethodName := ⟨RX6, "term", "(I)Z"⟩
def dkwX6_term_2 : List UInt8 := [172, 42, 5, 28, 182, 0, 242, 167, 255, 213, 4, 172]
abbrev dktX6_term_2 : List UInt8 := dkwX6_term_2 ++ []
def dkwX6_term_1 : List UInt8 := [182, 0, 236, 153, 0, 31, 42, 180, 0, 214, 61, 42, 182, 0, 239, 42, 27, 182, 0, 254, 154, 0, 5, 3]
abbrev dktX6_term_1 : List UInt8 := dkwX6_term_1 ++ dktX6_term_2
def dkwX6_term_0 : List UInt8 := [42, 27, 182, 0, 254, 154, 0, 5, 3, 172, 42, 16, 42, 182, 0, 236, 154, 0, 12, 42, 16, 47]
abbrev dktX6_term_0 : List UInt8 := dkwX6_term_0 ++ dktX6_term_1
theorem dksX6_term_0 : cX6_term.data.toList.drop 0 = dktX6_term_0 := by decide +kernel
theorem dksX6_term_1 : cX6_term.data.toList.drop 22 = dktX6_term_1 := dk_seg dksX6_term_0 22 rfl rfl
theorem dksX6_term_2 : cX6_term.data.toList.drop 46 = dktX6_term_2 := dk_seg dksX6_term_1 24 rfl rfl
theorem dX6_term_0 : decode cX6_term 0 = .ok (.aload_n 0, 1) := dk_42 (dk_at dksX6_term_0 0 rfl rfl)
theorem dX6_term_1 : decode cX6_term 1 = .ok (.iload_n 1, 1) := dk_27 (dk_at dksX6_term_0 1 rfl rfl)
theorem dX6_term_2 : decode cX6_term 2 = .ok (.invokevirtual 254, 3) := dk_182 0 254 (dk_at dksX6_term_0 2 rfl rfl)
theorem dX6_term_5 : decode cX6_term 5 = .ok (.ifCond .ne 5, 3) := dk_154 0 5 (dk_at dksX6_term_0 5 rfl rfl)
theorem dX6_term_8 : decode cX6_term 8 = .ok (.iconst 0, 1) := dk_3 (dk_at dksX6_term_0 8 rfl rfl)
theorem dX6_term_9 : decode cX6_term 9 = .ok (.ireturn, 1) := dk_172 (dk_at dksX6_term_0 9 rfl rfl)
theorem dX6_term_10 : decode cX6_term 10 = .ok (.aload_n 0, 1) := dk_42 (dk_at dksX6_term_0 10 rfl rfl)
theorem dX6_term_11 : decode cX6_term 11 = .ok (.bipush 42, 2) := dk_16 42 (dk_at dksX6_term_0 11 rfl rfl)
theorem dX6_term_13 : decode cX6_term 13 = .ok (.invokevirtual 236, 3) := dk_182 0 236 (dk_at dksX6_term_0 13 rfl rfl)
theorem dX6_term_16 : decode cX6_term 16 = .ok (.ifCond .ne 12, 3) := dk_154 0 12 (dk_at dksX6_term_0 16 rfl rfl)
theorem dX6_term_19 : decode cX6_term 19 = .ok (.aload_n 0, 1) := dk_42 (dk_at dksX6_term_0 19 rfl rfl)
theorem dX6_term_20 : decode cX6_term 20 = .ok (.bipush 47, 2) := dk_16 47 (dk_at dksX6_term_0 20 rfl rfl)
theorem dX6_term_22 : decode cX6_term 22 = .ok (.invokevirtual 236, 3) := dk_182 0 236 (dk_at dksX6_term_1 0 rfl rfl)
theorem dX6_term_25 : decode cX6_term 25 = .ok (.ifCond .eq 31, 3) := dk_153 0 31 (dk_at dksX6_term_1 3 rfl rfl)
theorem dX6_term_28 : decode cX6_term 28 = .ok (.aload_n 0, 1) := dk_42 (dk_at dksX6_term_1 6 rfl rfl)
theorem dX6_term_29 : decode cX6_term 29 = .ok (.getfield 214, 3) := dk_180 0 214 (dk_at dksX6_term_1 7 rfl rfl)
theorem dX6_term_32 : decode cX6_term 32 = .ok (.istore_n 2, 1) := dk_61 (dk_at dksX6_term_1 10 rfl rfl)
theorem dX6_term_33 : decode cX6_term 33 = .ok (.aload_n 0, 1) := dk_42 (dk_at dksX6_term_1 11 rfl rfl)
theorem dX6_term_34 : decode cX6_term 34 = .ok (.invokevirtual 239, 3) := dk_182 0 239 (dk_at dksX6_term_1 12 rfl rfl)
theorem dX6_term_37 : decode cX6_term 37 = .ok (.aload_n 0, 1) := dk_42 (dk_at dksX6_term_1 15 rfl rfl)
theorem dX6_term_38 : decode cX6_term 38 = .ok (.iload_n 1, 1) := dk_27 (dk_at dksX6_term_1 16 rfl rfl)
theorem dX6_term_39 : decode cX6_term 39 = .ok (.invokevirtual 254, 3) := dk_182 0 254 (dk_at dksX6_term_1 17 rfl rfl)
theorem dX6_term_42 : decode cX6_term 42 = .ok (.ifCond .ne 5, 3) := dk_154 0 5 (dk_at dksX6_term_1 20 rfl rfl)
theorem dX6_term_45 : decode cX6_term 45 = .ok (.iconst 0, 1) := dk_3 (dk_at dksX6_term_1 23 rfl rfl)
theorem dX6_term_46 : decode cX6_term 46 = .ok (.ireturn, 1) := dk_172 (dk_at dksX6_term_2 0 rfl rfl)
theorem dX6_term_47 : decode cX6_term 47 = .ok (.aload_n 0, 1) := dk_42 (dk_at dksX6_term_2 1 rfl rfl)
theorem dX6_term_48 : decode cX6_term 48 = .ok (.iconst 2, 1) := dk_5 (dk_at dksX6_term_2 2 rfl rfl)
theorem dX6_term_49 : decode cX6_term 49 = .ok (.iload_n 2, 1) := dk_28 (dk_at dksX6_term_2 3 rfl rfl)
theorem dX6_term_50 : decode cX6_term 50 = .ok (.invokevirtual 242, 3) := dk_182 0 242 (dk_at dksX6_term_2 4 rfl rfl)
theorem dX6_term_53 : decode cX6_term 53 = .ok (.goto (-43), 3) := dk_167 255 213 (dk_at dksX6_term_2 7 rfl rfl)
theorem dX6_term_56 : decode cX6_term 56 = .ok (.iconst 1, 1) := dk_4 (dk_at dksX6_term_2 10 rfl rfl)
theorem dX6_term_57 : decode cX6_term 57 = .ok (.ireturn, 1) := dk_172 (dk_at dksX6_term_2 11 rfl rfl)
abbrev cX6_part0 : ByteArray := prog_19_method_71_code
def yX6_part0 : MethodName := ⟨RX6, "part0", "(I)Z"⟩
def dkwX6_part0_9 : List UInt8 := [4, 172]
abbrev dktX6_part0_9 : List UInt8 := dkwX6_part0_9 ++ []
def dkwX6_part0_8 : List UInt8 := [16, 41, 182, 0, 236, 154, 0, 5, 3, 172, 42, 89, 180, 1, 10, 4, 100, 181, 1, 10, 42, 182, 0, 239]
abbrev dktX6_part0_8 : List UInt8 := dkwX6_part0_8 ++ dktX6_part0_9
def dkwX6_part0_7 : List UInt8 := [172, 42, 89, 180, 1, 10, 4, 96, 181, 1, 10, 42, 182, 0, 239, 42, 27, 182, 1, 13, 153, 0, 12, 42]
abbrev dktX6_part0_7 : List UInt8 := dkwX6_part0_7 ++ dktX6_part0_8
def dkwX6_part0_6 : List UInt8 := [182, 0, 242, 4, 172, 42, 16, 40, 182, 0, 236, 153, 0, 12, 42, 180, 1, 10, 16, 8, 160, 0, 5, 3]
abbrev dktX6_part0_6 : List UInt8 := dkwX6_part0_6 ++ dktX6_part0_7
def dkwX6_part0_5 : List UInt8 := [182, 0, 254, 154, 0, 5, 3, 172, 42, 89, 180, 1, 7, 4, 100, 181, 1, 7, 42, 5, 16, 33]
abbrev dktX6_part0_5 : List UInt8 := dkwX6_part0_5 ++ dktX6_part0_6
def dkwX6_part0_4 : List UInt8 := [180, 1, 7, 16, 8, 162, 0, 46, 42, 89, 180, 1, 7, 4, 96, 181, 1, 7, 42, 182, 0, 239, 42, 27]
abbrev dktX6_part0_4 : List UInt8 := dkwX6_part0_4 ++ dktX6_part0_5
def dkwX6_part0_3 : List UInt8 := [180, 1, 1, 4, 96, 181, 1, 1, 42, 182, 0, 239, 4, 172, 42, 16, 33, 182, 0, 236, 153, 0, 55, 42]
abbrev dktX6_part0_3 : List UInt8 := dkwX6_part0_3 ++ dktX6_part0_4
def dkwX6_part0_2 : List UInt8 := [27, 42, 180, 0, 214, 184, 1, 4, 153, 0, 28, 42, 4, 42, 180, 0, 214, 182, 0, 242, 42, 89]
abbrev dktX6_part0_2 : List UInt8 := dkwX6_part0_2 ++ dktX6_part0_3
def dkwX6_part0_1 : List UInt8 := [181, 1, 1, 42, 182, 0, 239, 4, 172, 42, 180, 0, 205, 4, 160, 0, 46, 42, 180, 0, 214, 153, 0, 39]
abbrev dktX6_part0_1 : List UInt8 := dkwX6_part0_1 ++ dktX6_part0_2
def dkwX6_part0_0 : List UInt8 := [42, 180, 0, 205, 5, 160, 0, 28, 42, 3, 42, 180, 0, 220, 182, 0, 242, 42, 89, 180, 1, 1, 4, 96]
abbrev dktX6_part0_0 : List UInt8 := dkwX6_part0_0 ++ dktX6_part0_1
theorem dksX6_part0_0 : cX6_part0.data.toList.drop 0 = dktX6_part0_0 := by decide +kernel
theorem dksX6_part0_1 : cX6_part0.data.toList.drop 24 = dktX6_part0_1 := dk_seg dksX6_part0_0 24 rfl rfl
theorem dksX6_part0_2 : cX6_part0.data.toList.drop 48 = dktX6_part0_2 := dk_seg dksX6_part0_1 24 rfl rfl
theorem dksX6_part0_3 : cX6_part0.data.toList.drop 70 = dktX6_part0_3 := dk_seg dksX6_part0_2 22 rfl rfl
theorem dksX6_part0_4 : cX6_part0.data.toList.drop 94 = dktX6_part0_4 := dk_seg dksX6_part0_3 24 rfl rfl
theorem dksX6_part0_5 : cX6_part0.data.toList.drop 118 = dktX6_part0_5 := dk_seg dksX6_part0_4 24 rfl rfl
theorem dksX6_part0_6 : cX6_part0.data.toList.drop 140 = dktX6_part0_6 := dk_seg dksX6_part0_5 22 rfl rfl
theorem dksX6_part0_7 : cX6_part0.data.toList.drop 164 = dktX6_part0_7 := dk_seg dksX6_part0_6 24 rfl rfl
theorem dksX6_part0_8 : cX6_part0.data.toList.drop 188 = dktX6_part0_8 := dk_seg dksX6_part0_7 24 rfl rfl
theorem dksX6_part0_9 : cX6_part0.data.toList.drop 212 = dktX6_part0_9 := dk_seg dksX6_part0_8 24 rfl rfl
theorem dX6_part0_0 : decode cX6_part0 0 = .ok (.aload_n 0, 1) := dk_42 (dk_at dksX6_part0_0 0 rfl rfl)
theorem dX6_part0_1 : decode cX6_part0 1 = .ok (.getfield 205, 3) := dk_180 0 205 (dk_at dksX6_part0_0 1 rfl rfl)
theorem dX6_part0_4 : decode cX6_part0 4 = .ok (.iconst 2, 1) := dk_5 (dk_at dksX6_part0_0 4 rfl rfl)
theorem dX6_part0_5 : decode cX6_part0 5 = .ok (.if_icmp .ne 28, 3) := dk_160 0 28 (dk_at dksX6_part0_0 5 rfl rfl)
theorem dX6_part0_8 : decode cX6_part0 8 = .ok (.aload_n 0, 1) := dk_42 (dk_at dksX6_part0_0 8 rfl rfl)
theorem dX6_part0_9 : decode cX6_part0 9 = .ok (.iconst 0, 1) := dk_3 (dk_at dksX6_part0_0 9 rfl rfl)
theorem dX6_part0_10 : decode cX6_part0 10 = .ok (.aload_n 0, 1) := dk_42 (dk_at dksX6_part0_0 10 rfl rfl)
theorem dX6_part0_11 : decode cX6_part0 11 = .ok (.getfield 220, 3) := dk_180 0 220 (dk_at dksX6_part0_0 11 rfl rfl)
theorem dX6_part0_14 : decode cX6_part0 14 = .ok (.invokevirtual 242, 3) := dk_182 0 242 (dk_at dksX6_part0_0 14 rfl rfl)
theorem dX6_part0_17 : decode cX6_part0 17 = .ok (.aload_n 0, 1) := dk_42 (dk_at dksX6_part0_0 17 rfl rfl)
theorem dX6_part0_18 : decode cX6_part0 18 = .ok (.dup, 1) := dk_89 (dk_at dksX6_part0_0 18 rfl rfl)
theorem dX6_part0_19 : decode cX6_part0 19 = .ok (.getfield 257, 3) := dk_180 1 1 (dk_at dksX6_part0_0 19 rfl rfl)
theorem dX6_part0_22 : decode cX6_part0 22 = .ok (.iconst 1, 1) := dk_4 (dk_at dksX6_part0_0 22 rfl rfl)
theorem dX6_part0_23 : decode cX6_part0 23 = .ok (.iadd, 1) := dk_96 (dk_at dksX6_part0_0 23 rfl rfl)
theorem dX6_part0_24 : decode cX6_part0 24 = .ok (.putfield 257, 3) := dk_181 1 1 (dk_at dksX6_part0_1 0 rfl rfl)
theorem dX6_part0_27 : decode cX6_part0 27 = .ok (.aload_n 0, 1) := dk_42 (dk_at dksX6_part0_1 3 rfl rfl)
theorem dX6_part0_28 : decode cX6_part0 28 = .ok (.invokevirtual 239, 3) := dk_182 0 239 (dk_at dksX6_part0_1 4 rfl rfl)
theorem dX6_part0_31 : decode cX6_part0 31 = .ok (.iconst 1, 1) := dk_4 (dk_at dksX6_part0_1 7 rfl rfl)
theorem dX6_part0_32 : decode cX6_part0 32 = .ok (.ireturn, 1) := dk_172 (dk_at dksX6_part0_1 8 rfl rfl)
theorem dX6_part0_33 : decode cX6_part0 33 = .ok (.aload_n 0, 1) := dk_42 (dk_at dksX6_part0_1 9 rfl rfl)
theorem dX6_part0_34 : decode cX6_part0 34 = .ok (.getfield 205, 3) := dk_180 0 205 (dk_at dksX6_part0_1 10 rfl rfl)
theorem dX6_part0_37 : decode cX6_part0 37 = .ok (.iconst 1, 1) := dk_4 (dk_at dksX6_part0_1 13 rfl rfl)
theorem dX6_part0_38 : decode cX6_part0 38 = .ok (.if_icmp .ne 46, 3) := dk_160 0 46 (dk_at dksX6_part0_1 14 rfl rfl)
theorem dX6_part0_41 : decode cX6_part0 41 = .ok (.aload_n 0, 1) := dk_42 (dk_at dksX6_part0_1 17 rfl rfl)
theorem dX6_part0_42 : decode cX6_part0 42 = .ok (.getfield 214, 3) := dk_180 0 214 (dk_at dksX6_part0_1 18 rfl rfl)
theorem dX6_part0_45 : decode cX6_part0 45 = .ok (.ifCond .eq 39, 3) := dk_153 0 39 (dk_at dksX6_part0_1 21 rfl rfl)
theorem dX6_part0_48 : decode cX6_part0 48 = .ok (.iload_n 1, 1) := dk_27 (dk_at dksX6_part0_2 0 rfl rfl)
theorem dX6_part0_49 : decode cX6_part0 49 = .ok (.aload_n 0, 1) := dk_42 (dk_at dksX6_part0_2 1 rfl rfl)
theorem dX6_part0_50 : decode cX6_part0 50 = .ok (.getfield 214, 3) := dk_180 0 214 (dk_at dksX6_part0_2 2 rfl rfl)
theorem dX6_part0_53 : decode cX6_part0 53 = .ok (.invokestatic 260, 3) := dk_184 1 4 (dk_at dksX6_part0_2 5 rfl rfl)
theorem dX6_part0_56 : decode cX6_part0 56 = .ok (.ifCond .eq 28, 3) := dk_153 0 28 (dk_at dksX6_part0_2 8 rfl rfl)
theorem dX6_part0_59 : decode cX6_part0 59 = .ok (.aload_n 0, 1) := dk_42 (dk_at dksX6_part0_2 11 rfl rfl)
theorem dX6_part0_60 : decode cX6_part0 60 = .ok (.iconst 1, 1) := dk_4 (dk_at dksX6_part0_2 12 rfl rfl)
theorem dX6_part0_61 : decode cX6_part0 61 = .ok (.aload_n 0, 1) := dk_42 (dk_at dksX6_part0_2 13 rfl rfl)
theorem dX6_part0_62 : decode cX6_part0 62 = .ok (.getfield 214, 3) := dk_180 0 214 (dk_at dksX6_part0_2 14 rfl rfl)
theorem dX6_part0_65 : decode cX6_part0 65 = .ok (.invokevirtual 242, 3) := dk_182 0 242 (dk_at dksX6_part0_2 17 rfl rfl)
theorem dX6_part0_68 : decode cX6_part0 68 = .ok (.aload_n 0, 1) := dk_42 (dk_at dksX6_part0_2 20 rfl rfl)
theorem dX6_part0_69 : decode cX6_part0 69 = .ok (.dup, 1) := dk_89 (dk_at dksX6_part0_2 21 rfl rfl)
theorem dX6_part0_70 : decode cX6_part0 70 = .ok (.getfield 257, 3) := dk_180 1 1 (dk_at dksX6_part0_3 0 rfl rfl)
theorem dX6_part0_73 : decode cX6_part0 73 = .ok (.iconst 1, 1) := dk_4 (dk_at dksX6_part0_3 3 rfl rfl)
theorem dX6_part0_74 : decode cX6_part0 74 = .ok (.iadd, 1) := dk_96 (dk_at dksX6_part0_3 4 rfl rfl)
theorem dX6_part0_75 : decode cX6_part0 75 = .ok (.putfield 257, 3) := dk_181 1 1 (dk_at dksX6_part0_3 5 rfl rfl)
theorem dX6_part0_78 : decode cX6_part0 78 = .ok (.aload_n 0, 1) := dk_42 (dk_at dksX6_part0_3 8 rfl rfl)
theorem dX6_part0_79 : decode cX6_part0 79 = .ok (.invokevirtual 239, 3) := dk_182 0 239 (dk_at dksX6_part0_3 9 rfl rfl)
theorem dX6_part0_82 : decode cX6_part0 82 = .ok (.iconst 1, 1) := dk_4 (dk_at dksX6_part0_3 12 rfl rfl)
theorem dX6_part0_83 : decode cX6_part0 83 = .ok (.ireturn, 1) := dk_172 (dk_at dksX6_part0_3 13 rfl rfl)
theorem dX6_part0_84 : decode cX6_part0 84 = .ok (.aload_n 0, 1) := dk_42 (dk_at dksX6_part0_3 14 rfl rfl)
theorem dX6_part0_85 : decode cX6_part0 85 = .ok (.bipush 33, 2) := dk_16 33 (dk_at dksX6_part0_3 15 rfl rfl)
theorem dX6_part0_87 : decode cX6_part0 87 = .ok (.invokevirtual 236, 3) := dk_182 0 236 (dk_at dksX6_part0_3 17 rfl rfl)
theorem dX6_part0_90 : decode cX6_part0 90 = .ok (.ifCond .eq 55, 3) := dk_153 0 55 (dk_at dksX6_part0_3 20 rfl rfl)
theorem dX6_part0_93 : decode cX6_part0 93 = .ok (.aload_n 0, 1) := dk_42 (dk_at dksX6_part0_3 23 rfl rfl)
theorem dX6_part0_94 : decode cX6_part0 94 = .ok (.getfield 263, 3) := dk_180 1 7 (dk_at dksX6_part0_4 0 rfl rfl)
theorem dX6_part0_97 : decode cX6_part0 97 = .ok (.bipush 8, 2) := dk_16 8 (dk_at dksX6_part0_4 3 rfl rfl)
theorem dX6_part0_99 : decode cX6_part0 99 = .ok (.if_icmp .ge 46, 3) := dk_162 0 46 (dk_at dksX6_part0_4 5 rfl rfl)
theorem dX6_part0_102 : decode cX6_part0 102 = .ok (.aload_n 0, 1) := dk_42 (dk_at dksX6_part0_4 8 rfl rfl)
theorem dX6_part0_103 : decode cX6_part0 103 = .ok (.dup, 1) := dk_89 (dk_at dksX6_part0_4 9 rfl rfl)
theorem dX6_part0_104 : decode cX6_part0 104 = .ok (.getfield 263, 3) := dk_180 1 7 (dk_at dksX6_part0_4 10 rfl rfl)
theorem dX6_part0_107 : decode cX6_part0 107 = .ok (.iconst 1, 1) := dk_4 (dk_at dksX6_part0_4 13 rfl rfl)
theorem dX6_part0_108 : decode cX6_part0 108 = .ok (.iadd, 1) := dk_96 (dk_at dksX6_part0_4 14 rfl rfl)
theorem dX6_part0_109 : decode cX6_part0 109 = .ok (.putfield 263, 3) := dk_181 1 7 (dk_at dksX6_part0_4 15 rfl rfl)
theorem dX6_part0_112 : decode cX6_part0 112 = .ok (.aload_n 0, 1) := dk_42 (dk_at dksX6_part0_4 18 rfl rfl)
theorem dX6_part0_113 : decode cX6_part0 113 = .ok (.invokevirtual 239, 3) := dk_182 0 239 (dk_at dksX6_part0_4 19 rfl rfl)
theorem dX6_part0_116 : decode cX6_part0 116 = .ok (.aload_n 0, 1) := dk_42 (dk_at dksX6_part0_4 22 rfl rfl)
theorem dX6_part0_117 : decode cX6_part0 117 = .ok (.iload_n 1, 1) := dk_27 (dk_at dksX6_part0_4 23 rfl rfl)
theorem dX6_part0_118 : decode cX6_part0 118 = .ok (.invokevirtual 254, 3) := dk_182 0 254 (dk_at dksX6_part0_5 0 rfl rfl)
theorem dX6_part0_121 : decode cX6_part0 121 = .ok (.ifCond .ne 5, 3) := dk_154 0 5 (dk_at dksX6_part0_5 3 rfl rfl)
theorem dX6_part0_124 : decode cX6_part0 124 = .ok (.iconst 0, 1) := dk_3 (dk_at dksX6_part0_5 6 rfl rfl)
theorem dX6_part0_125 : decode cX6_part0 125 = .ok (.ireturn, 1) := dk_172 (dk_at dksX6_part0_5 7 rfl rfl)
theorem dX6_part0_126 : decode cX6_part0 126 = .ok (.aload_n 0, 1) := dk_42 (dk_at dksX6_part0_5 8 rfl rfl)
theorem dX6_part0_127 : decode cX6_part0 127 = .ok (.dup, 1) := dk_89 (dk_at dksX6_part0_5 9 rfl rfl)
theorem dX6_part0_128 : decode cX6_part0 128 = .ok (.getfield 263, 3) := dk_180 1 7 (dk_at dksX6_part0_5 10 rfl rfl)
theorem dX6_part0_131 : decode cX6_part0 131 = .ok (.iconst 1, 1) := dk_4 (dk_at dksX6_part0_5 13 rfl rfl)
theorem dX6_part0_132 : decode cX6_part0 132 = .ok (.isub, 1) := dk_100 (dk_at dksX6_part0_5 14 rfl rfl)
theorem dX6_part0_133 : decode cX6_part0 133 = .ok (.putfield 263, 3) := dk_181 1 7 (dk_at dksX6_part0_5 15 rfl rfl)
theorem dX6_part0_136 : decode cX6_part0 136 = .ok (.aload_n 0, 1) := dk_42 (dk_at dksX6_part0_5 18 rfl rfl)
theorem dX6_part0_137 : decode cX6_part0 137 = .ok (.iconst 2, 1) := dk_5 (dk_at dksX6_part0_5 19 rfl rfl)
theorem dX6_part0_138 : decode cX6_part0 138 = .ok (.bipush 33, 2) := dk_16 33 (dk_at dksX6_part0_5 20 rfl rfl)
theorem dX6_part0_140 : decode cX6_part0 140 = .ok (.invokevirtual 242, 3) := dk_182 0 242 (dk_at dksX6_part0_6 0 rfl rfl)
theorem dX6_part0_143 : decode cX6_part0 143 = .ok (.iconst 1, 1) := dk_4 (dk_at dksX6_part0_6 3 rfl rfl)
theorem dX6_part0_144 : decode cX6_part0 144 = .ok (.ireturn, 1) := dk_172 (dk_at dksX6_part0_6 4 rfl rfl)
theorem dX6_part0_145 : decode cX6_part0 145 = .ok (.aload_n 0, 1) := dk_42 (dk_at dksX6_part0_6 5 rfl rfl)
theorem dX6_part0_146 : decode cX6_part0 146 = .ok (.bipush 40, 2) := dk_16 40 (dk_at dksX6_part0_6 6 rfl rfl)
theorem dX6_part0_148 : decode cX6_part0 148 = .ok (.invokevirtual 236, 3) := dk_182 0 236 (dk_at dksX6_part0_6 8 rfl rfl)
theorem dX6_part0_151 : decode cX6_part0 151 = .ok (.ifCond .eq 12, 3) := dk_153 0 12 (dk_at dksX6_part0_6 11 rfl rfl)
theorem dX6_part0_154 : decode cX6_part0 154 = .ok (.aload_n 0, 1) := dk_42 (dk_at dksX6_part0_6 14 rfl rfl)
theorem dX6_part0_155 : decode cX6_part0 155 = .ok (.getfield 266, 3) := dk_180 1 10 (dk_at dksX6_part0_6 15 rfl rfl)
theorem dX6_part0_158 : decode cX6_part0 158 = .ok (.bipush 8, 2) := dk_16 8 (dk_at dksX6_part0_6 18 rfl rfl)
theorem dX6_part0_160 : decode cX6_part0 160 = .ok (.if_icmp .ne 5, 3) := dk_160 0 5 (dk_at dksX6_part0_6 20 rfl rfl)
theorem dX6_part0_163 : decode cX6_part0 163 = .ok (.iconst 0, 1) := dk_3 (dk_at dksX6_part0_6 23 rfl rfl)
theorem dX6_part0_164 : decode cX6_part0 164 = .ok (.ireturn, 1) := dk_172 (dk_at dksX6_part0_7 0 rfl rfl)
theorem dX6_part0_165 : decode cX6_part0 165 = .ok (.aload_n 0, 1) := dk_42 (dk_at dksX6_part0_7 1 rfl rfl)
theorem dX6_part0_166 : decode cX6_part0 166 = .ok (.dup, 1) := dk_89 (dk_at dksX6_part0_7 2 rfl rfl)
theorem dX6_part0_167 : decode cX6_part0 167 = .ok (.getfield 266, 3) := dk_180 1 10 (dk_at dksX6_part0_7 3 rfl rfl)
theorem dX6_part0_170 : decode cX6_part0 170 = .ok (.iconst 1, 1) := dk_4 (dk_at dksX6_part0_7 6 rfl rfl)
theorem dX6_part0_171 : decode cX6_part0 171 = .ok (.iadd, 1) := dk_96 (dk_at dksX6_part0_7 7 rfl rfl)
theorem dX6_part0_172 : decode cX6_part0 172 = .ok (.putfield 266, 3) := dk_181 1 10 (dk_at dksX6_part0_7 8 rfl rfl)
theorem dX6_part0_175 : decode cX6_part0 175 = .ok (.aload_n 0, 1) := dk_42 (dk_at dksX6_part0_7 11 rfl rfl)
theorem dX6_part0_176 : decode cX6_part0 176 = .ok (.invokevirtual 239, 3) := dk_182 0 239 (dk_at dksX6_part0_7 12 rfl rfl)
theorem dX6_part0_179 : decode cX6_part0 179 = .ok (.aload_n 0, 1) := dk_42 (dk_at dksX6_part0_7 15 rfl rfl)
theorem dX6_part0_180 : decode cX6_part0 180 = .ok (.iload_n 1, 1) := dk_27 (dk_at dksX6_part0_7 16 rfl rfl)
theorem dX6_part0_181 : decode cX6_part0 181 = .ok (.invokevirtual 269, 3) := dk_182 1 13 (dk_at dksX6_part0_7 17 rfl rfl)
theorem dX6_part0_184 : decode cX6_part0 184 = .ok (.ifCond .eq 12, 3) := dk_153 0 12 (dk_at dksX6_part0_7 20 rfl rfl)
theorem dX6_part0_187 : decode cX6_part0 187 = .ok (.aload_n 0, 1) := dk_42 (dk_at dksX6_part0_7 23 rfl rfl)
theorem dX6_part0_188 : decode cX6_part0 188 = .ok (.bipush 41, 2) := dk_16 41 (dk_at dksX6_part0_8 0 rfl rfl)
theorem dX6_part0_190 : decode cX6_part0 190 = .ok (.invokevirtual 236, 3) := dk_182 0 236 (dk_at dksX6_part0_8 2 rfl rfl)
theorem dX6_part0_193 : decode cX6_part0 193 = .ok (.ifCond .ne 5, 3) := dk_154 0 5 (dk_at dksX6_part0_8 5 rfl rfl)
theorem dX6_part0_196 : decode cX6_part0 196 = .ok (.iconst 0, 1) := dk_3 (dk_at dksX6_part0_8 8 rfl rfl)
theorem dX6_part0_197 : decode cX6_part0 197 = .ok (.ireturn, 1) := dk_172 (dk_at dksX6_part0_8 9 rfl rfl)
theorem dX6_part0_198 : decode cX6_part0 198 = .ok (.aload_n 0, 1) := dk_42 (dk_at dksX6_part0_8 10 rfl rfl)
theorem dX6_part0_199 : decode cX6_part0 199 = .ok (.dup, 1) := dk_89 (dk_at dksX6_part0_8 11 rfl rfl)
theorem dX6_part0_200 : decode cX6_part0 200 = .ok (.getfield 266, 3) := dk_180 1 10 (dk_at dksX6_part0_8 12 rfl rfl)
theorem dX6_part0_203 : decode cX6_part0 203 = .ok (.iconst 1, 1) := dk_4 (dk_at dksX6_part0_8 15 rfl rfl)
theorem dX6_part0_204 : decode cX6_part0 204 = .ok (.isub, 1) := dk_100 (dk_at dksX6_part0_8 16 rfl rfl)
theorem dX6_part0_205 : decode cX6_part0 205 = .ok (.putfield 266, 3) := dk_181 1 10 (dk_at dksX6_part0_8 17 rfl rfl)
theorem dX6_part0_208 : decode cX6_part0 208 = .ok (.aload_n 0, 1) := dk_42 (dk_at dksX6_part0_8 20 rfl rfl)
theorem dX6_part0_209 : decode cX6_part0 209 = .ok (.invokevirtual 239, 3) := dk_182 0 239 (dk_at dksX6_part0_8 21 rfl rfl)
theorem dX6_part0_212 : decode cX6_part0 212 = .ok (.iconst 1, 1) := dk_4 (dk_at dksX6_part0_9 0 rfl rfl)
theorem dX6_part0_213 : decode cX6_part0 213 = .ok (.ireturn, 1) := dk_172 (dk_at dksX6_part0_9 1 rfl rfl)
abbrev cX6_step : ByteArray := prog_19_method_65_code
def yX6_step : MethodName := ⟨RX6, "step", "(II)V"⟩
def dkwX6_step_2 : List UInt8 := [177]
abbrev dktX6_step_2 : List UInt8 := dkwX6_step_2 ++ []
def dkwX6_step_1 : List UInt8 := [180, 0, 227, 5, 42, 180, 0, 230, 104, 96, 4, 96, 28, 79, 42, 89, 180, 0, 230, 4, 96, 181, 0, 230]
abbrev dktX6_step_1 : List UInt8 := dkwX6_step_1 ++ dktX6_step_2
def dkwX6_step_0 : List UInt8 := [42, 180, 0, 7, 42, 180, 0, 227, 5, 42, 180, 0, 230, 104, 96, 27, 79, 42, 180, 0, 7, 42]
abbrev dktX6_step_0 : List UInt8 := dkwX6_step_0 ++ dktX6_step_1
theorem dksX6_step_0 : cX6_step.data.toList.drop 0 = dktX6_step_0 := by decide +kernel
theorem dksX6_step_1 : cX6_step.data.toList.drop 22 = dktX6_step_1 := dk_seg dksX6_step_0 22 rfl rfl
theorem dksX6_step_2 : cX6_step.data.toList.drop 46 = dktX6_step_2 := dk_seg dksX6_step_1 24 rfl rfl
theorem dX6_step_0 : decode cX6_step 0 = .ok (.aload_n 0, 1) := dk_42 (dk_at dksX6_step_0 0 rfl rfl)
theorem dX6_step_1 : decode cX6_step 1 = .ok (.getfield 7, 3) := dk_180 0 7 (dk_at dksX6_step_0 1 rfl rfl)
theorem dX6_step_4 : decode cX6_step 4 = .ok (.aload_n 0, 1) := dk_42 (dk_at dksX6_step_0 4 rfl rfl)
theorem dX6_step_5 : decode cX6_step 5 = .ok (.getfield 227, 3) := dk_180 0 227 (dk_at dksX6_step_0 5 rfl rfl)
theorem dX6_step_8 : decode cX6_step 8 = .ok (.iconst 2, 1) := dk_5 (dk_at dksX6_step_0 8 rfl rfl)
theorem dX6_step_9 : decode cX6_step 9 = .ok (.aload_n 0, 1) := dk_42 (dk_at dksX6_step_0 9 rfl rfl)
theorem dX6_step_10 : decode cX6_step 10 = .ok (.getfield 230, 3) := dk_180 0 230 (dk_at dksX6_step_0 10 rfl rfl)
theorem dX6_step_13 : decode cX6_step 13 = .ok (.imul, 1) := dk_104 (dk_at dksX6_step_0 13 rfl rfl)
theorem dX6_step_14 : decode cX6_step 14 = .ok (.iadd, 1) := dk_96 (dk_at dksX6_step_0 14 rfl rfl)
theorem dX6_step_15 : decode cX6_step 15 = .ok (.iload_n 1, 1) := dk_27 (dk_at dksX6_step_0 15 rfl rfl)
theorem dX6_step_16 : decode cX6_step 16 = .ok (.iastore, 1) := dk_79 (dk_at dksX6_step_0 16 rfl rfl)
theorem dX6_step_17 : decode cX6_step 17 = .ok (.aload_n 0, 1) := dk_42 (dk_at dksX6_step_0 17 rfl rfl)
theorem dX6_step_18 : decode cX6_step 18 = .ok (.getfield 7, 3) := dk_180 0 7 (dk_at dksX6_step_0 18 rfl rfl)
theorem dX6_step_21 : decode cX6_step 21 = .ok (.aload_n 0, 1) := dk_42 (dk_at dksX6_step_0 21 rfl rfl)
theorem dX6_step_22 : decode cX6_step 22 = .ok (.getfield 227, 3) := dk_180 0 227 (dk_at dksX6_step_1 0 rfl rfl)
theorem dX6_step_25 : decode cX6_step 25 = .ok (.iconst 2, 1) := dk_5 (dk_at dksX6_step_1 3 rfl rfl)
theorem dX6_step_26 : decode cX6_step 26 = .ok (.aload_n 0, 1) := dk_42 (dk_at dksX6_step_1 4 rfl rfl)
theorem dX6_step_27 : decode cX6_step 27 = .ok (.getfield 230, 3) := dk_180 0 230 (dk_at dksX6_step_1 5 rfl rfl)
theorem dX6_step_30 : decode cX6_step 30 = .ok (.imul, 1) := dk_104 (dk_at dksX6_step_1 8 rfl rfl)
theorem dX6_step_31 : decode cX6_step 31 = .ok (.iadd, 1) := dk_96 (dk_at dksX6_step_1 9 rfl rfl)
theorem dX6_step_32 : decode cX6_step 32 = .ok (.iconst 1, 1) := dk_4 (dk_at dksX6_step_1 10 rfl rfl)
theorem dX6_step_33 : decode cX6_step 33 = .ok (.iadd, 1) := dk_96 (dk_at dksX6_step_1 11 rfl rfl)
theorem dX6_step_34 : decode cX6_step 34 = .ok (.iload_n 2, 1) := dk_28 (dk_at dksX6_step_1 12 rfl rfl)
theorem dX6_step_35 : decode cX6_step 35 = .ok (.iastore, 1) := dk_79 (dk_at dksX6_step_1 13 rfl rfl)
theorem dX6_step_36 : decode cX6_step 36 = .ok (.aload_n 0, 1) := dk_42 (dk_at dksX6_step_1 14 rfl rfl)
theorem dX6_step_37 : decode cX6_step 37 = .ok (.dup, 1) := dk_89 (dk_at dksX6_step_1 15 rfl rfl)
theorem dX6_step_38 : decode cX6_step 38 = .ok (.getfield 230, 3) := dk_180 0 230 (dk_at dksX6_step_1 16 rfl rfl)
theorem dX6_step_41 : decode cX6_step 41 = .ok (.iconst 1, 1) := dk_4 (dk_at dksX6_step_1 19 rfl rfl)
theorem dX6_step_42 : decode cX6_step 42 = .ok (.iadd, 1) := dk_96 (dk_at dksX6_step_1 20 rfl rfl)
theorem dX6_step_43 : decode cX6_step 43 = .ok (.putfield 230, 3) := dk_181 0 230 (dk_at dksX6_step_1 21 rfl rfl)
theorem dX6_step_46 : decode cX6_step 46 = .ok (.return_, 1) := dk_177 (dk_at dksX6_step_2 0 rfl rfl)
abbrev cX6_isName : ByteArray := prog_19_method_64_code
def yX6_isName : MethodName := ⟨RX6, "isName", "(II)Z"⟩
def dkwX6_isName_4 : List UInt8 := [27, 16, 98, 159, 0, 15, 27, 16, 115, 159, 0, 9, 27, 16, 110, 160, 0, 7, 4, 167, 0, 4, 3, 172]
abbrev dktX6_isName_4 : List UInt8 := dkwX6_isName_4 ++ []
def dkwX6_isName_3 : List UInt8 := [27, 16, 108, 159, 0, 15, 27, 16, 119, 159, 0, 9, 27, 16, 110, 160, 0, 7, 4, 167, 0, 4, 3, 172]
abbrev dktX6_isName_3 : List UInt8 := dkwX6_isName_3 ++ dktX6_isName_4
def dkwX6_isName_2 : List UInt8 := [27, 16, 115, 159, 0, 15, 27, 16, 112, 159, 0, 9, 27, 16, 119, 160, 0, 7, 4, 167, 0, 4, 3, 172]
abbrev dktX6_isName_2 : List UInt8 := dkwX6_isName_2 ++ dktX6_isName_3
def dkwX6_isName_1 : List UInt8 := [171, 0, 0, 0, 0, 0, 75, 0, 0, 0, 2, 0, 0, 0, 0, 0, 0, 0, 27, 0, 0, 0, 1, 0, 0, 0, 51]
abbrev dktX6_isName_1 : List UInt8 := dkwX6_isName_1 ++ dktX6_isName_2
def dkwX6_isName_0 : List UInt8 := [26]
abbrev dktX6_isName_0 : List UInt8 := dkwX6_isName_0 ++ dktX6_isName_1
theorem dksX6_isName_0 : cX6_isName.data.toList.drop 0 = dktX6_isName_0 := by decide +kernel
theorem dksX6_isName_1 : cX6_isName.data.toList.drop 1 = dktX6_isName_1 := dk_seg dksX6_isName_0 1 rfl rfl
theorem dksX6_isName_2 : cX6_isName.data.toList.drop 28 = dktX6_isName_2 := dk_seg dksX6_isName_1 27 rfl rfl
theorem dksX6_isName_3 : cX6_isName.data.toList.drop 52 = dktX6_isName_3 := dk_seg dksX6_isName_2 24 rfl rfl
theorem dksX6_isName_4 : cX6_isName.data.toList.drop 76 = dktX6_isName_4 := dk_seg dksX6_isName_3 24 rfl rfl
theorem dX6_isName_0 : decode cX6_isName 0 = .ok (.iload_n 0, 1) := dk_26 (dk_at dksX6_isName_0 0 rfl rfl)
theorem dX6_isName_1 : decode cX6_isName 1 = .ok (.lookupswitch 75 #[(0, 27), (1, 51)], 27) := by decide +kernel
theorem dX6_isName_28 : decode cX6_isName 28 = .ok (.iload_n 1, 1) := dk_27 (dk_at dksX6_isName_2 0 rfl rfl)
theorem dX6_isName_29 : decode cX6_isName 29 = .ok (.bipush 115, 2) := dk_16 115 (dk_at dksX6_isName_2 1 rfl rfl)
theorem dX6_isName_31 : decode cX6_isName 31 = .ok (.if_icmp .eq 15, 3) := dk_159 0 15 (dk_at dksX6_isName_2 3 rfl rfl)
theorem dX6_isName_34 : decode cX6_isName 34 = .ok (.iload_n 1, 1) := dk_27 (dk_at dksX6_isName_2 6 rfl rfl)
theorem dX6_isName_35 : decode cX6_isName 35 = .ok (.bipush 112, 2) := dk_16 112 (dk_at dksX6_isName_2 7 rfl rfl)
theorem dX6_isName_37 : decode cX6_isName 37 = .ok (.if_icmp .eq 9, 3) := dk_159 0 9 (dk_at dksX6_isName_2 9 rfl rfl)
theorem dX6_isName_40 : decode cX6_isName 40 = .ok (.iload_n 1, 1) := dk_27 (dk_at dksX6_isName_2 12 rfl rfl)
theorem dX6_isName_41 : decode cX6_isName 41 = .ok (.bipush 119, 2) := dk_16 119 (dk_at dksX6_isName_2 13 rfl rfl)
theorem dX6_isName_43 : decode cX6_isName 43 = .ok (.if_icmp .ne 7, 3) := dk_160 0 7 (dk_at dksX6_isName_2 15 rfl rfl)
theorem dX6_isName_46 : decode cX6_isName 46 = .ok (.iconst 1, 1) := dk_4 (dk_at dksX6_isName_2 18 rfl rfl)
theorem dX6_isName_47 : decode cX6_isName 47 = .ok (.goto 4, 3) := dk_167 0 4 (dk_at dksX6_isName_2 19 rfl rfl)
theorem dX6_isName_50 : decode cX6_isName 50 = .ok (.iconst 0, 1) := dk_3 (dk_at dksX6_isName_2 22 rfl rfl)
theorem dX6_isName_51 : decode cX6_isName 51 = .ok (.ireturn, 1) := dk_172 (dk_at dksX6_isName_2 23 rfl rfl)
theorem dX6_isName_52 : decode cX6_isName 52 = .ok (.iload_n 1, 1) := dk_27 (dk_at dksX6_isName_3 0 rfl rfl)
theorem dX6_isName_53 : decode cX6_isName 53 = .ok (.bipush 108, 2) := dk_16 108 (dk_at dksX6_isName_3 1 rfl rfl)
theorem dX6_isName_55 : decode cX6_isName 55 = .ok (.if_icmp .eq 15, 3) := dk_159 0 15 (dk_at dksX6_isName_3 3 rfl rfl)
theorem dX6_isName_58 : decode cX6_isName 58 = .ok (.iload_n 1, 1) := dk_27 (dk_at dksX6_isName_3 6 rfl rfl)
theorem dX6_isName_59 : decode cX6_isName 59 = .ok (.bipush 119, 2) := dk_16 119 (dk_at dksX6_isName_3 7 rfl rfl)
theorem dX6_isName_61 : decode cX6_isName 61 = .ok (.if_icmp .eq 9, 3) := dk_159 0 9 (dk_at dksX6_isName_3 9 rfl rfl)
theorem dX6_isName_64 : decode cX6_isName 64 = .ok (.iload_n 1, 1) := dk_27 (dk_at dksX6_isName_3 12 rfl rfl)
theorem dX6_isName_65 : decode cX6_isName 65 = .ok (.bipush 110, 2) := dk_16 110 (dk_at dksX6_isName_3 13 rfl rfl)
theorem dX6_isName_67 : decode cX6_isName 67 = .ok (.if_icmp .ne 7, 3) := dk_160 0 7 (dk_at dksX6_isName_3 15 rfl rfl)
theorem dX6_isName_70 : decode cX6_isName 70 = .ok (.iconst 1, 1) := dk_4 (dk_at dksX6_isName_3 18 rfl rfl)
theorem dX6_isName_71 : decode cX6_isName 71 = .ok (.goto 4, 3) := dk_167 0 4 (dk_at dksX6_isName_3 19 rfl rfl)
theorem dX6_isName_74 : decode cX6_isName 74 = .ok (.iconst 0, 1) := dk_3 (dk_at dksX6_isName_3 22 rfl rfl)
theorem dX6_isName_75 : decode cX6_isName 75 = .ok (.ireturn, 1) := dk_172 (dk_at dksX6_isName_3 23 rfl rfl)
theorem dX6_isName_76 : decode cX6_isName 76 = .ok (.iload_n 1, 1) := dk_27 (dk_at dksX6_isName_4 0 rfl rfl)
theorem dX6_isName_77 : decode cX6_isName 77 = .ok (.bipush 98, 2) := dk_16 98 (dk_at dksX6_isName_4 1 rfl rfl)
theorem dX6_isName_79 : decode cX6_isName 79 = .ok (.if_icmp .eq 15, 3) := dk_159 0 15 (dk_at dksX6_isName_4 3 rfl rfl)
theorem dX6_isName_82 : decode cX6_isName 82 = .ok (.iload_n 1, 1) := dk_27 (dk_at dksX6_isName_4 6 rfl rfl)
theorem dX6_isName_83 : decode cX6_isName 83 = .ok (.bipush 115, 2) := dk_16 115 (dk_at dksX6_isName_4 7 rfl rfl)
theorem dX6_isName_85 : decode cX6_isName 85 = .ok (.if_icmp .eq 9, 3) := dk_159 0 9 (dk_at dksX6_isName_4 9 rfl rfl)
theorem dX6_isName_88 : decode cX6_isName 88 = .ok (.iload_n 1, 1) := dk_27 (dk_at dksX6_isName_4 12 rfl rfl)
theorem dX6_isName_89 : decode cX6_isName 89 = .ok (.bipush 110, 2) := dk_16 110 (dk_at dksX6_isName_4 13 rfl rfl)
theorem dX6_isName_91 : decode cX6_isName 91 = .ok (.if_icmp .ne 7, 3) := dk_160 0 7 (dk_at dksX6_isName_4 15 rfl rfl)
theorem dX6_isName_94 : decode cX6_isName 94 = .ok (.iconst 1, 1) := dk_4 (dk_at dksX6_isName_4 18 rfl rfl)
theorem dX6_isName_95 : decode cX6_isName 95 = .ok (.goto 4, 3) := dk_167 0 4 (dk_at dksX6_isName_4 19 rfl rfl)
theorem dX6_isName_98 : decode cX6_isName 98 = .ok (.iconst 0, 1) := dk_3 (dk_at dksX6_isName_4 22 rfl rfl)
theorem dX6_isName_99 : decode cX6_isName 99 = .ok (.ireturn, 1) := dk_172 (dk_at dksX6_isName_4 23 rfl rfl)
abbrev cX6_isSign : ByteArray := prog_19_method_61_code
def yX6_isSign : MethodName := ⟨RX6, "isSign", "(I)Z"⟩
def dkwX6_isSign_0 : List UInt8 := [42, 180, 0, 205, 6, 160, 0, 15, 42, 180, 0, 214, 27, 160, 0, 7, 4, 167, 0, 4, 3, 172]
abbrev dktX6_isSign_0 : List UInt8 := dkwX6_isSign_0 ++ []
theorem dksX6_isSign_0 : cX6_isSign.data.toList.drop 0 = dktX6_isSign_0 := by decide +kernel
theorem dX6_isSign_0 : decode cX6_isSign 0 = .ok (.aload_n 0, 1) := dk_42 (dk_at dksX6_isSign_0 0 rfl rfl)
theorem dX6_isSign_1 : decode cX6_isSign 1 = .ok (.getfield 205, 3) := dk_180 0 205 (dk_at dksX6_isSign_0 1 rfl rfl)
theorem dX6_isSign_4 : decode cX6_isSign 4 = .ok (.iconst 3, 1) := dk_6 (dk_at dksX6_isSign_0 4 rfl rfl)
theorem dX6_isSign_5 : decode cX6_isSign 5 = .ok (.if_icmp .ne 15, 3) := dk_160 0 15 (dk_at dksX6_isSign_0 5 rfl rfl)
theorem dX6_isSign_8 : decode cX6_isSign 8 = .ok (.aload_n 0, 1) := dk_42 (dk_at dksX6_isSign_0 8 rfl rfl)
theorem dX6_isSign_9 : decode cX6_isSign 9 = .ok (.getfield 214, 3) := dk_180 0 214 (dk_at dksX6_isSign_0 9 rfl rfl)
theorem dX6_isSign_12 : decode cX6_isSign 12 = .ok (.iload_n 1, 1) := dk_27 (dk_at dksX6_isSign_0 12 rfl rfl)
theorem dX6_isSign_13 : decode cX6_isSign 13 = .ok (.if_icmp .ne 7, 3) := dk_160 0 7 (dk_at dksX6_isSign_0 13 rfl rfl)
theorem dX6_isSign_16 : decode cX6_isSign 16 = .ok (.iconst 1, 1) := dk_4 (dk_at dksX6_isSign_0 16 rfl rfl)
theorem dX6_isSign_17 : decode cX6_isSign 17 = .ok (.goto 4, 3) := dk_167 0 4 (dk_at dksX6_isSign_0 17 rfl rfl)
theorem dX6_isSign_20 : decode cX6_isSign 20 = .ok (.iconst 0, 1) := dk_3 (dk_at dksX6_isSign_0 20 rfl rfl)
theorem dX6_isSign_21 : decode cX6_isSign 21 = .ok (.ireturn, 1) := dk_172 (dk_at dksX6_isSign_0 21 rfl rfl)
abbrev cX6_textTold : ByteArray := prog_19_method_74_code
def yX6_textTold : MethodName := ⟨RX6, "textTold", "(II)I"⟩
def dkwX6_textTold_1 : List UInt8 := [180, 0, 7, 42, 27, 182, 1, 16, 28, 96, 46, 172]
abbrev dktX6_textTold_1 : List UInt8 := dkwX6_textTold_1 ++ []
def dkwX6_textTold_0 : List UInt8 := [42, 27, 182, 1, 25, 153, 0, 13, 28, 133, 9, 10, 184, 0, 65, 154, 0, 6, 18, 82, 172, 42]
abbrev dktX6_textTold_0 : List UInt8 := dkwX6_textTold_0 ++ dktX6_textTold_1
theorem dksX6_textTold_0 : cX6_textTold.data.toList.drop 0 = dktX6_textTold_0 := by decide +kernel
theorem dksX6_textTold_1 : cX6_textTold.data.toList.drop 22 = dktX6_textTold_1 := dk_seg dksX6_textTold_0 22 rfl rfl
theorem dX6_textTold_0 : decode cX6_textTold 0 = .ok (.aload_n 0, 1) := dk_42 (dk_at dksX6_textTold_0 0 rfl rfl)
theorem dX6_textTold_1 : decode cX6_textTold 1 = .ok (.iload_n 1, 1) := dk_27 (dk_at dksX6_textTold_0 1 rfl rfl)
theorem dX6_textTold_2 : decode cX6_textTold 2 = .ok (.invokevirtual 281, 3) := dk_182 1 25 (dk_at dksX6_textTold_0 2 rfl rfl)
theorem dX6_textTold_5 : decode cX6_textTold 5 = .ok (.ifCond .eq 13, 3) := dk_153 0 13 (dk_at dksX6_textTold_0 5 rfl rfl)
theorem dX6_textTold_8 : decode cX6_textTold 8 = .ok (.iload_n 2, 1) := dk_28 (dk_at dksX6_textTold_0 8 rfl rfl)
theorem dX6_textTold_9 : decode cX6_textTold 9 = .ok (.i2l, 1) := dk_133 (dk_at dksX6_textTold_0 9 rfl rfl)
theorem dX6_textTold_10 : decode cX6_textTold 10 = .ok (.lconst 0, 1) := dk_9 (dk_at dksX6_textTold_0 10 rfl rfl)
theorem dX6_textTold_11 : decode cX6_textTold 11 = .ok (.lconst 1, 1) := dk_10 (dk_at dksX6_textTold_0 11 rfl rfl)
theorem dX6_textTold_12 : decode cX6_textTold 12 = .ok (.invokestatic 65, 3) := dk_184 0 65 (dk_at dksX6_textTold_0 12 rfl rfl)
theorem dX6_textTold_15 : decode cX6_textTold 15 = .ok (.ifCond .ne 6, 3) := dk_154 0 6 (dk_at dksX6_textTold_0 15 rfl rfl)
theorem dX6_textTold_18 : decode cX6_textTold 18 = .ok (.ldc 82, 2) := dk_18 82 (dk_at dksX6_textTold_0 18 rfl rfl)
theorem dX6_textTold_20 : decode cX6_textTold 20 = .ok (.ireturn, 1) := dk_172 (dk_at dksX6_textTold_0 20 rfl rfl)
theorem dX6_textTold_21 : decode cX6_textTold 21 = .ok (.aload_n 0, 1) := dk_42 (dk_at dksX6_textTold_0 21 rfl rfl)
theorem dX6_textTold_22 : decode cX6_textTold 22 = .ok (.getfield 7, 3) := dk_180 0 7 (dk_at dksX6_textTold_1 0 rfl rfl)
theorem dX6_textTold_25 : decode cX6_textTold 25 = .ok (.aload_n 0, 1) := dk_42 (dk_at dksX6_textTold_1 3 rfl rfl)
theorem dX6_textTold_26 : decode cX6_textTold 26 = .ok (.iload_n 1, 1) := dk_27 (dk_at dksX6_textTold_1 4 rfl rfl)
theorem dX6_textTold_27 : decode cX6_textTold 27 = .ok (.invokevirtual 272, 3) := dk_182 1 16 (dk_at dksX6_textTold_1 5 rfl rfl)
theorem dX6_textTold_30 : decode cX6_textTold 30 = .ok (.iload_n 2, 1) := dk_28 (dk_at dksX6_textTold_1 8 rfl rfl)
theorem dX6_textTold_31 : decode cX6_textTold 31 = .ok (.iadd, 1) := dk_96 (dk_at dksX6_textTold_1 9 rfl rfl)
theorem dX6_textTold_32 : decode cX6_textTold 32 = .ok (.iaload, 1) := dk_46 (dk_at dksX6_textTold_1 10 rfl rfl)
theorem dX6_textTold_33 : decode cX6_textTold 33 = .ok (.ireturn, 1) := dk_172 (dk_at dksX6_textTold_1 11 rfl rfl)
abbrev cX6_isText : ByteArray := prog_19_method_11_code
def yX6_isText : MethodName := ⟨RX6, "isText", "(I)Z"⟩
def dkwX6_isText_0 : List UInt8 := [27, 133, 9, 42, 180, 0, 7, 5, 46, 4, 100, 133, 184, 0, 65, 172]
abbrev dktX6_isText_0 : List UInt8 := dkwX6_isText_0 ++ []
theorem dksX6_isText_0 : cX6_isText.data.toList.drop 0 = dktX6_isText_0 := by decide +kernel
theorem dX6_isText_0 : decode cX6_isText 0 = .ok (.iload_n 1, 1) := dk_27 (dk_at dksX6_isText_0 0 rfl rfl)
theorem dX6_isText_1 : decode cX6_isText 1 = .ok (.i2l, 1) := dk_133 (dk_at dksX6_isText_0 1 rfl rfl)
theorem dX6_isText_2 : decode cX6_isText 2 = .ok (.lconst 0, 1) := dk_9 (dk_at dksX6_isText_0 2 rfl rfl)
theorem dX6_isText_3 : decode cX6_isText 3 = .ok (.aload_n 0, 1) := dk_42 (dk_at dksX6_isText_0 3 rfl rfl)
theorem dX6_isText_4 : decode cX6_isText 4 = .ok (.getfield 7, 3) := dk_180 0 7 (dk_at dksX6_isText_0 4 rfl rfl)
theorem dX6_isText_7 : decode cX6_isText 7 = .ok (.iconst 2, 1) := dk_5 (dk_at dksX6_isText_0 7 rfl rfl)
theorem dX6_isText_8 : decode cX6_isText 8 = .ok (.iaload, 1) := dk_46 (dk_at dksX6_isText_0 8 rfl rfl)
theorem dX6_isText_9 : decode cX6_isText 9 = .ok (.iconst 1, 1) := dk_4 (dk_at dksX6_isText_0 9 rfl rfl)
theorem dX6_isText_10 : decode cX6_isText 10 = .ok (.isub, 1) := dk_100 (dk_at dksX6_isText_0 10 rfl rfl)
theorem dX6_isText_11 : decode cX6_isText 11 = .ok (.i2l, 1) := dk_133 (dk_at dksX6_isText_0 11 rfl rfl)
theorem dX6_isText_12 : decode cX6_isText 12 = .ok (.invokestatic 65, 3) := dk_184 0 65 (dk_at dksX6_isText_0 12 rfl rfl)
theorem dX6_isText_15 : decode cX6_isText 15 = .ok (.ireturn, 1) := dk_172 (dk_at dksX6_isText_0 15 rfl rfl)
abbrev cX6_why : ByteArray := prog_19_method_76_code
def yX6_why : MethodName := ⟨RX6, "why", "(I)I"⟩
def dkwX6_why_1 : List UInt8 := [18, 82, 172]
abbrev dktX6_why_1 : List UInt8 := dkwX6_why_1 ++ []
def dkwX6_why_0 : List UInt8 := [27, 133, 9, 20, 1, 28, 184, 0, 65, 153, 0, 14, 42, 27, 182, 0, 133, 184, 0, 174, 167, 0, 5]
abbrev dktX6_why_0 : List UInt8 := dkwX6_why_0 ++ dktX6_why_1
theorem dksX6_why_0 : cX6_why.data.toList.drop 0 = dktX6_why_0 := by decide +kernel
theorem dksX6_why_1 : cX6_why.data.toList.drop 23 = dktX6_why_1 := dk_seg dksX6_why_0 23 rfl rfl
theorem dX6_why_0 : decode cX6_why 0 = .ok (.iload_n 1, 1) := dk_27 (dk_at dksX6_why_0 0 rfl rfl)
theorem dX6_why_1 : decode cX6_why 1 = .ok (.i2l, 1) := dk_133 (dk_at dksX6_why_0 1 rfl rfl)
theorem dX6_why_2 : decode cX6_why 2 = .ok (.lconst 0, 1) := dk_9 (dk_at dksX6_why_0 2 rfl rfl)
theorem dX6_why_3 : decode cX6_why 3 = .ok (.ldc2_w 284, 3) := dk_20 1 28 (dk_at dksX6_why_0 3 rfl rfl)
theorem dX6_why_6 : decode cX6_why 6 = .ok (.invokestatic 65, 3) := dk_184 0 65 (dk_at dksX6_why_0 6 rfl rfl)
theorem dX6_why_9 : decode cX6_why 9 = .ok (.ifCond .eq 14, 3) := dk_153 0 14 (dk_at dksX6_why_0 9 rfl rfl)
theorem dX6_why_12 : decode cX6_why 12 = .ok (.aload_n 0, 1) := dk_42 (dk_at dksX6_why_0 12 rfl rfl)
theorem dX6_why_13 : decode cX6_why 13 = .ok (.iload_n 1, 1) := dk_27 (dk_at dksX6_why_0 13 rfl rfl)
theorem dX6_why_14 : decode cX6_why 14 = .ok (.invokevirtual 133, 3) := dk_182 0 133 (dk_at dksX6_why_0 14 rfl rfl)
theorem dX6_why_17 : decode cX6_why 17 = .ok (.invokestatic 174, 3) := dk_184 0 174 (dk_at dksX6_why_0 17 rfl rfl)
theorem dX6_why_20 : decode cX6_why 20 = .ok (.goto 5, 3) := dk_167 0 5 (dk_at dksX6_why_0 20 rfl rfl)
theorem dX6_why_23 : decode cX6_why 23 = .ok (.ldc 82, 2) := dk_18 82 (dk_at dksX6_why_1 0 rfl rfl)
theorem dX6_why_25 : decode cX6_why 25 = .ok (.ireturn, 1) := dk_172 (dk_at dksX6_why_1 2 rfl rfl)
abbrev cX6_sheet : ByteArray := prog_19_method_80_code
def yX6_sheet : MethodName := ⟨RX6, "sheet", "(III)I"⟩
def dkwX6_sheet_4 : List UInt8 := [42, 180, 0, 22, 27, 46, 172]
abbrev dktX6_sheet_4 : List UInt8 := dkwX6_sheet_4 ++ []
def dkwX6_sheet_3 : List UInt8 := [16, 24, 162, 0, 22, 42, 180, 0, 25, 16, 24, 27, 104, 21, 4, 96, 3, 79, 132, 4, 1, 167, 255, 233]
abbrev dktX6_sheet_3 : List UInt8 := dkwX6_sheet_3 ++ dktX6_sheet_4
def dkwX6_sheet_2 : List UInt8 := [27, 28, 79, 42, 180, 0, 22, 27, 28, 156, 0, 7, 3, 167, 0, 4, 29, 79, 3, 54, 4, 21, 4]
abbrev dktX6_sheet_2 : List UInt8 := dkwX6_sheet_2 ++ dktX6_sheet_3
def dkwX6_sheet_1 : List UInt8 := [16, 24, 164, 0, 6, 18, 82, 172, 28, 155, 0, 11, 29, 156, 0, 7, 19, 1, 40, 172, 42, 180, 0, 19]
abbrev dktX6_sheet_1 : List UInt8 := dkwX6_sheet_1 ++ dktX6_sheet_2
def dkwX6_sheet_0 : List UInt8 := [27, 184, 1, 35, 153, 0, 25, 28, 133, 20, 1, 38, 10, 184, 0, 65, 153, 0, 13, 28, 155, 0, 12, 29]
abbrev dktX6_sheet_0 : List UInt8 := dkwX6_sheet_0 ++ dktX6_sheet_1
theorem dksX6_sheet_0 : cX6_sheet.data.toList.drop 0 = dktX6_sheet_0 := by decide +kernel
theorem dksX6_sheet_1 : cX6_sheet.data.toList.drop 24 = dktX6_sheet_1 := dk_seg dksX6_sheet_0 24 rfl rfl
theorem dksX6_sheet_2 : cX6_sheet.data.toList.drop 48 = dktX6_sheet_2 := dk_seg dksX6_sheet_1 24 rfl rfl
theorem dksX6_sheet_3 : cX6_sheet.data.toList.drop 71 = dktX6_sheet_3 := dk_seg dksX6_sheet_2 23 rfl rfl
theorem dksX6_sheet_4 : cX6_sheet.data.toList.drop 95 = dktX6_sheet_4 := dk_seg dksX6_sheet_3 24 rfl rfl
theorem dX6_sheet_0 : decode cX6_sheet 0 = .ok (.iload_n 1, 1) := dk_27 (dk_at dksX6_sheet_0 0 rfl rfl)
theorem dX6_sheet_1 : decode cX6_sheet 1 = .ok (.invokestatic 291, 3) := dk_184 1 35 (dk_at dksX6_sheet_0 1 rfl rfl)
theorem dX6_sheet_4 : decode cX6_sheet 4 = .ok (.ifCond .eq 25, 3) := dk_153 0 25 (dk_at dksX6_sheet_0 4 rfl rfl)
theorem dX6_sheet_7 : decode cX6_sheet 7 = .ok (.iload_n 2, 1) := dk_28 (dk_at dksX6_sheet_0 7 rfl rfl)
theorem dX6_sheet_8 : decode cX6_sheet 8 = .ok (.i2l, 1) := dk_133 (dk_at dksX6_sheet_0 8 rfl rfl)
theorem dX6_sheet_9 : decode cX6_sheet 9 = .ok (.ldc2_w 294, 3) := dk_20 1 38 (dk_at dksX6_sheet_0 9 rfl rfl)
theorem dX6_sheet_12 : decode cX6_sheet 12 = .ok (.lconst 1, 1) := dk_10 (dk_at dksX6_sheet_0 12 rfl rfl)
theorem dX6_sheet_13 : decode cX6_sheet 13 = .ok (.invokestatic 65, 3) := dk_184 0 65 (dk_at dksX6_sheet_0 13 rfl rfl)
theorem dX6_sheet_16 : decode cX6_sheet 16 = .ok (.ifCond .eq 13, 3) := dk_153 0 13 (dk_at dksX6_sheet_0 16 rfl rfl)
theorem dX6_sheet_19 : decode cX6_sheet 19 = .ok (.iload_n 2, 1) := dk_28 (dk_at dksX6_sheet_0 19 rfl rfl)
theorem dX6_sheet_20 : decode cX6_sheet 20 = .ok (.ifCond .lt 12, 3) := dk_155 0 12 (dk_at dksX6_sheet_0 20 rfl rfl)
theorem dX6_sheet_23 : decode cX6_sheet 23 = .ok (.iload_n 3, 1) := dk_29 (dk_at dksX6_sheet_0 23 rfl rfl)
theorem dX6_sheet_24 : decode cX6_sheet 24 = .ok (.bipush 24, 2) := dk_16 24 (dk_at dksX6_sheet_1 0 rfl rfl)
theorem dX6_sheet_26 : decode cX6_sheet 26 = .ok (.if_icmp .le 6, 3) := dk_164 0 6 (dk_at dksX6_sheet_1 2 rfl rfl)
theorem dX6_sheet_29 : decode cX6_sheet 29 = .ok (.ldc 82, 2) := dk_18 82 (dk_at dksX6_sheet_1 5 rfl rfl)
theorem dX6_sheet_31 : decode cX6_sheet 31 = .ok (.ireturn, 1) := dk_172 (dk_at dksX6_sheet_1 7 rfl rfl)
theorem dX6_sheet_32 : decode cX6_sheet 32 = .ok (.iload_n 2, 1) := dk_28 (dk_at dksX6_sheet_1 8 rfl rfl)
theorem dX6_sheet_33 : decode cX6_sheet 33 = .ok (.ifCond .lt 11, 3) := dk_155 0 11 (dk_at dksX6_sheet_1 9 rfl rfl)
theorem dX6_sheet_36 : decode cX6_sheet 36 = .ok (.iload_n 3, 1) := dk_29 (dk_at dksX6_sheet_1 12 rfl rfl)
theorem dX6_sheet_37 : decode cX6_sheet 37 = .ok (.ifCond .ge 7, 3) := dk_156 0 7 (dk_at dksX6_sheet_1 13 rfl rfl)
theorem dX6_sheet_40 : decode cX6_sheet 40 = .ok (.ldc_w 296, 3) := dk_19 1 40 (dk_at dksX6_sheet_1 16 rfl rfl)
theorem dX6_sheet_43 : decode cX6_sheet 43 = .ok (.ireturn, 1) := dk_172 (dk_at dksX6_sheet_1 19 rfl rfl)
theorem dX6_sheet_44 : decode cX6_sheet 44 = .ok (.aload_n 0, 1) := dk_42 (dk_at dksX6_sheet_1 20 rfl rfl)
theorem dX6_sheet_45 : decode cX6_sheet 45 = .ok (.getfield 19, 3) := dk_180 0 19 (dk_at dksX6_sheet_1 21 rfl rfl)
theorem dX6_sheet_48 : decode cX6_sheet 48 = .ok (.iload_n 1, 1) := dk_27 (dk_at dksX6_sheet_2 0 rfl rfl)
theorem dX6_sheet_49 : decode cX6_sheet 49 = .ok (.iload_n 2, 1) := dk_28 (dk_at dksX6_sheet_2 1 rfl rfl)
theorem dX6_sheet_50 : decode cX6_sheet 50 = .ok (.iastore, 1) := dk_79 (dk_at dksX6_sheet_2 2 rfl rfl)
theorem dX6_sheet_51 : decode cX6_sheet 51 = .ok (.aload_n 0, 1) := dk_42 (dk_at dksX6_sheet_2 3 rfl rfl)
theorem dX6_sheet_52 : decode cX6_sheet 52 = .ok (.getfield 22, 3) := dk_180 0 22 (dk_at dksX6_sheet_2 4 rfl rfl)
theorem dX6_sheet_55 : decode cX6_sheet 55 = .ok (.iload_n 1, 1) := dk_27 (dk_at dksX6_sheet_2 7 rfl rfl)
theorem dX6_sheet_56 : decode cX6_sheet 56 = .ok (.iload_n 2, 1) := dk_28 (dk_at dksX6_sheet_2 8 rfl rfl)
theorem dX6_sheet_57 : decode cX6_sheet 57 = .ok (.ifCond .ge 7, 3) := dk_156 0 7 (dk_at dksX6_sheet_2 9 rfl rfl)
theorem dX6_sheet_60 : decode cX6_sheet 60 = .ok (.iconst 0, 1) := dk_3 (dk_at dksX6_sheet_2 12 rfl rfl)
theorem dX6_sheet_61 : decode cX6_sheet 61 = .ok (.goto 4, 3) := dk_167 0 4 (dk_at dksX6_sheet_2 13 rfl rfl)
theorem dX6_sheet_64 : decode cX6_sheet 64 = .ok (.iload_n 3, 1) := dk_29 (dk_at dksX6_sheet_2 16 rfl rfl)
theorem dX6_sheet_65 : decode cX6_sheet 65 = .ok (.iastore, 1) := dk_79 (dk_at dksX6_sheet_2 17 rfl rfl)
theorem dX6_sheet_66 : decode cX6_sheet 66 = .ok (.iconst 0, 1) := dk_3 (dk_at dksX6_sheet_2 18 rfl rfl)
theorem dX6_sheet_67 : decode cX6_sheet 67 = .ok (.istore 4, 2) := dk_54 4 (dk_at dksX6_sheet_2 19 rfl rfl)
theorem dX6_sheet_69 : decode cX6_sheet 69 = .ok (.iload 4, 2) := dk_21 4 (dk_at dksX6_sheet_2 21 rfl rfl)
theorem dX6_sheet_71 : decode cX6_sheet 71 = .ok (.bipush 24, 2) := dk_16 24 (dk_at dksX6_sheet_3 0 rfl rfl)
theorem dX6_sheet_73 : decode cX6_sheet 73 = .ok (.if_icmp .ge 22, 3) := dk_162 0 22 (dk_at dksX6_sheet_3 2 rfl rfl)
theorem dX6_sheet_76 : decode cX6_sheet 76 = .ok (.aload_n 0, 1) := dk_42 (dk_at dksX6_sheet_3 5 rfl rfl)
theorem dX6_sheet_77 : decode cX6_sheet 77 = .ok (.getfield 25, 3) := dk_180 0 25 (dk_at dksX6_sheet_3 6 rfl rfl)
theorem dX6_sheet_80 : decode cX6_sheet 80 = .ok (.bipush 24, 2) := dk_16 24 (dk_at dksX6_sheet_3 9 rfl rfl)
theorem dX6_sheet_82 : decode cX6_sheet 82 = .ok (.iload_n 1, 1) := dk_27 (dk_at dksX6_sheet_3 11 rfl rfl)
theorem dX6_sheet_83 : decode cX6_sheet 83 = .ok (.imul, 1) := dk_104 (dk_at dksX6_sheet_3 12 rfl rfl)
theorem dX6_sheet_84 : decode cX6_sheet 84 = .ok (.iload 4, 2) := dk_21 4 (dk_at dksX6_sheet_3 13 rfl rfl)
theorem dX6_sheet_86 : decode cX6_sheet 86 = .ok (.iadd, 1) := dk_96 (dk_at dksX6_sheet_3 15 rfl rfl)
theorem dX6_sheet_87 : decode cX6_sheet 87 = .ok (.iconst 0, 1) := dk_3 (dk_at dksX6_sheet_3 16 rfl rfl)
theorem dX6_sheet_88 : decode cX6_sheet 88 = .ok (.iastore, 1) := dk_79 (dk_at dksX6_sheet_3 17 rfl rfl)
theorem dX6_sheet_89 : decode cX6_sheet 89 = .ok (.iinc 4 1, 3) := dk_132 4 1 (dk_at dksX6_sheet_3 18 rfl rfl)
theorem dX6_sheet_92 : decode cX6_sheet 92 = .ok (.goto (-23), 3) := dk_167 255 233 (dk_at dksX6_sheet_3 21 rfl rfl)
theorem dX6_sheet_95 : decode cX6_sheet 95 = .ok (.aload_n 0, 1) := dk_42 (dk_at dksX6_sheet_4 0 rfl rfl)
theorem dX6_sheet_96 : decode cX6_sheet 96 = .ok (.getfield 22, 3) := dk_180 0 22 (dk_at dksX6_sheet_4 1 rfl rfl)
theorem dX6_sheet_99 : decode cX6_sheet 99 = .ok (.iload_n 1, 1) := dk_27 (dk_at dksX6_sheet_4 4 rfl rfl)
theorem dX6_sheet_100 : decode cX6_sheet 100 = .ok (.iaload, 1) := dk_46 (dk_at dksX6_sheet_4 5 rfl rfl)
theorem dX6_sheet_101 : decode cX6_sheet 101 = .ok (.ireturn, 1) := dk_172 (dk_at dksX6_sheet_4 6 rfl rfl)
abbrev cX6_isSheet : ByteArray := prog_19_method_79_code
def yX6_isSheet : MethodName := ⟨RX6, "isSheet", "(I)Z"⟩
def dkwX6_isSheet_0 : List UInt8 := [26, 133, 9, 20, 1, 33, 184, 0, 65, 172]
abbrev dktX6_isSheet_0 : List UInt8 := dkwX6_isSheet_0 ++ []
theorem dksX6_isSheet_0 : cX6_isSheet.data.toList.drop 0 = dktX6_isSheet_0 := by decide +kernel
theorem dX6_isSheet_0 : decode cX6_isSheet 0 = .ok (.iload_n 0, 1) := dk_26 (dk_at dksX6_isSheet_0 0 rfl rfl)
theorem dX6_isSheet_1 : decode cX6_isSheet 1 = .ok (.i2l, 1) := dk_133 (dk_at dksX6_isSheet_0 1 rfl rfl)
theorem dX6_isSheet_2 : decode cX6_isSheet 2 = .ok (.lconst 0, 1) := dk_9 (dk_at dksX6_isSheet_0 2 rfl rfl)
theorem dX6_isSheet_3 : decode cX6_isSheet 3 = .ok (.ldc2_w 289, 3) := dk_20 1 33 (dk_at dksX6_isSheet_0 3 rfl rfl)
theorem dX6_isSheet_6 : decode cX6_isSheet 6 = .ok (.invokestatic 65, 3) := dk_184 0 65 (dk_at dksX6_isSheet_0 6 rfl rfl)
theorem dX6_isSheet_9 : decode cX6_isSheet 9 = .ok (.ireturn, 1) := dk_172 (dk_at dksX6_isSheet_0 9 rfl rfl)
abbrev cX6_mark : ByteArray := prog_19_method_81_code
def yX6_mark : MethodName := ⟨RX6, "mark", "(III)I"⟩
def dkwX6_mark_5 : List UInt8 := [16, 16, 120, 16, 16, 122, 167, 0, 4, 29, 79, 4, 172]
abbrev dktX6_mark_5 : List UInt8 := dkwX6_mark_5 ++ []
def dkwX6_mark_4 : List UInt8 := [18, 82, 172, 42, 180, 0, 25, 16, 24, 27, 104, 28, 96, 42, 180, 0, 19, 27, 46, 154, 0, 13, 29]
abbrev dktX6_mark_4 : List UInt8 := dkwX6_mark_4 ++ dktX6_mark_5
def dkwX6_mark_3 : List UInt8 := [160, 0, 26, 29, 18, 64, 159, 0, 20, 29, 133, 20, 1, 43, 20, 1, 45, 184, 0, 65, 154, 0, 6]
abbrev dktX6_mark_3 : List UInt8 := dkwX6_mark_3 ++ dktX6_mark_4
def dkwX6_mark_2 : List UInt8 := [180, 0, 19, 27, 46, 154, 0, 12, 29, 18, 64, 160, 0, 6, 18, 109, 172, 42, 180, 0, 19, 27, 46, 4]
abbrev dktX6_mark_2 : List UInt8 := dkwX6_mark_2 ++ dktX6_mark_3
def dkwX6_mark_1 : List UInt8 := [133, 9, 42, 180, 0, 22, 27, 46, 4, 100, 133, 184, 0, 65, 154, 0, 7, 19, 1, 42, 172, 42]
abbrev dktX6_mark_1 : List UInt8 := dkwX6_mark_1 ++ dktX6_mark_2
def dkwX6_mark_0 : List UInt8 := [27, 184, 1, 35, 154, 0, 6, 18, 82, 172, 42, 180, 0, 19, 27, 46, 156, 0, 7, 19, 1, 41, 172, 28]
abbrev dktX6_mark_0 : List UInt8 := dkwX6_mark_0 ++ dktX6_mark_1
theorem dksX6_mark_0 : cX6_mark.data.toList.drop 0 = dktX6_mark_0 := by decide +kernel
theorem dksX6_mark_1 : cX6_mark.data.toList.drop 24 = dktX6_mark_1 := dk_seg dksX6_mark_0 24 rfl rfl
theorem dksX6_mark_2 : cX6_mark.data.toList.drop 46 = dktX6_mark_2 := dk_seg dksX6_mark_1 22 rfl rfl
theorem dksX6_mark_3 : cX6_mark.data.toList.drop 70 = dktX6_mark_3 := dk_seg dksX6_mark_2 24 rfl rfl
theorem dksX6_mark_4 : cX6_mark.data.toList.drop 93 = dktX6_mark_4 := dk_seg dksX6_mark_3 23 rfl rfl
theorem dksX6_mark_5 : cX6_mark.data.toList.drop 116 = dktX6_mark_5 := dk_seg dksX6_mark_4 23 rfl rfl
theorem dX6_mark_0 : decode cX6_mark 0 = .ok (.iload_n 1, 1) := dk_27 (dk_at dksX6_mark_0 0 rfl rfl)
theorem dX6_mark_1 : decode cX6_mark 1 = .ok (.invokestatic 291, 3) := dk_184 1 35 (dk_at dksX6_mark_0 1 rfl rfl)
theorem dX6_mark_4 : decode cX6_mark 4 = .ok (.ifCond .ne 6, 3) := dk_154 0 6 (dk_at dksX6_mark_0 4 rfl rfl)
theorem dX6_mark_7 : decode cX6_mark 7 = .ok (.ldc 82, 2) := dk_18 82 (dk_at dksX6_mark_0 7 rfl rfl)
theorem dX6_mark_9 : decode cX6_mark 9 = .ok (.ireturn, 1) := dk_172 (dk_at dksX6_mark_0 9 rfl rfl)
theorem dX6_mark_10 : decode cX6_mark 10 = .ok (.aload_n 0, 1) := dk_42 (dk_at dksX6_mark_0 10 rfl rfl)
theorem dX6_mark_11 : decode cX6_mark 11 = .ok (.getfield 19, 3) := dk_180 0 19 (dk_at dksX6_mark_0 11 rfl rfl)
theorem dX6_mark_14 : decode cX6_mark 14 = .ok (.iload_n 1, 1) := dk_27 (dk_at dksX6_mark_0 14 rfl rfl)
theorem dX6_mark_15 : decode cX6_mark 15 = .ok (.iaload, 1) := dk_46 (dk_at dksX6_mark_0 15 rfl rfl)
theorem dX6_mark_16 : decode cX6_mark 16 = .ok (.ifCond .ge 7, 3) := dk_156 0 7 (dk_at dksX6_mark_0 16 rfl rfl)
theorem dX6_mark_19 : decode cX6_mark 19 = .ok (.ldc_w 297, 3) := dk_19 1 41 (dk_at dksX6_mark_0 19 rfl rfl)
theorem dX6_mark_22 : decode cX6_mark 22 = .ok (.ireturn, 1) := dk_172 (dk_at dksX6_mark_0 22 rfl rfl)
theorem dX6_mark_23 : decode cX6_mark 23 = .ok (.iload_n 2, 1) := dk_28 (dk_at dksX6_mark_0 23 rfl rfl)
theorem dX6_mark_24 : decode cX6_mark 24 = .ok (.i2l, 1) := dk_133 (dk_at dksX6_mark_1 0 rfl rfl)
theorem dX6_mark_25 : decode cX6_mark 25 = .ok (.lconst 0, 1) := dk_9 (dk_at dksX6_mark_1 1 rfl rfl)
theorem dX6_mark_26 : decode cX6_mark 26 = .ok (.aload_n 0, 1) := dk_42 (dk_at dksX6_mark_1 2 rfl rfl)
theorem dX6_mark_27 : decode cX6_mark 27 = .ok (.getfield 22, 3) := dk_180 0 22 (dk_at dksX6_mark_1 3 rfl rfl)
theorem dX6_mark_30 : decode cX6_mark 30 = .ok (.iload_n 1, 1) := dk_27 (dk_at dksX6_mark_1 6 rfl rfl)
theorem dX6_mark_31 : decode cX6_mark 31 = .ok (.iaload, 1) := dk_46 (dk_at dksX6_mark_1 7 rfl rfl)
theorem dX6_mark_32 : decode cX6_mark 32 = .ok (.iconst 1, 1) := dk_4 (dk_at dksX6_mark_1 8 rfl rfl)
theorem dX6_mark_33 : decode cX6_mark 33 = .ok (.isub, 1) := dk_100 (dk_at dksX6_mark_1 9 rfl rfl)
theorem dX6_mark_34 : decode cX6_mark 34 = .ok (.i2l, 1) := dk_133 (dk_at dksX6_mark_1 10 rfl rfl)
theorem dX6_mark_35 : decode cX6_mark 35 = .ok (.invokestatic 65, 3) := dk_184 0 65 (dk_at dksX6_mark_1 11 rfl rfl)
theorem dX6_mark_38 : decode cX6_mark 38 = .ok (.ifCond .ne 7, 3) := dk_154 0 7 (dk_at dksX6_mark_1 14 rfl rfl)
theorem dX6_mark_41 : decode cX6_mark 41 = .ok (.ldc_w 298, 3) := dk_19 1 42 (dk_at dksX6_mark_1 17 rfl rfl)
theorem dX6_mark_44 : decode cX6_mark 44 = .ok (.ireturn, 1) := dk_172 (dk_at dksX6_mark_1 20 rfl rfl)
theorem dX6_mark_45 : decode cX6_mark 45 = .ok (.aload_n 0, 1) := dk_42 (dk_at dksX6_mark_1 21 rfl rfl)
theorem dX6_mark_46 : decode cX6_mark 46 = .ok (.getfield 19, 3) := dk_180 0 19 (dk_at dksX6_mark_2 0 rfl rfl)
theorem dX6_mark_49 : decode cX6_mark 49 = .ok (.iload_n 1, 1) := dk_27 (dk_at dksX6_mark_2 3 rfl rfl)
theorem dX6_mark_50 : decode cX6_mark 50 = .ok (.iaload, 1) := dk_46 (dk_at dksX6_mark_2 4 rfl rfl)
theorem dX6_mark_51 : decode cX6_mark 51 = .ok (.ifCond .ne 12, 3) := dk_154 0 12 (dk_at dksX6_mark_2 5 rfl rfl)
theorem dX6_mark_54 : decode cX6_mark 54 = .ok (.iload_n 3, 1) := dk_29 (dk_at dksX6_mark_2 8 rfl rfl)
theorem dX6_mark_55 : decode cX6_mark 55 = .ok (.ldc 64, 2) := dk_18 64 (dk_at dksX6_mark_2 9 rfl rfl)
theorem dX6_mark_57 : decode cX6_mark 57 = .ok (.if_icmp .ne 6, 3) := dk_160 0 6 (dk_at dksX6_mark_2 11 rfl rfl)
theorem dX6_mark_60 : decode cX6_mark 60 = .ok (.ldc 109, 2) := dk_18 109 (dk_at dksX6_mark_2 14 rfl rfl)
theorem dX6_mark_62 : decode cX6_mark 62 = .ok (.ireturn, 1) := dk_172 (dk_at dksX6_mark_2 16 rfl rfl)
theorem dX6_mark_63 : decode cX6_mark 63 = .ok (.aload_n 0, 1) := dk_42 (dk_at dksX6_mark_2 17 rfl rfl)
theorem dX6_mark_64 : decode cX6_mark 64 = .ok (.getfield 19, 3) := dk_180 0 19 (dk_at dksX6_mark_2 18 rfl rfl)
theorem dX6_mark_67 : decode cX6_mark 67 = .ok (.iload_n 1, 1) := dk_27 (dk_at dksX6_mark_2 21 rfl rfl)
theorem dX6_mark_68 : decode cX6_mark 68 = .ok (.iaload, 1) := dk_46 (dk_at dksX6_mark_2 22 rfl rfl)
theorem dX6_mark_69 : decode cX6_mark 69 = .ok (.iconst 1, 1) := dk_4 (dk_at dksX6_mark_2 23 rfl rfl)
theorem dX6_mark_70 : decode cX6_mark 70 = .ok (.if_icmp .ne 26, 3) := dk_160 0 26 (dk_at dksX6_mark_3 0 rfl rfl)
theorem dX6_mark_73 : decode cX6_mark 73 = .ok (.iload_n 3, 1) := dk_29 (dk_at dksX6_mark_3 3 rfl rfl)
theorem dX6_mark_74 : decode cX6_mark 74 = .ok (.ldc 64, 2) := dk_18 64 (dk_at dksX6_mark_3 4 rfl rfl)
theorem dX6_mark_76 : decode cX6_mark 76 = .ok (.if_icmp .eq 20, 3) := dk_159 0 20 (dk_at dksX6_mark_3 6 rfl rfl)
theorem dX6_mark_79 : decode cX6_mark 79 = .ok (.iload_n 3, 1) := dk_29 (dk_at dksX6_mark_3 9 rfl rfl)
theorem dX6_mark_80 : decode cX6_mark 80 = .ok (.i2l, 1) := dk_133 (dk_at dksX6_mark_3 10 rfl rfl)
theorem dX6_mark_81 : decode cX6_mark 81 = .ok (.ldc2_w 299, 3) := dk_20 1 43 (dk_at dksX6_mark_3 11 rfl rfl)
theorem dX6_mark_84 : decode cX6_mark 84 = .ok (.ldc2_w 301, 3) := dk_20 1 45 (dk_at dksX6_mark_3 14 rfl rfl)
theorem dX6_mark_87 : decode cX6_mark 87 = .ok (.invokestatic 65, 3) := dk_184 0 65 (dk_at dksX6_mark_3 17 rfl rfl)
theorem dX6_mark_90 : decode cX6_mark 90 = .ok (.ifCond .ne 6, 3) := dk_154 0 6 (dk_at dksX6_mark_3 20 rfl rfl)
theorem dX6_mark_93 : decode cX6_mark 93 = .ok (.ldc 82, 2) := dk_18 82 (dk_at dksX6_mark_4 0 rfl rfl)
theorem dX6_mark_95 : decode cX6_mark 95 = .ok (.ireturn, 1) := dk_172 (dk_at dksX6_mark_4 2 rfl rfl)
theorem dX6_mark_96 : decode cX6_mark 96 = .ok (.aload_n 0, 1) := dk_42 (dk_at dksX6_mark_4 3 rfl rfl)
theorem dX6_mark_97 : decode cX6_mark 97 = .ok (.getfield 25, 3) := dk_180 0 25 (dk_at dksX6_mark_4 4 rfl rfl)
theorem dX6_mark_100 : decode cX6_mark 100 = .ok (.bipush 24, 2) := dk_16 24 (dk_at dksX6_mark_4 7 rfl rfl)
theorem dX6_mark_102 : decode cX6_mark 102 = .ok (.iload_n 1, 1) := dk_27 (dk_at dksX6_mark_4 9 rfl rfl)
theorem dX6_mark_103 : decode cX6_mark 103 = .ok (.imul, 1) := dk_104 (dk_at dksX6_mark_4 10 rfl rfl)
theorem dX6_mark_104 : decode cX6_mark 104 = .ok (.iload_n 2, 1) := dk_28 (dk_at dksX6_mark_4 11 rfl rfl)
theorem dX6_mark_105 : decode cX6_mark 105 = .ok (.iadd, 1) := dk_96 (dk_at dksX6_mark_4 12 rfl rfl)
theorem dX6_mark_106 : decode cX6_mark 106 = .ok (.aload_n 0, 1) := dk_42 (dk_at dksX6_mark_4 13 rfl rfl)
theorem dX6_mark_107 : decode cX6_mark 107 = .ok (.getfield 19, 3) := dk_180 0 19 (dk_at dksX6_mark_4 14 rfl rfl)
theorem dX6_mark_110 : decode cX6_mark 110 = .ok (.iload_n 1, 1) := dk_27 (dk_at dksX6_mark_4 17 rfl rfl)
theorem dX6_mark_111 : decode cX6_mark 111 = .ok (.iaload, 1) := dk_46 (dk_at dksX6_mark_4 18 rfl rfl)
theorem dX6_mark_112 : decode cX6_mark 112 = .ok (.ifCond .ne 13, 3) := dk_154 0 13 (dk_at dksX6_mark_4 19 rfl rfl)
theorem dX6_mark_115 : decode cX6_mark 115 = .ok (.iload_n 3, 1) := dk_29 (dk_at dksX6_mark_4 22 rfl rfl)
theorem dX6_mark_116 : decode cX6_mark 116 = .ok (.bipush 16, 2) := dk_16 16 (dk_at dksX6_mark_5 0 rfl rfl)
theorem dX6_mark_118 : decode cX6_mark 118 = .ok (.ishl, 1) := dk_120 (dk_at dksX6_mark_5 2 rfl rfl)
theorem dX6_mark_119 : decode cX6_mark 119 = .ok (.bipush 16, 2) := dk_16 16 (dk_at dksX6_mark_5 3 rfl rfl)
theorem dX6_mark_121 : decode cX6_mark 121 = .ok (.ishr, 1) := dk_122 (dk_at dksX6_mark_5 5 rfl rfl)
theorem dX6_mark_122 : decode cX6_mark 122 = .ok (.goto 4, 3) := dk_167 0 4 (dk_at dksX6_mark_5 6 rfl rfl)
theorem dX6_mark_125 : decode cX6_mark 125 = .ok (.iload_n 3, 1) := dk_29 (dk_at dksX6_mark_5 9 rfl rfl)
theorem dX6_mark_126 : decode cX6_mark 126 = .ok (.iastore, 1) := dk_79 (dk_at dksX6_mark_5 10 rfl rfl)
theorem dX6_mark_127 : decode cX6_mark 127 = .ok (.iconst 1, 1) := dk_4 (dk_at dksX6_mark_5 11 rfl rfl)
theorem dX6_mark_128 : decode cX6_mark 128 = .ok (.ireturn, 1) := dk_172 (dk_at dksX6_mark_5 12 rfl rfl)
abbrev cX6_pour : ByteArray := prog_19_method_82_code
def yX6_pour : MethodName := ⟨RX6, "pour", "(I)I"⟩
def dkwX6_pour_5 : List UInt8 := [167, 255, 164, 28, 172]
abbrev dktX6_pour_5 : List UInt8 := dkwX6_pour_5 ++ []
def dkwX6_pour_4 : List UInt8 := [96, 4, 96, 21, 6, 182, 0, 110, 21, 6, 160, 0, 7, 3, 167, 0, 4, 4, 96, 61, 132, 3, 1]
abbrev dktX6_pour_4 : List UInt8 := dkwX6_pour_4 ++ dktX6_pour_5
def dkwX6_pour_3 : List UInt8 := [160, 0, 8, 21, 5, 167, 0, 10, 21, 4, 16, 100, 184, 0, 143, 54, 6, 28, 42, 16, 6, 8, 29, 104]
abbrev dktX6_pour_3 : List UInt8 := dkwX6_pour_3 ++ dktX6_pour_4
def dkwX6_pour_2 : List UInt8 := [180, 0, 25, 16, 24, 27, 104, 29, 96, 46, 54, 4, 42, 29, 4, 182, 0, 88, 54, 5, 21, 4, 18, 64]
abbrev dktX6_pour_2 : List UInt8 := dkwX6_pour_2 ++ dktX6_pour_3
def dkwX6_pour_1 : List UInt8 := [61, 3, 62, 29, 42, 180, 0, 22, 27, 46, 162, 0, 88, 29, 42, 180, 0, 7, 3, 46, 162, 0, 78, 42]
abbrev dktX6_pour_1 : List UInt8 := dkwX6_pour_1 ++ dktX6_pour_2
def dkwX6_pour_0 : List UInt8 := [27, 184, 1, 35, 154, 0, 6, 18, 82, 172, 42, 180, 0, 19, 27, 46, 156, 0, 7, 19, 1, 41, 172, 3]
abbrev dktX6_pour_0 : List UInt8 := dkwX6_pour_0 ++ dktX6_pour_1
theorem dksX6_pour_0 : cX6_pour.data.toList.drop 0 = dktX6_pour_0 := by decide +kernel
theorem dksX6_pour_1 : cX6_pour.data.toList.drop 24 = dktX6_pour_1 := dk_seg dksX6_pour_0 24 rfl rfl
theorem dksX6_pour_2 : cX6_pour.data.toList.drop 48 = dktX6_pour_2 := dk_seg dksX6_pour_1 24 rfl rfl
theorem dksX6_pour_3 : cX6_pour.data.toList.drop 72 = dktX6_pour_3 := dk_seg dksX6_pour_2 24 rfl rfl
theorem dksX6_pour_4 : cX6_pour.data.toList.drop 96 = dktX6_pour_4 := dk_seg dksX6_pour_3 24 rfl rfl
theorem dksX6_pour_5 : cX6_pour.data.toList.drop 119 = dktX6_pour_5 := dk_seg dksX6_pour_4 23 rfl rfl
theorem dX6_pour_0 : decode cX6_pour 0 = .ok (.iload_n 1, 1) := dk_27 (dk_at dksX6_pour_0 0 rfl rfl)
theorem dX6_pour_1 : decode cX6_pour 1 = .ok (.invokestatic 291, 3) := dk_184 1 35 (dk_at dksX6_pour_0 1 rfl rfl)
theorem dX6_pour_4 : decode cX6_pour 4 = .ok (.ifCond .ne 6, 3) := dk_154 0 6 (dk_at dksX6_pour_0 4 rfl rfl)
theorem dX6_pour_7 : decode cX6_pour 7 = .ok (.ldc 82, 2) := dk_18 82 (dk_at dksX6_pour_0 7 rfl rfl)
theorem dX6_pour_9 : decode cX6_pour 9 = .ok (.ireturn, 1) := dk_172 (dk_at dksX6_pour_0 9 rfl rfl)
theorem dX6_pour_10 : decode cX6_pour 10 = .ok (.aload_n 0, 1) := dk_42 (dk_at dksX6_pour_0 10 rfl rfl)
theorem dX6_pour_11 : decode cX6_pour 11 = .ok (.getfield 19, 3) := dk_180 0 19 (dk_at dksX6_pour_0 11 rfl rfl)
theorem dX6_pour_14 : decode cX6_pour 14 = .ok (.iload_n 1, 1) := dk_27 (dk_at dksX6_pour_0 14 rfl rfl)
theorem dX6_pour_15 : decode cX6_pour 15 = .ok (.iaload, 1) := dk_46 (dk_at dksX6_pour_0 15 rfl rfl)
theorem dX6_pour_16 : decode cX6_pour 16 = .ok (.ifCond .ge 7, 3) := dk_156 0 7 (dk_at dksX6_pour_0 16 rfl rfl)
theorem dX6_pour_19 : decode cX6_pour 19 = .ok (.ldc_w 297, 3) := dk_19 1 41 (dk_at dksX6_pour_0 19 rfl rfl)
theorem dX6_pour_22 : decode cX6_pour 22 = .ok (.ireturn, 1) := dk_172 (dk_at dksX6_pour_0 22 rfl rfl)
theorem dX6_pour_23 : decode cX6_pour 23 = .ok (.iconst 0, 1) := dk_3 (dk_at dksX6_pour_0 23 rfl rfl)
theorem dX6_pour_24 : decode cX6_pour 24 = .ok (.istore_n 2, 1) := dk_61 (dk_at dksX6_pour_1 0 rfl rfl)
theorem dX6_pour_25 : decode cX6_pour 25 = .ok (.iconst 0, 1) := dk_3 (dk_at dksX6_pour_1 1 rfl rfl)
theorem dX6_pour_26 : decode cX6_pour 26 = .ok (.istore_n 3, 1) := dk_62 (dk_at dksX6_pour_1 2 rfl rfl)
theorem dX6_pour_27 : decode cX6_pour 27 = .ok (.iload_n 3, 1) := dk_29 (dk_at dksX6_pour_1 3 rfl rfl)
theorem dX6_pour_28 : decode cX6_pour 28 = .ok (.aload_n 0, 1) := dk_42 (dk_at dksX6_pour_1 4 rfl rfl)
theorem dX6_pour_29 : decode cX6_pour 29 = .ok (.getfield 22, 3) := dk_180 0 22 (dk_at dksX6_pour_1 5 rfl rfl)
theorem dX6_pour_32 : decode cX6_pour 32 = .ok (.iload_n 1, 1) := dk_27 (dk_at dksX6_pour_1 8 rfl rfl)
theorem dX6_pour_33 : decode cX6_pour 33 = .ok (.iaload, 1) := dk_46 (dk_at dksX6_pour_1 9 rfl rfl)
theorem dX6_pour_34 : decode cX6_pour 34 = .ok (.if_icmp .ge 88, 3) := dk_162 0 88 (dk_at dksX6_pour_1 10 rfl rfl)
theorem dX6_pour_37 : decode cX6_pour 37 = .ok (.iload_n 3, 1) := dk_29 (dk_at dksX6_pour_1 13 rfl rfl)
theorem dX6_pour_38 : decode cX6_pour 38 = .ok (.aload_n 0, 1) := dk_42 (dk_at dksX6_pour_1 14 rfl rfl)
theorem dX6_pour_39 : decode cX6_pour 39 = .ok (.getfield 7, 3) := dk_180 0 7 (dk_at dksX6_pour_1 15 rfl rfl)
theorem dX6_pour_42 : decode cX6_pour 42 = .ok (.iconst 0, 1) := dk_3 (dk_at dksX6_pour_1 18 rfl rfl)
theorem dX6_pour_43 : decode cX6_pour 43 = .ok (.iaload, 1) := dk_46 (dk_at dksX6_pour_1 19 rfl rfl)
theorem dX6_pour_44 : decode cX6_pour 44 = .ok (.if_icmp .ge 78, 3) := dk_162 0 78 (dk_at dksX6_pour_1 20 rfl rfl)
theorem dX6_pour_47 : decode cX6_pour 47 = .ok (.aload_n 0, 1) := dk_42 (dk_at dksX6_pour_1 23 rfl rfl)
theorem dX6_pour_48 : decode cX6_pour 48 = .ok (.getfield 25, 3) := dk_180 0 25 (dk_at dksX6_pour_2 0 rfl rfl)
theorem dX6_pour_51 : decode cX6_pour 51 = .ok (.bipush 24, 2) := dk_16 24 (dk_at dksX6_pour_2 3 rfl rfl)
theorem dX6_pour_53 : decode cX6_pour 53 = .ok (.iload_n 1, 1) := dk_27 (dk_at dksX6_pour_2 5 rfl rfl)
theorem dX6_pour_54 : decode cX6_pour 54 = .ok (.imul, 1) := dk_104 (dk_at dksX6_pour_2 6 rfl rfl)
theorem dX6_pour_55 : decode cX6_pour 55 = .ok (.iload_n 3, 1) := dk_29 (dk_at dksX6_pour_2 7 rfl rfl)
theorem dX6_pour_56 : decode cX6_pour 56 = .ok (.iadd, 1) := dk_96 (dk_at dksX6_pour_2 8 rfl rfl)
theorem dX6_pour_57 : decode cX6_pour 57 = .ok (.iaload, 1) := dk_46 (dk_at dksX6_pour_2 9 rfl rfl)
theorem dX6_pour_58 : decode cX6_pour 58 = .ok (.istore 4, 2) := dk_54 4 (dk_at dksX6_pour_2 10 rfl rfl)
theorem dX6_pour_60 : decode cX6_pour 60 = .ok (.aload_n 0, 1) := dk_42 (dk_at dksX6_pour_2 12 rfl rfl)
theorem dX6_pour_61 : decode cX6_pour 61 = .ok (.iload_n 3, 1) := dk_29 (dk_at dksX6_pour_2 13 rfl rfl)
theorem dX6_pour_62 : decode cX6_pour 62 = .ok (.iconst 1, 1) := dk_4 (dk_at dksX6_pour_2 14 rfl rfl)
theorem dX6_pour_63 : decode cX6_pour 63 = .ok (.invokevirtual 88, 3) := dk_182 0 88 (dk_at dksX6_pour_2 15 rfl rfl)
theorem dX6_pour_66 : decode cX6_pour 66 = .ok (.istore 5, 2) := dk_54 5 (dk_at dksX6_pour_2 18 rfl rfl)
theorem dX6_pour_68 : decode cX6_pour 68 = .ok (.iload 4, 2) := dk_21 4 (dk_at dksX6_pour_2 20 rfl rfl)
theorem dX6_pour_70 : decode cX6_pour 70 = .ok (.ldc 64, 2) := dk_18 64 (dk_at dksX6_pour_2 22 rfl rfl)
theorem dX6_pour_72 : decode cX6_pour 72 = .ok (.if_icmp .ne 8, 3) := dk_160 0 8 (dk_at dksX6_pour_3 0 rfl rfl)
theorem dX6_pour_75 : decode cX6_pour 75 = .ok (.iload 5, 2) := dk_21 5 (dk_at dksX6_pour_3 3 rfl rfl)
theorem dX6_pour_77 : decode cX6_pour 77 = .ok (.goto 10, 3) := dk_167 0 10 (dk_at dksX6_pour_3 5 rfl rfl)
theorem dX6_pour_80 : decode cX6_pour 80 = .ok (.iload 4, 2) := dk_21 4 (dk_at dksX6_pour_3 8 rfl rfl)
theorem dX6_pour_82 : decode cX6_pour 82 = .ok (.bipush 100, 2) := dk_16 100 (dk_at dksX6_pour_3 10 rfl rfl)
theorem dX6_pour_84 : decode cX6_pour 84 = .ok (.invokestatic 143, 3) := dk_184 0 143 (dk_at dksX6_pour_3 12 rfl rfl)
theorem dX6_pour_87 : decode cX6_pour 87 = .ok (.istore 6, 2) := dk_54 6 (dk_at dksX6_pour_3 15 rfl rfl)
theorem dX6_pour_89 : decode cX6_pour 89 = .ok (.iload_n 2, 1) := dk_28 (dk_at dksX6_pour_3 17 rfl rfl)
theorem dX6_pour_90 : decode cX6_pour 90 = .ok (.aload_n 0, 1) := dk_42 (dk_at dksX6_pour_3 18 rfl rfl)
theorem dX6_pour_91 : decode cX6_pour 91 = .ok (.bipush 6, 2) := dk_16 6 (dk_at dksX6_pour_3 19 rfl rfl)
theorem dX6_pour_93 : decode cX6_pour 93 = .ok (.iconst 5, 1) := dk_8 (dk_at dksX6_pour_3 21 rfl rfl)
theorem dX6_pour_94 : decode cX6_pour 94 = .ok (.iload_n 3, 1) := dk_29 (dk_at dksX6_pour_3 22 rfl rfl)
theorem dX6_pour_95 : decode cX6_pour 95 = .ok (.imul, 1) := dk_104 (dk_at dksX6_pour_3 23 rfl rfl)
theorem dX6_pour_96 : decode cX6_pour 96 = .ok (.iadd, 1) := dk_96 (dk_at dksX6_pour_4 0 rfl rfl)
theorem dX6_pour_97 : decode cX6_pour 97 = .ok (.iconst 1, 1) := dk_4 (dk_at dksX6_pour_4 1 rfl rfl)
theorem dX6_pour_98 : decode cX6_pour 98 = .ok (.iadd, 1) := dk_96 (dk_at dksX6_pour_4 2 rfl rfl)
theorem dX6_pour_99 : decode cX6_pour 99 = .ok (.iload 6, 2) := dk_21 6 (dk_at dksX6_pour_4 3 rfl rfl)
theorem dX6_pour_101 : decode cX6_pour 101 = .ok (.invokevirtual 110, 3) := dk_182 0 110 (dk_at dksX6_pour_4 5 rfl rfl)
theorem dX6_pour_104 : decode cX6_pour 104 = .ok (.iload 6, 2) := dk_21 6 (dk_at dksX6_pour_4 8 rfl rfl)
theorem dX6_pour_106 : decode cX6_pour 106 = .ok (.if_icmp .ne 7, 3) := dk_160 0 7 (dk_at dksX6_pour_4 10 rfl rfl)
theorem dX6_pour_109 : decode cX6_pour 109 = .ok (.iconst 0, 1) := dk_3 (dk_at dksX6_pour_4 13 rfl rfl)
theorem dX6_pour_110 : decode cX6_pour 110 = .ok (.goto 4, 3) := dk_167 0 4 (dk_at dksX6_pour_4 14 rfl rfl)
theorem dX6_pour_113 : decode cX6_pour 113 = .ok (.iconst 1, 1) := dk_4 (dk_at dksX6_pour_4 17 rfl rfl)
theorem dX6_pour_114 : decode cX6_pour 114 = .ok (.iadd, 1) := dk_96 (dk_at dksX6_pour_4 18 rfl rfl)
theorem dX6_pour_115 : decode cX6_pour 115 = .ok (.istore_n 2, 1) := dk_61 (dk_at dksX6_pour_4 19 rfl rfl)
theorem dX6_pour_116 : decode cX6_pour 116 = .ok (.iinc 3 1, 3) := dk_132 3 1 (dk_at dksX6_pour_4 20 rfl rfl)
theorem dX6_pour_119 : decode cX6_pour 119 = .ok (.goto (-92), 3) := dk_167 255 164 (dk_at dksX6_pour_5 0 rfl rfl)
theorem dX6_pour_122 : decode cX6_pour 122 = .ok (.iload_n 2, 1) := dk_28 (dk_at dksX6_pour_5 3 rfl rfl)
theorem dX6_pour_123 : decode cX6_pour 123 = .ok (.ireturn, 1) := dk_172 (dk_at dksX6_pour_5 4 rfl rfl)
abbrev cX6_reads : ByteArray := prog_19_method_83_code
def yX6_reads : MethodName := ⟨RX6, "reads", "(I)I"⟩
def dkwX6_reads_3 : List UInt8 := [159, 0, 5, 28, 172, 132, 2, 1, 167, 255, 203, 18, 64, 172]
abbrev dktX6_reads_3 : List UInt8 := dkwX6_reads_3 ++ []
def dkwX6_reads_2 : List UInt8 := [18, 64, 159, 0, 25, 42, 28, 182, 0, 146, 153, 0, 15, 29, 42, 28, 182, 0, 136, 184, 0, 128]
abbrev dktX6_reads_2 : List UInt8 := dkwX6_reads_2 ++ dktX6_reads_3
def dkwX6_reads_1 : List UInt8 := [61, 28, 42, 180, 0, 22, 27, 46, 162, 0, 49, 42, 180, 0, 25, 16, 24, 27, 104, 28, 96, 46, 62, 29]
abbrev dktX6_reads_1 : List UInt8 := dkwX6_reads_1 ++ dktX6_reads_2
def dkwX6_reads_0 : List UInt8 := [27, 184, 1, 35, 154, 0, 6, 18, 82, 172, 42, 180, 0, 19, 27, 46, 156, 0, 7, 19, 1, 41, 172, 3]
abbrev dktX6_reads_0 : List UInt8 := dkwX6_reads_0 ++ dktX6_reads_1
theorem dksX6_reads_0 : cX6_reads.data.toList.drop 0 = dktX6_reads_0 := by decide +kernel
theorem dksX6_reads_1 : cX6_reads.data.toList.drop 24 = dktX6_reads_1 := dk_seg dksX6_reads_0 24 rfl rfl
theorem dksX6_reads_2 : cX6_reads.data.toList.drop 48 = dktX6_reads_2 := dk_seg dksX6_reads_1 24 rfl rfl
theorem dksX6_reads_3 : cX6_reads.data.toList.drop 70 = dktX6_reads_3 := dk_seg dksX6_reads_2 22 rfl rfl
theorem dX6_reads_0 : decode cX6_reads 0 = .ok (.iload_n 1, 1) := dk_27 (dk_at dksX6_reads_0 0 rfl rfl)
theorem dX6_reads_1 : decode cX6_reads 1 = .ok (.invokestatic 291, 3) := dk_184 1 35 (dk_at dksX6_reads_0 1 rfl rfl)
theorem dX6_reads_4 : decode cX6_reads 4 = .ok (.ifCond .ne 6, 3) := dk_154 0 6 (dk_at dksX6_reads_0 4 rfl rfl)
theorem dX6_reads_7 : decode cX6_reads 7 = .ok (.ldc 82, 2) := dk_18 82 (dk_at dksX6_reads_0 7 rfl rfl)
theorem dX6_reads_9 : decode cX6_reads 9 = .ok (.ireturn, 1) := dk_172 (dk_at dksX6_reads_0 9 rfl rfl)
theorem dX6_reads_10 : decode cX6_reads 10 = .ok (.aload_n 0, 1) := dk_42 (dk_at dksX6_reads_0 10 rfl rfl)
theorem dX6_reads_11 : decode cX6_reads 11 = .ok (.getfield 19, 3) := dk_180 0 19 (dk_at dksX6_reads_0 11 rfl rfl)
theorem dX6_reads_14 : decode cX6_reads 14 = .ok (.iload_n 1, 1) := dk_27 (dk_at dksX6_reads_0 14 rfl rfl)
theorem dX6_reads_15 : decode cX6_reads 15 = .ok (.iaload, 1) := dk_46 (dk_at dksX6_reads_0 15 rfl rfl)
theorem dX6_reads_16 : decode cX6_reads 16 = .ok (.ifCond .ge 7, 3) := dk_156 0 7 (dk_at dksX6_reads_0 16 rfl rfl)
theorem dX6_reads_19 : decode cX6_reads 19 = .ok (.ldc_w 297, 3) := dk_19 1 41 (dk_at dksX6_reads_0 19 rfl rfl)
theorem dX6_reads_22 : decode cX6_reads 22 = .ok (.ireturn, 1) := dk_172 (dk_at dksX6_reads_0 22 rfl rfl)
theorem dX6_reads_23 : decode cX6_reads 23 = .ok (.iconst 0, 1) := dk_3 (dk_at dksX6_reads_0 23 rfl rfl)
theorem dX6_reads_24 : decode cX6_reads 24 = .ok (.istore_n 2, 1) := dk_61 (dk_at dksX6_reads_1 0 rfl rfl)
theorem dX6_reads_25 : decode cX6_reads 25 = .ok (.iload_n 2, 1) := dk_28 (dk_at dksX6_reads_1 1 rfl rfl)
theorem dX6_reads_26 : decode cX6_reads 26 = .ok (.aload_n 0, 1) := dk_42 (dk_at dksX6_reads_1 2 rfl rfl)
theorem dX6_reads_27 : decode cX6_reads 27 = .ok (.getfield 22, 3) := dk_180 0 22 (dk_at dksX6_reads_1 3 rfl rfl)
theorem dX6_reads_30 : decode cX6_reads 30 = .ok (.iload_n 1, 1) := dk_27 (dk_at dksX6_reads_1 6 rfl rfl)
theorem dX6_reads_31 : decode cX6_reads 31 = .ok (.iaload, 1) := dk_46 (dk_at dksX6_reads_1 7 rfl rfl)
theorem dX6_reads_32 : decode cX6_reads 32 = .ok (.if_icmp .ge 49, 3) := dk_162 0 49 (dk_at dksX6_reads_1 8 rfl rfl)
theorem dX6_reads_35 : decode cX6_reads 35 = .ok (.aload_n 0, 1) := dk_42 (dk_at dksX6_reads_1 11 rfl rfl)
theorem dX6_reads_36 : decode cX6_reads 36 = .ok (.getfield 25, 3) := dk_180 0 25 (dk_at dksX6_reads_1 12 rfl rfl)
theorem dX6_reads_39 : decode cX6_reads 39 = .ok (.bipush 24, 2) := dk_16 24 (dk_at dksX6_reads_1 15 rfl rfl)
theorem dX6_reads_41 : decode cX6_reads 41 = .ok (.iload_n 1, 1) := dk_27 (dk_at dksX6_reads_1 17 rfl rfl)
theorem dX6_reads_42 : decode cX6_reads 42 = .ok (.imul, 1) := dk_104 (dk_at dksX6_reads_1 18 rfl rfl)
theorem dX6_reads_43 : decode cX6_reads 43 = .ok (.iload_n 2, 1) := dk_28 (dk_at dksX6_reads_1 19 rfl rfl)
theorem dX6_reads_44 : decode cX6_reads 44 = .ok (.iadd, 1) := dk_96 (dk_at dksX6_reads_1 20 rfl rfl)
theorem dX6_reads_45 : decode cX6_reads 45 = .ok (.iaload, 1) := dk_46 (dk_at dksX6_reads_1 21 rfl rfl)
theorem dX6_reads_46 : decode cX6_reads 46 = .ok (.istore_n 3, 1) := dk_62 (dk_at dksX6_reads_1 22 rfl rfl)
theorem dX6_reads_47 : decode cX6_reads 47 = .ok (.iload_n 3, 1) := dk_29 (dk_at dksX6_reads_1 23 rfl rfl)
theorem dX6_reads_48 : decode cX6_reads 48 = .ok (.ldc 64, 2) := dk_18 64 (dk_at dksX6_reads_2 0 rfl rfl)
theorem dX6_reads_50 : decode cX6_reads 50 = .ok (.if_icmp .eq 25, 3) := dk_159 0 25 (dk_at dksX6_reads_2 2 rfl rfl)
theorem dX6_reads_53 : decode cX6_reads 53 = .ok (.aload_n 0, 1) := dk_42 (dk_at dksX6_reads_2 5 rfl rfl)
theorem dX6_reads_54 : decode cX6_reads 54 = .ok (.iload_n 2, 1) := dk_28 (dk_at dksX6_reads_2 6 rfl rfl)
theorem dX6_reads_55 : decode cX6_reads 55 = .ok (.invokevirtual 146, 3) := dk_182 0 146 (dk_at dksX6_reads_2 7 rfl rfl)
theorem dX6_reads_58 : decode cX6_reads 58 = .ok (.ifCond .eq 15, 3) := dk_153 0 15 (dk_at dksX6_reads_2 10 rfl rfl)
theorem dX6_reads_61 : decode cX6_reads 61 = .ok (.iload_n 3, 1) := dk_29 (dk_at dksX6_reads_2 13 rfl rfl)
theorem dX6_reads_62 : decode cX6_reads 62 = .ok (.aload_n 0, 1) := dk_42 (dk_at dksX6_reads_2 14 rfl rfl)
theorem dX6_reads_63 : decode cX6_reads 63 = .ok (.iload_n 2, 1) := dk_28 (dk_at dksX6_reads_2 15 rfl rfl)
theorem dX6_reads_64 : decode cX6_reads 64 = .ok (.invokevirtual 136, 3) := dk_182 0 136 (dk_at dksX6_reads_2 16 rfl rfl)
theorem dX6_reads_67 : decode cX6_reads 67 = .ok (.invokestatic 128, 3) := dk_184 0 128 (dk_at dksX6_reads_2 19 rfl rfl)
theorem dX6_reads_70 : decode cX6_reads 70 = .ok (.if_icmp .eq 5, 3) := dk_159 0 5 (dk_at dksX6_reads_3 0 rfl rfl)
theorem dX6_reads_73 : decode cX6_reads 73 = .ok (.iload_n 2, 1) := dk_28 (dk_at dksX6_reads_3 3 rfl rfl)
theorem dX6_reads_74 : decode cX6_reads 74 = .ok (.ireturn, 1) := dk_172 (dk_at dksX6_reads_3 4 rfl rfl)
theorem dX6_reads_75 : decode cX6_reads 75 = .ok (.iinc 2 1, 3) := dk_132 2 1 (dk_at dksX6_reads_3 5 rfl rfl)
theorem dX6_reads_78 : decode cX6_reads 78 = .ok (.goto (-53), 3) := dk_167 255 203 (dk_at dksX6_reads_3 8 rfl rfl)
theorem dX6_reads_81 : decode cX6_reads 81 = .ok (.ldc 64, 2) := dk_18 64 (dk_at dksX6_reads_3 11 rfl rfl)
theorem dX6_reads_83 : decode cX6_reads 83 = .ok (.ireturn, 1) := dk_172 (dk_at dksX6_reads_3 13 rfl rfl)
abbrev cX6_copy : ByteArray := prog_19_method_84_code
def yX6_copy : MethodName := ⟨RX6, "copy", "(IIIII)I"⟩
def dkwX6_copy_8 : List UInt8 := [172]
abbrev dktX6_copy_8 : List UInt8 := dkwX6_copy_8 ++ []
def dkwX6_copy_7 : List UInt8 := [29, 104, 21, 4, 96, 21, 6, 96, 42, 180, 0, 55, 21, 6, 46, 79, 132, 6, 1, 167, 255, 224, 21, 5]
abbrev dktX6_copy_7 : List UInt8 := dkwX6_copy_7 ++ dktX6_copy_8
def dkwX6_copy_6 : List UInt8 := [46, 79, 132, 6, 1, 167, 255, 225, 3, 54, 6, 21, 6, 21, 5, 162, 0, 31, 42, 180, 0, 25, 16, 24]
abbrev dktX6_copy_6 : List UInt8 := dkwX6_copy_6 ++ dktX6_copy_7
def dkwX6_copy_5 : List UInt8 := [21, 5, 162, 0, 30, 42, 180, 0, 55, 21, 6, 42, 180, 0, 25, 16, 24, 27, 104, 28, 96, 21, 6, 96]
abbrev dktX6_copy_5 : List UInt8 := dkwX6_copy_5 ++ dktX6_copy_6
def dkwX6_copy_4 : List UInt8 := [21, 5, 133, 97, 42, 180, 0, 22, 29, 46, 133, 148, 158, 0, 7, 19, 1, 42, 172, 3, 54, 6, 21, 6]
abbrev dktX6_copy_4 : List UInt8 := dkwX6_copy_4 ++ dktX6_copy_5
def dkwX6_copy_3 : List UInt8 := [155, 0, 38, 28, 133, 21, 5, 133, 97, 42, 180, 0, 22, 27, 46, 133, 148, 157, 0, 21, 21, 4, 133]
abbrev dktX6_copy_3 : List UInt8 := dkwX6_copy_3 ++ dktX6_copy_4
def dkwX6_copy_2 : List UInt8 := [180, 0, 19, 29, 46, 159, 0, 6, 18, 109, 172, 28, 155, 0, 48, 21, 4, 155, 0, 43, 21, 5]
abbrev dktX6_copy_2 : List UInt8 := dkwX6_copy_2 ++ dktX6_copy_3
def dkwX6_copy_1 : List UInt8 := [155, 0, 12, 42, 180, 0, 19, 29, 46, 156, 0, 7, 19, 1, 41, 172, 42, 180, 0, 19, 27, 46, 42]
abbrev dktX6_copy_1 : List UInt8 := dkwX6_copy_1 ++ dktX6_copy_2
def dkwX6_copy_0 : List UInt8 := [27, 184, 1, 35, 153, 0, 10, 29, 184, 1, 35, 154, 0, 6, 18, 82, 172, 42, 180, 0, 19, 27, 46]
abbrev dktX6_copy_0 : List UInt8 := dkwX6_copy_0 ++ dktX6_copy_1
theorem dksX6_copy_0 : cX6_copy.data.toList.drop 0 = dktX6_copy_0 := by decide +kernel
theorem dksX6_copy_1 : cX6_copy.data.toList.drop 23 = dktX6_copy_1 := dk_seg dksX6_copy_0 23 rfl rfl
theorem dksX6_copy_2 : cX6_copy.data.toList.drop 46 = dktX6_copy_2 := dk_seg dksX6_copy_1 23 rfl rfl
theorem dksX6_copy_3 : cX6_copy.data.toList.drop 68 = dktX6_copy_3 := dk_seg dksX6_copy_2 22 rfl rfl
theorem dksX6_copy_4 : cX6_copy.data.toList.drop 91 = dktX6_copy_4 := dk_seg dksX6_copy_3 23 rfl rfl
theorem dksX6_copy_5 : cX6_copy.data.toList.drop 115 = dktX6_copy_5 := dk_seg dksX6_copy_4 24 rfl rfl
theorem dksX6_copy_6 : cX6_copy.data.toList.drop 139 = dktX6_copy_6 := dk_seg dksX6_copy_5 24 rfl rfl
theorem dksX6_copy_7 : cX6_copy.data.toList.drop 163 = dktX6_copy_7 := dk_seg dksX6_copy_6 24 rfl rfl
theorem dksX6_copy_8 : cX6_copy.data.toList.drop 187 = dktX6_copy_8 := dk_seg dksX6_copy_7 24 rfl rfl
theorem dX6_copy_0 : decode cX6_copy 0 = .ok (.iload_n 1, 1) := dk_27 (dk_at dksX6_copy_0 0 rfl rfl)
theorem dX6_copy_1 : decode cX6_copy 1 = .ok (.invokestatic 291, 3) := dk_184 1 35 (dk_at dksX6_copy_0 1 rfl rfl)
theorem dX6_copy_4 : decode cX6_copy 4 = .ok (.ifCond .eq 10, 3) := dk_153 0 10 (dk_at dksX6_copy_0 4 rfl rfl)
theorem dX6_copy_7 : decode cX6_copy 7 = .ok (.iload_n 3, 1) := dk_29 (dk_at dksX6_copy_0 7 rfl rfl)
theorem dX6_copy_8 : decode cX6_copy 8 = .ok (.invokestatic 291, 3) := dk_184 1 35 (dk_at dksX6_copy_0 8 rfl rfl)
theorem dX6_copy_11 : decode cX6_copy 11 = .ok (.ifCond .ne 6, 3) := dk_154 0 6 (dk_at dksX6_copy_0 11 rfl rfl)
theorem dX6_copy_14 : decode cX6_copy 14 = .ok (.ldc 82, 2) := dk_18 82 (dk_at dksX6_copy_0 14 rfl rfl)
theorem dX6_copy_16 : decode cX6_copy 16 = .ok (.ireturn, 1) := dk_172 (dk_at dksX6_copy_0 16 rfl rfl)
theorem dX6_copy_17 : decode cX6_copy 17 = .ok (.aload_n 0, 1) := dk_42 (dk_at dksX6_copy_0 17 rfl rfl)
theorem dX6_copy_18 : decode cX6_copy 18 = .ok (.getfield 19, 3) := dk_180 0 19 (dk_at dksX6_copy_0 18 rfl rfl)
theorem dX6_copy_21 : decode cX6_copy 21 = .ok (.iload_n 1, 1) := dk_27 (dk_at dksX6_copy_0 21 rfl rfl)
theorem dX6_copy_22 : decode cX6_copy 22 = .ok (.iaload, 1) := dk_46 (dk_at dksX6_copy_0 22 rfl rfl)
theorem dX6_copy_23 : decode cX6_copy 23 = .ok (.ifCond .lt 12, 3) := dk_155 0 12 (dk_at dksX6_copy_1 0 rfl rfl)
theorem dX6_copy_26 : decode cX6_copy 26 = .ok (.aload_n 0, 1) := dk_42 (dk_at dksX6_copy_1 3 rfl rfl)
theorem dX6_copy_27 : decode cX6_copy 27 = .ok (.getfield 19, 3) := dk_180 0 19 (dk_at dksX6_copy_1 4 rfl rfl)
theorem dX6_copy_30 : decode cX6_copy 30 = .ok (.iload_n 3, 1) := dk_29 (dk_at dksX6_copy_1 7 rfl rfl)
theorem dX6_copy_31 : decode cX6_copy 31 = .ok (.iaload, 1) := dk_46 (dk_at dksX6_copy_1 8 rfl rfl)
theorem dX6_copy_32 : decode cX6_copy 32 = .ok (.ifCond .ge 7, 3) := dk_156 0 7 (dk_at dksX6_copy_1 9 rfl rfl)
theorem dX6_copy_35 : decode cX6_copy 35 = .ok (.ldc_w 297, 3) := dk_19 1 41 (dk_at dksX6_copy_1 12 rfl rfl)
theorem dX6_copy_38 : decode cX6_copy 38 = .ok (.ireturn, 1) := dk_172 (dk_at dksX6_copy_1 15 rfl rfl)
theorem dX6_copy_39 : decode cX6_copy 39 = .ok (.aload_n 0, 1) := dk_42 (dk_at dksX6_copy_1 16 rfl rfl)
theorem dX6_copy_40 : decode cX6_copy 40 = .ok (.getfield 19, 3) := dk_180 0 19 (dk_at dksX6_copy_1 17 rfl rfl)
theorem dX6_copy_43 : decode cX6_copy 43 = .ok (.iload_n 1, 1) := dk_27 (dk_at dksX6_copy_1 20 rfl rfl)
theorem dX6_copy_44 : decode cX6_copy 44 = .ok (.iaload, 1) := dk_46 (dk_at dksX6_copy_1 21 rfl rfl)
theorem dX6_copy_45 : decode cX6_copy 45 = .ok (.aload_n 0, 1) := dk_42 (dk_at dksX6_copy_1 22 rfl rfl)
theorem dX6_copy_46 : decode cX6_copy 46 = .ok (.getfield 19, 3) := dk_180 0 19 (dk_at dksX6_copy_2 0 rfl rfl)
theorem dX6_copy_49 : decode cX6_copy 49 = .ok (.iload_n 3, 1) := dk_29 (dk_at dksX6_copy_2 3 rfl rfl)
theorem dX6_copy_50 : decode cX6_copy 50 = .ok (.iaload, 1) := dk_46 (dk_at dksX6_copy_2 4 rfl rfl)
theorem dX6_copy_51 : decode cX6_copy 51 = .ok (.if_icmp .eq 6, 3) := dk_159 0 6 (dk_at dksX6_copy_2 5 rfl rfl)
theorem dX6_copy_54 : decode cX6_copy 54 = .ok (.ldc 109, 2) := dk_18 109 (dk_at dksX6_copy_2 8 rfl rfl)
theorem dX6_copy_56 : decode cX6_copy 56 = .ok (.ireturn, 1) := dk_172 (dk_at dksX6_copy_2 10 rfl rfl)
theorem dX6_copy_57 : decode cX6_copy 57 = .ok (.iload_n 2, 1) := dk_28 (dk_at dksX6_copy_2 11 rfl rfl)
theorem dX6_copy_58 : decode cX6_copy 58 = .ok (.ifCond .lt 48, 3) := dk_155 0 48 (dk_at dksX6_copy_2 12 rfl rfl)
theorem dX6_copy_61 : decode cX6_copy 61 = .ok (.iload 4, 2) := dk_21 4 (dk_at dksX6_copy_2 15 rfl rfl)
theorem dX6_copy_63 : decode cX6_copy 63 = .ok (.ifCond .lt 43, 3) := dk_155 0 43 (dk_at dksX6_copy_2 17 rfl rfl)
theorem dX6_copy_66 : decode cX6_copy 66 = .ok (.iload 5, 2) := dk_21 5 (dk_at dksX6_copy_2 20 rfl rfl)
theorem dX6_copy_68 : decode cX6_copy 68 = .ok (.ifCond .lt 38, 3) := dk_155 0 38 (dk_at dksX6_copy_3 0 rfl rfl)
theorem dX6_copy_71 : decode cX6_copy 71 = .ok (.iload_n 2, 1) := dk_28 (dk_at dksX6_copy_3 3 rfl rfl)
theorem dX6_copy_72 : decode cX6_copy 72 = .ok (.i2l, 1) := dk_133 (dk_at dksX6_copy_3 4 rfl rfl)
theorem dX6_copy_73 : decode cX6_copy 73 = .ok (.iload 5, 2) := dk_21 5 (dk_at dksX6_copy_3 5 rfl rfl)
theorem dX6_copy_75 : decode cX6_copy 75 = .ok (.i2l, 1) := dk_133 (dk_at dksX6_copy_3 7 rfl rfl)
theorem dX6_copy_76 : decode cX6_copy 76 = .ok (.ladd, 1) := dk_97 (dk_at dksX6_copy_3 8 rfl rfl)
theorem dX6_copy_77 : decode cX6_copy 77 = .ok (.aload_n 0, 1) := dk_42 (dk_at dksX6_copy_3 9 rfl rfl)
theorem dX6_copy_78 : decode cX6_copy 78 = .ok (.getfield 22, 3) := dk_180 0 22 (dk_at dksX6_copy_3 10 rfl rfl)
theorem dX6_copy_81 : decode cX6_copy 81 = .ok (.iload_n 1, 1) := dk_27 (dk_at dksX6_copy_3 13 rfl rfl)
theorem dX6_copy_82 : decode cX6_copy 82 = .ok (.iaload, 1) := dk_46 (dk_at dksX6_copy_3 14 rfl rfl)
theorem dX6_copy_83 : decode cX6_copy 83 = .ok (.i2l, 1) := dk_133 (dk_at dksX6_copy_3 15 rfl rfl)
theorem dX6_copy_84 : decode cX6_copy 84 = .ok (.lcmp, 1) := dk_148 (dk_at dksX6_copy_3 16 rfl rfl)
theorem dX6_copy_85 : decode cX6_copy 85 = .ok (.ifCond .gt 21, 3) := dk_157 0 21 (dk_at dksX6_copy_3 17 rfl rfl)
theorem dX6_copy_88 : decode cX6_copy 88 = .ok (.iload 4, 2) := dk_21 4 (dk_at dksX6_copy_3 20 rfl rfl)
theorem dX6_copy_90 : decode cX6_copy 90 = .ok (.i2l, 1) := dk_133 (dk_at dksX6_copy_3 22 rfl rfl)
theorem dX6_copy_91 : decode cX6_copy 91 = .ok (.iload 5, 2) := dk_21 5 (dk_at dksX6_copy_4 0 rfl rfl)
theorem dX6_copy_93 : decode cX6_copy 93 = .ok (.i2l, 1) := dk_133 (dk_at dksX6_copy_4 2 rfl rfl)
theorem dX6_copy_94 : decode cX6_copy 94 = .ok (.ladd, 1) := dk_97 (dk_at dksX6_copy_4 3 rfl rfl)
theorem dX6_copy_95 : decode cX6_copy 95 = .ok (.aload_n 0, 1) := dk_42 (dk_at dksX6_copy_4 4 rfl rfl)
theorem dX6_copy_96 : decode cX6_copy 96 = .ok (.getfield 22, 3) := dk_180 0 22 (dk_at dksX6_copy_4 5 rfl rfl)
theorem dX6_copy_99 : decode cX6_copy 99 = .ok (.iload_n 3, 1) := dk_29 (dk_at dksX6_copy_4 8 rfl rfl)
theorem dX6_copy_100 : decode cX6_copy 100 = .ok (.iaload, 1) := dk_46 (dk_at dksX6_copy_4 9 rfl rfl)
theorem dX6_copy_101 : decode cX6_copy 101 = .ok (.i2l, 1) := dk_133 (dk_at dksX6_copy_4 10 rfl rfl)
theorem dX6_copy_102 : decode cX6_copy 102 = .ok (.lcmp, 1) := dk_148 (dk_at dksX6_copy_4 11 rfl rfl)
theorem dX6_copy_103 : decode cX6_copy 103 = .ok (.ifCond .le 7, 3) := dk_158 0 7 (dk_at dksX6_copy_4 12 rfl rfl)
theorem dX6_copy_106 : decode cX6_copy 106 = .ok (.ldc_w 298, 3) := dk_19 1 42 (dk_at dksX6_copy_4 15 rfl rfl)
theorem dX6_copy_109 : decode cX6_copy 109 = .ok (.ireturn, 1) := dk_172 (dk_at dksX6_copy_4 18 rfl rfl)
theorem dX6_copy_110 : decode cX6_copy 110 = .ok (.iconst 0, 1) := dk_3 (dk_at dksX6_copy_4 19 rfl rfl)
theorem dX6_copy_111 : decode cX6_copy 111 = .ok (.istore 6, 2) := dk_54 6 (dk_at dksX6_copy_4 20 rfl rfl)
theorem dX6_copy_113 : decode cX6_copy 113 = .ok (.iload 6, 2) := dk_21 6 (dk_at dksX6_copy_4 22 rfl rfl)
theorem dX6_copy_115 : decode cX6_copy 115 = .ok (.iload 5, 2) := dk_21 5 (dk_at dksX6_copy_5 0 rfl rfl)
theorem dX6_copy_117 : decode cX6_copy 117 = .ok (.if_icmp .ge 30, 3) := dk_162 0 30 (dk_at dksX6_copy_5 2 rfl rfl)
theorem dX6_copy_120 : decode cX6_copy 120 = .ok (.aload_n 0, 1) := dk_42 (dk_at dksX6_copy_5 5 rfl rfl)
theorem dX6_copy_121 : decode cX6_copy 121 = .ok (.getfield 55, 3) := dk_180 0 55 (dk_at dksX6_copy_5 6 rfl rfl)
theorem dX6_copy_124 : decode cX6_copy 124 = .ok (.iload 6, 2) := dk_21 6 (dk_at dksX6_copy_5 9 rfl rfl)
theorem dX6_copy_126 : decode cX6_copy 126 = .ok (.aload_n 0, 1) := dk_42 (dk_at dksX6_copy_5 11 rfl rfl)
theorem dX6_copy_127 : decode cX6_copy 127 = .ok (.getfield 25, 3) := dk_180 0 25 (dk_at dksX6_copy_5 12 rfl rfl)
theorem dX6_copy_130 : decode cX6_copy 130 = .ok (.bipush 24, 2) := dk_16 24 (dk_at dksX6_copy_5 15 rfl rfl)
theorem dX6_copy_132 : decode cX6_copy 132 = .ok (.iload_n 1, 1) := dk_27 (dk_at dksX6_copy_5 17 rfl rfl)
theorem dX6_copy_133 : decode cX6_copy 133 = .ok (.imul, 1) := dk_104 (dk_at dksX6_copy_5 18 rfl rfl)
theorem dX6_copy_134 : decode cX6_copy 134 = .ok (.iload_n 2, 1) := dk_28 (dk_at dksX6_copy_5 19 rfl rfl)
theorem dX6_copy_135 : decode cX6_copy 135 = .ok (.iadd, 1) := dk_96 (dk_at dksX6_copy_5 20 rfl rfl)
theorem dX6_copy_136 : decode cX6_copy 136 = .ok (.iload 6, 2) := dk_21 6 (dk_at dksX6_copy_5 21 rfl rfl)
theorem dX6_copy_138 : decode cX6_copy 138 = .ok (.iadd, 1) := dk_96 (dk_at dksX6_copy_5 23 rfl rfl)
theorem dX6_copy_139 : decode cX6_copy 139 = .ok (.iaload, 1) := dk_46 (dk_at dksX6_copy_6 0 rfl rfl)
theorem dX6_copy_140 : decode cX6_copy 140 = .ok (.iastore, 1) := dk_79 (dk_at dksX6_copy_6 1 rfl rfl)
theorem dX6_copy_141 : decode cX6_copy 141 = .ok (.iinc 6 1, 3) := dk_132 6 1 (dk_at dksX6_copy_6 2 rfl rfl)
theorem dX6_copy_144 : decode cX6_copy 144 = .ok (.goto (-31), 3) := dk_167 255 225 (dk_at dksX6_copy_6 5 rfl rfl)
theorem dX6_copy_147 : decode cX6_copy 147 = .ok (.iconst 0, 1) := dk_3 (dk_at dksX6_copy_6 8 rfl rfl)
theorem dX6_copy_148 : decode cX6_copy 148 = .ok (.istore 6, 2) := dk_54 6 (dk_at dksX6_copy_6 9 rfl rfl)
theorem dX6_copy_150 : decode cX6_copy 150 = .ok (.iload 6, 2) := dk_21 6 (dk_at dksX6_copy_6 11 rfl rfl)
theorem dX6_copy_152 : decode cX6_copy 152 = .ok (.iload 5, 2) := dk_21 5 (dk_at dksX6_copy_6 13 rfl rfl)
theorem dX6_copy_154 : decode cX6_copy 154 = .ok (.if_icmp .ge 31, 3) := dk_162 0 31 (dk_at dksX6_copy_6 15 rfl rfl)
theorem dX6_copy_157 : decode cX6_copy 157 = .ok (.aload_n 0, 1) := dk_42 (dk_at dksX6_copy_6 18 rfl rfl)
theorem dX6_copy_158 : decode cX6_copy 158 = .ok (.getfield 25, 3) := dk_180 0 25 (dk_at dksX6_copy_6 19 rfl rfl)
theorem dX6_copy_161 : decode cX6_copy 161 = .ok (.bipush 24, 2) := dk_16 24 (dk_at dksX6_copy_6 22 rfl rfl)
theorem dX6_copy_163 : decode cX6_copy 163 = .ok (.iload_n 3, 1) := dk_29 (dk_at dksX6_copy_7 0 rfl rfl)
theorem dX6_copy_164 : decode cX6_copy 164 = .ok (.imul, 1) := dk_104 (dk_at dksX6_copy_7 1 rfl rfl)
theorem dX6_copy_165 : decode cX6_copy 165 = .ok (.iload 4, 2) := dk_21 4 (dk_at dksX6_copy_7 2 rfl rfl)
theorem dX6_copy_167 : decode cX6_copy 167 = .ok (.iadd, 1) := dk_96 (dk_at dksX6_copy_7 4 rfl rfl)
theorem dX6_copy_168 : decode cX6_copy 168 = .ok (.iload 6, 2) := dk_21 6 (dk_at dksX6_copy_7 5 rfl rfl)
theorem dX6_copy_170 : decode cX6_copy 170 = .ok (.iadd, 1) := dk_96 (dk_at dksX6_copy_7 7 rfl rfl)
theorem dX6_copy_171 : decode cX6_copy 171 = .ok (.aload_n 0, 1) := dk_42 (dk_at dksX6_copy_7 8 rfl rfl)
theorem dX6_copy_172 : decode cX6_copy 172 = .ok (.getfield 55, 3) := dk_180 0 55 (dk_at dksX6_copy_7 9 rfl rfl)
theorem dX6_copy_175 : decode cX6_copy 175 = .ok (.iload 6, 2) := dk_21 6 (dk_at dksX6_copy_7 12 rfl rfl)
theorem dX6_copy_177 : decode cX6_copy 177 = .ok (.iaload, 1) := dk_46 (dk_at dksX6_copy_7 14 rfl rfl)
theorem dX6_copy_178 : decode cX6_copy 178 = .ok (.iastore, 1) := dk_79 (dk_at dksX6_copy_7 15 rfl rfl)
theorem dX6_copy_179 : decode cX6_copy 179 = .ok (.iinc 6 1, 3) := dk_132 6 1 (dk_at dksX6_copy_7 16 rfl rfl)
theorem dX6_copy_182 : decode cX6_copy 182 = .ok (.goto (-32), 3) := dk_167 255 224 (dk_at dksX6_copy_7 19 rfl rfl)
theorem dX6_copy_185 : decode cX6_copy 185 = .ok (.iload 5, 2) := dk_21 5 (dk_at dksX6_copy_7 22 rfl rfl)
theorem dX6_copy_187 : decode cX6_copy 187 = .ok (.ireturn, 1) := dk_172 (dk_at dksX6_copy_8 0 rfl rfl)
abbrev cX6_lay : ByteArray := prog_19_method_86_code
def yX6_lay : MethodName := ⟨RX6, "lay", "(III)I"⟩
def dkwX6_lay_8 : List UInt8 := [96, 46, 79, 132, 6, 1, 167, 255, 222, 21, 5, 172]
abbrev dktX6_lay_8 : List UInt8 := dkwX6_lay_8 ++ []
def dkwX6_lay_7 : List UInt8 := [162, 0, 33, 42, 180, 0, 40, 16, 24, 27, 104, 21, 6, 96, 42, 180, 0, 25, 16, 24, 29, 104, 21, 6]
abbrev dktX6_lay_7 : List UInt8 := dkwX6_lay_7 ++ dktX6_lay_8
def dkwX6_lay_6 : List UInt8 := [5, 160, 0, 55, 42, 180, 0, 37, 27, 42, 180, 0, 22, 29, 46, 79, 3, 54, 6, 21, 6, 16, 24]
abbrev dktX6_lay_6 : List UInt8 := dkwX6_lay_6 ++ dktX6_lay_7
def dkwX6_lay_5 : List UInt8 := [160, 0, 21, 42, 29, 3, 182, 0, 88, 42, 29, 4, 182, 0, 88, 184, 0, 99, 167, 0, 4, 3, 79, 28]
abbrev dktX6_lay_5 : List UInt8 := dkwX6_lay_5 ++ dktX6_lay_6
def dkwX6_lay_4 : List UInt8 := [28, 4, 160, 0, 12, 42, 29, 3, 182, 0, 88, 167, 0, 4, 29, 79, 42, 180, 0, 34, 27, 28, 4]
abbrev dktX6_lay_4 : List UInt8 := dkwX6_lay_4 ++ dktX6_lay_5
def dkwX6_lay_3 : List UInt8 := [19, 1, 41, 172, 42, 180, 0, 28, 27, 46, 54, 5, 42, 180, 0, 28, 27, 28, 79, 42, 180, 0, 31, 27]
abbrev dktX6_lay_3 : List UInt8 := dkwX6_lay_3 ++ dktX6_lay_4
def dkwX6_lay_2 : List UInt8 := [21, 4, 154, 0, 6, 18, 82, 172, 28, 5, 160, 0, 16, 42, 180, 0, 19, 29, 46, 156, 0, 7]
abbrev dktX6_lay_2 : List UInt8 := dkwX6_lay_2 ++ dktX6_lay_3
def dkwX6_lay_1 : List UInt8 := [160, 0, 14, 29, 184, 1, 35, 153, 0, 7, 4, 167, 0, 4, 3, 54, 4, 27, 184, 1, 47, 153, 0, 8]
abbrev dktX6_lay_1 : List UInt8 := dkwX6_lay_1 ++ dktX6_lay_2
def dkwX6_lay_0 : List UInt8 := [28, 153, 0, 33, 28, 6, 159, 0, 28, 28, 4, 160, 0, 11, 42, 29, 182, 0, 95, 154, 0, 15, 28, 5]
abbrev dktX6_lay_0 : List UInt8 := dkwX6_lay_0 ++ dktX6_lay_1
theorem dksX6_lay_0 : cX6_lay.data.toList.drop 0 = dktX6_lay_0 := by decide +kernel
theorem dksX6_lay_1 : cX6_lay.data.toList.drop 24 = dktX6_lay_1 := dk_seg dksX6_lay_0 24 rfl rfl
theorem dksX6_lay_2 : cX6_lay.data.toList.drop 48 = dktX6_lay_2 := dk_seg dksX6_lay_1 24 rfl rfl
theorem dksX6_lay_3 : cX6_lay.data.toList.drop 70 = dktX6_lay_3 := dk_seg dksX6_lay_2 22 rfl rfl
theorem dksX6_lay_4 : cX6_lay.data.toList.drop 94 = dktX6_lay_4 := dk_seg dksX6_lay_3 24 rfl rfl
theorem dksX6_lay_5 : cX6_lay.data.toList.drop 117 = dktX6_lay_5 := dk_seg dksX6_lay_4 23 rfl rfl
theorem dksX6_lay_6 : cX6_lay.data.toList.drop 141 = dktX6_lay_6 := dk_seg dksX6_lay_5 24 rfl rfl
theorem dksX6_lay_7 : cX6_lay.data.toList.drop 164 = dktX6_lay_7 := dk_seg dksX6_lay_6 23 rfl rfl
theorem dksX6_lay_8 : cX6_lay.data.toList.drop 188 = dktX6_lay_8 := dk_seg dksX6_lay_7 24 rfl rfl
theorem dX6_lay_0 : decode cX6_lay 0 = .ok (.iload_n 2, 1) := dk_28 (dk_at dksX6_lay_0 0 rfl rfl)
theorem dX6_lay_1 : decode cX6_lay 1 = .ok (.ifCond .eq 33, 3) := dk_153 0 33 (dk_at dksX6_lay_0 1 rfl rfl)
theorem dX6_lay_4 : decode cX6_lay 4 = .ok (.iload_n 2, 1) := dk_28 (dk_at dksX6_lay_0 4 rfl rfl)
theorem dX6_lay_5 : decode cX6_lay 5 = .ok (.iconst 3, 1) := dk_6 (dk_at dksX6_lay_0 5 rfl rfl)
theorem dX6_lay_6 : decode cX6_lay 6 = .ok (.if_icmp .eq 28, 3) := dk_159 0 28 (dk_at dksX6_lay_0 6 rfl rfl)
theorem dX6_lay_9 : decode cX6_lay 9 = .ok (.iload_n 2, 1) := dk_28 (dk_at dksX6_lay_0 9 rfl rfl)
theorem dX6_lay_10 : decode cX6_lay 10 = .ok (.iconst 1, 1) := dk_4 (dk_at dksX6_lay_0 10 rfl rfl)
theorem dX6_lay_11 : decode cX6_lay 11 = .ok (.if_icmp .ne 11, 3) := dk_160 0 11 (dk_at dksX6_lay_0 11 rfl rfl)
theorem dX6_lay_14 : decode cX6_lay 14 = .ok (.aload_n 0, 1) := dk_42 (dk_at dksX6_lay_0 14 rfl rfl)
theorem dX6_lay_15 : decode cX6_lay 15 = .ok (.iload_n 3, 1) := dk_29 (dk_at dksX6_lay_0 15 rfl rfl)
theorem dX6_lay_16 : decode cX6_lay 16 = .ok (.invokevirtual 95, 3) := dk_182 0 95 (dk_at dksX6_lay_0 16 rfl rfl)
theorem dX6_lay_19 : decode cX6_lay 19 = .ok (.ifCond .ne 15, 3) := dk_154 0 15 (dk_at dksX6_lay_0 19 rfl rfl)
theorem dX6_lay_22 : decode cX6_lay 22 = .ok (.iload_n 2, 1) := dk_28 (dk_at dksX6_lay_0 22 rfl rfl)
theorem dX6_lay_23 : decode cX6_lay 23 = .ok (.iconst 2, 1) := dk_5 (dk_at dksX6_lay_0 23 rfl rfl)
theorem dX6_lay_24 : decode cX6_lay 24 = .ok (.if_icmp .ne 14, 3) := dk_160 0 14 (dk_at dksX6_lay_1 0 rfl rfl)
theorem dX6_lay_27 : decode cX6_lay 27 = .ok (.iload_n 3, 1) := dk_29 (dk_at dksX6_lay_1 3 rfl rfl)
theorem dX6_lay_28 : decode cX6_lay 28 = .ok (.invokestatic 291, 3) := dk_184 1 35 (dk_at dksX6_lay_1 4 rfl rfl)
theorem dX6_lay_31 : decode cX6_lay 31 = .ok (.ifCond .eq 7, 3) := dk_153 0 7 (dk_at dksX6_lay_1 7 rfl rfl)
theorem dX6_lay_34 : decode cX6_lay 34 = .ok (.iconst 1, 1) := dk_4 (dk_at dksX6_lay_1 10 rfl rfl)
theorem dX6_lay_35 : decode cX6_lay 35 = .ok (.goto 4, 3) := dk_167 0 4 (dk_at dksX6_lay_1 11 rfl rfl)
theorem dX6_lay_38 : decode cX6_lay 38 = .ok (.iconst 0, 1) := dk_3 (dk_at dksX6_lay_1 14 rfl rfl)
theorem dX6_lay_39 : decode cX6_lay 39 = .ok (.istore 4, 2) := dk_54 4 (dk_at dksX6_lay_1 15 rfl rfl)
theorem dX6_lay_41 : decode cX6_lay 41 = .ok (.iload_n 1, 1) := dk_27 (dk_at dksX6_lay_1 17 rfl rfl)
theorem dX6_lay_42 : decode cX6_lay 42 = .ok (.invokestatic 303, 3) := dk_184 1 47 (dk_at dksX6_lay_1 18 rfl rfl)
theorem dX6_lay_45 : decode cX6_lay 45 = .ok (.ifCond .eq 8, 3) := dk_153 0 8 (dk_at dksX6_lay_1 21 rfl rfl)
theorem dX6_lay_48 : decode cX6_lay 48 = .ok (.iload 4, 2) := dk_21 4 (dk_at dksX6_lay_2 0 rfl rfl)
theorem dX6_lay_50 : decode cX6_lay 50 = .ok (.ifCond .ne 6, 3) := dk_154 0 6 (dk_at dksX6_lay_2 2 rfl rfl)
theorem dX6_lay_53 : decode cX6_lay 53 = .ok (.ldc 82, 2) := dk_18 82 (dk_at dksX6_lay_2 5 rfl rfl)
theorem dX6_lay_55 : decode cX6_lay 55 = .ok (.ireturn, 1) := dk_172 (dk_at dksX6_lay_2 7 rfl rfl)
theorem dX6_lay_56 : decode cX6_lay 56 = .ok (.iload_n 2, 1) := dk_28 (dk_at dksX6_lay_2 8 rfl rfl)
theorem dX6_lay_57 : decode cX6_lay 57 = .ok (.iconst 2, 1) := dk_5 (dk_at dksX6_lay_2 9 rfl rfl)
theorem dX6_lay_58 : decode cX6_lay 58 = .ok (.if_icmp .ne 16, 3) := dk_160 0 16 (dk_at dksX6_lay_2 10 rfl rfl)
theorem dX6_lay_61 : decode cX6_lay 61 = .ok (.aload_n 0, 1) := dk_42 (dk_at dksX6_lay_2 13 rfl rfl)
theorem dX6_lay_62 : decode cX6_lay 62 = .ok (.getfield 19, 3) := dk_180 0 19 (dk_at dksX6_lay_2 14 rfl rfl)
theorem dX6_lay_65 : decode cX6_lay 65 = .ok (.iload_n 3, 1) := dk_29 (dk_at dksX6_lay_2 17 rfl rfl)
theorem dX6_lay_66 : decode cX6_lay 66 = .ok (.iaload, 1) := dk_46 (dk_at dksX6_lay_2 18 rfl rfl)
theorem dX6_lay_67 : decode cX6_lay 67 = .ok (.ifCond .ge 7, 3) := dk_156 0 7 (dk_at dksX6_lay_2 19 rfl rfl)
theorem dX6_lay_70 : decode cX6_lay 70 = .ok (.ldc_w 297, 3) := dk_19 1 41 (dk_at dksX6_lay_3 0 rfl rfl)
theorem dX6_lay_73 : decode cX6_lay 73 = .ok (.ireturn, 1) := dk_172 (dk_at dksX6_lay_3 3 rfl rfl)
theorem dX6_lay_74 : decode cX6_lay 74 = .ok (.aload_n 0, 1) := dk_42 (dk_at dksX6_lay_3 4 rfl rfl)
theorem dX6_lay_75 : decode cX6_lay 75 = .ok (.getfield 28, 3) := dk_180 0 28 (dk_at dksX6_lay_3 5 rfl rfl)
theorem dX6_lay_78 : decode cX6_lay 78 = .ok (.iload_n 1, 1) := dk_27 (dk_at dksX6_lay_3 8 rfl rfl)
theorem dX6_lay_79 : decode cX6_lay 79 = .ok (.iaload, 1) := dk_46 (dk_at dksX6_lay_3 9 rfl rfl)
theorem dX6_lay_80 : decode cX6_lay 80 = .ok (.istore 5, 2) := dk_54 5 (dk_at dksX6_lay_3 10 rfl rfl)
theorem dX6_lay_82 : decode cX6_lay 82 = .ok (.aload_n 0, 1) := dk_42 (dk_at dksX6_lay_3 12 rfl rfl)
theorem dX6_lay_83 : decode cX6_lay 83 = .ok (.getfield 28, 3) := dk_180 0 28 (dk_at dksX6_lay_3 13 rfl rfl)
theorem dX6_lay_86 : decode cX6_lay 86 = .ok (.iload_n 1, 1) := dk_27 (dk_at dksX6_lay_3 16 rfl rfl)
theorem dX6_lay_87 : decode cX6_lay 87 = .ok (.iload_n 2, 1) := dk_28 (dk_at dksX6_lay_3 17 rfl rfl)
theorem dX6_lay_88 : decode cX6_lay 88 = .ok (.iastore, 1) := dk_79 (dk_at dksX6_lay_3 18 rfl rfl)
theorem dX6_lay_89 : decode cX6_lay 89 = .ok (.aload_n 0, 1) := dk_42 (dk_at dksX6_lay_3 19 rfl rfl)
theorem dX6_lay_90 : decode cX6_lay 90 = .ok (.getfield 31, 3) := dk_180 0 31 (dk_at dksX6_lay_3 20 rfl rfl)
theorem dX6_lay_93 : decode cX6_lay 93 = .ok (.iload_n 1, 1) := dk_27 (dk_at dksX6_lay_3 23 rfl rfl)
theorem dX6_lay_94 : decode cX6_lay 94 = .ok (.iload_n 2, 1) := dk_28 (dk_at dksX6_lay_4 0 rfl rfl)
theorem dX6_lay_95 : decode cX6_lay 95 = .ok (.iconst 1, 1) := dk_4 (dk_at dksX6_lay_4 1 rfl rfl)
theorem dX6_lay_96 : decode cX6_lay 96 = .ok (.if_icmp .ne 12, 3) := dk_160 0 12 (dk_at dksX6_lay_4 2 rfl rfl)
theorem dX6_lay_99 : decode cX6_lay 99 = .ok (.aload_n 0, 1) := dk_42 (dk_at dksX6_lay_4 5 rfl rfl)
theorem dX6_lay_100 : decode cX6_lay 100 = .ok (.iload_n 3, 1) := dk_29 (dk_at dksX6_lay_4 6 rfl rfl)
theorem dX6_lay_101 : decode cX6_lay 101 = .ok (.iconst 0, 1) := dk_3 (dk_at dksX6_lay_4 7 rfl rfl)
theorem dX6_lay_102 : decode cX6_lay 102 = .ok (.invokevirtual 88, 3) := dk_182 0 88 (dk_at dksX6_lay_4 8 rfl rfl)
theorem dX6_lay_105 : decode cX6_lay 105 = .ok (.goto 4, 3) := dk_167 0 4 (dk_at dksX6_lay_4 11 rfl rfl)
theorem dX6_lay_108 : decode cX6_lay 108 = .ok (.iload_n 3, 1) := dk_29 (dk_at dksX6_lay_4 14 rfl rfl)
theorem dX6_lay_109 : decode cX6_lay 109 = .ok (.iastore, 1) := dk_79 (dk_at dksX6_lay_4 15 rfl rfl)
theorem dX6_lay_110 : decode cX6_lay 110 = .ok (.aload_n 0, 1) := dk_42 (dk_at dksX6_lay_4 16 rfl rfl)
theorem dX6_lay_111 : decode cX6_lay 111 = .ok (.getfield 34, 3) := dk_180 0 34 (dk_at dksX6_lay_4 17 rfl rfl)
theorem dX6_lay_114 : decode cX6_lay 114 = .ok (.iload_n 1, 1) := dk_27 (dk_at dksX6_lay_4 20 rfl rfl)
theorem dX6_lay_115 : decode cX6_lay 115 = .ok (.iload_n 2, 1) := dk_28 (dk_at dksX6_lay_4 21 rfl rfl)
theorem dX6_lay_116 : decode cX6_lay 116 = .ok (.iconst 1, 1) := dk_4 (dk_at dksX6_lay_4 22 rfl rfl)
theorem dX6_lay_117 : decode cX6_lay 117 = .ok (.if_icmp .ne 21, 3) := dk_160 0 21 (dk_at dksX6_lay_5 0 rfl rfl)
theorem dX6_lay_120 : decode cX6_lay 120 = .ok (.aload_n 0, 1) := dk_42 (dk_at dksX6_lay_5 3 rfl rfl)
theorem dX6_lay_121 : decode cX6_lay 121 = .ok (.iload_n 3, 1) := dk_29 (dk_at dksX6_lay_5 4 rfl rfl)
theorem dX6_lay_122 : decode cX6_lay 122 = .ok (.iconst 0, 1) := dk_3 (dk_at dksX6_lay_5 5 rfl rfl)
theorem dX6_lay_123 : decode cX6_lay 123 = .ok (.invokevirtual 88, 3) := dk_182 0 88 (dk_at dksX6_lay_5 6 rfl rfl)
theorem dX6_lay_126 : decode cX6_lay 126 = .ok (.aload_n 0, 1) := dk_42 (dk_at dksX6_lay_5 9 rfl rfl)
theorem dX6_lay_127 : decode cX6_lay 127 = .ok (.iload_n 3, 1) := dk_29 (dk_at dksX6_lay_5 10 rfl rfl)
theorem dX6_lay_128 : decode cX6_lay 128 = .ok (.iconst 1, 1) := dk_4 (dk_at dksX6_lay_5 11 rfl rfl)
theorem dX6_lay_129 : decode cX6_lay 129 = .ok (.invokevirtual 88, 3) := dk_182 0 88 (dk_at dksX6_lay_5 12 rfl rfl)
theorem dX6_lay_132 : decode cX6_lay 132 = .ok (.invokestatic 99, 3) := dk_184 0 99 (dk_at dksX6_lay_5 15 rfl rfl)
theorem dX6_lay_135 : decode cX6_lay 135 = .ok (.goto 4, 3) := dk_167 0 4 (dk_at dksX6_lay_5 18 rfl rfl)
theorem dX6_lay_138 : decode cX6_lay 138 = .ok (.iconst 0, 1) := dk_3 (dk_at dksX6_lay_5 21 rfl rfl)
theorem dX6_lay_139 : decode cX6_lay 139 = .ok (.iastore, 1) := dk_79 (dk_at dksX6_lay_5 22 rfl rfl)
theorem dX6_lay_140 : decode cX6_lay 140 = .ok (.iload_n 2, 1) := dk_28 (dk_at dksX6_lay_5 23 rfl rfl)
theorem dX6_lay_141 : decode cX6_lay 141 = .ok (.iconst 2, 1) := dk_5 (dk_at dksX6_lay_6 0 rfl rfl)
theorem dX6_lay_142 : decode cX6_lay 142 = .ok (.if_icmp .ne 55, 3) := dk_160 0 55 (dk_at dksX6_lay_6 1 rfl rfl)
theorem dX6_lay_145 : decode cX6_lay 145 = .ok (.aload_n 0, 1) := dk_42 (dk_at dksX6_lay_6 4 rfl rfl)
theorem dX6_lay_146 : decode cX6_lay 146 = .ok (.getfield 37, 3) := dk_180 0 37 (dk_at dksX6_lay_6 5 rfl rfl)
theorem dX6_lay_149 : decode cX6_lay 149 = .ok (.iload_n 1, 1) := dk_27 (dk_at dksX6_lay_6 8 rfl rfl)
theorem dX6_lay_150 : decode cX6_lay 150 = .ok (.aload_n 0, 1) := dk_42 (dk_at dksX6_lay_6 9 rfl rfl)
theorem dX6_lay_151 : decode cX6_lay 151 = .ok (.getfield 22, 3) := dk_180 0 22 (dk_at dksX6_lay_6 10 rfl rfl)
theorem dX6_lay_154 : decode cX6_lay 154 = .ok (.iload_n 3, 1) := dk_29 (dk_at dksX6_lay_6 13 rfl rfl)
theorem dX6_lay_155 : decode cX6_lay 155 = .ok (.iaload, 1) := dk_46 (dk_at dksX6_lay_6 14 rfl rfl)
theorem dX6_lay_156 : decode cX6_lay 156 = .ok (.iastore, 1) := dk_79 (dk_at dksX6_lay_6 15 rfl rfl)
theorem dX6_lay_157 : decode cX6_lay 157 = .ok (.iconst 0, 1) := dk_3 (dk_at dksX6_lay_6 16 rfl rfl)
theorem dX6_lay_158 : decode cX6_lay 158 = .ok (.istore 6, 2) := dk_54 6 (dk_at dksX6_lay_6 17 rfl rfl)
theorem dX6_lay_160 : decode cX6_lay 160 = .ok (.iload 6, 2) := dk_21 6 (dk_at dksX6_lay_6 19 rfl rfl)
theorem dX6_lay_162 : decode cX6_lay 162 = .ok (.bipush 24, 2) := dk_16 24 (dk_at dksX6_lay_6 21 rfl rfl)
theorem dX6_lay_164 : decode cX6_lay 164 = .ok (.if_icmp .ge 33, 3) := dk_162 0 33 (dk_at dksX6_lay_7 0 rfl rfl)
theorem dX6_lay_167 : decode cX6_lay 167 = .ok (.aload_n 0, 1) := dk_42 (dk_at dksX6_lay_7 3 rfl rfl)
theorem dX6_lay_168 : decode cX6_lay 168 = .ok (.getfield 40, 3) := dk_180 0 40 (dk_at dksX6_lay_7 4 rfl rfl)
theorem dX6_lay_171 : decode cX6_lay 171 = .ok (.bipush 24, 2) := dk_16 24 (dk_at dksX6_lay_7 7 rfl rfl)
theorem dX6_lay_173 : decode cX6_lay 173 = .ok (.iload_n 1, 1) := dk_27 (dk_at dksX6_lay_7 9 rfl rfl)
theorem dX6_lay_174 : decode cX6_lay 174 = .ok (.imul, 1) := dk_104 (dk_at dksX6_lay_7 10 rfl rfl)
theorem dX6_lay_175 : decode cX6_lay 175 = .ok (.iload 6, 2) := dk_21 6 (dk_at dksX6_lay_7 11 rfl rfl)
theorem dX6_lay_177 : decode cX6_lay 177 = .ok (.iadd, 1) := dk_96 (dk_at dksX6_lay_7 13 rfl rfl)
theorem dX6_lay_178 : decode cX6_lay 178 = .ok (.aload_n 0, 1) := dk_42 (dk_at dksX6_lay_7 14 rfl rfl)
theorem dX6_lay_179 : decode cX6_lay 179 = .ok (.getfield 25, 3) := dk_180 0 25 (dk_at dksX6_lay_7 15 rfl rfl)
theorem dX6_lay_182 : decode cX6_lay 182 = .ok (.bipush 24, 2) := dk_16 24 (dk_at dksX6_lay_7 18 rfl rfl)
theorem dX6_lay_184 : decode cX6_lay 184 = .ok (.iload_n 3, 1) := dk_29 (dk_at dksX6_lay_7 20 rfl rfl)
theorem dX6_lay_185 : decode cX6_lay 185 = .ok (.imul, 1) := dk_104 (dk_at dksX6_lay_7 21 rfl rfl)
theorem dX6_lay_186 : decode cX6_lay 186 = .ok (.iload 6, 2) := dk_21 6 (dk_at dksX6_lay_7 22 rfl rfl)
theorem dX6_lay_188 : decode cX6_lay 188 = .ok (.iadd, 1) := dk_96 (dk_at dksX6_lay_8 0 rfl rfl)
theorem dX6_lay_189 : decode cX6_lay 189 = .ok (.iaload, 1) := dk_46 (dk_at dksX6_lay_8 1 rfl rfl)
theorem dX6_lay_190 : decode cX6_lay 190 = .ok (.iastore, 1) := dk_79 (dk_at dksX6_lay_8 2 rfl rfl)
theorem dX6_lay_191 : decode cX6_lay 191 = .ok (.iinc 6 1, 3) := dk_132 6 1 (dk_at dksX6_lay_8 3 rfl rfl)
theorem dX6_lay_194 : decode cX6_lay 194 = .ok (.goto (-34), 3) := dk_167 255 222 (dk_at dksX6_lay_8 6 rfl rfl)
theorem dX6_lay_197 : decode cX6_lay 197 = .ok (.iload 5, 2) := dk_21 5 (dk_at dksX6_lay_8 9 rfl rfl)
theorem dX6_lay_199 : decode cX6_lay 199 = .ok (.ireturn, 1) := dk_172 (dk_at dksX6_lay_8 11 rfl rfl)
abbrev cX6_isSlot : ByteArray := prog_19_method_85_code
def yX6_isSlot : MethodName := ⟨RX6, "isSlot", "(I)Z"⟩
def dkwX6_isSlot_0 : List UInt8 := [26, 133, 9, 20, 0, 152, 184, 0, 65, 172]
abbrev dktX6_isSlot_0 : List UInt8 := dkwX6_isSlot_0 ++ []
theorem dksX6_isSlot_0 : cX6_isSlot.data.toList.drop 0 = dktX6_isSlot_0 := by decide +kernel
theorem dX6_isSlot_0 : decode cX6_isSlot 0 = .ok (.iload_n 0, 1) := dk_26 (dk_at dksX6_isSlot_0 0 rfl rfl)
theorem dX6_isSlot_1 : decode cX6_isSlot 1 = .ok (.i2l, 1) := dk_133 (dk_at dksX6_isSlot_0 1 rfl rfl)
theorem dX6_isSlot_2 : decode cX6_isSlot 2 = .ok (.lconst 0, 1) := dk_9 (dk_at dksX6_isSlot_0 2 rfl rfl)
theorem dX6_isSlot_3 : decode cX6_isSlot 3 = .ok (.ldc2_w 152, 3) := dk_20 0 152 (dk_at dksX6_isSlot_0 3 rfl rfl)
theorem dX6_isSlot_6 : decode cX6_isSlot 6 = .ok (.invokestatic 65, 3) := dk_184 0 65 (dk_at dksX6_isSlot_0 6 rfl rfl)
theorem dX6_isSlot_9 : decode cX6_isSlot 9 = .ok (.ireturn, 1) := dk_172 (dk_at dksX6_isSlot_0 9 rfl rfl)
abbrev cX6_ask : ByteArray := prog_19_method_87_code
def yX6_ask : MethodName := ⟨RX6, "ask", "(II)I"⟩
def dkwX6_ask_2 : List UInt8 := [180, 0, 31, 27, 46, 28, 184, 0, 105, 153, 0, 12, 42, 180, 0, 34, 27, 46, 167, 0, 5, 18, 109, 172]
abbrev dktX6_ask_2 : List UInt8 := dkwX6_ask_2 ++ []
def dkwX6_ask_1 : List UInt8 := [180, 0, 28, 27, 46, 154, 0, 7, 19, 1, 41, 172, 42, 180, 0, 28, 27, 46, 4, 160, 0, 25, 42]
abbrev dktX6_ask_1 : List UInt8 := dkwX6_ask_1 ++ dktX6_ask_2
def dkwX6_ask_0 : List UInt8 := [27, 184, 1, 47, 153, 0, 15, 28, 133, 9, 20, 0, 78, 184, 0, 65, 154, 0, 6, 18, 82, 172, 42]
abbrev dktX6_ask_0 : List UInt8 := dkwX6_ask_0 ++ dktX6_ask_1
theorem dksX6_ask_0 : cX6_ask.data.toList.drop 0 = dktX6_ask_0 := by decide +kernel
theorem dksX6_ask_1 : cX6_ask.data.toList.drop 23 = dktX6_ask_1 := dk_seg dksX6_ask_0 23 rfl rfl
theorem dksX6_ask_2 : cX6_ask.data.toList.drop 46 = dktX6_ask_2 := dk_seg dksX6_ask_1 23 rfl rfl
theorem dX6_ask_0 : decode cX6_ask 0 = .ok (.iload_n 1, 1) := dk_27 (dk_at dksX6_ask_0 0 rfl rfl)
theorem dX6_ask_1 : decode cX6_ask 1 = .ok (.invokestatic 303, 3) := dk_184 1 47 (dk_at dksX6_ask_0 1 rfl rfl)
theorem dX6_ask_4 : decode cX6_ask 4 = .ok (.ifCond .eq 15, 3) := dk_153 0 15 (dk_at dksX6_ask_0 4 rfl rfl)
theorem dX6_ask_7 : decode cX6_ask 7 = .ok (.iload_n 2, 1) := dk_28 (dk_at dksX6_ask_0 7 rfl rfl)
theorem dX6_ask_8 : decode cX6_ask 8 = .ok (.i2l, 1) := dk_133 (dk_at dksX6_ask_0 8 rfl rfl)
theorem dX6_ask_9 : decode cX6_ask 9 = .ok (.lconst 0, 1) := dk_9 (dk_at dksX6_ask_0 9 rfl rfl)
theorem dX6_ask_10 : decode cX6_ask 10 = .ok (.ldc2_w 78, 3) := dk_20 0 78 (dk_at dksX6_ask_0 10 rfl rfl)
theorem dX6_ask_13 : decode cX6_ask 13 = .ok (.invokestatic 65, 3) := dk_184 0 65 (dk_at dksX6_ask_0 13 rfl rfl)
theorem dX6_ask_16 : decode cX6_ask 16 = .ok (.ifCond .ne 6, 3) := dk_154 0 6 (dk_at dksX6_ask_0 16 rfl rfl)
theorem dX6_ask_19 : decode cX6_ask 19 = .ok (.ldc 82, 2) := dk_18 82 (dk_at dksX6_ask_0 19 rfl rfl)
theorem dX6_ask_21 : decode cX6_ask 21 = .ok (.ireturn, 1) := dk_172 (dk_at dksX6_ask_0 21 rfl rfl)
theorem dX6_ask_22 : decode cX6_ask 22 = .ok (.aload_n 0, 1) := dk_42 (dk_at dksX6_ask_0 22 rfl rfl)
theorem dX6_ask_23 : decode cX6_ask 23 = .ok (.getfield 28, 3) := dk_180 0 28 (dk_at dksX6_ask_1 0 rfl rfl)
theorem dX6_ask_26 : decode cX6_ask 26 = .ok (.iload_n 1, 1) := dk_27 (dk_at dksX6_ask_1 3 rfl rfl)
theorem dX6_ask_27 : decode cX6_ask 27 = .ok (.iaload, 1) := dk_46 (dk_at dksX6_ask_1 4 rfl rfl)
theorem dX6_ask_28 : decode cX6_ask 28 = .ok (.ifCond .ne 7, 3) := dk_154 0 7 (dk_at dksX6_ask_1 5 rfl rfl)
theorem dX6_ask_31 : decode cX6_ask 31 = .ok (.ldc_w 297, 3) := dk_19 1 41 (dk_at dksX6_ask_1 8 rfl rfl)
theorem dX6_ask_34 : decode cX6_ask 34 = .ok (.ireturn, 1) := dk_172 (dk_at dksX6_ask_1 11 rfl rfl)
theorem dX6_ask_35 : decode cX6_ask 35 = .ok (.aload_n 0, 1) := dk_42 (dk_at dksX6_ask_1 12 rfl rfl)
theorem dX6_ask_36 : decode cX6_ask 36 = .ok (.getfield 28, 3) := dk_180 0 28 (dk_at dksX6_ask_1 13 rfl rfl)
theorem dX6_ask_39 : decode cX6_ask 39 = .ok (.iload_n 1, 1) := dk_27 (dk_at dksX6_ask_1 16 rfl rfl)
theorem dX6_ask_40 : decode cX6_ask 40 = .ok (.iaload, 1) := dk_46 (dk_at dksX6_ask_1 17 rfl rfl)
theorem dX6_ask_41 : decode cX6_ask 41 = .ok (.iconst 1, 1) := dk_4 (dk_at dksX6_ask_1 18 rfl rfl)
theorem dX6_ask_42 : decode cX6_ask 42 = .ok (.if_icmp .ne 25, 3) := dk_160 0 25 (dk_at dksX6_ask_1 19 rfl rfl)
theorem dX6_ask_45 : decode cX6_ask 45 = .ok (.aload_n 0, 1) := dk_42 (dk_at dksX6_ask_1 22 rfl rfl)
theorem dX6_ask_46 : decode cX6_ask 46 = .ok (.getfield 31, 3) := dk_180 0 31 (dk_at dksX6_ask_2 0 rfl rfl)
theorem dX6_ask_49 : decode cX6_ask 49 = .ok (.iload_n 1, 1) := dk_27 (dk_at dksX6_ask_2 3 rfl rfl)
theorem dX6_ask_50 : decode cX6_ask 50 = .ok (.iaload, 1) := dk_46 (dk_at dksX6_ask_2 4 rfl rfl)
theorem dX6_ask_51 : decode cX6_ask 51 = .ok (.iload_n 2, 1) := dk_28 (dk_at dksX6_ask_2 5 rfl rfl)
theorem dX6_ask_52 : decode cX6_ask 52 = .ok (.invokestatic 105, 3) := dk_184 0 105 (dk_at dksX6_ask_2 6 rfl rfl)
theorem dX6_ask_55 : decode cX6_ask 55 = .ok (.ifCond .eq 12, 3) := dk_153 0 12 (dk_at dksX6_ask_2 9 rfl rfl)
theorem dX6_ask_58 : decode cX6_ask 58 = .ok (.aload_n 0, 1) := dk_42 (dk_at dksX6_ask_2 12 rfl rfl)
theorem dX6_ask_59 : decode cX6_ask 59 = .ok (.getfield 34, 3) := dk_180 0 34 (dk_at dksX6_ask_2 13 rfl rfl)
theorem dX6_ask_62 : decode cX6_ask 62 = .ok (.iload_n 1, 1) := dk_27 (dk_at dksX6_ask_2 16 rfl rfl)
theorem dX6_ask_63 : decode cX6_ask 63 = .ok (.iaload, 1) := dk_46 (dk_at dksX6_ask_2 17 rfl rfl)
theorem dX6_ask_64 : decode cX6_ask 64 = .ok (.goto 5, 3) := dk_167 0 5 (dk_at dksX6_ask_2 18 rfl rfl)
theorem dX6_ask_67 : decode cX6_ask 67 = .ok (.ldc 109, 2) := dk_18 109 (dk_at dksX6_ask_2 21 rfl rfl)
theorem dX6_ask_69 : decode cX6_ask 69 = .ok (.ireturn, 1) := dk_172 (dk_at dksX6_ask_2 23 rfl rfl)
abbrev cX6_item : ByteArray := prog_19_method_88_code
def yX6_item : MethodName := ⟨RX6, "item", "(II)I"⟩
def dkwX6_item_3 : List UInt8 := [29, 18, 64, 160, 0, 8, 18, 109, 167, 0, 4, 29, 172]
abbrev dktX6_item_3 : List UInt8 := dkwX6_item_3 ++ []
def dkwX6_item_2 : List UInt8 := [100, 133, 184, 0, 65, 154, 0, 7, 19, 1, 42, 172, 42, 180, 0, 40, 16, 24, 27, 104, 28, 96, 46, 62]
abbrev dktX6_item_2 : List UInt8 := dkwX6_item_2 ++ dktX6_item_3
def dkwX6_item_1 : List UInt8 := [27, 46, 154, 0, 9, 19, 1, 41, 167, 0, 5, 18, 109, 172, 28, 133, 9, 42, 180, 0, 37, 27, 46, 4]
abbrev dktX6_item_1 : List UInt8 := dkwX6_item_1 ++ dktX6_item_2
def dkwX6_item_0 : List UInt8 := [27, 184, 1, 47, 154, 0, 6, 18, 82, 172, 42, 180, 0, 28, 27, 46, 5, 159, 0, 21, 42, 180, 0, 28]
abbrev dktX6_item_0 : List UInt8 := dkwX6_item_0 ++ dktX6_item_1
theorem dksX6_item_0 : cX6_item.data.toList.drop 0 = dktX6_item_0 := by decide +kernel
theorem dksX6_item_1 : cX6_item.data.toList.drop 24 = dktX6_item_1 := dk_seg dksX6_item_0 24 rfl rfl
theorem dksX6_item_2 : cX6_item.data.toList.drop 48 = dktX6_item_2 := dk_seg dksX6_item_1 24 rfl rfl
theorem dksX6_item_3 : cX6_item.data.toList.drop 72 = dktX6_item_3 := dk_seg dksX6_item_2 24 rfl rfl
theorem dX6_item_0 : decode cX6_item 0 = .ok (.iload_n 1, 1) := dk_27 (dk_at dksX6_item_0 0 rfl rfl)
theorem dX6_item_1 : decode cX6_item 1 = .ok (.invokestatic 303, 3) := dk_184 1 47 (dk_at dksX6_item_0 1 rfl rfl)
theorem dX6_item_4 : decode cX6_item 4 = .ok (.ifCond .ne 6, 3) := dk_154 0 6 (dk_at dksX6_item_0 4 rfl rfl)
theorem dX6_item_7 : decode cX6_item 7 = .ok (.ldc 82, 2) := dk_18 82 (dk_at dksX6_item_0 7 rfl rfl)
theorem dX6_item_9 : decode cX6_item 9 = .ok (.ireturn, 1) := dk_172 (dk_at dksX6_item_0 9 rfl rfl)
theorem dX6_item_10 : decode cX6_item 10 = .ok (.aload_n 0, 1) := dk_42 (dk_at dksX6_item_0 10 rfl rfl)
theorem dX6_item_11 : decode cX6_item 11 = .ok (.getfield 28, 3) := dk_180 0 28 (dk_at dksX6_item_0 11 rfl rfl)
theorem dX6_item_14 : decode cX6_item 14 = .ok (.iload_n 1, 1) := dk_27 (dk_at dksX6_item_0 14 rfl rfl)
theorem dX6_item_15 : decode cX6_item 15 = .ok (.iaload, 1) := dk_46 (dk_at dksX6_item_0 15 rfl rfl)
theorem dX6_item_16 : decode cX6_item 16 = .ok (.iconst 2, 1) := dk_5 (dk_at dksX6_item_0 16 rfl rfl)
theorem dX6_item_17 : decode cX6_item 17 = .ok (.if_icmp .eq 21, 3) := dk_159 0 21 (dk_at dksX6_item_0 17 rfl rfl)
theorem dX6_item_20 : decode cX6_item 20 = .ok (.aload_n 0, 1) := dk_42 (dk_at dksX6_item_0 20 rfl rfl)
theorem dX6_item_21 : decode cX6_item 21 = .ok (.getfield 28, 3) := dk_180 0 28 (dk_at dksX6_item_0 21 rfl rfl)
theorem dX6_item_24 : decode cX6_item 24 = .ok (.iload_n 1, 1) := dk_27 (dk_at dksX6_item_1 0 rfl rfl)
theorem dX6_item_25 : decode cX6_item 25 = .ok (.iaload, 1) := dk_46 (dk_at dksX6_item_1 1 rfl rfl)
theorem dX6_item_26 : decode cX6_item 26 = .ok (.ifCond .ne 9, 3) := dk_154 0 9 (dk_at dksX6_item_1 2 rfl rfl)
theorem dX6_item_29 : decode cX6_item 29 = .ok (.ldc_w 297, 3) := dk_19 1 41 (dk_at dksX6_item_1 5 rfl rfl)
theorem dX6_item_32 : decode cX6_item 32 = .ok (.goto 5, 3) := dk_167 0 5 (dk_at dksX6_item_1 8 rfl rfl)
theorem dX6_item_35 : decode cX6_item 35 = .ok (.ldc 109, 2) := dk_18 109 (dk_at dksX6_item_1 11 rfl rfl)
theorem dX6_item_37 : decode cX6_item 37 = .ok (.ireturn, 1) := dk_172 (dk_at dksX6_item_1 13 rfl rfl)
theorem dX6_item_38 : decode cX6_item 38 = .ok (.iload_n 2, 1) := dk_28 (dk_at dksX6_item_1 14 rfl rfl)
theorem dX6_item_39 : decode cX6_item 39 = .ok (.i2l, 1) := dk_133 (dk_at dksX6_item_1 15 rfl rfl)
theorem dX6_item_40 : decode cX6_item 40 = .ok (.lconst 0, 1) := dk_9 (dk_at dksX6_item_1 16 rfl rfl)
theorem dX6_item_41 : decode cX6_item 41 = .ok (.aload_n 0, 1) := dk_42 (dk_at dksX6_item_1 17 rfl rfl)
theorem dX6_item_42 : decode cX6_item 42 = .ok (.getfield 37, 3) := dk_180 0 37 (dk_at dksX6_item_1 18 rfl rfl)
theorem dX6_item_45 : decode cX6_item 45 = .ok (.iload_n 1, 1) := dk_27 (dk_at dksX6_item_1 21 rfl rfl)
theorem dX6_item_46 : decode cX6_item 46 = .ok (.iaload, 1) := dk_46 (dk_at dksX6_item_1 22 rfl rfl)
theorem dX6_item_47 : decode cX6_item 47 = .ok (.iconst 1, 1) := dk_4 (dk_at dksX6_item_1 23 rfl rfl)
theorem dX6_item_48 : decode cX6_item 48 = .ok (.isub, 1) := dk_100 (dk_at dksX6_item_2 0 rfl rfl)
theorem dX6_item_49 : decode cX6_item 49 = .ok (.i2l, 1) := dk_133 (dk_at dksX6_item_2 1 rfl rfl)
theorem dX6_item_50 : decode cX6_item 50 = .ok (.invokestatic 65, 3) := dk_184 0 65 (dk_at dksX6_item_2 2 rfl rfl)
theorem dX6_item_53 : decode cX6_item 53 = .ok (.ifCond .ne 7, 3) := dk_154 0 7 (dk_at dksX6_item_2 5 rfl rfl)
theorem dX6_item_56 : decode cX6_item 56 = .ok (.ldc_w 298, 3) := dk_19 1 42 (dk_at dksX6_item_2 8 rfl rfl)
theorem dX6_item_59 : decode cX6_item 59 = .ok (.ireturn, 1) := dk_172 (dk_at dksX6_item_2 11 rfl rfl)
theorem dX6_item_60 : decode cX6_item 60 = .ok (.aload_n 0, 1) := dk_42 (dk_at dksX6_item_2 12 rfl rfl)
theorem dX6_item_61 : decode cX6_item 61 = .ok (.getfield 40, 3) := dk_180 0 40 (dk_at dksX6_item_2 13 rfl rfl)
theorem dX6_item_64 : decode cX6_item 64 = .ok (.bipush 24, 2) := dk_16 24 (dk_at dksX6_item_2 16 rfl rfl)
theorem dX6_item_66 : decode cX6_item 66 = .ok (.iload_n 1, 1) := dk_27 (dk_at dksX6_item_2 18 rfl rfl)
theorem dX6_item_67 : decode cX6_item 67 = .ok (.imul, 1) := dk_104 (dk_at dksX6_item_2 19 rfl rfl)
theorem dX6_item_68 : decode cX6_item 68 = .ok (.iload_n 2, 1) := dk_28 (dk_at dksX6_item_2 20 rfl rfl)
theorem dX6_item_69 : decode cX6_item 69 = .ok (.iadd, 1) := dk_96 (dk_at dksX6_item_2 21 rfl rfl)
theorem dX6_item_70 : decode cX6_item 70 = .ok (.iaload, 1) := dk_46 (dk_at dksX6_item_2 22 rfl rfl)
theorem dX6_item_71 : decode cX6_item 71 = .ok (.istore_n 3, 1) := dk_62 (dk_at dksX6_item_2 23 rfl rfl)
theorem dX6_item_72 : decode cX6_item 72 = .ok (.iload_n 3, 1) := dk_29 (dk_at dksX6_item_3 0 rfl rfl)
theorem dX6_item_73 : decode cX6_item 73 = .ok (.ldc 64, 2) := dk_18 64 (dk_at dksX6_item_3 1 rfl rfl)
theorem dX6_item_75 : decode cX6_item 75 = .ok (.if_icmp .ne 8, 3) := dk_160 0 8 (dk_at dksX6_item_3 3 rfl rfl)
theorem dX6_item_78 : decode cX6_item 78 = .ok (.ldc 109, 2) := dk_18 109 (dk_at dksX6_item_3 6 rfl rfl)
theorem dX6_item_80 : decode cX6_item 80 = .ok (.goto 4, 3) := dk_167 0 4 (dk_at dksX6_item_3 8 rfl rfl)
theorem dX6_item_83 : decode cX6_item 83 = .ok (.iload_n 3, 1) := dk_29 (dk_at dksX6_item_3 11 rfl rfl)
theorem dX6_item_84 : decode cX6_item 84 = .ok (.ireturn, 1) := dk_172 (dk_at dksX6_item_3 12 rfl rfl)
abbrev cX6_rest : ByteArray := prog_19_method_89_code
def yX6_rest : MethodName := ⟨RX6, "rest", "(II)I"⟩
def dkwX6_rest_2 : List UInt8 := [180, 0, 31, 27, 46, 28, 112, 172]
abbrev dktX6_rest_2 : List UInt8 := dkwX6_rest_2 ++ []
def dkwX6_rest_1 : List UInt8 := [27, 46, 154, 0, 9, 19, 1, 41, 167, 0, 5, 18, 109, 172, 28, 154, 0, 8, 18, 160, 167, 0, 11, 42]
abbrev dktX6_rest_1 : List UInt8 := dkwX6_rest_1 ++ dktX6_rest_2
def dkwX6_rest_0 : List UInt8 := [27, 184, 1, 47, 154, 0, 6, 18, 82, 172, 42, 180, 0, 28, 27, 46, 6, 159, 0, 21, 42, 180, 0, 28]
abbrev dktX6_rest_0 : List UInt8 := dkwX6_rest_0 ++ dktX6_rest_1
theorem dksX6_rest_0 : cX6_rest.data.toList.drop 0 = dktX6_rest_0 := by decide +kernel
theorem dksX6_rest_1 : cX6_rest.data.toList.drop 24 = dktX6_rest_1 := dk_seg dksX6_rest_0 24 rfl rfl
theorem dksX6_rest_2 : cX6_rest.data.toList.drop 48 = dktX6_rest_2 := dk_seg dksX6_rest_1 24 rfl rfl
theorem dX6_rest_0 : decode cX6_rest 0 = .ok (.iload_n 1, 1) := dk_27 (dk_at dksX6_rest_0 0 rfl rfl)
theorem dX6_rest_1 : decode cX6_rest 1 = .ok (.invokestatic 303, 3) := dk_184 1 47 (dk_at dksX6_rest_0 1 rfl rfl)
theorem dX6_rest_4 : decode cX6_rest 4 = .ok (.ifCond .ne 6, 3) := dk_154 0 6 (dk_at dksX6_rest_0 4 rfl rfl)
theorem dX6_rest_7 : decode cX6_rest 7 = .ok (.ldc 82, 2) := dk_18 82 (dk_at dksX6_rest_0 7 rfl rfl)
theorem dX6_rest_9 : decode cX6_rest 9 = .ok (.ireturn, 1) := dk_172 (dk_at dksX6_rest_0 9 rfl rfl)
theorem dX6_rest_10 : decode cX6_rest 10 = .ok (.aload_n 0, 1) := dk_42 (dk_at dksX6_rest_0 10 rfl rfl)
theorem dX6_rest_11 : decode cX6_rest 11 = .ok (.getfield 28, 3) := dk_180 0 28 (dk_at dksX6_rest_0 11 rfl rfl)
theorem dX6_rest_14 : decode cX6_rest 14 = .ok (.iload_n 1, 1) := dk_27 (dk_at dksX6_rest_0 14 rfl rfl)
theorem dX6_rest_15 : decode cX6_rest 15 = .ok (.iaload, 1) := dk_46 (dk_at dksX6_rest_0 15 rfl rfl)
theorem dX6_rest_16 : decode cX6_rest 16 = .ok (.iconst 3, 1) := dk_6 (dk_at dksX6_rest_0 16 rfl rfl)
theorem dX6_rest_17 : decode cX6_rest 17 = .ok (.if_icmp .eq 21, 3) := dk_159 0 21 (dk_at dksX6_rest_0 17 rfl rfl)
theorem dX6_rest_20 : decode cX6_rest 20 = .ok (.aload_n 0, 1) := dk_42 (dk_at dksX6_rest_0 20 rfl rfl)
theorem dX6_rest_21 : decode cX6_rest 21 = .ok (.getfield 28, 3) := dk_180 0 28 (dk_at dksX6_rest_0 21 rfl rfl)
theorem dX6_rest_24 : decode cX6_rest 24 = .ok (.iload_n 1, 1) := dk_27 (dk_at dksX6_rest_1 0 rfl rfl)
theorem dX6_rest_25 : decode cX6_rest 25 = .ok (.iaload, 1) := dk_46 (dk_at dksX6_rest_1 1 rfl rfl)
theorem dX6_rest_26 : decode cX6_rest 26 = .ok (.ifCond .ne 9, 3) := dk_154 0 9 (dk_at dksX6_rest_1 2 rfl rfl)
theorem dX6_rest_29 : decode cX6_rest 29 = .ok (.ldc_w 297, 3) := dk_19 1 41 (dk_at dksX6_rest_1 5 rfl rfl)
theorem dX6_rest_32 : decode cX6_rest 32 = .ok (.goto 5, 3) := dk_167 0 5 (dk_at dksX6_rest_1 8 rfl rfl)
theorem dX6_rest_35 : decode cX6_rest 35 = .ok (.ldc 109, 2) := dk_18 109 (dk_at dksX6_rest_1 11 rfl rfl)
theorem dX6_rest_37 : decode cX6_rest 37 = .ok (.ireturn, 1) := dk_172 (dk_at dksX6_rest_1 13 rfl rfl)
theorem dX6_rest_38 : decode cX6_rest 38 = .ok (.iload_n 2, 1) := dk_28 (dk_at dksX6_rest_1 14 rfl rfl)
theorem dX6_rest_39 : decode cX6_rest 39 = .ok (.ifCond .ne 8, 3) := dk_154 0 8 (dk_at dksX6_rest_1 15 rfl rfl)
theorem dX6_rest_42 : decode cX6_rest 42 = .ok (.ldc 160, 2) := dk_18 160 (dk_at dksX6_rest_1 18 rfl rfl)
theorem dX6_rest_44 : decode cX6_rest 44 = .ok (.goto 11, 3) := dk_167 0 11 (dk_at dksX6_rest_1 20 rfl rfl)
theorem dX6_rest_47 : decode cX6_rest 47 = .ok (.aload_n 0, 1) := dk_42 (dk_at dksX6_rest_1 23 rfl rfl)
theorem dX6_rest_48 : decode cX6_rest 48 = .ok (.getfield 31, 3) := dk_180 0 31 (dk_at dksX6_rest_2 0 rfl rfl)
theorem dX6_rest_51 : decode cX6_rest 51 = .ok (.iload_n 1, 1) := dk_27 (dk_at dksX6_rest_2 3 rfl rfl)
theorem dX6_rest_52 : decode cX6_rest 52 = .ok (.iaload, 1) := dk_46 (dk_at dksX6_rest_2 4 rfl rfl)
theorem dX6_rest_53 : decode cX6_rest 53 = .ok (.iload_n 2, 1) := dk_28 (dk_at dksX6_rest_2 5 rfl rfl)
theorem dX6_rest_54 : decode cX6_rest 54 = .ok (.irem, 1) := dk_112 (dk_at dksX6_rest_2 6 rfl rfl)
theorem dX6_rest_55 : decode cX6_rest 55 = .ok (.ireturn, 1) := dk_172 (dk_at dksX6_rest_2 7 rfl rfl)
abbrev cX6_tell : ByteArray := prog_19_method_90_code
def yX6_tell : MethodName := ⟨RX6, "tell", "(I)I"⟩
def dkwX6_tell_1 : List UInt8 := [180, 1, 50, 4, 96, 181, 1, 50, 42, 180, 1, 50, 172]
abbrev dktX6_tell_1 : List UInt8 := dkwX6_tell_1 ++ []
def dkwX6_tell_0 : List UInt8 := [42, 180, 1, 50, 16, 60, 160, 0, 6, 18, 83, 172, 42, 180, 0, 58, 42, 180, 1, 50, 27, 79, 42, 89]
abbrev dktX6_tell_0 : List UInt8 := dkwX6_tell_0 ++ dktX6_tell_1
theorem dksX6_tell_0 : cX6_tell.data.toList.drop 0 = dktX6_tell_0 := by decide +kernel
theorem dksX6_tell_1 : cX6_tell.data.toList.drop 24 = dktX6_tell_1 := dk_seg dksX6_tell_0 24 rfl rfl
theorem dX6_tell_0 : decode cX6_tell 0 = .ok (.aload_n 0, 1) := dk_42 (dk_at dksX6_tell_0 0 rfl rfl)
theorem dX6_tell_1 : decode cX6_tell 1 = .ok (.getfield 306, 3) := dk_180 1 50 (dk_at dksX6_tell_0 1 rfl rfl)
theorem dX6_tell_4 : decode cX6_tell 4 = .ok (.bipush 60, 2) := dk_16 60 (dk_at dksX6_tell_0 4 rfl rfl)
theorem dX6_tell_6 : decode cX6_tell 6 = .ok (.if_icmp .ne 6, 3) := dk_160 0 6 (dk_at dksX6_tell_0 6 rfl rfl)
theorem dX6_tell_9 : decode cX6_tell 9 = .ok (.ldc 83, 2) := dk_18 83 (dk_at dksX6_tell_0 9 rfl rfl)
theorem dX6_tell_11 : decode cX6_tell 11 = .ok (.ireturn, 1) := dk_172 (dk_at dksX6_tell_0 11 rfl rfl)
theorem dX6_tell_12 : decode cX6_tell 12 = .ok (.aload_n 0, 1) := dk_42 (dk_at dksX6_tell_0 12 rfl rfl)
theorem dX6_tell_13 : decode cX6_tell 13 = .ok (.getfield 58, 3) := dk_180 0 58 (dk_at dksX6_tell_0 13 rfl rfl)
theorem dX6_tell_16 : decode cX6_tell 16 = .ok (.aload_n 0, 1) := dk_42 (dk_at dksX6_tell_0 16 rfl rfl)
theorem dX6_tell_17 : decode cX6_tell 17 = .ok (.getfield 306, 3) := dk_180 1 50 (dk_at dksX6_tell_0 17 rfl rfl)
theorem dX6_tell_20 : decode cX6_tell 20 = .ok (.iload_n 1, 1) := dk_27 (dk_at dksX6_tell_0 20 rfl rfl)
theorem dX6_tell_21 : decode cX6_tell 21 = .ok (.iastore, 1) := dk_79 (dk_at dksX6_tell_0 21 rfl rfl)
theorem dX6_tell_22 : decode cX6_tell 22 = .ok (.aload_n 0, 1) := dk_42 (dk_at dksX6_tell_0 22 rfl rfl)
theorem dX6_tell_23 : decode cX6_tell 23 = .ok (.dup, 1) := dk_89 (dk_at dksX6_tell_0 23 rfl rfl)
theorem dX6_tell_24 : decode cX6_tell 24 = .ok (.getfield 306, 3) := dk_180 1 50 (dk_at dksX6_tell_1 0 rfl rfl)
theorem dX6_tell_27 : decode cX6_tell 27 = .ok (.iconst 1, 1) := dk_4 (dk_at dksX6_tell_1 3 rfl rfl)
theorem dX6_tell_28 : decode cX6_tell 28 = .ok (.iadd, 1) := dk_96 (dk_at dksX6_tell_1 4 rfl rfl)
theorem dX6_tell_29 : decode cX6_tell 29 = .ok (.putfield 306, 3) := dk_181 1 50 (dk_at dksX6_tell_1 5 rfl rfl)
theorem dX6_tell_32 : decode cX6_tell 32 = .ok (.aload_n 0, 1) := dk_42 (dk_at dksX6_tell_1 8 rfl rfl)
theorem dX6_tell_33 : decode cX6_tell 33 = .ok (.getfield 306, 3) := dk_180 1 50 (dk_at dksX6_tell_1 9 rfl rfl)
theorem dX6_tell_36 : decode cX6_tell 36 = .ok (.ireturn, 1) := dk_172 (dk_at dksX6_tell_1 12 rfl rfl)
abbrev cX6_check : ByteArray := prog_19_method_92_code
def yX6_check : MethodName := ⟨RX6, "check", "(II)I"⟩
def dkwX6_check_8 : List UInt8 := [29, 160, 0, 15, 21, 4, 5, 28, 104, 160, 0, 7, 3, 167, 0, 7, 4, 21, 4, 96, 172]
abbrev dktX6_check_8 : List UInt8 := dkwX6_check_8 ++ []
def dkwX6_check_7 : List UInt8 := [180, 0, 58, 21, 4, 46, 42, 180, 0, 61, 21, 4, 46, 160, 0, 9, 132, 4, 1, 167, 255, 222, 21, 4]
abbrev dktX6_check_7 : List UInt8 := dkwX6_check_7 ++ dktX6_check_8
def dkwX6_check_6 : List UInt8 := [180, 0, 7, 182, 1, 59, 3, 54, 4, 21, 4, 29, 162, 0, 34, 21, 4, 5, 28, 104, 162, 0, 26, 42]
abbrev dktX6_check_6 : List UInt8 := dkwX6_check_6 ++ dktX6_check_7
def dkwX6_check_5 : List UInt8 := [21, 4, 104, 4, 96, 42, 27, 8, 182, 0, 73, 79, 132, 4, 1, 167, 255, 206, 42, 42, 180, 0, 16, 42]
abbrev dktX6_check_5 : List UInt8 := dkwX6_check_5 ++ dktX6_check_6
def dkwX6_check_4 : List UInt8 := [54, 5, 42, 180, 0, 61, 5, 21, 4, 104, 42, 27, 182, 0, 136, 184, 0, 128, 79, 42, 180, 0, 61, 5]
abbrev dktX6_check_4 : List UInt8 := dkwX6_check_4 ++ dktX6_check_5
def dkwX6_check_3 : List UInt8 := [180, 0, 13, 42, 180, 0, 7, 182, 1, 59, 3, 54, 4, 21, 4, 28, 162, 0, 50, 42, 27, 182, 0, 182]
abbrev dktX6_check_3 : List UInt8 := dkwX6_check_3 ++ dktX6_check_4
def dkwX6_check_2 : List UInt8 := [184, 0, 65, 154, 0, 6, 18, 82, 172, 42, 42, 180, 0, 7, 42, 180, 0, 16, 182, 1, 59, 42, 42]
abbrev dktX6_check_2 : List UInt8 := dkwX6_check_2 ++ dktX6_check_3
def dkwX6_check_1 : List UInt8 := [172, 42, 180, 1, 55, 154, 0, 6, 18, 160, 172, 27, 133, 9, 42, 180, 0, 13, 4, 46, 4, 100, 133]
abbrev dktX6_check_1 : List UInt8 := dkwX6_check_1 ++ dktX6_check_2
def dkwX6_check_0 : List UInt8 := [42, 180, 1, 50, 62, 42, 3, 181, 1, 50, 28, 133, 10, 20, 1, 53, 184, 0, 65, 154, 0, 6, 18, 82]
abbrev dktX6_check_0 : List UInt8 := dkwX6_check_0 ++ dktX6_check_1
theorem dksX6_check_0 : cX6_check.data.toList.drop 0 = dktX6_check_0 := by decide +kernel
theorem dksX6_check_1 : cX6_check.data.toList.drop 24 = dktX6_check_1 := dk_seg dksX6_check_0 24 rfl rfl
theorem dksX6_check_2 : cX6_check.data.toList.drop 47 = dktX6_check_2 := dk_seg dksX6_check_1 23 rfl rfl
theorem dksX6_check_3 : cX6_check.data.toList.drop 70 = dktX6_check_3 := dk_seg dksX6_check_2 23 rfl rfl
theorem dksX6_check_4 : cX6_check.data.toList.drop 94 = dktX6_check_4 := dk_seg dksX6_check_3 24 rfl rfl
theorem dksX6_check_5 : cX6_check.data.toList.drop 118 = dktX6_check_5 := dk_seg dksX6_check_4 24 rfl rfl
theorem dksX6_check_6 : cX6_check.data.toList.drop 142 = dktX6_check_6 := dk_seg dksX6_check_5 24 rfl rfl
theorem dksX6_check_7 : cX6_check.data.toList.drop 166 = dktX6_check_7 := dk_seg dksX6_check_6 24 rfl rfl
theorem dksX6_check_8 : cX6_check.data.toList.drop 190 = dktX6_check_8 := dk_seg dksX6_check_7 24 rfl rfl
theorem dX6_check_0 : decode cX6_check 0 = .ok (.aload_n 0, 1) := dk_42 (dk_at dksX6_check_0 0 rfl rfl)
theorem dX6_check_1 : decode cX6_check 1 = .ok (.getfield 306, 3) := dk_180 1 50 (dk_at dksX6_check_0 1 rfl rfl)
theorem dX6_check_4 : decode cX6_check 4 = .ok (.istore_n 3, 1) := dk_62 (dk_at dksX6_check_0 4 rfl rfl)
theorem dX6_check_5 : decode cX6_check 5 = .ok (.aload_n 0, 1) := dk_42 (dk_at dksX6_check_0 5 rfl rfl)
theorem dX6_check_6 : decode cX6_check 6 = .ok (.iconst 0, 1) := dk_3 (dk_at dksX6_check_0 6 rfl rfl)
theorem dX6_check_7 : decode cX6_check 7 = .ok (.putfield 306, 3) := dk_181 1 50 (dk_at dksX6_check_0 7 rfl rfl)
theorem dX6_check_10 : decode cX6_check 10 = .ok (.iload_n 2, 1) := dk_28 (dk_at dksX6_check_0 10 rfl rfl)
theorem dX6_check_11 : decode cX6_check 11 = .ok (.i2l, 1) := dk_133 (dk_at dksX6_check_0 11 rfl rfl)
theorem dX6_check_12 : decode cX6_check 12 = .ok (.lconst 1, 1) := dk_10 (dk_at dksX6_check_0 12 rfl rfl)
theorem dX6_check_13 : decode cX6_check 13 = .ok (.ldc2_w 309, 3) := dk_20 1 53 (dk_at dksX6_check_0 13 rfl rfl)
theorem dX6_check_16 : decode cX6_check 16 = .ok (.invokestatic 65, 3) := dk_184 0 65 (dk_at dksX6_check_0 16 rfl rfl)
theorem dX6_check_19 : decode cX6_check 19 = .ok (.ifCond .ne 6, 3) := dk_154 0 6 (dk_at dksX6_check_0 19 rfl rfl)
theorem dX6_check_22 : decode cX6_check 22 = .ok (.ldc 82, 2) := dk_18 82 (dk_at dksX6_check_0 22 rfl rfl)
theorem dX6_check_24 : decode cX6_check 24 = .ok (.ireturn, 1) := dk_172 (dk_at dksX6_check_1 0 rfl rfl)
theorem dX6_check_25 : decode cX6_check 25 = .ok (.aload_n 0, 1) := dk_42 (dk_at dksX6_check_1 1 rfl rfl)
theorem dX6_check_26 : decode cX6_check 26 = .ok (.getfield 311, 3) := dk_180 1 55 (dk_at dksX6_check_1 2 rfl rfl)
theorem dX6_check_29 : decode cX6_check 29 = .ok (.ifCond .ne 6, 3) := dk_154 0 6 (dk_at dksX6_check_1 5 rfl rfl)
theorem dX6_check_32 : decode cX6_check 32 = .ok (.ldc 160, 2) := dk_18 160 (dk_at dksX6_check_1 8 rfl rfl)
theorem dX6_check_34 : decode cX6_check 34 = .ok (.ireturn, 1) := dk_172 (dk_at dksX6_check_1 10 rfl rfl)
theorem dX6_check_35 : decode cX6_check 35 = .ok (.iload_n 1, 1) := dk_27 (dk_at dksX6_check_1 11 rfl rfl)
theorem dX6_check_36 : decode cX6_check 36 = .ok (.i2l, 1) := dk_133 (dk_at dksX6_check_1 12 rfl rfl)
theorem dX6_check_37 : decode cX6_check 37 = .ok (.lconst 0, 1) := dk_9 (dk_at dksX6_check_1 13 rfl rfl)
theorem dX6_check_38 : decode cX6_check 38 = .ok (.aload_n 0, 1) := dk_42 (dk_at dksX6_check_1 14 rfl rfl)
theorem dX6_check_39 : decode cX6_check 39 = .ok (.getfield 13, 3) := dk_180 0 13 (dk_at dksX6_check_1 15 rfl rfl)
theorem dX6_check_42 : decode cX6_check 42 = .ok (.iconst 1, 1) := dk_4 (dk_at dksX6_check_1 18 rfl rfl)
theorem dX6_check_43 : decode cX6_check 43 = .ok (.iaload, 1) := dk_46 (dk_at dksX6_check_1 19 rfl rfl)
theorem dX6_check_44 : decode cX6_check 44 = .ok (.iconst 1, 1) := dk_4 (dk_at dksX6_check_1 20 rfl rfl)
theorem dX6_check_45 : decode cX6_check 45 = .ok (.isub, 1) := dk_100 (dk_at dksX6_check_1 21 rfl rfl)
theorem dX6_check_46 : decode cX6_check 46 = .ok (.i2l, 1) := dk_133 (dk_at dksX6_check_1 22 rfl rfl)
theorem dX6_check_47 : decode cX6_check 47 = .ok (.invokestatic 65, 3) := dk_184 0 65 (dk_at dksX6_check_2 0 rfl rfl)
theorem dX6_check_50 : decode cX6_check 50 = .ok (.ifCond .ne 6, 3) := dk_154 0 6 (dk_at dksX6_check_2 3 rfl rfl)
theorem dX6_check_53 : decode cX6_check 53 = .ok (.ldc 82, 2) := dk_18 82 (dk_at dksX6_check_2 6 rfl rfl)
theorem dX6_check_55 : decode cX6_check 55 = .ok (.ireturn, 1) := dk_172 (dk_at dksX6_check_2 8 rfl rfl)
theorem dX6_check_56 : decode cX6_check 56 = .ok (.aload_n 0, 1) := dk_42 (dk_at dksX6_check_2 9 rfl rfl)
theorem dX6_check_57 : decode cX6_check 57 = .ok (.aload_n 0, 1) := dk_42 (dk_at dksX6_check_2 10 rfl rfl)
theorem dX6_check_58 : decode cX6_check 58 = .ok (.getfield 7, 3) := dk_180 0 7 (dk_at dksX6_check_2 11 rfl rfl)
theorem dX6_check_61 : decode cX6_check 61 = .ok (.aload_n 0, 1) := dk_42 (dk_at dksX6_check_2 14 rfl rfl)
theorem dX6_check_62 : decode cX6_check 62 = .ok (.getfield 16, 3) := dk_180 0 16 (dk_at dksX6_check_2 15 rfl rfl)
theorem dX6_check_65 : decode cX6_check 65 = .ok (.invokevirtual 315, 3) := dk_182 1 59 (dk_at dksX6_check_2 18 rfl rfl)
theorem dX6_check_68 : decode cX6_check 68 = .ok (.aload_n 0, 1) := dk_42 (dk_at dksX6_check_2 21 rfl rfl)
theorem dX6_check_69 : decode cX6_check 69 = .ok (.aload_n 0, 1) := dk_42 (dk_at dksX6_check_2 22 rfl rfl)
theorem dX6_check_70 : decode cX6_check 70 = .ok (.getfield 13, 3) := dk_180 0 13 (dk_at dksX6_check_3 0 rfl rfl)
theorem dX6_check_73 : decode cX6_check 73 = .ok (.aload_n 0, 1) := dk_42 (dk_at dksX6_check_3 3 rfl rfl)
theorem dX6_check_74 : decode cX6_check 74 = .ok (.getfield 7, 3) := dk_180 0 7 (dk_at dksX6_check_3 4 rfl rfl)
theorem dX6_check_77 : decode cX6_check 77 = .ok (.invokevirtual 315, 3) := dk_182 1 59 (dk_at dksX6_check_3 7 rfl rfl)
theorem dX6_check_80 : decode cX6_check 80 = .ok (.iconst 0, 1) := dk_3 (dk_at dksX6_check_3 10 rfl rfl)
theorem dX6_check_81 : decode cX6_check 81 = .ok (.istore 4, 2) := dk_54 4 (dk_at dksX6_check_3 11 rfl rfl)
theorem dX6_check_83 : decode cX6_check 83 = .ok (.iload 4, 2) := dk_21 4 (dk_at dksX6_check_3 13 rfl rfl)
theorem dX6_check_85 : decode cX6_check 85 = .ok (.iload_n 2, 1) := dk_28 (dk_at dksX6_check_3 15 rfl rfl)
theorem dX6_check_86 : decode cX6_check 86 = .ok (.if_icmp .ge 50, 3) := dk_162 0 50 (dk_at dksX6_check_3 16 rfl rfl)
theorem dX6_check_89 : decode cX6_check 89 = .ok (.aload_n 0, 1) := dk_42 (dk_at dksX6_check_3 19 rfl rfl)
theorem dX6_check_90 : decode cX6_check 90 = .ok (.iload_n 1, 1) := dk_27 (dk_at dksX6_check_3 20 rfl rfl)
theorem dX6_check_91 : decode cX6_check 91 = .ok (.invokevirtual 182, 3) := dk_182 0 182 (dk_at dksX6_check_3 21 rfl rfl)
theorem dX6_check_94 : decode cX6_check 94 = .ok (.istore 5, 2) := dk_54 5 (dk_at dksX6_check_4 0 rfl rfl)
theorem dX6_check_96 : decode cX6_check 96 = .ok (.aload_n 0, 1) := dk_42 (dk_at dksX6_check_4 2 rfl rfl)
theorem dX6_check_97 : decode cX6_check 97 = .ok (.getfield 61, 3) := dk_180 0 61 (dk_at dksX6_check_4 3 rfl rfl)
theorem dX6_check_100 : decode cX6_check 100 = .ok (.iconst 2, 1) := dk_5 (dk_at dksX6_check_4 6 rfl rfl)
theorem dX6_check_101 : decode cX6_check 101 = .ok (.iload 4, 2) := dk_21 4 (dk_at dksX6_check_4 7 rfl rfl)
theorem dX6_check_103 : decode cX6_check 103 = .ok (.imul, 1) := dk_104 (dk_at dksX6_check_4 9 rfl rfl)
theorem dX6_check_104 : decode cX6_check 104 = .ok (.aload_n 0, 1) := dk_42 (dk_at dksX6_check_4 10 rfl rfl)
theorem dX6_check_105 : decode cX6_check 105 = .ok (.iload_n 1, 1) := dk_27 (dk_at dksX6_check_4 11 rfl rfl)
theorem dX6_check_106 : decode cX6_check 106 = .ok (.invokevirtual 136, 3) := dk_182 0 136 (dk_at dksX6_check_4 12 rfl rfl)
theorem dX6_check_109 : decode cX6_check 109 = .ok (.invokestatic 128, 3) := dk_184 0 128 (dk_at dksX6_check_4 15 rfl rfl)
theorem dX6_check_112 : decode cX6_check 112 = .ok (.iastore, 1) := dk_79 (dk_at dksX6_check_4 18 rfl rfl)
theorem dX6_check_113 : decode cX6_check 113 = .ok (.aload_n 0, 1) := dk_42 (dk_at dksX6_check_4 19 rfl rfl)
theorem dX6_check_114 : decode cX6_check 114 = .ok (.getfield 61, 3) := dk_180 0 61 (dk_at dksX6_check_4 20 rfl rfl)
theorem dX6_check_117 : decode cX6_check 117 = .ok (.iconst 2, 1) := dk_5 (dk_at dksX6_check_4 23 rfl rfl)
theorem dX6_check_118 : decode cX6_check 118 = .ok (.iload 4, 2) := dk_21 4 (dk_at dksX6_check_5 0 rfl rfl)
theorem dX6_check_120 : decode cX6_check 120 = .ok (.imul, 1) := dk_104 (dk_at dksX6_check_5 2 rfl rfl)
theorem dX6_check_121 : decode cX6_check 121 = .ok (.iconst 1, 1) := dk_4 (dk_at dksX6_check_5 3 rfl rfl)
theorem dX6_check_122 : decode cX6_check 122 = .ok (.iadd, 1) := dk_96 (dk_at dksX6_check_5 4 rfl rfl)
theorem dX6_check_123 : decode cX6_check 123 = .ok (.aload_n 0, 1) := dk_42 (dk_at dksX6_check_5 5 rfl rfl)
theorem dX6_check_124 : decode cX6_check 124 = .ok (.iload_n 1, 1) := dk_27 (dk_at dksX6_check_5 6 rfl rfl)
theorem dX6_check_125 : decode cX6_check 125 = .ok (.iconst 5, 1) := dk_8 (dk_at dksX6_check_5 7 rfl rfl)
theorem dX6_check_126 : decode cX6_check 126 = .ok (.invokevirtual 73, 3) := dk_182 0 73 (dk_at dksX6_check_5 8 rfl rfl)
theorem dX6_check_129 : decode cX6_check 129 = .ok (.iastore, 1) := dk_79 (dk_at dksX6_check_5 11 rfl rfl)
theorem dX6_check_130 : decode cX6_check 130 = .ok (.iinc 4 1, 3) := dk_132 4 1 (dk_at dksX6_check_5 12 rfl rfl)
theorem dX6_check_133 : decode cX6_check 133 = .ok (.goto (-50), 3) := dk_167 255 206 (dk_at dksX6_check_5 15 rfl rfl)
theorem dX6_check_136 : decode cX6_check 136 = .ok (.aload_n 0, 1) := dk_42 (dk_at dksX6_check_5 18 rfl rfl)
theorem dX6_check_137 : decode cX6_check 137 = .ok (.aload_n 0, 1) := dk_42 (dk_at dksX6_check_5 19 rfl rfl)
theorem dX6_check_138 : decode cX6_check 138 = .ok (.getfield 16, 3) := dk_180 0 16 (dk_at dksX6_check_5 20 rfl rfl)
theorem dX6_check_141 : decode cX6_check 141 = .ok (.aload_n 0, 1) := dk_42 (dk_at dksX6_check_5 23 rfl rfl)
theorem dX6_check_142 : decode cX6_check 142 = .ok (.getfield 7, 3) := dk_180 0 7 (dk_at dksX6_check_6 0 rfl rfl)
theorem dX6_check_145 : decode cX6_check 145 = .ok (.invokevirtual 315, 3) := dk_182 1 59 (dk_at dksX6_check_6 3 rfl rfl)
theorem dX6_check_148 : decode cX6_check 148 = .ok (.iconst 0, 1) := dk_3 (dk_at dksX6_check_6 6 rfl rfl)
theorem dX6_check_149 : decode cX6_check 149 = .ok (.istore 4, 2) := dk_54 4 (dk_at dksX6_check_6 7 rfl rfl)
theorem dX6_check_151 : decode cX6_check 151 = .ok (.iload 4, 2) := dk_21 4 (dk_at dksX6_check_6 9 rfl rfl)
theorem dX6_check_153 : decode cX6_check 153 = .ok (.iload_n 3, 1) := dk_29 (dk_at dksX6_check_6 11 rfl rfl)
theorem dX6_check_154 : decode cX6_check 154 = .ok (.if_icmp .ge 34, 3) := dk_162 0 34 (dk_at dksX6_check_6 12 rfl rfl)
theorem dX6_check_157 : decode cX6_check 157 = .ok (.iload 4, 2) := dk_21 4 (dk_at dksX6_check_6 15 rfl rfl)
theorem dX6_check_159 : decode cX6_check 159 = .ok (.iconst 2, 1) := dk_5 (dk_at dksX6_check_6 17 rfl rfl)
theorem dX6_check_160 : decode cX6_check 160 = .ok (.iload_n 2, 1) := dk_28 (dk_at dksX6_check_6 18 rfl rfl)
theorem dX6_check_161 : decode cX6_check 161 = .ok (.imul, 1) := dk_104 (dk_at dksX6_check_6 19 rfl rfl)
theorem dX6_check_162 : decode cX6_check 162 = .ok (.if_icmp .ge 26, 3) := dk_162 0 26 (dk_at dksX6_check_6 20 rfl rfl)
theorem dX6_check_165 : decode cX6_check 165 = .ok (.aload_n 0, 1) := dk_42 (dk_at dksX6_check_6 23 rfl rfl)
theorem dX6_check_166 : decode cX6_check 166 = .ok (.getfield 58, 3) := dk_180 0 58 (dk_at dksX6_check_7 0 rfl rfl)
theorem dX6_check_169 : decode cX6_check 169 = .ok (.iload 4, 2) := dk_21 4 (dk_at dksX6_check_7 3 rfl rfl)
theorem dX6_check_171 : decode cX6_check 171 = .ok (.iaload, 1) := dk_46 (dk_at dksX6_check_7 5 rfl rfl)
theorem dX6_check_172 : decode cX6_check 172 = .ok (.aload_n 0, 1) := dk_42 (dk_at dksX6_check_7 6 rfl rfl)
theorem dX6_check_173 : decode cX6_check 173 = .ok (.getfield 61, 3) := dk_180 0 61 (dk_at dksX6_check_7 7 rfl rfl)
theorem dX6_check_176 : decode cX6_check 176 = .ok (.iload 4, 2) := dk_21 4 (dk_at dksX6_check_7 10 rfl rfl)
theorem dX6_check_178 : decode cX6_check 178 = .ok (.iaload, 1) := dk_46 (dk_at dksX6_check_7 12 rfl rfl)
theorem dX6_check_179 : decode cX6_check 179 = .ok (.if_icmp .ne 9, 3) := dk_160 0 9 (dk_at dksX6_check_7 13 rfl rfl)
theorem dX6_check_182 : decode cX6_check 182 = .ok (.iinc 4 1, 3) := dk_132 4 1 (dk_at dksX6_check_7 16 rfl rfl)
theorem dX6_check_185 : decode cX6_check 185 = .ok (.goto (-34), 3) := dk_167 255 222 (dk_at dksX6_check_7 19 rfl rfl)
theorem dX6_check_188 : decode cX6_check 188 = .ok (.iload 4, 2) := dk_21 4 (dk_at dksX6_check_7 22 rfl rfl)
theorem dX6_check_190 : decode cX6_check 190 = .ok (.iload_n 3, 1) := dk_29 (dk_at dksX6_check_8 0 rfl rfl)
theorem dX6_check_191 : decode cX6_check 191 = .ok (.if_icmp .ne 15, 3) := dk_160 0 15 (dk_at dksX6_check_8 1 rfl rfl)
theorem dX6_check_194 : decode cX6_check 194 = .ok (.iload 4, 2) := dk_21 4 (dk_at dksX6_check_8 4 rfl rfl)
theorem dX6_check_196 : decode cX6_check 196 = .ok (.iconst 2, 1) := dk_5 (dk_at dksX6_check_8 6 rfl rfl)
theorem dX6_check_197 : decode cX6_check 197 = .ok (.iload_n 2, 1) := dk_28 (dk_at dksX6_check_8 7 rfl rfl)
theorem dX6_check_198 : decode cX6_check 198 = .ok (.imul, 1) := dk_104 (dk_at dksX6_check_8 8 rfl rfl)
theorem dX6_check_199 : decode cX6_check 199 = .ok (.if_icmp .ne 7, 3) := dk_160 0 7 (dk_at dksX6_check_8 9 rfl rfl)
theorem dX6_check_202 : decode cX6_check 202 = .ok (.iconst 0, 1) := dk_3 (dk_at dksX6_check_8 12 rfl rfl)
theorem dX6_check_203 : decode cX6_check 203 = .ok (.goto 7, 3) := dk_167 0 7 (dk_at dksX6_check_8 13 rfl rfl)
theorem dX6_check_206 : decode cX6_check 206 = .ok (.iconst 1, 1) := dk_4 (dk_at dksX6_check_8 16 rfl rfl)
theorem dX6_check_207 : decode cX6_check 207 = .ok (.iload 4, 2) := dk_21 4 (dk_at dksX6_check_8 17 rfl rfl)
theorem dX6_check_209 : decode cX6_check 209 = .ok (.iadd, 1) := dk_96 (dk_at dksX6_check_8 19 rfl rfl)
theorem dX6_check_210 : decode cX6_check 210 = .ok (.ireturn, 1) := dk_172 (dk_at dksX6_check_8 20 rfl rfl)
abbrev cX6_setAside : ByteArray := prog_19_method_91_code
def yX6_setAside : MethodName := ⟨RX6, "setAside", "([I[I)V"⟩
def dkwX6_setAside_0 : List UInt8 := [3, 62, 29, 17, 11, 98, 162, 0, 15, 44, 29, 43, 29, 46, 79, 132, 3, 1, 167, 255, 240, 177]
abbrev dktX6_setAside_0 : List UInt8 := dkwX6_setAside_0 ++ []
theorem dksX6_setAside_0 : cX6_setAside.data.toList.drop 0 = dktX6_setAside_0 := by decide +kernel
theorem dX6_setAside_0 : decode cX6_setAside 0 = .ok (.iconst 0, 1) := dk_3 (dk_at dksX6_setAside_0 0 rfl rfl)
theorem dX6_setAside_1 : decode cX6_setAside 1 = .ok (.istore_n 3, 1) := dk_62 (dk_at dksX6_setAside_0 1 rfl rfl)
theorem dX6_setAside_2 : decode cX6_setAside 2 = .ok (.iload_n 3, 1) := dk_29 (dk_at dksX6_setAside_0 2 rfl rfl)
theorem dX6_setAside_3 : decode cX6_setAside 3 = .ok (.sipush 2914, 3) := dk_17 11 98 (dk_at dksX6_setAside_0 3 rfl rfl)
theorem dX6_setAside_6 : decode cX6_setAside 6 = .ok (.if_icmp .ge 15, 3) := dk_162 0 15 (dk_at dksX6_setAside_0 6 rfl rfl)
theorem dX6_setAside_9 : decode cX6_setAside 9 = .ok (.aload_n 2, 1) := dk_44 (dk_at dksX6_setAside_0 9 rfl rfl)
theorem dX6_setAside_10 : decode cX6_setAside 10 = .ok (.iload_n 3, 1) := dk_29 (dk_at dksX6_setAside_0 10 rfl rfl)
theorem dX6_setAside_11 : decode cX6_setAside 11 = .ok (.aload_n 1, 1) := dk_43 (dk_at dksX6_setAside_0 11 rfl rfl)
theorem dX6_setAside_12 : decode cX6_setAside 12 = .ok (.iload_n 3, 1) := dk_29 (dk_at dksX6_setAside_0 12 rfl rfl)
theorem dX6_setAside_13 : decode cX6_setAside 13 = .ok (.iaload, 1) := dk_46 (dk_at dksX6_setAside_0 13 rfl rfl)
theorem dX6_setAside_14 : decode cX6_setAside 14 = .ok (.iastore, 1) := dk_79 (dk_at dksX6_setAside_0 14 rfl rfl)
theorem dX6_setAside_15 : decode cX6_setAside 15 = .ok (.iinc 3 1, 3) := dk_132 3 1 (dk_at dksX6_setAside_0 15 rfl rfl)
theorem dX6_setAside_18 : decode cX6_setAside 18 = .ok (.goto (-16), 3) := dk_167 255 240 (dk_at dksX6_setAside_0 18 rfl rfl)
theorem dX6_setAside_21 : decode cX6_setAside 21 = .ok (.return_, 1) := dk_177 (dk_at dksX6_setAside_0 21 rfl rfl)
abbrev cX6_keep : ByteArray := prog_19_method_93_code
def yX6_keep : MethodName := ⟨RX6, "keep", "()I"⟩
def dkwX6_keep_0 : List UInt8 := [42, 4, 181, 1, 55, 42, 42, 180, 0, 7, 42, 180, 0, 13, 182, 1, 59, 42, 180, 0, 7, 3, 46, 172]
abbrev dktX6_keep_0 : List UInt8 := dkwX6_keep_0 ++ []
theorem dksX6_keep_0 : cX6_keep.data.toList.drop 0 = dktX6_keep_0 := by decide +kernel
theorem dX6_keep_0 : decode cX6_keep 0 = .ok (.aload_n 0, 1) := dk_42 (dk_at dksX6_keep_0 0 rfl rfl)
theorem dX6_keep_1 : decode cX6_keep 1 = .ok (.iconst 1, 1) := dk_4 (dk_at dksX6_keep_0 1 rfl rfl)
theorem dX6_keep_2 : decode cX6_keep 2 = .ok (.putfield 311, 3) := dk_181 1 55 (dk_at dksX6_keep_0 2 rfl rfl)
theorem dX6_keep_5 : decode cX6_keep 5 = .ok (.aload_n 0, 1) := dk_42 (dk_at dksX6_keep_0 5 rfl rfl)
theorem dX6_keep_6 : decode cX6_keep 6 = .ok (.aload_n 0, 1) := dk_42 (dk_at dksX6_keep_0 6 rfl rfl)
theorem dX6_keep_7 : decode cX6_keep 7 = .ok (.getfield 7, 3) := dk_180 0 7 (dk_at dksX6_keep_0 7 rfl rfl)
theorem dX6_keep_10 : decode cX6_keep 10 = .ok (.aload_n 0, 1) := dk_42 (dk_at dksX6_keep_0 10 rfl rfl)
theorem dX6_keep_11 : decode cX6_keep 11 = .ok (.getfield 13, 3) := dk_180 0 13 (dk_at dksX6_keep_0 11 rfl rfl)
theorem dX6_keep_14 : decode cX6_keep 14 = .ok (.invokevirtual 315, 3) := dk_182 1 59 (dk_at dksX6_keep_0 14 rfl rfl)
theorem dX6_keep_17 : decode cX6_keep 17 = .ok (.aload_n 0, 1) := dk_42 (dk_at dksX6_keep_0 17 rfl rfl)
theorem dX6_keep_18 : decode cX6_keep 18 = .ok (.getfield 7, 3) := dk_180 0 7 (dk_at dksX6_keep_0 18 rfl rfl)
theorem dX6_keep_21 : decode cX6_keep 21 = .ok (.iconst 0, 1) := dk_3 (dk_at dksX6_keep_0 21 rfl rfl)
theorem dX6_keep_22 : decode cX6_keep 22 = .ok (.iaload, 1) := dk_46 (dk_at dksX6_keep_0 22 rfl rfl)
theorem dX6_keep_23 : decode cX6_keep 23 = .ok (.ireturn, 1) := dk_172 (dk_at dksX6_keep_0 23 rfl rfl)
abbrev cX6_back : ByteArray := prog_19_method_94_code
def yX6_back : MethodName := ⟨RX6, "back", "()I"⟩
def dkwX6_back_1 : List UInt8 := [180, 0, 7, 3, 46, 172]
abbrev dktX6_back_1 : List UInt8 := dkwX6_back_1 ++ []
def dkwX6_back_0 : List UInt8 := [42, 180, 1, 55, 154, 0, 6, 18, 160, 172, 42, 42, 180, 0, 13, 42, 180, 0, 7, 182, 1, 59, 42]
abbrev dktX6_back_0 : List UInt8 := dkwX6_back_0 ++ dktX6_back_1
theorem dksX6_back_0 : cX6_back.data.toList.drop 0 = dktX6_back_0 := by decide +kernel
theorem dksX6_back_1 : cX6_back.data.toList.drop 23 = dktX6_back_1 := dk_seg dksX6_back_0 23 rfl rfl
theorem dX6_back_0 : decode cX6_back 0 = .ok (.aload_n 0, 1) := dk_42 (dk_at dksX6_back_0 0 rfl rfl)
theorem dX6_back_1 : decode cX6_back 1 = .ok (.getfield 311, 3) := dk_180 1 55 (dk_at dksX6_back_0 1 rfl rfl)
theorem dX6_back_4 : decode cX6_back 4 = .ok (.ifCond .ne 6, 3) := dk_154 0 6 (dk_at dksX6_back_0 4 rfl rfl)
theorem dX6_back_7 : decode cX6_back 7 = .ok (.ldc 160, 2) := dk_18 160 (dk_at dksX6_back_0 7 rfl rfl)
theorem dX6_back_9 : decode cX6_back 9 = .ok (.ireturn, 1) := dk_172 (dk_at dksX6_back_0 9 rfl rfl)
theorem dX6_back_10 : decode cX6_back 10 = .ok (.aload_n 0, 1) := dk_42 (dk_at dksX6_back_0 10 rfl rfl)
theorem dX6_back_11 : decode cX6_back 11 = .ok (.aload_n 0, 1) := dk_42 (dk_at dksX6_back_0 11 rfl rfl)
theorem dX6_back_12 : decode cX6_back 12 = .ok (.getfield 13, 3) := dk_180 0 13 (dk_at dksX6_back_0 12 rfl rfl)
theorem dX6_back_15 : decode cX6_back 15 = .ok (.aload_n 0, 1) := dk_42 (dk_at dksX6_back_0 15 rfl rfl)
theorem dX6_back_16 : decode cX6_back 16 = .ok (.getfield 7, 3) := dk_180 0 7 (dk_at dksX6_back_0 16 rfl rfl)
theorem dX6_back_19 : decode cX6_back 19 = .ok (.invokevirtual 315, 3) := dk_182 1 59 (dk_at dksX6_back_0 19 rfl rfl)
theorem dX6_back_22 : decode cX6_back 22 = .ok (.aload_n 0, 1) := dk_42 (dk_at dksX6_back_0 22 rfl rfl)
theorem dX6_back_23 : decode cX6_back 23 = .ok (.getfield 7, 3) := dk_180 0 7 (dk_at dksX6_back_1 0 rfl rfl)
theorem dX6_back_26 : decode cX6_back 26 = .ok (.iconst 0, 1) := dk_3 (dk_at dksX6_back_1 3 rfl rfl)
theorem dX6_back_27 : decode cX6_back 27 = .ok (.iaload, 1) := dk_46 (dk_at dksX6_back_1 4 rfl rfl)
theorem dX6_back_28 : decode cX6_back 28 = .ok (.ireturn, 1) := dk_172 (dk_at dksX6_back_1 5 rfl rfl)
abbrev cX6_count : ByteArray := prog_19_method_96_code
def yX6_count : MethodName := ⟨RX6, "count", "(I)I"⟩
def dkwX6_count_4 : List UInt8 := [180, 0, 190, 172, 42, 180, 0, 7, 7, 46, 172, 18, 82, 172]
abbrev dktX6_count_4 : List UInt8 := dkwX6_count_4 ++ []
def dkwX6_count_3 : List UInt8 := [182, 1, 63, 172, 42, 8, 182, 1, 63, 172, 42, 180, 0, 7, 5, 46, 172, 42, 180, 1, 50, 172, 42]
abbrev dktX6_count_3 : List UInt8 := dkwX6_count_3 ++ dktX6_count_4
def dkwX6_count_2 : List UInt8 := [42, 180, 0, 7, 3, 46, 172, 42, 180, 0, 7, 4, 46, 172, 42, 180, 0, 7, 6, 46, 172, 42, 7]
abbrev dktX6_count_2 : List UInt8 := dkwX6_count_2 ++ dktX6_count_3
def dkwX6_count_1 : List UInt8 := [170, 0, 0, 0, 0, 0, 108, 0, 0, 0, 0, 0, 0, 0, 8, 0, 0, 0, 51, 0, 0, 0, 58, 0, 0, 0, 65, 0, 0, 0, 72, 0, 0, 0, 78, 0, 0, 0, 84, 0, 0, 0, 91, 0, 0, 0, 96, 0, 0, 0, 101]
abbrev dktX6_count_1 : List UInt8 := dkwX6_count_1 ++ dktX6_count_2
def dkwX6_count_0 : List UInt8 := [27]
abbrev dktX6_count_0 : List UInt8 := dkwX6_count_0 ++ dktX6_count_1
theorem dksX6_count_0 : cX6_count.data.toList.drop 0 = dktX6_count_0 := by decide +kernel
theorem dksX6_count_1 : cX6_count.data.toList.drop 1 = dktX6_count_1 := dk_seg dksX6_count_0 1 rfl rfl
theorem dksX6_count_2 : cX6_count.data.toList.drop 52 = dktX6_count_2 := dk_seg dksX6_count_1 51 rfl rfl
theorem dksX6_count_3 : cX6_count.data.toList.drop 75 = dktX6_count_3 := dk_seg dksX6_count_2 23 rfl rfl
theorem dksX6_count_4 : cX6_count.data.toList.drop 98 = dktX6_count_4 := dk_seg dksX6_count_3 23 rfl rfl
theorem dX6_count_0 : decode cX6_count 0 = .ok (.iload_n 1, 1) := dk_27 (dk_at dksX6_count_0 0 rfl rfl)
theorem dX6_count_1 : decode cX6_count 1 = .ok (.tableswitch 108 0 8 #[51, 58, 65, 72, 78, 84, 91, 96, 101], 51) := by decide +kernel
theorem dX6_count_52 : decode cX6_count 52 = .ok (.aload_n 0, 1) := dk_42 (dk_at dksX6_count_2 0 rfl rfl)
theorem dX6_count_53 : decode cX6_count 53 = .ok (.getfield 7, 3) := dk_180 0 7 (dk_at dksX6_count_2 1 rfl rfl)
theorem dX6_count_56 : decode cX6_count 56 = .ok (.iconst 0, 1) := dk_3 (dk_at dksX6_count_2 4 rfl rfl)
theorem dX6_count_57 : decode cX6_count 57 = .ok (.iaload, 1) := dk_46 (dk_at dksX6_count_2 5 rfl rfl)
theorem dX6_count_58 : decode cX6_count 58 = .ok (.ireturn, 1) := dk_172 (dk_at dksX6_count_2 6 rfl rfl)
theorem dX6_count_59 : decode cX6_count 59 = .ok (.aload_n 0, 1) := dk_42 (dk_at dksX6_count_2 7 rfl rfl)
theorem dX6_count_60 : decode cX6_count 60 = .ok (.getfield 7, 3) := dk_180 0 7 (dk_at dksX6_count_2 8 rfl rfl)
theorem dX6_count_63 : decode cX6_count 63 = .ok (.iconst 1, 1) := dk_4 (dk_at dksX6_count_2 11 rfl rfl)
theorem dX6_count_64 : decode cX6_count 64 = .ok (.iaload, 1) := dk_46 (dk_at dksX6_count_2 12 rfl rfl)
theorem dX6_count_65 : decode cX6_count 65 = .ok (.ireturn, 1) := dk_172 (dk_at dksX6_count_2 13 rfl rfl)
theorem dX6_count_66 : decode cX6_count 66 = .ok (.aload_n 0, 1) := dk_42 (dk_at dksX6_count_2 14 rfl rfl)
theorem dX6_count_67 : decode cX6_count 67 = .ok (.getfield 7, 3) := dk_180 0 7 (dk_at dksX6_count_2 15 rfl rfl)
theorem dX6_count_70 : decode cX6_count 70 = .ok (.iconst 3, 1) := dk_6 (dk_at dksX6_count_2 18 rfl rfl)
theorem dX6_count_71 : decode cX6_count 71 = .ok (.iaload, 1) := dk_46 (dk_at dksX6_count_2 19 rfl rfl)
theorem dX6_count_72 : decode cX6_count 72 = .ok (.ireturn, 1) := dk_172 (dk_at dksX6_count_2 20 rfl rfl)
theorem dX6_count_73 : decode cX6_count 73 = .ok (.aload_n 0, 1) := dk_42 (dk_at dksX6_count_2 21 rfl rfl)
theorem dX6_count_74 : decode cX6_count 74 = .ok (.iconst 4, 1) := dk_7 (dk_at dksX6_count_2 22 rfl rfl)
theorem dX6_count_75 : decode cX6_count 75 = .ok (.invokevirtual 319, 3) := dk_182 1 63 (dk_at dksX6_count_3 0 rfl rfl)
theorem dX6_count_78 : decode cX6_count 78 = .ok (.ireturn, 1) := dk_172 (dk_at dksX6_count_3 3 rfl rfl)
theorem dX6_count_79 : decode cX6_count 79 = .ok (.aload_n 0, 1) := dk_42 (dk_at dksX6_count_3 4 rfl rfl)
theorem dX6_count_80 : decode cX6_count 80 = .ok (.iconst 5, 1) := dk_8 (dk_at dksX6_count_3 5 rfl rfl)
theorem dX6_count_81 : decode cX6_count 81 = .ok (.invokevirtual 319, 3) := dk_182 1 63 (dk_at dksX6_count_3 6 rfl rfl)
theorem dX6_count_84 : decode cX6_count 84 = .ok (.ireturn, 1) := dk_172 (dk_at dksX6_count_3 9 rfl rfl)
theorem dX6_count_85 : decode cX6_count 85 = .ok (.aload_n 0, 1) := dk_42 (dk_at dksX6_count_3 10 rfl rfl)
theorem dX6_count_86 : decode cX6_count 86 = .ok (.getfield 7, 3) := dk_180 0 7 (dk_at dksX6_count_3 11 rfl rfl)
theorem dX6_count_89 : decode cX6_count 89 = .ok (.iconst 2, 1) := dk_5 (dk_at dksX6_count_3 14 rfl rfl)
theorem dX6_count_90 : decode cX6_count 90 = .ok (.iaload, 1) := dk_46 (dk_at dksX6_count_3 15 rfl rfl)
theorem dX6_count_91 : decode cX6_count 91 = .ok (.ireturn, 1) := dk_172 (dk_at dksX6_count_3 16 rfl rfl)
theorem dX6_count_92 : decode cX6_count 92 = .ok (.aload_n 0, 1) := dk_42 (dk_at dksX6_count_3 17 rfl rfl)
theorem dX6_count_93 : decode cX6_count 93 = .ok (.getfield 306, 3) := dk_180 1 50 (dk_at dksX6_count_3 18 rfl rfl)
theorem dX6_count_96 : decode cX6_count 96 = .ok (.ireturn, 1) := dk_172 (dk_at dksX6_count_3 21 rfl rfl)
theorem dX6_count_97 : decode cX6_count 97 = .ok (.aload_n 0, 1) := dk_42 (dk_at dksX6_count_3 22 rfl rfl)
theorem dX6_count_98 : decode cX6_count 98 = .ok (.getfield 190, 3) := dk_180 0 190 (dk_at dksX6_count_4 0 rfl rfl)
theorem dX6_count_101 : decode cX6_count 101 = .ok (.ireturn, 1) := dk_172 (dk_at dksX6_count_4 3 rfl rfl)
theorem dX6_count_102 : decode cX6_count 102 = .ok (.aload_n 0, 1) := dk_42 (dk_at dksX6_count_4 4 rfl rfl)
theorem dX6_count_103 : decode cX6_count 103 = .ok (.getfield 7, 3) := dk_180 0 7 (dk_at dksX6_count_4 5 rfl rfl)
theorem dX6_count_106 : decode cX6_count 106 = .ok (.iconst 4, 1) := dk_7 (dk_at dksX6_count_4 8 rfl rfl)
theorem dX6_count_107 : decode cX6_count 107 = .ok (.iaload, 1) := dk_46 (dk_at dksX6_count_4 9 rfl rfl)
theorem dX6_count_108 : decode cX6_count 108 = .ok (.ireturn, 1) := dk_172 (dk_at dksX6_count_4 10 rfl rfl)
theorem dX6_count_109 : decode cX6_count 109 = .ok (.ldc 82, 2) := dk_18 82 (dk_at dksX6_count_4 11 rfl rfl)
theorem dX6_count_111 : decode cX6_count 111 = .ok (.ireturn, 1) := dk_172 (dk_at dksX6_count_4 13 rfl rfl)
abbrev cX6_ofAll : ByteArray := prog_19_method_95_code
def yX6_ofAll : MethodName := ⟨RX6, "ofAll", "(I)I"⟩
def dkwX6_ofAll_1 : List UInt8 := [132, 3, 1, 167, 255, 234, 28, 172]
abbrev dktX6_ofAll_1 : List UInt8 := dkwX6_ofAll_1 ++ []
def dkwX6_ofAll_0 : List UInt8 := [3, 61, 3, 62, 29, 42, 180, 0, 7, 4, 46, 162, 0, 18, 28, 42, 29, 27, 182, 0, 73, 96, 61]
abbrev dktX6_ofAll_0 : List UInt8 := dkwX6_ofAll_0 ++ dktX6_ofAll_1
theorem dksX6_ofAll_0 : cX6_ofAll.data.toList.drop 0 = dktX6_ofAll_0 := by decide +kernel
theorem dksX6_ofAll_1 : cX6_ofAll.data.toList.drop 23 = dktX6_ofAll_1 := dk_seg dksX6_ofAll_0 23 rfl rfl
theorem dX6_ofAll_0 : decode cX6_ofAll 0 = .ok (.iconst 0, 1) := dk_3 (dk_at dksX6_ofAll_0 0 rfl rfl)
theorem dX6_ofAll_1 : decode cX6_ofAll 1 = .ok (.istore_n 2, 1) := dk_61 (dk_at dksX6_ofAll_0 1 rfl rfl)
theorem dX6_ofAll_2 : decode cX6_ofAll 2 = .ok (.iconst 0, 1) := dk_3 (dk_at dksX6_ofAll_0 2 rfl rfl)
theorem dX6_ofAll_3 : decode cX6_ofAll 3 = .ok (.istore_n 3, 1) := dk_62 (dk_at dksX6_ofAll_0 3 rfl rfl)
theorem dX6_ofAll_4 : decode cX6_ofAll 4 = .ok (.iload_n 3, 1) := dk_29 (dk_at dksX6_ofAll_0 4 rfl rfl)
theorem dX6_ofAll_5 : decode cX6_ofAll 5 = .ok (.aload_n 0, 1) := dk_42 (dk_at dksX6_ofAll_0 5 rfl rfl)
theorem dX6_ofAll_6 : decode cX6_ofAll 6 = .ok (.getfield 7, 3) := dk_180 0 7 (dk_at dksX6_ofAll_0 6 rfl rfl)
theorem dX6_ofAll_9 : decode cX6_ofAll 9 = .ok (.iconst 1, 1) := dk_4 (dk_at dksX6_ofAll_0 9 rfl rfl)
theorem dX6_ofAll_10 : decode cX6_ofAll 10 = .ok (.iaload, 1) := dk_46 (dk_at dksX6_ofAll_0 10 rfl rfl)
theorem dX6_ofAll_11 : decode cX6_ofAll 11 = .ok (.if_icmp .ge 18, 3) := dk_162 0 18 (dk_at dksX6_ofAll_0 11 rfl rfl)
theorem dX6_ofAll_14 : decode cX6_ofAll 14 = .ok (.iload_n 2, 1) := dk_28 (dk_at dksX6_ofAll_0 14 rfl rfl)
theorem dX6_ofAll_15 : decode cX6_ofAll 15 = .ok (.aload_n 0, 1) := dk_42 (dk_at dksX6_ofAll_0 15 rfl rfl)
theorem dX6_ofAll_16 : decode cX6_ofAll 16 = .ok (.iload_n 3, 1) := dk_29 (dk_at dksX6_ofAll_0 16 rfl rfl)
theorem dX6_ofAll_17 : decode cX6_ofAll 17 = .ok (.iload_n 1, 1) := dk_27 (dk_at dksX6_ofAll_0 17 rfl rfl)
theorem dX6_ofAll_18 : decode cX6_ofAll 18 = .ok (.invokevirtual 73, 3) := dk_182 0 73 (dk_at dksX6_ofAll_0 18 rfl rfl)
theorem dX6_ofAll_21 : decode cX6_ofAll 21 = .ok (.iadd, 1) := dk_96 (dk_at dksX6_ofAll_0 21 rfl rfl)
theorem dX6_ofAll_22 : decode cX6_ofAll 22 = .ok (.istore_n 2, 1) := dk_61 (dk_at dksX6_ofAll_0 22 rfl rfl)
theorem dX6_ofAll_23 : decode cX6_ofAll 23 = .ok (.iinc 3 1, 3) := dk_132 3 1 (dk_at dksX6_ofAll_1 0 rfl rfl)
theorem dX6_ofAll_26 : decode cX6_ofAll 26 = .ok (.goto (-22), 3) := dk_167 255 234 (dk_at dksX6_ofAll_1 3 rfl rfl)
theorem dX6_ofAll_29 : decode cX6_ofAll 29 = .ok (.iload_n 2, 1) := dk_28 (dk_at dksX6_ofAll_1 6 rfl rfl)
theorem dX6_ofAll_30 : decode cX6_ofAll 30 = .ok (.ireturn, 1) := dk_172 (dk_at dksX6_ofAll_1 7 rfl rfl)
theorem q92 : (Jvm.Cond.initialized "NeverSaidModel") ∈ lw_all := lw_g (lw_at lw_m1 10 rfl) rfl
theorem q1218 : (Jvm.Cond.instantiable "NeverSaidModel" (31 : Nat)) ∈ lw_all := lw_g (lw_at lw_m5 176 rfl) rfl
theorem q1220 : (Jvm.Cond.instanceMethod ({ cls := "NeverSaidModel", name := "<init>", desc := "()V" } : Jvm.MethodName)) ∈ lw_all := lw_g (lw_at lw_m5 178 rfl) rfl
theorem q1221 : (Jvm.Cond.code ({ cls := "NeverSaidModel", name := "<init>", desc := "()V" } : Jvm.MethodName) prog_19_method_1_code (2 : Nat) (Option.none : Option Jvm.ClassFile.FieldType)) ∈ lw_all := lw_g (lw_at lw_m5 179 rfl) rfl
theorem q1222 : (Jvm.Cond.methodLink "NeverSaidModel" (1 : Nat) ({ cls := "java/lang/Object", name := "<init>", desc := "()V" } : Jvm.MethodName)) ∈ lw_all := lw_g (lw_at lw_m5 180 rfl) rfl
theorem q1223 : (Jvm.Cond.fieldLink "NeverSaidModel" (7 : Nat) "NeverSaidModel" "s" "[I") ∈ lw_all := lw_g (lw_at lw_m5 181 rfl) rfl
theorem q1224 : (Jvm.Cond.fieldLink "NeverSaidModel" (13 : Nat) "NeverSaidModel" "image" "[I") ∈ lw_all := lw_g (lw_at lw_m5 182 rfl) rfl
theorem q1225 : (Jvm.Cond.fieldLink "NeverSaidModel" (16 : Nat) "NeverSaidModel" "aside" "[I") ∈ lw_all := lw_g (lw_at lw_m5 183 rfl) rfl
theorem q1226 : (Jvm.Cond.fieldLink "NeverSaidModel" (311 : Nat) "NeverSaidModel" "hasImage" "Z") ∈ lw_all := lw_g (lw_at lw_m5 184 rfl) rfl
theorem q1227 : (Jvm.Cond.fieldLink "NeverSaidModel" (19 : Nat) "NeverSaidModel" "tSort" "[I") ∈ lw_all := lw_g (lw_at lw_m5 185 rfl) rfl
theorem q1228 : (Jvm.Cond.fieldLink "NeverSaidModel" (22 : Nat) "NeverSaidModel" "tSize" "[I") ∈ lw_all := lw_g (lw_at lw_m5 186 rfl) rfl
theorem q1229 : (Jvm.Cond.fieldLink "NeverSaidModel" (25 : Nat) "NeverSaidModel" "tNumber" "[I") ∈ lw_all := lw_g (lw_at lw_m5 187 rfl) rfl
theorem q1230 : (Jvm.Cond.fieldLink "NeverSaidModel" (28 : Nat) "NeverSaidModel" "held" "[I") ∈ lw_all := lw_g (lw_at lw_m5 188 rfl) rfl
theorem q1231 : (Jvm.Cond.fieldLink "NeverSaidModel" (31 : Nat) "NeverSaidModel" "heldNumber" "[I") ∈ lw_all := lw_g (lw_at lw_m5 189 rfl) rfl
theorem q1232 : (Jvm.Cond.fieldLink "NeverSaidModel" (34 : Nat) "NeverSaidModel" "heldWorth" "[I") ∈ lw_all := lw_g (lw_at lw_m5 190 rfl) rfl
theorem q1233 : (Jvm.Cond.fieldLink "NeverSaidModel" (37 : Nat) "NeverSaidModel" "heldSize" "[I") ∈ lw_all := lw_g (lw_at lw_m5 191 rfl) rfl
theorem q1234 : (Jvm.Cond.fieldLink "NeverSaidModel" (40 : Nat) "NeverSaidModel" "heldRow" "[I") ∈ lw_all := lw_g (lw_at lw_m5 192 rfl) rfl
theorem q1235 : (Jvm.Cond.fieldLink "NeverSaidModel" (43 : Nat) "NeverSaidModel" "goes" "[I") ∈ lw_all := lw_g (lw_at lw_m5 193 rfl) rfl
theorem q1236 : (Jvm.Cond.fieldLink "NeverSaidModel" (46 : Nat) "NeverSaidModel" "tape" "[I") ∈ lw_all := lw_g (lw_at lw_m5 194 rfl) rfl
theorem q1237 : (Jvm.Cond.fieldLink "NeverSaidModel" (190 : Nat) "NeverSaidModel" "taped" "I") ∈ lw_all := lw_g (lw_at lw_m5 195 rfl) rfl
theorem q1238 : (Jvm.Cond.fieldLink "NeverSaidModel" (208 : Nat) "NeverSaidModel" "begin" "I") ∈ lw_all := lw_g (lw_at lw_m5 196 rfl) rfl
theorem q1239 : (Jvm.Cond.fieldLink "NeverSaidModel" (202 : Nat) "NeverSaidModel" "behind" "I") ∈ lw_all := lw_g (lw_at lw_m5 197 rfl) rfl
theorem q1240 : (Jvm.Cond.fieldLink "NeverSaidModel" (205 : Nat) "NeverSaidModel" "token" "I") ∈ lw_all := lw_g (lw_at lw_m5 198 rfl) rfl
theorem q1241 : (Jvm.Cond.fieldLink "NeverSaidModel" (220 : Nat) "NeverSaidModel" "number" "I") ∈ lw_all := lw_g (lw_at lw_m5 199 rfl) rfl
theorem q1242 : (Jvm.Cond.fieldLink "NeverSaidModel" (214 : Nat) "NeverSaidModel" "letter" "I") ∈ lw_all := lw_g (lw_at lw_m5 200 rfl) rfl
theorem q1243 : (Jvm.Cond.fieldLink "NeverSaidModel" (266 : Nat) "NeverSaidModel" "deep" "I") ∈ lw_all := lw_g (lw_at lw_m5 201 rfl) rfl
theorem q1244 : (Jvm.Cond.fieldLink "NeverSaidModel" (263 : Nat) "NeverSaidModel" "turned" "I") ∈ lw_all := lw_g (lw_at lw_m5 202 rfl) rfl
theorem q1245 : (Jvm.Cond.fieldLink "NeverSaidModel" (230 : Nat) "NeverSaidModel" "laid" "I") ∈ lw_all := lw_g (lw_at lw_m5 203 rfl) rfl
theorem q1246 : (Jvm.Cond.fieldLink "NeverSaidModel" (227 : Nat) "NeverSaidModel" "laidAt" "I") ∈ lw_all := lw_g (lw_at lw_m5 204 rfl) rfl
theorem q1247 : (Jvm.Cond.fieldLink "NeverSaidModel" (257 : Nat) "NeverSaidModel" "said" "I") ∈ lw_all := lw_g (lw_at lw_m5 205 rfl) rfl
theorem q1248 : (Jvm.Cond.fieldLink "NeverSaidModel" (49 : Nat) "NeverSaidModel" "named" "[I") ∈ lw_all := lw_g (lw_at lw_m5 206 rfl) rfl
theorem q1249 : (Jvm.Cond.fieldLink "NeverSaidModel" (52 : Nat) "NeverSaidModel" "pile" "[I") ∈ lw_all := lw_g (lw_at lw_m5 207 rfl) rfl
theorem q1250 : (Jvm.Cond.fieldLink "NeverSaidModel" (55 : Nat) "NeverSaidModel" "carried" "[I") ∈ lw_all := lw_g (lw_at lw_m5 208 rfl) rfl
theorem q1251 : (Jvm.Cond.fieldLink "NeverSaidModel" (58 : Nat) "NeverSaidModel" "waits" "[I") ∈ lw_all := lw_g (lw_at lw_m5 209 rfl) rfl
theorem q1252 : (Jvm.Cond.fieldLink "NeverSaidModel" (306 : Nat) "NeverSaidModel" "waiting" "I") ∈ lw_all := lw_g (lw_at lw_m5 210 rfl) rfl
theorem q1253 : (Jvm.Cond.fieldLink "NeverSaidModel" (61 : Nat) "NeverSaidModel" "rowDue" "[I") ∈ lw_all := lw_g (lw_at lw_m5 211 rfl) rfl
theorem q1254 : (Jvm.Cond.laysFinal "NeverSaidModel" "NeverSaidModel" "s" "[I") ∈ lw_all := lw_g (lw_at lw_m5 212 rfl) rfl
theorem q1255 : (Jvm.Cond.soleField "NeverSaidModel" "s") ∈ lw_all := lw_g (lw_at lw_m5 213 rfl) rfl
theorem q1256 : (Jvm.Cond.laysFinal "NeverSaidModel" "NeverSaidModel" "image" "[I") ∈ lw_all := lw_g (lw_at lw_m5 214 rfl) rfl
theorem q1257 : (Jvm.Cond.soleField "NeverSaidModel" "image") ∈ lw_all := lw_g (lw_at lw_m5 215 rfl) rfl
theorem q1258 : (Jvm.Cond.laysFinal "NeverSaidModel" "NeverSaidModel" "aside" "[I") ∈ lw_all := lw_g (lw_at lw_m5 216 rfl) rfl
theorem q1259 : (Jvm.Cond.soleField "NeverSaidModel" "aside") ∈ lw_all := lw_g (lw_at lw_m5 217 rfl) rfl
theorem q1260 : (Jvm.Cond.lays "NeverSaidModel" "NeverSaidModel" "hasImage" "Z") ∈ lw_all := lw_g (lw_at lw_m5 218 rfl) rfl
theorem q1261 : (Jvm.Cond.soleField "NeverSaidModel" "hasImage") ∈ lw_all := lw_g (lw_at lw_m5 219 rfl) rfl
theorem q1262 : (Jvm.Cond.laysFinal "NeverSaidModel" "NeverSaidModel" "tSort" "[I") ∈ lw_all := lw_g (lw_at lw_m5 220 rfl) rfl
theorem q1263 : (Jvm.Cond.soleField "NeverSaidModel" "tSort") ∈ lw_all := lw_g (lw_at lw_m5 221 rfl) rfl
theorem q1264 : (Jvm.Cond.laysFinal "NeverSaidModel" "NeverSaidModel" "tSize" "[I") ∈ lw_all := lw_g (lw_at lw_m5 222 rfl) rfl
theorem q1265 : (Jvm.Cond.soleField "NeverSaidModel" "tSize") ∈ lw_all := lw_g (lw_at lw_m5 223 rfl) rfl
theorem q1266 : (Jvm.Cond.laysFinal "NeverSaidModel" "NeverSaidModel" "tNumber" "[I") ∈ lw_all := lw_g (lw_at lw_m5 224 rfl) rfl
theorem q1267 : (Jvm.Cond.soleField "NeverSaidModel" "tNumber") ∈ lw_all := lw_g (lw_at lw_m5 225 rfl) rfl
theorem q1268 : (Jvm.Cond.laysFinal "NeverSaidModel" "NeverSaidModel" "held" "[I") ∈ lw_all := lw_g (lw_at lw_m5 226 rfl) rfl
theorem q1269 : (Jvm.Cond.soleField "NeverSaidModel" "held") ∈ lw_all := lw_g (lw_at lw_m5 227 rfl) rfl
theorem q1270 : (Jvm.Cond.laysFinal "NeverSaidModel" "NeverSaidModel" "heldNumber" "[I") ∈ lw_all := lw_g (lw_at lw_m5 228 rfl) rfl
theorem q1271 : (Jvm.Cond.soleField "NeverSaidModel" "heldNumber") ∈ lw_all := lw_g (lw_at lw_m5 229 rfl) rfl
theorem q1272 : (Jvm.Cond.laysFinal "NeverSaidModel" "NeverSaidModel" "heldWorth" "[I") ∈ lw_all := lw_g (lw_at lw_m5 230 rfl) rfl
theorem q1273 : (Jvm.Cond.soleField "NeverSaidModel" "heldWorth") ∈ lw_all := lw_g (lw_at lw_m5 231 rfl) rfl
theorem q1274 : (Jvm.Cond.laysFinal "NeverSaidModel" "NeverSaidModel" "heldSize" "[I") ∈ lw_all := lw_g (lw_at lw_m5 232 rfl) rfl
theorem q1275 : (Jvm.Cond.soleField "NeverSaidModel" "heldSize") ∈ lw_all := lw_g (lw_at lw_m5 233 rfl) rfl
theorem q1276 : (Jvm.Cond.laysFinal "NeverSaidModel" "NeverSaidModel" "heldRow" "[I") ∈ lw_all := lw_g (lw_at lw_m5 234 rfl) rfl
theorem q1277 : (Jvm.Cond.soleField "NeverSaidModel" "heldRow") ∈ lw_all := lw_g (lw_at lw_m5 235 rfl) rfl
theorem q1278 : (Jvm.Cond.laysFinal "NeverSaidModel" "NeverSaidModel" "goes" "[I") ∈ lw_all := lw_g (lw_at lw_m5 236 rfl) rfl
theorem q1279 : (Jvm.Cond.soleField "NeverSaidModel" "goes") ∈ lw_all := lw_g (lw_at lw_m5 237 rfl) rfl
theorem q1280 : (Jvm.Cond.laysFinal "NeverSaidModel" "NeverSaidModel" "tape" "[I") ∈ lw_all := lw_g (lw_at lw_m5 238 rfl) rfl
theorem q1281 : (Jvm.Cond.soleField "NeverSaidModel" "tape") ∈ lw_all := lw_g (lw_at lw_m5 239 rfl) rfl
theorem q1282 : (Jvm.Cond.lays "NeverSaidModel" "NeverSaidModel" "taped" "I") ∈ lw_all := lw_g (lw_at lw_m6 0 rfl) rfl
theorem q1283 : (Jvm.Cond.soleField "NeverSaidModel" "taped") ∈ lw_all := lw_g (lw_at lw_m6 1 rfl) rfl
theorem q1284 : (Jvm.Cond.lays "NeverSaidModel" "NeverSaidModel" "begin" "I") ∈ lw_all := lw_g (lw_at lw_m6 2 rfl) rfl
theorem q1285 : (Jvm.Cond.soleField "NeverSaidModel" "begin") ∈ lw_all := lw_g (lw_at lw_m6 3 rfl) rfl
theorem q1286 : (Jvm.Cond.lays "NeverSaidModel" "NeverSaidModel" "behind" "I") ∈ lw_all := lw_g (lw_at lw_m6 4 rfl) rfl
theorem q1287 : (Jvm.Cond.soleField "NeverSaidModel" "behind") ∈ lw_all := lw_g (lw_at lw_m6 5 rfl) rfl
theorem q1288 : (Jvm.Cond.lays "NeverSaidModel" "NeverSaidModel" "token" "I") ∈ lw_all := lw_g (lw_at lw_m6 6 rfl) rfl
theorem q1289 : (Jvm.Cond.soleField "NeverSaidModel" "token") ∈ lw_all := lw_g (lw_at lw_m6 7 rfl) rfl
theorem q1290 : (Jvm.Cond.lays "NeverSaidModel" "NeverSaidModel" "number" "I") ∈ lw_all := lw_g (lw_at lw_m6 8 rfl) rfl
theorem q1291 : (Jvm.Cond.soleField "NeverSaidModel" "number") ∈ lw_all := lw_g (lw_at lw_m6 9 rfl) rfl
theorem q1292 : (Jvm.Cond.lays "NeverSaidModel" "NeverSaidModel" "letter" "I") ∈ lw_all := lw_g (lw_at lw_m6 10 rfl) rfl
theorem q1293 : (Jvm.Cond.soleField "NeverSaidModel" "letter") ∈ lw_all := lw_g (lw_at lw_m6 11 rfl) rfl
theorem q1294 : (Jvm.Cond.lays "NeverSaidModel" "NeverSaidModel" "deep" "I") ∈ lw_all := lw_g (lw_at lw_m6 12 rfl) rfl
theorem q1295 : (Jvm.Cond.soleField "NeverSaidModel" "deep") ∈ lw_all := lw_g (lw_at lw_m6 13 rfl) rfl
theorem q1296 : (Jvm.Cond.lays "NeverSaidModel" "NeverSaidModel" "turned" "I") ∈ lw_all := lw_g (lw_at lw_m6 14 rfl) rfl
theorem q1297 : (Jvm.Cond.soleField "NeverSaidModel" "turned") ∈ lw_all := lw_g (lw_at lw_m6 15 rfl) rfl
theorem q1298 : (Jvm.Cond.lays "NeverSaidModel" "NeverSaidModel" "laid" "I") ∈ lw_all := lw_g (lw_at lw_m6 16 rfl) rfl
theorem q1299 : (Jvm.Cond.soleField "NeverSaidModel" "laid") ∈ lw_all := lw_g (lw_at lw_m6 17 rfl) rfl
theorem q1300 : (Jvm.Cond.lays "NeverSaidModel" "NeverSaidModel" "laidAt" "I") ∈ lw_all := lw_g (lw_at lw_m6 18 rfl) rfl
theorem q1301 : (Jvm.Cond.soleField "NeverSaidModel" "laidAt") ∈ lw_all := lw_g (lw_at lw_m6 19 rfl) rfl
theorem q1302 : (Jvm.Cond.lays "NeverSaidModel" "NeverSaidModel" "said" "I") ∈ lw_all := lw_g (lw_at lw_m6 20 rfl) rfl
theorem q1303 : (Jvm.Cond.soleField "NeverSaidModel" "said") ∈ lw_all := lw_g (lw_at lw_m6 21 rfl) rfl
theorem q1304 : (Jvm.Cond.laysFinal "NeverSaidModel" "NeverSaidModel" "named" "[I") ∈ lw_all := lw_g (lw_at lw_m6 22 rfl) rfl
theorem q1305 : (Jvm.Cond.soleField "NeverSaidModel" "named") ∈ lw_all := lw_g (lw_at lw_m6 23 rfl) rfl
theorem q1306 : (Jvm.Cond.laysFinal "NeverSaidModel" "NeverSaidModel" "pile" "[I") ∈ lw_all := lw_g (lw_at lw_m6 24 rfl) rfl
theorem q1307 : (Jvm.Cond.soleField "NeverSaidModel" "pile") ∈ lw_all := lw_g (lw_at lw_m6 25 rfl) rfl
theorem q1308 : (Jvm.Cond.laysFinal "NeverSaidModel" "NeverSaidModel" "carried" "[I") ∈ lw_all := lw_g (lw_at lw_m6 26 rfl) rfl
theorem q1309 : (Jvm.Cond.soleField "NeverSaidModel" "carried") ∈ lw_all := lw_g (lw_at lw_m6 27 rfl) rfl
theorem q1310 : (Jvm.Cond.laysFinal "NeverSaidModel" "NeverSaidModel" "waits" "[I") ∈ lw_all := lw_g (lw_at lw_m6 28 rfl) rfl
theorem q1311 : (Jvm.Cond.soleField "NeverSaidModel" "waits") ∈ lw_all := lw_g (lw_at lw_m6 29 rfl) rfl
theorem q1312 : (Jvm.Cond.lays "NeverSaidModel" "NeverSaidModel" "waiting" "I") ∈ lw_all := lw_g (lw_at lw_m6 30 rfl) rfl
theorem q1313 : (Jvm.Cond.soleField "NeverSaidModel" "waiting") ∈ lw_all := lw_g (lw_at lw_m6 31 rfl) rfl
theorem q1314 : (Jvm.Cond.laysFinal "NeverSaidModel" "NeverSaidModel" "rowDue" "[I") ∈ lw_all := lw_g (lw_at lw_m6 32 rfl) rfl
theorem q1315 : (Jvm.Cond.soleField "NeverSaidModel" "rowDue") ∈ lw_all := lw_g (lw_at lw_m6 33 rfl) rfl
theorem q1316 : (Jvm.Cond.superclass "NeverSaidModel" "java/lang/Object") ∈ lw_all := lw_g (lw_at lw_m6 34 rfl) rfl
theorem q1318 : (Jvm.Cond.instanceMethod ({ cls := "NeverSaidModel", name := "person", desc := "(II)I" } : Jvm.MethodName)) ∈ lw_all := lw_g (lw_at lw_m6 36 rfl) rfl
theorem q1319 : (Jvm.Cond.selects "NeverSaidModel" ({ cls := "NeverSaidModel", name := "person", desc := "(II)I" } : Jvm.MethodName) ({ cls := "NeverSaidModel", name := "person", desc := "(II)I" } : Jvm.MethodName)) ∈ lw_all := lw_g (lw_at lw_m6 37 rfl) rfl
theorem q1320 : (Jvm.Cond.code ({ cls := "NeverSaidModel", name := "person", desc := "(II)I" } : Jvm.MethodName) prog_19_method_17_code (3 : Nat) (Option.some Jvm.ClassFile.FieldType.int)) ∈ lw_all := lw_g (lw_at lw_m6 38 rfl) rfl
theorem q1321 : (Jvm.Cond.constantLong "NeverSaidModel" (78 : Nat) (5 : Int64)) ∈ lw_all := lw_g (lw_at lw_m6 39 rfl) rfl
theorem q1322 : (Jvm.Cond.methodLink "NeverSaidModel" (65 : Nat) ({ cls := "NeverSaidModel", name := "isIn", desc := "(JJJ)Z" } : Jvm.MethodName)) ∈ lw_all := lw_g (lw_at lw_m6 40 rfl) rfl
theorem q1323 : (Jvm.Cond.static ({ cls := "NeverSaidModel", name := "isIn", desc := "(JJJ)Z" } : Jvm.MethodName)) ∈ lw_all := lw_g (lw_at lw_m6 41 rfl) rfl
theorem q1324 : (Jvm.Cond.code ({ cls := "NeverSaidModel", name := "isIn", desc := "(JJJ)Z" } : Jvm.MethodName) prog_19_method_2_code (6 : Nat) (Option.some Jvm.ClassFile.FieldType.boolean)) ∈ lw_all := lw_g (lw_at lw_m6 42 rfl) rfl
theorem q1325 : (Jvm.Cond.constantLong "NeverSaidModel" (80 : Nat) (100 : Int64)) ∈ lw_all := lw_g (lw_at lw_m6 43 rfl) rfl
theorem q1326 : (Jvm.Cond.constant "NeverSaidModel" (82 : Nat) (-1000000001 : Int32)) ∈ lw_all := lw_g (lw_at lw_m6 44 rfl) rfl
theorem q1327 : (Jvm.Cond.constant "NeverSaidModel" (83 : Nat) (-1000000003 : Int32)) ∈ lw_all := lw_g (lw_at lw_m6 45 rfl) rfl
theorem q1328 : (Jvm.Cond.methodLink "NeverSaidModel" (84 : Nat) ({ cls := "NeverSaidModel", name := "comes", desc := "(III)V" } : Jvm.MethodName)) ∈ lw_all := lw_g (lw_at lw_m6 46 rfl) rfl
theorem q1329 : (Jvm.Cond.privateMethod ({ cls := "NeverSaidModel", name := "comes", desc := "(III)V" } : Jvm.MethodName)) ∈ lw_tbl := lw_at lw_m6 47 rfl
theorem q1330 : (Jvm.Cond.instanceMethod ({ cls := "NeverSaidModel", name := "comes", desc := "(III)V" } : Jvm.MethodName)) ∈ lw_all := lw_g (lw_at lw_m6 48 rfl) rfl
theorem q1331 : (Jvm.Cond.code ({ cls := "NeverSaidModel", name := "comes", desc := "(III)V" } : Jvm.MethodName) prog_19_method_16_code (5 : Nat) (Option.none : Option Jvm.ClassFile.FieldType)) ∈ lw_all := lw_g (lw_at lw_m6 49 rfl) rfl
theorem q1333 : (Jvm.Cond.instanceMethod ({ cls := "NeverSaidModel", name := "told", desc := "(II)I" } : Jvm.MethodName)) ∈ lw_all := lw_g (lw_at lw_m6 51 rfl) rfl
theorem q1334 : (Jvm.Cond.selects "NeverSaidModel" ({ cls := "NeverSaidModel", name := "told", desc := "(II)I" } : Jvm.MethodName) ({ cls := "NeverSaidModel", name := "told", desc := "(II)I" } : Jvm.MethodName)) ∈ lw_all := lw_g (lw_at lw_m6 52 rfl) rfl
theorem q1335 : (Jvm.Cond.code ({ cls := "NeverSaidModel", name := "told", desc := "(II)I" } : Jvm.MethodName) prog_19_method_22_code (3 : Nat) (Option.some Jvm.ClassFile.FieldType.int)) ∈ lw_all := lw_g (lw_at lw_m6 53 rfl) rfl
theorem q1336 : (Jvm.Cond.methodLink "NeverSaidModel" (95 : Nat) ({ cls := "NeverSaidModel", name := "isPerson", desc := "(I)Z" } : Jvm.MethodName)) ∈ lw_all := lw_g (lw_at lw_m6 54 rfl) rfl
theorem q1337 : (Jvm.Cond.privateMethod ({ cls := "NeverSaidModel", name := "isPerson", desc := "(I)Z" } : Jvm.MethodName)) ∈ lw_tbl := lw_at lw_m6 55 rfl
theorem q1338 : (Jvm.Cond.instanceMethod ({ cls := "NeverSaidModel", name := "isPerson", desc := "(I)Z" } : Jvm.MethodName)) ∈ lw_all := lw_g (lw_at lw_m6 56 rfl) rfl
theorem q1339 : (Jvm.Cond.code ({ cls := "NeverSaidModel", name := "isPerson", desc := "(I)Z" } : Jvm.MethodName) prog_19_method_9_code (2 : Nat) (Option.some Jvm.ClassFile.FieldType.boolean)) ∈ lw_all := lw_g (lw_at lw_m6 57 rfl) rfl
theorem q1340 : (Jvm.Cond.methodLink "NeverSaidModel" (88 : Nat) ({ cls := "NeverSaidModel", name := "of", desc := "(II)I" } : Jvm.MethodName)) ∈ lw_all := lw_g (lw_at lw_m6 58 rfl) rfl
theorem q1341 : (Jvm.Cond.privateMethod ({ cls := "NeverSaidModel", name := "of", desc := "(II)I" } : Jvm.MethodName)) ∈ lw_tbl := lw_at lw_m6 59 rfl
theorem q1342 : (Jvm.Cond.instanceMethod ({ cls := "NeverSaidModel", name := "of", desc := "(II)I" } : Jvm.MethodName)) ∈ lw_all := lw_g (lw_at lw_m6 60 rfl) rfl
theorem q1343 : (Jvm.Cond.code ({ cls := "NeverSaidModel", name := "of", desc := "(II)I" } : Jvm.MethodName) prog_19_method_7_code (3 : Nat) (Option.some Jvm.ClassFile.FieldType.int)) ∈ lw_all := lw_g (lw_at lw_m6 61 rfl) rfl
theorem q1344 : (Jvm.Cond.methodLink "NeverSaidModel" (91 : Nat) ({ cls := "NeverSaidModel", name := "followers", desc := "(I)I" } : Jvm.MethodName)) ∈ lw_all := lw_g (lw_at lw_m6 62 rfl) rfl
theorem q1345 : (Jvm.Cond.privateMethod ({ cls := "NeverSaidModel", name := "followers", desc := "(I)I" } : Jvm.MethodName)) ∈ lw_tbl := lw_at lw_m6 63 rfl
theorem q1346 : (Jvm.Cond.instanceMethod ({ cls := "NeverSaidModel", name := "followers", desc := "(I)I" } : Jvm.MethodName)) ∈ lw_all := lw_g (lw_at lw_m6 64 rfl) rfl
theorem q1347 : (Jvm.Cond.code ({ cls := "NeverSaidModel", name := "followers", desc := "(I)I" } : Jvm.MethodName) prog_19_method_18_code (5 : Nat) (Option.some Jvm.ClassFile.FieldType.int)) ∈ lw_all := lw_g (lw_at lw_m6 65 rfl) rfl
theorem q1348 : (Jvm.Cond.methodLink "NeverSaidModel" (99 : Nat) ({ cls := "NeverSaidModel", name := "worthOf", desc := "(II)I" } : Jvm.MethodName)) ∈ lw_all := lw_g (lw_at lw_m6 66 rfl) rfl
theorem q1349 : (Jvm.Cond.static ({ cls := "NeverSaidModel", name := "worthOf", desc := "(II)I" } : Jvm.MethodName)) ∈ lw_all := lw_g (lw_at lw_m6 67 rfl) rfl
theorem q1350 : (Jvm.Cond.code ({ cls := "NeverSaidModel", name := "worthOf", desc := "(II)I" } : Jvm.MethodName) prog_19_method_20_code (2 : Nat) (Option.some Jvm.ClassFile.FieldType.int)) ∈ lw_all := lw_g (lw_at lw_m6 68 rfl) rfl
theorem q1351 : (Jvm.Cond.methodLink "NeverSaidModel" (102 : Nat) ({ cls := "NeverSaidModel", name := "goneOn", desc := "(I)I" } : Jvm.MethodName)) ∈ lw_all := lw_g (lw_at lw_m6 69 rfl) rfl
theorem q1352 : (Jvm.Cond.privateMethod ({ cls := "NeverSaidModel", name := "goneOn", desc := "(I)I" } : Jvm.MethodName)) ∈ lw_tbl := lw_at lw_m6 70 rfl
theorem q1353 : (Jvm.Cond.instanceMethod ({ cls := "NeverSaidModel", name := "goneOn", desc := "(I)I" } : Jvm.MethodName)) ∈ lw_all := lw_g (lw_at lw_m6 71 rfl) rfl
theorem q1354 : (Jvm.Cond.code ({ cls := "NeverSaidModel", name := "goneOn", desc := "(I)I" } : Jvm.MethodName) prog_19_method_21_code (4 : Nat) (Option.some Jvm.ClassFile.FieldType.int)) ∈ lw_all := lw_g (lw_at lw_m6 72 rfl) rfl
theorem q1355 : (Jvm.Cond.methodLink "NeverSaidModel" (73 : Nat) ({ cls := "NeverSaidModel", name := "dee", desc := "(II)I" } : Jvm.MethodName)) ∈ lw_all := lw_g (lw_at lw_m6 73 rfl) rfl
theorem q1356 : (Jvm.Cond.privateMethod ({ cls := "NeverSaidModel", name := "dee", desc := "(II)I" } : Jvm.MethodName)) ∈ lw_tbl := lw_at lw_m6 74 rfl
theorem q1357 : (Jvm.Cond.instanceMethod ({ cls := "NeverSaidModel", name := "dee", desc := "(II)I" } : Jvm.MethodName)) ∈ lw_all := lw_g (lw_at lw_m6 75 rfl) rfl
theorem q1358 : (Jvm.Cond.code ({ cls := "NeverSaidModel", name := "dee", desc := "(II)I" } : Jvm.MethodName) prog_19_method_8_code (3 : Nat) (Option.some Jvm.ClassFile.FieldType.int)) ∈ lw_all := lw_g (lw_at lw_m6 76 rfl) rfl
theorem q1360 : (Jvm.Cond.instanceMethod ({ cls := "NeverSaidModel", name := "as", desc := "(II)I" } : Jvm.MethodName)) ∈ lw_all := lw_g (lw_at lw_m6 78 rfl) rfl
theorem q1361 : (Jvm.Cond.selects "NeverSaidModel" ({ cls := "NeverSaidModel", name := "as", desc := "(II)I" } : Jvm.MethodName) ({ cls := "NeverSaidModel", name := "as", desc := "(II)I" } : Jvm.MethodName)) ∈ lw_all := lw_g (lw_at lw_m6 79 rfl) rfl
theorem q1362 : (Jvm.Cond.code ({ cls := "NeverSaidModel", name := "as", desc := "(II)I" } : Jvm.MethodName) prog_19_method_24_code (3 : Nat) (Option.some Jvm.ClassFile.FieldType.int)) ∈ lw_all := lw_g (lw_at lw_m6 80 rfl) rfl
theorem q1363 : (Jvm.Cond.methodLink "NeverSaidModel" (105 : Nat) ({ cls := "NeverSaidModel", name := "isOf", desc := "(II)Z" } : Jvm.MethodName)) ∈ lw_all := lw_g (lw_at lw_m6 81 rfl) rfl
theorem q1364 : (Jvm.Cond.static ({ cls := "NeverSaidModel", name := "isOf", desc := "(II)Z" } : Jvm.MethodName)) ∈ lw_all := lw_g (lw_at lw_m6 82 rfl) rfl
theorem q1365 : (Jvm.Cond.code ({ cls := "NeverSaidModel", name := "isOf", desc := "(II)Z" } : Jvm.MethodName) prog_19_method_23_code (2 : Nat) (Option.some Jvm.ClassFile.FieldType.boolean)) ∈ lw_all := lw_g (lw_at lw_m6 83 rfl) rfl
theorem q1366 : (Jvm.Cond.constant "NeverSaidModel" (109 : Nat) (-1000000012 : Int32)) ∈ lw_all := lw_g (lw_at lw_m6 84 rfl) rfl
theorem q1368 : (Jvm.Cond.instanceMethod ({ cls := "NeverSaidModel", name := "turns", desc := "(II)I" } : Jvm.MethodName)) ∈ lw_all := lw_g (lw_at lw_m6 86 rfl) rfl
theorem q1369 : (Jvm.Cond.selects "NeverSaidModel" ({ cls := "NeverSaidModel", name := "turns", desc := "(II)I" } : Jvm.MethodName) ({ cls := "NeverSaidModel", name := "turns", desc := "(II)I" } : Jvm.MethodName)) ∈ lw_all := lw_g (lw_at lw_m6 87 rfl) rfl
theorem q1370 : (Jvm.Cond.code ({ cls := "NeverSaidModel", name := "turns", desc := "(II)I" } : Jvm.MethodName) prog_19_method_25_code (3 : Nat) (Option.some Jvm.ClassFile.FieldType.int)) ∈ lw_all := lw_g (lw_at lw_m6 88 rfl) rfl
theorem q1371 : (Jvm.Cond.methodLink "NeverSaidModel" (110 : Nat) ({ cls := "NeverSaidModel", name := "becomes", desc := "(II)I" } : Jvm.MethodName)) ∈ lw_all := lw_g (lw_at lw_m6 89 rfl) rfl
theorem q1372 : (Jvm.Cond.privateMethod ({ cls := "NeverSaidModel", name := "becomes", desc := "(II)I" } : Jvm.MethodName)) ∈ lw_tbl := lw_at lw_m6 90 rfl
theorem q1373 : (Jvm.Cond.instanceMethod ({ cls := "NeverSaidModel", name := "becomes", desc := "(II)I" } : Jvm.MethodName)) ∈ lw_all := lw_g (lw_at lw_m6 91 rfl) rfl
theorem q1374 : (Jvm.Cond.code ({ cls := "NeverSaidModel", name := "becomes", desc := "(II)I" } : Jvm.MethodName) prog_19_method_5_code (4 : Nat) (Option.some Jvm.ClassFile.FieldType.int)) ∈ lw_all := lw_g (lw_at lw_m6 92 rfl) rfl
theorem q1376 : (Jvm.Cond.instanceMethod ({ cls := "NeverSaidModel", name := "bolder", desc := "(II)I" } : Jvm.MethodName)) ∈ lw_all := lw_g (lw_at lw_m6 94 rfl) rfl
theorem q1377 : (Jvm.Cond.selects "NeverSaidModel" ({ cls := "NeverSaidModel", name := "bolder", desc := "(II)I" } : Jvm.MethodName) ({ cls := "NeverSaidModel", name := "bolder", desc := "(II)I" } : Jvm.MethodName)) ∈ lw_all := lw_g (lw_at lw_m6 95 rfl) rfl
theorem q1378 : (Jvm.Cond.code ({ cls := "NeverSaidModel", name := "bolder", desc := "(II)I" } : Jvm.MethodName) prog_19_method_26_code (3 : Nat) (Option.some Jvm.ClassFile.FieldType.int)) ∈ lw_all := lw_g (lw_at lw_m6 96 rfl) rfl
theorem q1380 : (Jvm.Cond.instanceMethod ({ cls := "NeverSaidModel", name := "away", desc := "(III)I" } : Jvm.MethodName)) ∈ lw_all := lw_g (lw_at lw_m6 98 rfl) rfl
theorem q1381 : (Jvm.Cond.selects "NeverSaidModel" ({ cls := "NeverSaidModel", name := "away", desc := "(III)I" } : Jvm.MethodName) ({ cls := "NeverSaidModel", name := "away", desc := "(III)I" } : Jvm.MethodName)) ∈ lw_all := lw_g (lw_at lw_m6 99 rfl) rfl
theorem q1382 : (Jvm.Cond.code ({ cls := "NeverSaidModel", name := "away", desc := "(III)I" } : Jvm.MethodName) prog_19_method_28_code (4 : Nat) (Option.some Jvm.ClassFile.FieldType.int)) ∈ lw_all := lw_g (lw_at lw_m6 100 rfl) rfl
theorem q1383 : (Jvm.Cond.constantLong "NeverSaidModel" (113 : Nat) (23 : Int64)) ∈ lw_all := lw_g (lw_at lw_m6 101 rfl) rfl
theorem q1384 : (Jvm.Cond.methodLink "NeverSaidModel" (115 : Nat) ({ cls := "NeverSaidModel", name := "bitBecomes", desc := "(III)I" } : Jvm.MethodName)) ∈ lw_all := lw_g (lw_at lw_m6 102 rfl) rfl
theorem q1385 : (Jvm.Cond.privateMethod ({ cls := "NeverSaidModel", name := "bitBecomes", desc := "(III)I" } : Jvm.MethodName)) ∈ lw_tbl := lw_at lw_m6 103 rfl
theorem q1386 : (Jvm.Cond.instanceMethod ({ cls := "NeverSaidModel", name := "bitBecomes", desc := "(III)I" } : Jvm.MethodName)) ∈ lw_all := lw_g (lw_at lw_m6 104 rfl) rfl
theorem q1387 : (Jvm.Cond.code ({ cls := "NeverSaidModel", name := "bitBecomes", desc := "(III)I" } : Jvm.MethodName) prog_19_method_27_code (5 : Nat) (Option.some Jvm.ClassFile.FieldType.int)) ∈ lw_all := lw_g (lw_at lw_m6 105 rfl) rfl
theorem q1389 : (Jvm.Cond.instanceMethod ({ cls := "NeverSaidModel", name := "friend", desc := "(III)I" } : Jvm.MethodName)) ∈ lw_all := lw_g (lw_at lw_m6 107 rfl) rfl
theorem q1390 : (Jvm.Cond.selects "NeverSaidModel" ({ cls := "NeverSaidModel", name := "friend", desc := "(III)I" } : Jvm.MethodName) ({ cls := "NeverSaidModel", name := "friend", desc := "(III)I" } : Jvm.MethodName)) ∈ lw_all := lw_g (lw_at lw_m6 108 rfl) rfl
theorem q1391 : (Jvm.Cond.code ({ cls := "NeverSaidModel", name := "friend", desc := "(III)I" } : Jvm.MethodName) prog_19_method_30_code (5 : Nat) (Option.some Jvm.ClassFile.FieldType.int)) ∈ lw_all := lw_g (lw_at lw_m6 109 rfl) rfl
theorem q1392 : (Jvm.Cond.methodLink "NeverSaidModel" (119 : Nat) ({ cls := "NeverSaidModel", name := "areTwo", desc := "(III)Z" } : Jvm.MethodName)) ∈ lw_all := lw_g (lw_at lw_m6 110 rfl) rfl
theorem q1393 : (Jvm.Cond.privateMethod ({ cls := "NeverSaidModel", name := "areTwo", desc := "(III)Z" } : Jvm.MethodName)) ∈ lw_tbl := lw_at lw_m6 111 rfl
theorem q1394 : (Jvm.Cond.instanceMethod ({ cls := "NeverSaidModel", name := "areTwo", desc := "(III)Z" } : Jvm.MethodName)) ∈ lw_all := lw_g (lw_at lw_m6 112 rfl) rfl
theorem q1395 : (Jvm.Cond.code ({ cls := "NeverSaidModel", name := "areTwo", desc := "(III)Z" } : Jvm.MethodName) prog_19_method_29_code (4 : Nat) (Option.some Jvm.ClassFile.FieldType.boolean)) ∈ lw_all := lw_g (lw_at lw_m6 113 rfl) rfl
theorem q1397 : (Jvm.Cond.instanceMethod ({ cls := "NeverSaidModel", name := "follow", desc := "(III)I" } : Jvm.MethodName)) ∈ lw_all := lw_g (lw_at lw_m6 115 rfl) rfl
theorem q1398 : (Jvm.Cond.selects "NeverSaidModel" ({ cls := "NeverSaidModel", name := "follow", desc := "(III)I" } : Jvm.MethodName) ({ cls := "NeverSaidModel", name := "follow", desc := "(III)I" } : Jvm.MethodName)) ∈ lw_all := lw_g (lw_at lw_m6 116 rfl) rfl
theorem q1399 : (Jvm.Cond.code ({ cls := "NeverSaidModel", name := "follow", desc := "(III)I" } : Jvm.MethodName) prog_19_method_31_code (4 : Nat) (Option.some Jvm.ClassFile.FieldType.int)) ∈ lw_all := lw_g (lw_at lw_m6 117 rfl) rfl
theorem q1401 : (Jvm.Cond.instanceMethod ({ cls := "NeverSaidModel", name := "deal", desc := "(I)I" } : Jvm.MethodName)) ∈ lw_all := lw_g (lw_at lw_m6 119 rfl) rfl
theorem q1402 : (Jvm.Cond.selects "NeverSaidModel" ({ cls := "NeverSaidModel", name := "deal", desc := "(I)I" } : Jvm.MethodName) ({ cls := "NeverSaidModel", name := "deal", desc := "(I)I" } : Jvm.MethodName)) ∈ lw_all := lw_g (lw_at lw_m6 120 rfl) rfl
theorem q1403 : (Jvm.Cond.code ({ cls := "NeverSaidModel", name := "deal", desc := "(I)I" } : Jvm.MethodName) prog_19_method_32_code (6 : Nat) (Option.some Jvm.ClassFile.FieldType.int)) ∈ lw_all := lw_g (lw_at lw_m6 121 rfl) rfl
theorem q1404 : (Jvm.Cond.constantLong "NeverSaidModel" (123 : Nat) (12 : Int64)) ∈ lw_all := lw_g (lw_at lw_m6 122 rfl) rfl
theorem q1405 : (Jvm.Cond.methodLink "NeverSaidModel" (125 : Nat) ({ cls := "NeverSaidModel", name := "drawn", desc := "()I" } : Jvm.MethodName)) ∈ lw_all := lw_g (lw_at lw_m6 123 rfl) rfl
theorem q1406 : (Jvm.Cond.privateMethod ({ cls := "NeverSaidModel", name := "drawn", desc := "()I" } : Jvm.MethodName)) ∈ lw_tbl := lw_at lw_m6 124 rfl
theorem q1407 : (Jvm.Cond.instanceMethod ({ cls := "NeverSaidModel", name := "drawn", desc := "()I" } : Jvm.MethodName)) ∈ lw_all := lw_g (lw_at lw_m6 125 rfl) rfl
theorem q1408 : (Jvm.Cond.code ({ cls := "NeverSaidModel", name := "drawn", desc := "()I" } : Jvm.MethodName) prog_19_method_15_code (1 : Nat) (Option.some Jvm.ClassFile.FieldType.int)) ∈ lw_all := lw_g (lw_at lw_m6 126 rfl) rfl
theorem q1409 : (Jvm.Cond.constant "NeverSaidModel" (77 : Nat) (1103515245 : Int32)) ∈ lw_all := lw_g (lw_at lw_m6 127 rfl) rfl
theorem q1411 : (Jvm.Cond.instanceMethod ({ cls := "NeverSaidModel", name := "seed", desc := "(I)I" } : Jvm.MethodName)) ∈ lw_all := lw_g (lw_at lw_m6 129 rfl) rfl
theorem q1412 : (Jvm.Cond.selects "NeverSaidModel" ({ cls := "NeverSaidModel", name := "seed", desc := "(I)I" } : Jvm.MethodName) ({ cls := "NeverSaidModel", name := "seed", desc := "(I)I" } : Jvm.MethodName)) ∈ lw_all := lw_g (lw_at lw_m6 130 rfl) rfl
theorem q1413 : (Jvm.Cond.code ({ cls := "NeverSaidModel", name := "seed", desc := "(I)I" } : Jvm.MethodName) prog_19_method_33_code (2 : Nat) (Option.some Jvm.ClassFile.FieldType.int)) ∈ lw_all := lw_g (lw_at lw_m6 131 rfl) rfl
theorem q1415 : (Jvm.Cond.instanceMethod ({ cls := "NeverSaidModel", name := "deed", desc := "(III)I" } : Jvm.MethodName)) ∈ lw_all := lw_g (lw_at lw_m6 133 rfl) rfl
theorem q1416 : (Jvm.Cond.selects "NeverSaidModel" ({ cls := "NeverSaidModel", name := "deed", desc := "(III)I" } : Jvm.MethodName) ({ cls := "NeverSaidModel", name := "deed", desc := "(III)I" } : Jvm.MethodName)) ∈ lw_all := lw_g (lw_at lw_m6 134 rfl) rfl
theorem q1417 : (Jvm.Cond.code ({ cls := "NeverSaidModel", name := "deed", desc := "(III)I" } : Jvm.MethodName) prog_19_method_34_code (6 : Nat) (Option.some Jvm.ClassFile.FieldType.int)) ∈ lw_all := lw_g (lw_at lw_m6 135 rfl) rfl
theorem q1418 : (Jvm.Cond.methodLink "NeverSaidModel" (69 : Nat) ({ cls := "NeverSaidModel", name := "everybody", desc := "()I" } : Jvm.MethodName)) ∈ lw_all := lw_g (lw_at lw_m6 136 rfl) rfl
theorem q1419 : (Jvm.Cond.privateMethod ({ cls := "NeverSaidModel", name := "everybody", desc := "()I" } : Jvm.MethodName)) ∈ lw_tbl := lw_at lw_m6 137 rfl
theorem q1420 : (Jvm.Cond.instanceMethod ({ cls := "NeverSaidModel", name := "everybody", desc := "()I" } : Jvm.MethodName)) ∈ lw_all := lw_g (lw_at lw_m6 138 rfl) rfl
theorem q1421 : (Jvm.Cond.code ({ cls := "NeverSaidModel", name := "everybody", desc := "()I" } : Jvm.MethodName) prog_19_method_12_code (1 : Nat) (Option.some Jvm.ClassFile.FieldType.int)) ∈ lw_all := lw_g (lw_at lw_m6 139 rfl) rfl
theorem q1422 : (Jvm.Cond.methodLink "NeverSaidModel" (128 : Nat) ({ cls := "NeverSaidModel", name := "ones", desc := "(I)I" } : Jvm.MethodName)) ∈ lw_all := lw_g (lw_at lw_m6 140 rfl) rfl
theorem q1423 : (Jvm.Cond.static ({ cls := "NeverSaidModel", name := "ones", desc := "(I)I" } : Jvm.MethodName)) ∈ lw_all := lw_g (lw_at lw_m6 141 rfl) rfl
theorem q1424 : (Jvm.Cond.code ({ cls := "NeverSaidModel", name := "ones", desc := "(I)I" } : Jvm.MethodName) prog_19_method_14_code (3 : Nat) (Option.some Jvm.ClassFile.FieldType.int)) ∈ lw_all := lw_g (lw_at lw_m6 142 rfl) rfl
theorem q1425 : (Jvm.Cond.constantLong "NeverSaidModel" (131 : Nat) (99 : Int64)) ∈ lw_all := lw_g (lw_at lw_m6 143 rfl) rfl
theorem q1427 : (Jvm.Cond.instanceMethod ({ cls := "NeverSaidModel", name := "deedTold", desc := "(II)I" } : Jvm.MethodName)) ∈ lw_all := lw_g (lw_at lw_m6 145 rfl) rfl
theorem q1428 : (Jvm.Cond.selects "NeverSaidModel" ({ cls := "NeverSaidModel", name := "deedTold", desc := "(II)I" } : Jvm.MethodName) ({ cls := "NeverSaidModel", name := "deedTold", desc := "(II)I" } : Jvm.MethodName)) ∈ lw_all := lw_g (lw_at lw_m6 146 rfl) rfl
theorem q1429 : (Jvm.Cond.code ({ cls := "NeverSaidModel", name := "deedTold", desc := "(II)I" } : Jvm.MethodName) prog_19_method_36_code (3 : Nat) (Option.some Jvm.ClassFile.FieldType.int)) ∈ lw_all := lw_g (lw_at lw_m6 147 rfl) rfl
theorem q1430 : (Jvm.Cond.methodLink "NeverSaidModel" (146 : Nat) ({ cls := "NeverSaidModel", name := "isDeed", desc := "(I)Z" } : Jvm.MethodName)) ∈ lw_all := lw_g (lw_at lw_m6 148 rfl) rfl
theorem q1431 : (Jvm.Cond.privateMethod ({ cls := "NeverSaidModel", name := "isDeed", desc := "(I)Z" } : Jvm.MethodName)) ∈ lw_tbl := lw_at lw_m6 149 rfl
theorem q1432 : (Jvm.Cond.instanceMethod ({ cls := "NeverSaidModel", name := "isDeed", desc := "(I)Z" } : Jvm.MethodName)) ∈ lw_all := lw_g (lw_at lw_m6 150 rfl) rfl
theorem q1433 : (Jvm.Cond.code ({ cls := "NeverSaidModel", name := "isDeed", desc := "(I)Z" } : Jvm.MethodName) prog_19_method_10_code (2 : Nat) (Option.some Jvm.ClassFile.FieldType.boolean)) ∈ lw_all := lw_g (lw_at lw_m6 151 rfl) rfl
theorem q1434 : (Jvm.Cond.methodLink "NeverSaidModel" (136 : Nat) ({ cls := "NeverSaidModel", name := "left", desc := "(I)I" } : Jvm.MethodName)) ∈ lw_all := lw_g (lw_at lw_m6 152 rfl) rfl
theorem q1435 : (Jvm.Cond.privateMethod ({ cls := "NeverSaidModel", name := "left", desc := "(I)I" } : Jvm.MethodName)) ∈ lw_tbl := lw_at lw_m6 153 rfl
theorem q1436 : (Jvm.Cond.instanceMethod ({ cls := "NeverSaidModel", name := "left", desc := "(I)I" } : Jvm.MethodName)) ∈ lw_all := lw_g (lw_at lw_m6 154 rfl) rfl
theorem q1437 : (Jvm.Cond.code ({ cls := "NeverSaidModel", name := "left", desc := "(I)I" } : Jvm.MethodName) prog_19_method_13_code (2 : Nat) (Option.some Jvm.ClassFile.FieldType.int)) ∈ lw_all := lw_g (lw_at lw_m6 155 rfl) rfl
theorem q1438 : (Jvm.Cond.methodLink "NeverSaidModel" (149 : Nat) ({ cls := "NeverSaidModel", name := "cost", desc := "(I)I" } : Jvm.MethodName)) ∈ lw_all := lw_g (lw_at lw_m6 156 rfl) rfl
theorem q1439 : (Jvm.Cond.privateMethod ({ cls := "NeverSaidModel", name := "cost", desc := "(I)I" } : Jvm.MethodName)) ∈ lw_tbl := lw_at lw_m6 157 rfl
theorem q1440 : (Jvm.Cond.instanceMethod ({ cls := "NeverSaidModel", name := "cost", desc := "(I)I" } : Jvm.MethodName)) ∈ lw_all := lw_g (lw_at lw_m6 158 rfl) rfl
theorem q1441 : (Jvm.Cond.code ({ cls := "NeverSaidModel", name := "cost", desc := "(I)I" } : Jvm.MethodName) prog_19_method_35_code (3 : Nat) (Option.some Jvm.ClassFile.FieldType.int)) ∈ lw_all := lw_g (lw_at lw_m6 159 rfl) rfl
theorem q1442 : (Jvm.Cond.methodLink "NeverSaidModel" (133 : Nat) ({ cls := "NeverSaidModel", name := "counts", desc := "(I)I" } : Jvm.MethodName)) ∈ lw_all := lw_g (lw_at lw_m6 160 rfl) rfl
theorem q1443 : (Jvm.Cond.privateMethod ({ cls := "NeverSaidModel", name := "counts", desc := "(I)I" } : Jvm.MethodName)) ∈ lw_tbl := lw_at lw_m6 161 rfl
theorem q1444 : (Jvm.Cond.instanceMethod ({ cls := "NeverSaidModel", name := "counts", desc := "(I)I" } : Jvm.MethodName)) ∈ lw_all := lw_g (lw_at lw_m6 162 rfl) rfl
theorem q1445 : (Jvm.Cond.code ({ cls := "NeverSaidModel", name := "counts", desc := "(I)I" } : Jvm.MethodName) prog_19_method_75_code (4 : Nat) (Option.some Jvm.ClassFile.FieldType.int)) ∈ lw_all := lw_g (lw_at lw_m6 163 rfl) rfl
theorem q1446 : (Jvm.Cond.methodLink "NeverSaidModel" (272 : Nat) ({ cls := "NeverSaidModel", name := "textAt", desc := "(I)I" } : Jvm.MethodName)) ∈ lw_all := lw_g (lw_at lw_m6 164 rfl) rfl
theorem q1447 : (Jvm.Cond.privateMethod ({ cls := "NeverSaidModel", name := "textAt", desc := "(I)I" } : Jvm.MethodName)) ∈ lw_tbl := lw_at lw_m6 165 rfl
theorem q1448 : (Jvm.Cond.instanceMethod ({ cls := "NeverSaidModel", name := "textAt", desc := "(I)I" } : Jvm.MethodName)) ∈ lw_all := lw_g (lw_at lw_m6 166 rfl) rfl
theorem q1449 : (Jvm.Cond.code ({ cls := "NeverSaidModel", name := "textAt", desc := "(I)I" } : Jvm.MethodName) prog_19_method_6_code (2 : Nat) (Option.some Jvm.ClassFile.FieldType.int)) ∈ lw_all := lw_g (lw_at lw_m6 167 rfl) rfl
theorem q1450 : (Jvm.Cond.methodLink "NeverSaidModel" (139 : Nat) ({ cls := "NeverSaidModel", name := "worked", desc := "(I)I" } : Jvm.MethodName)) ∈ lw_all := lw_g (lw_at lw_m6 168 rfl) rfl
theorem q1451 : (Jvm.Cond.privateMethod ({ cls := "NeverSaidModel", name := "worked", desc := "(I)I" } : Jvm.MethodName)) ∈ lw_tbl := lw_at lw_m6 169 rfl
theorem q1452 : (Jvm.Cond.instanceMethod ({ cls := "NeverSaidModel", name := "worked", desc := "(I)I" } : Jvm.MethodName)) ∈ lw_all := lw_g (lw_at lw_m6 170 rfl) rfl
theorem q1453 : (Jvm.Cond.code ({ cls := "NeverSaidModel", name := "worked", desc := "(I)I" } : Jvm.MethodName) prog_19_method_78_code (6 : Nat) (Option.some Jvm.ClassFile.FieldType.int)) ∈ lw_all := lw_g (lw_at lw_m6 171 rfl) rfl
theorem q1454 : (Jvm.Cond.methodLink "NeverSaidModel" (286 : Nat) ({ cls := "NeverSaidModel", name := "joined", desc := "(III)I" } : Jvm.MethodName)) ∈ lw_all := lw_g (lw_at lw_m6 172 rfl) rfl
theorem q1455 : (Jvm.Cond.static ({ cls := "NeverSaidModel", name := "joined", desc := "(III)I" } : Jvm.MethodName)) ∈ lw_all := lw_g (lw_at lw_m6 173 rfl) rfl
theorem q1456 : (Jvm.Cond.code ({ cls := "NeverSaidModel", name := "joined", desc := "(III)I" } : Jvm.MethodName) prog_19_method_77_code (3 : Nat) (Option.some Jvm.ClassFile.FieldType.int)) ∈ lw_all := lw_g (lw_at lw_m6 174 rfl) rfl
theorem q1457 : (Jvm.Cond.constant "NeverSaidModel" (142 : Nat) (99999 : Int32)) ∈ lw_all := lw_g (lw_at lw_m6 175 rfl) rfl
theorem q1458 : (Jvm.Cond.methodLink "NeverSaidModel" (143 : Nat) ({ cls := "NeverSaidModel", name := "within", desc := "(II)I" } : Jvm.MethodName)) ∈ lw_all := lw_g (lw_at lw_m6 176 rfl) rfl
theorem q1459 : (Jvm.Cond.static ({ cls := "NeverSaidModel", name := "within", desc := "(II)I" } : Jvm.MethodName)) ∈ lw_all := lw_g (lw_at lw_m6 177 rfl) rfl
theorem q1460 : (Jvm.Cond.code ({ cls := "NeverSaidModel", name := "within", desc := "(II)I" } : Jvm.MethodName) prog_19_method_4_code (2 : Nat) (Option.some Jvm.ClassFile.FieldType.int)) ∈ lw_all := lw_g (lw_at lw_m6 178 rfl) rfl
theorem q1462 : (Jvm.Cond.instanceMethod ({ cls := "NeverSaidModel", name := "again", desc := "(I)I" } : Jvm.MethodName)) ∈ lw_all := lw_g (lw_at lw_m6 180 rfl) rfl
theorem q1463 : (Jvm.Cond.selects "NeverSaidModel" ({ cls := "NeverSaidModel", name := "again", desc := "(I)I" } : Jvm.MethodName) ({ cls := "NeverSaidModel", name := "again", desc := "(I)I" } : Jvm.MethodName)) ∈ lw_all := lw_g (lw_at lw_m6 181 rfl) rfl
theorem q1464 : (Jvm.Cond.code ({ cls := "NeverSaidModel", name := "again", desc := "(I)I" } : Jvm.MethodName) prog_19_method_37_code (3 : Nat) (Option.some Jvm.ClassFile.FieldType.int)) ∈ lw_all := lw_g (lw_at lw_m6 182 rfl) rfl
theorem q1466 : (Jvm.Cond.instanceMethod ({ cls := "NeverSaidModel", name := "stop", desc := "(I)I" } : Jvm.MethodName)) ∈ lw_all := lw_g (lw_at lw_m6 184 rfl) rfl
theorem q1467 : (Jvm.Cond.selects "NeverSaidModel" ({ cls := "NeverSaidModel", name := "stop", desc := "(I)I" } : Jvm.MethodName) ({ cls := "NeverSaidModel", name := "stop", desc := "(I)I" } : Jvm.MethodName)) ∈ lw_all := lw_g (lw_at lw_m6 185 rfl) rfl
theorem q1468 : (Jvm.Cond.code ({ cls := "NeverSaidModel", name := "stop", desc := "(I)I" } : Jvm.MethodName) prog_19_method_38_code (2 : Nat) (Option.some Jvm.ClassFile.FieldType.int)) ∈ lw_all := lw_g (lw_at lw_m6 186 rfl) rfl
theorem q1469 : (Jvm.Cond.constantLong "NeverSaidModel" (152 : Nat) (4 : Int64)) ∈ lw_all := lw_g (lw_at lw_m6 187 rfl) rfl
theorem q1471 : (Jvm.Cond.instanceMethod ({ cls := "NeverSaidModel", name := "say", desc := "(III)I" } : Jvm.MethodName)) ∈ lw_all := lw_g (lw_at lw_m6 189 rfl) rfl
theorem q1472 : (Jvm.Cond.selects "NeverSaidModel" ({ cls := "NeverSaidModel", name := "say", desc := "(III)I" } : Jvm.MethodName) ({ cls := "NeverSaidModel", name := "say", desc := "(III)I" } : Jvm.MethodName)) ∈ lw_all := lw_g (lw_at lw_m6 190 rfl) rfl
theorem q1473 : (Jvm.Cond.code ({ cls := "NeverSaidModel", name := "say", desc := "(III)I" } : Jvm.MethodName) prog_19_method_41_code (4 : Nat) (Option.some Jvm.ClassFile.FieldType.int)) ∈ lw_all := lw_g (lw_at lw_m6 191 rfl) rfl
theorem q1474 : (Jvm.Cond.methodLink "NeverSaidModel" (157 : Nat) ({ cls := "NeverSaidModel", name := "mayBe", desc := "(III)Z" } : Jvm.MethodName)) ∈ lw_all := lw_g (lw_at lw_m6 192 rfl) rfl
theorem q1475 : (Jvm.Cond.privateMethod ({ cls := "NeverSaidModel", name := "mayBe", desc := "(III)Z" } : Jvm.MethodName)) ∈ lw_tbl := lw_at lw_m6 193 rfl
theorem q1476 : (Jvm.Cond.instanceMethod ({ cls := "NeverSaidModel", name := "mayBe", desc := "(III)Z" } : Jvm.MethodName)) ∈ lw_all := lw_g (lw_at lw_m6 194 rfl) rfl
theorem q1477 : (Jvm.Cond.code ({ cls := "NeverSaidModel", name := "mayBe", desc := "(III)Z" } : Jvm.MethodName) prog_19_method_39_code (5 : Nat) (Option.some Jvm.ClassFile.FieldType.boolean)) ∈ lw_all := lw_g (lw_at lw_m6 195 rfl) rfl
theorem q1478 : (Jvm.Cond.methodLink "NeverSaidModel" (154 : Nat) ({ cls := "NeverSaidModel", name := "goBy", desc := "(I)I" } : Jvm.MethodName)) ∈ lw_all := lw_g (lw_at lw_m6 196 rfl) rfl
theorem q1479 : (Jvm.Cond.privateMethod ({ cls := "NeverSaidModel", name := "goBy", desc := "(I)I" } : Jvm.MethodName)) ∈ lw_tbl := lw_at lw_m6 197 rfl
theorem q1480 : (Jvm.Cond.instanceMethod ({ cls := "NeverSaidModel", name := "goBy", desc := "(I)I" } : Jvm.MethodName)) ∈ lw_all := lw_g (lw_at lw_m6 198 rfl) rfl
theorem q1481 : (Jvm.Cond.code ({ cls := "NeverSaidModel", name := "goBy", desc := "(I)I" } : Jvm.MethodName) prog_19_method_19_code (2 : Nat) (Option.some Jvm.ClassFile.FieldType.int)) ∈ lw_all := lw_g (lw_at lw_m6 199 rfl) rfl
theorem q1482 : (Jvm.Cond.constant "NeverSaidModel" (160 : Nat) (-1000000002 : Int32)) ∈ lw_all := lw_g (lw_at lw_m6 200 rfl) rfl
theorem q1483 : (Jvm.Cond.methodLink "NeverSaidModel" (161 : Nat) ({ cls := "NeverSaidModel", name := "says", desc := "(II)V" } : Jvm.MethodName)) ∈ lw_all := lw_g (lw_at lw_m6 201 rfl) rfl
theorem q1484 : (Jvm.Cond.privateMethod ({ cls := "NeverSaidModel", name := "says", desc := "(II)V" } : Jvm.MethodName)) ∈ lw_tbl := lw_at lw_m6 202 rfl
theorem q1485 : (Jvm.Cond.instanceMethod ({ cls := "NeverSaidModel", name := "says", desc := "(II)V" } : Jvm.MethodName)) ∈ lw_all := lw_g (lw_at lw_m6 203 rfl) rfl
theorem q1486 : (Jvm.Cond.code ({ cls := "NeverSaidModel", name := "says", desc := "(II)V" } : Jvm.MethodName) prog_19_method_40_code (5 : Nat) (Option.none : Option Jvm.ClassFile.FieldType)) ∈ lw_all := lw_g (lw_at lw_m6 204 rfl) rfl
theorem q1488 : (Jvm.Cond.instanceMethod ({ cls := "NeverSaidModel", name := "choice", desc := "(II)I" } : Jvm.MethodName)) ∈ lw_all := lw_g (lw_at lw_m6 206 rfl) rfl
theorem q1489 : (Jvm.Cond.selects "NeverSaidModel" ({ cls := "NeverSaidModel", name := "choice", desc := "(II)I" } : Jvm.MethodName) ({ cls := "NeverSaidModel", name := "choice", desc := "(II)I" } : Jvm.MethodName)) ∈ lw_all := lw_g (lw_at lw_m6 207 rfl) rfl
theorem q1490 : (Jvm.Cond.code ({ cls := "NeverSaidModel", name := "choice", desc := "(II)I" } : Jvm.MethodName) prog_19_method_45_code (3 : Nat) (Option.some Jvm.ClassFile.FieldType.int)) ∈ lw_all := lw_g (lw_at lw_m6 208 rfl) rfl
theorem q1491 : (Jvm.Cond.methodLink "NeverSaidModel" (171 : Nat) ({ cls := "NeverSaidModel", name := "choiceOf", desc := "(II)I" } : Jvm.MethodName)) ∈ lw_all := lw_g (lw_at lw_m6 209 rfl) rfl
theorem q1492 : (Jvm.Cond.privateMethod ({ cls := "NeverSaidModel", name := "choiceOf", desc := "(II)I" } : Jvm.MethodName)) ∈ lw_tbl := lw_at lw_m6 210 rfl
theorem q1493 : (Jvm.Cond.instanceMethod ({ cls := "NeverSaidModel", name := "choiceOf", desc := "(II)I" } : Jvm.MethodName)) ∈ lw_all := lw_g (lw_at lw_m6 211 rfl) rfl
theorem q1494 : (Jvm.Cond.code ({ cls := "NeverSaidModel", name := "choiceOf", desc := "(II)I" } : Jvm.MethodName) prog_19_method_44_code (7 : Nat) (Option.some Jvm.ClassFile.FieldType.int)) ∈ lw_all := lw_g (lw_at lw_m6 212 rfl) rfl
theorem q1495 : (Jvm.Cond.methodLink "NeverSaidModel" (165 : Nat) ({ cls := "NeverSaidModel", name := "least", desc := "(I)I" } : Jvm.MethodName)) ∈ lw_all := lw_g (lw_at lw_m6 213 rfl) rfl
theorem q1496 : (Jvm.Cond.static ({ cls := "NeverSaidModel", name := "least", desc := "(I)I" } : Jvm.MethodName)) ∈ lw_all := lw_g (lw_at lw_m6 214 rfl) rfl
theorem q1497 : (Jvm.Cond.code ({ cls := "NeverSaidModel", name := "least", desc := "(I)I" } : Jvm.MethodName) prog_19_method_42_code (2 : Nat) (Option.some Jvm.ClassFile.FieldType.int)) ∈ lw_all := lw_g (lw_at lw_m6 215 rfl) rfl
theorem q1498 : (Jvm.Cond.methodLink "NeverSaidModel" (168 : Nat) ({ cls := "NeverSaidModel", name := "greatest", desc := "(I)I" } : Jvm.MethodName)) ∈ lw_all := lw_g (lw_at lw_m6 216 rfl) rfl
theorem q1499 : (Jvm.Cond.static ({ cls := "NeverSaidModel", name := "greatest", desc := "(I)I" } : Jvm.MethodName)) ∈ lw_all := lw_g (lw_at lw_m6 217 rfl) rfl
theorem q1500 : (Jvm.Cond.code ({ cls := "NeverSaidModel", name := "greatest", desc := "(I)I" } : Jvm.MethodName) prog_19_method_43_code (2 : Nat) (Option.some Jvm.ClassFile.FieldType.int)) ∈ lw_all := lw_g (lw_at lw_m6 218 rfl) rfl
theorem q1501 : (Jvm.Cond.methodLink "NeverSaidModel" (174 : Nat) ({ cls := "NeverSaidModel", name := "orNone", desc := "(I)I" } : Jvm.MethodName)) ∈ lw_all := lw_g (lw_at lw_m6 219 rfl) rfl
theorem q1502 : (Jvm.Cond.static ({ cls := "NeverSaidModel", name := "orNone", desc := "(I)I" } : Jvm.MethodName)) ∈ lw_all := lw_g (lw_at lw_m6 220 rfl) rfl
theorem q1503 : (Jvm.Cond.code ({ cls := "NeverSaidModel", name := "orNone", desc := "(I)I" } : Jvm.MethodName) prog_19_method_3_code (1 : Nat) (Option.some Jvm.ClassFile.FieldType.int)) ∈ lw_all := lw_g (lw_at lw_m6 221 rfl) rfl
theorem q1504 : (Jvm.Cond.constant "NeverSaidModel" (64 : Nat) (-1000000005 : Int32)) ∈ lw_all := lw_g (lw_at lw_m6 222 rfl) rfl
theorem q1506 : (Jvm.Cond.instanceMethod ({ cls := "NeverSaidModel", name := "rounds", desc := "(II)I" } : Jvm.MethodName)) ∈ lw_all := lw_g (lw_at lw_m6 224 rfl) rfl
theorem q1507 : (Jvm.Cond.selects "NeverSaidModel" ({ cls := "NeverSaidModel", name := "rounds", desc := "(II)I" } : Jvm.MethodName) ({ cls := "NeverSaidModel", name := "rounds", desc := "(II)I" } : Jvm.MethodName)) ∈ lw_all := lw_g (lw_at lw_m6 225 rfl) rfl
theorem q1508 : (Jvm.Cond.code ({ cls := "NeverSaidModel", name := "rounds", desc := "(II)I" } : Jvm.MethodName) prog_19_method_48_code (5 : Nat) (Option.some Jvm.ClassFile.FieldType.int)) ∈ lw_all := lw_g (lw_at lw_m6 226 rfl) rfl
theorem q1509 : (Jvm.Cond.constantLong "NeverSaidModel" (180 : Nat) (40 : Int64)) ∈ lw_all := lw_g (lw_at lw_m6 227 rfl) rfl
theorem q1510 : (Jvm.Cond.methodLink "NeverSaidModel" (182 : Nat) ({ cls := "NeverSaidModel", name := "rounded", desc := "(I)I" } : Jvm.MethodName)) ∈ lw_all := lw_g (lw_at lw_m6 228 rfl) rfl
theorem q1511 : (Jvm.Cond.privateMethod ({ cls := "NeverSaidModel", name := "rounded", desc := "(I)I" } : Jvm.MethodName)) ∈ lw_tbl := lw_at lw_m6 229 rfl
theorem q1512 : (Jvm.Cond.instanceMethod ({ cls := "NeverSaidModel", name := "rounded", desc := "(I)I" } : Jvm.MethodName)) ∈ lw_all := lw_g (lw_at lw_m6 230 rfl) rfl
theorem q1513 : (Jvm.Cond.code ({ cls := "NeverSaidModel", name := "rounded", desc := "(I)I" } : Jvm.MethodName) prog_19_method_47_code (6 : Nat) (Option.some Jvm.ClassFile.FieldType.int)) ∈ lw_all := lw_g (lw_at lw_m6 231 rfl) rfl
theorem q1514 : (Jvm.Cond.methodLink "NeverSaidModel" (177 : Nat) ({ cls := "NeverSaidModel", name := "boldness", desc := "(II)I" } : Jvm.MethodName)) ∈ lw_all := lw_g (lw_at lw_m6 232 rfl) rfl
theorem q1515 : (Jvm.Cond.privateMethod ({ cls := "NeverSaidModel", name := "boldness", desc := "(II)I" } : Jvm.MethodName)) ∈ lw_tbl := lw_at lw_m6 233 rfl
theorem q1516 : (Jvm.Cond.instanceMethod ({ cls := "NeverSaidModel", name := "boldness", desc := "(II)I" } : Jvm.MethodName)) ∈ lw_all := lw_g (lw_at lw_m6 234 rfl) rfl
theorem q1517 : (Jvm.Cond.code ({ cls := "NeverSaidModel", name := "boldness", desc := "(II)I" } : Jvm.MethodName) prog_19_method_46_code (4 : Nat) (Option.some Jvm.ClassFile.FieldType.int)) ∈ lw_all := lw_g (lw_at lw_m6 235 rfl) rfl
theorem q1519 : (Jvm.Cond.instanceMethod ({ cls := "NeverSaidModel", name := "fewest", desc := "(II)I" } : Jvm.MethodName)) ∈ lw_all := lw_g (lw_at lw_m6 237 rfl) rfl
theorem q1520 : (Jvm.Cond.selects "NeverSaidModel" ({ cls := "NeverSaidModel", name := "fewest", desc := "(II)I" } : Jvm.MethodName) ({ cls := "NeverSaidModel", name := "fewest", desc := "(II)I" } : Jvm.MethodName)) ∈ lw_all := lw_g (lw_at lw_m6 238 rfl) rfl
theorem q1521 : (Jvm.Cond.code ({ cls := "NeverSaidModel", name := "fewest", desc := "(II)I" } : Jvm.MethodName) prog_19_method_49_code (10 : Nat) (Option.some Jvm.ClassFile.FieldType.int)) ∈ lw_all := lw_g (lw_at lw_m6 239 rfl) rfl
theorem q1523 : (Jvm.Cond.instanceMethod ({ cls := "NeverSaidModel", name := "silent", desc := "()I" } : Jvm.MethodName)) ∈ lw_all := lw_g (lw_at lw_m7 1 rfl) rfl
theorem q1524 : (Jvm.Cond.selects "NeverSaidModel" ({ cls := "NeverSaidModel", name := "silent", desc := "()I" } : Jvm.MethodName) ({ cls := "NeverSaidModel", name := "silent", desc := "()I" } : Jvm.MethodName)) ∈ lw_all := lw_g (lw_at lw_m7 2 rfl) rfl
theorem q1525 : (Jvm.Cond.code ({ cls := "NeverSaidModel", name := "silent", desc := "()I" } : Jvm.MethodName) prog_19_method_50_code (3 : Nat) (Option.some Jvm.ClassFile.FieldType.int)) ∈ lw_all := lw_g (lw_at lw_m7 3 rfl) rfl
theorem q1527 : (Jvm.Cond.instanceMethod ({ cls := "NeverSaidModel", name := "meant", desc := "(I)I" } : Jvm.MethodName)) ∈ lw_all := lw_g (lw_at lw_m7 5 rfl) rfl
theorem q1528 : (Jvm.Cond.selects "NeverSaidModel" ({ cls := "NeverSaidModel", name := "meant", desc := "(I)I" } : Jvm.MethodName) ({ cls := "NeverSaidModel", name := "meant", desc := "(I)I" } : Jvm.MethodName)) ∈ lw_all := lw_g (lw_at lw_m7 6 rfl) rfl
theorem q1529 : (Jvm.Cond.code ({ cls := "NeverSaidModel", name := "meant", desc := "(I)I" } : Jvm.MethodName) prog_19_method_51_code (3 : Nat) (Option.some Jvm.ClassFile.FieldType.int)) ∈ lw_all := lw_g (lw_at lw_m7 7 rfl) rfl
theorem q1531 : (Jvm.Cond.instanceMethod ({ cls := "NeverSaidModel", name := "proved", desc := "(I)I" } : Jvm.MethodName)) ∈ lw_all := lw_g (lw_at lw_m7 9 rfl) rfl
theorem q1532 : (Jvm.Cond.selects "NeverSaidModel" ({ cls := "NeverSaidModel", name := "proved", desc := "(I)I" } : Jvm.MethodName) ({ cls := "NeverSaidModel", name := "proved", desc := "(I)I" } : Jvm.MethodName)) ∈ lw_all := lw_g (lw_at lw_m7 10 rfl) rfl
theorem q1533 : (Jvm.Cond.code ({ cls := "NeverSaidModel", name := "proved", desc := "(I)I" } : Jvm.MethodName) prog_19_method_52_code (4 : Nat) (Option.some Jvm.ClassFile.FieldType.int)) ∈ lw_all := lw_g (lw_at lw_m7 11 rfl) rfl
theorem q1535 : (Jvm.Cond.instanceMethod ({ cls := "NeverSaidModel", name := "falls", desc := "(II)J" } : Jvm.MethodName)) ∈ lw_all := lw_g (lw_at lw_m7 13 rfl) rfl
theorem q1536 : (Jvm.Cond.selects "NeverSaidModel" ({ cls := "NeverSaidModel", name := "falls", desc := "(II)J" } : Jvm.MethodName) ({ cls := "NeverSaidModel", name := "falls", desc := "(II)J" } : Jvm.MethodName)) ∈ lw_all := lw_g (lw_at lw_m7 14 rfl) rfl
theorem q1537 : (Jvm.Cond.code ({ cls := "NeverSaidModel", name := "falls", desc := "(II)J" } : Jvm.MethodName) prog_19_method_54_code (7 : Nat) (Option.some Jvm.ClassFile.FieldType.long)) ∈ lw_all := lw_g (lw_at lw_m7 15 rfl) rfl
theorem q1538 : (Jvm.Cond.constantLong "NeverSaidModel" (185 : Nat) (-1000000001 : Int64)) ∈ lw_all := lw_g (lw_at lw_m7 16 rfl) rfl
theorem q1539 : (Jvm.Cond.methodLink "NeverSaidModel" (187 : Nat) ({ cls := "NeverSaidModel", name := "fallsOn", desc := "(I)I" } : Jvm.MethodName)) ∈ lw_all := lw_g (lw_at lw_m7 17 rfl) rfl
theorem q1540 : (Jvm.Cond.privateMethod ({ cls := "NeverSaidModel", name := "fallsOn", desc := "(I)I" } : Jvm.MethodName)) ∈ lw_tbl := lw_at lw_m7 18 rfl
theorem q1541 : (Jvm.Cond.instanceMethod ({ cls := "NeverSaidModel", name := "fallsOn", desc := "(I)I" } : Jvm.MethodName)) ∈ lw_all := lw_g (lw_at lw_m7 19 rfl) rfl
theorem q1542 : (Jvm.Cond.code ({ cls := "NeverSaidModel", name := "fallsOn", desc := "(I)I" } : Jvm.MethodName) prog_19_method_53_code (4 : Nat) (Option.some Jvm.ClassFile.FieldType.int)) ∈ lw_all := lw_g (lw_at lw_m7 20 rfl) rfl
theorem q1544 : (Jvm.Cond.instanceMethod ({ cls := "NeverSaidModel", name := "most", desc := "()I" } : Jvm.MethodName)) ∈ lw_all := lw_g (lw_at lw_m7 22 rfl) rfl
theorem q1545 : (Jvm.Cond.selects "NeverSaidModel" ({ cls := "NeverSaidModel", name := "most", desc := "()I" } : Jvm.MethodName) ({ cls := "NeverSaidModel", name := "most", desc := "()I" } : Jvm.MethodName)) ∈ lw_all := lw_g (lw_at lw_m7 23 rfl) rfl
theorem q1546 : (Jvm.Cond.code ({ cls := "NeverSaidModel", name := "most", desc := "()I" } : Jvm.MethodName) prog_19_method_55_code (3 : Nat) (Option.some Jvm.ClassFile.FieldType.int)) ∈ lw_all := lw_g (lw_at lw_m7 24 rfl) rfl
theorem q1548 : (Jvm.Cond.instanceMethod ({ cls := "NeverSaidModel", name := "feed", desc := "(III)I" } : Jvm.MethodName)) ∈ lw_all := lw_g (lw_at lw_m7 26 rfl) rfl
theorem q1549 : (Jvm.Cond.selects "NeverSaidModel" ({ cls := "NeverSaidModel", name := "feed", desc := "(III)I" } : Jvm.MethodName) ({ cls := "NeverSaidModel", name := "feed", desc := "(III)I" } : Jvm.MethodName)) ∈ lw_all := lw_g (lw_at lw_m7 27 rfl) rfl
theorem q1550 : (Jvm.Cond.code ({ cls := "NeverSaidModel", name := "feed", desc := "(III)I" } : Jvm.MethodName) prog_19_method_56_code (6 : Nat) (Option.some Jvm.ClassFile.FieldType.int)) ∈ lw_all := lw_g (lw_at lw_m7 28 rfl) rfl
theorem q1552 : (Jvm.Cond.instanceMethod ({ cls := "NeverSaidModel", name := "trim", desc := "(I)I" } : Jvm.MethodName)) ∈ lw_all := lw_g (lw_at lw_m7 30 rfl) rfl
theorem q1553 : (Jvm.Cond.selects "NeverSaidModel" ({ cls := "NeverSaidModel", name := "trim", desc := "(I)I" } : Jvm.MethodName) ({ cls := "NeverSaidModel", name := "trim", desc := "(I)I" } : Jvm.MethodName)) ∈ lw_all := lw_g (lw_at lw_m7 31 rfl) rfl
theorem q1554 : (Jvm.Cond.code ({ cls := "NeverSaidModel", name := "trim", desc := "(I)I" } : Jvm.MethodName) prog_19_method_57_code (2 : Nat) (Option.some Jvm.ClassFile.FieldType.int)) ∈ lw_all := lw_g (lw_at lw_m7 32 rfl) rfl
theorem q1556 : (Jvm.Cond.instanceMethod ({ cls := "NeverSaidModel", name := "text", desc := "()I" } : Jvm.MethodName)) ∈ lw_all := lw_g (lw_at lw_m7 34 rfl) rfl
theorem q1557 : (Jvm.Cond.selects "NeverSaidModel" ({ cls := "NeverSaidModel", name := "text", desc := "()I" } : Jvm.MethodName) ({ cls := "NeverSaidModel", name := "text", desc := "()I" } : Jvm.MethodName)) ∈ lw_all := lw_g (lw_at lw_m7 35 rfl) rfl
theorem q1558 : (Jvm.Cond.code ({ cls := "NeverSaidModel", name := "text", desc := "()I" } : Jvm.MethodName) prog_19_method_73_code (3 : Nat) (Option.some Jvm.ClassFile.FieldType.int)) ∈ lw_all := lw_g (lw_at lw_m7 36 rfl) rfl
theorem q1559 : (Jvm.Cond.methodLink "NeverSaidModel" (278 : Nat) ({ cls := "NeverSaidModel", name := "parse", desc := "()I" } : Jvm.MethodName)) ∈ lw_all := lw_g (lw_at lw_m7 37 rfl) rfl
theorem q1560 : (Jvm.Cond.privateMethod ({ cls := "NeverSaidModel", name := "parse", desc := "()I" } : Jvm.MethodName)) ∈ lw_tbl := lw_at lw_m7 38 rfl
theorem q1561 : (Jvm.Cond.instanceMethod ({ cls := "NeverSaidModel", name := "parse", desc := "()I" } : Jvm.MethodName)) ∈ lw_all := lw_g (lw_at lw_m7 39 rfl) rfl
theorem q1562 : (Jvm.Cond.code ({ cls := "NeverSaidModel", name := "parse", desc := "()I" } : Jvm.MethodName) prog_19_method_72_code (3 : Nat) (Option.some Jvm.ClassFile.FieldType.int)) ∈ lw_all := lw_g (lw_at lw_m7 40 rfl) rfl
theorem q1563 : (Jvm.Cond.methodLink "NeverSaidModel" (239 : Nat) ({ cls := "NeverSaidModel", name := "nextToken", desc := "()V" } : Jvm.MethodName)) ∈ lw_all := lw_g (lw_at lw_m7 41 rfl) rfl
theorem q1564 : (Jvm.Cond.privateMethod ({ cls := "NeverSaidModel", name := "nextToken", desc := "()V" } : Jvm.MethodName)) ∈ lw_tbl := lw_at lw_m7 42 rfl
theorem q1565 : (Jvm.Cond.instanceMethod ({ cls := "NeverSaidModel", name := "nextToken", desc := "()V" } : Jvm.MethodName)) ∈ lw_all := lw_g (lw_at lw_m7 43 rfl) rfl
theorem q1566 : (Jvm.Cond.code ({ cls := "NeverSaidModel", name := "nextToken", desc := "()V" } : Jvm.MethodName) prog_19_method_60_code (3 : Nat) (Option.none : Option Jvm.ClassFile.FieldType)) ∈ lw_all := lw_g (lw_at lw_m7 44 rfl) rfl
theorem q1567 : (Jvm.Cond.methodLink "NeverSaidModel" (211 : Nat) ({ cls := "NeverSaidModel", name := "isLetter", desc := "(I)Z" } : Jvm.MethodName)) ∈ lw_all := lw_g (lw_at lw_m7 45 rfl) rfl
theorem q1568 : (Jvm.Cond.privateMethod ({ cls := "NeverSaidModel", name := "isLetter", desc := "(I)Z" } : Jvm.MethodName)) ∈ lw_tbl := lw_at lw_m7 46 rfl
theorem q1569 : (Jvm.Cond.instanceMethod ({ cls := "NeverSaidModel", name := "isLetter", desc := "(I)Z" } : Jvm.MethodName)) ∈ lw_all := lw_g (lw_at lw_m7 47 rfl) rfl
theorem q1570 : (Jvm.Cond.code ({ cls := "NeverSaidModel", name := "isLetter", desc := "(I)Z" } : Jvm.MethodName) prog_19_method_58_code (2 : Nat) (Option.some Jvm.ClassFile.FieldType.boolean)) ∈ lw_all := lw_g (lw_at lw_m7 48 rfl) rfl
theorem q1571 : (Jvm.Cond.constantLong "NeverSaidModel" (194 : Nat) (97 : Int64)) ∈ lw_all := lw_g (lw_at lw_m7 49 rfl) rfl
theorem q1572 : (Jvm.Cond.constantLong "NeverSaidModel" (196 : Nat) (122 : Int64)) ∈ lw_all := lw_g (lw_at lw_m7 50 rfl) rfl
theorem q1573 : (Jvm.Cond.methodLink "NeverSaidModel" (217 : Nat) ({ cls := "NeverSaidModel", name := "isDigit", desc := "(I)Z" } : Jvm.MethodName)) ∈ lw_all := lw_g (lw_at lw_m7 51 rfl) rfl
theorem q1574 : (Jvm.Cond.privateMethod ({ cls := "NeverSaidModel", name := "isDigit", desc := "(I)Z" } : Jvm.MethodName)) ∈ lw_tbl := lw_at lw_m7 52 rfl
theorem q1575 : (Jvm.Cond.instanceMethod ({ cls := "NeverSaidModel", name := "isDigit", desc := "(I)Z" } : Jvm.MethodName)) ∈ lw_all := lw_g (lw_at lw_m7 53 rfl) rfl
theorem q1576 : (Jvm.Cond.code ({ cls := "NeverSaidModel", name := "isDigit", desc := "(I)Z" } : Jvm.MethodName) prog_19_method_59_code (2 : Nat) (Option.some Jvm.ClassFile.FieldType.boolean)) ∈ lw_all := lw_g (lw_at lw_m7 54 rfl) rfl
theorem q1577 : (Jvm.Cond.constantLong "NeverSaidModel" (198 : Nat) (48 : Int64)) ∈ lw_all := lw_g (lw_at lw_m7 55 rfl) rfl
theorem q1578 : (Jvm.Cond.constantLong "NeverSaidModel" (200 : Nat) (57 : Int64)) ∈ lw_all := lw_g (lw_at lw_m7 56 rfl) rfl
theorem q1579 : (Jvm.Cond.methodLink "NeverSaidModel" (275 : Nat) ({ cls := "NeverSaidModel", name := "key", desc := "()I" } : Jvm.MethodName)) ∈ lw_all := lw_g (lw_at lw_m7 57 rfl) rfl
theorem q1580 : (Jvm.Cond.privateMethod ({ cls := "NeverSaidModel", name := "key", desc := "()I" } : Jvm.MethodName)) ∈ lw_tbl := lw_at lw_m7 58 rfl
theorem q1581 : (Jvm.Cond.instanceMethod ({ cls := "NeverSaidModel", name := "key", desc := "()I" } : Jvm.MethodName)) ∈ lw_all := lw_g (lw_at lw_m7 59 rfl) rfl
theorem q1582 : (Jvm.Cond.code ({ cls := "NeverSaidModel", name := "key", desc := "()I" } : Jvm.MethodName) prog_19_method_63_code (1 : Nat) (Option.some Jvm.ClassFile.FieldType.int)) ∈ lw_all := lw_g (lw_at lw_m7 60 rfl) rfl
theorem q1583 : (Jvm.Cond.methodLink "NeverSaidModel" (223 : Nat) ({ cls := "NeverSaidModel", name := "isWordAt", desc := "(IIII)Z" } : Jvm.MethodName)) ∈ lw_all := lw_g (lw_at lw_m7 61 rfl) rfl
theorem q1584 : (Jvm.Cond.privateMethod ({ cls := "NeverSaidModel", name := "isWordAt", desc := "(IIII)Z" } : Jvm.MethodName)) ∈ lw_tbl := lw_at lw_m7 62 rfl
theorem q1585 : (Jvm.Cond.instanceMethod ({ cls := "NeverSaidModel", name := "isWordAt", desc := "(IIII)Z" } : Jvm.MethodName)) ∈ lw_all := lw_g (lw_at lw_m7 63 rfl) rfl
theorem q1586 : (Jvm.Cond.code ({ cls := "NeverSaidModel", name := "isWordAt", desc := "(IIII)Z" } : Jvm.MethodName) prog_19_method_62_code (6 : Nat) (Option.some Jvm.ClassFile.FieldType.boolean)) ∈ lw_all := lw_g (lw_at lw_m7 64 rfl) rfl
theorem q1587 : (Jvm.Cond.methodLink "NeverSaidModel" (269 : Nat) ({ cls := "NeverSaidModel", name := "either", desc := "(I)Z" } : Jvm.MethodName)) ∈ lw_all := lw_g (lw_at lw_m7 65 rfl) rfl
theorem q1588 : (Jvm.Cond.privateMethod ({ cls := "NeverSaidModel", name := "either", desc := "(I)Z" } : Jvm.MethodName)) ∈ lw_tbl := lw_at lw_m7 66 rfl
theorem q1589 : (Jvm.Cond.instanceMethod ({ cls := "NeverSaidModel", name := "either", desc := "(I)Z" } : Jvm.MethodName)) ∈ lw_all := lw_g (lw_at lw_m7 67 rfl) rfl
theorem q1590 : (Jvm.Cond.code ({ cls := "NeverSaidModel", name := "either", desc := "(I)Z" } : Jvm.MethodName) prog_19_method_66_code (2 : Nat) (Option.some Jvm.ClassFile.FieldType.boolean)) ∈ lw_all := lw_g (lw_at lw_m7 68 rfl) rfl
theorem q1591 : (Jvm.Cond.methodLink "NeverSaidModel" (233 : Nat) ({ cls := "NeverSaidModel", name := "both", desc := "(I)Z" } : Jvm.MethodName)) ∈ lw_all := lw_g (lw_at lw_m7 69 rfl) rfl
theorem q1592 : (Jvm.Cond.privateMethod ({ cls := "NeverSaidModel", name := "both", desc := "(I)Z" } : Jvm.MethodName)) ∈ lw_tbl := lw_at lw_m7 70 rfl
theorem q1593 : (Jvm.Cond.instanceMethod ({ cls := "NeverSaidModel", name := "both", desc := "(I)Z" } : Jvm.MethodName)) ∈ lw_all := lw_g (lw_at lw_m7 71 rfl) rfl
theorem q1594 : (Jvm.Cond.code ({ cls := "NeverSaidModel", name := "both", desc := "(I)Z" } : Jvm.MethodName) prog_19_method_67_code (2 : Nat) (Option.some Jvm.ClassFile.FieldType.boolean)) ∈ lw_all := lw_g (lw_at lw_m7 72 rfl) rfl
theorem q1595 : (Jvm.Cond.methodLink "NeverSaidModel" (245 : Nat) ({ cls := "NeverSaidModel", name := "test", desc := "(I)Z" } : Jvm.MethodName)) ∈ lw_all := lw_g (lw_at lw_m7 73 rfl) rfl
theorem q1596 : (Jvm.Cond.privateMethod ({ cls := "NeverSaidModel", name := "test", desc := "(I)Z" } : Jvm.MethodName)) ∈ lw_tbl := lw_at lw_m7 74 rfl
theorem q1597 : (Jvm.Cond.instanceMethod ({ cls := "NeverSaidModel", name := "test", desc := "(I)Z" } : Jvm.MethodName)) ∈ lw_all := lw_g (lw_at lw_m7 75 rfl) rfl
theorem q1598 : (Jvm.Cond.code ({ cls := "NeverSaidModel", name := "test", desc := "(I)Z" } : Jvm.MethodName) prog_19_method_68_code (3 : Nat) (Option.some Jvm.ClassFile.FieldType.boolean)) ∈ lw_all := lw_g (lw_at lw_m7 76 rfl) rfl
theorem q1599 : (Jvm.Cond.methodLink "NeverSaidModel" (248 : Nat) ({ cls := "NeverSaidModel", name := "sum", desc := "(I)Z" } : Jvm.MethodName)) ∈ lw_all := lw_g (lw_at lw_m7 77 rfl) rfl
theorem q1600 : (Jvm.Cond.privateMethod ({ cls := "NeverSaidModel", name := "sum", desc := "(I)Z" } : Jvm.MethodName)) ∈ lw_tbl := lw_at lw_m7 78 rfl
theorem q1601 : (Jvm.Cond.instanceMethod ({ cls := "NeverSaidModel", name := "sum", desc := "(I)Z" } : Jvm.MethodName)) ∈ lw_all := lw_g (lw_at lw_m7 79 rfl) rfl
theorem q1602 : (Jvm.Cond.code ({ cls := "NeverSaidModel", name := "sum", desc := "(I)Z" } : Jvm.MethodName) prog_19_method_69_code (3 : Nat) (Option.some Jvm.ClassFile.FieldType.boolean)) ∈ lw_all := lw_g (lw_at lw_m7 80 rfl) rfl
theorem q1603 : (Jvm.Cond.methodLink "NeverSaidModel" (251 : Nat) ({ cls := "NeverSaidModel", name := "term", desc := "(I)Z" } : Jvm.MethodName)) ∈ lw_all := lw_g (lw_at lw_m7 81 rfl) rfl
theorem q1604 : (Jvm.Cond.privateMethod ({ cls := "NeverSaidModel", name := "term", desc := "(I)Z" } : Jvm.MethodName)) ∈ lw_tbl := lw_at lw_m7 82 rfl
theorem q1605 : (Jvm.Cond.instanceMethod ({ cls := "NeverSaidModel", name := "term", desc := "(I)Z" } : Jvm.MethodName)) ∈ lw_all := lw_g (lw_at lw_m7 83 rfl) rfl
theorem q1606 : (Jvm.Cond.code ({ cls := "NeverSaidModel", name := "term", desc := "(I)Z" } : Jvm.MethodName) prog_19_method_70_code (3 : Nat) (Option.some Jvm.ClassFile.FieldType.boolean)) ∈ lw_all := lw_g (lw_at lw_m7 84 rfl) rfl
theorem q1607 : (Jvm.Cond.methodLink "NeverSaidModel" (254 : Nat) ({ cls := "NeverSaidModel", name := "part0", desc := "(I)Z" } : Jvm.MethodName)) ∈ lw_all := lw_g (lw_at lw_m7 85 rfl) rfl
theorem q1608 : (Jvm.Cond.privateMethod ({ cls := "NeverSaidModel", name := "part0", desc := "(I)Z" } : Jvm.MethodName)) ∈ lw_tbl := lw_at lw_m7 86 rfl
theorem q1609 : (Jvm.Cond.instanceMethod ({ cls := "NeverSaidModel", name := "part0", desc := "(I)Z" } : Jvm.MethodName)) ∈ lw_all := lw_g (lw_at lw_m7 87 rfl) rfl
theorem q1610 : (Jvm.Cond.code ({ cls := "NeverSaidModel", name := "part0", desc := "(I)Z" } : Jvm.MethodName) prog_19_method_71_code (2 : Nat) (Option.some Jvm.ClassFile.FieldType.boolean)) ∈ lw_all := lw_g (lw_at lw_m7 88 rfl) rfl
theorem q1611 : (Jvm.Cond.methodLink "NeverSaidModel" (242 : Nat) ({ cls := "NeverSaidModel", name := "step", desc := "(II)V" } : Jvm.MethodName)) ∈ lw_all := lw_g (lw_at lw_m7 89 rfl) rfl
theorem q1612 : (Jvm.Cond.privateMethod ({ cls := "NeverSaidModel", name := "step", desc := "(II)V" } : Jvm.MethodName)) ∈ lw_tbl := lw_at lw_m7 90 rfl
theorem q1613 : (Jvm.Cond.instanceMethod ({ cls := "NeverSaidModel", name := "step", desc := "(II)V" } : Jvm.MethodName)) ∈ lw_all := lw_g (lw_at lw_m7 91 rfl) rfl
theorem q1614 : (Jvm.Cond.code ({ cls := "NeverSaidModel", name := "step", desc := "(II)V" } : Jvm.MethodName) prog_19_method_65_code (3 : Nat) (Option.none : Option Jvm.ClassFile.FieldType)) ∈ lw_all := lw_g (lw_at lw_m7 92 rfl) rfl
theorem q1615 : (Jvm.Cond.methodLink "NeverSaidModel" (260 : Nat) ({ cls := "NeverSaidModel", name := "isName", desc := "(II)Z" } : Jvm.MethodName)) ∈ lw_all := lw_g (lw_at lw_m7 93 rfl) rfl
theorem q1616 : (Jvm.Cond.static ({ cls := "NeverSaidModel", name := "isName", desc := "(II)Z" } : Jvm.MethodName)) ∈ lw_all := lw_g (lw_at lw_m7 94 rfl) rfl
theorem q1617 : (Jvm.Cond.code ({ cls := "NeverSaidModel", name := "isName", desc := "(II)Z" } : Jvm.MethodName) prog_19_method_64_code (2 : Nat) (Option.some Jvm.ClassFile.FieldType.boolean)) ∈ lw_all := lw_g (lw_at lw_m7 95 rfl) rfl
theorem q1618 : (Jvm.Cond.methodLink "NeverSaidModel" (236 : Nat) ({ cls := "NeverSaidModel", name := "isSign", desc := "(I)Z" } : Jvm.MethodName)) ∈ lw_all := lw_g (lw_at lw_m7 96 rfl) rfl
theorem q1619 : (Jvm.Cond.privateMethod ({ cls := "NeverSaidModel", name := "isSign", desc := "(I)Z" } : Jvm.MethodName)) ∈ lw_tbl := lw_at lw_m7 97 rfl
theorem q1620 : (Jvm.Cond.instanceMethod ({ cls := "NeverSaidModel", name := "isSign", desc := "(I)Z" } : Jvm.MethodName)) ∈ lw_all := lw_g (lw_at lw_m7 98 rfl) rfl
theorem q1621 : (Jvm.Cond.code ({ cls := "NeverSaidModel", name := "isSign", desc := "(I)Z" } : Jvm.MethodName) prog_19_method_61_code (2 : Nat) (Option.some Jvm.ClassFile.FieldType.boolean)) ∈ lw_all := lw_g (lw_at lw_m7 99 rfl) rfl
theorem q1623 : (Jvm.Cond.instanceMethod ({ cls := "NeverSaidModel", name := "textTold", desc := "(II)I" } : Jvm.MethodName)) ∈ lw_all := lw_g (lw_at lw_m7 101 rfl) rfl
theorem q1624 : (Jvm.Cond.selects "NeverSaidModel" ({ cls := "NeverSaidModel", name := "textTold", desc := "(II)I" } : Jvm.MethodName) ({ cls := "NeverSaidModel", name := "textTold", desc := "(II)I" } : Jvm.MethodName)) ∈ lw_all := lw_g (lw_at lw_m7 102 rfl) rfl
theorem q1625 : (Jvm.Cond.code ({ cls := "NeverSaidModel", name := "textTold", desc := "(II)I" } : Jvm.MethodName) prog_19_method_74_code (3 : Nat) (Option.some Jvm.ClassFile.FieldType.int)) ∈ lw_all := lw_g (lw_at lw_m7 103 rfl) rfl
theorem q1626 : (Jvm.Cond.methodLink "NeverSaidModel" (281 : Nat) ({ cls := "NeverSaidModel", name := "isText", desc := "(I)Z" } : Jvm.MethodName)) ∈ lw_all := lw_g (lw_at lw_m7 104 rfl) rfl
theorem q1627 : (Jvm.Cond.privateMethod ({ cls := "NeverSaidModel", name := "isText", desc := "(I)Z" } : Jvm.MethodName)) ∈ lw_tbl := lw_at lw_m7 105 rfl
theorem q1628 : (Jvm.Cond.instanceMethod ({ cls := "NeverSaidModel", name := "isText", desc := "(I)Z" } : Jvm.MethodName)) ∈ lw_all := lw_g (lw_at lw_m7 106 rfl) rfl
theorem q1629 : (Jvm.Cond.code ({ cls := "NeverSaidModel", name := "isText", desc := "(I)Z" } : Jvm.MethodName) prog_19_method_11_code (2 : Nat) (Option.some Jvm.ClassFile.FieldType.boolean)) ∈ lw_all := lw_g (lw_at lw_m7 107 rfl) rfl
theorem q1631 : (Jvm.Cond.instanceMethod ({ cls := "NeverSaidModel", name := "why", desc := "(I)I" } : Jvm.MethodName)) ∈ lw_all := lw_g (lw_at lw_m7 109 rfl) rfl
theorem q1632 : (Jvm.Cond.selects "NeverSaidModel" ({ cls := "NeverSaidModel", name := "why", desc := "(I)I" } : Jvm.MethodName) ({ cls := "NeverSaidModel", name := "why", desc := "(I)I" } : Jvm.MethodName)) ∈ lw_all := lw_g (lw_at lw_m7 110 rfl) rfl
theorem q1633 : (Jvm.Cond.code ({ cls := "NeverSaidModel", name := "why", desc := "(I)I" } : Jvm.MethodName) prog_19_method_76_code (2 : Nat) (Option.some Jvm.ClassFile.FieldType.int)) ∈ lw_all := lw_g (lw_at lw_m7 111 rfl) rfl
theorem q1634 : (Jvm.Cond.constantLong "NeverSaidModel" (284 : Nat) (2 : Int64)) ∈ lw_all := lw_g (lw_at lw_m7 112 rfl) rfl
theorem q1636 : (Jvm.Cond.instanceMethod ({ cls := "NeverSaidModel", name := "sheet", desc := "(III)I" } : Jvm.MethodName)) ∈ lw_all := lw_g (lw_at lw_m7 114 rfl) rfl
theorem q1637 : (Jvm.Cond.selects "NeverSaidModel" ({ cls := "NeverSaidModel", name := "sheet", desc := "(III)I" } : Jvm.MethodName) ({ cls := "NeverSaidModel", name := "sheet", desc := "(III)I" } : Jvm.MethodName)) ∈ lw_all := lw_g (lw_at lw_m7 115 rfl) rfl
theorem q1638 : (Jvm.Cond.code ({ cls := "NeverSaidModel", name := "sheet", desc := "(III)I" } : Jvm.MethodName) prog_19_method_80_code (5 : Nat) (Option.some Jvm.ClassFile.FieldType.int)) ∈ lw_all := lw_g (lw_at lw_m7 116 rfl) rfl
theorem q1639 : (Jvm.Cond.methodLink "NeverSaidModel" (291 : Nat) ({ cls := "NeverSaidModel", name := "isSheet", desc := "(I)Z" } : Jvm.MethodName)) ∈ lw_all := lw_g (lw_at lw_m7 117 rfl) rfl
theorem q1640 : (Jvm.Cond.static ({ cls := "NeverSaidModel", name := "isSheet", desc := "(I)Z" } : Jvm.MethodName)) ∈ lw_all := lw_g (lw_at lw_m7 118 rfl) rfl
theorem q1641 : (Jvm.Cond.code ({ cls := "NeverSaidModel", name := "isSheet", desc := "(I)Z" } : Jvm.MethodName) prog_19_method_79_code (1 : Nat) (Option.some Jvm.ClassFile.FieldType.boolean)) ∈ lw_all := lw_g (lw_at lw_m7 119 rfl) rfl
theorem q1642 : (Jvm.Cond.constantLong "NeverSaidModel" (289 : Nat) (3 : Int64)) ∈ lw_all := lw_g (lw_at lw_m7 120 rfl) rfl
theorem q1643 : (Jvm.Cond.constantLong "NeverSaidModel" (294 : Nat) (-1 : Int64)) ∈ lw_all := lw_g (lw_at lw_m7 121 rfl) rfl
theorem q1644 : (Jvm.Cond.constant "NeverSaidModel" (296 : Nat) (-1000000014 : Int32)) ∈ lw_all := lw_g (lw_at lw_m7 122 rfl) rfl
theorem q1646 : (Jvm.Cond.instanceMethod ({ cls := "NeverSaidModel", name := "mark", desc := "(III)I" } : Jvm.MethodName)) ∈ lw_all := lw_g (lw_at lw_m7 124 rfl) rfl
theorem q1647 : (Jvm.Cond.selects "NeverSaidModel" ({ cls := "NeverSaidModel", name := "mark", desc := "(III)I" } : Jvm.MethodName) ({ cls := "NeverSaidModel", name := "mark", desc := "(III)I" } : Jvm.MethodName)) ∈ lw_all := lw_g (lw_at lw_m7 125 rfl) rfl
theorem q1648 : (Jvm.Cond.code ({ cls := "NeverSaidModel", name := "mark", desc := "(III)I" } : Jvm.MethodName) prog_19_method_81_code (4 : Nat) (Option.some Jvm.ClassFile.FieldType.int)) ∈ lw_all := lw_g (lw_at lw_m7 126 rfl) rfl
theorem q1649 : (Jvm.Cond.constant "NeverSaidModel" (297 : Nat) (-1000000011 : Int32)) ∈ lw_all := lw_g (lw_at lw_m7 127 rfl) rfl
theorem q1650 : (Jvm.Cond.constant "NeverSaidModel" (298 : Nat) (-1000000013 : Int32)) ∈ lw_all := lw_g (lw_at lw_m7 128 rfl) rfl
theorem q1651 : (Jvm.Cond.constantLong "NeverSaidModel" (299 : Nat) (-99999 : Int64)) ∈ lw_all := lw_g (lw_at lw_m7 129 rfl) rfl
theorem q1652 : (Jvm.Cond.constantLong "NeverSaidModel" (301 : Nat) (99999 : Int64)) ∈ lw_all := lw_g (lw_at lw_m7 130 rfl) rfl
theorem q1654 : (Jvm.Cond.instanceMethod ({ cls := "NeverSaidModel", name := "pour", desc := "(I)I" } : Jvm.MethodName)) ∈ lw_all := lw_g (lw_at lw_m7 132 rfl) rfl
theorem q1655 : (Jvm.Cond.selects "NeverSaidModel" ({ cls := "NeverSaidModel", name := "pour", desc := "(I)I" } : Jvm.MethodName) ({ cls := "NeverSaidModel", name := "pour", desc := "(I)I" } : Jvm.MethodName)) ∈ lw_all := lw_g (lw_at lw_m7 133 rfl) rfl
theorem q1656 : (Jvm.Cond.code ({ cls := "NeverSaidModel", name := "pour", desc := "(I)I" } : Jvm.MethodName) prog_19_method_82_code (7 : Nat) (Option.some Jvm.ClassFile.FieldType.int)) ∈ lw_all := lw_g (lw_at lw_m7 134 rfl) rfl
theorem q1658 : (Jvm.Cond.instanceMethod ({ cls := "NeverSaidModel", name := "reads", desc := "(I)I" } : Jvm.MethodName)) ∈ lw_all := lw_g (lw_at lw_m7 136 rfl) rfl
theorem q1659 : (Jvm.Cond.selects "NeverSaidModel" ({ cls := "NeverSaidModel", name := "reads", desc := "(I)I" } : Jvm.MethodName) ({ cls := "NeverSaidModel", name := "reads", desc := "(I)I" } : Jvm.MethodName)) ∈ lw_all := lw_g (lw_at lw_m7 137 rfl) rfl
theorem q1660 : (Jvm.Cond.code ({ cls := "NeverSaidModel", name := "reads", desc := "(I)I" } : Jvm.MethodName) prog_19_method_83_code (4 : Nat) (Option.some Jvm.ClassFile.FieldType.int)) ∈ lw_all := lw_g (lw_at lw_m7 138 rfl) rfl
theorem q1662 : (Jvm.Cond.instanceMethod ({ cls := "NeverSaidModel", name := "copy", desc := "(IIIII)I" } : Jvm.MethodName)) ∈ lw_all := lw_g (lw_at lw_m7 140 rfl) rfl
theorem q1663 : (Jvm.Cond.selects "NeverSaidModel" ({ cls := "NeverSaidModel", name := "copy", desc := "(IIIII)I" } : Jvm.MethodName) ({ cls := "NeverSaidModel", name := "copy", desc := "(IIIII)I" } : Jvm.MethodName)) ∈ lw_all := lw_g (lw_at lw_m7 141 rfl) rfl
theorem q1664 : (Jvm.Cond.code ({ cls := "NeverSaidModel", name := "copy", desc := "(IIIII)I" } : Jvm.MethodName) prog_19_method_84_code (7 : Nat) (Option.some Jvm.ClassFile.FieldType.int)) ∈ lw_all := lw_g (lw_at lw_m7 142 rfl) rfl
theorem q1666 : (Jvm.Cond.instanceMethod ({ cls := "NeverSaidModel", name := "lay", desc := "(III)I" } : Jvm.MethodName)) ∈ lw_all := lw_g (lw_at lw_m7 144 rfl) rfl
theorem q1667 : (Jvm.Cond.selects "NeverSaidModel" ({ cls := "NeverSaidModel", name := "lay", desc := "(III)I" } : Jvm.MethodName) ({ cls := "NeverSaidModel", name := "lay", desc := "(III)I" } : Jvm.MethodName)) ∈ lw_all := lw_g (lw_at lw_m7 145 rfl) rfl
theorem q1668 : (Jvm.Cond.code ({ cls := "NeverSaidModel", name := "lay", desc := "(III)I" } : Jvm.MethodName) prog_19_method_86_code (7 : Nat) (Option.some Jvm.ClassFile.FieldType.int)) ∈ lw_all := lw_g (lw_at lw_m7 146 rfl) rfl
theorem q1669 : (Jvm.Cond.methodLink "NeverSaidModel" (303 : Nat) ({ cls := "NeverSaidModel", name := "isSlot", desc := "(I)Z" } : Jvm.MethodName)) ∈ lw_all := lw_g (lw_at lw_m7 147 rfl) rfl
theorem q1670 : (Jvm.Cond.static ({ cls := "NeverSaidModel", name := "isSlot", desc := "(I)Z" } : Jvm.MethodName)) ∈ lw_all := lw_g (lw_at lw_m7 148 rfl) rfl
theorem q1671 : (Jvm.Cond.code ({ cls := "NeverSaidModel", name := "isSlot", desc := "(I)Z" } : Jvm.MethodName) prog_19_method_85_code (1 : Nat) (Option.some Jvm.ClassFile.FieldType.boolean)) ∈ lw_all := lw_g (lw_at lw_m7 149 rfl) rfl
theorem q1673 : (Jvm.Cond.instanceMethod ({ cls := "NeverSaidModel", name := "ask", desc := "(II)I" } : Jvm.MethodName)) ∈ lw_all := lw_g (lw_at lw_m7 151 rfl) rfl
theorem q1674 : (Jvm.Cond.selects "NeverSaidModel" ({ cls := "NeverSaidModel", name := "ask", desc := "(II)I" } : Jvm.MethodName) ({ cls := "NeverSaidModel", name := "ask", desc := "(II)I" } : Jvm.MethodName)) ∈ lw_all := lw_g (lw_at lw_m7 152 rfl) rfl
theorem q1675 : (Jvm.Cond.code ({ cls := "NeverSaidModel", name := "ask", desc := "(II)I" } : Jvm.MethodName) prog_19_method_87_code (3 : Nat) (Option.some Jvm.ClassFile.FieldType.int)) ∈ lw_all := lw_g (lw_at lw_m7 153 rfl) rfl
theorem q1677 : (Jvm.Cond.instanceMethod ({ cls := "NeverSaidModel", name := "item", desc := "(II)I" } : Jvm.MethodName)) ∈ lw_all := lw_g (lw_at lw_m7 155 rfl) rfl
theorem q1678 : (Jvm.Cond.selects "NeverSaidModel" ({ cls := "NeverSaidModel", name := "item", desc := "(II)I" } : Jvm.MethodName) ({ cls := "NeverSaidModel", name := "item", desc := "(II)I" } : Jvm.MethodName)) ∈ lw_all := lw_g (lw_at lw_m7 156 rfl) rfl
theorem q1679 : (Jvm.Cond.code ({ cls := "NeverSaidModel", name := "item", desc := "(II)I" } : Jvm.MethodName) prog_19_method_88_code (4 : Nat) (Option.some Jvm.ClassFile.FieldType.int)) ∈ lw_all := lw_g (lw_at lw_m7 157 rfl) rfl
theorem q1681 : (Jvm.Cond.instanceMethod ({ cls := "NeverSaidModel", name := "rest", desc := "(II)I" } : Jvm.MethodName)) ∈ lw_all := lw_g (lw_at lw_m7 159 rfl) rfl
theorem q1682 : (Jvm.Cond.selects "NeverSaidModel" ({ cls := "NeverSaidModel", name := "rest", desc := "(II)I" } : Jvm.MethodName) ({ cls := "NeverSaidModel", name := "rest", desc := "(II)I" } : Jvm.MethodName)) ∈ lw_all := lw_g (lw_at lw_m7 160 rfl) rfl
theorem q1683 : (Jvm.Cond.code ({ cls := "NeverSaidModel", name := "rest", desc := "(II)I" } : Jvm.MethodName) prog_19_method_89_code (3 : Nat) (Option.some Jvm.ClassFile.FieldType.int)) ∈ lw_all := lw_g (lw_at lw_m7 161 rfl) rfl
theorem q1685 : (Jvm.Cond.instanceMethod ({ cls := "NeverSaidModel", name := "tell", desc := "(I)I" } : Jvm.MethodName)) ∈ lw_all := lw_g (lw_at lw_m7 163 rfl) rfl
theorem q1686 : (Jvm.Cond.selects "NeverSaidModel" ({ cls := "NeverSaidModel", name := "tell", desc := "(I)I" } : Jvm.MethodName) ({ cls := "NeverSaidModel", name := "tell", desc := "(I)I" } : Jvm.MethodName)) ∈ lw_all := lw_g (lw_at lw_m7 164 rfl) rfl
theorem q1687 : (Jvm.Cond.code ({ cls := "NeverSaidModel", name := "tell", desc := "(I)I" } : Jvm.MethodName) prog_19_method_90_code (2 : Nat) (Option.some Jvm.ClassFile.FieldType.int)) ∈ lw_all := lw_g (lw_at lw_m7 165 rfl) rfl
theorem q1689 : (Jvm.Cond.instanceMethod ({ cls := "NeverSaidModel", name := "check", desc := "(II)I" } : Jvm.MethodName)) ∈ lw_all := lw_g (lw_at lw_m7 167 rfl) rfl
theorem q1690 : (Jvm.Cond.selects "NeverSaidModel" ({ cls := "NeverSaidModel", name := "check", desc := "(II)I" } : Jvm.MethodName) ({ cls := "NeverSaidModel", name := "check", desc := "(II)I" } : Jvm.MethodName)) ∈ lw_all := lw_g (lw_at lw_m7 168 rfl) rfl
theorem q1691 : (Jvm.Cond.code ({ cls := "NeverSaidModel", name := "check", desc := "(II)I" } : Jvm.MethodName) prog_19_method_92_code (6 : Nat) (Option.some Jvm.ClassFile.FieldType.int)) ∈ lw_all := lw_g (lw_at lw_m7 169 rfl) rfl
theorem q1692 : (Jvm.Cond.constantLong "NeverSaidModel" (309 : Nat) (30 : Int64)) ∈ lw_all := lw_g (lw_at lw_m7 170 rfl) rfl
theorem q1693 : (Jvm.Cond.methodLink "NeverSaidModel" (315 : Nat) ({ cls := "NeverSaidModel", name := "setAside", desc := "([I[I)V" } : Jvm.MethodName)) ∈ lw_all := lw_g (lw_at lw_m7 171 rfl) rfl
theorem q1694 : (Jvm.Cond.privateMethod ({ cls := "NeverSaidModel", name := "setAside", desc := "([I[I)V" } : Jvm.MethodName)) ∈ lw_tbl := lw_at lw_m7 172 rfl
theorem q1695 : (Jvm.Cond.instanceMethod ({ cls := "NeverSaidModel", name := "setAside", desc := "([I[I)V" } : Jvm.MethodName)) ∈ lw_all := lw_g (lw_at lw_m7 173 rfl) rfl
theorem q1696 : (Jvm.Cond.code ({ cls := "NeverSaidModel", name := "setAside", desc := "([I[I)V" } : Jvm.MethodName) prog_19_method_91_code (4 : Nat) (Option.none : Option Jvm.ClassFile.FieldType)) ∈ lw_all := lw_g (lw_at lw_m7 174 rfl) rfl
theorem q1698 : (Jvm.Cond.instanceMethod ({ cls := "NeverSaidModel", name := "keep", desc := "()I" } : Jvm.MethodName)) ∈ lw_all := lw_g (lw_at lw_m7 176 rfl) rfl
theorem q1699 : (Jvm.Cond.selects "NeverSaidModel" ({ cls := "NeverSaidModel", name := "keep", desc := "()I" } : Jvm.MethodName) ({ cls := "NeverSaidModel", name := "keep", desc := "()I" } : Jvm.MethodName)) ∈ lw_all := lw_g (lw_at lw_m7 177 rfl) rfl
theorem q1700 : (Jvm.Cond.code ({ cls := "NeverSaidModel", name := "keep", desc := "()I" } : Jvm.MethodName) prog_19_method_93_code (1 : Nat) (Option.some Jvm.ClassFile.FieldType.int)) ∈ lw_all := lw_g (lw_at lw_m7 178 rfl) rfl
theorem q1702 : (Jvm.Cond.instanceMethod ({ cls := "NeverSaidModel", name := "back", desc := "()I" } : Jvm.MethodName)) ∈ lw_all := lw_g (lw_at lw_m7 180 rfl) rfl
theorem q1703 : (Jvm.Cond.selects "NeverSaidModel" ({ cls := "NeverSaidModel", name := "back", desc := "()I" } : Jvm.MethodName) ({ cls := "NeverSaidModel", name := "back", desc := "()I" } : Jvm.MethodName)) ∈ lw_all := lw_g (lw_at lw_m7 181 rfl) rfl
theorem q1704 : (Jvm.Cond.code ({ cls := "NeverSaidModel", name := "back", desc := "()I" } : Jvm.MethodName) prog_19_method_94_code (1 : Nat) (Option.some Jvm.ClassFile.FieldType.int)) ∈ lw_all := lw_g (lw_at lw_m7 182 rfl) rfl
theorem q1706 : (Jvm.Cond.instanceMethod ({ cls := "NeverSaidModel", name := "count", desc := "(I)I" } : Jvm.MethodName)) ∈ lw_all := lw_g (lw_at lw_m7 184 rfl) rfl
theorem q1707 : (Jvm.Cond.selects "NeverSaidModel" ({ cls := "NeverSaidModel", name := "count", desc := "(I)I" } : Jvm.MethodName) ({ cls := "NeverSaidModel", name := "count", desc := "(I)I" } : Jvm.MethodName)) ∈ lw_all := lw_g (lw_at lw_m7 185 rfl) rfl
theorem q1708 : (Jvm.Cond.code ({ cls := "NeverSaidModel", name := "count", desc := "(I)I" } : Jvm.MethodName) prog_19_method_96_code (2 : Nat) (Option.some Jvm.ClassFile.FieldType.int)) ∈ lw_all := lw_g (lw_at lw_m7 186 rfl) rfl
theorem q1709 : (Jvm.Cond.methodLink "NeverSaidModel" (319 : Nat) ({ cls := "NeverSaidModel", name := "ofAll", desc := "(I)I" } : Jvm.MethodName)) ∈ lw_all := lw_g (lw_at lw_m7 187 rfl) rfl
theorem q1710 : (Jvm.Cond.privateMethod ({ cls := "NeverSaidModel", name := "ofAll", desc := "(I)I" } : Jvm.MethodName)) ∈ lw_tbl := lw_at lw_m7 188 rfl
theorem q1711 : (Jvm.Cond.instanceMethod ({ cls := "NeverSaidModel", name := "ofAll", desc := "(I)I" } : Jvm.MethodName)) ∈ lw_all := lw_g (lw_at lw_m7 189 rfl) rfl
theorem q1712 : (Jvm.Cond.code ({ cls := "NeverSaidModel", name := "ofAll", desc := "(I)I" } : Jvm.MethodName) prog_19_method_95_code (4 : Nat) (Option.some Jvm.ClassFile.FieldType.int)) ∈ lw_all := lw_g (lw_at lw_m7 190 rfl) rfl
theorem in_X6 : ∀ w ∈ wsX60, w ∈ lw_all := lw_in wsX60 [1254, 1256, 1258, 1260, 1262, 1264, 1266, 1268, 1270, 1272, 1274, 1276, 1278, 1280, 1282, 1284, 1286, 1288, 1290, 1292, 1294, 1296, 1298, 1300, 1302, 1304, 1306, 1308, 1310, 1312, 1314] (by decide +kernel) (by decide +kernel)
